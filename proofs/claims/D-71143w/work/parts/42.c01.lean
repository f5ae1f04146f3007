/-! the component, walked (printed by tool/gen_c.py) -/
set_option maxRecDepth 100000
def C_many (σ : CM) (v1 : Nat) (v2 : Int32) : Option (Int32) :=
  (lp (S := Int32 × Int32) (T := Int32) (fun w1 =>
    (C_members σ).bind fun c3 =>
      if c3 ≤ w1.2 then
        some (.inr w1.1)
      else
        (cix σ 7 v1 w1.2).bind fun n6 =>
        (cget σ 3 (8 * v1 + n6) 0).bind fun x7 =>
        (if x7 = v2 then
            some (1 : Int32)
          else
            some (0 : Int32) : Option (Int32)).bind fun q9 =>
        some (.inl ((w1.1 + q9), (w1.2 + 1)))) 2000 ((0 : Int32), (0 : Int32))).bind fun q2 =>
  some q2
theorem hdC_many : yX0_many.cls = RX0 ∧ yX0_many.cls ≠ "java/lang/invoke/MethodHandle" ∧ yX0_many.cls ≠ "java/lang/invoke/VarHandle" ∧ (parseMethodDescriptor yX0_many.desc).map (fun d => d.parameters.length) = some 2 := by decide +kernel
set_option maxHeartbeats 4000000 in
theorem metC_many (l : Launch) (σ : CM) (v1 : Nat) (v2 : Int32) (res : Int32) (h : C_many σ v1 v2 = some res) : MetC l yX0_many (ws_ yX0_many cX0_many 5 (some .int)) 17 0 false false false false true true (fun G => [.ref (gA G 0 0), .ref (gA G 7 v1), .int v2]) σ (fun _ => (some (.int res))) σ := by
  refine met_wC (own := RX0) (by decide +kernel) rfl (by simp [cRt]) (fun _ => Nat.le_of_ble_eq_true rfl) (fun G p e s m args below meth c Q hr1 hr2 C hE ls hl hJ => ?_)
  have hx := C.1.1
  have hb := C.1.2.1
  have hown := C.1.2.2.2.1
  have hts := C.1.2.2.2.2
  have hl : lv_has ls 5 [(0, .ref (gA G 0 0)), (1, .ref (gA G 7 v1)), (2, .int v2)] := hl
  have hJ := CJ.s1 (hr1 rfl) hJ
  have hJ := CJ.s2 (hr2 rfl) hJ
  unfold C_many at h
  refine lv_iconst hx hb dX0_many_0 kc_0 ?_
  refine lv_istore_n (lv' := [(3, .int (0 : Int32)), (0, .ref (gA G 0 0)), (1, .ref (gA G 7 v1)), (2, .int v2)]) hx hb dX0_many_1 rfl hl (Nat.le_of_ble_eq_true rfl) rfl (fun ls hl => ?_)
  refine lv_iconst hx hb dX0_many_2 kc_0 ?_
  refine lv_istore (lv' := [(4, .int (0 : Int32)), (3, .int (0 : Int32)), (0, .ref (gA G 0 0)), (1, .ref (gA G 7 v1)), (2, .int v2)]) hx hb dX0_many_3 hl (Nat.le_of_ble_eq_true rfl) rfl (fun ls hl => ?_)
  obtain ⟨q2, hq2, h⟩ := ob h
  have hxq2 : ∀ (H : Heap) (locs : List Loc) (ce sl : Nat) (ls : Array Slot), CJ G s (RM 17 0 false false G) 0 false false true true G.2.2.2 σ H locs ce sl → lv_has ls 5 [(3, .int q2)] → W p l e (RM 17 0 false false G) s m args below meth c H locs ce sl Q (F0 m 39 ls []) := by
    intro H locs ce sl ls hJ hl
    refine lv_iload_n hx hb dX0_many_39 rfl (lv_at hl 0 rfl) ?_
    have h := Option.some.inj h
    subst h
    exact hE _ _ _ _ _ _ _ _ _ _ _ _ (some (.int (q2))) hJ (fun h => by cases h) (fun h => by cases h) ⟨_, rfl⟩ rfl dX0_many_40
  refine lp_ind (P := fun (w1 : Int32 × Int32) => ∀ (H : Heap) (locs : List Loc) (ce sl : Nat) (ls : Array Slot), CJ G s (RM 17 0 false false G) 0 false false true true G.2.2.2 σ H locs ce sl → lv_has ls 5 [(0, .ref (gA G 0 0)), (1, .ref (gA G 7 v1)), (2, .int v2), (3, .int w1.1), (4, .int w1.2)] → W p l e (RM 17 0 false false G) s m args below meth c H locs ce sl Q (F0 m 5 ls [])) ?_ _ _ hq2 _ _ _ _ _ hJ (lv_sub hl [2, 3, 4, 1, 0] rfl)
  intro nw1 w1 ihw1 zw1 hzw1 hqw1 H locs ce sl ls hJ hl
  refine lv_iload hx hb dX0_many_5 (lv_at hl 4 rfl) ?_
  refine lv_aload_n hx hb dX0_many_7 rfl (lv_at hl 0 rfl) ?_
  obtain ⟨c3, hc3, hzw1⟩ := ob hzw1
  refine cc_Vt (As := []) (rest := [.int w1.2]) C hJ (metC_members l σ c3 hc3) rfl rfl (show 0 + 0 ≤ 0 from Nat.le_of_ble_eq_true rfl) (cost_ok false true false false _ _ (fun h => by cases h) (fun _ => Or.inr rfl)) (fun h => by cases h) (fun h => by cases h) (cj_recv C hJ 0 0 (ad_s rfl) (Nat.le_of_ble_eq_true rfl) rfl rfl) (cwV 0 hts (lw_V q521 q523 qs7 q109 q524) rfl rfl rfl hdC_members ⟨(Nat.le_of_ble_eq_true rfl), (Nat.le_of_ble_eq_true rfl)⟩) rfl hl.1 rfl (lv_room (Nat.le_of_ble_eq_true rfl)) dX0_many_8 (fun H locs hJ => ?_)
  refine lv_icmp_ge (tgt := 39) hx hb dX0_many_11 (by decide) (fun hc5 => ?_) (fun hc5 => ?_)
  · have hzw1 := ip hzw1 hc5
    have hzw1 := Option.some.inj hzw1
    subst hzw1
    have hqw1 : _ = q2 := hqw1
    subst hqw1
    exact hxq2 _ _ _ _ _ hJ (lv_sub hl [3] rfl)
  · have hzw1 := im hzw1 hc5
    refine lv_iload_n hx hb dX0_many_14 rfl (lv_at hl 3 rfl) ?_
    refine lv_aload_n hx hb dX0_many_15 rfl (lv_at hl 1 rfl) ?_
    refine lv_iload hx hb dX0_many_16 (lv_at hl 4 rfl) ?_
    obtain ⟨n6, hn6, hzw1⟩ := ob hzw1
    refine cj_al (v := .ref (gA G 3 (8 * v1 + n6))) C hJ 7 v1 (ad_s rfl) rfl rfl hn6 rfl dX0_many_18 ?_
    obtain ⟨x7, hx7, hzw1⟩ := ob hzw1
    refine cj_gi C hJ 3 (8 * v1 + n6) 0 (ad_s rfl) (Nat.le_of_ble_eq_true rfl) (Nat.le_of_ble_eq_true rfl) rfl rfl rfl (fl_X0_208_3 C) hx7 dX0_many_19 ?_
    refine lv_iload_n hx hb dX0_many_22 rfl (lv_at hl 2 rfl) ?_
    obtain ⟨q9, hq9, hzw1⟩ := ob hzw1
    have hjq9 : ∀ (H : Heap) (locs : List Loc) (ce sl : Nat) (ls : Array Slot), CJ G s (RM 17 0 false false G) 0 false false true true G.2.2.2 σ H locs ce sl → lv_has ls 5 [(0, .ref (gA G 0 0)), (1, .ref (gA G 7 v1)), (2, .int v2), (4, .int w1.2)] → W p l e (RM 17 0 false false G) s m args below meth c H locs ce sl Q (F0 m 31 ls [.int q9, .int w1.1]) := by
      intro H locs ce sl ls hJ hl
      refine lv_iadd hx hb dX0_many_31 ?_
      refine lv_istore_n (lv' := [(3, .int (w1.1 + q9)), (0, .ref (gA G 0 0)), (1, .ref (gA G 7 v1)), (2, .int v2), (4, .int w1.2)]) hx hb dX0_many_32 rfl hl (Nat.le_of_ble_eq_true rfl) rfl (fun ls hl => ?_)
      refine lv_iinc (v := (w1.2 + 1)) (lv' := [(4, .int (w1.2 + 1)), (3, .int (w1.1 + q9)), (0, .ref (gA G 0 0)), (1, .ref (gA G 7 v1)), (2, .int v2)]) hx hb dX0_many_33 hl (k := 4) rfl rfl (Nat.le_of_ble_eq_true rfl) rfl (fun ls hl => ?_)
      refine lv_goto (tgt := 5) hx hb dX0_many_36 (by decide) ?_
      have hzw1 := Option.some.inj hzw1
      subst hzw1
      exact ihw1 _ hqw1 _ _ _ _ _ hJ (lv_sub hl [2, 3, 4, 1, 0] rfl)
    refine lv_icmp_ne (tgt := 30) hx hb dX0_many_23 (by decide) (fun hc8 => ?_) (fun hc8 => ?_)
    · have hq9 := im hq9 hc8
      refine lv_iconst hx hb dX0_many_30 kc_0 ?_
      have hq9 := Option.some.inj hq9
      subst hq9
      exact hjq9 _ _ _ _ _ hJ (lv_sub hl [0, 1, 2, 4] rfl)
    · have hq9 := ip hq9 hc8
      refine lv_iconst hx hb dX0_many_26 kc_1 ?_
      refine lv_goto (tgt := 31) hx hb dX0_many_27 (by decide) ?_
      have hq9 := Option.some.inj hq9
      subst hq9
      exact hjq9 _ _ _ _ _ hJ (lv_sub hl [0, 1, 2, 4] rfl)
def C_passes (σ : CM) (v1 : Int32) : Option (CM) :=
  (lp (S := Int32 × CM) (T := CM) (fun w1 =>
    if (w1.2 6 (evl (w1.2 0 0 3)) 2) ≤ w1.1 then
        some (.inr w1.2)
      else
        (lget w1.2 (evl (w1.2 0 0 3)) w1.1).bind fun n4 =>
        (cel w1.2 (evl (w1.2 0 0 3)) n4 (1 : Int32)).bind fun x5 =>
        if x5 = v1 then
          (C_isIn w1.2 (w1.2 0 0 8) w1.1).bind fun c7 =>
          if c7 = 0 then
            (cel w1.2 (evl (w1.2 0 0 3)) n4 (0 : Int32)).bind fun x9 =>
            (cel w1.2 (evl (w1.2 0 0 3)) n4 (2 : Int32)).bind fun x10 =>
            (C_happens w1.2 x9 v1 x10).bind fun c11 =>
            some (.inl ((w1.1 + 1), c11))
          else
            some (.inl ((w1.1 + 1), w1.2))
        else
          some (.inl ((w1.1 + 1), w1.2))) 2000 ((0 : Int32), σ)).bind fun q2 =>
  (if (q2 0 0 9) = v1 then
      (C_happens q2 (q2 0 0 10) v1 (q2 0 0 11)).bind fun c14 =>
      some c14
    else
      some q2 : Option (CM)).bind fun q16 =>
  (lp (S := Int32 × CM) (T := CM) (fun w17 =>
    (C_members w17.2).bind fun c19 =>
      if c19 ≤ w17.1 then
        some (.inr w17.2)
      else
        (cix w17.2 7 20 w17.1).bind fun n22 =>
        (cix w17.2 7 20 w17.1).bind fun n23 =>
        (cget w17.2 3 (8 * 20 + n23) 2).bind fun x24 =>
        (if x24 ≤ v1 then
            some (0 : Int32)
          else
            some (1 : Int32) : Option (Int32)).bind fun q26 =>
        (csz w17.2 3 (8 * 20 + n22) 3 q26).bind fun σ27 =>
        some (.inl ((w17.1 + 1), σ27))) 2000 ((0 : Int32), q16)).bind fun q18 =>
  (lp (S := Int32 × CM) (T := CM) (fun w28 =>
    (C_members w28.2).bind fun c30 =>
      if c30 ≤ w28.1 then
        some (.inr w28.2)
      else
        (C_goes w28.2 w28.1 v1).bind fun c33 =>
        some (.inl ((w28.1 + 1), c33))) 2000 ((0 : Int32), q18)).bind fun q29 =>
  (lp (S := Int32 × CM) (T := CM) (fun w35 =>
    if (12 : Int32) ≤ w35.1 then
        some (.inr w35.2)
      else
        (cld w35.2 10 0 w35.1).bind fun x38 =>
        (C_many w35.2 20 w35.1).bind fun c39 =>
        (if c39 < (3 : Int32) then
            some (0 : Int32)
          else
            (cld w35.2 10 0 w35.1).bind fun x42 =>
            if x42 ≤ 0 then
              some (0 : Int32)
            else
              some (1 : Int32) : Option (Int32)).bind fun q44 =>
        (cas w35.2 10 0 w35.1 (x38 - q44)).bind fun σ45 =>
        some (.inl ((w35.1 + 1), σ45))) 2000 ((0 : Int32), q29)).bind fun q36 =>
  (lp (S := Int32 × CM) (T := CM) (fun w46 =>
    (C_members w46.2).bind fun c48 =>
      if c48 ≤ w46.1 then
        some (.inr w46.2)
      else
        (cix w46.2 8 0 v1).bind fun n51 =>
        (cix w46.2 7 n51 w46.1).bind fun n52 =>
        (cix w46.2 7 20 w46.1).bind fun n53 =>
        (clk w46.2 3 (8 * n51 + n52)).bind fun e55 =>
        (C_X4_copies w46.2 (8 * n51 + n52) (8 * 20 + n53)).bind fun c54 =>
        some (.inl ((w46.1 + 1), c54))) 2000 ((0 : Int32), q36)).bind fun q47 =>
  (cix q47 12 0 v1).bind fun n56 =>
  (ccp q47 10 0 11 n56).bind fun σ57 =>
  some σ57
theorem hdC_passes : yX0_passes.cls = RX0 ∧ yX0_passes.cls ≠ "java/lang/invoke/MethodHandle" ∧ yX0_passes.cls ≠ "java/lang/invoke/VarHandle" ∧ (parseMethodDescriptor yX0_passes.desc).map (fun d => d.parameters.length) = some 1 := by decide +kernel
set_option maxHeartbeats 4000000 in
theorem metC_passes (l : Launch) (σ : CM) (v1 : Int32) (res : CM) (h : C_passes σ v1 = some res) : MetC l yX0_passes (ws_ yX0_passes cX0_passes 4 none) 19 0 false false false false true true (fun G => [.ref (gA G 0 0), .int v1]) σ (fun _ => none) res := by
  refine met_wC (own := RX0) (by decide +kernel) rfl (by simp [cRt]) (fun _ => Nat.le_of_ble_eq_true rfl) (fun G p e s m args below meth c Q hr1 hr2 C hE ls hl hJ => ?_)
  have hx := C.1.1
  have hb := C.1.2.1
  have hown := C.1.2.2.2.1
  have hts := C.1.2.2.2.2
  have hl : lv_has ls 4 [(0, .ref (gA G 0 0)), (1, .int v1)] := hl
  have hJ := CJ.s1 (hr1 rfl) hJ
  have hJ := CJ.s2 (hr2 rfl) hJ
  unfold C_passes at h
  refine lv_iconst hx hb dX0_passes_0 kc_0 ?_
  refine lv_istore_n (lv' := [(2, .int (0 : Int32)), (0, .ref (gA G 0 0)), (1, .int v1)]) hx hb dX0_passes_1 rfl hl (Nat.le_of_ble_eq_true rfl) rfl (fun ls hl => ?_)
  obtain ⟨q2, hq2, h⟩ := ob h
  have hxq2 : ∀ (H : Heap) (locs : List Loc) (ce sl : Nat) (ls : Array Slot), CJ G s (RM 19 0 false false G) 0 false false true true G.2.2.2 q2 H locs ce sl → lv_has ls 4 [(0, .ref (gA G 0 0)), (1, .int v1)] → W p l e (RM 19 0 false false G) s m args below meth c H locs ce sl Q (F0 m 60 ls []) := by
    intro H locs ce sl ls hJ hl
    refine lv_aload_n hx hb dX0_passes_60 rfl (lv_at hl 0 rfl) ?_
    refine cj_g0 C hJ 0 0 9 (ad_s rfl) (Nat.le_of_ble_eq_true rfl) (Nat.le_of_ble_eq_true rfl) rfl rfl rfl rfl (fl_X0_176_0 C) dX0_passes_61 ?_
    refine lv_iload_n hx hb dX0_passes_64 rfl (lv_at hl 1 rfl) ?_
    obtain ⟨q16, hq16, h⟩ := ob h
    have hjq16 : ∀ (H : Heap) (locs : List Loc) (ce sl : Nat) (ls : Array Slot), CJ G s (RM 19 0 false false G) 0 false false true true G.2.2.2 q16 H locs ce sl → lv_has ls 4 [(0, .ref (gA G 0 0)), (1, .int v1)] → W p l e (RM 19 0 false false G) s m args below meth c H locs ce sl Q (F0 m 81 ls []) := by
      intro H locs ce sl ls hJ hl
      refine lv_iconst hx hb dX0_passes_81 kc_0 ?_
      refine lv_istore_n (lv' := [(2, .int (0 : Int32)), (0, .ref (gA G 0 0)), (1, .int v1)]) hx hb dX0_passes_82 rfl hl (Nat.le_of_ble_eq_true rfl) rfl (fun ls hl => ?_)
      obtain ⟨q18, hq18, h⟩ := ob h
      have hxq18 : ∀ (H : Heap) (locs : List Loc) (ce sl : Nat) (ls : Array Slot), CJ G s (RM 19 0 false false G) 0 false false true true G.2.2.2 q18 H locs ce sl → lv_has ls 4 [(0, .ref (gA G 0 0)), (1, .int v1)] → W p l e (RM 19 0 false false G) s m args below meth c H locs ce sl Q (F0 m 124 ls []) := by
        intro H locs ce sl ls hJ hl
        refine lv_iconst hx hb dX0_passes_124 kc_0 ?_
        refine lv_istore_n (lv' := [(2, .int (0 : Int32)), (0, .ref (gA G 0 0)), (1, .int v1)]) hx hb dX0_passes_125 rfl hl (Nat.le_of_ble_eq_true rfl) rfl (fun ls hl => ?_)
        obtain ⟨q29, hq29, h⟩ := ob h
        have hxq29 : ∀ (H : Heap) (locs : List Loc) (ce sl : Nat) (ls : Array Slot), CJ G s (RM 19 0 false false G) 0 false false true true G.2.2.2 q29 H locs ce sl → lv_has ls 4 [(0, .ref (gA G 0 0)), (1, .int v1)] → W p l e (RM 19 0 false false G) s m args below meth c H locs ce sl Q (F0 m 146 ls []) := by
          intro H locs ce sl ls hJ hl
          refine lv_iconst hx hb dX0_passes_146 kc_0 ?_
          refine lv_istore_n (lv' := [(2, .int (0 : Int32)), (0, .ref (gA G 0 0)), (1, .int v1)]) hx hb dX0_passes_147 rfl hl (Nat.le_of_ble_eq_true rfl) rfl (fun ls hl => ?_)
          obtain ⟨q36, hq36, h⟩ := ob h
          have hxq36 : ∀ (H : Heap) (locs : List Loc) (ce sl : Nat) (ls : Array Slot), CJ G s (RM 19 0 false false G) 0 false false true true G.2.2.2 q36 H locs ce sl → lv_has ls 4 [(0, .ref (gA G 0 0)), (1, .int v1)] → W p l e (RM 19 0 false false G) s m args below meth c H locs ce sl Q (F0 m 196 ls []) := by
            intro H locs ce sl ls hJ hl
            refine lv_iconst hx hb dX0_passes_196 kc_0 ?_
            refine lv_istore_n (lv' := [(2, .int (0 : Int32)), (0, .ref (gA G 0 0)), (1, .int v1)]) hx hb dX0_passes_197 rfl hl (Nat.le_of_ble_eq_true rfl) rfl (fun ls hl => ?_)
            obtain ⟨q47, hq47, h⟩ := ob h
            have hxq47 : ∀ (H : Heap) (locs : List Loc) (ce sl : Nat) (ls : Array Slot), CJ G s (RM 19 0 false false G) 0 false false true true G.2.2.2 q47 H locs ce sl → lv_has ls 4 [(0, .ref (gA G 0 0)), (1, .int v1)] → W p l e (RM 19 0 false false G) s m args below meth c H locs ce sl Q (F0 m 229 ls []) := by
              intro H locs ce sl ls hJ hl
              refine lv_aload_n hx hb dX0_passes_229 rfl (lv_at hl 0 rfl) ?_
              refine cj_gr (v := .ref (gA G 10 0)) C hJ 0 0 6 (ad_s rfl) (Nat.le_of_ble_eq_true rfl) (Nat.le_of_ble_eq_true rfl) rfl rfl (fl_X0_168_0 C) (fun _ _ => rfl) dX0_passes_230 ?_
              refine lv_iconst hx hb dX0_passes_233 kc_0 ?_
              refine lv_aload_n hx hb dX0_passes_234 rfl (lv_at hl 0 rfl) ?_
              refine cj_gr (v := .ref (gA G 12 0)) C hJ 0 0 7 (ad_s rfl) (Nat.le_of_ble_eq_true rfl) (Nat.le_of_ble_eq_true rfl) rfl rfl (fl_X0_173_0 C) (fun _ _ => rfl) dX0_passes_235 ?_
              refine lv_iload_n hx hb dX0_passes_238 rfl (lv_at hl 1 rfl) ?_
              obtain ⟨n56, hn56, h⟩ := ob h
              refine cj_al (v := .ref (gA G 11 n56)) C hJ 12 0 (ad_s rfl) rfl rfl hn56 rfl dX0_passes_239 ?_
              refine lv_iconst hx hb dX0_passes_240 kc_0 ?_
              refine lv_bipush hx hb dX0_passes_241 kb_12 ?_
              obtain ⟨σ57, hσ57, h⟩ := ob h
              refine cj_copy C hJ 10 0 11 n56 rfl rfl rfl rfl rfl rfl rfl rfl rfl q813 ⟨(Nat.le_of_ble_eq_true rfl), (Nat.le_of_ble_eq_true rfl)⟩ hl.1 (Nat.le_of_ble_eq_true rfl) hσ57 dX0_passes_243 (fun H locs hJ => ?_)
              have h := Option.some.inj h
              subst h
              exact hE _ _ _ _ _ _ _ _ _ _ _ _ none hJ (fun h => by cases h) (fun h => by cases h) rfl rfl dX0_passes_246
            refine lp_ind (P := fun (w46 : Int32 × CM) => ∀ (H : Heap) (locs : List Loc) (ce sl : Nat) (ls : Array Slot), CJ G s (RM 19 0 false false G) 0 false false true true G.2.2.2 w46.2 H locs ce sl → lv_has ls 4 [(0, .ref (gA G 0 0)), (1, .int v1), (2, .int w46.1)] → W p l e (RM 19 0 false false G) s m args below meth c H locs ce sl Q (F0 m 198 ls [])) ?_ _ _ hq47 _ _ _ _ _ hJ (lv_sub hl [1, 2, 0] rfl)
            intro nw46 w46 ihw46 zw46 hzw46 hqw46 H locs ce sl ls hJ hl
            refine lv_iload_n hx hb dX0_passes_198 rfl (lv_at hl 2 rfl) ?_
            refine lv_aload_n hx hb dX0_passes_199 rfl (lv_at hl 0 rfl) ?_
            obtain ⟨c48, hc48, hzw46⟩ := ob hzw46
            refine cc_Vt (As := []) (rest := [.int w46.1]) C hJ (metC_members l w46.2 c48 hc48) rfl rfl (show 0 + 0 ≤ 0 from Nat.le_of_ble_eq_true rfl) (cost_ok false true false false _ _ (fun h => by cases h) (fun _ => Or.inr rfl)) (fun h => by cases h) (fun h => by cases h) (cj_recv C hJ 0 0 (ad_s rfl) (Nat.le_of_ble_eq_true rfl) rfl rfl) (cwV 0 hts (lw_V q521 q523 qs7 q109 q524) rfl rfl rfl hdC_members ⟨(Nat.le_of_ble_eq_true rfl), (Nat.le_of_ble_eq_true rfl)⟩) rfl hl.1 rfl (lv_room (Nat.le_of_ble_eq_true rfl)) dX0_passes_200 (fun H locs hJ => ?_)
            refine lv_icmp_ge (tgt := 229) hx hb dX0_passes_203 (by decide) (fun hc50 => ?_) (fun hc50 => ?_)
            · have hzw46 := ip hzw46 hc50
              have hzw46 := Option.some.inj hzw46
              subst hzw46
              have hqw46 : _ = q47 := hqw46
              subst hqw46
              exact hxq47 _ _ _ _ _ hJ (lv_sub hl [0, 1] rfl)
            · have hzw46 := im hzw46 hc50
              refine lv_aload_n hx hb dX0_passes_206 rfl (lv_at hl 0 rfl) ?_
              refine cj_gr (v := .ref (gA G 8 0)) C hJ 0 0 5 (ad_s rfl) (Nat.le_of_ble_eq_true rfl) (Nat.le_of_ble_eq_true rfl) rfl rfl (fl_X0_164_0 C) (fun _ _ => rfl) dX0_passes_207 ?_
              refine lv_iload_n hx hb dX0_passes_210 rfl (lv_at hl 1 rfl) ?_
              obtain ⟨n51, hn51, hzw46⟩ := ob hzw46
              refine cj_al (v := .ref (gA G 7 n51)) C hJ 8 0 (ad_s rfl) rfl rfl hn51 rfl dX0_passes_211 ?_
              refine lv_iload_n hx hb dX0_passes_212 rfl (lv_at hl 2 rfl) ?_
              obtain ⟨n52, hn52, hzw46⟩ := ob hzw46
              refine cj_al (v := .ref (gA G 3 (8 * n51 + n52))) C hJ 7 n51 (ad_s rfl) rfl rfl hn52 rfl dX0_passes_213 ?_
              refine lv_aload_n hx hb dX0_passes_214 rfl (lv_at hl 0 rfl) ?_
              refine cj_gr (v := .ref (gA G 7 20)) C hJ 0 0 4 (ad_s rfl) (Nat.le_of_ble_eq_true rfl) (Nat.le_of_ble_eq_true rfl) rfl rfl (fl_X0_159_0 C) (fun _ _ => rfl) dX0_passes_215 ?_
              refine lv_iload_n hx hb dX0_passes_218 rfl (lv_at hl 2 rfl) ?_
              obtain ⟨n53, hn53, hzw46⟩ := ob hzw46
              refine cj_al (v := .ref (gA G 3 (8 * 20 + n53))) C hJ 7 20 (ad_s rfl) rfl rfl hn53 rfl dX0_passes_219 ?_
              obtain ⟨e55, he55, hzw46⟩ := ob hzw46
              obtain ⟨c54, hc54, hzw46⟩ := ob hzw46
              refine cc_Vt (As := [.ref (gA G 3 (8 * 20 + n53))]) (rest := []) C hJ (metC_X4_copies l w46.2 (8 * n51 + n52) (8 * 20 + n53) c54 hc54) rfl rfl (show 0 + 0 ≤ 0 from Nat.le_of_ble_eq_true rfl) (cost_ok false false false false _ _ (fun h => by cases h) (fun h => by cases h)) (fun h => by cases h) (fun h => by cases h) (cj_recv C hJ 3 (8 * n51 + n52) (ad_s rfl) (Nat.le_of_ble_eq_true rfl) rfl (clk_l he55)) (cwV 1 hts (lw_V q890 q891 q892 q116 q893) rfl rfl rfl hdC_X4_copies ⟨(Nat.le_of_ble_eq_true rfl), (Nat.le_of_ble_eq_true rfl)⟩) rfl hl.1 rfl (lv_room (Nat.le_of_ble_eq_true rfl)) dX0_passes_220 (fun H locs hJ => ?_)
              refine lv_iinc (v := (w46.1 + 1)) (lv' := [(2, .int (w46.1 + 1)), (0, .ref (gA G 0 0)), (1, .int v1)]) hx hb dX0_passes_223 hl (k := 2) rfl rfl (Nat.le_of_ble_eq_true rfl) rfl (fun ls hl => ?_)
              refine lv_goto (tgt := 198) hx hb dX0_passes_226 (by decide) ?_
              have hzw46 := Option.some.inj hzw46
              subst hzw46
              exact ihw46 _ hqw46 _ _ _ _ _ hJ (lv_sub hl [1, 2, 0] rfl)
          refine lp_ind (P := fun (w35 : Int32 × CM) => ∀ (H : Heap) (locs : List Loc) (ce sl : Nat) (ls : Array Slot), CJ G s (RM 19 0 false false G) 0 false false true true G.2.2.2 w35.2 H locs ce sl → lv_has ls 4 [(0, .ref (gA G 0 0)), (1, .int v1), (2, .int w35.1)] → W p l e (RM 19 0 false false G) s m args below meth c H locs ce sl Q (F0 m 148 ls [])) ?_ _ _ hq36 _ _ _ _ _ hJ (lv_sub hl [1, 2, 0] rfl)
          intro nw35 w35 ihw35 zw35 hzw35 hqw35 H locs ce sl ls hJ hl
          refine lv_iload_n hx hb dX0_passes_148 rfl (lv_at hl 2 rfl) ?_
          refine lv_bipush hx hb dX0_passes_149 kb_12 ?_
          refine lv_icmp_ge (tgt := 196) hx hb dX0_passes_151 (by decide) (fun hc37 => ?_) (fun hc37 => ?_)
          · have hzw35 := ip hzw35 hc37
            have hzw35 := Option.some.inj hzw35
            subst hzw35
            have hqw35 : _ = q36 := hqw35
            subst hqw35
            exact hxq36 _ _ _ _ _ hJ (lv_sub hl [0, 1] rfl)
          · have hzw35 := im hzw35 hc37
            refine lv_aload_n hx hb dX0_passes_154 rfl (lv_at hl 0 rfl) ?_
            refine cj_gr (v := .ref (gA G 10 0)) C hJ 0 0 6 (ad_s rfl) (Nat.le_of_ble_eq_true rfl) (Nat.le_of_ble_eq_true rfl) rfl rfl (fl_X0_168_0 C) (fun _ _ => rfl) dX0_passes_155 ?_
            refine lv_iload_n hx hb dX0_passes_158 rfl (lv_at hl 2 rfl) ?_
            refine lv_dup2_11 hx hb dX0_passes_159 rfl rfl ?_
            obtain ⟨x38, hx38, hzw35⟩ := ob hzw35
            refine cj_il C hJ 10 0 (ad_s rfl) rfl rfl rfl hx38 dX0_passes_160 ?_
            refine lv_aload_n hx hb dX0_passes_161 rfl (lv_at hl 0 rfl) ?_
            refine lv_aload_n hx hb dX0_passes_162 rfl (lv_at hl 0 rfl) ?_
            refine cj_gr (v := .ref (gA G 7 20)) C hJ 0 0 4 (ad_s rfl) (Nat.le_of_ble_eq_true rfl) (Nat.le_of_ble_eq_true rfl) rfl rfl (fl_X0_159_0 C) (fun _ _ => rfl) dX0_passes_163 ?_
            refine lv_iload_n hx hb dX0_passes_166 rfl (lv_at hl 2 rfl) ?_
            obtain ⟨c39, hc39, hzw35⟩ := ob hzw35
            refine cc_Vt (As := [.ref (gA G 7 20), .int w35.1]) (rest := [.int x38, .int w35.1, .ref (gA G 10 0)]) C hJ (metC_many l w35.2 20 w35.1 c39 hc39) rfl rfl (show 0 + 0 ≤ 0 from Nat.le_of_ble_eq_true rfl) (cost_ok false false false false _ _ (fun h => by cases h) (fun h => by cases h)) (fun _ => rfl) (fun _ => rfl) (cj_recv C hJ 0 0 (ad_s rfl) (Nat.le_of_ble_eq_true rfl) rfl rfl) (cwV 2 hts (lw_V q886 q888 qs20 q109 q889) rfl rfl rfl hdC_many ⟨(Nat.le_of_ble_eq_true rfl), (Nat.le_of_ble_eq_true rfl)⟩) rfl hl.1 rfl (lv_room (Nat.le_of_ble_eq_true rfl)) dX0_passes_167 (fun H locs hJ => ?_)
            refine lv_iconst hx hb dX0_passes_170 kc_3 ?_
            obtain ⟨q44, hq44, hzw35⟩ := ob hzw35
            have hjq44 : ∀ (H : Heap) (locs : List Loc) (ce sl : Nat) (ls : Array Slot), CJ G s (RM 19 0 false false G) 0 false false true true G.2.2.2 w35.2 H locs ce sl → lv_has ls 4 [(0, .ref (gA G 0 0)), (1, .int v1), (2, .int w35.1)] → W p l e (RM 19 0 false false G) s m args below meth c H locs ce sl Q (F0 m 188 ls [.int q44, .int x38, .int w35.1, .ref (gA G 10 0)]) := by
              intro H locs ce sl ls hJ hl
              refine lv_isub hx hb dX0_passes_188 ?_
              obtain ⟨σ45, hσ45, hzw35⟩ := ob hzw35
              refine cj_is C hJ 10 0 (ad_s rfl) rfl rfl rfl hσ45 dX0_passes_189 (fun H locs hJ => ?_)
              refine lv_iinc (v := (w35.1 + 1)) (lv' := [(2, .int (w35.1 + 1)), (0, .ref (gA G 0 0)), (1, .int v1)]) hx hb dX0_passes_190 hl (k := 2) rfl rfl (Nat.le_of_ble_eq_true rfl) rfl (fun ls hl => ?_)
              refine lv_goto (tgt := 148) hx hb dX0_passes_193 (by decide) ?_
              have hzw35 := Option.some.inj hzw35
              subst hzw35
              exact ihw35 _ hqw35 _ _ _ _ _ hJ (lv_sub hl [1, 2, 0] rfl)
            refine lv_icmp_lt (tgt := 187) hx hb dX0_passes_171 (by decide) (fun hc41 => ?_) (fun hc41 => ?_)
            · have hq44 := ip hq44 hc41
              refine lv_iconst hx hb dX0_passes_187 kc_0 ?_
              have hq44 := Option.some.inj hq44
              subst hq44
              exact hjq44 _ _ _ _ _ hJ (lv_sub hl [0, 1, 2] rfl)
            · have hq44 := im hq44 hc41
              refine lv_aload_n hx hb dX0_passes_174 rfl (lv_at hl 0 rfl) ?_
              refine cj_gr (v := .ref (gA G 10 0)) C hJ 0 0 6 (ad_s rfl) (Nat.le_of_ble_eq_true rfl) (Nat.le_of_ble_eq_true rfl) rfl rfl (fl_X0_168_0 C) (fun _ _ => rfl) dX0_passes_175 ?_
              refine lv_iload_n hx hb dX0_passes_178 rfl (lv_at hl 2 rfl) ?_
              obtain ⟨x42, hx42, hq44⟩ := ob hq44
              refine cj_il C hJ 10 0 (ad_s rfl) rfl rfl rfl hx42 dX0_passes_179 ?_
              refine lv_if_le (tgt := 187) hx hb dX0_passes_180 (by decide) (fun hc43 => ?_) (fun hc43 => ?_)
              · have hq44 := ip hq44 hc43
                refine lv_iconst hx hb dX0_passes_187 kc_0 ?_
                have hq44 := Option.some.inj hq44
                subst hq44
                exact hjq44 _ _ _ _ _ hJ (lv_sub hl [0, 1, 2] rfl)
              · have hq44 := im hq44 hc43
                refine lv_iconst hx hb dX0_passes_183 kc_1 ?_
                refine lv_goto (tgt := 188) hx hb dX0_passes_184 (by decide) ?_
                have hq44 := Option.some.inj hq44
                subst hq44
                exact hjq44 _ _ _ _ _ hJ (lv_sub hl [0, 1, 2] rfl)
        refine lp_ind (P := fun (w28 : Int32 × CM) => ∀ (H : Heap) (locs : List Loc) (ce sl : Nat) (ls : Array Slot), CJ G s (RM 19 0 false false G) 0 false false true true G.2.2.2 w28.2 H locs ce sl → lv_has ls 4 [(0, .ref (gA G 0 0)), (1, .int v1), (2, .int w28.1)] → W p l e (RM 19 0 false false G) s m args below meth c H locs ce sl Q (F0 m 126 ls [])) ?_ _ _ hq29 _ _ _ _ _ hJ (lv_sub hl [1, 2, 0] rfl)
        intro nw28 w28 ihw28 zw28 hzw28 hqw28 H locs ce sl ls hJ hl
        refine lv_iload_n hx hb dX0_passes_126 rfl (lv_at hl 2 rfl) ?_
        refine lv_aload_n hx hb dX0_passes_127 rfl (lv_at hl 0 rfl) ?_
        obtain ⟨c30, hc30, hzw28⟩ := ob hzw28
        refine cc_Vt (As := []) (rest := [.int w28.1]) C hJ (metC_members l w28.2 c30 hc30) rfl rfl (show 0 + 0 ≤ 0 from Nat.le_of_ble_eq_true rfl) (cost_ok false true false false _ _ (fun h => by cases h) (fun _ => Or.inr rfl)) (fun h => by cases h) (fun h => by cases h) (cj_recv C hJ 0 0 (ad_s rfl) (Nat.le_of_ble_eq_true rfl) rfl rfl) (cwV 0 hts (lw_V q521 q523 qs7 q109 q524) rfl rfl rfl hdC_members ⟨(Nat.le_of_ble_eq_true rfl), (Nat.le_of_ble_eq_true rfl)⟩) rfl hl.1 rfl (lv_room (Nat.le_of_ble_eq_true rfl)) dX0_passes_128 (fun H locs hJ => ?_)
        refine lv_icmp_ge (tgt := 146) hx hb dX0_passes_131 (by decide) (fun hc32 => ?_) (fun hc32 => ?_)
        · have hzw28 := ip hzw28 hc32
          have hzw28 := Option.some.inj hzw28
          subst hzw28
          have hqw28 : _ = q29 := hqw28
          subst hqw28
          exact hxq29 _ _ _ _ _ hJ (lv_sub hl [0, 1] rfl)
        · have hzw28 := im hzw28 hc32
          refine lv_aload_n hx hb dX0_passes_134 rfl (lv_at hl 0 rfl) ?_
          refine lv_iload_n hx hb dX0_passes_135 rfl (lv_at hl 2 rfl) ?_
          refine lv_iload_n hx hb dX0_passes_136 rfl (lv_at hl 1 rfl) ?_
          obtain ⟨c33, hc33, hzw28⟩ := ob hzw28
          refine cc_Vt (As := [.int w28.1, .int v1]) (rest := []) C hJ (metC_goes l w28.2 w28.1 v1 c33 hc33) rfl rfl (show 0 + 0 ≤ 0 from Nat.le_of_ble_eq_true rfl) (cost_ok false false false false _ _ (fun h => by cases h) (fun h => by cases h)) (fun _ => rfl) (fun _ => rfl) (cj_recv C hJ 0 0 (ad_s rfl) (Nat.le_of_ble_eq_true rfl) rfl rfl) (cwV 2 hts (lw_V q857 q859 qs16 q109 q860) rfl rfl rfl hdC_goes ⟨(Nat.le_of_ble_eq_true rfl), (Nat.le_of_ble_eq_true rfl)⟩) rfl hl.1 rfl (lv_room (Nat.le_of_ble_eq_true rfl)) dX0_passes_137 (fun H locs hJ => ?_)
          refine lv_iinc (v := (w28.1 + 1)) (lv' := [(2, .int (w28.1 + 1)), (0, .ref (gA G 0 0)), (1, .int v1)]) hx hb dX0_passes_140 hl (k := 2) rfl rfl (Nat.le_of_ble_eq_true rfl) rfl (fun ls hl => ?_)
          refine lv_goto (tgt := 126) hx hb dX0_passes_143 (by decide) ?_
          have hzw28 := Option.some.inj hzw28
          subst hzw28
          exact ihw28 _ hqw28 _ _ _ _ _ hJ (lv_sub hl [1, 2, 0] rfl)
      refine lp_ind (P := fun (w17 : Int32 × CM) => ∀ (H : Heap) (locs : List Loc) (ce sl : Nat) (ls : Array Slot), CJ G s (RM 19 0 false false G) 0 false false true true G.2.2.2 w17.2 H locs ce sl → lv_has ls 4 [(0, .ref (gA G 0 0)), (1, .int v1), (2, .int w17.1)] → W p l e (RM 19 0 false false G) s m args below meth c H locs ce sl Q (F0 m 83 ls [])) ?_ _ _ hq18 _ _ _ _ _ hJ (lv_sub hl [1, 2, 0] rfl)
      intro nw17 w17 ihw17 zw17 hzw17 hqw17 H locs ce sl ls hJ hl
      refine lv_iload_n hx hb dX0_passes_83 rfl (lv_at hl 2 rfl) ?_
      refine lv_aload_n hx hb dX0_passes_84 rfl (lv_at hl 0 rfl) ?_
      obtain ⟨c19, hc19, hzw17⟩ := ob hzw17
      refine cc_Vt (As := []) (rest := [.int w17.1]) C hJ (metC_members l w17.2 c19 hc19) rfl rfl (show 0 + 0 ≤ 0 from Nat.le_of_ble_eq_true rfl) (cost_ok false true false false _ _ (fun h => by cases h) (fun _ => Or.inr rfl)) (fun h => by cases h) (fun h => by cases h) (cj_recv C hJ 0 0 (ad_s rfl) (Nat.le_of_ble_eq_true rfl) rfl rfl) (cwV 0 hts (lw_V q521 q523 qs7 q109 q524) rfl rfl rfl hdC_members ⟨(Nat.le_of_ble_eq_true rfl), (Nat.le_of_ble_eq_true rfl)⟩) rfl hl.1 rfl (lv_room (Nat.le_of_ble_eq_true rfl)) dX0_passes_85 (fun H locs hJ => ?_)
      refine lv_icmp_ge (tgt := 124) hx hb dX0_passes_88 (by decide) (fun hc21 => ?_) (fun hc21 => ?_)
      · have hzw17 := ip hzw17 hc21
        have hzw17 := Option.some.inj hzw17
        subst hzw17
        have hqw17 : _ = q18 := hqw17
        subst hqw17
        exact hxq18 _ _ _ _ _ hJ (lv_sub hl [0, 1] rfl)
      · have hzw17 := im hzw17 hc21
        refine lv_aload_n hx hb dX0_passes_91 rfl (lv_at hl 0 rfl) ?_
        refine cj_gr (v := .ref (gA G 7 20)) C hJ 0 0 4 (ad_s rfl) (Nat.le_of_ble_eq_true rfl) (Nat.le_of_ble_eq_true rfl) rfl rfl (fl_X0_159_0 C) (fun _ _ => rfl) dX0_passes_92 ?_
        refine lv_iload_n hx hb dX0_passes_95 rfl (lv_at hl 2 rfl) ?_
        obtain ⟨n22, hn22, hzw17⟩ := ob hzw17
        refine cj_al (v := .ref (gA G 3 (8 * 20 + n22))) C hJ 7 20 (ad_s rfl) rfl rfl hn22 rfl dX0_passes_96 ?_
        refine lv_iload_n hx hb dX0_passes_97 rfl (lv_at hl 1 rfl) ?_
        refine lv_aload_n hx hb dX0_passes_98 rfl (lv_at hl 0 rfl) ?_
        refine cj_gr (v := .ref (gA G 7 20)) C hJ 0 0 4 (ad_s rfl) (Nat.le_of_ble_eq_true rfl) (Nat.le_of_ble_eq_true rfl) rfl rfl (fl_X0_159_0 C) (fun _ _ => rfl) dX0_passes_99 ?_
        refine lv_iload_n hx hb dX0_passes_102 rfl (lv_at hl 2 rfl) ?_
        obtain ⟨n23, hn23, hzw17⟩ := ob hzw17
        refine cj_al (v := .ref (gA G 3 (8 * 20 + n23))) C hJ 7 20 (ad_s rfl) rfl rfl hn23 rfl dX0_passes_103 ?_
        obtain ⟨x24, hx24, hzw17⟩ := ob hzw17
        refine cj_gi C hJ 3 (8 * 20 + n23) 2 (ad_s rfl) (Nat.le_of_ble_eq_true rfl) (Nat.le_of_ble_eq_true rfl) rfl rfl rfl (fl_X0_201_3 C) hx24 dX0_passes_104 ?_
        obtain ⟨q26, hq26, hzw17⟩ := ob hzw17
        have hjq26 : ∀ (H : Heap) (locs : List Loc) (ce sl : Nat) (ls : Array Slot), CJ G s (RM 19 0 false false G) 0 false false true true G.2.2.2 w17.2 H locs ce sl → lv_has ls 4 [(0, .ref (gA G 0 0)), (1, .int v1), (2, .int w17.1)] → W p l e (RM 19 0 false false G) s m args below meth c H locs ce sl Q (F0 m 115 ls [.int q26, .ref (gA G 3 (8 * 20 + n22))]) := by
          intro H locs ce sl ls hJ hl
          obtain ⟨σ27, hσ27, hzw17⟩ := ob hzw17
          refine cj_pz C hJ 3 (8 * 20 + n22) 3 (ad_s rfl) (Nat.le_of_ble_eq_true rfl) (Nat.le_of_ble_eq_true rfl) rfl rfl rfl rfl rfl rfl (fl_X0_232_3 C) hσ27 dX0_passes_115 (fun H locs hJ => ?_)
          refine lv_iinc (v := (w17.1 + 1)) (lv' := [(2, .int (w17.1 + 1)), (0, .ref (gA G 0 0)), (1, .int v1)]) hx hb dX0_passes_118 hl (k := 2) rfl rfl (Nat.le_of_ble_eq_true rfl) rfl (fun ls hl => ?_)
          refine lv_goto (tgt := 83) hx hb dX0_passes_121 (by decide) ?_
          have hzw17 := Option.some.inj hzw17
          subst hzw17
          exact ihw17 _ hqw17 _ _ _ _ _ hJ (lv_sub hl [1, 2, 0] rfl)
        refine lv_icmp_ge (tgt := 114) hx hb dX0_passes_107 (by decide) (fun hc25 => ?_) (fun hc25 => ?_)
        · have hq26 := ip hq26 hc25
          refine lv_iconst hx hb dX0_passes_114 kc_0 ?_
          have hq26 := Option.some.inj hq26
          subst hq26
          exact hjq26 _ _ _ _ _ hJ (lv_sub hl [0, 1, 2] rfl)
        · have hq26 := im hq26 hc25
          refine lv_iconst hx hb dX0_passes_110 kc_1 ?_
          refine lv_goto (tgt := 115) hx hb dX0_passes_111 (by decide) ?_
          have hq26 := Option.some.inj hq26
          subst hq26
          exact hjq26 _ _ _ _ _ hJ (lv_sub hl [0, 1, 2] rfl)
    refine lv_icmp_ne (tgt := 81) hx hb dX0_passes_65 (by decide) (fun hc13 => ?_) (fun hc13 => ?_)
    · have hq16 := im hq16 hc13
      have hq16 := Option.some.inj hq16
      subst hq16
      exact hjq16 _ _ _ _ _ hJ (lv_sub hl [0, 1] rfl)
    · have hq16 := ip hq16 hc13
      refine lv_aload_n hx hb dX0_passes_68 rfl (lv_at hl 0 rfl) ?_
      refine lv_aload_n hx hb dX0_passes_69 rfl (lv_at hl 0 rfl) ?_
      refine cj_g0 C hJ 0 0 10 (ad_s rfl) (Nat.le_of_ble_eq_true rfl) (Nat.le_of_ble_eq_true rfl) rfl rfl rfl rfl (fl_X0_262_0 C) dX0_passes_70 ?_
      refine lv_iload_n hx hb dX0_passes_73 rfl (lv_at hl 1 rfl) ?_
      refine lv_aload_n hx hb dX0_passes_74 rfl (lv_at hl 0 rfl) ?_
      refine cj_g0 C hJ 0 0 11 (ad_s rfl) (Nat.le_of_ble_eq_true rfl) (Nat.le_of_ble_eq_true rfl) rfl rfl rfl rfl (fl_X0_265_0 C) dX0_passes_75 ?_
      obtain ⟨c14, hc14, hq16⟩ := ob hq16
      refine cc_Vt (As := [.int (q2 0 0 10), .int v1, .int (q2 0 0 11)]) (rest := []) C hJ (metC_happens l q2 (q2 0 0 10) v1 (q2 0 0 11) c14 hc14) rfl rfl (show 0 + 0 ≤ 0 from Nat.le_of_ble_eq_true rfl) (cost_ok false false false false _ _ (fun h => by cases h) (fun h => by cases h)) (fun _ => rfl) (fun _ => rfl) (cj_recv C hJ 0 0 (ad_s rfl) (Nat.le_of_ble_eq_true rfl) rfl rfl) (cwV 3 hts (lw_V q826 q828 qs12 q109 q829) rfl rfl rfl hdC_happens ⟨(Nat.le_of_ble_eq_true rfl), (Nat.le_of_ble_eq_true rfl)⟩) rfl hl.1 rfl (lv_room (Nat.le_of_ble_eq_true rfl)) dX0_passes_78 (fun H locs hJ => ?_)
      have hq16 := Option.some.inj hq16
      subst hq16
      exact hjq16 _ _ _ _ _ hJ (lv_sub hl [0, 1] rfl)
  refine lp_ind (P := fun (w1 : Int32 × CM) => ∀ (H : Heap) (locs : List Loc) (ce sl : Nat) (ls : Array Slot), CJ G s (RM 19 0 false false G) 0 false false true true G.2.2.2 w1.2 H locs ce sl → lv_has ls 4 [(0, .ref (gA G 0 0)), (1, .int v1), (2, .int w1.1)] → W p l e (RM 19 0 false false G) s m args below meth c H locs ce sl Q (F0 m 2 ls [])) ?_ _ _ hq2 _ _ _ _ _ hJ (lv_sub hl [1, 2, 0] rfl)
  intro nw1 w1 ihw1 zw1 hzw1 hqw1 H locs ce sl ls hJ hl
  refine lv_iload_n hx hb dX0_passes_2 rfl (lv_at hl 2 rfl) ?_
  refine lv_aload_n hx hb dX0_passes_3 rfl (lv_at hl 0 rfl) ?_
  refine cj_gr (v := .ref (gA G 6 (evl (w1.2 0 0 3)))) C hJ 0 0 3 (ad_s rfl) (Nat.le_of_ble_eq_true rfl) (Nat.le_of_ble_eq_true rfl) rfl rfl (fl_X0_102_0 C) (fun _ hL => evq hL) dX0_passes_4 ?_
  refine cj_sizeT C hJ (evl (w1.2 0 0 3)) (evl_4 _) (evl_3 _) q528 ⟨(Nat.le_of_ble_eq_true rfl), (Nat.le_of_ble_eq_true rfl)⟩ hl.1 (Nat.le_of_ble_eq_true rfl) dX0_passes_7 (fun H locs hJ => ?_)
  refine lv_icmp_ge (tgt := 60) hx hb dX0_passes_10 (by decide) (fun hc3 => ?_) (fun hc3 => ?_)
  · have hzw1 := ip hzw1 hc3
    have hzw1 := Option.some.inj hzw1
    subst hzw1
    have hqw1 : _ = q2 := hqw1
    subst hqw1
    exact hxq2 _ _ _ _ _ hJ (lv_sub hl [0, 1] rfl)
  · have hzw1 := im hzw1 hc3
    refine lv_aload_n hx hb dX0_passes_13 rfl (lv_at hl 0 rfl) ?_
    refine cj_gr (v := .ref (gA G 6 (evl (w1.2 0 0 3)))) C hJ 0 0 3 (ad_s rfl) (Nat.le_of_ble_eq_true rfl) (Nat.le_of_ble_eq_true rfl) rfl rfl (fl_X0_102_0 C) (fun _ hL => evq hL) dX0_passes_14 ?_
    refine lv_iload_n hx hb dX0_passes_17 rfl (lv_at hl 2 rfl) ?_
    obtain ⟨n4, hn4, hzw1⟩ := ob hzw1
    refine cj_get C hJ (evl (w1.2 0 0 3)) (evl_4 _) (evl_3 _) q530 ⟨(Nat.le_of_ble_eq_true rfl), (Nat.le_of_ble_eq_true rfl)⟩ hl.1 (Nat.le_of_ble_eq_true rfl) hn4 dX0_passes_18 (fun H locs hJ => ?_)
    refine cj_castI C hJ (Nat.lt_trans (evl_lt _) (Nat.le_of_ble_eq_true rfl)) hn4 q822 dX0_passes_21 ?_
    refine lv_astore_n (lv' := [(3, .ref (elA G.1 G.2.2.2 (evl (w1.2 0 0 3)) n4)), (0, .ref (gA G 0 0)), (1, .int v1), (2, .int w1.1)]) hx hb dX0_passes_24 rfl hl (Nat.le_of_ble_eq_true rfl) rfl (fun ls hl => ?_)
    refine lv_aload_n hx hb dX0_passes_25 rfl (lv_at hl 0 rfl) ?_
    refine lv_iconst hx hb dX0_passes_26 kc_1 ?_
    obtain ⟨x5, hx5, hzw1⟩ := ob hzw1
    refine cj_el C hJ (evl (w1.2 0 0 3)) n4 hx5 dX0_passes_27 ?_
    refine lv_iload_n hx hb dX0_passes_28 rfl (lv_at hl 2 rfl) ?_
    refine lv_icmp_ne (tgt := 54) hx hb dX0_passes_29 (by decide) (fun hc6 => ?_) (fun hc6 => ?_)
    · have hzw1 := im hzw1 hc6
      refine lv_iinc (v := (w1.1 + 1)) (lv' := [(2, .int (w1.1 + 1)), (3, .ref (elA G.1 G.2.2.2 (evl (w1.2 0 0 3)) n4)), (0, .ref (gA G 0 0)), (1, .int v1)]) hx hb dX0_passes_54 hl (k := 3) rfl rfl (Nat.le_of_ble_eq_true rfl) rfl (fun ls hl => ?_)
      refine lv_goto (tgt := 2) hx hb dX0_passes_57 (by decide) ?_
      have hzw1 := Option.some.inj hzw1
      subst hzw1
      exact ihw1 _ hqw1 _ _ _ _ _ hJ (lv_sub hl [2, 3, 0] rfl)
    · have hzw1 := ip hzw1 hc6
      refine lv_aload_n hx hb dX0_passes_32 rfl (lv_at hl 1 rfl) ?_
      refine cj_g0 C hJ 0 0 8 (ad_s rfl) (Nat.le_of_ble_eq_true rfl) (Nat.le_of_ble_eq_true rfl) rfl rfl rfl rfl (fl_X0_251_0 C) dX0_passes_33 ?_
      refine lv_iload_n hx hb dX0_passes_36 rfl (lv_at hl 3 rfl) ?_
      obtain ⟨c7, hc7, hzw1⟩ := ob hzw1
      refine cc_St (As := [.int (w1.2 0 0 8), .int w1.1]) (rest := []) C hJ (metC_isIn l w1.2 (w1.2 0 0 8) w1.1 c7 hc7) rfl rfl (show 0 + 0 ≤ 0 from Nat.le_of_ble_eq_true rfl) (cost_ok false false false false _ _ (fun h => by cases h) (fun h => by cases h)) (fun h => by cases h) (fun h => by cases h) (va_cwS 2 hts (lw_S q823 q824 q109 q825) rfl rfl rfl hdC_isIn ⟨(Nat.le_of_ble_eq_true rfl), (Nat.le_of_ble_eq_true rfl)⟩) rfl hl.1 rfl (lv_room (Nat.le_of_ble_eq_true rfl)) dX0_passes_37 (fun H locs hJ => ?_)
      refine lv_if_ne (tgt := 54) hx hb dX0_passes_40 (by decide) (fun hc8 => ?_) (fun hc8 => ?_)
      · have hzw1 := im hzw1 hc8
        refine lv_iinc (v := (w1.1 + 1)) (lv' := [(2, .int (w1.1 + 1)), (3, .ref (elA G.1 G.2.2.2 (evl (w1.2 0 0 3)) n4)), (0, .ref (gA G 0 0)), (1, .int v1)]) hx hb dX0_passes_54 hl (k := 3) rfl rfl (Nat.le_of_ble_eq_true rfl) rfl (fun ls hl => ?_)
        refine lv_goto (tgt := 2) hx hb dX0_passes_57 (by decide) ?_
        have hzw1 := Option.some.inj hzw1
        subst hzw1
        exact ihw1 _ hqw1 _ _ _ _ _ hJ (lv_sub hl [2, 3, 0] rfl)
      · have hzw1 := ip hzw1 hc8
        refine lv_aload_n hx hb dX0_passes_43 rfl (lv_at hl 1 rfl) ?_
        refine lv_aload_n hx hb dX0_passes_44 rfl (lv_at hl 0 rfl) ?_
        refine lv_iconst hx hb dX0_passes_45 kc_0 ?_
        obtain ⟨x9, hx9, hzw1⟩ := ob hzw1
        refine cj_el C hJ (evl (w1.2 0 0 3)) n4 hx9 dX0_passes_46 ?_
        refine lv_iload_n hx hb dX0_passes_47 rfl (lv_at hl 2 rfl) ?_
        refine lv_aload_n hx hb dX0_passes_48 rfl (lv_at hl 0 rfl) ?_
        refine lv_iconst hx hb dX0_passes_49 kc_2 ?_
        obtain ⟨x10, hx10, hzw1⟩ := ob hzw1
        refine cj_el C hJ (evl (w1.2 0 0 3)) n4 hx10 dX0_passes_50 ?_
        obtain ⟨c11, hc11, hzw1⟩ := ob hzw1
        refine cc_Vt (As := [.int x9, .int v1, .int x10]) (rest := []) C hJ (metC_happens l w1.2 x9 v1 x10 c11 hc11) rfl rfl (show 0 + 0 ≤ 0 from Nat.le_of_ble_eq_true rfl) (cost_ok false false false false _ _ (fun h => by cases h) (fun h => by cases h)) (fun _ => rfl) (fun _ => rfl) (cj_recv C hJ 0 0 (ad_s rfl) (Nat.le_of_ble_eq_true rfl) rfl rfl) (cwV 3 hts (lw_V q826 q828 qs12 q109 q829) rfl rfl rfl hdC_happens ⟨(Nat.le_of_ble_eq_true rfl), (Nat.le_of_ble_eq_true rfl)⟩) rfl hl.1 rfl (lv_room (Nat.le_of_ble_eq_true rfl)) dX0_passes_51 (fun H locs hJ => ?_)
        refine lv_iinc (v := (w1.1 + 1)) (lv' := [(2, .int (w1.1 + 1)), (3, .ref (elA G.1 G.2.2.2 (evl (w1.2 0 0 3)) n4)), (0, .ref (gA G 0 0)), (1, .int v1)]) hx hb dX0_passes_54 hl (k := 3) rfl rfl (Nat.le_of_ble_eq_true rfl) rfl (fun ls hl => ?_)
        refine lv_goto (tgt := 2) hx hb dX0_passes_57 (by decide) ?_
        have hzw1 := Option.some.inj hzw1
        subst hzw1
        exact ihw1 _ hqw1 _ _ _ _ _ hJ (lv_sub hl [2, 3, 0] rfl)
def C_find (σ : CM) : Option (CM) :=
  (rdS σ).bind fun x1 =>
  (ccp σ 9 0 10 0).bind fun σ2 =>
  (lp (S := Int32 × CM) (T := CM) (fun w3 =>
    (C_members w3.2).bind fun c7 =>
      if c7 ≤ w3.1 then
        some (.inr w3.2)
      else
        (cix w3.2 7 20 w3.1).bind fun n11 =>
        (lget w3.2 3 w3.1).bind fun n12 =>
        (clk w3.2 3 (8 * 20 + n11)).bind fun e14 =>
        (C_X4_begins w3.2 (8 * 20 + n11) n12).bind fun c13 =>
        some (.inl ((w3.1 + 1), c13))) 2000 ((0 : Int32), σ2)).bind fun q4 =>
  (lp (S := Int32 × CM) (T := CM) (fun w16 =>
    if (20 : Int32) ≤ w16.1 then
        some (.inr w16.2)
      else
        (C_passes w16.2 w16.1).bind fun c19 =>
        some (.inl ((w16.1 + 1), c19))) 2000 ((0 : Int32), q4)).bind fun q17 =>
  some q17
theorem hdC_find : yX0_find.cls = RX0 ∧ yX0_find.cls ≠ "java/lang/invoke/MethodHandle" ∧ yX0_find.cls ≠ "java/lang/invoke/VarHandle" ∧ (parseMethodDescriptor yX0_find.desc).map (fun d => d.parameters.length) = some 0 := by decide +kernel
set_option maxHeartbeats 4000000 in
theorem metC_find (l : Launch) (σ : CM) (res : CM) (h : C_find σ = some res) : MetC l yX0_find (ws_ yX0_find cX0_find 2 none) 20 0 true true true true false false (fun G => [.ref (gA G 0 0)]) σ (fun _ => none) res := by
  refine met_wC (own := RX0) (by decide +kernel) rfl (by simp [cRt]) (fun _ => Nat.le_of_ble_eq_true rfl) (fun G p e s m args below meth c Q hr1 hr2 C hE ls hl hJ => ?_)
  have hx := C.1.1
  have hb := C.1.2.1
  have hown := C.1.2.2.2.1
  have hts := C.1.2.2.2.2
  have hl : lv_has ls 2 [(0, .ref (gA G 0 0))] := hl
  unfold C_find at h
  refine lv_aload_n hx hb dX0_find_0 rfl (lv_at hl 0 rfl) ?_
  refine cj_gr (v := .ref (gA G 1 0)) C hJ 0 0 1 (ad_s rfl) (Nat.le_of_ble_eq_true rfl) (Nat.le_of_ble_eq_true rfl) rfl rfl (fl_X0_22_0 C) (fun _ _ => rfl) dX0_find_1 ?_
  obtain ⟨x1, hx1, h⟩ := ob h
  refine cj_readS C hJ (Or.inl rfl) q509 ⟨(Nat.le_of_ble_eq_true rfl), (Nat.le_of_ble_eq_true rfl)⟩ hl.1 (Nat.le_of_ble_eq_true rfl) hx1 dX0_find_4 (fun H locs ce sl hJ => ?_)
  refine lv_pop hx hb dX0_find_7 rfl ?_
  refine lv_aload_n hx hb dX0_find_8 rfl (lv_at hl 0 rfl) ?_
  refine cj_gr (v := .ref (gA G 1 0)) C hJ 0 0 1 (ad_s rfl) (Nat.le_of_ble_eq_true rfl) (Nat.le_of_ble_eq_true rfl) rfl rfl (fl_X0_22_0 C) (fun _ _ => rfl) dX0_find_9 ?_
  refine cj_gr (v := .ref (gA G 9 0)) C hJ 1 0 5 (ad_s rfl) (Nat.le_of_ble_eq_true rfl) (Nat.le_of_ble_eq_true rfl) rfl rfl (fl_X0_59_1 C) (fun _ _ => rfl) dX0_find_12 ?_
  refine lv_iconst hx hb dX0_find_15 kc_0 ?_
  refine lv_aload_n hx hb dX0_find_16 rfl (lv_at hl 0 rfl) ?_
  refine cj_gr (v := .ref (gA G 10 0)) C hJ 0 0 6 (ad_s rfl) (Nat.le_of_ble_eq_true rfl) (Nat.le_of_ble_eq_true rfl) rfl rfl (fl_X0_168_0 C) (fun _ _ => rfl) dX0_find_17 ?_
  refine lv_iconst hx hb dX0_find_20 kc_0 ?_
  refine lv_bipush hx hb dX0_find_21 kb_12 ?_
  obtain ⟨σ2, hσ2, h⟩ := ob h
  refine cj_copy C hJ 9 0 10 0 rfl rfl rfl rfl rfl rfl rfl rfl rfl q813 ⟨(Nat.le_of_ble_eq_true rfl), (Nat.le_of_ble_eq_true rfl)⟩ hl.1 (Nat.le_of_ble_eq_true rfl) hσ2 dX0_find_23 (fun H locs hJ => ?_)
  refine lv_iconst hx hb dX0_find_26 kc_0 ?_
  refine lv_istore_n (lv' := [(1, .int (0 : Int32)), (0, .ref (gA G 0 0))]) hx hb dX0_find_27 rfl hl (Nat.le_of_ble_eq_true rfl) rfl (fun ls hl => ?_)
  obtain ⟨q4, hq4, h⟩ := ob h
  have hxq4 : ∀ (D15 : Nat → Nat → Nat) (H : Heap) (locs : List Loc) (ce sl : Nat) (ls : Array Slot), CJ G s (RM 20 0 true true G) 0 true true true true D15 q4 H locs ce sl → lv_has ls 2 [(0, .ref (gA G 0 0))] → W p l e (RM 20 0 true true G) s m args below meth c H locs ce sl Q (F0 m 65 ls []) := by
    intro D15 H locs ce sl ls hJ hl
    refine lv_iconst hx hb dX0_find_65 kc_0 ?_
    refine lv_istore_n (lv' := [(1, .int (0 : Int32)), (0, .ref (gA G 0 0))]) hx hb dX0_find_66 rfl hl (Nat.le_of_ble_eq_true rfl) rfl (fun ls hl => ?_)
    obtain ⟨q17, hq17, h⟩ := ob h
    have hxq17 : ∀ (H : Heap) (locs : List Loc) (ce sl : Nat) (ls : Array Slot), CJ G s (RM 20 0 true true G) 0 true true true true D15 q17 H locs ce sl → lv_has ls 2 [] → W p l e (RM 20 0 true true G) s m args below meth c H locs ce sl Q (F0 m 84 ls []) := by
      intro H locs ce sl ls hJ hl
      have h := Option.some.inj h
      subst h
      exact hE _ _ _ _ _ _ _ _ _ _ _ _ none hJ (fun _ => rfl) (fun _ => rfl) rfl rfl dX0_find_84
    refine lp_ind (P := fun (w16 : Int32 × CM) => ∀ (H : Heap) (locs : List Loc) (ce sl : Nat) (ls : Array Slot), CJ G s (RM 20 0 true true G) 0 true true true true D15 w16.2 H locs ce sl → lv_has ls 2 [(0, .ref (gA G 0 0)), (1, .int w16.1)] → W p l e (RM 20 0 true true G) s m args below meth c H locs ce sl Q (F0 m 67 ls [])) ?_ _ _ hq17 _ _ _ _ _ hJ (lv_sub hl [1, 0] rfl)
    intro nw16 w16 ihw16 zw16 hzw16 hqw16 H locs ce sl ls hJ hl
    refine lv_iload_n hx hb dX0_find_67 rfl (lv_at hl 1 rfl) ?_
    refine lv_bipush hx hb dX0_find_68 kb_20 ?_
    refine lv_icmp_ge (tgt := 84) hx hb dX0_find_70 (by decide) (fun hc18 => ?_) (fun hc18 => ?_)
    · have hzw16 := ip hzw16 hc18
      have hzw16 := Option.some.inj hzw16
      subst hzw16
      have hqw16 : _ = q17 := hqw16
      subst hqw16
      exact hxq17 _ _ _ _ _ hJ (lv_sub hl [] rfl)
    · have hzw16 := im hzw16 hc18
      refine lv_aload_n hx hb dX0_find_73 rfl (lv_at hl 0 rfl) ?_
      refine lv_iload_n hx hb dX0_find_74 rfl (lv_at hl 1 rfl) ?_
      obtain ⟨c19, hc19, hzw16⟩ := ob hzw16
      refine cc_Vt (As := [.int w16.1]) (rest := []) C hJ (metC_passes l w16.2 w16.1 c19 hc19) rfl rfl (show 0 + 0 ≤ 0 from Nat.le_of_ble_eq_true rfl) (cost_ok false false true true _ _ (fun h => by cases h) (fun h => by cases h)) (fun _ => rfl) (fun _ => rfl) (cj_recv C hJ 0 0 (ad_s rfl) (Nat.le_of_ble_eq_true rfl) rfl rfl) (cwV 1 hts (lw_V q818 q820 qs11 q109 q821) rfl rfl rfl hdC_passes ⟨(Nat.le_of_ble_eq_true rfl), (Nat.le_of_ble_eq_true rfl)⟩) rfl hl.1 rfl (lv_room (Nat.le_of_ble_eq_true rfl)) dX0_find_75 (fun H locs hJ => ?_)
      refine lv_iinc (v := (w16.1 + 1)) (lv' := [(1, .int (w16.1 + 1)), (0, .ref (gA G 0 0))]) hx hb dX0_find_78 hl (k := 1) rfl rfl (Nat.le_of_ble_eq_true rfl) rfl (fun ls hl => ?_)
      refine lv_goto (tgt := 67) hx hb dX0_find_81 (by decide) ?_
      have hzw16 := Option.some.inj hzw16
      subst hzw16
      exact ihw16 _ hqw16 _ _ _ _ _ hJ (lv_sub hl [1, 0] rfl)
  refine lp_ind (P := fun (w3 : Int32 × CM) => ∀ (u5 : Bool) (D6 : Nat → Nat → Nat) (H : Heap) (locs : List Loc) (ce sl : Nat) (ls : Array Slot), CJ G s (RM 20 0 true true G) 0 true true true u5 D6 w3.2 H locs ce sl → lv_has ls 2 [(0, .ref (gA G 0 0)), (1, .int w3.1)] → W p l e (RM 20 0 true true G) s m args below meth c H locs ce sl Q (F0 m 28 ls [])) ?_ _ _ hq4 _ _ _ _ _ _ _ hJ (lv_sub hl [1, 0] rfl)
  intro nw3 w3 ihw3 zw3 hzw3 hqw3 u5 D6 H locs ce sl ls hJ hl
  refine lv_iload_n hx hb dX0_find_28 rfl (lv_at hl 1 rfl) ?_
  refine lv_aload_n hx hb dX0_find_29 rfl (lv_at hl 0 rfl) ?_
  obtain ⟨c7, hc7, hzw3⟩ := ob hzw3
  refine cc_V (As := []) (rest := [.int w3.1]) C hJ (metC_members l w3.2 c7 hc7) rfl rfl (show 0 + 0 ≤ 0 from Nat.le_of_ble_eq_true rfl) (cost_ok false true true true _ _ (fun h => by cases h) (fun _ => Or.inl rfl)) (fun h => by cases h) (fun h => by cases h) (cj_recv C hJ 0 0 (ad_s rfl) (Nat.le_of_ble_eq_true rfl) rfl rfl) (cwV 0 hts (lw_V q521 q523 qs7 q109 q524) rfl rfl rfl hdC_members ⟨(Nat.le_of_ble_eq_true rfl), (Nat.le_of_ble_eq_true rfl)⟩) rfl hl.1 rfl (lv_room (Nat.le_of_ble_eq_true rfl)) dX0_find_30 (fun D8 H locs _ hJ => ?_)
  refine lv_icmp_ge (tgt := 65) hx hb dX0_find_33 (by decide) (fun hc10 => ?_) (fun hc10 => ?_)
  · have hzw3 := ip hzw3 hc10
    have hzw3 := Option.some.inj hzw3
    subst hzw3
    have hqw3 : _ = q4 := hqw3
    subst hqw3
    exact hxq4 _ _ _ _ _ _ hJ (lv_sub hl [0] rfl)
  · have hzw3 := im hzw3 hc10
    refine lv_aload_n hx hb dX0_find_36 rfl (lv_at hl 0 rfl) ?_
    refine cj_gr (v := .ref (gA G 7 20)) C hJ 0 0 4 (ad_s rfl) (Nat.le_of_ble_eq_true rfl) (Nat.le_of_ble_eq_true rfl) rfl rfl (fl_X0_159_0 C) (fun _ _ => rfl) dX0_find_37 ?_
    refine lv_iload_n hx hb dX0_find_40 rfl (lv_at hl 1 rfl) ?_
    obtain ⟨n11, hn11, hzw3⟩ := ob hzw3
    refine cj_al (v := .ref (gA G 3 (8 * 20 + n11))) C hJ 7 20 (ad_s rfl) rfl rfl hn11 rfl dX0_find_41 ?_
    refine lv_aload_n hx hb dX0_find_42 rfl (lv_at hl 0 rfl) ?_
    refine cj_gr (v := .ref (gA G 2 0)) C hJ 0 0 2 (ad_s rfl) (Nat.le_of_ble_eq_true rfl) (Nat.le_of_ble_eq_true rfl) rfl rfl (fl_X0_26_0 C) (fun _ _ => rfl) dX0_find_43 ?_
    refine cj_gr (v := .ref (gA G 6 3)) C hJ 2 0 5 (ad_s rfl) (Nat.le_of_ble_eq_true rfl) (Nat.le_of_ble_eq_true rfl) rfl rfl (fl_X0_72_2 C) (fun _ _ => rfl) dX0_find_46 ?_
    refine lv_iload_n hx hb dX0_find_49 rfl (lv_at hl 1 rfl) ?_
    obtain ⟨n12, hn12, hzw3⟩ := ob hzw3
    refine cj_get C hJ 3 (Nat.le_of_ble_eq_true rfl) (fun _ => rfl) q530 ⟨(Nat.le_of_ble_eq_true rfl), (Nat.le_of_ble_eq_true rfl)⟩ hl.1 (Nat.le_of_ble_eq_true rfl) hn12 dX0_find_50 (fun H locs hJ => ?_)
    refine cj_castM C hJ hn12 q544 dX0_find_53 ?_
    obtain ⟨e14, he14, hzw3⟩ := ob hzw3
    obtain ⟨c13, hc13, hzw3⟩ := ob hzw3
    refine cc_Vt (As := [.ref (D8 5 n12)]) (rest := []) C hJ (metC_X4_begins l w3.2 (8 * 20 + n11) n12 c13 hc13) rfl rfl (show 0 + 0 ≤ 0 from Nat.le_of_ble_eq_true rfl) (cost_ok false false true true _ _ (fun h => by cases h) (fun h => by cases h)) (fun h => by cases h) (fun _ => rfl) (cj_recv C hJ 3 (8 * 20 + n11) (ad_s rfl) (Nat.le_of_ble_eq_true rfl) rfl (clk_l he14)) (cwV 1 hts (lw_V q814 q815 q816 q116 q817) rfl rfl rfl hdC_X4_begins ⟨(Nat.le_of_ble_eq_true rfl), (Nat.le_of_ble_eq_true rfl)⟩) rfl hl.1 rfl (lv_room (Nat.le_of_ble_eq_true rfl)) dX0_find_56 (fun H locs hJ => ?_)
    refine lv_iinc (v := (w3.1 + 1)) (lv' := [(1, .int (w3.1 + 1)), (0, .ref (gA G 0 0))]) hx hb dX0_find_59 hl (k := 1) rfl rfl (Nat.le_of_ble_eq_true rfl) rfl (fun ls hl => ?_)
    refine lv_goto (tgt := 28) hx hb dX0_find_62 (by decide) ?_
    have hzw3 := Option.some.inj hzw3
    subst hzw3
    exact ihw3 _ hqw3 _ _ _ _ _ _ _ hJ (lv_sub hl [1, 0] rfl)
def C_dampBy (σ : CM) (v1 : Int32) (v2 : Int32) (v3 : Int32) : Option (Int32) :=
  if v3 = 0 then
    (cix σ 12 0 v1).bind fun n5 =>
    (cld σ 11 n5 v2).bind fun x6 =>
    some x6
  else
    (cix σ 8 0 v1).bind fun n2 =>
    (C_many σ n2 v2).bind fun c3 =>
    some c3
theorem hdC_dampBy : yX0_dampBy.cls = RX0 ∧ yX0_dampBy.cls ≠ "java/lang/invoke/MethodHandle" ∧ yX0_dampBy.cls ≠ "java/lang/invoke/VarHandle" ∧ (parseMethodDescriptor yX0_dampBy.desc).map (fun d => d.parameters.length) = some 3 := by decide +kernel
set_option maxHeartbeats 4000000 in
theorem metC_dampBy (l : Launch) (σ : CM) (v1 : Int32) (v2 : Int32) (v3 : Int32) (res : Int32) (h : C_dampBy σ v1 v2 v3 = some res) : MetC l yX0_dampBy (ws_ yX0_dampBy cX0_dampBy 4 (some .int)) 18 0 false false false false true true (fun G => [.ref (gA G 0 0), .int v1, .int v2, .int v3]) σ (fun _ => (some (.int res))) σ := by
  refine met_wC (own := RX0) (by decide +kernel) rfl (by simp [cRt]) (fun _ => Nat.le_of_ble_eq_true rfl) (fun G p e s m args below meth c Q hr1 hr2 C hE ls hl hJ => ?_)
  have hx := C.1.1
  have hb := C.1.2.1
  have hown := C.1.2.2.2.1
  have hts := C.1.2.2.2.2
  have hl : lv_has ls 4 [(0, .ref (gA G 0 0)), (1, .int v1), (2, .int v2), (3, .int v3)] := hl
  have hJ := CJ.s1 (hr1 rfl) hJ
  have hJ := CJ.s2 (hr2 rfl) hJ
  unfold C_dampBy at h
  refine lv_iload_n hx hb dX0_dampBy_0 rfl (lv_at hl 3 rfl) ?_
  refine lv_if_ne (tgt := 15) hx hb dX0_dampBy_1 (by decide) (fun hc1 => ?_) (fun hc1 => ?_)
  · have h := im h hc1
    refine lv_aload_n hx hb dX0_dampBy_15 rfl (lv_at hl 0 rfl) ?_
    refine lv_aload_n hx hb dX0_dampBy_16 rfl (lv_at hl 0 rfl) ?_
    refine cj_gr (v := .ref (gA G 8 0)) C hJ 0 0 5 (ad_s rfl) (Nat.le_of_ble_eq_true rfl) (Nat.le_of_ble_eq_true rfl) rfl rfl (fl_X0_164_0 C) (fun _ _ => rfl) dX0_dampBy_17 ?_
    refine lv_iload_n hx hb dX0_dampBy_20 rfl (lv_at hl 1 rfl) ?_
    obtain ⟨n2, hn2, h⟩ := ob h
    refine cj_al (v := .ref (gA G 7 n2)) C hJ 8 0 (ad_s rfl) rfl rfl hn2 rfl dX0_dampBy_21 ?_
    refine lv_iload_n hx hb dX0_dampBy_22 rfl (lv_at hl 2 rfl) ?_
    obtain ⟨c3, hc3, h⟩ := ob h
    refine cc_Vt (As := [.ref (gA G 7 n2), .int v2]) (rest := []) C hJ (metC_many l σ n2 v2 c3 hc3) rfl rfl (show 0 + 0 ≤ 0 from Nat.le_of_ble_eq_true rfl) (cost_ok false false false false _ _ (fun h => by cases h) (fun h => by cases h)) (fun _ => rfl) (fun _ => rfl) (cj_recv C hJ 0 0 (ad_s rfl) (Nat.le_of_ble_eq_true rfl) rfl rfl) (cwV 2 hts (lw_V q886 q888 qs20 q109 q889) rfl rfl rfl hdC_many ⟨(Nat.le_of_ble_eq_true rfl), (Nat.le_of_ble_eq_true rfl)⟩) rfl hl.1 rfl (lv_room (Nat.le_of_ble_eq_true rfl)) dX0_dampBy_23 (fun H locs hJ => ?_)
    have h := Option.some.inj h
    subst h
    exact hE _ _ _ _ _ _ _ _ _ _ _ _ (some (.int (c3))) hJ (fun h => by cases h) (fun h => by cases h) ⟨_, rfl⟩ rfl dX0_dampBy_26
  · have h := ip h hc1
    refine lv_aload_n hx hb dX0_dampBy_4 rfl (lv_at hl 0 rfl) ?_
    refine cj_gr (v := .ref (gA G 12 0)) C hJ 0 0 7 (ad_s rfl) (Nat.le_of_ble_eq_true rfl) (Nat.le_of_ble_eq_true rfl) rfl rfl (fl_X0_173_0 C) (fun _ _ => rfl) dX0_dampBy_5 ?_
    refine lv_iload_n hx hb dX0_dampBy_8 rfl (lv_at hl 1 rfl) ?_
    obtain ⟨n5, hn5, h⟩ := ob h
    refine cj_al (v := .ref (gA G 11 n5)) C hJ 12 0 (ad_s rfl) rfl rfl hn5 rfl dX0_dampBy_9 ?_
    refine lv_iload_n hx hb dX0_dampBy_10 rfl (lv_at hl 2 rfl) ?_
    obtain ⟨x6, hx6, h⟩ := ob h
    refine cj_il C hJ 11 n5 (ad_s rfl) rfl rfl rfl hx6 dX0_dampBy_11 ?_
    refine lv_goto (tgt := 26) hx hb dX0_dampBy_12 (by decide) ?_
    have h := Option.some.inj h
    subst h
    exact hE _ _ _ _ _ _ _ _ _ _ _ _ (some (.int (x6))) hJ (fun h => by cases h) (fun h => by cases h) ⟨_, rfl⟩ rfl dX0_dampBy_26
def C_votes (σ : CM) (v1 : Int32) (v2 : Int32) : Option (Int32) :=
  (lp (S := Int32 × Int32) (T := Int32) (fun w1 =>
    (C_members σ).bind fun c3 =>
      if c3 ≤ w1.2 then
        some (.inr w1.1)
      else
        (cix σ 8 0 v1).bind fun n6 =>
        (cix σ 7 n6 w1.2).bind fun n7 =>
        (cget σ 3 (8 * n6 + n7) 3).bind fun x8 =>
        (if x8 = 0 then
            (cix σ 8 0 v1).bind fun n10 =>
            (cix σ 7 n10 w1.2).bind fun n11 =>
            (cget σ 3 (8 * n10 + n11) 1).bind fun x12 =>
            if x12 = v2 then
              some (1 : Int32)
            else
              some (0 : Int32)
          else
            some (0 : Int32) : Option (Int32)).bind fun q14 =>
        some (.inl ((w1.1 + q14), (w1.2 + 1)))) 2000 ((0 : Int32), (0 : Int32))).bind fun q2 =>
  some q2
theorem hdC_votes : yX0_votes.cls = RX0 ∧ yX0_votes.cls ≠ "java/lang/invoke/MethodHandle" ∧ yX0_votes.cls ≠ "java/lang/invoke/VarHandle" ∧ (parseMethodDescriptor yX0_votes.desc).map (fun d => d.parameters.length) = some 2 := by decide +kernel
set_option maxHeartbeats 4000000 in
theorem metC_votes (l : Launch) (σ : CM) (v1 : Int32) (v2 : Int32) (res : Int32) (h : C_votes σ v1 v2 = some res) : MetC l yX0_votes (ws_ yX0_votes cX0_votes 5 (some .int)) 17 0 false false false false true true (fun G => [.ref (gA G 0 0), .int v1, .int v2]) σ (fun _ => (some (.int res))) σ := by
  refine met_wC (own := RX0) (by decide +kernel) rfl (by simp [cRt]) (fun _ => Nat.le_of_ble_eq_true rfl) (fun G p e s m args below meth c Q hr1 hr2 C hE ls hl hJ => ?_)
  have hx := C.1.1
  have hb := C.1.2.1
  have hown := C.1.2.2.2.1
  have hts := C.1.2.2.2.2
  have hl : lv_has ls 5 [(0, .ref (gA G 0 0)), (1, .int v1), (2, .int v2)] := hl
  have hJ := CJ.s1 (hr1 rfl) hJ
  have hJ := CJ.s2 (hr2 rfl) hJ
  unfold C_votes at h
  refine lv_iconst hx hb dX0_votes_0 kc_0 ?_
  refine lv_istore_n (lv' := [(3, .int (0 : Int32)), (0, .ref (gA G 0 0)), (1, .int v1), (2, .int v2)]) hx hb dX0_votes_1 rfl hl (Nat.le_of_ble_eq_true rfl) rfl (fun ls hl => ?_)
  refine lv_iconst hx hb dX0_votes_2 kc_0 ?_
  refine lv_istore (lv' := [(4, .int (0 : Int32)), (3, .int (0 : Int32)), (0, .ref (gA G 0 0)), (1, .int v1), (2, .int v2)]) hx hb dX0_votes_3 hl (Nat.le_of_ble_eq_true rfl) rfl (fun ls hl => ?_)
  obtain ⟨q2, hq2, h⟩ := ob h
  have hxq2 : ∀ (H : Heap) (locs : List Loc) (ce sl : Nat) (ls : Array Slot), CJ G s (RM 17 0 false false G) 0 false false true true G.2.2.2 σ H locs ce sl → lv_has ls 5 [(3, .int q2)] → W p l e (RM 17 0 false false G) s m args below meth c H locs ce sl Q (F0 m 59 ls []) := by
    intro H locs ce sl ls hJ hl
    refine lv_iload_n hx hb dX0_votes_59 rfl (lv_at hl 0 rfl) ?_
    have h := Option.some.inj h
    subst h
    exact hE _ _ _ _ _ _ _ _ _ _ _ _ (some (.int (q2))) hJ (fun h => by cases h) (fun h => by cases h) ⟨_, rfl⟩ rfl dX0_votes_60
  refine lp_ind (P := fun (w1 : Int32 × Int32) => ∀ (H : Heap) (locs : List Loc) (ce sl : Nat) (ls : Array Slot), CJ G s (RM 17 0 false false G) 0 false false true true G.2.2.2 σ H locs ce sl → lv_has ls 5 [(0, .ref (gA G 0 0)), (1, .int v1), (2, .int v2), (3, .int w1.1), (4, .int w1.2)] → W p l e (RM 17 0 false false G) s m args below meth c H locs ce sl Q (F0 m 5 ls [])) ?_ _ _ hq2 _ _ _ _ _ hJ (lv_sub hl [2, 3, 4, 1, 0] rfl)
  intro nw1 w1 ihw1 zw1 hzw1 hqw1 H locs ce sl ls hJ hl
  refine lv_iload hx hb dX0_votes_5 (lv_at hl 4 rfl) ?_
  refine lv_aload_n hx hb dX0_votes_7 rfl (lv_at hl 0 rfl) ?_
  obtain ⟨c3, hc3, hzw1⟩ := ob hzw1
  refine cc_Vt (As := []) (rest := [.int w1.2]) C hJ (metC_members l σ c3 hc3) rfl rfl (show 0 + 0 ≤ 0 from Nat.le_of_ble_eq_true rfl) (cost_ok false true false false _ _ (fun h => by cases h) (fun _ => Or.inr rfl)) (fun h => by cases h) (fun h => by cases h) (cj_recv C hJ 0 0 (ad_s rfl) (Nat.le_of_ble_eq_true rfl) rfl rfl) (cwV 0 hts (lw_V q521 q523 qs7 q109 q524) rfl rfl rfl hdC_members ⟨(Nat.le_of_ble_eq_true rfl), (Nat.le_of_ble_eq_true rfl)⟩) rfl hl.1 rfl (lv_room (Nat.le_of_ble_eq_true rfl)) dX0_votes_8 (fun H locs hJ => ?_)
  refine lv_icmp_ge (tgt := 59) hx hb dX0_votes_11 (by decide) (fun hc5 => ?_) (fun hc5 => ?_)
  · have hzw1 := ip hzw1 hc5
    have hzw1 := Option.some.inj hzw1
    subst hzw1
    have hqw1 : _ = q2 := hqw1
    subst hqw1
    exact hxq2 _ _ _ _ _ hJ (lv_sub hl [3] rfl)
  · have hzw1 := im hzw1 hc5
    refine lv_iload_n hx hb dX0_votes_14 rfl (lv_at hl 3 rfl) ?_
    refine lv_aload_n hx hb dX0_votes_15 rfl (lv_at hl 0 rfl) ?_
    refine cj_gr (v := .ref (gA G 8 0)) C hJ 0 0 5 (ad_s rfl) (Nat.le_of_ble_eq_true rfl) (Nat.le_of_ble_eq_true rfl) rfl rfl (fl_X0_164_0 C) (fun _ _ => rfl) dX0_votes_16 ?_
    refine lv_iload_n hx hb dX0_votes_19 rfl (lv_at hl 1 rfl) ?_
    obtain ⟨n6, hn6, hzw1⟩ := ob hzw1
    refine cj_al (v := .ref (gA G 7 n6)) C hJ 8 0 (ad_s rfl) rfl rfl hn6 rfl dX0_votes_20 ?_
    refine lv_iload hx hb dX0_votes_21 (lv_at hl 4 rfl) ?_
    obtain ⟨n7, hn7, hzw1⟩ := ob hzw1
    refine cj_al (v := .ref (gA G 3 (8 * n6 + n7))) C hJ 7 n6 (ad_s rfl) rfl rfl hn7 rfl dX0_votes_23 ?_
    obtain ⟨x8, hx8, hzw1⟩ := ob hzw1
    refine cj_gi C hJ 3 (8 * n6 + n7) 3 (ad_s rfl) (Nat.le_of_ble_eq_true rfl) (Nat.le_of_ble_eq_true rfl) rfl rfl rfl (fl_X0_232_3 C) hx8 dX0_votes_24 ?_
    obtain ⟨q14, hq14, hzw1⟩ := ob hzw1
    have hjq14 : ∀ (H : Heap) (locs : List Loc) (ce sl : Nat) (ls : Array Slot), CJ G s (RM 17 0 false false G) 0 false false true true G.2.2.2 σ H locs ce sl → lv_has ls 5 [(0, .ref (gA G 0 0)), (1, .int v1), (2, .int v2), (4, .int w1.2)] → W p l e (RM 17 0 false false G) s m args below meth c H locs ce sl Q (F0 m 51 ls [.int q14, .int w1.1]) := by
      intro H locs ce sl ls hJ hl
      refine lv_iadd hx hb dX0_votes_51 ?_
      refine lv_istore_n (lv' := [(3, .int (w1.1 + q14)), (0, .ref (gA G 0 0)), (1, .int v1), (2, .int v2), (4, .int w1.2)]) hx hb dX0_votes_52 rfl hl (Nat.le_of_ble_eq_true rfl) rfl (fun ls hl => ?_)
      refine lv_iinc (v := (w1.2 + 1)) (lv' := [(4, .int (w1.2 + 1)), (3, .int (w1.1 + q14)), (0, .ref (gA G 0 0)), (1, .int v1), (2, .int v2)]) hx hb dX0_votes_53 hl (k := 4) rfl rfl (Nat.le_of_ble_eq_true rfl) rfl (fun ls hl => ?_)
      refine lv_goto (tgt := 5) hx hb dX0_votes_56 (by decide) ?_
      have hzw1 := Option.some.inj hzw1
      subst hzw1
      exact ihw1 _ hqw1 _ _ _ _ _ hJ (lv_sub hl [2, 3, 4, 1, 0] rfl)
    refine lv_if_ne (tgt := 50) hx hb dX0_votes_27 (by decide) (fun hc9 => ?_) (fun hc9 => ?_)
    · have hq14 := im hq14 hc9
      refine lv_iconst hx hb dX0_votes_50 kc_0 ?_
      have hq14 := Option.some.inj hq14
      subst hq14
      exact hjq14 _ _ _ _ _ hJ (lv_sub hl [0, 1, 2, 4] rfl)
    · have hq14 := ip hq14 hc9
      refine lv_aload_n hx hb dX0_votes_30 rfl (lv_at hl 0 rfl) ?_
      refine cj_gr (v := .ref (gA G 8 0)) C hJ 0 0 5 (ad_s rfl) (Nat.le_of_ble_eq_true rfl) (Nat.le_of_ble_eq_true rfl) rfl rfl (fl_X0_164_0 C) (fun _ _ => rfl) dX0_votes_31 ?_
      refine lv_iload_n hx hb dX0_votes_34 rfl (lv_at hl 1 rfl) ?_
      obtain ⟨n10, hn10, hq14⟩ := ob hq14
      refine cj_al (v := .ref (gA G 7 n10)) C hJ 8 0 (ad_s rfl) rfl rfl hn10 rfl dX0_votes_35 ?_
      refine lv_iload hx hb dX0_votes_36 (lv_at hl 4 rfl) ?_
      obtain ⟨n11, hn11, hq14⟩ := ob hq14
      refine cj_al (v := .ref (gA G 3 (8 * n10 + n11))) C hJ 7 n10 (ad_s rfl) rfl rfl hn11 rfl dX0_votes_38 ?_
      obtain ⟨x12, hx12, hq14⟩ := ob hq14
      refine cj_gi C hJ 3 (8 * n10 + n11) 1 (ad_s rfl) (Nat.le_of_ble_eq_true rfl) (Nat.le_of_ble_eq_true rfl) rfl rfl rfl (fl_X0_204_3 C) hx12 dX0_votes_39 ?_
      refine lv_iload_n hx hb dX0_votes_42 rfl (lv_at hl 2 rfl) ?_
      refine lv_icmp_ne (tgt := 50) hx hb dX0_votes_43 (by decide) (fun hc13 => ?_) (fun hc13 => ?_)
      · have hq14 := im hq14 hc13
        refine lv_iconst hx hb dX0_votes_50 kc_0 ?_
        have hq14 := Option.some.inj hq14
        subst hq14
        exact hjq14 _ _ _ _ _ hJ (lv_sub hl [0, 1, 2, 4] rfl)
      · have hq14 := ip hq14 hc13
        refine lv_iconst hx hb dX0_votes_46 kc_1 ?_
        refine lv_goto (tgt := 51) hx hb dX0_votes_47 (by decide) ?_
        have hq14 := Option.some.inj hq14
        subst hq14
        exact hjq14 _ _ _ _ _ hJ (lv_sub hl [0, 1, 2, 4] rfl)
def C_isCarried (σ : CM) (v1 : Int32) : Option (Int32) :=
  (C_votes σ v1 (1 : Int32)).bind fun c1 =>
  (C_votes σ v1 (0 : Int32)).bind fun c3 =>
  if c1 ≤ c3 then
    some (0 : Int32)
  else
    some (1 : Int32)
theorem hdC_isCarried : yX0_isCarried.cls = RX0 ∧ yX0_isCarried.cls ≠ "java/lang/invoke/MethodHandle" ∧ yX0_isCarried.cls ≠ "java/lang/invoke/VarHandle" ∧ (parseMethodDescriptor yX0_isCarried.desc).map (fun d => d.parameters.length) = some 1 := by decide +kernel
set_option maxHeartbeats 4000000 in
theorem metC_isCarried (l : Launch) (σ : CM) (v1 : Int32) (res : Int32) (h : C_isCarried σ v1 = some res) : MetC l yX0_isCarried (ws_ yX0_isCarried cX0_isCarried 2 (some .boolean)) 18 0 false false false false true true (fun G => [.ref (gA G 0 0), .int v1]) σ (fun _ => (some (.int res))) σ := by
  refine met_wC (own := RX0) (by decide +kernel) rfl (by simp [cRt]) (fun _ => Nat.le_of_ble_eq_true rfl) (fun G p e s m args below meth c Q hr1 hr2 C hE ls hl hJ => ?_)
  have hx := C.1.1
  have hb := C.1.2.1
  have hown := C.1.2.2.2.1
  have hts := C.1.2.2.2.2
  have hl : lv_has ls 2 [(0, .ref (gA G 0 0)), (1, .int v1)] := hl
  have hJ := CJ.s1 (hr1 rfl) hJ
  have hJ := CJ.s2 (hr2 rfl) hJ
  unfold C_isCarried at h
  refine lv_aload_n hx hb dX0_isCarried_0 rfl (lv_at hl 0 rfl) ?_
  refine lv_iload_n hx hb dX0_isCarried_1 rfl (lv_at hl 1 rfl) ?_
  refine lv_iconst hx hb dX0_isCarried_2 kc_1 ?_
  obtain ⟨c1, hc1, h⟩ := ob h
  refine cc_Vt (As := [.int v1, .int (1 : Int32)]) (rest := []) C hJ (metC_votes l σ v1 (1 : Int32) c1 hc1) rfl rfl (show 0 + 0 ≤ 0 from Nat.le_of_ble_eq_true rfl) (cost_ok false false false false _ _ (fun h => by cases h) (fun h => by cases h)) (fun _ => rfl) (fun _ => rfl) (cj_recv C hJ 0 0 (ad_s rfl) (Nat.le_of_ble_eq_true rfl) rfl rfl) (cwV 2 hts (lw_V q914 q916 qs23 q109 q917) rfl rfl rfl hdC_votes ⟨(Nat.le_of_ble_eq_true rfl), (Nat.le_of_ble_eq_true rfl)⟩) rfl hl.1 rfl (lv_room (Nat.le_of_ble_eq_true rfl)) dX0_isCarried_3 (fun H locs hJ => ?_)
  refine lv_aload_n hx hb dX0_isCarried_6 rfl (lv_at hl 0 rfl) ?_
  refine lv_iload_n hx hb dX0_isCarried_7 rfl (lv_at hl 1 rfl) ?_
  refine lv_iconst hx hb dX0_isCarried_8 kc_0 ?_
  obtain ⟨c3, hc3, h⟩ := ob h
  refine cc_Vt (As := [.int v1, .int (0 : Int32)]) (rest := [.int c1]) C hJ (metC_votes l σ v1 (0 : Int32) c3 hc3) rfl rfl (show 0 + 0 ≤ 0 from Nat.le_of_ble_eq_true rfl) (cost_ok false false false false _ _ (fun h => by cases h) (fun h => by cases h)) (fun _ => rfl) (fun _ => rfl) (cj_recv C hJ 0 0 (ad_s rfl) (Nat.le_of_ble_eq_true rfl) rfl rfl) (cwV 2 hts (lw_V q914 q916 qs23 q109 q917) rfl rfl rfl hdC_votes ⟨(Nat.le_of_ble_eq_true rfl), (Nat.le_of_ble_eq_true rfl)⟩) rfl hl.1 rfl (lv_room (Nat.le_of_ble_eq_true rfl)) dX0_isCarried_9 (fun H locs hJ => ?_)
  refine lv_icmp_le (tgt := 19) hx hb dX0_isCarried_12 (by decide) (fun hc5 => ?_) (fun hc5 => ?_)
  · have h := ip h hc5
    refine lv_iconst hx hb dX0_isCarried_19 kc_0 ?_
    have h := Option.some.inj h
    subst h
    exact hE _ _ _ _ _ _ _ _ _ _ _ _ (some (.int (0 : Int32))) hJ (fun h => by cases h) (fun h => by cases h) ⟨_, rfl⟩ mz0 dX0_isCarried_20
  · have h := im h hc5
    refine lv_iconst hx hb dX0_isCarried_15 kc_1 ?_
    refine lv_goto (tgt := 20) hx hb dX0_isCarried_16 (by decide) ?_
    have h := Option.some.inj h
    subst h
    exact hE _ _ _ _ _ _ _ _ _ _ _ _ (some (.int (1 : Int32))) hJ (fun h => by cases h) (fun h => by cases h) ⟨_, rfl⟩ mz1 dX0_isCarried_20
def C_houseBy (σ : CM) (v1 : Int32) (v2 : Int32) : Option (Int32) :=
  if (2 : Int32) ≤ v2 then
    (C_isCarried σ v1).bind fun c2 =>
    if c2 = 0 then
      some (0 : Int32)
    else
      some (1 : Int32)
  else
    (if v2 = 0 then
        some (1 : Int32)
      else
        some (0 : Int32) : Option (Int32)).bind fun q6 =>
    (C_votes σ v1 q6).bind fun c7 =>
    some c7
theorem hdC_houseBy : yX0_houseBy.cls = RX0 ∧ yX0_houseBy.cls ≠ "java/lang/invoke/MethodHandle" ∧ yX0_houseBy.cls ≠ "java/lang/invoke/VarHandle" ∧ (parseMethodDescriptor yX0_houseBy.desc).map (fun d => d.parameters.length) = some 2 := by decide +kernel
set_option maxHeartbeats 4000000 in
theorem metC_houseBy (l : Launch) (σ : CM) (v1 : Int32) (v2 : Int32) (res : Int32) (h : C_houseBy σ v1 v2 = some res) : MetC l yX0_houseBy (ws_ yX0_houseBy cX0_houseBy 3 (some .int)) 19 0 false false false false true true (fun G => [.ref (gA G 0 0), .int v1, .int v2]) σ (fun _ => (some (.int res))) σ := by
  refine met_wC (own := RX0) (by decide +kernel) rfl (by simp [cRt]) (fun _ => Nat.le_of_ble_eq_true rfl) (fun G p e s m args below meth c Q hr1 hr2 C hE ls hl hJ => ?_)
  have hx := C.1.1
  have hb := C.1.2.1
  have hown := C.1.2.2.2.1
  have hts := C.1.2.2.2.2
  have hl : lv_has ls 3 [(0, .ref (gA G 0 0)), (1, .int v1), (2, .int v2)] := hl
  have hJ := CJ.s1 (hr1 rfl) hJ
  have hJ := CJ.s2 (hr2 rfl) hJ
  unfold C_houseBy at h
  refine lv_iload_n hx hb dX0_houseBy_0 rfl (lv_at hl 2 rfl) ?_
  refine lv_iconst hx hb dX0_houseBy_1 kc_2 ?_
  refine lv_icmp_ge (tgt := 22) hx hb dX0_houseBy_2 (by decide) (fun hc1 => ?_) (fun hc1 => ?_)
  · have h := ip h hc1
    refine lv_aload_n hx hb dX0_houseBy_22 rfl (lv_at hl 0 rfl) ?_
    refine lv_iload_n hx hb dX0_houseBy_23 rfl (lv_at hl 1 rfl) ?_
    obtain ⟨c2, hc2, h⟩ := ob h
    refine cc_Vt (As := [.int v1]) (rest := []) C hJ (metC_isCarried l σ v1 c2 hc2) rfl rfl (show 0 + 0 ≤ 0 from Nat.le_of_ble_eq_true rfl) (cost_ok false false false false _ _ (fun h => by cases h) (fun h => by cases h)) (fun _ => rfl) (fun _ => rfl) (cj_recv C hJ 0 0 (ad_s rfl) (Nat.le_of_ble_eq_true rfl) rfl rfl) (cwV 1 hts (lw_V q918 q920 qs24 q109 q921) rfl rfl rfl hdC_isCarried ⟨(Nat.le_of_ble_eq_true rfl), (Nat.le_of_ble_eq_true rfl)⟩) rfl hl.1 rfl (lv_room (Nat.le_of_ble_eq_true rfl)) dX0_houseBy_24 (fun H locs hJ => ?_)
    refine lv_if_eq (tgt := 34) hx hb dX0_houseBy_27 (by decide) (fun hc4 => ?_) (fun hc4 => ?_)
    · have h := ip h hc4
      refine lv_iconst hx hb dX0_houseBy_34 kc_0 ?_
      have h := Option.some.inj h
      subst h
      exact hE _ _ _ _ _ _ _ _ _ _ _ _ (some (.int ((0 : Int32)))) hJ (fun h => by cases h) (fun h => by cases h) ⟨_, rfl⟩ rfl dX0_houseBy_35
    · have h := im h hc4
      refine lv_iconst hx hb dX0_houseBy_30 kc_1 ?_
      refine lv_goto (tgt := 35) hx hb dX0_houseBy_31 (by decide) ?_
      have h := Option.some.inj h
      subst h
      exact hE _ _ _ _ _ _ _ _ _ _ _ _ (some (.int ((1 : Int32)))) hJ (fun h => by cases h) (fun h => by cases h) ⟨_, rfl⟩ rfl dX0_houseBy_35
  · have h := im h hc1
    refine lv_aload_n hx hb dX0_houseBy_5 rfl (lv_at hl 0 rfl) ?_
    refine lv_iload_n hx hb dX0_houseBy_6 rfl (lv_at hl 1 rfl) ?_
    refine lv_iload_n hx hb dX0_houseBy_7 rfl (lv_at hl 2 rfl) ?_
    obtain ⟨q6, hq6, h⟩ := ob h
    have hjq6 : ∀ (H : Heap) (locs : List Loc) (ce sl : Nat) (ls : Array Slot), CJ G s (RM 19 0 false false G) 0 false false true true G.2.2.2 σ H locs ce sl → lv_has ls 3 [] → W p l e (RM 19 0 false false G) s m args below meth c H locs ce sl Q (F0 m 16 ls [.int q6, .int v1, .ref (gA G 0 0)]) := by
      intro H locs ce sl ls hJ hl
      obtain ⟨c7, hc7, h⟩ := ob h
      refine cc_Vt (As := [.int v1, .int q6]) (rest := []) C hJ (metC_votes l σ v1 q6 c7 hc7) rfl rfl (show 0 + 0 ≤ 0 from Nat.le_of_ble_eq_true rfl) (cost_ok false false false false _ _ (fun h => by cases h) (fun h => by cases h)) (fun _ => rfl) (fun _ => rfl) (cj_recv C hJ 0 0 (ad_s rfl) (Nat.le_of_ble_eq_true rfl) rfl rfl) (cwV 2 hts (lw_V q914 q916 qs23 q109 q917) rfl rfl rfl hdC_votes ⟨(Nat.le_of_ble_eq_true rfl), (Nat.le_of_ble_eq_true rfl)⟩) rfl hl.1 rfl (lv_room (Nat.le_of_ble_eq_true rfl)) dX0_houseBy_16 (fun H locs hJ => ?_)
      refine lv_goto (tgt := 35) hx hb dX0_houseBy_19 (by decide) ?_
      have h := Option.some.inj h
      subst h
      exact hE _ _ _ _ _ _ _ _ _ _ _ _ (some (.int (c7))) hJ (fun h => by cases h) (fun h => by cases h) ⟨_, rfl⟩ rfl dX0_houseBy_35
    refine lv_if_ne (tgt := 15) hx hb dX0_houseBy_8 (by decide) (fun hc5 => ?_) (fun hc5 => ?_)
    · have hq6 := im hq6 hc5
      refine lv_iconst hx hb dX0_houseBy_15 kc_0 ?_
      have hq6 := Option.some.inj hq6
      subst hq6
      exact hjq6 _ _ _ _ _ hJ (lv_sub hl [] rfl)
    · have hq6 := ip hq6 hc5
      refine lv_iconst hx hb dX0_houseBy_11 kc_1 ?_
      refine lv_goto (tgt := 16) hx hb dX0_houseBy_12 (by decide) ?_
      have hq6 := Option.some.inj hq6
      subst hq6
      exact hjq6 _ _ _ _ _ hJ (lv_sub hl [] rfl)
