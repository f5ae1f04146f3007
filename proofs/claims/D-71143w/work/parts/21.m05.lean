/-! the reference, walked (printed by tool/gen_m.py) -/
set_option maxRecDepth 100000
def M_goesBy (σ : MM) (v1 : Int32) : Option (MM) :=
  (lp (S := Int32 × MM) (T := MM) (fun w1 =>
    if (w1.2 12 0) ≤ w1.1 then
        some (.inr w1.2)
      else
        (mld w1.2 14 w1.1).bind fun x4 =>
        if x4 = v1 then
          (M_isIn w1.2 (w1.2 16 0) w1.1).bind fun c6 =>
          if c6 = 0 then
            (M_befalls w1.2 w1.1).bind fun c8 =>
            some (.inl ((w1.1 + 1), c8))
          else
            some (.inl ((w1.1 + 1), w1.2))
        else
          some (.inl ((w1.1 + 1), w1.2))) 2000 ((0 : Int32), σ)).bind fun q2 =>
  (lp (S := Int32 × MM) (T := MM) (fun w9 =>
    if (w9.2 4 0) ≤ w9.1 then
        some (.inr w9.2)
      else
        (M_walks w9.2 w9.1 v1).bind fun c12 =>
        some (.inl ((w9.1 + 1), c12))) 2000 ((0 : Int32), q2)).bind fun q10 =>
  (lp (S := Int32 × MM) (T := MM) (fun w13 =>
    if (w13.2 4 0) ≤ w13.1 then
        some (.inr w13.2)
      else
        (mld w13.2 18 w13.1).bind fun x16 =>
        (mst w13.2 24 (((8 : Int32) * v1) + w13.1) x16).bind fun σ17 =>
        (mld σ17 19 w13.1).bind fun x18 =>
        (mst σ17 25 (((8 : Int32) * v1) + w13.1) x18).bind fun σ19 =>
        (mld σ19 21 w13.1).bind fun x20 =>
        (mst σ19 26 (((8 : Int32) * v1) + w13.1) x20).bind fun σ21 =>
        some (.inl ((w13.1 + 1), σ21))) 2000 ((0 : Int32), q10)).bind fun q14 =>
  (lp (S := Int32 × MM) (T := MM) (fun w22 =>
    if (12 : Int32) ≤ w22.1 then
        some (.inr w22.2)
      else
        (mld w22.2 17 w22.1).bind fun x25 =>
        (M_manyAt w22.2 v1 w22.1).bind fun c26 =>
        (if c26 ≤ (2 : Int32) then
            some (0 : Int32)
          else
            (mld w22.2 17 w22.1).bind fun x28 =>
            if x28 ≤ 0 then
              some (0 : Int32)
            else
              some (1 : Int32) : Option (Int32)).bind fun q30 =>
        (mst w22.2 17 w22.1 (x25 - q30)).bind fun σ31 =>
        (mld σ31 17 w22.1).bind fun x32 =>
        (mst σ31 23 (((12 : Int32) * v1) + w22.1) x32).bind fun σ33 =>
        some (.inl ((w22.1 + 1), σ33))) 2000 ((0 : Int32), q14)).bind fun q23 =>
  (M_divides q23 v1).bind fun c34 =>
  some c34
theorem hdM_goesBy : yX6_goesBy.cls = RX6 ∧ yX6_goesBy.cls ≠ "java/lang/invoke/MethodHandle" ∧ yX6_goesBy.cls ≠ "java/lang/invoke/VarHandle" ∧ (parseMethodDescriptor yX6_goesBy.desc).map (fun d => d.parameters.length) = some 1 := by decide +kernel
set_option maxHeartbeats 4000000 in
theorem metM_goesBy (l : Launch) (σ : MM) (v1 : Int32) (res : MM) (h : M_goesBy σ v1 = some res) : MetM l yX6_goesBy cX6_goesBy 3 none 6 (fun K => [.ref (kO K), .int v1]) σ none res := by
  refine met_walk rfl (by simp [mRt]) (fun _ => Nat.le_of_ble_eq_true rfl) (fun K p e s m args below meth c Q C hE ls hl hJ => ?_)
  have hx := C.1.1
  have hb := C.1.2.1
  have hown := C.1.2.2.2.1
  have hts := C.1.2.2.2.2
  have hl : lv_has ls 3 [(0, .ref (kO K)), (1, .int v1)] := hl
  unfold M_goesBy at h
  refine lv_iconst hx hb dX6_goesBy_0 kc_0 ?_
  refine lv_istore_n (lv' := [(2, .int (0 : Int32)), (0, .ref (kO K)), (1, .int v1)]) hx hb dX6_goesBy_1 rfl hl (Nat.le_of_ble_eq_true rfl) rfl (fun ls hl => ?_)
  obtain ⟨q2, hq2, h⟩ := ob h
  have hxq2 : ∀ (H : Heap) (locs : List Loc) (ls : Array Slot), MJ K q2 s.heap H locs → lv_has ls 3 [(0, .ref (kO K)), (1, .int v1)] → W p l e (rmd 6) s m args below meth c H locs 0 0 Q (F0 m 42 ls []) := by
    intro H locs ls hJ hl
    refine lv_iconst hx hb dX6_goesBy_42 kc_0 ?_
    refine lv_istore_n (lv' := [(2, .int (0 : Int32)), (0, .ref (kO K)), (1, .int v1)]) hx hb dX6_goesBy_43 rfl hl (Nat.le_of_ble_eq_true rfl) rfl (fun ls hl => ?_)
    obtain ⟨q10, hq10, h⟩ := ob h
    have hxq10 : ∀ (H : Heap) (locs : List Loc) (ls : Array Slot), MJ K q10 s.heap H locs → lv_has ls 3 [(0, .ref (kO K)), (1, .int v1)] → W p l e (rmd 6) s m args below meth c H locs 0 0 Q (F0 m 64 ls []) := by
      intro H locs ls hJ hl
      refine lv_iconst hx hb dX6_goesBy_64 kc_0 ?_
      refine lv_istore_n (lv' := [(2, .int (0 : Int32)), (0, .ref (kO K)), (1, .int v1)]) hx hb dX6_goesBy_65 rfl hl (Nat.le_of_ble_eq_true rfl) rfl (fun ls hl => ?_)
      obtain ⟨q14, hq14, h⟩ := ob h
      have hxq14 : ∀ (H : Heap) (locs : List Loc) (ls : Array Slot), MJ K q14 s.heap H locs → lv_has ls 3 [(0, .ref (kO K)), (1, .int v1)] → W p l e (rmd 6) s m args below meth c H locs 0 0 Q (F0 m 131 ls []) := by
        intro H locs ls hJ hl
        refine lv_iconst hx hb dX6_goesBy_131 kc_0 ?_
        refine lv_istore_n (lv' := [(2, .int (0 : Int32)), (0, .ref (kO K)), (1, .int v1)]) hx hb dX6_goesBy_132 rfl hl (Nat.le_of_ble_eq_true rfl) rfl (fun ls hl => ?_)
        obtain ⟨q23, hq23, h⟩ := ob h
        have hxq23 : ∀ (H : Heap) (locs : List Loc) (ls : Array Slot), MJ K q23 s.heap H locs → lv_has ls 3 [(0, .ref (kO K)), (1, .int v1)] → W p l e (rmd 6) s m args below meth c H locs 0 0 Q (F0 m 195 ls []) := by
          intro H locs ls hJ hl
          refine lv_aload_n hx hb dX6_goesBy_195 rfl (lv_at hl 0 rfl) ?_
          refine lv_iload_n hx hb dX6_goesBy_196 rfl (lv_at hl 1 rfl) ?_
          obtain ⟨c34, hc34, h⟩ := ob h
          refine mc_V (As := [.int v1]) (rest := []) C hJ (metM_divides l q23 v1 c34 hc34) (cwV 1 hts (lw_V q1521 q1523 qs77 q118 q1524) rfl rfl rfl hdM_divides ⟨Nat.le_of_ble_eq_true rfl, Nat.le_of_ble_eq_true rfl⟩) rfl hl.1 rfl (lv_room (Nat.le_of_ble_eq_true rfl)) dX6_goesBy_197 (fun H locs hJ => ?_)
          have h := Option.some.inj h
          subst h
          exact hE _ _ _ _ none hJ rfl rfl dX6_goesBy_200
        refine lp_ind (P := fun (w22 : Int32 × MM) => ∀ (H : Heap) (locs : List Loc) (ls : Array Slot), MJ K w22.2 s.heap H locs → lv_has ls 3 [(0, .ref (kO K)), (1, .int v1), (2, .int w22.1)] → W p l e (rmd 6) s m args below meth c H locs 0 0 Q (F0 m 133 ls [])) ?_ _ _ hq23 _ _ _ hJ (lv_sub hl [1, 2, 0] rfl)
        intro nw22 w22 ihw22 zw22 hzw22 hqw22 H locs ls hJ hl
        refine lv_iload_n hx hb dX6_goesBy_133 rfl (lv_at hl 2 rfl) ?_
        refine lv_bipush hx hb dX6_goesBy_134 kb_12 ?_
        refine lv_icmp_ge (tgt := 195) hx hb dX6_goesBy_136 (by decide) (fun hc24 => ?_) (fun hc24 => ?_)
        · have hzw22 := ip hzw22 hc24
          have hzw22 := Option.some.inj hzw22
          subst hzw22
          have hqw22 : _ = q23 := hqw22
          subst hqw22
          exact hxq23 _ _ _ hJ (lv_sub hl [0, 1] rfl)
        · have hzw22 := im hzw22 hc24
          refine lv_aload_n hx hb dX6_goesBy_139 rfl (lv_at hl 0 rfl) ?_
          refine mx_ga C hJ 17 (Nat.le_of_ble_eq_true rfl) rfl lk17 dX6_goesBy_140 ?_
          refine lv_iload_n hx hb dX6_goesBy_143 rfl (lv_at hl 2 rfl) ?_
          refine lv_dup2_11 hx hb dX6_goesBy_144 rfl rfl ?_
          obtain ⟨x25, hx25, hzw22⟩ := ob hzw22
          refine my_il C hJ 17 rfl hx25 dX6_goesBy_145 ?_
          refine lv_aload_n hx hb dX6_goesBy_146 rfl (lv_at hl 0 rfl) ?_
          refine lv_iload_n hx hb dX6_goesBy_147 rfl (lv_at hl 1 rfl) ?_
          refine lv_iload_n hx hb dX6_goesBy_148 rfl (lv_at hl 2 rfl) ?_
          obtain ⟨c26, hc26, hzw22⟩ := ob hzw22
          refine mc_V (As := [.int v1, .int w22.1]) (rest := [.int x25, .int w22.1, .ref (kA K 17)]) C hJ (metM_manyAt l w22.2 v1 w22.1 c26 hc26) (cwV 2 hts (lw_V q1517 q1519 qs76 q118 q1520) rfl rfl rfl hdM_manyAt ⟨Nat.le_of_ble_eq_true rfl, Nat.le_of_ble_eq_true rfl⟩) rfl hl.1 rfl (lv_room (Nat.le_of_ble_eq_true rfl)) dX6_goesBy_149 (fun H locs hJ => ?_)
          refine lv_iconst hx hb dX6_goesBy_152 kc_2 ?_
          obtain ⟨q30, hq30, hzw22⟩ := ob hzw22
          have hjq30 : ∀ (H : Heap) (locs : List Loc) (ls : Array Slot), MJ K w22.2 s.heap H locs → lv_has ls 3 [(0, .ref (kO K)), (1, .int v1), (2, .int w22.1)] → W p l e (rmd 6) s m args below meth c H locs 0 0 Q (F0 m 170 ls [.int q30, .int x25, .int w22.1, .ref (kA K 17)]) := by
            intro H locs ls hJ hl
            refine lv_isub hx hb dX6_goesBy_170 ?_
            obtain ⟨σ31, hσ31, hzw22⟩ := ob hzw22
            refine my_is C hJ 17 rfl hσ31 dX6_goesBy_171 (fun H locs hJ => ?_)
            refine lv_aload_n hx hb dX6_goesBy_172 rfl (lv_at hl 0 rfl) ?_
            refine mx_ga C hJ 23 (Nat.le_of_ble_eq_true rfl) rfl lk23 dX6_goesBy_173 ?_
            refine lv_bipush hx hb dX6_goesBy_176 kb_12 ?_
            refine lv_iload_n hx hb dX6_goesBy_178 rfl (lv_at hl 1 rfl) ?_
            refine lv_imul hx hb dX6_goesBy_179 ?_
            refine lv_iload_n hx hb dX6_goesBy_180 rfl (lv_at hl 2 rfl) ?_
            refine lv_iadd hx hb dX6_goesBy_181 ?_
            refine lv_aload_n hx hb dX6_goesBy_182 rfl (lv_at hl 0 rfl) ?_
            refine mx_ga C hJ 17 (Nat.le_of_ble_eq_true rfl) rfl lk17 dX6_goesBy_183 ?_
            refine lv_iload_n hx hb dX6_goesBy_186 rfl (lv_at hl 2 rfl) ?_
            obtain ⟨x32, hx32, hzw22⟩ := ob hzw22
            refine my_il C hJ 17 rfl hx32 dX6_goesBy_187 ?_
            obtain ⟨σ33, hσ33, hzw22⟩ := ob hzw22
            refine my_is C hJ 23 rfl hσ33 dX6_goesBy_188 (fun H locs hJ => ?_)
            refine lv_iinc (v := (w22.1 + 1)) (lv' := [(2, .int (w22.1 + 1)), (0, .ref (kO K)), (1, .int v1)]) hx hb dX6_goesBy_189 hl (k := 2) rfl rfl (Nat.le_of_ble_eq_true rfl) rfl (fun ls hl => ?_)
            refine lv_goto (tgt := 133) hx hb dX6_goesBy_192 (by decide) ?_
            have hzw22 := Option.some.inj hzw22
            subst hzw22
            exact ihw22 _ hqw22 _ _ _ hJ (lv_sub hl [1, 2, 0] rfl)
          refine lv_icmp_le (tgt := 169) hx hb dX6_goesBy_153 (by decide) (fun hc27 => ?_) (fun hc27 => ?_)
          · have hq30 := ip hq30 hc27
            refine lv_iconst hx hb dX6_goesBy_169 kc_0 ?_
            have hq30 := Option.some.inj hq30
            subst hq30
            exact hjq30 _ _ _ hJ (lv_sub hl [0, 1, 2] rfl)
          · have hq30 := im hq30 hc27
            refine lv_aload_n hx hb dX6_goesBy_156 rfl (lv_at hl 0 rfl) ?_
            refine mx_ga C hJ 17 (Nat.le_of_ble_eq_true rfl) rfl lk17 dX6_goesBy_157 ?_
            refine lv_iload_n hx hb dX6_goesBy_160 rfl (lv_at hl 2 rfl) ?_
            obtain ⟨x28, hx28, hq30⟩ := ob hq30
            refine my_il C hJ 17 rfl hx28 dX6_goesBy_161 ?_
            refine lv_if_le (tgt := 169) hx hb dX6_goesBy_162 (by decide) (fun hc29 => ?_) (fun hc29 => ?_)
            · have hq30 := ip hq30 hc29
              refine lv_iconst hx hb dX6_goesBy_169 kc_0 ?_
              have hq30 := Option.some.inj hq30
              subst hq30
              exact hjq30 _ _ _ hJ (lv_sub hl [0, 1, 2] rfl)
            · have hq30 := im hq30 hc29
              refine lv_iconst hx hb dX6_goesBy_165 kc_1 ?_
              refine lv_goto (tgt := 170) hx hb dX6_goesBy_166 (by decide) ?_
              have hq30 := Option.some.inj hq30
              subst hq30
              exact hjq30 _ _ _ hJ (lv_sub hl [0, 1, 2] rfl)
      refine lp_ind (P := fun (w13 : Int32 × MM) => ∀ (H : Heap) (locs : List Loc) (ls : Array Slot), MJ K w13.2 s.heap H locs → lv_has ls 3 [(0, .ref (kO K)), (1, .int v1), (2, .int w13.1)] → W p l e (rmd 6) s m args below meth c H locs 0 0 Q (F0 m 66 ls [])) ?_ _ _ hq14 _ _ _ hJ (lv_sub hl [1, 2, 0] rfl)
      intro nw13 w13 ihw13 zw13 hzw13 hqw13 H locs ls hJ hl
      refine lv_iload_n hx hb dX6_goesBy_66 rfl (lv_at hl 2 rfl) ?_
      refine lv_aload_n hx hb dX6_goesBy_67 rfl (lv_at hl 0 rfl) ?_
      refine mx_gi C hJ 4 (Nat.le_of_ble_eq_true rfl) rfl lk4 dX6_goesBy_68 ?_
      refine lv_icmp_ge (tgt := 131) hx hb dX6_goesBy_71 (by decide) (fun hc15 => ?_) (fun hc15 => ?_)
      · have hzw13 := ip hzw13 hc15
        have hzw13 := Option.some.inj hzw13
        subst hzw13
        have hqw13 : _ = q14 := hqw13
        subst hqw13
        exact hxq14 _ _ _ hJ (lv_sub hl [0, 1] rfl)
      · have hzw13 := im hzw13 hc15
        refine lv_aload_n hx hb dX6_goesBy_74 rfl (lv_at hl 0 rfl) ?_
        refine mx_ga C hJ 24 (Nat.le_of_ble_eq_true rfl) rfl lk24 dX6_goesBy_75 ?_
        refine lv_bipush hx hb dX6_goesBy_78 kb_8 ?_
        refine lv_iload_n hx hb dX6_goesBy_80 rfl (lv_at hl 1 rfl) ?_
        refine lv_imul hx hb dX6_goesBy_81 ?_
        refine lv_iload_n hx hb dX6_goesBy_82 rfl (lv_at hl 2 rfl) ?_
        refine lv_iadd hx hb dX6_goesBy_83 ?_
        refine lv_aload_n hx hb dX6_goesBy_84 rfl (lv_at hl 0 rfl) ?_
        refine mx_ga C hJ 18 (Nat.le_of_ble_eq_true rfl) rfl lk18 dX6_goesBy_85 ?_
        refine lv_iload_n hx hb dX6_goesBy_88 rfl (lv_at hl 2 rfl) ?_
        obtain ⟨x16, hx16, hzw13⟩ := ob hzw13
        refine my_il C hJ 18 rfl hx16 dX6_goesBy_89 ?_
        obtain ⟨σ17, hσ17, hzw13⟩ := ob hzw13
        refine my_is C hJ 24 rfl hσ17 dX6_goesBy_90 (fun H locs hJ => ?_)
        refine lv_aload_n hx hb dX6_goesBy_91 rfl (lv_at hl 0 rfl) ?_
        refine mx_ga C hJ 25 (Nat.le_of_ble_eq_true rfl) rfl lk25 dX6_goesBy_92 ?_
        refine lv_bipush hx hb dX6_goesBy_95 kb_8 ?_
        refine lv_iload_n hx hb dX6_goesBy_97 rfl (lv_at hl 1 rfl) ?_
        refine lv_imul hx hb dX6_goesBy_98 ?_
        refine lv_iload_n hx hb dX6_goesBy_99 rfl (lv_at hl 2 rfl) ?_
        refine lv_iadd hx hb dX6_goesBy_100 ?_
        refine lv_aload_n hx hb dX6_goesBy_101 rfl (lv_at hl 0 rfl) ?_
        refine mx_ga C hJ 19 (Nat.le_of_ble_eq_true rfl) rfl lk19 dX6_goesBy_102 ?_
        refine lv_iload_n hx hb dX6_goesBy_105 rfl (lv_at hl 2 rfl) ?_
        obtain ⟨x18, hx18, hzw13⟩ := ob hzw13
        refine my_il C hJ 19 rfl hx18 dX6_goesBy_106 ?_
        obtain ⟨σ19, hσ19, hzw13⟩ := ob hzw13
        refine my_is C hJ 25 rfl hσ19 dX6_goesBy_107 (fun H locs hJ => ?_)
        refine lv_aload_n hx hb dX6_goesBy_108 rfl (lv_at hl 0 rfl) ?_
        refine mx_ga C hJ 26 (Nat.le_of_ble_eq_true rfl) rfl lk26 dX6_goesBy_109 ?_
        refine lv_bipush hx hb dX6_goesBy_112 kb_8 ?_
        refine lv_iload_n hx hb dX6_goesBy_114 rfl (lv_at hl 1 rfl) ?_
        refine lv_imul hx hb dX6_goesBy_115 ?_
        refine lv_iload_n hx hb dX6_goesBy_116 rfl (lv_at hl 2 rfl) ?_
        refine lv_iadd hx hb dX6_goesBy_117 ?_
        refine lv_aload_n hx hb dX6_goesBy_118 rfl (lv_at hl 0 rfl) ?_
        refine mx_ga C hJ 21 (Nat.le_of_ble_eq_true rfl) rfl lk21 dX6_goesBy_119 ?_
        refine lv_iload_n hx hb dX6_goesBy_122 rfl (lv_at hl 2 rfl) ?_
        obtain ⟨x20, hx20, hzw13⟩ := ob hzw13
        refine my_il C hJ 21 rfl hx20 dX6_goesBy_123 ?_
        obtain ⟨σ21, hσ21, hzw13⟩ := ob hzw13
        refine my_is C hJ 26 rfl hσ21 dX6_goesBy_124 (fun H locs hJ => ?_)
        refine lv_iinc (v := (w13.1 + 1)) (lv' := [(2, .int (w13.1 + 1)), (0, .ref (kO K)), (1, .int v1)]) hx hb dX6_goesBy_125 hl (k := 2) rfl rfl (Nat.le_of_ble_eq_true rfl) rfl (fun ls hl => ?_)
        refine lv_goto (tgt := 66) hx hb dX6_goesBy_128 (by decide) ?_
        have hzw13 := Option.some.inj hzw13
        subst hzw13
        exact ihw13 _ hqw13 _ _ _ hJ (lv_sub hl [1, 2, 0] rfl)
    refine lp_ind (P := fun (w9 : Int32 × MM) => ∀ (H : Heap) (locs : List Loc) (ls : Array Slot), MJ K w9.2 s.heap H locs → lv_has ls 3 [(0, .ref (kO K)), (1, .int v1), (2, .int w9.1)] → W p l e (rmd 6) s m args below meth c H locs 0 0 Q (F0 m 44 ls [])) ?_ _ _ hq10 _ _ _ hJ (lv_sub hl [1, 2, 0] rfl)
    intro nw9 w9 ihw9 zw9 hzw9 hqw9 H locs ls hJ hl
    refine lv_iload_n hx hb dX6_goesBy_44 rfl (lv_at hl 2 rfl) ?_
    refine lv_aload_n hx hb dX6_goesBy_45 rfl (lv_at hl 0 rfl) ?_
    refine mx_gi C hJ 4 (Nat.le_of_ble_eq_true rfl) rfl lk4 dX6_goesBy_46 ?_
    refine lv_icmp_ge (tgt := 64) hx hb dX6_goesBy_49 (by decide) (fun hc11 => ?_) (fun hc11 => ?_)
    · have hzw9 := ip hzw9 hc11
      have hzw9 := Option.some.inj hzw9
      subst hzw9
      have hqw9 : _ = q10 := hqw9
      subst hqw9
      exact hxq10 _ _ _ hJ (lv_sub hl [0, 1] rfl)
    · have hzw9 := im hzw9 hc11
      refine lv_aload_n hx hb dX6_goesBy_52 rfl (lv_at hl 0 rfl) ?_
      refine lv_iload_n hx hb dX6_goesBy_53 rfl (lv_at hl 2 rfl) ?_
      refine lv_iload_n hx hb dX6_goesBy_54 rfl (lv_at hl 1 rfl) ?_
      obtain ⟨c12, hc12, hzw9⟩ := ob hzw9
      refine mc_V (As := [.int w9.1, .int v1]) (rest := []) C hJ (metM_walks l w9.2 w9.1 v1 c12 hc12) (cwV 2 hts (lw_V q1497 q1499 qs71 q118 q1500) rfl rfl rfl hdM_walks ⟨Nat.le_of_ble_eq_true rfl, Nat.le_of_ble_eq_true rfl⟩) rfl hl.1 rfl (lv_room (Nat.le_of_ble_eq_true rfl)) dX6_goesBy_55 (fun H locs hJ => ?_)
      refine lv_iinc (v := (w9.1 + 1)) (lv' := [(2, .int (w9.1 + 1)), (0, .ref (kO K)), (1, .int v1)]) hx hb dX6_goesBy_58 hl (k := 2) rfl rfl (Nat.le_of_ble_eq_true rfl) rfl (fun ls hl => ?_)
      refine lv_goto (tgt := 44) hx hb dX6_goesBy_61 (by decide) ?_
      have hzw9 := Option.some.inj hzw9
      subst hzw9
      exact ihw9 _ hqw9 _ _ _ hJ (lv_sub hl [1, 2, 0] rfl)
  refine lp_ind (P := fun (w1 : Int32 × MM) => ∀ (H : Heap) (locs : List Loc) (ls : Array Slot), MJ K w1.2 s.heap H locs → lv_has ls 3 [(0, .ref (kO K)), (1, .int v1), (2, .int w1.1)] → W p l e (rmd 6) s m args below meth c H locs 0 0 Q (F0 m 2 ls [])) ?_ _ _ hq2 _ _ _ hJ (lv_sub hl [1, 2, 0] rfl)
  intro nw1 w1 ihw1 zw1 hzw1 hqw1 H locs ls hJ hl
  refine lv_iload_n hx hb dX6_goesBy_2 rfl (lv_at hl 2 rfl) ?_
  refine lv_aload_n hx hb dX6_goesBy_3 rfl (lv_at hl 0 rfl) ?_
  refine mx_gi C hJ 12 (Nat.le_of_ble_eq_true rfl) rfl lk12 dX6_goesBy_4 ?_
  refine lv_icmp_ge (tgt := 42) hx hb dX6_goesBy_7 (by decide) (fun hc3 => ?_) (fun hc3 => ?_)
  · have hzw1 := ip hzw1 hc3
    have hzw1 := Option.some.inj hzw1
    subst hzw1
    have hqw1 : _ = q2 := hqw1
    subst hqw1
    exact hxq2 _ _ _ hJ (lv_sub hl [0, 1] rfl)
  · have hzw1 := im hzw1 hc3
    refine lv_aload_n hx hb dX6_goesBy_10 rfl (lv_at hl 0 rfl) ?_
    refine mx_ga C hJ 14 (Nat.le_of_ble_eq_true rfl) rfl lk14 dX6_goesBy_11 ?_
    refine lv_iload_n hx hb dX6_goesBy_14 rfl (lv_at hl 2 rfl) ?_
    obtain ⟨x4, hx4, hzw1⟩ := ob hzw1
    refine my_il C hJ 14 rfl hx4 dX6_goesBy_15 ?_
    refine lv_iload_n hx hb dX6_goesBy_16 rfl (lv_at hl 1 rfl) ?_
    refine lv_icmp_ne (tgt := 36) hx hb dX6_goesBy_17 (by decide) (fun hc5 => ?_) (fun hc5 => ?_)
    · have hzw1 := im hzw1 hc5
      refine lv_iinc (v := (w1.1 + 1)) (lv' := [(2, .int (w1.1 + 1)), (0, .ref (kO K)), (1, .int v1)]) hx hb dX6_goesBy_36 hl (k := 2) rfl rfl (Nat.le_of_ble_eq_true rfl) rfl (fun ls hl => ?_)
      refine lv_goto (tgt := 2) hx hb dX6_goesBy_39 (by decide) ?_
      have hzw1 := Option.some.inj hzw1
      subst hzw1
      exact ihw1 _ hqw1 _ _ _ hJ (lv_sub hl [1, 2, 0] rfl)
    · have hzw1 := ip hzw1 hc5
      refine lv_aload_n hx hb dX6_goesBy_20 rfl (lv_at hl 0 rfl) ?_
      refine mx_gi C hJ 16 (Nat.le_of_ble_eq_true rfl) rfl lk16 dX6_goesBy_21 ?_
      refine lv_iload_n hx hb dX6_goesBy_24 rfl (lv_at hl 2 rfl) ?_
      obtain ⟨c6, hc6, hzw1⟩ := ob hzw1
      refine mc_S (As := [.int (w1.2 16 0), .int w1.1]) (rest := []) C hJ (metM_isIn l w1.2 (w1.2 16 0) w1.1 c6 hc6) (va_cwS 2 hts (lw_S q1478 q1479 q118 q1480) rfl rfl rfl hdM_isIn ⟨Nat.le_of_ble_eq_true rfl, Nat.le_of_ble_eq_true rfl⟩) rfl hl.1 rfl (lv_room (Nat.le_of_ble_eq_true rfl)) dX6_goesBy_25 (fun H locs hJ => ?_)
      refine lv_if_ne (tgt := 36) hx hb dX6_goesBy_28 (by decide) (fun hc7 => ?_) (fun hc7 => ?_)
      · have hzw1 := im hzw1 hc7
        refine lv_iinc (v := (w1.1 + 1)) (lv' := [(2, .int (w1.1 + 1)), (0, .ref (kO K)), (1, .int v1)]) hx hb dX6_goesBy_36 hl (k := 2) rfl rfl (Nat.le_of_ble_eq_true rfl) rfl (fun ls hl => ?_)
        refine lv_goto (tgt := 2) hx hb dX6_goesBy_39 (by decide) ?_
        have hzw1 := Option.some.inj hzw1
        subst hzw1
        exact ihw1 _ hqw1 _ _ _ hJ (lv_sub hl [1, 2, 0] rfl)
      · have hzw1 := ip hzw1 hc7
        refine lv_aload_n hx hb dX6_goesBy_31 rfl (lv_at hl 0 rfl) ?_
        refine lv_iload_n hx hb dX6_goesBy_32 rfl (lv_at hl 2 rfl) ?_
        obtain ⟨c8, hc8, hzw1⟩ := ob hzw1
        refine mc_V (As := [.int w1.1]) (rest := []) C hJ (metM_befalls l w1.2 w1.1 c8 hc8) (cwV 1 hts (lw_V q1481 q1483 qs67 q118 q1484) rfl rfl rfl hdM_befalls ⟨Nat.le_of_ble_eq_true rfl, Nat.le_of_ble_eq_true rfl⟩) rfl hl.1 rfl (lv_room (Nat.le_of_ble_eq_true rfl)) dX6_goesBy_33 (fun H locs hJ => ?_)
        refine lv_iinc (v := (w1.1 + 1)) (lv' := [(2, .int (w1.1 + 1)), (0, .ref (kO K)), (1, .int v1)]) hx hb dX6_goesBy_36 hl (k := 2) rfl rfl (Nat.le_of_ble_eq_true rfl) rfl (fun ls hl => ?_)
        refine lv_goto (tgt := 2) hx hb dX6_goesBy_39 (by decide) ?_
        have hzw1 := Option.some.inj hzw1
        subst hzw1
        exact ihw1 _ hqw1 _ _ _ hJ (lv_sub hl [1, 2, 0] rfl)
def M_isMember (σ : MM) (v1 : Int32) : Option (Int32 × MM) :=
  (M_reads σ).bind fun c1 =>
  (M_in c1 v1 (0 : Int32) ((c1 4 0) - (1 : Int32))).bind fun c2 =>
  some ((bz c2), c1)
theorem hdM_isMember : yX6_isMember.cls = RX6 ∧ yX6_isMember.cls ≠ "java/lang/invoke/MethodHandle" ∧ yX6_isMember.cls ≠ "java/lang/invoke/VarHandle" ∧ (parseMethodDescriptor yX6_isMember.desc).map (fun d => d.parameters.length) = some 1 := by decide +kernel
set_option maxHeartbeats 4000000 in
theorem metM_isMember (l : Launch) (σ : MM) (v1 : Int32) (res : Int32 × MM) (h : M_isMember σ v1 = some res) : MetM l yX6_isMember cX6_isMember 2 (some .boolean) 7 (fun K => [.ref (kO K), .int v1]) σ (some (.int res.1)) res.2 := by
  refine met_walk rfl (by simp [mRt]) (fun _ => Nat.le_of_ble_eq_true rfl) (fun K p e s m args below meth c Q C hE ls hl hJ => ?_)
  have hx := C.1.1
  have hb := C.1.2.1
  have hown := C.1.2.2.2.1
  have hts := C.1.2.2.2.2
  have hl : lv_has ls 2 [(0, .ref (kO K)), (1, .int v1)] := hl
  unfold M_isMember at h
  refine lv_aload_n hx hb dX6_isMember_0 rfl (lv_at hl 0 rfl) ?_
  obtain ⟨c1, hc1, h⟩ := ob h
  refine mc_V (As := []) (rest := []) C hJ (metM_reads l σ c1 hc1) (cwV 0 hts (lw_V q1415 q1417 qs58 q118 q1418) rfl rfl rfl hdM_reads ⟨Nat.le_of_ble_eq_true rfl, Nat.le_of_ble_eq_true rfl⟩) rfl hl.1 rfl (lv_room (Nat.le_of_ble_eq_true rfl)) dX6_isMember_1 (fun H locs hJ => ?_)
  refine lv_iload_n hx hb dX6_isMember_4 rfl (lv_at hl 1 rfl) ?_
  refine lv_iconst hx hb dX6_isMember_5 kc_0 ?_
  refine lv_aload_n hx hb dX6_isMember_6 rfl (lv_at hl 0 rfl) ?_
  refine mx_gi C hJ 4 (Nat.le_of_ble_eq_true rfl) rfl lk4 dX6_isMember_7 ?_
  refine lv_iconst hx hb dX6_isMember_10 kc_1 ?_
  refine lv_isub hx hb dX6_isMember_11 ?_
  obtain ⟨c2, hc2, h⟩ := ob h
  refine mc_S (As := [.int v1, .int (0 : Int32), .int ((c1 4 0) - (1 : Int32))]) (rest := []) C hJ (metM_in l c1 v1 (0 : Int32) ((c1 4 0) - (1 : Int32)) c2 hc2) (va_cwS 3 hts (lw_S q1365 q1366 q118 q1367) rfl rfl rfl hdM_in ⟨Nat.le_of_ble_eq_true rfl, Nat.le_of_ble_eq_true rfl⟩) rfl hl.1 rfl (lv_room (Nat.le_of_ble_eq_true rfl)) dX6_isMember_12 (fun H locs hJ => ?_)
  have h := Option.some.inj h
  subst h
  exact hE _ _ _ _ (some (.int c2)) hJ ⟨_, rfl⟩ rfl dX6_isMember_15
def M_stoneOf (σ : MM) (v1 : Int32) : Option (Int32 × MM) :=
  (M_reads σ).bind fun c1 =>
  (mld c1 3 v1).bind fun x2 =>
  some (x2, c1)
theorem hdM_stoneOf : yX6_stoneOf.cls = RX6 ∧ yX6_stoneOf.cls ≠ "java/lang/invoke/MethodHandle" ∧ yX6_stoneOf.cls ≠ "java/lang/invoke/VarHandle" ∧ (parseMethodDescriptor yX6_stoneOf.desc).map (fun d => d.parameters.length) = some 1 := by decide +kernel
set_option maxHeartbeats 4000000 in
theorem metM_stoneOf (l : Launch) (σ : MM) (v1 : Int32) (res : Int32 × MM) (h : M_stoneOf σ v1 = some res) : MetM l yX6_stoneOf cX6_stoneOf 2 (some .int) 7 (fun K => [.ref (kO K), .int v1]) σ (some (.int res.1)) res.2 := by
  refine met_walk rfl (by simp [mRt]) (fun _ => Nat.le_of_ble_eq_true rfl) (fun K p e s m args below meth c Q C hE ls hl hJ => ?_)
  have hx := C.1.1
  have hb := C.1.2.1
  have hown := C.1.2.2.2.1
  have hts := C.1.2.2.2.2
  have hl : lv_has ls 2 [(0, .ref (kO K)), (1, .int v1)] := hl
  unfold M_stoneOf at h
  refine lv_aload_n hx hb dX6_stoneOf_0 rfl (lv_at hl 0 rfl) ?_
  obtain ⟨c1, hc1, h⟩ := ob h
  refine mc_V (As := []) (rest := []) C hJ (metM_reads l σ c1 hc1) (cwV 0 hts (lw_V q1415 q1417 qs58 q118 q1418) rfl rfl rfl hdM_reads ⟨Nat.le_of_ble_eq_true rfl, Nat.le_of_ble_eq_true rfl⟩) rfl hl.1 rfl (lv_room (Nat.le_of_ble_eq_true rfl)) dX6_stoneOf_1 (fun H locs hJ => ?_)
  refine lv_aload_n hx hb dX6_stoneOf_4 rfl (lv_at hl 0 rfl) ?_
  refine mx_ga C hJ 3 (Nat.le_of_ble_eq_true rfl) rfl lk3 dX6_stoneOf_5 ?_
  refine lv_iload_n hx hb dX6_stoneOf_8 rfl (lv_at hl 1 rfl) ?_
  obtain ⟨x2, hx2, h⟩ := ob h
  refine my_il C hJ 3 rfl hx2 dX6_stoneOf_9 ?_
  have h := Option.some.inj h
  subst h
  exact hE _ _ _ _ (some (.int (x2))) hJ ⟨_, rfl⟩ rfl dX6_stoneOf_10
def M_asTold (σ : MM) : Option (MM) :=
  (M_reads σ).bind fun c1 =>
  (mpf c1 12 (c1 8 0)).bind fun σ2 =>
  (lp (S := Int32 × MM) (T := MM) (fun w3 =>
    if (w3.2 8 0) ≤ w3.1 then
        some (.inr w3.2)
      else
        (mld w3.2 9 w3.1).bind fun x6 =>
        (mst w3.2 13 w3.1 x6).bind fun σ7 =>
        (mld σ7 10 w3.1).bind fun x8 =>
        (mst σ7 14 w3.1 x8).bind fun σ9 =>
        (mld σ9 11 w3.1).bind fun x10 =>
        (mst σ9 15 w3.1 x10).bind fun σ11 =>
        some (.inl ((w3.1 + 1), σ11))) 2000 ((0 : Int32), σ2)).bind fun q4 =>
  (mpf q4 16 (0 : Int32)).bind fun σ12 =>
  some σ12
theorem hdM_asTold : yX6_asTold.cls = RX6 ∧ yX6_asTold.cls ≠ "java/lang/invoke/MethodHandle" ∧ yX6_asTold.cls ≠ "java/lang/invoke/VarHandle" ∧ (parseMethodDescriptor yX6_asTold.desc).map (fun d => d.parameters.length) = some 0 := by decide +kernel
set_option maxHeartbeats 4000000 in
theorem metM_asTold (l : Launch) (σ : MM) (res : MM) (h : M_asTold σ = some res) : MetM l yX6_asTold cX6_asTold 2 none 7 (fun K => [.ref (kO K)]) σ none res := by
  refine met_walk rfl (by simp [mRt]) (fun _ => Nat.le_of_ble_eq_true rfl) (fun K p e s m args below meth c Q C hE ls hl hJ => ?_)
  have hx := C.1.1
  have hb := C.1.2.1
  have hown := C.1.2.2.2.1
  have hts := C.1.2.2.2.2
  have hl : lv_has ls 2 [(0, .ref (kO K))] := hl
  unfold M_asTold at h
  refine lv_aload_n hx hb dX6_asTold_0 rfl (lv_at hl 0 rfl) ?_
  obtain ⟨c1, hc1, h⟩ := ob h
  refine mc_V (As := []) (rest := []) C hJ (metM_reads l σ c1 hc1) (cwV 0 hts (lw_V q1415 q1417 qs58 q118 q1418) rfl rfl rfl hdM_reads ⟨Nat.le_of_ble_eq_true rfl, Nat.le_of_ble_eq_true rfl⟩) rfl hl.1 rfl (lv_room (Nat.le_of_ble_eq_true rfl)) dX6_asTold_1 (fun H locs hJ => ?_)
  refine lv_aload_n hx hb dX6_asTold_4 rfl (lv_at hl 0 rfl) ?_
  refine lv_aload_n hx hb dX6_asTold_5 rfl (lv_at hl 0 rfl) ?_
  refine mx_gi C hJ 8 (Nat.le_of_ble_eq_true rfl) rfl lk8 dX6_asTold_6 ?_
  obtain ⟨σ2, hσ2, h⟩ := ob h
  refine my_pi C hJ 12 (Nat.le_of_ble_eq_true rfl) rfl rfl rfl lk12 hσ2 dX6_asTold_9 (fun H locs hJ => ?_)
  refine lv_iconst hx hb dX6_asTold_12 kc_0 ?_
  refine lv_istore_n (lv' := [(1, .int (0 : Int32)), (0, .ref (kO K))]) hx hb dX6_asTold_13 rfl hl (Nat.le_of_ble_eq_true rfl) rfl (fun ls hl => ?_)
  obtain ⟨q4, hq4, h⟩ := ob h
  have hxq4 : ∀ (H : Heap) (locs : List Loc) (ls : Array Slot), MJ K q4 s.heap H locs → lv_has ls 2 [(0, .ref (kO K))] → W p l e (rmd 7) s m args below meth c H locs 0 0 Q (F0 m 64 ls []) := by
    intro H locs ls hJ hl
    refine lv_aload_n hx hb dX6_asTold_64 rfl (lv_at hl 0 rfl) ?_
    refine lv_iconst hx hb dX6_asTold_65 kc_0 ?_
    obtain ⟨σ12, hσ12, h⟩ := ob h
    refine my_pi C hJ 16 (Nat.le_of_ble_eq_true rfl) rfl rfl rfl lk16 hσ12 dX6_asTold_66 (fun H locs hJ => ?_)
    have h := Option.some.inj h
    subst h
    exact hE _ _ _ _ none hJ rfl rfl dX6_asTold_69
  refine lp_ind (P := fun (w3 : Int32 × MM) => ∀ (H : Heap) (locs : List Loc) (ls : Array Slot), MJ K w3.2 s.heap H locs → lv_has ls 2 [(0, .ref (kO K)), (1, .int w3.1)] → W p l e (rmd 7) s m args below meth c H locs 0 0 Q (F0 m 14 ls [])) ?_ _ _ hq4 _ _ _ hJ (lv_sub hl [1, 0] rfl)
  intro nw3 w3 ihw3 zw3 hzw3 hqw3 H locs ls hJ hl
  refine lv_iload_n hx hb dX6_asTold_14 rfl (lv_at hl 1 rfl) ?_
  refine lv_aload_n hx hb dX6_asTold_15 rfl (lv_at hl 0 rfl) ?_
  refine mx_gi C hJ 8 (Nat.le_of_ble_eq_true rfl) rfl lk8 dX6_asTold_16 ?_
  refine lv_icmp_ge (tgt := 64) hx hb dX6_asTold_19 (by decide) (fun hc5 => ?_) (fun hc5 => ?_)
  · have hzw3 := ip hzw3 hc5
    have hzw3 := Option.some.inj hzw3
    subst hzw3
    have hqw3 : _ = q4 := hqw3
    subst hqw3
    exact hxq4 _ _ _ hJ (lv_sub hl [0] rfl)
  · have hzw3 := im hzw3 hc5
    refine lv_aload_n hx hb dX6_asTold_22 rfl (lv_at hl 0 rfl) ?_
    refine mx_ga C hJ 13 (Nat.le_of_ble_eq_true rfl) rfl lk13 dX6_asTold_23 ?_
    refine lv_iload_n hx hb dX6_asTold_26 rfl (lv_at hl 1 rfl) ?_
    refine lv_aload_n hx hb dX6_asTold_27 rfl (lv_at hl 0 rfl) ?_
    refine mx_ga C hJ 9 (Nat.le_of_ble_eq_true rfl) rfl lk9 dX6_asTold_28 ?_
    refine lv_iload_n hx hb dX6_asTold_31 rfl (lv_at hl 1 rfl) ?_
    obtain ⟨x6, hx6, hzw3⟩ := ob hzw3
    refine my_il C hJ 9 rfl hx6 dX6_asTold_32 ?_
    obtain ⟨σ7, hσ7, hzw3⟩ := ob hzw3
    refine my_is C hJ 13 rfl hσ7 dX6_asTold_33 (fun H locs hJ => ?_)
    refine lv_aload_n hx hb dX6_asTold_34 rfl (lv_at hl 0 rfl) ?_
    refine mx_ga C hJ 14 (Nat.le_of_ble_eq_true rfl) rfl lk14 dX6_asTold_35 ?_
    refine lv_iload_n hx hb dX6_asTold_38 rfl (lv_at hl 1 rfl) ?_
    refine lv_aload_n hx hb dX6_asTold_39 rfl (lv_at hl 0 rfl) ?_
    refine mx_ga C hJ 10 (Nat.le_of_ble_eq_true rfl) rfl lk10 dX6_asTold_40 ?_
    refine lv_iload_n hx hb dX6_asTold_43 rfl (lv_at hl 1 rfl) ?_
    obtain ⟨x8, hx8, hzw3⟩ := ob hzw3
    refine my_il C hJ 10 rfl hx8 dX6_asTold_44 ?_
    obtain ⟨σ9, hσ9, hzw3⟩ := ob hzw3
    refine my_is C hJ 14 rfl hσ9 dX6_asTold_45 (fun H locs hJ => ?_)
    refine lv_aload_n hx hb dX6_asTold_46 rfl (lv_at hl 0 rfl) ?_
    refine mx_ga C hJ 15 (Nat.le_of_ble_eq_true rfl) rfl lk15 dX6_asTold_47 ?_
    refine lv_iload_n hx hb dX6_asTold_50 rfl (lv_at hl 1 rfl) ?_
    refine lv_aload_n hx hb dX6_asTold_51 rfl (lv_at hl 0 rfl) ?_
    refine mx_ga C hJ 11 (Nat.le_of_ble_eq_true rfl) rfl lk11 dX6_asTold_52 ?_
    refine lv_iload_n hx hb dX6_asTold_55 rfl (lv_at hl 1 rfl) ?_
    obtain ⟨x10, hx10, hzw3⟩ := ob hzw3
    refine my_il C hJ 11 rfl hx10 dX6_asTold_56 ?_
    obtain ⟨σ11, hσ11, hzw3⟩ := ob hzw3
    refine my_is C hJ 15 rfl hσ11 dX6_asTold_57 (fun H locs hJ => ?_)
    refine lv_iinc (v := (w3.1 + 1)) (lv' := [(1, .int (w3.1 + 1)), (0, .ref (kO K))]) hx hb dX6_asTold_58 hl (k := 1) rfl rfl (Nat.le_of_ble_eq_true rfl) rfl (fun ls hl => ?_)
    refine lv_goto (tgt := 14) hx hb dX6_asTold_61 (by decide) ?_
    have hzw3 := Option.some.inj hzw3
    subst hzw3
    exact ihw3 _ hqw3 _ _ _ hJ (lv_sub hl [1, 0] rfl)
def M_runs (σ : MM) : Option (MM) :=
  (lp (S := Int32 × MM) (T := MM) (fun w1 =>
    if (12 : Int32) ≤ w1.1 then
        some (.inr w1.2)
      else
        (mld w1.2 3 w1.1).bind fun x4 =>
        (mst w1.2 17 w1.1 x4).bind fun σ5 =>
        some (.inl ((w1.1 + 1), σ5))) 2000 ((0 : Int32), σ)).bind fun q2 =>
  (lp (S := Int32 × MM) (T := MM) (fun w6 =>
    if (w6.2 4 0) ≤ w6.1 then
        some (.inr w6.2)
      else
        (mld w6.2 6 w6.1).bind fun x9 =>
        (mst w6.2 18 w6.1 x9).bind fun σ10 =>
        (mld σ10 7 w6.1).bind fun x11 =>
        (mst σ10 19 w6.1 x11).bind fun σ12 =>
        (mst σ12 20 w6.1 (0 : Int32)).bind fun σ13 =>
        (mst σ13 21 w6.1 (0 : Int32)).bind fun σ14 =>
        some (.inl ((w6.1 + 1), σ14))) 2000 ((0 : Int32), q2)).bind fun q7 =>
  (mpf q7 22 (0 : Int32)).bind fun σ15 =>
  (lp (S := Int32 × MM) (T := MM) (fun w16 =>
    if (20 : Int32) ≤ w16.1 then
        some (.inr w16.2)
      else
        (M_goesBy w16.2 w16.1).bind fun c19 =>
        some (.inl ((w16.1 + 1), c19))) 2000 ((0 : Int32), σ15)).bind fun q17 =>
  some q17
theorem hdM_runs : yX6_runs.cls = RX6 ∧ yX6_runs.cls ≠ "java/lang/invoke/MethodHandle" ∧ yX6_runs.cls ≠ "java/lang/invoke/VarHandle" ∧ (parseMethodDescriptor yX6_runs.desc).map (fun d => d.parameters.length) = some 0 := by decide +kernel
set_option maxHeartbeats 4000000 in
theorem metM_runs (l : Launch) (σ : MM) (res : MM) (h : M_runs σ = some res) : MetM l yX6_runs cX6_runs 2 none 7 (fun K => [.ref (kO K)]) σ none res := by
  refine met_walk rfl (by simp [mRt]) (fun _ => Nat.le_of_ble_eq_true rfl) (fun K p e s m args below meth c Q C hE ls hl hJ => ?_)
  have hx := C.1.1
  have hb := C.1.2.1
  have hown := C.1.2.2.2.1
  have hts := C.1.2.2.2.2
  have hl : lv_has ls 2 [(0, .ref (kO K))] := hl
  unfold M_runs at h
  refine lv_iconst hx hb dX6_runs_0 kc_0 ?_
  refine lv_istore_n (lv' := [(1, .int (0 : Int32)), (0, .ref (kO K))]) hx hb dX6_runs_1 rfl hl (Nat.le_of_ble_eq_true rfl) rfl (fun ls hl => ?_)
  obtain ⟨q2, hq2, h⟩ := ob h
  have hxq2 : ∀ (H : Heap) (locs : List Loc) (ls : Array Slot), MJ K q2 s.heap H locs → lv_has ls 2 [(0, .ref (kO K))] → W p l e (rmd 7) s m args below meth c H locs 0 0 Q (F0 m 26 ls []) := by
    intro H locs ls hJ hl
    refine lv_iconst hx hb dX6_runs_26 kc_0 ?_
    refine lv_istore_n (lv' := [(1, .int (0 : Int32)), (0, .ref (kO K))]) hx hb dX6_runs_27 rfl hl (Nat.le_of_ble_eq_true rfl) rfl (fun ls hl => ?_)
    obtain ⟨q7, hq7, h⟩ := ob h
    have hxq7 : ∀ (H : Heap) (locs : List Loc) (ls : Array Slot), MJ K q7 s.heap H locs → lv_has ls 2 [(0, .ref (kO K))] → W p l e (rmd 7) s m args below meth c H locs 0 0 Q (F0 m 80 ls []) := by
      intro H locs ls hJ hl
      refine lv_aload_n hx hb dX6_runs_80 rfl (lv_at hl 0 rfl) ?_
      refine lv_iconst hx hb dX6_runs_81 kc_0 ?_
      obtain ⟨σ15, hσ15, h⟩ := ob h
      refine my_pi C hJ 22 (Nat.le_of_ble_eq_true rfl) rfl rfl rfl lk22 hσ15 dX6_runs_82 (fun H locs hJ => ?_)
      refine lv_iconst hx hb dX6_runs_85 kc_0 ?_
      refine lv_istore_n (lv' := [(1, .int (0 : Int32)), (0, .ref (kO K))]) hx hb dX6_runs_86 rfl hl (Nat.le_of_ble_eq_true rfl) rfl (fun ls hl => ?_)
      obtain ⟨q17, hq17, h⟩ := ob h
      have hxq17 : ∀ (H : Heap) (locs : List Loc) (ls : Array Slot), MJ K q17 s.heap H locs → lv_has ls 2 [] → W p l e (rmd 7) s m args below meth c H locs 0 0 Q (F0 m 104 ls []) := by
        intro H locs ls hJ hl
        have h := Option.some.inj h
        subst h
        exact hE _ _ _ _ none hJ rfl rfl dX6_runs_104
      refine lp_ind (P := fun (w16 : Int32 × MM) => ∀ (H : Heap) (locs : List Loc) (ls : Array Slot), MJ K w16.2 s.heap H locs → lv_has ls 2 [(0, .ref (kO K)), (1, .int w16.1)] → W p l e (rmd 7) s m args below meth c H locs 0 0 Q (F0 m 87 ls [])) ?_ _ _ hq17 _ _ _ hJ (lv_sub hl [1, 0] rfl)
      intro nw16 w16 ihw16 zw16 hzw16 hqw16 H locs ls hJ hl
      refine lv_iload_n hx hb dX6_runs_87 rfl (lv_at hl 1 rfl) ?_
      refine lv_bipush hx hb dX6_runs_88 kb_20 ?_
      refine lv_icmp_ge (tgt := 104) hx hb dX6_runs_90 (by decide) (fun hc18 => ?_) (fun hc18 => ?_)
      · have hzw16 := ip hzw16 hc18
        have hzw16 := Option.some.inj hzw16
        subst hzw16
        have hqw16 : _ = q17 := hqw16
        subst hqw16
        exact hxq17 _ _ _ hJ (lv_sub hl [] rfl)
      · have hzw16 := im hzw16 hc18
        refine lv_aload_n hx hb dX6_runs_93 rfl (lv_at hl 0 rfl) ?_
        refine lv_iload_n hx hb dX6_runs_94 rfl (lv_at hl 1 rfl) ?_
        obtain ⟨c19, hc19, hzw16⟩ := ob hzw16
        refine mc_V (As := [.int w16.1]) (rest := []) C hJ (metM_goesBy l w16.2 w16.1 c19 hc19) (cwV 1 hts (lw_V q1474 q1476 qs66 q118 q1477) rfl rfl rfl hdM_goesBy ⟨Nat.le_of_ble_eq_true rfl, Nat.le_of_ble_eq_true rfl⟩) rfl hl.1 rfl (lv_room (Nat.le_of_ble_eq_true rfl)) dX6_runs_95 (fun H locs hJ => ?_)
        refine lv_iinc (v := (w16.1 + 1)) (lv' := [(1, .int (w16.1 + 1)), (0, .ref (kO K))]) hx hb dX6_runs_98 hl (k := 1) rfl rfl (Nat.le_of_ble_eq_true rfl) rfl (fun ls hl => ?_)
        refine lv_goto (tgt := 87) hx hb dX6_runs_101 (by decide) ?_
        have hzw16 := Option.some.inj hzw16
        subst hzw16
        exact ihw16 _ hqw16 _ _ _ hJ (lv_sub hl [1, 0] rfl)
    refine lp_ind (P := fun (w6 : Int32 × MM) => ∀ (H : Heap) (locs : List Loc) (ls : Array Slot), MJ K w6.2 s.heap H locs → lv_has ls 2 [(0, .ref (kO K)), (1, .int w6.1)] → W p l e (rmd 7) s m args below meth c H locs 0 0 Q (F0 m 28 ls [])) ?_ _ _ hq7 _ _ _ hJ (lv_sub hl [1, 0] rfl)
    intro nw6 w6 ihw6 zw6 hzw6 hqw6 H locs ls hJ hl
    refine lv_iload_n hx hb dX6_runs_28 rfl (lv_at hl 1 rfl) ?_
    refine lv_aload_n hx hb dX6_runs_29 rfl (lv_at hl 0 rfl) ?_
    refine mx_gi C hJ 4 (Nat.le_of_ble_eq_true rfl) rfl lk4 dX6_runs_30 ?_
    refine lv_icmp_ge (tgt := 80) hx hb dX6_runs_33 (by decide) (fun hc8 => ?_) (fun hc8 => ?_)
    · have hzw6 := ip hzw6 hc8
      have hzw6 := Option.some.inj hzw6
      subst hzw6
      have hqw6 : _ = q7 := hqw6
      subst hqw6
      exact hxq7 _ _ _ hJ (lv_sub hl [0] rfl)
    · have hzw6 := im hzw6 hc8
      refine lv_aload_n hx hb dX6_runs_36 rfl (lv_at hl 0 rfl) ?_
      refine mx_ga C hJ 18 (Nat.le_of_ble_eq_true rfl) rfl lk18 dX6_runs_37 ?_
      refine lv_iload_n hx hb dX6_runs_40 rfl (lv_at hl 1 rfl) ?_
      refine lv_aload_n hx hb dX6_runs_41 rfl (lv_at hl 0 rfl) ?_
      refine mx_ga C hJ 6 (Nat.le_of_ble_eq_true rfl) rfl lk6 dX6_runs_42 ?_
      refine lv_iload_n hx hb dX6_runs_45 rfl (lv_at hl 1 rfl) ?_
      obtain ⟨x9, hx9, hzw6⟩ := ob hzw6
      refine my_il C hJ 6 rfl hx9 dX6_runs_46 ?_
      obtain ⟨σ10, hσ10, hzw6⟩ := ob hzw6
      refine my_is C hJ 18 rfl hσ10 dX6_runs_47 (fun H locs hJ => ?_)
      refine lv_aload_n hx hb dX6_runs_48 rfl (lv_at hl 0 rfl) ?_
      refine mx_ga C hJ 19 (Nat.le_of_ble_eq_true rfl) rfl lk19 dX6_runs_49 ?_
      refine lv_iload_n hx hb dX6_runs_52 rfl (lv_at hl 1 rfl) ?_
      refine lv_aload_n hx hb dX6_runs_53 rfl (lv_at hl 0 rfl) ?_
      refine mx_ga C hJ 7 (Nat.le_of_ble_eq_true rfl) rfl lk7 dX6_runs_54 ?_
      refine lv_iload_n hx hb dX6_runs_57 rfl (lv_at hl 1 rfl) ?_
      obtain ⟨x11, hx11, hzw6⟩ := ob hzw6
      refine my_il C hJ 7 rfl hx11 dX6_runs_58 ?_
      obtain ⟨σ12, hσ12, hzw6⟩ := ob hzw6
      refine my_is C hJ 19 rfl hσ12 dX6_runs_59 (fun H locs hJ => ?_)
      refine lv_aload_n hx hb dX6_runs_60 rfl (lv_at hl 0 rfl) ?_
      refine mx_ga C hJ 20 (Nat.le_of_ble_eq_true rfl) rfl lk20 dX6_runs_61 ?_
      refine lv_iload_n hx hb dX6_runs_64 rfl (lv_at hl 1 rfl) ?_
      refine lv_iconst hx hb dX6_runs_65 kc_0 ?_
      obtain ⟨σ13, hσ13, hzw6⟩ := ob hzw6
      refine my_is C hJ 20 rfl hσ13 dX6_runs_66 (fun H locs hJ => ?_)
      refine lv_aload_n hx hb dX6_runs_67 rfl (lv_at hl 0 rfl) ?_
      refine mx_ga C hJ 21 (Nat.le_of_ble_eq_true rfl) rfl lk21 dX6_runs_68 ?_
      refine lv_iload_n hx hb dX6_runs_71 rfl (lv_at hl 1 rfl) ?_
      refine lv_iconst hx hb dX6_runs_72 kc_0 ?_
      obtain ⟨σ14, hσ14, hzw6⟩ := ob hzw6
      refine my_is C hJ 21 rfl hσ14 dX6_runs_73 (fun H locs hJ => ?_)
      refine lv_iinc (v := (w6.1 + 1)) (lv' := [(1, .int (w6.1 + 1)), (0, .ref (kO K))]) hx hb dX6_runs_74 hl (k := 1) rfl rfl (Nat.le_of_ble_eq_true rfl) rfl (fun ls hl => ?_)
      refine lv_goto (tgt := 28) hx hb dX6_runs_77 (by decide) ?_
      have hzw6 := Option.some.inj hzw6
      subst hzw6
      exact ihw6 _ hqw6 _ _ _ hJ (lv_sub hl [1, 0] rfl)
  refine lp_ind (P := fun (w1 : Int32 × MM) => ∀ (H : Heap) (locs : List Loc) (ls : Array Slot), MJ K w1.2 s.heap H locs → lv_has ls 2 [(0, .ref (kO K)), (1, .int w1.1)] → W p l e (rmd 7) s m args below meth c H locs 0 0 Q (F0 m 2 ls [])) ?_ _ _ hq2 _ _ _ hJ (lv_sub hl [1, 0] rfl)
  intro nw1 w1 ihw1 zw1 hzw1 hqw1 H locs ls hJ hl
  refine lv_iload_n hx hb dX6_runs_2 rfl (lv_at hl 1 rfl) ?_
  refine lv_bipush hx hb dX6_runs_3 kb_12 ?_
  refine lv_icmp_ge (tgt := 26) hx hb dX6_runs_5 (by decide) (fun hc3 => ?_) (fun hc3 => ?_)
  · have hzw1 := ip hzw1 hc3
    have hzw1 := Option.some.inj hzw1
    subst hzw1
    have hqw1 : _ = q2 := hqw1
    subst hqw1
    exact hxq2 _ _ _ hJ (lv_sub hl [0] rfl)
  · have hzw1 := im hzw1 hc3
    refine lv_aload_n hx hb dX6_runs_8 rfl (lv_at hl 0 rfl) ?_
    refine mx_ga C hJ 17 (Nat.le_of_ble_eq_true rfl) rfl lk17 dX6_runs_9 ?_
    refine lv_iload_n hx hb dX6_runs_12 rfl (lv_at hl 1 rfl) ?_
    refine lv_aload_n hx hb dX6_runs_13 rfl (lv_at hl 0 rfl) ?_
    refine mx_ga C hJ 3 (Nat.le_of_ble_eq_true rfl) rfl lk3 dX6_runs_14 ?_
    refine lv_iload_n hx hb dX6_runs_17 rfl (lv_at hl 1 rfl) ?_
    obtain ⟨x4, hx4, hzw1⟩ := ob hzw1
    refine my_il C hJ 3 rfl hx4 dX6_runs_18 ?_
    obtain ⟨σ5, hσ5, hzw1⟩ := ob hzw1
    refine my_is C hJ 17 rfl hσ5 dX6_runs_19 (fun H locs hJ => ?_)
    refine lv_iinc (v := (w1.1 + 1)) (lv' := [(1, .int (w1.1 + 1)), (0, .ref (kO K))]) hx hb dX6_runs_20 hl (k := 1) rfl rfl (Nat.le_of_ble_eq_true rfl) rfl (fun ls hl => ?_)
    refine lv_goto (tgt := 2) hx hb dX6_runs_23 (by decide) ?_
    have hzw1 := Option.some.inj hzw1
    subst hzw1
    exact ihw1 _ hqw1 _ _ _ hJ (lv_sub hl [1, 0] rfl)
def M_stone (σ : MM) (v1 : Int32) : Option (Int32 × MM) :=
  (M_isPlace σ v1).bind fun c1 =>
  if c1 = 0 then
    some ((-2 : Int32), σ)
  else
    (M_stoneOf σ v1).bind fun c3 =>
    some (c3.1, c3.2)
theorem hdM_stone : yX6_stone.cls = RX6 ∧ yX6_stone.cls ≠ "java/lang/invoke/MethodHandle" ∧ yX6_stone.cls ≠ "java/lang/invoke/VarHandle" ∧ (parseMethodDescriptor yX6_stone.desc).map (fun d => d.parameters.length) = some 1 := by decide +kernel
set_option maxHeartbeats 4000000 in
theorem metM_stone (l : Launch) (σ : MM) (v1 : Int32) (res : Int32 × MM) (h : M_stone σ v1 = some res) : MetM l yX6_stone cX6_stone 2 (some .int) 8 (fun K => [.ref (kO K), .int v1]) σ (some (.int res.1)) res.2 := by
  refine met_walk rfl (by simp [mRt]) (fun _ => Nat.le_of_ble_eq_true rfl) (fun K p e s m args below meth c Q C hE ls hl hJ => ?_)
  have hx := C.1.1
  have hb := C.1.2.1
  have hown := C.1.2.2.2.1
  have hts := C.1.2.2.2.2
  have hl : lv_has ls 2 [(0, .ref (kO K)), (1, .int v1)] := hl
  unfold M_stone at h
  refine lv_iload_n hx hb dX6_stone_0 rfl (lv_at hl 1 rfl) ?_
  obtain ⟨c1, hc1, h⟩ := ob h
  refine mc_S (As := [.int v1]) (rest := []) C hJ (metM_isPlace l σ v1 c1 hc1) (va_cwS 1 hts (lw_S q1408 q1409 q118 q1410) rfl rfl rfl hdM_isPlace ⟨Nat.le_of_ble_eq_true rfl, Nat.le_of_ble_eq_true rfl⟩) rfl hl.1 rfl (lv_room (Nat.le_of_ble_eq_true rfl)) dX6_stone_1 (fun H locs hJ => ?_)
  refine lv_if_eq (tgt := 15) hx hb dX6_stone_4 (by decide) (fun hc2 => ?_) (fun hc2 => ?_)
  · have h := ip h hc2
    refine lv_bipush hx hb dX6_stone_15 kb_m2 ?_
    have h := Option.some.inj h
    subst h
    exact hE _ _ _ _ (some (.int ((-2 : Int32)))) hJ ⟨_, rfl⟩ rfl dX6_stone_17
  · have h := im h hc2
    refine lv_aload_n hx hb dX6_stone_7 rfl (lv_at hl 0 rfl) ?_
    refine lv_iload_n hx hb dX6_stone_8 rfl (lv_at hl 1 rfl) ?_
    obtain ⟨c3, hc3, h⟩ := ob h
    refine mc_V (As := [.int v1]) (rest := []) C hJ (metM_stoneOf l σ v1 c3 hc3) (cwV 1 hts (lw_V q1411 q1413 qs57 q118 q1414) rfl rfl rfl hdM_stoneOf ⟨Nat.le_of_ble_eq_true rfl, Nat.le_of_ble_eq_true rfl⟩) rfl hl.1 rfl (lv_room (Nat.le_of_ble_eq_true rfl)) dX6_stone_9 (fun H locs hJ => ?_)
    refine lv_goto (tgt := 17) hx hb dX6_stone_12 (by decide) ?_
    have h := Option.some.inj h
    subst h
    exact hE _ _ _ _ (some (.int (c3.1))) hJ ⟨_, rfl⟩ rfl dX6_stone_17
def M_member (σ : MM) (v1 : Int32) (v2 : Int32) : Option (Int32 × MM) :=
  (M_isMember σ v1).bind fun c1 =>
  if c1.1 = 0 then
    some ((-2 : Int32), c1.2)
  else
    (M_in c1.2 v2 (0 : Int32) (2 : Int32)).bind fun c3 =>
    if c3 = 0 then
      some ((-2 : Int32), c1.2)
    else
      (M_memberOf c1.2 v1 v2).bind fun c5 =>
      some (c5, c1.2)
theorem hdM_member : yX6_member.cls = RX6 ∧ yX6_member.cls ≠ "java/lang/invoke/MethodHandle" ∧ yX6_member.cls ≠ "java/lang/invoke/VarHandle" ∧ (parseMethodDescriptor yX6_member.desc).map (fun d => d.parameters.length) = some 2 := by decide +kernel
set_option maxHeartbeats 4000000 in
theorem metM_member (l : Launch) (σ : MM) (v1 : Int32) (v2 : Int32) (res : Int32 × MM) (h : M_member σ v1 v2 = some res) : MetM l yX6_member cX6_member 3 (some .int) 8 (fun K => [.ref (kO K), .int v1, .int v2]) σ (some (.int res.1)) res.2 := by
  refine met_walk rfl (by simp [mRt]) (fun _ => Nat.le_of_ble_eq_true rfl) (fun K p e s m args below meth c Q C hE ls hl hJ => ?_)
  have hx := C.1.1
  have hb := C.1.2.1
  have hown := C.1.2.2.2.1
  have hts := C.1.2.2.2.2
  have hl : lv_has ls 3 [(0, .ref (kO K)), (1, .int v1), (2, .int v2)] := hl
  unfold M_member at h
  refine lv_aload_n hx hb dX6_member_0 rfl (lv_at hl 0 rfl) ?_
  refine lv_iload_n hx hb dX6_member_1 rfl (lv_at hl 1 rfl) ?_
  obtain ⟨c1, hc1, h⟩ := ob h
  refine mc_V (As := [.int v1]) (rest := []) C hJ (metM_isMember l σ v1 c1 hc1) (cwV 1 hts (lw_V q1423 q1425 qs59 q118 q1426) rfl rfl rfl hdM_isMember ⟨Nat.le_of_ble_eq_true rfl, Nat.le_of_ble_eq_true rfl⟩) rfl hl.1 rfl (lv_room (Nat.le_of_ble_eq_true rfl)) dX6_member_2 (fun H locs hJ => ?_)
  refine lv_if_eq (tgt := 26) hx hb dX6_member_5 (by decide) (fun hc2 => ?_) (fun hc2 => ?_)
  · have h := ip h hc2
    refine lv_bipush hx hb dX6_member_26 kb_m2 ?_
    have h := Option.some.inj h
    subst h
    exact hE _ _ _ _ (some (.int ((-2 : Int32)))) hJ ⟨_, rfl⟩ rfl dX6_member_28
  · have h := im h hc2
    refine lv_iload_n hx hb dX6_member_8 rfl (lv_at hl 2 rfl) ?_
    refine lv_iconst hx hb dX6_member_9 kc_0 ?_
    refine lv_iconst hx hb dX6_member_10 kc_2 ?_
    obtain ⟨c3, hc3, h⟩ := ob h
    refine mc_S (As := [.int v2, .int (0 : Int32), .int (2 : Int32)]) (rest := []) C hJ (metM_in l c1.2 v2 (0 : Int32) (2 : Int32) c3 hc3) (va_cwS 3 hts (lw_S q1365 q1366 q118 q1367) rfl rfl rfl hdM_in ⟨Nat.le_of_ble_eq_true rfl, Nat.le_of_ble_eq_true rfl⟩) rfl hl.1 rfl (lv_room (Nat.le_of_ble_eq_true rfl)) dX6_member_11 (fun H locs hJ => ?_)
    refine lv_if_eq (tgt := 26) hx hb dX6_member_14 (by decide) (fun hc4 => ?_) (fun hc4 => ?_)
    · have h := ip h hc4
      refine lv_bipush hx hb dX6_member_26 kb_m2 ?_
      have h := Option.some.inj h
      subst h
      exact hE _ _ _ _ (some (.int ((-2 : Int32)))) hJ ⟨_, rfl⟩ rfl dX6_member_28
    · have h := im h hc4
      refine lv_aload_n hx hb dX6_member_17 rfl (lv_at hl 0 rfl) ?_
      refine lv_iload_n hx hb dX6_member_18 rfl (lv_at hl 1 rfl) ?_
      refine lv_iload_n hx hb dX6_member_19 rfl (lv_at hl 2 rfl) ?_
      obtain ⟨c5, hc5, h⟩ := ob h
      refine mc_V (As := [.int v1, .int v2]) (rest := []) C hJ (metM_memberOf l c1.2 v1 v2 c5 hc5) (cwV 2 hts (lw_V q1427 q1429 qs60 q118 q1430) rfl rfl rfl hdM_memberOf ⟨Nat.le_of_ble_eq_true rfl, Nat.le_of_ble_eq_true rfl⟩) rfl hl.1 rfl (lv_room (Nat.le_of_ble_eq_true rfl)) dX6_member_20 (fun H locs hJ => ?_)
      refine lv_goto (tgt := 28) hx hb dX6_member_23 (by decide) ?_
      have h := Option.some.inj h
      subst h
      exact hE _ _ _ _ (some (.int (c5))) hJ ⟨_, rfl⟩ rfl dX6_member_28
def M_runsTold (σ : MM) : Option (MM) :=
  (M_asTold σ).bind fun c1 =>
  (M_runs c1).bind fun c2 =>
  some c2
theorem hdM_runsTold : yX6_runsTold.cls = RX6 ∧ yX6_runsTold.cls ≠ "java/lang/invoke/MethodHandle" ∧ yX6_runsTold.cls ≠ "java/lang/invoke/VarHandle" ∧ (parseMethodDescriptor yX6_runsTold.desc).map (fun d => d.parameters.length) = some 0 := by decide +kernel
set_option maxHeartbeats 4000000 in
theorem metM_runsTold (l : Launch) (σ : MM) (res : MM) (h : M_runsTold σ = some res) : MetM l yX6_runsTold cX6_runsTold 1 none 8 (fun K => [.ref (kO K)]) σ none res := by
  refine met_walk rfl (by simp [mRt]) (fun _ => Nat.le_of_ble_eq_true rfl) (fun K p e s m args below meth c Q C hE ls hl hJ => ?_)
  have hx := C.1.1
  have hb := C.1.2.1
  have hown := C.1.2.2.2.1
  have hts := C.1.2.2.2.2
  have hl : lv_has ls 1 [(0, .ref (kO K))] := hl
  unfold M_runsTold at h
  refine lv_aload_n hx hb dX6_runsTold_0 rfl (lv_at hl 0 rfl) ?_
  obtain ⟨c1, hc1, h⟩ := ob h
  refine mc_V (As := []) (rest := []) C hJ (metM_asTold l σ c1 hc1) (cwV 0 hts (lw_V q1466 q1468 qs64 q118 q1469) rfl rfl rfl hdM_asTold ⟨Nat.le_of_ble_eq_true rfl, Nat.le_of_ble_eq_true rfl⟩) rfl hl.1 rfl (lv_room (Nat.le_of_ble_eq_true rfl)) dX6_runsTold_1 (fun H locs hJ => ?_)
  refine lv_aload_n hx hb dX6_runsTold_4 rfl (lv_at hl 0 rfl) ?_
  obtain ⟨c2, hc2, h⟩ := ob h
  refine mc_V (As := []) (rest := []) C hJ (metM_runs l c1 c2 hc2) (cwV 0 hts (lw_V q1470 q1472 qs65 q118 q1473) rfl rfl rfl hdM_runs ⟨Nat.le_of_ble_eq_true rfl, Nat.le_of_ble_eq_true rfl⟩) rfl hl.1 rfl (lv_room (Nat.le_of_ble_eq_true rfl)) dX6_runsTold_5 (fun H locs hJ => ?_)
  have h := Option.some.inj h
  subst h
  exact hE _ _ _ _ none hJ rfl rfl dX6_runsTold_8
