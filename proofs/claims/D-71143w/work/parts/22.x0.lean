/-! WoodliceSenate -/
set_option maxRecDepth 100000
def RX0 : String := "WoodliceSenate"
def TX0 : u_T := fun k => match k with
  | 0 => ("WoodliceSenate", "latest", "I", false)
  | 1 => ("WoodliceSenate", "stone", "LWoodliceSenate$Stone;", true)
  | 2 => ("WoodliceSenate", "roll", "LWoodliceSenate$Roll;", true)
  | 3 => ("WoodliceSenate", "events", "Ljava/util/ArrayList;", false)
  | 4 => ("WoodliceSenate", "now", "[LWoodliceSenate$Louse;", true)
  | 5 => ("WoodliceSenate", "kept", "[[LWoodliceSenate$Louse;", true)
  | 6 => ("WoodliceSenate", "damps", "[I", true)
  | 7 => ("WoodliceSenate", "dampsBy", "[[I", true)
  | 8 => ("WoodliceSenate", "gone", "I", false)
  | 9 => ("WoodliceSenate", "oddHour", "I", false)
  | 10 => ("WoodliceSenate", "oddKind", "I", false)
  | 11 => ("WoodliceSenate", "oddPlace", "I", false)
  | 12 => ("WoodliceSenate", "seen", "Ljava/util/ArrayList;", true)
  | 13 => ("WoodliceSenate", "wetter", "[[I", true)
  | 14 => ("WoodliceSenate", "drawn", "I", false)
  | 15 => ("WoodliceSenate", "other", "Ljava/util/ArrayList;", true)
  | 16 => ("WoodliceSenate", "spares", "[[I", true)
  | _ => ("WoodliceSenate", "sheets", "[LWoodliceSenate$Sheet;", true)
def tyX0 : Nat → FieldType := fun k => match k with
  | 0 => .int
  | 1 => .object "WoodliceSenate$Stone"
  | 2 => .object "WoodliceSenate$Roll"
  | 3 => .object "java/util/ArrayList"
  | 4 => .array (.object "WoodliceSenate$Louse")
  | 5 => .array (.array (.object "WoodliceSenate$Louse"))
  | 6 => .array .int
  | 7 => .array (.array .int)
  | 8 => .int
  | 9 => .int
  | 10 => .int
  | 11 => .int
  | 12 => .object "java/util/ArrayList"
  | 13 => .array (.array .int)
  | 14 => .int
  | 15 => .object "java/util/ArrayList"
  | 16 => .array (.array .int)
  | _ => .array (.object "WoodliceSenate$Sheet")
abbrev wsX00 : List Cond := u_ws RX0 TX0 18
set_option maxRecDepth 100000 in
theorem nmX0 : ∀ a, a < 18 → ∀ b, b < 18 → a ≠ b → (TX0 a).2.1 ≠ (TX0 b).2.1 := by decide +kernel
set_option maxRecDepth 100000 in
theorem tyX0_ok : ∀ k, k < 18 → parseFieldDescriptor (TX0 k).2.2.1 = some (tyX0 k) := by decide +kernel
abbrev cX0_type : ByteArray := prog_1_method_10_code
def yX0_type : MethodName := ⟨RX0, "type", "(II)I"⟩
def dkwX0_type_1 : List UInt8 := [28, 182, 0, 40, 167, 0, 5, 16, 254, 172]
abbrev dktX0_type_1 : List UInt8 := dkwX0_type_1 ++ []
def dkwX0_type_0 : List UInt8 := [27, 184, 0, 30, 153, 0, 27, 28, 133, 9, 20, 0, 34, 184, 0, 14, 153, 0, 15, 42, 27, 182, 0, 36]
abbrev dktX0_type_0 : List UInt8 := dkwX0_type_0 ++ dktX0_type_1
theorem dksX0_type_0 : cX0_type.data.toList.drop 0 = dktX0_type_0 := by decide +kernel
theorem dksX0_type_1 : cX0_type.data.toList.drop 24 = dktX0_type_1 := dk_seg dksX0_type_0 24 rfl rfl
theorem dX0_type_0 : decode cX0_type 0 = .ok (.iload_n 1, 1) := dk_27 (dk_at dksX0_type_0 0 rfl rfl)
theorem dX0_type_1 : decode cX0_type 1 = .ok (.invokestatic 30, 3) := dk_184 0 30 (dk_at dksX0_type_0 1 rfl rfl)
theorem dX0_type_4 : decode cX0_type 4 = .ok (.ifCond .eq 27, 3) := dk_153 0 27 (dk_at dksX0_type_0 4 rfl rfl)
theorem dX0_type_7 : decode cX0_type 7 = .ok (.iload_n 2, 1) := dk_28 (dk_at dksX0_type_0 7 rfl rfl)
theorem dX0_type_8 : decode cX0_type 8 = .ok (.i2l, 1) := dk_133 (dk_at dksX0_type_0 8 rfl rfl)
theorem dX0_type_9 : decode cX0_type 9 = .ok (.lconst 0, 1) := dk_9 (dk_at dksX0_type_0 9 rfl rfl)
theorem dX0_type_10 : decode cX0_type 10 = .ok (.ldc2_w 34, 3) := dk_20 0 34 (dk_at dksX0_type_0 10 rfl rfl)
theorem dX0_type_13 : decode cX0_type 13 = .ok (.invokestatic 14, 3) := dk_184 0 14 (dk_at dksX0_type_0 13 rfl rfl)
theorem dX0_type_16 : decode cX0_type 16 = .ok (.ifCond .eq 15, 3) := dk_153 0 15 (dk_at dksX0_type_0 16 rfl rfl)
theorem dX0_type_19 : decode cX0_type 19 = .ok (.aload_n 0, 1) := dk_42 (dk_at dksX0_type_0 19 rfl rfl)
theorem dX0_type_20 : decode cX0_type 20 = .ok (.iload_n 1, 1) := dk_27 (dk_at dksX0_type_0 20 rfl rfl)
theorem dX0_type_21 : decode cX0_type 21 = .ok (.invokevirtual 36, 3) := dk_182 0 36 (dk_at dksX0_type_0 21 rfl rfl)
theorem dX0_type_24 : decode cX0_type 24 = .ok (.iload_n 2, 1) := dk_28 (dk_at dksX0_type_1 0 rfl rfl)
theorem dX0_type_25 : decode cX0_type 25 = .ok (.invokevirtual 40, 3) := dk_182 0 40 (dk_at dksX0_type_1 1 rfl rfl)
theorem dX0_type_28 : decode cX0_type 28 = .ok (.goto 5, 3) := dk_167 0 5 (dk_at dksX0_type_1 4 rfl rfl)
theorem dX0_type_31 : decode cX0_type 31 = .ok (.bipush (-2), 2) := dk_16 254 (dk_at dksX0_type_1 7 rfl rfl)
theorem dX0_type_33 : decode cX0_type 33 = .ok (.ireturn, 1) := dk_172 (dk_at dksX0_type_1 9 rfl rfl)
abbrev cX0_isTwo : ByteArray := prog_1_method_5_code
def yX0_isTwo : MethodName := ⟨RX0, "isTwo", "(I)Z"⟩
def dkwX0_isTwo_0 : List UInt8 := [26, 133, 9, 10, 184, 0, 14, 172]
abbrev dktX0_isTwo_0 : List UInt8 := dkwX0_isTwo_0 ++ []
theorem dksX0_isTwo_0 : cX0_isTwo.data.toList.drop 0 = dktX0_isTwo_0 := by decide +kernel
theorem dX0_isTwo_0 : decode cX0_isTwo 0 = .ok (.iload_n 0, 1) := dk_26 (dk_at dksX0_isTwo_0 0 rfl rfl)
theorem dX0_isTwo_1 : decode cX0_isTwo 1 = .ok (.i2l, 1) := dk_133 (dk_at dksX0_isTwo_0 1 rfl rfl)
theorem dX0_isTwo_2 : decode cX0_isTwo 2 = .ok (.lconst 0, 1) := dk_9 (dk_at dksX0_isTwo_0 2 rfl rfl)
theorem dX0_isTwo_3 : decode cX0_isTwo 3 = .ok (.lconst 1, 1) := dk_10 (dk_at dksX0_isTwo_0 3 rfl rfl)
theorem dX0_isTwo_4 : decode cX0_isTwo 4 = .ok (.invokestatic 14, 3) := dk_184 0 14 (dk_at dksX0_isTwo_0 4 rfl rfl)
theorem dX0_isTwo_7 : decode cX0_isTwo 7 = .ok (.ireturn, 1) := dk_172 (dk_at dksX0_isTwo_0 7 rfl rfl)
abbrev cX0_in : ByteArray := prog_1_method_1_code
def yX0_in : MethodName := ⟨RX0, "in", "(JJJ)Z"⟩
def dkwX0_in_0 : List UInt8 := [30, 32, 148, 155, 0, 14, 30, 22, 4, 148, 157, 0, 7, 4, 167, 0, 4, 3, 172]
abbrev dktX0_in_0 : List UInt8 := dkwX0_in_0 ++ []
theorem dksX0_in_0 : cX0_in.data.toList.drop 0 = dktX0_in_0 := by decide +kernel
theorem dX0_in_0 : decode cX0_in 0 = .ok (.lload_n 0, 1) := dk_30 (dk_at dksX0_in_0 0 rfl rfl)
theorem dX0_in_1 : decode cX0_in 1 = .ok (.lload_n 2, 1) := dk_32 (dk_at dksX0_in_0 1 rfl rfl)
theorem dX0_in_2 : decode cX0_in 2 = .ok (.lcmp, 1) := dk_148 (dk_at dksX0_in_0 2 rfl rfl)
theorem dX0_in_3 : decode cX0_in 3 = .ok (.ifCond .lt 14, 3) := dk_155 0 14 (dk_at dksX0_in_0 3 rfl rfl)
theorem dX0_in_6 : decode cX0_in 6 = .ok (.lload_n 0, 1) := dk_30 (dk_at dksX0_in_0 6 rfl rfl)
theorem dX0_in_7 : decode cX0_in 7 = .ok (.lload 4, 2) := dk_22 4 (dk_at dksX0_in_0 7 rfl rfl)
theorem dX0_in_9 : decode cX0_in 9 = .ok (.lcmp, 1) := dk_148 (dk_at dksX0_in_0 9 rfl rfl)
theorem dX0_in_10 : decode cX0_in 10 = .ok (.ifCond .gt 7, 3) := dk_157 0 7 (dk_at dksX0_in_0 10 rfl rfl)
theorem dX0_in_13 : decode cX0_in 13 = .ok (.iconst 1, 1) := dk_4 (dk_at dksX0_in_0 13 rfl rfl)
theorem dX0_in_14 : decode cX0_in 14 = .ok (.goto 4, 3) := dk_167 0 4 (dk_at dksX0_in_0 14 rfl rfl)
theorem dX0_in_17 : decode cX0_in 17 = .ok (.iconst 0, 1) := dk_3 (dk_at dksX0_in_0 17 rfl rfl)
theorem dX0_in_18 : decode cX0_in 18 = .ok (.ireturn, 1) := dk_172 (dk_at dksX0_in_0 18 rfl rfl)
abbrev cX0_text : ByteArray := prog_1_method_9_code
def yX0_text : MethodName := ⟨RX0, "text", "(I)LWoodliceSenate$Text;"⟩
def dkwX0_text_0 : List UInt8 := [27, 154, 0, 10, 42, 180, 0, 22, 167, 0, 7, 42, 180, 0, 26, 176]
abbrev dktX0_text_0 : List UInt8 := dkwX0_text_0 ++ []
theorem dksX0_text_0 : cX0_text.data.toList.drop 0 = dktX0_text_0 := by decide +kernel
theorem dX0_text_0 : decode cX0_text 0 = .ok (.iload_n 1, 1) := dk_27 (dk_at dksX0_text_0 0 rfl rfl)
theorem dX0_text_1 : decode cX0_text 1 = .ok (.ifCond .ne 10, 3) := dk_154 0 10 (dk_at dksX0_text_0 1 rfl rfl)
theorem dX0_text_4 : decode cX0_text 4 = .ok (.aload_n 0, 1) := dk_42 (dk_at dksX0_text_0 4 rfl rfl)
theorem dX0_text_5 : decode cX0_text 5 = .ok (.getfield 22, 3) := dk_180 0 22 (dk_at dksX0_text_0 5 rfl rfl)
theorem dX0_text_8 : decode cX0_text 8 = .ok (.goto 7, 3) := dk_167 0 7 (dk_at dksX0_text_0 8 rfl rfl)
theorem dX0_text_11 : decode cX0_text 11 = .ok (.aload_n 0, 1) := dk_42 (dk_at dksX0_text_0 11 rfl rfl)
theorem dX0_text_12 : decode cX0_text 12 = .ok (.getfield 26, 3) := dk_180 0 26 (dk_at dksX0_text_0 12 rfl rfl)
theorem dX0_text_15 : decode cX0_text 15 = .ok (.areturn, 1) := dk_176 (dk_at dksX0_text_0 15 rfl rfl)
abbrev cX0_wipe : ByteArray := prog_1_method_11_code
def yX0_wipe : MethodName := ⟨RX0, "wipe", "(I)I"⟩
def dkwX0_wipe_0 : List UInt8 := [27, 184, 0, 30, 153, 0, 14, 42, 27, 182, 0, 36, 182, 0, 46, 167, 0, 5, 16, 254, 172]
abbrev dktX0_wipe_0 : List UInt8 := dkwX0_wipe_0 ++ []
theorem dksX0_wipe_0 : cX0_wipe.data.toList.drop 0 = dktX0_wipe_0 := by decide +kernel
theorem dX0_wipe_0 : decode cX0_wipe 0 = .ok (.iload_n 1, 1) := dk_27 (dk_at dksX0_wipe_0 0 rfl rfl)
theorem dX0_wipe_1 : decode cX0_wipe 1 = .ok (.invokestatic 30, 3) := dk_184 0 30 (dk_at dksX0_wipe_0 1 rfl rfl)
theorem dX0_wipe_4 : decode cX0_wipe 4 = .ok (.ifCond .eq 14, 3) := dk_153 0 14 (dk_at dksX0_wipe_0 4 rfl rfl)
theorem dX0_wipe_7 : decode cX0_wipe 7 = .ok (.aload_n 0, 1) := dk_42 (dk_at dksX0_wipe_0 7 rfl rfl)
theorem dX0_wipe_8 : decode cX0_wipe 8 = .ok (.iload_n 1, 1) := dk_27 (dk_at dksX0_wipe_0 8 rfl rfl)
theorem dX0_wipe_9 : decode cX0_wipe 9 = .ok (.invokevirtual 36, 3) := dk_182 0 36 (dk_at dksX0_wipe_0 9 rfl rfl)
theorem dX0_wipe_12 : decode cX0_wipe 12 = .ok (.invokevirtual 46, 3) := dk_182 0 46 (dk_at dksX0_wipe_0 12 rfl rfl)
theorem dX0_wipe_15 : decode cX0_wipe 15 = .ok (.goto 5, 3) := dk_167 0 5 (dk_at dksX0_wipe_0 15 rfl rfl)
theorem dX0_wipe_18 : decode cX0_wipe 18 = .ok (.bipush (-2), 2) := dk_16 254 (dk_at dksX0_wipe_0 18 rfl rfl)
theorem dX0_wipe_20 : decode cX0_wipe 20 = .ok (.ireturn, 1) := dk_172 (dk_at dksX0_wipe_0 20 rfl rfl)
abbrev cX0_undo : ByteArray := prog_1_method_12_code
def yX0_undo : MethodName := ⟨RX0, "undo", "(I)I"⟩
def dkwX0_undo_0 : List UInt8 := [27, 184, 0, 30, 153, 0, 14, 42, 27, 182, 0, 36, 182, 0, 50, 167, 0, 5, 16, 254, 172]
abbrev dktX0_undo_0 : List UInt8 := dkwX0_undo_0 ++ []
theorem dksX0_undo_0 : cX0_undo.data.toList.drop 0 = dktX0_undo_0 := by decide +kernel
theorem dX0_undo_0 : decode cX0_undo 0 = .ok (.iload_n 1, 1) := dk_27 (dk_at dksX0_undo_0 0 rfl rfl)
theorem dX0_undo_1 : decode cX0_undo 1 = .ok (.invokestatic 30, 3) := dk_184 0 30 (dk_at dksX0_undo_0 1 rfl rfl)
theorem dX0_undo_4 : decode cX0_undo 4 = .ok (.ifCond .eq 14, 3) := dk_153 0 14 (dk_at dksX0_undo_0 4 rfl rfl)
theorem dX0_undo_7 : decode cX0_undo 7 = .ok (.aload_n 0, 1) := dk_42 (dk_at dksX0_undo_0 7 rfl rfl)
theorem dX0_undo_8 : decode cX0_undo 8 = .ok (.iload_n 1, 1) := dk_27 (dk_at dksX0_undo_0 8 rfl rfl)
theorem dX0_undo_9 : decode cX0_undo 9 = .ok (.invokevirtual 36, 3) := dk_182 0 36 (dk_at dksX0_undo_0 9 rfl rfl)
theorem dX0_undo_12 : decode cX0_undo 12 = .ok (.invokevirtual 50, 3) := dk_182 0 50 (dk_at dksX0_undo_0 12 rfl rfl)
theorem dX0_undo_15 : decode cX0_undo 15 = .ok (.goto 5, 3) := dk_167 0 5 (dk_at dksX0_undo_0 15 rfl rfl)
theorem dX0_undo_18 : decode cX0_undo 18 = .ok (.bipush (-2), 2) := dk_16 254 (dk_at dksX0_undo_0 18 rfl rfl)
theorem dX0_undo_20 : decode cX0_undo 20 = .ok (.ireturn, 1) := dk_172 (dk_at dksX0_undo_0 20 rfl rfl)
abbrev cX0_fault : ByteArray := prog_1_method_13_code
def yX0_fault : MethodName := ⟨RX0, "fault", "(I)I"⟩
def dkwX0_fault_0 : List UInt8 := [27, 184, 0, 30, 153, 0, 14, 42, 27, 182, 0, 36, 182, 0, 53, 167, 0, 5, 16, 254, 172]
abbrev dktX0_fault_0 : List UInt8 := dkwX0_fault_0 ++ []
theorem dksX0_fault_0 : cX0_fault.data.toList.drop 0 = dktX0_fault_0 := by decide +kernel
theorem dX0_fault_0 : decode cX0_fault 0 = .ok (.iload_n 1, 1) := dk_27 (dk_at dksX0_fault_0 0 rfl rfl)
theorem dX0_fault_1 : decode cX0_fault 1 = .ok (.invokestatic 30, 3) := dk_184 0 30 (dk_at dksX0_fault_0 1 rfl rfl)
theorem dX0_fault_4 : decode cX0_fault 4 = .ok (.ifCond .eq 14, 3) := dk_153 0 14 (dk_at dksX0_fault_0 4 rfl rfl)
theorem dX0_fault_7 : decode cX0_fault 7 = .ok (.aload_n 0, 1) := dk_42 (dk_at dksX0_fault_0 7 rfl rfl)
theorem dX0_fault_8 : decode cX0_fault 8 = .ok (.iload_n 1, 1) := dk_27 (dk_at dksX0_fault_0 8 rfl rfl)
theorem dX0_fault_9 : decode cX0_fault 9 = .ok (.invokevirtual 36, 3) := dk_182 0 36 (dk_at dksX0_fault_0 9 rfl rfl)
theorem dX0_fault_12 : decode cX0_fault 12 = .ok (.invokevirtual 53, 3) := dk_182 0 53 (dk_at dksX0_fault_0 12 rfl rfl)
theorem dX0_fault_15 : decode cX0_fault 15 = .ok (.goto 5, 3) := dk_167 0 5 (dk_at dksX0_fault_0 15 rfl rfl)
theorem dX0_fault_18 : decode cX0_fault 18 = .ok (.bipush (-2), 2) := dk_16 254 (dk_at dksX0_fault_0 18 rfl rfl)
theorem dX0_fault_20 : decode cX0_fault 20 = .ok (.ireturn, 1) := dk_172 (dk_at dksX0_fault_0 20 rfl rfl)
abbrev cX0_stone : ByteArray := prog_1_method_15_code
def yX0_stone : MethodName := ⟨RX0, "stone", "(I)I"⟩
def dkwX0_stone_0 : List UInt8 := [27, 184, 0, 63, 153, 0, 11, 42, 27, 182, 0, 66, 167, 0, 5, 16, 254, 172]
abbrev dktX0_stone_0 : List UInt8 := dkwX0_stone_0 ++ []
theorem dksX0_stone_0 : cX0_stone.data.toList.drop 0 = dktX0_stone_0 := by decide +kernel
theorem dX0_stone_0 : decode cX0_stone 0 = .ok (.iload_n 1, 1) := dk_27 (dk_at dksX0_stone_0 0 rfl rfl)
theorem dX0_stone_1 : decode cX0_stone 1 = .ok (.invokestatic 63, 3) := dk_184 0 63 (dk_at dksX0_stone_0 1 rfl rfl)
theorem dX0_stone_4 : decode cX0_stone 4 = .ok (.ifCond .eq 11, 3) := dk_153 0 11 (dk_at dksX0_stone_0 4 rfl rfl)
theorem dX0_stone_7 : decode cX0_stone 7 = .ok (.aload_n 0, 1) := dk_42 (dk_at dksX0_stone_0 7 rfl rfl)
theorem dX0_stone_8 : decode cX0_stone 8 = .ok (.iload_n 1, 1) := dk_27 (dk_at dksX0_stone_0 8 rfl rfl)
theorem dX0_stone_9 : decode cX0_stone 9 = .ok (.invokevirtual 66, 3) := dk_182 0 66 (dk_at dksX0_stone_0 9 rfl rfl)
theorem dX0_stone_12 : decode cX0_stone 12 = .ok (.goto 5, 3) := dk_167 0 5 (dk_at dksX0_stone_0 12 rfl rfl)
theorem dX0_stone_15 : decode cX0_stone 15 = .ok (.bipush (-2), 2) := dk_16 254 (dk_at dksX0_stone_0 15 rfl rfl)
theorem dX0_stone_17 : decode cX0_stone 17 = .ok (.ireturn, 1) := dk_172 (dk_at dksX0_stone_0 17 rfl rfl)
abbrev cX0_isPlace : ByteArray := prog_1_method_8_code
def yX0_isPlace : MethodName := ⟨RX0, "isPlace", "(I)Z"⟩
def dkwX0_isPlace_0 : List UInt8 := [26, 133, 9, 20, 0, 20, 184, 0, 14, 172]
abbrev dktX0_isPlace_0 : List UInt8 := dkwX0_isPlace_0 ++ []
theorem dksX0_isPlace_0 : cX0_isPlace.data.toList.drop 0 = dktX0_isPlace_0 := by decide +kernel
theorem dX0_isPlace_0 : decode cX0_isPlace 0 = .ok (.iload_n 0, 1) := dk_26 (dk_at dksX0_isPlace_0 0 rfl rfl)
theorem dX0_isPlace_1 : decode cX0_isPlace 1 = .ok (.i2l, 1) := dk_133 (dk_at dksX0_isPlace_0 1 rfl rfl)
theorem dX0_isPlace_2 : decode cX0_isPlace 2 = .ok (.lconst 0, 1) := dk_9 (dk_at dksX0_isPlace_0 2 rfl rfl)
theorem dX0_isPlace_3 : decode cX0_isPlace 3 = .ok (.ldc2_w 20, 3) := dk_20 0 20 (dk_at dksX0_isPlace_0 3 rfl rfl)
theorem dX0_isPlace_6 : decode cX0_isPlace 6 = .ok (.invokestatic 14, 3) := dk_184 0 14 (dk_at dksX0_isPlace_0 6 rfl rfl)
theorem dX0_isPlace_9 : decode cX0_isPlace 9 = .ok (.ireturn, 1) := dk_172 (dk_at dksX0_isPlace_0 9 rfl rfl)
abbrev cX0_stoneAt : ByteArray := prog_1_method_14_code
def yX0_stoneAt : MethodName := ⟨RX0, "stoneAt", "(I)I"⟩
def dkwX0_stoneAt_0 : List UInt8 := [42, 180, 0, 22, 182, 0, 56, 87, 42, 180, 0, 22, 180, 0, 59, 27, 46, 172]
abbrev dktX0_stoneAt_0 : List UInt8 := dkwX0_stoneAt_0 ++ []
theorem dksX0_stoneAt_0 : cX0_stoneAt.data.toList.drop 0 = dktX0_stoneAt_0 := by decide +kernel
theorem dX0_stoneAt_0 : decode cX0_stoneAt 0 = .ok (.aload_n 0, 1) := dk_42 (dk_at dksX0_stoneAt_0 0 rfl rfl)
theorem dX0_stoneAt_1 : decode cX0_stoneAt 1 = .ok (.getfield 22, 3) := dk_180 0 22 (dk_at dksX0_stoneAt_0 1 rfl rfl)
theorem dX0_stoneAt_4 : decode cX0_stoneAt 4 = .ok (.invokevirtual 56, 3) := dk_182 0 56 (dk_at dksX0_stoneAt_0 4 rfl rfl)
theorem dX0_stoneAt_7 : decode cX0_stoneAt 7 = .ok (.pop, 1) := dk_87 (dk_at dksX0_stoneAt_0 7 rfl rfl)
theorem dX0_stoneAt_8 : decode cX0_stoneAt 8 = .ok (.aload_n 0, 1) := dk_42 (dk_at dksX0_stoneAt_0 8 rfl rfl)
theorem dX0_stoneAt_9 : decode cX0_stoneAt 9 = .ok (.getfield 22, 3) := dk_180 0 22 (dk_at dksX0_stoneAt_0 9 rfl rfl)
theorem dX0_stoneAt_12 : decode cX0_stoneAt 12 = .ok (.getfield 59, 3) := dk_180 0 59 (dk_at dksX0_stoneAt_0 12 rfl rfl)
theorem dX0_stoneAt_15 : decode cX0_stoneAt 15 = .ok (.iload_n 1, 1) := dk_27 (dk_at dksX0_stoneAt_0 15 rfl rfl)
theorem dX0_stoneAt_16 : decode cX0_stoneAt 16 = .ok (.iaload, 1) := dk_46 (dk_at dksX0_stoneAt_0 16 rfl rfl)
theorem dX0_stoneAt_17 : decode cX0_stoneAt 17 = .ok (.ireturn, 1) := dk_172 (dk_at dksX0_stoneAt_0 17 rfl rfl)
abbrev cX0_member : ByteArray := prog_1_method_18_code
def yX0_member : MethodName := ⟨RX0, "member", "(II)I"⟩
def dkwX0_member_1 : List UInt8 := [180, 0, 72, 27, 182, 0, 88, 192, 0, 92, 28, 182, 0, 94, 167, 0, 5, 16, 254, 172]
abbrev dktX0_member_1 : List UInt8 := dkwX0_member_1 ++ []
def dkwX0_member_0 : List UInt8 := [42, 27, 182, 0, 83, 153, 0, 36, 28, 133, 9, 20, 0, 86, 184, 0, 14, 153, 0, 24, 42, 180, 0, 26]
abbrev dktX0_member_0 : List UInt8 := dkwX0_member_0 ++ dktX0_member_1
theorem dksX0_member_0 : cX0_member.data.toList.drop 0 = dktX0_member_0 := by decide +kernel
theorem dksX0_member_1 : cX0_member.data.toList.drop 24 = dktX0_member_1 := dk_seg dksX0_member_0 24 rfl rfl
theorem dX0_member_0 : decode cX0_member 0 = .ok (.aload_n 0, 1) := dk_42 (dk_at dksX0_member_0 0 rfl rfl)
theorem dX0_member_1 : decode cX0_member 1 = .ok (.iload_n 1, 1) := dk_27 (dk_at dksX0_member_0 1 rfl rfl)
theorem dX0_member_2 : decode cX0_member 2 = .ok (.invokevirtual 83, 3) := dk_182 0 83 (dk_at dksX0_member_0 2 rfl rfl)
theorem dX0_member_5 : decode cX0_member 5 = .ok (.ifCond .eq 36, 3) := dk_153 0 36 (dk_at dksX0_member_0 5 rfl rfl)
theorem dX0_member_8 : decode cX0_member 8 = .ok (.iload_n 2, 1) := dk_28 (dk_at dksX0_member_0 8 rfl rfl)
theorem dX0_member_9 : decode cX0_member 9 = .ok (.i2l, 1) := dk_133 (dk_at dksX0_member_0 9 rfl rfl)
theorem dX0_member_10 : decode cX0_member 10 = .ok (.lconst 0, 1) := dk_9 (dk_at dksX0_member_0 10 rfl rfl)
theorem dX0_member_11 : decode cX0_member 11 = .ok (.ldc2_w 86, 3) := dk_20 0 86 (dk_at dksX0_member_0 11 rfl rfl)
theorem dX0_member_14 : decode cX0_member 14 = .ok (.invokestatic 14, 3) := dk_184 0 14 (dk_at dksX0_member_0 14 rfl rfl)
theorem dX0_member_17 : decode cX0_member 17 = .ok (.ifCond .eq 24, 3) := dk_153 0 24 (dk_at dksX0_member_0 17 rfl rfl)
theorem dX0_member_20 : decode cX0_member 20 = .ok (.aload_n 0, 1) := dk_42 (dk_at dksX0_member_0 20 rfl rfl)
theorem dX0_member_21 : decode cX0_member 21 = .ok (.getfield 26, 3) := dk_180 0 26 (dk_at dksX0_member_0 21 rfl rfl)
theorem dX0_member_24 : decode cX0_member 24 = .ok (.getfield 72, 3) := dk_180 0 72 (dk_at dksX0_member_1 0 rfl rfl)
theorem dX0_member_27 : decode cX0_member 27 = .ok (.iload_n 1, 1) := dk_27 (dk_at dksX0_member_1 3 rfl rfl)
theorem dX0_member_28 : decode cX0_member 28 = .ok (.invokevirtual 88, 3) := dk_182 0 88 (dk_at dksX0_member_1 4 rfl rfl)
theorem dX0_member_31 : decode cX0_member 31 = .ok (.checkcast 92, 3) := dk_192 0 92 (dk_at dksX0_member_1 7 rfl rfl)
theorem dX0_member_34 : decode cX0_member 34 = .ok (.iload_n 2, 1) := dk_28 (dk_at dksX0_member_1 10 rfl rfl)
theorem dX0_member_35 : decode cX0_member 35 = .ok (.invokevirtual 94, 3) := dk_182 0 94 (dk_at dksX0_member_1 11 rfl rfl)
theorem dX0_member_38 : decode cX0_member 38 = .ok (.goto 5, 3) := dk_167 0 5 (dk_at dksX0_member_1 14 rfl rfl)
theorem dX0_member_41 : decode cX0_member 41 = .ok (.bipush (-2), 2) := dk_16 254 (dk_at dksX0_member_1 17 rfl rfl)
theorem dX0_member_43 : decode cX0_member 43 = .ok (.ireturn, 1) := dk_172 (dk_at dksX0_member_1 19 rfl rfl)
abbrev cX0_isMember : ByteArray := prog_1_method_17_code
def yX0_isMember : MethodName := ⟨RX0, "isMember", "(I)Z"⟩
def dkwX0_isMember_0 : List UInt8 := [27, 133, 9, 42, 182, 0, 80, 4, 100, 133, 184, 0, 14, 172]
abbrev dktX0_isMember_0 : List UInt8 := dkwX0_isMember_0 ++ []
theorem dksX0_isMember_0 : cX0_isMember.data.toList.drop 0 = dktX0_isMember_0 := by decide +kernel
theorem dX0_isMember_0 : decode cX0_isMember 0 = .ok (.iload_n 1, 1) := dk_27 (dk_at dksX0_isMember_0 0 rfl rfl)
theorem dX0_isMember_1 : decode cX0_isMember 1 = .ok (.i2l, 1) := dk_133 (dk_at dksX0_isMember_0 1 rfl rfl)
theorem dX0_isMember_2 : decode cX0_isMember 2 = .ok (.lconst 0, 1) := dk_9 (dk_at dksX0_isMember_0 2 rfl rfl)
theorem dX0_isMember_3 : decode cX0_isMember 3 = .ok (.aload_n 0, 1) := dk_42 (dk_at dksX0_isMember_0 3 rfl rfl)
theorem dX0_isMember_4 : decode cX0_isMember 4 = .ok (.invokevirtual 80, 3) := dk_182 0 80 (dk_at dksX0_isMember_0 4 rfl rfl)
theorem dX0_isMember_7 : decode cX0_isMember 7 = .ok (.iconst 1, 1) := dk_4 (dk_at dksX0_isMember_0 7 rfl rfl)
theorem dX0_isMember_8 : decode cX0_isMember 8 = .ok (.isub, 1) := dk_100 (dk_at dksX0_isMember_0 8 rfl rfl)
theorem dX0_isMember_9 : decode cX0_isMember 9 = .ok (.i2l, 1) := dk_133 (dk_at dksX0_isMember_0 9 rfl rfl)
theorem dX0_isMember_10 : decode cX0_isMember 10 = .ok (.invokestatic 14, 3) := dk_184 0 14 (dk_at dksX0_isMember_0 10 rfl rfl)
theorem dX0_isMember_13 : decode cX0_isMember 13 = .ok (.ireturn, 1) := dk_172 (dk_at dksX0_isMember_0 13 rfl rfl)
abbrev cX0_members : ByteArray := prog_1_method_16_code
def yX0_members : MethodName := ⟨RX0, "members", "()I"⟩
def dkwX0_members_0 : List UInt8 := [42, 180, 0, 26, 182, 0, 69, 87, 42, 180, 0, 26, 180, 0, 72, 182, 0, 75, 172]
abbrev dktX0_members_0 : List UInt8 := dkwX0_members_0 ++ []
theorem dksX0_members_0 : cX0_members.data.toList.drop 0 = dktX0_members_0 := by decide +kernel
theorem dX0_members_0 : decode cX0_members 0 = .ok (.aload_n 0, 1) := dk_42 (dk_at dksX0_members_0 0 rfl rfl)
theorem dX0_members_1 : decode cX0_members 1 = .ok (.getfield 26, 3) := dk_180 0 26 (dk_at dksX0_members_0 1 rfl rfl)
theorem dX0_members_4 : decode cX0_members 4 = .ok (.invokevirtual 69, 3) := dk_182 0 69 (dk_at dksX0_members_0 4 rfl rfl)
theorem dX0_members_7 : decode cX0_members 7 = .ok (.pop, 1) := dk_87 (dk_at dksX0_members_0 7 rfl rfl)
theorem dX0_members_8 : decode cX0_members 8 = .ok (.aload_n 0, 1) := dk_42 (dk_at dksX0_members_0 8 rfl rfl)
theorem dX0_members_9 : decode cX0_members 9 = .ok (.getfield 26, 3) := dk_180 0 26 (dk_at dksX0_members_0 9 rfl rfl)
theorem dX0_members_12 : decode cX0_members 12 = .ok (.getfield 72, 3) := dk_180 0 72 (dk_at dksX0_members_0 12 rfl rfl)
theorem dX0_members_15 : decode cX0_members 15 = .ok (.invokevirtual 75, 3) := dk_182 0 75 (dk_at dksX0_members_0 15 rfl rfl)
theorem dX0_members_18 : decode cX0_members 18 = .ok (.ireturn, 1) := dk_172 (dk_at dksX0_members_0 18 rfl rfl)
abbrev cX0_event : ByteArray := prog_1_method_19_code
def yX0_event : MethodName := ⟨RX0, "event", "(III)I"⟩
def dkwX0_event_3 : List UInt8 := [180, 0, 102, 182, 0, 75, 172]
abbrev dktX0_event_3 : List UInt8 := dkwX0_event_3 ++ []
def dkwX0_event_2 : List UInt8 := [180, 0, 102, 6, 188, 10, 89, 3, 27, 79, 89, 4, 28, 79, 89, 5, 29, 79, 182, 0, 105, 87, 42]
abbrev dktX0_event_2 : List UInt8 := dkwX0_event_2 ++ dktX0_event_3
def dkwX0_event_1 : List UInt8 := [154, 0, 6, 16, 254, 172, 42, 180, 0, 102, 182, 0, 75, 16, 8, 160, 0, 6, 16, 252, 172, 42]
abbrev dktX0_event_1 : List UInt8 := dkwX0_event_1 ++ dktX0_event_2
def dkwX0_event_0 : List UInt8 := [27, 133, 9, 20, 0, 97, 184, 0, 14, 153, 0, 17, 28, 184, 0, 99, 153, 0, 10, 29, 184, 0, 63]
abbrev dktX0_event_0 : List UInt8 := dkwX0_event_0 ++ dktX0_event_1
theorem dksX0_event_0 : cX0_event.data.toList.drop 0 = dktX0_event_0 := by decide +kernel
theorem dksX0_event_1 : cX0_event.data.toList.drop 23 = dktX0_event_1 := dk_seg dksX0_event_0 23 rfl rfl
theorem dksX0_event_2 : cX0_event.data.toList.drop 45 = dktX0_event_2 := dk_seg dksX0_event_1 22 rfl rfl
theorem dksX0_event_3 : cX0_event.data.toList.drop 68 = dktX0_event_3 := dk_seg dksX0_event_2 23 rfl rfl
theorem dX0_event_0 : decode cX0_event 0 = .ok (.iload_n 1, 1) := dk_27 (dk_at dksX0_event_0 0 rfl rfl)
theorem dX0_event_1 : decode cX0_event 1 = .ok (.i2l, 1) := dk_133 (dk_at dksX0_event_0 1 rfl rfl)
theorem dX0_event_2 : decode cX0_event 2 = .ok (.lconst 0, 1) := dk_9 (dk_at dksX0_event_0 2 rfl rfl)
theorem dX0_event_3 : decode cX0_event 3 = .ok (.ldc2_w 97, 3) := dk_20 0 97 (dk_at dksX0_event_0 3 rfl rfl)
theorem dX0_event_6 : decode cX0_event 6 = .ok (.invokestatic 14, 3) := dk_184 0 14 (dk_at dksX0_event_0 6 rfl rfl)
theorem dX0_event_9 : decode cX0_event 9 = .ok (.ifCond .eq 17, 3) := dk_153 0 17 (dk_at dksX0_event_0 9 rfl rfl)
theorem dX0_event_12 : decode cX0_event 12 = .ok (.iload_n 2, 1) := dk_28 (dk_at dksX0_event_0 12 rfl rfl)
theorem dX0_event_13 : decode cX0_event 13 = .ok (.invokestatic 99, 3) := dk_184 0 99 (dk_at dksX0_event_0 13 rfl rfl)
theorem dX0_event_16 : decode cX0_event 16 = .ok (.ifCond .eq 10, 3) := dk_153 0 10 (dk_at dksX0_event_0 16 rfl rfl)
theorem dX0_event_19 : decode cX0_event 19 = .ok (.iload_n 3, 1) := dk_29 (dk_at dksX0_event_0 19 rfl rfl)
theorem dX0_event_20 : decode cX0_event 20 = .ok (.invokestatic 63, 3) := dk_184 0 63 (dk_at dksX0_event_0 20 rfl rfl)
theorem dX0_event_23 : decode cX0_event 23 = .ok (.ifCond .ne 6, 3) := dk_154 0 6 (dk_at dksX0_event_1 0 rfl rfl)
theorem dX0_event_26 : decode cX0_event 26 = .ok (.bipush (-2), 2) := dk_16 254 (dk_at dksX0_event_1 3 rfl rfl)
theorem dX0_event_28 : decode cX0_event 28 = .ok (.ireturn, 1) := dk_172 (dk_at dksX0_event_1 5 rfl rfl)
theorem dX0_event_29 : decode cX0_event 29 = .ok (.aload_n 0, 1) := dk_42 (dk_at dksX0_event_1 6 rfl rfl)
theorem dX0_event_30 : decode cX0_event 30 = .ok (.getfield 102, 3) := dk_180 0 102 (dk_at dksX0_event_1 7 rfl rfl)
theorem dX0_event_33 : decode cX0_event 33 = .ok (.invokevirtual 75, 3) := dk_182 0 75 (dk_at dksX0_event_1 10 rfl rfl)
theorem dX0_event_36 : decode cX0_event 36 = .ok (.bipush 8, 2) := dk_16 8 (dk_at dksX0_event_1 13 rfl rfl)
theorem dX0_event_38 : decode cX0_event 38 = .ok (.if_icmp .ne 6, 3) := dk_160 0 6 (dk_at dksX0_event_1 15 rfl rfl)
theorem dX0_event_41 : decode cX0_event 41 = .ok (.bipush (-4), 2) := dk_16 252 (dk_at dksX0_event_1 18 rfl rfl)
theorem dX0_event_43 : decode cX0_event 43 = .ok (.ireturn, 1) := dk_172 (dk_at dksX0_event_1 20 rfl rfl)
theorem dX0_event_44 : decode cX0_event 44 = .ok (.aload_n 0, 1) := dk_42 (dk_at dksX0_event_1 21 rfl rfl)
theorem dX0_event_45 : decode cX0_event 45 = .ok (.getfield 102, 3) := dk_180 0 102 (dk_at dksX0_event_2 0 rfl rfl)
theorem dX0_event_48 : decode cX0_event 48 = .ok (.iconst 3, 1) := dk_6 (dk_at dksX0_event_2 3 rfl rfl)
theorem dX0_event_49 : decode cX0_event 49 = .ok (.newarray .int, 2) := dk_188_10 (dk_at dksX0_event_2 4 rfl rfl)
theorem dX0_event_51 : decode cX0_event 51 = .ok (.dup, 1) := dk_89 (dk_at dksX0_event_2 6 rfl rfl)
theorem dX0_event_52 : decode cX0_event 52 = .ok (.iconst 0, 1) := dk_3 (dk_at dksX0_event_2 7 rfl rfl)
theorem dX0_event_53 : decode cX0_event 53 = .ok (.iload_n 1, 1) := dk_27 (dk_at dksX0_event_2 8 rfl rfl)
theorem dX0_event_54 : decode cX0_event 54 = .ok (.iastore, 1) := dk_79 (dk_at dksX0_event_2 9 rfl rfl)
theorem dX0_event_55 : decode cX0_event 55 = .ok (.dup, 1) := dk_89 (dk_at dksX0_event_2 10 rfl rfl)
theorem dX0_event_56 : decode cX0_event 56 = .ok (.iconst 1, 1) := dk_4 (dk_at dksX0_event_2 11 rfl rfl)
theorem dX0_event_57 : decode cX0_event 57 = .ok (.iload_n 2, 1) := dk_28 (dk_at dksX0_event_2 12 rfl rfl)
theorem dX0_event_58 : decode cX0_event 58 = .ok (.iastore, 1) := dk_79 (dk_at dksX0_event_2 13 rfl rfl)
theorem dX0_event_59 : decode cX0_event 59 = .ok (.dup, 1) := dk_89 (dk_at dksX0_event_2 14 rfl rfl)
theorem dX0_event_60 : decode cX0_event 60 = .ok (.iconst 2, 1) := dk_5 (dk_at dksX0_event_2 15 rfl rfl)
theorem dX0_event_61 : decode cX0_event 61 = .ok (.iload_n 3, 1) := dk_29 (dk_at dksX0_event_2 16 rfl rfl)
theorem dX0_event_62 : decode cX0_event 62 = .ok (.iastore, 1) := dk_79 (dk_at dksX0_event_2 17 rfl rfl)
theorem dX0_event_63 : decode cX0_event 63 = .ok (.invokevirtual 105, 3) := dk_182 0 105 (dk_at dksX0_event_2 18 rfl rfl)
theorem dX0_event_66 : decode cX0_event 66 = .ok (.pop, 1) := dk_87 (dk_at dksX0_event_2 21 rfl rfl)
theorem dX0_event_67 : decode cX0_event 67 = .ok (.aload_n 0, 1) := dk_42 (dk_at dksX0_event_2 22 rfl rfl)
theorem dX0_event_68 : decode cX0_event 68 = .ok (.getfield 102, 3) := dk_180 0 102 (dk_at dksX0_event_3 0 rfl rfl)
theorem dX0_event_71 : decode cX0_event 71 = .ok (.invokevirtual 75, 3) := dk_182 0 75 (dk_at dksX0_event_3 3 rfl rfl)
theorem dX0_event_74 : decode cX0_event 74 = .ok (.ireturn, 1) := dk_172 (dk_at dksX0_event_3 6 rfl rfl)
abbrev cX0_isHour : ByteArray := prog_1_method_7_code
def yX0_isHour : MethodName := ⟨RX0, "isHour", "(I)Z"⟩
def dkwX0_isHour_0 : List UInt8 := [26, 133, 9, 20, 0, 18, 184, 0, 14, 172]
abbrev dktX0_isHour_0 : List UInt8 := dkwX0_isHour_0 ++ []
theorem dksX0_isHour_0 : cX0_isHour.data.toList.drop 0 = dktX0_isHour_0 := by decide +kernel
theorem dX0_isHour_0 : decode cX0_isHour 0 = .ok (.iload_n 0, 1) := dk_26 (dk_at dksX0_isHour_0 0 rfl rfl)
theorem dX0_isHour_1 : decode cX0_isHour 1 = .ok (.i2l, 1) := dk_133 (dk_at dksX0_isHour_0 1 rfl rfl)
theorem dX0_isHour_2 : decode cX0_isHour 2 = .ok (.lconst 0, 1) := dk_9 (dk_at dksX0_isHour_0 2 rfl rfl)
theorem dX0_isHour_3 : decode cX0_isHour 3 = .ok (.ldc2_w 18, 3) := dk_20 0 18 (dk_at dksX0_isHour_0 3 rfl rfl)
theorem dX0_isHour_6 : decode cX0_isHour 6 = .ok (.invokestatic 14, 3) := dk_184 0 14 (dk_at dksX0_isHour_0 6 rfl rfl)
theorem dX0_isHour_9 : decode cX0_isHour 9 = .ok (.ireturn, 1) := dk_172 (dk_at dksX0_isHour_0 9 rfl rfl)
abbrev cX0_back : ByteArray := prog_1_method_20_code
def yX0_back : MethodName := ⟨RX0, "back", "()I"⟩
def dkwX0_back_1 : List UInt8 := [4, 100, 182, 0, 113, 87, 42, 180, 0, 102, 182, 0, 75, 172]
abbrev dktX0_back_1 : List UInt8 := dkwX0_back_1 ++ []
def dkwX0_back_0 : List UInt8 := [42, 180, 0, 102, 182, 0, 109, 153, 0, 6, 16, 253, 172, 42, 180, 0, 102, 42, 180, 0, 102, 182, 0, 75]
abbrev dktX0_back_0 : List UInt8 := dkwX0_back_0 ++ dktX0_back_1
theorem dksX0_back_0 : cX0_back.data.toList.drop 0 = dktX0_back_0 := by decide +kernel
theorem dksX0_back_1 : cX0_back.data.toList.drop 24 = dktX0_back_1 := dk_seg dksX0_back_0 24 rfl rfl
theorem dX0_back_0 : decode cX0_back 0 = .ok (.aload_n 0, 1) := dk_42 (dk_at dksX0_back_0 0 rfl rfl)
theorem dX0_back_1 : decode cX0_back 1 = .ok (.getfield 102, 3) := dk_180 0 102 (dk_at dksX0_back_0 1 rfl rfl)
theorem dX0_back_4 : decode cX0_back 4 = .ok (.invokevirtual 109, 3) := dk_182 0 109 (dk_at dksX0_back_0 4 rfl rfl)
theorem dX0_back_7 : decode cX0_back 7 = .ok (.ifCond .eq 6, 3) := dk_153 0 6 (dk_at dksX0_back_0 7 rfl rfl)
theorem dX0_back_10 : decode cX0_back 10 = .ok (.bipush (-3), 2) := dk_16 253 (dk_at dksX0_back_0 10 rfl rfl)
theorem dX0_back_12 : decode cX0_back 12 = .ok (.ireturn, 1) := dk_172 (dk_at dksX0_back_0 12 rfl rfl)
theorem dX0_back_13 : decode cX0_back 13 = .ok (.aload_n 0, 1) := dk_42 (dk_at dksX0_back_0 13 rfl rfl)
theorem dX0_back_14 : decode cX0_back 14 = .ok (.getfield 102, 3) := dk_180 0 102 (dk_at dksX0_back_0 14 rfl rfl)
theorem dX0_back_17 : decode cX0_back 17 = .ok (.aload_n 0, 1) := dk_42 (dk_at dksX0_back_0 17 rfl rfl)
theorem dX0_back_18 : decode cX0_back 18 = .ok (.getfield 102, 3) := dk_180 0 102 (dk_at dksX0_back_0 18 rfl rfl)
theorem dX0_back_21 : decode cX0_back 21 = .ok (.invokevirtual 75, 3) := dk_182 0 75 (dk_at dksX0_back_0 21 rfl rfl)
theorem dX0_back_24 : decode cX0_back 24 = .ok (.iconst 1, 1) := dk_4 (dk_at dksX0_back_1 0 rfl rfl)
theorem dX0_back_25 : decode cX0_back 25 = .ok (.isub, 1) := dk_100 (dk_at dksX0_back_1 1 rfl rfl)
theorem dX0_back_26 : decode cX0_back 26 = .ok (.invokevirtual 113, 3) := dk_182 0 113 (dk_at dksX0_back_1 2 rfl rfl)
theorem dX0_back_29 : decode cX0_back 29 = .ok (.pop, 1) := dk_87 (dk_at dksX0_back_1 5 rfl rfl)
theorem dX0_back_30 : decode cX0_back 30 = .ok (.aload_n 0, 1) := dk_42 (dk_at dksX0_back_1 6 rfl rfl)
theorem dX0_back_31 : decode cX0_back 31 = .ok (.getfield 102, 3) := dk_180 0 102 (dk_at dksX0_back_1 7 rfl rfl)
theorem dX0_back_34 : decode cX0_back 34 = .ok (.invokevirtual 75, 3) := dk_182 0 75 (dk_at dksX0_back_1 10 rfl rfl)
theorem dX0_back_37 : decode cX0_back 37 = .ok (.ireturn, 1) := dk_172 (dk_at dksX0_back_1 13 rfl rfl)
abbrev cX0_read : ByteArray := prog_1_method_21_code
def yX0_read : MethodName := ⟨RX0, "read", "(I)I"⟩
def dkwX0_read_4 : List UInt8 := [172]
abbrev dktX0_read_4 : List UInt8 := dkwX0_read_4 ++ []
def dkwX0_read_3 : List UInt8 := [182, 0, 133, 6, 29, 104, 5, 96, 182, 0, 135, 182, 0, 139, 155, 0, 9, 132, 3, 1, 167, 255, 197, 29]
abbrev dktX0_read_3 : List UInt8 := dkwX0_read_3 ++ dktX0_read_4
def dkwX0_read_2 : List UInt8 := [182, 0, 133, 6, 29, 104, 182, 0, 135, 44, 44, 182, 0, 133, 6, 29, 104, 4, 96, 182, 0, 135, 44, 44]
abbrev dktX0_read_2 : List UInt8 := dkwX0_read_2 ++ dktX0_read_3
def dkwX0_read_1 : List UInt8 := [42, 4, 182, 0, 129, 172, 3, 62, 6, 29, 104, 6, 96, 44, 182, 0, 132, 163, 0, 53, 42, 44, 44]
abbrev dktX0_read_1 : List UInt8 := dkwX0_read_1 ++ dktX0_read_2
def dkwX0_read_0 : List UInt8 := [27, 184, 0, 116, 154, 0, 6, 16, 254, 172, 42, 180, 0, 119, 27, 50, 77, 44, 180, 0, 123, 199, 0, 9]
abbrev dktX0_read_0 : List UInt8 := dkwX0_read_0 ++ dktX0_read_1
theorem dksX0_read_0 : cX0_read.data.toList.drop 0 = dktX0_read_0 := by decide +kernel
theorem dksX0_read_1 : cX0_read.data.toList.drop 24 = dktX0_read_1 := dk_seg dksX0_read_0 24 rfl rfl
theorem dksX0_read_2 : cX0_read.data.toList.drop 47 = dktX0_read_2 := dk_seg dksX0_read_1 23 rfl rfl
theorem dksX0_read_3 : cX0_read.data.toList.drop 71 = dktX0_read_3 := dk_seg dksX0_read_2 24 rfl rfl
theorem dksX0_read_4 : cX0_read.data.toList.drop 95 = dktX0_read_4 := dk_seg dksX0_read_3 24 rfl rfl
theorem dX0_read_0 : decode cX0_read 0 = .ok (.iload_n 1, 1) := dk_27 (dk_at dksX0_read_0 0 rfl rfl)
theorem dX0_read_1 : decode cX0_read 1 = .ok (.invokestatic 116, 3) := dk_184 0 116 (dk_at dksX0_read_0 1 rfl rfl)
theorem dX0_read_4 : decode cX0_read 4 = .ok (.ifCond .ne 6, 3) := dk_154 0 6 (dk_at dksX0_read_0 4 rfl rfl)
theorem dX0_read_7 : decode cX0_read 7 = .ok (.bipush (-2), 2) := dk_16 254 (dk_at dksX0_read_0 7 rfl rfl)
theorem dX0_read_9 : decode cX0_read 9 = .ok (.ireturn, 1) := dk_172 (dk_at dksX0_read_0 9 rfl rfl)
theorem dX0_read_10 : decode cX0_read 10 = .ok (.aload_n 0, 1) := dk_42 (dk_at dksX0_read_0 10 rfl rfl)
theorem dX0_read_11 : decode cX0_read 11 = .ok (.getfield 119, 3) := dk_180 0 119 (dk_at dksX0_read_0 11 rfl rfl)
theorem dX0_read_14 : decode cX0_read 14 = .ok (.iload_n 1, 1) := dk_27 (dk_at dksX0_read_0 14 rfl rfl)
theorem dX0_read_15 : decode cX0_read 15 = .ok (.aaload, 1) := dk_50 (dk_at dksX0_read_0 15 rfl rfl)
theorem dX0_read_16 : decode cX0_read 16 = .ok (.astore_n 2, 1) := dk_77 (dk_at dksX0_read_0 16 rfl rfl)
theorem dX0_read_17 : decode cX0_read 17 = .ok (.aload_n 2, 1) := dk_44 (dk_at dksX0_read_0 17 rfl rfl)
theorem dX0_read_18 : decode cX0_read 18 = .ok (.getfield 123, 3) := dk_180 0 123 (dk_at dksX0_read_0 18 rfl rfl)
theorem dX0_read_21 : decode cX0_read 21 = .ok (.ifnonnull 9, 3) := dk_199 0 9 (dk_at dksX0_read_0 21 rfl rfl)
theorem dX0_read_24 : decode cX0_read 24 = .ok (.aload_n 0, 1) := dk_42 (dk_at dksX0_read_1 0 rfl rfl)
theorem dX0_read_25 : decode cX0_read 25 = .ok (.iconst 1, 1) := dk_4 (dk_at dksX0_read_1 1 rfl rfl)
theorem dX0_read_26 : decode cX0_read 26 = .ok (.invokevirtual 129, 3) := dk_182 0 129 (dk_at dksX0_read_1 2 rfl rfl)
theorem dX0_read_29 : decode cX0_read 29 = .ok (.ireturn, 1) := dk_172 (dk_at dksX0_read_1 5 rfl rfl)
theorem dX0_read_30 : decode cX0_read 30 = .ok (.iconst 0, 1) := dk_3 (dk_at dksX0_read_1 6 rfl rfl)
theorem dX0_read_31 : decode cX0_read 31 = .ok (.istore_n 3, 1) := dk_62 (dk_at dksX0_read_1 7 rfl rfl)
theorem dX0_read_32 : decode cX0_read 32 = .ok (.iconst 3, 1) := dk_6 (dk_at dksX0_read_1 8 rfl rfl)
theorem dX0_read_33 : decode cX0_read 33 = .ok (.iload_n 3, 1) := dk_29 (dk_at dksX0_read_1 9 rfl rfl)
theorem dX0_read_34 : decode cX0_read 34 = .ok (.imul, 1) := dk_104 (dk_at dksX0_read_1 10 rfl rfl)
theorem dX0_read_35 : decode cX0_read 35 = .ok (.iconst 3, 1) := dk_6 (dk_at dksX0_read_1 11 rfl rfl)
theorem dX0_read_36 : decode cX0_read 36 = .ok (.iadd, 1) := dk_96 (dk_at dksX0_read_1 12 rfl rfl)
theorem dX0_read_37 : decode cX0_read 37 = .ok (.aload_n 2, 1) := dk_44 (dk_at dksX0_read_1 13 rfl rfl)
theorem dX0_read_38 : decode cX0_read 38 = .ok (.invokevirtual 132, 3) := dk_182 0 132 (dk_at dksX0_read_1 14 rfl rfl)
theorem dX0_read_41 : decode cX0_read 41 = .ok (.if_icmp .gt 53, 3) := dk_163 0 53 (dk_at dksX0_read_1 17 rfl rfl)
theorem dX0_read_44 : decode cX0_read 44 = .ok (.aload_n 0, 1) := dk_42 (dk_at dksX0_read_1 20 rfl rfl)
theorem dX0_read_45 : decode cX0_read 45 = .ok (.aload_n 2, 1) := dk_44 (dk_at dksX0_read_1 21 rfl rfl)
theorem dX0_read_46 : decode cX0_read 46 = .ok (.aload_n 2, 1) := dk_44 (dk_at dksX0_read_1 22 rfl rfl)
theorem dX0_read_47 : decode cX0_read 47 = .ok (.invokevirtual 133, 3) := dk_182 0 133 (dk_at dksX0_read_2 0 rfl rfl)
theorem dX0_read_50 : decode cX0_read 50 = .ok (.iconst 3, 1) := dk_6 (dk_at dksX0_read_2 3 rfl rfl)
theorem dX0_read_51 : decode cX0_read 51 = .ok (.iload_n 3, 1) := dk_29 (dk_at dksX0_read_2 4 rfl rfl)
theorem dX0_read_52 : decode cX0_read 52 = .ok (.imul, 1) := dk_104 (dk_at dksX0_read_2 5 rfl rfl)
theorem dX0_read_53 : decode cX0_read 53 = .ok (.invokevirtual 135, 3) := dk_182 0 135 (dk_at dksX0_read_2 6 rfl rfl)
theorem dX0_read_56 : decode cX0_read 56 = .ok (.aload_n 2, 1) := dk_44 (dk_at dksX0_read_2 9 rfl rfl)
theorem dX0_read_57 : decode cX0_read 57 = .ok (.aload_n 2, 1) := dk_44 (dk_at dksX0_read_2 10 rfl rfl)
theorem dX0_read_58 : decode cX0_read 58 = .ok (.invokevirtual 133, 3) := dk_182 0 133 (dk_at dksX0_read_2 11 rfl rfl)
theorem dX0_read_61 : decode cX0_read 61 = .ok (.iconst 3, 1) := dk_6 (dk_at dksX0_read_2 14 rfl rfl)
theorem dX0_read_62 : decode cX0_read 62 = .ok (.iload_n 3, 1) := dk_29 (dk_at dksX0_read_2 15 rfl rfl)
theorem dX0_read_63 : decode cX0_read 63 = .ok (.imul, 1) := dk_104 (dk_at dksX0_read_2 16 rfl rfl)
theorem dX0_read_64 : decode cX0_read 64 = .ok (.iconst 1, 1) := dk_4 (dk_at dksX0_read_2 17 rfl rfl)
theorem dX0_read_65 : decode cX0_read 65 = .ok (.iadd, 1) := dk_96 (dk_at dksX0_read_2 18 rfl rfl)
theorem dX0_read_66 : decode cX0_read 66 = .ok (.invokevirtual 135, 3) := dk_182 0 135 (dk_at dksX0_read_2 19 rfl rfl)
theorem dX0_read_69 : decode cX0_read 69 = .ok (.aload_n 2, 1) := dk_44 (dk_at dksX0_read_2 22 rfl rfl)
theorem dX0_read_70 : decode cX0_read 70 = .ok (.aload_n 2, 1) := dk_44 (dk_at dksX0_read_2 23 rfl rfl)
theorem dX0_read_71 : decode cX0_read 71 = .ok (.invokevirtual 133, 3) := dk_182 0 133 (dk_at dksX0_read_3 0 rfl rfl)
theorem dX0_read_74 : decode cX0_read 74 = .ok (.iconst 3, 1) := dk_6 (dk_at dksX0_read_3 3 rfl rfl)
theorem dX0_read_75 : decode cX0_read 75 = .ok (.iload_n 3, 1) := dk_29 (dk_at dksX0_read_3 4 rfl rfl)
theorem dX0_read_76 : decode cX0_read 76 = .ok (.imul, 1) := dk_104 (dk_at dksX0_read_3 5 rfl rfl)
theorem dX0_read_77 : decode cX0_read 77 = .ok (.iconst 2, 1) := dk_5 (dk_at dksX0_read_3 6 rfl rfl)
theorem dX0_read_78 : decode cX0_read 78 = .ok (.iadd, 1) := dk_96 (dk_at dksX0_read_3 7 rfl rfl)
theorem dX0_read_79 : decode cX0_read 79 = .ok (.invokevirtual 135, 3) := dk_182 0 135 (dk_at dksX0_read_3 8 rfl rfl)
theorem dX0_read_82 : decode cX0_read 82 = .ok (.invokevirtual 139, 3) := dk_182 0 139 (dk_at dksX0_read_3 11 rfl rfl)
theorem dX0_read_85 : decode cX0_read 85 = .ok (.ifCond .lt 9, 3) := dk_155 0 9 (dk_at dksX0_read_3 14 rfl rfl)
theorem dX0_read_88 : decode cX0_read 88 = .ok (.iinc 3 1, 3) := dk_132 3 1 (dk_at dksX0_read_3 17 rfl rfl)
theorem dX0_read_91 : decode cX0_read 91 = .ok (.goto (-59), 3) := dk_167 255 197 (dk_at dksX0_read_3 20 rfl rfl)
theorem dX0_read_94 : decode cX0_read 94 = .ok (.iload_n 3, 1) := dk_29 (dk_at dksX0_read_3 23 rfl rfl)
theorem dX0_read_95 : decode cX0_read 95 = .ok (.ireturn, 1) := dk_172 (dk_at dksX0_read_4 0 rfl rfl)
abbrev cX0_isSheet : ByteArray := prog_1_method_81_code
def yX0_isSheet : MethodName := ⟨RX0, "isSheet", "(I)Z"⟩
def dkwX0_isSheet_0 : List UInt8 := [26, 133, 9, 20, 0, 97, 184, 0, 14, 172]
abbrev dktX0_isSheet_0 : List UInt8 := dkwX0_isSheet_0 ++ []
theorem dksX0_isSheet_0 : cX0_isSheet.data.toList.drop 0 = dktX0_isSheet_0 := by decide +kernel
theorem dX0_isSheet_0 : decode cX0_isSheet 0 = .ok (.iload_n 0, 1) := dk_26 (dk_at dksX0_isSheet_0 0 rfl rfl)
theorem dX0_isSheet_1 : decode cX0_isSheet 1 = .ok (.i2l, 1) := dk_133 (dk_at dksX0_isSheet_0 1 rfl rfl)
theorem dX0_isSheet_2 : decode cX0_isSheet 2 = .ok (.lconst 0, 1) := dk_9 (dk_at dksX0_isSheet_0 2 rfl rfl)
theorem dX0_isSheet_3 : decode cX0_isSheet 3 = .ok (.ldc2_w 97, 3) := dk_20 0 97 (dk_at dksX0_isSheet_0 3 rfl rfl)
theorem dX0_isSheet_6 : decode cX0_isSheet 6 = .ok (.invokestatic 14, 3) := dk_184 0 14 (dk_at dksX0_isSheet_0 6 rfl rfl)
theorem dX0_isSheet_9 : decode cX0_isSheet 9 = .ok (.ireturn, 1) := dk_172 (dk_at dksX0_isSheet_0 9 rfl rfl)
abbrev cX0_met : ByteArray := prog_1_method_3_code
def yX0_met : MethodName := ⟨RX0, "met", "(I)I"⟩
def dkwX0_met_0 : List UInt8 := [42, 27, 181, 0, 9, 16, 246, 27, 100, 172]
abbrev dktX0_met_0 : List UInt8 := dkwX0_met_0 ++ []
theorem dksX0_met_0 : cX0_met.data.toList.drop 0 = dktX0_met_0 := by decide +kernel
theorem dX0_met_0 : decode cX0_met 0 = .ok (.aload_n 0, 1) := dk_42 (dk_at dksX0_met_0 0 rfl rfl)
theorem dX0_met_1 : decode cX0_met 1 = .ok (.iload_n 1, 1) := dk_27 (dk_at dksX0_met_0 1 rfl rfl)
theorem dX0_met_2 : decode cX0_met 2 = .ok (.putfield 9, 3) := dk_181 0 9 (dk_at dksX0_met_0 2 rfl rfl)
theorem dX0_met_5 : decode cX0_met 5 = .ok (.bipush (-10), 2) := dk_16 246 (dk_at dksX0_met_0 5 rfl rfl)
theorem dX0_met_7 : decode cX0_met 7 = .ok (.iload_n 1, 1) := dk_27 (dk_at dksX0_met_0 7 rfl rfl)
theorem dX0_met_8 : decode cX0_met 8 = .ok (.isub, 1) := dk_100 (dk_at dksX0_met_0 8 rfl rfl)
theorem dX0_met_9 : decode cX0_met 9 = .ok (.ireturn, 1) := dk_172 (dk_at dksX0_met_0 9 rfl rfl)
abbrev cX0_init : ByteArray := prog_1_method_23_code
def yX0_init : MethodName := ⟨RX0, "<init>", "()V"⟩
def dkwX0_init_8 : List UInt8 := [132, 1, 1, 167, 255, 238, 177]
abbrev dktX0_init_8 : List UInt8 := dkwX0_init_8 ++ []
def dkwX0_init_7 : List UInt8 := [183, 0, 191, 83, 181, 0, 119, 3, 60, 27, 16, 20, 162, 0, 18, 42, 180, 0, 164, 27, 184, 0, 155, 83]
abbrev dktX0_init_7 : List UInt8 := dkwX0_init_7 ++ dktX0_init_8
def dkwX0_init_6 : List UInt8 := [187, 0, 124, 89, 183, 0, 191, 83, 89, 5, 187, 0, 124, 89, 183, 0, 191, 83, 89, 6, 187, 0, 124, 89]
abbrev dktX0_init_6 : List UInt8 := dkwX0_init_6 ++ dktX0_init_7
def dkwX0_init_5 : List UInt8 := [197, 0, 171, 2, 181, 0, 188, 42, 7, 189, 0, 124, 89, 3, 187, 0, 124, 89, 183, 0, 191, 83, 89, 4]
abbrev dktX0_init_5 : List UInt8 := dkwX0_init_5 ++ dktX0_init_6
def dkwX0_init_4 : List UInt8 := [197, 0, 171, 2, 181, 0, 182, 42, 187, 0, 76, 89, 183, 0, 154, 181, 0, 185, 42, 16, 8, 6]
abbrev dktX0_init_4 : List UInt8 := dkwX0_init_4 ++ dktX0_init_5
def dkwX0_init_3 : List UInt8 := [181, 0, 173, 42, 2, 181, 0, 176, 42, 187, 0, 76, 89, 183, 0, 154, 181, 0, 179, 42, 16, 10, 16, 20]
abbrev dktX0_init_3 : List UInt8 := dkwX0_init_3 ++ dktX0_init_4
def dkwX0_init_2 : List UInt8 := [189, 0, 163, 181, 0, 164, 42, 16, 12, 188, 10, 181, 0, 168, 42, 16, 20, 16, 12, 197, 0, 171, 2]
abbrev dktX0_init_2 : List UInt8 := dkwX0_init_2 ++ dktX0_init_3
def dkwX0_init_1 : List UInt8 := [181, 0, 26, 42, 187, 0, 76, 89, 183, 0, 154, 181, 0, 102, 42, 184, 0, 155, 181, 0, 159, 42, 16, 20]
abbrev dktX0_init_1 : List UInt8 := dkwX0_init_1 ++ dktX0_init_2
def dkwX0_init_0 : List UInt8 := [42, 183, 0, 149, 42, 187, 0, 57, 89, 183, 0, 152, 181, 0, 22, 42, 187, 0, 70, 89, 183, 0, 153]
abbrev dktX0_init_0 : List UInt8 := dkwX0_init_0 ++ dktX0_init_1
theorem dksX0_init_0 : cX0_init.data.toList.drop 0 = dktX0_init_0 := by decide +kernel
theorem dksX0_init_1 : cX0_init.data.toList.drop 23 = dktX0_init_1 := dk_seg dksX0_init_0 23 rfl rfl
theorem dksX0_init_2 : cX0_init.data.toList.drop 47 = dktX0_init_2 := dk_seg dksX0_init_1 24 rfl rfl
theorem dksX0_init_3 : cX0_init.data.toList.drop 70 = dktX0_init_3 := dk_seg dksX0_init_2 23 rfl rfl
theorem dksX0_init_4 : cX0_init.data.toList.drop 94 = dktX0_init_4 := dk_seg dksX0_init_3 24 rfl rfl
theorem dksX0_init_5 : cX0_init.data.toList.drop 116 = dktX0_init_5 := dk_seg dksX0_init_4 22 rfl rfl
theorem dksX0_init_6 : cX0_init.data.toList.drop 140 = dktX0_init_6 := dk_seg dksX0_init_5 24 rfl rfl
theorem dksX0_init_7 : cX0_init.data.toList.drop 164 = dktX0_init_7 := dk_seg dksX0_init_6 24 rfl rfl
theorem dksX0_init_8 : cX0_init.data.toList.drop 188 = dktX0_init_8 := dk_seg dksX0_init_7 24 rfl rfl
theorem dX0_init_0 : decode cX0_init 0 = .ok (.aload_n 0, 1) := dk_42 (dk_at dksX0_init_0 0 rfl rfl)
theorem dX0_init_1 : decode cX0_init 1 = .ok (.invokespecial 149, 3) := dk_183 0 149 (dk_at dksX0_init_0 1 rfl rfl)
theorem dX0_init_4 : decode cX0_init 4 = .ok (.aload_n 0, 1) := dk_42 (dk_at dksX0_init_0 4 rfl rfl)
theorem dX0_init_5 : decode cX0_init 5 = .ok (.new 57, 3) := dk_187 0 57 (dk_at dksX0_init_0 5 rfl rfl)
theorem dX0_init_8 : decode cX0_init 8 = .ok (.dup, 1) := dk_89 (dk_at dksX0_init_0 8 rfl rfl)
theorem dX0_init_9 : decode cX0_init 9 = .ok (.invokespecial 152, 3) := dk_183 0 152 (dk_at dksX0_init_0 9 rfl rfl)
theorem dX0_init_12 : decode cX0_init 12 = .ok (.putfield 22, 3) := dk_181 0 22 (dk_at dksX0_init_0 12 rfl rfl)
theorem dX0_init_15 : decode cX0_init 15 = .ok (.aload_n 0, 1) := dk_42 (dk_at dksX0_init_0 15 rfl rfl)
theorem dX0_init_16 : decode cX0_init 16 = .ok (.new 70, 3) := dk_187 0 70 (dk_at dksX0_init_0 16 rfl rfl)
theorem dX0_init_19 : decode cX0_init 19 = .ok (.dup, 1) := dk_89 (dk_at dksX0_init_0 19 rfl rfl)
theorem dX0_init_20 : decode cX0_init 20 = .ok (.invokespecial 153, 3) := dk_183 0 153 (dk_at dksX0_init_0 20 rfl rfl)
theorem dX0_init_23 : decode cX0_init 23 = .ok (.putfield 26, 3) := dk_181 0 26 (dk_at dksX0_init_1 0 rfl rfl)
theorem dX0_init_26 : decode cX0_init 26 = .ok (.aload_n 0, 1) := dk_42 (dk_at dksX0_init_1 3 rfl rfl)
theorem dX0_init_27 : decode cX0_init 27 = .ok (.new 76, 3) := dk_187 0 76 (dk_at dksX0_init_1 4 rfl rfl)
theorem dX0_init_30 : decode cX0_init 30 = .ok (.dup, 1) := dk_89 (dk_at dksX0_init_1 7 rfl rfl)
theorem dX0_init_31 : decode cX0_init 31 = .ok (.invokespecial 154, 3) := dk_183 0 154 (dk_at dksX0_init_1 8 rfl rfl)
theorem dX0_init_34 : decode cX0_init 34 = .ok (.putfield 102, 3) := dk_181 0 102 (dk_at dksX0_init_1 11 rfl rfl)
theorem dX0_init_37 : decode cX0_init 37 = .ok (.aload_n 0, 1) := dk_42 (dk_at dksX0_init_1 14 rfl rfl)
theorem dX0_init_38 : decode cX0_init 38 = .ok (.invokestatic 155, 3) := dk_184 0 155 (dk_at dksX0_init_1 15 rfl rfl)
theorem dX0_init_41 : decode cX0_init 41 = .ok (.putfield 159, 3) := dk_181 0 159 (dk_at dksX0_init_1 18 rfl rfl)
theorem dX0_init_44 : decode cX0_init 44 = .ok (.aload_n 0, 1) := dk_42 (dk_at dksX0_init_1 21 rfl rfl)
theorem dX0_init_45 : decode cX0_init 45 = .ok (.bipush 20, 2) := dk_16 20 (dk_at dksX0_init_1 22 rfl rfl)
theorem dX0_init_47 : decode cX0_init 47 = .ok (.anewarray 163, 3) := dk_189 0 163 (dk_at dksX0_init_2 0 rfl rfl)
theorem dX0_init_50 : decode cX0_init 50 = .ok (.putfield 164, 3) := dk_181 0 164 (dk_at dksX0_init_2 3 rfl rfl)
theorem dX0_init_53 : decode cX0_init 53 = .ok (.aload_n 0, 1) := dk_42 (dk_at dksX0_init_2 6 rfl rfl)
theorem dX0_init_54 : decode cX0_init 54 = .ok (.bipush 12, 2) := dk_16 12 (dk_at dksX0_init_2 7 rfl rfl)
theorem dX0_init_56 : decode cX0_init 56 = .ok (.newarray .int, 2) := dk_188_10 (dk_at dksX0_init_2 9 rfl rfl)
theorem dX0_init_58 : decode cX0_init 58 = .ok (.putfield 168, 3) := dk_181 0 168 (dk_at dksX0_init_2 11 rfl rfl)
theorem dX0_init_61 : decode cX0_init 61 = .ok (.aload_n 0, 1) := dk_42 (dk_at dksX0_init_2 14 rfl rfl)
theorem dX0_init_62 : decode cX0_init 62 = .ok (.bipush 20, 2) := dk_16 20 (dk_at dksX0_init_2 15 rfl rfl)
theorem dX0_init_64 : decode cX0_init 64 = .ok (.bipush 12, 2) := dk_16 12 (dk_at dksX0_init_2 17 rfl rfl)
theorem dX0_init_66 : decode cX0_init 66 = .ok (.multianewarray 171 2, 4) := by decide +kernel
theorem dX0_init_70 : decode cX0_init 70 = .ok (.putfield 173, 3) := dk_181 0 173 (dk_at dksX0_init_3 0 rfl rfl)
theorem dX0_init_73 : decode cX0_init 73 = .ok (.aload_n 0, 1) := dk_42 (dk_at dksX0_init_3 3 rfl rfl)
theorem dX0_init_74 : decode cX0_init 74 = .ok (.iconst (-1), 1) := dk_2 (dk_at dksX0_init_3 4 rfl rfl)
theorem dX0_init_75 : decode cX0_init 75 = .ok (.putfield 176, 3) := dk_181 0 176 (dk_at dksX0_init_3 5 rfl rfl)
theorem dX0_init_78 : decode cX0_init 78 = .ok (.aload_n 0, 1) := dk_42 (dk_at dksX0_init_3 8 rfl rfl)
theorem dX0_init_79 : decode cX0_init 79 = .ok (.new 76, 3) := dk_187 0 76 (dk_at dksX0_init_3 9 rfl rfl)
theorem dX0_init_82 : decode cX0_init 82 = .ok (.dup, 1) := dk_89 (dk_at dksX0_init_3 12 rfl rfl)
theorem dX0_init_83 : decode cX0_init 83 = .ok (.invokespecial 154, 3) := dk_183 0 154 (dk_at dksX0_init_3 13 rfl rfl)
theorem dX0_init_86 : decode cX0_init 86 = .ok (.putfield 179, 3) := dk_181 0 179 (dk_at dksX0_init_3 16 rfl rfl)
theorem dX0_init_89 : decode cX0_init 89 = .ok (.aload_n 0, 1) := dk_42 (dk_at dksX0_init_3 19 rfl rfl)
theorem dX0_init_90 : decode cX0_init 90 = .ok (.bipush 10, 2) := dk_16 10 (dk_at dksX0_init_3 20 rfl rfl)
theorem dX0_init_92 : decode cX0_init 92 = .ok (.bipush 20, 2) := dk_16 20 (dk_at dksX0_init_3 22 rfl rfl)
theorem dX0_init_94 : decode cX0_init 94 = .ok (.multianewarray 171 2, 4) := by decide +kernel
theorem dX0_init_98 : decode cX0_init 98 = .ok (.putfield 182, 3) := dk_181 0 182 (dk_at dksX0_init_4 4 rfl rfl)
theorem dX0_init_101 : decode cX0_init 101 = .ok (.aload_n 0, 1) := dk_42 (dk_at dksX0_init_4 7 rfl rfl)
theorem dX0_init_102 : decode cX0_init 102 = .ok (.new 76, 3) := dk_187 0 76 (dk_at dksX0_init_4 8 rfl rfl)
theorem dX0_init_105 : decode cX0_init 105 = .ok (.dup, 1) := dk_89 (dk_at dksX0_init_4 11 rfl rfl)
theorem dX0_init_106 : decode cX0_init 106 = .ok (.invokespecial 154, 3) := dk_183 0 154 (dk_at dksX0_init_4 12 rfl rfl)
theorem dX0_init_109 : decode cX0_init 109 = .ok (.putfield 185, 3) := dk_181 0 185 (dk_at dksX0_init_4 15 rfl rfl)
theorem dX0_init_112 : decode cX0_init 112 = .ok (.aload_n 0, 1) := dk_42 (dk_at dksX0_init_4 18 rfl rfl)
theorem dX0_init_113 : decode cX0_init 113 = .ok (.bipush 8, 2) := dk_16 8 (dk_at dksX0_init_4 19 rfl rfl)
theorem dX0_init_115 : decode cX0_init 115 = .ok (.iconst 3, 1) := dk_6 (dk_at dksX0_init_4 21 rfl rfl)
theorem dX0_init_116 : decode cX0_init 116 = .ok (.multianewarray 171 2, 4) := by decide +kernel
theorem dX0_init_120 : decode cX0_init 120 = .ok (.putfield 188, 3) := dk_181 0 188 (dk_at dksX0_init_5 4 rfl rfl)
theorem dX0_init_123 : decode cX0_init 123 = .ok (.aload_n 0, 1) := dk_42 (dk_at dksX0_init_5 7 rfl rfl)
theorem dX0_init_124 : decode cX0_init 124 = .ok (.iconst 4, 1) := dk_7 (dk_at dksX0_init_5 8 rfl rfl)
theorem dX0_init_125 : decode cX0_init 125 = .ok (.anewarray 124, 3) := dk_189 0 124 (dk_at dksX0_init_5 9 rfl rfl)
theorem dX0_init_128 : decode cX0_init 128 = .ok (.dup, 1) := dk_89 (dk_at dksX0_init_5 12 rfl rfl)
theorem dX0_init_129 : decode cX0_init 129 = .ok (.iconst 0, 1) := dk_3 (dk_at dksX0_init_5 13 rfl rfl)
theorem dX0_init_130 : decode cX0_init 130 = .ok (.new 124, 3) := dk_187 0 124 (dk_at dksX0_init_5 14 rfl rfl)
theorem dX0_init_133 : decode cX0_init 133 = .ok (.dup, 1) := dk_89 (dk_at dksX0_init_5 17 rfl rfl)
theorem dX0_init_134 : decode cX0_init 134 = .ok (.invokespecial 191, 3) := dk_183 0 191 (dk_at dksX0_init_5 18 rfl rfl)
theorem dX0_init_137 : decode cX0_init 137 = .ok (.aastore, 1) := dk_83 (dk_at dksX0_init_5 21 rfl rfl)
theorem dX0_init_138 : decode cX0_init 138 = .ok (.dup, 1) := dk_89 (dk_at dksX0_init_5 22 rfl rfl)
theorem dX0_init_139 : decode cX0_init 139 = .ok (.iconst 1, 1) := dk_4 (dk_at dksX0_init_5 23 rfl rfl)
theorem dX0_init_140 : decode cX0_init 140 = .ok (.new 124, 3) := dk_187 0 124 (dk_at dksX0_init_6 0 rfl rfl)
theorem dX0_init_143 : decode cX0_init 143 = .ok (.dup, 1) := dk_89 (dk_at dksX0_init_6 3 rfl rfl)
theorem dX0_init_144 : decode cX0_init 144 = .ok (.invokespecial 191, 3) := dk_183 0 191 (dk_at dksX0_init_6 4 rfl rfl)
theorem dX0_init_147 : decode cX0_init 147 = .ok (.aastore, 1) := dk_83 (dk_at dksX0_init_6 7 rfl rfl)
theorem dX0_init_148 : decode cX0_init 148 = .ok (.dup, 1) := dk_89 (dk_at dksX0_init_6 8 rfl rfl)
theorem dX0_init_149 : decode cX0_init 149 = .ok (.iconst 2, 1) := dk_5 (dk_at dksX0_init_6 9 rfl rfl)
theorem dX0_init_150 : decode cX0_init 150 = .ok (.new 124, 3) := dk_187 0 124 (dk_at dksX0_init_6 10 rfl rfl)
theorem dX0_init_153 : decode cX0_init 153 = .ok (.dup, 1) := dk_89 (dk_at dksX0_init_6 13 rfl rfl)
theorem dX0_init_154 : decode cX0_init 154 = .ok (.invokespecial 191, 3) := dk_183 0 191 (dk_at dksX0_init_6 14 rfl rfl)
theorem dX0_init_157 : decode cX0_init 157 = .ok (.aastore, 1) := dk_83 (dk_at dksX0_init_6 17 rfl rfl)
theorem dX0_init_158 : decode cX0_init 158 = .ok (.dup, 1) := dk_89 (dk_at dksX0_init_6 18 rfl rfl)
theorem dX0_init_159 : decode cX0_init 159 = .ok (.iconst 3, 1) := dk_6 (dk_at dksX0_init_6 19 rfl rfl)
theorem dX0_init_160 : decode cX0_init 160 = .ok (.new 124, 3) := dk_187 0 124 (dk_at dksX0_init_6 20 rfl rfl)
theorem dX0_init_163 : decode cX0_init 163 = .ok (.dup, 1) := dk_89 (dk_at dksX0_init_6 23 rfl rfl)
theorem dX0_init_164 : decode cX0_init 164 = .ok (.invokespecial 191, 3) := dk_183 0 191 (dk_at dksX0_init_7 0 rfl rfl)
theorem dX0_init_167 : decode cX0_init 167 = .ok (.aastore, 1) := dk_83 (dk_at dksX0_init_7 3 rfl rfl)
theorem dX0_init_168 : decode cX0_init 168 = .ok (.putfield 119, 3) := dk_181 0 119 (dk_at dksX0_init_7 4 rfl rfl)
theorem dX0_init_171 : decode cX0_init 171 = .ok (.iconst 0, 1) := dk_3 (dk_at dksX0_init_7 7 rfl rfl)
theorem dX0_init_172 : decode cX0_init 172 = .ok (.istore_n 1, 1) := dk_60 (dk_at dksX0_init_7 8 rfl rfl)
theorem dX0_init_173 : decode cX0_init 173 = .ok (.iload_n 1, 1) := dk_27 (dk_at dksX0_init_7 9 rfl rfl)
theorem dX0_init_174 : decode cX0_init 174 = .ok (.bipush 20, 2) := dk_16 20 (dk_at dksX0_init_7 10 rfl rfl)
theorem dX0_init_176 : decode cX0_init 176 = .ok (.if_icmp .ge 18, 3) := dk_162 0 18 (dk_at dksX0_init_7 12 rfl rfl)
theorem dX0_init_179 : decode cX0_init 179 = .ok (.aload_n 0, 1) := dk_42 (dk_at dksX0_init_7 15 rfl rfl)
theorem dX0_init_180 : decode cX0_init 180 = .ok (.getfield 164, 3) := dk_180 0 164 (dk_at dksX0_init_7 16 rfl rfl)
theorem dX0_init_183 : decode cX0_init 183 = .ok (.iload_n 1, 1) := dk_27 (dk_at dksX0_init_7 19 rfl rfl)
theorem dX0_init_184 : decode cX0_init 184 = .ok (.invokestatic 155, 3) := dk_184 0 155 (dk_at dksX0_init_7 20 rfl rfl)
theorem dX0_init_187 : decode cX0_init 187 = .ok (.aastore, 1) := dk_83 (dk_at dksX0_init_7 23 rfl rfl)
theorem dX0_init_188 : decode cX0_init 188 = .ok (.iinc 1 1, 3) := dk_132 1 1 (dk_at dksX0_init_8 0 rfl rfl)
theorem dX0_init_191 : decode cX0_init 191 = .ok (.goto (-18), 3) := dk_167 255 238 (dk_at dksX0_init_8 3 rfl rfl)
theorem dX0_init_194 : decode cX0_init 194 = .ok (.return_, 1) := dk_177 (dk_at dksX0_init_8 6 rfl rfl)
abbrev cX0_lice : ByteArray := prog_1_method_22_code
def yX0_lice : MethodName := ⟨RX0, "lice", "()[LWoodliceSenate$Louse;"⟩
def dkwX0_lice_1 : List UInt8 := [132, 1, 1, 167, 255, 237, 42, 176]
abbrev dktX0_lice_1 : List UInt8 := dkwX0_lice_1 ++ []
def dkwX0_lice_0 : List UInt8 := [16, 8, 189, 0, 143, 75, 3, 60, 27, 16, 8, 162, 0, 19, 42, 27, 187, 0, 143, 89, 183, 0, 145, 83]
abbrev dktX0_lice_0 : List UInt8 := dkwX0_lice_0 ++ dktX0_lice_1
theorem dksX0_lice_0 : cX0_lice.data.toList.drop 0 = dktX0_lice_0 := by decide +kernel
theorem dksX0_lice_1 : cX0_lice.data.toList.drop 24 = dktX0_lice_1 := dk_seg dksX0_lice_0 24 rfl rfl
theorem dX0_lice_0 : decode cX0_lice 0 = .ok (.bipush 8, 2) := dk_16 8 (dk_at dksX0_lice_0 0 rfl rfl)
theorem dX0_lice_2 : decode cX0_lice 2 = .ok (.anewarray 143, 3) := dk_189 0 143 (dk_at dksX0_lice_0 2 rfl rfl)
theorem dX0_lice_5 : decode cX0_lice 5 = .ok (.astore_n 0, 1) := dk_75 (dk_at dksX0_lice_0 5 rfl rfl)
theorem dX0_lice_6 : decode cX0_lice 6 = .ok (.iconst 0, 1) := dk_3 (dk_at dksX0_lice_0 6 rfl rfl)
theorem dX0_lice_7 : decode cX0_lice 7 = .ok (.istore_n 1, 1) := dk_60 (dk_at dksX0_lice_0 7 rfl rfl)
theorem dX0_lice_8 : decode cX0_lice 8 = .ok (.iload_n 1, 1) := dk_27 (dk_at dksX0_lice_0 8 rfl rfl)
theorem dX0_lice_9 : decode cX0_lice 9 = .ok (.bipush 8, 2) := dk_16 8 (dk_at dksX0_lice_0 9 rfl rfl)
theorem dX0_lice_11 : decode cX0_lice 11 = .ok (.if_icmp .ge 19, 3) := dk_162 0 19 (dk_at dksX0_lice_0 11 rfl rfl)
theorem dX0_lice_14 : decode cX0_lice 14 = .ok (.aload_n 0, 1) := dk_42 (dk_at dksX0_lice_0 14 rfl rfl)
theorem dX0_lice_15 : decode cX0_lice 15 = .ok (.iload_n 1, 1) := dk_27 (dk_at dksX0_lice_0 15 rfl rfl)
theorem dX0_lice_16 : decode cX0_lice 16 = .ok (.new 143, 3) := dk_187 0 143 (dk_at dksX0_lice_0 16 rfl rfl)
theorem dX0_lice_19 : decode cX0_lice 19 = .ok (.dup, 1) := dk_89 (dk_at dksX0_lice_0 19 rfl rfl)
theorem dX0_lice_20 : decode cX0_lice 20 = .ok (.invokespecial 145, 3) := dk_183 0 145 (dk_at dksX0_lice_0 20 rfl rfl)
theorem dX0_lice_23 : decode cX0_lice 23 = .ok (.aastore, 1) := dk_83 (dk_at dksX0_lice_0 23 rfl rfl)
theorem dX0_lice_24 : decode cX0_lice 24 = .ok (.iinc 1 1, 3) := dk_132 1 1 (dk_at dksX0_lice_1 0 rfl rfl)
theorem dX0_lice_27 : decode cX0_lice 27 = .ok (.goto (-19), 3) := dk_167 255 237 (dk_at dksX0_lice_1 3 rfl rfl)
theorem dX0_lice_30 : decode cX0_lice 30 = .ok (.aload_n 0, 1) := dk_42 (dk_at dksX0_lice_1 6 rfl rfl)
theorem dX0_lice_31 : decode cX0_lice 31 = .ok (.areturn, 1) := dk_176 (dk_at dksX0_lice_1 7 rfl rfl)
abbrev cX0_damp : ByteArray := prog_1_method_36_code
def yX0_damp : MethodName := ⟨RX0, "damp", "(III)I"⟩
def dkwX0_damp_1 : List UInt8 := [153, 0, 13, 42, 27, 28, 29, 182, 1, 40, 167, 0, 5, 16, 254, 172]
abbrev dktX0_damp_1 : List UInt8 := dkwX0_damp_1 ++ []
def dkwX0_damp_0 : List UInt8 := [42, 182, 1, 37, 27, 184, 0, 99, 153, 0, 27, 28, 184, 0, 63, 153, 0, 20, 29, 184, 0, 30]
abbrev dktX0_damp_0 : List UInt8 := dkwX0_damp_0 ++ dktX0_damp_1
theorem dksX0_damp_0 : cX0_damp.data.toList.drop 0 = dktX0_damp_0 := by decide +kernel
theorem dksX0_damp_1 : cX0_damp.data.toList.drop 22 = dktX0_damp_1 := dk_seg dksX0_damp_0 22 rfl rfl
theorem dX0_damp_0 : decode cX0_damp 0 = .ok (.aload_n 0, 1) := dk_42 (dk_at dksX0_damp_0 0 rfl rfl)
theorem dX0_damp_1 : decode cX0_damp 1 = .ok (.invokevirtual 293, 3) := dk_182 1 37 (dk_at dksX0_damp_0 1 rfl rfl)
theorem dX0_damp_4 : decode cX0_damp 4 = .ok (.iload_n 1, 1) := dk_27 (dk_at dksX0_damp_0 4 rfl rfl)
theorem dX0_damp_5 : decode cX0_damp 5 = .ok (.invokestatic 99, 3) := dk_184 0 99 (dk_at dksX0_damp_0 5 rfl rfl)
theorem dX0_damp_8 : decode cX0_damp 8 = .ok (.ifCond .eq 27, 3) := dk_153 0 27 (dk_at dksX0_damp_0 8 rfl rfl)
theorem dX0_damp_11 : decode cX0_damp 11 = .ok (.iload_n 2, 1) := dk_28 (dk_at dksX0_damp_0 11 rfl rfl)
theorem dX0_damp_12 : decode cX0_damp 12 = .ok (.invokestatic 63, 3) := dk_184 0 63 (dk_at dksX0_damp_0 12 rfl rfl)
theorem dX0_damp_15 : decode cX0_damp 15 = .ok (.ifCond .eq 20, 3) := dk_153 0 20 (dk_at dksX0_damp_0 15 rfl rfl)
theorem dX0_damp_18 : decode cX0_damp 18 = .ok (.iload_n 3, 1) := dk_29 (dk_at dksX0_damp_0 18 rfl rfl)
theorem dX0_damp_19 : decode cX0_damp 19 = .ok (.invokestatic 30, 3) := dk_184 0 30 (dk_at dksX0_damp_0 19 rfl rfl)
theorem dX0_damp_22 : decode cX0_damp 22 = .ok (.ifCond .eq 13, 3) := dk_153 0 13 (dk_at dksX0_damp_1 0 rfl rfl)
theorem dX0_damp_25 : decode cX0_damp 25 = .ok (.aload_n 0, 1) := dk_42 (dk_at dksX0_damp_1 3 rfl rfl)
theorem dX0_damp_26 : decode cX0_damp 26 = .ok (.iload_n 1, 1) := dk_27 (dk_at dksX0_damp_1 4 rfl rfl)
theorem dX0_damp_27 : decode cX0_damp 27 = .ok (.iload_n 2, 1) := dk_28 (dk_at dksX0_damp_1 5 rfl rfl)
theorem dX0_damp_28 : decode cX0_damp 28 = .ok (.iload_n 3, 1) := dk_29 (dk_at dksX0_damp_1 6 rfl rfl)
theorem dX0_damp_29 : decode cX0_damp 29 = .ok (.invokevirtual 296, 3) := dk_182 1 40 (dk_at dksX0_damp_1 7 rfl rfl)
theorem dX0_damp_32 : decode cX0_damp 32 = .ok (.goto 5, 3) := dk_167 0 5 (dk_at dksX0_damp_1 10 rfl rfl)
theorem dX0_damp_35 : decode cX0_damp 35 = .ok (.bipush (-2), 2) := dk_16 254 (dk_at dksX0_damp_1 13 rfl rfl)
theorem dX0_damp_37 : decode cX0_damp 37 = .ok (.ireturn, 1) := dk_172 (dk_at dksX0_damp_1 15 rfl rfl)
abbrev cX0_find : ByteArray := prog_1_method_34_code
def yX0_find : MethodName := ⟨RX0, "find", "()V"⟩
def dkwX0_find_3 : List UInt8 := [162, 0, 14, 42, 27, 182, 1, 34, 132, 1, 1, 167, 255, 242, 177]
abbrev dktX0_find_3 : List UInt8 := dkwX0_find_3 ++ []
def dkwX0_find_2 : List UInt8 := [180, 0, 72, 27, 182, 0, 88, 192, 0, 92, 182, 1, 30, 132, 1, 1, 167, 255, 222, 3, 60, 27, 16, 20]
abbrev dktX0_find_2 : List UInt8 := dkwX0_find_2 ++ dktX0_find_3
def dkwX0_find_1 : List UInt8 := [184, 1, 24, 3, 60, 27, 42, 182, 0, 80, 162, 0, 32, 42, 180, 0, 159, 27, 50, 42, 180, 0, 26]
abbrev dktX0_find_1 : List UInt8 := dkwX0_find_1 ++ dktX0_find_2
def dkwX0_find_0 : List UInt8 := [42, 180, 0, 22, 182, 0, 56, 87, 42, 180, 0, 22, 180, 0, 59, 3, 42, 180, 0, 168, 3, 16, 12]
abbrev dktX0_find_0 : List UInt8 := dkwX0_find_0 ++ dktX0_find_1
theorem dksX0_find_0 : cX0_find.data.toList.drop 0 = dktX0_find_0 := by decide +kernel
theorem dksX0_find_1 : cX0_find.data.toList.drop 23 = dktX0_find_1 := dk_seg dksX0_find_0 23 rfl rfl
theorem dksX0_find_2 : cX0_find.data.toList.drop 46 = dktX0_find_2 := dk_seg dksX0_find_1 23 rfl rfl
theorem dksX0_find_3 : cX0_find.data.toList.drop 70 = dktX0_find_3 := dk_seg dksX0_find_2 24 rfl rfl
theorem dX0_find_0 : decode cX0_find 0 = .ok (.aload_n 0, 1) := dk_42 (dk_at dksX0_find_0 0 rfl rfl)
theorem dX0_find_1 : decode cX0_find 1 = .ok (.getfield 22, 3) := dk_180 0 22 (dk_at dksX0_find_0 1 rfl rfl)
theorem dX0_find_4 : decode cX0_find 4 = .ok (.invokevirtual 56, 3) := dk_182 0 56 (dk_at dksX0_find_0 4 rfl rfl)
theorem dX0_find_7 : decode cX0_find 7 = .ok (.pop, 1) := dk_87 (dk_at dksX0_find_0 7 rfl rfl)
theorem dX0_find_8 : decode cX0_find 8 = .ok (.aload_n 0, 1) := dk_42 (dk_at dksX0_find_0 8 rfl rfl)
theorem dX0_find_9 : decode cX0_find 9 = .ok (.getfield 22, 3) := dk_180 0 22 (dk_at dksX0_find_0 9 rfl rfl)
theorem dX0_find_12 : decode cX0_find 12 = .ok (.getfield 59, 3) := dk_180 0 59 (dk_at dksX0_find_0 12 rfl rfl)
theorem dX0_find_15 : decode cX0_find 15 = .ok (.iconst 0, 1) := dk_3 (dk_at dksX0_find_0 15 rfl rfl)
theorem dX0_find_16 : decode cX0_find 16 = .ok (.aload_n 0, 1) := dk_42 (dk_at dksX0_find_0 16 rfl rfl)
theorem dX0_find_17 : decode cX0_find 17 = .ok (.getfield 168, 3) := dk_180 0 168 (dk_at dksX0_find_0 17 rfl rfl)
theorem dX0_find_20 : decode cX0_find 20 = .ok (.iconst 0, 1) := dk_3 (dk_at dksX0_find_0 20 rfl rfl)
theorem dX0_find_21 : decode cX0_find 21 = .ok (.bipush 12, 2) := dk_16 12 (dk_at dksX0_find_0 21 rfl rfl)
theorem dX0_find_23 : decode cX0_find 23 = .ok (.invokestatic 280, 3) := dk_184 1 24 (dk_at dksX0_find_1 0 rfl rfl)
theorem dX0_find_26 : decode cX0_find 26 = .ok (.iconst 0, 1) := dk_3 (dk_at dksX0_find_1 3 rfl rfl)
theorem dX0_find_27 : decode cX0_find 27 = .ok (.istore_n 1, 1) := dk_60 (dk_at dksX0_find_1 4 rfl rfl)
theorem dX0_find_28 : decode cX0_find 28 = .ok (.iload_n 1, 1) := dk_27 (dk_at dksX0_find_1 5 rfl rfl)
theorem dX0_find_29 : decode cX0_find 29 = .ok (.aload_n 0, 1) := dk_42 (dk_at dksX0_find_1 6 rfl rfl)
theorem dX0_find_30 : decode cX0_find 30 = .ok (.invokevirtual 80, 3) := dk_182 0 80 (dk_at dksX0_find_1 7 rfl rfl)
theorem dX0_find_33 : decode cX0_find 33 = .ok (.if_icmp .ge 32, 3) := dk_162 0 32 (dk_at dksX0_find_1 10 rfl rfl)
theorem dX0_find_36 : decode cX0_find 36 = .ok (.aload_n 0, 1) := dk_42 (dk_at dksX0_find_1 13 rfl rfl)
theorem dX0_find_37 : decode cX0_find 37 = .ok (.getfield 159, 3) := dk_180 0 159 (dk_at dksX0_find_1 14 rfl rfl)
theorem dX0_find_40 : decode cX0_find 40 = .ok (.iload_n 1, 1) := dk_27 (dk_at dksX0_find_1 17 rfl rfl)
theorem dX0_find_41 : decode cX0_find 41 = .ok (.aaload, 1) := dk_50 (dk_at dksX0_find_1 18 rfl rfl)
theorem dX0_find_42 : decode cX0_find 42 = .ok (.aload_n 0, 1) := dk_42 (dk_at dksX0_find_1 19 rfl rfl)
theorem dX0_find_43 : decode cX0_find 43 = .ok (.getfield 26, 3) := dk_180 0 26 (dk_at dksX0_find_1 20 rfl rfl)
theorem dX0_find_46 : decode cX0_find 46 = .ok (.getfield 72, 3) := dk_180 0 72 (dk_at dksX0_find_2 0 rfl rfl)
theorem dX0_find_49 : decode cX0_find 49 = .ok (.iload_n 1, 1) := dk_27 (dk_at dksX0_find_2 3 rfl rfl)
theorem dX0_find_50 : decode cX0_find 50 = .ok (.invokevirtual 88, 3) := dk_182 0 88 (dk_at dksX0_find_2 4 rfl rfl)
theorem dX0_find_53 : decode cX0_find 53 = .ok (.checkcast 92, 3) := dk_192 0 92 (dk_at dksX0_find_2 7 rfl rfl)
theorem dX0_find_56 : decode cX0_find 56 = .ok (.invokevirtual 286, 3) := dk_182 1 30 (dk_at dksX0_find_2 10 rfl rfl)
theorem dX0_find_59 : decode cX0_find 59 = .ok (.iinc 1 1, 3) := dk_132 1 1 (dk_at dksX0_find_2 13 rfl rfl)
theorem dX0_find_62 : decode cX0_find 62 = .ok (.goto (-34), 3) := dk_167 255 222 (dk_at dksX0_find_2 16 rfl rfl)
theorem dX0_find_65 : decode cX0_find 65 = .ok (.iconst 0, 1) := dk_3 (dk_at dksX0_find_2 19 rfl rfl)
theorem dX0_find_66 : decode cX0_find 66 = .ok (.istore_n 1, 1) := dk_60 (dk_at dksX0_find_2 20 rfl rfl)
theorem dX0_find_67 : decode cX0_find 67 = .ok (.iload_n 1, 1) := dk_27 (dk_at dksX0_find_2 21 rfl rfl)
theorem dX0_find_68 : decode cX0_find 68 = .ok (.bipush 20, 2) := dk_16 20 (dk_at dksX0_find_2 22 rfl rfl)
theorem dX0_find_70 : decode cX0_find 70 = .ok (.if_icmp .ge 14, 3) := dk_162 0 14 (dk_at dksX0_find_3 0 rfl rfl)
theorem dX0_find_73 : decode cX0_find 73 = .ok (.aload_n 0, 1) := dk_42 (dk_at dksX0_find_3 3 rfl rfl)
theorem dX0_find_74 : decode cX0_find 74 = .ok (.iload_n 1, 1) := dk_27 (dk_at dksX0_find_3 4 rfl rfl)
theorem dX0_find_75 : decode cX0_find 75 = .ok (.invokevirtual 290, 3) := dk_182 1 34 (dk_at dksX0_find_3 5 rfl rfl)
theorem dX0_find_78 : decode cX0_find 78 = .ok (.iinc 1 1, 3) := dk_132 1 1 (dk_at dksX0_find_3 8 rfl rfl)
theorem dX0_find_81 : decode cX0_find 81 = .ok (.goto (-14), 3) := dk_167 255 242 (dk_at dksX0_find_3 11 rfl rfl)
theorem dX0_find_84 : decode cX0_find 84 = .ok (.return_, 1) := dk_177 (dk_at dksX0_find_3 14 rfl rfl)
abbrev cX0_passes : ByteArray := prog_1_method_33_code
def yX0_passes : MethodName := ⟨RX0, "passes", "(I)V"⟩
def dkwX0_passes_10 : List UInt8 := [180, 0, 168, 3, 42, 180, 0, 173, 27, 50, 3, 16, 12, 184, 1, 24, 177]
abbrev dktX0_passes_10 : List UInt8 := dkwX0_passes_10 ++ []
def dkwX0_passes_9 : List UInt8 := [180, 0, 164, 27, 50, 28, 50, 42, 180, 0, 159, 28, 50, 182, 1, 20, 132, 2, 1, 167, 255, 228, 42]
abbrev dktX0_passes_9 : List UInt8 := dkwX0_passes_9 ++ dktX0_passes_10
def dkwX0_passes_8 : List UInt8 := [167, 0, 4, 3, 100, 79, 132, 2, 1, 167, 255, 211, 3, 61, 28, 42, 182, 0, 80, 162, 0, 26, 42]
abbrev dktX0_passes_8 : List UInt8 := dkwX0_passes_8 ++ dktX0_passes_9
def dkwX0_passes_7 : List UInt8 := [42, 42, 180, 0, 159, 28, 182, 1, 16, 6, 161, 0, 16, 42, 180, 0, 168, 28, 46, 158, 0, 7, 4]
abbrev dktX0_passes_7 : List UInt8 := dkwX0_passes_7 ++ dktX0_passes_8
def dkwX0_passes_6 : List UInt8 := [182, 1, 12, 132, 2, 1, 167, 255, 239, 3, 61, 28, 16, 12, 162, 0, 45, 42, 180, 0, 168, 28, 92, 46]
abbrev dktX0_passes_6 : List UInt8 := dkwX0_passes_6 ++ dktX0_passes_7
def dkwX0_passes_5 : List UInt8 := [181, 0, 232, 132, 2, 1, 167, 255, 218, 3, 61, 28, 42, 182, 0, 80, 162, 0, 15, 42, 28, 27]
abbrev dktX0_passes_5 : List UInt8 := dkwX0_passes_5 ++ dktX0_passes_6
def dkwX0_passes_4 : List UInt8 := [180, 0, 159, 28, 50, 27, 42, 180, 0, 159, 28, 50, 180, 0, 201, 162, 0, 7, 4, 167, 0, 4, 3]
abbrev dktX0_passes_4 : List UInt8 := dkwX0_passes_4 ++ dktX0_passes_5
def dkwX0_passes_3 : List UInt8 := [180, 1, 6, 27, 42, 180, 1, 9, 182, 1, 2, 3, 61, 28, 42, 182, 0, 80, 162, 0, 36, 42]
abbrev dktX0_passes_3 : List UInt8 := dkwX0_passes_3 ++ dktX0_passes_4
def dkwX0_passes_2 : List UInt8 := [45, 5, 46, 182, 1, 2, 132, 2, 1, 167, 255, 201, 42, 180, 0, 176, 27, 160, 0, 16, 42, 42]
abbrev dktX0_passes_2 : List UInt8 := dkwX0_passes_2 ++ dktX0_passes_3
def dkwX0_passes_1 : List UInt8 := [78, 45, 4, 46, 27, 160, 0, 25, 42, 180, 0, 251, 28, 184, 0, 254, 154, 0, 14, 42, 45, 3, 46, 27]
abbrev dktX0_passes_1 : List UInt8 := dkwX0_passes_1 ++ dktX0_passes_2
def dkwX0_passes_0 : List UInt8 := [3, 61, 28, 42, 180, 0, 102, 182, 0, 75, 162, 0, 50, 42, 180, 0, 102, 28, 182, 0, 88, 192, 0, 250]
abbrev dktX0_passes_0 : List UInt8 := dkwX0_passes_0 ++ dktX0_passes_1
theorem dksX0_passes_0 : cX0_passes.data.toList.drop 0 = dktX0_passes_0 := by decide +kernel
theorem dksX0_passes_1 : cX0_passes.data.toList.drop 24 = dktX0_passes_1 := dk_seg dksX0_passes_0 24 rfl rfl
theorem dksX0_passes_2 : cX0_passes.data.toList.drop 48 = dktX0_passes_2 := dk_seg dksX0_passes_1 24 rfl rfl
theorem dksX0_passes_3 : cX0_passes.data.toList.drop 70 = dktX0_passes_3 := dk_seg dksX0_passes_2 22 rfl rfl
theorem dksX0_passes_4 : cX0_passes.data.toList.drop 92 = dktX0_passes_4 := dk_seg dksX0_passes_3 22 rfl rfl
theorem dksX0_passes_5 : cX0_passes.data.toList.drop 115 = dktX0_passes_5 := dk_seg dksX0_passes_4 23 rfl rfl
theorem dksX0_passes_6 : cX0_passes.data.toList.drop 137 = dktX0_passes_6 := dk_seg dksX0_passes_5 22 rfl rfl
theorem dksX0_passes_7 : cX0_passes.data.toList.drop 161 = dktX0_passes_7 := dk_seg dksX0_passes_6 24 rfl rfl
theorem dksX0_passes_8 : cX0_passes.data.toList.drop 184 = dktX0_passes_8 := dk_seg dksX0_passes_7 23 rfl rfl
theorem dksX0_passes_9 : cX0_passes.data.toList.drop 207 = dktX0_passes_9 := dk_seg dksX0_passes_8 23 rfl rfl
theorem dksX0_passes_10 : cX0_passes.data.toList.drop 230 = dktX0_passes_10 := dk_seg dksX0_passes_9 23 rfl rfl
theorem dX0_passes_0 : decode cX0_passes 0 = .ok (.iconst 0, 1) := dk_3 (dk_at dksX0_passes_0 0 rfl rfl)
theorem dX0_passes_1 : decode cX0_passes 1 = .ok (.istore_n 2, 1) := dk_61 (dk_at dksX0_passes_0 1 rfl rfl)
theorem dX0_passes_2 : decode cX0_passes 2 = .ok (.iload_n 2, 1) := dk_28 (dk_at dksX0_passes_0 2 rfl rfl)
theorem dX0_passes_3 : decode cX0_passes 3 = .ok (.aload_n 0, 1) := dk_42 (dk_at dksX0_passes_0 3 rfl rfl)
theorem dX0_passes_4 : decode cX0_passes 4 = .ok (.getfield 102, 3) := dk_180 0 102 (dk_at dksX0_passes_0 4 rfl rfl)
theorem dX0_passes_7 : decode cX0_passes 7 = .ok (.invokevirtual 75, 3) := dk_182 0 75 (dk_at dksX0_passes_0 7 rfl rfl)
theorem dX0_passes_10 : decode cX0_passes 10 = .ok (.if_icmp .ge 50, 3) := dk_162 0 50 (dk_at dksX0_passes_0 10 rfl rfl)
theorem dX0_passes_13 : decode cX0_passes 13 = .ok (.aload_n 0, 1) := dk_42 (dk_at dksX0_passes_0 13 rfl rfl)
theorem dX0_passes_14 : decode cX0_passes 14 = .ok (.getfield 102, 3) := dk_180 0 102 (dk_at dksX0_passes_0 14 rfl rfl)
theorem dX0_passes_17 : decode cX0_passes 17 = .ok (.iload_n 2, 1) := dk_28 (dk_at dksX0_passes_0 17 rfl rfl)
theorem dX0_passes_18 : decode cX0_passes 18 = .ok (.invokevirtual 88, 3) := dk_182 0 88 (dk_at dksX0_passes_0 18 rfl rfl)
theorem dX0_passes_21 : decode cX0_passes 21 = .ok (.checkcast 250, 3) := dk_192 0 250 (dk_at dksX0_passes_0 21 rfl rfl)
theorem dX0_passes_24 : decode cX0_passes 24 = .ok (.astore_n 3, 1) := dk_78 (dk_at dksX0_passes_1 0 rfl rfl)
theorem dX0_passes_25 : decode cX0_passes 25 = .ok (.aload_n 3, 1) := dk_45 (dk_at dksX0_passes_1 1 rfl rfl)
theorem dX0_passes_26 : decode cX0_passes 26 = .ok (.iconst 1, 1) := dk_4 (dk_at dksX0_passes_1 2 rfl rfl)
theorem dX0_passes_27 : decode cX0_passes 27 = .ok (.iaload, 1) := dk_46 (dk_at dksX0_passes_1 3 rfl rfl)
theorem dX0_passes_28 : decode cX0_passes 28 = .ok (.iload_n 1, 1) := dk_27 (dk_at dksX0_passes_1 4 rfl rfl)
theorem dX0_passes_29 : decode cX0_passes 29 = .ok (.if_icmp .ne 25, 3) := dk_160 0 25 (dk_at dksX0_passes_1 5 rfl rfl)
theorem dX0_passes_32 : decode cX0_passes 32 = .ok (.aload_n 0, 1) := dk_42 (dk_at dksX0_passes_1 8 rfl rfl)
theorem dX0_passes_33 : decode cX0_passes 33 = .ok (.getfield 251, 3) := dk_180 0 251 (dk_at dksX0_passes_1 9 rfl rfl)
theorem dX0_passes_36 : decode cX0_passes 36 = .ok (.iload_n 2, 1) := dk_28 (dk_at dksX0_passes_1 12 rfl rfl)
theorem dX0_passes_37 : decode cX0_passes 37 = .ok (.invokestatic 254, 3) := dk_184 0 254 (dk_at dksX0_passes_1 13 rfl rfl)
theorem dX0_passes_40 : decode cX0_passes 40 = .ok (.ifCond .ne 14, 3) := dk_154 0 14 (dk_at dksX0_passes_1 16 rfl rfl)
theorem dX0_passes_43 : decode cX0_passes 43 = .ok (.aload_n 0, 1) := dk_42 (dk_at dksX0_passes_1 19 rfl rfl)
theorem dX0_passes_44 : decode cX0_passes 44 = .ok (.aload_n 3, 1) := dk_45 (dk_at dksX0_passes_1 20 rfl rfl)
theorem dX0_passes_45 : decode cX0_passes 45 = .ok (.iconst 0, 1) := dk_3 (dk_at dksX0_passes_1 21 rfl rfl)
theorem dX0_passes_46 : decode cX0_passes 46 = .ok (.iaload, 1) := dk_46 (dk_at dksX0_passes_1 22 rfl rfl)
theorem dX0_passes_47 : decode cX0_passes 47 = .ok (.iload_n 1, 1) := dk_27 (dk_at dksX0_passes_1 23 rfl rfl)
theorem dX0_passes_48 : decode cX0_passes 48 = .ok (.aload_n 3, 1) := dk_45 (dk_at dksX0_passes_2 0 rfl rfl)
theorem dX0_passes_49 : decode cX0_passes 49 = .ok (.iconst 2, 1) := dk_5 (dk_at dksX0_passes_2 1 rfl rfl)
theorem dX0_passes_50 : decode cX0_passes 50 = .ok (.iaload, 1) := dk_46 (dk_at dksX0_passes_2 2 rfl rfl)
theorem dX0_passes_51 : decode cX0_passes 51 = .ok (.invokevirtual 258, 3) := dk_182 1 2 (dk_at dksX0_passes_2 3 rfl rfl)
theorem dX0_passes_54 : decode cX0_passes 54 = .ok (.iinc 2 1, 3) := dk_132 2 1 (dk_at dksX0_passes_2 6 rfl rfl)
theorem dX0_passes_57 : decode cX0_passes 57 = .ok (.goto (-55), 3) := dk_167 255 201 (dk_at dksX0_passes_2 9 rfl rfl)
theorem dX0_passes_60 : decode cX0_passes 60 = .ok (.aload_n 0, 1) := dk_42 (dk_at dksX0_passes_2 12 rfl rfl)
theorem dX0_passes_61 : decode cX0_passes 61 = .ok (.getfield 176, 3) := dk_180 0 176 (dk_at dksX0_passes_2 13 rfl rfl)
theorem dX0_passes_64 : decode cX0_passes 64 = .ok (.iload_n 1, 1) := dk_27 (dk_at dksX0_passes_2 16 rfl rfl)
theorem dX0_passes_65 : decode cX0_passes 65 = .ok (.if_icmp .ne 16, 3) := dk_160 0 16 (dk_at dksX0_passes_2 17 rfl rfl)
theorem dX0_passes_68 : decode cX0_passes 68 = .ok (.aload_n 0, 1) := dk_42 (dk_at dksX0_passes_2 20 rfl rfl)
theorem dX0_passes_69 : decode cX0_passes 69 = .ok (.aload_n 0, 1) := dk_42 (dk_at dksX0_passes_2 21 rfl rfl)
theorem dX0_passes_70 : decode cX0_passes 70 = .ok (.getfield 262, 3) := dk_180 1 6 (dk_at dksX0_passes_3 0 rfl rfl)
theorem dX0_passes_73 : decode cX0_passes 73 = .ok (.iload_n 1, 1) := dk_27 (dk_at dksX0_passes_3 3 rfl rfl)
theorem dX0_passes_74 : decode cX0_passes 74 = .ok (.aload_n 0, 1) := dk_42 (dk_at dksX0_passes_3 4 rfl rfl)
theorem dX0_passes_75 : decode cX0_passes 75 = .ok (.getfield 265, 3) := dk_180 1 9 (dk_at dksX0_passes_3 5 rfl rfl)
theorem dX0_passes_78 : decode cX0_passes 78 = .ok (.invokevirtual 258, 3) := dk_182 1 2 (dk_at dksX0_passes_3 8 rfl rfl)
theorem dX0_passes_81 : decode cX0_passes 81 = .ok (.iconst 0, 1) := dk_3 (dk_at dksX0_passes_3 11 rfl rfl)
theorem dX0_passes_82 : decode cX0_passes 82 = .ok (.istore_n 2, 1) := dk_61 (dk_at dksX0_passes_3 12 rfl rfl)
theorem dX0_passes_83 : decode cX0_passes 83 = .ok (.iload_n 2, 1) := dk_28 (dk_at dksX0_passes_3 13 rfl rfl)
theorem dX0_passes_84 : decode cX0_passes 84 = .ok (.aload_n 0, 1) := dk_42 (dk_at dksX0_passes_3 14 rfl rfl)
theorem dX0_passes_85 : decode cX0_passes 85 = .ok (.invokevirtual 80, 3) := dk_182 0 80 (dk_at dksX0_passes_3 15 rfl rfl)
theorem dX0_passes_88 : decode cX0_passes 88 = .ok (.if_icmp .ge 36, 3) := dk_162 0 36 (dk_at dksX0_passes_3 18 rfl rfl)
theorem dX0_passes_91 : decode cX0_passes 91 = .ok (.aload_n 0, 1) := dk_42 (dk_at dksX0_passes_3 21 rfl rfl)
theorem dX0_passes_92 : decode cX0_passes 92 = .ok (.getfield 159, 3) := dk_180 0 159 (dk_at dksX0_passes_4 0 rfl rfl)
theorem dX0_passes_95 : decode cX0_passes 95 = .ok (.iload_n 2, 1) := dk_28 (dk_at dksX0_passes_4 3 rfl rfl)
theorem dX0_passes_96 : decode cX0_passes 96 = .ok (.aaload, 1) := dk_50 (dk_at dksX0_passes_4 4 rfl rfl)
theorem dX0_passes_97 : decode cX0_passes 97 = .ok (.iload_n 1, 1) := dk_27 (dk_at dksX0_passes_4 5 rfl rfl)
theorem dX0_passes_98 : decode cX0_passes 98 = .ok (.aload_n 0, 1) := dk_42 (dk_at dksX0_passes_4 6 rfl rfl)
theorem dX0_passes_99 : decode cX0_passes 99 = .ok (.getfield 159, 3) := dk_180 0 159 (dk_at dksX0_passes_4 7 rfl rfl)
theorem dX0_passes_102 : decode cX0_passes 102 = .ok (.iload_n 2, 1) := dk_28 (dk_at dksX0_passes_4 10 rfl rfl)
theorem dX0_passes_103 : decode cX0_passes 103 = .ok (.aaload, 1) := dk_50 (dk_at dksX0_passes_4 11 rfl rfl)
theorem dX0_passes_104 : decode cX0_passes 104 = .ok (.getfield 201, 3) := dk_180 0 201 (dk_at dksX0_passes_4 12 rfl rfl)
theorem dX0_passes_107 : decode cX0_passes 107 = .ok (.if_icmp .ge 7, 3) := dk_162 0 7 (dk_at dksX0_passes_4 15 rfl rfl)
theorem dX0_passes_110 : decode cX0_passes 110 = .ok (.iconst 1, 1) := dk_4 (dk_at dksX0_passes_4 18 rfl rfl)
theorem dX0_passes_111 : decode cX0_passes 111 = .ok (.goto 4, 3) := dk_167 0 4 (dk_at dksX0_passes_4 19 rfl rfl)
theorem dX0_passes_114 : decode cX0_passes 114 = .ok (.iconst 0, 1) := dk_3 (dk_at dksX0_passes_4 22 rfl rfl)
theorem dX0_passes_115 : decode cX0_passes 115 = .ok (.putfield 232, 3) := dk_181 0 232 (dk_at dksX0_passes_5 0 rfl rfl)
theorem dX0_passes_118 : decode cX0_passes 118 = .ok (.iinc 2 1, 3) := dk_132 2 1 (dk_at dksX0_passes_5 3 rfl rfl)
theorem dX0_passes_121 : decode cX0_passes 121 = .ok (.goto (-38), 3) := dk_167 255 218 (dk_at dksX0_passes_5 6 rfl rfl)
theorem dX0_passes_124 : decode cX0_passes 124 = .ok (.iconst 0, 1) := dk_3 (dk_at dksX0_passes_5 9 rfl rfl)
theorem dX0_passes_125 : decode cX0_passes 125 = .ok (.istore_n 2, 1) := dk_61 (dk_at dksX0_passes_5 10 rfl rfl)
theorem dX0_passes_126 : decode cX0_passes 126 = .ok (.iload_n 2, 1) := dk_28 (dk_at dksX0_passes_5 11 rfl rfl)
theorem dX0_passes_127 : decode cX0_passes 127 = .ok (.aload_n 0, 1) := dk_42 (dk_at dksX0_passes_5 12 rfl rfl)
theorem dX0_passes_128 : decode cX0_passes 128 = .ok (.invokevirtual 80, 3) := dk_182 0 80 (dk_at dksX0_passes_5 13 rfl rfl)
theorem dX0_passes_131 : decode cX0_passes 131 = .ok (.if_icmp .ge 15, 3) := dk_162 0 15 (dk_at dksX0_passes_5 16 rfl rfl)
theorem dX0_passes_134 : decode cX0_passes 134 = .ok (.aload_n 0, 1) := dk_42 (dk_at dksX0_passes_5 19 rfl rfl)
theorem dX0_passes_135 : decode cX0_passes 135 = .ok (.iload_n 2, 1) := dk_28 (dk_at dksX0_passes_5 20 rfl rfl)
theorem dX0_passes_136 : decode cX0_passes 136 = .ok (.iload_n 1, 1) := dk_27 (dk_at dksX0_passes_5 21 rfl rfl)
theorem dX0_passes_137 : decode cX0_passes 137 = .ok (.invokevirtual 268, 3) := dk_182 1 12 (dk_at dksX0_passes_6 0 rfl rfl)
theorem dX0_passes_140 : decode cX0_passes 140 = .ok (.iinc 2 1, 3) := dk_132 2 1 (dk_at dksX0_passes_6 3 rfl rfl)
theorem dX0_passes_143 : decode cX0_passes 143 = .ok (.goto (-17), 3) := dk_167 255 239 (dk_at dksX0_passes_6 6 rfl rfl)
theorem dX0_passes_146 : decode cX0_passes 146 = .ok (.iconst 0, 1) := dk_3 (dk_at dksX0_passes_6 9 rfl rfl)
theorem dX0_passes_147 : decode cX0_passes 147 = .ok (.istore_n 2, 1) := dk_61 (dk_at dksX0_passes_6 10 rfl rfl)
theorem dX0_passes_148 : decode cX0_passes 148 = .ok (.iload_n 2, 1) := dk_28 (dk_at dksX0_passes_6 11 rfl rfl)
theorem dX0_passes_149 : decode cX0_passes 149 = .ok (.bipush 12, 2) := dk_16 12 (dk_at dksX0_passes_6 12 rfl rfl)
theorem dX0_passes_151 : decode cX0_passes 151 = .ok (.if_icmp .ge 45, 3) := dk_162 0 45 (dk_at dksX0_passes_6 14 rfl rfl)
theorem dX0_passes_154 : decode cX0_passes 154 = .ok (.aload_n 0, 1) := dk_42 (dk_at dksX0_passes_6 17 rfl rfl)
theorem dX0_passes_155 : decode cX0_passes 155 = .ok (.getfield 168, 3) := dk_180 0 168 (dk_at dksX0_passes_6 18 rfl rfl)
theorem dX0_passes_158 : decode cX0_passes 158 = .ok (.iload_n 2, 1) := dk_28 (dk_at dksX0_passes_6 21 rfl rfl)
theorem dX0_passes_159 : decode cX0_passes 159 = .ok (.dup2, 1) := dk_92 (dk_at dksX0_passes_6 22 rfl rfl)
theorem dX0_passes_160 : decode cX0_passes 160 = .ok (.iaload, 1) := dk_46 (dk_at dksX0_passes_6 23 rfl rfl)
theorem dX0_passes_161 : decode cX0_passes 161 = .ok (.aload_n 0, 1) := dk_42 (dk_at dksX0_passes_7 0 rfl rfl)
theorem dX0_passes_162 : decode cX0_passes 162 = .ok (.aload_n 0, 1) := dk_42 (dk_at dksX0_passes_7 1 rfl rfl)
theorem dX0_passes_163 : decode cX0_passes 163 = .ok (.getfield 159, 3) := dk_180 0 159 (dk_at dksX0_passes_7 2 rfl rfl)
theorem dX0_passes_166 : decode cX0_passes 166 = .ok (.iload_n 2, 1) := dk_28 (dk_at dksX0_passes_7 5 rfl rfl)
theorem dX0_passes_167 : decode cX0_passes 167 = .ok (.invokevirtual 272, 3) := dk_182 1 16 (dk_at dksX0_passes_7 6 rfl rfl)
theorem dX0_passes_170 : decode cX0_passes 170 = .ok (.iconst 3, 1) := dk_6 (dk_at dksX0_passes_7 9 rfl rfl)
theorem dX0_passes_171 : decode cX0_passes 171 = .ok (.if_icmp .lt 16, 3) := dk_161 0 16 (dk_at dksX0_passes_7 10 rfl rfl)
theorem dX0_passes_174 : decode cX0_passes 174 = .ok (.aload_n 0, 1) := dk_42 (dk_at dksX0_passes_7 13 rfl rfl)
theorem dX0_passes_175 : decode cX0_passes 175 = .ok (.getfield 168, 3) := dk_180 0 168 (dk_at dksX0_passes_7 14 rfl rfl)
theorem dX0_passes_178 : decode cX0_passes 178 = .ok (.iload_n 2, 1) := dk_28 (dk_at dksX0_passes_7 17 rfl rfl)
theorem dX0_passes_179 : decode cX0_passes 179 = .ok (.iaload, 1) := dk_46 (dk_at dksX0_passes_7 18 rfl rfl)
theorem dX0_passes_180 : decode cX0_passes 180 = .ok (.ifCond .le 7, 3) := dk_158 0 7 (dk_at dksX0_passes_7 19 rfl rfl)
theorem dX0_passes_183 : decode cX0_passes 183 = .ok (.iconst 1, 1) := dk_4 (dk_at dksX0_passes_7 22 rfl rfl)
theorem dX0_passes_184 : decode cX0_passes 184 = .ok (.goto 4, 3) := dk_167 0 4 (dk_at dksX0_passes_8 0 rfl rfl)
theorem dX0_passes_187 : decode cX0_passes 187 = .ok (.iconst 0, 1) := dk_3 (dk_at dksX0_passes_8 3 rfl rfl)
theorem dX0_passes_188 : decode cX0_passes 188 = .ok (.isub, 1) := dk_100 (dk_at dksX0_passes_8 4 rfl rfl)
theorem dX0_passes_189 : decode cX0_passes 189 = .ok (.iastore, 1) := dk_79 (dk_at dksX0_passes_8 5 rfl rfl)
theorem dX0_passes_190 : decode cX0_passes 190 = .ok (.iinc 2 1, 3) := dk_132 2 1 (dk_at dksX0_passes_8 6 rfl rfl)
theorem dX0_passes_193 : decode cX0_passes 193 = .ok (.goto (-45), 3) := dk_167 255 211 (dk_at dksX0_passes_8 9 rfl rfl)
theorem dX0_passes_196 : decode cX0_passes 196 = .ok (.iconst 0, 1) := dk_3 (dk_at dksX0_passes_8 12 rfl rfl)
theorem dX0_passes_197 : decode cX0_passes 197 = .ok (.istore_n 2, 1) := dk_61 (dk_at dksX0_passes_8 13 rfl rfl)
theorem dX0_passes_198 : decode cX0_passes 198 = .ok (.iload_n 2, 1) := dk_28 (dk_at dksX0_passes_8 14 rfl rfl)
theorem dX0_passes_199 : decode cX0_passes 199 = .ok (.aload_n 0, 1) := dk_42 (dk_at dksX0_passes_8 15 rfl rfl)
theorem dX0_passes_200 : decode cX0_passes 200 = .ok (.invokevirtual 80, 3) := dk_182 0 80 (dk_at dksX0_passes_8 16 rfl rfl)
theorem dX0_passes_203 : decode cX0_passes 203 = .ok (.if_icmp .ge 26, 3) := dk_162 0 26 (dk_at dksX0_passes_8 19 rfl rfl)
theorem dX0_passes_206 : decode cX0_passes 206 = .ok (.aload_n 0, 1) := dk_42 (dk_at dksX0_passes_8 22 rfl rfl)
theorem dX0_passes_207 : decode cX0_passes 207 = .ok (.getfield 164, 3) := dk_180 0 164 (dk_at dksX0_passes_9 0 rfl rfl)
theorem dX0_passes_210 : decode cX0_passes 210 = .ok (.iload_n 1, 1) := dk_27 (dk_at dksX0_passes_9 3 rfl rfl)
theorem dX0_passes_211 : decode cX0_passes 211 = .ok (.aaload, 1) := dk_50 (dk_at dksX0_passes_9 4 rfl rfl)
theorem dX0_passes_212 : decode cX0_passes 212 = .ok (.iload_n 2, 1) := dk_28 (dk_at dksX0_passes_9 5 rfl rfl)
theorem dX0_passes_213 : decode cX0_passes 213 = .ok (.aaload, 1) := dk_50 (dk_at dksX0_passes_9 6 rfl rfl)
theorem dX0_passes_214 : decode cX0_passes 214 = .ok (.aload_n 0, 1) := dk_42 (dk_at dksX0_passes_9 7 rfl rfl)
theorem dX0_passes_215 : decode cX0_passes 215 = .ok (.getfield 159, 3) := dk_180 0 159 (dk_at dksX0_passes_9 8 rfl rfl)
theorem dX0_passes_218 : decode cX0_passes 218 = .ok (.iload_n 2, 1) := dk_28 (dk_at dksX0_passes_9 11 rfl rfl)
theorem dX0_passes_219 : decode cX0_passes 219 = .ok (.aaload, 1) := dk_50 (dk_at dksX0_passes_9 12 rfl rfl)
theorem dX0_passes_220 : decode cX0_passes 220 = .ok (.invokevirtual 276, 3) := dk_182 1 20 (dk_at dksX0_passes_9 13 rfl rfl)
theorem dX0_passes_223 : decode cX0_passes 223 = .ok (.iinc 2 1, 3) := dk_132 2 1 (dk_at dksX0_passes_9 16 rfl rfl)
theorem dX0_passes_226 : decode cX0_passes 226 = .ok (.goto (-28), 3) := dk_167 255 228 (dk_at dksX0_passes_9 19 rfl rfl)
theorem dX0_passes_229 : decode cX0_passes 229 = .ok (.aload_n 0, 1) := dk_42 (dk_at dksX0_passes_9 22 rfl rfl)
theorem dX0_passes_230 : decode cX0_passes 230 = .ok (.getfield 168, 3) := dk_180 0 168 (dk_at dksX0_passes_10 0 rfl rfl)
theorem dX0_passes_233 : decode cX0_passes 233 = .ok (.iconst 0, 1) := dk_3 (dk_at dksX0_passes_10 3 rfl rfl)
theorem dX0_passes_234 : decode cX0_passes 234 = .ok (.aload_n 0, 1) := dk_42 (dk_at dksX0_passes_10 4 rfl rfl)
theorem dX0_passes_235 : decode cX0_passes 235 = .ok (.getfield 173, 3) := dk_180 0 173 (dk_at dksX0_passes_10 5 rfl rfl)
theorem dX0_passes_238 : decode cX0_passes 238 = .ok (.iload_n 1, 1) := dk_27 (dk_at dksX0_passes_10 8 rfl rfl)
theorem dX0_passes_239 : decode cX0_passes 239 = .ok (.aaload, 1) := dk_50 (dk_at dksX0_passes_10 9 rfl rfl)
theorem dX0_passes_240 : decode cX0_passes 240 = .ok (.iconst 0, 1) := dk_3 (dk_at dksX0_passes_10 10 rfl rfl)
theorem dX0_passes_241 : decode cX0_passes 241 = .ok (.bipush 12, 2) := dk_16 12 (dk_at dksX0_passes_10 11 rfl rfl)
theorem dX0_passes_243 : decode cX0_passes 243 = .ok (.invokestatic 280, 3) := dk_184 1 24 (dk_at dksX0_passes_10 13 rfl rfl)
theorem dX0_passes_246 : decode cX0_passes 246 = .ok (.return_, 1) := dk_177 (dk_at dksX0_passes_10 16 rfl rfl)
abbrev cX0_isIn : ByteArray := prog_1_method_6_code
def yX0_isIn : MethodName := ⟨RX0, "isIn", "(II)Z"⟩
def dkwX0_isIn_0 : List UInt8 := [26, 27, 122, 4, 126, 4, 160, 0, 7, 4, 167, 0, 4, 3, 172]
abbrev dktX0_isIn_0 : List UInt8 := dkwX0_isIn_0 ++ []
theorem dksX0_isIn_0 : cX0_isIn.data.toList.drop 0 = dktX0_isIn_0 := by decide +kernel
theorem dX0_isIn_0 : decode cX0_isIn 0 = .ok (.iload_n 0, 1) := dk_26 (dk_at dksX0_isIn_0 0 rfl rfl)
theorem dX0_isIn_1 : decode cX0_isIn 1 = .ok (.iload_n 1, 1) := dk_27 (dk_at dksX0_isIn_0 1 rfl rfl)
theorem dX0_isIn_2 : decode cX0_isIn 2 = .ok (.ishr, 1) := dk_122 (dk_at dksX0_isIn_0 2 rfl rfl)
theorem dX0_isIn_3 : decode cX0_isIn 3 = .ok (.iconst 1, 1) := dk_4 (dk_at dksX0_isIn_0 3 rfl rfl)
theorem dX0_isIn_4 : decode cX0_isIn 4 = .ok (.iand, 1) := dk_126 (dk_at dksX0_isIn_0 4 rfl rfl)
theorem dX0_isIn_5 : decode cX0_isIn 5 = .ok (.iconst 1, 1) := dk_4 (dk_at dksX0_isIn_0 5 rfl rfl)
theorem dX0_isIn_6 : decode cX0_isIn 6 = .ok (.if_icmp .ne 7, 3) := dk_160 0 7 (dk_at dksX0_isIn_0 6 rfl rfl)
theorem dX0_isIn_9 : decode cX0_isIn 9 = .ok (.iconst 1, 1) := dk_4 (dk_at dksX0_isIn_0 9 rfl rfl)
theorem dX0_isIn_10 : decode cX0_isIn 10 = .ok (.goto 4, 3) := dk_167 0 4 (dk_at dksX0_isIn_0 10 rfl rfl)
theorem dX0_isIn_13 : decode cX0_isIn 13 = .ok (.iconst 0, 1) := dk_3 (dk_at dksX0_isIn_0 13 rfl rfl)
theorem dX0_isIn_14 : decode cX0_isIn 14 = .ok (.ireturn, 1) := dk_172 (dk_at dksX0_isIn_0 14 rfl rfl)
abbrev cX0_happens : ByteArray := prog_1_method_27_code
def yX0_happens : MethodName := ⟨RX0, "happens", "(III)V"⟩
def dkwX0_happens_3 : List UInt8 := [167, 0, 8, 42, 6, 182, 0, 226, 177]
abbrev dktX0_happens_3 : List UInt8 := dkwX0_happens_3 ++ []
def dkwX0_happens_2 : List UInt8 := [42, 28, 182, 0, 219, 167, 0, 25, 42, 29, 182, 0, 223, 167, 0, 17, 42, 16, 254, 182, 0, 226]
abbrev dktX0_happens_2 : List UInt8 := dkwX0_happens_2 ++ dktX0_happens_3
def dkwX0_happens_1 : List UInt8 := [170, 0, 0, 0, 0, 0, 52, 0, 0, 0, 0, 0, 0, 0, 2, 0, 0, 0, 27, 0, 0, 0, 35, 0, 0, 0, 43]
abbrev dktX0_happens_1 : List UInt8 := dkwX0_happens_1 ++ dktX0_happens_2
def dkwX0_happens_0 : List UInt8 := [27]
abbrev dktX0_happens_0 : List UInt8 := dkwX0_happens_0 ++ dktX0_happens_1
theorem dksX0_happens_0 : cX0_happens.data.toList.drop 0 = dktX0_happens_0 := by decide +kernel
theorem dksX0_happens_1 : cX0_happens.data.toList.drop 1 = dktX0_happens_1 := dk_seg dksX0_happens_0 1 rfl rfl
theorem dksX0_happens_2 : cX0_happens.data.toList.drop 28 = dktX0_happens_2 := dk_seg dksX0_happens_1 27 rfl rfl
theorem dksX0_happens_3 : cX0_happens.data.toList.drop 50 = dktX0_happens_3 := dk_seg dksX0_happens_2 22 rfl rfl
theorem dX0_happens_0 : decode cX0_happens 0 = .ok (.iload_n 1, 1) := dk_27 (dk_at dksX0_happens_0 0 rfl rfl)
theorem dX0_happens_1 : decode cX0_happens 1 = .ok (.tableswitch 52 0 2 #[27, 35, 43], 27) := by decide +kernel
theorem dX0_happens_28 : decode cX0_happens 28 = .ok (.aload_n 0, 1) := dk_42 (dk_at dksX0_happens_2 0 rfl rfl)
theorem dX0_happens_29 : decode cX0_happens 29 = .ok (.iload_n 2, 1) := dk_28 (dk_at dksX0_happens_2 1 rfl rfl)
theorem dX0_happens_30 : decode cX0_happens 30 = .ok (.invokevirtual 219, 3) := dk_182 0 219 (dk_at dksX0_happens_2 2 rfl rfl)
theorem dX0_happens_33 : decode cX0_happens 33 = .ok (.goto 25, 3) := dk_167 0 25 (dk_at dksX0_happens_2 5 rfl rfl)
theorem dX0_happens_36 : decode cX0_happens 36 = .ok (.aload_n 0, 1) := dk_42 (dk_at dksX0_happens_2 8 rfl rfl)
theorem dX0_happens_37 : decode cX0_happens 37 = .ok (.iload_n 3, 1) := dk_29 (dk_at dksX0_happens_2 9 rfl rfl)
theorem dX0_happens_38 : decode cX0_happens 38 = .ok (.invokevirtual 223, 3) := dk_182 0 223 (dk_at dksX0_happens_2 10 rfl rfl)
theorem dX0_happens_41 : decode cX0_happens 41 = .ok (.goto 17, 3) := dk_167 0 17 (dk_at dksX0_happens_2 13 rfl rfl)
theorem dX0_happens_44 : decode cX0_happens 44 = .ok (.aload_n 0, 1) := dk_42 (dk_at dksX0_happens_2 16 rfl rfl)
theorem dX0_happens_45 : decode cX0_happens 45 = .ok (.bipush (-2), 2) := dk_16 254 (dk_at dksX0_happens_2 17 rfl rfl)
theorem dX0_happens_47 : decode cX0_happens 47 = .ok (.invokevirtual 226, 3) := dk_182 0 226 (dk_at dksX0_happens_2 19 rfl rfl)
theorem dX0_happens_50 : decode cX0_happens 50 = .ok (.goto 8, 3) := dk_167 0 8 (dk_at dksX0_happens_3 0 rfl rfl)
theorem dX0_happens_53 : decode cX0_happens 53 = .ok (.aload_n 0, 1) := dk_42 (dk_at dksX0_happens_3 3 rfl rfl)
theorem dX0_happens_54 : decode cX0_happens 54 = .ok (.iconst 3, 1) := dk_6 (dk_at dksX0_happens_3 4 rfl rfl)
theorem dX0_happens_55 : decode cX0_happens 55 = .ok (.invokevirtual 226, 3) := dk_182 0 226 (dk_at dksX0_happens_3 5 rfl rfl)
theorem dX0_happens_58 : decode cX0_happens 58 = .ok (.return_, 1) := dk_177 (dk_at dksX0_happens_3 8 rfl rfl)
abbrev cX0_lifts : ByteArray := prog_1_method_24_code
def yX0_lifts : MethodName := ⟨RX0, "lifts", "(I)V"⟩
def dkwX0_lifts_1 : List UInt8 := [28, 182, 0, 88, 192, 0, 92, 180, 0, 192, 182, 0, 196, 96, 181, 0, 201, 132, 2, 1, 167, 255, 214, 177]
abbrev dktX0_lifts_1 : List UInt8 := dkwX0_lifts_1 ++ []
def dkwX0_lifts_0 : List UInt8 := [3, 61, 28, 42, 182, 0, 80, 162, 0, 40, 42, 180, 0, 159, 28, 50, 27, 42, 180, 0, 26, 180, 0, 72]
abbrev dktX0_lifts_0 : List UInt8 := dkwX0_lifts_0 ++ dktX0_lifts_1
theorem dksX0_lifts_0 : cX0_lifts.data.toList.drop 0 = dktX0_lifts_0 := by decide +kernel
theorem dksX0_lifts_1 : cX0_lifts.data.toList.drop 24 = dktX0_lifts_1 := dk_seg dksX0_lifts_0 24 rfl rfl
theorem dX0_lifts_0 : decode cX0_lifts 0 = .ok (.iconst 0, 1) := dk_3 (dk_at dksX0_lifts_0 0 rfl rfl)
theorem dX0_lifts_1 : decode cX0_lifts 1 = .ok (.istore_n 2, 1) := dk_61 (dk_at dksX0_lifts_0 1 rfl rfl)
theorem dX0_lifts_2 : decode cX0_lifts 2 = .ok (.iload_n 2, 1) := dk_28 (dk_at dksX0_lifts_0 2 rfl rfl)
theorem dX0_lifts_3 : decode cX0_lifts 3 = .ok (.aload_n 0, 1) := dk_42 (dk_at dksX0_lifts_0 3 rfl rfl)
theorem dX0_lifts_4 : decode cX0_lifts 4 = .ok (.invokevirtual 80, 3) := dk_182 0 80 (dk_at dksX0_lifts_0 4 rfl rfl)
theorem dX0_lifts_7 : decode cX0_lifts 7 = .ok (.if_icmp .ge 40, 3) := dk_162 0 40 (dk_at dksX0_lifts_0 7 rfl rfl)
theorem dX0_lifts_10 : decode cX0_lifts 10 = .ok (.aload_n 0, 1) := dk_42 (dk_at dksX0_lifts_0 10 rfl rfl)
theorem dX0_lifts_11 : decode cX0_lifts 11 = .ok (.getfield 159, 3) := dk_180 0 159 (dk_at dksX0_lifts_0 11 rfl rfl)
theorem dX0_lifts_14 : decode cX0_lifts 14 = .ok (.iload_n 2, 1) := dk_28 (dk_at dksX0_lifts_0 14 rfl rfl)
theorem dX0_lifts_15 : decode cX0_lifts 15 = .ok (.aaload, 1) := dk_50 (dk_at dksX0_lifts_0 15 rfl rfl)
theorem dX0_lifts_16 : decode cX0_lifts 16 = .ok (.iload_n 1, 1) := dk_27 (dk_at dksX0_lifts_0 16 rfl rfl)
theorem dX0_lifts_17 : decode cX0_lifts 17 = .ok (.aload_n 0, 1) := dk_42 (dk_at dksX0_lifts_0 17 rfl rfl)
theorem dX0_lifts_18 : decode cX0_lifts 18 = .ok (.getfield 26, 3) := dk_180 0 26 (dk_at dksX0_lifts_0 18 rfl rfl)
theorem dX0_lifts_21 : decode cX0_lifts 21 = .ok (.getfield 72, 3) := dk_180 0 72 (dk_at dksX0_lifts_0 21 rfl rfl)
theorem dX0_lifts_24 : decode cX0_lifts 24 = .ok (.iload_n 2, 1) := dk_28 (dk_at dksX0_lifts_1 0 rfl rfl)
theorem dX0_lifts_25 : decode cX0_lifts 25 = .ok (.invokevirtual 88, 3) := dk_182 0 88 (dk_at dksX0_lifts_1 1 rfl rfl)
theorem dX0_lifts_28 : decode cX0_lifts 28 = .ok (.checkcast 92, 3) := dk_192 0 92 (dk_at dksX0_lifts_1 4 rfl rfl)
theorem dX0_lifts_31 : decode cX0_lifts 31 = .ok (.getfield 192, 3) := dk_180 0 192 (dk_at dksX0_lifts_1 7 rfl rfl)
theorem dX0_lifts_34 : decode cX0_lifts 34 = .ok (.invokevirtual 196, 3) := dk_182 0 196 (dk_at dksX0_lifts_1 10 rfl rfl)
theorem dX0_lifts_37 : decode cX0_lifts 37 = .ok (.iadd, 1) := dk_96 (dk_at dksX0_lifts_1 13 rfl rfl)
theorem dX0_lifts_38 : decode cX0_lifts 38 = .ok (.putfield 201, 3) := dk_181 0 201 (dk_at dksX0_lifts_1 14 rfl rfl)
theorem dX0_lifts_41 : decode cX0_lifts 41 = .ok (.iinc 2 1, 3) := dk_132 2 1 (dk_at dksX0_lifts_1 17 rfl rfl)
theorem dX0_lifts_44 : decode cX0_lifts 44 = .ok (.goto (-42), 3) := dk_167 255 214 (dk_at dksX0_lifts_1 20 rfl rfl)
theorem dX0_lifts_47 : decode cX0_lifts 47 = .ok (.return_, 1) := dk_177 (dk_at dksX0_lifts_1 23 rfl rfl)
abbrev cX0_peppers : ByteArray := prog_1_method_25_code
def yX0_peppers : MethodName := ⟨RX0, "peppers", "(I)V"⟩
def dkwX0_peppers_2 : List UInt8 := [177]
abbrev dktX0_peppers_2 : List UInt8 := dkwX0_peppers_2 ++ []
def dkwX0_peppers_1 : List UInt8 := [28, 50, 180, 0, 208, 27, 160, 0, 7, 4, 167, 0, 4, 3, 130, 181, 0, 204, 132, 2, 1, 167, 255, 213]
abbrev dktX0_peppers_1 : List UInt8 := dkwX0_peppers_1 ++ dktX0_peppers_2
def dkwX0_peppers_0 : List UInt8 := [3, 61, 28, 42, 182, 0, 80, 162, 0, 41, 42, 180, 0, 159, 28, 50, 89, 180, 0, 204, 42, 180, 0, 159]
abbrev dktX0_peppers_0 : List UInt8 := dkwX0_peppers_0 ++ dktX0_peppers_1
theorem dksX0_peppers_0 : cX0_peppers.data.toList.drop 0 = dktX0_peppers_0 := by decide +kernel
theorem dksX0_peppers_1 : cX0_peppers.data.toList.drop 24 = dktX0_peppers_1 := dk_seg dksX0_peppers_0 24 rfl rfl
theorem dksX0_peppers_2 : cX0_peppers.data.toList.drop 48 = dktX0_peppers_2 := dk_seg dksX0_peppers_1 24 rfl rfl
theorem dX0_peppers_0 : decode cX0_peppers 0 = .ok (.iconst 0, 1) := dk_3 (dk_at dksX0_peppers_0 0 rfl rfl)
theorem dX0_peppers_1 : decode cX0_peppers 1 = .ok (.istore_n 2, 1) := dk_61 (dk_at dksX0_peppers_0 1 rfl rfl)
theorem dX0_peppers_2 : decode cX0_peppers 2 = .ok (.iload_n 2, 1) := dk_28 (dk_at dksX0_peppers_0 2 rfl rfl)
theorem dX0_peppers_3 : decode cX0_peppers 3 = .ok (.aload_n 0, 1) := dk_42 (dk_at dksX0_peppers_0 3 rfl rfl)
theorem dX0_peppers_4 : decode cX0_peppers 4 = .ok (.invokevirtual 80, 3) := dk_182 0 80 (dk_at dksX0_peppers_0 4 rfl rfl)
theorem dX0_peppers_7 : decode cX0_peppers 7 = .ok (.if_icmp .ge 41, 3) := dk_162 0 41 (dk_at dksX0_peppers_0 7 rfl rfl)
theorem dX0_peppers_10 : decode cX0_peppers 10 = .ok (.aload_n 0, 1) := dk_42 (dk_at dksX0_peppers_0 10 rfl rfl)
theorem dX0_peppers_11 : decode cX0_peppers 11 = .ok (.getfield 159, 3) := dk_180 0 159 (dk_at dksX0_peppers_0 11 rfl rfl)
theorem dX0_peppers_14 : decode cX0_peppers 14 = .ok (.iload_n 2, 1) := dk_28 (dk_at dksX0_peppers_0 14 rfl rfl)
theorem dX0_peppers_15 : decode cX0_peppers 15 = .ok (.aaload, 1) := dk_50 (dk_at dksX0_peppers_0 15 rfl rfl)
theorem dX0_peppers_16 : decode cX0_peppers 16 = .ok (.dup, 1) := dk_89 (dk_at dksX0_peppers_0 16 rfl rfl)
theorem dX0_peppers_17 : decode cX0_peppers 17 = .ok (.getfield 204, 3) := dk_180 0 204 (dk_at dksX0_peppers_0 17 rfl rfl)
theorem dX0_peppers_20 : decode cX0_peppers 20 = .ok (.aload_n 0, 1) := dk_42 (dk_at dksX0_peppers_0 20 rfl rfl)
theorem dX0_peppers_21 : decode cX0_peppers 21 = .ok (.getfield 159, 3) := dk_180 0 159 (dk_at dksX0_peppers_0 21 rfl rfl)
theorem dX0_peppers_24 : decode cX0_peppers 24 = .ok (.iload_n 2, 1) := dk_28 (dk_at dksX0_peppers_1 0 rfl rfl)
theorem dX0_peppers_25 : decode cX0_peppers 25 = .ok (.aaload, 1) := dk_50 (dk_at dksX0_peppers_1 1 rfl rfl)
theorem dX0_peppers_26 : decode cX0_peppers 26 = .ok (.getfield 208, 3) := dk_180 0 208 (dk_at dksX0_peppers_1 2 rfl rfl)
theorem dX0_peppers_29 : decode cX0_peppers 29 = .ok (.iload_n 1, 1) := dk_27 (dk_at dksX0_peppers_1 5 rfl rfl)
theorem dX0_peppers_30 : decode cX0_peppers 30 = .ok (.if_icmp .ne 7, 3) := dk_160 0 7 (dk_at dksX0_peppers_1 6 rfl rfl)
theorem dX0_peppers_33 : decode cX0_peppers 33 = .ok (.iconst 1, 1) := dk_4 (dk_at dksX0_peppers_1 9 rfl rfl)
theorem dX0_peppers_34 : decode cX0_peppers 34 = .ok (.goto 4, 3) := dk_167 0 4 (dk_at dksX0_peppers_1 10 rfl rfl)
theorem dX0_peppers_37 : decode cX0_peppers 37 = .ok (.iconst 0, 1) := dk_3 (dk_at dksX0_peppers_1 13 rfl rfl)
theorem dX0_peppers_38 : decode cX0_peppers 38 = .ok (.ixor, 1) := dk_130 (dk_at dksX0_peppers_1 14 rfl rfl)
theorem dX0_peppers_39 : decode cX0_peppers 39 = .ok (.putfield 204, 3) := dk_181 0 204 (dk_at dksX0_peppers_1 15 rfl rfl)
theorem dX0_peppers_42 : decode cX0_peppers 42 = .ok (.iinc 2 1, 3) := dk_132 2 1 (dk_at dksX0_peppers_1 18 rfl rfl)
theorem dX0_peppers_45 : decode cX0_peppers 45 = .ok (.goto (-43), 3) := dk_167 255 213 (dk_at dksX0_peppers_1 21 rfl rfl)
theorem dX0_peppers_48 : decode cX0_peppers 48 = .ok (.return_, 1) := dk_177 (dk_at dksX0_peppers_2 0 rfl rfl)
abbrev cX0_wets : ByteArray := prog_1_method_26_code
def yX0_wets : MethodName := ⟨RX0, "wets", "(I)V"⟩
def dkwX0_wets_1 : List UInt8 := [184, 0, 211, 16, 9, 184, 0, 216, 79, 132, 2, 1, 167, 255, 224, 177]
abbrev dktX0_wets_1 : List UInt8 := dkwX0_wets_1 ++ []
def dkwX0_wets_0 : List UInt8 := [3, 61, 28, 16, 12, 162, 0, 32, 42, 180, 0, 168, 28, 42, 180, 0, 168, 28, 46, 27, 96, 3]
abbrev dktX0_wets_0 : List UInt8 := dkwX0_wets_0 ++ dktX0_wets_1
theorem dksX0_wets_0 : cX0_wets.data.toList.drop 0 = dktX0_wets_0 := by decide +kernel
theorem dksX0_wets_1 : cX0_wets.data.toList.drop 22 = dktX0_wets_1 := dk_seg dksX0_wets_0 22 rfl rfl
theorem dX0_wets_0 : decode cX0_wets 0 = .ok (.iconst 0, 1) := dk_3 (dk_at dksX0_wets_0 0 rfl rfl)
theorem dX0_wets_1 : decode cX0_wets 1 = .ok (.istore_n 2, 1) := dk_61 (dk_at dksX0_wets_0 1 rfl rfl)
theorem dX0_wets_2 : decode cX0_wets 2 = .ok (.iload_n 2, 1) := dk_28 (dk_at dksX0_wets_0 2 rfl rfl)
theorem dX0_wets_3 : decode cX0_wets 3 = .ok (.bipush 12, 2) := dk_16 12 (dk_at dksX0_wets_0 3 rfl rfl)
theorem dX0_wets_5 : decode cX0_wets 5 = .ok (.if_icmp .ge 32, 3) := dk_162 0 32 (dk_at dksX0_wets_0 5 rfl rfl)
theorem dX0_wets_8 : decode cX0_wets 8 = .ok (.aload_n 0, 1) := dk_42 (dk_at dksX0_wets_0 8 rfl rfl)
theorem dX0_wets_9 : decode cX0_wets 9 = .ok (.getfield 168, 3) := dk_180 0 168 (dk_at dksX0_wets_0 9 rfl rfl)
theorem dX0_wets_12 : decode cX0_wets 12 = .ok (.iload_n 2, 1) := dk_28 (dk_at dksX0_wets_0 12 rfl rfl)
theorem dX0_wets_13 : decode cX0_wets 13 = .ok (.aload_n 0, 1) := dk_42 (dk_at dksX0_wets_0 13 rfl rfl)
theorem dX0_wets_14 : decode cX0_wets 14 = .ok (.getfield 168, 3) := dk_180 0 168 (dk_at dksX0_wets_0 14 rfl rfl)
theorem dX0_wets_17 : decode cX0_wets 17 = .ok (.iload_n 2, 1) := dk_28 (dk_at dksX0_wets_0 17 rfl rfl)
theorem dX0_wets_18 : decode cX0_wets 18 = .ok (.iaload, 1) := dk_46 (dk_at dksX0_wets_0 18 rfl rfl)
theorem dX0_wets_19 : decode cX0_wets 19 = .ok (.iload_n 1, 1) := dk_27 (dk_at dksX0_wets_0 19 rfl rfl)
theorem dX0_wets_20 : decode cX0_wets 20 = .ok (.iadd, 1) := dk_96 (dk_at dksX0_wets_0 20 rfl rfl)
theorem dX0_wets_21 : decode cX0_wets 21 = .ok (.iconst 0, 1) := dk_3 (dk_at dksX0_wets_0 21 rfl rfl)
theorem dX0_wets_22 : decode cX0_wets 22 = .ok (.invokestatic 211, 3) := dk_184 0 211 (dk_at dksX0_wets_1 0 rfl rfl)
theorem dX0_wets_25 : decode cX0_wets 25 = .ok (.bipush 9, 2) := dk_16 9 (dk_at dksX0_wets_1 3 rfl rfl)
theorem dX0_wets_27 : decode cX0_wets 27 = .ok (.invokestatic 216, 3) := dk_184 0 216 (dk_at dksX0_wets_1 5 rfl rfl)
theorem dX0_wets_30 : decode cX0_wets 30 = .ok (.iastore, 1) := dk_79 (dk_at dksX0_wets_1 8 rfl rfl)
theorem dX0_wets_31 : decode cX0_wets 31 = .ok (.iinc 2 1, 3) := dk_132 2 1 (dk_at dksX0_wets_1 9 rfl rfl)
theorem dX0_wets_34 : decode cX0_wets 34 = .ok (.goto (-32), 3) := dk_167 255 224 (dk_at dksX0_wets_1 12 rfl rfl)
theorem dX0_wets_37 : decode cX0_wets 37 = .ok (.return_, 1) := dk_177 (dk_at dksX0_wets_1 15 rfl rfl)
abbrev cX0_goes : ByteArray := prog_1_method_31_code
def yX0_goes : MethodName := ⟨RX0, "goes", "(II)V"⟩
def dkwX0_goes_4 : List UInt8 := [27, 50, 4, 181, 0, 244, 42, 27, 182, 0, 247, 132, 3, 255, 167, 255, 193, 177]
abbrev dktX0_goes_4 : List UInt8 := dkwX0_goes_4 ++ []
def dkwX0_goes_3 : List UInt8 := [27, 50, 180, 0, 208, 160, 0, 4, 177, 42, 180, 0, 159, 27, 50, 21, 4, 181, 0, 208, 42, 180, 0, 159]
abbrev dktX0_goes_3 : List UInt8 := dkwX0_goes_3 ++ dktX0_goes_4
def dkwX0_goes_2 : List UInt8 := [158, 0, 65, 42, 42, 180, 0, 159, 27, 50, 180, 0, 208, 182, 0, 241, 54, 4, 21, 4, 42, 180, 0, 159]
abbrev dktX0_goes_2 : List UInt8 := dkwX0_goes_2 ++ dktX0_goes_3
def dkwX0_goes_1 : List UInt8 := [177, 42, 180, 0, 26, 180, 0, 72, 27, 182, 0, 88, 192, 0, 92, 180, 0, 192, 28, 182, 0, 238, 62, 29]
abbrev dktX0_goes_1 : List UInt8 := dkwX0_goes_1 ++ dktX0_goes_2
def dkwX0_goes_0 : List UInt8 := [42, 180, 0, 159, 27, 50, 180, 0, 204, 153, 0, 15, 42, 180, 0, 159, 27, 50, 180, 0, 232, 153, 0, 4]
abbrev dktX0_goes_0 : List UInt8 := dkwX0_goes_0 ++ dktX0_goes_1
theorem dksX0_goes_0 : cX0_goes.data.toList.drop 0 = dktX0_goes_0 := by decide +kernel
theorem dksX0_goes_1 : cX0_goes.data.toList.drop 24 = dktX0_goes_1 := dk_seg dksX0_goes_0 24 rfl rfl
theorem dksX0_goes_2 : cX0_goes.data.toList.drop 48 = dktX0_goes_2 := dk_seg dksX0_goes_1 24 rfl rfl
theorem dksX0_goes_3 : cX0_goes.data.toList.drop 72 = dktX0_goes_3 := dk_seg dksX0_goes_2 24 rfl rfl
theorem dksX0_goes_4 : cX0_goes.data.toList.drop 96 = dktX0_goes_4 := dk_seg dksX0_goes_3 24 rfl rfl
theorem dX0_goes_0 : decode cX0_goes 0 = .ok (.aload_n 0, 1) := dk_42 (dk_at dksX0_goes_0 0 rfl rfl)
theorem dX0_goes_1 : decode cX0_goes 1 = .ok (.getfield 159, 3) := dk_180 0 159 (dk_at dksX0_goes_0 1 rfl rfl)
theorem dX0_goes_4 : decode cX0_goes 4 = .ok (.iload_n 1, 1) := dk_27 (dk_at dksX0_goes_0 4 rfl rfl)
theorem dX0_goes_5 : decode cX0_goes 5 = .ok (.aaload, 1) := dk_50 (dk_at dksX0_goes_0 5 rfl rfl)
theorem dX0_goes_6 : decode cX0_goes 6 = .ok (.getfield 204, 3) := dk_180 0 204 (dk_at dksX0_goes_0 6 rfl rfl)
theorem dX0_goes_9 : decode cX0_goes 9 = .ok (.ifCond .eq 15, 3) := dk_153 0 15 (dk_at dksX0_goes_0 9 rfl rfl)
theorem dX0_goes_12 : decode cX0_goes 12 = .ok (.aload_n 0, 1) := dk_42 (dk_at dksX0_goes_0 12 rfl rfl)
theorem dX0_goes_13 : decode cX0_goes 13 = .ok (.getfield 159, 3) := dk_180 0 159 (dk_at dksX0_goes_0 13 rfl rfl)
theorem dX0_goes_16 : decode cX0_goes 16 = .ok (.iload_n 1, 1) := dk_27 (dk_at dksX0_goes_0 16 rfl rfl)
theorem dX0_goes_17 : decode cX0_goes 17 = .ok (.aaload, 1) := dk_50 (dk_at dksX0_goes_0 17 rfl rfl)
theorem dX0_goes_18 : decode cX0_goes 18 = .ok (.getfield 232, 3) := dk_180 0 232 (dk_at dksX0_goes_0 18 rfl rfl)
theorem dX0_goes_21 : decode cX0_goes 21 = .ok (.ifCond .eq 4, 3) := dk_153 0 4 (dk_at dksX0_goes_0 21 rfl rfl)
theorem dX0_goes_24 : decode cX0_goes 24 = .ok (.return_, 1) := dk_177 (dk_at dksX0_goes_1 0 rfl rfl)
theorem dX0_goes_25 : decode cX0_goes 25 = .ok (.aload_n 0, 1) := dk_42 (dk_at dksX0_goes_1 1 rfl rfl)
theorem dX0_goes_26 : decode cX0_goes 26 = .ok (.getfield 26, 3) := dk_180 0 26 (dk_at dksX0_goes_1 2 rfl rfl)
theorem dX0_goes_29 : decode cX0_goes 29 = .ok (.getfield 72, 3) := dk_180 0 72 (dk_at dksX0_goes_1 5 rfl rfl)
theorem dX0_goes_32 : decode cX0_goes 32 = .ok (.iload_n 1, 1) := dk_27 (dk_at dksX0_goes_1 8 rfl rfl)
theorem dX0_goes_33 : decode cX0_goes 33 = .ok (.invokevirtual 88, 3) := dk_182 0 88 (dk_at dksX0_goes_1 9 rfl rfl)
theorem dX0_goes_36 : decode cX0_goes 36 = .ok (.checkcast 92, 3) := dk_192 0 92 (dk_at dksX0_goes_1 12 rfl rfl)
theorem dX0_goes_39 : decode cX0_goes 39 = .ok (.getfield 192, 3) := dk_180 0 192 (dk_at dksX0_goes_1 15 rfl rfl)
theorem dX0_goes_42 : decode cX0_goes 42 = .ok (.iload_n 2, 1) := dk_28 (dk_at dksX0_goes_1 18 rfl rfl)
theorem dX0_goes_43 : decode cX0_goes 43 = .ok (.invokevirtual 238, 3) := dk_182 0 238 (dk_at dksX0_goes_1 19 rfl rfl)
theorem dX0_goes_46 : decode cX0_goes 46 = .ok (.istore_n 3, 1) := dk_62 (dk_at dksX0_goes_1 22 rfl rfl)
theorem dX0_goes_47 : decode cX0_goes 47 = .ok (.iload_n 3, 1) := dk_29 (dk_at dksX0_goes_1 23 rfl rfl)
theorem dX0_goes_48 : decode cX0_goes 48 = .ok (.ifCond .le 65, 3) := dk_158 0 65 (dk_at dksX0_goes_2 0 rfl rfl)
theorem dX0_goes_51 : decode cX0_goes 51 = .ok (.aload_n 0, 1) := dk_42 (dk_at dksX0_goes_2 3 rfl rfl)
theorem dX0_goes_52 : decode cX0_goes 52 = .ok (.aload_n 0, 1) := dk_42 (dk_at dksX0_goes_2 4 rfl rfl)
theorem dX0_goes_53 : decode cX0_goes 53 = .ok (.getfield 159, 3) := dk_180 0 159 (dk_at dksX0_goes_2 5 rfl rfl)
theorem dX0_goes_56 : decode cX0_goes 56 = .ok (.iload_n 1, 1) := dk_27 (dk_at dksX0_goes_2 8 rfl rfl)
theorem dX0_goes_57 : decode cX0_goes 57 = .ok (.aaload, 1) := dk_50 (dk_at dksX0_goes_2 9 rfl rfl)
theorem dX0_goes_58 : decode cX0_goes 58 = .ok (.getfield 208, 3) := dk_180 0 208 (dk_at dksX0_goes_2 10 rfl rfl)
theorem dX0_goes_61 : decode cX0_goes 61 = .ok (.invokevirtual 241, 3) := dk_182 0 241 (dk_at dksX0_goes_2 13 rfl rfl)
theorem dX0_goes_64 : decode cX0_goes 64 = .ok (.istore 4, 2) := dk_54 4 (dk_at dksX0_goes_2 16 rfl rfl)
theorem dX0_goes_66 : decode cX0_goes 66 = .ok (.iload 4, 2) := dk_21 4 (dk_at dksX0_goes_2 18 rfl rfl)
theorem dX0_goes_68 : decode cX0_goes 68 = .ok (.aload_n 0, 1) := dk_42 (dk_at dksX0_goes_2 20 rfl rfl)
theorem dX0_goes_69 : decode cX0_goes 69 = .ok (.getfield 159, 3) := dk_180 0 159 (dk_at dksX0_goes_2 21 rfl rfl)
theorem dX0_goes_72 : decode cX0_goes 72 = .ok (.iload_n 1, 1) := dk_27 (dk_at dksX0_goes_3 0 rfl rfl)
theorem dX0_goes_73 : decode cX0_goes 73 = .ok (.aaload, 1) := dk_50 (dk_at dksX0_goes_3 1 rfl rfl)
theorem dX0_goes_74 : decode cX0_goes 74 = .ok (.getfield 208, 3) := dk_180 0 208 (dk_at dksX0_goes_3 2 rfl rfl)
theorem dX0_goes_77 : decode cX0_goes 77 = .ok (.if_icmp .ne 4, 3) := dk_160 0 4 (dk_at dksX0_goes_3 5 rfl rfl)
theorem dX0_goes_80 : decode cX0_goes 80 = .ok (.return_, 1) := dk_177 (dk_at dksX0_goes_3 8 rfl rfl)
theorem dX0_goes_81 : decode cX0_goes 81 = .ok (.aload_n 0, 1) := dk_42 (dk_at dksX0_goes_3 9 rfl rfl)
theorem dX0_goes_82 : decode cX0_goes 82 = .ok (.getfield 159, 3) := dk_180 0 159 (dk_at dksX0_goes_3 10 rfl rfl)
theorem dX0_goes_85 : decode cX0_goes 85 = .ok (.iload_n 1, 1) := dk_27 (dk_at dksX0_goes_3 13 rfl rfl)
theorem dX0_goes_86 : decode cX0_goes 86 = .ok (.aaload, 1) := dk_50 (dk_at dksX0_goes_3 14 rfl rfl)
theorem dX0_goes_87 : decode cX0_goes 87 = .ok (.iload 4, 2) := dk_21 4 (dk_at dksX0_goes_3 15 rfl rfl)
theorem dX0_goes_89 : decode cX0_goes 89 = .ok (.putfield 208, 3) := dk_181 0 208 (dk_at dksX0_goes_3 17 rfl rfl)
theorem dX0_goes_92 : decode cX0_goes 92 = .ok (.aload_n 0, 1) := dk_42 (dk_at dksX0_goes_3 20 rfl rfl)
theorem dX0_goes_93 : decode cX0_goes 93 = .ok (.getfield 159, 3) := dk_180 0 159 (dk_at dksX0_goes_3 21 rfl rfl)
theorem dX0_goes_96 : decode cX0_goes 96 = .ok (.iload_n 1, 1) := dk_27 (dk_at dksX0_goes_4 0 rfl rfl)
theorem dX0_goes_97 : decode cX0_goes 97 = .ok (.aaload, 1) := dk_50 (dk_at dksX0_goes_4 1 rfl rfl)
theorem dX0_goes_98 : decode cX0_goes 98 = .ok (.iconst 1, 1) := dk_4 (dk_at dksX0_goes_4 2 rfl rfl)
theorem dX0_goes_99 : decode cX0_goes 99 = .ok (.putfield 244, 3) := dk_181 0 244 (dk_at dksX0_goes_4 3 rfl rfl)
theorem dX0_goes_102 : decode cX0_goes 102 = .ok (.aload_n 0, 1) := dk_42 (dk_at dksX0_goes_4 6 rfl rfl)
theorem dX0_goes_103 : decode cX0_goes 103 = .ok (.iload_n 1, 1) := dk_27 (dk_at dksX0_goes_4 7 rfl rfl)
theorem dX0_goes_104 : decode cX0_goes 104 = .ok (.invokevirtual 247, 3) := dk_182 0 247 (dk_at dksX0_goes_4 8 rfl rfl)
theorem dX0_goes_107 : decode cX0_goes 107 = .ok (.iinc 3 (-1), 3) := dk_132 3 255 (dk_at dksX0_goes_4 11 rfl rfl)
theorem dX0_goes_110 : decode cX0_goes 110 = .ok (.goto (-63), 3) := dk_167 255 193 (dk_at dksX0_goes_4 14 rfl rfl)
theorem dX0_goes_113 : decode cX0_goes 113 = .ok (.return_, 1) := dk_177 (dk_at dksX0_goes_4 17 rfl rfl)
abbrev cX0_dampest : ByteArray := prog_1_method_29_code
def yX0_dampest : MethodName := ⟨RX0, "dampest", "(I)I"⟩
def dkwX0_dampest_1 : List UInt8 := [4, 100, 61, 42, 28, 182, 0, 229, 42, 27, 182, 0, 229, 164, 0, 7, 28, 167, 0, 4, 27, 172]
abbrev dktX0_dampest_1 : List UInt8 := dkwX0_dampest_1 ++ []
def dkwX0_dampest_0 : List UInt8 := [42, 27, 4, 96, 182, 0, 229, 42, 27, 4, 100, 182, 0, 229, 164, 0, 9, 27, 4, 96, 167, 0, 6, 27]
abbrev dktX0_dampest_0 : List UInt8 := dkwX0_dampest_0 ++ dktX0_dampest_1
theorem dksX0_dampest_0 : cX0_dampest.data.toList.drop 0 = dktX0_dampest_0 := by decide +kernel
theorem dksX0_dampest_1 : cX0_dampest.data.toList.drop 24 = dktX0_dampest_1 := dk_seg dksX0_dampest_0 24 rfl rfl
theorem dX0_dampest_0 : decode cX0_dampest 0 = .ok (.aload_n 0, 1) := dk_42 (dk_at dksX0_dampest_0 0 rfl rfl)
theorem dX0_dampest_1 : decode cX0_dampest 1 = .ok (.iload_n 1, 1) := dk_27 (dk_at dksX0_dampest_0 1 rfl rfl)
theorem dX0_dampest_2 : decode cX0_dampest 2 = .ok (.iconst 1, 1) := dk_4 (dk_at dksX0_dampest_0 2 rfl rfl)
theorem dX0_dampest_3 : decode cX0_dampest 3 = .ok (.iadd, 1) := dk_96 (dk_at dksX0_dampest_0 3 rfl rfl)
theorem dX0_dampest_4 : decode cX0_dampest 4 = .ok (.invokevirtual 229, 3) := dk_182 0 229 (dk_at dksX0_dampest_0 4 rfl rfl)
theorem dX0_dampest_7 : decode cX0_dampest 7 = .ok (.aload_n 0, 1) := dk_42 (dk_at dksX0_dampest_0 7 rfl rfl)
theorem dX0_dampest_8 : decode cX0_dampest 8 = .ok (.iload_n 1, 1) := dk_27 (dk_at dksX0_dampest_0 8 rfl rfl)
theorem dX0_dampest_9 : decode cX0_dampest 9 = .ok (.iconst 1, 1) := dk_4 (dk_at dksX0_dampest_0 9 rfl rfl)
theorem dX0_dampest_10 : decode cX0_dampest 10 = .ok (.isub, 1) := dk_100 (dk_at dksX0_dampest_0 10 rfl rfl)
theorem dX0_dampest_11 : decode cX0_dampest 11 = .ok (.invokevirtual 229, 3) := dk_182 0 229 (dk_at dksX0_dampest_0 11 rfl rfl)
theorem dX0_dampest_14 : decode cX0_dampest 14 = .ok (.if_icmp .le 9, 3) := dk_164 0 9 (dk_at dksX0_dampest_0 14 rfl rfl)
theorem dX0_dampest_17 : decode cX0_dampest 17 = .ok (.iload_n 1, 1) := dk_27 (dk_at dksX0_dampest_0 17 rfl rfl)
theorem dX0_dampest_18 : decode cX0_dampest 18 = .ok (.iconst 1, 1) := dk_4 (dk_at dksX0_dampest_0 18 rfl rfl)
theorem dX0_dampest_19 : decode cX0_dampest 19 = .ok (.iadd, 1) := dk_96 (dk_at dksX0_dampest_0 19 rfl rfl)
theorem dX0_dampest_20 : decode cX0_dampest 20 = .ok (.goto 6, 3) := dk_167 0 6 (dk_at dksX0_dampest_0 20 rfl rfl)
theorem dX0_dampest_23 : decode cX0_dampest 23 = .ok (.iload_n 1, 1) := dk_27 (dk_at dksX0_dampest_0 23 rfl rfl)
theorem dX0_dampest_24 : decode cX0_dampest 24 = .ok (.iconst 1, 1) := dk_4 (dk_at dksX0_dampest_1 0 rfl rfl)
theorem dX0_dampest_25 : decode cX0_dampest 25 = .ok (.isub, 1) := dk_100 (dk_at dksX0_dampest_1 1 rfl rfl)
theorem dX0_dampest_26 : decode cX0_dampest 26 = .ok (.istore_n 2, 1) := dk_61 (dk_at dksX0_dampest_1 2 rfl rfl)
theorem dX0_dampest_27 : decode cX0_dampest 27 = .ok (.aload_n 0, 1) := dk_42 (dk_at dksX0_dampest_1 3 rfl rfl)
theorem dX0_dampest_28 : decode cX0_dampest 28 = .ok (.iload_n 2, 1) := dk_28 (dk_at dksX0_dampest_1 4 rfl rfl)
theorem dX0_dampest_29 : decode cX0_dampest 29 = .ok (.invokevirtual 229, 3) := dk_182 0 229 (dk_at dksX0_dampest_1 5 rfl rfl)
theorem dX0_dampest_32 : decode cX0_dampest 32 = .ok (.aload_n 0, 1) := dk_42 (dk_at dksX0_dampest_1 8 rfl rfl)
theorem dX0_dampest_33 : decode cX0_dampest 33 = .ok (.iload_n 1, 1) := dk_27 (dk_at dksX0_dampest_1 9 rfl rfl)
theorem dX0_dampest_34 : decode cX0_dampest 34 = .ok (.invokevirtual 229, 3) := dk_182 0 229 (dk_at dksX0_dampest_1 10 rfl rfl)
theorem dX0_dampest_37 : decode cX0_dampest 37 = .ok (.if_icmp .le 7, 3) := dk_164 0 7 (dk_at dksX0_dampest_1 13 rfl rfl)
theorem dX0_dampest_40 : decode cX0_dampest 40 = .ok (.iload_n 2, 1) := dk_28 (dk_at dksX0_dampest_1 16 rfl rfl)
theorem dX0_dampest_41 : decode cX0_dampest 41 = .ok (.goto 4, 3) := dk_167 0 4 (dk_at dksX0_dampest_1 17 rfl rfl)
theorem dX0_dampest_44 : decode cX0_dampest 44 = .ok (.iload_n 1, 1) := dk_27 (dk_at dksX0_dampest_1 20 rfl rfl)
theorem dX0_dampest_45 : decode cX0_dampest 45 = .ok (.ireturn, 1) := dk_172 (dk_at dksX0_dampest_1 21 rfl rfl)
abbrev cX0_dampOf : ByteArray := prog_1_method_28_code
def yX0_dampOf : MethodName := ⟨RX0, "dampOf", "(I)I"⟩
def dkwX0_dampOf_0 : List UInt8 := [27, 184, 0, 63, 153, 0, 12, 42, 180, 0, 168, 27, 46, 167, 0, 4, 2, 172]
abbrev dktX0_dampOf_0 : List UInt8 := dkwX0_dampOf_0 ++ []
theorem dksX0_dampOf_0 : cX0_dampOf.data.toList.drop 0 = dktX0_dampOf_0 := by decide +kernel
theorem dX0_dampOf_0 : decode cX0_dampOf 0 = .ok (.iload_n 1, 1) := dk_27 (dk_at dksX0_dampOf_0 0 rfl rfl)
theorem dX0_dampOf_1 : decode cX0_dampOf 1 = .ok (.invokestatic 63, 3) := dk_184 0 63 (dk_at dksX0_dampOf_0 1 rfl rfl)
theorem dX0_dampOf_4 : decode cX0_dampOf 4 = .ok (.ifCond .eq 12, 3) := dk_153 0 12 (dk_at dksX0_dampOf_0 4 rfl rfl)
theorem dX0_dampOf_7 : decode cX0_dampOf 7 = .ok (.aload_n 0, 1) := dk_42 (dk_at dksX0_dampOf_0 7 rfl rfl)
theorem dX0_dampOf_8 : decode cX0_dampOf 8 = .ok (.getfield 168, 3) := dk_180 0 168 (dk_at dksX0_dampOf_0 8 rfl rfl)
theorem dX0_dampOf_11 : decode cX0_dampOf 11 = .ok (.iload_n 1, 1) := dk_27 (dk_at dksX0_dampOf_0 11 rfl rfl)
theorem dX0_dampOf_12 : decode cX0_dampOf 12 = .ok (.iaload, 1) := dk_46 (dk_at dksX0_dampOf_0 12 rfl rfl)
theorem dX0_dampOf_13 : decode cX0_dampOf 13 = .ok (.goto 4, 3) := dk_167 0 4 (dk_at dksX0_dampOf_0 13 rfl rfl)
theorem dX0_dampOf_16 : decode cX0_dampOf 16 = .ok (.iconst (-1), 1) := dk_2 (dk_at dksX0_dampOf_0 16 rfl rfl)
theorem dX0_dampOf_17 : decode cX0_dampOf 17 = .ok (.ireturn, 1) := dk_172 (dk_at dksX0_dampOf_0 17 rfl rfl)
abbrev cX0_speaks : ByteArray := prog_1_method_30_code
def yX0_speaks : MethodName := ⟨RX0, "speaks", "(I)V"⟩
def dkwX0_speaks_4 : List UInt8 := [132, 2, 1, 167, 255, 162, 177]
abbrev dktX0_speaks_4 : List UInt8 := dkwX0_speaks_4 ++ []
def dkwX0_speaks_3 : List UInt8 := [167, 0, 4, 3, 181, 0, 204, 42, 180, 0, 159, 27, 50, 89, 180, 0, 235, 4, 96, 181, 0, 235, 177]
abbrev dktX0_speaks_3 : List UInt8 := dkwX0_speaks_3 ++ dktX0_speaks_4
def dkwX0_speaks_2 : List UInt8 := [167, 0, 45, 42, 180, 0, 159, 28, 50, 42, 180, 0, 159, 28, 50, 180, 0, 204, 154, 0, 7, 4]
abbrev dktX0_speaks_2 : List UInt8 := dkwX0_speaks_2 ++ dktX0_speaks_3
def dkwX0_speaks_1 : List UInt8 := [154, 0, 69, 42, 180, 0, 159, 28, 50, 180, 0, 208, 42, 180, 0, 159, 27, 50, 180, 0, 208, 159, 0, 6]
abbrev dktX0_speaks_1 : List UInt8 := dkwX0_speaks_1 ++ dktX0_speaks_2
def dkwX0_speaks_0 : List UInt8 := [3, 61, 28, 42, 182, 0, 80, 162, 0, 92, 28, 27, 159, 0, 81, 42, 180, 0, 159, 28, 50, 180, 0, 232]
abbrev dktX0_speaks_0 : List UInt8 := dkwX0_speaks_0 ++ dktX0_speaks_1
theorem dksX0_speaks_0 : cX0_speaks.data.toList.drop 0 = dktX0_speaks_0 := by decide +kernel
theorem dksX0_speaks_1 : cX0_speaks.data.toList.drop 24 = dktX0_speaks_1 := dk_seg dksX0_speaks_0 24 rfl rfl
theorem dksX0_speaks_2 : cX0_speaks.data.toList.drop 48 = dktX0_speaks_2 := dk_seg dksX0_speaks_1 24 rfl rfl
theorem dksX0_speaks_3 : cX0_speaks.data.toList.drop 70 = dktX0_speaks_3 := dk_seg dksX0_speaks_2 22 rfl rfl
theorem dksX0_speaks_4 : cX0_speaks.data.toList.drop 93 = dktX0_speaks_4 := dk_seg dksX0_speaks_3 23 rfl rfl
theorem dX0_speaks_0 : decode cX0_speaks 0 = .ok (.iconst 0, 1) := dk_3 (dk_at dksX0_speaks_0 0 rfl rfl)
theorem dX0_speaks_1 : decode cX0_speaks 1 = .ok (.istore_n 2, 1) := dk_61 (dk_at dksX0_speaks_0 1 rfl rfl)
theorem dX0_speaks_2 : decode cX0_speaks 2 = .ok (.iload_n 2, 1) := dk_28 (dk_at dksX0_speaks_0 2 rfl rfl)
theorem dX0_speaks_3 : decode cX0_speaks 3 = .ok (.aload_n 0, 1) := dk_42 (dk_at dksX0_speaks_0 3 rfl rfl)
theorem dX0_speaks_4 : decode cX0_speaks 4 = .ok (.invokevirtual 80, 3) := dk_182 0 80 (dk_at dksX0_speaks_0 4 rfl rfl)
theorem dX0_speaks_7 : decode cX0_speaks 7 = .ok (.if_icmp .ge 92, 3) := dk_162 0 92 (dk_at dksX0_speaks_0 7 rfl rfl)
theorem dX0_speaks_10 : decode cX0_speaks 10 = .ok (.iload_n 2, 1) := dk_28 (dk_at dksX0_speaks_0 10 rfl rfl)
theorem dX0_speaks_11 : decode cX0_speaks 11 = .ok (.iload_n 1, 1) := dk_27 (dk_at dksX0_speaks_0 11 rfl rfl)
theorem dX0_speaks_12 : decode cX0_speaks 12 = .ok (.if_icmp .eq 81, 3) := dk_159 0 81 (dk_at dksX0_speaks_0 12 rfl rfl)
theorem dX0_speaks_15 : decode cX0_speaks 15 = .ok (.aload_n 0, 1) := dk_42 (dk_at dksX0_speaks_0 15 rfl rfl)
theorem dX0_speaks_16 : decode cX0_speaks 16 = .ok (.getfield 159, 3) := dk_180 0 159 (dk_at dksX0_speaks_0 16 rfl rfl)
theorem dX0_speaks_19 : decode cX0_speaks 19 = .ok (.iload_n 2, 1) := dk_28 (dk_at dksX0_speaks_0 19 rfl rfl)
theorem dX0_speaks_20 : decode cX0_speaks 20 = .ok (.aaload, 1) := dk_50 (dk_at dksX0_speaks_0 20 rfl rfl)
theorem dX0_speaks_21 : decode cX0_speaks 21 = .ok (.getfield 232, 3) := dk_180 0 232 (dk_at dksX0_speaks_0 21 rfl rfl)
theorem dX0_speaks_24 : decode cX0_speaks 24 = .ok (.ifCond .ne 69, 3) := dk_154 0 69 (dk_at dksX0_speaks_1 0 rfl rfl)
theorem dX0_speaks_27 : decode cX0_speaks 27 = .ok (.aload_n 0, 1) := dk_42 (dk_at dksX0_speaks_1 3 rfl rfl)
theorem dX0_speaks_28 : decode cX0_speaks 28 = .ok (.getfield 159, 3) := dk_180 0 159 (dk_at dksX0_speaks_1 4 rfl rfl)
theorem dX0_speaks_31 : decode cX0_speaks 31 = .ok (.iload_n 2, 1) := dk_28 (dk_at dksX0_speaks_1 7 rfl rfl)
theorem dX0_speaks_32 : decode cX0_speaks 32 = .ok (.aaload, 1) := dk_50 (dk_at dksX0_speaks_1 8 rfl rfl)
theorem dX0_speaks_33 : decode cX0_speaks 33 = .ok (.getfield 208, 3) := dk_180 0 208 (dk_at dksX0_speaks_1 9 rfl rfl)
theorem dX0_speaks_36 : decode cX0_speaks 36 = .ok (.aload_n 0, 1) := dk_42 (dk_at dksX0_speaks_1 12 rfl rfl)
theorem dX0_speaks_37 : decode cX0_speaks 37 = .ok (.getfield 159, 3) := dk_180 0 159 (dk_at dksX0_speaks_1 13 rfl rfl)
theorem dX0_speaks_40 : decode cX0_speaks 40 = .ok (.iload_n 1, 1) := dk_27 (dk_at dksX0_speaks_1 16 rfl rfl)
theorem dX0_speaks_41 : decode cX0_speaks 41 = .ok (.aaload, 1) := dk_50 (dk_at dksX0_speaks_1 17 rfl rfl)
theorem dX0_speaks_42 : decode cX0_speaks 42 = .ok (.getfield 208, 3) := dk_180 0 208 (dk_at dksX0_speaks_1 18 rfl rfl)
theorem dX0_speaks_45 : decode cX0_speaks 45 = .ok (.if_icmp .eq 6, 3) := dk_159 0 6 (dk_at dksX0_speaks_1 21 rfl rfl)
theorem dX0_speaks_48 : decode cX0_speaks 48 = .ok (.goto 45, 3) := dk_167 0 45 (dk_at dksX0_speaks_2 0 rfl rfl)
theorem dX0_speaks_51 : decode cX0_speaks 51 = .ok (.aload_n 0, 1) := dk_42 (dk_at dksX0_speaks_2 3 rfl rfl)
theorem dX0_speaks_52 : decode cX0_speaks 52 = .ok (.getfield 159, 3) := dk_180 0 159 (dk_at dksX0_speaks_2 4 rfl rfl)
theorem dX0_speaks_55 : decode cX0_speaks 55 = .ok (.iload_n 2, 1) := dk_28 (dk_at dksX0_speaks_2 7 rfl rfl)
theorem dX0_speaks_56 : decode cX0_speaks 56 = .ok (.aaload, 1) := dk_50 (dk_at dksX0_speaks_2 8 rfl rfl)
theorem dX0_speaks_57 : decode cX0_speaks 57 = .ok (.aload_n 0, 1) := dk_42 (dk_at dksX0_speaks_2 9 rfl rfl)
theorem dX0_speaks_58 : decode cX0_speaks 58 = .ok (.getfield 159, 3) := dk_180 0 159 (dk_at dksX0_speaks_2 10 rfl rfl)
theorem dX0_speaks_61 : decode cX0_speaks 61 = .ok (.iload_n 2, 1) := dk_28 (dk_at dksX0_speaks_2 13 rfl rfl)
theorem dX0_speaks_62 : decode cX0_speaks 62 = .ok (.aaload, 1) := dk_50 (dk_at dksX0_speaks_2 14 rfl rfl)
theorem dX0_speaks_63 : decode cX0_speaks 63 = .ok (.getfield 204, 3) := dk_180 0 204 (dk_at dksX0_speaks_2 15 rfl rfl)
theorem dX0_speaks_66 : decode cX0_speaks 66 = .ok (.ifCond .ne 7, 3) := dk_154 0 7 (dk_at dksX0_speaks_2 18 rfl rfl)
theorem dX0_speaks_69 : decode cX0_speaks 69 = .ok (.iconst 1, 1) := dk_4 (dk_at dksX0_speaks_2 21 rfl rfl)
theorem dX0_speaks_70 : decode cX0_speaks 70 = .ok (.goto 4, 3) := dk_167 0 4 (dk_at dksX0_speaks_3 0 rfl rfl)
theorem dX0_speaks_73 : decode cX0_speaks 73 = .ok (.iconst 0, 1) := dk_3 (dk_at dksX0_speaks_3 3 rfl rfl)
theorem dX0_speaks_74 : decode cX0_speaks 74 = .ok (.putfield 204, 3) := dk_181 0 204 (dk_at dksX0_speaks_3 4 rfl rfl)
theorem dX0_speaks_77 : decode cX0_speaks 77 = .ok (.aload_n 0, 1) := dk_42 (dk_at dksX0_speaks_3 7 rfl rfl)
theorem dX0_speaks_78 : decode cX0_speaks 78 = .ok (.getfield 159, 3) := dk_180 0 159 (dk_at dksX0_speaks_3 8 rfl rfl)
theorem dX0_speaks_81 : decode cX0_speaks 81 = .ok (.iload_n 1, 1) := dk_27 (dk_at dksX0_speaks_3 11 rfl rfl)
theorem dX0_speaks_82 : decode cX0_speaks 82 = .ok (.aaload, 1) := dk_50 (dk_at dksX0_speaks_3 12 rfl rfl)
theorem dX0_speaks_83 : decode cX0_speaks 83 = .ok (.dup, 1) := dk_89 (dk_at dksX0_speaks_3 13 rfl rfl)
theorem dX0_speaks_84 : decode cX0_speaks 84 = .ok (.getfield 235, 3) := dk_180 0 235 (dk_at dksX0_speaks_3 14 rfl rfl)
theorem dX0_speaks_87 : decode cX0_speaks 87 = .ok (.iconst 1, 1) := dk_4 (dk_at dksX0_speaks_3 17 rfl rfl)
theorem dX0_speaks_88 : decode cX0_speaks 88 = .ok (.iadd, 1) := dk_96 (dk_at dksX0_speaks_3 18 rfl rfl)
theorem dX0_speaks_89 : decode cX0_speaks 89 = .ok (.putfield 235, 3) := dk_181 0 235 (dk_at dksX0_speaks_3 19 rfl rfl)
theorem dX0_speaks_92 : decode cX0_speaks 92 = .ok (.return_, 1) := dk_177 (dk_at dksX0_speaks_3 22 rfl rfl)
theorem dX0_speaks_93 : decode cX0_speaks 93 = .ok (.iinc 2 1, 3) := dk_132 2 1 (dk_at dksX0_speaks_4 0 rfl rfl)
theorem dX0_speaks_96 : decode cX0_speaks 96 = .ok (.goto (-94), 3) := dk_167 255 162 (dk_at dksX0_speaks_4 3 rfl rfl)
theorem dX0_speaks_99 : decode cX0_speaks 99 = .ok (.return_, 1) := dk_177 (dk_at dksX0_speaks_4 6 rfl rfl)
abbrev cX0_many : ByteArray := prog_1_method_32_code
def yX0_many : MethodName := ⟨RX0, "many", "([LWoodliceSenate$Louse;I)I"⟩
def dkwX0_many_1 : List UInt8 := [160, 0, 7, 4, 167, 0, 4, 3, 96, 62, 132, 4, 1, 167, 255, 225, 29, 172]
abbrev dktX0_many_1 : List UInt8 := dkwX0_many_1 ++ []
def dkwX0_many_0 : List UInt8 := [3, 62, 3, 54, 4, 21, 4, 42, 182, 0, 80, 162, 0, 28, 29, 43, 21, 4, 50, 180, 0, 208, 28]
abbrev dktX0_many_0 : List UInt8 := dkwX0_many_0 ++ dktX0_many_1
theorem dksX0_many_0 : cX0_many.data.toList.drop 0 = dktX0_many_0 := by decide +kernel
theorem dksX0_many_1 : cX0_many.data.toList.drop 23 = dktX0_many_1 := dk_seg dksX0_many_0 23 rfl rfl
theorem dX0_many_0 : decode cX0_many 0 = .ok (.iconst 0, 1) := dk_3 (dk_at dksX0_many_0 0 rfl rfl)
theorem dX0_many_1 : decode cX0_many 1 = .ok (.istore_n 3, 1) := dk_62 (dk_at dksX0_many_0 1 rfl rfl)
theorem dX0_many_2 : decode cX0_many 2 = .ok (.iconst 0, 1) := dk_3 (dk_at dksX0_many_0 2 rfl rfl)
theorem dX0_many_3 : decode cX0_many 3 = .ok (.istore 4, 2) := dk_54 4 (dk_at dksX0_many_0 3 rfl rfl)
theorem dX0_many_5 : decode cX0_many 5 = .ok (.iload 4, 2) := dk_21 4 (dk_at dksX0_many_0 5 rfl rfl)
theorem dX0_many_7 : decode cX0_many 7 = .ok (.aload_n 0, 1) := dk_42 (dk_at dksX0_many_0 7 rfl rfl)
theorem dX0_many_8 : decode cX0_many 8 = .ok (.invokevirtual 80, 3) := dk_182 0 80 (dk_at dksX0_many_0 8 rfl rfl)
theorem dX0_many_11 : decode cX0_many 11 = .ok (.if_icmp .ge 28, 3) := dk_162 0 28 (dk_at dksX0_many_0 11 rfl rfl)
theorem dX0_many_14 : decode cX0_many 14 = .ok (.iload_n 3, 1) := dk_29 (dk_at dksX0_many_0 14 rfl rfl)
theorem dX0_many_15 : decode cX0_many 15 = .ok (.aload_n 1, 1) := dk_43 (dk_at dksX0_many_0 15 rfl rfl)
theorem dX0_many_16 : decode cX0_many 16 = .ok (.iload 4, 2) := dk_21 4 (dk_at dksX0_many_0 16 rfl rfl)
theorem dX0_many_18 : decode cX0_many 18 = .ok (.aaload, 1) := dk_50 (dk_at dksX0_many_0 18 rfl rfl)
theorem dX0_many_19 : decode cX0_many 19 = .ok (.getfield 208, 3) := dk_180 0 208 (dk_at dksX0_many_0 19 rfl rfl)
theorem dX0_many_22 : decode cX0_many 22 = .ok (.iload_n 2, 1) := dk_28 (dk_at dksX0_many_0 22 rfl rfl)
theorem dX0_many_23 : decode cX0_many 23 = .ok (.if_icmp .ne 7, 3) := dk_160 0 7 (dk_at dksX0_many_1 0 rfl rfl)
theorem dX0_many_26 : decode cX0_many 26 = .ok (.iconst 1, 1) := dk_4 (dk_at dksX0_many_1 3 rfl rfl)
theorem dX0_many_27 : decode cX0_many 27 = .ok (.goto 4, 3) := dk_167 0 4 (dk_at dksX0_many_1 4 rfl rfl)
theorem dX0_many_30 : decode cX0_many 30 = .ok (.iconst 0, 1) := dk_3 (dk_at dksX0_many_1 7 rfl rfl)
theorem dX0_many_31 : decode cX0_many 31 = .ok (.iadd, 1) := dk_96 (dk_at dksX0_many_1 8 rfl rfl)
theorem dX0_many_32 : decode cX0_many 32 = .ok (.istore_n 3, 1) := dk_62 (dk_at dksX0_many_1 9 rfl rfl)
theorem dX0_many_33 : decode cX0_many 33 = .ok (.iinc 4 1, 3) := dk_132 4 1 (dk_at dksX0_many_1 10 rfl rfl)
theorem dX0_many_36 : decode cX0_many 36 = .ok (.goto (-31), 3) := dk_167 255 225 (dk_at dksX0_many_1 13 rfl rfl)
theorem dX0_many_39 : decode cX0_many 39 = .ok (.iload_n 3, 1) := dk_29 (dk_at dksX0_many_1 16 rfl rfl)
theorem dX0_many_40 : decode cX0_many 40 = .ok (.ireturn, 1) := dk_172 (dk_at dksX0_many_1 17 rfl rfl)
abbrev cX0_dampBy : ByteArray := prog_1_method_35_code
def yX0_dampBy : MethodName := ⟨RX0, "dampBy", "(III)I"⟩
def dkwX0_dampBy_1 : List UInt8 := [182, 1, 16, 172]
abbrev dktX0_dampBy_1 : List UInt8 := dkwX0_dampBy_1 ++ []
def dkwX0_dampBy_0 : List UInt8 := [29, 154, 0, 14, 42, 180, 0, 173, 27, 50, 28, 46, 167, 0, 14, 42, 42, 180, 0, 164, 27, 50, 28]
abbrev dktX0_dampBy_0 : List UInt8 := dkwX0_dampBy_0 ++ dktX0_dampBy_1
theorem dksX0_dampBy_0 : cX0_dampBy.data.toList.drop 0 = dktX0_dampBy_0 := by decide +kernel
theorem dksX0_dampBy_1 : cX0_dampBy.data.toList.drop 23 = dktX0_dampBy_1 := dk_seg dksX0_dampBy_0 23 rfl rfl
theorem dX0_dampBy_0 : decode cX0_dampBy 0 = .ok (.iload_n 3, 1) := dk_29 (dk_at dksX0_dampBy_0 0 rfl rfl)
theorem dX0_dampBy_1 : decode cX0_dampBy 1 = .ok (.ifCond .ne 14, 3) := dk_154 0 14 (dk_at dksX0_dampBy_0 1 rfl rfl)
theorem dX0_dampBy_4 : decode cX0_dampBy 4 = .ok (.aload_n 0, 1) := dk_42 (dk_at dksX0_dampBy_0 4 rfl rfl)
theorem dX0_dampBy_5 : decode cX0_dampBy 5 = .ok (.getfield 173, 3) := dk_180 0 173 (dk_at dksX0_dampBy_0 5 rfl rfl)
theorem dX0_dampBy_8 : decode cX0_dampBy 8 = .ok (.iload_n 1, 1) := dk_27 (dk_at dksX0_dampBy_0 8 rfl rfl)
theorem dX0_dampBy_9 : decode cX0_dampBy 9 = .ok (.aaload, 1) := dk_50 (dk_at dksX0_dampBy_0 9 rfl rfl)
theorem dX0_dampBy_10 : decode cX0_dampBy 10 = .ok (.iload_n 2, 1) := dk_28 (dk_at dksX0_dampBy_0 10 rfl rfl)
theorem dX0_dampBy_11 : decode cX0_dampBy 11 = .ok (.iaload, 1) := dk_46 (dk_at dksX0_dampBy_0 11 rfl rfl)
theorem dX0_dampBy_12 : decode cX0_dampBy 12 = .ok (.goto 14, 3) := dk_167 0 14 (dk_at dksX0_dampBy_0 12 rfl rfl)
theorem dX0_dampBy_15 : decode cX0_dampBy 15 = .ok (.aload_n 0, 1) := dk_42 (dk_at dksX0_dampBy_0 15 rfl rfl)
theorem dX0_dampBy_16 : decode cX0_dampBy 16 = .ok (.aload_n 0, 1) := dk_42 (dk_at dksX0_dampBy_0 16 rfl rfl)
theorem dX0_dampBy_17 : decode cX0_dampBy 17 = .ok (.getfield 164, 3) := dk_180 0 164 (dk_at dksX0_dampBy_0 17 rfl rfl)
theorem dX0_dampBy_20 : decode cX0_dampBy 20 = .ok (.iload_n 1, 1) := dk_27 (dk_at dksX0_dampBy_0 20 rfl rfl)
theorem dX0_dampBy_21 : decode cX0_dampBy 21 = .ok (.aaload, 1) := dk_50 (dk_at dksX0_dampBy_0 21 rfl rfl)
theorem dX0_dampBy_22 : decode cX0_dampBy 22 = .ok (.iload_n 2, 1) := dk_28 (dk_at dksX0_dampBy_0 22 rfl rfl)
theorem dX0_dampBy_23 : decode cX0_dampBy 23 = .ok (.invokevirtual 272, 3) := dk_182 1 16 (dk_at dksX0_dampBy_1 0 rfl rfl)
theorem dX0_dampBy_26 : decode cX0_dampBy 26 = .ok (.ireturn, 1) := dk_172 (dk_at dksX0_dampBy_1 3 rfl rfl)
abbrev cX0_at : ByteArray := prog_1_method_37_code
def yX0_at : MethodName := ⟨RX0, "at", "(III)I"⟩
def dkwX0_at_2 : List UInt8 := [16, 254, 172]
abbrev dktX0_at_2 : List UInt8 := dkwX0_at_2 ++ []
def dkwX0_at_1 : List UInt8 := [20, 0, 97, 184, 0, 14, 153, 0, 18, 42, 180, 0, 164, 27, 50, 28, 50, 29, 182, 1, 43, 167, 0, 5]
abbrev dktX0_at_1 : List UInt8 := dkwX0_at_1 ++ dktX0_at_2
def dkwX0_at_0 : List UInt8 := [42, 182, 1, 37, 27, 184, 0, 99, 153, 0, 38, 42, 28, 182, 0, 83, 153, 0, 30, 29, 133, 9]
abbrev dktX0_at_0 : List UInt8 := dkwX0_at_0 ++ dktX0_at_1
theorem dksX0_at_0 : cX0_at.data.toList.drop 0 = dktX0_at_0 := by decide +kernel
theorem dksX0_at_1 : cX0_at.data.toList.drop 22 = dktX0_at_1 := dk_seg dksX0_at_0 22 rfl rfl
theorem dksX0_at_2 : cX0_at.data.toList.drop 46 = dktX0_at_2 := dk_seg dksX0_at_1 24 rfl rfl
theorem dX0_at_0 : decode cX0_at 0 = .ok (.aload_n 0, 1) := dk_42 (dk_at dksX0_at_0 0 rfl rfl)
theorem dX0_at_1 : decode cX0_at 1 = .ok (.invokevirtual 293, 3) := dk_182 1 37 (dk_at dksX0_at_0 1 rfl rfl)
theorem dX0_at_4 : decode cX0_at 4 = .ok (.iload_n 1, 1) := dk_27 (dk_at dksX0_at_0 4 rfl rfl)
theorem dX0_at_5 : decode cX0_at 5 = .ok (.invokestatic 99, 3) := dk_184 0 99 (dk_at dksX0_at_0 5 rfl rfl)
theorem dX0_at_8 : decode cX0_at 8 = .ok (.ifCond .eq 38, 3) := dk_153 0 38 (dk_at dksX0_at_0 8 rfl rfl)
theorem dX0_at_11 : decode cX0_at 11 = .ok (.aload_n 0, 1) := dk_42 (dk_at dksX0_at_0 11 rfl rfl)
theorem dX0_at_12 : decode cX0_at 12 = .ok (.iload_n 2, 1) := dk_28 (dk_at dksX0_at_0 12 rfl rfl)
theorem dX0_at_13 : decode cX0_at 13 = .ok (.invokevirtual 83, 3) := dk_182 0 83 (dk_at dksX0_at_0 13 rfl rfl)
theorem dX0_at_16 : decode cX0_at 16 = .ok (.ifCond .eq 30, 3) := dk_153 0 30 (dk_at dksX0_at_0 16 rfl rfl)
theorem dX0_at_19 : decode cX0_at 19 = .ok (.iload_n 3, 1) := dk_29 (dk_at dksX0_at_0 19 rfl rfl)
theorem dX0_at_20 : decode cX0_at 20 = .ok (.i2l, 1) := dk_133 (dk_at dksX0_at_0 20 rfl rfl)
theorem dX0_at_21 : decode cX0_at 21 = .ok (.lconst 0, 1) := dk_9 (dk_at dksX0_at_0 21 rfl rfl)
theorem dX0_at_22 : decode cX0_at 22 = .ok (.ldc2_w 97, 3) := dk_20 0 97 (dk_at dksX0_at_1 0 rfl rfl)
theorem dX0_at_25 : decode cX0_at 25 = .ok (.invokestatic 14, 3) := dk_184 0 14 (dk_at dksX0_at_1 3 rfl rfl)
theorem dX0_at_28 : decode cX0_at 28 = .ok (.ifCond .eq 18, 3) := dk_153 0 18 (dk_at dksX0_at_1 6 rfl rfl)
theorem dX0_at_31 : decode cX0_at 31 = .ok (.aload_n 0, 1) := dk_42 (dk_at dksX0_at_1 9 rfl rfl)
theorem dX0_at_32 : decode cX0_at 32 = .ok (.getfield 164, 3) := dk_180 0 164 (dk_at dksX0_at_1 10 rfl rfl)
theorem dX0_at_35 : decode cX0_at 35 = .ok (.iload_n 1, 1) := dk_27 (dk_at dksX0_at_1 13 rfl rfl)
theorem dX0_at_36 : decode cX0_at 36 = .ok (.aaload, 1) := dk_50 (dk_at dksX0_at_1 14 rfl rfl)
theorem dX0_at_37 : decode cX0_at 37 = .ok (.iload_n 2, 1) := dk_28 (dk_at dksX0_at_1 15 rfl rfl)
theorem dX0_at_38 : decode cX0_at 38 = .ok (.aaload, 1) := dk_50 (dk_at dksX0_at_1 16 rfl rfl)
theorem dX0_at_39 : decode cX0_at 39 = .ok (.iload_n 3, 1) := dk_29 (dk_at dksX0_at_1 17 rfl rfl)
theorem dX0_at_40 : decode cX0_at 40 = .ok (.invokevirtual 299, 3) := dk_182 1 43 (dk_at dksX0_at_1 18 rfl rfl)
theorem dX0_at_43 : decode cX0_at 43 = .ok (.goto 5, 3) := dk_167 0 5 (dk_at dksX0_at_1 21 rfl rfl)
theorem dX0_at_46 : decode cX0_at 46 = .ok (.bipush (-2), 2) := dk_16 254 (dk_at dksX0_at_2 0 rfl rfl)
theorem dX0_at_48 : decode cX0_at 48 = .ok (.ireturn, 1) := dk_172 (dk_at dksX0_at_2 2 rfl rfl)
abbrev cX0_house : ByteArray := prog_1_method_41_code
def yX0_house : MethodName := ⟨RX0, "house", "(II)I"⟩
def dkwX0_house_1 : List UInt8 := [27, 28, 182, 1, 51, 167, 0, 5, 16, 254, 172]
abbrev dktX0_house_1 : List UInt8 := dkwX0_house_1 ++ []
def dkwX0_house_0 : List UInt8 := [42, 182, 1, 37, 27, 184, 0, 99, 153, 0, 24, 28, 133, 9, 20, 0, 86, 184, 0, 14, 153, 0, 12, 42]
abbrev dktX0_house_0 : List UInt8 := dkwX0_house_0 ++ dktX0_house_1
theorem dksX0_house_0 : cX0_house.data.toList.drop 0 = dktX0_house_0 := by decide +kernel
theorem dksX0_house_1 : cX0_house.data.toList.drop 24 = dktX0_house_1 := dk_seg dksX0_house_0 24 rfl rfl
theorem dX0_house_0 : decode cX0_house 0 = .ok (.aload_n 0, 1) := dk_42 (dk_at dksX0_house_0 0 rfl rfl)
theorem dX0_house_1 : decode cX0_house 1 = .ok (.invokevirtual 293, 3) := dk_182 1 37 (dk_at dksX0_house_0 1 rfl rfl)
theorem dX0_house_4 : decode cX0_house 4 = .ok (.iload_n 1, 1) := dk_27 (dk_at dksX0_house_0 4 rfl rfl)
theorem dX0_house_5 : decode cX0_house 5 = .ok (.invokestatic 99, 3) := dk_184 0 99 (dk_at dksX0_house_0 5 rfl rfl)
theorem dX0_house_8 : decode cX0_house 8 = .ok (.ifCond .eq 24, 3) := dk_153 0 24 (dk_at dksX0_house_0 8 rfl rfl)
theorem dX0_house_11 : decode cX0_house 11 = .ok (.iload_n 2, 1) := dk_28 (dk_at dksX0_house_0 11 rfl rfl)
theorem dX0_house_12 : decode cX0_house 12 = .ok (.i2l, 1) := dk_133 (dk_at dksX0_house_0 12 rfl rfl)
theorem dX0_house_13 : decode cX0_house 13 = .ok (.lconst 0, 1) := dk_9 (dk_at dksX0_house_0 13 rfl rfl)
theorem dX0_house_14 : decode cX0_house 14 = .ok (.ldc2_w 86, 3) := dk_20 0 86 (dk_at dksX0_house_0 14 rfl rfl)
theorem dX0_house_17 : decode cX0_house 17 = .ok (.invokestatic 14, 3) := dk_184 0 14 (dk_at dksX0_house_0 17 rfl rfl)
theorem dX0_house_20 : decode cX0_house 20 = .ok (.ifCond .eq 12, 3) := dk_153 0 12 (dk_at dksX0_house_0 20 rfl rfl)
theorem dX0_house_23 : decode cX0_house 23 = .ok (.aload_n 0, 1) := dk_42 (dk_at dksX0_house_0 23 rfl rfl)
theorem dX0_house_24 : decode cX0_house 24 = .ok (.iload_n 1, 1) := dk_27 (dk_at dksX0_house_1 0 rfl rfl)
theorem dX0_house_25 : decode cX0_house 25 = .ok (.iload_n 2, 1) := dk_28 (dk_at dksX0_house_1 1 rfl rfl)
theorem dX0_house_26 : decode cX0_house 26 = .ok (.invokevirtual 307, 3) := dk_182 1 51 (dk_at dksX0_house_1 2 rfl rfl)
theorem dX0_house_29 : decode cX0_house 29 = .ok (.goto 5, 3) := dk_167 0 5 (dk_at dksX0_house_1 5 rfl rfl)
theorem dX0_house_32 : decode cX0_house 32 = .ok (.bipush (-2), 2) := dk_16 254 (dk_at dksX0_house_1 8 rfl rfl)
theorem dX0_house_34 : decode cX0_house 34 = .ok (.ireturn, 1) := dk_172 (dk_at dksX0_house_1 10 rfl rfl)
abbrev cX0_houseBy : ByteArray := prog_1_method_40_code
def yX0_houseBy : MethodName := ⟨RX0, "houseBy", "(II)I"⟩
def dkwX0_houseBy_1 : List UInt8 := [182, 1, 48, 153, 0, 7, 4, 167, 0, 4, 3, 172]
abbrev dktX0_houseBy_1 : List UInt8 := dkwX0_houseBy_1 ++ []
def dkwX0_houseBy_0 : List UInt8 := [28, 5, 162, 0, 20, 42, 27, 28, 154, 0, 7, 4, 167, 0, 4, 3, 182, 1, 44, 167, 0, 16, 42, 27]
abbrev dktX0_houseBy_0 : List UInt8 := dkwX0_houseBy_0 ++ dktX0_houseBy_1
theorem dksX0_houseBy_0 : cX0_houseBy.data.toList.drop 0 = dktX0_houseBy_0 := by decide +kernel
theorem dksX0_houseBy_1 : cX0_houseBy.data.toList.drop 24 = dktX0_houseBy_1 := dk_seg dksX0_houseBy_0 24 rfl rfl
theorem dX0_houseBy_0 : decode cX0_houseBy 0 = .ok (.iload_n 2, 1) := dk_28 (dk_at dksX0_houseBy_0 0 rfl rfl)
theorem dX0_houseBy_1 : decode cX0_houseBy 1 = .ok (.iconst 2, 1) := dk_5 (dk_at dksX0_houseBy_0 1 rfl rfl)
theorem dX0_houseBy_2 : decode cX0_houseBy 2 = .ok (.if_icmp .ge 20, 3) := dk_162 0 20 (dk_at dksX0_houseBy_0 2 rfl rfl)
theorem dX0_houseBy_5 : decode cX0_houseBy 5 = .ok (.aload_n 0, 1) := dk_42 (dk_at dksX0_houseBy_0 5 rfl rfl)
theorem dX0_houseBy_6 : decode cX0_houseBy 6 = .ok (.iload_n 1, 1) := dk_27 (dk_at dksX0_houseBy_0 6 rfl rfl)
theorem dX0_houseBy_7 : decode cX0_houseBy 7 = .ok (.iload_n 2, 1) := dk_28 (dk_at dksX0_houseBy_0 7 rfl rfl)
theorem dX0_houseBy_8 : decode cX0_houseBy 8 = .ok (.ifCond .ne 7, 3) := dk_154 0 7 (dk_at dksX0_houseBy_0 8 rfl rfl)
theorem dX0_houseBy_11 : decode cX0_houseBy 11 = .ok (.iconst 1, 1) := dk_4 (dk_at dksX0_houseBy_0 11 rfl rfl)
theorem dX0_houseBy_12 : decode cX0_houseBy 12 = .ok (.goto 4, 3) := dk_167 0 4 (dk_at dksX0_houseBy_0 12 rfl rfl)
theorem dX0_houseBy_15 : decode cX0_houseBy 15 = .ok (.iconst 0, 1) := dk_3 (dk_at dksX0_houseBy_0 15 rfl rfl)
theorem dX0_houseBy_16 : decode cX0_houseBy 16 = .ok (.invokevirtual 300, 3) := dk_182 1 44 (dk_at dksX0_houseBy_0 16 rfl rfl)
theorem dX0_houseBy_19 : decode cX0_houseBy 19 = .ok (.goto 16, 3) := dk_167 0 16 (dk_at dksX0_houseBy_0 19 rfl rfl)
theorem dX0_houseBy_22 : decode cX0_houseBy 22 = .ok (.aload_n 0, 1) := dk_42 (dk_at dksX0_houseBy_0 22 rfl rfl)
theorem dX0_houseBy_23 : decode cX0_houseBy 23 = .ok (.iload_n 1, 1) := dk_27 (dk_at dksX0_houseBy_0 23 rfl rfl)
theorem dX0_houseBy_24 : decode cX0_houseBy 24 = .ok (.invokevirtual 304, 3) := dk_182 1 48 (dk_at dksX0_houseBy_1 0 rfl rfl)
theorem dX0_houseBy_27 : decode cX0_houseBy 27 = .ok (.ifCond .eq 7, 3) := dk_153 0 7 (dk_at dksX0_houseBy_1 3 rfl rfl)
theorem dX0_houseBy_30 : decode cX0_houseBy 30 = .ok (.iconst 1, 1) := dk_4 (dk_at dksX0_houseBy_1 6 rfl rfl)
theorem dX0_houseBy_31 : decode cX0_houseBy 31 = .ok (.goto 4, 3) := dk_167 0 4 (dk_at dksX0_houseBy_1 7 rfl rfl)
theorem dX0_houseBy_34 : decode cX0_houseBy 34 = .ok (.iconst 0, 1) := dk_3 (dk_at dksX0_houseBy_1 10 rfl rfl)
theorem dX0_houseBy_35 : decode cX0_houseBy 35 = .ok (.ireturn, 1) := dk_172 (dk_at dksX0_houseBy_1 11 rfl rfl)
abbrev cX0_votes : ByteArray := prog_1_method_38_code
def yX0_votes : MethodName := ⟨RX0, "votes", "(IZ)I"⟩
def dkwX0_votes_2 : List UInt8 := [167, 0, 4, 3, 96, 62, 132, 4, 1, 167, 255, 205, 29, 172]
abbrev dktX0_votes_2 : List UInt8 := dkwX0_votes_2 ++ []
def dkwX0_votes_1 : List UInt8 := [180, 0, 232, 154, 0, 23, 42, 180, 0, 164, 27, 50, 21, 4, 50, 180, 0, 204, 28, 160, 0, 7, 4]
abbrev dktX0_votes_1 : List UInt8 := dkwX0_votes_1 ++ dktX0_votes_2
def dkwX0_votes_0 : List UInt8 := [3, 62, 3, 54, 4, 21, 4, 42, 182, 0, 80, 162, 0, 48, 29, 42, 180, 0, 164, 27, 50, 21, 4, 50]
abbrev dktX0_votes_0 : List UInt8 := dkwX0_votes_0 ++ dktX0_votes_1
theorem dksX0_votes_0 : cX0_votes.data.toList.drop 0 = dktX0_votes_0 := by decide +kernel
theorem dksX0_votes_1 : cX0_votes.data.toList.drop 24 = dktX0_votes_1 := dk_seg dksX0_votes_0 24 rfl rfl
theorem dksX0_votes_2 : cX0_votes.data.toList.drop 47 = dktX0_votes_2 := dk_seg dksX0_votes_1 23 rfl rfl
theorem dX0_votes_0 : decode cX0_votes 0 = .ok (.iconst 0, 1) := dk_3 (dk_at dksX0_votes_0 0 rfl rfl)
theorem dX0_votes_1 : decode cX0_votes 1 = .ok (.istore_n 3, 1) := dk_62 (dk_at dksX0_votes_0 1 rfl rfl)
theorem dX0_votes_2 : decode cX0_votes 2 = .ok (.iconst 0, 1) := dk_3 (dk_at dksX0_votes_0 2 rfl rfl)
theorem dX0_votes_3 : decode cX0_votes 3 = .ok (.istore 4, 2) := dk_54 4 (dk_at dksX0_votes_0 3 rfl rfl)
theorem dX0_votes_5 : decode cX0_votes 5 = .ok (.iload 4, 2) := dk_21 4 (dk_at dksX0_votes_0 5 rfl rfl)
theorem dX0_votes_7 : decode cX0_votes 7 = .ok (.aload_n 0, 1) := dk_42 (dk_at dksX0_votes_0 7 rfl rfl)
theorem dX0_votes_8 : decode cX0_votes 8 = .ok (.invokevirtual 80, 3) := dk_182 0 80 (dk_at dksX0_votes_0 8 rfl rfl)
theorem dX0_votes_11 : decode cX0_votes 11 = .ok (.if_icmp .ge 48, 3) := dk_162 0 48 (dk_at dksX0_votes_0 11 rfl rfl)
theorem dX0_votes_14 : decode cX0_votes 14 = .ok (.iload_n 3, 1) := dk_29 (dk_at dksX0_votes_0 14 rfl rfl)
theorem dX0_votes_15 : decode cX0_votes 15 = .ok (.aload_n 0, 1) := dk_42 (dk_at dksX0_votes_0 15 rfl rfl)
theorem dX0_votes_16 : decode cX0_votes 16 = .ok (.getfield 164, 3) := dk_180 0 164 (dk_at dksX0_votes_0 16 rfl rfl)
theorem dX0_votes_19 : decode cX0_votes 19 = .ok (.iload_n 1, 1) := dk_27 (dk_at dksX0_votes_0 19 rfl rfl)
theorem dX0_votes_20 : decode cX0_votes 20 = .ok (.aaload, 1) := dk_50 (dk_at dksX0_votes_0 20 rfl rfl)
theorem dX0_votes_21 : decode cX0_votes 21 = .ok (.iload 4, 2) := dk_21 4 (dk_at dksX0_votes_0 21 rfl rfl)
theorem dX0_votes_23 : decode cX0_votes 23 = .ok (.aaload, 1) := dk_50 (dk_at dksX0_votes_0 23 rfl rfl)
theorem dX0_votes_24 : decode cX0_votes 24 = .ok (.getfield 232, 3) := dk_180 0 232 (dk_at dksX0_votes_1 0 rfl rfl)
theorem dX0_votes_27 : decode cX0_votes 27 = .ok (.ifCond .ne 23, 3) := dk_154 0 23 (dk_at dksX0_votes_1 3 rfl rfl)
theorem dX0_votes_30 : decode cX0_votes 30 = .ok (.aload_n 0, 1) := dk_42 (dk_at dksX0_votes_1 6 rfl rfl)
theorem dX0_votes_31 : decode cX0_votes 31 = .ok (.getfield 164, 3) := dk_180 0 164 (dk_at dksX0_votes_1 7 rfl rfl)
theorem dX0_votes_34 : decode cX0_votes 34 = .ok (.iload_n 1, 1) := dk_27 (dk_at dksX0_votes_1 10 rfl rfl)
theorem dX0_votes_35 : decode cX0_votes 35 = .ok (.aaload, 1) := dk_50 (dk_at dksX0_votes_1 11 rfl rfl)
theorem dX0_votes_36 : decode cX0_votes 36 = .ok (.iload 4, 2) := dk_21 4 (dk_at dksX0_votes_1 12 rfl rfl)
theorem dX0_votes_38 : decode cX0_votes 38 = .ok (.aaload, 1) := dk_50 (dk_at dksX0_votes_1 14 rfl rfl)
theorem dX0_votes_39 : decode cX0_votes 39 = .ok (.getfield 204, 3) := dk_180 0 204 (dk_at dksX0_votes_1 15 rfl rfl)
theorem dX0_votes_42 : decode cX0_votes 42 = .ok (.iload_n 2, 1) := dk_28 (dk_at dksX0_votes_1 18 rfl rfl)
theorem dX0_votes_43 : decode cX0_votes 43 = .ok (.if_icmp .ne 7, 3) := dk_160 0 7 (dk_at dksX0_votes_1 19 rfl rfl)
theorem dX0_votes_46 : decode cX0_votes 46 = .ok (.iconst 1, 1) := dk_4 (dk_at dksX0_votes_1 22 rfl rfl)
theorem dX0_votes_47 : decode cX0_votes 47 = .ok (.goto 4, 3) := dk_167 0 4 (dk_at dksX0_votes_2 0 rfl rfl)
theorem dX0_votes_50 : decode cX0_votes 50 = .ok (.iconst 0, 1) := dk_3 (dk_at dksX0_votes_2 3 rfl rfl)
theorem dX0_votes_51 : decode cX0_votes 51 = .ok (.iadd, 1) := dk_96 (dk_at dksX0_votes_2 4 rfl rfl)
theorem dX0_votes_52 : decode cX0_votes 52 = .ok (.istore_n 3, 1) := dk_62 (dk_at dksX0_votes_2 5 rfl rfl)
theorem dX0_votes_53 : decode cX0_votes 53 = .ok (.iinc 4 1, 3) := dk_132 4 1 (dk_at dksX0_votes_2 6 rfl rfl)
theorem dX0_votes_56 : decode cX0_votes 56 = .ok (.goto (-51), 3) := dk_167 255 205 (dk_at dksX0_votes_2 9 rfl rfl)
theorem dX0_votes_59 : decode cX0_votes 59 = .ok (.iload_n 3, 1) := dk_29 (dk_at dksX0_votes_2 12 rfl rfl)
theorem dX0_votes_60 : decode cX0_votes 60 = .ok (.ireturn, 1) := dk_172 (dk_at dksX0_votes_2 13 rfl rfl)
abbrev cX0_isCarried : ByteArray := prog_1_method_39_code
def yX0_isCarried : MethodName := ⟨RX0, "isCarried", "(I)Z"⟩
def dkwX0_isCarried_0 : List UInt8 := [42, 27, 4, 182, 1, 44, 42, 27, 3, 182, 1, 44, 164, 0, 7, 4, 167, 0, 4, 3, 172]
abbrev dktX0_isCarried_0 : List UInt8 := dkwX0_isCarried_0 ++ []
theorem dksX0_isCarried_0 : cX0_isCarried.data.toList.drop 0 = dktX0_isCarried_0 := by decide +kernel
theorem dX0_isCarried_0 : decode cX0_isCarried 0 = .ok (.aload_n 0, 1) := dk_42 (dk_at dksX0_isCarried_0 0 rfl rfl)
theorem dX0_isCarried_1 : decode cX0_isCarried 1 = .ok (.iload_n 1, 1) := dk_27 (dk_at dksX0_isCarried_0 1 rfl rfl)
theorem dX0_isCarried_2 : decode cX0_isCarried 2 = .ok (.iconst 1, 1) := dk_4 (dk_at dksX0_isCarried_0 2 rfl rfl)
theorem dX0_isCarried_3 : decode cX0_isCarried 3 = .ok (.invokevirtual 300, 3) := dk_182 1 44 (dk_at dksX0_isCarried_0 3 rfl rfl)
theorem dX0_isCarried_6 : decode cX0_isCarried 6 = .ok (.aload_n 0, 1) := dk_42 (dk_at dksX0_isCarried_0 6 rfl rfl)
theorem dX0_isCarried_7 : decode cX0_isCarried 7 = .ok (.iload_n 1, 1) := dk_27 (dk_at dksX0_isCarried_0 7 rfl rfl)
theorem dX0_isCarried_8 : decode cX0_isCarried 8 = .ok (.iconst 0, 1) := dk_3 (dk_at dksX0_isCarried_0 8 rfl rfl)
theorem dX0_isCarried_9 : decode cX0_isCarried 9 = .ok (.invokevirtual 300, 3) := dk_182 1 44 (dk_at dksX0_isCarried_0 9 rfl rfl)
theorem dX0_isCarried_12 : decode cX0_isCarried 12 = .ok (.if_icmp .le 7, 3) := dk_164 0 7 (dk_at dksX0_isCarried_0 12 rfl rfl)
theorem dX0_isCarried_15 : decode cX0_isCarried 15 = .ok (.iconst 1, 1) := dk_4 (dk_at dksX0_isCarried_0 15 rfl rfl)
theorem dX0_isCarried_16 : decode cX0_isCarried 16 = .ok (.goto 4, 3) := dk_167 0 4 (dk_at dksX0_isCarried_0 16 rfl rfl)
theorem dX0_isCarried_19 : decode cX0_isCarried 19 = .ok (.iconst 0, 1) := dk_3 (dk_at dksX0_isCarried_0 19 rfl rfl)
theorem dX0_isCarried_20 : decode cX0_isCarried 20 = .ok (.ireturn, 1) := dk_172 (dk_at dksX0_isCarried_0 20 rfl rfl)
abbrev cX0_governments : ByteArray := prog_1_method_43_code
def yX0_governments : MethodName := ⟨RX0, "governments", "()I"⟩
def dkwX0_governments_0 : List UInt8 := [42, 182, 1, 37, 42, 182, 1, 54, 172]
abbrev dktX0_governments_0 : List UInt8 := dkwX0_governments_0 ++ []
theorem dksX0_governments_0 : cX0_governments.data.toList.drop 0 = dktX0_governments_0 := by decide +kernel
theorem dX0_governments_0 : decode cX0_governments 0 = .ok (.aload_n 0, 1) := dk_42 (dk_at dksX0_governments_0 0 rfl rfl)
theorem dX0_governments_1 : decode cX0_governments 1 = .ok (.invokevirtual 293, 3) := dk_182 1 37 (dk_at dksX0_governments_0 1 rfl rfl)
theorem dX0_governments_4 : decode cX0_governments 4 = .ok (.aload_n 0, 1) := dk_42 (dk_at dksX0_governments_0 4 rfl rfl)
theorem dX0_governments_5 : decode cX0_governments 5 = .ok (.invokevirtual 310, 3) := dk_182 1 54 (dk_at dksX0_governments_0 5 rfl rfl)
theorem dX0_governments_8 : decode cX0_governments 8 = .ok (.ireturn, 1) := dk_172 (dk_at dksX0_governments_0 8 rfl rfl)
abbrev cX0_governmentsNow : ByteArray := prog_1_method_42_code
def yX0_governmentsNow : MethodName := ⟨RX0, "governmentsNow", "()I"⟩
def dkwX0_governmentsNow_1 : List UInt8 := [159, 0, 7, 4, 167, 0, 4, 3, 96, 60, 132, 2, 1, 167, 255, 224, 27, 172]
abbrev dktX0_governmentsNow_1 : List UInt8 := dkwX0_governmentsNow_1 ++ []
def dkwX0_governmentsNow_0 : List UInt8 := [3, 60, 4, 61, 28, 16, 20, 162, 0, 32, 27, 42, 28, 182, 1, 48, 42, 28, 4, 100, 182, 1, 48]
abbrev dktX0_governmentsNow_0 : List UInt8 := dkwX0_governmentsNow_0 ++ dktX0_governmentsNow_1
theorem dksX0_governmentsNow_0 : cX0_governmentsNow.data.toList.drop 0 = dktX0_governmentsNow_0 := by decide +kernel
theorem dksX0_governmentsNow_1 : cX0_governmentsNow.data.toList.drop 23 = dktX0_governmentsNow_1 := dk_seg dksX0_governmentsNow_0 23 rfl rfl
theorem dX0_governmentsNow_0 : decode cX0_governmentsNow 0 = .ok (.iconst 0, 1) := dk_3 (dk_at dksX0_governmentsNow_0 0 rfl rfl)
theorem dX0_governmentsNow_1 : decode cX0_governmentsNow 1 = .ok (.istore_n 1, 1) := dk_60 (dk_at dksX0_governmentsNow_0 1 rfl rfl)
theorem dX0_governmentsNow_2 : decode cX0_governmentsNow 2 = .ok (.iconst 1, 1) := dk_4 (dk_at dksX0_governmentsNow_0 2 rfl rfl)
theorem dX0_governmentsNow_3 : decode cX0_governmentsNow 3 = .ok (.istore_n 2, 1) := dk_61 (dk_at dksX0_governmentsNow_0 3 rfl rfl)
theorem dX0_governmentsNow_4 : decode cX0_governmentsNow 4 = .ok (.iload_n 2, 1) := dk_28 (dk_at dksX0_governmentsNow_0 4 rfl rfl)
theorem dX0_governmentsNow_5 : decode cX0_governmentsNow 5 = .ok (.bipush 20, 2) := dk_16 20 (dk_at dksX0_governmentsNow_0 5 rfl rfl)
theorem dX0_governmentsNow_7 : decode cX0_governmentsNow 7 = .ok (.if_icmp .ge 32, 3) := dk_162 0 32 (dk_at dksX0_governmentsNow_0 7 rfl rfl)
theorem dX0_governmentsNow_10 : decode cX0_governmentsNow 10 = .ok (.iload_n 1, 1) := dk_27 (dk_at dksX0_governmentsNow_0 10 rfl rfl)
theorem dX0_governmentsNow_11 : decode cX0_governmentsNow 11 = .ok (.aload_n 0, 1) := dk_42 (dk_at dksX0_governmentsNow_0 11 rfl rfl)
theorem dX0_governmentsNow_12 : decode cX0_governmentsNow 12 = .ok (.iload_n 2, 1) := dk_28 (dk_at dksX0_governmentsNow_0 12 rfl rfl)
theorem dX0_governmentsNow_13 : decode cX0_governmentsNow 13 = .ok (.invokevirtual 304, 3) := dk_182 1 48 (dk_at dksX0_governmentsNow_0 13 rfl rfl)
theorem dX0_governmentsNow_16 : decode cX0_governmentsNow 16 = .ok (.aload_n 0, 1) := dk_42 (dk_at dksX0_governmentsNow_0 16 rfl rfl)
theorem dX0_governmentsNow_17 : decode cX0_governmentsNow 17 = .ok (.iload_n 2, 1) := dk_28 (dk_at dksX0_governmentsNow_0 17 rfl rfl)
theorem dX0_governmentsNow_18 : decode cX0_governmentsNow 18 = .ok (.iconst 1, 1) := dk_4 (dk_at dksX0_governmentsNow_0 18 rfl rfl)
theorem dX0_governmentsNow_19 : decode cX0_governmentsNow 19 = .ok (.isub, 1) := dk_100 (dk_at dksX0_governmentsNow_0 19 rfl rfl)
theorem dX0_governmentsNow_20 : decode cX0_governmentsNow 20 = .ok (.invokevirtual 304, 3) := dk_182 1 48 (dk_at dksX0_governmentsNow_0 20 rfl rfl)
theorem dX0_governmentsNow_23 : decode cX0_governmentsNow 23 = .ok (.if_icmp .eq 7, 3) := dk_159 0 7 (dk_at dksX0_governmentsNow_1 0 rfl rfl)
theorem dX0_governmentsNow_26 : decode cX0_governmentsNow 26 = .ok (.iconst 1, 1) := dk_4 (dk_at dksX0_governmentsNow_1 3 rfl rfl)
theorem dX0_governmentsNow_27 : decode cX0_governmentsNow 27 = .ok (.goto 4, 3) := dk_167 0 4 (dk_at dksX0_governmentsNow_1 4 rfl rfl)
theorem dX0_governmentsNow_30 : decode cX0_governmentsNow 30 = .ok (.iconst 0, 1) := dk_3 (dk_at dksX0_governmentsNow_1 7 rfl rfl)
theorem dX0_governmentsNow_31 : decode cX0_governmentsNow 31 = .ok (.iadd, 1) := dk_96 (dk_at dksX0_governmentsNow_1 8 rfl rfl)
theorem dX0_governmentsNow_32 : decode cX0_governmentsNow 32 = .ok (.istore_n 1, 1) := dk_60 (dk_at dksX0_governmentsNow_1 9 rfl rfl)
theorem dX0_governmentsNow_33 : decode cX0_governmentsNow 33 = .ok (.iinc 2 1, 3) := dk_132 2 1 (dk_at dksX0_governmentsNow_1 10 rfl rfl)
theorem dX0_governmentsNow_36 : decode cX0_governmentsNow 36 = .ok (.goto (-32), 3) := dk_167 255 224 (dk_at dksX0_governmentsNow_1 13 rfl rfl)
theorem dX0_governmentsNow_39 : decode cX0_governmentsNow 39 = .ok (.iload_n 1, 1) := dk_27 (dk_at dksX0_governmentsNow_1 16 rfl rfl)
theorem dX0_governmentsNow_40 : decode cX0_governmentsNow 40 = .ok (.ireturn, 1) := dk_172 (dk_at dksX0_governmentsNow_1 17 rfl rfl)
abbrev cX0_carried : ByteArray := prog_1_method_45_code
def yX0_carried : MethodName := ⟨RX0, "carried", "()I"⟩
def dkwX0_carried_0 : List UInt8 := [42, 182, 1, 37, 42, 182, 1, 57, 172]
abbrev dktX0_carried_0 : List UInt8 := dkwX0_carried_0 ++ []
theorem dksX0_carried_0 : cX0_carried.data.toList.drop 0 = dktX0_carried_0 := by decide +kernel
theorem dX0_carried_0 : decode cX0_carried 0 = .ok (.aload_n 0, 1) := dk_42 (dk_at dksX0_carried_0 0 rfl rfl)
theorem dX0_carried_1 : decode cX0_carried 1 = .ok (.invokevirtual 293, 3) := dk_182 1 37 (dk_at dksX0_carried_0 1 rfl rfl)
theorem dX0_carried_4 : decode cX0_carried 4 = .ok (.aload_n 0, 1) := dk_42 (dk_at dksX0_carried_0 4 rfl rfl)
theorem dX0_carried_5 : decode cX0_carried 5 = .ok (.invokevirtual 313, 3) := dk_182 1 57 (dk_at dksX0_carried_0 5 rfl rfl)
theorem dX0_carried_8 : decode cX0_carried 8 = .ok (.ireturn, 1) := dk_172 (dk_at dksX0_carried_0 8 rfl rfl)
abbrev cX0_carriedNow : ByteArray := prog_1_method_44_code
def yX0_carriedNow : MethodName := ⟨RX0, "carriedNow", "()I"⟩
def dkwX0_carriedNow_1 : List UInt8 := [96, 60, 132, 2, 1, 167, 255, 231, 27, 172]
abbrev dktX0_carriedNow_1 : List UInt8 := dkwX0_carriedNow_1 ++ []
def dkwX0_carriedNow_0 : List UInt8 := [3, 60, 3, 61, 28, 16, 20, 162, 0, 25, 27, 42, 28, 182, 1, 48, 153, 0, 7, 4, 167, 0, 4, 3]
abbrev dktX0_carriedNow_0 : List UInt8 := dkwX0_carriedNow_0 ++ dktX0_carriedNow_1
theorem dksX0_carriedNow_0 : cX0_carriedNow.data.toList.drop 0 = dktX0_carriedNow_0 := by decide +kernel
theorem dksX0_carriedNow_1 : cX0_carriedNow.data.toList.drop 24 = dktX0_carriedNow_1 := dk_seg dksX0_carriedNow_0 24 rfl rfl
theorem dX0_carriedNow_0 : decode cX0_carriedNow 0 = .ok (.iconst 0, 1) := dk_3 (dk_at dksX0_carriedNow_0 0 rfl rfl)
theorem dX0_carriedNow_1 : decode cX0_carriedNow 1 = .ok (.istore_n 1, 1) := dk_60 (dk_at dksX0_carriedNow_0 1 rfl rfl)
theorem dX0_carriedNow_2 : decode cX0_carriedNow 2 = .ok (.iconst 0, 1) := dk_3 (dk_at dksX0_carriedNow_0 2 rfl rfl)
theorem dX0_carriedNow_3 : decode cX0_carriedNow 3 = .ok (.istore_n 2, 1) := dk_61 (dk_at dksX0_carriedNow_0 3 rfl rfl)
theorem dX0_carriedNow_4 : decode cX0_carriedNow 4 = .ok (.iload_n 2, 1) := dk_28 (dk_at dksX0_carriedNow_0 4 rfl rfl)
theorem dX0_carriedNow_5 : decode cX0_carriedNow 5 = .ok (.bipush 20, 2) := dk_16 20 (dk_at dksX0_carriedNow_0 5 rfl rfl)
theorem dX0_carriedNow_7 : decode cX0_carriedNow 7 = .ok (.if_icmp .ge 25, 3) := dk_162 0 25 (dk_at dksX0_carriedNow_0 7 rfl rfl)
theorem dX0_carriedNow_10 : decode cX0_carriedNow 10 = .ok (.iload_n 1, 1) := dk_27 (dk_at dksX0_carriedNow_0 10 rfl rfl)
theorem dX0_carriedNow_11 : decode cX0_carriedNow 11 = .ok (.aload_n 0, 1) := dk_42 (dk_at dksX0_carriedNow_0 11 rfl rfl)
theorem dX0_carriedNow_12 : decode cX0_carriedNow 12 = .ok (.iload_n 2, 1) := dk_28 (dk_at dksX0_carriedNow_0 12 rfl rfl)
theorem dX0_carriedNow_13 : decode cX0_carriedNow 13 = .ok (.invokevirtual 304, 3) := dk_182 1 48 (dk_at dksX0_carriedNow_0 13 rfl rfl)
theorem dX0_carriedNow_16 : decode cX0_carriedNow 16 = .ok (.ifCond .eq 7, 3) := dk_153 0 7 (dk_at dksX0_carriedNow_0 16 rfl rfl)
theorem dX0_carriedNow_19 : decode cX0_carriedNow 19 = .ok (.iconst 1, 1) := dk_4 (dk_at dksX0_carriedNow_0 19 rfl rfl)
theorem dX0_carriedNow_20 : decode cX0_carriedNow 20 = .ok (.goto 4, 3) := dk_167 0 4 (dk_at dksX0_carriedNow_0 20 rfl rfl)
theorem dX0_carriedNow_23 : decode cX0_carriedNow 23 = .ok (.iconst 0, 1) := dk_3 (dk_at dksX0_carriedNow_0 23 rfl rfl)
theorem dX0_carriedNow_24 : decode cX0_carriedNow 24 = .ok (.iadd, 1) := dk_96 (dk_at dksX0_carriedNow_1 0 rfl rfl)
theorem dX0_carriedNow_25 : decode cX0_carriedNow 25 = .ok (.istore_n 1, 1) := dk_60 (dk_at dksX0_carriedNow_1 1 rfl rfl)
theorem dX0_carriedNow_26 : decode cX0_carriedNow 26 = .ok (.iinc 2 1, 3) := dk_132 2 1 (dk_at dksX0_carriedNow_1 2 rfl rfl)
theorem dX0_carriedNow_29 : decode cX0_carriedNow 29 = .ok (.goto (-25), 3) := dk_167 255 231 (dk_at dksX0_carriedNow_1 5 rfl rfl)
theorem dX0_carriedNow_32 : decode cX0_carriedNow 32 = .ok (.iload_n 1, 1) := dk_27 (dk_at dksX0_carriedNow_1 8 rfl rfl)
theorem dX0_carriedNow_33 : decode cX0_carriedNow 33 = .ok (.ireturn, 1) := dk_172 (dk_at dksX0_carriedNow_1 9 rfl rfl)
abbrev cX0_crowd : ByteArray := prog_1_method_47_code
def yX0_crowd : MethodName := ⟨RX0, "crowd", "(I)I"⟩
def dkwX0_crowd_1 : List UInt8 := [16, 254, 172]
abbrev dktX0_crowd_1 : List UInt8 := dkwX0_crowd_1 ++ []
def dkwX0_crowd_0 : List UInt8 := [42, 182, 1, 37, 27, 133, 9, 20, 0, 86, 184, 0, 14, 153, 0, 11, 42, 27, 182, 1, 60, 167, 0, 5]
abbrev dktX0_crowd_0 : List UInt8 := dkwX0_crowd_0 ++ dktX0_crowd_1
theorem dksX0_crowd_0 : cX0_crowd.data.toList.drop 0 = dktX0_crowd_0 := by decide +kernel
theorem dksX0_crowd_1 : cX0_crowd.data.toList.drop 24 = dktX0_crowd_1 := dk_seg dksX0_crowd_0 24 rfl rfl
theorem dX0_crowd_0 : decode cX0_crowd 0 = .ok (.aload_n 0, 1) := dk_42 (dk_at dksX0_crowd_0 0 rfl rfl)
theorem dX0_crowd_1 : decode cX0_crowd 1 = .ok (.invokevirtual 293, 3) := dk_182 1 37 (dk_at dksX0_crowd_0 1 rfl rfl)
theorem dX0_crowd_4 : decode cX0_crowd 4 = .ok (.iload_n 1, 1) := dk_27 (dk_at dksX0_crowd_0 4 rfl rfl)
theorem dX0_crowd_5 : decode cX0_crowd 5 = .ok (.i2l, 1) := dk_133 (dk_at dksX0_crowd_0 5 rfl rfl)
theorem dX0_crowd_6 : decode cX0_crowd 6 = .ok (.lconst 0, 1) := dk_9 (dk_at dksX0_crowd_0 6 rfl rfl)
theorem dX0_crowd_7 : decode cX0_crowd 7 = .ok (.ldc2_w 86, 3) := dk_20 0 86 (dk_at dksX0_crowd_0 7 rfl rfl)
theorem dX0_crowd_10 : decode cX0_crowd 10 = .ok (.invokestatic 14, 3) := dk_184 0 14 (dk_at dksX0_crowd_0 10 rfl rfl)
theorem dX0_crowd_13 : decode cX0_crowd 13 = .ok (.ifCond .eq 11, 3) := dk_153 0 11 (dk_at dksX0_crowd_0 13 rfl rfl)
theorem dX0_crowd_16 : decode cX0_crowd 16 = .ok (.aload_n 0, 1) := dk_42 (dk_at dksX0_crowd_0 16 rfl rfl)
theorem dX0_crowd_17 : decode cX0_crowd 17 = .ok (.iload_n 1, 1) := dk_27 (dk_at dksX0_crowd_0 17 rfl rfl)
theorem dX0_crowd_18 : decode cX0_crowd 18 = .ok (.invokevirtual 316, 3) := dk_182 1 60 (dk_at dksX0_crowd_0 18 rfl rfl)
theorem dX0_crowd_21 : decode cX0_crowd 21 = .ok (.goto 5, 3) := dk_167 0 5 (dk_at dksX0_crowd_0 21 rfl rfl)
theorem dX0_crowd_24 : decode cX0_crowd 24 = .ok (.bipush (-2), 2) := dk_16 254 (dk_at dksX0_crowd_1 0 rfl rfl)
theorem dX0_crowd_26 : decode cX0_crowd 26 = .ok (.ireturn, 1) := dk_172 (dk_at dksX0_crowd_1 2 rfl rfl)
abbrev cX0_crowdBy : ByteArray := prog_1_method_46_code
def yX0_crowdBy : MethodName := ⟨RX0, "crowdBy", "(I)I"⟩
def dkwX0_crowdBy_3 : List UInt8 := [16, 12, 108, 167, 0, 16, 27, 4, 160, 0, 10, 28, 16, 12, 112, 167, 0, 4, 29, 172]
abbrev dktX0_crowdBy_3 : List UInt8 := dkwX0_crowdBy_3 ++ []
def dkwX0_crowdBy_2 : List UInt8 := [21, 5, 62, 132, 4, 1, 167, 255, 209, 28, 2, 160, 0, 7, 2, 167, 0, 27, 27, 154, 0, 10, 28]
abbrev dktX0_crowdBy_2 : List UInt8 := dkwX0_crowdBy_2 ++ dktX0_crowdBy_3
def dkwX0_crowdBy_1 : List UInt8 := [108, 50, 21, 4, 16, 12, 112, 182, 1, 16, 54, 5, 21, 5, 29, 163, 0, 6, 167, 0, 9, 21, 4, 61]
abbrev dktX0_crowdBy_1 : List UInt8 := dkwX0_crowdBy_1 ++ dktX0_crowdBy_2
def dkwX0_crowdBy_0 : List UInt8 := [2, 61, 3, 62, 3, 54, 4, 21, 4, 17, 0, 240, 162, 0, 45, 42, 42, 180, 0, 164, 21, 4, 16, 12]
abbrev dktX0_crowdBy_0 : List UInt8 := dkwX0_crowdBy_0 ++ dktX0_crowdBy_1
theorem dksX0_crowdBy_0 : cX0_crowdBy.data.toList.drop 0 = dktX0_crowdBy_0 := by decide +kernel
theorem dksX0_crowdBy_1 : cX0_crowdBy.data.toList.drop 24 = dktX0_crowdBy_1 := dk_seg dksX0_crowdBy_0 24 rfl rfl
theorem dksX0_crowdBy_2 : cX0_crowdBy.data.toList.drop 48 = dktX0_crowdBy_2 := dk_seg dksX0_crowdBy_1 24 rfl rfl
theorem dksX0_crowdBy_3 : cX0_crowdBy.data.toList.drop 71 = dktX0_crowdBy_3 := dk_seg dksX0_crowdBy_2 23 rfl rfl
theorem dX0_crowdBy_0 : decode cX0_crowdBy 0 = .ok (.iconst (-1), 1) := dk_2 (dk_at dksX0_crowdBy_0 0 rfl rfl)
theorem dX0_crowdBy_1 : decode cX0_crowdBy 1 = .ok (.istore_n 2, 1) := dk_61 (dk_at dksX0_crowdBy_0 1 rfl rfl)
theorem dX0_crowdBy_2 : decode cX0_crowdBy 2 = .ok (.iconst 0, 1) := dk_3 (dk_at dksX0_crowdBy_0 2 rfl rfl)
theorem dX0_crowdBy_3 : decode cX0_crowdBy 3 = .ok (.istore_n 3, 1) := dk_62 (dk_at dksX0_crowdBy_0 3 rfl rfl)
theorem dX0_crowdBy_4 : decode cX0_crowdBy 4 = .ok (.iconst 0, 1) := dk_3 (dk_at dksX0_crowdBy_0 4 rfl rfl)
theorem dX0_crowdBy_5 : decode cX0_crowdBy 5 = .ok (.istore 4, 2) := dk_54 4 (dk_at dksX0_crowdBy_0 5 rfl rfl)
theorem dX0_crowdBy_7 : decode cX0_crowdBy 7 = .ok (.iload 4, 2) := dk_21 4 (dk_at dksX0_crowdBy_0 7 rfl rfl)
theorem dX0_crowdBy_9 : decode cX0_crowdBy 9 = .ok (.sipush 240, 3) := dk_17 0 240 (dk_at dksX0_crowdBy_0 9 rfl rfl)
theorem dX0_crowdBy_12 : decode cX0_crowdBy 12 = .ok (.if_icmp .ge 45, 3) := dk_162 0 45 (dk_at dksX0_crowdBy_0 12 rfl rfl)
theorem dX0_crowdBy_15 : decode cX0_crowdBy 15 = .ok (.aload_n 0, 1) := dk_42 (dk_at dksX0_crowdBy_0 15 rfl rfl)
theorem dX0_crowdBy_16 : decode cX0_crowdBy 16 = .ok (.aload_n 0, 1) := dk_42 (dk_at dksX0_crowdBy_0 16 rfl rfl)
theorem dX0_crowdBy_17 : decode cX0_crowdBy 17 = .ok (.getfield 164, 3) := dk_180 0 164 (dk_at dksX0_crowdBy_0 17 rfl rfl)
theorem dX0_crowdBy_20 : decode cX0_crowdBy 20 = .ok (.iload 4, 2) := dk_21 4 (dk_at dksX0_crowdBy_0 20 rfl rfl)
theorem dX0_crowdBy_22 : decode cX0_crowdBy 22 = .ok (.bipush 12, 2) := dk_16 12 (dk_at dksX0_crowdBy_0 22 rfl rfl)
theorem dX0_crowdBy_24 : decode cX0_crowdBy 24 = .ok (.idiv, 1) := dk_108 (dk_at dksX0_crowdBy_1 0 rfl rfl)
theorem dX0_crowdBy_25 : decode cX0_crowdBy 25 = .ok (.aaload, 1) := dk_50 (dk_at dksX0_crowdBy_1 1 rfl rfl)
theorem dX0_crowdBy_26 : decode cX0_crowdBy 26 = .ok (.iload 4, 2) := dk_21 4 (dk_at dksX0_crowdBy_1 2 rfl rfl)
theorem dX0_crowdBy_28 : decode cX0_crowdBy 28 = .ok (.bipush 12, 2) := dk_16 12 (dk_at dksX0_crowdBy_1 4 rfl rfl)
theorem dX0_crowdBy_30 : decode cX0_crowdBy 30 = .ok (.irem, 1) := dk_112 (dk_at dksX0_crowdBy_1 6 rfl rfl)
theorem dX0_crowdBy_31 : decode cX0_crowdBy 31 = .ok (.invokevirtual 272, 3) := dk_182 1 16 (dk_at dksX0_crowdBy_1 7 rfl rfl)
theorem dX0_crowdBy_34 : decode cX0_crowdBy 34 = .ok (.istore 5, 2) := dk_54 5 (dk_at dksX0_crowdBy_1 10 rfl rfl)
theorem dX0_crowdBy_36 : decode cX0_crowdBy 36 = .ok (.iload 5, 2) := dk_21 5 (dk_at dksX0_crowdBy_1 12 rfl rfl)
theorem dX0_crowdBy_38 : decode cX0_crowdBy 38 = .ok (.iload_n 3, 1) := dk_29 (dk_at dksX0_crowdBy_1 14 rfl rfl)
theorem dX0_crowdBy_39 : decode cX0_crowdBy 39 = .ok (.if_icmp .gt 6, 3) := dk_163 0 6 (dk_at dksX0_crowdBy_1 15 rfl rfl)
theorem dX0_crowdBy_42 : decode cX0_crowdBy 42 = .ok (.goto 9, 3) := dk_167 0 9 (dk_at dksX0_crowdBy_1 18 rfl rfl)
theorem dX0_crowdBy_45 : decode cX0_crowdBy 45 = .ok (.iload 4, 2) := dk_21 4 (dk_at dksX0_crowdBy_1 21 rfl rfl)
theorem dX0_crowdBy_47 : decode cX0_crowdBy 47 = .ok (.istore_n 2, 1) := dk_61 (dk_at dksX0_crowdBy_1 23 rfl rfl)
theorem dX0_crowdBy_48 : decode cX0_crowdBy 48 = .ok (.iload 5, 2) := dk_21 5 (dk_at dksX0_crowdBy_2 0 rfl rfl)
theorem dX0_crowdBy_50 : decode cX0_crowdBy 50 = .ok (.istore_n 3, 1) := dk_62 (dk_at dksX0_crowdBy_2 2 rfl rfl)
theorem dX0_crowdBy_51 : decode cX0_crowdBy 51 = .ok (.iinc 4 1, 3) := dk_132 4 1 (dk_at dksX0_crowdBy_2 3 rfl rfl)
theorem dX0_crowdBy_54 : decode cX0_crowdBy 54 = .ok (.goto (-47), 3) := dk_167 255 209 (dk_at dksX0_crowdBy_2 6 rfl rfl)
theorem dX0_crowdBy_57 : decode cX0_crowdBy 57 = .ok (.iload_n 2, 1) := dk_28 (dk_at dksX0_crowdBy_2 9 rfl rfl)
theorem dX0_crowdBy_58 : decode cX0_crowdBy 58 = .ok (.iconst (-1), 1) := dk_2 (dk_at dksX0_crowdBy_2 10 rfl rfl)
theorem dX0_crowdBy_59 : decode cX0_crowdBy 59 = .ok (.if_icmp .ne 7, 3) := dk_160 0 7 (dk_at dksX0_crowdBy_2 11 rfl rfl)
theorem dX0_crowdBy_62 : decode cX0_crowdBy 62 = .ok (.iconst (-1), 1) := dk_2 (dk_at dksX0_crowdBy_2 14 rfl rfl)
theorem dX0_crowdBy_63 : decode cX0_crowdBy 63 = .ok (.goto 27, 3) := dk_167 0 27 (dk_at dksX0_crowdBy_2 15 rfl rfl)
theorem dX0_crowdBy_66 : decode cX0_crowdBy 66 = .ok (.iload_n 1, 1) := dk_27 (dk_at dksX0_crowdBy_2 18 rfl rfl)
theorem dX0_crowdBy_67 : decode cX0_crowdBy 67 = .ok (.ifCond .ne 10, 3) := dk_154 0 10 (dk_at dksX0_crowdBy_2 19 rfl rfl)
theorem dX0_crowdBy_70 : decode cX0_crowdBy 70 = .ok (.iload_n 2, 1) := dk_28 (dk_at dksX0_crowdBy_2 22 rfl rfl)
theorem dX0_crowdBy_71 : decode cX0_crowdBy 71 = .ok (.bipush 12, 2) := dk_16 12 (dk_at dksX0_crowdBy_3 0 rfl rfl)
theorem dX0_crowdBy_73 : decode cX0_crowdBy 73 = .ok (.idiv, 1) := dk_108 (dk_at dksX0_crowdBy_3 2 rfl rfl)
theorem dX0_crowdBy_74 : decode cX0_crowdBy 74 = .ok (.goto 16, 3) := dk_167 0 16 (dk_at dksX0_crowdBy_3 3 rfl rfl)
theorem dX0_crowdBy_77 : decode cX0_crowdBy 77 = .ok (.iload_n 1, 1) := dk_27 (dk_at dksX0_crowdBy_3 6 rfl rfl)
theorem dX0_crowdBy_78 : decode cX0_crowdBy 78 = .ok (.iconst 1, 1) := dk_4 (dk_at dksX0_crowdBy_3 7 rfl rfl)
theorem dX0_crowdBy_79 : decode cX0_crowdBy 79 = .ok (.if_icmp .ne 10, 3) := dk_160 0 10 (dk_at dksX0_crowdBy_3 8 rfl rfl)
theorem dX0_crowdBy_82 : decode cX0_crowdBy 82 = .ok (.iload_n 2, 1) := dk_28 (dk_at dksX0_crowdBy_3 11 rfl rfl)
theorem dX0_crowdBy_83 : decode cX0_crowdBy 83 = .ok (.bipush 12, 2) := dk_16 12 (dk_at dksX0_crowdBy_3 12 rfl rfl)
theorem dX0_crowdBy_85 : decode cX0_crowdBy 85 = .ok (.irem, 1) := dk_112 (dk_at dksX0_crowdBy_3 14 rfl rfl)
theorem dX0_crowdBy_86 : decode cX0_crowdBy 86 = .ok (.goto 4, 3) := dk_167 0 4 (dk_at dksX0_crowdBy_3 15 rfl rfl)
theorem dX0_crowdBy_89 : decode cX0_crowdBy 89 = .ok (.iload_n 3, 1) := dk_29 (dk_at dksX0_crowdBy_3 18 rfl rfl)
theorem dX0_crowdBy_90 : decode cX0_crowdBy 90 = .ok (.ireturn, 1) := dk_172 (dk_at dksX0_crowdBy_3 19 rfl rfl)
abbrev cX0_orator : ByteArray := prog_1_method_49_code
def yX0_orator : MethodName := ⟨RX0, "orator", "()I"⟩
def dkwX0_orator_0 : List UInt8 := [42, 182, 1, 37, 42, 182, 1, 63, 172]
abbrev dktX0_orator_0 : List UInt8 := dkwX0_orator_0 ++ []
theorem dksX0_orator_0 : cX0_orator.data.toList.drop 0 = dktX0_orator_0 := by decide +kernel
theorem dX0_orator_0 : decode cX0_orator 0 = .ok (.aload_n 0, 1) := dk_42 (dk_at dksX0_orator_0 0 rfl rfl)
theorem dX0_orator_1 : decode cX0_orator 1 = .ok (.invokevirtual 293, 3) := dk_182 1 37 (dk_at dksX0_orator_0 1 rfl rfl)
theorem dX0_orator_4 : decode cX0_orator 4 = .ok (.aload_n 0, 1) := dk_42 (dk_at dksX0_orator_0 4 rfl rfl)
theorem dX0_orator_5 : decode cX0_orator 5 = .ok (.invokevirtual 319, 3) := dk_182 1 63 (dk_at dksX0_orator_0 5 rfl rfl)
theorem dX0_orator_8 : decode cX0_orator 8 = .ok (.ireturn, 1) := dk_172 (dk_at dksX0_orator_0 8 rfl rfl)
abbrev cX0_oratorNow : ByteArray := prog_1_method_48_code
def yX0_oratorNow : MethodName := ⟨RX0, "oratorNow", "()I"⟩
def dkwX0_oratorNow_2 : List UInt8 := [172]
abbrev dktX0_oratorNow_2 : List UInt8 := dkwX0_oratorNow_2 ++ []
def dkwX0_oratorNow_1 : List UInt8 := [180, 0, 235, 42, 180, 0, 159, 27, 50, 180, 0, 235, 164, 0, 5, 28, 60, 132, 2, 1, 167, 255, 217, 27]
abbrev dktX0_oratorNow_1 : List UInt8 := dkwX0_oratorNow_1 ++ dktX0_oratorNow_2
def dkwX0_oratorNow_0 : List UInt8 := [2, 60, 3, 61, 28, 42, 182, 0, 80, 162, 0, 37, 27, 2, 159, 0, 24, 42, 180, 0, 159, 28, 50]
abbrev dktX0_oratorNow_0 : List UInt8 := dkwX0_oratorNow_0 ++ dktX0_oratorNow_1
theorem dksX0_oratorNow_0 : cX0_oratorNow.data.toList.drop 0 = dktX0_oratorNow_0 := by decide +kernel
theorem dksX0_oratorNow_1 : cX0_oratorNow.data.toList.drop 23 = dktX0_oratorNow_1 := dk_seg dksX0_oratorNow_0 23 rfl rfl
theorem dksX0_oratorNow_2 : cX0_oratorNow.data.toList.drop 47 = dktX0_oratorNow_2 := dk_seg dksX0_oratorNow_1 24 rfl rfl
theorem dX0_oratorNow_0 : decode cX0_oratorNow 0 = .ok (.iconst (-1), 1) := dk_2 (dk_at dksX0_oratorNow_0 0 rfl rfl)
theorem dX0_oratorNow_1 : decode cX0_oratorNow 1 = .ok (.istore_n 1, 1) := dk_60 (dk_at dksX0_oratorNow_0 1 rfl rfl)
theorem dX0_oratorNow_2 : decode cX0_oratorNow 2 = .ok (.iconst 0, 1) := dk_3 (dk_at dksX0_oratorNow_0 2 rfl rfl)
theorem dX0_oratorNow_3 : decode cX0_oratorNow 3 = .ok (.istore_n 2, 1) := dk_61 (dk_at dksX0_oratorNow_0 3 rfl rfl)
theorem dX0_oratorNow_4 : decode cX0_oratorNow 4 = .ok (.iload_n 2, 1) := dk_28 (dk_at dksX0_oratorNow_0 4 rfl rfl)
theorem dX0_oratorNow_5 : decode cX0_oratorNow 5 = .ok (.aload_n 0, 1) := dk_42 (dk_at dksX0_oratorNow_0 5 rfl rfl)
theorem dX0_oratorNow_6 : decode cX0_oratorNow 6 = .ok (.invokevirtual 80, 3) := dk_182 0 80 (dk_at dksX0_oratorNow_0 6 rfl rfl)
theorem dX0_oratorNow_9 : decode cX0_oratorNow 9 = .ok (.if_icmp .ge 37, 3) := dk_162 0 37 (dk_at dksX0_oratorNow_0 9 rfl rfl)
theorem dX0_oratorNow_12 : decode cX0_oratorNow 12 = .ok (.iload_n 1, 1) := dk_27 (dk_at dksX0_oratorNow_0 12 rfl rfl)
theorem dX0_oratorNow_13 : decode cX0_oratorNow 13 = .ok (.iconst (-1), 1) := dk_2 (dk_at dksX0_oratorNow_0 13 rfl rfl)
theorem dX0_oratorNow_14 : decode cX0_oratorNow 14 = .ok (.if_icmp .eq 24, 3) := dk_159 0 24 (dk_at dksX0_oratorNow_0 14 rfl rfl)
theorem dX0_oratorNow_17 : decode cX0_oratorNow 17 = .ok (.aload_n 0, 1) := dk_42 (dk_at dksX0_oratorNow_0 17 rfl rfl)
theorem dX0_oratorNow_18 : decode cX0_oratorNow 18 = .ok (.getfield 159, 3) := dk_180 0 159 (dk_at dksX0_oratorNow_0 18 rfl rfl)
theorem dX0_oratorNow_21 : decode cX0_oratorNow 21 = .ok (.iload_n 2, 1) := dk_28 (dk_at dksX0_oratorNow_0 21 rfl rfl)
theorem dX0_oratorNow_22 : decode cX0_oratorNow 22 = .ok (.aaload, 1) := dk_50 (dk_at dksX0_oratorNow_0 22 rfl rfl)
theorem dX0_oratorNow_23 : decode cX0_oratorNow 23 = .ok (.getfield 235, 3) := dk_180 0 235 (dk_at dksX0_oratorNow_1 0 rfl rfl)
theorem dX0_oratorNow_26 : decode cX0_oratorNow 26 = .ok (.aload_n 0, 1) := dk_42 (dk_at dksX0_oratorNow_1 3 rfl rfl)
theorem dX0_oratorNow_27 : decode cX0_oratorNow 27 = .ok (.getfield 159, 3) := dk_180 0 159 (dk_at dksX0_oratorNow_1 4 rfl rfl)
theorem dX0_oratorNow_30 : decode cX0_oratorNow 30 = .ok (.iload_n 1, 1) := dk_27 (dk_at dksX0_oratorNow_1 7 rfl rfl)
theorem dX0_oratorNow_31 : decode cX0_oratorNow 31 = .ok (.aaload, 1) := dk_50 (dk_at dksX0_oratorNow_1 8 rfl rfl)
theorem dX0_oratorNow_32 : decode cX0_oratorNow 32 = .ok (.getfield 235, 3) := dk_180 0 235 (dk_at dksX0_oratorNow_1 9 rfl rfl)
theorem dX0_oratorNow_35 : decode cX0_oratorNow 35 = .ok (.if_icmp .le 5, 3) := dk_164 0 5 (dk_at dksX0_oratorNow_1 12 rfl rfl)
theorem dX0_oratorNow_38 : decode cX0_oratorNow 38 = .ok (.iload_n 2, 1) := dk_28 (dk_at dksX0_oratorNow_1 15 rfl rfl)
theorem dX0_oratorNow_39 : decode cX0_oratorNow 39 = .ok (.istore_n 1, 1) := dk_60 (dk_at dksX0_oratorNow_1 16 rfl rfl)
theorem dX0_oratorNow_40 : decode cX0_oratorNow 40 = .ok (.iinc 2 1, 3) := dk_132 2 1 (dk_at dksX0_oratorNow_1 17 rfl rfl)
theorem dX0_oratorNow_43 : decode cX0_oratorNow 43 = .ok (.goto (-39), 3) := dk_167 255 217 (dk_at dksX0_oratorNow_1 20 rfl rfl)
theorem dX0_oratorNow_46 : decode cX0_oratorNow 46 = .ok (.iload_n 1, 1) := dk_27 (dk_at dksX0_oratorNow_1 23 rfl rfl)
theorem dX0_oratorNow_47 : decode cX0_oratorNow 47 = .ok (.ireturn, 1) := dk_172 (dk_at dksX0_oratorNow_2 0 rfl rfl)
abbrev cX0_still : ByteArray := prog_1_method_51_code
def yX0_still : MethodName := ⟨RX0, "still", "()I"⟩
def dkwX0_still_0 : List UInt8 := [42, 182, 1, 37, 42, 182, 1, 66, 172]
abbrev dktX0_still_0 : List UInt8 := dkwX0_still_0 ++ []
theorem dksX0_still_0 : cX0_still.data.toList.drop 0 = dktX0_still_0 := by decide +kernel
theorem dX0_still_0 : decode cX0_still 0 = .ok (.aload_n 0, 1) := dk_42 (dk_at dksX0_still_0 0 rfl rfl)
theorem dX0_still_1 : decode cX0_still 1 = .ok (.invokevirtual 293, 3) := dk_182 1 37 (dk_at dksX0_still_0 1 rfl rfl)
theorem dX0_still_4 : decode cX0_still 4 = .ok (.aload_n 0, 1) := dk_42 (dk_at dksX0_still_0 4 rfl rfl)
theorem dX0_still_5 : decode cX0_still 5 = .ok (.invokevirtual 322, 3) := dk_182 1 66 (dk_at dksX0_still_0 5 rfl rfl)
theorem dX0_still_8 : decode cX0_still 8 = .ok (.ireturn, 1) := dk_172 (dk_at dksX0_still_0 8 rfl rfl)
abbrev cX0_stillNow : ByteArray := prog_1_method_50_code
def yX0_stillNow : MethodName := ⟨RX0, "stillNow", "()I"⟩
def dkwX0_stillNow_1 : List UInt8 := [153, 0, 7, 3, 167, 0, 6, 4, 28, 120, 128, 60, 132, 2, 1, 167, 255, 223, 27, 172]
abbrev dktX0_stillNow_1 : List UInt8 := dkwX0_stillNow_1 ++ []
def dkwX0_stillNow_0 : List UInt8 := [3, 60, 3, 61, 28, 42, 182, 0, 80, 162, 0, 31, 27, 42, 180, 0, 159, 28, 50, 180, 0, 244]
abbrev dktX0_stillNow_0 : List UInt8 := dkwX0_stillNow_0 ++ dktX0_stillNow_1
theorem dksX0_stillNow_0 : cX0_stillNow.data.toList.drop 0 = dktX0_stillNow_0 := by decide +kernel
theorem dksX0_stillNow_1 : cX0_stillNow.data.toList.drop 22 = dktX0_stillNow_1 := dk_seg dksX0_stillNow_0 22 rfl rfl
theorem dX0_stillNow_0 : decode cX0_stillNow 0 = .ok (.iconst 0, 1) := dk_3 (dk_at dksX0_stillNow_0 0 rfl rfl)
theorem dX0_stillNow_1 : decode cX0_stillNow 1 = .ok (.istore_n 1, 1) := dk_60 (dk_at dksX0_stillNow_0 1 rfl rfl)
theorem dX0_stillNow_2 : decode cX0_stillNow 2 = .ok (.iconst 0, 1) := dk_3 (dk_at dksX0_stillNow_0 2 rfl rfl)
theorem dX0_stillNow_3 : decode cX0_stillNow 3 = .ok (.istore_n 2, 1) := dk_61 (dk_at dksX0_stillNow_0 3 rfl rfl)
theorem dX0_stillNow_4 : decode cX0_stillNow 4 = .ok (.iload_n 2, 1) := dk_28 (dk_at dksX0_stillNow_0 4 rfl rfl)
theorem dX0_stillNow_5 : decode cX0_stillNow 5 = .ok (.aload_n 0, 1) := dk_42 (dk_at dksX0_stillNow_0 5 rfl rfl)
theorem dX0_stillNow_6 : decode cX0_stillNow 6 = .ok (.invokevirtual 80, 3) := dk_182 0 80 (dk_at dksX0_stillNow_0 6 rfl rfl)
theorem dX0_stillNow_9 : decode cX0_stillNow 9 = .ok (.if_icmp .ge 31, 3) := dk_162 0 31 (dk_at dksX0_stillNow_0 9 rfl rfl)
theorem dX0_stillNow_12 : decode cX0_stillNow 12 = .ok (.iload_n 1, 1) := dk_27 (dk_at dksX0_stillNow_0 12 rfl rfl)
theorem dX0_stillNow_13 : decode cX0_stillNow 13 = .ok (.aload_n 0, 1) := dk_42 (dk_at dksX0_stillNow_0 13 rfl rfl)
theorem dX0_stillNow_14 : decode cX0_stillNow 14 = .ok (.getfield 159, 3) := dk_180 0 159 (dk_at dksX0_stillNow_0 14 rfl rfl)
theorem dX0_stillNow_17 : decode cX0_stillNow 17 = .ok (.iload_n 2, 1) := dk_28 (dk_at dksX0_stillNow_0 17 rfl rfl)
theorem dX0_stillNow_18 : decode cX0_stillNow 18 = .ok (.aaload, 1) := dk_50 (dk_at dksX0_stillNow_0 18 rfl rfl)
theorem dX0_stillNow_19 : decode cX0_stillNow 19 = .ok (.getfield 244, 3) := dk_180 0 244 (dk_at dksX0_stillNow_0 19 rfl rfl)
theorem dX0_stillNow_22 : decode cX0_stillNow 22 = .ok (.ifCond .eq 7, 3) := dk_153 0 7 (dk_at dksX0_stillNow_1 0 rfl rfl)
theorem dX0_stillNow_25 : decode cX0_stillNow 25 = .ok (.iconst 0, 1) := dk_3 (dk_at dksX0_stillNow_1 3 rfl rfl)
theorem dX0_stillNow_26 : decode cX0_stillNow 26 = .ok (.goto 6, 3) := dk_167 0 6 (dk_at dksX0_stillNow_1 4 rfl rfl)
theorem dX0_stillNow_29 : decode cX0_stillNow 29 = .ok (.iconst 1, 1) := dk_4 (dk_at dksX0_stillNow_1 7 rfl rfl)
theorem dX0_stillNow_30 : decode cX0_stillNow 30 = .ok (.iload_n 2, 1) := dk_28 (dk_at dksX0_stillNow_1 8 rfl rfl)
theorem dX0_stillNow_31 : decode cX0_stillNow 31 = .ok (.ishl, 1) := dk_120 (dk_at dksX0_stillNow_1 9 rfl rfl)
theorem dX0_stillNow_32 : decode cX0_stillNow 32 = .ok (.ior, 1) := dk_128 (dk_at dksX0_stillNow_1 10 rfl rfl)
theorem dX0_stillNow_33 : decode cX0_stillNow 33 = .ok (.istore_n 1, 1) := dk_60 (dk_at dksX0_stillNow_1 11 rfl rfl)
theorem dX0_stillNow_34 : decode cX0_stillNow 34 = .ok (.iinc 2 1, 3) := dk_132 2 1 (dk_at dksX0_stillNow_1 12 rfl rfl)
theorem dX0_stillNow_37 : decode cX0_stillNow 37 = .ok (.goto (-33), 3) := dk_167 255 223 (dk_at dksX0_stillNow_1 15 rfl rfl)
theorem dX0_stillNow_40 : decode cX0_stillNow 40 = .ok (.iload_n 1, 1) := dk_27 (dk_at dksX0_stillNow_1 18 rfl rfl)
theorem dX0_stillNow_41 : decode cX0_stillNow 41 = .ok (.ireturn, 1) := dk_172 (dk_at dksX0_stillNow_1 19 rfl rfl)
abbrev cX0_seat : ByteArray := prog_1_method_53_code
def yX0_seat : MethodName := ⟨RX0, "seat", "(II)I"⟩
def dkwX0_seat_1 : List UInt8 := [16, 254, 172]
abbrev dktX0_seat_1 : List UInt8 := dkwX0_seat_1 ++ []
def dkwX0_seat_0 : List UInt8 := [42, 27, 182, 0, 83, 153, 0, 19, 28, 184, 0, 30, 153, 0, 12, 42, 27, 28, 182, 1, 70, 167, 0, 5]
abbrev dktX0_seat_0 : List UInt8 := dkwX0_seat_0 ++ dktX0_seat_1
theorem dksX0_seat_0 : cX0_seat.data.toList.drop 0 = dktX0_seat_0 := by decide +kernel
theorem dksX0_seat_1 : cX0_seat.data.toList.drop 24 = dktX0_seat_1 := dk_seg dksX0_seat_0 24 rfl rfl
theorem dX0_seat_0 : decode cX0_seat 0 = .ok (.aload_n 0, 1) := dk_42 (dk_at dksX0_seat_0 0 rfl rfl)
theorem dX0_seat_1 : decode cX0_seat 1 = .ok (.iload_n 1, 1) := dk_27 (dk_at dksX0_seat_0 1 rfl rfl)
theorem dX0_seat_2 : decode cX0_seat 2 = .ok (.invokevirtual 83, 3) := dk_182 0 83 (dk_at dksX0_seat_0 2 rfl rfl)
theorem dX0_seat_5 : decode cX0_seat 5 = .ok (.ifCond .eq 19, 3) := dk_153 0 19 (dk_at dksX0_seat_0 5 rfl rfl)
theorem dX0_seat_8 : decode cX0_seat 8 = .ok (.iload_n 2, 1) := dk_28 (dk_at dksX0_seat_0 8 rfl rfl)
theorem dX0_seat_9 : decode cX0_seat 9 = .ok (.invokestatic 30, 3) := dk_184 0 30 (dk_at dksX0_seat_0 9 rfl rfl)
theorem dX0_seat_12 : decode cX0_seat 12 = .ok (.ifCond .eq 12, 3) := dk_153 0 12 (dk_at dksX0_seat_0 12 rfl rfl)
theorem dX0_seat_15 : decode cX0_seat 15 = .ok (.aload_n 0, 1) := dk_42 (dk_at dksX0_seat_0 15 rfl rfl)
theorem dX0_seat_16 : decode cX0_seat 16 = .ok (.iload_n 1, 1) := dk_27 (dk_at dksX0_seat_0 16 rfl rfl)
theorem dX0_seat_17 : decode cX0_seat 17 = .ok (.iload_n 2, 1) := dk_28 (dk_at dksX0_seat_0 17 rfl rfl)
theorem dX0_seat_18 : decode cX0_seat 18 = .ok (.invokevirtual 326, 3) := dk_182 1 70 (dk_at dksX0_seat_0 18 rfl rfl)
theorem dX0_seat_21 : decode cX0_seat 21 = .ok (.goto 5, 3) := dk_167 0 5 (dk_at dksX0_seat_0 21 rfl rfl)
theorem dX0_seat_24 : decode cX0_seat 24 = .ok (.bipush (-2), 2) := dk_16 254 (dk_at dksX0_seat_1 0 rfl rfl)
theorem dX0_seat_26 : decode cX0_seat 26 = .ok (.ireturn, 1) := dk_172 (dk_at dksX0_seat_1 2 rfl rfl)
abbrev cX0_seatOf : ByteArray := prog_1_method_52_code
def yX0_seatOf : MethodName := ⟨RX0, "seatOf", "(II)I"⟩
def dkwX0_seatOf_4 : List UInt8 := [21, 4, 181, 1, 69, 25, 7, 191, 28, 154, 0, 8, 21, 5, 167, 0, 5, 21, 6, 172]
abbrev dktX0_seatOf_4 : List UInt8 := dkwX0_seatOf_4 ++ []
def dkwX0_seatOf_3 : List UInt8 := [89, 180, 1, 69, 4, 96, 181, 1, 69, 167, 255, 209, 45, 21, 4, 181, 1, 69, 167, 0, 14, 58, 7, 45]
abbrev dktX0_seatOf_3 : List UInt8 := dkwX0_seatOf_3 ++ dktX0_seatOf_4
def dkwX0_seatOf_2 : List UInt8 := [182, 1, 57, 21, 6, 163, 0, 6, 167, 0, 15, 45, 180, 1, 69, 54, 5, 42, 182, 1, 57, 54, 6, 45]
abbrev dktX0_seatOf_2 : List UInt8 := dkwX0_seatOf_2 ++ dktX0_seatOf_3
def dkwX0_seatOf_1 : List UInt8 := [2, 54, 6, 45, 3, 181, 1, 69, 45, 180, 1, 69, 16, 12, 162, 0, 44, 42, 182, 1, 37, 42]
abbrev dktX0_seatOf_1 : List UInt8 := dkwX0_seatOf_1 ++ dktX0_seatOf_2
def dkwX0_seatOf_0 : List UInt8 := [42, 180, 0, 26, 180, 0, 72, 27, 182, 0, 88, 192, 0, 92, 78, 45, 180, 1, 69, 54, 4, 2, 54, 5]
abbrev dktX0_seatOf_0 : List UInt8 := dkwX0_seatOf_0 ++ dktX0_seatOf_1
theorem dksX0_seatOf_0 : cX0_seatOf.data.toList.drop 0 = dktX0_seatOf_0 := by decide +kernel
theorem dksX0_seatOf_1 : cX0_seatOf.data.toList.drop 24 = dktX0_seatOf_1 := dk_seg dksX0_seatOf_0 24 rfl rfl
theorem dksX0_seatOf_2 : cX0_seatOf.data.toList.drop 46 = dktX0_seatOf_2 := dk_seg dksX0_seatOf_1 22 rfl rfl
theorem dksX0_seatOf_3 : cX0_seatOf.data.toList.drop 70 = dktX0_seatOf_3 := dk_seg dksX0_seatOf_2 24 rfl rfl
theorem dksX0_seatOf_4 : cX0_seatOf.data.toList.drop 94 = dktX0_seatOf_4 := dk_seg dksX0_seatOf_3 24 rfl rfl
theorem dX0_seatOf_0 : decode cX0_seatOf 0 = .ok (.aload_n 0, 1) := dk_42 (dk_at dksX0_seatOf_0 0 rfl rfl)
theorem dX0_seatOf_1 : decode cX0_seatOf 1 = .ok (.getfield 26, 3) := dk_180 0 26 (dk_at dksX0_seatOf_0 1 rfl rfl)
theorem dX0_seatOf_4 : decode cX0_seatOf 4 = .ok (.getfield 72, 3) := dk_180 0 72 (dk_at dksX0_seatOf_0 4 rfl rfl)
theorem dX0_seatOf_7 : decode cX0_seatOf 7 = .ok (.iload_n 1, 1) := dk_27 (dk_at dksX0_seatOf_0 7 rfl rfl)
theorem dX0_seatOf_8 : decode cX0_seatOf 8 = .ok (.invokevirtual 88, 3) := dk_182 0 88 (dk_at dksX0_seatOf_0 8 rfl rfl)
theorem dX0_seatOf_11 : decode cX0_seatOf 11 = .ok (.checkcast 92, 3) := dk_192 0 92 (dk_at dksX0_seatOf_0 11 rfl rfl)
theorem dX0_seatOf_14 : decode cX0_seatOf 14 = .ok (.astore_n 3, 1) := dk_78 (dk_at dksX0_seatOf_0 14 rfl rfl)
theorem dX0_seatOf_15 : decode cX0_seatOf 15 = .ok (.aload_n 3, 1) := dk_45 (dk_at dksX0_seatOf_0 15 rfl rfl)
theorem dX0_seatOf_16 : decode cX0_seatOf 16 = .ok (.getfield 325, 3) := dk_180 1 69 (dk_at dksX0_seatOf_0 16 rfl rfl)
theorem dX0_seatOf_19 : decode cX0_seatOf 19 = .ok (.istore 4, 2) := dk_54 4 (dk_at dksX0_seatOf_0 19 rfl rfl)
theorem dX0_seatOf_21 : decode cX0_seatOf 21 = .ok (.iconst (-1), 1) := dk_2 (dk_at dksX0_seatOf_0 21 rfl rfl)
theorem dX0_seatOf_22 : decode cX0_seatOf 22 = .ok (.istore 5, 2) := dk_54 5 (dk_at dksX0_seatOf_0 22 rfl rfl)
theorem dX0_seatOf_24 : decode cX0_seatOf 24 = .ok (.iconst (-1), 1) := dk_2 (dk_at dksX0_seatOf_1 0 rfl rfl)
theorem dX0_seatOf_25 : decode cX0_seatOf 25 = .ok (.istore 6, 2) := dk_54 6 (dk_at dksX0_seatOf_1 1 rfl rfl)
theorem dX0_seatOf_27 : decode cX0_seatOf 27 = .ok (.aload_n 3, 1) := dk_45 (dk_at dksX0_seatOf_1 3 rfl rfl)
theorem dX0_seatOf_28 : decode cX0_seatOf 28 = .ok (.iconst 0, 1) := dk_3 (dk_at dksX0_seatOf_1 4 rfl rfl)
theorem dX0_seatOf_29 : decode cX0_seatOf 29 = .ok (.putfield 325, 3) := dk_181 1 69 (dk_at dksX0_seatOf_1 5 rfl rfl)
theorem dX0_seatOf_32 : decode cX0_seatOf 32 = .ok (.aload_n 3, 1) := dk_45 (dk_at dksX0_seatOf_1 8 rfl rfl)
theorem dX0_seatOf_33 : decode cX0_seatOf 33 = .ok (.getfield 325, 3) := dk_180 1 69 (dk_at dksX0_seatOf_1 9 rfl rfl)
theorem dX0_seatOf_36 : decode cX0_seatOf 36 = .ok (.bipush 12, 2) := dk_16 12 (dk_at dksX0_seatOf_1 12 rfl rfl)
theorem dX0_seatOf_38 : decode cX0_seatOf 38 = .ok (.if_icmp .ge 44, 3) := dk_162 0 44 (dk_at dksX0_seatOf_1 14 rfl rfl)
theorem dX0_seatOf_41 : decode cX0_seatOf 41 = .ok (.aload_n 0, 1) := dk_42 (dk_at dksX0_seatOf_1 17 rfl rfl)
theorem dX0_seatOf_42 : decode cX0_seatOf 42 = .ok (.invokevirtual 293, 3) := dk_182 1 37 (dk_at dksX0_seatOf_1 18 rfl rfl)
theorem dX0_seatOf_45 : decode cX0_seatOf 45 = .ok (.aload_n 0, 1) := dk_42 (dk_at dksX0_seatOf_1 21 rfl rfl)
theorem dX0_seatOf_46 : decode cX0_seatOf 46 = .ok (.invokevirtual 313, 3) := dk_182 1 57 (dk_at dksX0_seatOf_2 0 rfl rfl)
theorem dX0_seatOf_49 : decode cX0_seatOf 49 = .ok (.iload 6, 2) := dk_21 6 (dk_at dksX0_seatOf_2 3 rfl rfl)
theorem dX0_seatOf_51 : decode cX0_seatOf 51 = .ok (.if_icmp .gt 6, 3) := dk_163 0 6 (dk_at dksX0_seatOf_2 5 rfl rfl)
theorem dX0_seatOf_54 : decode cX0_seatOf 54 = .ok (.goto 15, 3) := dk_167 0 15 (dk_at dksX0_seatOf_2 8 rfl rfl)
theorem dX0_seatOf_57 : decode cX0_seatOf 57 = .ok (.aload_n 3, 1) := dk_45 (dk_at dksX0_seatOf_2 11 rfl rfl)
theorem dX0_seatOf_58 : decode cX0_seatOf 58 = .ok (.getfield 325, 3) := dk_180 1 69 (dk_at dksX0_seatOf_2 12 rfl rfl)
theorem dX0_seatOf_61 : decode cX0_seatOf 61 = .ok (.istore 5, 2) := dk_54 5 (dk_at dksX0_seatOf_2 15 rfl rfl)
theorem dX0_seatOf_63 : decode cX0_seatOf 63 = .ok (.aload_n 0, 1) := dk_42 (dk_at dksX0_seatOf_2 17 rfl rfl)
theorem dX0_seatOf_64 : decode cX0_seatOf 64 = .ok (.invokevirtual 313, 3) := dk_182 1 57 (dk_at dksX0_seatOf_2 18 rfl rfl)
theorem dX0_seatOf_67 : decode cX0_seatOf 67 = .ok (.istore 6, 2) := dk_54 6 (dk_at dksX0_seatOf_2 21 rfl rfl)
theorem dX0_seatOf_69 : decode cX0_seatOf 69 = .ok (.aload_n 3, 1) := dk_45 (dk_at dksX0_seatOf_2 23 rfl rfl)
theorem dX0_seatOf_70 : decode cX0_seatOf 70 = .ok (.dup, 1) := dk_89 (dk_at dksX0_seatOf_3 0 rfl rfl)
theorem dX0_seatOf_71 : decode cX0_seatOf 71 = .ok (.getfield 325, 3) := dk_180 1 69 (dk_at dksX0_seatOf_3 1 rfl rfl)
theorem dX0_seatOf_74 : decode cX0_seatOf 74 = .ok (.iconst 1, 1) := dk_4 (dk_at dksX0_seatOf_3 4 rfl rfl)
theorem dX0_seatOf_75 : decode cX0_seatOf 75 = .ok (.iadd, 1) := dk_96 (dk_at dksX0_seatOf_3 5 rfl rfl)
theorem dX0_seatOf_76 : decode cX0_seatOf 76 = .ok (.putfield 325, 3) := dk_181 1 69 (dk_at dksX0_seatOf_3 6 rfl rfl)
theorem dX0_seatOf_79 : decode cX0_seatOf 79 = .ok (.goto (-47), 3) := dk_167 255 209 (dk_at dksX0_seatOf_3 9 rfl rfl)
theorem dX0_seatOf_82 : decode cX0_seatOf 82 = .ok (.aload_n 3, 1) := dk_45 (dk_at dksX0_seatOf_3 12 rfl rfl)
theorem dX0_seatOf_83 : decode cX0_seatOf 83 = .ok (.iload 4, 2) := dk_21 4 (dk_at dksX0_seatOf_3 13 rfl rfl)
theorem dX0_seatOf_85 : decode cX0_seatOf 85 = .ok (.putfield 325, 3) := dk_181 1 69 (dk_at dksX0_seatOf_3 15 rfl rfl)
theorem dX0_seatOf_88 : decode cX0_seatOf 88 = .ok (.goto 14, 3) := dk_167 0 14 (dk_at dksX0_seatOf_3 18 rfl rfl)
theorem dX0_seatOf_91 : decode cX0_seatOf 91 = .ok (.astore 7, 2) := dk_58 7 (dk_at dksX0_seatOf_3 21 rfl rfl)
theorem dX0_seatOf_93 : decode cX0_seatOf 93 = .ok (.aload_n 3, 1) := dk_45 (dk_at dksX0_seatOf_3 23 rfl rfl)
theorem dX0_seatOf_94 : decode cX0_seatOf 94 = .ok (.iload 4, 2) := dk_21 4 (dk_at dksX0_seatOf_4 0 rfl rfl)
theorem dX0_seatOf_96 : decode cX0_seatOf 96 = .ok (.putfield 325, 3) := dk_181 1 69 (dk_at dksX0_seatOf_4 2 rfl rfl)
theorem dX0_seatOf_99 : decode cX0_seatOf 99 = .ok (.aload 7, 2) := dk_25 7 (dk_at dksX0_seatOf_4 5 rfl rfl)
theorem dX0_seatOf_101 : decode cX0_seatOf 101 = .ok (.athrow, 1) := dk_191 (dk_at dksX0_seatOf_4 7 rfl rfl)
theorem dX0_seatOf_102 : decode cX0_seatOf 102 = .ok (.iload_n 2, 1) := dk_28 (dk_at dksX0_seatOf_4 8 rfl rfl)
theorem dX0_seatOf_103 : decode cX0_seatOf 103 = .ok (.ifCond .ne 8, 3) := dk_154 0 8 (dk_at dksX0_seatOf_4 9 rfl rfl)
theorem dX0_seatOf_106 : decode cX0_seatOf 106 = .ok (.iload 5, 2) := dk_21 5 (dk_at dksX0_seatOf_4 12 rfl rfl)
theorem dX0_seatOf_108 : decode cX0_seatOf 108 = .ok (.goto 5, 3) := dk_167 0 5 (dk_at dksX0_seatOf_4 14 rfl rfl)
theorem dX0_seatOf_111 : decode cX0_seatOf 111 = .ok (.iload 6, 2) := dk_21 6 (dk_at dksX0_seatOf_4 17 rfl rfl)
theorem dX0_seatOf_113 : decode cX0_seatOf 113 = .ok (.ireturn, 1) := dk_172 (dk_at dksX0_seatOf_4 19 rfl rfl)
abbrev cX0_dust : ByteArray := prog_1_method_55_code
def yX0_dust : MethodName := ⟨RX0, "dust", "(II)I"⟩
def dkwX0_dust_1 : List UInt8 := [16, 254, 172]
abbrev dktX0_dust_1 : List UInt8 := dkwX0_dust_1 ++ []
def dkwX0_dust_0 : List UInt8 := [27, 184, 0, 99, 153, 0, 19, 28, 184, 0, 30, 153, 0, 12, 42, 27, 28, 182, 1, 73, 167, 0, 5]
abbrev dktX0_dust_0 : List UInt8 := dkwX0_dust_0 ++ dktX0_dust_1
theorem dksX0_dust_0 : cX0_dust.data.toList.drop 0 = dktX0_dust_0 := by decide +kernel
theorem dksX0_dust_1 : cX0_dust.data.toList.drop 23 = dktX0_dust_1 := dk_seg dksX0_dust_0 23 rfl rfl
theorem dX0_dust_0 : decode cX0_dust 0 = .ok (.iload_n 1, 1) := dk_27 (dk_at dksX0_dust_0 0 rfl rfl)
theorem dX0_dust_1 : decode cX0_dust 1 = .ok (.invokestatic 99, 3) := dk_184 0 99 (dk_at dksX0_dust_0 1 rfl rfl)
theorem dX0_dust_4 : decode cX0_dust 4 = .ok (.ifCond .eq 19, 3) := dk_153 0 19 (dk_at dksX0_dust_0 4 rfl rfl)
theorem dX0_dust_7 : decode cX0_dust 7 = .ok (.iload_n 2, 1) := dk_28 (dk_at dksX0_dust_0 7 rfl rfl)
theorem dX0_dust_8 : decode cX0_dust 8 = .ok (.invokestatic 30, 3) := dk_184 0 30 (dk_at dksX0_dust_0 8 rfl rfl)
theorem dX0_dust_11 : decode cX0_dust 11 = .ok (.ifCond .eq 12, 3) := dk_153 0 12 (dk_at dksX0_dust_0 11 rfl rfl)
theorem dX0_dust_14 : decode cX0_dust 14 = .ok (.aload_n 0, 1) := dk_42 (dk_at dksX0_dust_0 14 rfl rfl)
theorem dX0_dust_15 : decode cX0_dust 15 = .ok (.iload_n 1, 1) := dk_27 (dk_at dksX0_dust_0 15 rfl rfl)
theorem dX0_dust_16 : decode cX0_dust 16 = .ok (.iload_n 2, 1) := dk_28 (dk_at dksX0_dust_0 16 rfl rfl)
theorem dX0_dust_17 : decode cX0_dust 17 = .ok (.invokevirtual 329, 3) := dk_182 1 73 (dk_at dksX0_dust_0 17 rfl rfl)
theorem dX0_dust_20 : decode cX0_dust 20 = .ok (.goto 5, 3) := dk_167 0 5 (dk_at dksX0_dust_0 20 rfl rfl)
theorem dX0_dust_23 : decode cX0_dust 23 = .ok (.bipush (-2), 2) := dk_16 254 (dk_at dksX0_dust_1 0 rfl rfl)
theorem dX0_dust_25 : decode cX0_dust 25 = .ok (.ireturn, 1) := dk_172 (dk_at dksX0_dust_1 2 rfl rfl)
abbrev cX0_dustOf : ByteArray := prog_1_method_54_code
def yX0_dustOf : MethodName := ⟨RX0, "dustOf", "(II)I"⟩
def dkwX0_dustOf_4 : List UInt8 := [167, 0, 5, 21, 4, 172]
abbrev dktX0_dustOf_4 : List UInt8 := dkwX0_dustOf_4 ++ []
def dkwX0_dustOf_3 : List UInt8 := [2, 181, 0, 176, 167, 0, 13, 58, 5, 42, 2, 181, 0, 176, 25, 5, 191, 28, 154, 0, 7, 29]
abbrev dktX0_dustOf_3 : List UInt8 := dkwX0_dustOf_3 ++ dktX0_dustOf_4
def dkwX0_dustOf_2 : List UInt8 := [180, 1, 9, 62, 42, 182, 1, 57, 54, 4, 42, 89, 180, 1, 9, 4, 96, 181, 1, 9, 167, 255, 210, 42]
abbrev dktX0_dustOf_2 : List UInt8 := dkwX0_dustOf_2 ++ dktX0_dustOf_3
def dkwX0_dustOf_1 : List UInt8 := [16, 12, 162, 0, 43, 42, 182, 1, 37, 42, 182, 1, 57, 21, 4, 163, 0, 6, 167, 0, 14, 42]
abbrev dktX0_dustOf_1 : List UInt8 := dkwX0_dustOf_1 ++ dktX0_dustOf_2
def dkwX0_dustOf_0 : List UInt8 := [2, 62, 2, 54, 4, 42, 27, 181, 0, 176, 42, 4, 181, 1, 6, 42, 3, 181, 1, 9, 42, 180, 1, 9]
abbrev dktX0_dustOf_0 : List UInt8 := dkwX0_dustOf_0 ++ dktX0_dustOf_1
theorem dksX0_dustOf_0 : cX0_dustOf.data.toList.drop 0 = dktX0_dustOf_0 := by decide +kernel
theorem dksX0_dustOf_1 : cX0_dustOf.data.toList.drop 24 = dktX0_dustOf_1 := dk_seg dksX0_dustOf_0 24 rfl rfl
theorem dksX0_dustOf_2 : cX0_dustOf.data.toList.drop 46 = dktX0_dustOf_2 := dk_seg dksX0_dustOf_1 22 rfl rfl
theorem dksX0_dustOf_3 : cX0_dustOf.data.toList.drop 70 = dktX0_dustOf_3 := dk_seg dksX0_dustOf_2 24 rfl rfl
theorem dksX0_dustOf_4 : cX0_dustOf.data.toList.drop 92 = dktX0_dustOf_4 := dk_seg dksX0_dustOf_3 22 rfl rfl
theorem dX0_dustOf_0 : decode cX0_dustOf 0 = .ok (.iconst (-1), 1) := dk_2 (dk_at dksX0_dustOf_0 0 rfl rfl)
theorem dX0_dustOf_1 : decode cX0_dustOf 1 = .ok (.istore_n 3, 1) := dk_62 (dk_at dksX0_dustOf_0 1 rfl rfl)
theorem dX0_dustOf_2 : decode cX0_dustOf 2 = .ok (.iconst (-1), 1) := dk_2 (dk_at dksX0_dustOf_0 2 rfl rfl)
theorem dX0_dustOf_3 : decode cX0_dustOf 3 = .ok (.istore 4, 2) := dk_54 4 (dk_at dksX0_dustOf_0 3 rfl rfl)
theorem dX0_dustOf_5 : decode cX0_dustOf 5 = .ok (.aload_n 0, 1) := dk_42 (dk_at dksX0_dustOf_0 5 rfl rfl)
theorem dX0_dustOf_6 : decode cX0_dustOf 6 = .ok (.iload_n 1, 1) := dk_27 (dk_at dksX0_dustOf_0 6 rfl rfl)
theorem dX0_dustOf_7 : decode cX0_dustOf 7 = .ok (.putfield 176, 3) := dk_181 0 176 (dk_at dksX0_dustOf_0 7 rfl rfl)
theorem dX0_dustOf_10 : decode cX0_dustOf 10 = .ok (.aload_n 0, 1) := dk_42 (dk_at dksX0_dustOf_0 10 rfl rfl)
theorem dX0_dustOf_11 : decode cX0_dustOf 11 = .ok (.iconst 1, 1) := dk_4 (dk_at dksX0_dustOf_0 11 rfl rfl)
theorem dX0_dustOf_12 : decode cX0_dustOf 12 = .ok (.putfield 262, 3) := dk_181 1 6 (dk_at dksX0_dustOf_0 12 rfl rfl)
theorem dX0_dustOf_15 : decode cX0_dustOf 15 = .ok (.aload_n 0, 1) := dk_42 (dk_at dksX0_dustOf_0 15 rfl rfl)
theorem dX0_dustOf_16 : decode cX0_dustOf 16 = .ok (.iconst 0, 1) := dk_3 (dk_at dksX0_dustOf_0 16 rfl rfl)
theorem dX0_dustOf_17 : decode cX0_dustOf 17 = .ok (.putfield 265, 3) := dk_181 1 9 (dk_at dksX0_dustOf_0 17 rfl rfl)
theorem dX0_dustOf_20 : decode cX0_dustOf 20 = .ok (.aload_n 0, 1) := dk_42 (dk_at dksX0_dustOf_0 20 rfl rfl)
theorem dX0_dustOf_21 : decode cX0_dustOf 21 = .ok (.getfield 265, 3) := dk_180 1 9 (dk_at dksX0_dustOf_0 21 rfl rfl)
theorem dX0_dustOf_24 : decode cX0_dustOf 24 = .ok (.bipush 12, 2) := dk_16 12 (dk_at dksX0_dustOf_1 0 rfl rfl)
theorem dX0_dustOf_26 : decode cX0_dustOf 26 = .ok (.if_icmp .ge 43, 3) := dk_162 0 43 (dk_at dksX0_dustOf_1 2 rfl rfl)
theorem dX0_dustOf_29 : decode cX0_dustOf 29 = .ok (.aload_n 0, 1) := dk_42 (dk_at dksX0_dustOf_1 5 rfl rfl)
theorem dX0_dustOf_30 : decode cX0_dustOf 30 = .ok (.invokevirtual 293, 3) := dk_182 1 37 (dk_at dksX0_dustOf_1 6 rfl rfl)
theorem dX0_dustOf_33 : decode cX0_dustOf 33 = .ok (.aload_n 0, 1) := dk_42 (dk_at dksX0_dustOf_1 9 rfl rfl)
theorem dX0_dustOf_34 : decode cX0_dustOf 34 = .ok (.invokevirtual 313, 3) := dk_182 1 57 (dk_at dksX0_dustOf_1 10 rfl rfl)
theorem dX0_dustOf_37 : decode cX0_dustOf 37 = .ok (.iload 4, 2) := dk_21 4 (dk_at dksX0_dustOf_1 13 rfl rfl)
theorem dX0_dustOf_39 : decode cX0_dustOf 39 = .ok (.if_icmp .gt 6, 3) := dk_163 0 6 (dk_at dksX0_dustOf_1 15 rfl rfl)
theorem dX0_dustOf_42 : decode cX0_dustOf 42 = .ok (.goto 14, 3) := dk_167 0 14 (dk_at dksX0_dustOf_1 18 rfl rfl)
theorem dX0_dustOf_45 : decode cX0_dustOf 45 = .ok (.aload_n 0, 1) := dk_42 (dk_at dksX0_dustOf_1 21 rfl rfl)
theorem dX0_dustOf_46 : decode cX0_dustOf 46 = .ok (.getfield 265, 3) := dk_180 1 9 (dk_at dksX0_dustOf_2 0 rfl rfl)
theorem dX0_dustOf_49 : decode cX0_dustOf 49 = .ok (.istore_n 3, 1) := dk_62 (dk_at dksX0_dustOf_2 3 rfl rfl)
theorem dX0_dustOf_50 : decode cX0_dustOf 50 = .ok (.aload_n 0, 1) := dk_42 (dk_at dksX0_dustOf_2 4 rfl rfl)
theorem dX0_dustOf_51 : decode cX0_dustOf 51 = .ok (.invokevirtual 313, 3) := dk_182 1 57 (dk_at dksX0_dustOf_2 5 rfl rfl)
theorem dX0_dustOf_54 : decode cX0_dustOf 54 = .ok (.istore 4, 2) := dk_54 4 (dk_at dksX0_dustOf_2 8 rfl rfl)
theorem dX0_dustOf_56 : decode cX0_dustOf 56 = .ok (.aload_n 0, 1) := dk_42 (dk_at dksX0_dustOf_2 10 rfl rfl)
theorem dX0_dustOf_57 : decode cX0_dustOf 57 = .ok (.dup, 1) := dk_89 (dk_at dksX0_dustOf_2 11 rfl rfl)
theorem dX0_dustOf_58 : decode cX0_dustOf 58 = .ok (.getfield 265, 3) := dk_180 1 9 (dk_at dksX0_dustOf_2 12 rfl rfl)
theorem dX0_dustOf_61 : decode cX0_dustOf 61 = .ok (.iconst 1, 1) := dk_4 (dk_at dksX0_dustOf_2 15 rfl rfl)
theorem dX0_dustOf_62 : decode cX0_dustOf 62 = .ok (.iadd, 1) := dk_96 (dk_at dksX0_dustOf_2 16 rfl rfl)
theorem dX0_dustOf_63 : decode cX0_dustOf 63 = .ok (.putfield 265, 3) := dk_181 1 9 (dk_at dksX0_dustOf_2 17 rfl rfl)
theorem dX0_dustOf_66 : decode cX0_dustOf 66 = .ok (.goto (-46), 3) := dk_167 255 210 (dk_at dksX0_dustOf_2 20 rfl rfl)
theorem dX0_dustOf_69 : decode cX0_dustOf 69 = .ok (.aload_n 0, 1) := dk_42 (dk_at dksX0_dustOf_2 23 rfl rfl)
theorem dX0_dustOf_70 : decode cX0_dustOf 70 = .ok (.iconst (-1), 1) := dk_2 (dk_at dksX0_dustOf_3 0 rfl rfl)
theorem dX0_dustOf_71 : decode cX0_dustOf 71 = .ok (.putfield 176, 3) := dk_181 0 176 (dk_at dksX0_dustOf_3 1 rfl rfl)
theorem dX0_dustOf_74 : decode cX0_dustOf 74 = .ok (.goto 13, 3) := dk_167 0 13 (dk_at dksX0_dustOf_3 4 rfl rfl)
theorem dX0_dustOf_77 : decode cX0_dustOf 77 = .ok (.astore 5, 2) := dk_58 5 (dk_at dksX0_dustOf_3 7 rfl rfl)
theorem dX0_dustOf_79 : decode cX0_dustOf 79 = .ok (.aload_n 0, 1) := dk_42 (dk_at dksX0_dustOf_3 9 rfl rfl)
theorem dX0_dustOf_80 : decode cX0_dustOf 80 = .ok (.iconst (-1), 1) := dk_2 (dk_at dksX0_dustOf_3 10 rfl rfl)
theorem dX0_dustOf_81 : decode cX0_dustOf 81 = .ok (.putfield 176, 3) := dk_181 0 176 (dk_at dksX0_dustOf_3 11 rfl rfl)
theorem dX0_dustOf_84 : decode cX0_dustOf 84 = .ok (.aload 5, 2) := dk_25 5 (dk_at dksX0_dustOf_3 14 rfl rfl)
theorem dX0_dustOf_86 : decode cX0_dustOf 86 = .ok (.athrow, 1) := dk_191 (dk_at dksX0_dustOf_3 16 rfl rfl)
theorem dX0_dustOf_87 : decode cX0_dustOf 87 = .ok (.iload_n 2, 1) := dk_28 (dk_at dksX0_dustOf_3 17 rfl rfl)
theorem dX0_dustOf_88 : decode cX0_dustOf 88 = .ok (.ifCond .ne 7, 3) := dk_154 0 7 (dk_at dksX0_dustOf_3 18 rfl rfl)
theorem dX0_dustOf_91 : decode cX0_dustOf 91 = .ok (.iload_n 3, 1) := dk_29 (dk_at dksX0_dustOf_3 21 rfl rfl)
theorem dX0_dustOf_92 : decode cX0_dustOf 92 = .ok (.goto 5, 3) := dk_167 0 5 (dk_at dksX0_dustOf_4 0 rfl rfl)
theorem dX0_dustOf_95 : decode cX0_dustOf 95 = .ok (.iload 4, 2) := dk_21 4 (dk_at dksX0_dustOf_4 3 rfl rfl)
theorem dX0_dustOf_97 : decode cX0_dustOf 97 = .ok (.ireturn, 1) := dk_172 (dk_at dksX0_dustOf_4 5 rfl rfl)
abbrev cX0_boy : ByteArray := prog_1_method_57_code
def yX0_boy : MethodName := ⟨RX0, "boy", "(I)I"⟩
def dkwX0_boy_0 : List UInt8 := [27, 184, 0, 30, 153, 0, 11, 42, 27, 182, 1, 76, 167, 0, 5, 16, 254, 172]
abbrev dktX0_boy_0 : List UInt8 := dkwX0_boy_0 ++ []
theorem dksX0_boy_0 : cX0_boy.data.toList.drop 0 = dktX0_boy_0 := by decide +kernel
theorem dX0_boy_0 : decode cX0_boy 0 = .ok (.iload_n 1, 1) := dk_27 (dk_at dksX0_boy_0 0 rfl rfl)
theorem dX0_boy_1 : decode cX0_boy 1 = .ok (.invokestatic 30, 3) := dk_184 0 30 (dk_at dksX0_boy_0 1 rfl rfl)
theorem dX0_boy_4 : decode cX0_boy 4 = .ok (.ifCond .eq 11, 3) := dk_153 0 11 (dk_at dksX0_boy_0 4 rfl rfl)
theorem dX0_boy_7 : decode cX0_boy 7 = .ok (.aload_n 0, 1) := dk_42 (dk_at dksX0_boy_0 7 rfl rfl)
theorem dX0_boy_8 : decode cX0_boy 8 = .ok (.iload_n 1, 1) := dk_27 (dk_at dksX0_boy_0 8 rfl rfl)
theorem dX0_boy_9 : decode cX0_boy 9 = .ok (.invokevirtual 332, 3) := dk_182 1 76 (dk_at dksX0_boy_0 9 rfl rfl)
theorem dX0_boy_12 : decode cX0_boy 12 = .ok (.goto 5, 3) := dk_167 0 5 (dk_at dksX0_boy_0 12 rfl rfl)
theorem dX0_boy_15 : decode cX0_boy 15 = .ok (.bipush (-2), 2) := dk_16 254 (dk_at dksX0_boy_0 15 rfl rfl)
theorem dX0_boy_17 : decode cX0_boy 17 = .ok (.ireturn, 1) := dk_172 (dk_at dksX0_boy_0 17 rfl rfl)
abbrev cX0_boyBy : ByteArray := prog_1_method_56_code
def yX0_boyBy : MethodName := ⟨RX0, "boyBy", "(I)I"⟩
def dkwX0_boyBy_3 : List UInt8 := [2, 181, 0, 176, 25, 4, 191, 27, 154, 0, 7, 28, 167, 0, 4, 29, 172]
abbrev dktX0_boyBy_3 : List UInt8 := dkwX0_boyBy_3 ++ []
def dkwX0_boyBy_2 : List UInt8 := [42, 89, 180, 0, 176, 4, 96, 181, 0, 176, 167, 255, 212, 42, 2, 181, 0, 176, 167, 0, 13, 58, 4, 42]
abbrev dktX0_boyBy_2 : List UInt8 := dkwX0_boyBy_2 ++ dktX0_boyBy_3
def dkwX0_boyBy_1 : List UInt8 := [182, 1, 37, 42, 182, 1, 54, 29, 163, 0, 6, 167, 0, 13, 42, 180, 0, 176, 61, 42, 182, 1, 54, 62]
abbrev dktX0_boyBy_1 : List UInt8 := dkwX0_boyBy_1 ++ dktX0_boyBy_2
def dkwX0_boyBy_0 : List UInt8 := [2, 61, 2, 62, 42, 3, 181, 1, 6, 42, 3, 181, 0, 176, 42, 180, 0, 176, 16, 20, 162, 0, 41, 42]
abbrev dktX0_boyBy_0 : List UInt8 := dkwX0_boyBy_0 ++ dktX0_boyBy_1
theorem dksX0_boyBy_0 : cX0_boyBy.data.toList.drop 0 = dktX0_boyBy_0 := by decide +kernel
theorem dksX0_boyBy_1 : cX0_boyBy.data.toList.drop 24 = dktX0_boyBy_1 := dk_seg dksX0_boyBy_0 24 rfl rfl
theorem dksX0_boyBy_2 : cX0_boyBy.data.toList.drop 48 = dktX0_boyBy_2 := dk_seg dksX0_boyBy_1 24 rfl rfl
theorem dksX0_boyBy_3 : cX0_boyBy.data.toList.drop 72 = dktX0_boyBy_3 := dk_seg dksX0_boyBy_2 24 rfl rfl
theorem dX0_boyBy_0 : decode cX0_boyBy 0 = .ok (.iconst (-1), 1) := dk_2 (dk_at dksX0_boyBy_0 0 rfl rfl)
theorem dX0_boyBy_1 : decode cX0_boyBy 1 = .ok (.istore_n 2, 1) := dk_61 (dk_at dksX0_boyBy_0 1 rfl rfl)
theorem dX0_boyBy_2 : decode cX0_boyBy 2 = .ok (.iconst (-1), 1) := dk_2 (dk_at dksX0_boyBy_0 2 rfl rfl)
theorem dX0_boyBy_3 : decode cX0_boyBy 3 = .ok (.istore_n 3, 1) := dk_62 (dk_at dksX0_boyBy_0 3 rfl rfl)
theorem dX0_boyBy_4 : decode cX0_boyBy 4 = .ok (.aload_n 0, 1) := dk_42 (dk_at dksX0_boyBy_0 4 rfl rfl)
theorem dX0_boyBy_5 : decode cX0_boyBy 5 = .ok (.iconst 0, 1) := dk_3 (dk_at dksX0_boyBy_0 5 rfl rfl)
theorem dX0_boyBy_6 : decode cX0_boyBy 6 = .ok (.putfield 262, 3) := dk_181 1 6 (dk_at dksX0_boyBy_0 6 rfl rfl)
theorem dX0_boyBy_9 : decode cX0_boyBy 9 = .ok (.aload_n 0, 1) := dk_42 (dk_at dksX0_boyBy_0 9 rfl rfl)
theorem dX0_boyBy_10 : decode cX0_boyBy 10 = .ok (.iconst 0, 1) := dk_3 (dk_at dksX0_boyBy_0 10 rfl rfl)
theorem dX0_boyBy_11 : decode cX0_boyBy 11 = .ok (.putfield 176, 3) := dk_181 0 176 (dk_at dksX0_boyBy_0 11 rfl rfl)
theorem dX0_boyBy_14 : decode cX0_boyBy 14 = .ok (.aload_n 0, 1) := dk_42 (dk_at dksX0_boyBy_0 14 rfl rfl)
theorem dX0_boyBy_15 : decode cX0_boyBy 15 = .ok (.getfield 176, 3) := dk_180 0 176 (dk_at dksX0_boyBy_0 15 rfl rfl)
theorem dX0_boyBy_18 : decode cX0_boyBy 18 = .ok (.bipush 20, 2) := dk_16 20 (dk_at dksX0_boyBy_0 18 rfl rfl)
theorem dX0_boyBy_20 : decode cX0_boyBy 20 = .ok (.if_icmp .ge 41, 3) := dk_162 0 41 (dk_at dksX0_boyBy_0 20 rfl rfl)
theorem dX0_boyBy_23 : decode cX0_boyBy 23 = .ok (.aload_n 0, 1) := dk_42 (dk_at dksX0_boyBy_0 23 rfl rfl)
theorem dX0_boyBy_24 : decode cX0_boyBy 24 = .ok (.invokevirtual 293, 3) := dk_182 1 37 (dk_at dksX0_boyBy_1 0 rfl rfl)
theorem dX0_boyBy_27 : decode cX0_boyBy 27 = .ok (.aload_n 0, 1) := dk_42 (dk_at dksX0_boyBy_1 3 rfl rfl)
theorem dX0_boyBy_28 : decode cX0_boyBy 28 = .ok (.invokevirtual 310, 3) := dk_182 1 54 (dk_at dksX0_boyBy_1 4 rfl rfl)
theorem dX0_boyBy_31 : decode cX0_boyBy 31 = .ok (.iload_n 3, 1) := dk_29 (dk_at dksX0_boyBy_1 7 rfl rfl)
theorem dX0_boyBy_32 : decode cX0_boyBy 32 = .ok (.if_icmp .gt 6, 3) := dk_163 0 6 (dk_at dksX0_boyBy_1 8 rfl rfl)
theorem dX0_boyBy_35 : decode cX0_boyBy 35 = .ok (.goto 13, 3) := dk_167 0 13 (dk_at dksX0_boyBy_1 11 rfl rfl)
theorem dX0_boyBy_38 : decode cX0_boyBy 38 = .ok (.aload_n 0, 1) := dk_42 (dk_at dksX0_boyBy_1 14 rfl rfl)
theorem dX0_boyBy_39 : decode cX0_boyBy 39 = .ok (.getfield 176, 3) := dk_180 0 176 (dk_at dksX0_boyBy_1 15 rfl rfl)
theorem dX0_boyBy_42 : decode cX0_boyBy 42 = .ok (.istore_n 2, 1) := dk_61 (dk_at dksX0_boyBy_1 18 rfl rfl)
theorem dX0_boyBy_43 : decode cX0_boyBy 43 = .ok (.aload_n 0, 1) := dk_42 (dk_at dksX0_boyBy_1 19 rfl rfl)
theorem dX0_boyBy_44 : decode cX0_boyBy 44 = .ok (.invokevirtual 310, 3) := dk_182 1 54 (dk_at dksX0_boyBy_1 20 rfl rfl)
theorem dX0_boyBy_47 : decode cX0_boyBy 47 = .ok (.istore_n 3, 1) := dk_62 (dk_at dksX0_boyBy_1 23 rfl rfl)
theorem dX0_boyBy_48 : decode cX0_boyBy 48 = .ok (.aload_n 0, 1) := dk_42 (dk_at dksX0_boyBy_2 0 rfl rfl)
theorem dX0_boyBy_49 : decode cX0_boyBy 49 = .ok (.dup, 1) := dk_89 (dk_at dksX0_boyBy_2 1 rfl rfl)
theorem dX0_boyBy_50 : decode cX0_boyBy 50 = .ok (.getfield 176, 3) := dk_180 0 176 (dk_at dksX0_boyBy_2 2 rfl rfl)
theorem dX0_boyBy_53 : decode cX0_boyBy 53 = .ok (.iconst 1, 1) := dk_4 (dk_at dksX0_boyBy_2 5 rfl rfl)
theorem dX0_boyBy_54 : decode cX0_boyBy 54 = .ok (.iadd, 1) := dk_96 (dk_at dksX0_boyBy_2 6 rfl rfl)
theorem dX0_boyBy_55 : decode cX0_boyBy 55 = .ok (.putfield 176, 3) := dk_181 0 176 (dk_at dksX0_boyBy_2 7 rfl rfl)
theorem dX0_boyBy_58 : decode cX0_boyBy 58 = .ok (.goto (-44), 3) := dk_167 255 212 (dk_at dksX0_boyBy_2 10 rfl rfl)
theorem dX0_boyBy_61 : decode cX0_boyBy 61 = .ok (.aload_n 0, 1) := dk_42 (dk_at dksX0_boyBy_2 13 rfl rfl)
theorem dX0_boyBy_62 : decode cX0_boyBy 62 = .ok (.iconst (-1), 1) := dk_2 (dk_at dksX0_boyBy_2 14 rfl rfl)
theorem dX0_boyBy_63 : decode cX0_boyBy 63 = .ok (.putfield 176, 3) := dk_181 0 176 (dk_at dksX0_boyBy_2 15 rfl rfl)
theorem dX0_boyBy_66 : decode cX0_boyBy 66 = .ok (.goto 13, 3) := dk_167 0 13 (dk_at dksX0_boyBy_2 18 rfl rfl)
theorem dX0_boyBy_69 : decode cX0_boyBy 69 = .ok (.astore 4, 2) := dk_58 4 (dk_at dksX0_boyBy_2 21 rfl rfl)
theorem dX0_boyBy_71 : decode cX0_boyBy 71 = .ok (.aload_n 0, 1) := dk_42 (dk_at dksX0_boyBy_2 23 rfl rfl)
theorem dX0_boyBy_72 : decode cX0_boyBy 72 = .ok (.iconst (-1), 1) := dk_2 (dk_at dksX0_boyBy_3 0 rfl rfl)
theorem dX0_boyBy_73 : decode cX0_boyBy 73 = .ok (.putfield 176, 3) := dk_181 0 176 (dk_at dksX0_boyBy_3 1 rfl rfl)
theorem dX0_boyBy_76 : decode cX0_boyBy 76 = .ok (.aload 4, 2) := dk_25 4 (dk_at dksX0_boyBy_3 4 rfl rfl)
theorem dX0_boyBy_78 : decode cX0_boyBy 78 = .ok (.athrow, 1) := dk_191 (dk_at dksX0_boyBy_3 6 rfl rfl)
theorem dX0_boyBy_79 : decode cX0_boyBy 79 = .ok (.iload_n 1, 1) := dk_27 (dk_at dksX0_boyBy_3 7 rfl rfl)
theorem dX0_boyBy_80 : decode cX0_boyBy 80 = .ok (.ifCond .ne 7, 3) := dk_154 0 7 (dk_at dksX0_boyBy_3 8 rfl rfl)
theorem dX0_boyBy_83 : decode cX0_boyBy 83 = .ok (.iload_n 2, 1) := dk_28 (dk_at dksX0_boyBy_3 11 rfl rfl)
theorem dX0_boyBy_84 : decode cX0_boyBy 84 = .ok (.goto 4, 3) := dk_167 0 4 (dk_at dksX0_boyBy_3 12 rfl rfl)
theorem dX0_boyBy_87 : decode cX0_boyBy 87 = .ok (.iload_n 3, 1) := dk_29 (dk_at dksX0_boyBy_3 15 rfl rfl)
theorem dX0_boyBy_88 : decode cX0_boyBy 88 = .ok (.ireturn, 1) := dk_172 (dk_at dksX0_boyBy_3 16 rfl rfl)
abbrev cX0_calm : ByteArray := prog_1_method_60_code
def yX0_calm : MethodName := ⟨RX0, "calm", "(I)I"⟩
def dkwX0_calm_0 : List UInt8 := [27, 133, 20, 1, 82, 10, 184, 0, 14, 153, 0, 11, 42, 27, 182, 1, 84, 167, 0, 5, 16, 254, 172]
abbrev dktX0_calm_0 : List UInt8 := dkwX0_calm_0 ++ []
theorem dksX0_calm_0 : cX0_calm.data.toList.drop 0 = dktX0_calm_0 := by decide +kernel
theorem dX0_calm_0 : decode cX0_calm 0 = .ok (.iload_n 1, 1) := dk_27 (dk_at dksX0_calm_0 0 rfl rfl)
theorem dX0_calm_1 : decode cX0_calm 1 = .ok (.i2l, 1) := dk_133 (dk_at dksX0_calm_0 1 rfl rfl)
theorem dX0_calm_2 : decode cX0_calm 2 = .ok (.ldc2_w 338, 3) := dk_20 1 82 (dk_at dksX0_calm_0 2 rfl rfl)
theorem dX0_calm_5 : decode cX0_calm 5 = .ok (.lconst 1, 1) := dk_10 (dk_at dksX0_calm_0 5 rfl rfl)
theorem dX0_calm_6 : decode cX0_calm 6 = .ok (.invokestatic 14, 3) := dk_184 0 14 (dk_at dksX0_calm_0 6 rfl rfl)
theorem dX0_calm_9 : decode cX0_calm 9 = .ok (.ifCond .eq 11, 3) := dk_153 0 11 (dk_at dksX0_calm_0 9 rfl rfl)
theorem dX0_calm_12 : decode cX0_calm 12 = .ok (.aload_n 0, 1) := dk_42 (dk_at dksX0_calm_0 12 rfl rfl)
theorem dX0_calm_13 : decode cX0_calm 13 = .ok (.iload_n 1, 1) := dk_27 (dk_at dksX0_calm_0 13 rfl rfl)
theorem dX0_calm_14 : decode cX0_calm 14 = .ok (.invokevirtual 340, 3) := dk_182 1 84 (dk_at dksX0_calm_0 14 rfl rfl)
theorem dX0_calm_17 : decode cX0_calm 17 = .ok (.goto 5, 3) := dk_167 0 5 (dk_at dksX0_calm_0 17 rfl rfl)
theorem dX0_calm_20 : decode cX0_calm 20 = .ok (.bipush (-2), 2) := dk_16 254 (dk_at dksX0_calm_0 20 rfl rfl)
theorem dX0_calm_22 : decode cX0_calm 22 = .ok (.ireturn, 1) := dk_172 (dk_at dksX0_calm_0 22 rfl rfl)
abbrev cX0_calmBy : ByteArray := prog_1_method_59_code
def yX0_calmBy : MethodName := ⟨RX0, "calmBy", "(I)I"⟩
def dkwX0_calmBy_5 : List UInt8 := [167, 0, 5, 21, 4, 172, 132, 4, 1, 167, 255, 212, 132, 3, 1, 167, 255, 196, 2, 172]
abbrev dktX0_calmBy_5 : List UInt8 := dkwX0_calmBy_5 ++ []
def dkwX0_calmBy_4 : List UInt8 := [120, 128, 182, 1, 79, 153, 0, 23, 27, 2, 160, 0, 7, 5, 167, 0, 13, 27, 154, 0, 7, 29]
abbrev dktX0_calmBy_4 : List UInt8 := dkwX0_calmBy_4 ++ dktX0_calmBy_5
def dkwX0_calmBy_3 : List UInt8 := [62, 29, 28, 162, 0, 61, 29, 4, 96, 54, 4, 21, 4, 28, 162, 0, 44, 42, 4, 29, 120, 4, 21, 4]
abbrev dktX0_calmBy_3 : List UInt8 := dkwX0_calmBy_3 ++ dktX0_calmBy_4
def dkwX0_calmBy_2 : List UInt8 := [160, 0, 7, 4, 167, 0, 12, 27, 154, 0, 7, 29, 167, 0, 4, 2, 172, 132, 3, 1, 167, 255, 219, 3]
abbrev dktX0_calmBy_2 : List UInt8 := dkwX0_calmBy_2 ++ dktX0_calmBy_3
def dkwX0_calmBy_1 : List UInt8 := [182, 0, 75, 61, 3, 62, 29, 28, 162, 0, 38, 42, 4, 29, 120, 182, 1, 79, 153, 0, 22, 27, 2]
abbrev dktX0_calmBy_1 : List UInt8 := dkwX0_calmBy_1 ++ dktX0_calmBy_2
def dkwX0_calmBy_0 : List UInt8 := [42, 3, 182, 1, 79, 153, 0, 14, 27, 2, 160, 0, 7, 3, 167, 0, 4, 2, 172, 42, 180, 0, 102]
abbrev dktX0_calmBy_0 : List UInt8 := dkwX0_calmBy_0 ++ dktX0_calmBy_1
theorem dksX0_calmBy_0 : cX0_calmBy.data.toList.drop 0 = dktX0_calmBy_0 := by decide +kernel
theorem dksX0_calmBy_1 : cX0_calmBy.data.toList.drop 23 = dktX0_calmBy_1 := dk_seg dksX0_calmBy_0 23 rfl rfl
theorem dksX0_calmBy_2 : cX0_calmBy.data.toList.drop 46 = dktX0_calmBy_2 := dk_seg dksX0_calmBy_1 23 rfl rfl
theorem dksX0_calmBy_3 : cX0_calmBy.data.toList.drop 70 = dktX0_calmBy_3 := dk_seg dksX0_calmBy_2 24 rfl rfl
theorem dksX0_calmBy_4 : cX0_calmBy.data.toList.drop 94 = dktX0_calmBy_4 := dk_seg dksX0_calmBy_3 24 rfl rfl
theorem dksX0_calmBy_5 : cX0_calmBy.data.toList.drop 116 = dktX0_calmBy_5 := dk_seg dksX0_calmBy_4 22 rfl rfl
theorem dX0_calmBy_0 : decode cX0_calmBy 0 = .ok (.aload_n 0, 1) := dk_42 (dk_at dksX0_calmBy_0 0 rfl rfl)
theorem dX0_calmBy_1 : decode cX0_calmBy 1 = .ok (.iconst 0, 1) := dk_3 (dk_at dksX0_calmBy_0 1 rfl rfl)
theorem dX0_calmBy_2 : decode cX0_calmBy 2 = .ok (.invokevirtual 335, 3) := dk_182 1 79 (dk_at dksX0_calmBy_0 2 rfl rfl)
theorem dX0_calmBy_5 : decode cX0_calmBy 5 = .ok (.ifCond .eq 14, 3) := dk_153 0 14 (dk_at dksX0_calmBy_0 5 rfl rfl)
theorem dX0_calmBy_8 : decode cX0_calmBy 8 = .ok (.iload_n 1, 1) := dk_27 (dk_at dksX0_calmBy_0 8 rfl rfl)
theorem dX0_calmBy_9 : decode cX0_calmBy 9 = .ok (.iconst (-1), 1) := dk_2 (dk_at dksX0_calmBy_0 9 rfl rfl)
theorem dX0_calmBy_10 : decode cX0_calmBy 10 = .ok (.if_icmp .ne 7, 3) := dk_160 0 7 (dk_at dksX0_calmBy_0 10 rfl rfl)
theorem dX0_calmBy_13 : decode cX0_calmBy 13 = .ok (.iconst 0, 1) := dk_3 (dk_at dksX0_calmBy_0 13 rfl rfl)
theorem dX0_calmBy_14 : decode cX0_calmBy 14 = .ok (.goto 4, 3) := dk_167 0 4 (dk_at dksX0_calmBy_0 14 rfl rfl)
theorem dX0_calmBy_17 : decode cX0_calmBy 17 = .ok (.iconst (-1), 1) := dk_2 (dk_at dksX0_calmBy_0 17 rfl rfl)
theorem dX0_calmBy_18 : decode cX0_calmBy 18 = .ok (.ireturn, 1) := dk_172 (dk_at dksX0_calmBy_0 18 rfl rfl)
theorem dX0_calmBy_19 : decode cX0_calmBy 19 = .ok (.aload_n 0, 1) := dk_42 (dk_at dksX0_calmBy_0 19 rfl rfl)
theorem dX0_calmBy_20 : decode cX0_calmBy 20 = .ok (.getfield 102, 3) := dk_180 0 102 (dk_at dksX0_calmBy_0 20 rfl rfl)
theorem dX0_calmBy_23 : decode cX0_calmBy 23 = .ok (.invokevirtual 75, 3) := dk_182 0 75 (dk_at dksX0_calmBy_1 0 rfl rfl)
theorem dX0_calmBy_26 : decode cX0_calmBy 26 = .ok (.istore_n 2, 1) := dk_61 (dk_at dksX0_calmBy_1 3 rfl rfl)
theorem dX0_calmBy_27 : decode cX0_calmBy 27 = .ok (.iconst 0, 1) := dk_3 (dk_at dksX0_calmBy_1 4 rfl rfl)
theorem dX0_calmBy_28 : decode cX0_calmBy 28 = .ok (.istore_n 3, 1) := dk_62 (dk_at dksX0_calmBy_1 5 rfl rfl)
theorem dX0_calmBy_29 : decode cX0_calmBy 29 = .ok (.iload_n 3, 1) := dk_29 (dk_at dksX0_calmBy_1 6 rfl rfl)
theorem dX0_calmBy_30 : decode cX0_calmBy 30 = .ok (.iload_n 2, 1) := dk_28 (dk_at dksX0_calmBy_1 7 rfl rfl)
theorem dX0_calmBy_31 : decode cX0_calmBy 31 = .ok (.if_icmp .ge 38, 3) := dk_162 0 38 (dk_at dksX0_calmBy_1 8 rfl rfl)
theorem dX0_calmBy_34 : decode cX0_calmBy 34 = .ok (.aload_n 0, 1) := dk_42 (dk_at dksX0_calmBy_1 11 rfl rfl)
theorem dX0_calmBy_35 : decode cX0_calmBy 35 = .ok (.iconst 1, 1) := dk_4 (dk_at dksX0_calmBy_1 12 rfl rfl)
theorem dX0_calmBy_36 : decode cX0_calmBy 36 = .ok (.iload_n 3, 1) := dk_29 (dk_at dksX0_calmBy_1 13 rfl rfl)
theorem dX0_calmBy_37 : decode cX0_calmBy 37 = .ok (.ishl, 1) := dk_120 (dk_at dksX0_calmBy_1 14 rfl rfl)
theorem dX0_calmBy_38 : decode cX0_calmBy 38 = .ok (.invokevirtual 335, 3) := dk_182 1 79 (dk_at dksX0_calmBy_1 15 rfl rfl)
theorem dX0_calmBy_41 : decode cX0_calmBy 41 = .ok (.ifCond .eq 22, 3) := dk_153 0 22 (dk_at dksX0_calmBy_1 18 rfl rfl)
theorem dX0_calmBy_44 : decode cX0_calmBy 44 = .ok (.iload_n 1, 1) := dk_27 (dk_at dksX0_calmBy_1 21 rfl rfl)
theorem dX0_calmBy_45 : decode cX0_calmBy 45 = .ok (.iconst (-1), 1) := dk_2 (dk_at dksX0_calmBy_1 22 rfl rfl)
theorem dX0_calmBy_46 : decode cX0_calmBy 46 = .ok (.if_icmp .ne 7, 3) := dk_160 0 7 (dk_at dksX0_calmBy_2 0 rfl rfl)
theorem dX0_calmBy_49 : decode cX0_calmBy 49 = .ok (.iconst 1, 1) := dk_4 (dk_at dksX0_calmBy_2 3 rfl rfl)
theorem dX0_calmBy_50 : decode cX0_calmBy 50 = .ok (.goto 12, 3) := dk_167 0 12 (dk_at dksX0_calmBy_2 4 rfl rfl)
theorem dX0_calmBy_53 : decode cX0_calmBy 53 = .ok (.iload_n 1, 1) := dk_27 (dk_at dksX0_calmBy_2 7 rfl rfl)
theorem dX0_calmBy_54 : decode cX0_calmBy 54 = .ok (.ifCond .ne 7, 3) := dk_154 0 7 (dk_at dksX0_calmBy_2 8 rfl rfl)
theorem dX0_calmBy_57 : decode cX0_calmBy 57 = .ok (.iload_n 3, 1) := dk_29 (dk_at dksX0_calmBy_2 11 rfl rfl)
theorem dX0_calmBy_58 : decode cX0_calmBy 58 = .ok (.goto 4, 3) := dk_167 0 4 (dk_at dksX0_calmBy_2 12 rfl rfl)
theorem dX0_calmBy_61 : decode cX0_calmBy 61 = .ok (.iconst (-1), 1) := dk_2 (dk_at dksX0_calmBy_2 15 rfl rfl)
theorem dX0_calmBy_62 : decode cX0_calmBy 62 = .ok (.ireturn, 1) := dk_172 (dk_at dksX0_calmBy_2 16 rfl rfl)
theorem dX0_calmBy_63 : decode cX0_calmBy 63 = .ok (.iinc 3 1, 3) := dk_132 3 1 (dk_at dksX0_calmBy_2 17 rfl rfl)
theorem dX0_calmBy_66 : decode cX0_calmBy 66 = .ok (.goto (-37), 3) := dk_167 255 219 (dk_at dksX0_calmBy_2 20 rfl rfl)
theorem dX0_calmBy_69 : decode cX0_calmBy 69 = .ok (.iconst 0, 1) := dk_3 (dk_at dksX0_calmBy_2 23 rfl rfl)
theorem dX0_calmBy_70 : decode cX0_calmBy 70 = .ok (.istore_n 3, 1) := dk_62 (dk_at dksX0_calmBy_3 0 rfl rfl)
theorem dX0_calmBy_71 : decode cX0_calmBy 71 = .ok (.iload_n 3, 1) := dk_29 (dk_at dksX0_calmBy_3 1 rfl rfl)
theorem dX0_calmBy_72 : decode cX0_calmBy 72 = .ok (.iload_n 2, 1) := dk_28 (dk_at dksX0_calmBy_3 2 rfl rfl)
theorem dX0_calmBy_73 : decode cX0_calmBy 73 = .ok (.if_icmp .ge 61, 3) := dk_162 0 61 (dk_at dksX0_calmBy_3 3 rfl rfl)
theorem dX0_calmBy_76 : decode cX0_calmBy 76 = .ok (.iload_n 3, 1) := dk_29 (dk_at dksX0_calmBy_3 6 rfl rfl)
theorem dX0_calmBy_77 : decode cX0_calmBy 77 = .ok (.iconst 1, 1) := dk_4 (dk_at dksX0_calmBy_3 7 rfl rfl)
theorem dX0_calmBy_78 : decode cX0_calmBy 78 = .ok (.iadd, 1) := dk_96 (dk_at dksX0_calmBy_3 8 rfl rfl)
theorem dX0_calmBy_79 : decode cX0_calmBy 79 = .ok (.istore 4, 2) := dk_54 4 (dk_at dksX0_calmBy_3 9 rfl rfl)
theorem dX0_calmBy_81 : decode cX0_calmBy 81 = .ok (.iload 4, 2) := dk_21 4 (dk_at dksX0_calmBy_3 11 rfl rfl)
theorem dX0_calmBy_83 : decode cX0_calmBy 83 = .ok (.iload_n 2, 1) := dk_28 (dk_at dksX0_calmBy_3 13 rfl rfl)
theorem dX0_calmBy_84 : decode cX0_calmBy 84 = .ok (.if_icmp .ge 44, 3) := dk_162 0 44 (dk_at dksX0_calmBy_3 14 rfl rfl)
theorem dX0_calmBy_87 : decode cX0_calmBy 87 = .ok (.aload_n 0, 1) := dk_42 (dk_at dksX0_calmBy_3 17 rfl rfl)
theorem dX0_calmBy_88 : decode cX0_calmBy 88 = .ok (.iconst 1, 1) := dk_4 (dk_at dksX0_calmBy_3 18 rfl rfl)
theorem dX0_calmBy_89 : decode cX0_calmBy 89 = .ok (.iload_n 3, 1) := dk_29 (dk_at dksX0_calmBy_3 19 rfl rfl)
theorem dX0_calmBy_90 : decode cX0_calmBy 90 = .ok (.ishl, 1) := dk_120 (dk_at dksX0_calmBy_3 20 rfl rfl)
theorem dX0_calmBy_91 : decode cX0_calmBy 91 = .ok (.iconst 1, 1) := dk_4 (dk_at dksX0_calmBy_3 21 rfl rfl)
theorem dX0_calmBy_92 : decode cX0_calmBy 92 = .ok (.iload 4, 2) := dk_21 4 (dk_at dksX0_calmBy_3 22 rfl rfl)
theorem dX0_calmBy_94 : decode cX0_calmBy 94 = .ok (.ishl, 1) := dk_120 (dk_at dksX0_calmBy_4 0 rfl rfl)
theorem dX0_calmBy_95 : decode cX0_calmBy 95 = .ok (.ior, 1) := dk_128 (dk_at dksX0_calmBy_4 1 rfl rfl)
theorem dX0_calmBy_96 : decode cX0_calmBy 96 = .ok (.invokevirtual 335, 3) := dk_182 1 79 (dk_at dksX0_calmBy_4 2 rfl rfl)
theorem dX0_calmBy_99 : decode cX0_calmBy 99 = .ok (.ifCond .eq 23, 3) := dk_153 0 23 (dk_at dksX0_calmBy_4 5 rfl rfl)
theorem dX0_calmBy_102 : decode cX0_calmBy 102 = .ok (.iload_n 1, 1) := dk_27 (dk_at dksX0_calmBy_4 8 rfl rfl)
theorem dX0_calmBy_103 : decode cX0_calmBy 103 = .ok (.iconst (-1), 1) := dk_2 (dk_at dksX0_calmBy_4 9 rfl rfl)
theorem dX0_calmBy_104 : decode cX0_calmBy 104 = .ok (.if_icmp .ne 7, 3) := dk_160 0 7 (dk_at dksX0_calmBy_4 10 rfl rfl)
theorem dX0_calmBy_107 : decode cX0_calmBy 107 = .ok (.iconst 2, 1) := dk_5 (dk_at dksX0_calmBy_4 13 rfl rfl)
theorem dX0_calmBy_108 : decode cX0_calmBy 108 = .ok (.goto 13, 3) := dk_167 0 13 (dk_at dksX0_calmBy_4 14 rfl rfl)
theorem dX0_calmBy_111 : decode cX0_calmBy 111 = .ok (.iload_n 1, 1) := dk_27 (dk_at dksX0_calmBy_4 17 rfl rfl)
theorem dX0_calmBy_112 : decode cX0_calmBy 112 = .ok (.ifCond .ne 7, 3) := dk_154 0 7 (dk_at dksX0_calmBy_4 18 rfl rfl)
theorem dX0_calmBy_115 : decode cX0_calmBy 115 = .ok (.iload_n 3, 1) := dk_29 (dk_at dksX0_calmBy_4 21 rfl rfl)
theorem dX0_calmBy_116 : decode cX0_calmBy 116 = .ok (.goto 5, 3) := dk_167 0 5 (dk_at dksX0_calmBy_5 0 rfl rfl)
theorem dX0_calmBy_119 : decode cX0_calmBy 119 = .ok (.iload 4, 2) := dk_21 4 (dk_at dksX0_calmBy_5 3 rfl rfl)
theorem dX0_calmBy_121 : decode cX0_calmBy 121 = .ok (.ireturn, 1) := dk_172 (dk_at dksX0_calmBy_5 5 rfl rfl)
theorem dX0_calmBy_122 : decode cX0_calmBy 122 = .ok (.iinc 4 1, 3) := dk_132 4 1 (dk_at dksX0_calmBy_5 6 rfl rfl)
theorem dX0_calmBy_125 : decode cX0_calmBy 125 = .ok (.goto (-44), 3) := dk_167 255 212 (dk_at dksX0_calmBy_5 9 rfl rfl)
theorem dX0_calmBy_128 : decode cX0_calmBy 128 = .ok (.iinc 3 1, 3) := dk_132 3 1 (dk_at dksX0_calmBy_5 12 rfl rfl)
theorem dX0_calmBy_131 : decode cX0_calmBy 131 = .ok (.goto (-60), 3) := dk_167 255 196 (dk_at dksX0_calmBy_5 15 rfl rfl)
theorem dX0_calmBy_134 : decode cX0_calmBy 134 = .ok (.iconst (-1), 1) := dk_2 (dk_at dksX0_calmBy_5 18 rfl rfl)
theorem dX0_calmBy_135 : decode cX0_calmBy 135 = .ok (.ireturn, 1) := dk_172 (dk_at dksX0_calmBy_5 19 rfl rfl)
abbrev cX0_isCalm : ByteArray := prog_1_method_58_code
def yX0_isCalm : MethodName := ⟨RX0, "isCalm", "(I)Z"⟩
def dkwX0_isCalm_1 : List UInt8 := [42, 3, 181, 0, 251, 28, 172, 78, 42, 3, 181, 0, 251, 45, 191]
abbrev dktX0_isCalm_1 : List UInt8 := dkwX0_isCalm_1 ++ []
def dkwX0_isCalm_0 : List UInt8 := [42, 27, 181, 0, 251, 42, 182, 1, 37, 42, 182, 1, 57, 16, 20, 160, 0, 7, 4, 167, 0, 4, 3, 61]
abbrev dktX0_isCalm_0 : List UInt8 := dkwX0_isCalm_0 ++ dktX0_isCalm_1
theorem dksX0_isCalm_0 : cX0_isCalm.data.toList.drop 0 = dktX0_isCalm_0 := by decide +kernel
theorem dksX0_isCalm_1 : cX0_isCalm.data.toList.drop 24 = dktX0_isCalm_1 := dk_seg dksX0_isCalm_0 24 rfl rfl
theorem dX0_isCalm_0 : decode cX0_isCalm 0 = .ok (.aload_n 0, 1) := dk_42 (dk_at dksX0_isCalm_0 0 rfl rfl)
theorem dX0_isCalm_1 : decode cX0_isCalm 1 = .ok (.iload_n 1, 1) := dk_27 (dk_at dksX0_isCalm_0 1 rfl rfl)
theorem dX0_isCalm_2 : decode cX0_isCalm 2 = .ok (.putfield 251, 3) := dk_181 0 251 (dk_at dksX0_isCalm_0 2 rfl rfl)
theorem dX0_isCalm_5 : decode cX0_isCalm 5 = .ok (.aload_n 0, 1) := dk_42 (dk_at dksX0_isCalm_0 5 rfl rfl)
theorem dX0_isCalm_6 : decode cX0_isCalm 6 = .ok (.invokevirtual 293, 3) := dk_182 1 37 (dk_at dksX0_isCalm_0 6 rfl rfl)
theorem dX0_isCalm_9 : decode cX0_isCalm 9 = .ok (.aload_n 0, 1) := dk_42 (dk_at dksX0_isCalm_0 9 rfl rfl)
theorem dX0_isCalm_10 : decode cX0_isCalm 10 = .ok (.invokevirtual 313, 3) := dk_182 1 57 (dk_at dksX0_isCalm_0 10 rfl rfl)
theorem dX0_isCalm_13 : decode cX0_isCalm 13 = .ok (.bipush 20, 2) := dk_16 20 (dk_at dksX0_isCalm_0 13 rfl rfl)
theorem dX0_isCalm_15 : decode cX0_isCalm 15 = .ok (.if_icmp .ne 7, 3) := dk_160 0 7 (dk_at dksX0_isCalm_0 15 rfl rfl)
theorem dX0_isCalm_18 : decode cX0_isCalm 18 = .ok (.iconst 1, 1) := dk_4 (dk_at dksX0_isCalm_0 18 rfl rfl)
theorem dX0_isCalm_19 : decode cX0_isCalm 19 = .ok (.goto 4, 3) := dk_167 0 4 (dk_at dksX0_isCalm_0 19 rfl rfl)
theorem dX0_isCalm_22 : decode cX0_isCalm 22 = .ok (.iconst 0, 1) := dk_3 (dk_at dksX0_isCalm_0 22 rfl rfl)
theorem dX0_isCalm_23 : decode cX0_isCalm 23 = .ok (.istore_n 2, 1) := dk_61 (dk_at dksX0_isCalm_0 23 rfl rfl)
theorem dX0_isCalm_24 : decode cX0_isCalm 24 = .ok (.aload_n 0, 1) := dk_42 (dk_at dksX0_isCalm_1 0 rfl rfl)
theorem dX0_isCalm_25 : decode cX0_isCalm 25 = .ok (.iconst 0, 1) := dk_3 (dk_at dksX0_isCalm_1 1 rfl rfl)
theorem dX0_isCalm_26 : decode cX0_isCalm 26 = .ok (.putfield 251, 3) := dk_181 0 251 (dk_at dksX0_isCalm_1 2 rfl rfl)
theorem dX0_isCalm_29 : decode cX0_isCalm 29 = .ok (.iload_n 2, 1) := dk_28 (dk_at dksX0_isCalm_1 5 rfl rfl)
theorem dX0_isCalm_30 : decode cX0_isCalm 30 = .ok (.ireturn, 1) := dk_172 (dk_at dksX0_isCalm_1 6 rfl rfl)
theorem dX0_isCalm_31 : decode cX0_isCalm 31 = .ok (.astore_n 3, 1) := dk_78 (dk_at dksX0_isCalm_1 7 rfl rfl)
theorem dX0_isCalm_32 : decode cX0_isCalm 32 = .ok (.aload_n 0, 1) := dk_42 (dk_at dksX0_isCalm_1 8 rfl rfl)
theorem dX0_isCalm_33 : decode cX0_isCalm 33 = .ok (.iconst 0, 1) := dk_3 (dk_at dksX0_isCalm_1 9 rfl rfl)
theorem dX0_isCalm_34 : decode cX0_isCalm 34 = .ok (.putfield 251, 3) := dk_181 0 251 (dk_at dksX0_isCalm_1 10 rfl rfl)
theorem dX0_isCalm_37 : decode cX0_isCalm 37 = .ok (.aload_n 3, 1) := dk_45 (dk_at dksX0_isCalm_1 13 rfl rfl)
theorem dX0_isCalm_38 : decode cX0_isCalm 38 = .ok (.athrow, 1) := dk_191 (dk_at dksX0_isCalm_1 14 rfl rfl)
abbrev cX0_seen : ByteArray := prog_1_method_61_code
def yX0_seen : MethodName := ⟨RX0, "seen", "(III)I"⟩
def dkwX0_seen_3 : List UInt8 := [180, 0, 179, 182, 0, 75, 172]
abbrev dktX0_seen_3 : List UInt8 := dkwX0_seen_3 ++ []
def dkwX0_seen_2 : List UInt8 := [180, 0, 179, 6, 188, 10, 89, 3, 27, 79, 89, 4, 28, 79, 89, 5, 29, 79, 182, 0, 105, 87, 42]
abbrev dktX0_seen_2 : List UInt8 := dkwX0_seen_2 ++ dktX0_seen_3
def dkwX0_seen_1 : List UInt8 := [154, 0, 6, 16, 254, 172, 42, 180, 0, 179, 182, 0, 75, 16, 8, 160, 0, 6, 16, 252, 172, 42]
abbrev dktX0_seen_1 : List UInt8 := dkwX0_seen_1 ++ dktX0_seen_2
def dkwX0_seen_0 : List UInt8 := [27, 184, 0, 99, 153, 0, 22, 28, 133, 9, 20, 1, 87, 184, 0, 14, 153, 0, 10, 29, 184, 0, 63]
abbrev dktX0_seen_0 : List UInt8 := dkwX0_seen_0 ++ dktX0_seen_1
theorem dksX0_seen_0 : cX0_seen.data.toList.drop 0 = dktX0_seen_0 := by decide +kernel
theorem dksX0_seen_1 : cX0_seen.data.toList.drop 23 = dktX0_seen_1 := dk_seg dksX0_seen_0 23 rfl rfl
theorem dksX0_seen_2 : cX0_seen.data.toList.drop 45 = dktX0_seen_2 := dk_seg dksX0_seen_1 22 rfl rfl
theorem dksX0_seen_3 : cX0_seen.data.toList.drop 68 = dktX0_seen_3 := dk_seg dksX0_seen_2 23 rfl rfl
theorem dX0_seen_0 : decode cX0_seen 0 = .ok (.iload_n 1, 1) := dk_27 (dk_at dksX0_seen_0 0 rfl rfl)
theorem dX0_seen_1 : decode cX0_seen 1 = .ok (.invokestatic 99, 3) := dk_184 0 99 (dk_at dksX0_seen_0 1 rfl rfl)
theorem dX0_seen_4 : decode cX0_seen 4 = .ok (.ifCond .eq 22, 3) := dk_153 0 22 (dk_at dksX0_seen_0 4 rfl rfl)
theorem dX0_seen_7 : decode cX0_seen 7 = .ok (.iload_n 2, 1) := dk_28 (dk_at dksX0_seen_0 7 rfl rfl)
theorem dX0_seen_8 : decode cX0_seen 8 = .ok (.i2l, 1) := dk_133 (dk_at dksX0_seen_0 8 rfl rfl)
theorem dX0_seen_9 : decode cX0_seen 9 = .ok (.lconst 0, 1) := dk_9 (dk_at dksX0_seen_0 9 rfl rfl)
theorem dX0_seen_10 : decode cX0_seen 10 = .ok (.ldc2_w 343, 3) := dk_20 1 87 (dk_at dksX0_seen_0 10 rfl rfl)
theorem dX0_seen_13 : decode cX0_seen 13 = .ok (.invokestatic 14, 3) := dk_184 0 14 (dk_at dksX0_seen_0 13 rfl rfl)
theorem dX0_seen_16 : decode cX0_seen 16 = .ok (.ifCond .eq 10, 3) := dk_153 0 10 (dk_at dksX0_seen_0 16 rfl rfl)
theorem dX0_seen_19 : decode cX0_seen 19 = .ok (.iload_n 3, 1) := dk_29 (dk_at dksX0_seen_0 19 rfl rfl)
theorem dX0_seen_20 : decode cX0_seen 20 = .ok (.invokestatic 63, 3) := dk_184 0 63 (dk_at dksX0_seen_0 20 rfl rfl)
theorem dX0_seen_23 : decode cX0_seen 23 = .ok (.ifCond .ne 6, 3) := dk_154 0 6 (dk_at dksX0_seen_1 0 rfl rfl)
theorem dX0_seen_26 : decode cX0_seen 26 = .ok (.bipush (-2), 2) := dk_16 254 (dk_at dksX0_seen_1 3 rfl rfl)
theorem dX0_seen_28 : decode cX0_seen 28 = .ok (.ireturn, 1) := dk_172 (dk_at dksX0_seen_1 5 rfl rfl)
theorem dX0_seen_29 : decode cX0_seen 29 = .ok (.aload_n 0, 1) := dk_42 (dk_at dksX0_seen_1 6 rfl rfl)
theorem dX0_seen_30 : decode cX0_seen 30 = .ok (.getfield 179, 3) := dk_180 0 179 (dk_at dksX0_seen_1 7 rfl rfl)
theorem dX0_seen_33 : decode cX0_seen 33 = .ok (.invokevirtual 75, 3) := dk_182 0 75 (dk_at dksX0_seen_1 10 rfl rfl)
theorem dX0_seen_36 : decode cX0_seen 36 = .ok (.bipush 8, 2) := dk_16 8 (dk_at dksX0_seen_1 13 rfl rfl)
theorem dX0_seen_38 : decode cX0_seen 38 = .ok (.if_icmp .ne 6, 3) := dk_160 0 6 (dk_at dksX0_seen_1 15 rfl rfl)
theorem dX0_seen_41 : decode cX0_seen 41 = .ok (.bipush (-4), 2) := dk_16 252 (dk_at dksX0_seen_1 18 rfl rfl)
theorem dX0_seen_43 : decode cX0_seen 43 = .ok (.ireturn, 1) := dk_172 (dk_at dksX0_seen_1 20 rfl rfl)
theorem dX0_seen_44 : decode cX0_seen 44 = .ok (.aload_n 0, 1) := dk_42 (dk_at dksX0_seen_1 21 rfl rfl)
theorem dX0_seen_45 : decode cX0_seen 45 = .ok (.getfield 179, 3) := dk_180 0 179 (dk_at dksX0_seen_2 0 rfl rfl)
theorem dX0_seen_48 : decode cX0_seen 48 = .ok (.iconst 3, 1) := dk_6 (dk_at dksX0_seen_2 3 rfl rfl)
theorem dX0_seen_49 : decode cX0_seen 49 = .ok (.newarray .int, 2) := dk_188_10 (dk_at dksX0_seen_2 4 rfl rfl)
theorem dX0_seen_51 : decode cX0_seen 51 = .ok (.dup, 1) := dk_89 (dk_at dksX0_seen_2 6 rfl rfl)
theorem dX0_seen_52 : decode cX0_seen 52 = .ok (.iconst 0, 1) := dk_3 (dk_at dksX0_seen_2 7 rfl rfl)
theorem dX0_seen_53 : decode cX0_seen 53 = .ok (.iload_n 1, 1) := dk_27 (dk_at dksX0_seen_2 8 rfl rfl)
theorem dX0_seen_54 : decode cX0_seen 54 = .ok (.iastore, 1) := dk_79 (dk_at dksX0_seen_2 9 rfl rfl)
theorem dX0_seen_55 : decode cX0_seen 55 = .ok (.dup, 1) := dk_89 (dk_at dksX0_seen_2 10 rfl rfl)
theorem dX0_seen_56 : decode cX0_seen 56 = .ok (.iconst 1, 1) := dk_4 (dk_at dksX0_seen_2 11 rfl rfl)
theorem dX0_seen_57 : decode cX0_seen 57 = .ok (.iload_n 2, 1) := dk_28 (dk_at dksX0_seen_2 12 rfl rfl)
theorem dX0_seen_58 : decode cX0_seen 58 = .ok (.iastore, 1) := dk_79 (dk_at dksX0_seen_2 13 rfl rfl)
theorem dX0_seen_59 : decode cX0_seen 59 = .ok (.dup, 1) := dk_89 (dk_at dksX0_seen_2 14 rfl rfl)
theorem dX0_seen_60 : decode cX0_seen 60 = .ok (.iconst 2, 1) := dk_5 (dk_at dksX0_seen_2 15 rfl rfl)
theorem dX0_seen_61 : decode cX0_seen 61 = .ok (.iload_n 3, 1) := dk_29 (dk_at dksX0_seen_2 16 rfl rfl)
theorem dX0_seen_62 : decode cX0_seen 62 = .ok (.iastore, 1) := dk_79 (dk_at dksX0_seen_2 17 rfl rfl)
theorem dX0_seen_63 : decode cX0_seen 63 = .ok (.invokevirtual 105, 3) := dk_182 0 105 (dk_at dksX0_seen_2 18 rfl rfl)
theorem dX0_seen_66 : decode cX0_seen 66 = .ok (.pop, 1) := dk_87 (dk_at dksX0_seen_2 21 rfl rfl)
theorem dX0_seen_67 : decode cX0_seen 67 = .ok (.aload_n 0, 1) := dk_42 (dk_at dksX0_seen_2 22 rfl rfl)
theorem dX0_seen_68 : decode cX0_seen 68 = .ok (.getfield 179, 3) := dk_180 0 179 (dk_at dksX0_seen_3 0 rfl rfl)
theorem dX0_seen_71 : decode cX0_seen 71 = .ok (.invokevirtual 75, 3) := dk_182 0 75 (dk_at dksX0_seen_3 3 rfl rfl)
theorem dX0_seen_74 : decode cX0_seen 74 = .ok (.ireturn, 1) := dk_172 (dk_at dksX0_seen_3 6 rfl rfl)
abbrev cX0_forget : ByteArray := prog_1_method_62_code
def yX0_forget : MethodName := ⟨RX0, "forget", "()I"⟩
def dkwX0_forget_0 : List UInt8 := [42, 180, 0, 179, 182, 0, 75, 60, 42, 180, 0, 179, 182, 1, 89, 27, 172]
abbrev dktX0_forget_0 : List UInt8 := dkwX0_forget_0 ++ []
theorem dksX0_forget_0 : cX0_forget.data.toList.drop 0 = dktX0_forget_0 := by decide +kernel
theorem dX0_forget_0 : decode cX0_forget 0 = .ok (.aload_n 0, 1) := dk_42 (dk_at dksX0_forget_0 0 rfl rfl)
theorem dX0_forget_1 : decode cX0_forget 1 = .ok (.getfield 179, 3) := dk_180 0 179 (dk_at dksX0_forget_0 1 rfl rfl)
theorem dX0_forget_4 : decode cX0_forget 4 = .ok (.invokevirtual 75, 3) := dk_182 0 75 (dk_at dksX0_forget_0 4 rfl rfl)
theorem dX0_forget_7 : decode cX0_forget 7 = .ok (.istore_n 1, 1) := dk_60 (dk_at dksX0_forget_0 7 rfl rfl)
theorem dX0_forget_8 : decode cX0_forget 8 = .ok (.aload_n 0, 1) := dk_42 (dk_at dksX0_forget_0 8 rfl rfl)
theorem dX0_forget_9 : decode cX0_forget 9 = .ok (.getfield 179, 3) := dk_180 0 179 (dk_at dksX0_forget_0 9 rfl rfl)
theorem dX0_forget_12 : decode cX0_forget 12 = .ok (.invokevirtual 345, 3) := dk_182 1 89 (dk_at dksX0_forget_0 12 rfl rfl)
theorem dX0_forget_15 : decode cX0_forget 15 = .ok (.iload_n 1, 1) := dk_27 (dk_at dksX0_forget_0 15 rfl rfl)
theorem dX0_forget_16 : decode cX0_forget 16 = .ok (.ireturn, 1) := dk_172 (dk_at dksX0_forget_0 16 rfl rfl)
abbrev cX0_never : ByteArray := prog_1_method_65_code
def yX0_never : MethodName := ⟨RX0, "never", "()I"⟩
theorem dX0_never_0 : decode cX0_never 0 = .ok (.aload_n 0, 1) := by decide +kernel
theorem dX0_never_1 : decode cX0_never 1 = .ok (.invokevirtual 351, 3) := by decide +kernel
theorem dX0_never_4 : decode cX0_never 4 = .ok (.ireturn, 1) := by decide +kernel
abbrev cX0_neverNow : ByteArray := prog_1_method_64_code
def yX0_neverNow : MethodName := ⟨RX0, "neverNow", "()I"⟩
def dkwX0_neverNow_2 : List UInt8 := [181, 0, 251, 167, 0, 11, 78, 42, 3, 181, 0, 251, 45, 191, 27, 172]
abbrev dktX0_neverNow_2 : List UInt8 := dkwX0_neverNow_2 ++ []
def dkwX0_neverNow_1 : List UInt8 := [182, 1, 92, 153, 0, 9, 4, 28, 120, 167, 0, 4, 3, 128, 60, 132, 2, 1, 167, 255, 218, 42, 3]
abbrev dktX0_neverNow_1 : List UInt8 := dkwX0_neverNow_1 ++ dktX0_neverNow_2
def dkwX0_neverNow_0 : List UInt8 := [3, 60, 3, 61, 28, 42, 180, 0, 102, 182, 0, 75, 162, 0, 33, 42, 4, 28, 120, 181, 0, 251, 27, 42]
abbrev dktX0_neverNow_0 : List UInt8 := dkwX0_neverNow_0 ++ dktX0_neverNow_1
theorem dksX0_neverNow_0 : cX0_neverNow.data.toList.drop 0 = dktX0_neverNow_0 := by decide +kernel
theorem dksX0_neverNow_1 : cX0_neverNow.data.toList.drop 24 = dktX0_neverNow_1 := dk_seg dksX0_neverNow_0 24 rfl rfl
theorem dksX0_neverNow_2 : cX0_neverNow.data.toList.drop 47 = dktX0_neverNow_2 := dk_seg dksX0_neverNow_1 23 rfl rfl
theorem dX0_neverNow_0 : decode cX0_neverNow 0 = .ok (.iconst 0, 1) := dk_3 (dk_at dksX0_neverNow_0 0 rfl rfl)
theorem dX0_neverNow_1 : decode cX0_neverNow 1 = .ok (.istore_n 1, 1) := dk_60 (dk_at dksX0_neverNow_0 1 rfl rfl)
theorem dX0_neverNow_2 : decode cX0_neverNow 2 = .ok (.iconst 0, 1) := dk_3 (dk_at dksX0_neverNow_0 2 rfl rfl)
theorem dX0_neverNow_3 : decode cX0_neverNow 3 = .ok (.istore_n 2, 1) := dk_61 (dk_at dksX0_neverNow_0 3 rfl rfl)
theorem dX0_neverNow_4 : decode cX0_neverNow 4 = .ok (.iload_n 2, 1) := dk_28 (dk_at dksX0_neverNow_0 4 rfl rfl)
theorem dX0_neverNow_5 : decode cX0_neverNow 5 = .ok (.aload_n 0, 1) := dk_42 (dk_at dksX0_neverNow_0 5 rfl rfl)
theorem dX0_neverNow_6 : decode cX0_neverNow 6 = .ok (.getfield 102, 3) := dk_180 0 102 (dk_at dksX0_neverNow_0 6 rfl rfl)
theorem dX0_neverNow_9 : decode cX0_neverNow 9 = .ok (.invokevirtual 75, 3) := dk_182 0 75 (dk_at dksX0_neverNow_0 9 rfl rfl)
theorem dX0_neverNow_12 : decode cX0_neverNow 12 = .ok (.if_icmp .ge 33, 3) := dk_162 0 33 (dk_at dksX0_neverNow_0 12 rfl rfl)
theorem dX0_neverNow_15 : decode cX0_neverNow 15 = .ok (.aload_n 0, 1) := dk_42 (dk_at dksX0_neverNow_0 15 rfl rfl)
theorem dX0_neverNow_16 : decode cX0_neverNow 16 = .ok (.iconst 1, 1) := dk_4 (dk_at dksX0_neverNow_0 16 rfl rfl)
theorem dX0_neverNow_17 : decode cX0_neverNow 17 = .ok (.iload_n 2, 1) := dk_28 (dk_at dksX0_neverNow_0 17 rfl rfl)
theorem dX0_neverNow_18 : decode cX0_neverNow 18 = .ok (.ishl, 1) := dk_120 (dk_at dksX0_neverNow_0 18 rfl rfl)
theorem dX0_neverNow_19 : decode cX0_neverNow 19 = .ok (.putfield 251, 3) := dk_181 0 251 (dk_at dksX0_neverNow_0 19 rfl rfl)
theorem dX0_neverNow_22 : decode cX0_neverNow 22 = .ok (.iload_n 1, 1) := dk_27 (dk_at dksX0_neverNow_0 22 rfl rfl)
theorem dX0_neverNow_23 : decode cX0_neverNow 23 = .ok (.aload_n 0, 1) := dk_42 (dk_at dksX0_neverNow_0 23 rfl rfl)
theorem dX0_neverNow_24 : decode cX0_neverNow 24 = .ok (.invokevirtual 348, 3) := dk_182 1 92 (dk_at dksX0_neverNow_1 0 rfl rfl)
theorem dX0_neverNow_27 : decode cX0_neverNow 27 = .ok (.ifCond .eq 9, 3) := dk_153 0 9 (dk_at dksX0_neverNow_1 3 rfl rfl)
theorem dX0_neverNow_30 : decode cX0_neverNow 30 = .ok (.iconst 1, 1) := dk_4 (dk_at dksX0_neverNow_1 6 rfl rfl)
theorem dX0_neverNow_31 : decode cX0_neverNow 31 = .ok (.iload_n 2, 1) := dk_28 (dk_at dksX0_neverNow_1 7 rfl rfl)
theorem dX0_neverNow_32 : decode cX0_neverNow 32 = .ok (.ishl, 1) := dk_120 (dk_at dksX0_neverNow_1 8 rfl rfl)
theorem dX0_neverNow_33 : decode cX0_neverNow 33 = .ok (.goto 4, 3) := dk_167 0 4 (dk_at dksX0_neverNow_1 9 rfl rfl)
theorem dX0_neverNow_36 : decode cX0_neverNow 36 = .ok (.iconst 0, 1) := dk_3 (dk_at dksX0_neverNow_1 12 rfl rfl)
theorem dX0_neverNow_37 : decode cX0_neverNow 37 = .ok (.ior, 1) := dk_128 (dk_at dksX0_neverNow_1 13 rfl rfl)
theorem dX0_neverNow_38 : decode cX0_neverNow 38 = .ok (.istore_n 1, 1) := dk_60 (dk_at dksX0_neverNow_1 14 rfl rfl)
theorem dX0_neverNow_39 : decode cX0_neverNow 39 = .ok (.iinc 2 1, 3) := dk_132 2 1 (dk_at dksX0_neverNow_1 15 rfl rfl)
theorem dX0_neverNow_42 : decode cX0_neverNow 42 = .ok (.goto (-38), 3) := dk_167 255 218 (dk_at dksX0_neverNow_1 18 rfl rfl)
theorem dX0_neverNow_45 : decode cX0_neverNow 45 = .ok (.aload_n 0, 1) := dk_42 (dk_at dksX0_neverNow_1 21 rfl rfl)
theorem dX0_neverNow_46 : decode cX0_neverNow 46 = .ok (.iconst 0, 1) := dk_3 (dk_at dksX0_neverNow_1 22 rfl rfl)
theorem dX0_neverNow_47 : decode cX0_neverNow 47 = .ok (.putfield 251, 3) := dk_181 0 251 (dk_at dksX0_neverNow_2 0 rfl rfl)
theorem dX0_neverNow_50 : decode cX0_neverNow 50 = .ok (.goto 11, 3) := dk_167 0 11 (dk_at dksX0_neverNow_2 3 rfl rfl)
theorem dX0_neverNow_53 : decode cX0_neverNow 53 = .ok (.astore_n 3, 1) := dk_78 (dk_at dksX0_neverNow_2 6 rfl rfl)
theorem dX0_neverNow_54 : decode cX0_neverNow 54 = .ok (.aload_n 0, 1) := dk_42 (dk_at dksX0_neverNow_2 7 rfl rfl)
theorem dX0_neverNow_55 : decode cX0_neverNow 55 = .ok (.iconst 0, 1) := dk_3 (dk_at dksX0_neverNow_2 8 rfl rfl)
theorem dX0_neverNow_56 : decode cX0_neverNow 56 = .ok (.putfield 251, 3) := dk_181 0 251 (dk_at dksX0_neverNow_2 9 rfl rfl)
theorem dX0_neverNow_59 : decode cX0_neverNow 59 = .ok (.aload_n 3, 1) := dk_45 (dk_at dksX0_neverNow_2 12 rfl rfl)
theorem dX0_neverNow_60 : decode cX0_neverNow 60 = .ok (.athrow, 1) := dk_191 (dk_at dksX0_neverNow_2 13 rfl rfl)
theorem dX0_neverNow_61 : decode cX0_neverNow 61 = .ok (.iload_n 1, 1) := dk_27 (dk_at dksX0_neverNow_2 14 rfl rfl)
theorem dX0_neverNow_62 : decode cX0_neverNow 62 = .ok (.ireturn, 1) := dk_172 (dk_at dksX0_neverNow_2 15 rfl rfl)
abbrev cX0_isSeen : ByteArray := prog_1_method_63_code
def yX0_isSeen : MethodName := ⟨RX0, "isSeen", "()Z"⟩
def dkwX0_isSeen_3 : List UInt8 := [3, 60, 132, 2, 1, 167, 255, 189, 27, 172]
abbrev dktX0_isSeen_3 : List UInt8 := dkwX0_isSeen_3 ++ []
def dkwX0_isSeen_2 : List UInt8 := [180, 0, 164, 45, 3, 46, 50, 45, 4, 46, 50, 180, 0, 208, 45, 5, 46, 160, 0, 7, 4, 167, 0, 4]
abbrev dktX0_isSeen_2 : List UInt8 := dkwX0_isSeen_2 ++ dktX0_isSeen_3
def dkwX0_isSeen_1 : List UInt8 := [180, 0, 179, 28, 182, 0, 88, 192, 0, 250, 78, 42, 45, 4, 46, 182, 0, 83, 153, 0, 28, 42]
abbrev dktX0_isSeen_1 : List UInt8 := dkwX0_isSeen_1 ++ dktX0_isSeen_2
def dkwX0_isSeen_0 : List UInt8 := [42, 182, 1, 37, 4, 60, 3, 61, 28, 42, 180, 0, 179, 182, 0, 75, 162, 0, 62, 27, 153, 0, 58, 42]
abbrev dktX0_isSeen_0 : List UInt8 := dkwX0_isSeen_0 ++ dktX0_isSeen_1
theorem dksX0_isSeen_0 : cX0_isSeen.data.toList.drop 0 = dktX0_isSeen_0 := by decide +kernel
theorem dksX0_isSeen_1 : cX0_isSeen.data.toList.drop 24 = dktX0_isSeen_1 := dk_seg dksX0_isSeen_0 24 rfl rfl
theorem dksX0_isSeen_2 : cX0_isSeen.data.toList.drop 46 = dktX0_isSeen_2 := dk_seg dksX0_isSeen_1 22 rfl rfl
theorem dksX0_isSeen_3 : cX0_isSeen.data.toList.drop 70 = dktX0_isSeen_3 := dk_seg dksX0_isSeen_2 24 rfl rfl
theorem dX0_isSeen_0 : decode cX0_isSeen 0 = .ok (.aload_n 0, 1) := dk_42 (dk_at dksX0_isSeen_0 0 rfl rfl)
theorem dX0_isSeen_1 : decode cX0_isSeen 1 = .ok (.invokevirtual 293, 3) := dk_182 1 37 (dk_at dksX0_isSeen_0 1 rfl rfl)
theorem dX0_isSeen_4 : decode cX0_isSeen 4 = .ok (.iconst 1, 1) := dk_4 (dk_at dksX0_isSeen_0 4 rfl rfl)
theorem dX0_isSeen_5 : decode cX0_isSeen 5 = .ok (.istore_n 1, 1) := dk_60 (dk_at dksX0_isSeen_0 5 rfl rfl)
theorem dX0_isSeen_6 : decode cX0_isSeen 6 = .ok (.iconst 0, 1) := dk_3 (dk_at dksX0_isSeen_0 6 rfl rfl)
theorem dX0_isSeen_7 : decode cX0_isSeen 7 = .ok (.istore_n 2, 1) := dk_61 (dk_at dksX0_isSeen_0 7 rfl rfl)
theorem dX0_isSeen_8 : decode cX0_isSeen 8 = .ok (.iload_n 2, 1) := dk_28 (dk_at dksX0_isSeen_0 8 rfl rfl)
theorem dX0_isSeen_9 : decode cX0_isSeen 9 = .ok (.aload_n 0, 1) := dk_42 (dk_at dksX0_isSeen_0 9 rfl rfl)
theorem dX0_isSeen_10 : decode cX0_isSeen 10 = .ok (.getfield 179, 3) := dk_180 0 179 (dk_at dksX0_isSeen_0 10 rfl rfl)
theorem dX0_isSeen_13 : decode cX0_isSeen 13 = .ok (.invokevirtual 75, 3) := dk_182 0 75 (dk_at dksX0_isSeen_0 13 rfl rfl)
theorem dX0_isSeen_16 : decode cX0_isSeen 16 = .ok (.if_icmp .ge 62, 3) := dk_162 0 62 (dk_at dksX0_isSeen_0 16 rfl rfl)
theorem dX0_isSeen_19 : decode cX0_isSeen 19 = .ok (.iload_n 1, 1) := dk_27 (dk_at dksX0_isSeen_0 19 rfl rfl)
theorem dX0_isSeen_20 : decode cX0_isSeen 20 = .ok (.ifCond .eq 58, 3) := dk_153 0 58 (dk_at dksX0_isSeen_0 20 rfl rfl)
theorem dX0_isSeen_23 : decode cX0_isSeen 23 = .ok (.aload_n 0, 1) := dk_42 (dk_at dksX0_isSeen_0 23 rfl rfl)
theorem dX0_isSeen_24 : decode cX0_isSeen 24 = .ok (.getfield 179, 3) := dk_180 0 179 (dk_at dksX0_isSeen_1 0 rfl rfl)
theorem dX0_isSeen_27 : decode cX0_isSeen 27 = .ok (.iload_n 2, 1) := dk_28 (dk_at dksX0_isSeen_1 3 rfl rfl)
theorem dX0_isSeen_28 : decode cX0_isSeen 28 = .ok (.invokevirtual 88, 3) := dk_182 0 88 (dk_at dksX0_isSeen_1 4 rfl rfl)
theorem dX0_isSeen_31 : decode cX0_isSeen 31 = .ok (.checkcast 250, 3) := dk_192 0 250 (dk_at dksX0_isSeen_1 7 rfl rfl)
theorem dX0_isSeen_34 : decode cX0_isSeen 34 = .ok (.astore_n 3, 1) := dk_78 (dk_at dksX0_isSeen_1 10 rfl rfl)
theorem dX0_isSeen_35 : decode cX0_isSeen 35 = .ok (.aload_n 0, 1) := dk_42 (dk_at dksX0_isSeen_1 11 rfl rfl)
theorem dX0_isSeen_36 : decode cX0_isSeen 36 = .ok (.aload_n 3, 1) := dk_45 (dk_at dksX0_isSeen_1 12 rfl rfl)
theorem dX0_isSeen_37 : decode cX0_isSeen 37 = .ok (.iconst 1, 1) := dk_4 (dk_at dksX0_isSeen_1 13 rfl rfl)
theorem dX0_isSeen_38 : decode cX0_isSeen 38 = .ok (.iaload, 1) := dk_46 (dk_at dksX0_isSeen_1 14 rfl rfl)
theorem dX0_isSeen_39 : decode cX0_isSeen 39 = .ok (.invokevirtual 83, 3) := dk_182 0 83 (dk_at dksX0_isSeen_1 15 rfl rfl)
theorem dX0_isSeen_42 : decode cX0_isSeen 42 = .ok (.ifCond .eq 28, 3) := dk_153 0 28 (dk_at dksX0_isSeen_1 18 rfl rfl)
theorem dX0_isSeen_45 : decode cX0_isSeen 45 = .ok (.aload_n 0, 1) := dk_42 (dk_at dksX0_isSeen_1 21 rfl rfl)
theorem dX0_isSeen_46 : decode cX0_isSeen 46 = .ok (.getfield 164, 3) := dk_180 0 164 (dk_at dksX0_isSeen_2 0 rfl rfl)
theorem dX0_isSeen_49 : decode cX0_isSeen 49 = .ok (.aload_n 3, 1) := dk_45 (dk_at dksX0_isSeen_2 3 rfl rfl)
theorem dX0_isSeen_50 : decode cX0_isSeen 50 = .ok (.iconst 0, 1) := dk_3 (dk_at dksX0_isSeen_2 4 rfl rfl)
theorem dX0_isSeen_51 : decode cX0_isSeen 51 = .ok (.iaload, 1) := dk_46 (dk_at dksX0_isSeen_2 5 rfl rfl)
theorem dX0_isSeen_52 : decode cX0_isSeen 52 = .ok (.aaload, 1) := dk_50 (dk_at dksX0_isSeen_2 6 rfl rfl)
theorem dX0_isSeen_53 : decode cX0_isSeen 53 = .ok (.aload_n 3, 1) := dk_45 (dk_at dksX0_isSeen_2 7 rfl rfl)
theorem dX0_isSeen_54 : decode cX0_isSeen 54 = .ok (.iconst 1, 1) := dk_4 (dk_at dksX0_isSeen_2 8 rfl rfl)
theorem dX0_isSeen_55 : decode cX0_isSeen 55 = .ok (.iaload, 1) := dk_46 (dk_at dksX0_isSeen_2 9 rfl rfl)
theorem dX0_isSeen_56 : decode cX0_isSeen 56 = .ok (.aaload, 1) := dk_50 (dk_at dksX0_isSeen_2 10 rfl rfl)
theorem dX0_isSeen_57 : decode cX0_isSeen 57 = .ok (.getfield 208, 3) := dk_180 0 208 (dk_at dksX0_isSeen_2 11 rfl rfl)
theorem dX0_isSeen_60 : decode cX0_isSeen 60 = .ok (.aload_n 3, 1) := dk_45 (dk_at dksX0_isSeen_2 14 rfl rfl)
theorem dX0_isSeen_61 : decode cX0_isSeen 61 = .ok (.iconst 2, 1) := dk_5 (dk_at dksX0_isSeen_2 15 rfl rfl)
theorem dX0_isSeen_62 : decode cX0_isSeen 62 = .ok (.iaload, 1) := dk_46 (dk_at dksX0_isSeen_2 16 rfl rfl)
theorem dX0_isSeen_63 : decode cX0_isSeen 63 = .ok (.if_icmp .ne 7, 3) := dk_160 0 7 (dk_at dksX0_isSeen_2 17 rfl rfl)
theorem dX0_isSeen_66 : decode cX0_isSeen 66 = .ok (.iconst 1, 1) := dk_4 (dk_at dksX0_isSeen_2 20 rfl rfl)
theorem dX0_isSeen_67 : decode cX0_isSeen 67 = .ok (.goto 4, 3) := dk_167 0 4 (dk_at dksX0_isSeen_2 21 rfl rfl)
theorem dX0_isSeen_70 : decode cX0_isSeen 70 = .ok (.iconst 0, 1) := dk_3 (dk_at dksX0_isSeen_3 0 rfl rfl)
theorem dX0_isSeen_71 : decode cX0_isSeen 71 = .ok (.istore_n 1, 1) := dk_60 (dk_at dksX0_isSeen_3 1 rfl rfl)
theorem dX0_isSeen_72 : decode cX0_isSeen 72 = .ok (.iinc 2 1, 3) := dk_132 2 1 (dk_at dksX0_isSeen_3 2 rfl rfl)
theorem dX0_isSeen_75 : decode cX0_isSeen 75 = .ok (.goto (-67), 3) := dk_167 255 189 (dk_at dksX0_isSeen_3 5 rfl rfl)
theorem dX0_isSeen_78 : decode cX0_isSeen 78 = .ok (.iload_n 1, 1) := dk_27 (dk_at dksX0_isSeen_3 8 rfl rfl)
theorem dX0_isSeen_79 : decode cX0_isSeen 79 = .ok (.ireturn, 1) := dk_172 (dk_at dksX0_isSeen_3 9 rfl rfl)
abbrev cX0_sort : ByteArray := prog_1_method_67_code
def yX0_sort : MethodName := ⟨RX0, "sort", "(I)I"⟩
def dkwX0_sort_0 : List UInt8 := [42, 27, 182, 0, 83, 153, 0, 11, 42, 27, 182, 1, 102, 167, 0, 5, 16, 254, 172]
abbrev dktX0_sort_0 : List UInt8 := dkwX0_sort_0 ++ []
theorem dksX0_sort_0 : cX0_sort.data.toList.drop 0 = dktX0_sort_0 := by decide +kernel
theorem dX0_sort_0 : decode cX0_sort 0 = .ok (.aload_n 0, 1) := dk_42 (dk_at dksX0_sort_0 0 rfl rfl)
theorem dX0_sort_1 : decode cX0_sort 1 = .ok (.iload_n 1, 1) := dk_27 (dk_at dksX0_sort_0 1 rfl rfl)
theorem dX0_sort_2 : decode cX0_sort 2 = .ok (.invokevirtual 83, 3) := dk_182 0 83 (dk_at dksX0_sort_0 2 rfl rfl)
theorem dX0_sort_5 : decode cX0_sort 5 = .ok (.ifCond .eq 11, 3) := dk_153 0 11 (dk_at dksX0_sort_0 5 rfl rfl)
theorem dX0_sort_8 : decode cX0_sort 8 = .ok (.aload_n 0, 1) := dk_42 (dk_at dksX0_sort_0 8 rfl rfl)
theorem dX0_sort_9 : decode cX0_sort 9 = .ok (.iload_n 1, 1) := dk_27 (dk_at dksX0_sort_0 9 rfl rfl)
theorem dX0_sort_10 : decode cX0_sort 10 = .ok (.invokevirtual 358, 3) := dk_182 1 102 (dk_at dksX0_sort_0 10 rfl rfl)
theorem dX0_sort_13 : decode cX0_sort 13 = .ok (.goto 5, 3) := dk_167 0 5 (dk_at dksX0_sort_0 13 rfl rfl)
theorem dX0_sort_16 : decode cX0_sort 16 = .ok (.bipush (-2), 2) := dk_16 254 (dk_at dksX0_sort_0 16 rfl rfl)
theorem dX0_sort_18 : decode cX0_sort 18 = .ok (.ireturn, 1) := dk_172 (dk_at dksX0_sort_0 18 rfl rfl)
abbrev cX0_sortOf : ByteArray := prog_1_method_66_code
def yX0_sortOf : MethodName := ⟨RX0, "sortOf", "(I)I"⟩
def dkwX0_sortOf_3 : List UInt8 := [181, 0, 192, 167, 0, 13, 58, 6, 44, 45, 181, 0, 192, 25, 6, 191, 21, 4, 172]
abbrev dktX0_sortOf_3 : List UInt8 := dkwX0_sortOf_3 ++ []
def dkwX0_sortOf_2 : List UInt8 := [153, 0, 10, 4, 21, 5, 120, 167, 0, 4, 3, 128, 54, 4, 132, 5, 1, 167, 255, 217, 44, 45]
abbrev dktX0_sortOf_2 : List UInt8 := dkwX0_sortOf_2 ++ dktX0_sortOf_3
def dkwX0_sortOf_1 : List UInt8 := [54, 5, 21, 5, 6, 162, 0, 39, 44, 178, 1, 98, 21, 5, 50, 181, 0, 192, 21, 4, 42, 182, 1, 92]
abbrev dktX0_sortOf_1 : List UInt8 := dkwX0_sortOf_1 ++ dktX0_sortOf_2
def dkwX0_sortOf_0 : List UInt8 := [42, 180, 0, 26, 180, 0, 72, 27, 182, 0, 88, 192, 0, 92, 77, 44, 180, 0, 192, 78, 3, 54, 4, 3]
abbrev dktX0_sortOf_0 : List UInt8 := dkwX0_sortOf_0 ++ dktX0_sortOf_1
theorem dksX0_sortOf_0 : cX0_sortOf.data.toList.drop 0 = dktX0_sortOf_0 := by decide +kernel
theorem dksX0_sortOf_1 : cX0_sortOf.data.toList.drop 24 = dktX0_sortOf_1 := dk_seg dksX0_sortOf_0 24 rfl rfl
theorem dksX0_sortOf_2 : cX0_sortOf.data.toList.drop 48 = dktX0_sortOf_2 := dk_seg dksX0_sortOf_1 24 rfl rfl
theorem dksX0_sortOf_3 : cX0_sortOf.data.toList.drop 70 = dktX0_sortOf_3 := dk_seg dksX0_sortOf_2 22 rfl rfl
theorem dX0_sortOf_0 : decode cX0_sortOf 0 = .ok (.aload_n 0, 1) := dk_42 (dk_at dksX0_sortOf_0 0 rfl rfl)
theorem dX0_sortOf_1 : decode cX0_sortOf 1 = .ok (.getfield 26, 3) := dk_180 0 26 (dk_at dksX0_sortOf_0 1 rfl rfl)
theorem dX0_sortOf_4 : decode cX0_sortOf 4 = .ok (.getfield 72, 3) := dk_180 0 72 (dk_at dksX0_sortOf_0 4 rfl rfl)
theorem dX0_sortOf_7 : decode cX0_sortOf 7 = .ok (.iload_n 1, 1) := dk_27 (dk_at dksX0_sortOf_0 7 rfl rfl)
theorem dX0_sortOf_8 : decode cX0_sortOf 8 = .ok (.invokevirtual 88, 3) := dk_182 0 88 (dk_at dksX0_sortOf_0 8 rfl rfl)
theorem dX0_sortOf_11 : decode cX0_sortOf 11 = .ok (.checkcast 92, 3) := dk_192 0 92 (dk_at dksX0_sortOf_0 11 rfl rfl)
theorem dX0_sortOf_14 : decode cX0_sortOf 14 = .ok (.astore_n 2, 1) := dk_77 (dk_at dksX0_sortOf_0 14 rfl rfl)
theorem dX0_sortOf_15 : decode cX0_sortOf 15 = .ok (.aload_n 2, 1) := dk_44 (dk_at dksX0_sortOf_0 15 rfl rfl)
theorem dX0_sortOf_16 : decode cX0_sortOf 16 = .ok (.getfield 192, 3) := dk_180 0 192 (dk_at dksX0_sortOf_0 16 rfl rfl)
theorem dX0_sortOf_19 : decode cX0_sortOf 19 = .ok (.astore_n 3, 1) := dk_78 (dk_at dksX0_sortOf_0 19 rfl rfl)
theorem dX0_sortOf_20 : decode cX0_sortOf 20 = .ok (.iconst 0, 1) := dk_3 (dk_at dksX0_sortOf_0 20 rfl rfl)
theorem dX0_sortOf_21 : decode cX0_sortOf 21 = .ok (.istore 4, 2) := dk_54 4 (dk_at dksX0_sortOf_0 21 rfl rfl)
theorem dX0_sortOf_23 : decode cX0_sortOf 23 = .ok (.iconst 0, 1) := dk_3 (dk_at dksX0_sortOf_0 23 rfl rfl)
theorem dX0_sortOf_24 : decode cX0_sortOf 24 = .ok (.istore 5, 2) := dk_54 5 (dk_at dksX0_sortOf_1 0 rfl rfl)
theorem dX0_sortOf_26 : decode cX0_sortOf 26 = .ok (.iload 5, 2) := dk_21 5 (dk_at dksX0_sortOf_1 2 rfl rfl)
theorem dX0_sortOf_28 : decode cX0_sortOf 28 = .ok (.iconst 3, 1) := dk_6 (dk_at dksX0_sortOf_1 4 rfl rfl)
theorem dX0_sortOf_29 : decode cX0_sortOf 29 = .ok (.if_icmp .ge 39, 3) := dk_162 0 39 (dk_at dksX0_sortOf_1 5 rfl rfl)
theorem dX0_sortOf_32 : decode cX0_sortOf 32 = .ok (.aload_n 2, 1) := dk_44 (dk_at dksX0_sortOf_1 8 rfl rfl)
theorem dX0_sortOf_33 : decode cX0_sortOf 33 = .ok (.getstatic 354, 3) := dk_178 1 98 (dk_at dksX0_sortOf_1 9 rfl rfl)
theorem dX0_sortOf_36 : decode cX0_sortOf 36 = .ok (.iload 5, 2) := dk_21 5 (dk_at dksX0_sortOf_1 12 rfl rfl)
theorem dX0_sortOf_38 : decode cX0_sortOf 38 = .ok (.aaload, 1) := dk_50 (dk_at dksX0_sortOf_1 14 rfl rfl)
theorem dX0_sortOf_39 : decode cX0_sortOf 39 = .ok (.putfield 192, 3) := dk_181 0 192 (dk_at dksX0_sortOf_1 15 rfl rfl)
theorem dX0_sortOf_42 : decode cX0_sortOf 42 = .ok (.iload 4, 2) := dk_21 4 (dk_at dksX0_sortOf_1 18 rfl rfl)
theorem dX0_sortOf_44 : decode cX0_sortOf 44 = .ok (.aload_n 0, 1) := dk_42 (dk_at dksX0_sortOf_1 20 rfl rfl)
theorem dX0_sortOf_45 : decode cX0_sortOf 45 = .ok (.invokevirtual 348, 3) := dk_182 1 92 (dk_at dksX0_sortOf_1 21 rfl rfl)
theorem dX0_sortOf_48 : decode cX0_sortOf 48 = .ok (.ifCond .eq 10, 3) := dk_153 0 10 (dk_at dksX0_sortOf_2 0 rfl rfl)
theorem dX0_sortOf_51 : decode cX0_sortOf 51 = .ok (.iconst 1, 1) := dk_4 (dk_at dksX0_sortOf_2 3 rfl rfl)
theorem dX0_sortOf_52 : decode cX0_sortOf 52 = .ok (.iload 5, 2) := dk_21 5 (dk_at dksX0_sortOf_2 4 rfl rfl)
theorem dX0_sortOf_54 : decode cX0_sortOf 54 = .ok (.ishl, 1) := dk_120 (dk_at dksX0_sortOf_2 6 rfl rfl)
theorem dX0_sortOf_55 : decode cX0_sortOf 55 = .ok (.goto 4, 3) := dk_167 0 4 (dk_at dksX0_sortOf_2 7 rfl rfl)
theorem dX0_sortOf_58 : decode cX0_sortOf 58 = .ok (.iconst 0, 1) := dk_3 (dk_at dksX0_sortOf_2 10 rfl rfl)
theorem dX0_sortOf_59 : decode cX0_sortOf 59 = .ok (.ior, 1) := dk_128 (dk_at dksX0_sortOf_2 11 rfl rfl)
theorem dX0_sortOf_60 : decode cX0_sortOf 60 = .ok (.istore 4, 2) := dk_54 4 (dk_at dksX0_sortOf_2 12 rfl rfl)
theorem dX0_sortOf_62 : decode cX0_sortOf 62 = .ok (.iinc 5 1, 3) := dk_132 5 1 (dk_at dksX0_sortOf_2 14 rfl rfl)
theorem dX0_sortOf_65 : decode cX0_sortOf 65 = .ok (.goto (-39), 3) := dk_167 255 217 (dk_at dksX0_sortOf_2 17 rfl rfl)
theorem dX0_sortOf_68 : decode cX0_sortOf 68 = .ok (.aload_n 2, 1) := dk_44 (dk_at dksX0_sortOf_2 20 rfl rfl)
theorem dX0_sortOf_69 : decode cX0_sortOf 69 = .ok (.aload_n 3, 1) := dk_45 (dk_at dksX0_sortOf_2 21 rfl rfl)
theorem dX0_sortOf_70 : decode cX0_sortOf 70 = .ok (.putfield 192, 3) := dk_181 0 192 (dk_at dksX0_sortOf_3 0 rfl rfl)
theorem dX0_sortOf_73 : decode cX0_sortOf 73 = .ok (.goto 13, 3) := dk_167 0 13 (dk_at dksX0_sortOf_3 3 rfl rfl)
theorem dX0_sortOf_76 : decode cX0_sortOf 76 = .ok (.astore 6, 2) := dk_58 6 (dk_at dksX0_sortOf_3 6 rfl rfl)
theorem dX0_sortOf_78 : decode cX0_sortOf 78 = .ok (.aload_n 2, 1) := dk_44 (dk_at dksX0_sortOf_3 8 rfl rfl)
theorem dX0_sortOf_79 : decode cX0_sortOf 79 = .ok (.aload_n 3, 1) := dk_45 (dk_at dksX0_sortOf_3 9 rfl rfl)
theorem dX0_sortOf_80 : decode cX0_sortOf 80 = .ok (.putfield 192, 3) := dk_181 0 192 (dk_at dksX0_sortOf_3 10 rfl rfl)
theorem dX0_sortOf_83 : decode cX0_sortOf 83 = .ok (.aload 6, 2) := dk_25 6 (dk_at dksX0_sortOf_3 13 rfl rfl)
theorem dX0_sortOf_85 : decode cX0_sortOf 85 = .ok (.athrow, 1) := dk_191 (dk_at dksX0_sortOf_3 15 rfl rfl)
theorem dX0_sortOf_86 : decode cX0_sortOf 86 = .ok (.iload 4, 2) := dk_21 4 (dk_at dksX0_sortOf_3 16 rfl rfl)
theorem dX0_sortOf_88 : decode cX0_sortOf 88 = .ok (.ireturn, 1) := dk_172 (dk_at dksX0_sortOf_3 18 rfl rfl)
abbrev cX0_wet : ByteArray := prog_1_method_69_code
def yX0_wet : MethodName := ⟨RX0, "wet", "(I)I"⟩
def dkwX0_wet_0 : List UInt8 := [27, 184, 0, 63, 153, 0, 11, 42, 27, 182, 1, 105, 167, 0, 5, 16, 254, 172]
abbrev dktX0_wet_0 : List UInt8 := dkwX0_wet_0 ++ []
theorem dksX0_wet_0 : cX0_wet.data.toList.drop 0 = dktX0_wet_0 := by decide +kernel
theorem dX0_wet_0 : decode cX0_wet 0 = .ok (.iload_n 1, 1) := dk_27 (dk_at dksX0_wet_0 0 rfl rfl)
theorem dX0_wet_1 : decode cX0_wet 1 = .ok (.invokestatic 63, 3) := dk_184 0 63 (dk_at dksX0_wet_0 1 rfl rfl)
theorem dX0_wet_4 : decode cX0_wet 4 = .ok (.ifCond .eq 11, 3) := dk_153 0 11 (dk_at dksX0_wet_0 4 rfl rfl)
theorem dX0_wet_7 : decode cX0_wet 7 = .ok (.aload_n 0, 1) := dk_42 (dk_at dksX0_wet_0 7 rfl rfl)
theorem dX0_wet_8 : decode cX0_wet 8 = .ok (.iload_n 1, 1) := dk_27 (dk_at dksX0_wet_0 8 rfl rfl)
theorem dX0_wet_9 : decode cX0_wet 9 = .ok (.invokevirtual 361, 3) := dk_182 1 105 (dk_at dksX0_wet_0 9 rfl rfl)
theorem dX0_wet_12 : decode cX0_wet 12 = .ok (.goto 5, 3) := dk_167 0 5 (dk_at dksX0_wet_0 12 rfl rfl)
theorem dX0_wet_15 : decode cX0_wet 15 = .ok (.bipush (-2), 2) := dk_16 254 (dk_at dksX0_wet_0 15 rfl rfl)
theorem dX0_wet_17 : decode cX0_wet 17 = .ok (.ireturn, 1) := dk_172 (dk_at dksX0_wet_0 17 rfl rfl)
abbrev cX0_wetOf : ByteArray := prog_1_method_68_code
def yX0_wetOf : MethodName := ⟨RX0, "wetOf", "(I)I"⟩
def dkwX0_wetOf_6 : List UInt8 := [167, 0, 18, 58, 5, 42, 180, 0, 22, 180, 0, 59, 27, 28, 79, 25, 5, 191, 29, 172]
abbrev dktX0_wetOf_6 : List UInt8 := dkwX0_wetOf_6 ++ []
def dkwX0_wetOf_5 : List UInt8 := [180, 0, 59, 27, 92, 46, 4, 96, 79, 167, 255, 162, 42, 180, 0, 22, 180, 0, 59, 27, 28, 79]
abbrev dktX0_wetOf_5 : List UInt8 := dkwX0_wetOf_5 ++ dktX0_wetOf_6
def dkwX0_wetOf_4 : List UInt8 := [21, 4, 42, 180, 0, 173, 21, 4, 50, 27, 46, 79, 132, 4, 1, 167, 255, 220, 42, 180, 0, 22]
abbrev dktX0_wetOf_4 : List UInt8 := dkwX0_wetOf_4 ++ dktX0_wetOf_5
def dkwX0_wetOf_3 : List UInt8 := [54, 4, 21, 4, 16, 20, 162, 0, 35, 42, 180, 0, 182, 42, 180, 0, 22, 180, 0, 59, 27, 46, 50]
abbrev dktX0_wetOf_3 : List UInt8 := dkwX0_wetOf_3 ++ dktX0_wetOf_4
def dkwX0_wetOf_2 : List UInt8 := [182, 1, 92, 153, 0, 17, 4, 42, 180, 0, 22, 180, 0, 59, 27, 46, 120, 167, 0, 4, 3, 128, 62, 3]
abbrev dktX0_wetOf_2 : List UInt8 := dkwX0_wetOf_2 ++ dktX0_wetOf_3
def dkwX0_wetOf_1 : List UInt8 := [180, 0, 59, 27, 3, 79, 42, 180, 0, 22, 180, 0, 59, 27, 46, 16, 9, 163, 0, 86, 29, 42]
abbrev dktX0_wetOf_1 : List UInt8 := dkwX0_wetOf_1 ++ dktX0_wetOf_2
def dkwX0_wetOf_0 : List UInt8 := [42, 180, 0, 22, 182, 0, 56, 87, 42, 180, 0, 22, 180, 0, 59, 27, 46, 61, 3, 62, 42, 180, 0, 22]
abbrev dktX0_wetOf_0 : List UInt8 := dkwX0_wetOf_0 ++ dktX0_wetOf_1
theorem dksX0_wetOf_0 : cX0_wetOf.data.toList.drop 0 = dktX0_wetOf_0 := by decide +kernel
theorem dksX0_wetOf_1 : cX0_wetOf.data.toList.drop 24 = dktX0_wetOf_1 := dk_seg dksX0_wetOf_0 24 rfl rfl
theorem dksX0_wetOf_2 : cX0_wetOf.data.toList.drop 46 = dktX0_wetOf_2 := dk_seg dksX0_wetOf_1 22 rfl rfl
theorem dksX0_wetOf_3 : cX0_wetOf.data.toList.drop 70 = dktX0_wetOf_3 := dk_seg dksX0_wetOf_2 24 rfl rfl
theorem dksX0_wetOf_4 : cX0_wetOf.data.toList.drop 93 = dktX0_wetOf_4 := dk_seg dksX0_wetOf_3 23 rfl rfl
theorem dksX0_wetOf_5 : cX0_wetOf.data.toList.drop 115 = dktX0_wetOf_5 := dk_seg dksX0_wetOf_4 22 rfl rfl
theorem dksX0_wetOf_6 : cX0_wetOf.data.toList.drop 137 = dktX0_wetOf_6 := dk_seg dksX0_wetOf_5 22 rfl rfl
theorem dX0_wetOf_0 : decode cX0_wetOf 0 = .ok (.aload_n 0, 1) := dk_42 (dk_at dksX0_wetOf_0 0 rfl rfl)
theorem dX0_wetOf_1 : decode cX0_wetOf 1 = .ok (.getfield 22, 3) := dk_180 0 22 (dk_at dksX0_wetOf_0 1 rfl rfl)
theorem dX0_wetOf_4 : decode cX0_wetOf 4 = .ok (.invokevirtual 56, 3) := dk_182 0 56 (dk_at dksX0_wetOf_0 4 rfl rfl)
theorem dX0_wetOf_7 : decode cX0_wetOf 7 = .ok (.pop, 1) := dk_87 (dk_at dksX0_wetOf_0 7 rfl rfl)
theorem dX0_wetOf_8 : decode cX0_wetOf 8 = .ok (.aload_n 0, 1) := dk_42 (dk_at dksX0_wetOf_0 8 rfl rfl)
theorem dX0_wetOf_9 : decode cX0_wetOf 9 = .ok (.getfield 22, 3) := dk_180 0 22 (dk_at dksX0_wetOf_0 9 rfl rfl)
theorem dX0_wetOf_12 : decode cX0_wetOf 12 = .ok (.getfield 59, 3) := dk_180 0 59 (dk_at dksX0_wetOf_0 12 rfl rfl)
theorem dX0_wetOf_15 : decode cX0_wetOf 15 = .ok (.iload_n 1, 1) := dk_27 (dk_at dksX0_wetOf_0 15 rfl rfl)
theorem dX0_wetOf_16 : decode cX0_wetOf 16 = .ok (.iaload, 1) := dk_46 (dk_at dksX0_wetOf_0 16 rfl rfl)
theorem dX0_wetOf_17 : decode cX0_wetOf 17 = .ok (.istore_n 2, 1) := dk_61 (dk_at dksX0_wetOf_0 17 rfl rfl)
theorem dX0_wetOf_18 : decode cX0_wetOf 18 = .ok (.iconst 0, 1) := dk_3 (dk_at dksX0_wetOf_0 18 rfl rfl)
theorem dX0_wetOf_19 : decode cX0_wetOf 19 = .ok (.istore_n 3, 1) := dk_62 (dk_at dksX0_wetOf_0 19 rfl rfl)
theorem dX0_wetOf_20 : decode cX0_wetOf 20 = .ok (.aload_n 0, 1) := dk_42 (dk_at dksX0_wetOf_0 20 rfl rfl)
theorem dX0_wetOf_21 : decode cX0_wetOf 21 = .ok (.getfield 22, 3) := dk_180 0 22 (dk_at dksX0_wetOf_0 21 rfl rfl)
theorem dX0_wetOf_24 : decode cX0_wetOf 24 = .ok (.getfield 59, 3) := dk_180 0 59 (dk_at dksX0_wetOf_1 0 rfl rfl)
theorem dX0_wetOf_27 : decode cX0_wetOf 27 = .ok (.iload_n 1, 1) := dk_27 (dk_at dksX0_wetOf_1 3 rfl rfl)
theorem dX0_wetOf_28 : decode cX0_wetOf 28 = .ok (.iconst 0, 1) := dk_3 (dk_at dksX0_wetOf_1 4 rfl rfl)
theorem dX0_wetOf_29 : decode cX0_wetOf 29 = .ok (.iastore, 1) := dk_79 (dk_at dksX0_wetOf_1 5 rfl rfl)
theorem dX0_wetOf_30 : decode cX0_wetOf 30 = .ok (.aload_n 0, 1) := dk_42 (dk_at dksX0_wetOf_1 6 rfl rfl)
theorem dX0_wetOf_31 : decode cX0_wetOf 31 = .ok (.getfield 22, 3) := dk_180 0 22 (dk_at dksX0_wetOf_1 7 rfl rfl)
theorem dX0_wetOf_34 : decode cX0_wetOf 34 = .ok (.getfield 59, 3) := dk_180 0 59 (dk_at dksX0_wetOf_1 10 rfl rfl)
theorem dX0_wetOf_37 : decode cX0_wetOf 37 = .ok (.iload_n 1, 1) := dk_27 (dk_at dksX0_wetOf_1 13 rfl rfl)
theorem dX0_wetOf_38 : decode cX0_wetOf 38 = .ok (.iaload, 1) := dk_46 (dk_at dksX0_wetOf_1 14 rfl rfl)
theorem dX0_wetOf_39 : decode cX0_wetOf 39 = .ok (.bipush 9, 2) := dk_16 9 (dk_at dksX0_wetOf_1 15 rfl rfl)
theorem dX0_wetOf_41 : decode cX0_wetOf 41 = .ok (.if_icmp .gt 86, 3) := dk_163 0 86 (dk_at dksX0_wetOf_1 17 rfl rfl)
theorem dX0_wetOf_44 : decode cX0_wetOf 44 = .ok (.iload_n 3, 1) := dk_29 (dk_at dksX0_wetOf_1 20 rfl rfl)
theorem dX0_wetOf_45 : decode cX0_wetOf 45 = .ok (.aload_n 0, 1) := dk_42 (dk_at dksX0_wetOf_1 21 rfl rfl)
theorem dX0_wetOf_46 : decode cX0_wetOf 46 = .ok (.invokevirtual 348, 3) := dk_182 1 92 (dk_at dksX0_wetOf_2 0 rfl rfl)
theorem dX0_wetOf_49 : decode cX0_wetOf 49 = .ok (.ifCond .eq 17, 3) := dk_153 0 17 (dk_at dksX0_wetOf_2 3 rfl rfl)
theorem dX0_wetOf_52 : decode cX0_wetOf 52 = .ok (.iconst 1, 1) := dk_4 (dk_at dksX0_wetOf_2 6 rfl rfl)
theorem dX0_wetOf_53 : decode cX0_wetOf 53 = .ok (.aload_n 0, 1) := dk_42 (dk_at dksX0_wetOf_2 7 rfl rfl)
theorem dX0_wetOf_54 : decode cX0_wetOf 54 = .ok (.getfield 22, 3) := dk_180 0 22 (dk_at dksX0_wetOf_2 8 rfl rfl)
theorem dX0_wetOf_57 : decode cX0_wetOf 57 = .ok (.getfield 59, 3) := dk_180 0 59 (dk_at dksX0_wetOf_2 11 rfl rfl)
theorem dX0_wetOf_60 : decode cX0_wetOf 60 = .ok (.iload_n 1, 1) := dk_27 (dk_at dksX0_wetOf_2 14 rfl rfl)
theorem dX0_wetOf_61 : decode cX0_wetOf 61 = .ok (.iaload, 1) := dk_46 (dk_at dksX0_wetOf_2 15 rfl rfl)
theorem dX0_wetOf_62 : decode cX0_wetOf 62 = .ok (.ishl, 1) := dk_120 (dk_at dksX0_wetOf_2 16 rfl rfl)
theorem dX0_wetOf_63 : decode cX0_wetOf 63 = .ok (.goto 4, 3) := dk_167 0 4 (dk_at dksX0_wetOf_2 17 rfl rfl)
theorem dX0_wetOf_66 : decode cX0_wetOf 66 = .ok (.iconst 0, 1) := dk_3 (dk_at dksX0_wetOf_2 20 rfl rfl)
theorem dX0_wetOf_67 : decode cX0_wetOf 67 = .ok (.ior, 1) := dk_128 (dk_at dksX0_wetOf_2 21 rfl rfl)
theorem dX0_wetOf_68 : decode cX0_wetOf 68 = .ok (.istore_n 3, 1) := dk_62 (dk_at dksX0_wetOf_2 22 rfl rfl)
theorem dX0_wetOf_69 : decode cX0_wetOf 69 = .ok (.iconst 0, 1) := dk_3 (dk_at dksX0_wetOf_2 23 rfl rfl)
theorem dX0_wetOf_70 : decode cX0_wetOf 70 = .ok (.istore 4, 2) := dk_54 4 (dk_at dksX0_wetOf_3 0 rfl rfl)
theorem dX0_wetOf_72 : decode cX0_wetOf 72 = .ok (.iload 4, 2) := dk_21 4 (dk_at dksX0_wetOf_3 2 rfl rfl)
theorem dX0_wetOf_74 : decode cX0_wetOf 74 = .ok (.bipush 20, 2) := dk_16 20 (dk_at dksX0_wetOf_3 4 rfl rfl)
theorem dX0_wetOf_76 : decode cX0_wetOf 76 = .ok (.if_icmp .ge 35, 3) := dk_162 0 35 (dk_at dksX0_wetOf_3 6 rfl rfl)
theorem dX0_wetOf_79 : decode cX0_wetOf 79 = .ok (.aload_n 0, 1) := dk_42 (dk_at dksX0_wetOf_3 9 rfl rfl)
theorem dX0_wetOf_80 : decode cX0_wetOf 80 = .ok (.getfield 182, 3) := dk_180 0 182 (dk_at dksX0_wetOf_3 10 rfl rfl)
theorem dX0_wetOf_83 : decode cX0_wetOf 83 = .ok (.aload_n 0, 1) := dk_42 (dk_at dksX0_wetOf_3 13 rfl rfl)
theorem dX0_wetOf_84 : decode cX0_wetOf 84 = .ok (.getfield 22, 3) := dk_180 0 22 (dk_at dksX0_wetOf_3 14 rfl rfl)
theorem dX0_wetOf_87 : decode cX0_wetOf 87 = .ok (.getfield 59, 3) := dk_180 0 59 (dk_at dksX0_wetOf_3 17 rfl rfl)
theorem dX0_wetOf_90 : decode cX0_wetOf 90 = .ok (.iload_n 1, 1) := dk_27 (dk_at dksX0_wetOf_3 20 rfl rfl)
theorem dX0_wetOf_91 : decode cX0_wetOf 91 = .ok (.iaload, 1) := dk_46 (dk_at dksX0_wetOf_3 21 rfl rfl)
theorem dX0_wetOf_92 : decode cX0_wetOf 92 = .ok (.aaload, 1) := dk_50 (dk_at dksX0_wetOf_3 22 rfl rfl)
theorem dX0_wetOf_93 : decode cX0_wetOf 93 = .ok (.iload 4, 2) := dk_21 4 (dk_at dksX0_wetOf_4 0 rfl rfl)
theorem dX0_wetOf_95 : decode cX0_wetOf 95 = .ok (.aload_n 0, 1) := dk_42 (dk_at dksX0_wetOf_4 2 rfl rfl)
theorem dX0_wetOf_96 : decode cX0_wetOf 96 = .ok (.getfield 173, 3) := dk_180 0 173 (dk_at dksX0_wetOf_4 3 rfl rfl)
theorem dX0_wetOf_99 : decode cX0_wetOf 99 = .ok (.iload 4, 2) := dk_21 4 (dk_at dksX0_wetOf_4 6 rfl rfl)
theorem dX0_wetOf_101 : decode cX0_wetOf 101 = .ok (.aaload, 1) := dk_50 (dk_at dksX0_wetOf_4 8 rfl rfl)
theorem dX0_wetOf_102 : decode cX0_wetOf 102 = .ok (.iload_n 1, 1) := dk_27 (dk_at dksX0_wetOf_4 9 rfl rfl)
theorem dX0_wetOf_103 : decode cX0_wetOf 103 = .ok (.iaload, 1) := dk_46 (dk_at dksX0_wetOf_4 10 rfl rfl)
theorem dX0_wetOf_104 : decode cX0_wetOf 104 = .ok (.iastore, 1) := dk_79 (dk_at dksX0_wetOf_4 11 rfl rfl)
theorem dX0_wetOf_105 : decode cX0_wetOf 105 = .ok (.iinc 4 1, 3) := dk_132 4 1 (dk_at dksX0_wetOf_4 12 rfl rfl)
theorem dX0_wetOf_108 : decode cX0_wetOf 108 = .ok (.goto (-36), 3) := dk_167 255 220 (dk_at dksX0_wetOf_4 15 rfl rfl)
theorem dX0_wetOf_111 : decode cX0_wetOf 111 = .ok (.aload_n 0, 1) := dk_42 (dk_at dksX0_wetOf_4 18 rfl rfl)
theorem dX0_wetOf_112 : decode cX0_wetOf 112 = .ok (.getfield 22, 3) := dk_180 0 22 (dk_at dksX0_wetOf_4 19 rfl rfl)
theorem dX0_wetOf_115 : decode cX0_wetOf 115 = .ok (.getfield 59, 3) := dk_180 0 59 (dk_at dksX0_wetOf_5 0 rfl rfl)
theorem dX0_wetOf_118 : decode cX0_wetOf 118 = .ok (.iload_n 1, 1) := dk_27 (dk_at dksX0_wetOf_5 3 rfl rfl)
theorem dX0_wetOf_119 : decode cX0_wetOf 119 = .ok (.dup2, 1) := dk_92 (dk_at dksX0_wetOf_5 4 rfl rfl)
theorem dX0_wetOf_120 : decode cX0_wetOf 120 = .ok (.iaload, 1) := dk_46 (dk_at dksX0_wetOf_5 5 rfl rfl)
theorem dX0_wetOf_121 : decode cX0_wetOf 121 = .ok (.iconst 1, 1) := dk_4 (dk_at dksX0_wetOf_5 6 rfl rfl)
theorem dX0_wetOf_122 : decode cX0_wetOf 122 = .ok (.iadd, 1) := dk_96 (dk_at dksX0_wetOf_5 7 rfl rfl)
theorem dX0_wetOf_123 : decode cX0_wetOf 123 = .ok (.iastore, 1) := dk_79 (dk_at dksX0_wetOf_5 8 rfl rfl)
theorem dX0_wetOf_124 : decode cX0_wetOf 124 = .ok (.goto (-94), 3) := dk_167 255 162 (dk_at dksX0_wetOf_5 9 rfl rfl)
theorem dX0_wetOf_127 : decode cX0_wetOf 127 = .ok (.aload_n 0, 1) := dk_42 (dk_at dksX0_wetOf_5 12 rfl rfl)
theorem dX0_wetOf_128 : decode cX0_wetOf 128 = .ok (.getfield 22, 3) := dk_180 0 22 (dk_at dksX0_wetOf_5 13 rfl rfl)
theorem dX0_wetOf_131 : decode cX0_wetOf 131 = .ok (.getfield 59, 3) := dk_180 0 59 (dk_at dksX0_wetOf_5 16 rfl rfl)
theorem dX0_wetOf_134 : decode cX0_wetOf 134 = .ok (.iload_n 1, 1) := dk_27 (dk_at dksX0_wetOf_5 19 rfl rfl)
theorem dX0_wetOf_135 : decode cX0_wetOf 135 = .ok (.iload_n 2, 1) := dk_28 (dk_at dksX0_wetOf_5 20 rfl rfl)
theorem dX0_wetOf_136 : decode cX0_wetOf 136 = .ok (.iastore, 1) := dk_79 (dk_at dksX0_wetOf_5 21 rfl rfl)
theorem dX0_wetOf_137 : decode cX0_wetOf 137 = .ok (.goto 18, 3) := dk_167 0 18 (dk_at dksX0_wetOf_6 0 rfl rfl)
theorem dX0_wetOf_140 : decode cX0_wetOf 140 = .ok (.astore 5, 2) := dk_58 5 (dk_at dksX0_wetOf_6 3 rfl rfl)
theorem dX0_wetOf_142 : decode cX0_wetOf 142 = .ok (.aload_n 0, 1) := dk_42 (dk_at dksX0_wetOf_6 5 rfl rfl)
theorem dX0_wetOf_143 : decode cX0_wetOf 143 = .ok (.getfield 22, 3) := dk_180 0 22 (dk_at dksX0_wetOf_6 6 rfl rfl)
theorem dX0_wetOf_146 : decode cX0_wetOf 146 = .ok (.getfield 59, 3) := dk_180 0 59 (dk_at dksX0_wetOf_6 9 rfl rfl)
theorem dX0_wetOf_149 : decode cX0_wetOf 149 = .ok (.iload_n 1, 1) := dk_27 (dk_at dksX0_wetOf_6 12 rfl rfl)
theorem dX0_wetOf_150 : decode cX0_wetOf 150 = .ok (.iload_n 2, 1) := dk_28 (dk_at dksX0_wetOf_6 13 rfl rfl)
theorem dX0_wetOf_151 : decode cX0_wetOf 151 = .ok (.iastore, 1) := dk_79 (dk_at dksX0_wetOf_6 14 rfl rfl)
theorem dX0_wetOf_152 : decode cX0_wetOf 152 = .ok (.aload 5, 2) := dk_25 5 (dk_at dksX0_wetOf_6 15 rfl rfl)
theorem dX0_wetOf_154 : decode cX0_wetOf 154 = .ok (.athrow, 1) := dk_191 (dk_at dksX0_wetOf_6 17 rfl rfl)
theorem dX0_wetOf_155 : decode cX0_wetOf 155 = .ok (.iload_n 3, 1) := dk_29 (dk_at dksX0_wetOf_6 18 rfl rfl)
theorem dX0_wetOf_156 : decode cX0_wetOf 156 = .ok (.ireturn, 1) := dk_172 (dk_at dksX0_wetOf_6 19 rfl rfl)
abbrev cX0_ask : ByteArray := prog_1_method_72_code
def yX0_ask : MethodName := ⟨RX0, "ask", "(I)I"⟩
def dkwX0_ask_0 : List UInt8 := [27, 184, 0, 63, 153, 0, 11, 42, 27, 182, 1, 111, 167, 0, 5, 16, 254, 172]
abbrev dktX0_ask_0 : List UInt8 := dkwX0_ask_0 ++ []
theorem dksX0_ask_0 : cX0_ask.data.toList.drop 0 = dktX0_ask_0 := by decide +kernel
theorem dX0_ask_0 : decode cX0_ask 0 = .ok (.iload_n 1, 1) := dk_27 (dk_at dksX0_ask_0 0 rfl rfl)
theorem dX0_ask_1 : decode cX0_ask 1 = .ok (.invokestatic 63, 3) := dk_184 0 63 (dk_at dksX0_ask_0 1 rfl rfl)
theorem dX0_ask_4 : decode cX0_ask 4 = .ok (.ifCond .eq 11, 3) := dk_153 0 11 (dk_at dksX0_ask_0 4 rfl rfl)
theorem dX0_ask_7 : decode cX0_ask 7 = .ok (.aload_n 0, 1) := dk_42 (dk_at dksX0_ask_0 7 rfl rfl)
theorem dX0_ask_8 : decode cX0_ask 8 = .ok (.iload_n 1, 1) := dk_27 (dk_at dksX0_ask_0 8 rfl rfl)
theorem dX0_ask_9 : decode cX0_ask 9 = .ok (.invokevirtual 367, 3) := dk_182 1 111 (dk_at dksX0_ask_0 9 rfl rfl)
theorem dX0_ask_12 : decode cX0_ask 12 = .ok (.goto 5, 3) := dk_167 0 5 (dk_at dksX0_ask_0 12 rfl rfl)
theorem dX0_ask_15 : decode cX0_ask 15 = .ok (.bipush (-2), 2) := dk_16 254 (dk_at dksX0_ask_0 15 rfl rfl)
theorem dX0_ask_17 : decode cX0_ask 17 = .ok (.ireturn, 1) := dk_172 (dk_at dksX0_ask_0 17 rfl rfl)
abbrev cX0_askOf : ByteArray := prog_1_method_71_code
def yX0_askOf : MethodName := ⟨RX0, "askOf", "(I)I"⟩
def dkwX0_askOf_2 : List UInt8 := [167, 255, 223, 29, 172]
abbrev dktX0_askOf_2 : List UInt8 := dkwX0_askOf_2 ++ []
def dkwX0_askOf_1 : List UInt8 := [182, 1, 108, 42, 28, 29, 182, 1, 108, 162, 0, 8, 21, 4, 167, 0, 4, 29, 62, 132, 4, 1]
abbrev dktX0_askOf_1 : List UInt8 := dkwX0_askOf_1 ++ dktX0_askOf_2
def dkwX0_askOf_0 : List UInt8 := [42, 27, 182, 1, 105, 61, 3, 62, 4, 54, 4, 21, 4, 16, 20, 162, 0, 32, 42, 28, 21, 4]
abbrev dktX0_askOf_0 : List UInt8 := dkwX0_askOf_0 ++ dktX0_askOf_1
theorem dksX0_askOf_0 : cX0_askOf.data.toList.drop 0 = dktX0_askOf_0 := by decide +kernel
theorem dksX0_askOf_1 : cX0_askOf.data.toList.drop 22 = dktX0_askOf_1 := dk_seg dksX0_askOf_0 22 rfl rfl
theorem dksX0_askOf_2 : cX0_askOf.data.toList.drop 44 = dktX0_askOf_2 := dk_seg dksX0_askOf_1 22 rfl rfl
theorem dX0_askOf_0 : decode cX0_askOf 0 = .ok (.aload_n 0, 1) := dk_42 (dk_at dksX0_askOf_0 0 rfl rfl)
theorem dX0_askOf_1 : decode cX0_askOf 1 = .ok (.iload_n 1, 1) := dk_27 (dk_at dksX0_askOf_0 1 rfl rfl)
theorem dX0_askOf_2 : decode cX0_askOf 2 = .ok (.invokevirtual 361, 3) := dk_182 1 105 (dk_at dksX0_askOf_0 2 rfl rfl)
theorem dX0_askOf_5 : decode cX0_askOf 5 = .ok (.istore_n 2, 1) := dk_61 (dk_at dksX0_askOf_0 5 rfl rfl)
theorem dX0_askOf_6 : decode cX0_askOf 6 = .ok (.iconst 0, 1) := dk_3 (dk_at dksX0_askOf_0 6 rfl rfl)
theorem dX0_askOf_7 : decode cX0_askOf 7 = .ok (.istore_n 3, 1) := dk_62 (dk_at dksX0_askOf_0 7 rfl rfl)
theorem dX0_askOf_8 : decode cX0_askOf 8 = .ok (.iconst 1, 1) := dk_4 (dk_at dksX0_askOf_0 8 rfl rfl)
theorem dX0_askOf_9 : decode cX0_askOf 9 = .ok (.istore 4, 2) := dk_54 4 (dk_at dksX0_askOf_0 9 rfl rfl)
theorem dX0_askOf_11 : decode cX0_askOf 11 = .ok (.iload 4, 2) := dk_21 4 (dk_at dksX0_askOf_0 11 rfl rfl)
theorem dX0_askOf_13 : decode cX0_askOf 13 = .ok (.bipush 20, 2) := dk_16 20 (dk_at dksX0_askOf_0 13 rfl rfl)
theorem dX0_askOf_15 : decode cX0_askOf 15 = .ok (.if_icmp .ge 32, 3) := dk_162 0 32 (dk_at dksX0_askOf_0 15 rfl rfl)
theorem dX0_askOf_18 : decode cX0_askOf 18 = .ok (.aload_n 0, 1) := dk_42 (dk_at dksX0_askOf_0 18 rfl rfl)
theorem dX0_askOf_19 : decode cX0_askOf 19 = .ok (.iload_n 2, 1) := dk_28 (dk_at dksX0_askOf_0 19 rfl rfl)
theorem dX0_askOf_20 : decode cX0_askOf 20 = .ok (.iload 4, 2) := dk_21 4 (dk_at dksX0_askOf_0 20 rfl rfl)
theorem dX0_askOf_22 : decode cX0_askOf 22 = .ok (.invokevirtual 364, 3) := dk_182 1 108 (dk_at dksX0_askOf_1 0 rfl rfl)
theorem dX0_askOf_25 : decode cX0_askOf 25 = .ok (.aload_n 0, 1) := dk_42 (dk_at dksX0_askOf_1 3 rfl rfl)
theorem dX0_askOf_26 : decode cX0_askOf 26 = .ok (.iload_n 2, 1) := dk_28 (dk_at dksX0_askOf_1 4 rfl rfl)
theorem dX0_askOf_27 : decode cX0_askOf 27 = .ok (.iload_n 3, 1) := dk_29 (dk_at dksX0_askOf_1 5 rfl rfl)
theorem dX0_askOf_28 : decode cX0_askOf 28 = .ok (.invokevirtual 364, 3) := dk_182 1 108 (dk_at dksX0_askOf_1 6 rfl rfl)
theorem dX0_askOf_31 : decode cX0_askOf 31 = .ok (.if_icmp .ge 8, 3) := dk_162 0 8 (dk_at dksX0_askOf_1 9 rfl rfl)
theorem dX0_askOf_34 : decode cX0_askOf 34 = .ok (.iload 4, 2) := dk_21 4 (dk_at dksX0_askOf_1 12 rfl rfl)
theorem dX0_askOf_36 : decode cX0_askOf 36 = .ok (.goto 4, 3) := dk_167 0 4 (dk_at dksX0_askOf_1 14 rfl rfl)
theorem dX0_askOf_39 : decode cX0_askOf 39 = .ok (.iload_n 3, 1) := dk_29 (dk_at dksX0_askOf_1 17 rfl rfl)
theorem dX0_askOf_40 : decode cX0_askOf 40 = .ok (.istore_n 3, 1) := dk_62 (dk_at dksX0_askOf_1 18 rfl rfl)
theorem dX0_askOf_41 : decode cX0_askOf 41 = .ok (.iinc 4 1, 3) := dk_132 4 1 (dk_at dksX0_askOf_1 19 rfl rfl)
theorem dX0_askOf_44 : decode cX0_askOf 44 = .ok (.goto (-33), 3) := dk_167 255 223 (dk_at dksX0_askOf_2 0 rfl rfl)
theorem dX0_askOf_47 : decode cX0_askOf 47 = .ok (.iload_n 3, 1) := dk_29 (dk_at dksX0_askOf_2 3 rfl rfl)
theorem dX0_askOf_48 : decode cX0_askOf 48 = .ok (.ireturn, 1) := dk_172 (dk_at dksX0_askOf_2 4 rfl rfl)
abbrev cX0_alike : ByteArray := prog_1_method_70_code
def yX0_alike : MethodName := ⟨RX0, "alike", "(II)I"⟩
def dkwX0_alike_4 : List UInt8 := [172]
abbrev dktX0_alike_4 : List UInt8 := dkwX0_alike_4 ++ []
def dkwX0_alike_3 : List UInt8 := [3, 96, 54, 5, 132, 6, 1, 167, 255, 197, 21, 5, 29, 184, 0, 211, 62, 132, 4, 1, 167, 255, 171, 29]
abbrev dktX0_alike_3 : List UInt8 := dkwX0_alike_3 ++ dktX0_alike_4
def dkwX0_alike_2 : List UInt8 := [180, 0, 182, 21, 4, 50, 28, 46, 42, 180, 0, 182, 21, 6, 50, 28, 46, 160, 0, 7, 4, 167, 0, 4]
abbrev dktX0_alike_2 : List UInt8 := dkwX0_alike_2 ++ dktX0_alike_3
def dkwX0_alike_1 : List UInt8 := [162, 0, 58, 21, 5, 27, 21, 4, 184, 0, 254, 153, 0, 37, 27, 21, 6, 184, 0, 254, 153, 0, 28, 42]
abbrev dktX0_alike_1 : List UInt8 := dkwX0_alike_1 ++ dktX0_alike_2
def dkwX0_alike_0 : List UInt8 := [3, 62, 3, 54, 4, 21, 4, 16, 10, 162, 0, 84, 3, 54, 5, 3, 54, 6, 21, 6, 16, 10]
abbrev dktX0_alike_0 : List UInt8 := dkwX0_alike_0 ++ dktX0_alike_1
theorem dksX0_alike_0 : cX0_alike.data.toList.drop 0 = dktX0_alike_0 := by decide +kernel
theorem dksX0_alike_1 : cX0_alike.data.toList.drop 22 = dktX0_alike_1 := dk_seg dksX0_alike_0 22 rfl rfl
theorem dksX0_alike_2 : cX0_alike.data.toList.drop 46 = dktX0_alike_2 := dk_seg dksX0_alike_1 24 rfl rfl
theorem dksX0_alike_3 : cX0_alike.data.toList.drop 70 = dktX0_alike_3 := dk_seg dksX0_alike_2 24 rfl rfl
theorem dksX0_alike_4 : cX0_alike.data.toList.drop 94 = dktX0_alike_4 := dk_seg dksX0_alike_3 24 rfl rfl
theorem dX0_alike_0 : decode cX0_alike 0 = .ok (.iconst 0, 1) := dk_3 (dk_at dksX0_alike_0 0 rfl rfl)
theorem dX0_alike_1 : decode cX0_alike 1 = .ok (.istore_n 3, 1) := dk_62 (dk_at dksX0_alike_0 1 rfl rfl)
theorem dX0_alike_2 : decode cX0_alike 2 = .ok (.iconst 0, 1) := dk_3 (dk_at dksX0_alike_0 2 rfl rfl)
theorem dX0_alike_3 : decode cX0_alike 3 = .ok (.istore 4, 2) := dk_54 4 (dk_at dksX0_alike_0 3 rfl rfl)
theorem dX0_alike_5 : decode cX0_alike 5 = .ok (.iload 4, 2) := dk_21 4 (dk_at dksX0_alike_0 5 rfl rfl)
theorem dX0_alike_7 : decode cX0_alike 7 = .ok (.bipush 10, 2) := dk_16 10 (dk_at dksX0_alike_0 7 rfl rfl)
theorem dX0_alike_9 : decode cX0_alike 9 = .ok (.if_icmp .ge 84, 3) := dk_162 0 84 (dk_at dksX0_alike_0 9 rfl rfl)
theorem dX0_alike_12 : decode cX0_alike 12 = .ok (.iconst 0, 1) := dk_3 (dk_at dksX0_alike_0 12 rfl rfl)
theorem dX0_alike_13 : decode cX0_alike 13 = .ok (.istore 5, 2) := dk_54 5 (dk_at dksX0_alike_0 13 rfl rfl)
theorem dX0_alike_15 : decode cX0_alike 15 = .ok (.iconst 0, 1) := dk_3 (dk_at dksX0_alike_0 15 rfl rfl)
theorem dX0_alike_16 : decode cX0_alike 16 = .ok (.istore 6, 2) := dk_54 6 (dk_at dksX0_alike_0 16 rfl rfl)
theorem dX0_alike_18 : decode cX0_alike 18 = .ok (.iload 6, 2) := dk_21 6 (dk_at dksX0_alike_0 18 rfl rfl)
theorem dX0_alike_20 : decode cX0_alike 20 = .ok (.bipush 10, 2) := dk_16 10 (dk_at dksX0_alike_0 20 rfl rfl)
theorem dX0_alike_22 : decode cX0_alike 22 = .ok (.if_icmp .ge 58, 3) := dk_162 0 58 (dk_at dksX0_alike_1 0 rfl rfl)
theorem dX0_alike_25 : decode cX0_alike 25 = .ok (.iload 5, 2) := dk_21 5 (dk_at dksX0_alike_1 3 rfl rfl)
theorem dX0_alike_27 : decode cX0_alike 27 = .ok (.iload_n 1, 1) := dk_27 (dk_at dksX0_alike_1 5 rfl rfl)
theorem dX0_alike_28 : decode cX0_alike 28 = .ok (.iload 4, 2) := dk_21 4 (dk_at dksX0_alike_1 6 rfl rfl)
theorem dX0_alike_30 : decode cX0_alike 30 = .ok (.invokestatic 254, 3) := dk_184 0 254 (dk_at dksX0_alike_1 8 rfl rfl)
theorem dX0_alike_33 : decode cX0_alike 33 = .ok (.ifCond .eq 37, 3) := dk_153 0 37 (dk_at dksX0_alike_1 11 rfl rfl)
theorem dX0_alike_36 : decode cX0_alike 36 = .ok (.iload_n 1, 1) := dk_27 (dk_at dksX0_alike_1 14 rfl rfl)
theorem dX0_alike_37 : decode cX0_alike 37 = .ok (.iload 6, 2) := dk_21 6 (dk_at dksX0_alike_1 15 rfl rfl)
theorem dX0_alike_39 : decode cX0_alike 39 = .ok (.invokestatic 254, 3) := dk_184 0 254 (dk_at dksX0_alike_1 17 rfl rfl)
theorem dX0_alike_42 : decode cX0_alike 42 = .ok (.ifCond .eq 28, 3) := dk_153 0 28 (dk_at dksX0_alike_1 20 rfl rfl)
theorem dX0_alike_45 : decode cX0_alike 45 = .ok (.aload_n 0, 1) := dk_42 (dk_at dksX0_alike_1 23 rfl rfl)
theorem dX0_alike_46 : decode cX0_alike 46 = .ok (.getfield 182, 3) := dk_180 0 182 (dk_at dksX0_alike_2 0 rfl rfl)
theorem dX0_alike_49 : decode cX0_alike 49 = .ok (.iload 4, 2) := dk_21 4 (dk_at dksX0_alike_2 3 rfl rfl)
theorem dX0_alike_51 : decode cX0_alike 51 = .ok (.aaload, 1) := dk_50 (dk_at dksX0_alike_2 5 rfl rfl)
theorem dX0_alike_52 : decode cX0_alike 52 = .ok (.iload_n 2, 1) := dk_28 (dk_at dksX0_alike_2 6 rfl rfl)
theorem dX0_alike_53 : decode cX0_alike 53 = .ok (.iaload, 1) := dk_46 (dk_at dksX0_alike_2 7 rfl rfl)
theorem dX0_alike_54 : decode cX0_alike 54 = .ok (.aload_n 0, 1) := dk_42 (dk_at dksX0_alike_2 8 rfl rfl)
theorem dX0_alike_55 : decode cX0_alike 55 = .ok (.getfield 182, 3) := dk_180 0 182 (dk_at dksX0_alike_2 9 rfl rfl)
theorem dX0_alike_58 : decode cX0_alike 58 = .ok (.iload 6, 2) := dk_21 6 (dk_at dksX0_alike_2 12 rfl rfl)
theorem dX0_alike_60 : decode cX0_alike 60 = .ok (.aaload, 1) := dk_50 (dk_at dksX0_alike_2 14 rfl rfl)
theorem dX0_alike_61 : decode cX0_alike 61 = .ok (.iload_n 2, 1) := dk_28 (dk_at dksX0_alike_2 15 rfl rfl)
theorem dX0_alike_62 : decode cX0_alike 62 = .ok (.iaload, 1) := dk_46 (dk_at dksX0_alike_2 16 rfl rfl)
theorem dX0_alike_63 : decode cX0_alike 63 = .ok (.if_icmp .ne 7, 3) := dk_160 0 7 (dk_at dksX0_alike_2 17 rfl rfl)
theorem dX0_alike_66 : decode cX0_alike 66 = .ok (.iconst 1, 1) := dk_4 (dk_at dksX0_alike_2 20 rfl rfl)
theorem dX0_alike_67 : decode cX0_alike 67 = .ok (.goto 4, 3) := dk_167 0 4 (dk_at dksX0_alike_2 21 rfl rfl)
theorem dX0_alike_70 : decode cX0_alike 70 = .ok (.iconst 0, 1) := dk_3 (dk_at dksX0_alike_3 0 rfl rfl)
theorem dX0_alike_71 : decode cX0_alike 71 = .ok (.iadd, 1) := dk_96 (dk_at dksX0_alike_3 1 rfl rfl)
theorem dX0_alike_72 : decode cX0_alike 72 = .ok (.istore 5, 2) := dk_54 5 (dk_at dksX0_alike_3 2 rfl rfl)
theorem dX0_alike_74 : decode cX0_alike 74 = .ok (.iinc 6 1, 3) := dk_132 6 1 (dk_at dksX0_alike_3 4 rfl rfl)
theorem dX0_alike_77 : decode cX0_alike 77 = .ok (.goto (-59), 3) := dk_167 255 197 (dk_at dksX0_alike_3 7 rfl rfl)
theorem dX0_alike_80 : decode cX0_alike 80 = .ok (.iload 5, 2) := dk_21 5 (dk_at dksX0_alike_3 10 rfl rfl)
theorem dX0_alike_82 : decode cX0_alike 82 = .ok (.iload_n 3, 1) := dk_29 (dk_at dksX0_alike_3 12 rfl rfl)
theorem dX0_alike_83 : decode cX0_alike 83 = .ok (.invokestatic 211, 3) := dk_184 0 211 (dk_at dksX0_alike_3 13 rfl rfl)
theorem dX0_alike_86 : decode cX0_alike 86 = .ok (.istore_n 3, 1) := dk_62 (dk_at dksX0_alike_3 16 rfl rfl)
theorem dX0_alike_87 : decode cX0_alike 87 = .ok (.iinc 4 1, 3) := dk_132 4 1 (dk_at dksX0_alike_3 17 rfl rfl)
theorem dX0_alike_90 : decode cX0_alike 90 = .ok (.goto (-85), 3) := dk_167 255 171 (dk_at dksX0_alike_3 20 rfl rfl)
theorem dX0_alike_93 : decode cX0_alike 93 = .ok (.iload_n 3, 1) := dk_29 (dk_at dksX0_alike_3 23 rfl rfl)
theorem dX0_alike_94 : decode cX0_alike 94 = .ok (.ireturn, 1) := dk_172 (dk_at dksX0_alike_4 0 rfl rfl)
abbrev cX0_chance : ByteArray := prog_1_method_76_code
def yX0_chance : MethodName := ⟨RX0, "chance", "(III)J"⟩
def dkwX0_chance_1 : List UInt8 := [153, 0, 13, 42, 27, 28, 29, 182, 1, 124, 167, 0, 8, 16, 254, 184, 1, 128, 173]
abbrev dktX0_chance_1 : List UInt8 := dkwX0_chance_1 ++ []
def dkwX0_chance_0 : List UInt8 := [27, 133, 9, 20, 1, 122, 184, 0, 14, 153, 0, 27, 28, 184, 0, 99, 153, 0, 20, 29, 184, 0, 30]
abbrev dktX0_chance_0 : List UInt8 := dkwX0_chance_0 ++ dktX0_chance_1
theorem dksX0_chance_0 : cX0_chance.data.toList.drop 0 = dktX0_chance_0 := by decide +kernel
theorem dksX0_chance_1 : cX0_chance.data.toList.drop 23 = dktX0_chance_1 := dk_seg dksX0_chance_0 23 rfl rfl
theorem dX0_chance_0 : decode cX0_chance 0 = .ok (.iload_n 1, 1) := dk_27 (dk_at dksX0_chance_0 0 rfl rfl)
theorem dX0_chance_1 : decode cX0_chance 1 = .ok (.i2l, 1) := dk_133 (dk_at dksX0_chance_0 1 rfl rfl)
theorem dX0_chance_2 : decode cX0_chance 2 = .ok (.lconst 0, 1) := dk_9 (dk_at dksX0_chance_0 2 rfl rfl)
theorem dX0_chance_3 : decode cX0_chance 3 = .ok (.ldc2_w 378, 3) := dk_20 1 122 (dk_at dksX0_chance_0 3 rfl rfl)
theorem dX0_chance_6 : decode cX0_chance 6 = .ok (.invokestatic 14, 3) := dk_184 0 14 (dk_at dksX0_chance_0 6 rfl rfl)
theorem dX0_chance_9 : decode cX0_chance 9 = .ok (.ifCond .eq 27, 3) := dk_153 0 27 (dk_at dksX0_chance_0 9 rfl rfl)
theorem dX0_chance_12 : decode cX0_chance 12 = .ok (.iload_n 2, 1) := dk_28 (dk_at dksX0_chance_0 12 rfl rfl)
theorem dX0_chance_13 : decode cX0_chance 13 = .ok (.invokestatic 99, 3) := dk_184 0 99 (dk_at dksX0_chance_0 13 rfl rfl)
theorem dX0_chance_16 : decode cX0_chance 16 = .ok (.ifCond .eq 20, 3) := dk_153 0 20 (dk_at dksX0_chance_0 16 rfl rfl)
theorem dX0_chance_19 : decode cX0_chance 19 = .ok (.iload_n 3, 1) := dk_29 (dk_at dksX0_chance_0 19 rfl rfl)
theorem dX0_chance_20 : decode cX0_chance 20 = .ok (.invokestatic 30, 3) := dk_184 0 30 (dk_at dksX0_chance_0 20 rfl rfl)
theorem dX0_chance_23 : decode cX0_chance 23 = .ok (.ifCond .eq 13, 3) := dk_153 0 13 (dk_at dksX0_chance_1 0 rfl rfl)
theorem dX0_chance_26 : decode cX0_chance 26 = .ok (.aload_n 0, 1) := dk_42 (dk_at dksX0_chance_1 3 rfl rfl)
theorem dX0_chance_27 : decode cX0_chance 27 = .ok (.iload_n 1, 1) := dk_27 (dk_at dksX0_chance_1 4 rfl rfl)
theorem dX0_chance_28 : decode cX0_chance 28 = .ok (.iload_n 2, 1) := dk_28 (dk_at dksX0_chance_1 5 rfl rfl)
theorem dX0_chance_29 : decode cX0_chance 29 = .ok (.iload_n 3, 1) := dk_29 (dk_at dksX0_chance_1 6 rfl rfl)
theorem dX0_chance_30 : decode cX0_chance 30 = .ok (.invokevirtual 380, 3) := dk_182 1 124 (dk_at dksX0_chance_1 7 rfl rfl)
theorem dX0_chance_33 : decode cX0_chance 33 = .ok (.goto 8, 3) := dk_167 0 8 (dk_at dksX0_chance_1 10 rfl rfl)
theorem dX0_chance_36 : decode cX0_chance 36 = .ok (.bipush (-2), 2) := dk_16 254 (dk_at dksX0_chance_1 13 rfl rfl)
theorem dX0_chance_38 : decode cX0_chance 38 = .ok (.invokestatic 384, 3) := dk_184 1 128 (dk_at dksX0_chance_1 15 rfl rfl)
theorem dX0_chance_41 : decode cX0_chance 41 = .ok (.lreturn, 1) := dk_173 (dk_at dksX0_chance_1 18 rfl rfl)
abbrev cX0_chanceOf : ByteArray := prog_1_method_75_code
def yX0_chanceOf : MethodName := ⟨RX0, "chanceOf", "(III)J"⟩
def dkwX0_chanceOf_5 : List UInt8 := [58, 10, 42, 3, 181, 0, 251, 25, 10, 191, 22, 5, 10, 7, 21, 4, 104, 121, 29, 184, 1, 118, 173]
abbrev dktX0_chanceOf_5 : List UInt8 := dkwX0_chanceOf_5 ++ []
def dkwX0_chanceOf_4 : List UInt8 := [55, 5, 42, 89, 180, 0, 251, 4, 96, 181, 0, 251, 167, 255, 167, 42, 3, 181, 0, 251, 167, 0, 13]
abbrev dktX0_chanceOf_4 : List UInt8 := dkwX0_chanceOf_4 ++ dktX0_chanceOf_5
def dkwX0_chanceOf_3 : List UInt8 := [16, 16, 27, 100, 133, 167, 0, 5, 27, 133, 105, 55, 7, 132, 9, 1, 167, 255, 219, 22, 5, 22, 7, 97]
abbrev dktX0_chanceOf_3 : List UInt8 := dkwX0_chanceOf_3 ++ dktX0_chanceOf_4
def dkwX0_chanceOf_2 : List UInt8 := [54, 9, 21, 9, 21, 4, 162, 0, 36, 22, 7, 42, 180, 0, 251, 21, 9, 184, 0, 254, 153, 0, 11]
abbrev dktX0_chanceOf_2 : List UInt8 := dkwX0_chanceOf_2 ++ dktX0_chanceOf_3
def dkwX0_chanceOf_1 : List UInt8 := [120, 162, 0, 84, 42, 182, 1, 37, 42, 28, 182, 1, 48, 154, 0, 6, 167, 0, 56, 10, 55, 7, 3]
abbrev dktX0_chanceOf_1 : List UInt8 := dkwX0_chanceOf_1 ++ dktX0_chanceOf_2
def dkwX0_chanceOf_0 : List UInt8 := [42, 180, 0, 102, 182, 0, 75, 54, 4, 9, 55, 5, 42, 3, 181, 0, 251, 42, 180, 0, 251, 4, 21, 4]
abbrev dktX0_chanceOf_0 : List UInt8 := dkwX0_chanceOf_0 ++ dktX0_chanceOf_1
theorem dksX0_chanceOf_0 : cX0_chanceOf.data.toList.drop 0 = dktX0_chanceOf_0 := by decide +kernel
theorem dksX0_chanceOf_1 : cX0_chanceOf.data.toList.drop 24 = dktX0_chanceOf_1 := dk_seg dksX0_chanceOf_0 24 rfl rfl
theorem dksX0_chanceOf_2 : cX0_chanceOf.data.toList.drop 47 = dktX0_chanceOf_2 := dk_seg dksX0_chanceOf_1 23 rfl rfl
theorem dksX0_chanceOf_3 : cX0_chanceOf.data.toList.drop 70 = dktX0_chanceOf_3 := dk_seg dksX0_chanceOf_2 23 rfl rfl
theorem dksX0_chanceOf_4 : cX0_chanceOf.data.toList.drop 94 = dktX0_chanceOf_4 := dk_seg dksX0_chanceOf_3 24 rfl rfl
theorem dksX0_chanceOf_5 : cX0_chanceOf.data.toList.drop 117 = dktX0_chanceOf_5 := dk_seg dksX0_chanceOf_4 23 rfl rfl
theorem dX0_chanceOf_0 : decode cX0_chanceOf 0 = .ok (.aload_n 0, 1) := dk_42 (dk_at dksX0_chanceOf_0 0 rfl rfl)
theorem dX0_chanceOf_1 : decode cX0_chanceOf 1 = .ok (.getfield 102, 3) := dk_180 0 102 (dk_at dksX0_chanceOf_0 1 rfl rfl)
theorem dX0_chanceOf_4 : decode cX0_chanceOf 4 = .ok (.invokevirtual 75, 3) := dk_182 0 75 (dk_at dksX0_chanceOf_0 4 rfl rfl)
theorem dX0_chanceOf_7 : decode cX0_chanceOf 7 = .ok (.istore 4, 2) := dk_54 4 (dk_at dksX0_chanceOf_0 7 rfl rfl)
theorem dX0_chanceOf_9 : decode cX0_chanceOf 9 = .ok (.lconst 0, 1) := dk_9 (dk_at dksX0_chanceOf_0 9 rfl rfl)
theorem dX0_chanceOf_10 : decode cX0_chanceOf 10 = .ok (.lstore 5, 2) := dk_55 5 (dk_at dksX0_chanceOf_0 10 rfl rfl)
theorem dX0_chanceOf_12 : decode cX0_chanceOf 12 = .ok (.aload_n 0, 1) := dk_42 (dk_at dksX0_chanceOf_0 12 rfl rfl)
theorem dX0_chanceOf_13 : decode cX0_chanceOf 13 = .ok (.iconst 0, 1) := dk_3 (dk_at dksX0_chanceOf_0 13 rfl rfl)
theorem dX0_chanceOf_14 : decode cX0_chanceOf 14 = .ok (.putfield 251, 3) := dk_181 0 251 (dk_at dksX0_chanceOf_0 14 rfl rfl)
theorem dX0_chanceOf_17 : decode cX0_chanceOf 17 = .ok (.aload_n 0, 1) := dk_42 (dk_at dksX0_chanceOf_0 17 rfl rfl)
theorem dX0_chanceOf_18 : decode cX0_chanceOf 18 = .ok (.getfield 251, 3) := dk_180 0 251 (dk_at dksX0_chanceOf_0 18 rfl rfl)
theorem dX0_chanceOf_21 : decode cX0_chanceOf 21 = .ok (.iconst 1, 1) := dk_4 (dk_at dksX0_chanceOf_0 21 rfl rfl)
theorem dX0_chanceOf_22 : decode cX0_chanceOf 22 = .ok (.iload 4, 2) := dk_21 4 (dk_at dksX0_chanceOf_0 22 rfl rfl)
theorem dX0_chanceOf_24 : decode cX0_chanceOf 24 = .ok (.ishl, 1) := dk_120 (dk_at dksX0_chanceOf_1 0 rfl rfl)
theorem dX0_chanceOf_25 : decode cX0_chanceOf 25 = .ok (.if_icmp .ge 84, 3) := dk_162 0 84 (dk_at dksX0_chanceOf_1 1 rfl rfl)
theorem dX0_chanceOf_28 : decode cX0_chanceOf 28 = .ok (.aload_n 0, 1) := dk_42 (dk_at dksX0_chanceOf_1 4 rfl rfl)
theorem dX0_chanceOf_29 : decode cX0_chanceOf 29 = .ok (.invokevirtual 293, 3) := dk_182 1 37 (dk_at dksX0_chanceOf_1 5 rfl rfl)
theorem dX0_chanceOf_32 : decode cX0_chanceOf 32 = .ok (.aload_n 0, 1) := dk_42 (dk_at dksX0_chanceOf_1 8 rfl rfl)
theorem dX0_chanceOf_33 : decode cX0_chanceOf 33 = .ok (.iload_n 2, 1) := dk_28 (dk_at dksX0_chanceOf_1 9 rfl rfl)
theorem dX0_chanceOf_34 : decode cX0_chanceOf 34 = .ok (.invokevirtual 304, 3) := dk_182 1 48 (dk_at dksX0_chanceOf_1 10 rfl rfl)
theorem dX0_chanceOf_37 : decode cX0_chanceOf 37 = .ok (.ifCond .ne 6, 3) := dk_154 0 6 (dk_at dksX0_chanceOf_1 13 rfl rfl)
theorem dX0_chanceOf_40 : decode cX0_chanceOf 40 = .ok (.goto 56, 3) := dk_167 0 56 (dk_at dksX0_chanceOf_1 16 rfl rfl)
theorem dX0_chanceOf_43 : decode cX0_chanceOf 43 = .ok (.lconst 1, 1) := dk_10 (dk_at dksX0_chanceOf_1 19 rfl rfl)
theorem dX0_chanceOf_44 : decode cX0_chanceOf 44 = .ok (.lstore 7, 2) := dk_55 7 (dk_at dksX0_chanceOf_1 20 rfl rfl)
theorem dX0_chanceOf_46 : decode cX0_chanceOf 46 = .ok (.iconst 0, 1) := dk_3 (dk_at dksX0_chanceOf_1 22 rfl rfl)
theorem dX0_chanceOf_47 : decode cX0_chanceOf 47 = .ok (.istore 9, 2) := dk_54 9 (dk_at dksX0_chanceOf_2 0 rfl rfl)
theorem dX0_chanceOf_49 : decode cX0_chanceOf 49 = .ok (.iload 9, 2) := dk_21 9 (dk_at dksX0_chanceOf_2 2 rfl rfl)
theorem dX0_chanceOf_51 : decode cX0_chanceOf 51 = .ok (.iload 4, 2) := dk_21 4 (dk_at dksX0_chanceOf_2 4 rfl rfl)
theorem dX0_chanceOf_53 : decode cX0_chanceOf 53 = .ok (.if_icmp .ge 36, 3) := dk_162 0 36 (dk_at dksX0_chanceOf_2 6 rfl rfl)
theorem dX0_chanceOf_56 : decode cX0_chanceOf 56 = .ok (.lload 7, 2) := dk_22 7 (dk_at dksX0_chanceOf_2 9 rfl rfl)
theorem dX0_chanceOf_58 : decode cX0_chanceOf 58 = .ok (.aload_n 0, 1) := dk_42 (dk_at dksX0_chanceOf_2 11 rfl rfl)
theorem dX0_chanceOf_59 : decode cX0_chanceOf 59 = .ok (.getfield 251, 3) := dk_180 0 251 (dk_at dksX0_chanceOf_2 12 rfl rfl)
theorem dX0_chanceOf_62 : decode cX0_chanceOf 62 = .ok (.iload 9, 2) := dk_21 9 (dk_at dksX0_chanceOf_2 15 rfl rfl)
theorem dX0_chanceOf_64 : decode cX0_chanceOf 64 = .ok (.invokestatic 254, 3) := dk_184 0 254 (dk_at dksX0_chanceOf_2 17 rfl rfl)
theorem dX0_chanceOf_67 : decode cX0_chanceOf 67 = .ok (.ifCond .eq 11, 3) := dk_153 0 11 (dk_at dksX0_chanceOf_2 20 rfl rfl)
theorem dX0_chanceOf_70 : decode cX0_chanceOf 70 = .ok (.bipush 16, 2) := dk_16 16 (dk_at dksX0_chanceOf_3 0 rfl rfl)
theorem dX0_chanceOf_72 : decode cX0_chanceOf 72 = .ok (.iload_n 1, 1) := dk_27 (dk_at dksX0_chanceOf_3 2 rfl rfl)
theorem dX0_chanceOf_73 : decode cX0_chanceOf 73 = .ok (.isub, 1) := dk_100 (dk_at dksX0_chanceOf_3 3 rfl rfl)
theorem dX0_chanceOf_74 : decode cX0_chanceOf 74 = .ok (.i2l, 1) := dk_133 (dk_at dksX0_chanceOf_3 4 rfl rfl)
theorem dX0_chanceOf_75 : decode cX0_chanceOf 75 = .ok (.goto 5, 3) := dk_167 0 5 (dk_at dksX0_chanceOf_3 5 rfl rfl)
theorem dX0_chanceOf_78 : decode cX0_chanceOf 78 = .ok (.iload_n 1, 1) := dk_27 (dk_at dksX0_chanceOf_3 8 rfl rfl)
theorem dX0_chanceOf_79 : decode cX0_chanceOf 79 = .ok (.i2l, 1) := dk_133 (dk_at dksX0_chanceOf_3 9 rfl rfl)
theorem dX0_chanceOf_80 : decode cX0_chanceOf 80 = .ok (.lmul, 1) := dk_105 (dk_at dksX0_chanceOf_3 10 rfl rfl)
theorem dX0_chanceOf_81 : decode cX0_chanceOf 81 = .ok (.lstore 7, 2) := dk_55 7 (dk_at dksX0_chanceOf_3 11 rfl rfl)
theorem dX0_chanceOf_83 : decode cX0_chanceOf 83 = .ok (.iinc 9 1, 3) := dk_132 9 1 (dk_at dksX0_chanceOf_3 13 rfl rfl)
theorem dX0_chanceOf_86 : decode cX0_chanceOf 86 = .ok (.goto (-37), 3) := dk_167 255 219 (dk_at dksX0_chanceOf_3 16 rfl rfl)
theorem dX0_chanceOf_89 : decode cX0_chanceOf 89 = .ok (.lload 5, 2) := dk_22 5 (dk_at dksX0_chanceOf_3 19 rfl rfl)
theorem dX0_chanceOf_91 : decode cX0_chanceOf 91 = .ok (.lload 7, 2) := dk_22 7 (dk_at dksX0_chanceOf_3 21 rfl rfl)
theorem dX0_chanceOf_93 : decode cX0_chanceOf 93 = .ok (.ladd, 1) := dk_97 (dk_at dksX0_chanceOf_3 23 rfl rfl)
theorem dX0_chanceOf_94 : decode cX0_chanceOf 94 = .ok (.lstore 5, 2) := dk_55 5 (dk_at dksX0_chanceOf_4 0 rfl rfl)
theorem dX0_chanceOf_96 : decode cX0_chanceOf 96 = .ok (.aload_n 0, 1) := dk_42 (dk_at dksX0_chanceOf_4 2 rfl rfl)
theorem dX0_chanceOf_97 : decode cX0_chanceOf 97 = .ok (.dup, 1) := dk_89 (dk_at dksX0_chanceOf_4 3 rfl rfl)
theorem dX0_chanceOf_98 : decode cX0_chanceOf 98 = .ok (.getfield 251, 3) := dk_180 0 251 (dk_at dksX0_chanceOf_4 4 rfl rfl)
theorem dX0_chanceOf_101 : decode cX0_chanceOf 101 = .ok (.iconst 1, 1) := dk_4 (dk_at dksX0_chanceOf_4 7 rfl rfl)
theorem dX0_chanceOf_102 : decode cX0_chanceOf 102 = .ok (.iadd, 1) := dk_96 (dk_at dksX0_chanceOf_4 8 rfl rfl)
theorem dX0_chanceOf_103 : decode cX0_chanceOf 103 = .ok (.putfield 251, 3) := dk_181 0 251 (dk_at dksX0_chanceOf_4 9 rfl rfl)
theorem dX0_chanceOf_106 : decode cX0_chanceOf 106 = .ok (.goto (-89), 3) := dk_167 255 167 (dk_at dksX0_chanceOf_4 12 rfl rfl)
theorem dX0_chanceOf_109 : decode cX0_chanceOf 109 = .ok (.aload_n 0, 1) := dk_42 (dk_at dksX0_chanceOf_4 15 rfl rfl)
theorem dX0_chanceOf_110 : decode cX0_chanceOf 110 = .ok (.iconst 0, 1) := dk_3 (dk_at dksX0_chanceOf_4 16 rfl rfl)
theorem dX0_chanceOf_111 : decode cX0_chanceOf 111 = .ok (.putfield 251, 3) := dk_181 0 251 (dk_at dksX0_chanceOf_4 17 rfl rfl)
theorem dX0_chanceOf_114 : decode cX0_chanceOf 114 = .ok (.goto 13, 3) := dk_167 0 13 (dk_at dksX0_chanceOf_4 20 rfl rfl)
theorem dX0_chanceOf_117 : decode cX0_chanceOf 117 = .ok (.astore 10, 2) := dk_58 10 (dk_at dksX0_chanceOf_5 0 rfl rfl)
theorem dX0_chanceOf_119 : decode cX0_chanceOf 119 = .ok (.aload_n 0, 1) := dk_42 (dk_at dksX0_chanceOf_5 2 rfl rfl)
theorem dX0_chanceOf_120 : decode cX0_chanceOf 120 = .ok (.iconst 0, 1) := dk_3 (dk_at dksX0_chanceOf_5 3 rfl rfl)
theorem dX0_chanceOf_121 : decode cX0_chanceOf 121 = .ok (.putfield 251, 3) := dk_181 0 251 (dk_at dksX0_chanceOf_5 4 rfl rfl)
theorem dX0_chanceOf_124 : decode cX0_chanceOf 124 = .ok (.aload 10, 2) := dk_25 10 (dk_at dksX0_chanceOf_5 7 rfl rfl)
theorem dX0_chanceOf_126 : decode cX0_chanceOf 126 = .ok (.athrow, 1) := dk_191 (dk_at dksX0_chanceOf_5 9 rfl rfl)
theorem dX0_chanceOf_127 : decode cX0_chanceOf 127 = .ok (.lload 5, 2) := dk_22 5 (dk_at dksX0_chanceOf_5 10 rfl rfl)
theorem dX0_chanceOf_129 : decode cX0_chanceOf 129 = .ok (.lconst 1, 1) := dk_10 (dk_at dksX0_chanceOf_5 12 rfl rfl)
theorem dX0_chanceOf_130 : decode cX0_chanceOf 130 = .ok (.iconst 4, 1) := dk_7 (dk_at dksX0_chanceOf_5 13 rfl rfl)
theorem dX0_chanceOf_131 : decode cX0_chanceOf 131 = .ok (.iload 4, 2) := dk_21 4 (dk_at dksX0_chanceOf_5 14 rfl rfl)
theorem dX0_chanceOf_133 : decode cX0_chanceOf 133 = .ok (.imul, 1) := dk_104 (dk_at dksX0_chanceOf_5 16 rfl rfl)
theorem dX0_chanceOf_134 : decode cX0_chanceOf 134 = .ok (.lshl, 1) := dk_121 (dk_at dksX0_chanceOf_5 17 rfl rfl)
theorem dX0_chanceOf_135 : decode cX0_chanceOf 135 = .ok (.iload_n 3, 1) := dk_29 (dk_at dksX0_chanceOf_5 18 rfl rfl)
theorem dX0_chanceOf_136 : decode cX0_chanceOf 136 = .ok (.invokestatic 374, 3) := dk_184 1 118 (dk_at dksX0_chanceOf_5 19 rfl rfl)
theorem dX0_chanceOf_139 : decode cX0_chanceOf 139 = .ok (.lreturn, 1) := dk_173 (dk_at dksX0_chanceOf_5 22 rfl rfl)
abbrev cX0_part : ByteArray := prog_1_method_74_code
def yX0_part : MethodName := ⟨RX0, "part", "(JJI)J"⟩
def dkwX0_part_0 : List UInt8 := [21, 4, 154, 0, 7, 30, 167, 0, 4, 32, 30, 32, 184, 1, 114, 109, 173]
abbrev dktX0_part_0 : List UInt8 := dkwX0_part_0 ++ []
theorem dksX0_part_0 : cX0_part.data.toList.drop 0 = dktX0_part_0 := by decide +kernel
theorem dX0_part_0 : decode cX0_part 0 = .ok (.iload 4, 2) := dk_21 4 (dk_at dksX0_part_0 0 rfl rfl)
theorem dX0_part_2 : decode cX0_part 2 = .ok (.ifCond .ne 7, 3) := dk_154 0 7 (dk_at dksX0_part_0 2 rfl rfl)
theorem dX0_part_5 : decode cX0_part 5 = .ok (.lload_n 0, 1) := dk_30 (dk_at dksX0_part_0 5 rfl rfl)
theorem dX0_part_6 : decode cX0_part 6 = .ok (.goto 4, 3) := dk_167 0 4 (dk_at dksX0_part_0 6 rfl rfl)
theorem dX0_part_9 : decode cX0_part 9 = .ok (.lload_n 2, 1) := dk_32 (dk_at dksX0_part_0 9 rfl rfl)
theorem dX0_part_10 : decode cX0_part 10 = .ok (.lload_n 0, 1) := dk_30 (dk_at dksX0_part_0 10 rfl rfl)
theorem dX0_part_11 : decode cX0_part 11 = .ok (.lload_n 2, 1) := dk_32 (dk_at dksX0_part_0 11 rfl rfl)
theorem dX0_part_12 : decode cX0_part 12 = .ok (.invokestatic 370, 3) := dk_184 1 114 (dk_at dksX0_part_0 12 rfl rfl)
theorem dX0_part_15 : decode cX0_part 15 = .ok (.ldiv, 1) := dk_109 (dk_at dksX0_part_0 15 rfl rfl)
theorem dX0_part_16 : decode cX0_part 16 = .ok (.lreturn, 1) := dk_173 (dk_at dksX0_part_0 16 rfl rfl)
abbrev cX0_divisor : ByteArray := prog_1_method_73_code
def yX0_divisor : MethodName := ⟨RX0, "divisor", "(JJ)J"⟩
def dkwX0_divisor_0 : List UInt8 := [32, 9, 148, 154, 0, 7, 30, 167, 0, 10, 32, 30, 32, 113, 184, 1, 114, 173]
abbrev dktX0_divisor_0 : List UInt8 := dkwX0_divisor_0 ++ []
theorem dksX0_divisor_0 : cX0_divisor.data.toList.drop 0 = dktX0_divisor_0 := by decide +kernel
theorem dX0_divisor_0 : decode cX0_divisor 0 = .ok (.lload_n 2, 1) := dk_32 (dk_at dksX0_divisor_0 0 rfl rfl)
theorem dX0_divisor_1 : decode cX0_divisor 1 = .ok (.lconst 0, 1) := dk_9 (dk_at dksX0_divisor_0 1 rfl rfl)
theorem dX0_divisor_2 : decode cX0_divisor 2 = .ok (.lcmp, 1) := dk_148 (dk_at dksX0_divisor_0 2 rfl rfl)
theorem dX0_divisor_3 : decode cX0_divisor 3 = .ok (.ifCond .ne 7, 3) := dk_154 0 7 (dk_at dksX0_divisor_0 3 rfl rfl)
theorem dX0_divisor_6 : decode cX0_divisor 6 = .ok (.lload_n 0, 1) := dk_30 (dk_at dksX0_divisor_0 6 rfl rfl)
theorem dX0_divisor_7 : decode cX0_divisor 7 = .ok (.goto 10, 3) := dk_167 0 10 (dk_at dksX0_divisor_0 7 rfl rfl)
theorem dX0_divisor_10 : decode cX0_divisor 10 = .ok (.lload_n 2, 1) := dk_32 (dk_at dksX0_divisor_0 10 rfl rfl)
theorem dX0_divisor_11 : decode cX0_divisor 11 = .ok (.lload_n 0, 1) := dk_30 (dk_at dksX0_divisor_0 11 rfl rfl)
theorem dX0_divisor_12 : decode cX0_divisor 12 = .ok (.lload_n 2, 1) := dk_32 (dk_at dksX0_divisor_0 12 rfl rfl)
theorem dX0_divisor_13 : decode cX0_divisor 13 = .ok (.lrem, 1) := dk_113 (dk_at dksX0_divisor_0 13 rfl rfl)
theorem dX0_divisor_14 : decode cX0_divisor 14 = .ok (.invokestatic 370, 3) := dk_184 1 114 (dk_at dksX0_divisor_0 14 rfl rfl)
theorem dX0_divisor_17 : decode cX0_divisor 17 = .ok (.lreturn, 1) := dk_173 (dk_at dksX0_divisor_0 17 rfl rfl)
abbrev cX0_no : ByteArray := prog_1_method_2_code
def yX0_no : MethodName := ⟨RX0, "no", "(I)J"⟩
def dkwX0_no_0 : List UInt8 := [20, 0, 7, 26, 133, 101, 173]
abbrev dktX0_no_0 : List UInt8 := dkwX0_no_0 ++ []
theorem dksX0_no_0 : cX0_no.data.toList.drop 0 = dktX0_no_0 := by decide +kernel
theorem dX0_no_0 : decode cX0_no 0 = .ok (.ldc2_w 7, 3) := dk_20 0 7 (dk_at dksX0_no_0 0 rfl rfl)
theorem dX0_no_3 : decode cX0_no 3 = .ok (.iload_n 0, 1) := dk_26 (dk_at dksX0_no_0 3 rfl rfl)
theorem dX0_no_4 : decode cX0_no 4 = .ok (.i2l, 1) := dk_133 (dk_at dksX0_no_0 4 rfl rfl)
theorem dX0_no_5 : decode cX0_no 5 = .ok (.lsub, 1) := dk_101 (dk_at dksX0_no_0 5 rfl rfl)
theorem dX0_no_6 : decode cX0_no 6 = .ok (.lreturn, 1) := dk_173 (dk_at dksX0_no_0 6 rfl rfl)
abbrev cX0_ages : ByteArray := prog_1_method_80_code
def yX0_ages : MethodName := ⟨RX0, "ages", "(III)I"⟩
def dkwX0_ages_1 : List UInt8 := [182, 1, 145, 167, 0, 5, 16, 254, 172]
abbrev dktX0_ages_1 : List UInt8 := dkwX0_ages_1 ++ []
def dkwX0_ages_0 : List UInt8 := [28, 133, 9, 20, 1, 143, 184, 0, 14, 153, 0, 20, 29, 184, 0, 30, 153, 0, 13, 42, 27, 28, 29]
abbrev dktX0_ages_0 : List UInt8 := dkwX0_ages_0 ++ dktX0_ages_1
theorem dksX0_ages_0 : cX0_ages.data.toList.drop 0 = dktX0_ages_0 := by decide +kernel
theorem dksX0_ages_1 : cX0_ages.data.toList.drop 23 = dktX0_ages_1 := dk_seg dksX0_ages_0 23 rfl rfl
theorem dX0_ages_0 : decode cX0_ages 0 = .ok (.iload_n 2, 1) := dk_28 (dk_at dksX0_ages_0 0 rfl rfl)
theorem dX0_ages_1 : decode cX0_ages 1 = .ok (.i2l, 1) := dk_133 (dk_at dksX0_ages_0 1 rfl rfl)
theorem dX0_ages_2 : decode cX0_ages 2 = .ok (.lconst 0, 1) := dk_9 (dk_at dksX0_ages_0 2 rfl rfl)
theorem dX0_ages_3 : decode cX0_ages 3 = .ok (.ldc2_w 399, 3) := dk_20 1 143 (dk_at dksX0_ages_0 3 rfl rfl)
theorem dX0_ages_6 : decode cX0_ages 6 = .ok (.invokestatic 14, 3) := dk_184 0 14 (dk_at dksX0_ages_0 6 rfl rfl)
theorem dX0_ages_9 : decode cX0_ages 9 = .ok (.ifCond .eq 20, 3) := dk_153 0 20 (dk_at dksX0_ages_0 9 rfl rfl)
theorem dX0_ages_12 : decode cX0_ages 12 = .ok (.iload_n 3, 1) := dk_29 (dk_at dksX0_ages_0 12 rfl rfl)
theorem dX0_ages_13 : decode cX0_ages 13 = .ok (.invokestatic 30, 3) := dk_184 0 30 (dk_at dksX0_ages_0 13 rfl rfl)
theorem dX0_ages_16 : decode cX0_ages 16 = .ok (.ifCond .eq 13, 3) := dk_153 0 13 (dk_at dksX0_ages_0 16 rfl rfl)
theorem dX0_ages_19 : decode cX0_ages 19 = .ok (.aload_n 0, 1) := dk_42 (dk_at dksX0_ages_0 19 rfl rfl)
theorem dX0_ages_20 : decode cX0_ages 20 = .ok (.iload_n 1, 1) := dk_27 (dk_at dksX0_ages_0 20 rfl rfl)
theorem dX0_ages_21 : decode cX0_ages 21 = .ok (.iload_n 2, 1) := dk_28 (dk_at dksX0_ages_0 21 rfl rfl)
theorem dX0_ages_22 : decode cX0_ages 22 = .ok (.iload_n 3, 1) := dk_29 (dk_at dksX0_ages_0 22 rfl rfl)
theorem dX0_ages_23 : decode cX0_ages 23 = .ok (.invokevirtual 401, 3) := dk_182 1 145 (dk_at dksX0_ages_1 0 rfl rfl)
theorem dX0_ages_26 : decode cX0_ages 26 = .ok (.goto 5, 3) := dk_167 0 5 (dk_at dksX0_ages_1 3 rfl rfl)
theorem dX0_ages_29 : decode cX0_ages 29 = .ok (.bipush (-2), 2) := dk_16 254 (dk_at dksX0_ages_1 6 rfl rfl)
theorem dX0_ages_31 : decode cX0_ages 31 = .ok (.ireturn, 1) := dk_172 (dk_at dksX0_ages_1 8 rfl rfl)
abbrev cX0_agesOf : ByteArray := prog_1_method_79_code
def yX0_agesOf : MethodName := ⟨RX0, "agesOf", "(III)I"⟩
def dkwX0_agesOf_4 : List UInt8 := [172, 58, 6, 42, 25, 4, 181, 0, 102, 25, 6, 191]
abbrev dktX0_agesOf_4 : List UInt8 := dkwX0_agesOf_4 ++ []
def dkwX0_agesOf_3 : List UInt8 := [154, 0, 10, 42, 182, 1, 57, 167, 0, 7, 42, 182, 1, 54, 54, 5, 42, 25, 4, 181, 0, 102, 21, 5]
abbrev dktX0_agesOf_3 : List UInt8 := dkwX0_agesOf_3 ++ dktX0_agesOf_4
def dkwX0_agesOf_2 : List UInt8 := [50, 182, 0, 105, 87, 132, 5, 1, 167, 255, 221, 42, 42, 180, 0, 185, 181, 0, 102, 42, 182, 1, 37, 29]
abbrev dktX0_agesOf_2 : List UInt8 := dkwX0_agesOf_2 ++ dktX0_agesOf_3
def dkwX0_agesOf_1 : List UInt8 := [162, 0, 35, 42, 42, 180, 0, 188, 21, 5, 50, 182, 1, 139, 42, 180, 0, 185, 42, 180, 0, 188, 21, 5]
abbrev dktX0_agesOf_1 : List UInt8 := dkwX0_agesOf_1 ++ dktX0_agesOf_2
def dkwX0_agesOf_0 : List UInt8 := [42, 180, 0, 102, 58, 4, 42, 180, 0, 185, 182, 1, 89, 42, 27, 181, 1, 133, 3, 54, 5, 21, 5, 28]
abbrev dktX0_agesOf_0 : List UInt8 := dkwX0_agesOf_0 ++ dktX0_agesOf_1
theorem dksX0_agesOf_0 : cX0_agesOf.data.toList.drop 0 = dktX0_agesOf_0 := by decide +kernel
theorem dksX0_agesOf_1 : cX0_agesOf.data.toList.drop 24 = dktX0_agesOf_1 := dk_seg dksX0_agesOf_0 24 rfl rfl
theorem dksX0_agesOf_2 : cX0_agesOf.data.toList.drop 48 = dktX0_agesOf_2 := dk_seg dksX0_agesOf_1 24 rfl rfl
theorem dksX0_agesOf_3 : cX0_agesOf.data.toList.drop 72 = dktX0_agesOf_3 := dk_seg dksX0_agesOf_2 24 rfl rfl
theorem dksX0_agesOf_4 : cX0_agesOf.data.toList.drop 96 = dktX0_agesOf_4 := dk_seg dksX0_agesOf_3 24 rfl rfl
theorem dX0_agesOf_0 : decode cX0_agesOf 0 = .ok (.aload_n 0, 1) := dk_42 (dk_at dksX0_agesOf_0 0 rfl rfl)
theorem dX0_agesOf_1 : decode cX0_agesOf 1 = .ok (.getfield 102, 3) := dk_180 0 102 (dk_at dksX0_agesOf_0 1 rfl rfl)
theorem dX0_agesOf_4 : decode cX0_agesOf 4 = .ok (.astore 4, 2) := dk_58 4 (dk_at dksX0_agesOf_0 4 rfl rfl)
theorem dX0_agesOf_6 : decode cX0_agesOf 6 = .ok (.aload_n 0, 1) := dk_42 (dk_at dksX0_agesOf_0 6 rfl rfl)
theorem dX0_agesOf_7 : decode cX0_agesOf 7 = .ok (.getfield 185, 3) := dk_180 0 185 (dk_at dksX0_agesOf_0 7 rfl rfl)
theorem dX0_agesOf_10 : decode cX0_agesOf 10 = .ok (.invokevirtual 345, 3) := dk_182 1 89 (dk_at dksX0_agesOf_0 10 rfl rfl)
theorem dX0_agesOf_13 : decode cX0_agesOf 13 = .ok (.aload_n 0, 1) := dk_42 (dk_at dksX0_agesOf_0 13 rfl rfl)
theorem dX0_agesOf_14 : decode cX0_agesOf 14 = .ok (.iload_n 1, 1) := dk_27 (dk_at dksX0_agesOf_0 14 rfl rfl)
theorem dX0_agesOf_15 : decode cX0_agesOf 15 = .ok (.putfield 389, 3) := dk_181 1 133 (dk_at dksX0_agesOf_0 15 rfl rfl)
theorem dX0_agesOf_18 : decode cX0_agesOf 18 = .ok (.iconst 0, 1) := dk_3 (dk_at dksX0_agesOf_0 18 rfl rfl)
theorem dX0_agesOf_19 : decode cX0_agesOf 19 = .ok (.istore 5, 2) := dk_54 5 (dk_at dksX0_agesOf_0 19 rfl rfl)
theorem dX0_agesOf_21 : decode cX0_agesOf 21 = .ok (.iload 5, 2) := dk_21 5 (dk_at dksX0_agesOf_0 21 rfl rfl)
theorem dX0_agesOf_23 : decode cX0_agesOf 23 = .ok (.iload_n 2, 1) := dk_28 (dk_at dksX0_agesOf_0 23 rfl rfl)
theorem dX0_agesOf_24 : decode cX0_agesOf 24 = .ok (.if_icmp .ge 35, 3) := dk_162 0 35 (dk_at dksX0_agesOf_1 0 rfl rfl)
theorem dX0_agesOf_27 : decode cX0_agesOf 27 = .ok (.aload_n 0, 1) := dk_42 (dk_at dksX0_agesOf_1 3 rfl rfl)
theorem dX0_agesOf_28 : decode cX0_agesOf 28 = .ok (.aload_n 0, 1) := dk_42 (dk_at dksX0_agesOf_1 4 rfl rfl)
theorem dX0_agesOf_29 : decode cX0_agesOf 29 = .ok (.getfield 188, 3) := dk_180 0 188 (dk_at dksX0_agesOf_1 5 rfl rfl)
theorem dX0_agesOf_32 : decode cX0_agesOf 32 = .ok (.iload 5, 2) := dk_21 5 (dk_at dksX0_agesOf_1 8 rfl rfl)
theorem dX0_agesOf_34 : decode cX0_agesOf 34 = .ok (.aaload, 1) := dk_50 (dk_at dksX0_agesOf_1 10 rfl rfl)
theorem dX0_agesOf_35 : decode cX0_agesOf 35 = .ok (.invokevirtual 395, 3) := dk_182 1 139 (dk_at dksX0_agesOf_1 11 rfl rfl)
theorem dX0_agesOf_38 : decode cX0_agesOf 38 = .ok (.aload_n 0, 1) := dk_42 (dk_at dksX0_agesOf_1 14 rfl rfl)
theorem dX0_agesOf_39 : decode cX0_agesOf 39 = .ok (.getfield 185, 3) := dk_180 0 185 (dk_at dksX0_agesOf_1 15 rfl rfl)
theorem dX0_agesOf_42 : decode cX0_agesOf 42 = .ok (.aload_n 0, 1) := dk_42 (dk_at dksX0_agesOf_1 18 rfl rfl)
theorem dX0_agesOf_43 : decode cX0_agesOf 43 = .ok (.getfield 188, 3) := dk_180 0 188 (dk_at dksX0_agesOf_1 19 rfl rfl)
theorem dX0_agesOf_46 : decode cX0_agesOf 46 = .ok (.iload 5, 2) := dk_21 5 (dk_at dksX0_agesOf_1 22 rfl rfl)
theorem dX0_agesOf_48 : decode cX0_agesOf 48 = .ok (.aaload, 1) := dk_50 (dk_at dksX0_agesOf_2 0 rfl rfl)
theorem dX0_agesOf_49 : decode cX0_agesOf 49 = .ok (.invokevirtual 105, 3) := dk_182 0 105 (dk_at dksX0_agesOf_2 1 rfl rfl)
theorem dX0_agesOf_52 : decode cX0_agesOf 52 = .ok (.pop, 1) := dk_87 (dk_at dksX0_agesOf_2 4 rfl rfl)
theorem dX0_agesOf_53 : decode cX0_agesOf 53 = .ok (.iinc 5 1, 3) := dk_132 5 1 (dk_at dksX0_agesOf_2 5 rfl rfl)
theorem dX0_agesOf_56 : decode cX0_agesOf 56 = .ok (.goto (-35), 3) := dk_167 255 221 (dk_at dksX0_agesOf_2 8 rfl rfl)
theorem dX0_agesOf_59 : decode cX0_agesOf 59 = .ok (.aload_n 0, 1) := dk_42 (dk_at dksX0_agesOf_2 11 rfl rfl)
theorem dX0_agesOf_60 : decode cX0_agesOf 60 = .ok (.aload_n 0, 1) := dk_42 (dk_at dksX0_agesOf_2 12 rfl rfl)
theorem dX0_agesOf_61 : decode cX0_agesOf 61 = .ok (.getfield 185, 3) := dk_180 0 185 (dk_at dksX0_agesOf_2 13 rfl rfl)
theorem dX0_agesOf_64 : decode cX0_agesOf 64 = .ok (.putfield 102, 3) := dk_181 0 102 (dk_at dksX0_agesOf_2 16 rfl rfl)
theorem dX0_agesOf_67 : decode cX0_agesOf 67 = .ok (.aload_n 0, 1) := dk_42 (dk_at dksX0_agesOf_2 19 rfl rfl)
theorem dX0_agesOf_68 : decode cX0_agesOf 68 = .ok (.invokevirtual 293, 3) := dk_182 1 37 (dk_at dksX0_agesOf_2 20 rfl rfl)
theorem dX0_agesOf_71 : decode cX0_agesOf 71 = .ok (.iload_n 3, 1) := dk_29 (dk_at dksX0_agesOf_2 23 rfl rfl)
theorem dX0_agesOf_72 : decode cX0_agesOf 72 = .ok (.ifCond .ne 10, 3) := dk_154 0 10 (dk_at dksX0_agesOf_3 0 rfl rfl)
theorem dX0_agesOf_75 : decode cX0_agesOf 75 = .ok (.aload_n 0, 1) := dk_42 (dk_at dksX0_agesOf_3 3 rfl rfl)
theorem dX0_agesOf_76 : decode cX0_agesOf 76 = .ok (.invokevirtual 313, 3) := dk_182 1 57 (dk_at dksX0_agesOf_3 4 rfl rfl)
theorem dX0_agesOf_79 : decode cX0_agesOf 79 = .ok (.goto 7, 3) := dk_167 0 7 (dk_at dksX0_agesOf_3 7 rfl rfl)
theorem dX0_agesOf_82 : decode cX0_agesOf 82 = .ok (.aload_n 0, 1) := dk_42 (dk_at dksX0_agesOf_3 10 rfl rfl)
theorem dX0_agesOf_83 : decode cX0_agesOf 83 = .ok (.invokevirtual 310, 3) := dk_182 1 54 (dk_at dksX0_agesOf_3 11 rfl rfl)
theorem dX0_agesOf_86 : decode cX0_agesOf 86 = .ok (.istore 5, 2) := dk_54 5 (dk_at dksX0_agesOf_3 14 rfl rfl)
theorem dX0_agesOf_88 : decode cX0_agesOf 88 = .ok (.aload_n 0, 1) := dk_42 (dk_at dksX0_agesOf_3 16 rfl rfl)
theorem dX0_agesOf_89 : decode cX0_agesOf 89 = .ok (.aload 4, 2) := dk_25 4 (dk_at dksX0_agesOf_3 17 rfl rfl)
theorem dX0_agesOf_91 : decode cX0_agesOf 91 = .ok (.putfield 102, 3) := dk_181 0 102 (dk_at dksX0_agesOf_3 19 rfl rfl)
theorem dX0_agesOf_94 : decode cX0_agesOf 94 = .ok (.iload 5, 2) := dk_21 5 (dk_at dksX0_agesOf_3 22 rfl rfl)
theorem dX0_agesOf_96 : decode cX0_agesOf 96 = .ok (.ireturn, 1) := dk_172 (dk_at dksX0_agesOf_4 0 rfl rfl)
theorem dX0_agesOf_97 : decode cX0_agesOf 97 = .ok (.astore 6, 2) := dk_58 6 (dk_at dksX0_agesOf_4 1 rfl rfl)
theorem dX0_agesOf_99 : decode cX0_agesOf 99 = .ok (.aload_n 0, 1) := dk_42 (dk_at dksX0_agesOf_4 3 rfl rfl)
theorem dX0_agesOf_100 : decode cX0_agesOf 100 = .ok (.aload 4, 2) := dk_25 4 (dk_at dksX0_agesOf_4 4 rfl rfl)
theorem dX0_agesOf_102 : decode cX0_agesOf 102 = .ok (.putfield 102, 3) := dk_181 0 102 (dk_at dksX0_agesOf_4 6 rfl rfl)
theorem dX0_agesOf_105 : decode cX0_agesOf 105 = .ok (.aload 6, 2) := dk_25 6 (dk_at dksX0_agesOf_4 9 rfl rfl)
theorem dX0_agesOf_107 : decode cX0_agesOf 107 = .ok (.athrow, 1) := dk_191 (dk_at dksX0_agesOf_4 11 rfl rfl)
abbrev cX0_draws : ByteArray := prog_1_method_78_code
def yX0_draws : MethodName := ⟨RX0, "draws", "([I)V"⟩
def dkwX0_draws_1 : List UInt8 := [182, 1, 136, 79, 177]
abbrev dktX0_draws_1 : List UInt8 := dkwX0_draws_1 ++ []
def dkwX0_draws_0 : List UInt8 := [43, 3, 42, 7, 182, 1, 136, 79, 43, 4, 42, 16, 20, 182, 1, 136, 79, 43, 5, 42, 16, 12]
abbrev dktX0_draws_0 : List UInt8 := dkwX0_draws_0 ++ dktX0_draws_1
theorem dksX0_draws_0 : cX0_draws.data.toList.drop 0 = dktX0_draws_0 := by decide +kernel
theorem dksX0_draws_1 : cX0_draws.data.toList.drop 22 = dktX0_draws_1 := dk_seg dksX0_draws_0 22 rfl rfl
theorem dX0_draws_0 : decode cX0_draws 0 = .ok (.aload_n 1, 1) := dk_43 (dk_at dksX0_draws_0 0 rfl rfl)
theorem dX0_draws_1 : decode cX0_draws 1 = .ok (.iconst 0, 1) := dk_3 (dk_at dksX0_draws_0 1 rfl rfl)
theorem dX0_draws_2 : decode cX0_draws 2 = .ok (.aload_n 0, 1) := dk_42 (dk_at dksX0_draws_0 2 rfl rfl)
theorem dX0_draws_3 : decode cX0_draws 3 = .ok (.iconst 4, 1) := dk_7 (dk_at dksX0_draws_0 3 rfl rfl)
theorem dX0_draws_4 : decode cX0_draws 4 = .ok (.invokevirtual 392, 3) := dk_182 1 136 (dk_at dksX0_draws_0 4 rfl rfl)
theorem dX0_draws_7 : decode cX0_draws 7 = .ok (.iastore, 1) := dk_79 (dk_at dksX0_draws_0 7 rfl rfl)
theorem dX0_draws_8 : decode cX0_draws 8 = .ok (.aload_n 1, 1) := dk_43 (dk_at dksX0_draws_0 8 rfl rfl)
theorem dX0_draws_9 : decode cX0_draws 9 = .ok (.iconst 1, 1) := dk_4 (dk_at dksX0_draws_0 9 rfl rfl)
theorem dX0_draws_10 : decode cX0_draws 10 = .ok (.aload_n 0, 1) := dk_42 (dk_at dksX0_draws_0 10 rfl rfl)
theorem dX0_draws_11 : decode cX0_draws 11 = .ok (.bipush 20, 2) := dk_16 20 (dk_at dksX0_draws_0 11 rfl rfl)
theorem dX0_draws_13 : decode cX0_draws 13 = .ok (.invokevirtual 392, 3) := dk_182 1 136 (dk_at dksX0_draws_0 13 rfl rfl)
theorem dX0_draws_16 : decode cX0_draws 16 = .ok (.iastore, 1) := dk_79 (dk_at dksX0_draws_0 16 rfl rfl)
theorem dX0_draws_17 : decode cX0_draws 17 = .ok (.aload_n 1, 1) := dk_43 (dk_at dksX0_draws_0 17 rfl rfl)
theorem dX0_draws_18 : decode cX0_draws 18 = .ok (.iconst 2, 1) := dk_5 (dk_at dksX0_draws_0 18 rfl rfl)
theorem dX0_draws_19 : decode cX0_draws 19 = .ok (.aload_n 0, 1) := dk_42 (dk_at dksX0_draws_0 19 rfl rfl)
theorem dX0_draws_20 : decode cX0_draws 20 = .ok (.bipush 12, 2) := dk_16 12 (dk_at dksX0_draws_0 20 rfl rfl)
theorem dX0_draws_22 : decode cX0_draws 22 = .ok (.invokevirtual 392, 3) := dk_182 1 136 (dk_at dksX0_draws_1 0 rfl rfl)
theorem dX0_draws_25 : decode cX0_draws 25 = .ok (.iastore, 1) := dk_79 (dk_at dksX0_draws_1 3 rfl rfl)
theorem dX0_draws_26 : decode cX0_draws 26 = .ok (.return_, 1) := dk_177 (dk_at dksX0_draws_1 4 rfl rfl)
abbrev cX0_lot : ByteArray := prog_1_method_77_code
def yX0_lot : MethodName := ⟨RX0, "lot", "(I)I"⟩
def dkwX0_lot_1 : List UInt8 := [112, 172]
abbrev dktX0_lot_1 : List UInt8 := dkwX0_lot_1 ++ []
def dkwX0_lot_0 : List UInt8 := [42, 19, 1, 132, 42, 180, 1, 133, 104, 17, 48, 57, 96, 181, 1, 133, 42, 180, 1, 133, 16, 16, 124, 27]
abbrev dktX0_lot_0 : List UInt8 := dkwX0_lot_0 ++ dktX0_lot_1
theorem dksX0_lot_0 : cX0_lot.data.toList.drop 0 = dktX0_lot_0 := by decide +kernel
theorem dksX0_lot_1 : cX0_lot.data.toList.drop 24 = dktX0_lot_1 := dk_seg dksX0_lot_0 24 rfl rfl
theorem dX0_lot_0 : decode cX0_lot 0 = .ok (.aload_n 0, 1) := dk_42 (dk_at dksX0_lot_0 0 rfl rfl)
theorem dX0_lot_1 : decode cX0_lot 1 = .ok (.ldc_w 388, 3) := dk_19 1 132 (dk_at dksX0_lot_0 1 rfl rfl)
theorem dX0_lot_4 : decode cX0_lot 4 = .ok (.aload_n 0, 1) := dk_42 (dk_at dksX0_lot_0 4 rfl rfl)
theorem dX0_lot_5 : decode cX0_lot 5 = .ok (.getfield 389, 3) := dk_180 1 133 (dk_at dksX0_lot_0 5 rfl rfl)
theorem dX0_lot_8 : decode cX0_lot 8 = .ok (.imul, 1) := dk_104 (dk_at dksX0_lot_0 8 rfl rfl)
theorem dX0_lot_9 : decode cX0_lot 9 = .ok (.sipush 12345, 3) := dk_17 48 57 (dk_at dksX0_lot_0 9 rfl rfl)
theorem dX0_lot_12 : decode cX0_lot 12 = .ok (.iadd, 1) := dk_96 (dk_at dksX0_lot_0 12 rfl rfl)
theorem dX0_lot_13 : decode cX0_lot 13 = .ok (.putfield 389, 3) := dk_181 1 133 (dk_at dksX0_lot_0 13 rfl rfl)
theorem dX0_lot_16 : decode cX0_lot 16 = .ok (.aload_n 0, 1) := dk_42 (dk_at dksX0_lot_0 16 rfl rfl)
theorem dX0_lot_17 : decode cX0_lot 17 = .ok (.getfield 389, 3) := dk_180 1 133 (dk_at dksX0_lot_0 17 rfl rfl)
theorem dX0_lot_20 : decode cX0_lot 20 = .ok (.bipush 16, 2) := dk_16 16 (dk_at dksX0_lot_0 20 rfl rfl)
theorem dX0_lot_22 : decode cX0_lot 22 = .ok (.iushr, 1) := dk_124 (dk_at dksX0_lot_0 22 rfl rfl)
theorem dX0_lot_23 : decode cX0_lot 23 = .ok (.iload_n 1, 1) := dk_27 (dk_at dksX0_lot_0 23 rfl rfl)
theorem dX0_lot_24 : decode cX0_lot 24 = .ok (.irem, 1) := dk_112 (dk_at dksX0_lot_1 0 rfl rfl)
theorem dX0_lot_25 : decode cX0_lot 25 = .ok (.ireturn, 1) := dk_172 (dk_at dksX0_lot_1 1 rfl rfl)
abbrev cX0_sheet : ByteArray := prog_1_method_83_code
def yX0_sheet : MethodName := ⟨RX0, "sheet", "(III)I"⟩
def dkwX0_sheet_2 : List UInt8 := [42, 8, 182, 0, 129, 172]
abbrev dktX0_sheet_2 : List UInt8 := dkwX0_sheet_2 ++ []
def dkwX0_sheet_1 : List UInt8 := [164, 0, 6, 16, 254, 172, 42, 180, 0, 119, 27, 50, 28, 29, 184, 1, 148, 181, 0, 123, 29, 172, 58, 4]
abbrev dktX0_sheet_1 : List UInt8 := dkwX0_sheet_1 ++ dktX0_sheet_2
def dkwX0_sheet_0 : List UInt8 := [27, 184, 0, 116, 153, 0, 21, 28, 133, 9, 20, 0, 86, 184, 0, 14, 153, 0, 9, 29, 16, 60]
abbrev dktX0_sheet_0 : List UInt8 := dkwX0_sheet_0 ++ dktX0_sheet_1
theorem dksX0_sheet_0 : cX0_sheet.data.toList.drop 0 = dktX0_sheet_0 := by decide +kernel
theorem dksX0_sheet_1 : cX0_sheet.data.toList.drop 22 = dktX0_sheet_1 := dk_seg dksX0_sheet_0 22 rfl rfl
theorem dksX0_sheet_2 : cX0_sheet.data.toList.drop 46 = dktX0_sheet_2 := dk_seg dksX0_sheet_1 24 rfl rfl
theorem dX0_sheet_0 : decode cX0_sheet 0 = .ok (.iload_n 1, 1) := dk_27 (dk_at dksX0_sheet_0 0 rfl rfl)
theorem dX0_sheet_1 : decode cX0_sheet 1 = .ok (.invokestatic 116, 3) := dk_184 0 116 (dk_at dksX0_sheet_0 1 rfl rfl)
theorem dX0_sheet_4 : decode cX0_sheet 4 = .ok (.ifCond .eq 21, 3) := dk_153 0 21 (dk_at dksX0_sheet_0 4 rfl rfl)
theorem dX0_sheet_7 : decode cX0_sheet 7 = .ok (.iload_n 2, 1) := dk_28 (dk_at dksX0_sheet_0 7 rfl rfl)
theorem dX0_sheet_8 : decode cX0_sheet 8 = .ok (.i2l, 1) := dk_133 (dk_at dksX0_sheet_0 8 rfl rfl)
theorem dX0_sheet_9 : decode cX0_sheet 9 = .ok (.lconst 0, 1) := dk_9 (dk_at dksX0_sheet_0 9 rfl rfl)
theorem dX0_sheet_10 : decode cX0_sheet 10 = .ok (.ldc2_w 86, 3) := dk_20 0 86 (dk_at dksX0_sheet_0 10 rfl rfl)
theorem dX0_sheet_13 : decode cX0_sheet 13 = .ok (.invokestatic 14, 3) := dk_184 0 14 (dk_at dksX0_sheet_0 13 rfl rfl)
theorem dX0_sheet_16 : decode cX0_sheet 16 = .ok (.ifCond .eq 9, 3) := dk_153 0 9 (dk_at dksX0_sheet_0 16 rfl rfl)
theorem dX0_sheet_19 : decode cX0_sheet 19 = .ok (.iload_n 3, 1) := dk_29 (dk_at dksX0_sheet_0 19 rfl rfl)
theorem dX0_sheet_20 : decode cX0_sheet 20 = .ok (.bipush 60, 2) := dk_16 60 (dk_at dksX0_sheet_0 20 rfl rfl)
theorem dX0_sheet_22 : decode cX0_sheet 22 = .ok (.if_icmp .le 6, 3) := dk_164 0 6 (dk_at dksX0_sheet_1 0 rfl rfl)
theorem dX0_sheet_25 : decode cX0_sheet 25 = .ok (.bipush (-2), 2) := dk_16 254 (dk_at dksX0_sheet_1 3 rfl rfl)
theorem dX0_sheet_27 : decode cX0_sheet 27 = .ok (.ireturn, 1) := dk_172 (dk_at dksX0_sheet_1 5 rfl rfl)
theorem dX0_sheet_28 : decode cX0_sheet 28 = .ok (.aload_n 0, 1) := dk_42 (dk_at dksX0_sheet_1 6 rfl rfl)
theorem dX0_sheet_29 : decode cX0_sheet 29 = .ok (.getfield 119, 3) := dk_180 0 119 (dk_at dksX0_sheet_1 7 rfl rfl)
theorem dX0_sheet_32 : decode cX0_sheet 32 = .ok (.iload_n 1, 1) := dk_27 (dk_at dksX0_sheet_1 10 rfl rfl)
theorem dX0_sheet_33 : decode cX0_sheet 33 = .ok (.aaload, 1) := dk_50 (dk_at dksX0_sheet_1 11 rfl rfl)
theorem dX0_sheet_34 : decode cX0_sheet 34 = .ok (.iload_n 2, 1) := dk_28 (dk_at dksX0_sheet_1 12 rfl rfl)
theorem dX0_sheet_35 : decode cX0_sheet 35 = .ok (.iload_n 3, 1) := dk_29 (dk_at dksX0_sheet_1 13 rfl rfl)
theorem dX0_sheet_36 : decode cX0_sheet 36 = .ok (.invokestatic 404, 3) := dk_184 1 148 (dk_at dksX0_sheet_1 14 rfl rfl)
theorem dX0_sheet_39 : decode cX0_sheet 39 = .ok (.putfield 123, 3) := dk_181 0 123 (dk_at dksX0_sheet_1 17 rfl rfl)
theorem dX0_sheet_42 : decode cX0_sheet 42 = .ok (.iload_n 3, 1) := dk_29 (dk_at dksX0_sheet_1 20 rfl rfl)
theorem dX0_sheet_43 : decode cX0_sheet 43 = .ok (.ireturn, 1) := dk_172 (dk_at dksX0_sheet_1 21 rfl rfl)
theorem dX0_sheet_44 : decode cX0_sheet 44 = .ok (.astore 4, 2) := dk_58 4 (dk_at dksX0_sheet_1 22 rfl rfl)
theorem dX0_sheet_46 : decode cX0_sheet 46 = .ok (.aload_n 0, 1) := dk_42 (dk_at dksX0_sheet_2 0 rfl rfl)
theorem dX0_sheet_47 : decode cX0_sheet 47 = .ok (.iconst 5, 1) := dk_8 (dk_at dksX0_sheet_2 1 rfl rfl)
theorem dX0_sheet_48 : decode cX0_sheet 48 = .ok (.invokevirtual 129, 3) := dk_182 0 129 (dk_at dksX0_sheet_2 2 rfl rfl)
theorem dX0_sheet_51 : decode cX0_sheet 51 = .ok (.ireturn, 1) := dk_172 (dk_at dksX0_sheet_2 5 rfl rfl)
abbrev cX0_rowOf : ByteArray := prog_1_method_82_code
def yX0_rowOf : MethodName := ⟨RX0, "rowOf", "(II)Ljava/lang/Object;"⟩
def dkwX0_rowOf_2 : List UInt8 := [27, 188, 8, 176, 27, 188, 9, 176, 27, 188, 10, 176]
abbrev dktX0_rowOf_2 : List UInt8 := dkwX0_rowOf_2 ++ []
def dkwX0_rowOf_1 : List UInt8 := [171, 0, 0, 0, 0, 0, 35, 0, 0, 0, 2, 0, 0, 0, 0, 0, 0, 0, 27, 0, 0, 0, 1, 0, 0, 0, 31]
abbrev dktX0_rowOf_1 : List UInt8 := dkwX0_rowOf_1 ++ dktX0_rowOf_2
def dkwX0_rowOf_0 : List UInt8 := [26]
abbrev dktX0_rowOf_0 : List UInt8 := dkwX0_rowOf_0 ++ dktX0_rowOf_1
theorem dksX0_rowOf_0 : cX0_rowOf.data.toList.drop 0 = dktX0_rowOf_0 := by decide +kernel
theorem dksX0_rowOf_1 : cX0_rowOf.data.toList.drop 1 = dktX0_rowOf_1 := dk_seg dksX0_rowOf_0 1 rfl rfl
theorem dksX0_rowOf_2 : cX0_rowOf.data.toList.drop 28 = dktX0_rowOf_2 := dk_seg dksX0_rowOf_1 27 rfl rfl
theorem dX0_rowOf_0 : decode cX0_rowOf 0 = .ok (.iload_n 0, 1) := dk_26 (dk_at dksX0_rowOf_0 0 rfl rfl)
theorem dX0_rowOf_1 : decode cX0_rowOf 1 = .ok (.lookupswitch 35 #[(0, 27), (1, 31)], 27) := by decide +kernel
theorem dX0_rowOf_28 : decode cX0_rowOf 28 = .ok (.iload_n 1, 1) := dk_27 (dk_at dksX0_rowOf_2 0 rfl rfl)
theorem dX0_rowOf_29 : decode cX0_rowOf 29 = .ok (.newarray .byte, 2) := dk_188_8 (dk_at dksX0_rowOf_2 1 rfl rfl)
theorem dX0_rowOf_31 : decode cX0_rowOf 31 = .ok (.areturn, 1) := dk_176 (dk_at dksX0_rowOf_2 3 rfl rfl)
theorem dX0_rowOf_32 : decode cX0_rowOf 32 = .ok (.iload_n 1, 1) := dk_27 (dk_at dksX0_rowOf_2 4 rfl rfl)
theorem dX0_rowOf_33 : decode cX0_rowOf 33 = .ok (.newarray .short, 2) := dk_188_9 (dk_at dksX0_rowOf_2 5 rfl rfl)
theorem dX0_rowOf_35 : decode cX0_rowOf 35 = .ok (.areturn, 1) := dk_176 (dk_at dksX0_rowOf_2 7 rfl rfl)
theorem dX0_rowOf_36 : decode cX0_rowOf 36 = .ok (.iload_n 1, 1) := dk_27 (dk_at dksX0_rowOf_2 8 rfl rfl)
theorem dX0_rowOf_37 : decode cX0_rowOf 37 = .ok (.newarray .int, 2) := dk_188_10 (dk_at dksX0_rowOf_2 9 rfl rfl)
theorem dX0_rowOf_39 : decode cX0_rowOf 39 = .ok (.areturn, 1) := dk_176 (dk_at dksX0_rowOf_2 11 rfl rfl)
abbrev cX0_lose : ByteArray := prog_1_method_84_code
def yX0_lose : MethodName := ⟨RX0, "lose", "(I)I"⟩
def dkwX0_lose_2 : List UInt8 := [28, 172]
abbrev dktX0_lose_2 : List UInt8 := dkwX0_lose_2 ++ []
def dkwX0_lose_1 : List UInt8 := [182, 0, 129, 172, 42, 180, 0, 119, 27, 50, 182, 0, 132, 61, 42, 180, 0, 119, 27, 50, 1, 181, 0, 123]
abbrev dktX0_lose_1 : List UInt8 := dkwX0_lose_1 ++ dktX0_lose_2
def dkwX0_lose_0 : List UInt8 := [27, 184, 0, 116, 154, 0, 6, 16, 254, 172, 42, 180, 0, 119, 27, 50, 180, 0, 123, 199, 0, 9, 42, 4]
abbrev dktX0_lose_0 : List UInt8 := dkwX0_lose_0 ++ dktX0_lose_1
theorem dksX0_lose_0 : cX0_lose.data.toList.drop 0 = dktX0_lose_0 := by decide +kernel
theorem dksX0_lose_1 : cX0_lose.data.toList.drop 24 = dktX0_lose_1 := dk_seg dksX0_lose_0 24 rfl rfl
theorem dksX0_lose_2 : cX0_lose.data.toList.drop 48 = dktX0_lose_2 := dk_seg dksX0_lose_1 24 rfl rfl
theorem dX0_lose_0 : decode cX0_lose 0 = .ok (.iload_n 1, 1) := dk_27 (dk_at dksX0_lose_0 0 rfl rfl)
theorem dX0_lose_1 : decode cX0_lose 1 = .ok (.invokestatic 116, 3) := dk_184 0 116 (dk_at dksX0_lose_0 1 rfl rfl)
theorem dX0_lose_4 : decode cX0_lose 4 = .ok (.ifCond .ne 6, 3) := dk_154 0 6 (dk_at dksX0_lose_0 4 rfl rfl)
theorem dX0_lose_7 : decode cX0_lose 7 = .ok (.bipush (-2), 2) := dk_16 254 (dk_at dksX0_lose_0 7 rfl rfl)
theorem dX0_lose_9 : decode cX0_lose 9 = .ok (.ireturn, 1) := dk_172 (dk_at dksX0_lose_0 9 rfl rfl)
theorem dX0_lose_10 : decode cX0_lose 10 = .ok (.aload_n 0, 1) := dk_42 (dk_at dksX0_lose_0 10 rfl rfl)
theorem dX0_lose_11 : decode cX0_lose 11 = .ok (.getfield 119, 3) := dk_180 0 119 (dk_at dksX0_lose_0 11 rfl rfl)
theorem dX0_lose_14 : decode cX0_lose 14 = .ok (.iload_n 1, 1) := dk_27 (dk_at dksX0_lose_0 14 rfl rfl)
theorem dX0_lose_15 : decode cX0_lose 15 = .ok (.aaload, 1) := dk_50 (dk_at dksX0_lose_0 15 rfl rfl)
theorem dX0_lose_16 : decode cX0_lose 16 = .ok (.getfield 123, 3) := dk_180 0 123 (dk_at dksX0_lose_0 16 rfl rfl)
theorem dX0_lose_19 : decode cX0_lose 19 = .ok (.ifnonnull 9, 3) := dk_199 0 9 (dk_at dksX0_lose_0 19 rfl rfl)
theorem dX0_lose_22 : decode cX0_lose 22 = .ok (.aload_n 0, 1) := dk_42 (dk_at dksX0_lose_0 22 rfl rfl)
theorem dX0_lose_23 : decode cX0_lose 23 = .ok (.iconst 1, 1) := dk_4 (dk_at dksX0_lose_0 23 rfl rfl)
theorem dX0_lose_24 : decode cX0_lose 24 = .ok (.invokevirtual 129, 3) := dk_182 0 129 (dk_at dksX0_lose_1 0 rfl rfl)
theorem dX0_lose_27 : decode cX0_lose 27 = .ok (.ireturn, 1) := dk_172 (dk_at dksX0_lose_1 3 rfl rfl)
theorem dX0_lose_28 : decode cX0_lose 28 = .ok (.aload_n 0, 1) := dk_42 (dk_at dksX0_lose_1 4 rfl rfl)
theorem dX0_lose_29 : decode cX0_lose 29 = .ok (.getfield 119, 3) := dk_180 0 119 (dk_at dksX0_lose_1 5 rfl rfl)
theorem dX0_lose_32 : decode cX0_lose 32 = .ok (.iload_n 1, 1) := dk_27 (dk_at dksX0_lose_1 8 rfl rfl)
theorem dX0_lose_33 : decode cX0_lose 33 = .ok (.aaload, 1) := dk_50 (dk_at dksX0_lose_1 9 rfl rfl)
theorem dX0_lose_34 : decode cX0_lose 34 = .ok (.invokevirtual 132, 3) := dk_182 0 132 (dk_at dksX0_lose_1 10 rfl rfl)
theorem dX0_lose_37 : decode cX0_lose 37 = .ok (.istore_n 2, 1) := dk_61 (dk_at dksX0_lose_1 13 rfl rfl)
theorem dX0_lose_38 : decode cX0_lose 38 = .ok (.aload_n 0, 1) := dk_42 (dk_at dksX0_lose_1 14 rfl rfl)
theorem dX0_lose_39 : decode cX0_lose 39 = .ok (.getfield 119, 3) := dk_180 0 119 (dk_at dksX0_lose_1 15 rfl rfl)
theorem dX0_lose_42 : decode cX0_lose 42 = .ok (.iload_n 1, 1) := dk_27 (dk_at dksX0_lose_1 18 rfl rfl)
theorem dX0_lose_43 : decode cX0_lose 43 = .ok (.aaload, 1) := dk_50 (dk_at dksX0_lose_1 19 rfl rfl)
theorem dX0_lose_44 : decode cX0_lose 44 = .ok (.aconst_null, 1) := dk_1 (dk_at dksX0_lose_1 20 rfl rfl)
theorem dX0_lose_45 : decode cX0_lose 45 = .ok (.putfield 123, 3) := dk_181 0 123 (dk_at dksX0_lose_1 21 rfl rfl)
theorem dX0_lose_48 : decode cX0_lose 48 = .ok (.iload_n 2, 1) := dk_28 (dk_at dksX0_lose_2 0 rfl rfl)
theorem dX0_lose_49 : decode cX0_lose 49 = .ok (.ireturn, 1) := dk_172 (dk_at dksX0_lose_2 1 rfl rfl)
abbrev cX0_put : ByteArray := prog_1_method_85_code
def yX0_put : MethodName := ⟨RX0, "put", "(IIII)I"⟩
def dkwX0_put_2 : List UInt8 := [29, 21, 4, 182, 1, 154, 4, 172, 58, 5, 42, 6, 182, 0, 129, 172, 58, 5, 42, 5, 182, 0, 129, 172]
abbrev dktX0_put_2 : List UInt8 := dkwX0_put_2 ++ []
def dkwX0_put_1 : List UInt8 := [180, 0, 119, 27, 50, 180, 0, 123, 199, 0, 9, 42, 4, 182, 0, 129, 172, 42, 180, 0, 119, 27, 50, 28]
abbrev dktX0_put_1 : List UInt8 := dkwX0_put_1 ++ dktX0_put_2
def dkwX0_put_0 : List UInt8 := [27, 184, 0, 116, 153, 0, 15, 28, 133, 9, 20, 0, 86, 184, 0, 14, 154, 0, 6, 16, 254, 172, 42]
abbrev dktX0_put_0 : List UInt8 := dkwX0_put_0 ++ dktX0_put_1
theorem dksX0_put_0 : cX0_put.data.toList.drop 0 = dktX0_put_0 := by decide +kernel
theorem dksX0_put_1 : cX0_put.data.toList.drop 23 = dktX0_put_1 := dk_seg dksX0_put_0 23 rfl rfl
theorem dksX0_put_2 : cX0_put.data.toList.drop 47 = dktX0_put_2 := dk_seg dksX0_put_1 24 rfl rfl
theorem dX0_put_0 : decode cX0_put 0 = .ok (.iload_n 1, 1) := dk_27 (dk_at dksX0_put_0 0 rfl rfl)
theorem dX0_put_1 : decode cX0_put 1 = .ok (.invokestatic 116, 3) := dk_184 0 116 (dk_at dksX0_put_0 1 rfl rfl)
theorem dX0_put_4 : decode cX0_put 4 = .ok (.ifCond .eq 15, 3) := dk_153 0 15 (dk_at dksX0_put_0 4 rfl rfl)
theorem dX0_put_7 : decode cX0_put 7 = .ok (.iload_n 2, 1) := dk_28 (dk_at dksX0_put_0 7 rfl rfl)
theorem dX0_put_8 : decode cX0_put 8 = .ok (.i2l, 1) := dk_133 (dk_at dksX0_put_0 8 rfl rfl)
theorem dX0_put_9 : decode cX0_put 9 = .ok (.lconst 0, 1) := dk_9 (dk_at dksX0_put_0 9 rfl rfl)
theorem dX0_put_10 : decode cX0_put 10 = .ok (.ldc2_w 86, 3) := dk_20 0 86 (dk_at dksX0_put_0 10 rfl rfl)
theorem dX0_put_13 : decode cX0_put 13 = .ok (.invokestatic 14, 3) := dk_184 0 14 (dk_at dksX0_put_0 13 rfl rfl)
theorem dX0_put_16 : decode cX0_put 16 = .ok (.ifCond .ne 6, 3) := dk_154 0 6 (dk_at dksX0_put_0 16 rfl rfl)
theorem dX0_put_19 : decode cX0_put 19 = .ok (.bipush (-2), 2) := dk_16 254 (dk_at dksX0_put_0 19 rfl rfl)
theorem dX0_put_21 : decode cX0_put 21 = .ok (.ireturn, 1) := dk_172 (dk_at dksX0_put_0 21 rfl rfl)
theorem dX0_put_22 : decode cX0_put 22 = .ok (.aload_n 0, 1) := dk_42 (dk_at dksX0_put_0 22 rfl rfl)
theorem dX0_put_23 : decode cX0_put 23 = .ok (.getfield 119, 3) := dk_180 0 119 (dk_at dksX0_put_1 0 rfl rfl)
theorem dX0_put_26 : decode cX0_put 26 = .ok (.iload_n 1, 1) := dk_27 (dk_at dksX0_put_1 3 rfl rfl)
theorem dX0_put_27 : decode cX0_put 27 = .ok (.aaload, 1) := dk_50 (dk_at dksX0_put_1 4 rfl rfl)
theorem dX0_put_28 : decode cX0_put 28 = .ok (.getfield 123, 3) := dk_180 0 123 (dk_at dksX0_put_1 5 rfl rfl)
theorem dX0_put_31 : decode cX0_put 31 = .ok (.ifnonnull 9, 3) := dk_199 0 9 (dk_at dksX0_put_1 8 rfl rfl)
theorem dX0_put_34 : decode cX0_put 34 = .ok (.aload_n 0, 1) := dk_42 (dk_at dksX0_put_1 11 rfl rfl)
theorem dX0_put_35 : decode cX0_put 35 = .ok (.iconst 1, 1) := dk_4 (dk_at dksX0_put_1 12 rfl rfl)
theorem dX0_put_36 : decode cX0_put 36 = .ok (.invokevirtual 129, 3) := dk_182 0 129 (dk_at dksX0_put_1 13 rfl rfl)
theorem dX0_put_39 : decode cX0_put 39 = .ok (.ireturn, 1) := dk_172 (dk_at dksX0_put_1 16 rfl rfl)
theorem dX0_put_40 : decode cX0_put 40 = .ok (.aload_n 0, 1) := dk_42 (dk_at dksX0_put_1 17 rfl rfl)
theorem dX0_put_41 : decode cX0_put 41 = .ok (.getfield 119, 3) := dk_180 0 119 (dk_at dksX0_put_1 18 rfl rfl)
theorem dX0_put_44 : decode cX0_put 44 = .ok (.iload_n 1, 1) := dk_27 (dk_at dksX0_put_1 21 rfl rfl)
theorem dX0_put_45 : decode cX0_put 45 = .ok (.aaload, 1) := dk_50 (dk_at dksX0_put_1 22 rfl rfl)
theorem dX0_put_46 : decode cX0_put 46 = .ok (.iload_n 2, 1) := dk_28 (dk_at dksX0_put_1 23 rfl rfl)
theorem dX0_put_47 : decode cX0_put 47 = .ok (.iload_n 3, 1) := dk_29 (dk_at dksX0_put_2 0 rfl rfl)
theorem dX0_put_48 : decode cX0_put 48 = .ok (.iload 4, 2) := dk_21 4 (dk_at dksX0_put_2 1 rfl rfl)
theorem dX0_put_50 : decode cX0_put 50 = .ok (.invokevirtual 410, 3) := dk_182 1 154 (dk_at dksX0_put_2 3 rfl rfl)
theorem dX0_put_53 : decode cX0_put 53 = .ok (.iconst 1, 1) := dk_4 (dk_at dksX0_put_2 6 rfl rfl)
theorem dX0_put_54 : decode cX0_put 54 = .ok (.ireturn, 1) := dk_172 (dk_at dksX0_put_2 7 rfl rfl)
theorem dX0_put_55 : decode cX0_put 55 = .ok (.astore 5, 2) := dk_58 5 (dk_at dksX0_put_2 8 rfl rfl)
theorem dX0_put_57 : decode cX0_put 57 = .ok (.aload_n 0, 1) := dk_42 (dk_at dksX0_put_2 10 rfl rfl)
theorem dX0_put_58 : decode cX0_put 58 = .ok (.iconst 3, 1) := dk_6 (dk_at dksX0_put_2 11 rfl rfl)
theorem dX0_put_59 : decode cX0_put 59 = .ok (.invokevirtual 129, 3) := dk_182 0 129 (dk_at dksX0_put_2 12 rfl rfl)
theorem dX0_put_62 : decode cX0_put 62 = .ok (.ireturn, 1) := dk_172 (dk_at dksX0_put_2 15 rfl rfl)
theorem dX0_put_63 : decode cX0_put 63 = .ok (.astore 5, 2) := dk_58 5 (dk_at dksX0_put_2 16 rfl rfl)
theorem dX0_put_65 : decode cX0_put 65 = .ok (.aload_n 0, 1) := dk_42 (dk_at dksX0_put_2 18 rfl rfl)
theorem dX0_put_66 : decode cX0_put 66 = .ok (.iconst 2, 1) := dk_5 (dk_at dksX0_put_2 19 rfl rfl)
theorem dX0_put_67 : decode cX0_put 67 = .ok (.invokevirtual 129, 3) := dk_182 0 129 (dk_at dksX0_put_2 20 rfl rfl)
theorem dX0_put_70 : decode cX0_put 70 = .ok (.ireturn, 1) := dk_172 (dk_at dksX0_put_2 23 rfl rfl)
abbrev cX0_get : ByteArray := prog_1_method_86_code
def yX0_get : MethodName := ⟨RX0, "get", "(III)I"⟩
def dkwX0_get_2 : List UInt8 := [29, 182, 0, 135, 172, 58, 4, 42, 6, 182, 1, 161, 172, 58, 4, 42, 5, 182, 1, 161, 172]
abbrev dktX0_get_2 : List UInt8 := dkwX0_get_2 ++ []
def dkwX0_get_1 : List UInt8 := [180, 0, 119, 27, 50, 180, 0, 123, 199, 0, 9, 42, 4, 182, 1, 161, 172, 42, 180, 0, 119, 27, 50, 28]
abbrev dktX0_get_1 : List UInt8 := dkwX0_get_1 ++ dktX0_get_2
def dkwX0_get_0 : List UInt8 := [27, 184, 0, 116, 153, 0, 15, 28, 133, 9, 20, 0, 86, 184, 0, 14, 154, 0, 6, 18, 13, 172, 42]
abbrev dktX0_get_0 : List UInt8 := dkwX0_get_0 ++ dktX0_get_1
theorem dksX0_get_0 : cX0_get.data.toList.drop 0 = dktX0_get_0 := by decide +kernel
theorem dksX0_get_1 : cX0_get.data.toList.drop 23 = dktX0_get_1 := dk_seg dksX0_get_0 23 rfl rfl
theorem dksX0_get_2 : cX0_get.data.toList.drop 47 = dktX0_get_2 := dk_seg dksX0_get_1 24 rfl rfl
theorem dX0_get_0 : decode cX0_get 0 = .ok (.iload_n 1, 1) := dk_27 (dk_at dksX0_get_0 0 rfl rfl)
theorem dX0_get_1 : decode cX0_get 1 = .ok (.invokestatic 116, 3) := dk_184 0 116 (dk_at dksX0_get_0 1 rfl rfl)
theorem dX0_get_4 : decode cX0_get 4 = .ok (.ifCond .eq 15, 3) := dk_153 0 15 (dk_at dksX0_get_0 4 rfl rfl)
theorem dX0_get_7 : decode cX0_get 7 = .ok (.iload_n 2, 1) := dk_28 (dk_at dksX0_get_0 7 rfl rfl)
theorem dX0_get_8 : decode cX0_get 8 = .ok (.i2l, 1) := dk_133 (dk_at dksX0_get_0 8 rfl rfl)
theorem dX0_get_9 : decode cX0_get 9 = .ok (.lconst 0, 1) := dk_9 (dk_at dksX0_get_0 9 rfl rfl)
theorem dX0_get_10 : decode cX0_get 10 = .ok (.ldc2_w 86, 3) := dk_20 0 86 (dk_at dksX0_get_0 10 rfl rfl)
theorem dX0_get_13 : decode cX0_get 13 = .ok (.invokestatic 14, 3) := dk_184 0 14 (dk_at dksX0_get_0 13 rfl rfl)
theorem dX0_get_16 : decode cX0_get 16 = .ok (.ifCond .ne 6, 3) := dk_154 0 6 (dk_at dksX0_get_0 16 rfl rfl)
theorem dX0_get_19 : decode cX0_get 19 = .ok (.ldc 13, 2) := dk_18 13 (dk_at dksX0_get_0 19 rfl rfl)
theorem dX0_get_21 : decode cX0_get 21 = .ok (.ireturn, 1) := dk_172 (dk_at dksX0_get_0 21 rfl rfl)
theorem dX0_get_22 : decode cX0_get 22 = .ok (.aload_n 0, 1) := dk_42 (dk_at dksX0_get_0 22 rfl rfl)
theorem dX0_get_23 : decode cX0_get 23 = .ok (.getfield 119, 3) := dk_180 0 119 (dk_at dksX0_get_1 0 rfl rfl)
theorem dX0_get_26 : decode cX0_get 26 = .ok (.iload_n 1, 1) := dk_27 (dk_at dksX0_get_1 3 rfl rfl)
theorem dX0_get_27 : decode cX0_get 27 = .ok (.aaload, 1) := dk_50 (dk_at dksX0_get_1 4 rfl rfl)
theorem dX0_get_28 : decode cX0_get 28 = .ok (.getfield 123, 3) := dk_180 0 123 (dk_at dksX0_get_1 5 rfl rfl)
theorem dX0_get_31 : decode cX0_get 31 = .ok (.ifnonnull 9, 3) := dk_199 0 9 (dk_at dksX0_get_1 8 rfl rfl)
theorem dX0_get_34 : decode cX0_get 34 = .ok (.aload_n 0, 1) := dk_42 (dk_at dksX0_get_1 11 rfl rfl)
theorem dX0_get_35 : decode cX0_get 35 = .ok (.iconst 1, 1) := dk_4 (dk_at dksX0_get_1 12 rfl rfl)
theorem dX0_get_36 : decode cX0_get 36 = .ok (.invokevirtual 417, 3) := dk_182 1 161 (dk_at dksX0_get_1 13 rfl rfl)
theorem dX0_get_39 : decode cX0_get 39 = .ok (.ireturn, 1) := dk_172 (dk_at dksX0_get_1 16 rfl rfl)
theorem dX0_get_40 : decode cX0_get 40 = .ok (.aload_n 0, 1) := dk_42 (dk_at dksX0_get_1 17 rfl rfl)
theorem dX0_get_41 : decode cX0_get 41 = .ok (.getfield 119, 3) := dk_180 0 119 (dk_at dksX0_get_1 18 rfl rfl)
theorem dX0_get_44 : decode cX0_get 44 = .ok (.iload_n 1, 1) := dk_27 (dk_at dksX0_get_1 21 rfl rfl)
theorem dX0_get_45 : decode cX0_get 45 = .ok (.aaload, 1) := dk_50 (dk_at dksX0_get_1 22 rfl rfl)
theorem dX0_get_46 : decode cX0_get 46 = .ok (.iload_n 2, 1) := dk_28 (dk_at dksX0_get_1 23 rfl rfl)
theorem dX0_get_47 : decode cX0_get 47 = .ok (.iload_n 3, 1) := dk_29 (dk_at dksX0_get_2 0 rfl rfl)
theorem dX0_get_48 : decode cX0_get 48 = .ok (.invokevirtual 135, 3) := dk_182 0 135 (dk_at dksX0_get_2 1 rfl rfl)
theorem dX0_get_51 : decode cX0_get 51 = .ok (.ireturn, 1) := dk_172 (dk_at dksX0_get_2 4 rfl rfl)
theorem dX0_get_52 : decode cX0_get 52 = .ok (.astore 4, 2) := dk_58 4 (dk_at dksX0_get_2 5 rfl rfl)
theorem dX0_get_54 : decode cX0_get 54 = .ok (.aload_n 0, 1) := dk_42 (dk_at dksX0_get_2 7 rfl rfl)
theorem dX0_get_55 : decode cX0_get 55 = .ok (.iconst 3, 1) := dk_6 (dk_at dksX0_get_2 8 rfl rfl)
theorem dX0_get_56 : decode cX0_get 56 = .ok (.invokevirtual 417, 3) := dk_182 1 161 (dk_at dksX0_get_2 9 rfl rfl)
theorem dX0_get_59 : decode cX0_get 59 = .ok (.ireturn, 1) := dk_172 (dk_at dksX0_get_2 12 rfl rfl)
theorem dX0_get_60 : decode cX0_get 60 = .ok (.astore 4, 2) := dk_58 4 (dk_at dksX0_get_2 13 rfl rfl)
theorem dX0_get_62 : decode cX0_get 62 = .ok (.aload_n 0, 1) := dk_42 (dk_at dksX0_get_2 15 rfl rfl)
theorem dX0_get_63 : decode cX0_get 63 = .ok (.iconst 2, 1) := dk_5 (dk_at dksX0_get_2 16 rfl rfl)
theorem dX0_get_64 : decode cX0_get 64 = .ok (.invokevirtual 417, 3) := dk_182 1 161 (dk_at dksX0_get_2 17 rfl rfl)
theorem dX0_get_67 : decode cX0_get 67 = .ok (.ireturn, 1) := dk_172 (dk_at dksX0_get_2 20 rfl rfl)
abbrev cX0_lowest : ByteArray := prog_1_method_4_code
def yX0_lowest : MethodName := ⟨RX0, "lowest", "(I)I"⟩
def dkwX0_lowest_0 : List UInt8 := [42, 27, 181, 0, 9, 18, 13, 172]
abbrev dktX0_lowest_0 : List UInt8 := dkwX0_lowest_0 ++ []
theorem dksX0_lowest_0 : cX0_lowest.data.toList.drop 0 = dktX0_lowest_0 := by decide +kernel
theorem dX0_lowest_0 : decode cX0_lowest 0 = .ok (.aload_n 0, 1) := dk_42 (dk_at dksX0_lowest_0 0 rfl rfl)
theorem dX0_lowest_1 : decode cX0_lowest 1 = .ok (.iload_n 1, 1) := dk_27 (dk_at dksX0_lowest_0 1 rfl rfl)
theorem dX0_lowest_2 : decode cX0_lowest 2 = .ok (.putfield 9, 3) := dk_181 0 9 (dk_at dksX0_lowest_0 2 rfl rfl)
theorem dX0_lowest_5 : decode cX0_lowest 5 = .ok (.ldc 13, 2) := dk_18 13 (dk_at dksX0_lowest_0 5 rfl rfl)
theorem dX0_lowest_7 : decode cX0_lowest 7 = .ok (.ireturn, 1) := dk_172 (dk_at dksX0_lowest_0 7 rfl rfl)
abbrev cX0_copy : ByteArray := prog_1_method_87_code
def yX0_copy : MethodName := ⟨RX0, "copy", "(IIIII)I"⟩
def dkwX0_copy_4 : List UInt8 := [21, 4, 21, 5, 184, 1, 24, 4, 172, 58, 6, 42, 5, 182, 0, 129, 172]
abbrev dktX0_copy_4 : List UInt8 := dkwX0_copy_4 ++ []
def dkwX0_copy_3 : List UInt8 := [182, 0, 129, 172, 42, 180, 0, 119, 27, 50, 180, 0, 123, 28, 42, 180, 0, 119, 29, 50, 180, 0, 123]
abbrev dktX0_copy_3 : List UInt8 := dkwX0_copy_3 ++ dktX0_copy_4
def dkwX0_copy_2 : List UInt8 := [42, 180, 0, 119, 27, 50, 182, 0, 133, 42, 180, 0, 119, 29, 50, 182, 0, 133, 159, 0, 9, 42, 7]
abbrev dktX0_copy_2 : List UInt8 := dkwX0_copy_2 ++ dktX0_copy_3
def dkwX0_copy_1 : List UInt8 := [180, 0, 123, 198, 0, 15, 42, 180, 0, 119, 29, 50, 180, 0, 123, 199, 0, 9, 42, 4, 182, 0, 129, 172]
abbrev dktX0_copy_1 : List UInt8 := dkwX0_copy_1 ++ dktX0_copy_2
def dkwX0_copy_0 : List UInt8 := [27, 184, 0, 116, 153, 0, 10, 29, 184, 0, 116, 154, 0, 6, 16, 254, 172, 42, 180, 0, 119, 27, 50]
abbrev dktX0_copy_0 : List UInt8 := dkwX0_copy_0 ++ dktX0_copy_1
theorem dksX0_copy_0 : cX0_copy.data.toList.drop 0 = dktX0_copy_0 := by decide +kernel
theorem dksX0_copy_1 : cX0_copy.data.toList.drop 23 = dktX0_copy_1 := dk_seg dksX0_copy_0 23 rfl rfl
theorem dksX0_copy_2 : cX0_copy.data.toList.drop 47 = dktX0_copy_2 := dk_seg dksX0_copy_1 24 rfl rfl
theorem dksX0_copy_3 : cX0_copy.data.toList.drop 70 = dktX0_copy_3 := dk_seg dksX0_copy_2 23 rfl rfl
theorem dksX0_copy_4 : cX0_copy.data.toList.drop 93 = dktX0_copy_4 := dk_seg dksX0_copy_3 23 rfl rfl
theorem dX0_copy_0 : decode cX0_copy 0 = .ok (.iload_n 1, 1) := dk_27 (dk_at dksX0_copy_0 0 rfl rfl)
theorem dX0_copy_1 : decode cX0_copy 1 = .ok (.invokestatic 116, 3) := dk_184 0 116 (dk_at dksX0_copy_0 1 rfl rfl)
theorem dX0_copy_4 : decode cX0_copy 4 = .ok (.ifCond .eq 10, 3) := dk_153 0 10 (dk_at dksX0_copy_0 4 rfl rfl)
theorem dX0_copy_7 : decode cX0_copy 7 = .ok (.iload_n 3, 1) := dk_29 (dk_at dksX0_copy_0 7 rfl rfl)
theorem dX0_copy_8 : decode cX0_copy 8 = .ok (.invokestatic 116, 3) := dk_184 0 116 (dk_at dksX0_copy_0 8 rfl rfl)
theorem dX0_copy_11 : decode cX0_copy 11 = .ok (.ifCond .ne 6, 3) := dk_154 0 6 (dk_at dksX0_copy_0 11 rfl rfl)
theorem dX0_copy_14 : decode cX0_copy 14 = .ok (.bipush (-2), 2) := dk_16 254 (dk_at dksX0_copy_0 14 rfl rfl)
theorem dX0_copy_16 : decode cX0_copy 16 = .ok (.ireturn, 1) := dk_172 (dk_at dksX0_copy_0 16 rfl rfl)
theorem dX0_copy_17 : decode cX0_copy 17 = .ok (.aload_n 0, 1) := dk_42 (dk_at dksX0_copy_0 17 rfl rfl)
theorem dX0_copy_18 : decode cX0_copy 18 = .ok (.getfield 119, 3) := dk_180 0 119 (dk_at dksX0_copy_0 18 rfl rfl)
theorem dX0_copy_21 : decode cX0_copy 21 = .ok (.iload_n 1, 1) := dk_27 (dk_at dksX0_copy_0 21 rfl rfl)
theorem dX0_copy_22 : decode cX0_copy 22 = .ok (.aaload, 1) := dk_50 (dk_at dksX0_copy_0 22 rfl rfl)
theorem dX0_copy_23 : decode cX0_copy 23 = .ok (.getfield 123, 3) := dk_180 0 123 (dk_at dksX0_copy_1 0 rfl rfl)
theorem dX0_copy_26 : decode cX0_copy 26 = .ok (.ifnull 15, 3) := dk_198 0 15 (dk_at dksX0_copy_1 3 rfl rfl)
theorem dX0_copy_29 : decode cX0_copy 29 = .ok (.aload_n 0, 1) := dk_42 (dk_at dksX0_copy_1 6 rfl rfl)
theorem dX0_copy_30 : decode cX0_copy 30 = .ok (.getfield 119, 3) := dk_180 0 119 (dk_at dksX0_copy_1 7 rfl rfl)
theorem dX0_copy_33 : decode cX0_copy 33 = .ok (.iload_n 3, 1) := dk_29 (dk_at dksX0_copy_1 10 rfl rfl)
theorem dX0_copy_34 : decode cX0_copy 34 = .ok (.aaload, 1) := dk_50 (dk_at dksX0_copy_1 11 rfl rfl)
theorem dX0_copy_35 : decode cX0_copy 35 = .ok (.getfield 123, 3) := dk_180 0 123 (dk_at dksX0_copy_1 12 rfl rfl)
theorem dX0_copy_38 : decode cX0_copy 38 = .ok (.ifnonnull 9, 3) := dk_199 0 9 (dk_at dksX0_copy_1 15 rfl rfl)
theorem dX0_copy_41 : decode cX0_copy 41 = .ok (.aload_n 0, 1) := dk_42 (dk_at dksX0_copy_1 18 rfl rfl)
theorem dX0_copy_42 : decode cX0_copy 42 = .ok (.iconst 1, 1) := dk_4 (dk_at dksX0_copy_1 19 rfl rfl)
theorem dX0_copy_43 : decode cX0_copy 43 = .ok (.invokevirtual 129, 3) := dk_182 0 129 (dk_at dksX0_copy_1 20 rfl rfl)
theorem dX0_copy_46 : decode cX0_copy 46 = .ok (.ireturn, 1) := dk_172 (dk_at dksX0_copy_1 23 rfl rfl)
theorem dX0_copy_47 : decode cX0_copy 47 = .ok (.aload_n 0, 1) := dk_42 (dk_at dksX0_copy_2 0 rfl rfl)
theorem dX0_copy_48 : decode cX0_copy 48 = .ok (.getfield 119, 3) := dk_180 0 119 (dk_at dksX0_copy_2 1 rfl rfl)
theorem dX0_copy_51 : decode cX0_copy 51 = .ok (.iload_n 1, 1) := dk_27 (dk_at dksX0_copy_2 4 rfl rfl)
theorem dX0_copy_52 : decode cX0_copy 52 = .ok (.aaload, 1) := dk_50 (dk_at dksX0_copy_2 5 rfl rfl)
theorem dX0_copy_53 : decode cX0_copy 53 = .ok (.invokevirtual 133, 3) := dk_182 0 133 (dk_at dksX0_copy_2 6 rfl rfl)
theorem dX0_copy_56 : decode cX0_copy 56 = .ok (.aload_n 0, 1) := dk_42 (dk_at dksX0_copy_2 9 rfl rfl)
theorem dX0_copy_57 : decode cX0_copy 57 = .ok (.getfield 119, 3) := dk_180 0 119 (dk_at dksX0_copy_2 10 rfl rfl)
theorem dX0_copy_60 : decode cX0_copy 60 = .ok (.iload_n 3, 1) := dk_29 (dk_at dksX0_copy_2 13 rfl rfl)
theorem dX0_copy_61 : decode cX0_copy 61 = .ok (.aaload, 1) := dk_50 (dk_at dksX0_copy_2 14 rfl rfl)
theorem dX0_copy_62 : decode cX0_copy 62 = .ok (.invokevirtual 133, 3) := dk_182 0 133 (dk_at dksX0_copy_2 15 rfl rfl)
theorem dX0_copy_65 : decode cX0_copy 65 = .ok (.if_icmp .eq 9, 3) := dk_159 0 9 (dk_at dksX0_copy_2 18 rfl rfl)
theorem dX0_copy_68 : decode cX0_copy 68 = .ok (.aload_n 0, 1) := dk_42 (dk_at dksX0_copy_2 21 rfl rfl)
theorem dX0_copy_69 : decode cX0_copy 69 = .ok (.iconst 4, 1) := dk_7 (dk_at dksX0_copy_2 22 rfl rfl)
theorem dX0_copy_70 : decode cX0_copy 70 = .ok (.invokevirtual 129, 3) := dk_182 0 129 (dk_at dksX0_copy_3 0 rfl rfl)
theorem dX0_copy_73 : decode cX0_copy 73 = .ok (.ireturn, 1) := dk_172 (dk_at dksX0_copy_3 3 rfl rfl)
theorem dX0_copy_74 : decode cX0_copy 74 = .ok (.aload_n 0, 1) := dk_42 (dk_at dksX0_copy_3 4 rfl rfl)
theorem dX0_copy_75 : decode cX0_copy 75 = .ok (.getfield 119, 3) := dk_180 0 119 (dk_at dksX0_copy_3 5 rfl rfl)
theorem dX0_copy_78 : decode cX0_copy 78 = .ok (.iload_n 1, 1) := dk_27 (dk_at dksX0_copy_3 8 rfl rfl)
theorem dX0_copy_79 : decode cX0_copy 79 = .ok (.aaload, 1) := dk_50 (dk_at dksX0_copy_3 9 rfl rfl)
theorem dX0_copy_80 : decode cX0_copy 80 = .ok (.getfield 123, 3) := dk_180 0 123 (dk_at dksX0_copy_3 10 rfl rfl)
theorem dX0_copy_83 : decode cX0_copy 83 = .ok (.iload_n 2, 1) := dk_28 (dk_at dksX0_copy_3 13 rfl rfl)
theorem dX0_copy_84 : decode cX0_copy 84 = .ok (.aload_n 0, 1) := dk_42 (dk_at dksX0_copy_3 14 rfl rfl)
theorem dX0_copy_85 : decode cX0_copy 85 = .ok (.getfield 119, 3) := dk_180 0 119 (dk_at dksX0_copy_3 15 rfl rfl)
theorem dX0_copy_88 : decode cX0_copy 88 = .ok (.iload_n 3, 1) := dk_29 (dk_at dksX0_copy_3 18 rfl rfl)
theorem dX0_copy_89 : decode cX0_copy 89 = .ok (.aaload, 1) := dk_50 (dk_at dksX0_copy_3 19 rfl rfl)
theorem dX0_copy_90 : decode cX0_copy 90 = .ok (.getfield 123, 3) := dk_180 0 123 (dk_at dksX0_copy_3 20 rfl rfl)
theorem dX0_copy_93 : decode cX0_copy 93 = .ok (.iload 4, 2) := dk_21 4 (dk_at dksX0_copy_4 0 rfl rfl)
theorem dX0_copy_95 : decode cX0_copy 95 = .ok (.iload 5, 2) := dk_21 5 (dk_at dksX0_copy_4 2 rfl rfl)
theorem dX0_copy_97 : decode cX0_copy 97 = .ok (.invokestatic 280, 3) := dk_184 1 24 (dk_at dksX0_copy_4 4 rfl rfl)
theorem dX0_copy_100 : decode cX0_copy 100 = .ok (.iconst 1, 1) := dk_4 (dk_at dksX0_copy_4 7 rfl rfl)
theorem dX0_copy_101 : decode cX0_copy 101 = .ok (.ireturn, 1) := dk_172 (dk_at dksX0_copy_4 8 rfl rfl)
theorem dX0_copy_102 : decode cX0_copy 102 = .ok (.astore 6, 2) := dk_58 6 (dk_at dksX0_copy_4 9 rfl rfl)
theorem dX0_copy_104 : decode cX0_copy 104 = .ok (.aload_n 0, 1) := dk_42 (dk_at dksX0_copy_4 11 rfl rfl)
theorem dX0_copy_105 : decode cX0_copy 105 = .ok (.iconst 2, 1) := dk_5 (dk_at dksX0_copy_4 12 rfl rfl)
theorem dX0_copy_106 : decode cX0_copy 106 = .ok (.invokevirtual 129, 3) := dk_182 0 129 (dk_at dksX0_copy_4 13 rfl rfl)
theorem dX0_copy_109 : decode cX0_copy 109 = .ok (.ireturn, 1) := dk_172 (dk_at dksX0_copy_4 16 rfl rfl)
abbrev cX0_write : ByteArray := prog_1_method_88_code
def yX0_write : MethodName := ⟨RX0, "write", "(II)I"⟩
def dkwX0_write_3 : List UInt8 := [180, 0, 173, 27, 50, 21, 5, 46, 182, 1, 154, 132, 5, 1, 167, 255, 227, 21, 4, 172]
abbrev dktX0_write_3 : List UInt8 := dkwX0_write_3 ++ []
def dkwX0_write_2 : List UInt8 := [184, 0, 216, 54, 4, 3, 54, 5, 21, 5, 21, 4, 162, 0, 28, 45, 45, 182, 0, 133, 21, 5, 42]
abbrev dktX0_write_2 : List UInt8 := dkwX0_write_2 ++ dktX0_write_3
def dkwX0_write_1 : List UInt8 := [45, 180, 0, 123, 199, 0, 9, 42, 4, 182, 0, 129, 172, 42, 182, 1, 37, 16, 12, 45, 182, 0, 132]
abbrev dktX0_write_1 : List UInt8 := dkwX0_write_1 ++ dktX0_write_2
def dkwX0_write_0 : List UInt8 := [27, 184, 0, 99, 153, 0, 10, 28, 184, 0, 116, 154, 0, 6, 16, 254, 172, 42, 180, 0, 119, 28, 50, 78]
abbrev dktX0_write_0 : List UInt8 := dkwX0_write_0 ++ dktX0_write_1
theorem dksX0_write_0 : cX0_write.data.toList.drop 0 = dktX0_write_0 := by decide +kernel
theorem dksX0_write_1 : cX0_write.data.toList.drop 24 = dktX0_write_1 := dk_seg dksX0_write_0 24 rfl rfl
theorem dksX0_write_2 : cX0_write.data.toList.drop 47 = dktX0_write_2 := dk_seg dksX0_write_1 23 rfl rfl
theorem dksX0_write_3 : cX0_write.data.toList.drop 70 = dktX0_write_3 := dk_seg dksX0_write_2 23 rfl rfl
theorem dX0_write_0 : decode cX0_write 0 = .ok (.iload_n 1, 1) := dk_27 (dk_at dksX0_write_0 0 rfl rfl)
theorem dX0_write_1 : decode cX0_write 1 = .ok (.invokestatic 99, 3) := dk_184 0 99 (dk_at dksX0_write_0 1 rfl rfl)
theorem dX0_write_4 : decode cX0_write 4 = .ok (.ifCond .eq 10, 3) := dk_153 0 10 (dk_at dksX0_write_0 4 rfl rfl)
theorem dX0_write_7 : decode cX0_write 7 = .ok (.iload_n 2, 1) := dk_28 (dk_at dksX0_write_0 7 rfl rfl)
theorem dX0_write_8 : decode cX0_write 8 = .ok (.invokestatic 116, 3) := dk_184 0 116 (dk_at dksX0_write_0 8 rfl rfl)
theorem dX0_write_11 : decode cX0_write 11 = .ok (.ifCond .ne 6, 3) := dk_154 0 6 (dk_at dksX0_write_0 11 rfl rfl)
theorem dX0_write_14 : decode cX0_write 14 = .ok (.bipush (-2), 2) := dk_16 254 (dk_at dksX0_write_0 14 rfl rfl)
theorem dX0_write_16 : decode cX0_write 16 = .ok (.ireturn, 1) := dk_172 (dk_at dksX0_write_0 16 rfl rfl)
theorem dX0_write_17 : decode cX0_write 17 = .ok (.aload_n 0, 1) := dk_42 (dk_at dksX0_write_0 17 rfl rfl)
theorem dX0_write_18 : decode cX0_write 18 = .ok (.getfield 119, 3) := dk_180 0 119 (dk_at dksX0_write_0 18 rfl rfl)
theorem dX0_write_21 : decode cX0_write 21 = .ok (.iload_n 2, 1) := dk_28 (dk_at dksX0_write_0 21 rfl rfl)
theorem dX0_write_22 : decode cX0_write 22 = .ok (.aaload, 1) := dk_50 (dk_at dksX0_write_0 22 rfl rfl)
theorem dX0_write_23 : decode cX0_write 23 = .ok (.astore_n 3, 1) := dk_78 (dk_at dksX0_write_0 23 rfl rfl)
theorem dX0_write_24 : decode cX0_write 24 = .ok (.aload_n 3, 1) := dk_45 (dk_at dksX0_write_1 0 rfl rfl)
theorem dX0_write_25 : decode cX0_write 25 = .ok (.getfield 123, 3) := dk_180 0 123 (dk_at dksX0_write_1 1 rfl rfl)
theorem dX0_write_28 : decode cX0_write 28 = .ok (.ifnonnull 9, 3) := dk_199 0 9 (dk_at dksX0_write_1 4 rfl rfl)
theorem dX0_write_31 : decode cX0_write 31 = .ok (.aload_n 0, 1) := dk_42 (dk_at dksX0_write_1 7 rfl rfl)
theorem dX0_write_32 : decode cX0_write 32 = .ok (.iconst 1, 1) := dk_4 (dk_at dksX0_write_1 8 rfl rfl)
theorem dX0_write_33 : decode cX0_write 33 = .ok (.invokevirtual 129, 3) := dk_182 0 129 (dk_at dksX0_write_1 9 rfl rfl)
theorem dX0_write_36 : decode cX0_write 36 = .ok (.ireturn, 1) := dk_172 (dk_at dksX0_write_1 12 rfl rfl)
theorem dX0_write_37 : decode cX0_write 37 = .ok (.aload_n 0, 1) := dk_42 (dk_at dksX0_write_1 13 rfl rfl)
theorem dX0_write_38 : decode cX0_write 38 = .ok (.invokevirtual 293, 3) := dk_182 1 37 (dk_at dksX0_write_1 14 rfl rfl)
theorem dX0_write_41 : decode cX0_write 41 = .ok (.bipush 12, 2) := dk_16 12 (dk_at dksX0_write_1 17 rfl rfl)
theorem dX0_write_43 : decode cX0_write 43 = .ok (.aload_n 3, 1) := dk_45 (dk_at dksX0_write_1 19 rfl rfl)
theorem dX0_write_44 : decode cX0_write 44 = .ok (.invokevirtual 132, 3) := dk_182 0 132 (dk_at dksX0_write_1 20 rfl rfl)
theorem dX0_write_47 : decode cX0_write 47 = .ok (.invokestatic 216, 3) := dk_184 0 216 (dk_at dksX0_write_2 0 rfl rfl)
theorem dX0_write_50 : decode cX0_write 50 = .ok (.istore 4, 2) := dk_54 4 (dk_at dksX0_write_2 3 rfl rfl)
theorem dX0_write_52 : decode cX0_write 52 = .ok (.iconst 0, 1) := dk_3 (dk_at dksX0_write_2 5 rfl rfl)
theorem dX0_write_53 : decode cX0_write 53 = .ok (.istore 5, 2) := dk_54 5 (dk_at dksX0_write_2 6 rfl rfl)
theorem dX0_write_55 : decode cX0_write 55 = .ok (.iload 5, 2) := dk_21 5 (dk_at dksX0_write_2 8 rfl rfl)
theorem dX0_write_57 : decode cX0_write 57 = .ok (.iload 4, 2) := dk_21 4 (dk_at dksX0_write_2 10 rfl rfl)
theorem dX0_write_59 : decode cX0_write 59 = .ok (.if_icmp .ge 28, 3) := dk_162 0 28 (dk_at dksX0_write_2 12 rfl rfl)
theorem dX0_write_62 : decode cX0_write 62 = .ok (.aload_n 3, 1) := dk_45 (dk_at dksX0_write_2 15 rfl rfl)
theorem dX0_write_63 : decode cX0_write 63 = .ok (.aload_n 3, 1) := dk_45 (dk_at dksX0_write_2 16 rfl rfl)
theorem dX0_write_64 : decode cX0_write 64 = .ok (.invokevirtual 133, 3) := dk_182 0 133 (dk_at dksX0_write_2 17 rfl rfl)
theorem dX0_write_67 : decode cX0_write 67 = .ok (.iload 5, 2) := dk_21 5 (dk_at dksX0_write_2 20 rfl rfl)
theorem dX0_write_69 : decode cX0_write 69 = .ok (.aload_n 0, 1) := dk_42 (dk_at dksX0_write_2 22 rfl rfl)
theorem dX0_write_70 : decode cX0_write 70 = .ok (.getfield 173, 3) := dk_180 0 173 (dk_at dksX0_write_3 0 rfl rfl)
theorem dX0_write_73 : decode cX0_write 73 = .ok (.iload_n 1, 1) := dk_27 (dk_at dksX0_write_3 3 rfl rfl)
theorem dX0_write_74 : decode cX0_write 74 = .ok (.aaload, 1) := dk_50 (dk_at dksX0_write_3 4 rfl rfl)
theorem dX0_write_75 : decode cX0_write 75 = .ok (.iload 5, 2) := dk_21 5 (dk_at dksX0_write_3 5 rfl rfl)
theorem dX0_write_77 : decode cX0_write 77 = .ok (.iaload, 1) := dk_46 (dk_at dksX0_write_3 7 rfl rfl)
theorem dX0_write_78 : decode cX0_write 78 = .ok (.invokevirtual 410, 3) := dk_182 1 154 (dk_at dksX0_write_3 8 rfl rfl)
theorem dX0_write_81 : decode cX0_write 81 = .ok (.iinc 5 1, 3) := dk_132 5 1 (dk_at dksX0_write_3 11 rfl rfl)
theorem dX0_write_84 : decode cX0_write 84 = .ok (.goto (-29), 3) := dk_167 255 227 (dk_at dksX0_write_3 14 rfl rfl)
theorem dX0_write_87 : decode cX0_write 87 = .ok (.iload 4, 2) := dk_21 4 (dk_at dksX0_write_3 17 rfl rfl)
theorem dX0_write_89 : decode cX0_write 89 = .ok (.ireturn, 1) := dk_172 (dk_at dksX0_write_3 19 rfl rfl)
abbrev cX0_count : ByteArray := prog_1_method_91_code
def yX0_count : MethodName := ⟨RX0, "count", "(I)I"⟩
def dkwX0_count_4 : List UInt8 := [182, 0, 75, 172, 42, 180, 0, 9, 172, 16, 254, 172]
abbrev dktX0_count_4 : List UInt8 := dkwX0_count_4 ++ []
def dkwX0_count_3 : List UInt8 := [42, 182, 1, 169, 172, 42, 182, 1, 172, 172, 42, 180, 0, 22, 180, 1, 175, 172, 42, 180, 0, 179]
abbrev dktX0_count_3 : List UInt8 := dkwX0_count_3 ++ dktX0_count_4
def dkwX0_count_2 : List UInt8 := [42, 182, 0, 80, 172, 42, 180, 0, 102, 182, 0, 75, 172, 42, 27, 5, 100, 182, 0, 36, 182, 1, 166, 172]
abbrev dktX0_count_2 : List UInt8 := dkwX0_count_2 ++ dktX0_count_3
def dkwX0_count_1 : List UInt8 := [170, 0, 0, 0, 0, 0, 106, 0, 0, 0, 0, 0, 0, 0, 8, 0, 0, 0, 51, 0, 0, 0, 56, 0, 0, 0, 64, 0, 0, 0, 64, 0, 0, 0, 75, 0, 0, 0, 80, 0, 0, 0, 85, 0, 0, 0, 93, 0, 0, 0, 101]
abbrev dktX0_count_1 : List UInt8 := dkwX0_count_1 ++ dktX0_count_2
def dkwX0_count_0 : List UInt8 := [42, 182, 1, 37, 27]
abbrev dktX0_count_0 : List UInt8 := dkwX0_count_0 ++ dktX0_count_1
theorem dksX0_count_0 : cX0_count.data.toList.drop 0 = dktX0_count_0 := by decide +kernel
theorem dksX0_count_1 : cX0_count.data.toList.drop 5 = dktX0_count_1 := dk_seg dksX0_count_0 5 rfl rfl
theorem dksX0_count_2 : cX0_count.data.toList.drop 56 = dktX0_count_2 := dk_seg dksX0_count_1 51 rfl rfl
theorem dksX0_count_3 : cX0_count.data.toList.drop 80 = dktX0_count_3 := dk_seg dksX0_count_2 24 rfl rfl
theorem dksX0_count_4 : cX0_count.data.toList.drop 102 = dktX0_count_4 := dk_seg dksX0_count_3 22 rfl rfl
theorem dX0_count_0 : decode cX0_count 0 = .ok (.aload_n 0, 1) := dk_42 (dk_at dksX0_count_0 0 rfl rfl)
theorem dX0_count_1 : decode cX0_count 1 = .ok (.invokevirtual 293, 3) := dk_182 1 37 (dk_at dksX0_count_0 1 rfl rfl)
theorem dX0_count_4 : decode cX0_count 4 = .ok (.iload_n 1, 1) := dk_27 (dk_at dksX0_count_0 4 rfl rfl)
theorem dX0_count_5 : decode cX0_count 5 = .ok (.tableswitch 106 0 8 #[51, 56, 64, 64, 75, 80, 85, 93, 101], 51) := by decide +kernel
theorem dX0_count_56 : decode cX0_count 56 = .ok (.aload_n 0, 1) := dk_42 (dk_at dksX0_count_2 0 rfl rfl)
theorem dX0_count_57 : decode cX0_count 57 = .ok (.invokevirtual 80, 3) := dk_182 0 80 (dk_at dksX0_count_2 1 rfl rfl)
theorem dX0_count_60 : decode cX0_count 60 = .ok (.ireturn, 1) := dk_172 (dk_at dksX0_count_2 4 rfl rfl)
theorem dX0_count_61 : decode cX0_count 61 = .ok (.aload_n 0, 1) := dk_42 (dk_at dksX0_count_2 5 rfl rfl)
theorem dX0_count_62 : decode cX0_count 62 = .ok (.getfield 102, 3) := dk_180 0 102 (dk_at dksX0_count_2 6 rfl rfl)
theorem dX0_count_65 : decode cX0_count 65 = .ok (.invokevirtual 75, 3) := dk_182 0 75 (dk_at dksX0_count_2 9 rfl rfl)
theorem dX0_count_68 : decode cX0_count 68 = .ok (.ireturn, 1) := dk_172 (dk_at dksX0_count_2 12 rfl rfl)
theorem dX0_count_69 : decode cX0_count 69 = .ok (.aload_n 0, 1) := dk_42 (dk_at dksX0_count_2 13 rfl rfl)
theorem dX0_count_70 : decode cX0_count 70 = .ok (.iload_n 1, 1) := dk_27 (dk_at dksX0_count_2 14 rfl rfl)
theorem dX0_count_71 : decode cX0_count 71 = .ok (.iconst 2, 1) := dk_5 (dk_at dksX0_count_2 15 rfl rfl)
theorem dX0_count_72 : decode cX0_count 72 = .ok (.isub, 1) := dk_100 (dk_at dksX0_count_2 16 rfl rfl)
theorem dX0_count_73 : decode cX0_count 73 = .ok (.invokevirtual 36, 3) := dk_182 0 36 (dk_at dksX0_count_2 17 rfl rfl)
theorem dX0_count_76 : decode cX0_count 76 = .ok (.invokevirtual 422, 3) := dk_182 1 166 (dk_at dksX0_count_2 20 rfl rfl)
theorem dX0_count_79 : decode cX0_count 79 = .ok (.ireturn, 1) := dk_172 (dk_at dksX0_count_2 23 rfl rfl)
theorem dX0_count_80 : decode cX0_count 80 = .ok (.aload_n 0, 1) := dk_42 (dk_at dksX0_count_3 0 rfl rfl)
theorem dX0_count_81 : decode cX0_count 81 = .ok (.invokevirtual 425, 3) := dk_182 1 169 (dk_at dksX0_count_3 1 rfl rfl)
theorem dX0_count_84 : decode cX0_count 84 = .ok (.ireturn, 1) := dk_172 (dk_at dksX0_count_3 4 rfl rfl)
theorem dX0_count_85 : decode cX0_count 85 = .ok (.aload_n 0, 1) := dk_42 (dk_at dksX0_count_3 5 rfl rfl)
theorem dX0_count_86 : decode cX0_count 86 = .ok (.invokevirtual 428, 3) := dk_182 1 172 (dk_at dksX0_count_3 6 rfl rfl)
theorem dX0_count_89 : decode cX0_count 89 = .ok (.ireturn, 1) := dk_172 (dk_at dksX0_count_3 9 rfl rfl)
theorem dX0_count_90 : decode cX0_count 90 = .ok (.aload_n 0, 1) := dk_42 (dk_at dksX0_count_3 10 rfl rfl)
theorem dX0_count_91 : decode cX0_count 91 = .ok (.getfield 22, 3) := dk_180 0 22 (dk_at dksX0_count_3 11 rfl rfl)
theorem dX0_count_94 : decode cX0_count 94 = .ok (.getfield 431, 3) := dk_180 1 175 (dk_at dksX0_count_3 14 rfl rfl)
theorem dX0_count_97 : decode cX0_count 97 = .ok (.ireturn, 1) := dk_172 (dk_at dksX0_count_3 17 rfl rfl)
theorem dX0_count_98 : decode cX0_count 98 = .ok (.aload_n 0, 1) := dk_42 (dk_at dksX0_count_3 18 rfl rfl)
theorem dX0_count_99 : decode cX0_count 99 = .ok (.getfield 179, 3) := dk_180 0 179 (dk_at dksX0_count_3 19 rfl rfl)
theorem dX0_count_102 : decode cX0_count 102 = .ok (.invokevirtual 75, 3) := dk_182 0 75 (dk_at dksX0_count_4 0 rfl rfl)
theorem dX0_count_105 : decode cX0_count 105 = .ok (.ireturn, 1) := dk_172 (dk_at dksX0_count_4 3 rfl rfl)
theorem dX0_count_106 : decode cX0_count 106 = .ok (.aload_n 0, 1) := dk_42 (dk_at dksX0_count_4 4 rfl rfl)
theorem dX0_count_107 : decode cX0_count 107 = .ok (.getfield 9, 3) := dk_180 0 9 (dk_at dksX0_count_4 5 rfl rfl)
theorem dX0_count_110 : decode cX0_count 110 = .ok (.ireturn, 1) := dk_172 (dk_at dksX0_count_4 8 rfl rfl)
theorem dX0_count_111 : decode cX0_count 111 = .ok (.bipush (-2), 2) := dk_16 254 (dk_at dksX0_count_4 9 rfl rfl)
theorem dX0_count_113 : decode cX0_count 113 = .ok (.ireturn, 1) := dk_172 (dk_at dksX0_count_4 11 rfl rfl)
abbrev cX0_allSpeeches : ByteArray := prog_1_method_89_code
def yX0_allSpeeches : MethodName := ⟨RX0, "allSpeeches", "()I"⟩
def dkwX0_allSpeeches_1 : List UInt8 := [132, 2, 1, 167, 255, 233, 27, 172]
abbrev dktX0_allSpeeches_1 : List UInt8 := dkwX0_allSpeeches_1 ++ []
def dkwX0_allSpeeches_0 : List UInt8 := [3, 60, 3, 61, 28, 42, 182, 0, 80, 162, 0, 21, 27, 42, 180, 0, 159, 28, 50, 180, 0, 235, 96, 60]
abbrev dktX0_allSpeeches_0 : List UInt8 := dkwX0_allSpeeches_0 ++ dktX0_allSpeeches_1
theorem dksX0_allSpeeches_0 : cX0_allSpeeches.data.toList.drop 0 = dktX0_allSpeeches_0 := by decide +kernel
theorem dksX0_allSpeeches_1 : cX0_allSpeeches.data.toList.drop 24 = dktX0_allSpeeches_1 := dk_seg dksX0_allSpeeches_0 24 rfl rfl
theorem dX0_allSpeeches_0 : decode cX0_allSpeeches 0 = .ok (.iconst 0, 1) := dk_3 (dk_at dksX0_allSpeeches_0 0 rfl rfl)
theorem dX0_allSpeeches_1 : decode cX0_allSpeeches 1 = .ok (.istore_n 1, 1) := dk_60 (dk_at dksX0_allSpeeches_0 1 rfl rfl)
theorem dX0_allSpeeches_2 : decode cX0_allSpeeches 2 = .ok (.iconst 0, 1) := dk_3 (dk_at dksX0_allSpeeches_0 2 rfl rfl)
theorem dX0_allSpeeches_3 : decode cX0_allSpeeches 3 = .ok (.istore_n 2, 1) := dk_61 (dk_at dksX0_allSpeeches_0 3 rfl rfl)
theorem dX0_allSpeeches_4 : decode cX0_allSpeeches 4 = .ok (.iload_n 2, 1) := dk_28 (dk_at dksX0_allSpeeches_0 4 rfl rfl)
theorem dX0_allSpeeches_5 : decode cX0_allSpeeches 5 = .ok (.aload_n 0, 1) := dk_42 (dk_at dksX0_allSpeeches_0 5 rfl rfl)
theorem dX0_allSpeeches_6 : decode cX0_allSpeeches 6 = .ok (.invokevirtual 80, 3) := dk_182 0 80 (dk_at dksX0_allSpeeches_0 6 rfl rfl)
theorem dX0_allSpeeches_9 : decode cX0_allSpeeches 9 = .ok (.if_icmp .ge 21, 3) := dk_162 0 21 (dk_at dksX0_allSpeeches_0 9 rfl rfl)
theorem dX0_allSpeeches_12 : decode cX0_allSpeeches 12 = .ok (.iload_n 1, 1) := dk_27 (dk_at dksX0_allSpeeches_0 12 rfl rfl)
theorem dX0_allSpeeches_13 : decode cX0_allSpeeches 13 = .ok (.aload_n 0, 1) := dk_42 (dk_at dksX0_allSpeeches_0 13 rfl rfl)
theorem dX0_allSpeeches_14 : decode cX0_allSpeeches 14 = .ok (.getfield 159, 3) := dk_180 0 159 (dk_at dksX0_allSpeeches_0 14 rfl rfl)
theorem dX0_allSpeeches_17 : decode cX0_allSpeeches 17 = .ok (.iload_n 2, 1) := dk_28 (dk_at dksX0_allSpeeches_0 17 rfl rfl)
theorem dX0_allSpeeches_18 : decode cX0_allSpeeches 18 = .ok (.aaload, 1) := dk_50 (dk_at dksX0_allSpeeches_0 18 rfl rfl)
theorem dX0_allSpeeches_19 : decode cX0_allSpeeches 19 = .ok (.getfield 235, 3) := dk_180 0 235 (dk_at dksX0_allSpeeches_0 19 rfl rfl)
theorem dX0_allSpeeches_22 : decode cX0_allSpeeches 22 = .ok (.iadd, 1) := dk_96 (dk_at dksX0_allSpeeches_0 22 rfl rfl)
theorem dX0_allSpeeches_23 : decode cX0_allSpeeches 23 = .ok (.istore_n 1, 1) := dk_60 (dk_at dksX0_allSpeeches_0 23 rfl rfl)
theorem dX0_allSpeeches_24 : decode cX0_allSpeeches 24 = .ok (.iinc 2 1, 3) := dk_132 2 1 (dk_at dksX0_allSpeeches_1 0 rfl rfl)
theorem dX0_allSpeeches_27 : decode cX0_allSpeeches 27 = .ok (.goto (-23), 3) := dk_167 255 233 (dk_at dksX0_allSpeeches_1 3 rfl rfl)
theorem dX0_allSpeeches_30 : decode cX0_allSpeeches 30 = .ok (.iload_n 1, 1) := dk_27 (dk_at dksX0_allSpeeches_1 6 rfl rfl)
theorem dX0_allSpeeches_31 : decode cX0_allSpeeches 31 = .ok (.ireturn, 1) := dk_172 (dk_at dksX0_allSpeeches_1 7 rfl rfl)
abbrev cX0_allAyes : ByteArray := prog_1_method_90_code
def yX0_allAyes : MethodName := ⟨RX0, "allAyes", "()I"⟩
def dkwX0_allAyes_1 : List UInt8 := [167, 255, 238, 27, 172]
abbrev dktX0_allAyes_1 : List UInt8 := dkwX0_allAyes_1 ++ []
def dkwX0_allAyes_0 : List UInt8 := [3, 60, 3, 61, 28, 16, 20, 162, 0, 18, 27, 42, 28, 4, 182, 1, 44, 96, 60, 132, 2, 1]
abbrev dktX0_allAyes_0 : List UInt8 := dkwX0_allAyes_0 ++ dktX0_allAyes_1
theorem dksX0_allAyes_0 : cX0_allAyes.data.toList.drop 0 = dktX0_allAyes_0 := by decide +kernel
theorem dksX0_allAyes_1 : cX0_allAyes.data.toList.drop 22 = dktX0_allAyes_1 := dk_seg dksX0_allAyes_0 22 rfl rfl
theorem dX0_allAyes_0 : decode cX0_allAyes 0 = .ok (.iconst 0, 1) := dk_3 (dk_at dksX0_allAyes_0 0 rfl rfl)
theorem dX0_allAyes_1 : decode cX0_allAyes 1 = .ok (.istore_n 1, 1) := dk_60 (dk_at dksX0_allAyes_0 1 rfl rfl)
theorem dX0_allAyes_2 : decode cX0_allAyes 2 = .ok (.iconst 0, 1) := dk_3 (dk_at dksX0_allAyes_0 2 rfl rfl)
theorem dX0_allAyes_3 : decode cX0_allAyes 3 = .ok (.istore_n 2, 1) := dk_61 (dk_at dksX0_allAyes_0 3 rfl rfl)
theorem dX0_allAyes_4 : decode cX0_allAyes 4 = .ok (.iload_n 2, 1) := dk_28 (dk_at dksX0_allAyes_0 4 rfl rfl)
theorem dX0_allAyes_5 : decode cX0_allAyes 5 = .ok (.bipush 20, 2) := dk_16 20 (dk_at dksX0_allAyes_0 5 rfl rfl)
theorem dX0_allAyes_7 : decode cX0_allAyes 7 = .ok (.if_icmp .ge 18, 3) := dk_162 0 18 (dk_at dksX0_allAyes_0 7 rfl rfl)
theorem dX0_allAyes_10 : decode cX0_allAyes 10 = .ok (.iload_n 1, 1) := dk_27 (dk_at dksX0_allAyes_0 10 rfl rfl)
theorem dX0_allAyes_11 : decode cX0_allAyes 11 = .ok (.aload_n 0, 1) := dk_42 (dk_at dksX0_allAyes_0 11 rfl rfl)
theorem dX0_allAyes_12 : decode cX0_allAyes 12 = .ok (.iload_n 2, 1) := dk_28 (dk_at dksX0_allAyes_0 12 rfl rfl)
theorem dX0_allAyes_13 : decode cX0_allAyes 13 = .ok (.iconst 1, 1) := dk_4 (dk_at dksX0_allAyes_0 13 rfl rfl)
theorem dX0_allAyes_14 : decode cX0_allAyes 14 = .ok (.invokevirtual 300, 3) := dk_182 1 44 (dk_at dksX0_allAyes_0 14 rfl rfl)
theorem dX0_allAyes_17 : decode cX0_allAyes 17 = .ok (.iadd, 1) := dk_96 (dk_at dksX0_allAyes_0 17 rfl rfl)
theorem dX0_allAyes_18 : decode cX0_allAyes 18 = .ok (.istore_n 1, 1) := dk_60 (dk_at dksX0_allAyes_0 18 rfl rfl)
theorem dX0_allAyes_19 : decode cX0_allAyes 19 = .ok (.iinc 2 1, 3) := dk_132 2 1 (dk_at dksX0_allAyes_0 19 rfl rfl)
theorem dX0_allAyes_22 : decode cX0_allAyes 22 = .ok (.goto (-18), 3) := dk_167 255 238 (dk_at dksX0_allAyes_1 0 rfl rfl)
theorem dX0_allAyes_25 : decode cX0_allAyes 25 = .ok (.iload_n 1, 1) := dk_27 (dk_at dksX0_allAyes_1 3 rfl rfl)
theorem dX0_allAyes_26 : decode cX0_allAyes 26 = .ok (.ireturn, 1) := dk_172 (dk_at dksX0_allAyes_1 4 rfl rfl)
abbrev cX0_digest : ByteArray := prog_1_method_95_code
def yX0_digest : MethodName := ⟨RX0, "digest", "()J"⟩
def dkwX0_digest_16 : List UInt8 := [173]
abbrev dktX0_digest_16 : List UInt8 := dkwX0_digest_16 ++ []
def dkwX0_digest_15 : List UInt8 := [20, 1, 178, 31, 105, 42, 16, 7, 16, 6, 29, 182, 1, 145, 133, 97, 64, 132, 3, 1, 167, 255, 231, 31]
abbrev dktX0_digest_15 : List UInt8 := dkwX0_digest_15 ++ dktX0_digest_16
def dkwX0_digest_14 : List UInt8 := [42, 8, 16, 9, 29, 182, 1, 124, 97, 64, 132, 3, 1, 167, 255, 233, 3, 62, 29, 5, 162, 0, 26]
abbrev dktX0_digest_14 : List UInt8 := dkwX0_digest_14 ++ dktX0_digest_15
def dkwX0_digest_13 : List UInt8 := [20, 1, 178, 31, 105, 42, 182, 1, 95, 133, 97, 64, 3, 62, 29, 5, 162, 0, 24, 20, 1, 178, 31, 105]
abbrev dktX0_digest_13 : List UInt8 := dkwX0_digest_13 ++ dktX0_digest_14
def dkwX0_digest_12 : List UInt8 := [29, 4, 162, 0, 22, 20, 1, 178, 31, 105, 42, 29, 182, 1, 84, 133, 97, 64, 132, 3, 1, 167, 255, 235]
abbrev dktX0_digest_12 : List UInt8 := dkwX0_digest_12 ++ dktX0_digest_13
def dkwX0_digest_11 : List UInt8 := [162, 0, 22, 20, 1, 178, 31, 105, 42, 29, 182, 1, 76, 133, 97, 64, 132, 3, 1, 167, 255, 235, 2, 62]
abbrev dktX0_digest_11 : List UInt8 := dkwX0_digest_11 ++ dktX0_digest_12
def dkwX0_digest_10 : List UInt8 := [31, 105, 42, 16, 8, 29, 182, 1, 73, 133, 97, 64, 132, 3, 1, 167, 255, 233, 3, 62, 29, 5]
abbrev dktX0_digest_10 : List UInt8 := dkwX0_digest_10 ++ dktX0_digest_11
def dkwX0_digest_9 : List UInt8 := [97, 64, 20, 1, 178, 31, 105, 42, 182, 1, 66, 133, 97, 64, 3, 62, 29, 5, 162, 0, 24, 20, 1, 178]
abbrev dktX0_digest_9 : List UInt8 := dkwX0_digest_9 ++ dktX0_digest_10
def dkwX0_digest_8 : List UInt8 := [42, 29, 182, 1, 60, 133, 97, 64, 132, 3, 1, 167, 255, 235, 20, 1, 178, 31, 105, 42, 182, 1, 63, 133]
abbrev dktX0_digest_8 : List UInt8 := dkwX0_digest_8 ++ dktX0_digest_9
def dkwX0_digest_7 : List UInt8 := [20, 1, 178, 31, 105, 42, 182, 1, 57, 133, 97, 64, 3, 62, 29, 6, 162, 0, 22, 20, 1, 178, 31, 105]
abbrev dktX0_digest_7 : List UInt8 := dkwX0_digest_7 ++ dktX0_digest_8
def dkwX0_digest_6 : List UInt8 := [132, 4, 1, 167, 255, 232, 132, 3, 1, 167, 255, 217, 20, 1, 178, 31, 105, 42, 182, 1, 54, 133, 97, 64]
abbrev dktX0_digest_6 : List UInt8 := dkwX0_digest_6 ++ dktX0_digest_7
def dkwX0_digest_5 : List UInt8 := [54, 4, 21, 4, 6, 162, 0, 24, 20, 1, 178, 31, 105, 42, 29, 21, 4, 182, 1, 51, 133, 97, 64]
abbrev dktX0_digest_5 : List UInt8 := dkwX0_digest_5 ++ dktX0_digest_6
def dkwX0_digest_4 : List UInt8 := [182, 1, 193, 64, 132, 3, 1, 167, 255, 238, 42, 182, 1, 37, 3, 62, 29, 16, 20, 162, 0, 39, 3]
abbrev dktX0_digest_4 : List UInt8 := dkwX0_digest_4 ++ dktX0_digest_5
def dkwX0_digest_3 : List UInt8 := [182, 1, 189, 64, 132, 3, 1, 167, 255, 240, 3, 62, 29, 42, 182, 0, 80, 162, 0, 16, 42, 31, 29]
abbrev dktX0_digest_3 : List UInt8 := dkwX0_digest_3 ++ dktX0_digest_4
def dkwX0_digest_2 : List UInt8 := [182, 0, 53, 133, 97, 64, 132, 3, 1, 167, 255, 232, 3, 62, 29, 16, 12, 162, 0, 16, 42, 31, 29]
abbrev dktX0_digest_2 : List UInt8 := dkwX0_digest_2 ++ dktX0_digest_3
def dkwX0_digest_1 : List UInt8 := [64, 132, 3, 1, 167, 255, 234, 3, 62, 29, 5, 162, 0, 25, 20, 1, 178, 31, 105, 42, 29, 182, 0, 36]
abbrev dktX0_digest_1 : List UInt8 := dkwX0_digest_1 ++ dktX0_digest_2
def dkwX0_digest_0 : List UInt8 := [20, 1, 184, 64, 3, 62, 29, 16, 8, 162, 0, 22, 20, 1, 178, 31, 105, 42, 29, 182, 1, 186, 133, 97]
abbrev dktX0_digest_0 : List UInt8 := dkwX0_digest_0 ++ dktX0_digest_1
theorem dksX0_digest_0 : cX0_digest.data.toList.drop 0 = dktX0_digest_0 := by decide +kernel
theorem dksX0_digest_1 : cX0_digest.data.toList.drop 24 = dktX0_digest_1 := dk_seg dksX0_digest_0 24 rfl rfl
theorem dksX0_digest_2 : cX0_digest.data.toList.drop 48 = dktX0_digest_2 := dk_seg dksX0_digest_1 24 rfl rfl
theorem dksX0_digest_3 : cX0_digest.data.toList.drop 71 = dktX0_digest_3 := dk_seg dksX0_digest_2 23 rfl rfl
theorem dksX0_digest_4 : cX0_digest.data.toList.drop 94 = dktX0_digest_4 := dk_seg dksX0_digest_3 23 rfl rfl
theorem dksX0_digest_5 : cX0_digest.data.toList.drop 117 = dktX0_digest_5 := dk_seg dksX0_digest_4 23 rfl rfl
theorem dksX0_digest_6 : cX0_digest.data.toList.drop 140 = dktX0_digest_6 := dk_seg dksX0_digest_5 23 rfl rfl
theorem dksX0_digest_7 : cX0_digest.data.toList.drop 164 = dktX0_digest_7 := dk_seg dksX0_digest_6 24 rfl rfl
theorem dksX0_digest_8 : cX0_digest.data.toList.drop 188 = dktX0_digest_8 := dk_seg dksX0_digest_7 24 rfl rfl
theorem dksX0_digest_9 : cX0_digest.data.toList.drop 212 = dktX0_digest_9 := dk_seg dksX0_digest_8 24 rfl rfl
theorem dksX0_digest_10 : cX0_digest.data.toList.drop 236 = dktX0_digest_10 := dk_seg dksX0_digest_9 24 rfl rfl
theorem dksX0_digest_11 : cX0_digest.data.toList.drop 258 = dktX0_digest_11 := dk_seg dksX0_digest_10 22 rfl rfl
theorem dksX0_digest_12 : cX0_digest.data.toList.drop 282 = dktX0_digest_12 := dk_seg dksX0_digest_11 24 rfl rfl
theorem dksX0_digest_13 : cX0_digest.data.toList.drop 306 = dktX0_digest_13 := dk_seg dksX0_digest_12 24 rfl rfl
theorem dksX0_digest_14 : cX0_digest.data.toList.drop 330 = dktX0_digest_14 := dk_seg dksX0_digest_13 24 rfl rfl
theorem dksX0_digest_15 : cX0_digest.data.toList.drop 353 = dktX0_digest_15 := dk_seg dksX0_digest_14 23 rfl rfl
theorem dksX0_digest_16 : cX0_digest.data.toList.drop 377 = dktX0_digest_16 := dk_seg dksX0_digest_15 24 rfl rfl
theorem dX0_digest_0 : decode cX0_digest 0 = .ok (.ldc2_w 440, 3) := dk_20 1 184 (dk_at dksX0_digest_0 0 rfl rfl)
theorem dX0_digest_3 : decode cX0_digest 3 = .ok (.lstore_n 1, 1) := dk_64 (dk_at dksX0_digest_0 3 rfl rfl)
theorem dX0_digest_4 : decode cX0_digest 4 = .ok (.iconst 0, 1) := dk_3 (dk_at dksX0_digest_0 4 rfl rfl)
theorem dX0_digest_5 : decode cX0_digest 5 = .ok (.istore_n 3, 1) := dk_62 (dk_at dksX0_digest_0 5 rfl rfl)
theorem dX0_digest_6 : decode cX0_digest 6 = .ok (.iload_n 3, 1) := dk_29 (dk_at dksX0_digest_0 6 rfl rfl)
theorem dX0_digest_7 : decode cX0_digest 7 = .ok (.bipush 8, 2) := dk_16 8 (dk_at dksX0_digest_0 7 rfl rfl)
theorem dX0_digest_9 : decode cX0_digest 9 = .ok (.if_icmp .ge 22, 3) := dk_162 0 22 (dk_at dksX0_digest_0 9 rfl rfl)
theorem dX0_digest_12 : decode cX0_digest 12 = .ok (.ldc2_w 434, 3) := dk_20 1 178 (dk_at dksX0_digest_0 12 rfl rfl)
theorem dX0_digest_15 : decode cX0_digest 15 = .ok (.lload_n 1, 1) := dk_31 (dk_at dksX0_digest_0 15 rfl rfl)
theorem dX0_digest_16 : decode cX0_digest 16 = .ok (.lmul, 1) := dk_105 (dk_at dksX0_digest_0 16 rfl rfl)
theorem dX0_digest_17 : decode cX0_digest 17 = .ok (.aload_n 0, 1) := dk_42 (dk_at dksX0_digest_0 17 rfl rfl)
theorem dX0_digest_18 : decode cX0_digest 18 = .ok (.iload_n 3, 1) := dk_29 (dk_at dksX0_digest_0 18 rfl rfl)
theorem dX0_digest_19 : decode cX0_digest 19 = .ok (.invokevirtual 442, 3) := dk_182 1 186 (dk_at dksX0_digest_0 19 rfl rfl)
theorem dX0_digest_22 : decode cX0_digest 22 = .ok (.i2l, 1) := dk_133 (dk_at dksX0_digest_0 22 rfl rfl)
theorem dX0_digest_23 : decode cX0_digest 23 = .ok (.ladd, 1) := dk_97 (dk_at dksX0_digest_0 23 rfl rfl)
theorem dX0_digest_24 : decode cX0_digest 24 = .ok (.lstore_n 1, 1) := dk_64 (dk_at dksX0_digest_1 0 rfl rfl)
theorem dX0_digest_25 : decode cX0_digest 25 = .ok (.iinc 3 1, 3) := dk_132 3 1 (dk_at dksX0_digest_1 1 rfl rfl)
theorem dX0_digest_28 : decode cX0_digest 28 = .ok (.goto (-22), 3) := dk_167 255 234 (dk_at dksX0_digest_1 4 rfl rfl)
theorem dX0_digest_31 : decode cX0_digest 31 = .ok (.iconst 0, 1) := dk_3 (dk_at dksX0_digest_1 7 rfl rfl)
theorem dX0_digest_32 : decode cX0_digest 32 = .ok (.istore_n 3, 1) := dk_62 (dk_at dksX0_digest_1 8 rfl rfl)
theorem dX0_digest_33 : decode cX0_digest 33 = .ok (.iload_n 3, 1) := dk_29 (dk_at dksX0_digest_1 9 rfl rfl)
theorem dX0_digest_34 : decode cX0_digest 34 = .ok (.iconst 2, 1) := dk_5 (dk_at dksX0_digest_1 10 rfl rfl)
theorem dX0_digest_35 : decode cX0_digest 35 = .ok (.if_icmp .ge 25, 3) := dk_162 0 25 (dk_at dksX0_digest_1 11 rfl rfl)
theorem dX0_digest_38 : decode cX0_digest 38 = .ok (.ldc2_w 434, 3) := dk_20 1 178 (dk_at dksX0_digest_1 14 rfl rfl)
theorem dX0_digest_41 : decode cX0_digest 41 = .ok (.lload_n 1, 1) := dk_31 (dk_at dksX0_digest_1 17 rfl rfl)
theorem dX0_digest_42 : decode cX0_digest 42 = .ok (.lmul, 1) := dk_105 (dk_at dksX0_digest_1 18 rfl rfl)
theorem dX0_digest_43 : decode cX0_digest 43 = .ok (.aload_n 0, 1) := dk_42 (dk_at dksX0_digest_1 19 rfl rfl)
theorem dX0_digest_44 : decode cX0_digest 44 = .ok (.iload_n 3, 1) := dk_29 (dk_at dksX0_digest_1 20 rfl rfl)
theorem dX0_digest_45 : decode cX0_digest 45 = .ok (.invokevirtual 36, 3) := dk_182 0 36 (dk_at dksX0_digest_1 21 rfl rfl)
theorem dX0_digest_48 : decode cX0_digest 48 = .ok (.invokevirtual 53, 3) := dk_182 0 53 (dk_at dksX0_digest_2 0 rfl rfl)
theorem dX0_digest_51 : decode cX0_digest 51 = .ok (.i2l, 1) := dk_133 (dk_at dksX0_digest_2 3 rfl rfl)
theorem dX0_digest_52 : decode cX0_digest 52 = .ok (.ladd, 1) := dk_97 (dk_at dksX0_digest_2 4 rfl rfl)
theorem dX0_digest_53 : decode cX0_digest 53 = .ok (.lstore_n 1, 1) := dk_64 (dk_at dksX0_digest_2 5 rfl rfl)
theorem dX0_digest_54 : decode cX0_digest 54 = .ok (.iinc 3 1, 3) := dk_132 3 1 (dk_at dksX0_digest_2 6 rfl rfl)
theorem dX0_digest_57 : decode cX0_digest 57 = .ok (.goto (-24), 3) := dk_167 255 232 (dk_at dksX0_digest_2 9 rfl rfl)
theorem dX0_digest_60 : decode cX0_digest 60 = .ok (.iconst 0, 1) := dk_3 (dk_at dksX0_digest_2 12 rfl rfl)
theorem dX0_digest_61 : decode cX0_digest 61 = .ok (.istore_n 3, 1) := dk_62 (dk_at dksX0_digest_2 13 rfl rfl)
theorem dX0_digest_62 : decode cX0_digest 62 = .ok (.iload_n 3, 1) := dk_29 (dk_at dksX0_digest_2 14 rfl rfl)
theorem dX0_digest_63 : decode cX0_digest 63 = .ok (.bipush 12, 2) := dk_16 12 (dk_at dksX0_digest_2 15 rfl rfl)
theorem dX0_digest_65 : decode cX0_digest 65 = .ok (.if_icmp .ge 16, 3) := dk_162 0 16 (dk_at dksX0_digest_2 17 rfl rfl)
theorem dX0_digest_68 : decode cX0_digest 68 = .ok (.aload_n 0, 1) := dk_42 (dk_at dksX0_digest_2 20 rfl rfl)
theorem dX0_digest_69 : decode cX0_digest 69 = .ok (.lload_n 1, 1) := dk_31 (dk_at dksX0_digest_2 21 rfl rfl)
theorem dX0_digest_70 : decode cX0_digest 70 = .ok (.iload_n 3, 1) := dk_29 (dk_at dksX0_digest_2 22 rfl rfl)
theorem dX0_digest_71 : decode cX0_digest 71 = .ok (.invokevirtual 445, 3) := dk_182 1 189 (dk_at dksX0_digest_3 0 rfl rfl)
theorem dX0_digest_74 : decode cX0_digest 74 = .ok (.lstore_n 1, 1) := dk_64 (dk_at dksX0_digest_3 3 rfl rfl)
theorem dX0_digest_75 : decode cX0_digest 75 = .ok (.iinc 3 1, 3) := dk_132 3 1 (dk_at dksX0_digest_3 4 rfl rfl)
theorem dX0_digest_78 : decode cX0_digest 78 = .ok (.goto (-16), 3) := dk_167 255 240 (dk_at dksX0_digest_3 7 rfl rfl)
theorem dX0_digest_81 : decode cX0_digest 81 = .ok (.iconst 0, 1) := dk_3 (dk_at dksX0_digest_3 10 rfl rfl)
theorem dX0_digest_82 : decode cX0_digest 82 = .ok (.istore_n 3, 1) := dk_62 (dk_at dksX0_digest_3 11 rfl rfl)
theorem dX0_digest_83 : decode cX0_digest 83 = .ok (.iload_n 3, 1) := dk_29 (dk_at dksX0_digest_3 12 rfl rfl)
theorem dX0_digest_84 : decode cX0_digest 84 = .ok (.aload_n 0, 1) := dk_42 (dk_at dksX0_digest_3 13 rfl rfl)
theorem dX0_digest_85 : decode cX0_digest 85 = .ok (.invokevirtual 80, 3) := dk_182 0 80 (dk_at dksX0_digest_3 14 rfl rfl)
theorem dX0_digest_88 : decode cX0_digest 88 = .ok (.if_icmp .ge 16, 3) := dk_162 0 16 (dk_at dksX0_digest_3 17 rfl rfl)
theorem dX0_digest_91 : decode cX0_digest 91 = .ok (.aload_n 0, 1) := dk_42 (dk_at dksX0_digest_3 20 rfl rfl)
theorem dX0_digest_92 : decode cX0_digest 92 = .ok (.lload_n 1, 1) := dk_31 (dk_at dksX0_digest_3 21 rfl rfl)
theorem dX0_digest_93 : decode cX0_digest 93 = .ok (.iload_n 3, 1) := dk_29 (dk_at dksX0_digest_3 22 rfl rfl)
theorem dX0_digest_94 : decode cX0_digest 94 = .ok (.invokevirtual 449, 3) := dk_182 1 193 (dk_at dksX0_digest_4 0 rfl rfl)
theorem dX0_digest_97 : decode cX0_digest 97 = .ok (.lstore_n 1, 1) := dk_64 (dk_at dksX0_digest_4 3 rfl rfl)
theorem dX0_digest_98 : decode cX0_digest 98 = .ok (.iinc 3 1, 3) := dk_132 3 1 (dk_at dksX0_digest_4 4 rfl rfl)
theorem dX0_digest_101 : decode cX0_digest 101 = .ok (.goto (-18), 3) := dk_167 255 238 (dk_at dksX0_digest_4 7 rfl rfl)
theorem dX0_digest_104 : decode cX0_digest 104 = .ok (.aload_n 0, 1) := dk_42 (dk_at dksX0_digest_4 10 rfl rfl)
theorem dX0_digest_105 : decode cX0_digest 105 = .ok (.invokevirtual 293, 3) := dk_182 1 37 (dk_at dksX0_digest_4 11 rfl rfl)
theorem dX0_digest_108 : decode cX0_digest 108 = .ok (.iconst 0, 1) := dk_3 (dk_at dksX0_digest_4 14 rfl rfl)
theorem dX0_digest_109 : decode cX0_digest 109 = .ok (.istore_n 3, 1) := dk_62 (dk_at dksX0_digest_4 15 rfl rfl)
theorem dX0_digest_110 : decode cX0_digest 110 = .ok (.iload_n 3, 1) := dk_29 (dk_at dksX0_digest_4 16 rfl rfl)
theorem dX0_digest_111 : decode cX0_digest 111 = .ok (.bipush 20, 2) := dk_16 20 (dk_at dksX0_digest_4 17 rfl rfl)
theorem dX0_digest_113 : decode cX0_digest 113 = .ok (.if_icmp .ge 39, 3) := dk_162 0 39 (dk_at dksX0_digest_4 19 rfl rfl)
theorem dX0_digest_116 : decode cX0_digest 116 = .ok (.iconst 0, 1) := dk_3 (dk_at dksX0_digest_4 22 rfl rfl)
theorem dX0_digest_117 : decode cX0_digest 117 = .ok (.istore 4, 2) := dk_54 4 (dk_at dksX0_digest_5 0 rfl rfl)
theorem dX0_digest_119 : decode cX0_digest 119 = .ok (.iload 4, 2) := dk_21 4 (dk_at dksX0_digest_5 2 rfl rfl)
theorem dX0_digest_121 : decode cX0_digest 121 = .ok (.iconst 3, 1) := dk_6 (dk_at dksX0_digest_5 4 rfl rfl)
theorem dX0_digest_122 : decode cX0_digest 122 = .ok (.if_icmp .ge 24, 3) := dk_162 0 24 (dk_at dksX0_digest_5 5 rfl rfl)
theorem dX0_digest_125 : decode cX0_digest 125 = .ok (.ldc2_w 434, 3) := dk_20 1 178 (dk_at dksX0_digest_5 8 rfl rfl)
theorem dX0_digest_128 : decode cX0_digest 128 = .ok (.lload_n 1, 1) := dk_31 (dk_at dksX0_digest_5 11 rfl rfl)
theorem dX0_digest_129 : decode cX0_digest 129 = .ok (.lmul, 1) := dk_105 (dk_at dksX0_digest_5 12 rfl rfl)
theorem dX0_digest_130 : decode cX0_digest 130 = .ok (.aload_n 0, 1) := dk_42 (dk_at dksX0_digest_5 13 rfl rfl)
theorem dX0_digest_131 : decode cX0_digest 131 = .ok (.iload_n 3, 1) := dk_29 (dk_at dksX0_digest_5 14 rfl rfl)
theorem dX0_digest_132 : decode cX0_digest 132 = .ok (.iload 4, 2) := dk_21 4 (dk_at dksX0_digest_5 15 rfl rfl)
theorem dX0_digest_134 : decode cX0_digest 134 = .ok (.invokevirtual 307, 3) := dk_182 1 51 (dk_at dksX0_digest_5 17 rfl rfl)
theorem dX0_digest_137 : decode cX0_digest 137 = .ok (.i2l, 1) := dk_133 (dk_at dksX0_digest_5 20 rfl rfl)
theorem dX0_digest_138 : decode cX0_digest 138 = .ok (.ladd, 1) := dk_97 (dk_at dksX0_digest_5 21 rfl rfl)
theorem dX0_digest_139 : decode cX0_digest 139 = .ok (.lstore_n 1, 1) := dk_64 (dk_at dksX0_digest_5 22 rfl rfl)
theorem dX0_digest_140 : decode cX0_digest 140 = .ok (.iinc 4 1, 3) := dk_132 4 1 (dk_at dksX0_digest_6 0 rfl rfl)
theorem dX0_digest_143 : decode cX0_digest 143 = .ok (.goto (-24), 3) := dk_167 255 232 (dk_at dksX0_digest_6 3 rfl rfl)
theorem dX0_digest_146 : decode cX0_digest 146 = .ok (.iinc 3 1, 3) := dk_132 3 1 (dk_at dksX0_digest_6 6 rfl rfl)
theorem dX0_digest_149 : decode cX0_digest 149 = .ok (.goto (-39), 3) := dk_167 255 217 (dk_at dksX0_digest_6 9 rfl rfl)
theorem dX0_digest_152 : decode cX0_digest 152 = .ok (.ldc2_w 434, 3) := dk_20 1 178 (dk_at dksX0_digest_6 12 rfl rfl)
theorem dX0_digest_155 : decode cX0_digest 155 = .ok (.lload_n 1, 1) := dk_31 (dk_at dksX0_digest_6 15 rfl rfl)
theorem dX0_digest_156 : decode cX0_digest 156 = .ok (.lmul, 1) := dk_105 (dk_at dksX0_digest_6 16 rfl rfl)
theorem dX0_digest_157 : decode cX0_digest 157 = .ok (.aload_n 0, 1) := dk_42 (dk_at dksX0_digest_6 17 rfl rfl)
theorem dX0_digest_158 : decode cX0_digest 158 = .ok (.invokevirtual 310, 3) := dk_182 1 54 (dk_at dksX0_digest_6 18 rfl rfl)
theorem dX0_digest_161 : decode cX0_digest 161 = .ok (.i2l, 1) := dk_133 (dk_at dksX0_digest_6 21 rfl rfl)
theorem dX0_digest_162 : decode cX0_digest 162 = .ok (.ladd, 1) := dk_97 (dk_at dksX0_digest_6 22 rfl rfl)
theorem dX0_digest_163 : decode cX0_digest 163 = .ok (.lstore_n 1, 1) := dk_64 (dk_at dksX0_digest_6 23 rfl rfl)
theorem dX0_digest_164 : decode cX0_digest 164 = .ok (.ldc2_w 434, 3) := dk_20 1 178 (dk_at dksX0_digest_7 0 rfl rfl)
theorem dX0_digest_167 : decode cX0_digest 167 = .ok (.lload_n 1, 1) := dk_31 (dk_at dksX0_digest_7 3 rfl rfl)
theorem dX0_digest_168 : decode cX0_digest 168 = .ok (.lmul, 1) := dk_105 (dk_at dksX0_digest_7 4 rfl rfl)
theorem dX0_digest_169 : decode cX0_digest 169 = .ok (.aload_n 0, 1) := dk_42 (dk_at dksX0_digest_7 5 rfl rfl)
theorem dX0_digest_170 : decode cX0_digest 170 = .ok (.invokevirtual 313, 3) := dk_182 1 57 (dk_at dksX0_digest_7 6 rfl rfl)
theorem dX0_digest_173 : decode cX0_digest 173 = .ok (.i2l, 1) := dk_133 (dk_at dksX0_digest_7 9 rfl rfl)
theorem dX0_digest_174 : decode cX0_digest 174 = .ok (.ladd, 1) := dk_97 (dk_at dksX0_digest_7 10 rfl rfl)
theorem dX0_digest_175 : decode cX0_digest 175 = .ok (.lstore_n 1, 1) := dk_64 (dk_at dksX0_digest_7 11 rfl rfl)
theorem dX0_digest_176 : decode cX0_digest 176 = .ok (.iconst 0, 1) := dk_3 (dk_at dksX0_digest_7 12 rfl rfl)
theorem dX0_digest_177 : decode cX0_digest 177 = .ok (.istore_n 3, 1) := dk_62 (dk_at dksX0_digest_7 13 rfl rfl)
theorem dX0_digest_178 : decode cX0_digest 178 = .ok (.iload_n 3, 1) := dk_29 (dk_at dksX0_digest_7 14 rfl rfl)
theorem dX0_digest_179 : decode cX0_digest 179 = .ok (.iconst 3, 1) := dk_6 (dk_at dksX0_digest_7 15 rfl rfl)
theorem dX0_digest_180 : decode cX0_digest 180 = .ok (.if_icmp .ge 22, 3) := dk_162 0 22 (dk_at dksX0_digest_7 16 rfl rfl)
theorem dX0_digest_183 : decode cX0_digest 183 = .ok (.ldc2_w 434, 3) := dk_20 1 178 (dk_at dksX0_digest_7 19 rfl rfl)
theorem dX0_digest_186 : decode cX0_digest 186 = .ok (.lload_n 1, 1) := dk_31 (dk_at dksX0_digest_7 22 rfl rfl)
theorem dX0_digest_187 : decode cX0_digest 187 = .ok (.lmul, 1) := dk_105 (dk_at dksX0_digest_7 23 rfl rfl)
theorem dX0_digest_188 : decode cX0_digest 188 = .ok (.aload_n 0, 1) := dk_42 (dk_at dksX0_digest_8 0 rfl rfl)
theorem dX0_digest_189 : decode cX0_digest 189 = .ok (.iload_n 3, 1) := dk_29 (dk_at dksX0_digest_8 1 rfl rfl)
theorem dX0_digest_190 : decode cX0_digest 190 = .ok (.invokevirtual 316, 3) := dk_182 1 60 (dk_at dksX0_digest_8 2 rfl rfl)
theorem dX0_digest_193 : decode cX0_digest 193 = .ok (.i2l, 1) := dk_133 (dk_at dksX0_digest_8 5 rfl rfl)
theorem dX0_digest_194 : decode cX0_digest 194 = .ok (.ladd, 1) := dk_97 (dk_at dksX0_digest_8 6 rfl rfl)
theorem dX0_digest_195 : decode cX0_digest 195 = .ok (.lstore_n 1, 1) := dk_64 (dk_at dksX0_digest_8 7 rfl rfl)
theorem dX0_digest_196 : decode cX0_digest 196 = .ok (.iinc 3 1, 3) := dk_132 3 1 (dk_at dksX0_digest_8 8 rfl rfl)
theorem dX0_digest_199 : decode cX0_digest 199 = .ok (.goto (-21), 3) := dk_167 255 235 (dk_at dksX0_digest_8 11 rfl rfl)
theorem dX0_digest_202 : decode cX0_digest 202 = .ok (.ldc2_w 434, 3) := dk_20 1 178 (dk_at dksX0_digest_8 14 rfl rfl)
theorem dX0_digest_205 : decode cX0_digest 205 = .ok (.lload_n 1, 1) := dk_31 (dk_at dksX0_digest_8 17 rfl rfl)
theorem dX0_digest_206 : decode cX0_digest 206 = .ok (.lmul, 1) := dk_105 (dk_at dksX0_digest_8 18 rfl rfl)
theorem dX0_digest_207 : decode cX0_digest 207 = .ok (.aload_n 0, 1) := dk_42 (dk_at dksX0_digest_8 19 rfl rfl)
theorem dX0_digest_208 : decode cX0_digest 208 = .ok (.invokevirtual 319, 3) := dk_182 1 63 (dk_at dksX0_digest_8 20 rfl rfl)
theorem dX0_digest_211 : decode cX0_digest 211 = .ok (.i2l, 1) := dk_133 (dk_at dksX0_digest_8 23 rfl rfl)
theorem dX0_digest_212 : decode cX0_digest 212 = .ok (.ladd, 1) := dk_97 (dk_at dksX0_digest_9 0 rfl rfl)
theorem dX0_digest_213 : decode cX0_digest 213 = .ok (.lstore_n 1, 1) := dk_64 (dk_at dksX0_digest_9 1 rfl rfl)
theorem dX0_digest_214 : decode cX0_digest 214 = .ok (.ldc2_w 434, 3) := dk_20 1 178 (dk_at dksX0_digest_9 2 rfl rfl)
theorem dX0_digest_217 : decode cX0_digest 217 = .ok (.lload_n 1, 1) := dk_31 (dk_at dksX0_digest_9 5 rfl rfl)
theorem dX0_digest_218 : decode cX0_digest 218 = .ok (.lmul, 1) := dk_105 (dk_at dksX0_digest_9 6 rfl rfl)
theorem dX0_digest_219 : decode cX0_digest 219 = .ok (.aload_n 0, 1) := dk_42 (dk_at dksX0_digest_9 7 rfl rfl)
theorem dX0_digest_220 : decode cX0_digest 220 = .ok (.invokevirtual 322, 3) := dk_182 1 66 (dk_at dksX0_digest_9 8 rfl rfl)
theorem dX0_digest_223 : decode cX0_digest 223 = .ok (.i2l, 1) := dk_133 (dk_at dksX0_digest_9 11 rfl rfl)
theorem dX0_digest_224 : decode cX0_digest 224 = .ok (.ladd, 1) := dk_97 (dk_at dksX0_digest_9 12 rfl rfl)
theorem dX0_digest_225 : decode cX0_digest 225 = .ok (.lstore_n 1, 1) := dk_64 (dk_at dksX0_digest_9 13 rfl rfl)
theorem dX0_digest_226 : decode cX0_digest 226 = .ok (.iconst 0, 1) := dk_3 (dk_at dksX0_digest_9 14 rfl rfl)
theorem dX0_digest_227 : decode cX0_digest 227 = .ok (.istore_n 3, 1) := dk_62 (dk_at dksX0_digest_9 15 rfl rfl)
theorem dX0_digest_228 : decode cX0_digest 228 = .ok (.iload_n 3, 1) := dk_29 (dk_at dksX0_digest_9 16 rfl rfl)
theorem dX0_digest_229 : decode cX0_digest 229 = .ok (.iconst 2, 1) := dk_5 (dk_at dksX0_digest_9 17 rfl rfl)
theorem dX0_digest_230 : decode cX0_digest 230 = .ok (.if_icmp .ge 24, 3) := dk_162 0 24 (dk_at dksX0_digest_9 18 rfl rfl)
theorem dX0_digest_233 : decode cX0_digest 233 = .ok (.ldc2_w 434, 3) := dk_20 1 178 (dk_at dksX0_digest_9 21 rfl rfl)
theorem dX0_digest_236 : decode cX0_digest 236 = .ok (.lload_n 1, 1) := dk_31 (dk_at dksX0_digest_10 0 rfl rfl)
theorem dX0_digest_237 : decode cX0_digest 237 = .ok (.lmul, 1) := dk_105 (dk_at dksX0_digest_10 1 rfl rfl)
theorem dX0_digest_238 : decode cX0_digest 238 = .ok (.aload_n 0, 1) := dk_42 (dk_at dksX0_digest_10 2 rfl rfl)
theorem dX0_digest_239 : decode cX0_digest 239 = .ok (.bipush 8, 2) := dk_16 8 (dk_at dksX0_digest_10 3 rfl rfl)
theorem dX0_digest_241 : decode cX0_digest 241 = .ok (.iload_n 3, 1) := dk_29 (dk_at dksX0_digest_10 5 rfl rfl)
theorem dX0_digest_242 : decode cX0_digest 242 = .ok (.invokevirtual 329, 3) := dk_182 1 73 (dk_at dksX0_digest_10 6 rfl rfl)
theorem dX0_digest_245 : decode cX0_digest 245 = .ok (.i2l, 1) := dk_133 (dk_at dksX0_digest_10 9 rfl rfl)
theorem dX0_digest_246 : decode cX0_digest 246 = .ok (.ladd, 1) := dk_97 (dk_at dksX0_digest_10 10 rfl rfl)
theorem dX0_digest_247 : decode cX0_digest 247 = .ok (.lstore_n 1, 1) := dk_64 (dk_at dksX0_digest_10 11 rfl rfl)
theorem dX0_digest_248 : decode cX0_digest 248 = .ok (.iinc 3 1, 3) := dk_132 3 1 (dk_at dksX0_digest_10 12 rfl rfl)
theorem dX0_digest_251 : decode cX0_digest 251 = .ok (.goto (-23), 3) := dk_167 255 233 (dk_at dksX0_digest_10 15 rfl rfl)
theorem dX0_digest_254 : decode cX0_digest 254 = .ok (.iconst 0, 1) := dk_3 (dk_at dksX0_digest_10 18 rfl rfl)
theorem dX0_digest_255 : decode cX0_digest 255 = .ok (.istore_n 3, 1) := dk_62 (dk_at dksX0_digest_10 19 rfl rfl)
theorem dX0_digest_256 : decode cX0_digest 256 = .ok (.iload_n 3, 1) := dk_29 (dk_at dksX0_digest_10 20 rfl rfl)
theorem dX0_digest_257 : decode cX0_digest 257 = .ok (.iconst 2, 1) := dk_5 (dk_at dksX0_digest_10 21 rfl rfl)
theorem dX0_digest_258 : decode cX0_digest 258 = .ok (.if_icmp .ge 22, 3) := dk_162 0 22 (dk_at dksX0_digest_11 0 rfl rfl)
theorem dX0_digest_261 : decode cX0_digest 261 = .ok (.ldc2_w 434, 3) := dk_20 1 178 (dk_at dksX0_digest_11 3 rfl rfl)
theorem dX0_digest_264 : decode cX0_digest 264 = .ok (.lload_n 1, 1) := dk_31 (dk_at dksX0_digest_11 6 rfl rfl)
theorem dX0_digest_265 : decode cX0_digest 265 = .ok (.lmul, 1) := dk_105 (dk_at dksX0_digest_11 7 rfl rfl)
theorem dX0_digest_266 : decode cX0_digest 266 = .ok (.aload_n 0, 1) := dk_42 (dk_at dksX0_digest_11 8 rfl rfl)
theorem dX0_digest_267 : decode cX0_digest 267 = .ok (.iload_n 3, 1) := dk_29 (dk_at dksX0_digest_11 9 rfl rfl)
theorem dX0_digest_268 : decode cX0_digest 268 = .ok (.invokevirtual 332, 3) := dk_182 1 76 (dk_at dksX0_digest_11 10 rfl rfl)
theorem dX0_digest_271 : decode cX0_digest 271 = .ok (.i2l, 1) := dk_133 (dk_at dksX0_digest_11 13 rfl rfl)
theorem dX0_digest_272 : decode cX0_digest 272 = .ok (.ladd, 1) := dk_97 (dk_at dksX0_digest_11 14 rfl rfl)
theorem dX0_digest_273 : decode cX0_digest 273 = .ok (.lstore_n 1, 1) := dk_64 (dk_at dksX0_digest_11 15 rfl rfl)
theorem dX0_digest_274 : decode cX0_digest 274 = .ok (.iinc 3 1, 3) := dk_132 3 1 (dk_at dksX0_digest_11 16 rfl rfl)
theorem dX0_digest_277 : decode cX0_digest 277 = .ok (.goto (-21), 3) := dk_167 255 235 (dk_at dksX0_digest_11 19 rfl rfl)
theorem dX0_digest_280 : decode cX0_digest 280 = .ok (.iconst (-1), 1) := dk_2 (dk_at dksX0_digest_11 22 rfl rfl)
theorem dX0_digest_281 : decode cX0_digest 281 = .ok (.istore_n 3, 1) := dk_62 (dk_at dksX0_digest_11 23 rfl rfl)
theorem dX0_digest_282 : decode cX0_digest 282 = .ok (.iload_n 3, 1) := dk_29 (dk_at dksX0_digest_12 0 rfl rfl)
theorem dX0_digest_283 : decode cX0_digest 283 = .ok (.iconst 1, 1) := dk_4 (dk_at dksX0_digest_12 1 rfl rfl)
theorem dX0_digest_284 : decode cX0_digest 284 = .ok (.if_icmp .ge 22, 3) := dk_162 0 22 (dk_at dksX0_digest_12 2 rfl rfl)
theorem dX0_digest_287 : decode cX0_digest 287 = .ok (.ldc2_w 434, 3) := dk_20 1 178 (dk_at dksX0_digest_12 5 rfl rfl)
theorem dX0_digest_290 : decode cX0_digest 290 = .ok (.lload_n 1, 1) := dk_31 (dk_at dksX0_digest_12 8 rfl rfl)
theorem dX0_digest_291 : decode cX0_digest 291 = .ok (.lmul, 1) := dk_105 (dk_at dksX0_digest_12 9 rfl rfl)
theorem dX0_digest_292 : decode cX0_digest 292 = .ok (.aload_n 0, 1) := dk_42 (dk_at dksX0_digest_12 10 rfl rfl)
theorem dX0_digest_293 : decode cX0_digest 293 = .ok (.iload_n 3, 1) := dk_29 (dk_at dksX0_digest_12 11 rfl rfl)
theorem dX0_digest_294 : decode cX0_digest 294 = .ok (.invokevirtual 340, 3) := dk_182 1 84 (dk_at dksX0_digest_12 12 rfl rfl)
theorem dX0_digest_297 : decode cX0_digest 297 = .ok (.i2l, 1) := dk_133 (dk_at dksX0_digest_12 15 rfl rfl)
theorem dX0_digest_298 : decode cX0_digest 298 = .ok (.ladd, 1) := dk_97 (dk_at dksX0_digest_12 16 rfl rfl)
theorem dX0_digest_299 : decode cX0_digest 299 = .ok (.lstore_n 1, 1) := dk_64 (dk_at dksX0_digest_12 17 rfl rfl)
theorem dX0_digest_300 : decode cX0_digest 300 = .ok (.iinc 3 1, 3) := dk_132 3 1 (dk_at dksX0_digest_12 18 rfl rfl)
theorem dX0_digest_303 : decode cX0_digest 303 = .ok (.goto (-21), 3) := dk_167 255 235 (dk_at dksX0_digest_12 21 rfl rfl)
theorem dX0_digest_306 : decode cX0_digest 306 = .ok (.ldc2_w 434, 3) := dk_20 1 178 (dk_at dksX0_digest_13 0 rfl rfl)
theorem dX0_digest_309 : decode cX0_digest 309 = .ok (.lload_n 1, 1) := dk_31 (dk_at dksX0_digest_13 3 rfl rfl)
theorem dX0_digest_310 : decode cX0_digest 310 = .ok (.lmul, 1) := dk_105 (dk_at dksX0_digest_13 4 rfl rfl)
theorem dX0_digest_311 : decode cX0_digest 311 = .ok (.aload_n 0, 1) := dk_42 (dk_at dksX0_digest_13 5 rfl rfl)
theorem dX0_digest_312 : decode cX0_digest 312 = .ok (.invokevirtual 351, 3) := dk_182 1 95 (dk_at dksX0_digest_13 6 rfl rfl)
theorem dX0_digest_315 : decode cX0_digest 315 = .ok (.i2l, 1) := dk_133 (dk_at dksX0_digest_13 9 rfl rfl)
theorem dX0_digest_316 : decode cX0_digest 316 = .ok (.ladd, 1) := dk_97 (dk_at dksX0_digest_13 10 rfl rfl)
theorem dX0_digest_317 : decode cX0_digest 317 = .ok (.lstore_n 1, 1) := dk_64 (dk_at dksX0_digest_13 11 rfl rfl)
theorem dX0_digest_318 : decode cX0_digest 318 = .ok (.iconst 0, 1) := dk_3 (dk_at dksX0_digest_13 12 rfl rfl)
theorem dX0_digest_319 : decode cX0_digest 319 = .ok (.istore_n 3, 1) := dk_62 (dk_at dksX0_digest_13 13 rfl rfl)
theorem dX0_digest_320 : decode cX0_digest 320 = .ok (.iload_n 3, 1) := dk_29 (dk_at dksX0_digest_13 14 rfl rfl)
theorem dX0_digest_321 : decode cX0_digest 321 = .ok (.iconst 2, 1) := dk_5 (dk_at dksX0_digest_13 15 rfl rfl)
theorem dX0_digest_322 : decode cX0_digest 322 = .ok (.if_icmp .ge 24, 3) := dk_162 0 24 (dk_at dksX0_digest_13 16 rfl rfl)
theorem dX0_digest_325 : decode cX0_digest 325 = .ok (.ldc2_w 434, 3) := dk_20 1 178 (dk_at dksX0_digest_13 19 rfl rfl)
theorem dX0_digest_328 : decode cX0_digest 328 = .ok (.lload_n 1, 1) := dk_31 (dk_at dksX0_digest_13 22 rfl rfl)
theorem dX0_digest_329 : decode cX0_digest 329 = .ok (.lmul, 1) := dk_105 (dk_at dksX0_digest_13 23 rfl rfl)
theorem dX0_digest_330 : decode cX0_digest 330 = .ok (.aload_n 0, 1) := dk_42 (dk_at dksX0_digest_14 0 rfl rfl)
theorem dX0_digest_331 : decode cX0_digest 331 = .ok (.iconst 5, 1) := dk_8 (dk_at dksX0_digest_14 1 rfl rfl)
theorem dX0_digest_332 : decode cX0_digest 332 = .ok (.bipush 9, 2) := dk_16 9 (dk_at dksX0_digest_14 2 rfl rfl)
theorem dX0_digest_334 : decode cX0_digest 334 = .ok (.iload_n 3, 1) := dk_29 (dk_at dksX0_digest_14 4 rfl rfl)
theorem dX0_digest_335 : decode cX0_digest 335 = .ok (.invokevirtual 380, 3) := dk_182 1 124 (dk_at dksX0_digest_14 5 rfl rfl)
theorem dX0_digest_338 : decode cX0_digest 338 = .ok (.ladd, 1) := dk_97 (dk_at dksX0_digest_14 8 rfl rfl)
theorem dX0_digest_339 : decode cX0_digest 339 = .ok (.lstore_n 1, 1) := dk_64 (dk_at dksX0_digest_14 9 rfl rfl)
theorem dX0_digest_340 : decode cX0_digest 340 = .ok (.iinc 3 1, 3) := dk_132 3 1 (dk_at dksX0_digest_14 10 rfl rfl)
theorem dX0_digest_343 : decode cX0_digest 343 = .ok (.goto (-23), 3) := dk_167 255 233 (dk_at dksX0_digest_14 13 rfl rfl)
theorem dX0_digest_346 : decode cX0_digest 346 = .ok (.iconst 0, 1) := dk_3 (dk_at dksX0_digest_14 16 rfl rfl)
theorem dX0_digest_347 : decode cX0_digest 347 = .ok (.istore_n 3, 1) := dk_62 (dk_at dksX0_digest_14 17 rfl rfl)
theorem dX0_digest_348 : decode cX0_digest 348 = .ok (.iload_n 3, 1) := dk_29 (dk_at dksX0_digest_14 18 rfl rfl)
theorem dX0_digest_349 : decode cX0_digest 349 = .ok (.iconst 2, 1) := dk_5 (dk_at dksX0_digest_14 19 rfl rfl)
theorem dX0_digest_350 : decode cX0_digest 350 = .ok (.if_icmp .ge 26, 3) := dk_162 0 26 (dk_at dksX0_digest_14 20 rfl rfl)
theorem dX0_digest_353 : decode cX0_digest 353 = .ok (.ldc2_w 434, 3) := dk_20 1 178 (dk_at dksX0_digest_15 0 rfl rfl)
theorem dX0_digest_356 : decode cX0_digest 356 = .ok (.lload_n 1, 1) := dk_31 (dk_at dksX0_digest_15 3 rfl rfl)
theorem dX0_digest_357 : decode cX0_digest 357 = .ok (.lmul, 1) := dk_105 (dk_at dksX0_digest_15 4 rfl rfl)
theorem dX0_digest_358 : decode cX0_digest 358 = .ok (.aload_n 0, 1) := dk_42 (dk_at dksX0_digest_15 5 rfl rfl)
theorem dX0_digest_359 : decode cX0_digest 359 = .ok (.bipush 7, 2) := dk_16 7 (dk_at dksX0_digest_15 6 rfl rfl)
theorem dX0_digest_361 : decode cX0_digest 361 = .ok (.bipush 6, 2) := dk_16 6 (dk_at dksX0_digest_15 8 rfl rfl)
theorem dX0_digest_363 : decode cX0_digest 363 = .ok (.iload_n 3, 1) := dk_29 (dk_at dksX0_digest_15 10 rfl rfl)
theorem dX0_digest_364 : decode cX0_digest 364 = .ok (.invokevirtual 401, 3) := dk_182 1 145 (dk_at dksX0_digest_15 11 rfl rfl)
theorem dX0_digest_367 : decode cX0_digest 367 = .ok (.i2l, 1) := dk_133 (dk_at dksX0_digest_15 14 rfl rfl)
theorem dX0_digest_368 : decode cX0_digest 368 = .ok (.ladd, 1) := dk_97 (dk_at dksX0_digest_15 15 rfl rfl)
theorem dX0_digest_369 : decode cX0_digest 369 = .ok (.lstore_n 1, 1) := dk_64 (dk_at dksX0_digest_15 16 rfl rfl)
theorem dX0_digest_370 : decode cX0_digest 370 = .ok (.iinc 3 1, 3) := dk_132 3 1 (dk_at dksX0_digest_15 17 rfl rfl)
theorem dX0_digest_373 : decode cX0_digest 373 = .ok (.goto (-25), 3) := dk_167 255 231 (dk_at dksX0_digest_15 20 rfl rfl)
theorem dX0_digest_376 : decode cX0_digest 376 = .ok (.lload_n 1, 1) := dk_31 (dk_at dksX0_digest_15 23 rfl rfl)
theorem dX0_digest_377 : decode cX0_digest 377 = .ok (.lreturn, 1) := dk_173 (dk_at dksX0_digest_16 0 rfl rfl)
abbrev cX0_tellsPlace : ByteArray := prog_1_method_92_code
def yX0_tellsPlace : MethodName := ⟨RX0, "tellsPlace", "(JI)J"⟩
def dkwX0_tellsPlace_4 : List UInt8 := [182, 1, 105, 133, 97, 55, 4, 20, 1, 178, 22, 4, 105, 42, 29, 182, 1, 111, 133, 97, 173]
abbrev dktX0_tellsPlace_4 : List UInt8 := dkwX0_tellsPlace_4 ++ []
def dkwX0_tellsPlace_3 : List UInt8 := [29, 21, 6, 182, 1, 40, 133, 97, 55, 4, 132, 6, 1, 167, 255, 228, 20, 1, 178, 22, 4, 105, 42, 29]
abbrev dktX0_tellsPlace_3 : List UInt8 := dkwX0_tellsPlace_3 ++ dktX0_tellsPlace_4
def dkwX0_tellsPlace_2 : List UInt8 := [132, 6, 1, 167, 255, 228, 3, 54, 6, 21, 6, 5, 162, 0, 28, 20, 1, 178, 22, 4, 105, 42, 16, 19]
abbrev dktX0_tellsPlace_2 : List UInt8 := dkwX0_tellsPlace_2 ++ dktX0_tellsPlace_3
def dkwX0_tellsPlace_1 : List UInt8 := [162, 0, 28, 20, 1, 178, 22, 4, 105, 42, 16, 6, 29, 21, 6, 182, 1, 40, 133, 97, 55, 4]
abbrev dktX0_tellsPlace_1 : List UInt8 := dkwX0_tellsPlace_1 ++ dktX0_tellsPlace_2
def dkwX0_tellsPlace_0 : List UInt8 := [42, 182, 1, 37, 20, 1, 178, 31, 105, 42, 29, 182, 0, 66, 133, 97, 55, 4, 3, 54, 6, 21, 6, 5]
abbrev dktX0_tellsPlace_0 : List UInt8 := dkwX0_tellsPlace_0 ++ dktX0_tellsPlace_1
theorem dksX0_tellsPlace_0 : cX0_tellsPlace.data.toList.drop 0 = dktX0_tellsPlace_0 := by decide +kernel
theorem dksX0_tellsPlace_1 : cX0_tellsPlace.data.toList.drop 24 = dktX0_tellsPlace_1 := dk_seg dksX0_tellsPlace_0 24 rfl rfl
theorem dksX0_tellsPlace_2 : cX0_tellsPlace.data.toList.drop 46 = dktX0_tellsPlace_2 := dk_seg dksX0_tellsPlace_1 22 rfl rfl
theorem dksX0_tellsPlace_3 : cX0_tellsPlace.data.toList.drop 70 = dktX0_tellsPlace_3 := dk_seg dksX0_tellsPlace_2 24 rfl rfl
theorem dksX0_tellsPlace_4 : cX0_tellsPlace.data.toList.drop 94 = dktX0_tellsPlace_4 := dk_seg dksX0_tellsPlace_3 24 rfl rfl
theorem dX0_tellsPlace_0 : decode cX0_tellsPlace 0 = .ok (.aload_n 0, 1) := dk_42 (dk_at dksX0_tellsPlace_0 0 rfl rfl)
theorem dX0_tellsPlace_1 : decode cX0_tellsPlace 1 = .ok (.invokevirtual 293, 3) := dk_182 1 37 (dk_at dksX0_tellsPlace_0 1 rfl rfl)
theorem dX0_tellsPlace_4 : decode cX0_tellsPlace 4 = .ok (.ldc2_w 434, 3) := dk_20 1 178 (dk_at dksX0_tellsPlace_0 4 rfl rfl)
theorem dX0_tellsPlace_7 : decode cX0_tellsPlace 7 = .ok (.lload_n 1, 1) := dk_31 (dk_at dksX0_tellsPlace_0 7 rfl rfl)
theorem dX0_tellsPlace_8 : decode cX0_tellsPlace 8 = .ok (.lmul, 1) := dk_105 (dk_at dksX0_tellsPlace_0 8 rfl rfl)
theorem dX0_tellsPlace_9 : decode cX0_tellsPlace 9 = .ok (.aload_n 0, 1) := dk_42 (dk_at dksX0_tellsPlace_0 9 rfl rfl)
theorem dX0_tellsPlace_10 : decode cX0_tellsPlace 10 = .ok (.iload_n 3, 1) := dk_29 (dk_at dksX0_tellsPlace_0 10 rfl rfl)
theorem dX0_tellsPlace_11 : decode cX0_tellsPlace 11 = .ok (.invokevirtual 66, 3) := dk_182 0 66 (dk_at dksX0_tellsPlace_0 11 rfl rfl)
theorem dX0_tellsPlace_14 : decode cX0_tellsPlace 14 = .ok (.i2l, 1) := dk_133 (dk_at dksX0_tellsPlace_0 14 rfl rfl)
theorem dX0_tellsPlace_15 : decode cX0_tellsPlace 15 = .ok (.ladd, 1) := dk_97 (dk_at dksX0_tellsPlace_0 15 rfl rfl)
theorem dX0_tellsPlace_16 : decode cX0_tellsPlace 16 = .ok (.lstore 4, 2) := dk_55 4 (dk_at dksX0_tellsPlace_0 16 rfl rfl)
theorem dX0_tellsPlace_18 : decode cX0_tellsPlace 18 = .ok (.iconst 0, 1) := dk_3 (dk_at dksX0_tellsPlace_0 18 rfl rfl)
theorem dX0_tellsPlace_19 : decode cX0_tellsPlace 19 = .ok (.istore 6, 2) := dk_54 6 (dk_at dksX0_tellsPlace_0 19 rfl rfl)
theorem dX0_tellsPlace_21 : decode cX0_tellsPlace 21 = .ok (.iload 6, 2) := dk_21 6 (dk_at dksX0_tellsPlace_0 21 rfl rfl)
theorem dX0_tellsPlace_23 : decode cX0_tellsPlace 23 = .ok (.iconst 2, 1) := dk_5 (dk_at dksX0_tellsPlace_0 23 rfl rfl)
theorem dX0_tellsPlace_24 : decode cX0_tellsPlace 24 = .ok (.if_icmp .ge 28, 3) := dk_162 0 28 (dk_at dksX0_tellsPlace_1 0 rfl rfl)
theorem dX0_tellsPlace_27 : decode cX0_tellsPlace 27 = .ok (.ldc2_w 434, 3) := dk_20 1 178 (dk_at dksX0_tellsPlace_1 3 rfl rfl)
theorem dX0_tellsPlace_30 : decode cX0_tellsPlace 30 = .ok (.lload 4, 2) := dk_22 4 (dk_at dksX0_tellsPlace_1 6 rfl rfl)
theorem dX0_tellsPlace_32 : decode cX0_tellsPlace 32 = .ok (.lmul, 1) := dk_105 (dk_at dksX0_tellsPlace_1 8 rfl rfl)
theorem dX0_tellsPlace_33 : decode cX0_tellsPlace 33 = .ok (.aload_n 0, 1) := dk_42 (dk_at dksX0_tellsPlace_1 9 rfl rfl)
theorem dX0_tellsPlace_34 : decode cX0_tellsPlace 34 = .ok (.bipush 6, 2) := dk_16 6 (dk_at dksX0_tellsPlace_1 10 rfl rfl)
theorem dX0_tellsPlace_36 : decode cX0_tellsPlace 36 = .ok (.iload_n 3, 1) := dk_29 (dk_at dksX0_tellsPlace_1 12 rfl rfl)
theorem dX0_tellsPlace_37 : decode cX0_tellsPlace 37 = .ok (.iload 6, 2) := dk_21 6 (dk_at dksX0_tellsPlace_1 13 rfl rfl)
theorem dX0_tellsPlace_39 : decode cX0_tellsPlace 39 = .ok (.invokevirtual 296, 3) := dk_182 1 40 (dk_at dksX0_tellsPlace_1 15 rfl rfl)
theorem dX0_tellsPlace_42 : decode cX0_tellsPlace 42 = .ok (.i2l, 1) := dk_133 (dk_at dksX0_tellsPlace_1 18 rfl rfl)
theorem dX0_tellsPlace_43 : decode cX0_tellsPlace 43 = .ok (.ladd, 1) := dk_97 (dk_at dksX0_tellsPlace_1 19 rfl rfl)
theorem dX0_tellsPlace_44 : decode cX0_tellsPlace 44 = .ok (.lstore 4, 2) := dk_55 4 (dk_at dksX0_tellsPlace_1 20 rfl rfl)
theorem dX0_tellsPlace_46 : decode cX0_tellsPlace 46 = .ok (.iinc 6 1, 3) := dk_132 6 1 (dk_at dksX0_tellsPlace_2 0 rfl rfl)
theorem dX0_tellsPlace_49 : decode cX0_tellsPlace 49 = .ok (.goto (-28), 3) := dk_167 255 228 (dk_at dksX0_tellsPlace_2 3 rfl rfl)
theorem dX0_tellsPlace_52 : decode cX0_tellsPlace 52 = .ok (.iconst 0, 1) := dk_3 (dk_at dksX0_tellsPlace_2 6 rfl rfl)
theorem dX0_tellsPlace_53 : decode cX0_tellsPlace 53 = .ok (.istore 6, 2) := dk_54 6 (dk_at dksX0_tellsPlace_2 7 rfl rfl)
theorem dX0_tellsPlace_55 : decode cX0_tellsPlace 55 = .ok (.iload 6, 2) := dk_21 6 (dk_at dksX0_tellsPlace_2 9 rfl rfl)
theorem dX0_tellsPlace_57 : decode cX0_tellsPlace 57 = .ok (.iconst 2, 1) := dk_5 (dk_at dksX0_tellsPlace_2 11 rfl rfl)
theorem dX0_tellsPlace_58 : decode cX0_tellsPlace 58 = .ok (.if_icmp .ge 28, 3) := dk_162 0 28 (dk_at dksX0_tellsPlace_2 12 rfl rfl)
theorem dX0_tellsPlace_61 : decode cX0_tellsPlace 61 = .ok (.ldc2_w 434, 3) := dk_20 1 178 (dk_at dksX0_tellsPlace_2 15 rfl rfl)
theorem dX0_tellsPlace_64 : decode cX0_tellsPlace 64 = .ok (.lload 4, 2) := dk_22 4 (dk_at dksX0_tellsPlace_2 18 rfl rfl)
theorem dX0_tellsPlace_66 : decode cX0_tellsPlace 66 = .ok (.lmul, 1) := dk_105 (dk_at dksX0_tellsPlace_2 20 rfl rfl)
theorem dX0_tellsPlace_67 : decode cX0_tellsPlace 67 = .ok (.aload_n 0, 1) := dk_42 (dk_at dksX0_tellsPlace_2 21 rfl rfl)
theorem dX0_tellsPlace_68 : decode cX0_tellsPlace 68 = .ok (.bipush 19, 2) := dk_16 19 (dk_at dksX0_tellsPlace_2 22 rfl rfl)
theorem dX0_tellsPlace_70 : decode cX0_tellsPlace 70 = .ok (.iload_n 3, 1) := dk_29 (dk_at dksX0_tellsPlace_3 0 rfl rfl)
theorem dX0_tellsPlace_71 : decode cX0_tellsPlace 71 = .ok (.iload 6, 2) := dk_21 6 (dk_at dksX0_tellsPlace_3 1 rfl rfl)
theorem dX0_tellsPlace_73 : decode cX0_tellsPlace 73 = .ok (.invokevirtual 296, 3) := dk_182 1 40 (dk_at dksX0_tellsPlace_3 3 rfl rfl)
theorem dX0_tellsPlace_76 : decode cX0_tellsPlace 76 = .ok (.i2l, 1) := dk_133 (dk_at dksX0_tellsPlace_3 6 rfl rfl)
theorem dX0_tellsPlace_77 : decode cX0_tellsPlace 77 = .ok (.ladd, 1) := dk_97 (dk_at dksX0_tellsPlace_3 7 rfl rfl)
theorem dX0_tellsPlace_78 : decode cX0_tellsPlace 78 = .ok (.lstore 4, 2) := dk_55 4 (dk_at dksX0_tellsPlace_3 8 rfl rfl)
theorem dX0_tellsPlace_80 : decode cX0_tellsPlace 80 = .ok (.iinc 6 1, 3) := dk_132 6 1 (dk_at dksX0_tellsPlace_3 10 rfl rfl)
theorem dX0_tellsPlace_83 : decode cX0_tellsPlace 83 = .ok (.goto (-28), 3) := dk_167 255 228 (dk_at dksX0_tellsPlace_3 13 rfl rfl)
theorem dX0_tellsPlace_86 : decode cX0_tellsPlace 86 = .ok (.ldc2_w 434, 3) := dk_20 1 178 (dk_at dksX0_tellsPlace_3 16 rfl rfl)
theorem dX0_tellsPlace_89 : decode cX0_tellsPlace 89 = .ok (.lload 4, 2) := dk_22 4 (dk_at dksX0_tellsPlace_3 19 rfl rfl)
theorem dX0_tellsPlace_91 : decode cX0_tellsPlace 91 = .ok (.lmul, 1) := dk_105 (dk_at dksX0_tellsPlace_3 21 rfl rfl)
theorem dX0_tellsPlace_92 : decode cX0_tellsPlace 92 = .ok (.aload_n 0, 1) := dk_42 (dk_at dksX0_tellsPlace_3 22 rfl rfl)
theorem dX0_tellsPlace_93 : decode cX0_tellsPlace 93 = .ok (.iload_n 3, 1) := dk_29 (dk_at dksX0_tellsPlace_3 23 rfl rfl)
theorem dX0_tellsPlace_94 : decode cX0_tellsPlace 94 = .ok (.invokevirtual 361, 3) := dk_182 1 105 (dk_at dksX0_tellsPlace_4 0 rfl rfl)
theorem dX0_tellsPlace_97 : decode cX0_tellsPlace 97 = .ok (.i2l, 1) := dk_133 (dk_at dksX0_tellsPlace_4 3 rfl rfl)
theorem dX0_tellsPlace_98 : decode cX0_tellsPlace 98 = .ok (.ladd, 1) := dk_97 (dk_at dksX0_tellsPlace_4 4 rfl rfl)
theorem dX0_tellsPlace_99 : decode cX0_tellsPlace 99 = .ok (.lstore 4, 2) := dk_55 4 (dk_at dksX0_tellsPlace_4 5 rfl rfl)
theorem dX0_tellsPlace_101 : decode cX0_tellsPlace 101 = .ok (.ldc2_w 434, 3) := dk_20 1 178 (dk_at dksX0_tellsPlace_4 7 rfl rfl)
theorem dX0_tellsPlace_104 : decode cX0_tellsPlace 104 = .ok (.lload 4, 2) := dk_22 4 (dk_at dksX0_tellsPlace_4 10 rfl rfl)
theorem dX0_tellsPlace_106 : decode cX0_tellsPlace 106 = .ok (.lmul, 1) := dk_105 (dk_at dksX0_tellsPlace_4 12 rfl rfl)
theorem dX0_tellsPlace_107 : decode cX0_tellsPlace 107 = .ok (.aload_n 0, 1) := dk_42 (dk_at dksX0_tellsPlace_4 13 rfl rfl)
theorem dX0_tellsPlace_108 : decode cX0_tellsPlace 108 = .ok (.iload_n 3, 1) := dk_29 (dk_at dksX0_tellsPlace_4 14 rfl rfl)
theorem dX0_tellsPlace_109 : decode cX0_tellsPlace 109 = .ok (.invokevirtual 367, 3) := dk_182 1 111 (dk_at dksX0_tellsPlace_4 15 rfl rfl)
theorem dX0_tellsPlace_112 : decode cX0_tellsPlace 112 = .ok (.i2l, 1) := dk_133 (dk_at dksX0_tellsPlace_4 18 rfl rfl)
theorem dX0_tellsPlace_113 : decode cX0_tellsPlace 113 = .ok (.ladd, 1) := dk_97 (dk_at dksX0_tellsPlace_4 19 rfl rfl)
theorem dX0_tellsPlace_114 : decode cX0_tellsPlace 114 = .ok (.lreturn, 1) := dk_173 (dk_at dksX0_tellsPlace_4 20 rfl rfl)
abbrev cX0_tellsMember : ByteArray := prog_1_method_94_code
def yX0_tellsMember : MethodName := ⟨RX0, "tellsMember", "(JI)J"⟩
def dkwX0_tellsMember_5 : List UInt8 := [182, 1, 102, 133, 97, 173]
abbrev dktX0_tellsMember_5 : List UInt8 := dkwX0_tellsMember_5 ++ []
def dkwX0_tellsMember_4 : List UInt8 := [21, 6, 182, 1, 70, 133, 97, 55, 4, 132, 6, 1, 167, 255, 230, 20, 1, 178, 22, 4, 105, 42, 29]
abbrev dktX0_tellsMember_4 : List UInt8 := dkwX0_tellsMember_4 ++ dktX0_tellsMember_5
def dkwX0_tellsMember_3 : List UInt8 := [29, 182, 1, 180, 55, 4, 3, 54, 6, 21, 6, 5, 162, 0, 26, 20, 1, 178, 22, 4, 105, 42, 29]
abbrev dktX0_tellsMember_3 : List UInt8 := dkwX0_tellsMember_3 ++ dktX0_tellsMember_4
def dkwX0_tellsMember_2 : List UInt8 := [132, 6, 1, 167, 255, 218, 42, 42, 42, 22, 4, 3, 29, 182, 1, 180, 16, 7, 29, 182, 1, 180, 16, 19]
abbrev dktX0_tellsMember_2 : List UInt8 := dkwX0_tellsMember_2 ++ dktX0_tellsMember_3
def dkwX0_tellsMember_1 : List UInt8 := [180, 0, 26, 180, 0, 72, 29, 182, 0, 88, 192, 0, 92, 21, 6, 182, 0, 94, 133, 97, 55, 4]
abbrev dktX0_tellsMember_1 : List UInt8 := dkwX0_tellsMember_1 ++ dktX0_tellsMember_2
def dkwX0_tellsMember_0 : List UInt8 := [42, 182, 1, 37, 31, 55, 4, 3, 54, 6, 21, 6, 6, 162, 0, 38, 20, 1, 178, 22, 4, 105, 42]
abbrev dktX0_tellsMember_0 : List UInt8 := dkwX0_tellsMember_0 ++ dktX0_tellsMember_1
theorem dksX0_tellsMember_0 : cX0_tellsMember.data.toList.drop 0 = dktX0_tellsMember_0 := by decide +kernel
theorem dksX0_tellsMember_1 : cX0_tellsMember.data.toList.drop 23 = dktX0_tellsMember_1 := dk_seg dksX0_tellsMember_0 23 rfl rfl
theorem dksX0_tellsMember_2 : cX0_tellsMember.data.toList.drop 45 = dktX0_tellsMember_2 := dk_seg dksX0_tellsMember_1 22 rfl rfl
theorem dksX0_tellsMember_3 : cX0_tellsMember.data.toList.drop 69 = dktX0_tellsMember_3 := dk_seg dksX0_tellsMember_2 24 rfl rfl
theorem dksX0_tellsMember_4 : cX0_tellsMember.data.toList.drop 92 = dktX0_tellsMember_4 := dk_seg dksX0_tellsMember_3 23 rfl rfl
theorem dksX0_tellsMember_5 : cX0_tellsMember.data.toList.drop 115 = dktX0_tellsMember_5 := dk_seg dksX0_tellsMember_4 23 rfl rfl
theorem dX0_tellsMember_0 : decode cX0_tellsMember 0 = .ok (.aload_n 0, 1) := dk_42 (dk_at dksX0_tellsMember_0 0 rfl rfl)
theorem dX0_tellsMember_1 : decode cX0_tellsMember 1 = .ok (.invokevirtual 293, 3) := dk_182 1 37 (dk_at dksX0_tellsMember_0 1 rfl rfl)
theorem dX0_tellsMember_4 : decode cX0_tellsMember 4 = .ok (.lload_n 1, 1) := dk_31 (dk_at dksX0_tellsMember_0 4 rfl rfl)
theorem dX0_tellsMember_5 : decode cX0_tellsMember 5 = .ok (.lstore 4, 2) := dk_55 4 (dk_at dksX0_tellsMember_0 5 rfl rfl)
theorem dX0_tellsMember_7 : decode cX0_tellsMember 7 = .ok (.iconst 0, 1) := dk_3 (dk_at dksX0_tellsMember_0 7 rfl rfl)
theorem dX0_tellsMember_8 : decode cX0_tellsMember 8 = .ok (.istore 6, 2) := dk_54 6 (dk_at dksX0_tellsMember_0 8 rfl rfl)
theorem dX0_tellsMember_10 : decode cX0_tellsMember 10 = .ok (.iload 6, 2) := dk_21 6 (dk_at dksX0_tellsMember_0 10 rfl rfl)
theorem dX0_tellsMember_12 : decode cX0_tellsMember 12 = .ok (.iconst 3, 1) := dk_6 (dk_at dksX0_tellsMember_0 12 rfl rfl)
theorem dX0_tellsMember_13 : decode cX0_tellsMember 13 = .ok (.if_icmp .ge 38, 3) := dk_162 0 38 (dk_at dksX0_tellsMember_0 13 rfl rfl)
theorem dX0_tellsMember_16 : decode cX0_tellsMember 16 = .ok (.ldc2_w 434, 3) := dk_20 1 178 (dk_at dksX0_tellsMember_0 16 rfl rfl)
theorem dX0_tellsMember_19 : decode cX0_tellsMember 19 = .ok (.lload 4, 2) := dk_22 4 (dk_at dksX0_tellsMember_0 19 rfl rfl)
theorem dX0_tellsMember_21 : decode cX0_tellsMember 21 = .ok (.lmul, 1) := dk_105 (dk_at dksX0_tellsMember_0 21 rfl rfl)
theorem dX0_tellsMember_22 : decode cX0_tellsMember 22 = .ok (.aload_n 0, 1) := dk_42 (dk_at dksX0_tellsMember_0 22 rfl rfl)
theorem dX0_tellsMember_23 : decode cX0_tellsMember 23 = .ok (.getfield 26, 3) := dk_180 0 26 (dk_at dksX0_tellsMember_1 0 rfl rfl)
theorem dX0_tellsMember_26 : decode cX0_tellsMember 26 = .ok (.getfield 72, 3) := dk_180 0 72 (dk_at dksX0_tellsMember_1 3 rfl rfl)
theorem dX0_tellsMember_29 : decode cX0_tellsMember 29 = .ok (.iload_n 3, 1) := dk_29 (dk_at dksX0_tellsMember_1 6 rfl rfl)
theorem dX0_tellsMember_30 : decode cX0_tellsMember 30 = .ok (.invokevirtual 88, 3) := dk_182 0 88 (dk_at dksX0_tellsMember_1 7 rfl rfl)
theorem dX0_tellsMember_33 : decode cX0_tellsMember 33 = .ok (.checkcast 92, 3) := dk_192 0 92 (dk_at dksX0_tellsMember_1 10 rfl rfl)
theorem dX0_tellsMember_36 : decode cX0_tellsMember 36 = .ok (.iload 6, 2) := dk_21 6 (dk_at dksX0_tellsMember_1 13 rfl rfl)
theorem dX0_tellsMember_38 : decode cX0_tellsMember 38 = .ok (.invokevirtual 94, 3) := dk_182 0 94 (dk_at dksX0_tellsMember_1 15 rfl rfl)
theorem dX0_tellsMember_41 : decode cX0_tellsMember 41 = .ok (.i2l, 1) := dk_133 (dk_at dksX0_tellsMember_1 18 rfl rfl)
theorem dX0_tellsMember_42 : decode cX0_tellsMember 42 = .ok (.ladd, 1) := dk_97 (dk_at dksX0_tellsMember_1 19 rfl rfl)
theorem dX0_tellsMember_43 : decode cX0_tellsMember 43 = .ok (.lstore 4, 2) := dk_55 4 (dk_at dksX0_tellsMember_1 20 rfl rfl)
theorem dX0_tellsMember_45 : decode cX0_tellsMember 45 = .ok (.iinc 6 1, 3) := dk_132 6 1 (dk_at dksX0_tellsMember_2 0 rfl rfl)
theorem dX0_tellsMember_48 : decode cX0_tellsMember 48 = .ok (.goto (-38), 3) := dk_167 255 218 (dk_at dksX0_tellsMember_2 3 rfl rfl)
theorem dX0_tellsMember_51 : decode cX0_tellsMember 51 = .ok (.aload_n 0, 1) := dk_42 (dk_at dksX0_tellsMember_2 6 rfl rfl)
theorem dX0_tellsMember_52 : decode cX0_tellsMember 52 = .ok (.aload_n 0, 1) := dk_42 (dk_at dksX0_tellsMember_2 7 rfl rfl)
theorem dX0_tellsMember_53 : decode cX0_tellsMember 53 = .ok (.aload_n 0, 1) := dk_42 (dk_at dksX0_tellsMember_2 8 rfl rfl)
theorem dX0_tellsMember_54 : decode cX0_tellsMember 54 = .ok (.lload 4, 2) := dk_22 4 (dk_at dksX0_tellsMember_2 9 rfl rfl)
theorem dX0_tellsMember_56 : decode cX0_tellsMember 56 = .ok (.iconst 0, 1) := dk_3 (dk_at dksX0_tellsMember_2 11 rfl rfl)
theorem dX0_tellsMember_57 : decode cX0_tellsMember 57 = .ok (.iload_n 3, 1) := dk_29 (dk_at dksX0_tellsMember_2 12 rfl rfl)
theorem dX0_tellsMember_58 : decode cX0_tellsMember 58 = .ok (.invokevirtual 436, 3) := dk_182 1 180 (dk_at dksX0_tellsMember_2 13 rfl rfl)
theorem dX0_tellsMember_61 : decode cX0_tellsMember 61 = .ok (.bipush 7, 2) := dk_16 7 (dk_at dksX0_tellsMember_2 16 rfl rfl)
theorem dX0_tellsMember_63 : decode cX0_tellsMember 63 = .ok (.iload_n 3, 1) := dk_29 (dk_at dksX0_tellsMember_2 18 rfl rfl)
theorem dX0_tellsMember_64 : decode cX0_tellsMember 64 = .ok (.invokevirtual 436, 3) := dk_182 1 180 (dk_at dksX0_tellsMember_2 19 rfl rfl)
theorem dX0_tellsMember_67 : decode cX0_tellsMember 67 = .ok (.bipush 19, 2) := dk_16 19 (dk_at dksX0_tellsMember_2 22 rfl rfl)
theorem dX0_tellsMember_69 : decode cX0_tellsMember 69 = .ok (.iload_n 3, 1) := dk_29 (dk_at dksX0_tellsMember_3 0 rfl rfl)
theorem dX0_tellsMember_70 : decode cX0_tellsMember 70 = .ok (.invokevirtual 436, 3) := dk_182 1 180 (dk_at dksX0_tellsMember_3 1 rfl rfl)
theorem dX0_tellsMember_73 : decode cX0_tellsMember 73 = .ok (.lstore 4, 2) := dk_55 4 (dk_at dksX0_tellsMember_3 4 rfl rfl)
theorem dX0_tellsMember_75 : decode cX0_tellsMember 75 = .ok (.iconst 0, 1) := dk_3 (dk_at dksX0_tellsMember_3 6 rfl rfl)
theorem dX0_tellsMember_76 : decode cX0_tellsMember 76 = .ok (.istore 6, 2) := dk_54 6 (dk_at dksX0_tellsMember_3 7 rfl rfl)
theorem dX0_tellsMember_78 : decode cX0_tellsMember 78 = .ok (.iload 6, 2) := dk_21 6 (dk_at dksX0_tellsMember_3 9 rfl rfl)
theorem dX0_tellsMember_80 : decode cX0_tellsMember 80 = .ok (.iconst 2, 1) := dk_5 (dk_at dksX0_tellsMember_3 11 rfl rfl)
theorem dX0_tellsMember_81 : decode cX0_tellsMember 81 = .ok (.if_icmp .ge 26, 3) := dk_162 0 26 (dk_at dksX0_tellsMember_3 12 rfl rfl)
theorem dX0_tellsMember_84 : decode cX0_tellsMember 84 = .ok (.ldc2_w 434, 3) := dk_20 1 178 (dk_at dksX0_tellsMember_3 15 rfl rfl)
theorem dX0_tellsMember_87 : decode cX0_tellsMember 87 = .ok (.lload 4, 2) := dk_22 4 (dk_at dksX0_tellsMember_3 18 rfl rfl)
theorem dX0_tellsMember_89 : decode cX0_tellsMember 89 = .ok (.lmul, 1) := dk_105 (dk_at dksX0_tellsMember_3 20 rfl rfl)
theorem dX0_tellsMember_90 : decode cX0_tellsMember 90 = .ok (.aload_n 0, 1) := dk_42 (dk_at dksX0_tellsMember_3 21 rfl rfl)
theorem dX0_tellsMember_91 : decode cX0_tellsMember 91 = .ok (.iload_n 3, 1) := dk_29 (dk_at dksX0_tellsMember_3 22 rfl rfl)
theorem dX0_tellsMember_92 : decode cX0_tellsMember 92 = .ok (.iload 6, 2) := dk_21 6 (dk_at dksX0_tellsMember_4 0 rfl rfl)
theorem dX0_tellsMember_94 : decode cX0_tellsMember 94 = .ok (.invokevirtual 326, 3) := dk_182 1 70 (dk_at dksX0_tellsMember_4 2 rfl rfl)
theorem dX0_tellsMember_97 : decode cX0_tellsMember 97 = .ok (.i2l, 1) := dk_133 (dk_at dksX0_tellsMember_4 5 rfl rfl)
theorem dX0_tellsMember_98 : decode cX0_tellsMember 98 = .ok (.ladd, 1) := dk_97 (dk_at dksX0_tellsMember_4 6 rfl rfl)
theorem dX0_tellsMember_99 : decode cX0_tellsMember 99 = .ok (.lstore 4, 2) := dk_55 4 (dk_at dksX0_tellsMember_4 7 rfl rfl)
theorem dX0_tellsMember_101 : decode cX0_tellsMember 101 = .ok (.iinc 6 1, 3) := dk_132 6 1 (dk_at dksX0_tellsMember_4 9 rfl rfl)
theorem dX0_tellsMember_104 : decode cX0_tellsMember 104 = .ok (.goto (-26), 3) := dk_167 255 230 (dk_at dksX0_tellsMember_4 12 rfl rfl)
theorem dX0_tellsMember_107 : decode cX0_tellsMember 107 = .ok (.ldc2_w 434, 3) := dk_20 1 178 (dk_at dksX0_tellsMember_4 15 rfl rfl)
theorem dX0_tellsMember_110 : decode cX0_tellsMember 110 = .ok (.lload 4, 2) := dk_22 4 (dk_at dksX0_tellsMember_4 18 rfl rfl)
theorem dX0_tellsMember_112 : decode cX0_tellsMember 112 = .ok (.lmul, 1) := dk_105 (dk_at dksX0_tellsMember_4 20 rfl rfl)
theorem dX0_tellsMember_113 : decode cX0_tellsMember 113 = .ok (.aload_n 0, 1) := dk_42 (dk_at dksX0_tellsMember_4 21 rfl rfl)
theorem dX0_tellsMember_114 : decode cX0_tellsMember 114 = .ok (.iload_n 3, 1) := dk_29 (dk_at dksX0_tellsMember_4 22 rfl rfl)
theorem dX0_tellsMember_115 : decode cX0_tellsMember 115 = .ok (.invokevirtual 358, 3) := dk_182 1 102 (dk_at dksX0_tellsMember_5 0 rfl rfl)
theorem dX0_tellsMember_118 : decode cX0_tellsMember 118 = .ok (.i2l, 1) := dk_133 (dk_at dksX0_tellsMember_5 3 rfl rfl)
theorem dX0_tellsMember_119 : decode cX0_tellsMember 119 = .ok (.ladd, 1) := dk_97 (dk_at dksX0_tellsMember_5 4 rfl rfl)
theorem dX0_tellsMember_120 : decode cX0_tellsMember 120 = .ok (.lreturn, 1) := dk_173 (dk_at dksX0_tellsMember_5 5 rfl rfl)
abbrev cX0_tellsHour : ByteArray := prog_1_method_93_code
def yX0_tellsHour : MethodName := ⟨RX0, "tellsHour", "(JII)J"⟩
def dkwX0_tellsHour_1 : List UInt8 := [21, 4, 50, 21, 7, 182, 1, 43, 133, 97, 55, 5, 132, 7, 1, 167, 255, 223, 22, 5, 173]
abbrev dktX0_tellsHour_1 : List UInt8 := dkwX0_tellsHour_1 ++ []
def dkwX0_tellsHour_0 : List UInt8 := [31, 55, 5, 3, 54, 7, 21, 7, 7, 162, 0, 33, 20, 1, 178, 22, 5, 105, 42, 180, 0, 164, 29, 50]
abbrev dktX0_tellsHour_0 : List UInt8 := dkwX0_tellsHour_0 ++ dktX0_tellsHour_1
theorem dksX0_tellsHour_0 : cX0_tellsHour.data.toList.drop 0 = dktX0_tellsHour_0 := by decide +kernel
theorem dksX0_tellsHour_1 : cX0_tellsHour.data.toList.drop 24 = dktX0_tellsHour_1 := dk_seg dksX0_tellsHour_0 24 rfl rfl
theorem dX0_tellsHour_0 : decode cX0_tellsHour 0 = .ok (.lload_n 1, 1) := dk_31 (dk_at dksX0_tellsHour_0 0 rfl rfl)
theorem dX0_tellsHour_1 : decode cX0_tellsHour 1 = .ok (.lstore 5, 2) := dk_55 5 (dk_at dksX0_tellsHour_0 1 rfl rfl)
theorem dX0_tellsHour_3 : decode cX0_tellsHour 3 = .ok (.iconst 0, 1) := dk_3 (dk_at dksX0_tellsHour_0 3 rfl rfl)
theorem dX0_tellsHour_4 : decode cX0_tellsHour 4 = .ok (.istore 7, 2) := dk_54 7 (dk_at dksX0_tellsHour_0 4 rfl rfl)
theorem dX0_tellsHour_6 : decode cX0_tellsHour 6 = .ok (.iload 7, 2) := dk_21 7 (dk_at dksX0_tellsHour_0 6 rfl rfl)
theorem dX0_tellsHour_8 : decode cX0_tellsHour 8 = .ok (.iconst 4, 1) := dk_7 (dk_at dksX0_tellsHour_0 8 rfl rfl)
theorem dX0_tellsHour_9 : decode cX0_tellsHour 9 = .ok (.if_icmp .ge 33, 3) := dk_162 0 33 (dk_at dksX0_tellsHour_0 9 rfl rfl)
theorem dX0_tellsHour_12 : decode cX0_tellsHour 12 = .ok (.ldc2_w 434, 3) := dk_20 1 178 (dk_at dksX0_tellsHour_0 12 rfl rfl)
theorem dX0_tellsHour_15 : decode cX0_tellsHour 15 = .ok (.lload 5, 2) := dk_22 5 (dk_at dksX0_tellsHour_0 15 rfl rfl)
theorem dX0_tellsHour_17 : decode cX0_tellsHour 17 = .ok (.lmul, 1) := dk_105 (dk_at dksX0_tellsHour_0 17 rfl rfl)
theorem dX0_tellsHour_18 : decode cX0_tellsHour 18 = .ok (.aload_n 0, 1) := dk_42 (dk_at dksX0_tellsHour_0 18 rfl rfl)
theorem dX0_tellsHour_19 : decode cX0_tellsHour 19 = .ok (.getfield 164, 3) := dk_180 0 164 (dk_at dksX0_tellsHour_0 19 rfl rfl)
theorem dX0_tellsHour_22 : decode cX0_tellsHour 22 = .ok (.iload_n 3, 1) := dk_29 (dk_at dksX0_tellsHour_0 22 rfl rfl)
theorem dX0_tellsHour_23 : decode cX0_tellsHour 23 = .ok (.aaload, 1) := dk_50 (dk_at dksX0_tellsHour_0 23 rfl rfl)
theorem dX0_tellsHour_24 : decode cX0_tellsHour 24 = .ok (.iload 4, 2) := dk_21 4 (dk_at dksX0_tellsHour_1 0 rfl rfl)
theorem dX0_tellsHour_26 : decode cX0_tellsHour 26 = .ok (.aaload, 1) := dk_50 (dk_at dksX0_tellsHour_1 2 rfl rfl)
theorem dX0_tellsHour_27 : decode cX0_tellsHour 27 = .ok (.iload 7, 2) := dk_21 7 (dk_at dksX0_tellsHour_1 3 rfl rfl)
theorem dX0_tellsHour_29 : decode cX0_tellsHour 29 = .ok (.invokevirtual 299, 3) := dk_182 1 43 (dk_at dksX0_tellsHour_1 5 rfl rfl)
theorem dX0_tellsHour_32 : decode cX0_tellsHour 32 = .ok (.i2l, 1) := dk_133 (dk_at dksX0_tellsHour_1 8 rfl rfl)
theorem dX0_tellsHour_33 : decode cX0_tellsHour 33 = .ok (.ladd, 1) := dk_97 (dk_at dksX0_tellsHour_1 9 rfl rfl)
theorem dX0_tellsHour_34 : decode cX0_tellsHour 34 = .ok (.lstore 5, 2) := dk_55 5 (dk_at dksX0_tellsHour_1 10 rfl rfl)
theorem dX0_tellsHour_36 : decode cX0_tellsHour 36 = .ok (.iinc 7 1, 3) := dk_132 7 1 (dk_at dksX0_tellsHour_1 12 rfl rfl)
theorem dX0_tellsHour_39 : decode cX0_tellsHour 39 = .ok (.goto (-33), 3) := dk_167 255 223 (dk_at dksX0_tellsHour_1 15 rfl rfl)
theorem dX0_tellsHour_42 : decode cX0_tellsHour 42 = .ok (.lload 5, 2) := dk_22 5 (dk_at dksX0_tellsHour_1 18 rfl rfl)
theorem dX0_tellsHour_44 : decode cX0_tellsHour 44 = .ok (.lreturn, 1) := dk_173 (dk_at dksX0_tellsHour_1 20 rfl rfl)
theorem q109 : (Jvm.Cond.initialized "WoodliceSenate") ∈ lw_all := lw_g (lw_at lw_m1 1 rfl) rfl
theorem q139 : (Jvm.Cond.instanceMethod ({ cls := "WoodliceSenate", name := "type", desc := "(II)I" } : Jvm.MethodName)) ∈ lw_all := lw_g (lw_at lw_m1 31 rfl) rfl
theorem q140 : (Jvm.Cond.selects "WoodliceSenate" ({ cls := "WoodliceSenate", name := "type", desc := "(II)I" } : Jvm.MethodName) ({ cls := "WoodliceSenate", name := "type", desc := "(II)I" } : Jvm.MethodName)) ∈ lw_all := lw_g (lw_at lw_m1 32 rfl) rfl
theorem q141 : (Jvm.Cond.code ({ cls := "WoodliceSenate", name := "type", desc := "(II)I" } : Jvm.MethodName) prog_1_method_10_code (3 : Nat) (Option.some Jvm.ClassFile.FieldType.int)) ∈ lw_all := lw_g (lw_at lw_m1 33 rfl) rfl
theorem q142 : (Jvm.Cond.methodLink "WoodliceSenate" (30 : Nat) ({ cls := "WoodliceSenate", name := "isTwo", desc := "(I)Z" } : Jvm.MethodName)) ∈ lw_all := lw_g (lw_at lw_m1 34 rfl) rfl
theorem q143 : (Jvm.Cond.static ({ cls := "WoodliceSenate", name := "isTwo", desc := "(I)Z" } : Jvm.MethodName)) ∈ lw_all := lw_g (lw_at lw_m1 35 rfl) rfl
theorem q144 : (Jvm.Cond.code ({ cls := "WoodliceSenate", name := "isTwo", desc := "(I)Z" } : Jvm.MethodName) prog_1_method_5_code (1 : Nat) (Option.some Jvm.ClassFile.FieldType.boolean)) ∈ lw_all := lw_g (lw_at lw_m1 36 rfl) rfl
theorem q145 : (Jvm.Cond.methodLink "WoodliceSenate" (14 : Nat) ({ cls := "WoodliceSenate", name := "in", desc := "(JJJ)Z" } : Jvm.MethodName)) ∈ lw_all := lw_g (lw_at lw_m1 37 rfl) rfl
theorem q146 : (Jvm.Cond.static ({ cls := "WoodliceSenate", name := "in", desc := "(JJJ)Z" } : Jvm.MethodName)) ∈ lw_all := lw_g (lw_at lw_m1 38 rfl) rfl
theorem q147 : (Jvm.Cond.code ({ cls := "WoodliceSenate", name := "in", desc := "(JJJ)Z" } : Jvm.MethodName) prog_1_method_1_code (6 : Nat) (Option.some Jvm.ClassFile.FieldType.boolean)) ∈ lw_all := lw_g (lw_at lw_m1 39 rfl) rfl
theorem q148 : (Jvm.Cond.constantLong "WoodliceSenate" (34 : Nat) (255 : Int64)) ∈ lw_all := lw_g (lw_at lw_m1 40 rfl) rfl
theorem q149 : (Jvm.Cond.methodLink "WoodliceSenate" (36 : Nat) ({ cls := "WoodliceSenate", name := "text", desc := "(I)LWoodliceSenate$Text;" } : Jvm.MethodName)) ∈ lw_all := lw_g (lw_at lw_m1 41 rfl) rfl
theorem q150 : (Jvm.Cond.privateMethod ({ cls := "WoodliceSenate", name := "text", desc := "(I)LWoodliceSenate$Text;" } : Jvm.MethodName)) ∈ lw_tbl := lw_at lw_m1 42 rfl
theorem q151 : (Jvm.Cond.instanceMethod ({ cls := "WoodliceSenate", name := "text", desc := "(I)LWoodliceSenate$Text;" } : Jvm.MethodName)) ∈ lw_all := lw_g (lw_at lw_m1 43 rfl) rfl
theorem q152 : (Jvm.Cond.instantiable "WoodliceSenate" (18 : Nat)) ∈ lw_all := lw_g (lw_at lw_m1 44 rfl) rfl
theorem q153 : (Jvm.Cond.code ({ cls := "WoodliceSenate", name := "text", desc := "(I)LWoodliceSenate$Text;" } : Jvm.MethodName) prog_1_method_9_code (2 : Nat) (Option.some (Jvm.ClassFile.FieldType.object "WoodliceSenate$Text"))) ∈ lw_all := lw_g (lw_at lw_m1 45 rfl) rfl
theorem q154 : (Jvm.Cond.methodLink "WoodliceSenate" (40 : Nat) ({ cls := "WoodliceSenate$Text", name := "type", desc := "(I)I" } : Jvm.MethodName)) ∈ lw_all := lw_g (lw_at lw_m1 46 rfl) rfl
theorem q161 : (Jvm.Cond.instanceMethod ({ cls := "WoodliceSenate", name := "wipe", desc := "(I)I" } : Jvm.MethodName)) ∈ lw_all := lw_g (lw_at lw_m1 53 rfl) rfl
theorem q162 : (Jvm.Cond.selects "WoodliceSenate" ({ cls := "WoodliceSenate", name := "wipe", desc := "(I)I" } : Jvm.MethodName) ({ cls := "WoodliceSenate", name := "wipe", desc := "(I)I" } : Jvm.MethodName)) ∈ lw_all := lw_g (lw_at lw_m1 54 rfl) rfl
theorem q163 : (Jvm.Cond.code ({ cls := "WoodliceSenate", name := "wipe", desc := "(I)I" } : Jvm.MethodName) prog_1_method_11_code (2 : Nat) (Option.some Jvm.ClassFile.FieldType.int)) ∈ lw_all := lw_g (lw_at lw_m1 55 rfl) rfl
theorem q164 : (Jvm.Cond.methodLink "WoodliceSenate" (46 : Nat) ({ cls := "WoodliceSenate$Text", name := "wipe", desc := "()I" } : Jvm.MethodName)) ∈ lw_all := lw_g (lw_at lw_m1 56 rfl) rfl
theorem q171 : (Jvm.Cond.instanceMethod ({ cls := "WoodliceSenate", name := "undo", desc := "(I)I" } : Jvm.MethodName)) ∈ lw_all := lw_g (lw_at lw_m1 63 rfl) rfl
theorem q172 : (Jvm.Cond.selects "WoodliceSenate" ({ cls := "WoodliceSenate", name := "undo", desc := "(I)I" } : Jvm.MethodName) ({ cls := "WoodliceSenate", name := "undo", desc := "(I)I" } : Jvm.MethodName)) ∈ lw_all := lw_g (lw_at lw_m1 64 rfl) rfl
theorem q173 : (Jvm.Cond.code ({ cls := "WoodliceSenate", name := "undo", desc := "(I)I" } : Jvm.MethodName) prog_1_method_12_code (2 : Nat) (Option.some Jvm.ClassFile.FieldType.int)) ∈ lw_all := lw_g (lw_at lw_m1 65 rfl) rfl
theorem q174 : (Jvm.Cond.methodLink "WoodliceSenate" (50 : Nat) ({ cls := "WoodliceSenate$Text", name := "undo", desc := "()I" } : Jvm.MethodName)) ∈ lw_all := lw_g (lw_at lw_m1 66 rfl) rfl
theorem q181 : (Jvm.Cond.instanceMethod ({ cls := "WoodliceSenate", name := "fault", desc := "(I)I" } : Jvm.MethodName)) ∈ lw_all := lw_g (lw_at lw_m1 73 rfl) rfl
theorem q182 : (Jvm.Cond.selects "WoodliceSenate" ({ cls := "WoodliceSenate", name := "fault", desc := "(I)I" } : Jvm.MethodName) ({ cls := "WoodliceSenate", name := "fault", desc := "(I)I" } : Jvm.MethodName)) ∈ lw_all := lw_g (lw_at lw_m1 74 rfl) rfl
theorem q183 : (Jvm.Cond.code ({ cls := "WoodliceSenate", name := "fault", desc := "(I)I" } : Jvm.MethodName) prog_1_method_13_code (2 : Nat) (Option.some Jvm.ClassFile.FieldType.int)) ∈ lw_all := lw_g (lw_at lw_m1 75 rfl) rfl
theorem q184 : (Jvm.Cond.methodLink "WoodliceSenate" (53 : Nat) ({ cls := "WoodliceSenate$Text", name := "read", desc := "()I" } : Jvm.MethodName)) ∈ lw_all := lw_g (lw_at lw_m1 76 rfl) rfl
theorem q302 : (Jvm.Cond.laysStatic "WoodliceSenate" "SORT" "[LWoodliceSenate$Sort;") ∈ lw_tbl := lw_at lw_m1 194 rfl
theorem q405 : (Jvm.Cond.fieldLinkNest "WoodliceSenate" (192 : Nat) "WoodliceSenate$Member" "sort" "LWoodliceSenate$Sort;" "WoodliceSenate") ∈ lw_tbl := lw_at lw_m2 57 rfl
theorem q408 : (Jvm.Cond.fieldLinkNest "WoodliceSenate" (325 : Nat) "WoodliceSenate$Member" "place" "I" "WoodliceSenate") ∈ lw_tbl := lw_at lw_m2 60 rfl
theorem q452 : (Jvm.Cond.selects "WoodliceSenate" ({ cls := "java/lang/Object", name := "getClass", desc := "()Ljava/lang/Class;" } : Jvm.MethodName) ({ cls := "java/lang/Object", name := "getClass", desc := "()Ljava/lang/Class;" } : Jvm.MethodName)) ∈ lw_all := lw_g (lw_at lw_m2 104 rfl) rfl
theorem q498 : (Jvm.Cond.instanceMethod ({ cls := "WoodliceSenate", name := "stone", desc := "(I)I" } : Jvm.MethodName)) ∈ lw_all := lw_g (lw_at lw_m2 150 rfl) rfl
theorem q499 : (Jvm.Cond.selects "WoodliceSenate" ({ cls := "WoodliceSenate", name := "stone", desc := "(I)I" } : Jvm.MethodName) ({ cls := "WoodliceSenate", name := "stone", desc := "(I)I" } : Jvm.MethodName)) ∈ lw_all := lw_g (lw_at lw_m2 151 rfl) rfl
theorem q500 : (Jvm.Cond.code ({ cls := "WoodliceSenate", name := "stone", desc := "(I)I" } : Jvm.MethodName) prog_1_method_15_code (2 : Nat) (Option.some Jvm.ClassFile.FieldType.int)) ∈ lw_all := lw_g (lw_at lw_m2 152 rfl) rfl
theorem q501 : (Jvm.Cond.methodLink "WoodliceSenate" (63 : Nat) ({ cls := "WoodliceSenate", name := "isPlace", desc := "(I)Z" } : Jvm.MethodName)) ∈ lw_all := lw_g (lw_at lw_m2 153 rfl) rfl
theorem q502 : (Jvm.Cond.static ({ cls := "WoodliceSenate", name := "isPlace", desc := "(I)Z" } : Jvm.MethodName)) ∈ lw_all := lw_g (lw_at lw_m2 154 rfl) rfl
theorem q503 : (Jvm.Cond.code ({ cls := "WoodliceSenate", name := "isPlace", desc := "(I)Z" } : Jvm.MethodName) prog_1_method_8_code (1 : Nat) (Option.some Jvm.ClassFile.FieldType.boolean)) ∈ lw_all := lw_g (lw_at lw_m2 155 rfl) rfl
theorem q504 : (Jvm.Cond.constantLong "WoodliceSenate" (20 : Nat) (11 : Int64)) ∈ lw_all := lw_g (lw_at lw_m2 156 rfl) rfl
theorem q505 : (Jvm.Cond.methodLink "WoodliceSenate" (66 : Nat) ({ cls := "WoodliceSenate", name := "stoneAt", desc := "(I)I" } : Jvm.MethodName)) ∈ lw_all := lw_g (lw_at lw_m2 157 rfl) rfl
theorem q506 : (Jvm.Cond.privateMethod ({ cls := "WoodliceSenate", name := "stoneAt", desc := "(I)I" } : Jvm.MethodName)) ∈ lw_tbl := lw_at lw_m2 158 rfl
theorem q507 : (Jvm.Cond.instanceMethod ({ cls := "WoodliceSenate", name := "stoneAt", desc := "(I)I" } : Jvm.MethodName)) ∈ lw_all := lw_g (lw_at lw_m2 159 rfl) rfl
theorem q508 : (Jvm.Cond.code ({ cls := "WoodliceSenate", name := "stoneAt", desc := "(I)I" } : Jvm.MethodName) prog_1_method_14_code (2 : Nat) (Option.some Jvm.ClassFile.FieldType.int)) ∈ lw_all := lw_g (lw_at lw_m2 160 rfl) rfl
theorem q509 : (Jvm.Cond.methodLink "WoodliceSenate" (56 : Nat) ({ cls := "WoodliceSenate$Stone", name := "read", desc := "()I" } : Jvm.MethodName)) ∈ lw_all := lw_g (lw_at lw_m2 161 rfl) rfl
theorem q514 : (Jvm.Cond.instanceMethod ({ cls := "WoodliceSenate", name := "member", desc := "(II)I" } : Jvm.MethodName)) ∈ lw_all := lw_g (lw_at lw_m2 166 rfl) rfl
theorem q515 : (Jvm.Cond.selects "WoodliceSenate" ({ cls := "WoodliceSenate", name := "member", desc := "(II)I" } : Jvm.MethodName) ({ cls := "WoodliceSenate", name := "member", desc := "(II)I" } : Jvm.MethodName)) ∈ lw_all := lw_g (lw_at lw_m2 167 rfl) rfl
theorem q516 : (Jvm.Cond.code ({ cls := "WoodliceSenate", name := "member", desc := "(II)I" } : Jvm.MethodName) prog_1_method_18_code (3 : Nat) (Option.some Jvm.ClassFile.FieldType.int)) ∈ lw_all := lw_g (lw_at lw_m2 168 rfl) rfl
theorem q517 : (Jvm.Cond.methodLink "WoodliceSenate" (83 : Nat) ({ cls := "WoodliceSenate", name := "isMember", desc := "(I)Z" } : Jvm.MethodName)) ∈ lw_all := lw_g (lw_at lw_m2 169 rfl) rfl
theorem q518 : (Jvm.Cond.privateMethod ({ cls := "WoodliceSenate", name := "isMember", desc := "(I)Z" } : Jvm.MethodName)) ∈ lw_tbl := lw_at lw_m2 170 rfl
theorem q519 : (Jvm.Cond.instanceMethod ({ cls := "WoodliceSenate", name := "isMember", desc := "(I)Z" } : Jvm.MethodName)) ∈ lw_all := lw_g (lw_at lw_m2 171 rfl) rfl
theorem q520 : (Jvm.Cond.code ({ cls := "WoodliceSenate", name := "isMember", desc := "(I)Z" } : Jvm.MethodName) prog_1_method_17_code (2 : Nat) (Option.some Jvm.ClassFile.FieldType.boolean)) ∈ lw_all := lw_g (lw_at lw_m2 172 rfl) rfl
theorem q521 : (Jvm.Cond.methodLink "WoodliceSenate" (80 : Nat) ({ cls := "WoodliceSenate", name := "members", desc := "()I" } : Jvm.MethodName)) ∈ lw_all := lw_g (lw_at lw_m2 173 rfl) rfl
theorem q522 : (Jvm.Cond.privateMethod ({ cls := "WoodliceSenate", name := "members", desc := "()I" } : Jvm.MethodName)) ∈ lw_tbl := lw_at lw_m2 174 rfl
theorem q523 : (Jvm.Cond.instanceMethod ({ cls := "WoodliceSenate", name := "members", desc := "()I" } : Jvm.MethodName)) ∈ lw_all := lw_g (lw_at lw_m2 175 rfl) rfl
theorem q524 : (Jvm.Cond.code ({ cls := "WoodliceSenate", name := "members", desc := "()I" } : Jvm.MethodName) prog_1_method_16_code (1 : Nat) (Option.some Jvm.ClassFile.FieldType.int)) ∈ lw_all := lw_g (lw_at lw_m2 176 rfl) rfl
theorem q525 : (Jvm.Cond.methodLink "WoodliceSenate" (69 : Nat) ({ cls := "WoodliceSenate$Roll", name := "read", desc := "()I" } : Jvm.MethodName)) ∈ lw_all := lw_g (lw_at lw_m2 177 rfl) rfl
theorem q528 : (Jvm.Cond.methodLink "WoodliceSenate" (75 : Nat) ({ cls := "java/util/ArrayList", name := "size", desc := "()I" } : Jvm.MethodName)) ∈ lw_all := lw_g (lw_at lw_m2 180 rfl) rfl
theorem q529 : (Jvm.Cond.constantLong "WoodliceSenate" (86 : Nat) (2 : Int64)) ∈ lw_all := lw_g (lw_at lw_m2 181 rfl) rfl
theorem q530 : (Jvm.Cond.methodLink "WoodliceSenate" (88 : Nat) ({ cls := "java/util/ArrayList", name := "get", desc := "(I)Ljava/lang/Object;" } : Jvm.MethodName)) ∈ lw_all := lw_g (lw_at lw_m2 182 rfl) rfl
theorem q544 : (Jvm.Cond.classLink "WoodliceSenate" (92 : Nat) "WoodliceSenate$Member") ∈ lw_all := lw_g (lw_at lw_m2 196 rfl) rfl
theorem q545 : (Jvm.Cond.methodLink "WoodliceSenate" (94 : Nat) ({ cls := "WoodliceSenate$Member", name := "by", desc := "(I)I" } : Jvm.MethodName)) ∈ lw_all := lw_g (lw_at lw_m2 197 rfl) rfl
theorem q565 : (Jvm.Cond.instanceMethod ({ cls := "WoodliceSenate", name := "event", desc := "(III)I" } : Jvm.MethodName)) ∈ lw_all := lw_g (lw_at lw_m2 217 rfl) rfl
theorem q566 : (Jvm.Cond.selects "WoodliceSenate" ({ cls := "WoodliceSenate", name := "event", desc := "(III)I" } : Jvm.MethodName) ({ cls := "WoodliceSenate", name := "event", desc := "(III)I" } : Jvm.MethodName)) ∈ lw_all := lw_g (lw_at lw_m2 218 rfl) rfl
theorem q567 : (Jvm.Cond.code ({ cls := "WoodliceSenate", name := "event", desc := "(III)I" } : Jvm.MethodName) prog_1_method_19_code (4 : Nat) (Option.some Jvm.ClassFile.FieldType.int)) ∈ lw_all := lw_g (lw_at lw_m2 219 rfl) rfl
theorem q568 : (Jvm.Cond.constantLong "WoodliceSenate" (97 : Nat) (3 : Int64)) ∈ lw_all := lw_g (lw_at lw_m2 220 rfl) rfl
theorem q569 : (Jvm.Cond.methodLink "WoodliceSenate" (99 : Nat) ({ cls := "WoodliceSenate", name := "isHour", desc := "(I)Z" } : Jvm.MethodName)) ∈ lw_all := lw_g (lw_at lw_m2 221 rfl) rfl
theorem q570 : (Jvm.Cond.static ({ cls := "WoodliceSenate", name := "isHour", desc := "(I)Z" } : Jvm.MethodName)) ∈ lw_all := lw_g (lw_at lw_m2 222 rfl) rfl
theorem q571 : (Jvm.Cond.code ({ cls := "WoodliceSenate", name := "isHour", desc := "(I)Z" } : Jvm.MethodName) prog_1_method_7_code (1 : Nat) (Option.some Jvm.ClassFile.FieldType.boolean)) ∈ lw_all := lw_g (lw_at lw_m2 223 rfl) rfl
theorem q572 : (Jvm.Cond.constantLong "WoodliceSenate" (18 : Nat) (19 : Int64)) ∈ lw_all := lw_g (lw_at lw_m2 224 rfl) rfl
theorem q573 : (Jvm.Cond.methodLink "WoodliceSenate" (105 : Nat) ({ cls := "java/util/ArrayList", name := "add", desc := "(Ljava/lang/Object;)Z" } : Jvm.MethodName)) ∈ lw_all := lw_g (lw_at lw_m2 225 rfl) rfl
theorem q576 : (Jvm.Cond.instanceMethod ({ cls := "WoodliceSenate", name := "back", desc := "()I" } : Jvm.MethodName)) ∈ lw_all := lw_g (lw_at lw_m2 228 rfl) rfl
theorem q577 : (Jvm.Cond.selects "WoodliceSenate" ({ cls := "WoodliceSenate", name := "back", desc := "()I" } : Jvm.MethodName) ({ cls := "WoodliceSenate", name := "back", desc := "()I" } : Jvm.MethodName)) ∈ lw_all := lw_g (lw_at lw_m2 229 rfl) rfl
theorem q578 : (Jvm.Cond.code ({ cls := "WoodliceSenate", name := "back", desc := "()I" } : Jvm.MethodName) prog_1_method_20_code (1 : Nat) (Option.some Jvm.ClassFile.FieldType.int)) ∈ lw_all := lw_g (lw_at lw_m2 230 rfl) rfl
theorem q579 : (Jvm.Cond.methodLink "WoodliceSenate" (109 : Nat) ({ cls := "java/util/ArrayList", name := "isEmpty", desc := "()Z" } : Jvm.MethodName)) ∈ lw_all := lw_g (lw_at lw_m2 231 rfl) rfl
theorem q583 : (Jvm.Cond.methodLink "WoodliceSenate" (113 : Nat) ({ cls := "java/util/ArrayList", name := "remove", desc := "(I)Ljava/lang/Object;" } : Jvm.MethodName)) ∈ lw_all := lw_g (lw_at lw_m2 235 rfl) rfl
theorem q593 : (Jvm.Cond.instanceMethod ({ cls := "WoodliceSenate", name := "read", desc := "(I)I" } : Jvm.MethodName)) ∈ lw_all := lw_g (lw_at lw_m3 5 rfl) rfl
theorem q594 : (Jvm.Cond.selects "WoodliceSenate" ({ cls := "WoodliceSenate", name := "read", desc := "(I)I" } : Jvm.MethodName) ({ cls := "WoodliceSenate", name := "read", desc := "(I)I" } : Jvm.MethodName)) ∈ lw_all := lw_g (lw_at lw_m3 6 rfl) rfl
theorem q595 : (Jvm.Cond.code ({ cls := "WoodliceSenate", name := "read", desc := "(I)I" } : Jvm.MethodName) prog_1_method_21_code (4 : Nat) (Option.some Jvm.ClassFile.FieldType.int)) ∈ lw_all := lw_g (lw_at lw_m3 7 rfl) rfl
theorem q596 : (Jvm.Cond.methodLink "WoodliceSenate" (116 : Nat) ({ cls := "WoodliceSenate", name := "isSheet", desc := "(I)Z" } : Jvm.MethodName)) ∈ lw_all := lw_g (lw_at lw_m3 8 rfl) rfl
theorem q597 : (Jvm.Cond.static ({ cls := "WoodliceSenate", name := "isSheet", desc := "(I)Z" } : Jvm.MethodName)) ∈ lw_all := lw_g (lw_at lw_m3 9 rfl) rfl
theorem q598 : (Jvm.Cond.code ({ cls := "WoodliceSenate", name := "isSheet", desc := "(I)Z" } : Jvm.MethodName) prog_1_method_81_code (1 : Nat) (Option.some Jvm.ClassFile.FieldType.boolean)) ∈ lw_all := lw_g (lw_at lw_m3 10 rfl) rfl
theorem q599 : (Jvm.Cond.methodLink "WoodliceSenate" (129 : Nat) ({ cls := "WoodliceSenate", name := "met", desc := "(I)I" } : Jvm.MethodName)) ∈ lw_all := lw_g (lw_at lw_m3 11 rfl) rfl
theorem q600 : (Jvm.Cond.privateMethod ({ cls := "WoodliceSenate", name := "met", desc := "(I)I" } : Jvm.MethodName)) ∈ lw_tbl := lw_at lw_m3 12 rfl
theorem q601 : (Jvm.Cond.instanceMethod ({ cls := "WoodliceSenate", name := "met", desc := "(I)I" } : Jvm.MethodName)) ∈ lw_all := lw_g (lw_at lw_m3 13 rfl) rfl
theorem q602 : (Jvm.Cond.code ({ cls := "WoodliceSenate", name := "met", desc := "(I)I" } : Jvm.MethodName) prog_1_method_3_code (2 : Nat) (Option.some Jvm.ClassFile.FieldType.int)) ∈ lw_all := lw_g (lw_at lw_m3 14 rfl) rfl
theorem q603 : (Jvm.Cond.methodLink "WoodliceSenate" (132 : Nat) ({ cls := "WoodliceSenate$Sheet", name := "size", desc := "()I" } : Jvm.MethodName)) ∈ lw_all := lw_g (lw_at lw_m3 15 rfl) rfl
theorem q614 : (Jvm.Cond.methodLink "WoodliceSenate" (133 : Nat) ({ cls := "WoodliceSenate$Sheet", name := "type", desc := "()I" } : Jvm.MethodName)) ∈ lw_all := lw_g (lw_at lw_m3 26 rfl) rfl
theorem q615 : (Jvm.Cond.methodLink "WoodliceSenate" (135 : Nat) ({ cls := "WoodliceSenate$Sheet", name := "item", desc := "(II)I" } : Jvm.MethodName)) ∈ lw_all := lw_g (lw_at lw_m3 27 rfl) rfl
theorem q619 : (Jvm.Cond.methodLink "WoodliceSenate" (139 : Nat) ({ cls := "WoodliceSenate", name := "event", desc := "(III)I" } : Jvm.MethodName)) ∈ lw_all := lw_g (lw_at lw_m3 31 rfl) rfl
theorem q622 : (Jvm.Cond.instanceMethod ({ cls := "WoodliceSenate", name := "<init>", desc := "()V" } : Jvm.MethodName)) ∈ lw_all := lw_g (lw_at lw_m3 34 rfl) rfl
theorem q623 : (Jvm.Cond.code ({ cls := "WoodliceSenate", name := "<init>", desc := "()V" } : Jvm.MethodName) prog_1_method_23_code (2 : Nat) (Option.none : Option Jvm.ClassFile.FieldType)) ∈ lw_all := lw_g (lw_at lw_m3 35 rfl) rfl
theorem q624 : (Jvm.Cond.methodLink "WoodliceSenate" (149 : Nat) ({ cls := "java/lang/Object", name := "<init>", desc := "()V" } : Jvm.MethodName)) ∈ lw_all := lw_g (lw_at lw_m3 36 rfl) rfl
theorem q625 : (Jvm.Cond.classLink "WoodliceSenate" (57 : Nat) "WoodliceSenate$Stone") ∈ lw_all := lw_g (lw_at lw_m3 37 rfl) rfl
theorem q627 : (Jvm.Cond.methodLink "WoodliceSenate" (152 : Nat) ({ cls := "WoodliceSenate$Stone", name := "<init>", desc := "()V" } : Jvm.MethodName)) ∈ lw_all := lw_g (lw_at lw_m3 39 rfl) rfl
theorem q635 : (Jvm.Cond.fieldLink "WoodliceSenate" (59 : Nat) "WoodliceSenate$Stone" "all" "[I") ∈ lw_all := lw_g (lw_at lw_m3 47 rfl) rfl
theorem q637 : (Jvm.Cond.fieldLink "WoodliceSenate" (431 : Nat) "WoodliceSenate$Stone" "n" "I") ∈ lw_all := lw_g (lw_at lw_m3 49 rfl) rfl
theorem q658 : (Jvm.Cond.classLink "WoodliceSenate" (70 : Nat) "WoodliceSenate$Roll") ∈ lw_all := lw_g (lw_at lw_m3 70 rfl) rfl
theorem q660 : (Jvm.Cond.methodLink "WoodliceSenate" (153 : Nat) ({ cls := "WoodliceSenate$Roll", name := "<init>", desc := "()V" } : Jvm.MethodName)) ∈ lw_all := lw_g (lw_at lw_m3 72 rfl) rfl
theorem q688 : (Jvm.Cond.fieldLink "WoodliceSenate" (72 : Nat) "WoodliceSenate$Roll" "all" "Ljava/util/ArrayList;") ∈ lw_all := lw_g (lw_at lw_m3 100 rfl) rfl
theorem q697 : (Jvm.Cond.classLink "WoodliceSenate" (76 : Nat) "java/util/ArrayList") ∈ lw_all := lw_g (lw_at lw_m3 109 rfl) rfl
theorem q698 : (Jvm.Cond.methodLink "WoodliceSenate" (154 : Nat) ({ cls := "java/util/ArrayList", name := "<init>", desc := "()V" } : Jvm.MethodName)) ∈ lw_all := lw_g (lw_at lw_m3 110 rfl) rfl
theorem q699 : (Jvm.Cond.methodLink "WoodliceSenate" (155 : Nat) ({ cls := "WoodliceSenate", name := "lice", desc := "()[LWoodliceSenate$Louse;" } : Jvm.MethodName)) ∈ lw_all := lw_g (lw_at lw_m3 111 rfl) rfl
theorem q700 : (Jvm.Cond.static ({ cls := "WoodliceSenate", name := "lice", desc := "()[LWoodliceSenate$Louse;" } : Jvm.MethodName)) ∈ lw_all := lw_g (lw_at lw_m3 112 rfl) rfl
theorem q701 : (Jvm.Cond.code ({ cls := "WoodliceSenate", name := "lice", desc := "()[LWoodliceSenate$Louse;" } : Jvm.MethodName) prog_1_method_22_code (2 : Nat) (Option.some (Jvm.ClassFile.FieldType.array (Jvm.ClassFile.FieldType.object "WoodliceSenate$Louse")))) ∈ lw_all := lw_g (lw_at lw_m3 113 rfl) rfl
theorem q702 : (Jvm.Cond.classLink "WoodliceSenate" (143 : Nat) "WoodliceSenate$Louse") ∈ lw_all := lw_g (lw_at lw_m3 114 rfl) rfl
theorem q705 : (Jvm.Cond.methodLinkNest "WoodliceSenate" (145 : Nat) ({ cls := "WoodliceSenate$Louse", name := "<init>", desc := "()V" } : Jvm.MethodName) "WoodliceSenate") ∈ lw_tbl := lw_at lw_m3 117 rfl
theorem q710 : (Jvm.Cond.fieldLinkNest "WoodliceSenate" (208 : Nat) "WoodliceSenate$Louse" "place" "I" "WoodliceSenate") ∈ lw_tbl := lw_at lw_m3 122 rfl
theorem q712 : (Jvm.Cond.fieldLinkNest "WoodliceSenate" (204 : Nat) "WoodliceSenate$Louse" "upright" "Z" "WoodliceSenate") ∈ lw_tbl := lw_at lw_m3 124 rfl
theorem q714 : (Jvm.Cond.fieldLinkNest "WoodliceSenate" (201 : Nat) "WoodliceSenate$Louse" "till" "I" "WoodliceSenate") ∈ lw_tbl := lw_at lw_m3 126 rfl
theorem q716 : (Jvm.Cond.fieldLinkNest "WoodliceSenate" (232 : Nat) "WoodliceSenate$Louse" "rolled" "Z" "WoodliceSenate") ∈ lw_tbl := lw_at lw_m3 128 rfl
theorem q718 : (Jvm.Cond.fieldLinkNest "WoodliceSenate" (235 : Nat) "WoodliceSenate$Louse" "speeches" "I" "WoodliceSenate") ∈ lw_tbl := lw_at lw_m3 130 rfl
theorem q720 : (Jvm.Cond.fieldLinkNest "WoodliceSenate" (244 : Nat) "WoodliceSenate$Louse" "went" "Z" "WoodliceSenate") ∈ lw_tbl := lw_at lw_m3 132 rfl
theorem q734 : (Jvm.Cond.classLink "WoodliceSenate" (163 : Nat) "[LWoodliceSenate$Louse;") ∈ lw_all := lw_g (lw_at lw_m3 146 rfl) rfl
theorem q736 : (Jvm.Cond.classLink "WoodliceSenate" (171 : Nat) "[[I") ∈ lw_all := lw_g (lw_at lw_m3 148 rfl) rfl
theorem q738 : (Jvm.Cond.classLink "WoodliceSenate" (124 : Nat) "WoodliceSenate$Sheet") ∈ lw_all := lw_g (lw_at lw_m3 150 rfl) rfl
theorem q741 : (Jvm.Cond.methodLinkNest "WoodliceSenate" (191 : Nat) ({ cls := "WoodliceSenate$Sheet", name := "<init>", desc := "()V" } : Jvm.MethodName) "WoodliceSenate") ∈ lw_tbl := lw_at lw_m3 153 rfl
theorem q746 : (Jvm.Cond.fieldLinkNest "WoodliceSenate" (123 : Nat) "WoodliceSenate$Sheet" "row" "Ljava/lang/Object;" "WoodliceSenate") ∈ lw_tbl := lw_at lw_m3 158 rfl
theorem q750 : (Jvm.Cond.fieldLink "WoodliceSenate" (9 : Nat) "WoodliceSenate" "latest" "I") ∈ lw_all := lw_g (lw_at lw_m3 162 rfl) rfl
theorem q751 : (Jvm.Cond.fieldLink "WoodliceSenate" (22 : Nat) "WoodliceSenate" "stone" "LWoodliceSenate$Stone;") ∈ lw_all := lw_g (lw_at lw_m3 163 rfl) rfl
theorem q752 : (Jvm.Cond.fieldLink "WoodliceSenate" (26 : Nat) "WoodliceSenate" "roll" "LWoodliceSenate$Roll;") ∈ lw_all := lw_g (lw_at lw_m3 164 rfl) rfl
theorem q753 : (Jvm.Cond.fieldLink "WoodliceSenate" (102 : Nat) "WoodliceSenate" "events" "Ljava/util/ArrayList;") ∈ lw_all := lw_g (lw_at lw_m3 165 rfl) rfl
theorem q754 : (Jvm.Cond.fieldLink "WoodliceSenate" (159 : Nat) "WoodliceSenate" "now" "[LWoodliceSenate$Louse;") ∈ lw_all := lw_g (lw_at lw_m3 166 rfl) rfl
theorem q755 : (Jvm.Cond.fieldLink "WoodliceSenate" (164 : Nat) "WoodliceSenate" "kept" "[[LWoodliceSenate$Louse;") ∈ lw_all := lw_g (lw_at lw_m3 167 rfl) rfl
theorem q756 : (Jvm.Cond.fieldLink "WoodliceSenate" (168 : Nat) "WoodliceSenate" "damps" "[I") ∈ lw_all := lw_g (lw_at lw_m3 168 rfl) rfl
theorem q757 : (Jvm.Cond.fieldLink "WoodliceSenate" (173 : Nat) "WoodliceSenate" "dampsBy" "[[I") ∈ lw_all := lw_g (lw_at lw_m3 169 rfl) rfl
theorem q758 : (Jvm.Cond.fieldLink "WoodliceSenate" (251 : Nat) "WoodliceSenate" "gone" "I") ∈ lw_all := lw_g (lw_at lw_m3 170 rfl) rfl
theorem q759 : (Jvm.Cond.fieldLink "WoodliceSenate" (176 : Nat) "WoodliceSenate" "oddHour" "I") ∈ lw_all := lw_g (lw_at lw_m3 171 rfl) rfl
theorem q760 : (Jvm.Cond.fieldLink "WoodliceSenate" (262 : Nat) "WoodliceSenate" "oddKind" "I") ∈ lw_all := lw_g (lw_at lw_m3 172 rfl) rfl
theorem q761 : (Jvm.Cond.fieldLink "WoodliceSenate" (265 : Nat) "WoodliceSenate" "oddPlace" "I") ∈ lw_all := lw_g (lw_at lw_m3 173 rfl) rfl
theorem q762 : (Jvm.Cond.fieldLink "WoodliceSenate" (179 : Nat) "WoodliceSenate" "seen" "Ljava/util/ArrayList;") ∈ lw_all := lw_g (lw_at lw_m3 174 rfl) rfl
theorem q763 : (Jvm.Cond.fieldLink "WoodliceSenate" (182 : Nat) "WoodliceSenate" "wetter" "[[I") ∈ lw_all := lw_g (lw_at lw_m3 175 rfl) rfl
theorem q764 : (Jvm.Cond.fieldLink "WoodliceSenate" (389 : Nat) "WoodliceSenate" "drawn" "I") ∈ lw_all := lw_g (lw_at lw_m3 176 rfl) rfl
theorem q765 : (Jvm.Cond.fieldLink "WoodliceSenate" (185 : Nat) "WoodliceSenate" "other" "Ljava/util/ArrayList;") ∈ lw_all := lw_g (lw_at lw_m3 177 rfl) rfl
theorem q766 : (Jvm.Cond.fieldLink "WoodliceSenate" (188 : Nat) "WoodliceSenate" "spares" "[[I") ∈ lw_all := lw_g (lw_at lw_m3 178 rfl) rfl
theorem q767 : (Jvm.Cond.fieldLink "WoodliceSenate" (119 : Nat) "WoodliceSenate" "sheets" "[LWoodliceSenate$Sheet;") ∈ lw_all := lw_g (lw_at lw_m3 179 rfl) rfl
theorem q768 : (Jvm.Cond.lays "WoodliceSenate" "WoodliceSenate" "latest" "I") ∈ lw_all := lw_g (lw_at lw_m3 180 rfl) rfl
theorem q769 : (Jvm.Cond.soleField "WoodliceSenate" "latest") ∈ lw_all := lw_g (lw_at lw_m3 181 rfl) rfl
theorem q770 : (Jvm.Cond.laysFinal "WoodliceSenate" "WoodliceSenate" "stone" "LWoodliceSenate$Stone;") ∈ lw_all := lw_g (lw_at lw_m3 182 rfl) rfl
theorem q771 : (Jvm.Cond.soleField "WoodliceSenate" "stone") ∈ lw_all := lw_g (lw_at lw_m3 183 rfl) rfl
theorem q772 : (Jvm.Cond.laysFinal "WoodliceSenate" "WoodliceSenate" "roll" "LWoodliceSenate$Roll;") ∈ lw_all := lw_g (lw_at lw_m3 184 rfl) rfl
theorem q773 : (Jvm.Cond.soleField "WoodliceSenate" "roll") ∈ lw_all := lw_g (lw_at lw_m3 185 rfl) rfl
theorem q774 : (Jvm.Cond.lays "WoodliceSenate" "WoodliceSenate" "events" "Ljava/util/ArrayList;") ∈ lw_all := lw_g (lw_at lw_m3 186 rfl) rfl
theorem q775 : (Jvm.Cond.soleField "WoodliceSenate" "events") ∈ lw_all := lw_g (lw_at lw_m3 187 rfl) rfl
theorem q776 : (Jvm.Cond.laysFinal "WoodliceSenate" "WoodliceSenate" "now" "[LWoodliceSenate$Louse;") ∈ lw_all := lw_g (lw_at lw_m3 188 rfl) rfl
theorem q777 : (Jvm.Cond.soleField "WoodliceSenate" "now") ∈ lw_all := lw_g (lw_at lw_m3 189 rfl) rfl
theorem q778 : (Jvm.Cond.laysFinal "WoodliceSenate" "WoodliceSenate" "kept" "[[LWoodliceSenate$Louse;") ∈ lw_all := lw_g (lw_at lw_m3 190 rfl) rfl
theorem q779 : (Jvm.Cond.soleField "WoodliceSenate" "kept") ∈ lw_all := lw_g (lw_at lw_m3 191 rfl) rfl
theorem q780 : (Jvm.Cond.laysFinal "WoodliceSenate" "WoodliceSenate" "damps" "[I") ∈ lw_all := lw_g (lw_at lw_m3 192 rfl) rfl
theorem q781 : (Jvm.Cond.soleField "WoodliceSenate" "damps") ∈ lw_all := lw_g (lw_at lw_m3 193 rfl) rfl
theorem q782 : (Jvm.Cond.laysFinal "WoodliceSenate" "WoodliceSenate" "dampsBy" "[[I") ∈ lw_all := lw_g (lw_at lw_m3 194 rfl) rfl
theorem q783 : (Jvm.Cond.soleField "WoodliceSenate" "dampsBy") ∈ lw_all := lw_g (lw_at lw_m3 195 rfl) rfl
theorem q784 : (Jvm.Cond.lays "WoodliceSenate" "WoodliceSenate" "gone" "I") ∈ lw_all := lw_g (lw_at lw_m3 196 rfl) rfl
theorem q785 : (Jvm.Cond.soleField "WoodliceSenate" "gone") ∈ lw_all := lw_g (lw_at lw_m3 197 rfl) rfl
theorem q786 : (Jvm.Cond.lays "WoodliceSenate" "WoodliceSenate" "oddHour" "I") ∈ lw_all := lw_g (lw_at lw_m3 198 rfl) rfl
theorem q787 : (Jvm.Cond.soleField "WoodliceSenate" "oddHour") ∈ lw_all := lw_g (lw_at lw_m3 199 rfl) rfl
theorem q788 : (Jvm.Cond.lays "WoodliceSenate" "WoodliceSenate" "oddKind" "I") ∈ lw_all := lw_g (lw_at lw_m3 200 rfl) rfl
theorem q789 : (Jvm.Cond.soleField "WoodliceSenate" "oddKind") ∈ lw_all := lw_g (lw_at lw_m3 201 rfl) rfl
theorem q790 : (Jvm.Cond.lays "WoodliceSenate" "WoodliceSenate" "oddPlace" "I") ∈ lw_all := lw_g (lw_at lw_m3 202 rfl) rfl
theorem q791 : (Jvm.Cond.soleField "WoodliceSenate" "oddPlace") ∈ lw_all := lw_g (lw_at lw_m3 203 rfl) rfl
theorem q792 : (Jvm.Cond.laysFinal "WoodliceSenate" "WoodliceSenate" "seen" "Ljava/util/ArrayList;") ∈ lw_all := lw_g (lw_at lw_m3 204 rfl) rfl
theorem q793 : (Jvm.Cond.soleField "WoodliceSenate" "seen") ∈ lw_all := lw_g (lw_at lw_m3 205 rfl) rfl
theorem q794 : (Jvm.Cond.laysFinal "WoodliceSenate" "WoodliceSenate" "wetter" "[[I") ∈ lw_all := lw_g (lw_at lw_m3 206 rfl) rfl
theorem q795 : (Jvm.Cond.soleField "WoodliceSenate" "wetter") ∈ lw_all := lw_g (lw_at lw_m3 207 rfl) rfl
theorem q796 : (Jvm.Cond.lays "WoodliceSenate" "WoodliceSenate" "drawn" "I") ∈ lw_all := lw_g (lw_at lw_m3 208 rfl) rfl
theorem q797 : (Jvm.Cond.soleField "WoodliceSenate" "drawn") ∈ lw_all := lw_g (lw_at lw_m3 209 rfl) rfl
theorem q798 : (Jvm.Cond.laysFinal "WoodliceSenate" "WoodliceSenate" "other" "Ljava/util/ArrayList;") ∈ lw_all := lw_g (lw_at lw_m3 210 rfl) rfl
theorem q799 : (Jvm.Cond.soleField "WoodliceSenate" "other") ∈ lw_all := lw_g (lw_at lw_m3 211 rfl) rfl
theorem q800 : (Jvm.Cond.laysFinal "WoodliceSenate" "WoodliceSenate" "spares" "[[I") ∈ lw_all := lw_g (lw_at lw_m3 212 rfl) rfl
theorem q801 : (Jvm.Cond.soleField "WoodliceSenate" "spares") ∈ lw_all := lw_g (lw_at lw_m3 213 rfl) rfl
theorem q802 : (Jvm.Cond.laysFinal "WoodliceSenate" "WoodliceSenate" "sheets" "[LWoodliceSenate$Sheet;") ∈ lw_all := lw_g (lw_at lw_m3 214 rfl) rfl
theorem q803 : (Jvm.Cond.soleField "WoodliceSenate" "sheets") ∈ lw_all := lw_g (lw_at lw_m3 215 rfl) rfl
theorem q804 : (Jvm.Cond.superclass "WoodliceSenate" "java/lang/Object") ∈ lw_all := lw_g (lw_at lw_m3 216 rfl) rfl
theorem q806 : (Jvm.Cond.instanceMethod ({ cls := "WoodliceSenate", name := "damp", desc := "(III)I" } : Jvm.MethodName)) ∈ lw_all := lw_g (lw_at lw_m3 218 rfl) rfl
theorem q807 : (Jvm.Cond.selects "WoodliceSenate" ({ cls := "WoodliceSenate", name := "damp", desc := "(III)I" } : Jvm.MethodName) ({ cls := "WoodliceSenate", name := "damp", desc := "(III)I" } : Jvm.MethodName)) ∈ lw_all := lw_g (lw_at lw_m3 219 rfl) rfl
theorem q808 : (Jvm.Cond.code ({ cls := "WoodliceSenate", name := "damp", desc := "(III)I" } : Jvm.MethodName) prog_1_method_36_code (4 : Nat) (Option.some Jvm.ClassFile.FieldType.int)) ∈ lw_all := lw_g (lw_at lw_m3 220 rfl) rfl
theorem q809 : (Jvm.Cond.methodLink "WoodliceSenate" (293 : Nat) ({ cls := "WoodliceSenate", name := "find", desc := "()V" } : Jvm.MethodName)) ∈ lw_all := lw_g (lw_at lw_m3 221 rfl) rfl
theorem q810 : (Jvm.Cond.privateMethod ({ cls := "WoodliceSenate", name := "find", desc := "()V" } : Jvm.MethodName)) ∈ lw_tbl := lw_at lw_m3 222 rfl
theorem q811 : (Jvm.Cond.instanceMethod ({ cls := "WoodliceSenate", name := "find", desc := "()V" } : Jvm.MethodName)) ∈ lw_all := lw_g (lw_at lw_m3 223 rfl) rfl
theorem q812 : (Jvm.Cond.code ({ cls := "WoodliceSenate", name := "find", desc := "()V" } : Jvm.MethodName) prog_1_method_34_code (2 : Nat) (Option.none : Option Jvm.ClassFile.FieldType)) ∈ lw_all := lw_g (lw_at lw_m3 224 rfl) rfl
theorem q813 : (Jvm.Cond.methodLink "WoodliceSenate" (280 : Nat) ({ cls := "java/lang/System", name := "arraycopy", desc := "(Ljava/lang/Object;ILjava/lang/Object;II)V" } : Jvm.MethodName)) ∈ lw_all := lw_g (lw_at lw_m3 225 rfl) rfl
theorem q814 : (Jvm.Cond.methodLink "WoodliceSenate" (286 : Nat) ({ cls := "WoodliceSenate$Louse", name := "begins", desc := "(LWoodliceSenate$Member;)V" } : Jvm.MethodName)) ∈ lw_all := lw_g (lw_at lw_m3 226 rfl) rfl
theorem q818 : (Jvm.Cond.methodLink "WoodliceSenate" (290 : Nat) ({ cls := "WoodliceSenate", name := "passes", desc := "(I)V" } : Jvm.MethodName)) ∈ lw_all := lw_g (lw_at lw_m3 230 rfl) rfl
theorem q819 : (Jvm.Cond.privateMethod ({ cls := "WoodliceSenate", name := "passes", desc := "(I)V" } : Jvm.MethodName)) ∈ lw_tbl := lw_at lw_m3 231 rfl
theorem q820 : (Jvm.Cond.instanceMethod ({ cls := "WoodliceSenate", name := "passes", desc := "(I)V" } : Jvm.MethodName)) ∈ lw_all := lw_g (lw_at lw_m3 232 rfl) rfl
theorem q821 : (Jvm.Cond.code ({ cls := "WoodliceSenate", name := "passes", desc := "(I)V" } : Jvm.MethodName) prog_1_method_33_code (4 : Nat) (Option.none : Option Jvm.ClassFile.FieldType)) ∈ lw_all := lw_g (lw_at lw_m3 233 rfl) rfl
theorem q822 : (Jvm.Cond.classLink "WoodliceSenate" (250 : Nat) "[I") ∈ lw_all := lw_g (lw_at lw_m3 234 rfl) rfl
theorem q823 : (Jvm.Cond.methodLink "WoodliceSenate" (254 : Nat) ({ cls := "WoodliceSenate", name := "isIn", desc := "(II)Z" } : Jvm.MethodName)) ∈ lw_all := lw_g (lw_at lw_m3 235 rfl) rfl
theorem q824 : (Jvm.Cond.static ({ cls := "WoodliceSenate", name := "isIn", desc := "(II)Z" } : Jvm.MethodName)) ∈ lw_all := lw_g (lw_at lw_m3 236 rfl) rfl
theorem q825 : (Jvm.Cond.code ({ cls := "WoodliceSenate", name := "isIn", desc := "(II)Z" } : Jvm.MethodName) prog_1_method_6_code (2 : Nat) (Option.some Jvm.ClassFile.FieldType.boolean)) ∈ lw_all := lw_g (lw_at lw_m3 237 rfl) rfl
theorem q826 : (Jvm.Cond.methodLink "WoodliceSenate" (258 : Nat) ({ cls := "WoodliceSenate", name := "happens", desc := "(III)V" } : Jvm.MethodName)) ∈ lw_all := lw_g (lw_at lw_m3 238 rfl) rfl
theorem q827 : (Jvm.Cond.privateMethod ({ cls := "WoodliceSenate", name := "happens", desc := "(III)V" } : Jvm.MethodName)) ∈ lw_tbl := lw_at lw_m3 239 rfl
theorem q828 : (Jvm.Cond.instanceMethod ({ cls := "WoodliceSenate", name := "happens", desc := "(III)V" } : Jvm.MethodName)) ∈ lw_all := lw_g (lw_at lw_m4 0 rfl) rfl
theorem q829 : (Jvm.Cond.code ({ cls := "WoodliceSenate", name := "happens", desc := "(III)V" } : Jvm.MethodName) prog_1_method_27_code (4 : Nat) (Option.none : Option Jvm.ClassFile.FieldType)) ∈ lw_all := lw_g (lw_at lw_m4 1 rfl) rfl
theorem q830 : (Jvm.Cond.methodLink "WoodliceSenate" (219 : Nat) ({ cls := "WoodliceSenate", name := "lifts", desc := "(I)V" } : Jvm.MethodName)) ∈ lw_all := lw_g (lw_at lw_m4 2 rfl) rfl
theorem q831 : (Jvm.Cond.privateMethod ({ cls := "WoodliceSenate", name := "lifts", desc := "(I)V" } : Jvm.MethodName)) ∈ lw_tbl := lw_at lw_m4 3 rfl
theorem q832 : (Jvm.Cond.instanceMethod ({ cls := "WoodliceSenate", name := "lifts", desc := "(I)V" } : Jvm.MethodName)) ∈ lw_all := lw_g (lw_at lw_m4 4 rfl) rfl
theorem q833 : (Jvm.Cond.code ({ cls := "WoodliceSenate", name := "lifts", desc := "(I)V" } : Jvm.MethodName) prog_1_method_24_code (3 : Nat) (Option.none : Option Jvm.ClassFile.FieldType)) ∈ lw_all := lw_g (lw_at lw_m4 5 rfl) rfl
theorem q834 : (Jvm.Cond.methodLink "WoodliceSenate" (196 : Nat) ({ cls := "WoodliceSenate$Sort", name := "rolls", desc := "()I" } : Jvm.MethodName)) ∈ lw_all := lw_g (lw_at lw_m4 6 rfl) rfl
theorem q847 : (Jvm.Cond.methodLink "WoodliceSenate" (223 : Nat) ({ cls := "WoodliceSenate", name := "peppers", desc := "(I)V" } : Jvm.MethodName)) ∈ lw_all := lw_g (lw_at lw_m4 19 rfl) rfl
theorem q848 : (Jvm.Cond.privateMethod ({ cls := "WoodliceSenate", name := "peppers", desc := "(I)V" } : Jvm.MethodName)) ∈ lw_tbl := lw_at lw_m4 20 rfl
theorem q849 : (Jvm.Cond.instanceMethod ({ cls := "WoodliceSenate", name := "peppers", desc := "(I)V" } : Jvm.MethodName)) ∈ lw_all := lw_g (lw_at lw_m4 21 rfl) rfl
theorem q850 : (Jvm.Cond.code ({ cls := "WoodliceSenate", name := "peppers", desc := "(I)V" } : Jvm.MethodName) prog_1_method_25_code (3 : Nat) (Option.none : Option Jvm.ClassFile.FieldType)) ∈ lw_all := lw_g (lw_at lw_m4 22 rfl) rfl
theorem q851 : (Jvm.Cond.methodLink "WoodliceSenate" (226 : Nat) ({ cls := "WoodliceSenate", name := "wets", desc := "(I)V" } : Jvm.MethodName)) ∈ lw_all := lw_g (lw_at lw_m4 23 rfl) rfl
theorem q852 : (Jvm.Cond.privateMethod ({ cls := "WoodliceSenate", name := "wets", desc := "(I)V" } : Jvm.MethodName)) ∈ lw_tbl := lw_at lw_m4 24 rfl
theorem q853 : (Jvm.Cond.instanceMethod ({ cls := "WoodliceSenate", name := "wets", desc := "(I)V" } : Jvm.MethodName)) ∈ lw_all := lw_g (lw_at lw_m4 25 rfl) rfl
theorem q854 : (Jvm.Cond.code ({ cls := "WoodliceSenate", name := "wets", desc := "(I)V" } : Jvm.MethodName) prog_1_method_26_code (3 : Nat) (Option.none : Option Jvm.ClassFile.FieldType)) ∈ lw_all := lw_g (lw_at lw_m4 26 rfl) rfl
theorem q855 : (Jvm.Cond.methodLink "WoodliceSenate" (211 : Nat) ({ cls := "java/lang/Math", name := "max", desc := "(II)I" } : Jvm.MethodName)) ∈ lw_all := lw_g (lw_at lw_m4 27 rfl) rfl
theorem q856 : (Jvm.Cond.methodLink "WoodliceSenate" (216 : Nat) ({ cls := "java/lang/Math", name := "min", desc := "(II)I" } : Jvm.MethodName)) ∈ lw_all := lw_g (lw_at lw_m4 28 rfl) rfl
theorem q857 : (Jvm.Cond.methodLink "WoodliceSenate" (268 : Nat) ({ cls := "WoodliceSenate", name := "goes", desc := "(II)V" } : Jvm.MethodName)) ∈ lw_all := lw_g (lw_at lw_m4 29 rfl) rfl
theorem q858 : (Jvm.Cond.privateMethod ({ cls := "WoodliceSenate", name := "goes", desc := "(II)V" } : Jvm.MethodName)) ∈ lw_tbl := lw_at lw_m4 30 rfl
theorem q859 : (Jvm.Cond.instanceMethod ({ cls := "WoodliceSenate", name := "goes", desc := "(II)V" } : Jvm.MethodName)) ∈ lw_all := lw_g (lw_at lw_m4 31 rfl) rfl
theorem q860 : (Jvm.Cond.code ({ cls := "WoodliceSenate", name := "goes", desc := "(II)V" } : Jvm.MethodName) prog_1_method_31_code (5 : Nat) (Option.none : Option Jvm.ClassFile.FieldType)) ∈ lw_all := lw_g (lw_at lw_m4 32 rfl) rfl
theorem q861 : (Jvm.Cond.methodLink "WoodliceSenate" (238 : Nat) ({ cls := "WoodliceSenate$Sort", name := "steps", desc := "(I)I" } : Jvm.MethodName)) ∈ lw_all := lw_g (lw_at lw_m4 33 rfl) rfl
theorem q874 : (Jvm.Cond.methodLink "WoodliceSenate" (241 : Nat) ({ cls := "WoodliceSenate", name := "dampest", desc := "(I)I" } : Jvm.MethodName)) ∈ lw_all := lw_g (lw_at lw_m4 46 rfl) rfl
theorem q875 : (Jvm.Cond.privateMethod ({ cls := "WoodliceSenate", name := "dampest", desc := "(I)I" } : Jvm.MethodName)) ∈ lw_tbl := lw_at lw_m4 47 rfl
theorem q876 : (Jvm.Cond.instanceMethod ({ cls := "WoodliceSenate", name := "dampest", desc := "(I)I" } : Jvm.MethodName)) ∈ lw_all := lw_g (lw_at lw_m4 48 rfl) rfl
theorem q877 : (Jvm.Cond.code ({ cls := "WoodliceSenate", name := "dampest", desc := "(I)I" } : Jvm.MethodName) prog_1_method_29_code (3 : Nat) (Option.some Jvm.ClassFile.FieldType.int)) ∈ lw_all := lw_g (lw_at lw_m4 49 rfl) rfl
theorem q878 : (Jvm.Cond.methodLink "WoodliceSenate" (229 : Nat) ({ cls := "WoodliceSenate", name := "dampOf", desc := "(I)I" } : Jvm.MethodName)) ∈ lw_all := lw_g (lw_at lw_m4 50 rfl) rfl
theorem q879 : (Jvm.Cond.privateMethod ({ cls := "WoodliceSenate", name := "dampOf", desc := "(I)I" } : Jvm.MethodName)) ∈ lw_tbl := lw_at lw_m4 51 rfl
theorem q880 : (Jvm.Cond.instanceMethod ({ cls := "WoodliceSenate", name := "dampOf", desc := "(I)I" } : Jvm.MethodName)) ∈ lw_all := lw_g (lw_at lw_m4 52 rfl) rfl
theorem q881 : (Jvm.Cond.code ({ cls := "WoodliceSenate", name := "dampOf", desc := "(I)I" } : Jvm.MethodName) prog_1_method_28_code (2 : Nat) (Option.some Jvm.ClassFile.FieldType.int)) ∈ lw_all := lw_g (lw_at lw_m4 53 rfl) rfl
theorem q882 : (Jvm.Cond.methodLink "WoodliceSenate" (247 : Nat) ({ cls := "WoodliceSenate", name := "speaks", desc := "(I)V" } : Jvm.MethodName)) ∈ lw_all := lw_g (lw_at lw_m4 54 rfl) rfl
theorem q883 : (Jvm.Cond.privateMethod ({ cls := "WoodliceSenate", name := "speaks", desc := "(I)V" } : Jvm.MethodName)) ∈ lw_tbl := lw_at lw_m4 55 rfl
theorem q884 : (Jvm.Cond.instanceMethod ({ cls := "WoodliceSenate", name := "speaks", desc := "(I)V" } : Jvm.MethodName)) ∈ lw_all := lw_g (lw_at lw_m4 56 rfl) rfl
theorem q885 : (Jvm.Cond.code ({ cls := "WoodliceSenate", name := "speaks", desc := "(I)V" } : Jvm.MethodName) prog_1_method_30_code (3 : Nat) (Option.none : Option Jvm.ClassFile.FieldType)) ∈ lw_all := lw_g (lw_at lw_m4 57 rfl) rfl
theorem q886 : (Jvm.Cond.methodLink "WoodliceSenate" (272 : Nat) ({ cls := "WoodliceSenate", name := "many", desc := "([LWoodliceSenate$Louse;I)I" } : Jvm.MethodName)) ∈ lw_all := lw_g (lw_at lw_m4 58 rfl) rfl
theorem q887 : (Jvm.Cond.privateMethod ({ cls := "WoodliceSenate", name := "many", desc := "([LWoodliceSenate$Louse;I)I" } : Jvm.MethodName)) ∈ lw_tbl := lw_at lw_m4 59 rfl
theorem q888 : (Jvm.Cond.instanceMethod ({ cls := "WoodliceSenate", name := "many", desc := "([LWoodliceSenate$Louse;I)I" } : Jvm.MethodName)) ∈ lw_all := lw_g (lw_at lw_m4 60 rfl) rfl
theorem q889 : (Jvm.Cond.code ({ cls := "WoodliceSenate", name := "many", desc := "([LWoodliceSenate$Louse;I)I" } : Jvm.MethodName) prog_1_method_32_code (5 : Nat) (Option.some Jvm.ClassFile.FieldType.int)) ∈ lw_all := lw_g (lw_at lw_m4 61 rfl) rfl
theorem q890 : (Jvm.Cond.methodLink "WoodliceSenate" (276 : Nat) ({ cls := "WoodliceSenate$Louse", name := "copies", desc := "(LWoodliceSenate$Louse;)V" } : Jvm.MethodName)) ∈ lw_all := lw_g (lw_at lw_m4 62 rfl) rfl
theorem q894 : (Jvm.Cond.methodLink "WoodliceSenate" (296 : Nat) ({ cls := "WoodliceSenate", name := "dampBy", desc := "(III)I" } : Jvm.MethodName)) ∈ lw_all := lw_g (lw_at lw_m4 66 rfl) rfl
theorem q895 : (Jvm.Cond.privateMethod ({ cls := "WoodliceSenate", name := "dampBy", desc := "(III)I" } : Jvm.MethodName)) ∈ lw_tbl := lw_at lw_m4 67 rfl
theorem q896 : (Jvm.Cond.instanceMethod ({ cls := "WoodliceSenate", name := "dampBy", desc := "(III)I" } : Jvm.MethodName)) ∈ lw_all := lw_g (lw_at lw_m4 68 rfl) rfl
theorem q897 : (Jvm.Cond.code ({ cls := "WoodliceSenate", name := "dampBy", desc := "(III)I" } : Jvm.MethodName) prog_1_method_35_code (4 : Nat) (Option.some Jvm.ClassFile.FieldType.int)) ∈ lw_all := lw_g (lw_at lw_m4 69 rfl) rfl
theorem q899 : (Jvm.Cond.instanceMethod ({ cls := "WoodliceSenate", name := "at", desc := "(III)I" } : Jvm.MethodName)) ∈ lw_all := lw_g (lw_at lw_m4 71 rfl) rfl
theorem q900 : (Jvm.Cond.selects "WoodliceSenate" ({ cls := "WoodliceSenate", name := "at", desc := "(III)I" } : Jvm.MethodName) ({ cls := "WoodliceSenate", name := "at", desc := "(III)I" } : Jvm.MethodName)) ∈ lw_all := lw_g (lw_at lw_m4 72 rfl) rfl
theorem q901 : (Jvm.Cond.code ({ cls := "WoodliceSenate", name := "at", desc := "(III)I" } : Jvm.MethodName) prog_1_method_37_code (4 : Nat) (Option.some Jvm.ClassFile.FieldType.int)) ∈ lw_all := lw_g (lw_at lw_m4 73 rfl) rfl
theorem q902 : (Jvm.Cond.methodLink "WoodliceSenate" (299 : Nat) ({ cls := "WoodliceSenate$Louse", name := "by", desc := "(I)I" } : Jvm.MethodName)) ∈ lw_all := lw_g (lw_at lw_m4 74 rfl) rfl
theorem q907 : (Jvm.Cond.instanceMethod ({ cls := "WoodliceSenate", name := "house", desc := "(II)I" } : Jvm.MethodName)) ∈ lw_all := lw_g (lw_at lw_m4 79 rfl) rfl
theorem q908 : (Jvm.Cond.selects "WoodliceSenate" ({ cls := "WoodliceSenate", name := "house", desc := "(II)I" } : Jvm.MethodName) ({ cls := "WoodliceSenate", name := "house", desc := "(II)I" } : Jvm.MethodName)) ∈ lw_all := lw_g (lw_at lw_m4 80 rfl) rfl
theorem q909 : (Jvm.Cond.code ({ cls := "WoodliceSenate", name := "house", desc := "(II)I" } : Jvm.MethodName) prog_1_method_41_code (3 : Nat) (Option.some Jvm.ClassFile.FieldType.int)) ∈ lw_all := lw_g (lw_at lw_m4 81 rfl) rfl
theorem q910 : (Jvm.Cond.methodLink "WoodliceSenate" (307 : Nat) ({ cls := "WoodliceSenate", name := "houseBy", desc := "(II)I" } : Jvm.MethodName)) ∈ lw_all := lw_g (lw_at lw_m4 82 rfl) rfl
theorem q911 : (Jvm.Cond.privateMethod ({ cls := "WoodliceSenate", name := "houseBy", desc := "(II)I" } : Jvm.MethodName)) ∈ lw_tbl := lw_at lw_m4 83 rfl
theorem q912 : (Jvm.Cond.instanceMethod ({ cls := "WoodliceSenate", name := "houseBy", desc := "(II)I" } : Jvm.MethodName)) ∈ lw_all := lw_g (lw_at lw_m4 84 rfl) rfl
theorem q913 : (Jvm.Cond.code ({ cls := "WoodliceSenate", name := "houseBy", desc := "(II)I" } : Jvm.MethodName) prog_1_method_40_code (3 : Nat) (Option.some Jvm.ClassFile.FieldType.int)) ∈ lw_all := lw_g (lw_at lw_m4 85 rfl) rfl
theorem q914 : (Jvm.Cond.methodLink "WoodliceSenate" (300 : Nat) ({ cls := "WoodliceSenate", name := "votes", desc := "(IZ)I" } : Jvm.MethodName)) ∈ lw_all := lw_g (lw_at lw_m4 86 rfl) rfl
theorem q915 : (Jvm.Cond.privateMethod ({ cls := "WoodliceSenate", name := "votes", desc := "(IZ)I" } : Jvm.MethodName)) ∈ lw_tbl := lw_at lw_m4 87 rfl
theorem q916 : (Jvm.Cond.instanceMethod ({ cls := "WoodliceSenate", name := "votes", desc := "(IZ)I" } : Jvm.MethodName)) ∈ lw_all := lw_g (lw_at lw_m4 88 rfl) rfl
theorem q917 : (Jvm.Cond.code ({ cls := "WoodliceSenate", name := "votes", desc := "(IZ)I" } : Jvm.MethodName) prog_1_method_38_code (5 : Nat) (Option.some Jvm.ClassFile.FieldType.int)) ∈ lw_all := lw_g (lw_at lw_m4 89 rfl) rfl
theorem q918 : (Jvm.Cond.methodLink "WoodliceSenate" (304 : Nat) ({ cls := "WoodliceSenate", name := "isCarried", desc := "(I)Z" } : Jvm.MethodName)) ∈ lw_all := lw_g (lw_at lw_m4 90 rfl) rfl
theorem q919 : (Jvm.Cond.privateMethod ({ cls := "WoodliceSenate", name := "isCarried", desc := "(I)Z" } : Jvm.MethodName)) ∈ lw_tbl := lw_at lw_m4 91 rfl
theorem q920 : (Jvm.Cond.instanceMethod ({ cls := "WoodliceSenate", name := "isCarried", desc := "(I)Z" } : Jvm.MethodName)) ∈ lw_all := lw_g (lw_at lw_m4 92 rfl) rfl
theorem q921 : (Jvm.Cond.code ({ cls := "WoodliceSenate", name := "isCarried", desc := "(I)Z" } : Jvm.MethodName) prog_1_method_39_code (2 : Nat) (Option.some Jvm.ClassFile.FieldType.boolean)) ∈ lw_all := lw_g (lw_at lw_m4 93 rfl) rfl
theorem q923 : (Jvm.Cond.instanceMethod ({ cls := "WoodliceSenate", name := "governments", desc := "()I" } : Jvm.MethodName)) ∈ lw_all := lw_g (lw_at lw_m4 95 rfl) rfl
theorem q924 : (Jvm.Cond.selects "WoodliceSenate" ({ cls := "WoodliceSenate", name := "governments", desc := "()I" } : Jvm.MethodName) ({ cls := "WoodliceSenate", name := "governments", desc := "()I" } : Jvm.MethodName)) ∈ lw_all := lw_g (lw_at lw_m4 96 rfl) rfl
theorem q925 : (Jvm.Cond.code ({ cls := "WoodliceSenate", name := "governments", desc := "()I" } : Jvm.MethodName) prog_1_method_43_code (1 : Nat) (Option.some Jvm.ClassFile.FieldType.int)) ∈ lw_all := lw_g (lw_at lw_m4 97 rfl) rfl
theorem q926 : (Jvm.Cond.methodLink "WoodliceSenate" (310 : Nat) ({ cls := "WoodliceSenate", name := "governmentsNow", desc := "()I" } : Jvm.MethodName)) ∈ lw_all := lw_g (lw_at lw_m4 98 rfl) rfl
theorem q927 : (Jvm.Cond.privateMethod ({ cls := "WoodliceSenate", name := "governmentsNow", desc := "()I" } : Jvm.MethodName)) ∈ lw_tbl := lw_at lw_m4 99 rfl
theorem q928 : (Jvm.Cond.instanceMethod ({ cls := "WoodliceSenate", name := "governmentsNow", desc := "()I" } : Jvm.MethodName)) ∈ lw_all := lw_g (lw_at lw_m4 100 rfl) rfl
theorem q929 : (Jvm.Cond.code ({ cls := "WoodliceSenate", name := "governmentsNow", desc := "()I" } : Jvm.MethodName) prog_1_method_42_code (3 : Nat) (Option.some Jvm.ClassFile.FieldType.int)) ∈ lw_all := lw_g (lw_at lw_m4 101 rfl) rfl
theorem q931 : (Jvm.Cond.instanceMethod ({ cls := "WoodliceSenate", name := "carried", desc := "()I" } : Jvm.MethodName)) ∈ lw_all := lw_g (lw_at lw_m4 103 rfl) rfl
theorem q932 : (Jvm.Cond.selects "WoodliceSenate" ({ cls := "WoodliceSenate", name := "carried", desc := "()I" } : Jvm.MethodName) ({ cls := "WoodliceSenate", name := "carried", desc := "()I" } : Jvm.MethodName)) ∈ lw_all := lw_g (lw_at lw_m4 104 rfl) rfl
theorem q933 : (Jvm.Cond.code ({ cls := "WoodliceSenate", name := "carried", desc := "()I" } : Jvm.MethodName) prog_1_method_45_code (1 : Nat) (Option.some Jvm.ClassFile.FieldType.int)) ∈ lw_all := lw_g (lw_at lw_m4 105 rfl) rfl
theorem q934 : (Jvm.Cond.methodLink "WoodliceSenate" (313 : Nat) ({ cls := "WoodliceSenate", name := "carriedNow", desc := "()I" } : Jvm.MethodName)) ∈ lw_all := lw_g (lw_at lw_m4 106 rfl) rfl
theorem q935 : (Jvm.Cond.privateMethod ({ cls := "WoodliceSenate", name := "carriedNow", desc := "()I" } : Jvm.MethodName)) ∈ lw_tbl := lw_at lw_m4 107 rfl
theorem q936 : (Jvm.Cond.instanceMethod ({ cls := "WoodliceSenate", name := "carriedNow", desc := "()I" } : Jvm.MethodName)) ∈ lw_all := lw_g (lw_at lw_m4 108 rfl) rfl
theorem q937 : (Jvm.Cond.code ({ cls := "WoodliceSenate", name := "carriedNow", desc := "()I" } : Jvm.MethodName) prog_1_method_44_code (3 : Nat) (Option.some Jvm.ClassFile.FieldType.int)) ∈ lw_all := lw_g (lw_at lw_m4 109 rfl) rfl
theorem q939 : (Jvm.Cond.instanceMethod ({ cls := "WoodliceSenate", name := "crowd", desc := "(I)I" } : Jvm.MethodName)) ∈ lw_all := lw_g (lw_at lw_m4 111 rfl) rfl
theorem q940 : (Jvm.Cond.selects "WoodliceSenate" ({ cls := "WoodliceSenate", name := "crowd", desc := "(I)I" } : Jvm.MethodName) ({ cls := "WoodliceSenate", name := "crowd", desc := "(I)I" } : Jvm.MethodName)) ∈ lw_all := lw_g (lw_at lw_m4 112 rfl) rfl
theorem q941 : (Jvm.Cond.code ({ cls := "WoodliceSenate", name := "crowd", desc := "(I)I" } : Jvm.MethodName) prog_1_method_47_code (2 : Nat) (Option.some Jvm.ClassFile.FieldType.int)) ∈ lw_all := lw_g (lw_at lw_m4 113 rfl) rfl
theorem q942 : (Jvm.Cond.methodLink "WoodliceSenate" (316 : Nat) ({ cls := "WoodliceSenate", name := "crowdBy", desc := "(I)I" } : Jvm.MethodName)) ∈ lw_all := lw_g (lw_at lw_m4 114 rfl) rfl
theorem q943 : (Jvm.Cond.privateMethod ({ cls := "WoodliceSenate", name := "crowdBy", desc := "(I)I" } : Jvm.MethodName)) ∈ lw_tbl := lw_at lw_m4 115 rfl
theorem q944 : (Jvm.Cond.instanceMethod ({ cls := "WoodliceSenate", name := "crowdBy", desc := "(I)I" } : Jvm.MethodName)) ∈ lw_all := lw_g (lw_at lw_m4 116 rfl) rfl
theorem q945 : (Jvm.Cond.code ({ cls := "WoodliceSenate", name := "crowdBy", desc := "(I)I" } : Jvm.MethodName) prog_1_method_46_code (6 : Nat) (Option.some Jvm.ClassFile.FieldType.int)) ∈ lw_all := lw_g (lw_at lw_m4 117 rfl) rfl
theorem q947 : (Jvm.Cond.instanceMethod ({ cls := "WoodliceSenate", name := "orator", desc := "()I" } : Jvm.MethodName)) ∈ lw_all := lw_g (lw_at lw_m4 119 rfl) rfl
theorem q948 : (Jvm.Cond.selects "WoodliceSenate" ({ cls := "WoodliceSenate", name := "orator", desc := "()I" } : Jvm.MethodName) ({ cls := "WoodliceSenate", name := "orator", desc := "()I" } : Jvm.MethodName)) ∈ lw_all := lw_g (lw_at lw_m4 120 rfl) rfl
theorem q949 : (Jvm.Cond.code ({ cls := "WoodliceSenate", name := "orator", desc := "()I" } : Jvm.MethodName) prog_1_method_49_code (1 : Nat) (Option.some Jvm.ClassFile.FieldType.int)) ∈ lw_all := lw_g (lw_at lw_m4 121 rfl) rfl
theorem q950 : (Jvm.Cond.methodLink "WoodliceSenate" (319 : Nat) ({ cls := "WoodliceSenate", name := "oratorNow", desc := "()I" } : Jvm.MethodName)) ∈ lw_all := lw_g (lw_at lw_m4 122 rfl) rfl
theorem q951 : (Jvm.Cond.privateMethod ({ cls := "WoodliceSenate", name := "oratorNow", desc := "()I" } : Jvm.MethodName)) ∈ lw_tbl := lw_at lw_m4 123 rfl
theorem q952 : (Jvm.Cond.instanceMethod ({ cls := "WoodliceSenate", name := "oratorNow", desc := "()I" } : Jvm.MethodName)) ∈ lw_all := lw_g (lw_at lw_m4 124 rfl) rfl
theorem q953 : (Jvm.Cond.code ({ cls := "WoodliceSenate", name := "oratorNow", desc := "()I" } : Jvm.MethodName) prog_1_method_48_code (3 : Nat) (Option.some Jvm.ClassFile.FieldType.int)) ∈ lw_all := lw_g (lw_at lw_m4 125 rfl) rfl
theorem q955 : (Jvm.Cond.instanceMethod ({ cls := "WoodliceSenate", name := "still", desc := "()I" } : Jvm.MethodName)) ∈ lw_all := lw_g (lw_at lw_m4 127 rfl) rfl
theorem q956 : (Jvm.Cond.selects "WoodliceSenate" ({ cls := "WoodliceSenate", name := "still", desc := "()I" } : Jvm.MethodName) ({ cls := "WoodliceSenate", name := "still", desc := "()I" } : Jvm.MethodName)) ∈ lw_all := lw_g (lw_at lw_m4 128 rfl) rfl
theorem q957 : (Jvm.Cond.code ({ cls := "WoodliceSenate", name := "still", desc := "()I" } : Jvm.MethodName) prog_1_method_51_code (1 : Nat) (Option.some Jvm.ClassFile.FieldType.int)) ∈ lw_all := lw_g (lw_at lw_m4 129 rfl) rfl
theorem q958 : (Jvm.Cond.methodLink "WoodliceSenate" (322 : Nat) ({ cls := "WoodliceSenate", name := "stillNow", desc := "()I" } : Jvm.MethodName)) ∈ lw_all := lw_g (lw_at lw_m4 130 rfl) rfl
theorem q959 : (Jvm.Cond.privateMethod ({ cls := "WoodliceSenate", name := "stillNow", desc := "()I" } : Jvm.MethodName)) ∈ lw_tbl := lw_at lw_m4 131 rfl
theorem q960 : (Jvm.Cond.instanceMethod ({ cls := "WoodliceSenate", name := "stillNow", desc := "()I" } : Jvm.MethodName)) ∈ lw_all := lw_g (lw_at lw_m4 132 rfl) rfl
theorem q961 : (Jvm.Cond.code ({ cls := "WoodliceSenate", name := "stillNow", desc := "()I" } : Jvm.MethodName) prog_1_method_50_code (3 : Nat) (Option.some Jvm.ClassFile.FieldType.int)) ∈ lw_all := lw_g (lw_at lw_m4 133 rfl) rfl
theorem q963 : (Jvm.Cond.instanceMethod ({ cls := "WoodliceSenate", name := "seat", desc := "(II)I" } : Jvm.MethodName)) ∈ lw_all := lw_g (lw_at lw_m4 135 rfl) rfl
theorem q964 : (Jvm.Cond.selects "WoodliceSenate" ({ cls := "WoodliceSenate", name := "seat", desc := "(II)I" } : Jvm.MethodName) ({ cls := "WoodliceSenate", name := "seat", desc := "(II)I" } : Jvm.MethodName)) ∈ lw_all := lw_g (lw_at lw_m4 136 rfl) rfl
theorem q965 : (Jvm.Cond.code ({ cls := "WoodliceSenate", name := "seat", desc := "(II)I" } : Jvm.MethodName) prog_1_method_53_code (3 : Nat) (Option.some Jvm.ClassFile.FieldType.int)) ∈ lw_all := lw_g (lw_at lw_m4 137 rfl) rfl
theorem q966 : (Jvm.Cond.methodLink "WoodliceSenate" (326 : Nat) ({ cls := "WoodliceSenate", name := "seatOf", desc := "(II)I" } : Jvm.MethodName)) ∈ lw_all := lw_g (lw_at lw_m4 138 rfl) rfl
theorem q967 : (Jvm.Cond.privateMethod ({ cls := "WoodliceSenate", name := "seatOf", desc := "(II)I" } : Jvm.MethodName)) ∈ lw_tbl := lw_at lw_m4 139 rfl
theorem q968 : (Jvm.Cond.instanceMethod ({ cls := "WoodliceSenate", name := "seatOf", desc := "(II)I" } : Jvm.MethodName)) ∈ lw_all := lw_g (lw_at lw_m4 140 rfl) rfl
theorem q969 : (Jvm.Cond.codeWith ({ cls := "WoodliceSenate", name := "seatOf", desc := "(II)I" } : Jvm.MethodName) prog_1_method_52_code (8 : Nat) (Option.some Jvm.ClassFile.FieldType.int) [((27 : Nat), (82 : Nat), (91 : Nat), (0 : Nat)), ((91 : Nat), (93 : Nat), (91 : Nat), (0 : Nat))]) ∈ lw_all := lw_g (lw_at lw_m4 141 rfl) rfl
theorem q971 : (Jvm.Cond.instanceMethod ({ cls := "WoodliceSenate", name := "dust", desc := "(II)I" } : Jvm.MethodName)) ∈ lw_all := lw_g (lw_at lw_m4 143 rfl) rfl
theorem q972 : (Jvm.Cond.selects "WoodliceSenate" ({ cls := "WoodliceSenate", name := "dust", desc := "(II)I" } : Jvm.MethodName) ({ cls := "WoodliceSenate", name := "dust", desc := "(II)I" } : Jvm.MethodName)) ∈ lw_all := lw_g (lw_at lw_m4 144 rfl) rfl
theorem q973 : (Jvm.Cond.code ({ cls := "WoodliceSenate", name := "dust", desc := "(II)I" } : Jvm.MethodName) prog_1_method_55_code (3 : Nat) (Option.some Jvm.ClassFile.FieldType.int)) ∈ lw_all := lw_g (lw_at lw_m4 145 rfl) rfl
theorem q974 : (Jvm.Cond.methodLink "WoodliceSenate" (329 : Nat) ({ cls := "WoodliceSenate", name := "dustOf", desc := "(II)I" } : Jvm.MethodName)) ∈ lw_all := lw_g (lw_at lw_m4 146 rfl) rfl
theorem q975 : (Jvm.Cond.privateMethod ({ cls := "WoodliceSenate", name := "dustOf", desc := "(II)I" } : Jvm.MethodName)) ∈ lw_tbl := lw_at lw_m4 147 rfl
theorem q976 : (Jvm.Cond.instanceMethod ({ cls := "WoodliceSenate", name := "dustOf", desc := "(II)I" } : Jvm.MethodName)) ∈ lw_all := lw_g (lw_at lw_m4 148 rfl) rfl
theorem q977 : (Jvm.Cond.codeWith ({ cls := "WoodliceSenate", name := "dustOf", desc := "(II)I" } : Jvm.MethodName) prog_1_method_54_code (6 : Nat) (Option.some Jvm.ClassFile.FieldType.int) [((5 : Nat), (69 : Nat), (77 : Nat), (0 : Nat)), ((77 : Nat), (79 : Nat), (77 : Nat), (0 : Nat))]) ∈ lw_all := lw_g (lw_at lw_m4 149 rfl) rfl
theorem q979 : (Jvm.Cond.instanceMethod ({ cls := "WoodliceSenate", name := "boy", desc := "(I)I" } : Jvm.MethodName)) ∈ lw_all := lw_g (lw_at lw_m4 151 rfl) rfl
theorem q980 : (Jvm.Cond.selects "WoodliceSenate" ({ cls := "WoodliceSenate", name := "boy", desc := "(I)I" } : Jvm.MethodName) ({ cls := "WoodliceSenate", name := "boy", desc := "(I)I" } : Jvm.MethodName)) ∈ lw_all := lw_g (lw_at lw_m4 152 rfl) rfl
theorem q981 : (Jvm.Cond.code ({ cls := "WoodliceSenate", name := "boy", desc := "(I)I" } : Jvm.MethodName) prog_1_method_57_code (2 : Nat) (Option.some Jvm.ClassFile.FieldType.int)) ∈ lw_all := lw_g (lw_at lw_m4 153 rfl) rfl
theorem q982 : (Jvm.Cond.methodLink "WoodliceSenate" (332 : Nat) ({ cls := "WoodliceSenate", name := "boyBy", desc := "(I)I" } : Jvm.MethodName)) ∈ lw_all := lw_g (lw_at lw_m4 154 rfl) rfl
theorem q983 : (Jvm.Cond.privateMethod ({ cls := "WoodliceSenate", name := "boyBy", desc := "(I)I" } : Jvm.MethodName)) ∈ lw_tbl := lw_at lw_m4 155 rfl
theorem q984 : (Jvm.Cond.instanceMethod ({ cls := "WoodliceSenate", name := "boyBy", desc := "(I)I" } : Jvm.MethodName)) ∈ lw_all := lw_g (lw_at lw_m4 156 rfl) rfl
theorem q985 : (Jvm.Cond.codeWith ({ cls := "WoodliceSenate", name := "boyBy", desc := "(I)I" } : Jvm.MethodName) prog_1_method_56_code (5 : Nat) (Option.some Jvm.ClassFile.FieldType.int) [((4 : Nat), (61 : Nat), (69 : Nat), (0 : Nat)), ((69 : Nat), (71 : Nat), (69 : Nat), (0 : Nat))]) ∈ lw_all := lw_g (lw_at lw_m4 157 rfl) rfl
theorem q987 : (Jvm.Cond.instanceMethod ({ cls := "WoodliceSenate", name := "calm", desc := "(I)I" } : Jvm.MethodName)) ∈ lw_all := lw_g (lw_at lw_m4 159 rfl) rfl
theorem q988 : (Jvm.Cond.selects "WoodliceSenate" ({ cls := "WoodliceSenate", name := "calm", desc := "(I)I" } : Jvm.MethodName) ({ cls := "WoodliceSenate", name := "calm", desc := "(I)I" } : Jvm.MethodName)) ∈ lw_all := lw_g (lw_at lw_m4 160 rfl) rfl
theorem q989 : (Jvm.Cond.code ({ cls := "WoodliceSenate", name := "calm", desc := "(I)I" } : Jvm.MethodName) prog_1_method_60_code (2 : Nat) (Option.some Jvm.ClassFile.FieldType.int)) ∈ lw_all := lw_g (lw_at lw_m4 161 rfl) rfl
theorem q990 : (Jvm.Cond.constantLong "WoodliceSenate" (338 : Nat) (-1 : Int64)) ∈ lw_all := lw_g (lw_at lw_m4 162 rfl) rfl
theorem q991 : (Jvm.Cond.methodLink "WoodliceSenate" (340 : Nat) ({ cls := "WoodliceSenate", name := "calmBy", desc := "(I)I" } : Jvm.MethodName)) ∈ lw_all := lw_g (lw_at lw_m4 163 rfl) rfl
theorem q992 : (Jvm.Cond.privateMethod ({ cls := "WoodliceSenate", name := "calmBy", desc := "(I)I" } : Jvm.MethodName)) ∈ lw_tbl := lw_at lw_m4 164 rfl
theorem q993 : (Jvm.Cond.instanceMethod ({ cls := "WoodliceSenate", name := "calmBy", desc := "(I)I" } : Jvm.MethodName)) ∈ lw_all := lw_g (lw_at lw_m4 165 rfl) rfl
theorem q994 : (Jvm.Cond.code ({ cls := "WoodliceSenate", name := "calmBy", desc := "(I)I" } : Jvm.MethodName) prog_1_method_59_code (5 : Nat) (Option.some Jvm.ClassFile.FieldType.int)) ∈ lw_all := lw_g (lw_at lw_m4 166 rfl) rfl
theorem q995 : (Jvm.Cond.methodLink "WoodliceSenate" (335 : Nat) ({ cls := "WoodliceSenate", name := "isCalm", desc := "(I)Z" } : Jvm.MethodName)) ∈ lw_all := lw_g (lw_at lw_m4 167 rfl) rfl
theorem q996 : (Jvm.Cond.privateMethod ({ cls := "WoodliceSenate", name := "isCalm", desc := "(I)Z" } : Jvm.MethodName)) ∈ lw_tbl := lw_at lw_m4 168 rfl
theorem q997 : (Jvm.Cond.instanceMethod ({ cls := "WoodliceSenate", name := "isCalm", desc := "(I)Z" } : Jvm.MethodName)) ∈ lw_all := lw_g (lw_at lw_m4 169 rfl) rfl
theorem q998 : (Jvm.Cond.codeWith ({ cls := "WoodliceSenate", name := "isCalm", desc := "(I)Z" } : Jvm.MethodName) prog_1_method_58_code (4 : Nat) (Option.some Jvm.ClassFile.FieldType.boolean) [((5 : Nat), (24 : Nat), (31 : Nat), (0 : Nat))]) ∈ lw_all := lw_g (lw_at lw_m4 170 rfl) rfl
theorem q1000 : (Jvm.Cond.instanceMethod ({ cls := "WoodliceSenate", name := "seen", desc := "(III)I" } : Jvm.MethodName)) ∈ lw_all := lw_g (lw_at lw_m4 172 rfl) rfl
theorem q1001 : (Jvm.Cond.selects "WoodliceSenate" ({ cls := "WoodliceSenate", name := "seen", desc := "(III)I" } : Jvm.MethodName) ({ cls := "WoodliceSenate", name := "seen", desc := "(III)I" } : Jvm.MethodName)) ∈ lw_all := lw_g (lw_at lw_m4 173 rfl) rfl
theorem q1002 : (Jvm.Cond.code ({ cls := "WoodliceSenate", name := "seen", desc := "(III)I" } : Jvm.MethodName) prog_1_method_61_code (4 : Nat) (Option.some Jvm.ClassFile.FieldType.int)) ∈ lw_all := lw_g (lw_at lw_m4 174 rfl) rfl
theorem q1003 : (Jvm.Cond.constantLong "WoodliceSenate" (343 : Nat) (7 : Int64)) ∈ lw_all := lw_g (lw_at lw_m4 175 rfl) rfl
theorem q1005 : (Jvm.Cond.instanceMethod ({ cls := "WoodliceSenate", name := "forget", desc := "()I" } : Jvm.MethodName)) ∈ lw_all := lw_g (lw_at lw_m4 177 rfl) rfl
theorem q1006 : (Jvm.Cond.selects "WoodliceSenate" ({ cls := "WoodliceSenate", name := "forget", desc := "()I" } : Jvm.MethodName) ({ cls := "WoodliceSenate", name := "forget", desc := "()I" } : Jvm.MethodName)) ∈ lw_all := lw_g (lw_at lw_m4 178 rfl) rfl
theorem q1007 : (Jvm.Cond.code ({ cls := "WoodliceSenate", name := "forget", desc := "()I" } : Jvm.MethodName) prog_1_method_62_code (2 : Nat) (Option.some Jvm.ClassFile.FieldType.int)) ∈ lw_all := lw_g (lw_at lw_m4 179 rfl) rfl
theorem q1008 : (Jvm.Cond.methodLink "WoodliceSenate" (345 : Nat) ({ cls := "java/util/ArrayList", name := "clear", desc := "()V" } : Jvm.MethodName)) ∈ lw_all := lw_g (lw_at lw_m4 180 rfl) rfl
theorem q1010 : (Jvm.Cond.instanceMethod ({ cls := "WoodliceSenate", name := "never", desc := "()I" } : Jvm.MethodName)) ∈ lw_all := lw_g (lw_at lw_m4 182 rfl) rfl
theorem q1011 : (Jvm.Cond.selects "WoodliceSenate" ({ cls := "WoodliceSenate", name := "never", desc := "()I" } : Jvm.MethodName) ({ cls := "WoodliceSenate", name := "never", desc := "()I" } : Jvm.MethodName)) ∈ lw_all := lw_g (lw_at lw_m4 183 rfl) rfl
theorem q1012 : (Jvm.Cond.code ({ cls := "WoodliceSenate", name := "never", desc := "()I" } : Jvm.MethodName) prog_1_method_65_code (1 : Nat) (Option.some Jvm.ClassFile.FieldType.int)) ∈ lw_all := lw_g (lw_at lw_m4 184 rfl) rfl
theorem q1013 : (Jvm.Cond.methodLink "WoodliceSenate" (351 : Nat) ({ cls := "WoodliceSenate", name := "neverNow", desc := "()I" } : Jvm.MethodName)) ∈ lw_all := lw_g (lw_at lw_m4 185 rfl) rfl
theorem q1014 : (Jvm.Cond.privateMethod ({ cls := "WoodliceSenate", name := "neverNow", desc := "()I" } : Jvm.MethodName)) ∈ lw_tbl := lw_at lw_m4 186 rfl
theorem q1015 : (Jvm.Cond.instanceMethod ({ cls := "WoodliceSenate", name := "neverNow", desc := "()I" } : Jvm.MethodName)) ∈ lw_all := lw_g (lw_at lw_m4 187 rfl) rfl
theorem q1016 : (Jvm.Cond.codeWith ({ cls := "WoodliceSenate", name := "neverNow", desc := "()I" } : Jvm.MethodName) prog_1_method_64_code (4 : Nat) (Option.some Jvm.ClassFile.FieldType.int) [((2 : Nat), (45 : Nat), (53 : Nat), (0 : Nat))]) ∈ lw_all := lw_g (lw_at lw_m4 188 rfl) rfl
theorem q1017 : (Jvm.Cond.methodLink "WoodliceSenate" (348 : Nat) ({ cls := "WoodliceSenate", name := "isSeen", desc := "()Z" } : Jvm.MethodName)) ∈ lw_all := lw_g (lw_at lw_m4 189 rfl) rfl
theorem q1018 : (Jvm.Cond.privateMethod ({ cls := "WoodliceSenate", name := "isSeen", desc := "()Z" } : Jvm.MethodName)) ∈ lw_tbl := lw_at lw_m4 190 rfl
theorem q1019 : (Jvm.Cond.instanceMethod ({ cls := "WoodliceSenate", name := "isSeen", desc := "()Z" } : Jvm.MethodName)) ∈ lw_all := lw_g (lw_at lw_m4 191 rfl) rfl
theorem q1020 : (Jvm.Cond.code ({ cls := "WoodliceSenate", name := "isSeen", desc := "()Z" } : Jvm.MethodName) prog_1_method_63_code (4 : Nat) (Option.some Jvm.ClassFile.FieldType.boolean)) ∈ lw_all := lw_g (lw_at lw_m4 192 rfl) rfl
theorem q1022 : (Jvm.Cond.instanceMethod ({ cls := "WoodliceSenate", name := "sort", desc := "(I)I" } : Jvm.MethodName)) ∈ lw_all := lw_g (lw_at lw_m4 194 rfl) rfl
theorem q1023 : (Jvm.Cond.selects "WoodliceSenate" ({ cls := "WoodliceSenate", name := "sort", desc := "(I)I" } : Jvm.MethodName) ({ cls := "WoodliceSenate", name := "sort", desc := "(I)I" } : Jvm.MethodName)) ∈ lw_all := lw_g (lw_at lw_m4 195 rfl) rfl
theorem q1024 : (Jvm.Cond.code ({ cls := "WoodliceSenate", name := "sort", desc := "(I)I" } : Jvm.MethodName) prog_1_method_67_code (2 : Nat) (Option.some Jvm.ClassFile.FieldType.int)) ∈ lw_all := lw_g (lw_at lw_m4 196 rfl) rfl
theorem q1025 : (Jvm.Cond.methodLink "WoodliceSenate" (358 : Nat) ({ cls := "WoodliceSenate", name := "sortOf", desc := "(I)I" } : Jvm.MethodName)) ∈ lw_all := lw_g (lw_at lw_m4 197 rfl) rfl
theorem q1026 : (Jvm.Cond.privateMethod ({ cls := "WoodliceSenate", name := "sortOf", desc := "(I)I" } : Jvm.MethodName)) ∈ lw_tbl := lw_at lw_m4 198 rfl
theorem q1027 : (Jvm.Cond.instanceMethod ({ cls := "WoodliceSenate", name := "sortOf", desc := "(I)I" } : Jvm.MethodName)) ∈ lw_all := lw_g (lw_at lw_m4 199 rfl) rfl
theorem q1028 : (Jvm.Cond.codeWith ({ cls := "WoodliceSenate", name := "sortOf", desc := "(I)I" } : Jvm.MethodName) prog_1_method_66_code (7 : Nat) (Option.some Jvm.ClassFile.FieldType.int) [((23 : Nat), (68 : Nat), (76 : Nat), (0 : Nat)), ((76 : Nat), (78 : Nat), (76 : Nat), (0 : Nat))]) ∈ lw_all := lw_g (lw_at lw_m4 200 rfl) rfl
theorem q1029 : (Jvm.Cond.fieldLink "WoodliceSenate" (354 : Nat) "WoodliceSenate" "SORT" "[LWoodliceSenate$Sort;") ∈ lw_all := lw_g (lw_at lw_m4 201 rfl) rfl
theorem q1031 : (Jvm.Cond.instanceMethod ({ cls := "WoodliceSenate", name := "wet", desc := "(I)I" } : Jvm.MethodName)) ∈ lw_all := lw_g (lw_at lw_m4 203 rfl) rfl
theorem q1032 : (Jvm.Cond.selects "WoodliceSenate" ({ cls := "WoodliceSenate", name := "wet", desc := "(I)I" } : Jvm.MethodName) ({ cls := "WoodliceSenate", name := "wet", desc := "(I)I" } : Jvm.MethodName)) ∈ lw_all := lw_g (lw_at lw_m4 204 rfl) rfl
theorem q1033 : (Jvm.Cond.code ({ cls := "WoodliceSenate", name := "wet", desc := "(I)I" } : Jvm.MethodName) prog_1_method_69_code (2 : Nat) (Option.some Jvm.ClassFile.FieldType.int)) ∈ lw_all := lw_g (lw_at lw_m4 205 rfl) rfl
theorem q1034 : (Jvm.Cond.methodLink "WoodliceSenate" (361 : Nat) ({ cls := "WoodliceSenate", name := "wetOf", desc := "(I)I" } : Jvm.MethodName)) ∈ lw_all := lw_g (lw_at lw_m4 206 rfl) rfl
theorem q1035 : (Jvm.Cond.privateMethod ({ cls := "WoodliceSenate", name := "wetOf", desc := "(I)I" } : Jvm.MethodName)) ∈ lw_tbl := lw_at lw_m4 207 rfl
theorem q1036 : (Jvm.Cond.instanceMethod ({ cls := "WoodliceSenate", name := "wetOf", desc := "(I)I" } : Jvm.MethodName)) ∈ lw_all := lw_g (lw_at lw_m4 208 rfl) rfl
theorem q1037 : (Jvm.Cond.codeWith ({ cls := "WoodliceSenate", name := "wetOf", desc := "(I)I" } : Jvm.MethodName) prog_1_method_68_code (6 : Nat) (Option.some Jvm.ClassFile.FieldType.int) [((20 : Nat), (127 : Nat), (140 : Nat), (0 : Nat)), ((140 : Nat), (142 : Nat), (140 : Nat), (0 : Nat))]) ∈ lw_all := lw_g (lw_at lw_m4 209 rfl) rfl
theorem q1039 : (Jvm.Cond.instanceMethod ({ cls := "WoodliceSenate", name := "ask", desc := "(I)I" } : Jvm.MethodName)) ∈ lw_all := lw_g (lw_at lw_m4 211 rfl) rfl
theorem q1040 : (Jvm.Cond.selects "WoodliceSenate" ({ cls := "WoodliceSenate", name := "ask", desc := "(I)I" } : Jvm.MethodName) ({ cls := "WoodliceSenate", name := "ask", desc := "(I)I" } : Jvm.MethodName)) ∈ lw_all := lw_g (lw_at lw_m4 212 rfl) rfl
theorem q1041 : (Jvm.Cond.code ({ cls := "WoodliceSenate", name := "ask", desc := "(I)I" } : Jvm.MethodName) prog_1_method_72_code (2 : Nat) (Option.some Jvm.ClassFile.FieldType.int)) ∈ lw_all := lw_g (lw_at lw_m4 213 rfl) rfl
theorem q1042 : (Jvm.Cond.methodLink "WoodliceSenate" (367 : Nat) ({ cls := "WoodliceSenate", name := "askOf", desc := "(I)I" } : Jvm.MethodName)) ∈ lw_all := lw_g (lw_at lw_m4 214 rfl) rfl
theorem q1043 : (Jvm.Cond.privateMethod ({ cls := "WoodliceSenate", name := "askOf", desc := "(I)I" } : Jvm.MethodName)) ∈ lw_tbl := lw_at lw_m4 215 rfl
theorem q1044 : (Jvm.Cond.instanceMethod ({ cls := "WoodliceSenate", name := "askOf", desc := "(I)I" } : Jvm.MethodName)) ∈ lw_all := lw_g (lw_at lw_m4 216 rfl) rfl
theorem q1045 : (Jvm.Cond.code ({ cls := "WoodliceSenate", name := "askOf", desc := "(I)I" } : Jvm.MethodName) prog_1_method_71_code (5 : Nat) (Option.some Jvm.ClassFile.FieldType.int)) ∈ lw_all := lw_g (lw_at lw_m4 217 rfl) rfl
theorem q1046 : (Jvm.Cond.methodLink "WoodliceSenate" (364 : Nat) ({ cls := "WoodliceSenate", name := "alike", desc := "(II)I" } : Jvm.MethodName)) ∈ lw_all := lw_g (lw_at lw_m4 218 rfl) rfl
theorem q1047 : (Jvm.Cond.privateMethod ({ cls := "WoodliceSenate", name := "alike", desc := "(II)I" } : Jvm.MethodName)) ∈ lw_tbl := lw_at lw_m4 219 rfl
theorem q1048 : (Jvm.Cond.instanceMethod ({ cls := "WoodliceSenate", name := "alike", desc := "(II)I" } : Jvm.MethodName)) ∈ lw_all := lw_g (lw_at lw_m4 220 rfl) rfl
theorem q1049 : (Jvm.Cond.code ({ cls := "WoodliceSenate", name := "alike", desc := "(II)I" } : Jvm.MethodName) prog_1_method_70_code (7 : Nat) (Option.some Jvm.ClassFile.FieldType.int)) ∈ lw_all := lw_g (lw_at lw_m4 221 rfl) rfl
theorem q1051 : (Jvm.Cond.instanceMethod ({ cls := "WoodliceSenate", name := "chance", desc := "(III)J" } : Jvm.MethodName)) ∈ lw_all := lw_g (lw_at lw_m4 223 rfl) rfl
theorem q1052 : (Jvm.Cond.selects "WoodliceSenate" ({ cls := "WoodliceSenate", name := "chance", desc := "(III)J" } : Jvm.MethodName) ({ cls := "WoodliceSenate", name := "chance", desc := "(III)J" } : Jvm.MethodName)) ∈ lw_all := lw_g (lw_at lw_m4 224 rfl) rfl
theorem q1053 : (Jvm.Cond.code ({ cls := "WoodliceSenate", name := "chance", desc := "(III)J" } : Jvm.MethodName) prog_1_method_76_code (4 : Nat) (Option.some Jvm.ClassFile.FieldType.long)) ∈ lw_all := lw_g (lw_at lw_m4 225 rfl) rfl
theorem q1054 : (Jvm.Cond.constantLong "WoodliceSenate" (378 : Nat) (16 : Int64)) ∈ lw_all := lw_g (lw_at lw_m4 226 rfl) rfl
theorem q1055 : (Jvm.Cond.methodLink "WoodliceSenate" (380 : Nat) ({ cls := "WoodliceSenate", name := "chanceOf", desc := "(III)J" } : Jvm.MethodName)) ∈ lw_all := lw_g (lw_at lw_m4 227 rfl) rfl
theorem q1056 : (Jvm.Cond.privateMethod ({ cls := "WoodliceSenate", name := "chanceOf", desc := "(III)J" } : Jvm.MethodName)) ∈ lw_tbl := lw_at lw_m4 228 rfl
theorem q1057 : (Jvm.Cond.instanceMethod ({ cls := "WoodliceSenate", name := "chanceOf", desc := "(III)J" } : Jvm.MethodName)) ∈ lw_all := lw_g (lw_at lw_m4 229 rfl) rfl
theorem q1058 : (Jvm.Cond.codeWith ({ cls := "WoodliceSenate", name := "chanceOf", desc := "(III)J" } : Jvm.MethodName) prog_1_method_75_code (11 : Nat) (Option.some Jvm.ClassFile.FieldType.long) [((12 : Nat), (109 : Nat), (117 : Nat), (0 : Nat)), ((117 : Nat), (119 : Nat), (117 : Nat), (0 : Nat))]) ∈ lw_all := lw_g (lw_at lw_m4 230 rfl) rfl
theorem q1059 : (Jvm.Cond.methodLink "WoodliceSenate" (374 : Nat) ({ cls := "WoodliceSenate", name := "part", desc := "(JJI)J" } : Jvm.MethodName)) ∈ lw_all := lw_g (lw_at lw_m4 231 rfl) rfl
theorem q1060 : (Jvm.Cond.static ({ cls := "WoodliceSenate", name := "part", desc := "(JJI)J" } : Jvm.MethodName)) ∈ lw_all := lw_g (lw_at lw_m4 232 rfl) rfl
theorem q1061 : (Jvm.Cond.code ({ cls := "WoodliceSenate", name := "part", desc := "(JJI)J" } : Jvm.MethodName) prog_1_method_74_code (5 : Nat) (Option.some Jvm.ClassFile.FieldType.long)) ∈ lw_all := lw_g (lw_at lw_m4 233 rfl) rfl
theorem q1062 : (Jvm.Cond.methodLink "WoodliceSenate" (370 : Nat) ({ cls := "WoodliceSenate", name := "divisor", desc := "(JJ)J" } : Jvm.MethodName)) ∈ lw_all := lw_g (lw_at lw_m4 234 rfl) rfl
theorem q1063 : (Jvm.Cond.static ({ cls := "WoodliceSenate", name := "divisor", desc := "(JJ)J" } : Jvm.MethodName)) ∈ lw_all := lw_g (lw_at lw_m4 235 rfl) rfl
theorem q1064 : (Jvm.Cond.code ({ cls := "WoodliceSenate", name := "divisor", desc := "(JJ)J" } : Jvm.MethodName) prog_1_method_73_code (4 : Nat) (Option.some Jvm.ClassFile.FieldType.long)) ∈ lw_all := lw_g (lw_at lw_m4 236 rfl) rfl
theorem q1065 : (Jvm.Cond.methodLink "WoodliceSenate" (384 : Nat) ({ cls := "WoodliceSenate", name := "no", desc := "(I)J" } : Jvm.MethodName)) ∈ lw_all := lw_g (lw_at lw_m4 237 rfl) rfl
theorem q1066 : (Jvm.Cond.static ({ cls := "WoodliceSenate", name := "no", desc := "(I)J" } : Jvm.MethodName)) ∈ lw_all := lw_g (lw_at lw_m4 238 rfl) rfl
theorem q1067 : (Jvm.Cond.code ({ cls := "WoodliceSenate", name := "no", desc := "(I)J" } : Jvm.MethodName) prog_1_method_2_code (1 : Nat) (Option.some Jvm.ClassFile.FieldType.long)) ∈ lw_all := lw_g (lw_at lw_m4 239 rfl) rfl
theorem q1068 : (Jvm.Cond.constantLong "WoodliceSenate" (7 : Nat) (-9223372036854775808 : Int64)) ∈ lw_all := lw_g (lw_at lw_m5 0 rfl) rfl
theorem q1070 : (Jvm.Cond.instanceMethod ({ cls := "WoodliceSenate", name := "ages", desc := "(III)I" } : Jvm.MethodName)) ∈ lw_all := lw_g (lw_at lw_m5 2 rfl) rfl
theorem q1071 : (Jvm.Cond.selects "WoodliceSenate" ({ cls := "WoodliceSenate", name := "ages", desc := "(III)I" } : Jvm.MethodName) ({ cls := "WoodliceSenate", name := "ages", desc := "(III)I" } : Jvm.MethodName)) ∈ lw_all := lw_g (lw_at lw_m5 3 rfl) rfl
theorem q1072 : (Jvm.Cond.code ({ cls := "WoodliceSenate", name := "ages", desc := "(III)I" } : Jvm.MethodName) prog_1_method_80_code (4 : Nat) (Option.some Jvm.ClassFile.FieldType.int)) ∈ lw_all := lw_g (lw_at lw_m5 4 rfl) rfl
theorem q1073 : (Jvm.Cond.constantLong "WoodliceSenate" (399 : Nat) (8 : Int64)) ∈ lw_all := lw_g (lw_at lw_m5 5 rfl) rfl
theorem q1074 : (Jvm.Cond.methodLink "WoodliceSenate" (401 : Nat) ({ cls := "WoodliceSenate", name := "agesOf", desc := "(III)I" } : Jvm.MethodName)) ∈ lw_all := lw_g (lw_at lw_m5 6 rfl) rfl
theorem q1075 : (Jvm.Cond.privateMethod ({ cls := "WoodliceSenate", name := "agesOf", desc := "(III)I" } : Jvm.MethodName)) ∈ lw_tbl := lw_at lw_m5 7 rfl
theorem q1076 : (Jvm.Cond.instanceMethod ({ cls := "WoodliceSenate", name := "agesOf", desc := "(III)I" } : Jvm.MethodName)) ∈ lw_all := lw_g (lw_at lw_m5 8 rfl) rfl
theorem q1077 : (Jvm.Cond.codeWith ({ cls := "WoodliceSenate", name := "agesOf", desc := "(III)I" } : Jvm.MethodName) prog_1_method_79_code (7 : Nat) (Option.some Jvm.ClassFile.FieldType.int) [((67 : Nat), (88 : Nat), (97 : Nat), (0 : Nat)), ((97 : Nat), (99 : Nat), (97 : Nat), (0 : Nat))]) ∈ lw_all := lw_g (lw_at lw_m5 9 rfl) rfl
theorem q1078 : (Jvm.Cond.methodLink "WoodliceSenate" (395 : Nat) ({ cls := "WoodliceSenate", name := "draws", desc := "([I)V" } : Jvm.MethodName)) ∈ lw_all := lw_g (lw_at lw_m5 10 rfl) rfl
theorem q1079 : (Jvm.Cond.privateMethod ({ cls := "WoodliceSenate", name := "draws", desc := "([I)V" } : Jvm.MethodName)) ∈ lw_tbl := lw_at lw_m5 11 rfl
theorem q1080 : (Jvm.Cond.instanceMethod ({ cls := "WoodliceSenate", name := "draws", desc := "([I)V" } : Jvm.MethodName)) ∈ lw_all := lw_g (lw_at lw_m5 12 rfl) rfl
theorem q1081 : (Jvm.Cond.code ({ cls := "WoodliceSenate", name := "draws", desc := "([I)V" } : Jvm.MethodName) prog_1_method_78_code (2 : Nat) (Option.none : Option Jvm.ClassFile.FieldType)) ∈ lw_all := lw_g (lw_at lw_m5 13 rfl) rfl
theorem q1082 : (Jvm.Cond.methodLink "WoodliceSenate" (392 : Nat) ({ cls := "WoodliceSenate", name := "lot", desc := "(I)I" } : Jvm.MethodName)) ∈ lw_all := lw_g (lw_at lw_m5 14 rfl) rfl
theorem q1083 : (Jvm.Cond.privateMethod ({ cls := "WoodliceSenate", name := "lot", desc := "(I)I" } : Jvm.MethodName)) ∈ lw_tbl := lw_at lw_m5 15 rfl
theorem q1084 : (Jvm.Cond.instanceMethod ({ cls := "WoodliceSenate", name := "lot", desc := "(I)I" } : Jvm.MethodName)) ∈ lw_all := lw_g (lw_at lw_m5 16 rfl) rfl
theorem q1085 : (Jvm.Cond.code ({ cls := "WoodliceSenate", name := "lot", desc := "(I)I" } : Jvm.MethodName) prog_1_method_77_code (2 : Nat) (Option.some Jvm.ClassFile.FieldType.int)) ∈ lw_all := lw_g (lw_at lw_m5 17 rfl) rfl
theorem q1086 : (Jvm.Cond.constant "WoodliceSenate" (388 : Nat) (1103515245 : Int32)) ∈ lw_all := lw_g (lw_at lw_m5 18 rfl) rfl
theorem q1088 : (Jvm.Cond.instanceMethod ({ cls := "WoodliceSenate", name := "sheet", desc := "(III)I" } : Jvm.MethodName)) ∈ lw_all := lw_g (lw_at lw_m5 20 rfl) rfl
theorem q1089 : (Jvm.Cond.selects "WoodliceSenate" ({ cls := "WoodliceSenate", name := "sheet", desc := "(III)I" } : Jvm.MethodName) ({ cls := "WoodliceSenate", name := "sheet", desc := "(III)I" } : Jvm.MethodName)) ∈ lw_all := lw_g (lw_at lw_m5 21 rfl) rfl
theorem q1090 : (Jvm.Cond.codeWith ({ cls := "WoodliceSenate", name := "sheet", desc := "(III)I" } : Jvm.MethodName) prog_1_method_83_code (5 : Nat) (Option.some Jvm.ClassFile.FieldType.int) [((28 : Nat), (43 : Nat), (44 : Nat), (408 : Nat))]) ∈ lw_all := lw_g (lw_at lw_m5 22 rfl) rfl
theorem q1091 : (Jvm.Cond.classLink "WoodliceSenate" (408 : Nat) "java/lang/NegativeArraySizeException") ∈ lw_all := lw_g (lw_at lw_m5 23 rfl) rfl
theorem q1120 : (Jvm.Cond.methodLink "WoodliceSenate" (404 : Nat) ({ cls := "WoodliceSenate", name := "rowOf", desc := "(II)Ljava/lang/Object;" } : Jvm.MethodName)) ∈ lw_all := lw_g (lw_at lw_m5 52 rfl) rfl
theorem q1121 : (Jvm.Cond.static ({ cls := "WoodliceSenate", name := "rowOf", desc := "(II)Ljava/lang/Object;" } : Jvm.MethodName)) ∈ lw_all := lw_g (lw_at lw_m5 53 rfl) rfl
theorem q1122 : (Jvm.Cond.code ({ cls := "WoodliceSenate", name := "rowOf", desc := "(II)Ljava/lang/Object;" } : Jvm.MethodName) prog_1_method_82_code (2 : Nat) (Option.some (Jvm.ClassFile.FieldType.object "java/lang/Object"))) ∈ lw_all := lw_g (lw_at lw_m5 54 rfl) rfl
theorem q1125 : (Jvm.Cond.instanceMethod ({ cls := "WoodliceSenate", name := "lose", desc := "(I)I" } : Jvm.MethodName)) ∈ lw_all := lw_g (lw_at lw_m5 57 rfl) rfl
theorem q1126 : (Jvm.Cond.selects "WoodliceSenate" ({ cls := "WoodliceSenate", name := "lose", desc := "(I)I" } : Jvm.MethodName) ({ cls := "WoodliceSenate", name := "lose", desc := "(I)I" } : Jvm.MethodName)) ∈ lw_all := lw_g (lw_at lw_m5 58 rfl) rfl
theorem q1127 : (Jvm.Cond.code ({ cls := "WoodliceSenate", name := "lose", desc := "(I)I" } : Jvm.MethodName) prog_1_method_84_code (3 : Nat) (Option.some Jvm.ClassFile.FieldType.int)) ∈ lw_all := lw_g (lw_at lw_m5 59 rfl) rfl
theorem q1129 : (Jvm.Cond.instanceMethod ({ cls := "WoodliceSenate", name := "put", desc := "(IIII)I" } : Jvm.MethodName)) ∈ lw_all := lw_g (lw_at lw_m5 61 rfl) rfl
theorem q1130 : (Jvm.Cond.selects "WoodliceSenate" ({ cls := "WoodliceSenate", name := "put", desc := "(IIII)I" } : Jvm.MethodName) ({ cls := "WoodliceSenate", name := "put", desc := "(IIII)I" } : Jvm.MethodName)) ∈ lw_all := lw_g (lw_at lw_m5 62 rfl) rfl
theorem q1131 : (Jvm.Cond.codeWith ({ cls := "WoodliceSenate", name := "put", desc := "(IIII)I" } : Jvm.MethodName) prog_1_method_85_code (6 : Nat) (Option.some Jvm.ClassFile.FieldType.int) [((40 : Nat), (54 : Nat), (55 : Nat), (413 : Nat)), ((40 : Nat), (54 : Nat), (63 : Nat), (415 : Nat))]) ∈ lw_all := lw_g (lw_at lw_m5 63 rfl) rfl
theorem q1132 : (Jvm.Cond.classLink "WoodliceSenate" (413 : Nat) "java/lang/ClassCastException") ∈ lw_all := lw_g (lw_at lw_m5 64 rfl) rfl
theorem q1146 : (Jvm.Cond.classLink "WoodliceSenate" (415 : Nat) "java/lang/ArrayIndexOutOfBoundsException") ∈ lw_all := lw_g (lw_at lw_m5 78 rfl) rfl
theorem q1165 : (Jvm.Cond.methodLink "WoodliceSenate" (410 : Nat) ({ cls := "WoodliceSenate$Sheet", name := "lay", desc := "(III)V" } : Jvm.MethodName)) ∈ lw_all := lw_g (lw_at lw_m5 97 rfl) rfl
theorem q1170 : (Jvm.Cond.instanceMethod ({ cls := "WoodliceSenate", name := "get", desc := "(III)I" } : Jvm.MethodName)) ∈ lw_all := lw_g (lw_at lw_m5 102 rfl) rfl
theorem q1171 : (Jvm.Cond.selects "WoodliceSenate" ({ cls := "WoodliceSenate", name := "get", desc := "(III)I" } : Jvm.MethodName) ({ cls := "WoodliceSenate", name := "get", desc := "(III)I" } : Jvm.MethodName)) ∈ lw_all := lw_g (lw_at lw_m5 103 rfl) rfl
theorem q1172 : (Jvm.Cond.codeWith ({ cls := "WoodliceSenate", name := "get", desc := "(III)I" } : Jvm.MethodName) prog_1_method_86_code (5 : Nat) (Option.some Jvm.ClassFile.FieldType.int) [((40 : Nat), (51 : Nat), (52 : Nat), (413 : Nat)), ((40 : Nat), (51 : Nat), (60 : Nat), (415 : Nat))]) ∈ lw_all := lw_g (lw_at lw_m5 104 rfl) rfl
theorem q1173 : (Jvm.Cond.constant "WoodliceSenate" (13 : Nat) (-2147483648 : Int32)) ∈ lw_all := lw_g (lw_at lw_m5 105 rfl) rfl
theorem q1174 : (Jvm.Cond.methodLink "WoodliceSenate" (417 : Nat) ({ cls := "WoodliceSenate", name := "lowest", desc := "(I)I" } : Jvm.MethodName)) ∈ lw_all := lw_g (lw_at lw_m5 106 rfl) rfl
theorem q1175 : (Jvm.Cond.privateMethod ({ cls := "WoodliceSenate", name := "lowest", desc := "(I)I" } : Jvm.MethodName)) ∈ lw_tbl := lw_at lw_m5 107 rfl
theorem q1176 : (Jvm.Cond.instanceMethod ({ cls := "WoodliceSenate", name := "lowest", desc := "(I)I" } : Jvm.MethodName)) ∈ lw_all := lw_g (lw_at lw_m5 108 rfl) rfl
theorem q1177 : (Jvm.Cond.code ({ cls := "WoodliceSenate", name := "lowest", desc := "(I)I" } : Jvm.MethodName) prog_1_method_4_code (2 : Nat) (Option.some Jvm.ClassFile.FieldType.int)) ∈ lw_all := lw_g (lw_at lw_m5 109 rfl) rfl
theorem q1179 : (Jvm.Cond.instanceMethod ({ cls := "WoodliceSenate", name := "copy", desc := "(IIIII)I" } : Jvm.MethodName)) ∈ lw_all := lw_g (lw_at lw_m5 111 rfl) rfl
theorem q1180 : (Jvm.Cond.selects "WoodliceSenate" ({ cls := "WoodliceSenate", name := "copy", desc := "(IIIII)I" } : Jvm.MethodName) ({ cls := "WoodliceSenate", name := "copy", desc := "(IIIII)I" } : Jvm.MethodName)) ∈ lw_all := lw_g (lw_at lw_m5 112 rfl) rfl
theorem q1181 : (Jvm.Cond.codeWith ({ cls := "WoodliceSenate", name := "copy", desc := "(IIIII)I" } : Jvm.MethodName) prog_1_method_87_code (7 : Nat) (Option.some Jvm.ClassFile.FieldType.int) [((74 : Nat), (101 : Nat), (102 : Nat), (420 : Nat))]) ∈ lw_all := lw_g (lw_at lw_m5 113 rfl) rfl
theorem q1182 : (Jvm.Cond.classLink "WoodliceSenate" (420 : Nat) "java/lang/IndexOutOfBoundsException") ∈ lw_all := lw_g (lw_at lw_m5 114 rfl) rfl
theorem q1184 : (Jvm.Cond.instanceMethod ({ cls := "WoodliceSenate", name := "write", desc := "(II)I" } : Jvm.MethodName)) ∈ lw_all := lw_g (lw_at lw_m5 116 rfl) rfl
theorem q1185 : (Jvm.Cond.selects "WoodliceSenate" ({ cls := "WoodliceSenate", name := "write", desc := "(II)I" } : Jvm.MethodName) ({ cls := "WoodliceSenate", name := "write", desc := "(II)I" } : Jvm.MethodName)) ∈ lw_all := lw_g (lw_at lw_m5 117 rfl) rfl
theorem q1186 : (Jvm.Cond.code ({ cls := "WoodliceSenate", name := "write", desc := "(II)I" } : Jvm.MethodName) prog_1_method_88_code (6 : Nat) (Option.some Jvm.ClassFile.FieldType.int)) ∈ lw_all := lw_g (lw_at lw_m5 118 rfl) rfl
theorem q1188 : (Jvm.Cond.instanceMethod ({ cls := "WoodliceSenate", name := "count", desc := "(I)I" } : Jvm.MethodName)) ∈ lw_all := lw_g (lw_at lw_m5 120 rfl) rfl
theorem q1189 : (Jvm.Cond.selects "WoodliceSenate" ({ cls := "WoodliceSenate", name := "count", desc := "(I)I" } : Jvm.MethodName) ({ cls := "WoodliceSenate", name := "count", desc := "(I)I" } : Jvm.MethodName)) ∈ lw_all := lw_g (lw_at lw_m5 121 rfl) rfl
theorem q1190 : (Jvm.Cond.code ({ cls := "WoodliceSenate", name := "count", desc := "(I)I" } : Jvm.MethodName) prog_1_method_91_code (2 : Nat) (Option.some Jvm.ClassFile.FieldType.int)) ∈ lw_all := lw_g (lw_at lw_m5 122 rfl) rfl
theorem q1191 : (Jvm.Cond.methodLink "WoodliceSenate" (422 : Nat) ({ cls := "WoodliceSenate$Text", name := "length", desc := "()I" } : Jvm.MethodName)) ∈ lw_all := lw_g (lw_at lw_m5 123 rfl) rfl
theorem q1197 : (Jvm.Cond.methodLink "WoodliceSenate" (425 : Nat) ({ cls := "WoodliceSenate", name := "allSpeeches", desc := "()I" } : Jvm.MethodName)) ∈ lw_all := lw_g (lw_at lw_m5 129 rfl) rfl
theorem q1198 : (Jvm.Cond.privateMethod ({ cls := "WoodliceSenate", name := "allSpeeches", desc := "()I" } : Jvm.MethodName)) ∈ lw_tbl := lw_at lw_m5 130 rfl
theorem q1199 : (Jvm.Cond.instanceMethod ({ cls := "WoodliceSenate", name := "allSpeeches", desc := "()I" } : Jvm.MethodName)) ∈ lw_all := lw_g (lw_at lw_m5 131 rfl) rfl
theorem q1200 : (Jvm.Cond.code ({ cls := "WoodliceSenate", name := "allSpeeches", desc := "()I" } : Jvm.MethodName) prog_1_method_89_code (3 : Nat) (Option.some Jvm.ClassFile.FieldType.int)) ∈ lw_all := lw_g (lw_at lw_m5 132 rfl) rfl
theorem q1201 : (Jvm.Cond.methodLink "WoodliceSenate" (428 : Nat) ({ cls := "WoodliceSenate", name := "allAyes", desc := "()I" } : Jvm.MethodName)) ∈ lw_all := lw_g (lw_at lw_m5 133 rfl) rfl
theorem q1202 : (Jvm.Cond.privateMethod ({ cls := "WoodliceSenate", name := "allAyes", desc := "()I" } : Jvm.MethodName)) ∈ lw_tbl := lw_at lw_m5 134 rfl
theorem q1203 : (Jvm.Cond.instanceMethod ({ cls := "WoodliceSenate", name := "allAyes", desc := "()I" } : Jvm.MethodName)) ∈ lw_all := lw_g (lw_at lw_m5 135 rfl) rfl
theorem q1204 : (Jvm.Cond.code ({ cls := "WoodliceSenate", name := "allAyes", desc := "()I" } : Jvm.MethodName) prog_1_method_90_code (3 : Nat) (Option.some Jvm.ClassFile.FieldType.int)) ∈ lw_all := lw_g (lw_at lw_m5 136 rfl) rfl
theorem q1206 : (Jvm.Cond.instanceMethod ({ cls := "WoodliceSenate", name := "digest", desc := "()J" } : Jvm.MethodName)) ∈ lw_all := lw_g (lw_at lw_m5 138 rfl) rfl
theorem q1207 : (Jvm.Cond.selects "WoodliceSenate" ({ cls := "WoodliceSenate", name := "digest", desc := "()J" } : Jvm.MethodName) ({ cls := "WoodliceSenate", name := "digest", desc := "()J" } : Jvm.MethodName)) ∈ lw_all := lw_g (lw_at lw_m5 139 rfl) rfl
theorem q1208 : (Jvm.Cond.code ({ cls := "WoodliceSenate", name := "digest", desc := "()J" } : Jvm.MethodName) prog_1_method_95_code (5 : Nat) (Option.some Jvm.ClassFile.FieldType.long)) ∈ lw_all := lw_g (lw_at lw_m5 140 rfl) rfl
theorem q1209 : (Jvm.Cond.constantLong "WoodliceSenate" (440 : Nat) (17 : Int64)) ∈ lw_all := lw_g (lw_at lw_m5 141 rfl) rfl
theorem q1210 : (Jvm.Cond.constantLong "WoodliceSenate" (434 : Nat) (31 : Int64)) ∈ lw_all := lw_g (lw_at lw_m5 142 rfl) rfl
theorem q1211 : (Jvm.Cond.methodLink "WoodliceSenate" (442 : Nat) ({ cls := "WoodliceSenate", name := "count", desc := "(I)I" } : Jvm.MethodName)) ∈ lw_all := lw_g (lw_at lw_m5 143 rfl) rfl
theorem q1212 : (Jvm.Cond.methodLink "WoodliceSenate" (445 : Nat) ({ cls := "WoodliceSenate", name := "tellsPlace", desc := "(JI)J" } : Jvm.MethodName)) ∈ lw_all := lw_g (lw_at lw_m5 144 rfl) rfl
theorem q1213 : (Jvm.Cond.privateMethod ({ cls := "WoodliceSenate", name := "tellsPlace", desc := "(JI)J" } : Jvm.MethodName)) ∈ lw_tbl := lw_at lw_m5 145 rfl
theorem q1214 : (Jvm.Cond.instanceMethod ({ cls := "WoodliceSenate", name := "tellsPlace", desc := "(JI)J" } : Jvm.MethodName)) ∈ lw_all := lw_g (lw_at lw_m5 146 rfl) rfl
theorem q1215 : (Jvm.Cond.code ({ cls := "WoodliceSenate", name := "tellsPlace", desc := "(JI)J" } : Jvm.MethodName) prog_1_method_92_code (7 : Nat) (Option.some Jvm.ClassFile.FieldType.long)) ∈ lw_all := lw_g (lw_at lw_m5 147 rfl) rfl
theorem q1216 : (Jvm.Cond.methodLink "WoodliceSenate" (449 : Nat) ({ cls := "WoodliceSenate", name := "tellsMember", desc := "(JI)J" } : Jvm.MethodName)) ∈ lw_all := lw_g (lw_at lw_m5 148 rfl) rfl
theorem q1217 : (Jvm.Cond.privateMethod ({ cls := "WoodliceSenate", name := "tellsMember", desc := "(JI)J" } : Jvm.MethodName)) ∈ lw_tbl := lw_at lw_m5 149 rfl
theorem q1218 : (Jvm.Cond.instanceMethod ({ cls := "WoodliceSenate", name := "tellsMember", desc := "(JI)J" } : Jvm.MethodName)) ∈ lw_all := lw_g (lw_at lw_m5 150 rfl) rfl
theorem q1219 : (Jvm.Cond.code ({ cls := "WoodliceSenate", name := "tellsMember", desc := "(JI)J" } : Jvm.MethodName) prog_1_method_94_code (7 : Nat) (Option.some Jvm.ClassFile.FieldType.long)) ∈ lw_all := lw_g (lw_at lw_m5 151 rfl) rfl
theorem q1220 : (Jvm.Cond.methodLink "WoodliceSenate" (436 : Nat) ({ cls := "WoodliceSenate", name := "tellsHour", desc := "(JII)J" } : Jvm.MethodName)) ∈ lw_all := lw_g (lw_at lw_m5 152 rfl) rfl
theorem q1221 : (Jvm.Cond.privateMethod ({ cls := "WoodliceSenate", name := "tellsHour", desc := "(JII)J" } : Jvm.MethodName)) ∈ lw_tbl := lw_at lw_m5 153 rfl
theorem q1222 : (Jvm.Cond.instanceMethod ({ cls := "WoodliceSenate", name := "tellsHour", desc := "(JII)J" } : Jvm.MethodName)) ∈ lw_all := lw_g (lw_at lw_m5 154 rfl) rfl
theorem q1223 : (Jvm.Cond.code ({ cls := "WoodliceSenate", name := "tellsHour", desc := "(JII)J" } : Jvm.MethodName) prog_1_method_93_code (8 : Nat) (Option.some Jvm.ClassFile.FieldType.long)) ∈ lw_all := lw_g (lw_at lw_m5 155 rfl) rfl
theorem q1775 : (Jvm.Cond.castable "WoodliceSenate" "java/lang/Object") ∈ lw_tbl := lw_at lw_m7 227 rfl
theorem in_X0 : ∀ w ∈ wsX00, w ∈ lw_all := lw_in wsX00 [768, 770, 772, 774, 776, 778, 780, 782, 784, 786, 788, 790, 792, 794, 796, 798, 800, 802] (by decide +kernel) (by decide +kernel)
