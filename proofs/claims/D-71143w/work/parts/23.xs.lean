/-! WoodliceSenate$Text -/
set_option maxRecDepth 100000
def RX1 : String := "WoodliceSenate$Text"
abbrev cX1_type : ByteArray := prog_10_method_6_code
def yX1_type : MethodName := ⟨RX1, "type", "(I)I"⟩
def dkwX1_type_1 : List UInt8 := [145, 84, 42, 89, 180, 0, 21, 4, 96, 181, 0, 21, 42, 3, 181, 0, 25, 42, 180, 0, 21, 172]
abbrev dktX1_type_1 : List UInt8 := dkwX1_type_1 ++ []
def dkwX1_type_0 : List UInt8 := [42, 180, 0, 21, 42, 180, 0, 9, 190, 160, 0, 6, 16, 252, 172, 42, 180, 0, 9, 42, 180, 0, 21, 27]
abbrev dktX1_type_0 : List UInt8 := dkwX1_type_0 ++ dktX1_type_1
theorem dksX1_type_0 : cX1_type.data.toList.drop 0 = dktX1_type_0 := by decide +kernel
theorem dksX1_type_1 : cX1_type.data.toList.drop 24 = dktX1_type_1 := dk_seg dksX1_type_0 24 rfl rfl
theorem dX1_type_0 : decode cX1_type 0 = .ok (.aload_n 0, 1) := dk_42 (dk_at dksX1_type_0 0 rfl rfl)
theorem dX1_type_1 : decode cX1_type 1 = .ok (.getfield 21, 3) := dk_180 0 21 (dk_at dksX1_type_0 1 rfl rfl)
theorem dX1_type_4 : decode cX1_type 4 = .ok (.aload_n 0, 1) := dk_42 (dk_at dksX1_type_0 4 rfl rfl)
theorem dX1_type_5 : decode cX1_type 5 = .ok (.getfield 9, 3) := dk_180 0 9 (dk_at dksX1_type_0 5 rfl rfl)
theorem dX1_type_8 : decode cX1_type 8 = .ok (.arraylength, 1) := dk_190 (dk_at dksX1_type_0 8 rfl rfl)
theorem dX1_type_9 : decode cX1_type 9 = .ok (.if_icmp .ne 6, 3) := dk_160 0 6 (dk_at dksX1_type_0 9 rfl rfl)
theorem dX1_type_12 : decode cX1_type 12 = .ok (.bipush (-4), 2) := dk_16 252 (dk_at dksX1_type_0 12 rfl rfl)
theorem dX1_type_14 : decode cX1_type 14 = .ok (.ireturn, 1) := dk_172 (dk_at dksX1_type_0 14 rfl rfl)
theorem dX1_type_15 : decode cX1_type 15 = .ok (.aload_n 0, 1) := dk_42 (dk_at dksX1_type_0 15 rfl rfl)
theorem dX1_type_16 : decode cX1_type 16 = .ok (.getfield 9, 3) := dk_180 0 9 (dk_at dksX1_type_0 16 rfl rfl)
theorem dX1_type_19 : decode cX1_type 19 = .ok (.aload_n 0, 1) := dk_42 (dk_at dksX1_type_0 19 rfl rfl)
theorem dX1_type_20 : decode cX1_type 20 = .ok (.getfield 21, 3) := dk_180 0 21 (dk_at dksX1_type_0 20 rfl rfl)
theorem dX1_type_23 : decode cX1_type 23 = .ok (.iload_n 1, 1) := dk_27 (dk_at dksX1_type_0 23 rfl rfl)
theorem dX1_type_24 : decode cX1_type 24 = .ok (.i2b, 1) := dk_145 (dk_at dksX1_type_1 0 rfl rfl)
theorem dX1_type_25 : decode cX1_type 25 = .ok (.bastore, 1) := dk_84 (dk_at dksX1_type_1 1 rfl rfl)
theorem dX1_type_26 : decode cX1_type 26 = .ok (.aload_n 0, 1) := dk_42 (dk_at dksX1_type_1 2 rfl rfl)
theorem dX1_type_27 : decode cX1_type 27 = .ok (.dup, 1) := dk_89 (dk_at dksX1_type_1 3 rfl rfl)
theorem dX1_type_28 : decode cX1_type 28 = .ok (.getfield 21, 3) := dk_180 0 21 (dk_at dksX1_type_1 4 rfl rfl)
theorem dX1_type_31 : decode cX1_type 31 = .ok (.iconst 1, 1) := dk_4 (dk_at dksX1_type_1 7 rfl rfl)
theorem dX1_type_32 : decode cX1_type 32 = .ok (.iadd, 1) := dk_96 (dk_at dksX1_type_1 8 rfl rfl)
theorem dX1_type_33 : decode cX1_type 33 = .ok (.putfield 21, 3) := dk_181 0 21 (dk_at dksX1_type_1 9 rfl rfl)
theorem dX1_type_36 : decode cX1_type 36 = .ok (.aload_n 0, 1) := dk_42 (dk_at dksX1_type_1 12 rfl rfl)
theorem dX1_type_37 : decode cX1_type 37 = .ok (.iconst 0, 1) := dk_3 (dk_at dksX1_type_1 13 rfl rfl)
theorem dX1_type_38 : decode cX1_type 38 = .ok (.putfield 25, 3) := dk_181 0 25 (dk_at dksX1_type_1 14 rfl rfl)
theorem dX1_type_41 : decode cX1_type 41 = .ok (.aload_n 0, 1) := dk_42 (dk_at dksX1_type_1 17 rfl rfl)
theorem dX1_type_42 : decode cX1_type 42 = .ok (.getfield 21, 3) := dk_180 0 21 (dk_at dksX1_type_1 18 rfl rfl)
theorem dX1_type_45 : decode cX1_type 45 = .ok (.ireturn, 1) := dk_172 (dk_at dksX1_type_1 21 rfl rfl)
abbrev cX1_wipe : ByteArray := prog_10_method_7_code
def yX1_wipe : MethodName := ⟨RX1, "wipe", "()I"⟩
def dkwX1_wipe_0 : List UInt8 := [42, 180, 0, 21, 60, 42, 3, 181, 0, 21, 42, 3, 181, 0, 25, 27, 172]
abbrev dktX1_wipe_0 : List UInt8 := dkwX1_wipe_0 ++ []
theorem dksX1_wipe_0 : cX1_wipe.data.toList.drop 0 = dktX1_wipe_0 := by decide +kernel
theorem dX1_wipe_0 : decode cX1_wipe 0 = .ok (.aload_n 0, 1) := dk_42 (dk_at dksX1_wipe_0 0 rfl rfl)
theorem dX1_wipe_1 : decode cX1_wipe 1 = .ok (.getfield 21, 3) := dk_180 0 21 (dk_at dksX1_wipe_0 1 rfl rfl)
theorem dX1_wipe_4 : decode cX1_wipe 4 = .ok (.istore_n 1, 1) := dk_60 (dk_at dksX1_wipe_0 4 rfl rfl)
theorem dX1_wipe_5 : decode cX1_wipe 5 = .ok (.aload_n 0, 1) := dk_42 (dk_at dksX1_wipe_0 5 rfl rfl)
theorem dX1_wipe_6 : decode cX1_wipe 6 = .ok (.iconst 0, 1) := dk_3 (dk_at dksX1_wipe_0 6 rfl rfl)
theorem dX1_wipe_7 : decode cX1_wipe 7 = .ok (.putfield 21, 3) := dk_181 0 21 (dk_at dksX1_wipe_0 7 rfl rfl)
theorem dX1_wipe_10 : decode cX1_wipe 10 = .ok (.aload_n 0, 1) := dk_42 (dk_at dksX1_wipe_0 10 rfl rfl)
theorem dX1_wipe_11 : decode cX1_wipe 11 = .ok (.iconst 0, 1) := dk_3 (dk_at dksX1_wipe_0 11 rfl rfl)
theorem dX1_wipe_12 : decode cX1_wipe 12 = .ok (.putfield 25, 3) := dk_181 0 25 (dk_at dksX1_wipe_0 12 rfl rfl)
theorem dX1_wipe_15 : decode cX1_wipe 15 = .ok (.iload_n 1, 1) := dk_27 (dk_at dksX1_wipe_0 15 rfl rfl)
theorem dX1_wipe_16 : decode cX1_wipe 16 = .ok (.ireturn, 1) := dk_172 (dk_at dksX1_wipe_0 16 rfl rfl)
abbrev cX1_undo : ByteArray := prog_10_method_8_code
def yX1_undo : MethodName := ⟨RX1, "undo", "()I"⟩
def dkwX1_undo_1 : List UInt8 := [181, 0, 25, 42, 180, 0, 21, 172]
abbrev dktX1_undo_1 : List UInt8 := dkwX1_undo_1 ++ []
def dkwX1_undo_0 : List UInt8 := [42, 180, 0, 21, 154, 0, 6, 16, 253, 172, 42, 89, 180, 0, 21, 4, 100, 181, 0, 21, 42, 3]
abbrev dktX1_undo_0 : List UInt8 := dkwX1_undo_0 ++ dktX1_undo_1
theorem dksX1_undo_0 : cX1_undo.data.toList.drop 0 = dktX1_undo_0 := by decide +kernel
theorem dksX1_undo_1 : cX1_undo.data.toList.drop 22 = dktX1_undo_1 := dk_seg dksX1_undo_0 22 rfl rfl
theorem dX1_undo_0 : decode cX1_undo 0 = .ok (.aload_n 0, 1) := dk_42 (dk_at dksX1_undo_0 0 rfl rfl)
theorem dX1_undo_1 : decode cX1_undo 1 = .ok (.getfield 21, 3) := dk_180 0 21 (dk_at dksX1_undo_0 1 rfl rfl)
theorem dX1_undo_4 : decode cX1_undo 4 = .ok (.ifCond .ne 6, 3) := dk_154 0 6 (dk_at dksX1_undo_0 4 rfl rfl)
theorem dX1_undo_7 : decode cX1_undo 7 = .ok (.bipush (-3), 2) := dk_16 253 (dk_at dksX1_undo_0 7 rfl rfl)
theorem dX1_undo_9 : decode cX1_undo 9 = .ok (.ireturn, 1) := dk_172 (dk_at dksX1_undo_0 9 rfl rfl)
theorem dX1_undo_10 : decode cX1_undo 10 = .ok (.aload_n 0, 1) := dk_42 (dk_at dksX1_undo_0 10 rfl rfl)
theorem dX1_undo_11 : decode cX1_undo 11 = .ok (.dup, 1) := dk_89 (dk_at dksX1_undo_0 11 rfl rfl)
theorem dX1_undo_12 : decode cX1_undo 12 = .ok (.getfield 21, 3) := dk_180 0 21 (dk_at dksX1_undo_0 12 rfl rfl)
theorem dX1_undo_15 : decode cX1_undo 15 = .ok (.iconst 1, 1) := dk_4 (dk_at dksX1_undo_0 15 rfl rfl)
theorem dX1_undo_16 : decode cX1_undo 16 = .ok (.isub, 1) := dk_100 (dk_at dksX1_undo_0 16 rfl rfl)
theorem dX1_undo_17 : decode cX1_undo 17 = .ok (.putfield 21, 3) := dk_181 0 21 (dk_at dksX1_undo_0 17 rfl rfl)
theorem dX1_undo_20 : decode cX1_undo 20 = .ok (.aload_n 0, 1) := dk_42 (dk_at dksX1_undo_0 20 rfl rfl)
theorem dX1_undo_21 : decode cX1_undo 21 = .ok (.iconst 0, 1) := dk_3 (dk_at dksX1_undo_0 21 rfl rfl)
theorem dX1_undo_22 : decode cX1_undo 22 = .ok (.putfield 25, 3) := dk_181 0 25 (dk_at dksX1_undo_1 0 rfl rfl)
theorem dX1_undo_25 : decode cX1_undo 25 = .ok (.aload_n 0, 1) := dk_42 (dk_at dksX1_undo_1 3 rfl rfl)
theorem dX1_undo_26 : decode cX1_undo 26 = .ok (.getfield 21, 3) := dk_180 0 21 (dk_at dksX1_undo_1 4 rfl rfl)
theorem dX1_undo_29 : decode cX1_undo 29 = .ok (.ireturn, 1) := dk_172 (dk_at dksX1_undo_1 7 rfl rfl)
abbrev cX1_read : ByteArray := prog_10_method_13_code
def yX1_read : MethodName := ⟨RX1, "read", "()I"⟩
def dkwX1_read_1 : List UInt8 := [172]
abbrev dktX1_read_1 : List UInt8 := dkwX1_read_1 ++ []
def dkwX1_read_0 : List UInt8 := [42, 180, 0, 25, 154, 0, 11, 42, 42, 182, 0, 62, 181, 0, 66, 42, 4, 181, 0, 25, 42, 180, 0, 66]
abbrev dktX1_read_0 : List UInt8 := dkwX1_read_0 ++ dktX1_read_1
theorem dksX1_read_0 : cX1_read.data.toList.drop 0 = dktX1_read_0 := by decide +kernel
theorem dksX1_read_1 : cX1_read.data.toList.drop 24 = dktX1_read_1 := dk_seg dksX1_read_0 24 rfl rfl
theorem dX1_read_0 : decode cX1_read 0 = .ok (.aload_n 0, 1) := dk_42 (dk_at dksX1_read_0 0 rfl rfl)
theorem dX1_read_1 : decode cX1_read 1 = .ok (.getfield 25, 3) := dk_180 0 25 (dk_at dksX1_read_0 1 rfl rfl)
theorem dX1_read_4 : decode cX1_read 4 = .ok (.ifCond .ne 11, 3) := dk_154 0 11 (dk_at dksX1_read_0 4 rfl rfl)
theorem dX1_read_7 : decode cX1_read 7 = .ok (.aload_n 0, 1) := dk_42 (dk_at dksX1_read_0 7 rfl rfl)
theorem dX1_read_8 : decode cX1_read 8 = .ok (.aload_n 0, 1) := dk_42 (dk_at dksX1_read_0 8 rfl rfl)
theorem dX1_read_9 : decode cX1_read 9 = .ok (.invokevirtual 62, 3) := dk_182 0 62 (dk_at dksX1_read_0 9 rfl rfl)
theorem dX1_read_12 : decode cX1_read 12 = .ok (.putfield 66, 3) := dk_181 0 66 (dk_at dksX1_read_0 12 rfl rfl)
theorem dX1_read_15 : decode cX1_read 15 = .ok (.aload_n 0, 1) := dk_42 (dk_at dksX1_read_0 15 rfl rfl)
theorem dX1_read_16 : decode cX1_read 16 = .ok (.iconst 1, 1) := dk_4 (dk_at dksX1_read_0 16 rfl rfl)
theorem dX1_read_17 : decode cX1_read 17 = .ok (.putfield 25, 3) := dk_181 0 25 (dk_at dksX1_read_0 17 rfl rfl)
theorem dX1_read_20 : decode cX1_read 20 = .ok (.aload_n 0, 1) := dk_42 (dk_at dksX1_read_0 20 rfl rfl)
theorem dX1_read_21 : decode cX1_read 21 = .ok (.getfield 66, 3) := dk_180 0 66 (dk_at dksX1_read_0 21 rfl rfl)
theorem dX1_read_24 : decode cX1_read 24 = .ok (.ireturn, 1) := dk_172 (dk_at dksX1_read_1 0 rfl rfl)
abbrev cX1_reads : ByteArray := prog_10_method_12_code
def yX1_reads : MethodName := ⟨RX1, "reads", "()I"⟩
def dkwX1_reads_2 : List UInt8 := [182, 0, 50, 43, 180, 0, 59, 172]
abbrev dktX1_reads_2 : List UInt8 := dkwX1_reads_2 ++ []
def dkwX1_reads_1 : List UInt8 := [42, 180, 0, 21, 162, 0, 14, 42, 182, 0, 56, 42, 182, 0, 53, 167, 255, 237, 2, 172, 76, 42]
abbrev dktX1_reads_1 : List UInt8 := dkwX1_reads_1 ++ dktX1_reads_2
def dkwX1_reads_0 : List UInt8 := [42, 3, 181, 0, 29, 42, 182, 0, 50, 42, 180, 0, 21, 158, 0, 7, 42, 182, 0, 53, 42, 180, 0, 29]
abbrev dktX1_reads_0 : List UInt8 := dkwX1_reads_0 ++ dktX1_reads_1
theorem dksX1_reads_0 : cX1_reads.data.toList.drop 0 = dktX1_reads_0 := by decide +kernel
theorem dksX1_reads_1 : cX1_reads.data.toList.drop 24 = dktX1_reads_1 := dk_seg dksX1_reads_0 24 rfl rfl
theorem dksX1_reads_2 : cX1_reads.data.toList.drop 46 = dktX1_reads_2 := dk_seg dksX1_reads_1 22 rfl rfl
theorem dX1_reads_0 : decode cX1_reads 0 = .ok (.aload_n 0, 1) := dk_42 (dk_at dksX1_reads_0 0 rfl rfl)
theorem dX1_reads_1 : decode cX1_reads 1 = .ok (.iconst 0, 1) := dk_3 (dk_at dksX1_reads_0 1 rfl rfl)
theorem dX1_reads_2 : decode cX1_reads 2 = .ok (.putfield 29, 3) := dk_181 0 29 (dk_at dksX1_reads_0 2 rfl rfl)
theorem dX1_reads_5 : decode cX1_reads 5 = .ok (.aload_n 0, 1) := dk_42 (dk_at dksX1_reads_0 5 rfl rfl)
theorem dX1_reads_6 : decode cX1_reads 6 = .ok (.invokevirtual 50, 3) := dk_182 0 50 (dk_at dksX1_reads_0 6 rfl rfl)
theorem dX1_reads_9 : decode cX1_reads 9 = .ok (.aload_n 0, 1) := dk_42 (dk_at dksX1_reads_0 9 rfl rfl)
theorem dX1_reads_10 : decode cX1_reads 10 = .ok (.getfield 21, 3) := dk_180 0 21 (dk_at dksX1_reads_0 10 rfl rfl)
theorem dX1_reads_13 : decode cX1_reads 13 = .ok (.ifCond .le 7, 3) := dk_158 0 7 (dk_at dksX1_reads_0 13 rfl rfl)
theorem dX1_reads_16 : decode cX1_reads 16 = .ok (.aload_n 0, 1) := dk_42 (dk_at dksX1_reads_0 16 rfl rfl)
theorem dX1_reads_17 : decode cX1_reads 17 = .ok (.invokevirtual 53, 3) := dk_182 0 53 (dk_at dksX1_reads_0 17 rfl rfl)
theorem dX1_reads_20 : decode cX1_reads 20 = .ok (.aload_n 0, 1) := dk_42 (dk_at dksX1_reads_0 20 rfl rfl)
theorem dX1_reads_21 : decode cX1_reads 21 = .ok (.getfield 29, 3) := dk_180 0 29 (dk_at dksX1_reads_0 21 rfl rfl)
theorem dX1_reads_24 : decode cX1_reads 24 = .ok (.aload_n 0, 1) := dk_42 (dk_at dksX1_reads_1 0 rfl rfl)
theorem dX1_reads_25 : decode cX1_reads 25 = .ok (.getfield 21, 3) := dk_180 0 21 (dk_at dksX1_reads_1 1 rfl rfl)
theorem dX1_reads_28 : decode cX1_reads 28 = .ok (.if_icmp .ge 14, 3) := dk_162 0 14 (dk_at dksX1_reads_1 4 rfl rfl)
theorem dX1_reads_31 : decode cX1_reads 31 = .ok (.aload_n 0, 1) := dk_42 (dk_at dksX1_reads_1 7 rfl rfl)
theorem dX1_reads_32 : decode cX1_reads 32 = .ok (.invokevirtual 56, 3) := dk_182 0 56 (dk_at dksX1_reads_1 8 rfl rfl)
theorem dX1_reads_35 : decode cX1_reads 35 = .ok (.aload_n 0, 1) := dk_42 (dk_at dksX1_reads_1 11 rfl rfl)
theorem dX1_reads_36 : decode cX1_reads 36 = .ok (.invokevirtual 53, 3) := dk_182 0 53 (dk_at dksX1_reads_1 12 rfl rfl)
theorem dX1_reads_39 : decode cX1_reads 39 = .ok (.goto (-19), 3) := dk_167 255 237 (dk_at dksX1_reads_1 15 rfl rfl)
theorem dX1_reads_42 : decode cX1_reads 42 = .ok (.iconst (-1), 1) := dk_2 (dk_at dksX1_reads_1 18 rfl rfl)
theorem dX1_reads_43 : decode cX1_reads 43 = .ok (.ireturn, 1) := dk_172 (dk_at dksX1_reads_1 19 rfl rfl)
theorem dX1_reads_44 : decode cX1_reads 44 = .ok (.astore_n 1, 1) := dk_76 (dk_at dksX1_reads_1 20 rfl rfl)
theorem dX1_reads_45 : decode cX1_reads 45 = .ok (.aload_n 0, 1) := dk_42 (dk_at dksX1_reads_1 21 rfl rfl)
theorem dX1_reads_46 : decode cX1_reads 46 = .ok (.invokevirtual 50, 3) := dk_182 0 50 (dk_at dksX1_reads_2 0 rfl rfl)
theorem dX1_reads_49 : decode cX1_reads 49 = .ok (.aload_n 1, 1) := dk_43 (dk_at dksX1_reads_2 3 rfl rfl)
theorem dX1_reads_50 : decode cX1_reads 50 = .ok (.getfield 59, 3) := dk_180 0 59 (dk_at dksX1_reads_2 4 rfl rfl)
theorem dX1_reads_53 : decode cX1_reads 53 = .ok (.ireturn, 1) := dk_172 (dk_at dksX1_reads_2 7 rfl rfl)
abbrev cX1_next : ByteArray := prog_10_method_11_code
def yX1_next : MethodName := ⟨RX1, "next", "()V"⟩
def dkwX1_next_0 : List UInt8 := [42, 182, 0, 43, 153, 0, 15, 187, 0, 38, 89, 42, 180, 0, 29, 183, 0, 40, 191, 42, 182, 0, 47, 177]
abbrev dktX1_next_0 : List UInt8 := dkwX1_next_0 ++ []
theorem dksX1_next_0 : cX1_next.data.toList.drop 0 = dktX1_next_0 := by decide +kernel
theorem dX1_next_0 : decode cX1_next 0 = .ok (.aload_n 0, 1) := dk_42 (dk_at dksX1_next_0 0 rfl rfl)
theorem dX1_next_1 : decode cX1_next 1 = .ok (.invokevirtual 43, 3) := dk_182 0 43 (dk_at dksX1_next_0 1 rfl rfl)
theorem dX1_next_4 : decode cX1_next 4 = .ok (.ifCond .eq 15, 3) := dk_153 0 15 (dk_at dksX1_next_0 4 rfl rfl)
theorem dX1_next_7 : decode cX1_next 7 = .ok (.new 38, 3) := dk_187 0 38 (dk_at dksX1_next_0 7 rfl rfl)
theorem dX1_next_10 : decode cX1_next 10 = .ok (.dup, 1) := dk_89 (dk_at dksX1_next_0 10 rfl rfl)
theorem dX1_next_11 : decode cX1_next 11 = .ok (.aload_n 0, 1) := dk_42 (dk_at dksX1_next_0 11 rfl rfl)
theorem dX1_next_12 : decode cX1_next 12 = .ok (.getfield 29, 3) := dk_180 0 29 (dk_at dksX1_next_0 12 rfl rfl)
theorem dX1_next_15 : decode cX1_next 15 = .ok (.invokespecial 40, 3) := dk_183 0 40 (dk_at dksX1_next_0 15 rfl rfl)
theorem dX1_next_18 : decode cX1_next 18 = .ok (.athrow, 1) := dk_191 (dk_at dksX1_next_0 18 rfl rfl)
theorem dX1_next_19 : decode cX1_next 19 = .ok (.aload_n 0, 1) := dk_42 (dk_at dksX1_next_0 19 rfl rfl)
theorem dX1_next_20 : decode cX1_next 20 = .ok (.invokevirtual 47, 3) := dk_182 0 47 (dk_at dksX1_next_0 20 rfl rfl)
theorem dX1_next_23 : decode cX1_next 23 = .ok (.return_, 1) := dk_177 (dk_at dksX1_next_0 23 rfl rfl)
abbrev cX1_passes : ByteArray := prog_10_method_10_code
def yX1_passes : MethodName := ⟨RX1, "passes", "(Ljava/lang/String;)I"⟩
def dkwX1_passes_2 : List UInt8 := [183, 0, 40, 191, 42, 89, 180, 0, 29, 4, 96, 181, 0, 29, 28, 172]
abbrev dktX1_passes_2 : List UInt8 := dkwX1_passes_2 ++ []
def dkwX1_passes_1 : List UInt8 := [51, 17, 0, 255, 126, 182, 0, 32, 61, 28, 2, 160, 0, 15, 187, 0, 38, 89, 42, 180, 0, 29]
abbrev dktX1_passes_1 : List UInt8 := dkwX1_passes_1 ++ dktX1_passes_2
def dkwX1_passes_0 : List UInt8 := [42, 180, 0, 29, 42, 180, 0, 21, 160, 0, 7, 2, 167, 0, 20, 43, 42, 180, 0, 9, 42, 180, 0, 29]
abbrev dktX1_passes_0 : List UInt8 := dkwX1_passes_0 ++ dktX1_passes_1
theorem dksX1_passes_0 : cX1_passes.data.toList.drop 0 = dktX1_passes_0 := by decide +kernel
theorem dksX1_passes_1 : cX1_passes.data.toList.drop 24 = dktX1_passes_1 := dk_seg dksX1_passes_0 24 rfl rfl
theorem dksX1_passes_2 : cX1_passes.data.toList.drop 46 = dktX1_passes_2 := dk_seg dksX1_passes_1 22 rfl rfl
theorem dX1_passes_0 : decode cX1_passes 0 = .ok (.aload_n 0, 1) := dk_42 (dk_at dksX1_passes_0 0 rfl rfl)
theorem dX1_passes_1 : decode cX1_passes 1 = .ok (.getfield 29, 3) := dk_180 0 29 (dk_at dksX1_passes_0 1 rfl rfl)
theorem dX1_passes_4 : decode cX1_passes 4 = .ok (.aload_n 0, 1) := dk_42 (dk_at dksX1_passes_0 4 rfl rfl)
theorem dX1_passes_5 : decode cX1_passes 5 = .ok (.getfield 21, 3) := dk_180 0 21 (dk_at dksX1_passes_0 5 rfl rfl)
theorem dX1_passes_8 : decode cX1_passes 8 = .ok (.if_icmp .ne 7, 3) := dk_160 0 7 (dk_at dksX1_passes_0 8 rfl rfl)
theorem dX1_passes_11 : decode cX1_passes 11 = .ok (.iconst (-1), 1) := dk_2 (dk_at dksX1_passes_0 11 rfl rfl)
theorem dX1_passes_12 : decode cX1_passes 12 = .ok (.goto 20, 3) := dk_167 0 20 (dk_at dksX1_passes_0 12 rfl rfl)
theorem dX1_passes_15 : decode cX1_passes 15 = .ok (.aload_n 1, 1) := dk_43 (dk_at dksX1_passes_0 15 rfl rfl)
theorem dX1_passes_16 : decode cX1_passes 16 = .ok (.aload_n 0, 1) := dk_42 (dk_at dksX1_passes_0 16 rfl rfl)
theorem dX1_passes_17 : decode cX1_passes 17 = .ok (.getfield 9, 3) := dk_180 0 9 (dk_at dksX1_passes_0 17 rfl rfl)
theorem dX1_passes_20 : decode cX1_passes 20 = .ok (.aload_n 0, 1) := dk_42 (dk_at dksX1_passes_0 20 rfl rfl)
theorem dX1_passes_21 : decode cX1_passes 21 = .ok (.getfield 29, 3) := dk_180 0 29 (dk_at dksX1_passes_0 21 rfl rfl)
theorem dX1_passes_24 : decode cX1_passes 24 = .ok (.baload, 1) := dk_51 (dk_at dksX1_passes_1 0 rfl rfl)
theorem dX1_passes_25 : decode cX1_passes 25 = .ok (.sipush 255, 3) := dk_17 0 255 (dk_at dksX1_passes_1 1 rfl rfl)
theorem dX1_passes_28 : decode cX1_passes 28 = .ok (.iand, 1) := dk_126 (dk_at dksX1_passes_1 4 rfl rfl)
theorem dX1_passes_29 : decode cX1_passes 29 = .ok (.invokevirtual 32, 3) := dk_182 0 32 (dk_at dksX1_passes_1 5 rfl rfl)
theorem dX1_passes_32 : decode cX1_passes 32 = .ok (.istore_n 2, 1) := dk_61 (dk_at dksX1_passes_1 8 rfl rfl)
theorem dX1_passes_33 : decode cX1_passes 33 = .ok (.iload_n 2, 1) := dk_28 (dk_at dksX1_passes_1 9 rfl rfl)
theorem dX1_passes_34 : decode cX1_passes 34 = .ok (.iconst (-1), 1) := dk_2 (dk_at dksX1_passes_1 10 rfl rfl)
theorem dX1_passes_35 : decode cX1_passes 35 = .ok (.if_icmp .ne 15, 3) := dk_160 0 15 (dk_at dksX1_passes_1 11 rfl rfl)
theorem dX1_passes_38 : decode cX1_passes 38 = .ok (.new 38, 3) := dk_187 0 38 (dk_at dksX1_passes_1 14 rfl rfl)
theorem dX1_passes_41 : decode cX1_passes 41 = .ok (.dup, 1) := dk_89 (dk_at dksX1_passes_1 17 rfl rfl)
theorem dX1_passes_42 : decode cX1_passes 42 = .ok (.aload_n 0, 1) := dk_42 (dk_at dksX1_passes_1 18 rfl rfl)
theorem dX1_passes_43 : decode cX1_passes 43 = .ok (.getfield 29, 3) := dk_180 0 29 (dk_at dksX1_passes_1 19 rfl rfl)
theorem dX1_passes_46 : decode cX1_passes 46 = .ok (.invokespecial 40, 3) := dk_183 0 40 (dk_at dksX1_passes_2 0 rfl rfl)
theorem dX1_passes_49 : decode cX1_passes 49 = .ok (.athrow, 1) := dk_191 (dk_at dksX1_passes_2 3 rfl rfl)
theorem dX1_passes_50 : decode cX1_passes 50 = .ok (.aload_n 0, 1) := dk_42 (dk_at dksX1_passes_2 4 rfl rfl)
theorem dX1_passes_51 : decode cX1_passes 51 = .ok (.dup, 1) := dk_89 (dk_at dksX1_passes_2 5 rfl rfl)
theorem dX1_passes_52 : decode cX1_passes 52 = .ok (.getfield 29, 3) := dk_180 0 29 (dk_at dksX1_passes_2 6 rfl rfl)
theorem dX1_passes_55 : decode cX1_passes 55 = .ok (.iconst 1, 1) := dk_4 (dk_at dksX1_passes_2 9 rfl rfl)
theorem dX1_passes_56 : decode cX1_passes 56 = .ok (.iadd, 1) := dk_96 (dk_at dksX1_passes_2 10 rfl rfl)
theorem dX1_passes_57 : decode cX1_passes 57 = .ok (.putfield 29, 3) := dk_181 0 29 (dk_at dksX1_passes_2 11 rfl rfl)
theorem dX1_passes_60 : decode cX1_passes 60 = .ok (.iload_n 2, 1) := dk_28 (dk_at dksX1_passes_2 14 rfl rfl)
theorem dX1_passes_61 : decode cX1_passes 61 = .ok (.ireturn, 1) := dk_172 (dk_at dksX1_passes_2 15 rfl rfl)
abbrev cX1_between : ByteArray := prog_10_method_5_code
def yX1_between : MethodName := ⟨RX1, "between", "()V"⟩
def dkwX1_between_0 : List UInt8 := [42, 18, 15, 182, 0, 17, 87, 177]
abbrev dktX1_between_0 : List UInt8 := dkwX1_between_0 ++ []
theorem dksX1_between_0 : cX1_between.data.toList.drop 0 = dktX1_between_0 := by decide +kernel
theorem dX1_between_0 : decode cX1_between 0 = .ok (.aload_n 0, 1) := dk_42 (dk_at dksX1_between_0 0 rfl rfl)
theorem dX1_between_1 : decode cX1_between 1 = .ok (.ldc 15, 2) := dk_18 15 (dk_at dksX1_between_0 1 rfl rfl)
theorem dX1_between_3 : decode cX1_between 3 = .ok (.invokevirtual 17, 3) := dk_182 0 17 (dk_at dksX1_between_0 3 rfl rfl)
theorem dX1_between_6 : decode cX1_between 6 = .ok (.pop, 1) := dk_87 (dk_at dksX1_between_0 6 rfl rfl)
theorem dX1_between_7 : decode cX1_between 7 = .ok (.return_, 1) := dk_177 (dk_at dksX1_between_0 7 rfl rfl)
abbrev cX1_init : ByteArray := prog_10_method_1_code
def yX1_init : MethodName := ⟨RX1, "<init>", "(I)V"⟩
def dkwX1_init_0 : List UInt8 := [42, 183, 0, 3, 42, 27, 188, 8, 181, 0, 9, 177]
abbrev dktX1_init_0 : List UInt8 := dkwX1_init_0 ++ []
theorem dksX1_init_0 : cX1_init.data.toList.drop 0 = dktX1_init_0 := by decide +kernel
theorem dX1_init_0 : decode cX1_init 0 = .ok (.aload_n 0, 1) := dk_42 (dk_at dksX1_init_0 0 rfl rfl)
theorem dX1_init_1 : decode cX1_init 1 = .ok (.invokespecial 3, 3) := dk_183 0 3 (dk_at dksX1_init_0 1 rfl rfl)
theorem dX1_init_4 : decode cX1_init 4 = .ok (.aload_n 0, 1) := dk_42 (dk_at dksX1_init_0 4 rfl rfl)
theorem dX1_init_5 : decode cX1_init 5 = .ok (.iload_n 1, 1) := dk_27 (dk_at dksX1_init_0 5 rfl rfl)
theorem dX1_init_6 : decode cX1_init 6 = .ok (.newarray .byte, 2) := dk_188_8 (dk_at dksX1_init_0 6 rfl rfl)
theorem dX1_init_8 : decode cX1_init 8 = .ok (.putfield 9, 3) := dk_181 0 9 (dk_at dksX1_init_0 8 rfl rfl)
theorem dX1_init_11 : decode cX1_init 11 = .ok (.return_, 1) := dk_177 (dk_at dksX1_init_0 11 rfl rfl)
abbrev cX1_length : ByteArray := prog_10_method_9_code
def yX1_length : MethodName := ⟨RX1, "length", "()I"⟩
theorem dX1_length_0 : decode cX1_length 0 = .ok (.aload_n 0, 1) := by decide +kernel
theorem dX1_length_1 : decode cX1_length 1 = .ok (.getfield 21, 3) := by decide +kernel
theorem dX1_length_4 : decode cX1_length 4 = .ok (.ireturn, 1) := by decide +kernel
theorem q110 : (Jvm.Cond.initialized "WoodliceSenate$Text") ∈ lw_all := lw_g (lw_at lw_m1 2 rfl) rfl
theorem q155 : (Jvm.Cond.instanceMethod ({ cls := "WoodliceSenate$Text", name := "type", desc := "(I)I" } : Jvm.MethodName)) ∈ lw_all := lw_g (lw_at lw_m1 47 rfl) rfl
theorem q156 : (Jvm.Cond.sameMethod "WoodliceSenate$Text" "WoodliceSenate$Text" "type" "(I)I") ∈ lw_all := lw_g (lw_at lw_m1 48 rfl) rfl
theorem q159 : (Jvm.Cond.code ({ cls := "WoodliceSenate$Text", name := "type", desc := "(I)I" } : Jvm.MethodName) prog_10_method_6_code (2 : Nat) (Option.some Jvm.ClassFile.FieldType.int)) ∈ lw_all := lw_g (lw_at lw_m1 51 rfl) rfl
theorem q165 : (Jvm.Cond.instanceMethod ({ cls := "WoodliceSenate$Text", name := "wipe", desc := "()I" } : Jvm.MethodName)) ∈ lw_all := lw_g (lw_at lw_m1 57 rfl) rfl
theorem q166 : (Jvm.Cond.sameMethod "WoodliceSenate$Text" "WoodliceSenate$Text" "wipe" "()I") ∈ lw_all := lw_g (lw_at lw_m1 58 rfl) rfl
theorem q169 : (Jvm.Cond.code ({ cls := "WoodliceSenate$Text", name := "wipe", desc := "()I" } : Jvm.MethodName) prog_10_method_7_code (2 : Nat) (Option.some Jvm.ClassFile.FieldType.int)) ∈ lw_all := lw_g (lw_at lw_m1 61 rfl) rfl
theorem q175 : (Jvm.Cond.instanceMethod ({ cls := "WoodliceSenate$Text", name := "undo", desc := "()I" } : Jvm.MethodName)) ∈ lw_all := lw_g (lw_at lw_m1 67 rfl) rfl
theorem q176 : (Jvm.Cond.sameMethod "WoodliceSenate$Text" "WoodliceSenate$Text" "undo" "()I") ∈ lw_all := lw_g (lw_at lw_m1 68 rfl) rfl
theorem q179 : (Jvm.Cond.code ({ cls := "WoodliceSenate$Text", name := "undo", desc := "()I" } : Jvm.MethodName) prog_10_method_8_code (1 : Nat) (Option.some Jvm.ClassFile.FieldType.int)) ∈ lw_all := lw_g (lw_at lw_m1 71 rfl) rfl
theorem q185 : (Jvm.Cond.instanceMethod ({ cls := "WoodliceSenate$Text", name := "read", desc := "()I" } : Jvm.MethodName)) ∈ lw_all := lw_g (lw_at lw_m1 77 rfl) rfl
theorem q186 : (Jvm.Cond.sameMethod "WoodliceSenate$Text" "WoodliceSenate$Text" "read" "()I") ∈ lw_all := lw_g (lw_at lw_m1 78 rfl) rfl
theorem q189 : (Jvm.Cond.code ({ cls := "WoodliceSenate$Text", name := "read", desc := "()I" } : Jvm.MethodName) prog_10_method_13_code (1 : Nat) (Option.some Jvm.ClassFile.FieldType.int)) ∈ lw_all := lw_g (lw_at lw_m1 81 rfl) rfl
theorem q190 : (Jvm.Cond.methodLink "WoodliceSenate$Text" (62 : Nat) ({ cls := "WoodliceSenate$Text", name := "reads", desc := "()I" } : Jvm.MethodName)) ∈ lw_all := lw_g (lw_at lw_m1 82 rfl) rfl
theorem q191 : (Jvm.Cond.privateMethod ({ cls := "WoodliceSenate$Text", name := "reads", desc := "()I" } : Jvm.MethodName)) ∈ lw_tbl := lw_at lw_m1 83 rfl
theorem q192 : (Jvm.Cond.instanceMethod ({ cls := "WoodliceSenate$Text", name := "reads", desc := "()I" } : Jvm.MethodName)) ∈ lw_all := lw_g (lw_at lw_m1 84 rfl) rfl
theorem q193 : (Jvm.Cond.codeWith ({ cls := "WoodliceSenate$Text", name := "reads", desc := "()I" } : Jvm.MethodName) prog_10_method_12_code (2 : Nat) (Option.some Jvm.ClassFile.FieldType.int) [((9 : Nat), (43 : Nat), (44 : Nat), (38 : Nat))]) ∈ lw_all := lw_g (lw_at lw_m1 85 rfl) rfl
theorem q194 : (Jvm.Cond.classLink "WoodliceSenate$Text" (38 : Nat) "WoodliceSenate$Torn") ∈ lw_all := lw_g (lw_at lw_m1 86 rfl) rfl
theorem q195 : (Jvm.Cond.methodLink "WoodliceSenate$Text" (50 : Nat) ({ cls := "WoodliceSenate$Text", name := "clear", desc := "()V" } : Jvm.MethodName)) ∈ lw_all := lw_g (lw_at lw_m1 87 rfl) rfl
theorem q196 : (Jvm.Cond.declares ({ cls := "WoodliceSenate$Text", name := "clear", desc := "()V" } : Jvm.MethodName)) ∈ lw_tbl := lw_at lw_m1 88 rfl
theorem q197 : (Jvm.Cond.sameMethod "WoodliceSenate$Text" "WoodliceSenate$Text" "clear" "()V") ∈ lw_all := lw_g (lw_at lw_m1 89 rfl) rfl
theorem q211 : (Jvm.Cond.methodLink "WoodliceSenate$Text" (53 : Nat) ({ cls := "WoodliceSenate$Text", name := "next", desc := "()V" } : Jvm.MethodName)) ∈ lw_all := lw_g (lw_at lw_m1 103 rfl) rfl
theorem q212 : (Jvm.Cond.privateMethod ({ cls := "WoodliceSenate$Text", name := "next", desc := "()V" } : Jvm.MethodName)) ∈ lw_tbl := lw_at lw_m1 104 rfl
theorem q213 : (Jvm.Cond.instanceMethod ({ cls := "WoodliceSenate$Text", name := "next", desc := "()V" } : Jvm.MethodName)) ∈ lw_all := lw_g (lw_at lw_m1 105 rfl) rfl
theorem q214 : (Jvm.Cond.code ({ cls := "WoodliceSenate$Text", name := "next", desc := "()V" } : Jvm.MethodName) prog_10_method_11_code (1 : Nat) (Option.none : Option Jvm.ClassFile.FieldType)) ∈ lw_all := lw_g (lw_at lw_m1 106 rfl) rfl
theorem q215 : (Jvm.Cond.methodLink "WoodliceSenate$Text" (43 : Nat) ({ cls := "WoodliceSenate$Text", name := "isFull", desc := "()Z" } : Jvm.MethodName)) ∈ lw_all := lw_g (lw_at lw_m1 107 rfl) rfl
theorem q216 : (Jvm.Cond.declares ({ cls := "WoodliceSenate$Text", name := "isFull", desc := "()Z" } : Jvm.MethodName)) ∈ lw_tbl := lw_at lw_m1 108 rfl
theorem q217 : (Jvm.Cond.sameMethod "WoodliceSenate$Text" "WoodliceSenate$Text" "isFull" "()Z") ∈ lw_all := lw_g (lw_at lw_m1 109 rfl) rfl
theorem q269 : (Jvm.Cond.methodLink "WoodliceSenate$Text" (40 : Nat) ({ cls := "WoodliceSenate$Torn", name := "<init>", desc := "(I)V" } : Jvm.MethodName)) ∈ lw_all := lw_g (lw_at lw_m1 161 rfl) rfl
theorem q279 : (Jvm.Cond.fieldLinkNest "WoodliceSenate$Text" (59 : Nat) "WoodliceSenate$Torn" "place" "I" "WoodliceSenate") ∈ lw_tbl := lw_at lw_m1 171 rfl
theorem q295 : (Jvm.Cond.methodLink "WoodliceSenate$Text" (47 : Nat) ({ cls := "WoodliceSenate$Text", name := "part", desc := "()V" } : Jvm.MethodName)) ∈ lw_all := lw_g (lw_at lw_m1 187 rfl) rfl
theorem q296 : (Jvm.Cond.declares ({ cls := "WoodliceSenate$Text", name := "part", desc := "()V" } : Jvm.MethodName)) ∈ lw_tbl := lw_at lw_m1 188 rfl
theorem q297 : (Jvm.Cond.sameMethod "WoodliceSenate$Text" "WoodliceSenate$Text" "part" "()V") ∈ lw_all := lw_g (lw_at lw_m1 189 rfl) rfl
theorem q306 : (Jvm.Cond.declares ({ cls := "WoodliceSenate$Text", name := "passes", desc := "(Ljava/lang/String;)I" } : Jvm.MethodName)) ∈ lw_tbl := lw_at lw_m1 198 rfl
theorem q308 : (Jvm.Cond.instanceMethod ({ cls := "WoodliceSenate$Text", name := "passes", desc := "(Ljava/lang/String;)I" } : Jvm.MethodName)) ∈ lw_all := lw_g (lw_at lw_m1 200 rfl) rfl
theorem q309 : (Jvm.Cond.code ({ cls := "WoodliceSenate$Text", name := "passes", desc := "(Ljava/lang/String;)I" } : Jvm.MethodName) prog_10_method_10_code (3 : Nat) (Option.some Jvm.ClassFile.FieldType.int)) ∈ lw_all := lw_g (lw_at lw_m1 201 rfl) rfl
theorem q310 : (Jvm.Cond.methodLink "WoodliceSenate$Text" (32 : Nat) ({ cls := "java/lang/String", name := "indexOf", desc := "(I)I" } : Jvm.MethodName)) ∈ lw_all := lw_g (lw_at lw_m1 202 rfl) rfl
theorem q487 : (Jvm.Cond.methodLink "WoodliceSenate$Text" (56 : Nat) ({ cls := "WoodliceSenate$Text", name := "between", desc := "()V" } : Jvm.MethodName)) ∈ lw_all := lw_g (lw_at lw_m2 139 rfl) rfl
theorem q488 : (Jvm.Cond.instanceMethod ({ cls := "WoodliceSenate$Text", name := "between", desc := "()V" } : Jvm.MethodName)) ∈ lw_all := lw_g (lw_at lw_m2 140 rfl) rfl
theorem q489 : (Jvm.Cond.sameMethod "WoodliceSenate$Text" "WoodliceSenate$Text" "between" "()V") ∈ lw_all := lw_g (lw_at lw_m2 141 rfl) rfl
theorem q494 : (Jvm.Cond.code ({ cls := "WoodliceSenate$Text", name := "between", desc := "()V" } : Jvm.MethodName) prog_10_method_5_code (1 : Nat) (Option.none : Option Jvm.ClassFile.FieldType)) ∈ lw_all := lw_g (lw_at lw_m2 146 rfl) rfl
theorem q495 : (Jvm.Cond.stringRef "WoodliceSenate$Text" (15 : Nat) ";") ∈ lw_tbl := lw_at lw_m2 147 rfl
theorem q496 : (Jvm.Cond.methodLink "WoodliceSenate$Text" (17 : Nat) ({ cls := "WoodliceSenate$Text", name := "passes", desc := "(Ljava/lang/String;)I" } : Jvm.MethodName)) ∈ lw_all := lw_g (lw_at lw_m2 148 rfl) rfl
theorem q511 : (Jvm.Cond.declares ({ cls := "WoodliceSenate$Text", name := "read", desc := "()I" } : Jvm.MethodName)) ∈ lw_tbl := lw_at lw_m2 163 rfl
theorem q631 : (Jvm.Cond.instanceMethod ({ cls := "WoodliceSenate$Text", name := "<init>", desc := "(I)V" } : Jvm.MethodName)) ∈ lw_all := lw_g (lw_at lw_m3 43 rfl) rfl
theorem q632 : (Jvm.Cond.code ({ cls := "WoodliceSenate$Text", name := "<init>", desc := "(I)V" } : Jvm.MethodName) prog_10_method_1_code (2 : Nat) (Option.none : Option Jvm.ClassFile.FieldType)) ∈ lw_all := lw_g (lw_at lw_m3 44 rfl) rfl
theorem q633 : (Jvm.Cond.methodLink "WoodliceSenate$Text" (3 : Nat) ({ cls := "java/lang/Object", name := "<init>", desc := "()V" } : Jvm.MethodName)) ∈ lw_all := lw_g (lw_at lw_m3 45 rfl) rfl
theorem q638 : (Jvm.Cond.fieldLink "WoodliceSenate$Text" (9 : Nat) "WoodliceSenate$Text" "bytes" "[B") ∈ lw_all := lw_g (lw_at lw_m3 50 rfl) rfl
theorem q639 : (Jvm.Cond.fieldLink "WoodliceSenate$Text" (21 : Nat) "WoodliceSenate$Text" "typed" "I") ∈ lw_all := lw_g (lw_at lw_m3 51 rfl) rfl
theorem q640 : (Jvm.Cond.fieldLink "WoodliceSenate$Text" (29 : Nat) "WoodliceSenate$Text" "at" "I") ∈ lw_all := lw_g (lw_at lw_m3 52 rfl) rfl
theorem q641 : (Jvm.Cond.fieldLink "WoodliceSenate$Text" (25 : Nat) "WoodliceSenate$Text" "fresh" "Z") ∈ lw_all := lw_g (lw_at lw_m3 53 rfl) rfl
theorem q642 : (Jvm.Cond.fieldLink "WoodliceSenate$Text" (66 : Nat) "WoodliceSenate$Text" "fault" "I") ∈ lw_all := lw_g (lw_at lw_m3 54 rfl) rfl
theorem q648 : (Jvm.Cond.soleField "WoodliceSenate$Text" "bytes") ∈ lw_all := lw_g (lw_at lw_m3 60 rfl) rfl
theorem q650 : (Jvm.Cond.soleField "WoodliceSenate$Text" "typed") ∈ lw_all := lw_g (lw_at lw_m3 62 rfl) rfl
theorem q652 : (Jvm.Cond.soleField "WoodliceSenate$Text" "at") ∈ lw_all := lw_g (lw_at lw_m3 64 rfl) rfl
theorem q654 : (Jvm.Cond.soleField "WoodliceSenate$Text" "fresh") ∈ lw_all := lw_g (lw_at lw_m3 66 rfl) rfl
theorem q656 : (Jvm.Cond.soleField "WoodliceSenate$Text" "fault") ∈ lw_all := lw_g (lw_at lw_m3 68 rfl) rfl
theorem q1192 : (Jvm.Cond.instanceMethod ({ cls := "WoodliceSenate$Text", name := "length", desc := "()I" } : Jvm.MethodName)) ∈ lw_all := lw_g (lw_at lw_m5 124 rfl) rfl
theorem q1193 : (Jvm.Cond.sameMethod "WoodliceSenate$Text" "WoodliceSenate$Text" "length" "()I") ∈ lw_all := lw_g (lw_at lw_m5 125 rfl) rfl
theorem q1196 : (Jvm.Cond.code ({ cls := "WoodliceSenate$Text", name := "length", desc := "()I" } : Jvm.MethodName) prog_10_method_9_code (1 : Nat) (Option.some Jvm.ClassFile.FieldType.int)) ∈ lw_all := lw_g (lw_at lw_m5 128 rfl) rfl
theorem q1765 : (Jvm.Cond.sameMethod "WoodliceSenate$Text" "WoodliceSenate$Text" "reads" "()I") ∈ lw_all := lw_g (lw_at lw_m7 217 rfl) rfl
theorem q1766 : (Jvm.Cond.sameMethod "WoodliceSenate$Text" "WoodliceSenate$Text" "next" "()V") ∈ lw_all := lw_g (lw_at lw_m7 218 rfl) rfl
theorem q1768 : (Jvm.Cond.sameMethod "WoodliceSenate$Text" "WoodliceSenate$Text" "passes" "(Ljava/lang/String;)I") ∈ lw_all := lw_g (lw_at lw_m7 220 rfl) rfl

/-! WoodliceSenate$Stone -/
set_option maxRecDepth 100000
def RX2 : String := "WoodliceSenate$Stone"
def TX2 : u_T := fun k => match k with
  | 0 => ("WoodliceSenate$Text", "bytes", "[B", true)
  | 1 => ("WoodliceSenate$Text", "typed", "I", false)
  | 2 => ("WoodliceSenate$Text", "at", "I", false)
  | 3 => ("WoodliceSenate$Text", "fresh", "Z", false)
  | 4 => ("WoodliceSenate$Text", "fault", "I", false)
  | 5 => ("WoodliceSenate$Stone", "all", "[I", true)
  | _ => ("WoodliceSenate$Stone", "n", "I", false)
def tyX2 : Nat → FieldType := fun k => match k with
  | 0 => .array .byte
  | 1 => .int
  | 2 => .int
  | 3 => .boolean
  | 4 => .int
  | 5 => .array .int
  | _ => .int
abbrev wsX20 : List Cond := u_ws RX2 TX2 7
theorem nmX2 : ∀ a, a < 7 → ∀ b, b < 7 → a ≠ b → (TX2 a).2.1 ≠ (TX2 b).2.1 := by decide +kernel
theorem tyX2_ok : ∀ k, k < 7 → parseFieldDescriptor (TX2 k).2.2.1 = some (tyX2 k) := by decide +kernel
abbrev cX2_clear : ByteArray := prog_9_method_2_code
def yX2_clear : MethodName := ⟨RX2, "clear", "()V"⟩
def dkwX2_clear_0 : List UInt8 := [42, 180, 0, 9, 8, 184, 0, 15, 42, 3, 181, 0, 21, 177]
abbrev dktX2_clear_0 : List UInt8 := dkwX2_clear_0 ++ []
theorem dksX2_clear_0 : cX2_clear.data.toList.drop 0 = dktX2_clear_0 := by decide +kernel
theorem dX2_clear_0 : decode cX2_clear 0 = .ok (.aload_n 0, 1) := dk_42 (dk_at dksX2_clear_0 0 rfl rfl)
theorem dX2_clear_1 : decode cX2_clear 1 = .ok (.getfield 9, 3) := dk_180 0 9 (dk_at dksX2_clear_0 1 rfl rfl)
theorem dX2_clear_4 : decode cX2_clear 4 = .ok (.iconst 5, 1) := dk_8 (dk_at dksX2_clear_0 4 rfl rfl)
theorem dX2_clear_5 : decode cX2_clear 5 = .ok (.invokestatic 15, 3) := dk_184 0 15 (dk_at dksX2_clear_0 5 rfl rfl)
theorem dX2_clear_8 : decode cX2_clear 8 = .ok (.aload_n 0, 1) := dk_42 (dk_at dksX2_clear_0 8 rfl rfl)
theorem dX2_clear_9 : decode cX2_clear 9 = .ok (.iconst 0, 1) := dk_3 (dk_at dksX2_clear_0 9 rfl rfl)
theorem dX2_clear_10 : decode cX2_clear 10 = .ok (.putfield 21, 3) := dk_181 0 21 (dk_at dksX2_clear_0 10 rfl rfl)
theorem dX2_clear_13 : decode cX2_clear 13 = .ok (.return_, 1) := dk_177 (dk_at dksX2_clear_0 13 rfl rfl)
abbrev cX2_isFull : ByteArray := prog_9_method_3_code
def yX2_isFull : MethodName := ⟨RX2, "isFull", "()Z"⟩
def dkwX2_isFull_0 : List UInt8 := [42, 180, 0, 21, 16, 12, 160, 0, 7, 4, 167, 0, 4, 3, 172]
abbrev dktX2_isFull_0 : List UInt8 := dkwX2_isFull_0 ++ []
theorem dksX2_isFull_0 : cX2_isFull.data.toList.drop 0 = dktX2_isFull_0 := by decide +kernel
theorem dX2_isFull_0 : decode cX2_isFull 0 = .ok (.aload_n 0, 1) := dk_42 (dk_at dksX2_isFull_0 0 rfl rfl)
theorem dX2_isFull_1 : decode cX2_isFull 1 = .ok (.getfield 21, 3) := dk_180 0 21 (dk_at dksX2_isFull_0 1 rfl rfl)
theorem dX2_isFull_4 : decode cX2_isFull 4 = .ok (.bipush 12, 2) := dk_16 12 (dk_at dksX2_isFull_0 4 rfl rfl)
theorem dX2_isFull_6 : decode cX2_isFull 6 = .ok (.if_icmp .ne 7, 3) := dk_160 0 7 (dk_at dksX2_isFull_0 6 rfl rfl)
theorem dX2_isFull_9 : decode cX2_isFull 9 = .ok (.iconst 1, 1) := dk_4 (dk_at dksX2_isFull_0 9 rfl rfl)
theorem dX2_isFull_10 : decode cX2_isFull 10 = .ok (.goto 4, 3) := dk_167 0 4 (dk_at dksX2_isFull_0 10 rfl rfl)
theorem dX2_isFull_13 : decode cX2_isFull 13 = .ok (.iconst 0, 1) := dk_3 (dk_at dksX2_isFull_0 13 rfl rfl)
theorem dX2_isFull_14 : decode cX2_isFull 14 = .ok (.ireturn, 1) := dk_172 (dk_at dksX2_isFull_0 14 rfl rfl)
abbrev cX2_part : ByteArray := prog_9_method_5_code
def yX2_part : MethodName := ⟨RX2, "part", "()V"⟩
def dkwX2_part_1 : List UInt8 := [181, 0, 21, 177]
abbrev dktX2_part_1 : List UInt8 := dkwX2_part_1 ++ []
def dkwX2_part_0 : List UInt8 := [42, 180, 0, 9, 42, 180, 0, 21, 42, 18, 25, 182, 0, 27, 79, 42, 89, 180, 0, 21, 4, 96]
abbrev dktX2_part_0 : List UInt8 := dkwX2_part_0 ++ dktX2_part_1
theorem dksX2_part_0 : cX2_part.data.toList.drop 0 = dktX2_part_0 := by decide +kernel
theorem dksX2_part_1 : cX2_part.data.toList.drop 22 = dktX2_part_1 := dk_seg dksX2_part_0 22 rfl rfl
theorem dX2_part_0 : decode cX2_part 0 = .ok (.aload_n 0, 1) := dk_42 (dk_at dksX2_part_0 0 rfl rfl)
theorem dX2_part_1 : decode cX2_part 1 = .ok (.getfield 9, 3) := dk_180 0 9 (dk_at dksX2_part_0 1 rfl rfl)
theorem dX2_part_4 : decode cX2_part 4 = .ok (.aload_n 0, 1) := dk_42 (dk_at dksX2_part_0 4 rfl rfl)
theorem dX2_part_5 : decode cX2_part 5 = .ok (.getfield 21, 3) := dk_180 0 21 (dk_at dksX2_part_0 5 rfl rfl)
theorem dX2_part_8 : decode cX2_part 8 = .ok (.aload_n 0, 1) := dk_42 (dk_at dksX2_part_0 8 rfl rfl)
theorem dX2_part_9 : decode cX2_part 9 = .ok (.ldc 25, 2) := dk_18 25 (dk_at dksX2_part_0 9 rfl rfl)
theorem dX2_part_11 : decode cX2_part 11 = .ok (.invokevirtual 27, 3) := dk_182 0 27 (dk_at dksX2_part_0 11 rfl rfl)
theorem dX2_part_14 : decode cX2_part 14 = .ok (.iastore, 1) := dk_79 (dk_at dksX2_part_0 14 rfl rfl)
theorem dX2_part_15 : decode cX2_part 15 = .ok (.aload_n 0, 1) := dk_42 (dk_at dksX2_part_0 15 rfl rfl)
theorem dX2_part_16 : decode cX2_part 16 = .ok (.dup, 1) := dk_89 (dk_at dksX2_part_0 16 rfl rfl)
theorem dX2_part_17 : decode cX2_part 17 = .ok (.getfield 21, 3) := dk_180 0 21 (dk_at dksX2_part_0 17 rfl rfl)
theorem dX2_part_20 : decode cX2_part 20 = .ok (.iconst 1, 1) := dk_4 (dk_at dksX2_part_0 20 rfl rfl)
theorem dX2_part_21 : decode cX2_part 21 = .ok (.iadd, 1) := dk_96 (dk_at dksX2_part_0 21 rfl rfl)
theorem dX2_part_22 : decode cX2_part 22 = .ok (.putfield 21, 3) := dk_181 0 21 (dk_at dksX2_part_1 0 rfl rfl)
theorem dX2_part_25 : decode cX2_part 25 = .ok (.return_, 1) := dk_177 (dk_at dksX2_part_1 3 rfl rfl)
abbrev cX2_between : ByteArray := prog_9_method_4_code
def yX2_between : MethodName := ⟨RX2, "between", "()V"⟩
theorem dX2_between_0 : decode cX2_between 0 = .ok (.return_, 1) := by decide +kernel
abbrev cX2_init : ByteArray := prog_9_method_1_code
def yX2_init : MethodName := ⟨RX2, "<init>", "()V"⟩
def dkwX2_init_0 : List UInt8 := [42, 16, 12, 183, 0, 3, 42, 16, 12, 188, 10, 181, 0, 9, 177]
abbrev dktX2_init_0 : List UInt8 := dkwX2_init_0 ++ []
theorem dksX2_init_0 : cX2_init.data.toList.drop 0 = dktX2_init_0 := by decide +kernel
theorem dX2_init_0 : decode cX2_init 0 = .ok (.aload_n 0, 1) := dk_42 (dk_at dksX2_init_0 0 rfl rfl)
theorem dX2_init_1 : decode cX2_init 1 = .ok (.bipush 12, 2) := dk_16 12 (dk_at dksX2_init_0 1 rfl rfl)
theorem dX2_init_3 : decode cX2_init 3 = .ok (.invokespecial 3, 3) := dk_183 0 3 (dk_at dksX2_init_0 3 rfl rfl)
theorem dX2_init_6 : decode cX2_init 6 = .ok (.aload_n 0, 1) := dk_42 (dk_at dksX2_init_0 6 rfl rfl)
theorem dX2_init_7 : decode cX2_init 7 = .ok (.bipush 12, 2) := dk_16 12 (dk_at dksX2_init_0 7 rfl rfl)
theorem dX2_init_9 : decode cX2_init 9 = .ok (.newarray .int, 2) := dk_188_10 (dk_at dksX2_init_0 9 rfl rfl)
theorem dX2_init_11 : decode cX2_init 11 = .ok (.putfield 9, 3) := dk_181 0 9 (dk_at dksX2_init_0 11 rfl rfl)
theorem dX2_init_14 : decode cX2_init 14 = .ok (.return_, 1) := dk_177 (dk_at dksX2_init_0 14 rfl rfl)
theorem q111 : (Jvm.Cond.initialized "WoodliceSenate$Stone") ∈ lw_all := lw_g (lw_at lw_m1 3 rfl) rfl
theorem q158 : (Jvm.Cond.selects "WoodliceSenate$Stone" ({ cls := "WoodliceSenate$Text", name := "type", desc := "(I)I" } : Jvm.MethodName) ({ cls := "WoodliceSenate$Text", name := "type", desc := "(I)I" } : Jvm.MethodName)) ∈ lw_all := lw_g (lw_at lw_m1 50 rfl) rfl
theorem q168 : (Jvm.Cond.selects "WoodliceSenate$Stone" ({ cls := "WoodliceSenate$Text", name := "wipe", desc := "()I" } : Jvm.MethodName) ({ cls := "WoodliceSenate$Text", name := "wipe", desc := "()I" } : Jvm.MethodName)) ∈ lw_all := lw_g (lw_at lw_m1 60 rfl) rfl
theorem q178 : (Jvm.Cond.selects "WoodliceSenate$Stone" ({ cls := "WoodliceSenate$Text", name := "undo", desc := "()I" } : Jvm.MethodName) ({ cls := "WoodliceSenate$Text", name := "undo", desc := "()I" } : Jvm.MethodName)) ∈ lw_all := lw_g (lw_at lw_m1 70 rfl) rfl
theorem q188 : (Jvm.Cond.selects "WoodliceSenate$Stone" ({ cls := "WoodliceSenate$Text", name := "read", desc := "()I" } : Jvm.MethodName) ({ cls := "WoodliceSenate$Text", name := "read", desc := "()I" } : Jvm.MethodName)) ∈ lw_all := lw_g (lw_at lw_m1 80 rfl) rfl
theorem q205 : (Jvm.Cond.selects "WoodliceSenate$Stone" ({ cls := "WoodliceSenate$Text", name := "clear", desc := "()V" } : Jvm.MethodName) ({ cls := "WoodliceSenate$Stone", name := "clear", desc := "()V" } : Jvm.MethodName)) ∈ lw_all := lw_g (lw_at lw_m1 97 rfl) rfl
theorem q206 : (Jvm.Cond.instanceMethod ({ cls := "WoodliceSenate$Stone", name := "clear", desc := "()V" } : Jvm.MethodName)) ∈ lw_all := lw_g (lw_at lw_m1 98 rfl) rfl
theorem q207 : (Jvm.Cond.code ({ cls := "WoodliceSenate$Stone", name := "clear", desc := "()V" } : Jvm.MethodName) prog_9_method_2_code (1 : Nat) (Option.none : Option Jvm.ClassFile.FieldType)) ∈ lw_all := lw_g (lw_at lw_m1 99 rfl) rfl
theorem q208 : (Jvm.Cond.methodLink "WoodliceSenate$Stone" (15 : Nat) ({ cls := "java/util/Arrays", name := "fill", desc := "([II)V" } : Jvm.MethodName)) ∈ lw_all := lw_g (lw_at lw_m1 100 rfl) rfl
theorem q225 : (Jvm.Cond.selects "WoodliceSenate$Stone" ({ cls := "WoodliceSenate$Text", name := "isFull", desc := "()Z" } : Jvm.MethodName) ({ cls := "WoodliceSenate$Stone", name := "isFull", desc := "()Z" } : Jvm.MethodName)) ∈ lw_all := lw_g (lw_at lw_m1 117 rfl) rfl
theorem q226 : (Jvm.Cond.instanceMethod ({ cls := "WoodliceSenate$Stone", name := "isFull", desc := "()Z" } : Jvm.MethodName)) ∈ lw_all := lw_g (lw_at lw_m1 118 rfl) rfl
theorem q227 : (Jvm.Cond.code ({ cls := "WoodliceSenate$Stone", name := "isFull", desc := "()Z" } : Jvm.MethodName) prog_9_method_3_code (1 : Nat) (Option.some Jvm.ClassFile.FieldType.boolean)) ∈ lw_all := lw_g (lw_at lw_m1 119 rfl) rfl
theorem q460 : (Jvm.Cond.selects "WoodliceSenate$Stone" ({ cls := "java/lang/Object", name := "getClass", desc := "()Ljava/lang/Class;" } : Jvm.MethodName) ({ cls := "java/lang/Object", name := "getClass", desc := "()Ljava/lang/Class;" } : Jvm.MethodName)) ∈ lw_all := lw_g (lw_at lw_m2 112 rfl) rfl
theorem q480 : (Jvm.Cond.selects "WoodliceSenate$Stone" ({ cls := "WoodliceSenate$Text", name := "part", desc := "()V" } : Jvm.MethodName) ({ cls := "WoodliceSenate$Stone", name := "part", desc := "()V" } : Jvm.MethodName)) ∈ lw_all := lw_g (lw_at lw_m2 132 rfl) rfl
theorem q481 : (Jvm.Cond.instanceMethod ({ cls := "WoodliceSenate$Stone", name := "part", desc := "()V" } : Jvm.MethodName)) ∈ lw_all := lw_g (lw_at lw_m2 133 rfl) rfl
theorem q482 : (Jvm.Cond.code ({ cls := "WoodliceSenate$Stone", name := "part", desc := "()V" } : Jvm.MethodName) prog_9_method_5_code (1 : Nat) (Option.none : Option Jvm.ClassFile.FieldType)) ∈ lw_all := lw_g (lw_at lw_m2 134 rfl) rfl
theorem q483 : (Jvm.Cond.stringRef "WoodliceSenate$Stone" (25 : Nat) "0123456789") ∈ lw_tbl := lw_at lw_m2 135 rfl
theorem q484 : (Jvm.Cond.methodLink "WoodliceSenate$Stone" (27 : Nat) ({ cls := "WoodliceSenate$Stone", name := "passes", desc := "(Ljava/lang/String;)I" } : Jvm.MethodName)) ∈ lw_all := lw_g (lw_at lw_m2 136 rfl) rfl
theorem q485 : (Jvm.Cond.sameMethod "WoodliceSenate$Stone" "WoodliceSenate$Text" "passes" "(Ljava/lang/String;)I") ∈ lw_all := lw_g (lw_at lw_m2 137 rfl) rfl
theorem q486 : (Jvm.Cond.selects "WoodliceSenate$Stone" ({ cls := "WoodliceSenate$Stone", name := "passes", desc := "(Ljava/lang/String;)I" } : Jvm.MethodName) ({ cls := "WoodliceSenate$Text", name := "passes", desc := "(Ljava/lang/String;)I" } : Jvm.MethodName)) ∈ lw_all := lw_g (lw_at lw_m2 138 rfl) rfl
theorem q491 : (Jvm.Cond.selects "WoodliceSenate$Stone" ({ cls := "WoodliceSenate$Text", name := "between", desc := "()V" } : Jvm.MethodName) ({ cls := "WoodliceSenate$Stone", name := "between", desc := "()V" } : Jvm.MethodName)) ∈ lw_all := lw_g (lw_at lw_m2 143 rfl) rfl
theorem q492 : (Jvm.Cond.instanceMethod ({ cls := "WoodliceSenate$Stone", name := "between", desc := "()V" } : Jvm.MethodName)) ∈ lw_all := lw_g (lw_at lw_m2 144 rfl) rfl
theorem q493 : (Jvm.Cond.code ({ cls := "WoodliceSenate$Stone", name := "between", desc := "()V" } : Jvm.MethodName) prog_9_method_4_code (1 : Nat) (Option.none : Option Jvm.ClassFile.FieldType)) ∈ lw_all := lw_g (lw_at lw_m2 145 rfl) rfl
theorem q510 : (Jvm.Cond.sameMethod "WoodliceSenate$Stone" "WoodliceSenate$Text" "read" "()I") ∈ lw_all := lw_g (lw_at lw_m2 162 rfl) rfl
theorem q512 : (Jvm.Cond.selects "WoodliceSenate$Stone" ({ cls := "WoodliceSenate$Stone", name := "read", desc := "()I" } : Jvm.MethodName) ({ cls := "WoodliceSenate$Text", name := "read", desc := "()I" } : Jvm.MethodName)) ∈ lw_all := lw_g (lw_at lw_m2 164 rfl) rfl
theorem q626 : (Jvm.Cond.instantiable "WoodliceSenate$Stone" (7 : Nat)) ∈ lw_all := lw_g (lw_at lw_m3 38 rfl) rfl
theorem q628 : (Jvm.Cond.instanceMethod ({ cls := "WoodliceSenate$Stone", name := "<init>", desc := "()V" } : Jvm.MethodName)) ∈ lw_all := lw_g (lw_at lw_m3 40 rfl) rfl
theorem q629 : (Jvm.Cond.code ({ cls := "WoodliceSenate$Stone", name := "<init>", desc := "()V" } : Jvm.MethodName) prog_9_method_1_code (1 : Nat) (Option.none : Option Jvm.ClassFile.FieldType)) ∈ lw_all := lw_g (lw_at lw_m3 41 rfl) rfl
theorem q630 : (Jvm.Cond.methodLink "WoodliceSenate$Stone" (3 : Nat) ({ cls := "WoodliceSenate$Text", name := "<init>", desc := "(I)V" } : Jvm.MethodName)) ∈ lw_all := lw_g (lw_at lw_m3 42 rfl) rfl
theorem q634 : (Jvm.Cond.fieldLink "WoodliceSenate$Stone" (9 : Nat) "WoodliceSenate$Stone" "all" "[I") ∈ lw_all := lw_g (lw_at lw_m3 46 rfl) rfl
theorem q636 : (Jvm.Cond.fieldLink "WoodliceSenate$Stone" (21 : Nat) "WoodliceSenate$Stone" "n" "I") ∈ lw_all := lw_g (lw_at lw_m3 48 rfl) rfl
theorem q643 : (Jvm.Cond.laysFinal "WoodliceSenate$Stone" "WoodliceSenate$Stone" "all" "[I") ∈ lw_all := lw_g (lw_at lw_m3 55 rfl) rfl
theorem q644 : (Jvm.Cond.soleField "WoodliceSenate$Stone" "all") ∈ lw_all := lw_g (lw_at lw_m3 56 rfl) rfl
theorem q645 : (Jvm.Cond.lays "WoodliceSenate$Stone" "WoodliceSenate$Stone" "n" "I") ∈ lw_all := lw_g (lw_at lw_m3 57 rfl) rfl
theorem q646 : (Jvm.Cond.soleField "WoodliceSenate$Stone" "n") ∈ lw_all := lw_g (lw_at lw_m3 58 rfl) rfl
theorem q647 : (Jvm.Cond.laysFinal "WoodliceSenate$Stone" "WoodliceSenate$Text" "bytes" "[B") ∈ lw_all := lw_g (lw_at lw_m3 59 rfl) rfl
theorem q649 : (Jvm.Cond.lays "WoodliceSenate$Stone" "WoodliceSenate$Text" "typed" "I") ∈ lw_all := lw_g (lw_at lw_m3 61 rfl) rfl
theorem q651 : (Jvm.Cond.lays "WoodliceSenate$Stone" "WoodliceSenate$Text" "at" "I") ∈ lw_all := lw_g (lw_at lw_m3 63 rfl) rfl
theorem q653 : (Jvm.Cond.lays "WoodliceSenate$Stone" "WoodliceSenate$Text" "fresh" "Z") ∈ lw_all := lw_g (lw_at lw_m3 65 rfl) rfl
theorem q655 : (Jvm.Cond.lays "WoodliceSenate$Stone" "WoodliceSenate$Text" "fault" "I") ∈ lw_all := lw_g (lw_at lw_m3 67 rfl) rfl
theorem q657 : (Jvm.Cond.superclass "WoodliceSenate$Stone" "WoodliceSenate$Text") ∈ lw_all := lw_g (lw_at lw_m3 69 rfl) rfl
theorem q1195 : (Jvm.Cond.selects "WoodliceSenate$Stone" ({ cls := "WoodliceSenate$Text", name := "length", desc := "()I" } : Jvm.MethodName) ({ cls := "WoodliceSenate$Text", name := "length", desc := "()I" } : Jvm.MethodName)) ∈ lw_all := lw_g (lw_at lw_m5 127 rfl) rfl
theorem q1770 : (Jvm.Cond.selects "WoodliceSenate$Stone" ({ cls := "WoodliceSenate$Text", name := "passes", desc := "(Ljava/lang/String;)I" } : Jvm.MethodName) ({ cls := "WoodliceSenate$Text", name := "passes", desc := "(Ljava/lang/String;)I" } : Jvm.MethodName)) ∈ lw_all := lw_g (lw_at lw_m7 222 rfl) rfl
theorem q1776 : (Jvm.Cond.castable "WoodliceSenate$Stone" "java/lang/Object") ∈ lw_tbl := lw_at lw_m7 228 rfl
theorem in_X2 : ∀ w ∈ wsX20, w ∈ lw_all := lw_in wsX20 [647, 649, 651, 653, 655, 643, 645] (by decide +kernel) (by decide +kernel)

/-! WoodliceSenate$Roll -/
set_option maxRecDepth 100000
def RX3 : String := "WoodliceSenate$Roll"
def TX3 : u_T := fun k => match k with
  | 0 => ("WoodliceSenate$Text", "bytes", "[B", true)
  | 1 => ("WoodliceSenate$Text", "typed", "I", false)
  | 2 => ("WoodliceSenate$Text", "at", "I", false)
  | 3 => ("WoodliceSenate$Text", "fresh", "Z", false)
  | 4 => ("WoodliceSenate$Text", "fault", "I", false)
  | _ => ("WoodliceSenate$Roll", "all", "Ljava/util/ArrayList;", true)
def tyX3 : Nat → FieldType := fun k => match k with
  | 0 => .array .byte
  | 1 => .int
  | 2 => .int
  | 3 => .boolean
  | 4 => .int
  | _ => .object "java/util/ArrayList"
abbrev wsX30 : List Cond := u_ws RX3 TX3 6
theorem nmX3 : ∀ a, a < 6 → ∀ b, b < 6 → a ≠ b → (TX3 a).2.1 ≠ (TX3 b).2.1 := by decide +kernel
theorem tyX3_ok : ∀ k, k < 6 → parseFieldDescriptor (TX3 k).2.2.1 = some (tyX3 k) := by decide +kernel
abbrev cX3_clear : ByteArray := prog_6_method_2_code
def yX3_clear : MethodName := ⟨RX3, "clear", "()V"⟩
def dkwX3_clear_0 : List UInt8 := [42, 180, 0, 14, 182, 0, 20, 177]
abbrev dktX3_clear_0 : List UInt8 := dkwX3_clear_0 ++ []
theorem dksX3_clear_0 : cX3_clear.data.toList.drop 0 = dktX3_clear_0 := by decide +kernel
theorem dX3_clear_0 : decode cX3_clear 0 = .ok (.aload_n 0, 1) := dk_42 (dk_at dksX3_clear_0 0 rfl rfl)
theorem dX3_clear_1 : decode cX3_clear 1 = .ok (.getfield 14, 3) := dk_180 0 14 (dk_at dksX3_clear_0 1 rfl rfl)
theorem dX3_clear_4 : decode cX3_clear 4 = .ok (.invokevirtual 20, 3) := dk_182 0 20 (dk_at dksX3_clear_0 4 rfl rfl)
theorem dX3_clear_7 : decode cX3_clear 7 = .ok (.return_, 1) := dk_177 (dk_at dksX3_clear_0 7 rfl rfl)
abbrev cX3_isFull : ByteArray := prog_6_method_3_code
def yX3_isFull : MethodName := ⟨RX3, "isFull", "()Z"⟩
def dkwX3_isFull_0 : List UInt8 := [42, 180, 0, 14, 182, 0, 23, 16, 8, 160, 0, 7, 4, 167, 0, 4, 3, 172]
abbrev dktX3_isFull_0 : List UInt8 := dkwX3_isFull_0 ++ []
theorem dksX3_isFull_0 : cX3_isFull.data.toList.drop 0 = dktX3_isFull_0 := by decide +kernel
theorem dX3_isFull_0 : decode cX3_isFull 0 = .ok (.aload_n 0, 1) := dk_42 (dk_at dksX3_isFull_0 0 rfl rfl)
theorem dX3_isFull_1 : decode cX3_isFull 1 = .ok (.getfield 14, 3) := dk_180 0 14 (dk_at dksX3_isFull_0 1 rfl rfl)
theorem dX3_isFull_4 : decode cX3_isFull 4 = .ok (.invokevirtual 23, 3) := dk_182 0 23 (dk_at dksX3_isFull_0 4 rfl rfl)
theorem dX3_isFull_7 : decode cX3_isFull 7 = .ok (.bipush 8, 2) := dk_16 8 (dk_at dksX3_isFull_0 7 rfl rfl)
theorem dX3_isFull_9 : decode cX3_isFull 9 = .ok (.if_icmp .ne 7, 3) := dk_160 0 7 (dk_at dksX3_isFull_0 9 rfl rfl)
theorem dX3_isFull_12 : decode cX3_isFull 12 = .ok (.iconst 1, 1) := dk_4 (dk_at dksX3_isFull_0 12 rfl rfl)
theorem dX3_isFull_13 : decode cX3_isFull 13 = .ok (.goto 4, 3) := dk_167 0 4 (dk_at dksX3_isFull_0 13 rfl rfl)
theorem dX3_isFull_16 : decode cX3_isFull 16 = .ok (.iconst 0, 1) := dk_3 (dk_at dksX3_isFull_0 16 rfl rfl)
theorem dX3_isFull_17 : decode cX3_isFull 17 = .ok (.ireturn, 1) := dk_172 (dk_at dksX3_isFull_0 17 rfl rfl)
abbrev cX3_part : ByteArray := prog_6_method_4_code
def yX3_part : MethodName := ⟨RX3, "part", "()V"⟩
def dkwX3_part_2 : List UInt8 := [182, 0, 46, 87, 177]
abbrev dktX3_part_2 : List UInt8 := dkwX3_part_2 ++ []
def dkwX3_part_1 : List UInt8 := [187, 0, 39, 89, 43, 28, 42, 18, 41, 182, 0, 33, 4, 160, 0, 7, 4, 167, 0, 4, 3, 183, 0, 43]
abbrev dktX3_part_1 : List UInt8 := dkwX3_part_1 ++ dktX3_part_2
def dkwX3_part_0 : List UInt8 := [178, 0, 27, 42, 18, 31, 182, 0, 33, 50, 76, 42, 18, 37, 182, 0, 33, 61, 42, 180, 0, 14]
abbrev dktX3_part_0 : List UInt8 := dkwX3_part_0 ++ dktX3_part_1
theorem dksX3_part_0 : cX3_part.data.toList.drop 0 = dktX3_part_0 := by decide +kernel
theorem dksX3_part_1 : cX3_part.data.toList.drop 22 = dktX3_part_1 := dk_seg dksX3_part_0 22 rfl rfl
theorem dksX3_part_2 : cX3_part.data.toList.drop 46 = dktX3_part_2 := dk_seg dksX3_part_1 24 rfl rfl
theorem dX3_part_0 : decode cX3_part 0 = .ok (.getstatic 27, 3) := dk_178 0 27 (dk_at dksX3_part_0 0 rfl rfl)
theorem dX3_part_3 : decode cX3_part 3 = .ok (.aload_n 0, 1) := dk_42 (dk_at dksX3_part_0 3 rfl rfl)
theorem dX3_part_4 : decode cX3_part 4 = .ok (.ldc 31, 2) := dk_18 31 (dk_at dksX3_part_0 4 rfl rfl)
theorem dX3_part_6 : decode cX3_part 6 = .ok (.invokevirtual 33, 3) := dk_182 0 33 (dk_at dksX3_part_0 6 rfl rfl)
theorem dX3_part_9 : decode cX3_part 9 = .ok (.aaload, 1) := dk_50 (dk_at dksX3_part_0 9 rfl rfl)
theorem dX3_part_10 : decode cX3_part 10 = .ok (.astore_n 1, 1) := dk_76 (dk_at dksX3_part_0 10 rfl rfl)
theorem dX3_part_11 : decode cX3_part 11 = .ok (.aload_n 0, 1) := dk_42 (dk_at dksX3_part_0 11 rfl rfl)
theorem dX3_part_12 : decode cX3_part 12 = .ok (.ldc 37, 2) := dk_18 37 (dk_at dksX3_part_0 12 rfl rfl)
theorem dX3_part_14 : decode cX3_part 14 = .ok (.invokevirtual 33, 3) := dk_182 0 33 (dk_at dksX3_part_0 14 rfl rfl)
theorem dX3_part_17 : decode cX3_part 17 = .ok (.istore_n 2, 1) := dk_61 (dk_at dksX3_part_0 17 rfl rfl)
theorem dX3_part_18 : decode cX3_part 18 = .ok (.aload_n 0, 1) := dk_42 (dk_at dksX3_part_0 18 rfl rfl)
theorem dX3_part_19 : decode cX3_part 19 = .ok (.getfield 14, 3) := dk_180 0 14 (dk_at dksX3_part_0 19 rfl rfl)
theorem dX3_part_22 : decode cX3_part 22 = .ok (.new 39, 3) := dk_187 0 39 (dk_at dksX3_part_1 0 rfl rfl)
theorem dX3_part_25 : decode cX3_part 25 = .ok (.dup, 1) := dk_89 (dk_at dksX3_part_1 3 rfl rfl)
theorem dX3_part_26 : decode cX3_part 26 = .ok (.aload_n 1, 1) := dk_43 (dk_at dksX3_part_1 4 rfl rfl)
theorem dX3_part_27 : decode cX3_part 27 = .ok (.iload_n 2, 1) := dk_28 (dk_at dksX3_part_1 5 rfl rfl)
theorem dX3_part_28 : decode cX3_part 28 = .ok (.aload_n 0, 1) := dk_42 (dk_at dksX3_part_1 6 rfl rfl)
theorem dX3_part_29 : decode cX3_part 29 = .ok (.ldc 41, 2) := dk_18 41 (dk_at dksX3_part_1 7 rfl rfl)
theorem dX3_part_31 : decode cX3_part 31 = .ok (.invokevirtual 33, 3) := dk_182 0 33 (dk_at dksX3_part_1 9 rfl rfl)
theorem dX3_part_34 : decode cX3_part 34 = .ok (.iconst 1, 1) := dk_4 (dk_at dksX3_part_1 12 rfl rfl)
theorem dX3_part_35 : decode cX3_part 35 = .ok (.if_icmp .ne 7, 3) := dk_160 0 7 (dk_at dksX3_part_1 13 rfl rfl)
theorem dX3_part_38 : decode cX3_part 38 = .ok (.iconst 1, 1) := dk_4 (dk_at dksX3_part_1 16 rfl rfl)
theorem dX3_part_39 : decode cX3_part 39 = .ok (.goto 4, 3) := dk_167 0 4 (dk_at dksX3_part_1 17 rfl rfl)
theorem dX3_part_42 : decode cX3_part 42 = .ok (.iconst 0, 1) := dk_3 (dk_at dksX3_part_1 20 rfl rfl)
theorem dX3_part_43 : decode cX3_part 43 = .ok (.invokespecial 43, 3) := dk_183 0 43 (dk_at dksX3_part_1 21 rfl rfl)
theorem dX3_part_46 : decode cX3_part 46 = .ok (.invokevirtual 46, 3) := dk_182 0 46 (dk_at dksX3_part_2 0 rfl rfl)
theorem dX3_part_49 : decode cX3_part 49 = .ok (.pop, 1) := dk_87 (dk_at dksX3_part_2 3 rfl rfl)
theorem dX3_part_50 : decode cX3_part 50 = .ok (.return_, 1) := dk_177 (dk_at dksX3_part_2 4 rfl rfl)
abbrev cX3_init : ByteArray := prog_6_method_1_code
def yX3_init : MethodName := ⟨RX3, "<init>", "()V"⟩
def dkwX3_init_0 : List UInt8 := [42, 16, 31, 183, 0, 3, 42, 187, 0, 9, 89, 183, 0, 11, 181, 0, 14, 177]
abbrev dktX3_init_0 : List UInt8 := dkwX3_init_0 ++ []
theorem dksX3_init_0 : cX3_init.data.toList.drop 0 = dktX3_init_0 := by decide +kernel
theorem dX3_init_0 : decode cX3_init 0 = .ok (.aload_n 0, 1) := dk_42 (dk_at dksX3_init_0 0 rfl rfl)
theorem dX3_init_1 : decode cX3_init 1 = .ok (.bipush 31, 2) := dk_16 31 (dk_at dksX3_init_0 1 rfl rfl)
theorem dX3_init_3 : decode cX3_init 3 = .ok (.invokespecial 3, 3) := dk_183 0 3 (dk_at dksX3_init_0 3 rfl rfl)
theorem dX3_init_6 : decode cX3_init 6 = .ok (.aload_n 0, 1) := dk_42 (dk_at dksX3_init_0 6 rfl rfl)
theorem dX3_init_7 : decode cX3_init 7 = .ok (.new 9, 3) := dk_187 0 9 (dk_at dksX3_init_0 7 rfl rfl)
theorem dX3_init_10 : decode cX3_init 10 = .ok (.dup, 1) := dk_89 (dk_at dksX3_init_0 10 rfl rfl)
theorem dX3_init_11 : decode cX3_init 11 = .ok (.invokespecial 11, 3) := dk_183 0 11 (dk_at dksX3_init_0 11 rfl rfl)
theorem dX3_init_14 : decode cX3_init 14 = .ok (.putfield 14, 3) := dk_181 0 14 (dk_at dksX3_init_0 14 rfl rfl)
theorem dX3_init_17 : decode cX3_init 17 = .ok (.return_, 1) := dk_177 (dk_at dksX3_init_0 17 rfl rfl)
theorem q112 : (Jvm.Cond.initialized "WoodliceSenate$Roll") ∈ lw_all := lw_g (lw_at lw_m1 4 rfl) rfl
theorem q157 : (Jvm.Cond.selects "WoodliceSenate$Roll" ({ cls := "WoodliceSenate$Text", name := "type", desc := "(I)I" } : Jvm.MethodName) ({ cls := "WoodliceSenate$Text", name := "type", desc := "(I)I" } : Jvm.MethodName)) ∈ lw_all := lw_g (lw_at lw_m1 49 rfl) rfl
theorem q167 : (Jvm.Cond.selects "WoodliceSenate$Roll" ({ cls := "WoodliceSenate$Text", name := "wipe", desc := "()I" } : Jvm.MethodName) ({ cls := "WoodliceSenate$Text", name := "wipe", desc := "()I" } : Jvm.MethodName)) ∈ lw_all := lw_g (lw_at lw_m1 59 rfl) rfl
theorem q177 : (Jvm.Cond.selects "WoodliceSenate$Roll" ({ cls := "WoodliceSenate$Text", name := "undo", desc := "()I" } : Jvm.MethodName) ({ cls := "WoodliceSenate$Text", name := "undo", desc := "()I" } : Jvm.MethodName)) ∈ lw_all := lw_g (lw_at lw_m1 69 rfl) rfl
theorem q187 : (Jvm.Cond.selects "WoodliceSenate$Roll" ({ cls := "WoodliceSenate$Text", name := "read", desc := "()I" } : Jvm.MethodName) ({ cls := "WoodliceSenate$Text", name := "read", desc := "()I" } : Jvm.MethodName)) ∈ lw_all := lw_g (lw_at lw_m1 79 rfl) rfl
theorem q198 : (Jvm.Cond.selects "WoodliceSenate$Roll" ({ cls := "WoodliceSenate$Text", name := "clear", desc := "()V" } : Jvm.MethodName) ({ cls := "WoodliceSenate$Roll", name := "clear", desc := "()V" } : Jvm.MethodName)) ∈ lw_all := lw_g (lw_at lw_m1 90 rfl) rfl
theorem q199 : (Jvm.Cond.instanceMethod ({ cls := "WoodliceSenate$Roll", name := "clear", desc := "()V" } : Jvm.MethodName)) ∈ lw_all := lw_g (lw_at lw_m1 91 rfl) rfl
theorem q200 : (Jvm.Cond.code ({ cls := "WoodliceSenate$Roll", name := "clear", desc := "()V" } : Jvm.MethodName) prog_6_method_2_code (1 : Nat) (Option.none : Option Jvm.ClassFile.FieldType)) ∈ lw_all := lw_g (lw_at lw_m1 92 rfl) rfl
theorem q201 : (Jvm.Cond.methodLink "WoodliceSenate$Roll" (20 : Nat) ({ cls := "java/util/ArrayList", name := "clear", desc := "()V" } : Jvm.MethodName)) ∈ lw_all := lw_g (lw_at lw_m1 93 rfl) rfl
theorem q218 : (Jvm.Cond.selects "WoodliceSenate$Roll" ({ cls := "WoodliceSenate$Text", name := "isFull", desc := "()Z" } : Jvm.MethodName) ({ cls := "WoodliceSenate$Roll", name := "isFull", desc := "()Z" } : Jvm.MethodName)) ∈ lw_all := lw_g (lw_at lw_m1 110 rfl) rfl
theorem q219 : (Jvm.Cond.instanceMethod ({ cls := "WoodliceSenate$Roll", name := "isFull", desc := "()Z" } : Jvm.MethodName)) ∈ lw_all := lw_g (lw_at lw_m1 111 rfl) rfl
theorem q220 : (Jvm.Cond.code ({ cls := "WoodliceSenate$Roll", name := "isFull", desc := "()Z" } : Jvm.MethodName) prog_6_method_3_code (1 : Nat) (Option.some Jvm.ClassFile.FieldType.boolean)) ∈ lw_all := lw_g (lw_at lw_m1 112 rfl) rfl
theorem q221 : (Jvm.Cond.methodLink "WoodliceSenate$Roll" (23 : Nat) ({ cls := "java/util/ArrayList", name := "size", desc := "()I" } : Jvm.MethodName)) ∈ lw_all := lw_g (lw_at lw_m1 113 rfl) rfl
theorem q298 : (Jvm.Cond.selects "WoodliceSenate$Roll" ({ cls := "WoodliceSenate$Text", name := "part", desc := "()V" } : Jvm.MethodName) ({ cls := "WoodliceSenate$Roll", name := "part", desc := "()V" } : Jvm.MethodName)) ∈ lw_all := lw_g (lw_at lw_m1 190 rfl) rfl
theorem q299 : (Jvm.Cond.instanceMethod ({ cls := "WoodliceSenate$Roll", name := "part", desc := "()V" } : Jvm.MethodName)) ∈ lw_all := lw_g (lw_at lw_m1 191 rfl) rfl
theorem q300 : (Jvm.Cond.code ({ cls := "WoodliceSenate$Roll", name := "part", desc := "()V" } : Jvm.MethodName) prog_6_method_4_code (3 : Nat) (Option.none : Option Jvm.ClassFile.FieldType)) ∈ lw_all := lw_g (lw_at lw_m1 192 rfl) rfl
theorem q301 : (Jvm.Cond.fieldLinkNest "WoodliceSenate$Roll" (27 : Nat) "WoodliceSenate" "SORT" "[LWoodliceSenate$Sort;" "WoodliceSenate") ∈ lw_tbl := lw_at lw_m1 193 rfl
theorem q303 : (Jvm.Cond.stringRef "WoodliceSenate$Roll" (31 : Nat) "pgo") ∈ lw_tbl := lw_at lw_m1 195 rfl
theorem q304 : (Jvm.Cond.methodLink "WoodliceSenate$Roll" (33 : Nat) ({ cls := "WoodliceSenate$Roll", name := "passes", desc := "(Ljava/lang/String;)I" } : Jvm.MethodName)) ∈ lw_all := lw_g (lw_at lw_m1 196 rfl) rfl
theorem q305 : (Jvm.Cond.sameMethod "WoodliceSenate$Roll" "WoodliceSenate$Text" "passes" "(Ljava/lang/String;)I") ∈ lw_all := lw_g (lw_at lw_m1 197 rfl) rfl
theorem q307 : (Jvm.Cond.selects "WoodliceSenate$Roll" ({ cls := "WoodliceSenate$Roll", name := "passes", desc := "(Ljava/lang/String;)I" } : Jvm.MethodName) ({ cls := "WoodliceSenate$Text", name := "passes", desc := "(Ljava/lang/String;)I" } : Jvm.MethodName)) ∈ lw_all := lw_g (lw_at lw_m1 199 rfl) rfl
theorem q396 : (Jvm.Cond.stringRef "WoodliceSenate$Roll" (37 : Nat) "abcdefghijkl") ∈ lw_tbl := lw_at lw_m2 48 rfl
theorem q397 : (Jvm.Cond.classLink "WoodliceSenate$Roll" (39 : Nat) "WoodliceSenate$Member") ∈ lw_all := lw_g (lw_at lw_m2 49 rfl) rfl
theorem q399 : (Jvm.Cond.stringRef "WoodliceSenate$Roll" (41 : Nat) "du") ∈ lw_tbl := lw_at lw_m2 51 rfl
theorem q400 : (Jvm.Cond.methodLink "WoodliceSenate$Roll" (43 : Nat) ({ cls := "WoodliceSenate$Member", name := "<init>", desc := "(LWoodliceSenate$Sort;IZ)V" } : Jvm.MethodName)) ∈ lw_all := lw_g (lw_at lw_m2 52 rfl) rfl
theorem q419 : (Jvm.Cond.methodLink "WoodliceSenate$Roll" (46 : Nat) ({ cls := "java/util/ArrayList", name := "add", desc := "(Ljava/lang/Object;)Z" } : Jvm.MethodName)) ∈ lw_all := lw_g (lw_at lw_m2 71 rfl) rfl
theorem q457 : (Jvm.Cond.selects "WoodliceSenate$Roll" ({ cls := "java/lang/Object", name := "getClass", desc := "()Ljava/lang/Class;" } : Jvm.MethodName) ({ cls := "java/lang/Object", name := "getClass", desc := "()Ljava/lang/Class;" } : Jvm.MethodName)) ∈ lw_all := lw_g (lw_at lw_m2 109 rfl) rfl
theorem q490 : (Jvm.Cond.selects "WoodliceSenate$Roll" ({ cls := "WoodliceSenate$Text", name := "between", desc := "()V" } : Jvm.MethodName) ({ cls := "WoodliceSenate$Text", name := "between", desc := "()V" } : Jvm.MethodName)) ∈ lw_all := lw_g (lw_at lw_m2 142 rfl) rfl
theorem q526 : (Jvm.Cond.sameMethod "WoodliceSenate$Roll" "WoodliceSenate$Text" "read" "()I") ∈ lw_all := lw_g (lw_at lw_m2 178 rfl) rfl
theorem q527 : (Jvm.Cond.selects "WoodliceSenate$Roll" ({ cls := "WoodliceSenate$Roll", name := "read", desc := "()I" } : Jvm.MethodName) ({ cls := "WoodliceSenate$Text", name := "read", desc := "()I" } : Jvm.MethodName)) ∈ lw_all := lw_g (lw_at lw_m2 179 rfl) rfl
theorem q659 : (Jvm.Cond.instantiable "WoodliceSenate$Roll" (6 : Nat)) ∈ lw_all := lw_g (lw_at lw_m3 71 rfl) rfl
theorem q661 : (Jvm.Cond.instanceMethod ({ cls := "WoodliceSenate$Roll", name := "<init>", desc := "()V" } : Jvm.MethodName)) ∈ lw_all := lw_g (lw_at lw_m3 73 rfl) rfl
theorem q662 : (Jvm.Cond.code ({ cls := "WoodliceSenate$Roll", name := "<init>", desc := "()V" } : Jvm.MethodName) prog_6_method_1_code (1 : Nat) (Option.none : Option Jvm.ClassFile.FieldType)) ∈ lw_all := lw_g (lw_at lw_m3 74 rfl) rfl
theorem q663 : (Jvm.Cond.methodLink "WoodliceSenate$Roll" (3 : Nat) ({ cls := "WoodliceSenate$Text", name := "<init>", desc := "(I)V" } : Jvm.MethodName)) ∈ lw_all := lw_g (lw_at lw_m3 75 rfl) rfl
theorem q664 : (Jvm.Cond.classLink "WoodliceSenate$Roll" (9 : Nat) "java/util/ArrayList") ∈ lw_all := lw_g (lw_at lw_m3 76 rfl) rfl
theorem q665 : (Jvm.Cond.methodLink "WoodliceSenate$Roll" (11 : Nat) ({ cls := "java/util/ArrayList", name := "<init>", desc := "()V" } : Jvm.MethodName)) ∈ lw_all := lw_g (lw_at lw_m3 77 rfl) rfl
theorem q687 : (Jvm.Cond.fieldLink "WoodliceSenate$Roll" (14 : Nat) "WoodliceSenate$Roll" "all" "Ljava/util/ArrayList;") ∈ lw_all := lw_g (lw_at lw_m3 99 rfl) rfl
theorem q689 : (Jvm.Cond.laysFinal "WoodliceSenate$Roll" "WoodliceSenate$Roll" "all" "Ljava/util/ArrayList;") ∈ lw_all := lw_g (lw_at lw_m3 101 rfl) rfl
theorem q690 : (Jvm.Cond.soleField "WoodliceSenate$Roll" "all") ∈ lw_all := lw_g (lw_at lw_m3 102 rfl) rfl
theorem q691 : (Jvm.Cond.laysFinal "WoodliceSenate$Roll" "WoodliceSenate$Text" "bytes" "[B") ∈ lw_all := lw_g (lw_at lw_m3 103 rfl) rfl
theorem q692 : (Jvm.Cond.lays "WoodliceSenate$Roll" "WoodliceSenate$Text" "typed" "I") ∈ lw_all := lw_g (lw_at lw_m3 104 rfl) rfl
theorem q693 : (Jvm.Cond.lays "WoodliceSenate$Roll" "WoodliceSenate$Text" "at" "I") ∈ lw_all := lw_g (lw_at lw_m3 105 rfl) rfl
theorem q694 : (Jvm.Cond.lays "WoodliceSenate$Roll" "WoodliceSenate$Text" "fresh" "Z") ∈ lw_all := lw_g (lw_at lw_m3 106 rfl) rfl
theorem q695 : (Jvm.Cond.lays "WoodliceSenate$Roll" "WoodliceSenate$Text" "fault" "I") ∈ lw_all := lw_g (lw_at lw_m3 107 rfl) rfl
theorem q696 : (Jvm.Cond.superclass "WoodliceSenate$Roll" "WoodliceSenate$Text") ∈ lw_all := lw_g (lw_at lw_m3 108 rfl) rfl
theorem q1194 : (Jvm.Cond.selects "WoodliceSenate$Roll" ({ cls := "WoodliceSenate$Text", name := "length", desc := "()I" } : Jvm.MethodName) ({ cls := "WoodliceSenate$Text", name := "length", desc := "()I" } : Jvm.MethodName)) ∈ lw_all := lw_g (lw_at lw_m5 126 rfl) rfl
theorem q1769 : (Jvm.Cond.selects "WoodliceSenate$Roll" ({ cls := "WoodliceSenate$Text", name := "passes", desc := "(Ljava/lang/String;)I" } : Jvm.MethodName) ({ cls := "WoodliceSenate$Text", name := "passes", desc := "(Ljava/lang/String;)I" } : Jvm.MethodName)) ∈ lw_all := lw_g (lw_at lw_m7 221 rfl) rfl
theorem q1777 : (Jvm.Cond.castable "WoodliceSenate$Roll" "java/lang/Object") ∈ lw_tbl := lw_at lw_m7 229 rfl
theorem in_X3 : ∀ w ∈ wsX30, w ∈ lw_all := lw_in wsX30 [691, 692, 693, 694, 695, 689] (by decide +kernel) (by decide +kernel)

/-! WoodliceSenate$Louse -/
set_option maxRecDepth 100000
def RX4 : String := "WoodliceSenate$Louse"
def TX4 : u_T := fun k => match k with
  | 0 => ("WoodliceSenate$Louse", "place", "I", false)
  | 1 => ("WoodliceSenate$Louse", "upright", "Z", false)
  | 2 => ("WoodliceSenate$Louse", "till", "I", false)
  | 3 => ("WoodliceSenate$Louse", "rolled", "Z", false)
  | 4 => ("WoodliceSenate$Louse", "speeches", "I", false)
  | _ => ("WoodliceSenate$Louse", "went", "Z", false)
def tyX4 : Nat → FieldType := fun k => match k with
  | 0 => .int
  | 1 => .boolean
  | 2 => .int
  | 3 => .boolean
  | 4 => .int
  | _ => .boolean
abbrev wsX40 : List Cond := u_ws RX4 TX4 6
theorem nmX4 : ∀ a, a < 6 → ∀ b, b < 6 → a ≠ b → (TX4 a).2.1 ≠ (TX4 b).2.1 := by decide +kernel
theorem tyX4_ok : ∀ k, k < 6 → parseFieldDescriptor (TX4 k).2.2.1 = some (tyX4 k) := by decide +kernel
abbrev cX4_init : ByteArray := prog_2_method_1_code
def yX4_init : MethodName := ⟨RX4, "<init>", "()V"⟩
theorem dX4_init_0 : decode cX4_init 0 = .ok (.aload_n 0, 1) := by decide +kernel
theorem dX4_init_1 : decode cX4_init 1 = .ok (.invokespecial 3, 3) := by decide +kernel
theorem dX4_init_4 : decode cX4_init 4 = .ok (.return_, 1) := by decide +kernel
abbrev cX4_begins : ByteArray := prog_2_method_2_code
def yX4_begins : MethodName := ⟨RX4, "begins", "(LWoodliceSenate$Member;)V"⟩
def dkwX4_begins_1 : List UInt8 := [181, 0, 26, 42, 3, 181, 0, 29, 42, 3, 181, 0, 32, 177]
abbrev dktX4_begins_1 : List UInt8 := dkwX4_begins_1 ++ []
def dkwX4_begins_0 : List UInt8 := [42, 43, 180, 0, 9, 181, 0, 15, 42, 43, 180, 0, 18, 181, 0, 22, 42, 2, 181, 0, 23, 42, 3]
abbrev dktX4_begins_0 : List UInt8 := dkwX4_begins_0 ++ dktX4_begins_1
theorem dksX4_begins_0 : cX4_begins.data.toList.drop 0 = dktX4_begins_0 := by decide +kernel
theorem dksX4_begins_1 : cX4_begins.data.toList.drop 23 = dktX4_begins_1 := dk_seg dksX4_begins_0 23 rfl rfl
theorem dX4_begins_0 : decode cX4_begins 0 = .ok (.aload_n 0, 1) := dk_42 (dk_at dksX4_begins_0 0 rfl rfl)
theorem dX4_begins_1 : decode cX4_begins 1 = .ok (.aload_n 1, 1) := dk_43 (dk_at dksX4_begins_0 1 rfl rfl)
theorem dX4_begins_2 : decode cX4_begins 2 = .ok (.getfield 9, 3) := dk_180 0 9 (dk_at dksX4_begins_0 2 rfl rfl)
theorem dX4_begins_5 : decode cX4_begins 5 = .ok (.putfield 15, 3) := dk_181 0 15 (dk_at dksX4_begins_0 5 rfl rfl)
theorem dX4_begins_8 : decode cX4_begins 8 = .ok (.aload_n 0, 1) := dk_42 (dk_at dksX4_begins_0 8 rfl rfl)
theorem dX4_begins_9 : decode cX4_begins 9 = .ok (.aload_n 1, 1) := dk_43 (dk_at dksX4_begins_0 9 rfl rfl)
theorem dX4_begins_10 : decode cX4_begins 10 = .ok (.getfield 18, 3) := dk_180 0 18 (dk_at dksX4_begins_0 10 rfl rfl)
theorem dX4_begins_13 : decode cX4_begins 13 = .ok (.putfield 22, 3) := dk_181 0 22 (dk_at dksX4_begins_0 13 rfl rfl)
theorem dX4_begins_16 : decode cX4_begins 16 = .ok (.aload_n 0, 1) := dk_42 (dk_at dksX4_begins_0 16 rfl rfl)
theorem dX4_begins_17 : decode cX4_begins 17 = .ok (.iconst (-1), 1) := dk_2 (dk_at dksX4_begins_0 17 rfl rfl)
theorem dX4_begins_18 : decode cX4_begins 18 = .ok (.putfield 23, 3) := dk_181 0 23 (dk_at dksX4_begins_0 18 rfl rfl)
theorem dX4_begins_21 : decode cX4_begins 21 = .ok (.aload_n 0, 1) := dk_42 (dk_at dksX4_begins_0 21 rfl rfl)
theorem dX4_begins_22 : decode cX4_begins 22 = .ok (.iconst 0, 1) := dk_3 (dk_at dksX4_begins_0 22 rfl rfl)
theorem dX4_begins_23 : decode cX4_begins 23 = .ok (.putfield 26, 3) := dk_181 0 26 (dk_at dksX4_begins_1 0 rfl rfl)
theorem dX4_begins_26 : decode cX4_begins 26 = .ok (.aload_n 0, 1) := dk_42 (dk_at dksX4_begins_1 3 rfl rfl)
theorem dX4_begins_27 : decode cX4_begins 27 = .ok (.iconst 0, 1) := dk_3 (dk_at dksX4_begins_1 4 rfl rfl)
theorem dX4_begins_28 : decode cX4_begins 28 = .ok (.putfield 29, 3) := dk_181 0 29 (dk_at dksX4_begins_1 5 rfl rfl)
theorem dX4_begins_31 : decode cX4_begins 31 = .ok (.aload_n 0, 1) := dk_42 (dk_at dksX4_begins_1 8 rfl rfl)
theorem dX4_begins_32 : decode cX4_begins 32 = .ok (.iconst 0, 1) := dk_3 (dk_at dksX4_begins_1 9 rfl rfl)
theorem dX4_begins_33 : decode cX4_begins 33 = .ok (.putfield 32, 3) := dk_181 0 32 (dk_at dksX4_begins_1 10 rfl rfl)
theorem dX4_begins_36 : decode cX4_begins 36 = .ok (.return_, 1) := dk_177 (dk_at dksX4_begins_1 13 rfl rfl)
abbrev cX4_copies : ByteArray := prog_2_method_3_code
def yX4_copies : MethodName := ⟨RX4, "copies", "(LWoodliceSenate$Louse;)V"⟩
def dkwX4_copies_2 : List UInt8 := [177]
abbrev dktX4_copies_2 : List UInt8 := dkwX4_copies_2 ++ []
def dkwX4_copies_1 : List UInt8 := [42, 43, 180, 0, 26, 181, 0, 26, 42, 43, 180, 0, 29, 181, 0, 29, 42, 43, 180, 0, 32, 181, 0, 32]
abbrev dktX4_copies_1 : List UInt8 := dkwX4_copies_1 ++ dktX4_copies_2
def dkwX4_copies_0 : List UInt8 := [42, 43, 180, 0, 15, 181, 0, 15, 42, 43, 180, 0, 22, 181, 0, 22, 42, 43, 180, 0, 23, 181, 0, 23]
abbrev dktX4_copies_0 : List UInt8 := dkwX4_copies_0 ++ dktX4_copies_1
theorem dksX4_copies_0 : cX4_copies.data.toList.drop 0 = dktX4_copies_0 := by decide +kernel
theorem dksX4_copies_1 : cX4_copies.data.toList.drop 24 = dktX4_copies_1 := dk_seg dksX4_copies_0 24 rfl rfl
theorem dksX4_copies_2 : cX4_copies.data.toList.drop 48 = dktX4_copies_2 := dk_seg dksX4_copies_1 24 rfl rfl
theorem dX4_copies_0 : decode cX4_copies 0 = .ok (.aload_n 0, 1) := dk_42 (dk_at dksX4_copies_0 0 rfl rfl)
theorem dX4_copies_1 : decode cX4_copies 1 = .ok (.aload_n 1, 1) := dk_43 (dk_at dksX4_copies_0 1 rfl rfl)
theorem dX4_copies_2 : decode cX4_copies 2 = .ok (.getfield 15, 3) := dk_180 0 15 (dk_at dksX4_copies_0 2 rfl rfl)
theorem dX4_copies_5 : decode cX4_copies 5 = .ok (.putfield 15, 3) := dk_181 0 15 (dk_at dksX4_copies_0 5 rfl rfl)
theorem dX4_copies_8 : decode cX4_copies 8 = .ok (.aload_n 0, 1) := dk_42 (dk_at dksX4_copies_0 8 rfl rfl)
theorem dX4_copies_9 : decode cX4_copies 9 = .ok (.aload_n 1, 1) := dk_43 (dk_at dksX4_copies_0 9 rfl rfl)
theorem dX4_copies_10 : decode cX4_copies 10 = .ok (.getfield 22, 3) := dk_180 0 22 (dk_at dksX4_copies_0 10 rfl rfl)
theorem dX4_copies_13 : decode cX4_copies 13 = .ok (.putfield 22, 3) := dk_181 0 22 (dk_at dksX4_copies_0 13 rfl rfl)
theorem dX4_copies_16 : decode cX4_copies 16 = .ok (.aload_n 0, 1) := dk_42 (dk_at dksX4_copies_0 16 rfl rfl)
theorem dX4_copies_17 : decode cX4_copies 17 = .ok (.aload_n 1, 1) := dk_43 (dk_at dksX4_copies_0 17 rfl rfl)
theorem dX4_copies_18 : decode cX4_copies 18 = .ok (.getfield 23, 3) := dk_180 0 23 (dk_at dksX4_copies_0 18 rfl rfl)
theorem dX4_copies_21 : decode cX4_copies 21 = .ok (.putfield 23, 3) := dk_181 0 23 (dk_at dksX4_copies_0 21 rfl rfl)
theorem dX4_copies_24 : decode cX4_copies 24 = .ok (.aload_n 0, 1) := dk_42 (dk_at dksX4_copies_1 0 rfl rfl)
theorem dX4_copies_25 : decode cX4_copies 25 = .ok (.aload_n 1, 1) := dk_43 (dk_at dksX4_copies_1 1 rfl rfl)
theorem dX4_copies_26 : decode cX4_copies 26 = .ok (.getfield 26, 3) := dk_180 0 26 (dk_at dksX4_copies_1 2 rfl rfl)
theorem dX4_copies_29 : decode cX4_copies 29 = .ok (.putfield 26, 3) := dk_181 0 26 (dk_at dksX4_copies_1 5 rfl rfl)
theorem dX4_copies_32 : decode cX4_copies 32 = .ok (.aload_n 0, 1) := dk_42 (dk_at dksX4_copies_1 8 rfl rfl)
theorem dX4_copies_33 : decode cX4_copies 33 = .ok (.aload_n 1, 1) := dk_43 (dk_at dksX4_copies_1 9 rfl rfl)
theorem dX4_copies_34 : decode cX4_copies 34 = .ok (.getfield 29, 3) := dk_180 0 29 (dk_at dksX4_copies_1 10 rfl rfl)
theorem dX4_copies_37 : decode cX4_copies 37 = .ok (.putfield 29, 3) := dk_181 0 29 (dk_at dksX4_copies_1 13 rfl rfl)
theorem dX4_copies_40 : decode cX4_copies 40 = .ok (.aload_n 0, 1) := dk_42 (dk_at dksX4_copies_1 16 rfl rfl)
theorem dX4_copies_41 : decode cX4_copies 41 = .ok (.aload_n 1, 1) := dk_43 (dk_at dksX4_copies_1 17 rfl rfl)
theorem dX4_copies_42 : decode cX4_copies 42 = .ok (.getfield 32, 3) := dk_180 0 32 (dk_at dksX4_copies_1 18 rfl rfl)
theorem dX4_copies_45 : decode cX4_copies 45 = .ok (.putfield 32, 3) := dk_181 0 32 (dk_at dksX4_copies_1 21 rfl rfl)
theorem dX4_copies_48 : decode cX4_copies 48 = .ok (.return_, 1) := dk_177 (dk_at dksX4_copies_2 0 rfl rfl)
abbrev cX4_by : ByteArray := prog_2_method_4_code
def yX4_by : MethodName := ⟨RX4, "by", "(I)I"⟩
def dkwX4_by_3 : List UInt8 := [153, 0, 7, 4, 167, 0, 4, 3, 172, 42, 180, 0, 29, 172]
abbrev dktX4_by_3 : List UInt8 := dkwX4_by_3 ++ []
def dkwX4_by_2 : List UInt8 := [42, 180, 0, 15, 172, 42, 180, 0, 22, 153, 0, 7, 4, 167, 0, 4, 3, 172, 42, 180, 0, 26]
abbrev dktX4_by_2 : List UInt8 := dkwX4_by_2 ++ dktX4_by_3
def dkwX4_by_1 : List UInt8 := [170, 0, 0, 0, 0, 0, 58, 0, 0, 0, 0, 0, 0, 0, 2, 0, 0, 0, 27, 0, 0, 0, 32, 0, 0, 0, 45]
abbrev dktX4_by_1 : List UInt8 := dkwX4_by_1 ++ dktX4_by_2
def dkwX4_by_0 : List UInt8 := [27]
abbrev dktX4_by_0 : List UInt8 := dkwX4_by_0 ++ dktX4_by_1
theorem dksX4_by_0 : cX4_by.data.toList.drop 0 = dktX4_by_0 := by decide +kernel
theorem dksX4_by_1 : cX4_by.data.toList.drop 1 = dktX4_by_1 := dk_seg dksX4_by_0 1 rfl rfl
theorem dksX4_by_2 : cX4_by.data.toList.drop 28 = dktX4_by_2 := dk_seg dksX4_by_1 27 rfl rfl
theorem dksX4_by_3 : cX4_by.data.toList.drop 50 = dktX4_by_3 := dk_seg dksX4_by_2 22 rfl rfl
theorem dX4_by_0 : decode cX4_by 0 = .ok (.iload_n 1, 1) := dk_27 (dk_at dksX4_by_0 0 rfl rfl)
theorem dX4_by_1 : decode cX4_by 1 = .ok (.tableswitch 58 0 2 #[27, 32, 45], 27) := by decide +kernel
theorem dX4_by_28 : decode cX4_by 28 = .ok (.aload_n 0, 1) := dk_42 (dk_at dksX4_by_2 0 rfl rfl)
theorem dX4_by_29 : decode cX4_by 29 = .ok (.getfield 15, 3) := dk_180 0 15 (dk_at dksX4_by_2 1 rfl rfl)
theorem dX4_by_32 : decode cX4_by 32 = .ok (.ireturn, 1) := dk_172 (dk_at dksX4_by_2 4 rfl rfl)
theorem dX4_by_33 : decode cX4_by 33 = .ok (.aload_n 0, 1) := dk_42 (dk_at dksX4_by_2 5 rfl rfl)
theorem dX4_by_34 : decode cX4_by 34 = .ok (.getfield 22, 3) := dk_180 0 22 (dk_at dksX4_by_2 6 rfl rfl)
theorem dX4_by_37 : decode cX4_by 37 = .ok (.ifCond .eq 7, 3) := dk_153 0 7 (dk_at dksX4_by_2 9 rfl rfl)
theorem dX4_by_40 : decode cX4_by 40 = .ok (.iconst 1, 1) := dk_4 (dk_at dksX4_by_2 12 rfl rfl)
theorem dX4_by_41 : decode cX4_by 41 = .ok (.goto 4, 3) := dk_167 0 4 (dk_at dksX4_by_2 13 rfl rfl)
theorem dX4_by_44 : decode cX4_by 44 = .ok (.iconst 0, 1) := dk_3 (dk_at dksX4_by_2 16 rfl rfl)
theorem dX4_by_45 : decode cX4_by 45 = .ok (.ireturn, 1) := dk_172 (dk_at dksX4_by_2 17 rfl rfl)
theorem dX4_by_46 : decode cX4_by 46 = .ok (.aload_n 0, 1) := dk_42 (dk_at dksX4_by_2 18 rfl rfl)
theorem dX4_by_47 : decode cX4_by 47 = .ok (.getfield 26, 3) := dk_180 0 26 (dk_at dksX4_by_2 19 rfl rfl)
theorem dX4_by_50 : decode cX4_by 50 = .ok (.ifCond .eq 7, 3) := dk_153 0 7 (dk_at dksX4_by_3 0 rfl rfl)
theorem dX4_by_53 : decode cX4_by 53 = .ok (.iconst 1, 1) := dk_4 (dk_at dksX4_by_3 3 rfl rfl)
theorem dX4_by_54 : decode cX4_by 54 = .ok (.goto 4, 3) := dk_167 0 4 (dk_at dksX4_by_3 4 rfl rfl)
theorem dX4_by_57 : decode cX4_by 57 = .ok (.iconst 0, 1) := dk_3 (dk_at dksX4_by_3 7 rfl rfl)
theorem dX4_by_58 : decode cX4_by 58 = .ok (.ireturn, 1) := dk_172 (dk_at dksX4_by_3 8 rfl rfl)
theorem dX4_by_59 : decode cX4_by 59 = .ok (.aload_n 0, 1) := dk_42 (dk_at dksX4_by_3 9 rfl rfl)
theorem dX4_by_60 : decode cX4_by 60 = .ok (.getfield 29, 3) := dk_180 0 29 (dk_at dksX4_by_3 10 rfl rfl)
theorem dX4_by_63 : decode cX4_by 63 = .ok (.ireturn, 1) := dk_172 (dk_at dksX4_by_3 13 rfl rfl)
theorem q116 : (Jvm.Cond.initialized "WoodliceSenate$Louse") ∈ lw_all := lw_g (lw_at lw_m1 8 rfl) rfl
theorem q407 : (Jvm.Cond.fieldLinkNest "WoodliceSenate$Louse" (9 : Nat) "WoodliceSenate$Member" "place" "I" "WoodliceSenate") ∈ lw_tbl := lw_at lw_m2 59 rfl
theorem q410 : (Jvm.Cond.fieldLinkNest "WoodliceSenate$Louse" (18 : Nat) "WoodliceSenate$Member" "upright" "Z" "WoodliceSenate") ∈ lw_tbl := lw_at lw_m2 62 rfl
theorem q453 : (Jvm.Cond.selects "WoodliceSenate$Louse" ({ cls := "java/lang/Object", name := "getClass", desc := "()Ljava/lang/Class;" } : Jvm.MethodName) ({ cls := "java/lang/Object", name := "getClass", desc := "()Ljava/lang/Class;" } : Jvm.MethodName)) ∈ lw_all := lw_g (lw_at lw_m2 105 rfl) rfl
theorem q704 : (Jvm.Cond.instantiable "WoodliceSenate$Louse" (6 : Nat)) ∈ lw_all := lw_g (lw_at lw_m3 116 rfl) rfl
theorem q706 : (Jvm.Cond.instanceMethod ({ cls := "WoodliceSenate$Louse", name := "<init>", desc := "()V" } : Jvm.MethodName)) ∈ lw_all := lw_g (lw_at lw_m3 118 rfl) rfl
theorem q707 : (Jvm.Cond.code ({ cls := "WoodliceSenate$Louse", name := "<init>", desc := "()V" } : Jvm.MethodName) prog_2_method_1_code (1 : Nat) (Option.none : Option Jvm.ClassFile.FieldType)) ∈ lw_all := lw_g (lw_at lw_m3 119 rfl) rfl
theorem q708 : (Jvm.Cond.methodLink "WoodliceSenate$Louse" (3 : Nat) ({ cls := "java/lang/Object", name := "<init>", desc := "()V" } : Jvm.MethodName)) ∈ lw_all := lw_g (lw_at lw_m3 120 rfl) rfl
theorem q709 : (Jvm.Cond.fieldLink "WoodliceSenate$Louse" (15 : Nat) "WoodliceSenate$Louse" "place" "I") ∈ lw_all := lw_g (lw_at lw_m3 121 rfl) rfl
theorem q711 : (Jvm.Cond.fieldLink "WoodliceSenate$Louse" (22 : Nat) "WoodliceSenate$Louse" "upright" "Z") ∈ lw_all := lw_g (lw_at lw_m3 123 rfl) rfl
theorem q713 : (Jvm.Cond.fieldLink "WoodliceSenate$Louse" (23 : Nat) "WoodliceSenate$Louse" "till" "I") ∈ lw_all := lw_g (lw_at lw_m3 125 rfl) rfl
theorem q715 : (Jvm.Cond.fieldLink "WoodliceSenate$Louse" (26 : Nat) "WoodliceSenate$Louse" "rolled" "Z") ∈ lw_all := lw_g (lw_at lw_m3 127 rfl) rfl
theorem q717 : (Jvm.Cond.fieldLink "WoodliceSenate$Louse" (29 : Nat) "WoodliceSenate$Louse" "speeches" "I") ∈ lw_all := lw_g (lw_at lw_m3 129 rfl) rfl
theorem q719 : (Jvm.Cond.fieldLink "WoodliceSenate$Louse" (32 : Nat) "WoodliceSenate$Louse" "went" "Z") ∈ lw_all := lw_g (lw_at lw_m3 131 rfl) rfl
theorem q721 : (Jvm.Cond.lays "WoodliceSenate$Louse" "WoodliceSenate$Louse" "place" "I") ∈ lw_all := lw_g (lw_at lw_m3 133 rfl) rfl
theorem q722 : (Jvm.Cond.soleField "WoodliceSenate$Louse" "place") ∈ lw_all := lw_g (lw_at lw_m3 134 rfl) rfl
theorem q723 : (Jvm.Cond.lays "WoodliceSenate$Louse" "WoodliceSenate$Louse" "upright" "Z") ∈ lw_all := lw_g (lw_at lw_m3 135 rfl) rfl
theorem q724 : (Jvm.Cond.soleField "WoodliceSenate$Louse" "upright") ∈ lw_all := lw_g (lw_at lw_m3 136 rfl) rfl
theorem q725 : (Jvm.Cond.lays "WoodliceSenate$Louse" "WoodliceSenate$Louse" "till" "I") ∈ lw_all := lw_g (lw_at lw_m3 137 rfl) rfl
theorem q726 : (Jvm.Cond.soleField "WoodliceSenate$Louse" "till") ∈ lw_all := lw_g (lw_at lw_m3 138 rfl) rfl
theorem q727 : (Jvm.Cond.lays "WoodliceSenate$Louse" "WoodliceSenate$Louse" "rolled" "Z") ∈ lw_all := lw_g (lw_at lw_m3 139 rfl) rfl
theorem q728 : (Jvm.Cond.soleField "WoodliceSenate$Louse" "rolled") ∈ lw_all := lw_g (lw_at lw_m3 140 rfl) rfl
theorem q729 : (Jvm.Cond.lays "WoodliceSenate$Louse" "WoodliceSenate$Louse" "speeches" "I") ∈ lw_all := lw_g (lw_at lw_m3 141 rfl) rfl
theorem q730 : (Jvm.Cond.soleField "WoodliceSenate$Louse" "speeches") ∈ lw_all := lw_g (lw_at lw_m3 142 rfl) rfl
theorem q731 : (Jvm.Cond.lays "WoodliceSenate$Louse" "WoodliceSenate$Louse" "went" "Z") ∈ lw_all := lw_g (lw_at lw_m3 143 rfl) rfl
theorem q732 : (Jvm.Cond.soleField "WoodliceSenate$Louse" "went") ∈ lw_all := lw_g (lw_at lw_m3 144 rfl) rfl
theorem q733 : (Jvm.Cond.superclass "WoodliceSenate$Louse" "java/lang/Object") ∈ lw_all := lw_g (lw_at lw_m3 145 rfl) rfl
theorem q815 : (Jvm.Cond.instanceMethod ({ cls := "WoodliceSenate$Louse", name := "begins", desc := "(LWoodliceSenate$Member;)V" } : Jvm.MethodName)) ∈ lw_all := lw_g (lw_at lw_m3 227 rfl) rfl
theorem q816 : (Jvm.Cond.selects "WoodliceSenate$Louse" ({ cls := "WoodliceSenate$Louse", name := "begins", desc := "(LWoodliceSenate$Member;)V" } : Jvm.MethodName) ({ cls := "WoodliceSenate$Louse", name := "begins", desc := "(LWoodliceSenate$Member;)V" } : Jvm.MethodName)) ∈ lw_all := lw_g (lw_at lw_m3 228 rfl) rfl
theorem q817 : (Jvm.Cond.code ({ cls := "WoodliceSenate$Louse", name := "begins", desc := "(LWoodliceSenate$Member;)V" } : Jvm.MethodName) prog_2_method_2_code (2 : Nat) (Option.none : Option Jvm.ClassFile.FieldType)) ∈ lw_all := lw_g (lw_at lw_m3 229 rfl) rfl
theorem q891 : (Jvm.Cond.instanceMethod ({ cls := "WoodliceSenate$Louse", name := "copies", desc := "(LWoodliceSenate$Louse;)V" } : Jvm.MethodName)) ∈ lw_all := lw_g (lw_at lw_m4 63 rfl) rfl
theorem q892 : (Jvm.Cond.selects "WoodliceSenate$Louse" ({ cls := "WoodliceSenate$Louse", name := "copies", desc := "(LWoodliceSenate$Louse;)V" } : Jvm.MethodName) ({ cls := "WoodliceSenate$Louse", name := "copies", desc := "(LWoodliceSenate$Louse;)V" } : Jvm.MethodName)) ∈ lw_all := lw_g (lw_at lw_m4 64 rfl) rfl
theorem q893 : (Jvm.Cond.code ({ cls := "WoodliceSenate$Louse", name := "copies", desc := "(LWoodliceSenate$Louse;)V" } : Jvm.MethodName) prog_2_method_3_code (2 : Nat) (Option.none : Option Jvm.ClassFile.FieldType)) ∈ lw_all := lw_g (lw_at lw_m4 65 rfl) rfl
theorem q903 : (Jvm.Cond.instanceMethod ({ cls := "WoodliceSenate$Louse", name := "by", desc := "(I)I" } : Jvm.MethodName)) ∈ lw_all := lw_g (lw_at lw_m4 75 rfl) rfl
theorem q904 : (Jvm.Cond.selects "WoodliceSenate$Louse" ({ cls := "WoodliceSenate$Louse", name := "by", desc := "(I)I" } : Jvm.MethodName) ({ cls := "WoodliceSenate$Louse", name := "by", desc := "(I)I" } : Jvm.MethodName)) ∈ lw_all := lw_g (lw_at lw_m4 76 rfl) rfl
theorem q905 : (Jvm.Cond.code ({ cls := "WoodliceSenate$Louse", name := "by", desc := "(I)I" } : Jvm.MethodName) prog_2_method_4_code (2 : Nat) (Option.some Jvm.ClassFile.FieldType.int)) ∈ lw_all := lw_g (lw_at lw_m4 77 rfl) rfl
theorem q1772 : (Jvm.Cond.castable "WoodliceSenate$Louse" "java/lang/Object") ∈ lw_tbl := lw_at lw_m7 224 rfl
theorem in_X4 : ∀ w ∈ wsX40, w ∈ lw_all := lw_in wsX40 [721, 723, 725, 727, 729, 731] (by decide +kernel) (by decide +kernel)

/-! WoodliceSenate$Sheet -/
set_option maxRecDepth 100000
def RX5 : String := "WoodliceSenate$Sheet"
def TX5 : u_T := fun k => match k with
  | _ => ("WoodliceSenate$Sheet", "row", "Ljava/lang/Object;", false)
def tyX5 : Nat → FieldType := fun k => match k with
  | _ => .object "java/lang/Object"
abbrev wsX50 : List Cond := u_ws RX5 TX5 1
theorem nmX5 : ∀ a, a < 1 → ∀ b, b < 1 → a ≠ b → (TX5 a).2.1 ≠ (TX5 b).2.1 := by decide +kernel
theorem tyX5_ok : ∀ k, k < 1 → parseFieldDescriptor (TX5 k).2.2.1 = some (tyX5 k) := by decide +kernel
abbrev cX5_size : ByteArray := prog_7_method_3_code
def yX5_size : MethodName := ⟨RX5, "size", "()I"⟩
def dkwX5_size_3 : List UInt8 := [192, 0, 21, 190, 172]
abbrev dktX5_size_3 : List UInt8 := dkwX5_size_3 ++ []
def dkwX5_size_2 : List UInt8 := [42, 180, 0, 7, 192, 0, 13, 190, 172, 42, 180, 0, 7, 192, 0, 15, 190, 172, 42, 180, 0, 7]
abbrev dktX5_size_2 : List UInt8 := dkwX5_size_2 ++ dktX5_size_3
def dkwX5_size_1 : List UInt8 := [171, 0, 0, 0, 0, 0, 0, 46, 0, 0, 0, 2, 0, 0, 0, 0, 0, 0, 0, 28, 0, 0, 0, 1, 0, 0, 0, 37]
abbrev dktX5_size_1 : List UInt8 := dkwX5_size_1 ++ dktX5_size_2
def dkwX5_size_0 : List UInt8 := [42, 182, 0, 17]
abbrev dktX5_size_0 : List UInt8 := dkwX5_size_0 ++ dktX5_size_1
theorem dksX5_size_0 : cX5_size.data.toList.drop 0 = dktX5_size_0 := by decide +kernel
theorem dksX5_size_1 : cX5_size.data.toList.drop 4 = dktX5_size_1 := dk_seg dksX5_size_0 4 rfl rfl
theorem dksX5_size_2 : cX5_size.data.toList.drop 32 = dktX5_size_2 := dk_seg dksX5_size_1 28 rfl rfl
theorem dksX5_size_3 : cX5_size.data.toList.drop 54 = dktX5_size_3 := dk_seg dksX5_size_2 22 rfl rfl
theorem dX5_size_0 : decode cX5_size 0 = .ok (.aload_n 0, 1) := dk_42 (dk_at dksX5_size_0 0 rfl rfl)
theorem dX5_size_1 : decode cX5_size 1 = .ok (.invokevirtual 17, 3) := dk_182 0 17 (dk_at dksX5_size_0 1 rfl rfl)
theorem dX5_size_4 : decode cX5_size 4 = .ok (.lookupswitch 46 #[(0, 28), (1, 37)], 28) := by decide +kernel
theorem dX5_size_32 : decode cX5_size 32 = .ok (.aload_n 0, 1) := dk_42 (dk_at dksX5_size_2 0 rfl rfl)
theorem dX5_size_33 : decode cX5_size 33 = .ok (.getfield 7, 3) := dk_180 0 7 (dk_at dksX5_size_2 1 rfl rfl)
theorem dX5_size_36 : decode cX5_size 36 = .ok (.checkcast 13, 3) := dk_192 0 13 (dk_at dksX5_size_2 4 rfl rfl)
theorem dX5_size_39 : decode cX5_size 39 = .ok (.arraylength, 1) := dk_190 (dk_at dksX5_size_2 7 rfl rfl)
theorem dX5_size_40 : decode cX5_size 40 = .ok (.ireturn, 1) := dk_172 (dk_at dksX5_size_2 8 rfl rfl)
theorem dX5_size_41 : decode cX5_size 41 = .ok (.aload_n 0, 1) := dk_42 (dk_at dksX5_size_2 9 rfl rfl)
theorem dX5_size_42 : decode cX5_size 42 = .ok (.getfield 7, 3) := dk_180 0 7 (dk_at dksX5_size_2 10 rfl rfl)
theorem dX5_size_45 : decode cX5_size 45 = .ok (.checkcast 15, 3) := dk_192 0 15 (dk_at dksX5_size_2 13 rfl rfl)
theorem dX5_size_48 : decode cX5_size 48 = .ok (.arraylength, 1) := dk_190 (dk_at dksX5_size_2 16 rfl rfl)
theorem dX5_size_49 : decode cX5_size 49 = .ok (.ireturn, 1) := dk_172 (dk_at dksX5_size_2 17 rfl rfl)
theorem dX5_size_50 : decode cX5_size 50 = .ok (.aload_n 0, 1) := dk_42 (dk_at dksX5_size_2 18 rfl rfl)
theorem dX5_size_51 : decode cX5_size 51 = .ok (.getfield 7, 3) := dk_180 0 7 (dk_at dksX5_size_2 19 rfl rfl)
theorem dX5_size_54 : decode cX5_size 54 = .ok (.checkcast 21, 3) := dk_192 0 21 (dk_at dksX5_size_3 0 rfl rfl)
theorem dX5_size_57 : decode cX5_size 57 = .ok (.arraylength, 1) := dk_190 (dk_at dksX5_size_3 3 rfl rfl)
theorem dX5_size_58 : decode cX5_size 58 = .ok (.ireturn, 1) := dk_172 (dk_at dksX5_size_3 4 rfl rfl)
abbrev cX5_type : ByteArray := prog_7_method_2_code
def yX5_type : MethodName := ⟨RX5, "type", "()I"⟩
def dkwX5_type_1 : List UInt8 := [4, 167, 0, 4, 5, 172]
abbrev dktX5_type_1 : List UInt8 := dkwX5_type_1 ++ []
def dkwX5_type_0 : List UInt8 := [42, 180, 0, 7, 193, 0, 13, 153, 0, 7, 3, 167, 0, 18, 42, 180, 0, 7, 193, 0, 15, 153, 0, 7]
abbrev dktX5_type_0 : List UInt8 := dkwX5_type_0 ++ dktX5_type_1
theorem dksX5_type_0 : cX5_type.data.toList.drop 0 = dktX5_type_0 := by decide +kernel
theorem dksX5_type_1 : cX5_type.data.toList.drop 24 = dktX5_type_1 := dk_seg dksX5_type_0 24 rfl rfl
theorem dX5_type_0 : decode cX5_type 0 = .ok (.aload_n 0, 1) := dk_42 (dk_at dksX5_type_0 0 rfl rfl)
theorem dX5_type_1 : decode cX5_type 1 = .ok (.getfield 7, 3) := dk_180 0 7 (dk_at dksX5_type_0 1 rfl rfl)
theorem dX5_type_4 : decode cX5_type 4 = .ok (.instanceof 13, 3) := dk_193 0 13 (dk_at dksX5_type_0 4 rfl rfl)
theorem dX5_type_7 : decode cX5_type 7 = .ok (.ifCond .eq 7, 3) := dk_153 0 7 (dk_at dksX5_type_0 7 rfl rfl)
theorem dX5_type_10 : decode cX5_type 10 = .ok (.iconst 0, 1) := dk_3 (dk_at dksX5_type_0 10 rfl rfl)
theorem dX5_type_11 : decode cX5_type 11 = .ok (.goto 18, 3) := dk_167 0 18 (dk_at dksX5_type_0 11 rfl rfl)
theorem dX5_type_14 : decode cX5_type 14 = .ok (.aload_n 0, 1) := dk_42 (dk_at dksX5_type_0 14 rfl rfl)
theorem dX5_type_15 : decode cX5_type 15 = .ok (.getfield 7, 3) := dk_180 0 7 (dk_at dksX5_type_0 15 rfl rfl)
theorem dX5_type_18 : decode cX5_type 18 = .ok (.instanceof 15, 3) := dk_193 0 15 (dk_at dksX5_type_0 18 rfl rfl)
theorem dX5_type_21 : decode cX5_type 21 = .ok (.ifCond .eq 7, 3) := dk_153 0 7 (dk_at dksX5_type_0 21 rfl rfl)
theorem dX5_type_24 : decode cX5_type 24 = .ok (.iconst 1, 1) := dk_4 (dk_at dksX5_type_1 0 rfl rfl)
theorem dX5_type_25 : decode cX5_type 25 = .ok (.goto 4, 3) := dk_167 0 4 (dk_at dksX5_type_1 1 rfl rfl)
theorem dX5_type_28 : decode cX5_type 28 = .ok (.iconst 2, 1) := dk_5 (dk_at dksX5_type_1 4 rfl rfl)
theorem dX5_type_29 : decode cX5_type 29 = .ok (.ireturn, 1) := dk_172 (dk_at dksX5_type_1 5 rfl rfl)
abbrev cX5_item : ByteArray := prog_7_method_4_code
def yX5_item : MethodName := ⟨RX5, "item", "(II)I"⟩
def dkwX5_item_3 : List UInt8 := [192, 0, 21, 28, 46, 172]
abbrev dktX5_item_3 : List UInt8 := dkwX5_item_3 ++ []
def dkwX5_item_2 : List UInt8 := [42, 180, 0, 7, 192, 0, 13, 28, 51, 172, 42, 180, 0, 7, 192, 0, 15, 28, 53, 172, 42, 180, 0, 7]
abbrev dktX5_item_2 : List UInt8 := dkwX5_item_2 ++ dktX5_item_3
def dkwX5_item_1 : List UInt8 := [171, 0, 0, 0, 0, 0, 47, 0, 0, 0, 2, 0, 0, 0, 0, 0, 0, 0, 27, 0, 0, 0, 1, 0, 0, 0, 37]
abbrev dktX5_item_1 : List UInt8 := dkwX5_item_1 ++ dktX5_item_2
def dkwX5_item_0 : List UInt8 := [27]
abbrev dktX5_item_0 : List UInt8 := dkwX5_item_0 ++ dktX5_item_1
theorem dksX5_item_0 : cX5_item.data.toList.drop 0 = dktX5_item_0 := by decide +kernel
theorem dksX5_item_1 : cX5_item.data.toList.drop 1 = dktX5_item_1 := dk_seg dksX5_item_0 1 rfl rfl
theorem dksX5_item_2 : cX5_item.data.toList.drop 28 = dktX5_item_2 := dk_seg dksX5_item_1 27 rfl rfl
theorem dksX5_item_3 : cX5_item.data.toList.drop 52 = dktX5_item_3 := dk_seg dksX5_item_2 24 rfl rfl
theorem dX5_item_0 : decode cX5_item 0 = .ok (.iload_n 1, 1) := dk_27 (dk_at dksX5_item_0 0 rfl rfl)
theorem dX5_item_1 : decode cX5_item 1 = .ok (.lookupswitch 47 #[(0, 27), (1, 37)], 27) := by decide +kernel
theorem dX5_item_28 : decode cX5_item 28 = .ok (.aload_n 0, 1) := dk_42 (dk_at dksX5_item_2 0 rfl rfl)
theorem dX5_item_29 : decode cX5_item 29 = .ok (.getfield 7, 3) := dk_180 0 7 (dk_at dksX5_item_2 1 rfl rfl)
theorem dX5_item_32 : decode cX5_item 32 = .ok (.checkcast 13, 3) := dk_192 0 13 (dk_at dksX5_item_2 4 rfl rfl)
theorem dX5_item_35 : decode cX5_item 35 = .ok (.iload_n 2, 1) := dk_28 (dk_at dksX5_item_2 7 rfl rfl)
theorem dX5_item_36 : decode cX5_item 36 = .ok (.baload, 1) := dk_51 (dk_at dksX5_item_2 8 rfl rfl)
theorem dX5_item_37 : decode cX5_item 37 = .ok (.ireturn, 1) := dk_172 (dk_at dksX5_item_2 9 rfl rfl)
theorem dX5_item_38 : decode cX5_item 38 = .ok (.aload_n 0, 1) := dk_42 (dk_at dksX5_item_2 10 rfl rfl)
theorem dX5_item_39 : decode cX5_item 39 = .ok (.getfield 7, 3) := dk_180 0 7 (dk_at dksX5_item_2 11 rfl rfl)
theorem dX5_item_42 : decode cX5_item 42 = .ok (.checkcast 15, 3) := dk_192 0 15 (dk_at dksX5_item_2 14 rfl rfl)
theorem dX5_item_45 : decode cX5_item 45 = .ok (.iload_n 2, 1) := dk_28 (dk_at dksX5_item_2 17 rfl rfl)
theorem dX5_item_46 : decode cX5_item 46 = .ok (.saload, 1) := dk_53 (dk_at dksX5_item_2 18 rfl rfl)
theorem dX5_item_47 : decode cX5_item 47 = .ok (.ireturn, 1) := dk_172 (dk_at dksX5_item_2 19 rfl rfl)
theorem dX5_item_48 : decode cX5_item 48 = .ok (.aload_n 0, 1) := dk_42 (dk_at dksX5_item_2 20 rfl rfl)
theorem dX5_item_49 : decode cX5_item 49 = .ok (.getfield 7, 3) := dk_180 0 7 (dk_at dksX5_item_2 21 rfl rfl)
theorem dX5_item_52 : decode cX5_item 52 = .ok (.checkcast 21, 3) := dk_192 0 21 (dk_at dksX5_item_3 0 rfl rfl)
theorem dX5_item_55 : decode cX5_item 55 = .ok (.iload_n 2, 1) := dk_28 (dk_at dksX5_item_3 3 rfl rfl)
theorem dX5_item_56 : decode cX5_item 56 = .ok (.iaload, 1) := dk_46 (dk_at dksX5_item_3 4 rfl rfl)
theorem dX5_item_57 : decode cX5_item 57 = .ok (.ireturn, 1) := dk_172 (dk_at dksX5_item_3 5 rfl rfl)
abbrev cX5_init : ByteArray := prog_7_method_1_code
def yX5_init : MethodName := ⟨RX5, "<init>", "()V"⟩
theorem dX5_init_0 : decode cX5_init 0 = .ok (.aload_n 0, 1) := by decide +kernel
theorem dX5_init_1 : decode cX5_init 1 = .ok (.invokespecial 1, 3) := by decide +kernel
theorem dX5_init_4 : decode cX5_init 4 = .ok (.return_, 1) := by decide +kernel
abbrev cX5_lay : ByteArray := prog_7_method_5_code
def yX5_lay : MethodName := ⟨RX5, "lay", "(III)V"⟩
def dkwX5_lay_3 : List UInt8 := [86, 167, 0, 13, 42, 180, 0, 7, 192, 0, 21, 28, 29, 79, 177]
abbrev dktX5_lay_3 : List UInt8 := dkwX5_lay_3 ++ []
def dkwX5_lay_2 : List UInt8 := [42, 180, 0, 7, 192, 0, 13, 28, 29, 145, 84, 167, 0, 27, 42, 180, 0, 7, 192, 0, 15, 28, 29, 147]
abbrev dktX5_lay_2 : List UInt8 := dkwX5_lay_2 ++ dktX5_lay_3
def dkwX5_lay_1 : List UInt8 := [171, 0, 0, 0, 0, 0, 55, 0, 0, 0, 2, 0, 0, 0, 0, 0, 0, 0, 27, 0, 0, 0, 1, 0, 0, 0, 41]
abbrev dktX5_lay_1 : List UInt8 := dkwX5_lay_1 ++ dktX5_lay_2
def dkwX5_lay_0 : List UInt8 := [27]
abbrev dktX5_lay_0 : List UInt8 := dkwX5_lay_0 ++ dktX5_lay_1
theorem dksX5_lay_0 : cX5_lay.data.toList.drop 0 = dktX5_lay_0 := by decide +kernel
theorem dksX5_lay_1 : cX5_lay.data.toList.drop 1 = dktX5_lay_1 := dk_seg dksX5_lay_0 1 rfl rfl
theorem dksX5_lay_2 : cX5_lay.data.toList.drop 28 = dktX5_lay_2 := dk_seg dksX5_lay_1 27 rfl rfl
theorem dksX5_lay_3 : cX5_lay.data.toList.drop 52 = dktX5_lay_3 := dk_seg dksX5_lay_2 24 rfl rfl
theorem dX5_lay_0 : decode cX5_lay 0 = .ok (.iload_n 1, 1) := dk_27 (dk_at dksX5_lay_0 0 rfl rfl)
theorem dX5_lay_1 : decode cX5_lay 1 = .ok (.lookupswitch 55 #[(0, 27), (1, 41)], 27) := by decide +kernel
theorem dX5_lay_28 : decode cX5_lay 28 = .ok (.aload_n 0, 1) := dk_42 (dk_at dksX5_lay_2 0 rfl rfl)
theorem dX5_lay_29 : decode cX5_lay 29 = .ok (.getfield 7, 3) := dk_180 0 7 (dk_at dksX5_lay_2 1 rfl rfl)
theorem dX5_lay_32 : decode cX5_lay 32 = .ok (.checkcast 13, 3) := dk_192 0 13 (dk_at dksX5_lay_2 4 rfl rfl)
theorem dX5_lay_35 : decode cX5_lay 35 = .ok (.iload_n 2, 1) := dk_28 (dk_at dksX5_lay_2 7 rfl rfl)
theorem dX5_lay_36 : decode cX5_lay 36 = .ok (.iload_n 3, 1) := dk_29 (dk_at dksX5_lay_2 8 rfl rfl)
theorem dX5_lay_37 : decode cX5_lay 37 = .ok (.i2b, 1) := dk_145 (dk_at dksX5_lay_2 9 rfl rfl)
theorem dX5_lay_38 : decode cX5_lay 38 = .ok (.bastore, 1) := dk_84 (dk_at dksX5_lay_2 10 rfl rfl)
theorem dX5_lay_39 : decode cX5_lay 39 = .ok (.goto 27, 3) := dk_167 0 27 (dk_at dksX5_lay_2 11 rfl rfl)
theorem dX5_lay_42 : decode cX5_lay 42 = .ok (.aload_n 0, 1) := dk_42 (dk_at dksX5_lay_2 14 rfl rfl)
theorem dX5_lay_43 : decode cX5_lay 43 = .ok (.getfield 7, 3) := dk_180 0 7 (dk_at dksX5_lay_2 15 rfl rfl)
theorem dX5_lay_46 : decode cX5_lay 46 = .ok (.checkcast 15, 3) := dk_192 0 15 (dk_at dksX5_lay_2 18 rfl rfl)
theorem dX5_lay_49 : decode cX5_lay 49 = .ok (.iload_n 2, 1) := dk_28 (dk_at dksX5_lay_2 21 rfl rfl)
theorem dX5_lay_50 : decode cX5_lay 50 = .ok (.iload_n 3, 1) := dk_29 (dk_at dksX5_lay_2 22 rfl rfl)
theorem dX5_lay_51 : decode cX5_lay 51 = .ok (.i2s, 1) := dk_147 (dk_at dksX5_lay_2 23 rfl rfl)
theorem dX5_lay_52 : decode cX5_lay 52 = .ok (.sastore, 1) := dk_86 (dk_at dksX5_lay_3 0 rfl rfl)
theorem dX5_lay_53 : decode cX5_lay 53 = .ok (.goto 13, 3) := dk_167 0 13 (dk_at dksX5_lay_3 1 rfl rfl)
theorem dX5_lay_56 : decode cX5_lay 56 = .ok (.aload_n 0, 1) := dk_42 (dk_at dksX5_lay_3 4 rfl rfl)
theorem dX5_lay_57 : decode cX5_lay 57 = .ok (.getfield 7, 3) := dk_180 0 7 (dk_at dksX5_lay_3 5 rfl rfl)
theorem dX5_lay_60 : decode cX5_lay 60 = .ok (.checkcast 21, 3) := dk_192 0 21 (dk_at dksX5_lay_3 8 rfl rfl)
theorem dX5_lay_63 : decode cX5_lay 63 = .ok (.iload_n 2, 1) := dk_28 (dk_at dksX5_lay_3 11 rfl rfl)
theorem dX5_lay_64 : decode cX5_lay 64 = .ok (.iload_n 3, 1) := dk_29 (dk_at dksX5_lay_3 12 rfl rfl)
theorem dX5_lay_65 : decode cX5_lay 65 = .ok (.iastore, 1) := dk_79 (dk_at dksX5_lay_3 13 rfl rfl)
theorem dX5_lay_66 : decode cX5_lay 66 = .ok (.return_, 1) := dk_177 (dk_at dksX5_lay_3 14 rfl rfl)
theorem q117 : (Jvm.Cond.initialized "WoodliceSenate$Sheet") ∈ lw_all := lw_g (lw_at lw_m1 9 rfl) rfl
theorem q458 : (Jvm.Cond.selects "WoodliceSenate$Sheet" ({ cls := "java/lang/Object", name := "getClass", desc := "()Ljava/lang/Class;" } : Jvm.MethodName) ({ cls := "java/lang/Object", name := "getClass", desc := "()Ljava/lang/Class;" } : Jvm.MethodName)) ∈ lw_all := lw_g (lw_at lw_m2 110 rfl) rfl
theorem q604 : (Jvm.Cond.instanceMethod ({ cls := "WoodliceSenate$Sheet", name := "size", desc := "()I" } : Jvm.MethodName)) ∈ lw_all := lw_g (lw_at lw_m3 16 rfl) rfl
theorem q605 : (Jvm.Cond.selects "WoodliceSenate$Sheet" ({ cls := "WoodliceSenate$Sheet", name := "size", desc := "()I" } : Jvm.MethodName) ({ cls := "WoodliceSenate$Sheet", name := "size", desc := "()I" } : Jvm.MethodName)) ∈ lw_all := lw_g (lw_at lw_m3 17 rfl) rfl
theorem q606 : (Jvm.Cond.code ({ cls := "WoodliceSenate$Sheet", name := "size", desc := "()I" } : Jvm.MethodName) prog_7_method_3_code (1 : Nat) (Option.some Jvm.ClassFile.FieldType.int)) ∈ lw_all := lw_g (lw_at lw_m3 18 rfl) rfl
theorem q607 : (Jvm.Cond.methodLink "WoodliceSenate$Sheet" (17 : Nat) ({ cls := "WoodliceSenate$Sheet", name := "type", desc := "()I" } : Jvm.MethodName)) ∈ lw_all := lw_g (lw_at lw_m3 19 rfl) rfl
theorem q608 : (Jvm.Cond.instanceMethod ({ cls := "WoodliceSenate$Sheet", name := "type", desc := "()I" } : Jvm.MethodName)) ∈ lw_all := lw_g (lw_at lw_m3 20 rfl) rfl
theorem q609 : (Jvm.Cond.selects "WoodliceSenate$Sheet" ({ cls := "WoodliceSenate$Sheet", name := "type", desc := "()I" } : Jvm.MethodName) ({ cls := "WoodliceSenate$Sheet", name := "type", desc := "()I" } : Jvm.MethodName)) ∈ lw_all := lw_g (lw_at lw_m3 21 rfl) rfl
theorem q610 : (Jvm.Cond.code ({ cls := "WoodliceSenate$Sheet", name := "type", desc := "()I" } : Jvm.MethodName) prog_7_method_2_code (1 : Nat) (Option.some Jvm.ClassFile.FieldType.int)) ∈ lw_all := lw_g (lw_at lw_m3 22 rfl) rfl
theorem q611 : (Jvm.Cond.classLink "WoodliceSenate$Sheet" (13 : Nat) "[B") ∈ lw_all := lw_g (lw_at lw_m3 23 rfl) rfl
theorem q612 : (Jvm.Cond.classLink "WoodliceSenate$Sheet" (15 : Nat) "[S") ∈ lw_all := lw_g (lw_at lw_m3 24 rfl) rfl
theorem q613 : (Jvm.Cond.classLink "WoodliceSenate$Sheet" (21 : Nat) "[I") ∈ lw_all := lw_g (lw_at lw_m3 25 rfl) rfl
theorem q616 : (Jvm.Cond.instanceMethod ({ cls := "WoodliceSenate$Sheet", name := "item", desc := "(II)I" } : Jvm.MethodName)) ∈ lw_all := lw_g (lw_at lw_m3 28 rfl) rfl
theorem q617 : (Jvm.Cond.selects "WoodliceSenate$Sheet" ({ cls := "WoodliceSenate$Sheet", name := "item", desc := "(II)I" } : Jvm.MethodName) ({ cls := "WoodliceSenate$Sheet", name := "item", desc := "(II)I" } : Jvm.MethodName)) ∈ lw_all := lw_g (lw_at lw_m3 29 rfl) rfl
theorem q618 : (Jvm.Cond.code ({ cls := "WoodliceSenate$Sheet", name := "item", desc := "(II)I" } : Jvm.MethodName) prog_7_method_4_code (3 : Nat) (Option.some Jvm.ClassFile.FieldType.int)) ∈ lw_all := lw_g (lw_at lw_m3 30 rfl) rfl
theorem q740 : (Jvm.Cond.instantiable "WoodliceSenate$Sheet" (1 : Nat)) ∈ lw_all := lw_g (lw_at lw_m3 152 rfl) rfl
theorem q742 : (Jvm.Cond.instanceMethod ({ cls := "WoodliceSenate$Sheet", name := "<init>", desc := "()V" } : Jvm.MethodName)) ∈ lw_all := lw_g (lw_at lw_m3 154 rfl) rfl
theorem q743 : (Jvm.Cond.code ({ cls := "WoodliceSenate$Sheet", name := "<init>", desc := "()V" } : Jvm.MethodName) prog_7_method_1_code (1 : Nat) (Option.none : Option Jvm.ClassFile.FieldType)) ∈ lw_all := lw_g (lw_at lw_m3 155 rfl) rfl
theorem q744 : (Jvm.Cond.methodLink "WoodliceSenate$Sheet" (1 : Nat) ({ cls := "java/lang/Object", name := "<init>", desc := "()V" } : Jvm.MethodName)) ∈ lw_all := lw_g (lw_at lw_m3 156 rfl) rfl
theorem q745 : (Jvm.Cond.fieldLink "WoodliceSenate$Sheet" (7 : Nat) "WoodliceSenate$Sheet" "row" "Ljava/lang/Object;") ∈ lw_all := lw_g (lw_at lw_m3 157 rfl) rfl
theorem q747 : (Jvm.Cond.lays "WoodliceSenate$Sheet" "WoodliceSenate$Sheet" "row" "Ljava/lang/Object;") ∈ lw_all := lw_g (lw_at lw_m3 159 rfl) rfl
theorem q748 : (Jvm.Cond.soleField "WoodliceSenate$Sheet" "row") ∈ lw_all := lw_g (lw_at lw_m3 160 rfl) rfl
theorem q749 : (Jvm.Cond.superclass "WoodliceSenate$Sheet" "java/lang/Object") ∈ lw_all := lw_g (lw_at lw_m3 161 rfl) rfl
theorem q1166 : (Jvm.Cond.instanceMethod ({ cls := "WoodliceSenate$Sheet", name := "lay", desc := "(III)V" } : Jvm.MethodName)) ∈ lw_all := lw_g (lw_at lw_m5 98 rfl) rfl
theorem q1167 : (Jvm.Cond.selects "WoodliceSenate$Sheet" ({ cls := "WoodliceSenate$Sheet", name := "lay", desc := "(III)V" } : Jvm.MethodName) ({ cls := "WoodliceSenate$Sheet", name := "lay", desc := "(III)V" } : Jvm.MethodName)) ∈ lw_all := lw_g (lw_at lw_m5 99 rfl) rfl
theorem q1168 : (Jvm.Cond.code ({ cls := "WoodliceSenate$Sheet", name := "lay", desc := "(III)V" } : Jvm.MethodName) prog_7_method_5_code (4 : Nat) (Option.none : Option Jvm.ClassFile.FieldType)) ∈ lw_all := lw_g (lw_at lw_m5 100 rfl) rfl
theorem q1773 : (Jvm.Cond.castable "WoodliceSenate$Sheet" "java/lang/Object") ∈ lw_tbl := lw_at lw_m7 225 rfl
theorem in_X5 : ∀ w ∈ wsX50, w ∈ lw_all := lw_in wsX50 [747] (by decide +kernel) (by decide +kernel)

/-! WoodliceSenate$Torn -/
set_option maxRecDepth 100000
def RX7 : String := "WoodliceSenate$Torn"
def TX7 : u_T := fun k => match k with
  | 0 => ("java/lang/Throwable", "cause", "Ljava/lang/Throwable;", false)
  | 1 => ("java/lang/Throwable", "stackTrace", "[Ljava/lang/StackTraceElement;", false)
  | 2 => ("java/lang/Throwable", "suppressedExceptions", "Ljava/util/List;", false)
  | 3 => ("java/lang/Throwable", "detailMessage", "Ljava/lang/String;", false)
  | 4 => ("java/lang/Throwable", "backtrace", "Ljava/lang/Object;", false)
  | 5 => ("java/lang/Throwable", "depth", "I", false)
  | _ => ("WoodliceSenate$Torn", "place", "I", true)
def tyX7 : Nat → FieldType := fun k => match k with
  | 0 => .object "java/lang/Throwable"
  | 1 => .array (.object "java/lang/StackTraceElement")
  | 2 => .object "java/util/List"
  | 3 => .object "java/lang/String"
  | 4 => .object "java/lang/Object"
  | 5 => .int
  | _ => .int
abbrev wsX70 : List Cond := u_ws RX7 TX7 7
theorem nmX7 : ∀ a, a < 7 → ∀ b, b < 7 → a ≠ b → (TX7 a).2.1 ≠ (TX7 b).2.1 := by decide +kernel
theorem tyX7_ok : ∀ k, k < 7 → parseFieldDescriptor (TX7 k).2.2.1 = some (tyX7 k) := by decide +kernel
abbrev cX7_init : ByteArray := prog_11_method_1_code
def yX7_init : MethodName := ⟨RX7, "<init>", "(I)V"⟩
def dkwX7_init_0 : List UInt8 := [42, 1, 1, 3, 3, 183, 0, 1, 42, 27, 181, 0, 7, 177]
abbrev dktX7_init_0 : List UInt8 := dkwX7_init_0 ++ []
theorem dksX7_init_0 : cX7_init.data.toList.drop 0 = dktX7_init_0 := by decide +kernel
theorem dX7_init_0 : decode cX7_init 0 = .ok (.aload_n 0, 1) := dk_42 (dk_at dksX7_init_0 0 rfl rfl)
theorem dX7_init_1 : decode cX7_init 1 = .ok (.aconst_null, 1) := dk_1 (dk_at dksX7_init_0 1 rfl rfl)
theorem dX7_init_2 : decode cX7_init 2 = .ok (.aconst_null, 1) := dk_1 (dk_at dksX7_init_0 2 rfl rfl)
theorem dX7_init_3 : decode cX7_init 3 = .ok (.iconst 0, 1) := dk_3 (dk_at dksX7_init_0 3 rfl rfl)
theorem dX7_init_4 : decode cX7_init 4 = .ok (.iconst 0, 1) := dk_3 (dk_at dksX7_init_0 4 rfl rfl)
theorem dX7_init_5 : decode cX7_init 5 = .ok (.invokespecial 1, 3) := dk_183 0 1 (dk_at dksX7_init_0 5 rfl rfl)
theorem dX7_init_8 : decode cX7_init 8 = .ok (.aload_n 0, 1) := dk_42 (dk_at dksX7_init_0 8 rfl rfl)
theorem dX7_init_9 : decode cX7_init 9 = .ok (.iload_n 1, 1) := dk_27 (dk_at dksX7_init_0 9 rfl rfl)
theorem dX7_init_10 : decode cX7_init 10 = .ok (.putfield 7, 3) := dk_181 0 7 (dk_at dksX7_init_0 10 rfl rfl)
theorem dX7_init_13 : decode cX7_init 13 = .ok (.return_, 1) := dk_177 (dk_at dksX7_init_0 13 rfl rfl)
theorem q122 : (Jvm.Cond.initialized "WoodliceSenate$Torn") ∈ lw_all := lw_g (lw_at lw_m1 14 rfl) rfl
theorem q228 : (Jvm.Cond.instantiable "WoodliceSenate$Torn" (7 : Nat)) ∈ lw_all := lw_g (lw_at lw_m1 120 rfl) rfl
theorem q229 : (Jvm.Cond.castable "WoodliceSenate$Torn" "WoodliceSenate$Torn") ∈ lw_tbl := lw_at lw_m1 121 rfl
theorem q234 : (Jvm.Cond.selects "WoodliceSenate$Torn" ({ cls := "java/lang/Throwable", name := "fillInStackTrace", desc := "(I)Ljava/lang/Throwable;" } : Jvm.MethodName) ({ cls := "java/lang/Throwable", name := "fillInStackTrace", desc := "(I)Ljava/lang/Throwable;" } : Jvm.MethodName)) ∈ lw_all := lw_g (lw_at lw_m1 126 rfl) rfl
theorem q235 : (Jvm.Cond.selects "WoodliceSenate$Torn" ({ cls := "java/lang/Throwable", name := "fillInStackTrace", desc := "()Ljava/lang/Throwable;" } : Jvm.MethodName) ({ cls := "java/lang/Throwable", name := "fillInStackTrace", desc := "()Ljava/lang/Throwable;" } : Jvm.MethodName)) ∈ lw_all := lw_g (lw_at lw_m1 127 rfl) rfl
theorem q236 : (Jvm.Cond.lays "WoodliceSenate$Torn" "java/lang/Throwable" "cause" "Ljava/lang/Throwable;") ∈ lw_all := lw_g (lw_at lw_m1 128 rfl) rfl
theorem q238 : (Jvm.Cond.lays "WoodliceSenate$Torn" "java/lang/Throwable" "stackTrace" "[Ljava/lang/StackTraceElement;") ∈ lw_all := lw_g (lw_at lw_m1 130 rfl) rfl
theorem q240 : (Jvm.Cond.lays "WoodliceSenate$Torn" "java/lang/Throwable" "suppressedExceptions" "Ljava/util/List;") ∈ lw_all := lw_g (lw_at lw_m1 132 rfl) rfl
theorem q242 : (Jvm.Cond.lays "WoodliceSenate$Torn" "java/lang/Throwable" "detailMessage" "Ljava/lang/String;") ∈ lw_all := lw_g (lw_at lw_m1 134 rfl) rfl
theorem q244 : (Jvm.Cond.lays "WoodliceSenate$Torn" "java/lang/Throwable" "backtrace" "Ljava/lang/Object;") ∈ lw_all := lw_g (lw_at lw_m1 136 rfl) rfl
theorem q270 : (Jvm.Cond.instanceMethod ({ cls := "WoodliceSenate$Torn", name := "<init>", desc := "(I)V" } : Jvm.MethodName)) ∈ lw_all := lw_g (lw_at lw_m1 162 rfl) rfl
theorem q271 : (Jvm.Cond.code ({ cls := "WoodliceSenate$Torn", name := "<init>", desc := "(I)V" } : Jvm.MethodName) prog_11_method_1_code (2 : Nat) (Option.none : Option Jvm.ClassFile.FieldType)) ∈ lw_all := lw_g (lw_at lw_m1 163 rfl) rfl
theorem q272 : (Jvm.Cond.methodLink "WoodliceSenate$Torn" (1 : Nat) ({ cls := "java/lang/Exception", name := "<init>", desc := "(Ljava/lang/String;Ljava/lang/Throwable;ZZ)V" } : Jvm.MethodName)) ∈ lw_all := lw_g (lw_at lw_m1 164 rfl) rfl
theorem q278 : (Jvm.Cond.fieldLink "WoodliceSenate$Torn" (7 : Nat) "WoodliceSenate$Torn" "place" "I") ∈ lw_all := lw_g (lw_at lw_m1 170 rfl) rfl
theorem q285 : (Jvm.Cond.laysFinal "WoodliceSenate$Torn" "WoodliceSenate$Torn" "place" "I") ∈ lw_all := lw_g (lw_at lw_m1 177 rfl) rfl
theorem q286 : (Jvm.Cond.soleField "WoodliceSenate$Torn" "place") ∈ lw_all := lw_g (lw_at lw_m1 178 rfl) rfl
theorem q291 : (Jvm.Cond.lays "WoodliceSenate$Torn" "java/lang/Throwable" "depth" "I") ∈ lw_all := lw_g (lw_at lw_m1 183 rfl) rfl
theorem q294 : (Jvm.Cond.superclass "WoodliceSenate$Torn" "java/lang/Exception") ∈ lw_all := lw_g (lw_at lw_m1 186 rfl) rfl
theorem q461 : (Jvm.Cond.selects "WoodliceSenate$Torn" ({ cls := "java/lang/Object", name := "getClass", desc := "()Ljava/lang/Class;" } : Jvm.MethodName) ({ cls := "java/lang/Object", name := "getClass", desc := "()Ljava/lang/Class;" } : Jvm.MethodName)) ∈ lw_all := lw_g (lw_at lw_m2 113 rfl) rfl
theorem q1780 : (Jvm.Cond.castable "WoodliceSenate$Torn" "java/lang/Object") ∈ lw_tbl := lw_at lw_m7 232 rfl
theorem in_X7 : ∀ w ∈ wsX70, w ∈ lw_all := lw_in wsX70 [236, 238, 240, 242, 244, 291, 285] (by decide +kernel) (by decide +kernel)

/-! WoodliceSenate$Member -/
set_option maxRecDepth 100000
def RX8 : String := "WoodliceSenate$Member"
def TX8 : u_T := fun k => match k with
  | 0 => ("WoodliceSenate$Member", "sort", "LWoodliceSenate$Sort;", false)
  | 1 => ("WoodliceSenate$Member", "place", "I", false)
  | _ => ("WoodliceSenate$Member", "upright", "Z", true)
def tyX8 : Nat → FieldType := fun k => match k with
  | 0 => .object "WoodliceSenate$Sort"
  | 1 => .int
  | _ => .boolean
abbrev wsX80 : List Cond := u_ws RX8 TX8 3
theorem nmX8 : ∀ a, a < 3 → ∀ b, b < 3 → a ≠ b → (TX8 a).2.1 ≠ (TX8 b).2.1 := by decide +kernel
theorem tyX8_ok : ∀ k, k < 3 → parseFieldDescriptor (TX8 k).2.2.1 = some (tyX8 k) := by decide +kernel
abbrev cX8_init : ByteArray := prog_3_method_1_code
def yX8_init : MethodName := ⟨RX8, "<init>", "(LWoodliceSenate$Sort;IZ)V"⟩
def dkwX8_init_0 : List UInt8 := [42, 183, 0, 1, 42, 43, 181, 0, 7, 42, 28, 181, 0, 13, 42, 29, 181, 0, 17, 177]
abbrev dktX8_init_0 : List UInt8 := dkwX8_init_0 ++ []
theorem dksX8_init_0 : cX8_init.data.toList.drop 0 = dktX8_init_0 := by decide +kernel
theorem dX8_init_0 : decode cX8_init 0 = .ok (.aload_n 0, 1) := dk_42 (dk_at dksX8_init_0 0 rfl rfl)
theorem dX8_init_1 : decode cX8_init 1 = .ok (.invokespecial 1, 3) := dk_183 0 1 (dk_at dksX8_init_0 1 rfl rfl)
theorem dX8_init_4 : decode cX8_init 4 = .ok (.aload_n 0, 1) := dk_42 (dk_at dksX8_init_0 4 rfl rfl)
theorem dX8_init_5 : decode cX8_init 5 = .ok (.aload_n 1, 1) := dk_43 (dk_at dksX8_init_0 5 rfl rfl)
theorem dX8_init_6 : decode cX8_init 6 = .ok (.putfield 7, 3) := dk_181 0 7 (dk_at dksX8_init_0 6 rfl rfl)
theorem dX8_init_9 : decode cX8_init 9 = .ok (.aload_n 0, 1) := dk_42 (dk_at dksX8_init_0 9 rfl rfl)
theorem dX8_init_10 : decode cX8_init 10 = .ok (.iload_n 2, 1) := dk_28 (dk_at dksX8_init_0 10 rfl rfl)
theorem dX8_init_11 : decode cX8_init 11 = .ok (.putfield 13, 3) := dk_181 0 13 (dk_at dksX8_init_0 11 rfl rfl)
theorem dX8_init_14 : decode cX8_init 14 = .ok (.aload_n 0, 1) := dk_42 (dk_at dksX8_init_0 14 rfl rfl)
theorem dX8_init_15 : decode cX8_init 15 = .ok (.iload_n 3, 1) := dk_29 (dk_at dksX8_init_0 15 rfl rfl)
theorem dX8_init_16 : decode cX8_init 16 = .ok (.putfield 17, 3) := dk_181 0 17 (dk_at dksX8_init_0 16 rfl rfl)
theorem dX8_init_19 : decode cX8_init 19 = .ok (.return_, 1) := dk_177 (dk_at dksX8_init_0 19 rfl rfl)
abbrev cX8_by : ByteArray := prog_3_method_2_code
def yX8_by : MethodName := ⟨RX8, "by", "(I)I"⟩
def dkwX8_by_1 : List UInt8 := [167, 0, 15, 42, 180, 0, 17, 153, 0, 7, 4, 167, 0, 4, 3, 172]
abbrev dktX8_by_1 : List UInt8 := dkwX8_by_1 ++ []
def dkwX8_by_0 : List UInt8 := [27, 154, 0, 13, 42, 180, 0, 7, 182, 0, 21, 167, 0, 27, 27, 4, 160, 0, 10, 42, 180, 0, 13]
abbrev dktX8_by_0 : List UInt8 := dkwX8_by_0 ++ dktX8_by_1
theorem dksX8_by_0 : cX8_by.data.toList.drop 0 = dktX8_by_0 := by decide +kernel
theorem dksX8_by_1 : cX8_by.data.toList.drop 23 = dktX8_by_1 := dk_seg dksX8_by_0 23 rfl rfl
theorem dX8_by_0 : decode cX8_by 0 = .ok (.iload_n 1, 1) := dk_27 (dk_at dksX8_by_0 0 rfl rfl)
theorem dX8_by_1 : decode cX8_by 1 = .ok (.ifCond .ne 13, 3) := dk_154 0 13 (dk_at dksX8_by_0 1 rfl rfl)
theorem dX8_by_4 : decode cX8_by 4 = .ok (.aload_n 0, 1) := dk_42 (dk_at dksX8_by_0 4 rfl rfl)
theorem dX8_by_5 : decode cX8_by 5 = .ok (.getfield 7, 3) := dk_180 0 7 (dk_at dksX8_by_0 5 rfl rfl)
theorem dX8_by_8 : decode cX8_by 8 = .ok (.invokevirtual 21, 3) := dk_182 0 21 (dk_at dksX8_by_0 8 rfl rfl)
theorem dX8_by_11 : decode cX8_by 11 = .ok (.goto 27, 3) := dk_167 0 27 (dk_at dksX8_by_0 11 rfl rfl)
theorem dX8_by_14 : decode cX8_by 14 = .ok (.iload_n 1, 1) := dk_27 (dk_at dksX8_by_0 14 rfl rfl)
theorem dX8_by_15 : decode cX8_by 15 = .ok (.iconst 1, 1) := dk_4 (dk_at dksX8_by_0 15 rfl rfl)
theorem dX8_by_16 : decode cX8_by 16 = .ok (.if_icmp .ne 10, 3) := dk_160 0 10 (dk_at dksX8_by_0 16 rfl rfl)
theorem dX8_by_19 : decode cX8_by 19 = .ok (.aload_n 0, 1) := dk_42 (dk_at dksX8_by_0 19 rfl rfl)
theorem dX8_by_20 : decode cX8_by 20 = .ok (.getfield 13, 3) := dk_180 0 13 (dk_at dksX8_by_0 20 rfl rfl)
theorem dX8_by_23 : decode cX8_by 23 = .ok (.goto 15, 3) := dk_167 0 15 (dk_at dksX8_by_1 0 rfl rfl)
theorem dX8_by_26 : decode cX8_by 26 = .ok (.aload_n 0, 1) := dk_42 (dk_at dksX8_by_1 3 rfl rfl)
theorem dX8_by_27 : decode cX8_by 27 = .ok (.getfield 17, 3) := dk_180 0 17 (dk_at dksX8_by_1 4 rfl rfl)
theorem dX8_by_30 : decode cX8_by 30 = .ok (.ifCond .eq 7, 3) := dk_153 0 7 (dk_at dksX8_by_1 7 rfl rfl)
theorem dX8_by_33 : decode cX8_by 33 = .ok (.iconst 1, 1) := dk_4 (dk_at dksX8_by_1 10 rfl rfl)
theorem dX8_by_34 : decode cX8_by 34 = .ok (.goto 4, 3) := dk_167 0 4 (dk_at dksX8_by_1 11 rfl rfl)
theorem dX8_by_37 : decode cX8_by 37 = .ok (.iconst 0, 1) := dk_3 (dk_at dksX8_by_1 14 rfl rfl)
theorem dX8_by_38 : decode cX8_by 38 = .ok (.ireturn, 1) := dk_172 (dk_at dksX8_by_1 15 rfl rfl)
theorem q129 : (Jvm.Cond.initialized "WoodliceSenate$Member") ∈ lw_all := lw_g (lw_at lw_m1 21 rfl) rfl
theorem q398 : (Jvm.Cond.instantiable "WoodliceSenate$Member" (3 : Nat)) ∈ lw_all := lw_g (lw_at lw_m2 50 rfl) rfl
theorem q401 : (Jvm.Cond.instanceMethod ({ cls := "WoodliceSenate$Member", name := "<init>", desc := "(LWoodliceSenate$Sort;IZ)V" } : Jvm.MethodName)) ∈ lw_all := lw_g (lw_at lw_m2 53 rfl) rfl
theorem q402 : (Jvm.Cond.code ({ cls := "WoodliceSenate$Member", name := "<init>", desc := "(LWoodliceSenate$Sort;IZ)V" } : Jvm.MethodName) prog_3_method_1_code (4 : Nat) (Option.none : Option Jvm.ClassFile.FieldType)) ∈ lw_all := lw_g (lw_at lw_m2 54 rfl) rfl
theorem q403 : (Jvm.Cond.methodLink "WoodliceSenate$Member" (1 : Nat) ({ cls := "java/lang/Object", name := "<init>", desc := "()V" } : Jvm.MethodName)) ∈ lw_all := lw_g (lw_at lw_m2 55 rfl) rfl
theorem q404 : (Jvm.Cond.fieldLink "WoodliceSenate$Member" (7 : Nat) "WoodliceSenate$Member" "sort" "LWoodliceSenate$Sort;") ∈ lw_all := lw_g (lw_at lw_m2 56 rfl) rfl
theorem q406 : (Jvm.Cond.fieldLink "WoodliceSenate$Member" (13 : Nat) "WoodliceSenate$Member" "place" "I") ∈ lw_all := lw_g (lw_at lw_m2 58 rfl) rfl
theorem q409 : (Jvm.Cond.fieldLink "WoodliceSenate$Member" (17 : Nat) "WoodliceSenate$Member" "upright" "Z") ∈ lw_all := lw_g (lw_at lw_m2 61 rfl) rfl
theorem q411 : (Jvm.Cond.lays "WoodliceSenate$Member" "WoodliceSenate$Member" "sort" "LWoodliceSenate$Sort;") ∈ lw_all := lw_g (lw_at lw_m2 63 rfl) rfl
theorem q412 : (Jvm.Cond.soleField "WoodliceSenate$Member" "sort") ∈ lw_all := lw_g (lw_at lw_m2 64 rfl) rfl
theorem q413 : (Jvm.Cond.lays "WoodliceSenate$Member" "WoodliceSenate$Member" "place" "I") ∈ lw_all := lw_g (lw_at lw_m2 65 rfl) rfl
theorem q414 : (Jvm.Cond.soleField "WoodliceSenate$Member" "place") ∈ lw_all := lw_g (lw_at lw_m2 66 rfl) rfl
theorem q415 : (Jvm.Cond.laysFinal "WoodliceSenate$Member" "WoodliceSenate$Member" "upright" "Z") ∈ lw_all := lw_g (lw_at lw_m2 67 rfl) rfl
theorem q416 : (Jvm.Cond.soleField "WoodliceSenate$Member" "upright") ∈ lw_all := lw_g (lw_at lw_m2 68 rfl) rfl
theorem q417 : (Jvm.Cond.superclass "WoodliceSenate$Member" "java/lang/Object") ∈ lw_all := lw_g (lw_at lw_m2 69 rfl) rfl
theorem q454 : (Jvm.Cond.selects "WoodliceSenate$Member" ({ cls := "java/lang/Object", name := "getClass", desc := "()Ljava/lang/Class;" } : Jvm.MethodName) ({ cls := "java/lang/Object", name := "getClass", desc := "()Ljava/lang/Class;" } : Jvm.MethodName)) ∈ lw_all := lw_g (lw_at lw_m2 106 rfl) rfl
theorem q546 : (Jvm.Cond.instanceMethod ({ cls := "WoodliceSenate$Member", name := "by", desc := "(I)I" } : Jvm.MethodName)) ∈ lw_all := lw_g (lw_at lw_m2 198 rfl) rfl
theorem q547 : (Jvm.Cond.selects "WoodliceSenate$Member" ({ cls := "WoodliceSenate$Member", name := "by", desc := "(I)I" } : Jvm.MethodName) ({ cls := "WoodliceSenate$Member", name := "by", desc := "(I)I" } : Jvm.MethodName)) ∈ lw_all := lw_g (lw_at lw_m2 199 rfl) rfl
theorem q548 : (Jvm.Cond.code ({ cls := "WoodliceSenate$Member", name := "by", desc := "(I)I" } : Jvm.MethodName) prog_3_method_2_code (2 : Nat) (Option.some Jvm.ClassFile.FieldType.int)) ∈ lw_all := lw_g (lw_at lw_m2 200 rfl) rfl
theorem q549 : (Jvm.Cond.methodLink "WoodliceSenate$Member" (21 : Nat) ({ cls := "WoodliceSenate$Sort", name := "number", desc := "()I" } : Jvm.MethodName)) ∈ lw_all := lw_g (lw_at lw_m2 201 rfl) rfl
theorem q1783 : (Jvm.Cond.castable "WoodliceSenate$Member" "java/lang/Object") ∈ lw_tbl := lw_at lw_m7 235 rfl
theorem in_X8 : ∀ w ∈ wsX80, w ∈ lw_all := lw_in wsX80 [411, 413, 415] (by decide +kernel) (by decide +kernel)

/-! WoodliceSenate$Old -/
set_option maxRecDepth 100000
def RX9 : String := "WoodliceSenate$Old"
abbrev cX9_number : ByteArray := prog_4_method_2_code
def yX9_number : MethodName := ⟨RX9, "number", "()I"⟩
def dkwX9_number_0 : List UInt8 := [42, 183, 0, 7, 4, 96, 172]
abbrev dktX9_number_0 : List UInt8 := dkwX9_number_0 ++ []
theorem dksX9_number_0 : cX9_number.data.toList.drop 0 = dktX9_number_0 := by decide +kernel
theorem dX9_number_0 : decode cX9_number 0 = .ok (.aload_n 0, 1) := dk_42 (dk_at dksX9_number_0 0 rfl rfl)
theorem dX9_number_1 : decode cX9_number 1 = .ok (.invokespecial 7, 3) := dk_183 0 7 (dk_at dksX9_number_0 1 rfl rfl)
theorem dX9_number_4 : decode cX9_number 4 = .ok (.iconst 1, 1) := dk_4 (dk_at dksX9_number_0 4 rfl rfl)
theorem dX9_number_5 : decode cX9_number 5 = .ok (.iadd, 1) := dk_96 (dk_at dksX9_number_0 5 rfl rfl)
theorem dX9_number_6 : decode cX9_number 6 = .ok (.ireturn, 1) := dk_172 (dk_at dksX9_number_0 6 rfl rfl)
abbrev cX9_rolls : ByteArray := prog_4_method_4_code
def yX9_rolls : MethodName := ⟨RX9, "rolls", "()I"⟩
def dkwX9_rolls_0 : List UInt8 := [42, 183, 0, 15, 4, 96, 172]
abbrev dktX9_rolls_0 : List UInt8 := dkwX9_rolls_0 ++ []
theorem dksX9_rolls_0 : cX9_rolls.data.toList.drop 0 = dktX9_rolls_0 := by decide +kernel
theorem dX9_rolls_0 : decode cX9_rolls 0 = .ok (.aload_n 0, 1) := dk_42 (dk_at dksX9_rolls_0 0 rfl rfl)
theorem dX9_rolls_1 : decode cX9_rolls 1 = .ok (.invokespecial 15, 3) := dk_183 0 15 (dk_at dksX9_rolls_0 1 rfl rfl)
theorem dX9_rolls_4 : decode cX9_rolls 4 = .ok (.iconst 1, 1) := dk_4 (dk_at dksX9_rolls_0 4 rfl rfl)
theorem dX9_rolls_5 : decode cX9_rolls 5 = .ok (.iadd, 1) := dk_96 (dk_at dksX9_rolls_0 5 rfl rfl)
theorem dX9_rolls_6 : decode cX9_rolls 6 = .ok (.ireturn, 1) := dk_172 (dk_at dksX9_rolls_0 6 rfl rfl)
abbrev cX9_steps : ByteArray := prog_4_method_3_code
def yX9_steps : MethodName := ⟨RX9, "steps", "(I)I"⟩
def dkwX9_steps_0 : List UInt8 := [42, 27, 183, 0, 11, 27, 5, 112, 100, 172]
abbrev dktX9_steps_0 : List UInt8 := dkwX9_steps_0 ++ []
theorem dksX9_steps_0 : cX9_steps.data.toList.drop 0 = dktX9_steps_0 := by decide +kernel
theorem dX9_steps_0 : decode cX9_steps 0 = .ok (.aload_n 0, 1) := dk_42 (dk_at dksX9_steps_0 0 rfl rfl)
theorem dX9_steps_1 : decode cX9_steps 1 = .ok (.iload_n 1, 1) := dk_27 (dk_at dksX9_steps_0 1 rfl rfl)
theorem dX9_steps_2 : decode cX9_steps 2 = .ok (.invokespecial 11, 3) := dk_183 0 11 (dk_at dksX9_steps_0 2 rfl rfl)
theorem dX9_steps_5 : decode cX9_steps 5 = .ok (.iload_n 1, 1) := dk_27 (dk_at dksX9_steps_0 5 rfl rfl)
theorem dX9_steps_6 : decode cX9_steps 6 = .ok (.iconst 2, 1) := dk_5 (dk_at dksX9_steps_0 6 rfl rfl)
theorem dX9_steps_7 : decode cX9_steps 7 = .ok (.irem, 1) := dk_112 (dk_at dksX9_steps_0 7 rfl rfl)
theorem dX9_steps_8 : decode cX9_steps 8 = .ok (.isub, 1) := dk_100 (dk_at dksX9_steps_0 8 rfl rfl)
theorem dX9_steps_9 : decode cX9_steps 9 = .ok (.ireturn, 1) := dk_172 (dk_at dksX9_steps_0 9 rfl rfl)
theorem q455 : (Jvm.Cond.selects "WoodliceSenate$Old" ({ cls := "java/lang/Object", name := "getClass", desc := "()Ljava/lang/Class;" } : Jvm.MethodName) ({ cls := "java/lang/Object", name := "getClass", desc := "()Ljava/lang/Class;" } : Jvm.MethodName)) ∈ lw_all := lw_g (lw_at lw_m2 107 rfl) rfl
theorem q553 : (Jvm.Cond.selects "WoodliceSenate$Old" ({ cls := "WoodliceSenate$Sort", name := "number", desc := "()I" } : Jvm.MethodName) ({ cls := "WoodliceSenate$Old", name := "number", desc := "()I" } : Jvm.MethodName)) ∈ lw_all := lw_g (lw_at lw_m2 205 rfl) rfl
theorem q554 : (Jvm.Cond.instanceMethod ({ cls := "WoodliceSenate$Old", name := "number", desc := "()I" } : Jvm.MethodName)) ∈ lw_all := lw_g (lw_at lw_m2 206 rfl) rfl
theorem q555 : (Jvm.Cond.code ({ cls := "WoodliceSenate$Old", name := "number", desc := "()I" } : Jvm.MethodName) prog_4_method_2_code (1 : Nat) (Option.some Jvm.ClassFile.FieldType.int)) ∈ lw_all := lw_g (lw_at lw_m2 207 rfl) rfl
theorem q556 : (Jvm.Cond.methodLink "WoodliceSenate$Old" (7 : Nat) ({ cls := "WoodliceSenate$Sort", name := "number", desc := "()I" } : Jvm.MethodName)) ∈ lw_all := lw_g (lw_at lw_m2 208 rfl) rfl
theorem q557 : (Jvm.Cond.superclass "WoodliceSenate$Old" "WoodliceSenate$Sort") ∈ lw_all := lw_g (lw_at lw_m2 209 rfl) rfl
theorem q838 : (Jvm.Cond.selects "WoodliceSenate$Old" ({ cls := "WoodliceSenate$Sort", name := "rolls", desc := "()I" } : Jvm.MethodName) ({ cls := "WoodliceSenate$Old", name := "rolls", desc := "()I" } : Jvm.MethodName)) ∈ lw_all := lw_g (lw_at lw_m4 10 rfl) rfl
theorem q839 : (Jvm.Cond.instanceMethod ({ cls := "WoodliceSenate$Old", name := "rolls", desc := "()I" } : Jvm.MethodName)) ∈ lw_all := lw_g (lw_at lw_m4 11 rfl) rfl
theorem q840 : (Jvm.Cond.code ({ cls := "WoodliceSenate$Old", name := "rolls", desc := "()I" } : Jvm.MethodName) prog_4_method_4_code (1 : Nat) (Option.some Jvm.ClassFile.FieldType.int)) ∈ lw_all := lw_g (lw_at lw_m4 12 rfl) rfl
theorem q841 : (Jvm.Cond.methodLink "WoodliceSenate$Old" (15 : Nat) ({ cls := "WoodliceSenate$Sort", name := "rolls", desc := "()I" } : Jvm.MethodName)) ∈ lw_all := lw_g (lw_at lw_m4 13 rfl) rfl
theorem q865 : (Jvm.Cond.selects "WoodliceSenate$Old" ({ cls := "WoodliceSenate$Sort", name := "steps", desc := "(I)I" } : Jvm.MethodName) ({ cls := "WoodliceSenate$Old", name := "steps", desc := "(I)I" } : Jvm.MethodName)) ∈ lw_all := lw_g (lw_at lw_m4 37 rfl) rfl
theorem q866 : (Jvm.Cond.instanceMethod ({ cls := "WoodliceSenate$Old", name := "steps", desc := "(I)I" } : Jvm.MethodName)) ∈ lw_all := lw_g (lw_at lw_m4 38 rfl) rfl
theorem q867 : (Jvm.Cond.code ({ cls := "WoodliceSenate$Old", name := "steps", desc := "(I)I" } : Jvm.MethodName) prog_4_method_3_code (2 : Nat) (Option.some Jvm.ClassFile.FieldType.int)) ∈ lw_all := lw_g (lw_at lw_m4 39 rfl) rfl
theorem q868 : (Jvm.Cond.methodLink "WoodliceSenate$Old" (11 : Nat) ({ cls := "WoodliceSenate$Sort", name := "steps", desc := "(I)I" } : Jvm.MethodName)) ∈ lw_all := lw_g (lw_at lw_m4 40 rfl) rfl
theorem q1782 : (Jvm.Cond.castable "WoodliceSenate$Old" "java/lang/Object") ∈ lw_tbl := lw_at lw_m7 234 rfl

/-! WoodliceSenate$Pale -/
set_option maxRecDepth 100000
def RX10 : String := "WoodliceSenate$Pale"
abbrev cX10_number : ByteArray := prog_5_method_2_code
def yX10_number : MethodName := ⟨RX10, "number", "()I"⟩
def dkwX10_number_0 : List UInt8 := [42, 183, 0, 7, 4, 100, 172]
abbrev dktX10_number_0 : List UInt8 := dkwX10_number_0 ++ []
theorem dksX10_number_0 : cX10_number.data.toList.drop 0 = dktX10_number_0 := by decide +kernel
theorem dX10_number_0 : decode cX10_number 0 = .ok (.aload_n 0, 1) := dk_42 (dk_at dksX10_number_0 0 rfl rfl)
theorem dX10_number_1 : decode cX10_number 1 = .ok (.invokespecial 7, 3) := dk_183 0 7 (dk_at dksX10_number_0 1 rfl rfl)
theorem dX10_number_4 : decode cX10_number 4 = .ok (.iconst 1, 1) := dk_4 (dk_at dksX10_number_0 4 rfl rfl)
theorem dX10_number_5 : decode cX10_number 5 = .ok (.isub, 1) := dk_100 (dk_at dksX10_number_0 5 rfl rfl)
theorem dX10_number_6 : decode cX10_number 6 = .ok (.ireturn, 1) := dk_172 (dk_at dksX10_number_0 6 rfl rfl)
abbrev cX10_rolls : ByteArray := prog_5_method_4_code
def yX10_rolls : MethodName := ⟨RX10, "rolls", "()I"⟩
def dkwX10_rolls_0 : List UInt8 := [42, 183, 0, 15, 4, 100, 172]
abbrev dktX10_rolls_0 : List UInt8 := dkwX10_rolls_0 ++ []
theorem dksX10_rolls_0 : cX10_rolls.data.toList.drop 0 = dktX10_rolls_0 := by decide +kernel
theorem dX10_rolls_0 : decode cX10_rolls 0 = .ok (.aload_n 0, 1) := dk_42 (dk_at dksX10_rolls_0 0 rfl rfl)
theorem dX10_rolls_1 : decode cX10_rolls 1 = .ok (.invokespecial 15, 3) := dk_183 0 15 (dk_at dksX10_rolls_0 1 rfl rfl)
theorem dX10_rolls_4 : decode cX10_rolls 4 = .ok (.iconst 1, 1) := dk_4 (dk_at dksX10_rolls_0 4 rfl rfl)
theorem dX10_rolls_5 : decode cX10_rolls 5 = .ok (.isub, 1) := dk_100 (dk_at dksX10_rolls_0 5 rfl rfl)
theorem dX10_rolls_6 : decode cX10_rolls 6 = .ok (.ireturn, 1) := dk_172 (dk_at dksX10_rolls_0 6 rfl rfl)
abbrev cX10_steps : ByteArray := prog_5_method_3_code
def yX10_steps : MethodName := ⟨RX10, "steps", "(I)I"⟩
def dkwX10_steps_0 : List UInt8 := [42, 27, 183, 0, 11, 4, 96, 172]
abbrev dktX10_steps_0 : List UInt8 := dkwX10_steps_0 ++ []
theorem dksX10_steps_0 : cX10_steps.data.toList.drop 0 = dktX10_steps_0 := by decide +kernel
theorem dX10_steps_0 : decode cX10_steps 0 = .ok (.aload_n 0, 1) := dk_42 (dk_at dksX10_steps_0 0 rfl rfl)
theorem dX10_steps_1 : decode cX10_steps 1 = .ok (.iload_n 1, 1) := dk_27 (dk_at dksX10_steps_0 1 rfl rfl)
theorem dX10_steps_2 : decode cX10_steps 2 = .ok (.invokespecial 11, 3) := dk_183 0 11 (dk_at dksX10_steps_0 2 rfl rfl)
theorem dX10_steps_5 : decode cX10_steps 5 = .ok (.iconst 1, 1) := dk_4 (dk_at dksX10_steps_0 5 rfl rfl)
theorem dX10_steps_6 : decode cX10_steps 6 = .ok (.iadd, 1) := dk_96 (dk_at dksX10_steps_0 6 rfl rfl)
theorem dX10_steps_7 : decode cX10_steps 7 = .ok (.ireturn, 1) := dk_172 (dk_at dksX10_steps_0 7 rfl rfl)
theorem q456 : (Jvm.Cond.selects "WoodliceSenate$Pale" ({ cls := "java/lang/Object", name := "getClass", desc := "()Ljava/lang/Class;" } : Jvm.MethodName) ({ cls := "java/lang/Object", name := "getClass", desc := "()Ljava/lang/Class;" } : Jvm.MethodName)) ∈ lw_all := lw_g (lw_at lw_m2 108 rfl) rfl
theorem q558 : (Jvm.Cond.selects "WoodliceSenate$Pale" ({ cls := "WoodliceSenate$Sort", name := "number", desc := "()I" } : Jvm.MethodName) ({ cls := "WoodliceSenate$Pale", name := "number", desc := "()I" } : Jvm.MethodName)) ∈ lw_all := lw_g (lw_at lw_m2 210 rfl) rfl
theorem q559 : (Jvm.Cond.instanceMethod ({ cls := "WoodliceSenate$Pale", name := "number", desc := "()I" } : Jvm.MethodName)) ∈ lw_all := lw_g (lw_at lw_m2 211 rfl) rfl
theorem q560 : (Jvm.Cond.code ({ cls := "WoodliceSenate$Pale", name := "number", desc := "()I" } : Jvm.MethodName) prog_5_method_2_code (1 : Nat) (Option.some Jvm.ClassFile.FieldType.int)) ∈ lw_all := lw_g (lw_at lw_m2 212 rfl) rfl
theorem q561 : (Jvm.Cond.methodLink "WoodliceSenate$Pale" (7 : Nat) ({ cls := "WoodliceSenate$Sort", name := "number", desc := "()I" } : Jvm.MethodName)) ∈ lw_all := lw_g (lw_at lw_m2 213 rfl) rfl
theorem q562 : (Jvm.Cond.superclass "WoodliceSenate$Pale" "WoodliceSenate$Sort") ∈ lw_all := lw_g (lw_at lw_m2 214 rfl) rfl
theorem q842 : (Jvm.Cond.selects "WoodliceSenate$Pale" ({ cls := "WoodliceSenate$Sort", name := "rolls", desc := "()I" } : Jvm.MethodName) ({ cls := "WoodliceSenate$Pale", name := "rolls", desc := "()I" } : Jvm.MethodName)) ∈ lw_all := lw_g (lw_at lw_m4 14 rfl) rfl
theorem q843 : (Jvm.Cond.instanceMethod ({ cls := "WoodliceSenate$Pale", name := "rolls", desc := "()I" } : Jvm.MethodName)) ∈ lw_all := lw_g (lw_at lw_m4 15 rfl) rfl
theorem q844 : (Jvm.Cond.code ({ cls := "WoodliceSenate$Pale", name := "rolls", desc := "()I" } : Jvm.MethodName) prog_5_method_4_code (1 : Nat) (Option.some Jvm.ClassFile.FieldType.int)) ∈ lw_all := lw_g (lw_at lw_m4 16 rfl) rfl
theorem q845 : (Jvm.Cond.methodLink "WoodliceSenate$Pale" (15 : Nat) ({ cls := "WoodliceSenate$Sort", name := "rolls", desc := "()I" } : Jvm.MethodName)) ∈ lw_all := lw_g (lw_at lw_m4 17 rfl) rfl
theorem q869 : (Jvm.Cond.selects "WoodliceSenate$Pale" ({ cls := "WoodliceSenate$Sort", name := "steps", desc := "(I)I" } : Jvm.MethodName) ({ cls := "WoodliceSenate$Pale", name := "steps", desc := "(I)I" } : Jvm.MethodName)) ∈ lw_all := lw_g (lw_at lw_m4 41 rfl) rfl
theorem q870 : (Jvm.Cond.instanceMethod ({ cls := "WoodliceSenate$Pale", name := "steps", desc := "(I)I" } : Jvm.MethodName)) ∈ lw_all := lw_g (lw_at lw_m4 42 rfl) rfl
theorem q871 : (Jvm.Cond.code ({ cls := "WoodliceSenate$Pale", name := "steps", desc := "(I)I" } : Jvm.MethodName) prog_5_method_3_code (2 : Nat) (Option.some Jvm.ClassFile.FieldType.int)) ∈ lw_all := lw_g (lw_at lw_m4 43 rfl) rfl
theorem q872 : (Jvm.Cond.methodLink "WoodliceSenate$Pale" (11 : Nat) ({ cls := "WoodliceSenate$Sort", name := "steps", desc := "(I)I" } : Jvm.MethodName)) ∈ lw_all := lw_g (lw_at lw_m4 44 rfl) rfl
theorem q1781 : (Jvm.Cond.castable "WoodliceSenate$Pale" "java/lang/Object") ∈ lw_tbl := lw_at lw_m7 233 rfl

/-! WoodliceSenate$Sort -/
set_option maxRecDepth 100000
def RX11 : String := "WoodliceSenate$Sort"
abbrev cX11_number : ByteArray := prog_8_method_2_code
def yX11_number : MethodName := ⟨RX11, "number", "()I"⟩
theorem dX11_number_0 : decode cX11_number 0 = .ok (.iconst 1, 1) := by decide +kernel
theorem dX11_number_1 : decode cX11_number 1 = .ok (.ireturn, 1) := by decide +kernel
abbrev cX11_rolls : ByteArray := prog_8_method_4_code
def yX11_rolls : MethodName := ⟨RX11, "rolls", "()I"⟩
theorem dX11_rolls_0 : decode cX11_rolls 0 = .ok (.iconst 2, 1) := by decide +kernel
theorem dX11_rolls_1 : decode cX11_rolls 1 = .ok (.ireturn, 1) := by decide +kernel
abbrev cX11_steps : ByteArray := prog_8_method_3_code
def yX11_steps : MethodName := ⟨RX11, "steps", "(I)I"⟩
theorem dX11_steps_0 : decode cX11_steps 0 = .ok (.iconst 1, 1) := by decide +kernel
theorem dX11_steps_1 : decode cX11_steps 1 = .ok (.ireturn, 1) := by decide +kernel
theorem q459 : (Jvm.Cond.selects "WoodliceSenate$Sort" ({ cls := "java/lang/Object", name := "getClass", desc := "()Ljava/lang/Class;" } : Jvm.MethodName) ({ cls := "java/lang/Object", name := "getClass", desc := "()Ljava/lang/Class;" } : Jvm.MethodName)) ∈ lw_all := lw_g (lw_at lw_m2 111 rfl) rfl
theorem q550 : (Jvm.Cond.instanceMethod ({ cls := "WoodliceSenate$Sort", name := "number", desc := "()I" } : Jvm.MethodName)) ∈ lw_all := lw_g (lw_at lw_m2 202 rfl) rfl
theorem q551 : (Jvm.Cond.selects "WoodliceSenate$Sort" ({ cls := "WoodliceSenate$Sort", name := "number", desc := "()I" } : Jvm.MethodName) ({ cls := "WoodliceSenate$Sort", name := "number", desc := "()I" } : Jvm.MethodName)) ∈ lw_all := lw_g (lw_at lw_m2 203 rfl) rfl
theorem q552 : (Jvm.Cond.sameMethod "WoodliceSenate$Sort" "WoodliceSenate$Sort" "number" "()I") ∈ lw_all := lw_g (lw_at lw_m2 204 rfl) rfl
theorem q563 : (Jvm.Cond.code ({ cls := "WoodliceSenate$Sort", name := "number", desc := "()I" } : Jvm.MethodName) prog_8_method_2_code (1 : Nat) (Option.some Jvm.ClassFile.FieldType.int)) ∈ lw_all := lw_g (lw_at lw_m2 215 rfl) rfl
theorem q835 : (Jvm.Cond.instanceMethod ({ cls := "WoodliceSenate$Sort", name := "rolls", desc := "()I" } : Jvm.MethodName)) ∈ lw_all := lw_g (lw_at lw_m4 7 rfl) rfl
theorem q836 : (Jvm.Cond.selects "WoodliceSenate$Sort" ({ cls := "WoodliceSenate$Sort", name := "rolls", desc := "()I" } : Jvm.MethodName) ({ cls := "WoodliceSenate$Sort", name := "rolls", desc := "()I" } : Jvm.MethodName)) ∈ lw_all := lw_g (lw_at lw_m4 8 rfl) rfl
theorem q837 : (Jvm.Cond.sameMethod "WoodliceSenate$Sort" "WoodliceSenate$Sort" "rolls" "()I") ∈ lw_all := lw_g (lw_at lw_m4 9 rfl) rfl
theorem q846 : (Jvm.Cond.code ({ cls := "WoodliceSenate$Sort", name := "rolls", desc := "()I" } : Jvm.MethodName) prog_8_method_4_code (1 : Nat) (Option.some Jvm.ClassFile.FieldType.int)) ∈ lw_all := lw_g (lw_at lw_m4 18 rfl) rfl
theorem q862 : (Jvm.Cond.instanceMethod ({ cls := "WoodliceSenate$Sort", name := "steps", desc := "(I)I" } : Jvm.MethodName)) ∈ lw_all := lw_g (lw_at lw_m4 34 rfl) rfl
theorem q863 : (Jvm.Cond.selects "WoodliceSenate$Sort" ({ cls := "WoodliceSenate$Sort", name := "steps", desc := "(I)I" } : Jvm.MethodName) ({ cls := "WoodliceSenate$Sort", name := "steps", desc := "(I)I" } : Jvm.MethodName)) ∈ lw_all := lw_g (lw_at lw_m4 35 rfl) rfl
theorem q864 : (Jvm.Cond.sameMethod "WoodliceSenate$Sort" "WoodliceSenate$Sort" "steps" "(I)I") ∈ lw_all := lw_g (lw_at lw_m4 36 rfl) rfl
theorem q873 : (Jvm.Cond.code ({ cls := "WoodliceSenate$Sort", name := "steps", desc := "(I)I" } : Jvm.MethodName) prog_8_method_3_code (2 : Nat) (Option.some Jvm.ClassFile.FieldType.int)) ∈ lw_all := lw_g (lw_at lw_m4 45 rfl) rfl
theorem q1774 : (Jvm.Cond.castable "WoodliceSenate$Sort" "java/lang/Object") ∈ lw_tbl := lw_at lw_m7 226 rfl

theorem q1792 : (Jvm.Cond.castable "[B" "java/lang/Object") ∈ lw_tbl := lw_at lw_m8 4 rfl
set_option maxRecDepth 100000

theorem q1795 : (Jvm.Cond.castable "[LWoodliceSenate$Louse;" "java/lang/Object") ∈ lw_tbl := lw_at lw_m8 7 rfl
set_option maxRecDepth 100000

theorem q1798 : (Jvm.Cond.castable "[LWoodliceSenate$Sheet;" "java/lang/Object") ∈ lw_tbl := lw_at lw_m8 10 rfl
set_option maxRecDepth 100000

theorem q1801 : (Jvm.Cond.castable "[LWoodliceSenate$Sort;" "java/lang/Object") ∈ lw_tbl := lw_at lw_m8 13 rfl
set_option maxRecDepth 100000

theorem q1789 : (Jvm.Cond.sameMethod "[Ljava/lang/Object;" "java/lang/Object" "getClass" "()Ljava/lang/Class;") ∈ lw_all := lw_g (lw_at lw_m8 1 rfl) rfl
set_option maxRecDepth 100000
theorem q1790 : (Jvm.Cond.selects "[Ljava/lang/Object;" ({ cls := "java/lang/Object", name := "getClass", desc := "()Ljava/lang/Class;" } : Jvm.MethodName) ({ cls := "java/lang/Object", name := "getClass", desc := "()Ljava/lang/Class;" } : Jvm.MethodName)) ∈ lw_all := lw_g (lw_at lw_m8 2 rfl) rfl
theorem q1793 : (Jvm.Cond.castable "[Ljava/lang/Object;" "java/lang/Object") ∈ lw_tbl := lw_at lw_m8 5 rfl

theorem q1799 : (Jvm.Cond.castable "[S" "java/lang/Object") ∈ lw_tbl := lw_at lw_m8 11 rfl
set_option maxRecDepth 100000

theorem q1797 : (Jvm.Cond.castable "[[I" "java/lang/Object") ∈ lw_tbl := lw_at lw_m8 9 rfl
set_option maxRecDepth 100000

theorem q1796 : (Jvm.Cond.castable "[[LWoodliceSenate$Louse;" "java/lang/Object") ∈ lw_tbl := lw_at lw_m8 8 rfl
set_option maxRecDepth 100000

theorem q131 : (Jvm.Cond.initialized "java/lang/System") ∈ lw_all := lw_g (lw_at lw_m1 23 rfl) rfl
set_option maxRecDepth 100000
theorem q476 : (Jvm.Cond.static ({ cls := "java/lang/System", name := "arraycopy", desc := "(Ljava/lang/Object;ILjava/lang/Object;II)V" } : Jvm.MethodName)) ∈ lw_all := lw_g (lw_at lw_m2 128 rfl) rfl
theorem q477 : (Jvm.Cond.native ({ cls := "java/lang/System", name := "arraycopy", desc := "(Ljava/lang/Object;ILjava/lang/Object;II)V" } : Jvm.MethodName)) ∈ lw_all := lw_g (lw_at lw_m2 129 rfl) rfl

theorem q418 : (Jvm.Cond.arrayClass Jvm.ClassFile.FieldType.byte) ∈ lw_all := lw_g (lw_at lw_m2 70 rfl) rfl
set_option maxRecDepth 100000
theorem q472 : (Jvm.Cond.arrayOver (Jvm.ClassFile.FieldType.object "java/lang/Object")) ∈ lw_tbl := lw_at lw_m2 124 rfl
theorem q574 : (Jvm.Cond.arrayClass Jvm.ClassFile.FieldType.int) ∈ lw_all := lw_g (lw_at lw_m2 226 rfl) rfl
theorem q703 : (Jvm.Cond.arrayOver (Jvm.ClassFile.FieldType.object "WoodliceSenate$Louse")) ∈ lw_tbl := lw_at lw_m3 115 rfl
theorem q735 : (Jvm.Cond.arrayOver (Jvm.ClassFile.FieldType.array (Jvm.ClassFile.FieldType.object "WoodliceSenate$Louse"))) ∈ lw_tbl := lw_at lw_m3 147 rfl
theorem q737 : (Jvm.Cond.arrayOver (Jvm.ClassFile.FieldType.array Jvm.ClassFile.FieldType.int)) ∈ lw_tbl := lw_at lw_m3 149 rfl
theorem q739 : (Jvm.Cond.arrayOver (Jvm.ClassFile.FieldType.object "WoodliceSenate$Sheet")) ∈ lw_tbl := lw_at lw_m3 151 rfl
theorem q1123 : (Jvm.Cond.arrayClass Jvm.ClassFile.FieldType.short) ∈ lw_all := lw_g (lw_at lw_m5 55 rfl) rfl
theorem q1357 : (Jvm.Cond.arrayClass Jvm.ClassFile.FieldType.boolean) ∈ lw_all := lw_g (lw_at lw_m6 49 rfl) rfl
