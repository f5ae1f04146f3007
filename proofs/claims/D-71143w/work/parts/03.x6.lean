/-! WoodliceSenateModel -/
set_option maxRecDepth 100000
def RX6 : String := "WoodliceSenateModel"
def TX6 : u_T := fun k => match k with
  | 0 => ("WoodliceSenateModel", "typed", "[I", true)
  | 1 => ("WoodliceSenateModel", "texts", "[I", true)
  | 2 => ("WoodliceSenateModel", "figures", "I", false)
  | 3 => ("WoodliceSenateModel", "stoneTold", "[I", true)
  | 4 => ("WoodliceSenateModel", "members", "I", false)
  | 5 => ("WoodliceSenateModel", "sorts", "[I", true)
  | 6 => ("WoodliceSenateModel", "placeTold", "[I", true)
  | 7 => ("WoodliceSenateModel", "upTold", "[I", true)
  | 8 => ("WoodliceSenateModel", "events", "I", false)
  | 9 => ("WoodliceSenateModel", "eventKind", "[I", true)
  | 10 => ("WoodliceSenateModel", "eventHour", "[I", true)
  | 11 => ("WoodliceSenateModel", "eventPlace", "[I", true)
  | 12 => ("WoodliceSenateModel", "eventsNow", "I", false)
  | 13 => ("WoodliceSenateModel", "kindNow", "[I", true)
  | 14 => ("WoodliceSenateModel", "hourNow", "[I", true)
  | 15 => ("WoodliceSenateModel", "placeNow", "[I", true)
  | 16 => ("WoodliceSenateModel", "notEvents", "I", false)
  | 17 => ("WoodliceSenateModel", "damps", "[I", true)
  | 18 => ("WoodliceSenateModel", "at", "[I", true)
  | 19 => ("WoodliceSenateModel", "ups", "[I", true)
  | 20 => ("WoodliceSenateModel", "until", "[I", true)
  | 21 => ("WoodliceSenateModel", "speeches", "[I", true)
  | 22 => ("WoodliceSenateModel", "went", "I", false)
  | 23 => ("WoodliceSenateModel", "dampAt", "[I", true)
  | 24 => ("WoodliceSenateModel", "atAt", "[I", true)
  | 25 => ("WoodliceSenateModel", "upAt", "[I", true)
  | 26 => ("WoodliceSenateModel", "speechAt", "[I", true)
  | 27 => ("WoodliceSenateModel", "rolledAt", "[I", true)
  | 28 => ("WoodliceSenateModel", "ayesAt", "[I", true)
  | 29 => ("WoodliceSenateModel", "noesAt", "[I", true)
  | 30 => ("WoodliceSenateModel", "planRow", "[I", true)
  | 31 => ("WoodliceSenateModel", "seens", "I", false)
  | 32 => ("WoodliceSenateModel", "seenHour", "[I", true)
  | 33 => ("WoodliceSenateModel", "seenWho", "[I", true)
  | 34 => ("WoodliceSenateModel", "seenPlace", "[I", true)
  | 35 => ("WoodliceSenateModel", "dampBy", "[I", true)
  | 36 => ("WoodliceSenateModel", "isThere", "[Z", true)
  | 37 => ("WoodliceSenateModel", "forms", "[I", true)
  | 38 => ("WoodliceSenateModel", "sizes", "[I", true)
  | 39 => ("WoodliceSenateModel", "items", "[I", true)
  | 40 => ("WoodliceSenateModel", "moved", "[I", true)
  | _ => ("WoodliceSenateModel", "finding", "I", false)
def tyX6 : Nat → FieldType := fun k => match k with
  | 0 => .array .int
  | 1 => .array .int
  | 2 => .int
  | 3 => .array .int
  | 4 => .int
  | 5 => .array .int
  | 6 => .array .int
  | 7 => .array .int
  | 8 => .int
  | 9 => .array .int
  | 10 => .array .int
  | 11 => .array .int
  | 12 => .int
  | 13 => .array .int
  | 14 => .array .int
  | 15 => .array .int
  | 16 => .int
  | 17 => .array .int
  | 18 => .array .int
  | 19 => .array .int
  | 20 => .array .int
  | 21 => .array .int
  | 22 => .int
  | 23 => .array .int
  | 24 => .array .int
  | 25 => .array .int
  | 26 => .array .int
  | 27 => .array .int
  | 28 => .array .int
  | 29 => .array .int
  | 30 => .array .int
  | 31 => .int
  | 32 => .array .int
  | 33 => .array .int
  | 34 => .array .int
  | 35 => .array .int
  | 36 => .array .boolean
  | 37 => .array .int
  | 38 => .array .int
  | 39 => .array .int
  | 40 => .array .int
  | _ => .int
abbrev wsX60 : List Cond := u_ws RX6 TX6 42
set_option maxRecDepth 100000 in
theorem nmX6 : ∀ a, a < 42 → ∀ b, b < 42 → a ≠ b → (TX6 a).2.1 ≠ (TX6 b).2.1 := by decide +kernel
set_option maxRecDepth 100000 in
theorem tyX6_ok : ∀ k, k < 42 → parseFieldDescriptor (TX6 k).2.2.1 = some (tyX6 k) := by decide +kernel
abbrev cX6_init : ByteArray := prog_13_method_1_code
def yX6_init : MethodName := ⟨RX6, "<init>", "()V"⟩
def dkwX6_init_11 : List UInt8 := [17, 0, 240, 188, 10, 181, 0, 107, 42, 16, 60, 188, 10, 181, 0, 110, 177]
abbrev dktX6_init_11 : List UInt8 := dkwX6_init_11 ++ []
def dkwX6_init_10 : List UInt8 := [42, 7, 188, 4, 181, 0, 97, 42, 7, 188, 10, 181, 0, 101, 42, 7, 188, 10, 181, 0, 104, 42]
abbrev dktX6_init_10 : List UInt8 := dkwX6_init_10 ++ dktX6_init_11
def dkwX6_init_9 : List UInt8 := [16, 8, 188, 10, 181, 0, 88, 42, 16, 8, 188, 10, 181, 0, 91, 42, 17, 0, 200, 188, 10, 181, 0, 94]
abbrev dktX6_init_9 : List UInt8 := dkwX6_init_9 ++ dktX6_init_10
def dkwX6_init_8 : List UInt8 := [42, 16, 20, 188, 10, 181, 0, 79, 42, 5, 188, 10, 181, 0, 82, 42, 16, 8, 188, 10, 181, 0, 85, 42]
abbrev dktX6_init_8 : List UInt8 := dkwX6_init_8 ++ dktX6_init_9
def dkwX6_init_7 : List UInt8 := [17, 0, 160, 188, 10, 181, 0, 70, 42, 16, 20, 188, 10, 181, 0, 73, 42, 16, 20, 188, 10, 181, 0, 76]
abbrev dktX6_init_7 : List UInt8 := dkwX6_init_7 ++ dktX6_init_8
def dkwX6_init_6 : List UInt8 := [188, 10, 181, 0, 61, 42, 17, 0, 160, 188, 10, 181, 0, 64, 42, 17, 0, 160, 188, 10, 181, 0, 67, 42]
abbrev dktX6_init_6 : List UInt8 := dkwX6_init_6 ++ dktX6_init_7
def dkwX6_init_5 : List UInt8 := [181, 0, 52, 42, 16, 8, 188, 10, 181, 0, 55, 42, 16, 8, 188, 10, 181, 0, 58, 42, 17, 0, 240]
abbrev dktX6_init_5 : List UInt8 := dkwX6_init_5 ++ dktX6_init_6
def dkwX6_init_4 : List UInt8 := [181, 0, 43, 42, 16, 12, 188, 10, 181, 0, 46, 42, 16, 8, 188, 10, 181, 0, 49, 42, 16, 8, 188, 10]
abbrev dktX6_init_4 : List UInt8 := dkwX6_init_4 ++ dktX6_init_5
def dkwX6_init_3 : List UInt8 := [181, 0, 34, 42, 16, 9, 188, 10, 181, 0, 37, 42, 16, 9, 188, 10, 181, 0, 40, 42, 16, 9, 188, 10]
abbrev dktX6_init_3 : List UInt8 := dkwX6_init_3 ++ dktX6_init_4
def dkwX6_init_2 : List UInt8 := [181, 0, 25, 42, 16, 9, 188, 10, 181, 0, 28, 42, 16, 9, 188, 10, 181, 0, 31, 42, 16, 9, 188, 10]
abbrev dktX6_init_2 : List UInt8 := dkwX6_init_2 ++ dktX6_init_3
def dkwX6_init_1 : List UInt8 := [181, 0, 16, 42, 16, 9, 188, 10, 181, 0, 19, 42, 16, 9, 188, 10, 181, 0, 22, 42, 16, 9, 188, 10]
abbrev dktX6_init_1 : List UInt8 := dkwX6_init_1 ++ dktX6_init_2
def dkwX6_init_0 : List UInt8 := [42, 183, 0, 1, 42, 5, 188, 10, 181, 0, 7, 42, 16, 62, 188, 10, 181, 0, 13, 42, 16, 12, 188, 10]
abbrev dktX6_init_0 : List UInt8 := dkwX6_init_0 ++ dktX6_init_1
theorem dksX6_init_0 : cX6_init.data.toList.drop 0 = dktX6_init_0 := by decide +kernel
theorem dksX6_init_1 : cX6_init.data.toList.drop 24 = dktX6_init_1 := dk_seg dksX6_init_0 24 rfl rfl
theorem dksX6_init_2 : cX6_init.data.toList.drop 48 = dktX6_init_2 := dk_seg dksX6_init_1 24 rfl rfl
theorem dksX6_init_3 : cX6_init.data.toList.drop 72 = dktX6_init_3 := dk_seg dksX6_init_2 24 rfl rfl
theorem dksX6_init_4 : cX6_init.data.toList.drop 96 = dktX6_init_4 := dk_seg dksX6_init_3 24 rfl rfl
theorem dksX6_init_5 : cX6_init.data.toList.drop 120 = dktX6_init_5 := dk_seg dksX6_init_4 24 rfl rfl
theorem dksX6_init_6 : cX6_init.data.toList.drop 143 = dktX6_init_6 := dk_seg dksX6_init_5 23 rfl rfl
theorem dksX6_init_7 : cX6_init.data.toList.drop 167 = dktX6_init_7 := dk_seg dksX6_init_6 24 rfl rfl
theorem dksX6_init_8 : cX6_init.data.toList.drop 191 = dktX6_init_8 := dk_seg dksX6_init_7 24 rfl rfl
theorem dksX6_init_9 : cX6_init.data.toList.drop 215 = dktX6_init_9 := dk_seg dksX6_init_8 24 rfl rfl
theorem dksX6_init_10 : cX6_init.data.toList.drop 239 = dktX6_init_10 := dk_seg dksX6_init_9 24 rfl rfl
theorem dksX6_init_11 : cX6_init.data.toList.drop 261 = dktX6_init_11 := dk_seg dksX6_init_10 22 rfl rfl
theorem dX6_init_0 : decode cX6_init 0 = .ok (.aload_n 0, 1) := dk_42 (dk_at dksX6_init_0 0 rfl rfl)
theorem dX6_init_1 : decode cX6_init 1 = .ok (.invokespecial 1, 3) := dk_183 0 1 (dk_at dksX6_init_0 1 rfl rfl)
theorem dX6_init_4 : decode cX6_init 4 = .ok (.aload_n 0, 1) := dk_42 (dk_at dksX6_init_0 4 rfl rfl)
theorem dX6_init_5 : decode cX6_init 5 = .ok (.iconst 2, 1) := dk_5 (dk_at dksX6_init_0 5 rfl rfl)
theorem dX6_init_6 : decode cX6_init 6 = .ok (.newarray .int, 2) := dk_188_10 (dk_at dksX6_init_0 6 rfl rfl)
theorem dX6_init_8 : decode cX6_init 8 = .ok (.putfield 7, 3) := dk_181 0 7 (dk_at dksX6_init_0 8 rfl rfl)
theorem dX6_init_11 : decode cX6_init 11 = .ok (.aload_n 0, 1) := dk_42 (dk_at dksX6_init_0 11 rfl rfl)
theorem dX6_init_12 : decode cX6_init 12 = .ok (.bipush 62, 2) := dk_16 62 (dk_at dksX6_init_0 12 rfl rfl)
theorem dX6_init_14 : decode cX6_init 14 = .ok (.newarray .int, 2) := dk_188_10 (dk_at dksX6_init_0 14 rfl rfl)
theorem dX6_init_16 : decode cX6_init 16 = .ok (.putfield 13, 3) := dk_181 0 13 (dk_at dksX6_init_0 16 rfl rfl)
theorem dX6_init_19 : decode cX6_init 19 = .ok (.aload_n 0, 1) := dk_42 (dk_at dksX6_init_0 19 rfl rfl)
theorem dX6_init_20 : decode cX6_init 20 = .ok (.bipush 12, 2) := dk_16 12 (dk_at dksX6_init_0 20 rfl rfl)
theorem dX6_init_22 : decode cX6_init 22 = .ok (.newarray .int, 2) := dk_188_10 (dk_at dksX6_init_0 22 rfl rfl)
theorem dX6_init_24 : decode cX6_init 24 = .ok (.putfield 16, 3) := dk_181 0 16 (dk_at dksX6_init_1 0 rfl rfl)
theorem dX6_init_27 : decode cX6_init 27 = .ok (.aload_n 0, 1) := dk_42 (dk_at dksX6_init_1 3 rfl rfl)
theorem dX6_init_28 : decode cX6_init 28 = .ok (.bipush 9, 2) := dk_16 9 (dk_at dksX6_init_1 4 rfl rfl)
theorem dX6_init_30 : decode cX6_init 30 = .ok (.newarray .int, 2) := dk_188_10 (dk_at dksX6_init_1 6 rfl rfl)
theorem dX6_init_32 : decode cX6_init 32 = .ok (.putfield 19, 3) := dk_181 0 19 (dk_at dksX6_init_1 8 rfl rfl)
theorem dX6_init_35 : decode cX6_init 35 = .ok (.aload_n 0, 1) := dk_42 (dk_at dksX6_init_1 11 rfl rfl)
theorem dX6_init_36 : decode cX6_init 36 = .ok (.bipush 9, 2) := dk_16 9 (dk_at dksX6_init_1 12 rfl rfl)
theorem dX6_init_38 : decode cX6_init 38 = .ok (.newarray .int, 2) := dk_188_10 (dk_at dksX6_init_1 14 rfl rfl)
theorem dX6_init_40 : decode cX6_init 40 = .ok (.putfield 22, 3) := dk_181 0 22 (dk_at dksX6_init_1 16 rfl rfl)
theorem dX6_init_43 : decode cX6_init 43 = .ok (.aload_n 0, 1) := dk_42 (dk_at dksX6_init_1 19 rfl rfl)
theorem dX6_init_44 : decode cX6_init 44 = .ok (.bipush 9, 2) := dk_16 9 (dk_at dksX6_init_1 20 rfl rfl)
theorem dX6_init_46 : decode cX6_init 46 = .ok (.newarray .int, 2) := dk_188_10 (dk_at dksX6_init_1 22 rfl rfl)
theorem dX6_init_48 : decode cX6_init 48 = .ok (.putfield 25, 3) := dk_181 0 25 (dk_at dksX6_init_2 0 rfl rfl)
theorem dX6_init_51 : decode cX6_init 51 = .ok (.aload_n 0, 1) := dk_42 (dk_at dksX6_init_2 3 rfl rfl)
theorem dX6_init_52 : decode cX6_init 52 = .ok (.bipush 9, 2) := dk_16 9 (dk_at dksX6_init_2 4 rfl rfl)
theorem dX6_init_54 : decode cX6_init 54 = .ok (.newarray .int, 2) := dk_188_10 (dk_at dksX6_init_2 6 rfl rfl)
theorem dX6_init_56 : decode cX6_init 56 = .ok (.putfield 28, 3) := dk_181 0 28 (dk_at dksX6_init_2 8 rfl rfl)
theorem dX6_init_59 : decode cX6_init 59 = .ok (.aload_n 0, 1) := dk_42 (dk_at dksX6_init_2 11 rfl rfl)
theorem dX6_init_60 : decode cX6_init 60 = .ok (.bipush 9, 2) := dk_16 9 (dk_at dksX6_init_2 12 rfl rfl)
theorem dX6_init_62 : decode cX6_init 62 = .ok (.newarray .int, 2) := dk_188_10 (dk_at dksX6_init_2 14 rfl rfl)
theorem dX6_init_64 : decode cX6_init 64 = .ok (.putfield 31, 3) := dk_181 0 31 (dk_at dksX6_init_2 16 rfl rfl)
theorem dX6_init_67 : decode cX6_init 67 = .ok (.aload_n 0, 1) := dk_42 (dk_at dksX6_init_2 19 rfl rfl)
theorem dX6_init_68 : decode cX6_init 68 = .ok (.bipush 9, 2) := dk_16 9 (dk_at dksX6_init_2 20 rfl rfl)
theorem dX6_init_70 : decode cX6_init 70 = .ok (.newarray .int, 2) := dk_188_10 (dk_at dksX6_init_2 22 rfl rfl)
theorem dX6_init_72 : decode cX6_init 72 = .ok (.putfield 34, 3) := dk_181 0 34 (dk_at dksX6_init_3 0 rfl rfl)
theorem dX6_init_75 : decode cX6_init 75 = .ok (.aload_n 0, 1) := dk_42 (dk_at dksX6_init_3 3 rfl rfl)
theorem dX6_init_76 : decode cX6_init 76 = .ok (.bipush 9, 2) := dk_16 9 (dk_at dksX6_init_3 4 rfl rfl)
theorem dX6_init_78 : decode cX6_init 78 = .ok (.newarray .int, 2) := dk_188_10 (dk_at dksX6_init_3 6 rfl rfl)
theorem dX6_init_80 : decode cX6_init 80 = .ok (.putfield 37, 3) := dk_181 0 37 (dk_at dksX6_init_3 8 rfl rfl)
theorem dX6_init_83 : decode cX6_init 83 = .ok (.aload_n 0, 1) := dk_42 (dk_at dksX6_init_3 11 rfl rfl)
theorem dX6_init_84 : decode cX6_init 84 = .ok (.bipush 9, 2) := dk_16 9 (dk_at dksX6_init_3 12 rfl rfl)
theorem dX6_init_86 : decode cX6_init 86 = .ok (.newarray .int, 2) := dk_188_10 (dk_at dksX6_init_3 14 rfl rfl)
theorem dX6_init_88 : decode cX6_init 88 = .ok (.putfield 40, 3) := dk_181 0 40 (dk_at dksX6_init_3 16 rfl rfl)
theorem dX6_init_91 : decode cX6_init 91 = .ok (.aload_n 0, 1) := dk_42 (dk_at dksX6_init_3 19 rfl rfl)
theorem dX6_init_92 : decode cX6_init 92 = .ok (.bipush 9, 2) := dk_16 9 (dk_at dksX6_init_3 20 rfl rfl)
theorem dX6_init_94 : decode cX6_init 94 = .ok (.newarray .int, 2) := dk_188_10 (dk_at dksX6_init_3 22 rfl rfl)
theorem dX6_init_96 : decode cX6_init 96 = .ok (.putfield 43, 3) := dk_181 0 43 (dk_at dksX6_init_4 0 rfl rfl)
theorem dX6_init_99 : decode cX6_init 99 = .ok (.aload_n 0, 1) := dk_42 (dk_at dksX6_init_4 3 rfl rfl)
theorem dX6_init_100 : decode cX6_init 100 = .ok (.bipush 12, 2) := dk_16 12 (dk_at dksX6_init_4 4 rfl rfl)
theorem dX6_init_102 : decode cX6_init 102 = .ok (.newarray .int, 2) := dk_188_10 (dk_at dksX6_init_4 6 rfl rfl)
theorem dX6_init_104 : decode cX6_init 104 = .ok (.putfield 46, 3) := dk_181 0 46 (dk_at dksX6_init_4 8 rfl rfl)
theorem dX6_init_107 : decode cX6_init 107 = .ok (.aload_n 0, 1) := dk_42 (dk_at dksX6_init_4 11 rfl rfl)
theorem dX6_init_108 : decode cX6_init 108 = .ok (.bipush 8, 2) := dk_16 8 (dk_at dksX6_init_4 12 rfl rfl)
theorem dX6_init_110 : decode cX6_init 110 = .ok (.newarray .int, 2) := dk_188_10 (dk_at dksX6_init_4 14 rfl rfl)
theorem dX6_init_112 : decode cX6_init 112 = .ok (.putfield 49, 3) := dk_181 0 49 (dk_at dksX6_init_4 16 rfl rfl)
theorem dX6_init_115 : decode cX6_init 115 = .ok (.aload_n 0, 1) := dk_42 (dk_at dksX6_init_4 19 rfl rfl)
theorem dX6_init_116 : decode cX6_init 116 = .ok (.bipush 8, 2) := dk_16 8 (dk_at dksX6_init_4 20 rfl rfl)
theorem dX6_init_118 : decode cX6_init 118 = .ok (.newarray .int, 2) := dk_188_10 (dk_at dksX6_init_4 22 rfl rfl)
theorem dX6_init_120 : decode cX6_init 120 = .ok (.putfield 52, 3) := dk_181 0 52 (dk_at dksX6_init_5 0 rfl rfl)
theorem dX6_init_123 : decode cX6_init 123 = .ok (.aload_n 0, 1) := dk_42 (dk_at dksX6_init_5 3 rfl rfl)
theorem dX6_init_124 : decode cX6_init 124 = .ok (.bipush 8, 2) := dk_16 8 (dk_at dksX6_init_5 4 rfl rfl)
theorem dX6_init_126 : decode cX6_init 126 = .ok (.newarray .int, 2) := dk_188_10 (dk_at dksX6_init_5 6 rfl rfl)
theorem dX6_init_128 : decode cX6_init 128 = .ok (.putfield 55, 3) := dk_181 0 55 (dk_at dksX6_init_5 8 rfl rfl)
theorem dX6_init_131 : decode cX6_init 131 = .ok (.aload_n 0, 1) := dk_42 (dk_at dksX6_init_5 11 rfl rfl)
theorem dX6_init_132 : decode cX6_init 132 = .ok (.bipush 8, 2) := dk_16 8 (dk_at dksX6_init_5 12 rfl rfl)
theorem dX6_init_134 : decode cX6_init 134 = .ok (.newarray .int, 2) := dk_188_10 (dk_at dksX6_init_5 14 rfl rfl)
theorem dX6_init_136 : decode cX6_init 136 = .ok (.putfield 58, 3) := dk_181 0 58 (dk_at dksX6_init_5 16 rfl rfl)
theorem dX6_init_139 : decode cX6_init 139 = .ok (.aload_n 0, 1) := dk_42 (dk_at dksX6_init_5 19 rfl rfl)
theorem dX6_init_140 : decode cX6_init 140 = .ok (.sipush 240, 3) := dk_17 0 240 (dk_at dksX6_init_5 20 rfl rfl)
theorem dX6_init_143 : decode cX6_init 143 = .ok (.newarray .int, 2) := dk_188_10 (dk_at dksX6_init_6 0 rfl rfl)
theorem dX6_init_145 : decode cX6_init 145 = .ok (.putfield 61, 3) := dk_181 0 61 (dk_at dksX6_init_6 2 rfl rfl)
theorem dX6_init_148 : decode cX6_init 148 = .ok (.aload_n 0, 1) := dk_42 (dk_at dksX6_init_6 5 rfl rfl)
theorem dX6_init_149 : decode cX6_init 149 = .ok (.sipush 160, 3) := dk_17 0 160 (dk_at dksX6_init_6 6 rfl rfl)
theorem dX6_init_152 : decode cX6_init 152 = .ok (.newarray .int, 2) := dk_188_10 (dk_at dksX6_init_6 9 rfl rfl)
theorem dX6_init_154 : decode cX6_init 154 = .ok (.putfield 64, 3) := dk_181 0 64 (dk_at dksX6_init_6 11 rfl rfl)
theorem dX6_init_157 : decode cX6_init 157 = .ok (.aload_n 0, 1) := dk_42 (dk_at dksX6_init_6 14 rfl rfl)
theorem dX6_init_158 : decode cX6_init 158 = .ok (.sipush 160, 3) := dk_17 0 160 (dk_at dksX6_init_6 15 rfl rfl)
theorem dX6_init_161 : decode cX6_init 161 = .ok (.newarray .int, 2) := dk_188_10 (dk_at dksX6_init_6 18 rfl rfl)
theorem dX6_init_163 : decode cX6_init 163 = .ok (.putfield 67, 3) := dk_181 0 67 (dk_at dksX6_init_6 20 rfl rfl)
theorem dX6_init_166 : decode cX6_init 166 = .ok (.aload_n 0, 1) := dk_42 (dk_at dksX6_init_6 23 rfl rfl)
theorem dX6_init_167 : decode cX6_init 167 = .ok (.sipush 160, 3) := dk_17 0 160 (dk_at dksX6_init_7 0 rfl rfl)
theorem dX6_init_170 : decode cX6_init 170 = .ok (.newarray .int, 2) := dk_188_10 (dk_at dksX6_init_7 3 rfl rfl)
theorem dX6_init_172 : decode cX6_init 172 = .ok (.putfield 70, 3) := dk_181 0 70 (dk_at dksX6_init_7 5 rfl rfl)
theorem dX6_init_175 : decode cX6_init 175 = .ok (.aload_n 0, 1) := dk_42 (dk_at dksX6_init_7 8 rfl rfl)
theorem dX6_init_176 : decode cX6_init 176 = .ok (.bipush 20, 2) := dk_16 20 (dk_at dksX6_init_7 9 rfl rfl)
theorem dX6_init_178 : decode cX6_init 178 = .ok (.newarray .int, 2) := dk_188_10 (dk_at dksX6_init_7 11 rfl rfl)
theorem dX6_init_180 : decode cX6_init 180 = .ok (.putfield 73, 3) := dk_181 0 73 (dk_at dksX6_init_7 13 rfl rfl)
theorem dX6_init_183 : decode cX6_init 183 = .ok (.aload_n 0, 1) := dk_42 (dk_at dksX6_init_7 16 rfl rfl)
theorem dX6_init_184 : decode cX6_init 184 = .ok (.bipush 20, 2) := dk_16 20 (dk_at dksX6_init_7 17 rfl rfl)
theorem dX6_init_186 : decode cX6_init 186 = .ok (.newarray .int, 2) := dk_188_10 (dk_at dksX6_init_7 19 rfl rfl)
theorem dX6_init_188 : decode cX6_init 188 = .ok (.putfield 76, 3) := dk_181 0 76 (dk_at dksX6_init_7 21 rfl rfl)
theorem dX6_init_191 : decode cX6_init 191 = .ok (.aload_n 0, 1) := dk_42 (dk_at dksX6_init_8 0 rfl rfl)
theorem dX6_init_192 : decode cX6_init 192 = .ok (.bipush 20, 2) := dk_16 20 (dk_at dksX6_init_8 1 rfl rfl)
theorem dX6_init_194 : decode cX6_init 194 = .ok (.newarray .int, 2) := dk_188_10 (dk_at dksX6_init_8 3 rfl rfl)
theorem dX6_init_196 : decode cX6_init 196 = .ok (.putfield 79, 3) := dk_181 0 79 (dk_at dksX6_init_8 5 rfl rfl)
theorem dX6_init_199 : decode cX6_init 199 = .ok (.aload_n 0, 1) := dk_42 (dk_at dksX6_init_8 8 rfl rfl)
theorem dX6_init_200 : decode cX6_init 200 = .ok (.iconst 2, 1) := dk_5 (dk_at dksX6_init_8 9 rfl rfl)
theorem dX6_init_201 : decode cX6_init 201 = .ok (.newarray .int, 2) := dk_188_10 (dk_at dksX6_init_8 10 rfl rfl)
theorem dX6_init_203 : decode cX6_init 203 = .ok (.putfield 82, 3) := dk_181 0 82 (dk_at dksX6_init_8 12 rfl rfl)
theorem dX6_init_206 : decode cX6_init 206 = .ok (.aload_n 0, 1) := dk_42 (dk_at dksX6_init_8 15 rfl rfl)
theorem dX6_init_207 : decode cX6_init 207 = .ok (.bipush 8, 2) := dk_16 8 (dk_at dksX6_init_8 16 rfl rfl)
theorem dX6_init_209 : decode cX6_init 209 = .ok (.newarray .int, 2) := dk_188_10 (dk_at dksX6_init_8 18 rfl rfl)
theorem dX6_init_211 : decode cX6_init 211 = .ok (.putfield 85, 3) := dk_181 0 85 (dk_at dksX6_init_8 20 rfl rfl)
theorem dX6_init_214 : decode cX6_init 214 = .ok (.aload_n 0, 1) := dk_42 (dk_at dksX6_init_8 23 rfl rfl)
theorem dX6_init_215 : decode cX6_init 215 = .ok (.bipush 8, 2) := dk_16 8 (dk_at dksX6_init_9 0 rfl rfl)
theorem dX6_init_217 : decode cX6_init 217 = .ok (.newarray .int, 2) := dk_188_10 (dk_at dksX6_init_9 2 rfl rfl)
theorem dX6_init_219 : decode cX6_init 219 = .ok (.putfield 88, 3) := dk_181 0 88 (dk_at dksX6_init_9 4 rfl rfl)
theorem dX6_init_222 : decode cX6_init 222 = .ok (.aload_n 0, 1) := dk_42 (dk_at dksX6_init_9 7 rfl rfl)
theorem dX6_init_223 : decode cX6_init 223 = .ok (.bipush 8, 2) := dk_16 8 (dk_at dksX6_init_9 8 rfl rfl)
theorem dX6_init_225 : decode cX6_init 225 = .ok (.newarray .int, 2) := dk_188_10 (dk_at dksX6_init_9 10 rfl rfl)
theorem dX6_init_227 : decode cX6_init 227 = .ok (.putfield 91, 3) := dk_181 0 91 (dk_at dksX6_init_9 12 rfl rfl)
theorem dX6_init_230 : decode cX6_init 230 = .ok (.aload_n 0, 1) := dk_42 (dk_at dksX6_init_9 15 rfl rfl)
theorem dX6_init_231 : decode cX6_init 231 = .ok (.sipush 200, 3) := dk_17 0 200 (dk_at dksX6_init_9 16 rfl rfl)
theorem dX6_init_234 : decode cX6_init 234 = .ok (.newarray .int, 2) := dk_188_10 (dk_at dksX6_init_9 19 rfl rfl)
theorem dX6_init_236 : decode cX6_init 236 = .ok (.putfield 94, 3) := dk_181 0 94 (dk_at dksX6_init_9 21 rfl rfl)
theorem dX6_init_239 : decode cX6_init 239 = .ok (.aload_n 0, 1) := dk_42 (dk_at dksX6_init_10 0 rfl rfl)
theorem dX6_init_240 : decode cX6_init 240 = .ok (.iconst 4, 1) := dk_7 (dk_at dksX6_init_10 1 rfl rfl)
theorem dX6_init_241 : decode cX6_init 241 = .ok (.newarray .boolean, 2) := dk_188_4 (dk_at dksX6_init_10 2 rfl rfl)
theorem dX6_init_243 : decode cX6_init 243 = .ok (.putfield 97, 3) := dk_181 0 97 (dk_at dksX6_init_10 4 rfl rfl)
theorem dX6_init_246 : decode cX6_init 246 = .ok (.aload_n 0, 1) := dk_42 (dk_at dksX6_init_10 7 rfl rfl)
theorem dX6_init_247 : decode cX6_init 247 = .ok (.iconst 4, 1) := dk_7 (dk_at dksX6_init_10 8 rfl rfl)
theorem dX6_init_248 : decode cX6_init 248 = .ok (.newarray .int, 2) := dk_188_10 (dk_at dksX6_init_10 9 rfl rfl)
theorem dX6_init_250 : decode cX6_init 250 = .ok (.putfield 101, 3) := dk_181 0 101 (dk_at dksX6_init_10 11 rfl rfl)
theorem dX6_init_253 : decode cX6_init 253 = .ok (.aload_n 0, 1) := dk_42 (dk_at dksX6_init_10 14 rfl rfl)
theorem dX6_init_254 : decode cX6_init 254 = .ok (.iconst 4, 1) := dk_7 (dk_at dksX6_init_10 15 rfl rfl)
theorem dX6_init_255 : decode cX6_init 255 = .ok (.newarray .int, 2) := dk_188_10 (dk_at dksX6_init_10 16 rfl rfl)
theorem dX6_init_257 : decode cX6_init 257 = .ok (.putfield 104, 3) := dk_181 0 104 (dk_at dksX6_init_10 18 rfl rfl)
theorem dX6_init_260 : decode cX6_init 260 = .ok (.aload_n 0, 1) := dk_42 (dk_at dksX6_init_10 21 rfl rfl)
theorem dX6_init_261 : decode cX6_init 261 = .ok (.sipush 240, 3) := dk_17 0 240 (dk_at dksX6_init_11 0 rfl rfl)
theorem dX6_init_264 : decode cX6_init 264 = .ok (.newarray .int, 2) := dk_188_10 (dk_at dksX6_init_11 3 rfl rfl)
theorem dX6_init_266 : decode cX6_init 266 = .ok (.putfield 107, 3) := dk_181 0 107 (dk_at dksX6_init_11 5 rfl rfl)
theorem dX6_init_269 : decode cX6_init 269 = .ok (.aload_n 0, 1) := dk_42 (dk_at dksX6_init_11 8 rfl rfl)
theorem dX6_init_270 : decode cX6_init 270 = .ok (.bipush 60, 2) := dk_16 60 (dk_at dksX6_init_11 9 rfl rfl)
theorem dX6_init_272 : decode cX6_init 272 = .ok (.newarray .int, 2) := dk_188_10 (dk_at dksX6_init_11 11 rfl rfl)
theorem dX6_init_274 : decode cX6_init 274 = .ok (.putfield 110, 3) := dk_181 0 110 (dk_at dksX6_init_11 13 rfl rfl)
theorem dX6_init_277 : decode cX6_init 277 = .ok (.return_, 1) := dk_177 (dk_at dksX6_init_11 16 rfl rfl)
abbrev cX6_type : ByteArray := prog_13_method_10_code
def yX6_type : MethodName := ⟨RX6, "type", "(II)I"⟩
def dkwX6_type_3 : List UInt8 := [96, 79, 42, 180, 0, 7, 27, 46, 172]
abbrev dktX6_type_3 : List UInt8 := dkwX6_type_3 ++ []
def dkwX6_type_2 : List UInt8 := [180, 0, 13, 16, 31, 27, 104, 42, 180, 0, 7, 27, 46, 96, 28, 79, 42, 180, 0, 7, 27, 92, 46, 4]
abbrev dktX6_type_2 : List UInt8 := dkwX6_type_2 ++ dktX6_type_3
def dkwX6_type_1 : List UInt8 := [180, 0, 7, 27, 46, 27, 154, 0, 8, 16, 12, 167, 0, 5, 16, 31, 160, 0, 6, 16, 252, 172, 42]
abbrev dktX6_type_1 : List UInt8 := dkwX6_type_1 ++ dktX6_type_2
def dkwX6_type_0 : List UInt8 := [27, 184, 0, 119, 153, 0, 14, 28, 3, 17, 0, 255, 184, 0, 115, 154, 0, 6, 16, 254, 172, 42]
abbrev dktX6_type_0 : List UInt8 := dkwX6_type_0 ++ dktX6_type_1
theorem dksX6_type_0 : cX6_type.data.toList.drop 0 = dktX6_type_0 := by decide +kernel
theorem dksX6_type_1 : cX6_type.data.toList.drop 22 = dktX6_type_1 := dk_seg dksX6_type_0 22 rfl rfl
theorem dksX6_type_2 : cX6_type.data.toList.drop 45 = dktX6_type_2 := dk_seg dksX6_type_1 23 rfl rfl
theorem dksX6_type_3 : cX6_type.data.toList.drop 69 = dktX6_type_3 := dk_seg dksX6_type_2 24 rfl rfl
theorem dX6_type_0 : decode cX6_type 0 = .ok (.iload_n 1, 1) := dk_27 (dk_at dksX6_type_0 0 rfl rfl)
theorem dX6_type_1 : decode cX6_type 1 = .ok (.invokestatic 119, 3) := dk_184 0 119 (dk_at dksX6_type_0 1 rfl rfl)
theorem dX6_type_4 : decode cX6_type 4 = .ok (.ifCond .eq 14, 3) := dk_153 0 14 (dk_at dksX6_type_0 4 rfl rfl)
theorem dX6_type_7 : decode cX6_type 7 = .ok (.iload_n 2, 1) := dk_28 (dk_at dksX6_type_0 7 rfl rfl)
theorem dX6_type_8 : decode cX6_type 8 = .ok (.iconst 0, 1) := dk_3 (dk_at dksX6_type_0 8 rfl rfl)
theorem dX6_type_9 : decode cX6_type 9 = .ok (.sipush 255, 3) := dk_17 0 255 (dk_at dksX6_type_0 9 rfl rfl)
theorem dX6_type_12 : decode cX6_type 12 = .ok (.invokestatic 115, 3) := dk_184 0 115 (dk_at dksX6_type_0 12 rfl rfl)
theorem dX6_type_15 : decode cX6_type 15 = .ok (.ifCond .ne 6, 3) := dk_154 0 6 (dk_at dksX6_type_0 15 rfl rfl)
theorem dX6_type_18 : decode cX6_type 18 = .ok (.bipush (-2), 2) := dk_16 254 (dk_at dksX6_type_0 18 rfl rfl)
theorem dX6_type_20 : decode cX6_type 20 = .ok (.ireturn, 1) := dk_172 (dk_at dksX6_type_0 20 rfl rfl)
theorem dX6_type_21 : decode cX6_type 21 = .ok (.aload_n 0, 1) := dk_42 (dk_at dksX6_type_0 21 rfl rfl)
theorem dX6_type_22 : decode cX6_type 22 = .ok (.getfield 7, 3) := dk_180 0 7 (dk_at dksX6_type_1 0 rfl rfl)
theorem dX6_type_25 : decode cX6_type 25 = .ok (.iload_n 1, 1) := dk_27 (dk_at dksX6_type_1 3 rfl rfl)
theorem dX6_type_26 : decode cX6_type 26 = .ok (.iaload, 1) := dk_46 (dk_at dksX6_type_1 4 rfl rfl)
theorem dX6_type_27 : decode cX6_type 27 = .ok (.iload_n 1, 1) := dk_27 (dk_at dksX6_type_1 5 rfl rfl)
theorem dX6_type_28 : decode cX6_type 28 = .ok (.ifCond .ne 8, 3) := dk_154 0 8 (dk_at dksX6_type_1 6 rfl rfl)
theorem dX6_type_31 : decode cX6_type 31 = .ok (.bipush 12, 2) := dk_16 12 (dk_at dksX6_type_1 9 rfl rfl)
theorem dX6_type_33 : decode cX6_type 33 = .ok (.goto 5, 3) := dk_167 0 5 (dk_at dksX6_type_1 11 rfl rfl)
theorem dX6_type_36 : decode cX6_type 36 = .ok (.bipush 31, 2) := dk_16 31 (dk_at dksX6_type_1 14 rfl rfl)
theorem dX6_type_38 : decode cX6_type 38 = .ok (.if_icmp .ne 6, 3) := dk_160 0 6 (dk_at dksX6_type_1 16 rfl rfl)
theorem dX6_type_41 : decode cX6_type 41 = .ok (.bipush (-4), 2) := dk_16 252 (dk_at dksX6_type_1 19 rfl rfl)
theorem dX6_type_43 : decode cX6_type 43 = .ok (.ireturn, 1) := dk_172 (dk_at dksX6_type_1 21 rfl rfl)
theorem dX6_type_44 : decode cX6_type 44 = .ok (.aload_n 0, 1) := dk_42 (dk_at dksX6_type_1 22 rfl rfl)
theorem dX6_type_45 : decode cX6_type 45 = .ok (.getfield 13, 3) := dk_180 0 13 (dk_at dksX6_type_2 0 rfl rfl)
theorem dX6_type_48 : decode cX6_type 48 = .ok (.bipush 31, 2) := dk_16 31 (dk_at dksX6_type_2 3 rfl rfl)
theorem dX6_type_50 : decode cX6_type 50 = .ok (.iload_n 1, 1) := dk_27 (dk_at dksX6_type_2 5 rfl rfl)
theorem dX6_type_51 : decode cX6_type 51 = .ok (.imul, 1) := dk_104 (dk_at dksX6_type_2 6 rfl rfl)
theorem dX6_type_52 : decode cX6_type 52 = .ok (.aload_n 0, 1) := dk_42 (dk_at dksX6_type_2 7 rfl rfl)
theorem dX6_type_53 : decode cX6_type 53 = .ok (.getfield 7, 3) := dk_180 0 7 (dk_at dksX6_type_2 8 rfl rfl)
theorem dX6_type_56 : decode cX6_type 56 = .ok (.iload_n 1, 1) := dk_27 (dk_at dksX6_type_2 11 rfl rfl)
theorem dX6_type_57 : decode cX6_type 57 = .ok (.iaload, 1) := dk_46 (dk_at dksX6_type_2 12 rfl rfl)
theorem dX6_type_58 : decode cX6_type 58 = .ok (.iadd, 1) := dk_96 (dk_at dksX6_type_2 13 rfl rfl)
theorem dX6_type_59 : decode cX6_type 59 = .ok (.iload_n 2, 1) := dk_28 (dk_at dksX6_type_2 14 rfl rfl)
theorem dX6_type_60 : decode cX6_type 60 = .ok (.iastore, 1) := dk_79 (dk_at dksX6_type_2 15 rfl rfl)
theorem dX6_type_61 : decode cX6_type 61 = .ok (.aload_n 0, 1) := dk_42 (dk_at dksX6_type_2 16 rfl rfl)
theorem dX6_type_62 : decode cX6_type 62 = .ok (.getfield 7, 3) := dk_180 0 7 (dk_at dksX6_type_2 17 rfl rfl)
theorem dX6_type_65 : decode cX6_type 65 = .ok (.iload_n 1, 1) := dk_27 (dk_at dksX6_type_2 20 rfl rfl)
theorem dX6_type_66 : decode cX6_type 66 = .ok (.dup2, 1) := dk_92 (dk_at dksX6_type_2 21 rfl rfl)
theorem dX6_type_67 : decode cX6_type 67 = .ok (.iaload, 1) := dk_46 (dk_at dksX6_type_2 22 rfl rfl)
theorem dX6_type_68 : decode cX6_type 68 = .ok (.iconst 1, 1) := dk_4 (dk_at dksX6_type_2 23 rfl rfl)
theorem dX6_type_69 : decode cX6_type 69 = .ok (.iadd, 1) := dk_96 (dk_at dksX6_type_3 0 rfl rfl)
theorem dX6_type_70 : decode cX6_type 70 = .ok (.iastore, 1) := dk_79 (dk_at dksX6_type_3 1 rfl rfl)
theorem dX6_type_71 : decode cX6_type 71 = .ok (.aload_n 0, 1) := dk_42 (dk_at dksX6_type_3 2 rfl rfl)
theorem dX6_type_72 : decode cX6_type 72 = .ok (.getfield 7, 3) := dk_180 0 7 (dk_at dksX6_type_3 3 rfl rfl)
theorem dX6_type_75 : decode cX6_type 75 = .ok (.iload_n 1, 1) := dk_27 (dk_at dksX6_type_3 6 rfl rfl)
theorem dX6_type_76 : decode cX6_type 76 = .ok (.iaload, 1) := dk_46 (dk_at dksX6_type_3 7 rfl rfl)
theorem dX6_type_77 : decode cX6_type 77 = .ok (.ireturn, 1) := dk_172 (dk_at dksX6_type_3 8 rfl rfl)
abbrev cX6_isText : ByteArray := prog_13_method_7_code
def yX6_isText : MethodName := ⟨RX6, "isText", "(I)Z"⟩
def dkwX6_isText_0 : List UInt8 := [26, 3, 4, 184, 0, 115, 172]
abbrev dktX6_isText_0 : List UInt8 := dkwX6_isText_0 ++ []
theorem dksX6_isText_0 : cX6_isText.data.toList.drop 0 = dktX6_isText_0 := by decide +kernel
theorem dX6_isText_0 : decode cX6_isText 0 = .ok (.iload_n 0, 1) := dk_26 (dk_at dksX6_isText_0 0 rfl rfl)
theorem dX6_isText_1 : decode cX6_isText 1 = .ok (.iconst 0, 1) := dk_3 (dk_at dksX6_isText_0 1 rfl rfl)
theorem dX6_isText_2 : decode cX6_isText 2 = .ok (.iconst 1, 1) := dk_4 (dk_at dksX6_isText_0 2 rfl rfl)
theorem dX6_isText_3 : decode cX6_isText 3 = .ok (.invokestatic 115, 3) := dk_184 0 115 (dk_at dksX6_isText_0 3 rfl rfl)
theorem dX6_isText_6 : decode cX6_isText 6 = .ok (.ireturn, 1) := dk_172 (dk_at dksX6_isText_0 6 rfl rfl)
abbrev cX6_in : ByteArray := prog_13_method_3_code
def yX6_in : MethodName := ⟨RX6, "in", "(III)Z"⟩
def dkwX6_in_0 : List UInt8 := [26, 27, 161, 0, 12, 26, 28, 163, 0, 7, 4, 167, 0, 4, 3, 172]
abbrev dktX6_in_0 : List UInt8 := dkwX6_in_0 ++ []
theorem dksX6_in_0 : cX6_in.data.toList.drop 0 = dktX6_in_0 := by decide +kernel
theorem dX6_in_0 : decode cX6_in 0 = .ok (.iload_n 0, 1) := dk_26 (dk_at dksX6_in_0 0 rfl rfl)
theorem dX6_in_1 : decode cX6_in 1 = .ok (.iload_n 1, 1) := dk_27 (dk_at dksX6_in_0 1 rfl rfl)
theorem dX6_in_2 : decode cX6_in 2 = .ok (.if_icmp .lt 12, 3) := dk_161 0 12 (dk_at dksX6_in_0 2 rfl rfl)
theorem dX6_in_5 : decode cX6_in 5 = .ok (.iload_n 0, 1) := dk_26 (dk_at dksX6_in_0 5 rfl rfl)
theorem dX6_in_6 : decode cX6_in 6 = .ok (.iload_n 2, 1) := dk_28 (dk_at dksX6_in_0 6 rfl rfl)
theorem dX6_in_7 : decode cX6_in 7 = .ok (.if_icmp .gt 7, 3) := dk_163 0 7 (dk_at dksX6_in_0 7 rfl rfl)
theorem dX6_in_10 : decode cX6_in 10 = .ok (.iconst 1, 1) := dk_4 (dk_at dksX6_in_0 10 rfl rfl)
theorem dX6_in_11 : decode cX6_in 11 = .ok (.goto 4, 3) := dk_167 0 4 (dk_at dksX6_in_0 11 rfl rfl)
theorem dX6_in_14 : decode cX6_in 14 = .ok (.iconst 0, 1) := dk_3 (dk_at dksX6_in_0 14 rfl rfl)
theorem dX6_in_15 : decode cX6_in 15 = .ok (.ireturn, 1) := dk_172 (dk_at dksX6_in_0 15 rfl rfl)
abbrev cX6_wipe : ByteArray := prog_13_method_11_code
def yX6_wipe : MethodName := ⟨RX6, "wipe", "(I)I"⟩
def dkwX6_wipe_1 : List UInt8 := [28, 172]
abbrev dktX6_wipe_1 : List UInt8 := dkwX6_wipe_1 ++ []
def dkwX6_wipe_0 : List UInt8 := [27, 184, 0, 119, 154, 0, 6, 16, 254, 172, 42, 180, 0, 7, 27, 46, 61, 42, 180, 0, 7, 27, 3, 79]
abbrev dktX6_wipe_0 : List UInt8 := dkwX6_wipe_0 ++ dktX6_wipe_1
theorem dksX6_wipe_0 : cX6_wipe.data.toList.drop 0 = dktX6_wipe_0 := by decide +kernel
theorem dksX6_wipe_1 : cX6_wipe.data.toList.drop 24 = dktX6_wipe_1 := dk_seg dksX6_wipe_0 24 rfl rfl
theorem dX6_wipe_0 : decode cX6_wipe 0 = .ok (.iload_n 1, 1) := dk_27 (dk_at dksX6_wipe_0 0 rfl rfl)
theorem dX6_wipe_1 : decode cX6_wipe 1 = .ok (.invokestatic 119, 3) := dk_184 0 119 (dk_at dksX6_wipe_0 1 rfl rfl)
theorem dX6_wipe_4 : decode cX6_wipe 4 = .ok (.ifCond .ne 6, 3) := dk_154 0 6 (dk_at dksX6_wipe_0 4 rfl rfl)
theorem dX6_wipe_7 : decode cX6_wipe 7 = .ok (.bipush (-2), 2) := dk_16 254 (dk_at dksX6_wipe_0 7 rfl rfl)
theorem dX6_wipe_9 : decode cX6_wipe 9 = .ok (.ireturn, 1) := dk_172 (dk_at dksX6_wipe_0 9 rfl rfl)
theorem dX6_wipe_10 : decode cX6_wipe 10 = .ok (.aload_n 0, 1) := dk_42 (dk_at dksX6_wipe_0 10 rfl rfl)
theorem dX6_wipe_11 : decode cX6_wipe 11 = .ok (.getfield 7, 3) := dk_180 0 7 (dk_at dksX6_wipe_0 11 rfl rfl)
theorem dX6_wipe_14 : decode cX6_wipe 14 = .ok (.iload_n 1, 1) := dk_27 (dk_at dksX6_wipe_0 14 rfl rfl)
theorem dX6_wipe_15 : decode cX6_wipe 15 = .ok (.iaload, 1) := dk_46 (dk_at dksX6_wipe_0 15 rfl rfl)
theorem dX6_wipe_16 : decode cX6_wipe 16 = .ok (.istore_n 2, 1) := dk_61 (dk_at dksX6_wipe_0 16 rfl rfl)
theorem dX6_wipe_17 : decode cX6_wipe 17 = .ok (.aload_n 0, 1) := dk_42 (dk_at dksX6_wipe_0 17 rfl rfl)
theorem dX6_wipe_18 : decode cX6_wipe 18 = .ok (.getfield 7, 3) := dk_180 0 7 (dk_at dksX6_wipe_0 18 rfl rfl)
theorem dX6_wipe_21 : decode cX6_wipe 21 = .ok (.iload_n 1, 1) := dk_27 (dk_at dksX6_wipe_0 21 rfl rfl)
theorem dX6_wipe_22 : decode cX6_wipe 22 = .ok (.iconst 0, 1) := dk_3 (dk_at dksX6_wipe_0 22 rfl rfl)
theorem dX6_wipe_23 : decode cX6_wipe 23 = .ok (.iastore, 1) := dk_79 (dk_at dksX6_wipe_0 23 rfl rfl)
theorem dX6_wipe_24 : decode cX6_wipe 24 = .ok (.iload_n 2, 1) := dk_28 (dk_at dksX6_wipe_1 0 rfl rfl)
theorem dX6_wipe_25 : decode cX6_wipe 25 = .ok (.ireturn, 1) := dk_172 (dk_at dksX6_wipe_1 1 rfl rfl)
abbrev cX6_undo : ByteArray := prog_13_method_12_code
def yX6_undo : MethodName := ⟨RX6, "undo", "(I)I"⟩
def dkwX6_undo_1 : List UInt8 := [180, 0, 7, 27, 92, 46, 4, 100, 79, 42, 180, 0, 7, 27, 46, 172]
abbrev dktX6_undo_1 : List UInt8 := dkwX6_undo_1 ++ []
def dkwX6_undo_0 : List UInt8 := [27, 184, 0, 119, 154, 0, 6, 16, 254, 172, 42, 180, 0, 7, 27, 46, 154, 0, 6, 16, 253, 172, 42]
abbrev dktX6_undo_0 : List UInt8 := dkwX6_undo_0 ++ dktX6_undo_1
theorem dksX6_undo_0 : cX6_undo.data.toList.drop 0 = dktX6_undo_0 := by decide +kernel
theorem dksX6_undo_1 : cX6_undo.data.toList.drop 23 = dktX6_undo_1 := dk_seg dksX6_undo_0 23 rfl rfl
theorem dX6_undo_0 : decode cX6_undo 0 = .ok (.iload_n 1, 1) := dk_27 (dk_at dksX6_undo_0 0 rfl rfl)
theorem dX6_undo_1 : decode cX6_undo 1 = .ok (.invokestatic 119, 3) := dk_184 0 119 (dk_at dksX6_undo_0 1 rfl rfl)
theorem dX6_undo_4 : decode cX6_undo 4 = .ok (.ifCond .ne 6, 3) := dk_154 0 6 (dk_at dksX6_undo_0 4 rfl rfl)
theorem dX6_undo_7 : decode cX6_undo 7 = .ok (.bipush (-2), 2) := dk_16 254 (dk_at dksX6_undo_0 7 rfl rfl)
theorem dX6_undo_9 : decode cX6_undo 9 = .ok (.ireturn, 1) := dk_172 (dk_at dksX6_undo_0 9 rfl rfl)
theorem dX6_undo_10 : decode cX6_undo 10 = .ok (.aload_n 0, 1) := dk_42 (dk_at dksX6_undo_0 10 rfl rfl)
theorem dX6_undo_11 : decode cX6_undo 11 = .ok (.getfield 7, 3) := dk_180 0 7 (dk_at dksX6_undo_0 11 rfl rfl)
theorem dX6_undo_14 : decode cX6_undo 14 = .ok (.iload_n 1, 1) := dk_27 (dk_at dksX6_undo_0 14 rfl rfl)
theorem dX6_undo_15 : decode cX6_undo 15 = .ok (.iaload, 1) := dk_46 (dk_at dksX6_undo_0 15 rfl rfl)
theorem dX6_undo_16 : decode cX6_undo 16 = .ok (.ifCond .ne 6, 3) := dk_154 0 6 (dk_at dksX6_undo_0 16 rfl rfl)
theorem dX6_undo_19 : decode cX6_undo 19 = .ok (.bipush (-3), 2) := dk_16 253 (dk_at dksX6_undo_0 19 rfl rfl)
theorem dX6_undo_21 : decode cX6_undo 21 = .ok (.ireturn, 1) := dk_172 (dk_at dksX6_undo_0 21 rfl rfl)
theorem dX6_undo_22 : decode cX6_undo 22 = .ok (.aload_n 0, 1) := dk_42 (dk_at dksX6_undo_0 22 rfl rfl)
theorem dX6_undo_23 : decode cX6_undo 23 = .ok (.getfield 7, 3) := dk_180 0 7 (dk_at dksX6_undo_1 0 rfl rfl)
theorem dX6_undo_26 : decode cX6_undo 26 = .ok (.iload_n 1, 1) := dk_27 (dk_at dksX6_undo_1 3 rfl rfl)
theorem dX6_undo_27 : decode cX6_undo 27 = .ok (.dup2, 1) := dk_92 (dk_at dksX6_undo_1 4 rfl rfl)
theorem dX6_undo_28 : decode cX6_undo 28 = .ok (.iaload, 1) := dk_46 (dk_at dksX6_undo_1 5 rfl rfl)
theorem dX6_undo_29 : decode cX6_undo 29 = .ok (.iconst 1, 1) := dk_4 (dk_at dksX6_undo_1 6 rfl rfl)
theorem dX6_undo_30 : decode cX6_undo 30 = .ok (.isub, 1) := dk_100 (dk_at dksX6_undo_1 7 rfl rfl)
theorem dX6_undo_31 : decode cX6_undo 31 = .ok (.iastore, 1) := dk_79 (dk_at dksX6_undo_1 8 rfl rfl)
theorem dX6_undo_32 : decode cX6_undo 32 = .ok (.aload_n 0, 1) := dk_42 (dk_at dksX6_undo_1 9 rfl rfl)
theorem dX6_undo_33 : decode cX6_undo 33 = .ok (.getfield 7, 3) := dk_180 0 7 (dk_at dksX6_undo_1 10 rfl rfl)
theorem dX6_undo_36 : decode cX6_undo 36 = .ok (.iload_n 1, 1) := dk_27 (dk_at dksX6_undo_1 13 rfl rfl)
theorem dX6_undo_37 : decode cX6_undo 37 = .ok (.iaload, 1) := dk_46 (dk_at dksX6_undo_1 14 rfl rfl)
theorem dX6_undo_38 : decode cX6_undo 38 = .ok (.ireturn, 1) := dk_172 (dk_at dksX6_undo_1 15 rfl rfl)
abbrev cX6_fault : ByteArray := prog_13_method_20_code
def yX6_fault : MethodName := ⟨RX6, "fault", "(I)I"⟩
def dkwX6_fault_0 : List UInt8 := [27, 184, 0, 119, 153, 0, 11, 42, 27, 182, 0, 148, 167, 0, 5, 16, 254, 172]
abbrev dktX6_fault_0 : List UInt8 := dkwX6_fault_0 ++ []
theorem dksX6_fault_0 : cX6_fault.data.toList.drop 0 = dktX6_fault_0 := by decide +kernel
theorem dX6_fault_0 : decode cX6_fault 0 = .ok (.iload_n 1, 1) := dk_27 (dk_at dksX6_fault_0 0 rfl rfl)
theorem dX6_fault_1 : decode cX6_fault 1 = .ok (.invokestatic 119, 3) := dk_184 0 119 (dk_at dksX6_fault_0 1 rfl rfl)
theorem dX6_fault_4 : decode cX6_fault 4 = .ok (.ifCond .eq 11, 3) := dk_153 0 11 (dk_at dksX6_fault_0 4 rfl rfl)
theorem dX6_fault_7 : decode cX6_fault 7 = .ok (.aload_n 0, 1) := dk_42 (dk_at dksX6_fault_0 7 rfl rfl)
theorem dX6_fault_8 : decode cX6_fault 8 = .ok (.iload_n 1, 1) := dk_27 (dk_at dksX6_fault_0 8 rfl rfl)
theorem dX6_fault_9 : decode cX6_fault 9 = .ok (.invokevirtual 148, 3) := dk_182 0 148 (dk_at dksX6_fault_0 9 rfl rfl)
theorem dX6_fault_12 : decode cX6_fault 12 = .ok (.goto 5, 3) := dk_167 0 5 (dk_at dksX6_fault_0 12 rfl rfl)
theorem dX6_fault_15 : decode cX6_fault 15 = .ok (.bipush (-2), 2) := dk_16 254 (dk_at dksX6_fault_0 15 rfl rfl)
theorem dX6_fault_17 : decode cX6_fault 17 = .ok (.ireturn, 1) := dk_172 (dk_at dksX6_fault_0 17 rfl rfl)
abbrev cX6_faultOf : ByteArray := prog_13_method_18_code
def yX6_faultOf : MethodName := ⟨RX6, "faultOf", "(I)I"⟩
def dkwX6_faultOf_0 : List UInt8 := [42, 182, 0, 141, 61, 42, 182, 0, 145, 62, 27, 154, 0, 7, 28, 167, 0, 4, 29, 172]
abbrev dktX6_faultOf_0 : List UInt8 := dkwX6_faultOf_0 ++ []
theorem dksX6_faultOf_0 : cX6_faultOf.data.toList.drop 0 = dktX6_faultOf_0 := by decide +kernel
theorem dX6_faultOf_0 : decode cX6_faultOf 0 = .ok (.aload_n 0, 1) := dk_42 (dk_at dksX6_faultOf_0 0 rfl rfl)
theorem dX6_faultOf_1 : decode cX6_faultOf 1 = .ok (.invokevirtual 141, 3) := dk_182 0 141 (dk_at dksX6_faultOf_0 1 rfl rfl)
theorem dX6_faultOf_4 : decode cX6_faultOf 4 = .ok (.istore_n 2, 1) := dk_61 (dk_at dksX6_faultOf_0 4 rfl rfl)
theorem dX6_faultOf_5 : decode cX6_faultOf 5 = .ok (.aload_n 0, 1) := dk_42 (dk_at dksX6_faultOf_0 5 rfl rfl)
theorem dX6_faultOf_6 : decode cX6_faultOf 6 = .ok (.invokevirtual 145, 3) := dk_182 0 145 (dk_at dksX6_faultOf_0 6 rfl rfl)
theorem dX6_faultOf_9 : decode cX6_faultOf 9 = .ok (.istore_n 3, 1) := dk_62 (dk_at dksX6_faultOf_0 9 rfl rfl)
theorem dX6_faultOf_10 : decode cX6_faultOf 10 = .ok (.iload_n 1, 1) := dk_27 (dk_at dksX6_faultOf_0 10 rfl rfl)
theorem dX6_faultOf_11 : decode cX6_faultOf 11 = .ok (.ifCond .ne 7, 3) := dk_154 0 7 (dk_at dksX6_faultOf_0 11 rfl rfl)
theorem dX6_faultOf_14 : decode cX6_faultOf 14 = .ok (.iload_n 2, 1) := dk_28 (dk_at dksX6_faultOf_0 14 rfl rfl)
theorem dX6_faultOf_15 : decode cX6_faultOf 15 = .ok (.goto 4, 3) := dk_167 0 4 (dk_at dksX6_faultOf_0 15 rfl rfl)
theorem dX6_faultOf_18 : decode cX6_faultOf 18 = .ok (.iload_n 3, 1) := dk_29 (dk_at dksX6_faultOf_0 18 rfl rfl)
theorem dX6_faultOf_19 : decode cX6_faultOf 19 = .ok (.ireturn, 1) := dk_172 (dk_at dksX6_faultOf_0 19 rfl rfl)
abbrev cX6_readsStone : ByteArray := prog_13_method_13_code
def yX6_readsStone : MethodName := ⟨RX6, "readsStone", "()I"⟩
def dkwX6_readsStone_4 : List UInt8 := [167, 255, 228, 42, 42, 180, 0, 7, 3, 46, 181, 0, 123, 2, 172]
abbrev dktX6_readsStone_4 : List UInt8 := dkwX6_readsStone_4 ++ []
def dkwX6_readsStone_3 : List UInt8 := [46, 162, 0, 24, 42, 180, 0, 16, 27, 42, 180, 0, 13, 27, 46, 16, 48, 100, 79, 132, 1, 1]
abbrev dktX6_readsStone_3 : List UInt8 := dkwX6_readsStone_3 ++ dktX6_readsStone_4
def dkwX6_readsStone_2 : List UInt8 := [16, 57, 184, 0, 115, 154, 0, 5, 27, 172, 132, 1, 1, 167, 255, 225, 3, 60, 27, 42, 180, 0, 7, 3]
abbrev dktX6_readsStone_2 : List UInt8 := dkwX6_readsStone_2 ++ dktX6_readsStone_3
def dkwX6_readsStone_1 : List UInt8 := [167, 255, 240, 3, 60, 27, 42, 180, 0, 7, 3, 46, 162, 0, 27, 42, 180, 0, 13, 27, 46, 16, 48]
abbrev dktX6_readsStone_1 : List UInt8 := dkwX6_readsStone_1 ++ dktX6_readsStone_2
def dkwX6_readsStone_0 : List UInt8 := [42, 3, 181, 0, 123, 3, 60, 27, 16, 12, 162, 0, 16, 42, 180, 0, 16, 27, 8, 79, 132, 1, 1]
abbrev dktX6_readsStone_0 : List UInt8 := dkwX6_readsStone_0 ++ dktX6_readsStone_1
theorem dksX6_readsStone_0 : cX6_readsStone.data.toList.drop 0 = dktX6_readsStone_0 := by decide +kernel
theorem dksX6_readsStone_1 : cX6_readsStone.data.toList.drop 23 = dktX6_readsStone_1 := dk_seg dksX6_readsStone_0 23 rfl rfl
theorem dksX6_readsStone_2 : cX6_readsStone.data.toList.drop 46 = dktX6_readsStone_2 := dk_seg dksX6_readsStone_1 23 rfl rfl
theorem dksX6_readsStone_3 : cX6_readsStone.data.toList.drop 70 = dktX6_readsStone_3 := dk_seg dksX6_readsStone_2 24 rfl rfl
theorem dksX6_readsStone_4 : cX6_readsStone.data.toList.drop 92 = dktX6_readsStone_4 := dk_seg dksX6_readsStone_3 22 rfl rfl
theorem dX6_readsStone_0 : decode cX6_readsStone 0 = .ok (.aload_n 0, 1) := dk_42 (dk_at dksX6_readsStone_0 0 rfl rfl)
theorem dX6_readsStone_1 : decode cX6_readsStone 1 = .ok (.iconst 0, 1) := dk_3 (dk_at dksX6_readsStone_0 1 rfl rfl)
theorem dX6_readsStone_2 : decode cX6_readsStone 2 = .ok (.putfield 123, 3) := dk_181 0 123 (dk_at dksX6_readsStone_0 2 rfl rfl)
theorem dX6_readsStone_5 : decode cX6_readsStone 5 = .ok (.iconst 0, 1) := dk_3 (dk_at dksX6_readsStone_0 5 rfl rfl)
theorem dX6_readsStone_6 : decode cX6_readsStone 6 = .ok (.istore_n 1, 1) := dk_60 (dk_at dksX6_readsStone_0 6 rfl rfl)
theorem dX6_readsStone_7 : decode cX6_readsStone 7 = .ok (.iload_n 1, 1) := dk_27 (dk_at dksX6_readsStone_0 7 rfl rfl)
theorem dX6_readsStone_8 : decode cX6_readsStone 8 = .ok (.bipush 12, 2) := dk_16 12 (dk_at dksX6_readsStone_0 8 rfl rfl)
theorem dX6_readsStone_10 : decode cX6_readsStone 10 = .ok (.if_icmp .ge 16, 3) := dk_162 0 16 (dk_at dksX6_readsStone_0 10 rfl rfl)
theorem dX6_readsStone_13 : decode cX6_readsStone 13 = .ok (.aload_n 0, 1) := dk_42 (dk_at dksX6_readsStone_0 13 rfl rfl)
theorem dX6_readsStone_14 : decode cX6_readsStone 14 = .ok (.getfield 16, 3) := dk_180 0 16 (dk_at dksX6_readsStone_0 14 rfl rfl)
theorem dX6_readsStone_17 : decode cX6_readsStone 17 = .ok (.iload_n 1, 1) := dk_27 (dk_at dksX6_readsStone_0 17 rfl rfl)
theorem dX6_readsStone_18 : decode cX6_readsStone 18 = .ok (.iconst 5, 1) := dk_8 (dk_at dksX6_readsStone_0 18 rfl rfl)
theorem dX6_readsStone_19 : decode cX6_readsStone 19 = .ok (.iastore, 1) := dk_79 (dk_at dksX6_readsStone_0 19 rfl rfl)
theorem dX6_readsStone_20 : decode cX6_readsStone 20 = .ok (.iinc 1 1, 3) := dk_132 1 1 (dk_at dksX6_readsStone_0 20 rfl rfl)
theorem dX6_readsStone_23 : decode cX6_readsStone 23 = .ok (.goto (-16), 3) := dk_167 255 240 (dk_at dksX6_readsStone_1 0 rfl rfl)
theorem dX6_readsStone_26 : decode cX6_readsStone 26 = .ok (.iconst 0, 1) := dk_3 (dk_at dksX6_readsStone_1 3 rfl rfl)
theorem dX6_readsStone_27 : decode cX6_readsStone 27 = .ok (.istore_n 1, 1) := dk_60 (dk_at dksX6_readsStone_1 4 rfl rfl)
theorem dX6_readsStone_28 : decode cX6_readsStone 28 = .ok (.iload_n 1, 1) := dk_27 (dk_at dksX6_readsStone_1 5 rfl rfl)
theorem dX6_readsStone_29 : decode cX6_readsStone 29 = .ok (.aload_n 0, 1) := dk_42 (dk_at dksX6_readsStone_1 6 rfl rfl)
theorem dX6_readsStone_30 : decode cX6_readsStone 30 = .ok (.getfield 7, 3) := dk_180 0 7 (dk_at dksX6_readsStone_1 7 rfl rfl)
theorem dX6_readsStone_33 : decode cX6_readsStone 33 = .ok (.iconst 0, 1) := dk_3 (dk_at dksX6_readsStone_1 10 rfl rfl)
theorem dX6_readsStone_34 : decode cX6_readsStone 34 = .ok (.iaload, 1) := dk_46 (dk_at dksX6_readsStone_1 11 rfl rfl)
theorem dX6_readsStone_35 : decode cX6_readsStone 35 = .ok (.if_icmp .ge 27, 3) := dk_162 0 27 (dk_at dksX6_readsStone_1 12 rfl rfl)
theorem dX6_readsStone_38 : decode cX6_readsStone 38 = .ok (.aload_n 0, 1) := dk_42 (dk_at dksX6_readsStone_1 15 rfl rfl)
theorem dX6_readsStone_39 : decode cX6_readsStone 39 = .ok (.getfield 13, 3) := dk_180 0 13 (dk_at dksX6_readsStone_1 16 rfl rfl)
theorem dX6_readsStone_42 : decode cX6_readsStone 42 = .ok (.iload_n 1, 1) := dk_27 (dk_at dksX6_readsStone_1 19 rfl rfl)
theorem dX6_readsStone_43 : decode cX6_readsStone 43 = .ok (.iaload, 1) := dk_46 (dk_at dksX6_readsStone_1 20 rfl rfl)
theorem dX6_readsStone_44 : decode cX6_readsStone 44 = .ok (.bipush 48, 2) := dk_16 48 (dk_at dksX6_readsStone_1 21 rfl rfl)
theorem dX6_readsStone_46 : decode cX6_readsStone 46 = .ok (.bipush 57, 2) := dk_16 57 (dk_at dksX6_readsStone_2 0 rfl rfl)
theorem dX6_readsStone_48 : decode cX6_readsStone 48 = .ok (.invokestatic 115, 3) := dk_184 0 115 (dk_at dksX6_readsStone_2 2 rfl rfl)
theorem dX6_readsStone_51 : decode cX6_readsStone 51 = .ok (.ifCond .ne 5, 3) := dk_154 0 5 (dk_at dksX6_readsStone_2 5 rfl rfl)
theorem dX6_readsStone_54 : decode cX6_readsStone 54 = .ok (.iload_n 1, 1) := dk_27 (dk_at dksX6_readsStone_2 8 rfl rfl)
theorem dX6_readsStone_55 : decode cX6_readsStone 55 = .ok (.ireturn, 1) := dk_172 (dk_at dksX6_readsStone_2 9 rfl rfl)
theorem dX6_readsStone_56 : decode cX6_readsStone 56 = .ok (.iinc 1 1, 3) := dk_132 1 1 (dk_at dksX6_readsStone_2 10 rfl rfl)
theorem dX6_readsStone_59 : decode cX6_readsStone 59 = .ok (.goto (-31), 3) := dk_167 255 225 (dk_at dksX6_readsStone_2 13 rfl rfl)
theorem dX6_readsStone_62 : decode cX6_readsStone 62 = .ok (.iconst 0, 1) := dk_3 (dk_at dksX6_readsStone_2 16 rfl rfl)
theorem dX6_readsStone_63 : decode cX6_readsStone 63 = .ok (.istore_n 1, 1) := dk_60 (dk_at dksX6_readsStone_2 17 rfl rfl)
theorem dX6_readsStone_64 : decode cX6_readsStone 64 = .ok (.iload_n 1, 1) := dk_27 (dk_at dksX6_readsStone_2 18 rfl rfl)
theorem dX6_readsStone_65 : decode cX6_readsStone 65 = .ok (.aload_n 0, 1) := dk_42 (dk_at dksX6_readsStone_2 19 rfl rfl)
theorem dX6_readsStone_66 : decode cX6_readsStone 66 = .ok (.getfield 7, 3) := dk_180 0 7 (dk_at dksX6_readsStone_2 20 rfl rfl)
theorem dX6_readsStone_69 : decode cX6_readsStone 69 = .ok (.iconst 0, 1) := dk_3 (dk_at dksX6_readsStone_2 23 rfl rfl)
theorem dX6_readsStone_70 : decode cX6_readsStone 70 = .ok (.iaload, 1) := dk_46 (dk_at dksX6_readsStone_3 0 rfl rfl)
theorem dX6_readsStone_71 : decode cX6_readsStone 71 = .ok (.if_icmp .ge 24, 3) := dk_162 0 24 (dk_at dksX6_readsStone_3 1 rfl rfl)
theorem dX6_readsStone_74 : decode cX6_readsStone 74 = .ok (.aload_n 0, 1) := dk_42 (dk_at dksX6_readsStone_3 4 rfl rfl)
theorem dX6_readsStone_75 : decode cX6_readsStone 75 = .ok (.getfield 16, 3) := dk_180 0 16 (dk_at dksX6_readsStone_3 5 rfl rfl)
theorem dX6_readsStone_78 : decode cX6_readsStone 78 = .ok (.iload_n 1, 1) := dk_27 (dk_at dksX6_readsStone_3 8 rfl rfl)
theorem dX6_readsStone_79 : decode cX6_readsStone 79 = .ok (.aload_n 0, 1) := dk_42 (dk_at dksX6_readsStone_3 9 rfl rfl)
theorem dX6_readsStone_80 : decode cX6_readsStone 80 = .ok (.getfield 13, 3) := dk_180 0 13 (dk_at dksX6_readsStone_3 10 rfl rfl)
theorem dX6_readsStone_83 : decode cX6_readsStone 83 = .ok (.iload_n 1, 1) := dk_27 (dk_at dksX6_readsStone_3 13 rfl rfl)
theorem dX6_readsStone_84 : decode cX6_readsStone 84 = .ok (.iaload, 1) := dk_46 (dk_at dksX6_readsStone_3 14 rfl rfl)
theorem dX6_readsStone_85 : decode cX6_readsStone 85 = .ok (.bipush 48, 2) := dk_16 48 (dk_at dksX6_readsStone_3 15 rfl rfl)
theorem dX6_readsStone_87 : decode cX6_readsStone 87 = .ok (.isub, 1) := dk_100 (dk_at dksX6_readsStone_3 17 rfl rfl)
theorem dX6_readsStone_88 : decode cX6_readsStone 88 = .ok (.iastore, 1) := dk_79 (dk_at dksX6_readsStone_3 18 rfl rfl)
theorem dX6_readsStone_89 : decode cX6_readsStone 89 = .ok (.iinc 1 1, 3) := dk_132 1 1 (dk_at dksX6_readsStone_3 19 rfl rfl)
theorem dX6_readsStone_92 : decode cX6_readsStone 92 = .ok (.goto (-28), 3) := dk_167 255 228 (dk_at dksX6_readsStone_4 0 rfl rfl)
theorem dX6_readsStone_95 : decode cX6_readsStone 95 = .ok (.aload_n 0, 1) := dk_42 (dk_at dksX6_readsStone_4 3 rfl rfl)
theorem dX6_readsStone_96 : decode cX6_readsStone 96 = .ok (.aload_n 0, 1) := dk_42 (dk_at dksX6_readsStone_4 4 rfl rfl)
theorem dX6_readsStone_97 : decode cX6_readsStone 97 = .ok (.getfield 7, 3) := dk_180 0 7 (dk_at dksX6_readsStone_4 5 rfl rfl)
theorem dX6_readsStone_100 : decode cX6_readsStone 100 = .ok (.iconst 0, 1) := dk_3 (dk_at dksX6_readsStone_4 8 rfl rfl)
theorem dX6_readsStone_101 : decode cX6_readsStone 101 = .ok (.iaload, 1) := dk_46 (dk_at dksX6_readsStone_4 9 rfl rfl)
theorem dX6_readsStone_102 : decode cX6_readsStone 102 = .ok (.putfield 123, 3) := dk_181 0 123 (dk_at dksX6_readsStone_4 10 rfl rfl)
theorem dX6_readsStone_105 : decode cX6_readsStone 105 = .ok (.iconst (-1), 1) := dk_2 (dk_at dksX6_readsStone_4 13 rfl rfl)
theorem dX6_readsStone_106 : decode cX6_readsStone 106 = .ok (.ireturn, 1) := dk_172 (dk_at dksX6_readsStone_4 14 rfl rfl)
abbrev cX6_readsMembers : ByteArray := prog_13_method_17_code
def yX6_readsMembers : MethodName := ⟨RX6, "readsMembers", "()I"⟩
def dkwX6_readsMembers_3 : List UInt8 := [159, 0, 5, 28, 172, 132, 2, 1, 167, 255, 188, 2, 172]
abbrev dktX6_readsMembers_3 : List UInt8 := dkwX6_readsMembers_3 ++ []
def dkwX6_readsMembers_2 : List UInt8 := [180, 0, 7, 4, 46, 160, 0, 10, 42, 27, 181, 0, 134, 2, 172, 42, 28, 182, 0, 127, 16, 59]
abbrev dktX6_readsMembers_2 : List UInt8 := dkwX6_readsMembers_2 ++ dktX6_readsMembers_3
def dkwX6_readsMembers_1 : List UInt8 := [27, 28, 182, 0, 137, 62, 29, 6, 162, 0, 7, 28, 29, 96, 172, 132, 1, 1, 132, 2, 3, 28, 42]
abbrev dktX6_readsMembers_1 : List UInt8 := dkwX6_readsMembers_1 ++ dktX6_readsMembers_2
def dkwX6_readsMembers_0 : List UInt8 := [3, 60, 3, 61, 42, 3, 181, 0, 134, 28, 42, 180, 0, 7, 4, 46, 161, 0, 7, 28, 158, 0, 60, 42]
abbrev dktX6_readsMembers_0 : List UInt8 := dkwX6_readsMembers_0 ++ dktX6_readsMembers_1
theorem dksX6_readsMembers_0 : cX6_readsMembers.data.toList.drop 0 = dktX6_readsMembers_0 := by decide +kernel
theorem dksX6_readsMembers_1 : cX6_readsMembers.data.toList.drop 24 = dktX6_readsMembers_1 := dk_seg dksX6_readsMembers_0 24 rfl rfl
theorem dksX6_readsMembers_2 : cX6_readsMembers.data.toList.drop 47 = dktX6_readsMembers_2 := dk_seg dksX6_readsMembers_1 23 rfl rfl
theorem dksX6_readsMembers_3 : cX6_readsMembers.data.toList.drop 69 = dktX6_readsMembers_3 := dk_seg dksX6_readsMembers_2 22 rfl rfl
theorem dX6_readsMembers_0 : decode cX6_readsMembers 0 = .ok (.iconst 0, 1) := dk_3 (dk_at dksX6_readsMembers_0 0 rfl rfl)
theorem dX6_readsMembers_1 : decode cX6_readsMembers 1 = .ok (.istore_n 1, 1) := dk_60 (dk_at dksX6_readsMembers_0 1 rfl rfl)
theorem dX6_readsMembers_2 : decode cX6_readsMembers 2 = .ok (.iconst 0, 1) := dk_3 (dk_at dksX6_readsMembers_0 2 rfl rfl)
theorem dX6_readsMembers_3 : decode cX6_readsMembers 3 = .ok (.istore_n 2, 1) := dk_61 (dk_at dksX6_readsMembers_0 3 rfl rfl)
theorem dX6_readsMembers_4 : decode cX6_readsMembers 4 = .ok (.aload_n 0, 1) := dk_42 (dk_at dksX6_readsMembers_0 4 rfl rfl)
theorem dX6_readsMembers_5 : decode cX6_readsMembers 5 = .ok (.iconst 0, 1) := dk_3 (dk_at dksX6_readsMembers_0 5 rfl rfl)
theorem dX6_readsMembers_6 : decode cX6_readsMembers 6 = .ok (.putfield 134, 3) := dk_181 0 134 (dk_at dksX6_readsMembers_0 6 rfl rfl)
theorem dX6_readsMembers_9 : decode cX6_readsMembers 9 = .ok (.iload_n 2, 1) := dk_28 (dk_at dksX6_readsMembers_0 9 rfl rfl)
theorem dX6_readsMembers_10 : decode cX6_readsMembers 10 = .ok (.aload_n 0, 1) := dk_42 (dk_at dksX6_readsMembers_0 10 rfl rfl)
theorem dX6_readsMembers_11 : decode cX6_readsMembers 11 = .ok (.getfield 7, 3) := dk_180 0 7 (dk_at dksX6_readsMembers_0 11 rfl rfl)
theorem dX6_readsMembers_14 : decode cX6_readsMembers 14 = .ok (.iconst 1, 1) := dk_4 (dk_at dksX6_readsMembers_0 14 rfl rfl)
theorem dX6_readsMembers_15 : decode cX6_readsMembers 15 = .ok (.iaload, 1) := dk_46 (dk_at dksX6_readsMembers_0 15 rfl rfl)
theorem dX6_readsMembers_16 : decode cX6_readsMembers 16 = .ok (.if_icmp .lt 7, 3) := dk_161 0 7 (dk_at dksX6_readsMembers_0 16 rfl rfl)
theorem dX6_readsMembers_19 : decode cX6_readsMembers 19 = .ok (.iload_n 2, 1) := dk_28 (dk_at dksX6_readsMembers_0 19 rfl rfl)
theorem dX6_readsMembers_20 : decode cX6_readsMembers 20 = .ok (.ifCond .le 60, 3) := dk_158 0 60 (dk_at dksX6_readsMembers_0 20 rfl rfl)
theorem dX6_readsMembers_23 : decode cX6_readsMembers 23 = .ok (.aload_n 0, 1) := dk_42 (dk_at dksX6_readsMembers_0 23 rfl rfl)
theorem dX6_readsMembers_24 : decode cX6_readsMembers 24 = .ok (.iload_n 1, 1) := dk_27 (dk_at dksX6_readsMembers_1 0 rfl rfl)
theorem dX6_readsMembers_25 : decode cX6_readsMembers 25 = .ok (.iload_n 2, 1) := dk_28 (dk_at dksX6_readsMembers_1 1 rfl rfl)
theorem dX6_readsMembers_26 : decode cX6_readsMembers 26 = .ok (.invokevirtual 137, 3) := dk_182 0 137 (dk_at dksX6_readsMembers_1 2 rfl rfl)
theorem dX6_readsMembers_29 : decode cX6_readsMembers 29 = .ok (.istore_n 3, 1) := dk_62 (dk_at dksX6_readsMembers_1 5 rfl rfl)
theorem dX6_readsMembers_30 : decode cX6_readsMembers 30 = .ok (.iload_n 3, 1) := dk_29 (dk_at dksX6_readsMembers_1 6 rfl rfl)
theorem dX6_readsMembers_31 : decode cX6_readsMembers 31 = .ok (.iconst 3, 1) := dk_6 (dk_at dksX6_readsMembers_1 7 rfl rfl)
theorem dX6_readsMembers_32 : decode cX6_readsMembers 32 = .ok (.if_icmp .ge 7, 3) := dk_162 0 7 (dk_at dksX6_readsMembers_1 8 rfl rfl)
theorem dX6_readsMembers_35 : decode cX6_readsMembers 35 = .ok (.iload_n 2, 1) := dk_28 (dk_at dksX6_readsMembers_1 11 rfl rfl)
theorem dX6_readsMembers_36 : decode cX6_readsMembers 36 = .ok (.iload_n 3, 1) := dk_29 (dk_at dksX6_readsMembers_1 12 rfl rfl)
theorem dX6_readsMembers_37 : decode cX6_readsMembers 37 = .ok (.iadd, 1) := dk_96 (dk_at dksX6_readsMembers_1 13 rfl rfl)
theorem dX6_readsMembers_38 : decode cX6_readsMembers 38 = .ok (.ireturn, 1) := dk_172 (dk_at dksX6_readsMembers_1 14 rfl rfl)
theorem dX6_readsMembers_39 : decode cX6_readsMembers 39 = .ok (.iinc 1 1, 3) := dk_132 1 1 (dk_at dksX6_readsMembers_1 15 rfl rfl)
theorem dX6_readsMembers_42 : decode cX6_readsMembers 42 = .ok (.iinc 2 3, 3) := dk_132 2 3 (dk_at dksX6_readsMembers_1 18 rfl rfl)
theorem dX6_readsMembers_45 : decode cX6_readsMembers 45 = .ok (.iload_n 2, 1) := dk_28 (dk_at dksX6_readsMembers_1 21 rfl rfl)
theorem dX6_readsMembers_46 : decode cX6_readsMembers 46 = .ok (.aload_n 0, 1) := dk_42 (dk_at dksX6_readsMembers_1 22 rfl rfl)
theorem dX6_readsMembers_47 : decode cX6_readsMembers 47 = .ok (.getfield 7, 3) := dk_180 0 7 (dk_at dksX6_readsMembers_2 0 rfl rfl)
theorem dX6_readsMembers_50 : decode cX6_readsMembers 50 = .ok (.iconst 1, 1) := dk_4 (dk_at dksX6_readsMembers_2 3 rfl rfl)
theorem dX6_readsMembers_51 : decode cX6_readsMembers 51 = .ok (.iaload, 1) := dk_46 (dk_at dksX6_readsMembers_2 4 rfl rfl)
theorem dX6_readsMembers_52 : decode cX6_readsMembers 52 = .ok (.if_icmp .ne 10, 3) := dk_160 0 10 (dk_at dksX6_readsMembers_2 5 rfl rfl)
theorem dX6_readsMembers_55 : decode cX6_readsMembers 55 = .ok (.aload_n 0, 1) := dk_42 (dk_at dksX6_readsMembers_2 8 rfl rfl)
theorem dX6_readsMembers_56 : decode cX6_readsMembers 56 = .ok (.iload_n 1, 1) := dk_27 (dk_at dksX6_readsMembers_2 9 rfl rfl)
theorem dX6_readsMembers_57 : decode cX6_readsMembers 57 = .ok (.putfield 134, 3) := dk_181 0 134 (dk_at dksX6_readsMembers_2 10 rfl rfl)
theorem dX6_readsMembers_60 : decode cX6_readsMembers 60 = .ok (.iconst (-1), 1) := dk_2 (dk_at dksX6_readsMembers_2 13 rfl rfl)
theorem dX6_readsMembers_61 : decode cX6_readsMembers 61 = .ok (.ireturn, 1) := dk_172 (dk_at dksX6_readsMembers_2 14 rfl rfl)
theorem dX6_readsMembers_62 : decode cX6_readsMembers 62 = .ok (.aload_n 0, 1) := dk_42 (dk_at dksX6_readsMembers_2 15 rfl rfl)
theorem dX6_readsMembers_63 : decode cX6_readsMembers 63 = .ok (.iload_n 2, 1) := dk_28 (dk_at dksX6_readsMembers_2 16 rfl rfl)
theorem dX6_readsMembers_64 : decode cX6_readsMembers 64 = .ok (.invokevirtual 127, 3) := dk_182 0 127 (dk_at dksX6_readsMembers_2 17 rfl rfl)
theorem dX6_readsMembers_67 : decode cX6_readsMembers 67 = .ok (.bipush 59, 2) := dk_16 59 (dk_at dksX6_readsMembers_2 20 rfl rfl)
theorem dX6_readsMembers_69 : decode cX6_readsMembers 69 = .ok (.if_icmp .eq 5, 3) := dk_159 0 5 (dk_at dksX6_readsMembers_3 0 rfl rfl)
theorem dX6_readsMembers_72 : decode cX6_readsMembers 72 = .ok (.iload_n 2, 1) := dk_28 (dk_at dksX6_readsMembers_3 3 rfl rfl)
theorem dX6_readsMembers_73 : decode cX6_readsMembers 73 = .ok (.ireturn, 1) := dk_172 (dk_at dksX6_readsMembers_3 4 rfl rfl)
theorem dX6_readsMembers_74 : decode cX6_readsMembers 74 = .ok (.iinc 2 1, 3) := dk_132 2 1 (dk_at dksX6_readsMembers_3 5 rfl rfl)
theorem dX6_readsMembers_77 : decode cX6_readsMembers 77 = .ok (.goto (-68), 3) := dk_167 255 188 (dk_at dksX6_readsMembers_3 8 rfl rfl)
theorem dX6_readsMembers_80 : decode cX6_readsMembers 80 = .ok (.iconst (-1), 1) := dk_2 (dk_at dksX6_readsMembers_3 11 rfl rfl)
theorem dX6_readsMembers_81 : decode cX6_readsMembers 81 = .ok (.ireturn, 1) := dk_172 (dk_at dksX6_readsMembers_3 12 rfl rfl)
abbrev cX6_readsMember : ByteArray := prog_13_method_16_code
def yX6_readsMember : MethodName := ⟨RX6, "readsMember", "(II)I"⟩
def dkwX6_readsMember_4 : List UInt8 := [160, 0, 7, 4, 167, 0, 4, 3, 79, 6, 172]
abbrev dktX6_readsMember_4 : List UInt8 := dkwX6_readsMember_4 ++ []
def dkwX6_readsMember_3 : List UInt8 := [180, 0, 22, 27, 42, 28, 4, 96, 182, 0, 127, 16, 97, 100, 79, 42, 180, 0, 25, 27, 29, 16, 117]
abbrev dktX6_readsMember_3 : List UInt8 := dkwX6_readsMember_3 ++ dktX6_readsMember_4
def dkwX6_readsMember_2 : List UInt8 := [159, 0, 11, 29, 16, 100, 159, 0, 5, 5, 172, 42, 180, 0, 19, 27, 42, 28, 182, 0, 131, 79, 42]
abbrev dktX6_readsMember_2 : List UInt8 := dkwX6_readsMember_2 ++ dktX6_readsMember_3
def dkwX6_readsMember_1 : List UInt8 := [16, 97, 16, 108, 184, 0, 115, 154, 0, 5, 4, 172, 42, 28, 5, 96, 182, 0, 127, 62, 29, 16, 117]
abbrev dktX6_readsMember_1 : List UInt8 := dkwX6_readsMember_1 ++ dktX6_readsMember_2
def dkwX6_readsMember_0 : List UInt8 := [27, 16, 8, 159, 0, 12, 42, 28, 182, 0, 131, 2, 160, 0, 5, 3, 172, 42, 28, 4, 96, 182, 0, 127]
abbrev dktX6_readsMember_0 : List UInt8 := dkwX6_readsMember_0 ++ dktX6_readsMember_1
theorem dksX6_readsMember_0 : cX6_readsMember.data.toList.drop 0 = dktX6_readsMember_0 := by decide +kernel
theorem dksX6_readsMember_1 : cX6_readsMember.data.toList.drop 24 = dktX6_readsMember_1 := dk_seg dksX6_readsMember_0 24 rfl rfl
theorem dksX6_readsMember_2 : cX6_readsMember.data.toList.drop 47 = dktX6_readsMember_2 := dk_seg dksX6_readsMember_1 23 rfl rfl
theorem dksX6_readsMember_3 : cX6_readsMember.data.toList.drop 70 = dktX6_readsMember_3 := dk_seg dksX6_readsMember_2 23 rfl rfl
theorem dksX6_readsMember_4 : cX6_readsMember.data.toList.drop 93 = dktX6_readsMember_4 := dk_seg dksX6_readsMember_3 23 rfl rfl
theorem dX6_readsMember_0 : decode cX6_readsMember 0 = .ok (.iload_n 1, 1) := dk_27 (dk_at dksX6_readsMember_0 0 rfl rfl)
theorem dX6_readsMember_1 : decode cX6_readsMember 1 = .ok (.bipush 8, 2) := dk_16 8 (dk_at dksX6_readsMember_0 1 rfl rfl)
theorem dX6_readsMember_3 : decode cX6_readsMember 3 = .ok (.if_icmp .eq 12, 3) := dk_159 0 12 (dk_at dksX6_readsMember_0 3 rfl rfl)
theorem dX6_readsMember_6 : decode cX6_readsMember 6 = .ok (.aload_n 0, 1) := dk_42 (dk_at dksX6_readsMember_0 6 rfl rfl)
theorem dX6_readsMember_7 : decode cX6_readsMember 7 = .ok (.iload_n 2, 1) := dk_28 (dk_at dksX6_readsMember_0 7 rfl rfl)
theorem dX6_readsMember_8 : decode cX6_readsMember 8 = .ok (.invokevirtual 131, 3) := dk_182 0 131 (dk_at dksX6_readsMember_0 8 rfl rfl)
theorem dX6_readsMember_11 : decode cX6_readsMember 11 = .ok (.iconst (-1), 1) := dk_2 (dk_at dksX6_readsMember_0 11 rfl rfl)
theorem dX6_readsMember_12 : decode cX6_readsMember 12 = .ok (.if_icmp .ne 5, 3) := dk_160 0 5 (dk_at dksX6_readsMember_0 12 rfl rfl)
theorem dX6_readsMember_15 : decode cX6_readsMember 15 = .ok (.iconst 0, 1) := dk_3 (dk_at dksX6_readsMember_0 15 rfl rfl)
theorem dX6_readsMember_16 : decode cX6_readsMember 16 = .ok (.ireturn, 1) := dk_172 (dk_at dksX6_readsMember_0 16 rfl rfl)
theorem dX6_readsMember_17 : decode cX6_readsMember 17 = .ok (.aload_n 0, 1) := dk_42 (dk_at dksX6_readsMember_0 17 rfl rfl)
theorem dX6_readsMember_18 : decode cX6_readsMember 18 = .ok (.iload_n 2, 1) := dk_28 (dk_at dksX6_readsMember_0 18 rfl rfl)
theorem dX6_readsMember_19 : decode cX6_readsMember 19 = .ok (.iconst 1, 1) := dk_4 (dk_at dksX6_readsMember_0 19 rfl rfl)
theorem dX6_readsMember_20 : decode cX6_readsMember 20 = .ok (.iadd, 1) := dk_96 (dk_at dksX6_readsMember_0 20 rfl rfl)
theorem dX6_readsMember_21 : decode cX6_readsMember 21 = .ok (.invokevirtual 127, 3) := dk_182 0 127 (dk_at dksX6_readsMember_0 21 rfl rfl)
theorem dX6_readsMember_24 : decode cX6_readsMember 24 = .ok (.bipush 97, 2) := dk_16 97 (dk_at dksX6_readsMember_1 0 rfl rfl)
theorem dX6_readsMember_26 : decode cX6_readsMember 26 = .ok (.bipush 108, 2) := dk_16 108 (dk_at dksX6_readsMember_1 2 rfl rfl)
theorem dX6_readsMember_28 : decode cX6_readsMember 28 = .ok (.invokestatic 115, 3) := dk_184 0 115 (dk_at dksX6_readsMember_1 4 rfl rfl)
theorem dX6_readsMember_31 : decode cX6_readsMember 31 = .ok (.ifCond .ne 5, 3) := dk_154 0 5 (dk_at dksX6_readsMember_1 7 rfl rfl)
theorem dX6_readsMember_34 : decode cX6_readsMember 34 = .ok (.iconst 1, 1) := dk_4 (dk_at dksX6_readsMember_1 10 rfl rfl)
theorem dX6_readsMember_35 : decode cX6_readsMember 35 = .ok (.ireturn, 1) := dk_172 (dk_at dksX6_readsMember_1 11 rfl rfl)
theorem dX6_readsMember_36 : decode cX6_readsMember 36 = .ok (.aload_n 0, 1) := dk_42 (dk_at dksX6_readsMember_1 12 rfl rfl)
theorem dX6_readsMember_37 : decode cX6_readsMember 37 = .ok (.iload_n 2, 1) := dk_28 (dk_at dksX6_readsMember_1 13 rfl rfl)
theorem dX6_readsMember_38 : decode cX6_readsMember 38 = .ok (.iconst 2, 1) := dk_5 (dk_at dksX6_readsMember_1 14 rfl rfl)
theorem dX6_readsMember_39 : decode cX6_readsMember 39 = .ok (.iadd, 1) := dk_96 (dk_at dksX6_readsMember_1 15 rfl rfl)
theorem dX6_readsMember_40 : decode cX6_readsMember 40 = .ok (.invokevirtual 127, 3) := dk_182 0 127 (dk_at dksX6_readsMember_1 16 rfl rfl)
theorem dX6_readsMember_43 : decode cX6_readsMember 43 = .ok (.istore_n 3, 1) := dk_62 (dk_at dksX6_readsMember_1 19 rfl rfl)
theorem dX6_readsMember_44 : decode cX6_readsMember 44 = .ok (.iload_n 3, 1) := dk_29 (dk_at dksX6_readsMember_1 20 rfl rfl)
theorem dX6_readsMember_45 : decode cX6_readsMember 45 = .ok (.bipush 117, 2) := dk_16 117 (dk_at dksX6_readsMember_1 21 rfl rfl)
theorem dX6_readsMember_47 : decode cX6_readsMember 47 = .ok (.if_icmp .eq 11, 3) := dk_159 0 11 (dk_at dksX6_readsMember_2 0 rfl rfl)
theorem dX6_readsMember_50 : decode cX6_readsMember 50 = .ok (.iload_n 3, 1) := dk_29 (dk_at dksX6_readsMember_2 3 rfl rfl)
theorem dX6_readsMember_51 : decode cX6_readsMember 51 = .ok (.bipush 100, 2) := dk_16 100 (dk_at dksX6_readsMember_2 4 rfl rfl)
theorem dX6_readsMember_53 : decode cX6_readsMember 53 = .ok (.if_icmp .eq 5, 3) := dk_159 0 5 (dk_at dksX6_readsMember_2 6 rfl rfl)
theorem dX6_readsMember_56 : decode cX6_readsMember 56 = .ok (.iconst 2, 1) := dk_5 (dk_at dksX6_readsMember_2 9 rfl rfl)
theorem dX6_readsMember_57 : decode cX6_readsMember 57 = .ok (.ireturn, 1) := dk_172 (dk_at dksX6_readsMember_2 10 rfl rfl)
theorem dX6_readsMember_58 : decode cX6_readsMember 58 = .ok (.aload_n 0, 1) := dk_42 (dk_at dksX6_readsMember_2 11 rfl rfl)
theorem dX6_readsMember_59 : decode cX6_readsMember 59 = .ok (.getfield 19, 3) := dk_180 0 19 (dk_at dksX6_readsMember_2 12 rfl rfl)
theorem dX6_readsMember_62 : decode cX6_readsMember 62 = .ok (.iload_n 1, 1) := dk_27 (dk_at dksX6_readsMember_2 15 rfl rfl)
theorem dX6_readsMember_63 : decode cX6_readsMember 63 = .ok (.aload_n 0, 1) := dk_42 (dk_at dksX6_readsMember_2 16 rfl rfl)
theorem dX6_readsMember_64 : decode cX6_readsMember 64 = .ok (.iload_n 2, 1) := dk_28 (dk_at dksX6_readsMember_2 17 rfl rfl)
theorem dX6_readsMember_65 : decode cX6_readsMember 65 = .ok (.invokevirtual 131, 3) := dk_182 0 131 (dk_at dksX6_readsMember_2 18 rfl rfl)
theorem dX6_readsMember_68 : decode cX6_readsMember 68 = .ok (.iastore, 1) := dk_79 (dk_at dksX6_readsMember_2 21 rfl rfl)
theorem dX6_readsMember_69 : decode cX6_readsMember 69 = .ok (.aload_n 0, 1) := dk_42 (dk_at dksX6_readsMember_2 22 rfl rfl)
theorem dX6_readsMember_70 : decode cX6_readsMember 70 = .ok (.getfield 22, 3) := dk_180 0 22 (dk_at dksX6_readsMember_3 0 rfl rfl)
theorem dX6_readsMember_73 : decode cX6_readsMember 73 = .ok (.iload_n 1, 1) := dk_27 (dk_at dksX6_readsMember_3 3 rfl rfl)
theorem dX6_readsMember_74 : decode cX6_readsMember 74 = .ok (.aload_n 0, 1) := dk_42 (dk_at dksX6_readsMember_3 4 rfl rfl)
theorem dX6_readsMember_75 : decode cX6_readsMember 75 = .ok (.iload_n 2, 1) := dk_28 (dk_at dksX6_readsMember_3 5 rfl rfl)
theorem dX6_readsMember_76 : decode cX6_readsMember 76 = .ok (.iconst 1, 1) := dk_4 (dk_at dksX6_readsMember_3 6 rfl rfl)
theorem dX6_readsMember_77 : decode cX6_readsMember 77 = .ok (.iadd, 1) := dk_96 (dk_at dksX6_readsMember_3 7 rfl rfl)
theorem dX6_readsMember_78 : decode cX6_readsMember 78 = .ok (.invokevirtual 127, 3) := dk_182 0 127 (dk_at dksX6_readsMember_3 8 rfl rfl)
theorem dX6_readsMember_81 : decode cX6_readsMember 81 = .ok (.bipush 97, 2) := dk_16 97 (dk_at dksX6_readsMember_3 11 rfl rfl)
theorem dX6_readsMember_83 : decode cX6_readsMember 83 = .ok (.isub, 1) := dk_100 (dk_at dksX6_readsMember_3 13 rfl rfl)
theorem dX6_readsMember_84 : decode cX6_readsMember 84 = .ok (.iastore, 1) := dk_79 (dk_at dksX6_readsMember_3 14 rfl rfl)
theorem dX6_readsMember_85 : decode cX6_readsMember 85 = .ok (.aload_n 0, 1) := dk_42 (dk_at dksX6_readsMember_3 15 rfl rfl)
theorem dX6_readsMember_86 : decode cX6_readsMember 86 = .ok (.getfield 25, 3) := dk_180 0 25 (dk_at dksX6_readsMember_3 16 rfl rfl)
theorem dX6_readsMember_89 : decode cX6_readsMember 89 = .ok (.iload_n 1, 1) := dk_27 (dk_at dksX6_readsMember_3 19 rfl rfl)
theorem dX6_readsMember_90 : decode cX6_readsMember 90 = .ok (.iload_n 3, 1) := dk_29 (dk_at dksX6_readsMember_3 20 rfl rfl)
theorem dX6_readsMember_91 : decode cX6_readsMember 91 = .ok (.bipush 117, 2) := dk_16 117 (dk_at dksX6_readsMember_3 21 rfl rfl)
theorem dX6_readsMember_93 : decode cX6_readsMember 93 = .ok (.if_icmp .ne 7, 3) := dk_160 0 7 (dk_at dksX6_readsMember_4 0 rfl rfl)
theorem dX6_readsMember_96 : decode cX6_readsMember 96 = .ok (.iconst 1, 1) := dk_4 (dk_at dksX6_readsMember_4 3 rfl rfl)
theorem dX6_readsMember_97 : decode cX6_readsMember 97 = .ok (.goto 4, 3) := dk_167 0 4 (dk_at dksX6_readsMember_4 4 rfl rfl)
theorem dX6_readsMember_100 : decode cX6_readsMember 100 = .ok (.iconst 0, 1) := dk_3 (dk_at dksX6_readsMember_4 7 rfl rfl)
theorem dX6_readsMember_101 : decode cX6_readsMember 101 = .ok (.iastore, 1) := dk_79 (dk_at dksX6_readsMember_4 8 rfl rfl)
theorem dX6_readsMember_102 : decode cX6_readsMember 102 = .ok (.iconst 3, 1) := dk_6 (dk_at dksX6_readsMember_4 9 rfl rfl)
theorem dX6_readsMember_103 : decode cX6_readsMember 103 = .ok (.ireturn, 1) := dk_172 (dk_at dksX6_readsMember_4 10 rfl rfl)
abbrev cX6_sortAt : ByteArray := prog_13_method_15_code
def yX6_sortAt : MethodName := ⟨RX6, "sortAt", "(I)I"⟩
def dkwX6_sortAt_1 : List UInt8 := [167, 0, 14, 28, 16, 111, 160, 0, 7, 5, 167, 0, 4, 2, 172]
abbrev dktX6_sortAt_1 : List UInt8 := dkwX6_sortAt_1 ++ []
def dkwX6_sortAt_0 : List UInt8 := [42, 27, 182, 0, 127, 61, 28, 16, 112, 160, 0, 7, 3, 167, 0, 24, 28, 16, 103, 160, 0, 7, 4]
abbrev dktX6_sortAt_0 : List UInt8 := dkwX6_sortAt_0 ++ dktX6_sortAt_1
theorem dksX6_sortAt_0 : cX6_sortAt.data.toList.drop 0 = dktX6_sortAt_0 := by decide +kernel
theorem dksX6_sortAt_1 : cX6_sortAt.data.toList.drop 23 = dktX6_sortAt_1 := dk_seg dksX6_sortAt_0 23 rfl rfl
theorem dX6_sortAt_0 : decode cX6_sortAt 0 = .ok (.aload_n 0, 1) := dk_42 (dk_at dksX6_sortAt_0 0 rfl rfl)
theorem dX6_sortAt_1 : decode cX6_sortAt 1 = .ok (.iload_n 1, 1) := dk_27 (dk_at dksX6_sortAt_0 1 rfl rfl)
theorem dX6_sortAt_2 : decode cX6_sortAt 2 = .ok (.invokevirtual 127, 3) := dk_182 0 127 (dk_at dksX6_sortAt_0 2 rfl rfl)
theorem dX6_sortAt_5 : decode cX6_sortAt 5 = .ok (.istore_n 2, 1) := dk_61 (dk_at dksX6_sortAt_0 5 rfl rfl)
theorem dX6_sortAt_6 : decode cX6_sortAt 6 = .ok (.iload_n 2, 1) := dk_28 (dk_at dksX6_sortAt_0 6 rfl rfl)
theorem dX6_sortAt_7 : decode cX6_sortAt 7 = .ok (.bipush 112, 2) := dk_16 112 (dk_at dksX6_sortAt_0 7 rfl rfl)
theorem dX6_sortAt_9 : decode cX6_sortAt 9 = .ok (.if_icmp .ne 7, 3) := dk_160 0 7 (dk_at dksX6_sortAt_0 9 rfl rfl)
theorem dX6_sortAt_12 : decode cX6_sortAt 12 = .ok (.iconst 0, 1) := dk_3 (dk_at dksX6_sortAt_0 12 rfl rfl)
theorem dX6_sortAt_13 : decode cX6_sortAt 13 = .ok (.goto 24, 3) := dk_167 0 24 (dk_at dksX6_sortAt_0 13 rfl rfl)
theorem dX6_sortAt_16 : decode cX6_sortAt 16 = .ok (.iload_n 2, 1) := dk_28 (dk_at dksX6_sortAt_0 16 rfl rfl)
theorem dX6_sortAt_17 : decode cX6_sortAt 17 = .ok (.bipush 103, 2) := dk_16 103 (dk_at dksX6_sortAt_0 17 rfl rfl)
theorem dX6_sortAt_19 : decode cX6_sortAt 19 = .ok (.if_icmp .ne 7, 3) := dk_160 0 7 (dk_at dksX6_sortAt_0 19 rfl rfl)
theorem dX6_sortAt_22 : decode cX6_sortAt 22 = .ok (.iconst 1, 1) := dk_4 (dk_at dksX6_sortAt_0 22 rfl rfl)
theorem dX6_sortAt_23 : decode cX6_sortAt 23 = .ok (.goto 14, 3) := dk_167 0 14 (dk_at dksX6_sortAt_1 0 rfl rfl)
theorem dX6_sortAt_26 : decode cX6_sortAt 26 = .ok (.iload_n 2, 1) := dk_28 (dk_at dksX6_sortAt_1 3 rfl rfl)
theorem dX6_sortAt_27 : decode cX6_sortAt 27 = .ok (.bipush 111, 2) := dk_16 111 (dk_at dksX6_sortAt_1 4 rfl rfl)
theorem dX6_sortAt_29 : decode cX6_sortAt 29 = .ok (.if_icmp .ne 7, 3) := dk_160 0 7 (dk_at dksX6_sortAt_1 6 rfl rfl)
theorem dX6_sortAt_32 : decode cX6_sortAt 32 = .ok (.iconst 2, 1) := dk_5 (dk_at dksX6_sortAt_1 9 rfl rfl)
theorem dX6_sortAt_33 : decode cX6_sortAt 33 = .ok (.goto 4, 3) := dk_167 0 4 (dk_at dksX6_sortAt_1 10 rfl rfl)
theorem dX6_sortAt_36 : decode cX6_sortAt 36 = .ok (.iconst (-1), 1) := dk_2 (dk_at dksX6_sortAt_1 13 rfl rfl)
theorem dX6_sortAt_37 : decode cX6_sortAt 37 = .ok (.ireturn, 1) := dk_172 (dk_at dksX6_sortAt_1 14 rfl rfl)
abbrev cX6_byteAt : ByteArray := prog_13_method_14_code
def yX6_byteAt : MethodName := ⟨RX6, "byteAt", "(I)I"⟩
def dkwX6_byteAt_0 : List UInt8 := [27, 42, 180, 0, 7, 4, 46, 162, 0, 15, 42, 180, 0, 13, 16, 31, 27, 96, 46, 167, 0, 4, 2, 172]
abbrev dktX6_byteAt_0 : List UInt8 := dkwX6_byteAt_0 ++ []
theorem dksX6_byteAt_0 : cX6_byteAt.data.toList.drop 0 = dktX6_byteAt_0 := by decide +kernel
theorem dX6_byteAt_0 : decode cX6_byteAt 0 = .ok (.iload_n 1, 1) := dk_27 (dk_at dksX6_byteAt_0 0 rfl rfl)
theorem dX6_byteAt_1 : decode cX6_byteAt 1 = .ok (.aload_n 0, 1) := dk_42 (dk_at dksX6_byteAt_0 1 rfl rfl)
theorem dX6_byteAt_2 : decode cX6_byteAt 2 = .ok (.getfield 7, 3) := dk_180 0 7 (dk_at dksX6_byteAt_0 2 rfl rfl)
theorem dX6_byteAt_5 : decode cX6_byteAt 5 = .ok (.iconst 1, 1) := dk_4 (dk_at dksX6_byteAt_0 5 rfl rfl)
theorem dX6_byteAt_6 : decode cX6_byteAt 6 = .ok (.iaload, 1) := dk_46 (dk_at dksX6_byteAt_0 6 rfl rfl)
theorem dX6_byteAt_7 : decode cX6_byteAt 7 = .ok (.if_icmp .ge 15, 3) := dk_162 0 15 (dk_at dksX6_byteAt_0 7 rfl rfl)
theorem dX6_byteAt_10 : decode cX6_byteAt 10 = .ok (.aload_n 0, 1) := dk_42 (dk_at dksX6_byteAt_0 10 rfl rfl)
theorem dX6_byteAt_11 : decode cX6_byteAt 11 = .ok (.getfield 13, 3) := dk_180 0 13 (dk_at dksX6_byteAt_0 11 rfl rfl)
theorem dX6_byteAt_14 : decode cX6_byteAt 14 = .ok (.bipush 31, 2) := dk_16 31 (dk_at dksX6_byteAt_0 14 rfl rfl)
theorem dX6_byteAt_16 : decode cX6_byteAt 16 = .ok (.iload_n 1, 1) := dk_27 (dk_at dksX6_byteAt_0 16 rfl rfl)
theorem dX6_byteAt_17 : decode cX6_byteAt 17 = .ok (.iadd, 1) := dk_96 (dk_at dksX6_byteAt_0 17 rfl rfl)
theorem dX6_byteAt_18 : decode cX6_byteAt 18 = .ok (.iaload, 1) := dk_46 (dk_at dksX6_byteAt_0 18 rfl rfl)
theorem dX6_byteAt_19 : decode cX6_byteAt 19 = .ok (.goto 4, 3) := dk_167 0 4 (dk_at dksX6_byteAt_0 19 rfl rfl)
theorem dX6_byteAt_22 : decode cX6_byteAt 22 = .ok (.iconst (-1), 1) := dk_2 (dk_at dksX6_byteAt_0 22 rfl rfl)
theorem dX6_byteAt_23 : decode cX6_byteAt 23 = .ok (.ireturn, 1) := dk_172 (dk_at dksX6_byteAt_0 23 rfl rfl)
abbrev cX6_stone : ByteArray := prog_13_method_23_code
def yX6_stone : MethodName := ⟨RX6, "stone", "(I)I"⟩
def dkwX6_stone_0 : List UInt8 := [27, 184, 0, 154, 153, 0, 11, 42, 27, 182, 0, 157, 167, 0, 5, 16, 254, 172]
abbrev dktX6_stone_0 : List UInt8 := dkwX6_stone_0 ++ []
theorem dksX6_stone_0 : cX6_stone.data.toList.drop 0 = dktX6_stone_0 := by decide +kernel
theorem dX6_stone_0 : decode cX6_stone 0 = .ok (.iload_n 1, 1) := dk_27 (dk_at dksX6_stone_0 0 rfl rfl)
theorem dX6_stone_1 : decode cX6_stone 1 = .ok (.invokestatic 154, 3) := dk_184 0 154 (dk_at dksX6_stone_0 1 rfl rfl)
theorem dX6_stone_4 : decode cX6_stone 4 = .ok (.ifCond .eq 11, 3) := dk_153 0 11 (dk_at dksX6_stone_0 4 rfl rfl)
theorem dX6_stone_7 : decode cX6_stone 7 = .ok (.aload_n 0, 1) := dk_42 (dk_at dksX6_stone_0 7 rfl rfl)
theorem dX6_stone_8 : decode cX6_stone 8 = .ok (.iload_n 1, 1) := dk_27 (dk_at dksX6_stone_0 8 rfl rfl)
theorem dX6_stone_9 : decode cX6_stone 9 = .ok (.invokevirtual 157, 3) := dk_182 0 157 (dk_at dksX6_stone_0 9 rfl rfl)
theorem dX6_stone_12 : decode cX6_stone 12 = .ok (.goto 5, 3) := dk_167 0 5 (dk_at dksX6_stone_0 12 rfl rfl)
theorem dX6_stone_15 : decode cX6_stone 15 = .ok (.bipush (-2), 2) := dk_16 254 (dk_at dksX6_stone_0 15 rfl rfl)
theorem dX6_stone_17 : decode cX6_stone 17 = .ok (.ireturn, 1) := dk_172 (dk_at dksX6_stone_0 17 rfl rfl)
abbrev cX6_isPlace : ByteArray := prog_13_method_9_code
def yX6_isPlace : MethodName := ⟨RX6, "isPlace", "(I)Z"⟩
def dkwX6_isPlace_0 : List UInt8 := [26, 3, 16, 11, 184, 0, 115, 172]
abbrev dktX6_isPlace_0 : List UInt8 := dkwX6_isPlace_0 ++ []
theorem dksX6_isPlace_0 : cX6_isPlace.data.toList.drop 0 = dktX6_isPlace_0 := by decide +kernel
theorem dX6_isPlace_0 : decode cX6_isPlace 0 = .ok (.iload_n 0, 1) := dk_26 (dk_at dksX6_isPlace_0 0 rfl rfl)
theorem dX6_isPlace_1 : decode cX6_isPlace 1 = .ok (.iconst 0, 1) := dk_3 (dk_at dksX6_isPlace_0 1 rfl rfl)
theorem dX6_isPlace_2 : decode cX6_isPlace 2 = .ok (.bipush 11, 2) := dk_16 11 (dk_at dksX6_isPlace_0 2 rfl rfl)
theorem dX6_isPlace_4 : decode cX6_isPlace 4 = .ok (.invokestatic 115, 3) := dk_184 0 115 (dk_at dksX6_isPlace_0 4 rfl rfl)
theorem dX6_isPlace_7 : decode cX6_isPlace 7 = .ok (.ireturn, 1) := dk_172 (dk_at dksX6_isPlace_0 7 rfl rfl)
abbrev cX6_stoneOf : ByteArray := prog_13_method_22_code
def yX6_stoneOf : MethodName := ⟨RX6, "stoneOf", "(I)I"⟩
def dkwX6_stoneOf_0 : List UInt8 := [42, 182, 0, 151, 42, 180, 0, 16, 27, 46, 172]
abbrev dktX6_stoneOf_0 : List UInt8 := dkwX6_stoneOf_0 ++ []
theorem dksX6_stoneOf_0 : cX6_stoneOf.data.toList.drop 0 = dktX6_stoneOf_0 := by decide +kernel
theorem dX6_stoneOf_0 : decode cX6_stoneOf 0 = .ok (.aload_n 0, 1) := dk_42 (dk_at dksX6_stoneOf_0 0 rfl rfl)
theorem dX6_stoneOf_1 : decode cX6_stoneOf 1 = .ok (.invokevirtual 151, 3) := dk_182 0 151 (dk_at dksX6_stoneOf_0 1 rfl rfl)
theorem dX6_stoneOf_4 : decode cX6_stoneOf 4 = .ok (.aload_n 0, 1) := dk_42 (dk_at dksX6_stoneOf_0 4 rfl rfl)
theorem dX6_stoneOf_5 : decode cX6_stoneOf 5 = .ok (.getfield 16, 3) := dk_180 0 16 (dk_at dksX6_stoneOf_0 5 rfl rfl)
theorem dX6_stoneOf_8 : decode cX6_stoneOf 8 = .ok (.iload_n 1, 1) := dk_27 (dk_at dksX6_stoneOf_0 8 rfl rfl)
theorem dX6_stoneOf_9 : decode cX6_stoneOf 9 = .ok (.iaload, 1) := dk_46 (dk_at dksX6_stoneOf_0 9 rfl rfl)
theorem dX6_stoneOf_10 : decode cX6_stoneOf 10 = .ok (.ireturn, 1) := dk_172 (dk_at dksX6_stoneOf_0 10 rfl rfl)
abbrev cX6_reads : ByteArray := prog_13_method_19_code
def yX6_reads : MethodName := ⟨RX6, "reads", "()V"⟩
def dkwX6_reads_0 : List UInt8 := [42, 3, 182, 0, 148, 60, 177]
abbrev dktX6_reads_0 : List UInt8 := dkwX6_reads_0 ++ []
theorem dksX6_reads_0 : cX6_reads.data.toList.drop 0 = dktX6_reads_0 := by decide +kernel
theorem dX6_reads_0 : decode cX6_reads 0 = .ok (.aload_n 0, 1) := dk_42 (dk_at dksX6_reads_0 0 rfl rfl)
theorem dX6_reads_1 : decode cX6_reads 1 = .ok (.iconst 0, 1) := dk_3 (dk_at dksX6_reads_0 1 rfl rfl)
theorem dX6_reads_2 : decode cX6_reads 2 = .ok (.invokevirtual 148, 3) := dk_182 0 148 (dk_at dksX6_reads_0 2 rfl rfl)
theorem dX6_reads_5 : decode cX6_reads 5 = .ok (.istore_n 1, 1) := dk_60 (dk_at dksX6_reads_0 5 rfl rfl)
theorem dX6_reads_6 : decode cX6_reads 6 = .ok (.return_, 1) := dk_177 (dk_at dksX6_reads_0 6 rfl rfl)
abbrev cX6_member : ByteArray := prog_13_method_25_code
def yX6_member : MethodName := ⟨RX6, "member", "(II)I"⟩
def dkwX6_member_1 : List UInt8 := [167, 0, 5, 16, 254, 172]
abbrev dktX6_member_1 : List UInt8 := dkwX6_member_1 ++ []
def dkwX6_member_0 : List UInt8 := [42, 27, 182, 0, 160, 153, 0, 21, 28, 3, 5, 184, 0, 115, 153, 0, 12, 42, 27, 28, 182, 0, 163]
abbrev dktX6_member_0 : List UInt8 := dkwX6_member_0 ++ dktX6_member_1
theorem dksX6_member_0 : cX6_member.data.toList.drop 0 = dktX6_member_0 := by decide +kernel
theorem dksX6_member_1 : cX6_member.data.toList.drop 23 = dktX6_member_1 := dk_seg dksX6_member_0 23 rfl rfl
theorem dX6_member_0 : decode cX6_member 0 = .ok (.aload_n 0, 1) := dk_42 (dk_at dksX6_member_0 0 rfl rfl)
theorem dX6_member_1 : decode cX6_member 1 = .ok (.iload_n 1, 1) := dk_27 (dk_at dksX6_member_0 1 rfl rfl)
theorem dX6_member_2 : decode cX6_member 2 = .ok (.invokevirtual 160, 3) := dk_182 0 160 (dk_at dksX6_member_0 2 rfl rfl)
theorem dX6_member_5 : decode cX6_member 5 = .ok (.ifCond .eq 21, 3) := dk_153 0 21 (dk_at dksX6_member_0 5 rfl rfl)
theorem dX6_member_8 : decode cX6_member 8 = .ok (.iload_n 2, 1) := dk_28 (dk_at dksX6_member_0 8 rfl rfl)
theorem dX6_member_9 : decode cX6_member 9 = .ok (.iconst 0, 1) := dk_3 (dk_at dksX6_member_0 9 rfl rfl)
theorem dX6_member_10 : decode cX6_member 10 = .ok (.iconst 2, 1) := dk_5 (dk_at dksX6_member_0 10 rfl rfl)
theorem dX6_member_11 : decode cX6_member 11 = .ok (.invokestatic 115, 3) := dk_184 0 115 (dk_at dksX6_member_0 11 rfl rfl)
theorem dX6_member_14 : decode cX6_member 14 = .ok (.ifCond .eq 12, 3) := dk_153 0 12 (dk_at dksX6_member_0 14 rfl rfl)
theorem dX6_member_17 : decode cX6_member 17 = .ok (.aload_n 0, 1) := dk_42 (dk_at dksX6_member_0 17 rfl rfl)
theorem dX6_member_18 : decode cX6_member 18 = .ok (.iload_n 1, 1) := dk_27 (dk_at dksX6_member_0 18 rfl rfl)
theorem dX6_member_19 : decode cX6_member 19 = .ok (.iload_n 2, 1) := dk_28 (dk_at dksX6_member_0 19 rfl rfl)
theorem dX6_member_20 : decode cX6_member 20 = .ok (.invokevirtual 163, 3) := dk_182 0 163 (dk_at dksX6_member_0 20 rfl rfl)
theorem dX6_member_23 : decode cX6_member 23 = .ok (.goto 5, 3) := dk_167 0 5 (dk_at dksX6_member_1 0 rfl rfl)
theorem dX6_member_26 : decode cX6_member 26 = .ok (.bipush (-2), 2) := dk_16 254 (dk_at dksX6_member_1 3 rfl rfl)
theorem dX6_member_28 : decode cX6_member 28 = .ok (.ireturn, 1) := dk_172 (dk_at dksX6_member_1 5 rfl rfl)
abbrev cX6_isMember : ByteArray := prog_13_method_21_code
def yX6_isMember : MethodName := ⟨RX6, "isMember", "(I)Z"⟩
def dkwX6_isMember_0 : List UInt8 := [42, 182, 0, 151, 27, 3, 42, 180, 0, 134, 4, 100, 184, 0, 115, 172]
abbrev dktX6_isMember_0 : List UInt8 := dkwX6_isMember_0 ++ []
theorem dksX6_isMember_0 : cX6_isMember.data.toList.drop 0 = dktX6_isMember_0 := by decide +kernel
theorem dX6_isMember_0 : decode cX6_isMember 0 = .ok (.aload_n 0, 1) := dk_42 (dk_at dksX6_isMember_0 0 rfl rfl)
theorem dX6_isMember_1 : decode cX6_isMember 1 = .ok (.invokevirtual 151, 3) := dk_182 0 151 (dk_at dksX6_isMember_0 1 rfl rfl)
theorem dX6_isMember_4 : decode cX6_isMember 4 = .ok (.iload_n 1, 1) := dk_27 (dk_at dksX6_isMember_0 4 rfl rfl)
theorem dX6_isMember_5 : decode cX6_isMember 5 = .ok (.iconst 0, 1) := dk_3 (dk_at dksX6_isMember_0 5 rfl rfl)
theorem dX6_isMember_6 : decode cX6_isMember 6 = .ok (.aload_n 0, 1) := dk_42 (dk_at dksX6_isMember_0 6 rfl rfl)
theorem dX6_isMember_7 : decode cX6_isMember 7 = .ok (.getfield 134, 3) := dk_180 0 134 (dk_at dksX6_isMember_0 7 rfl rfl)
theorem dX6_isMember_10 : decode cX6_isMember 10 = .ok (.iconst 1, 1) := dk_4 (dk_at dksX6_isMember_0 10 rfl rfl)
theorem dX6_isMember_11 : decode cX6_isMember 11 = .ok (.isub, 1) := dk_100 (dk_at dksX6_isMember_0 11 rfl rfl)
theorem dX6_isMember_12 : decode cX6_isMember 12 = .ok (.invokestatic 115, 3) := dk_184 0 115 (dk_at dksX6_isMember_0 12 rfl rfl)
theorem dX6_isMember_15 : decode cX6_isMember 15 = .ok (.ireturn, 1) := dk_172 (dk_at dksX6_isMember_0 15 rfl rfl)
abbrev cX6_memberOf : ByteArray := prog_13_method_24_code
def yX6_memberOf : MethodName := ⟨RX6, "memberOf", "(II)I"⟩
def dkwX6_memberOf_1 : List UInt8 := [167, 0, 9, 42, 180, 0, 25, 27, 46, 172]
abbrev dktX6_memberOf_1 : List UInt8 := dkwX6_memberOf_1 ++ []
def dkwX6_memberOf_0 : List UInt8 := [28, 154, 0, 12, 42, 180, 0, 19, 27, 46, 167, 0, 23, 28, 4, 160, 0, 12, 42, 180, 0, 22, 27, 46]
abbrev dktX6_memberOf_0 : List UInt8 := dkwX6_memberOf_0 ++ dktX6_memberOf_1
theorem dksX6_memberOf_0 : cX6_memberOf.data.toList.drop 0 = dktX6_memberOf_0 := by decide +kernel
theorem dksX6_memberOf_1 : cX6_memberOf.data.toList.drop 24 = dktX6_memberOf_1 := dk_seg dksX6_memberOf_0 24 rfl rfl
theorem dX6_memberOf_0 : decode cX6_memberOf 0 = .ok (.iload_n 2, 1) := dk_28 (dk_at dksX6_memberOf_0 0 rfl rfl)
theorem dX6_memberOf_1 : decode cX6_memberOf 1 = .ok (.ifCond .ne 12, 3) := dk_154 0 12 (dk_at dksX6_memberOf_0 1 rfl rfl)
theorem dX6_memberOf_4 : decode cX6_memberOf 4 = .ok (.aload_n 0, 1) := dk_42 (dk_at dksX6_memberOf_0 4 rfl rfl)
theorem dX6_memberOf_5 : decode cX6_memberOf 5 = .ok (.getfield 19, 3) := dk_180 0 19 (dk_at dksX6_memberOf_0 5 rfl rfl)
theorem dX6_memberOf_8 : decode cX6_memberOf 8 = .ok (.iload_n 1, 1) := dk_27 (dk_at dksX6_memberOf_0 8 rfl rfl)
theorem dX6_memberOf_9 : decode cX6_memberOf 9 = .ok (.iaload, 1) := dk_46 (dk_at dksX6_memberOf_0 9 rfl rfl)
theorem dX6_memberOf_10 : decode cX6_memberOf 10 = .ok (.goto 23, 3) := dk_167 0 23 (dk_at dksX6_memberOf_0 10 rfl rfl)
theorem dX6_memberOf_13 : decode cX6_memberOf 13 = .ok (.iload_n 2, 1) := dk_28 (dk_at dksX6_memberOf_0 13 rfl rfl)
theorem dX6_memberOf_14 : decode cX6_memberOf 14 = .ok (.iconst 1, 1) := dk_4 (dk_at dksX6_memberOf_0 14 rfl rfl)
theorem dX6_memberOf_15 : decode cX6_memberOf 15 = .ok (.if_icmp .ne 12, 3) := dk_160 0 12 (dk_at dksX6_memberOf_0 15 rfl rfl)
theorem dX6_memberOf_18 : decode cX6_memberOf 18 = .ok (.aload_n 0, 1) := dk_42 (dk_at dksX6_memberOf_0 18 rfl rfl)
theorem dX6_memberOf_19 : decode cX6_memberOf 19 = .ok (.getfield 22, 3) := dk_180 0 22 (dk_at dksX6_memberOf_0 19 rfl rfl)
theorem dX6_memberOf_22 : decode cX6_memberOf 22 = .ok (.iload_n 1, 1) := dk_27 (dk_at dksX6_memberOf_0 22 rfl rfl)
theorem dX6_memberOf_23 : decode cX6_memberOf 23 = .ok (.iaload, 1) := dk_46 (dk_at dksX6_memberOf_0 23 rfl rfl)
theorem dX6_memberOf_24 : decode cX6_memberOf 24 = .ok (.goto 9, 3) := dk_167 0 9 (dk_at dksX6_memberOf_1 0 rfl rfl)
theorem dX6_memberOf_27 : decode cX6_memberOf 27 = .ok (.aload_n 0, 1) := dk_42 (dk_at dksX6_memberOf_1 3 rfl rfl)
theorem dX6_memberOf_28 : decode cX6_memberOf 28 = .ok (.getfield 25, 3) := dk_180 0 25 (dk_at dksX6_memberOf_1 4 rfl rfl)
theorem dX6_memberOf_31 : decode cX6_memberOf 31 = .ok (.iload_n 1, 1) := dk_27 (dk_at dksX6_memberOf_1 7 rfl rfl)
theorem dX6_memberOf_32 : decode cX6_memberOf 32 = .ok (.iaload, 1) := dk_46 (dk_at dksX6_memberOf_1 8 rfl rfl)
theorem dX6_memberOf_33 : decode cX6_memberOf 33 = .ok (.ireturn, 1) := dk_172 (dk_at dksX6_memberOf_1 9 rfl rfl)
abbrev cX6_event : ByteArray := prog_13_method_26_code
def yX6_event : MethodName := ⟨RX6, "event", "(III)I"⟩
def dkwX6_event_3 : List UInt8 := [180, 0, 169, 4, 96, 181, 0, 169, 42, 180, 0, 169, 172]
abbrev dktX6_event_3 : List UInt8 := dkwX6_event_3 ++ []
def dkwX6_event_2 : List UInt8 := [79, 42, 180, 0, 31, 42, 180, 0, 169, 28, 79, 42, 180, 0, 34, 42, 180, 0, 169, 29, 79, 42, 89]
abbrev dktX6_event_2 : List UInt8 := dkwX6_event_2 ++ dktX6_event_3
def dkwX6_event_1 : List UInt8 := [16, 254, 172, 42, 180, 0, 169, 16, 8, 160, 0, 6, 16, 252, 172, 42, 180, 0, 28, 42, 180, 0, 169, 27]
abbrev dktX6_event_1 : List UInt8 := dkwX6_event_1 ++ dktX6_event_2
def dkwX6_event_0 : List UInt8 := [27, 3, 6, 184, 0, 115, 153, 0, 17, 28, 184, 0, 166, 153, 0, 10, 29, 184, 0, 154, 154, 0, 6]
abbrev dktX6_event_0 : List UInt8 := dkwX6_event_0 ++ dktX6_event_1
theorem dksX6_event_0 : cX6_event.data.toList.drop 0 = dktX6_event_0 := by decide +kernel
theorem dksX6_event_1 : cX6_event.data.toList.drop 23 = dktX6_event_1 := dk_seg dksX6_event_0 23 rfl rfl
theorem dksX6_event_2 : cX6_event.data.toList.drop 47 = dktX6_event_2 := dk_seg dksX6_event_1 24 rfl rfl
theorem dksX6_event_3 : cX6_event.data.toList.drop 70 = dktX6_event_3 := dk_seg dksX6_event_2 23 rfl rfl
theorem dX6_event_0 : decode cX6_event 0 = .ok (.iload_n 1, 1) := dk_27 (dk_at dksX6_event_0 0 rfl rfl)
theorem dX6_event_1 : decode cX6_event 1 = .ok (.iconst 0, 1) := dk_3 (dk_at dksX6_event_0 1 rfl rfl)
theorem dX6_event_2 : decode cX6_event 2 = .ok (.iconst 3, 1) := dk_6 (dk_at dksX6_event_0 2 rfl rfl)
theorem dX6_event_3 : decode cX6_event 3 = .ok (.invokestatic 115, 3) := dk_184 0 115 (dk_at dksX6_event_0 3 rfl rfl)
theorem dX6_event_6 : decode cX6_event 6 = .ok (.ifCond .eq 17, 3) := dk_153 0 17 (dk_at dksX6_event_0 6 rfl rfl)
theorem dX6_event_9 : decode cX6_event 9 = .ok (.iload_n 2, 1) := dk_28 (dk_at dksX6_event_0 9 rfl rfl)
theorem dX6_event_10 : decode cX6_event 10 = .ok (.invokestatic 166, 3) := dk_184 0 166 (dk_at dksX6_event_0 10 rfl rfl)
theorem dX6_event_13 : decode cX6_event 13 = .ok (.ifCond .eq 10, 3) := dk_153 0 10 (dk_at dksX6_event_0 13 rfl rfl)
theorem dX6_event_16 : decode cX6_event 16 = .ok (.iload_n 3, 1) := dk_29 (dk_at dksX6_event_0 16 rfl rfl)
theorem dX6_event_17 : decode cX6_event 17 = .ok (.invokestatic 154, 3) := dk_184 0 154 (dk_at dksX6_event_0 17 rfl rfl)
theorem dX6_event_20 : decode cX6_event 20 = .ok (.ifCond .ne 6, 3) := dk_154 0 6 (dk_at dksX6_event_0 20 rfl rfl)
theorem dX6_event_23 : decode cX6_event 23 = .ok (.bipush (-2), 2) := dk_16 254 (dk_at dksX6_event_1 0 rfl rfl)
theorem dX6_event_25 : decode cX6_event 25 = .ok (.ireturn, 1) := dk_172 (dk_at dksX6_event_1 2 rfl rfl)
theorem dX6_event_26 : decode cX6_event 26 = .ok (.aload_n 0, 1) := dk_42 (dk_at dksX6_event_1 3 rfl rfl)
theorem dX6_event_27 : decode cX6_event 27 = .ok (.getfield 169, 3) := dk_180 0 169 (dk_at dksX6_event_1 4 rfl rfl)
theorem dX6_event_30 : decode cX6_event 30 = .ok (.bipush 8, 2) := dk_16 8 (dk_at dksX6_event_1 7 rfl rfl)
theorem dX6_event_32 : decode cX6_event 32 = .ok (.if_icmp .ne 6, 3) := dk_160 0 6 (dk_at dksX6_event_1 9 rfl rfl)
theorem dX6_event_35 : decode cX6_event 35 = .ok (.bipush (-4), 2) := dk_16 252 (dk_at dksX6_event_1 12 rfl rfl)
theorem dX6_event_37 : decode cX6_event 37 = .ok (.ireturn, 1) := dk_172 (dk_at dksX6_event_1 14 rfl rfl)
theorem dX6_event_38 : decode cX6_event 38 = .ok (.aload_n 0, 1) := dk_42 (dk_at dksX6_event_1 15 rfl rfl)
theorem dX6_event_39 : decode cX6_event 39 = .ok (.getfield 28, 3) := dk_180 0 28 (dk_at dksX6_event_1 16 rfl rfl)
theorem dX6_event_42 : decode cX6_event 42 = .ok (.aload_n 0, 1) := dk_42 (dk_at dksX6_event_1 19 rfl rfl)
theorem dX6_event_43 : decode cX6_event 43 = .ok (.getfield 169, 3) := dk_180 0 169 (dk_at dksX6_event_1 20 rfl rfl)
theorem dX6_event_46 : decode cX6_event 46 = .ok (.iload_n 1, 1) := dk_27 (dk_at dksX6_event_1 23 rfl rfl)
theorem dX6_event_47 : decode cX6_event 47 = .ok (.iastore, 1) := dk_79 (dk_at dksX6_event_2 0 rfl rfl)
theorem dX6_event_48 : decode cX6_event 48 = .ok (.aload_n 0, 1) := dk_42 (dk_at dksX6_event_2 1 rfl rfl)
theorem dX6_event_49 : decode cX6_event 49 = .ok (.getfield 31, 3) := dk_180 0 31 (dk_at dksX6_event_2 2 rfl rfl)
theorem dX6_event_52 : decode cX6_event 52 = .ok (.aload_n 0, 1) := dk_42 (dk_at dksX6_event_2 5 rfl rfl)
theorem dX6_event_53 : decode cX6_event 53 = .ok (.getfield 169, 3) := dk_180 0 169 (dk_at dksX6_event_2 6 rfl rfl)
theorem dX6_event_56 : decode cX6_event 56 = .ok (.iload_n 2, 1) := dk_28 (dk_at dksX6_event_2 9 rfl rfl)
theorem dX6_event_57 : decode cX6_event 57 = .ok (.iastore, 1) := dk_79 (dk_at dksX6_event_2 10 rfl rfl)
theorem dX6_event_58 : decode cX6_event 58 = .ok (.aload_n 0, 1) := dk_42 (dk_at dksX6_event_2 11 rfl rfl)
theorem dX6_event_59 : decode cX6_event 59 = .ok (.getfield 34, 3) := dk_180 0 34 (dk_at dksX6_event_2 12 rfl rfl)
theorem dX6_event_62 : decode cX6_event 62 = .ok (.aload_n 0, 1) := dk_42 (dk_at dksX6_event_2 15 rfl rfl)
theorem dX6_event_63 : decode cX6_event 63 = .ok (.getfield 169, 3) := dk_180 0 169 (dk_at dksX6_event_2 16 rfl rfl)
theorem dX6_event_66 : decode cX6_event 66 = .ok (.iload_n 3, 1) := dk_29 (dk_at dksX6_event_2 19 rfl rfl)
theorem dX6_event_67 : decode cX6_event 67 = .ok (.iastore, 1) := dk_79 (dk_at dksX6_event_2 20 rfl rfl)
theorem dX6_event_68 : decode cX6_event 68 = .ok (.aload_n 0, 1) := dk_42 (dk_at dksX6_event_2 21 rfl rfl)
theorem dX6_event_69 : decode cX6_event 69 = .ok (.dup, 1) := dk_89 (dk_at dksX6_event_2 22 rfl rfl)
theorem dX6_event_70 : decode cX6_event 70 = .ok (.getfield 169, 3) := dk_180 0 169 (dk_at dksX6_event_3 0 rfl rfl)
theorem dX6_event_73 : decode cX6_event 73 = .ok (.iconst 1, 1) := dk_4 (dk_at dksX6_event_3 3 rfl rfl)
theorem dX6_event_74 : decode cX6_event 74 = .ok (.iadd, 1) := dk_96 (dk_at dksX6_event_3 4 rfl rfl)
theorem dX6_event_75 : decode cX6_event 75 = .ok (.putfield 169, 3) := dk_181 0 169 (dk_at dksX6_event_3 5 rfl rfl)
theorem dX6_event_78 : decode cX6_event 78 = .ok (.aload_n 0, 1) := dk_42 (dk_at dksX6_event_3 8 rfl rfl)
theorem dX6_event_79 : decode cX6_event 79 = .ok (.getfield 169, 3) := dk_180 0 169 (dk_at dksX6_event_3 9 rfl rfl)
theorem dX6_event_82 : decode cX6_event 82 = .ok (.ireturn, 1) := dk_172 (dk_at dksX6_event_3 12 rfl rfl)
abbrev cX6_isHour : ByteArray := prog_13_method_8_code
def yX6_isHour : MethodName := ⟨RX6, "isHour", "(I)Z"⟩
def dkwX6_isHour_0 : List UInt8 := [26, 3, 16, 19, 184, 0, 115, 172]
abbrev dktX6_isHour_0 : List UInt8 := dkwX6_isHour_0 ++ []
theorem dksX6_isHour_0 : cX6_isHour.data.toList.drop 0 = dktX6_isHour_0 := by decide +kernel
theorem dX6_isHour_0 : decode cX6_isHour 0 = .ok (.iload_n 0, 1) := dk_26 (dk_at dksX6_isHour_0 0 rfl rfl)
theorem dX6_isHour_1 : decode cX6_isHour 1 = .ok (.iconst 0, 1) := dk_3 (dk_at dksX6_isHour_0 1 rfl rfl)
theorem dX6_isHour_2 : decode cX6_isHour 2 = .ok (.bipush 19, 2) := dk_16 19 (dk_at dksX6_isHour_0 2 rfl rfl)
theorem dX6_isHour_4 : decode cX6_isHour 4 = .ok (.invokestatic 115, 3) := dk_184 0 115 (dk_at dksX6_isHour_0 4 rfl rfl)
theorem dX6_isHour_7 : decode cX6_isHour 7 = .ok (.ireturn, 1) := dk_172 (dk_at dksX6_isHour_0 7 rfl rfl)
abbrev cX6_back : ByteArray := prog_13_method_27_code
def yX6_back : MethodName := ⟨RX6, "back", "()I"⟩
def dkwX6_back_1 : List UInt8 := [172]
abbrev dktX6_back_1 : List UInt8 := dkwX6_back_1 ++ []
def dkwX6_back_0 : List UInt8 := [42, 180, 0, 169, 154, 0, 6, 16, 253, 172, 42, 89, 180, 0, 169, 4, 100, 181, 0, 169, 42, 180, 0, 169]
abbrev dktX6_back_0 : List UInt8 := dkwX6_back_0 ++ dktX6_back_1
theorem dksX6_back_0 : cX6_back.data.toList.drop 0 = dktX6_back_0 := by decide +kernel
theorem dksX6_back_1 : cX6_back.data.toList.drop 24 = dktX6_back_1 := dk_seg dksX6_back_0 24 rfl rfl
theorem dX6_back_0 : decode cX6_back 0 = .ok (.aload_n 0, 1) := dk_42 (dk_at dksX6_back_0 0 rfl rfl)
theorem dX6_back_1 : decode cX6_back 1 = .ok (.getfield 169, 3) := dk_180 0 169 (dk_at dksX6_back_0 1 rfl rfl)
theorem dX6_back_4 : decode cX6_back 4 = .ok (.ifCond .ne 6, 3) := dk_154 0 6 (dk_at dksX6_back_0 4 rfl rfl)
theorem dX6_back_7 : decode cX6_back 7 = .ok (.bipush (-3), 2) := dk_16 253 (dk_at dksX6_back_0 7 rfl rfl)
theorem dX6_back_9 : decode cX6_back 9 = .ok (.ireturn, 1) := dk_172 (dk_at dksX6_back_0 9 rfl rfl)
theorem dX6_back_10 : decode cX6_back 10 = .ok (.aload_n 0, 1) := dk_42 (dk_at dksX6_back_0 10 rfl rfl)
theorem dX6_back_11 : decode cX6_back 11 = .ok (.dup, 1) := dk_89 (dk_at dksX6_back_0 11 rfl rfl)
theorem dX6_back_12 : decode cX6_back 12 = .ok (.getfield 169, 3) := dk_180 0 169 (dk_at dksX6_back_0 12 rfl rfl)
theorem dX6_back_15 : decode cX6_back 15 = .ok (.iconst 1, 1) := dk_4 (dk_at dksX6_back_0 15 rfl rfl)
theorem dX6_back_16 : decode cX6_back 16 = .ok (.isub, 1) := dk_100 (dk_at dksX6_back_0 16 rfl rfl)
theorem dX6_back_17 : decode cX6_back 17 = .ok (.putfield 169, 3) := dk_181 0 169 (dk_at dksX6_back_0 17 rfl rfl)
theorem dX6_back_20 : decode cX6_back 20 = .ok (.aload_n 0, 1) := dk_42 (dk_at dksX6_back_0 20 rfl rfl)
theorem dX6_back_21 : decode cX6_back 21 = .ok (.getfield 169, 3) := dk_180 0 169 (dk_at dksX6_back_0 21 rfl rfl)
theorem dX6_back_24 : decode cX6_back 24 = .ok (.ireturn, 1) := dk_172 (dk_at dksX6_back_1 0 rfl rfl)
abbrev cX6_read : ByteArray := prog_13_method_28_code
def yX6_read : MethodName := ⟨RX6, "read", "(I)I"⟩
def dkwX6_read_4 : List UInt8 := [172]
abbrev dktX6_read_4 : List UInt8 := dkwX6_read_4 ++ []
def dkwX6_read_3 : List UInt8 := [180, 0, 107, 29, 6, 28, 104, 96, 5, 96, 46, 182, 0, 178, 158, 0, 9, 132, 2, 1, 167, 255, 198, 28]
abbrev dktX6_read_3 : List UInt8 := dkwX6_read_3 ++ dktX6_read_4
def dkwX6_read_2 : List UInt8 := [180, 0, 107, 29, 6, 28, 104, 96, 46, 42, 180, 0, 107, 29, 6, 28, 104, 96, 4, 96, 46, 42]
abbrev dktX6_read_2 : List UInt8 := dkwX6_read_2 ++ dktX6_read_3
def dkwX6_read_1 : List UInt8 := [172, 3, 61, 16, 60, 27, 104, 62, 6, 28, 104, 5, 96, 42, 180, 0, 104, 27, 46, 162, 0, 50, 42, 42]
abbrev dktX6_read_1 : List UInt8 := dkwX6_read_1 ++ dktX6_read_2
def dkwX6_read_0 : List UInt8 := [27, 184, 0, 172, 154, 0, 6, 16, 254, 172, 42, 180, 0, 97, 27, 51, 154, 0, 9, 42, 4, 182, 0, 175]
abbrev dktX6_read_0 : List UInt8 := dkwX6_read_0 ++ dktX6_read_1
theorem dksX6_read_0 : cX6_read.data.toList.drop 0 = dktX6_read_0 := by decide +kernel
theorem dksX6_read_1 : cX6_read.data.toList.drop 24 = dktX6_read_1 := dk_seg dksX6_read_0 24 rfl rfl
theorem dksX6_read_2 : cX6_read.data.toList.drop 48 = dktX6_read_2 := dk_seg dksX6_read_1 24 rfl rfl
theorem dksX6_read_3 : cX6_read.data.toList.drop 70 = dktX6_read_3 := dk_seg dksX6_read_2 22 rfl rfl
theorem dksX6_read_4 : cX6_read.data.toList.drop 94 = dktX6_read_4 := dk_seg dksX6_read_3 24 rfl rfl
theorem dX6_read_0 : decode cX6_read 0 = .ok (.iload_n 1, 1) := dk_27 (dk_at dksX6_read_0 0 rfl rfl)
theorem dX6_read_1 : decode cX6_read 1 = .ok (.invokestatic 172, 3) := dk_184 0 172 (dk_at dksX6_read_0 1 rfl rfl)
theorem dX6_read_4 : decode cX6_read 4 = .ok (.ifCond .ne 6, 3) := dk_154 0 6 (dk_at dksX6_read_0 4 rfl rfl)
theorem dX6_read_7 : decode cX6_read 7 = .ok (.bipush (-2), 2) := dk_16 254 (dk_at dksX6_read_0 7 rfl rfl)
theorem dX6_read_9 : decode cX6_read 9 = .ok (.ireturn, 1) := dk_172 (dk_at dksX6_read_0 9 rfl rfl)
theorem dX6_read_10 : decode cX6_read 10 = .ok (.aload_n 0, 1) := dk_42 (dk_at dksX6_read_0 10 rfl rfl)
theorem dX6_read_11 : decode cX6_read 11 = .ok (.getfield 97, 3) := dk_180 0 97 (dk_at dksX6_read_0 11 rfl rfl)
theorem dX6_read_14 : decode cX6_read 14 = .ok (.iload_n 1, 1) := dk_27 (dk_at dksX6_read_0 14 rfl rfl)
theorem dX6_read_15 : decode cX6_read 15 = .ok (.baload, 1) := dk_51 (dk_at dksX6_read_0 15 rfl rfl)
theorem dX6_read_16 : decode cX6_read 16 = .ok (.ifCond .ne 9, 3) := dk_154 0 9 (dk_at dksX6_read_0 16 rfl rfl)
theorem dX6_read_19 : decode cX6_read 19 = .ok (.aload_n 0, 1) := dk_42 (dk_at dksX6_read_0 19 rfl rfl)
theorem dX6_read_20 : decode cX6_read 20 = .ok (.iconst 1, 1) := dk_4 (dk_at dksX6_read_0 20 rfl rfl)
theorem dX6_read_21 : decode cX6_read 21 = .ok (.invokevirtual 175, 3) := dk_182 0 175 (dk_at dksX6_read_0 21 rfl rfl)
theorem dX6_read_24 : decode cX6_read 24 = .ok (.ireturn, 1) := dk_172 (dk_at dksX6_read_1 0 rfl rfl)
theorem dX6_read_25 : decode cX6_read 25 = .ok (.iconst 0, 1) := dk_3 (dk_at dksX6_read_1 1 rfl rfl)
theorem dX6_read_26 : decode cX6_read 26 = .ok (.istore_n 2, 1) := dk_61 (dk_at dksX6_read_1 2 rfl rfl)
theorem dX6_read_27 : decode cX6_read 27 = .ok (.bipush 60, 2) := dk_16 60 (dk_at dksX6_read_1 3 rfl rfl)
theorem dX6_read_29 : decode cX6_read 29 = .ok (.iload_n 1, 1) := dk_27 (dk_at dksX6_read_1 5 rfl rfl)
theorem dX6_read_30 : decode cX6_read 30 = .ok (.imul, 1) := dk_104 (dk_at dksX6_read_1 6 rfl rfl)
theorem dX6_read_31 : decode cX6_read 31 = .ok (.istore_n 3, 1) := dk_62 (dk_at dksX6_read_1 7 rfl rfl)
theorem dX6_read_32 : decode cX6_read 32 = .ok (.iconst 3, 1) := dk_6 (dk_at dksX6_read_1 8 rfl rfl)
theorem dX6_read_33 : decode cX6_read 33 = .ok (.iload_n 2, 1) := dk_28 (dk_at dksX6_read_1 9 rfl rfl)
theorem dX6_read_34 : decode cX6_read 34 = .ok (.imul, 1) := dk_104 (dk_at dksX6_read_1 10 rfl rfl)
theorem dX6_read_35 : decode cX6_read 35 = .ok (.iconst 2, 1) := dk_5 (dk_at dksX6_read_1 11 rfl rfl)
theorem dX6_read_36 : decode cX6_read 36 = .ok (.iadd, 1) := dk_96 (dk_at dksX6_read_1 12 rfl rfl)
theorem dX6_read_37 : decode cX6_read 37 = .ok (.aload_n 0, 1) := dk_42 (dk_at dksX6_read_1 13 rfl rfl)
theorem dX6_read_38 : decode cX6_read 38 = .ok (.getfield 104, 3) := dk_180 0 104 (dk_at dksX6_read_1 14 rfl rfl)
theorem dX6_read_41 : decode cX6_read 41 = .ok (.iload_n 1, 1) := dk_27 (dk_at dksX6_read_1 17 rfl rfl)
theorem dX6_read_42 : decode cX6_read 42 = .ok (.iaload, 1) := dk_46 (dk_at dksX6_read_1 18 rfl rfl)
theorem dX6_read_43 : decode cX6_read 43 = .ok (.if_icmp .ge 50, 3) := dk_162 0 50 (dk_at dksX6_read_1 19 rfl rfl)
theorem dX6_read_46 : decode cX6_read 46 = .ok (.aload_n 0, 1) := dk_42 (dk_at dksX6_read_1 22 rfl rfl)
theorem dX6_read_47 : decode cX6_read 47 = .ok (.aload_n 0, 1) := dk_42 (dk_at dksX6_read_1 23 rfl rfl)
theorem dX6_read_48 : decode cX6_read 48 = .ok (.getfield 107, 3) := dk_180 0 107 (dk_at dksX6_read_2 0 rfl rfl)
theorem dX6_read_51 : decode cX6_read 51 = .ok (.iload_n 3, 1) := dk_29 (dk_at dksX6_read_2 3 rfl rfl)
theorem dX6_read_52 : decode cX6_read 52 = .ok (.iconst 3, 1) := dk_6 (dk_at dksX6_read_2 4 rfl rfl)
theorem dX6_read_53 : decode cX6_read 53 = .ok (.iload_n 2, 1) := dk_28 (dk_at dksX6_read_2 5 rfl rfl)
theorem dX6_read_54 : decode cX6_read 54 = .ok (.imul, 1) := dk_104 (dk_at dksX6_read_2 6 rfl rfl)
theorem dX6_read_55 : decode cX6_read 55 = .ok (.iadd, 1) := dk_96 (dk_at dksX6_read_2 7 rfl rfl)
theorem dX6_read_56 : decode cX6_read 56 = .ok (.iaload, 1) := dk_46 (dk_at dksX6_read_2 8 rfl rfl)
theorem dX6_read_57 : decode cX6_read 57 = .ok (.aload_n 0, 1) := dk_42 (dk_at dksX6_read_2 9 rfl rfl)
theorem dX6_read_58 : decode cX6_read 58 = .ok (.getfield 107, 3) := dk_180 0 107 (dk_at dksX6_read_2 10 rfl rfl)
theorem dX6_read_61 : decode cX6_read 61 = .ok (.iload_n 3, 1) := dk_29 (dk_at dksX6_read_2 13 rfl rfl)
theorem dX6_read_62 : decode cX6_read 62 = .ok (.iconst 3, 1) := dk_6 (dk_at dksX6_read_2 14 rfl rfl)
theorem dX6_read_63 : decode cX6_read 63 = .ok (.iload_n 2, 1) := dk_28 (dk_at dksX6_read_2 15 rfl rfl)
theorem dX6_read_64 : decode cX6_read 64 = .ok (.imul, 1) := dk_104 (dk_at dksX6_read_2 16 rfl rfl)
theorem dX6_read_65 : decode cX6_read 65 = .ok (.iadd, 1) := dk_96 (dk_at dksX6_read_2 17 rfl rfl)
theorem dX6_read_66 : decode cX6_read 66 = .ok (.iconst 1, 1) := dk_4 (dk_at dksX6_read_2 18 rfl rfl)
theorem dX6_read_67 : decode cX6_read 67 = .ok (.iadd, 1) := dk_96 (dk_at dksX6_read_2 19 rfl rfl)
theorem dX6_read_68 : decode cX6_read 68 = .ok (.iaload, 1) := dk_46 (dk_at dksX6_read_2 20 rfl rfl)
theorem dX6_read_69 : decode cX6_read 69 = .ok (.aload_n 0, 1) := dk_42 (dk_at dksX6_read_2 21 rfl rfl)
theorem dX6_read_70 : decode cX6_read 70 = .ok (.getfield 107, 3) := dk_180 0 107 (dk_at dksX6_read_3 0 rfl rfl)
theorem dX6_read_73 : decode cX6_read 73 = .ok (.iload_n 3, 1) := dk_29 (dk_at dksX6_read_3 3 rfl rfl)
theorem dX6_read_74 : decode cX6_read 74 = .ok (.iconst 3, 1) := dk_6 (dk_at dksX6_read_3 4 rfl rfl)
theorem dX6_read_75 : decode cX6_read 75 = .ok (.iload_n 2, 1) := dk_28 (dk_at dksX6_read_3 5 rfl rfl)
theorem dX6_read_76 : decode cX6_read 76 = .ok (.imul, 1) := dk_104 (dk_at dksX6_read_3 6 rfl rfl)
theorem dX6_read_77 : decode cX6_read 77 = .ok (.iadd, 1) := dk_96 (dk_at dksX6_read_3 7 rfl rfl)
theorem dX6_read_78 : decode cX6_read 78 = .ok (.iconst 2, 1) := dk_5 (dk_at dksX6_read_3 8 rfl rfl)
theorem dX6_read_79 : decode cX6_read 79 = .ok (.iadd, 1) := dk_96 (dk_at dksX6_read_3 9 rfl rfl)
theorem dX6_read_80 : decode cX6_read 80 = .ok (.iaload, 1) := dk_46 (dk_at dksX6_read_3 10 rfl rfl)
theorem dX6_read_81 : decode cX6_read 81 = .ok (.invokevirtual 178, 3) := dk_182 0 178 (dk_at dksX6_read_3 11 rfl rfl)
theorem dX6_read_84 : decode cX6_read 84 = .ok (.ifCond .le 9, 3) := dk_158 0 9 (dk_at dksX6_read_3 14 rfl rfl)
theorem dX6_read_87 : decode cX6_read 87 = .ok (.iinc 2 1, 3) := dk_132 2 1 (dk_at dksX6_read_3 17 rfl rfl)
theorem dX6_read_90 : decode cX6_read 90 = .ok (.goto (-58), 3) := dk_167 255 198 (dk_at dksX6_read_3 20 rfl rfl)
theorem dX6_read_93 : decode cX6_read 93 = .ok (.iload_n 2, 1) := dk_28 (dk_at dksX6_read_3 23 rfl rfl)
theorem dX6_read_94 : decode cX6_read 94 = .ok (.ireturn, 1) := dk_172 (dk_at dksX6_read_4 0 rfl rfl)
abbrev cX6_isSheet : ByteArray := prog_13_method_90_code
def yX6_isSheet : MethodName := ⟨RX6, "isSheet", "(I)Z"⟩
def dkwX6_isSheet_0 : List UInt8 := [26, 3, 6, 184, 0, 115, 172]
abbrev dktX6_isSheet_0 : List UInt8 := dkwX6_isSheet_0 ++ []
theorem dksX6_isSheet_0 : cX6_isSheet.data.toList.drop 0 = dktX6_isSheet_0 := by decide +kernel
theorem dX6_isSheet_0 : decode cX6_isSheet 0 = .ok (.iload_n 0, 1) := dk_26 (dk_at dksX6_isSheet_0 0 rfl rfl)
theorem dX6_isSheet_1 : decode cX6_isSheet 1 = .ok (.iconst 0, 1) := dk_3 (dk_at dksX6_isSheet_0 1 rfl rfl)
theorem dX6_isSheet_2 : decode cX6_isSheet 2 = .ok (.iconst 3, 1) := dk_6 (dk_at dksX6_isSheet_0 2 rfl rfl)
theorem dX6_isSheet_3 : decode cX6_isSheet 3 = .ok (.invokestatic 115, 3) := dk_184 0 115 (dk_at dksX6_isSheet_0 3 rfl rfl)
theorem dX6_isSheet_6 : decode cX6_isSheet 6 = .ok (.ireturn, 1) := dk_172 (dk_at dksX6_isSheet_0 6 rfl rfl)
abbrev cX6_meets : ByteArray := prog_13_method_89_code
def yX6_meets : MethodName := ⟨RX6, "meets", "(I)I"⟩
def dkwX6_meets_0 : List UInt8 := [42, 27, 181, 1, 76, 16, 246, 27, 100, 172]
abbrev dktX6_meets_0 : List UInt8 := dkwX6_meets_0 ++ []
theorem dksX6_meets_0 : cX6_meets.data.toList.drop 0 = dktX6_meets_0 := by decide +kernel
theorem dX6_meets_0 : decode cX6_meets 0 = .ok (.aload_n 0, 1) := dk_42 (dk_at dksX6_meets_0 0 rfl rfl)
theorem dX6_meets_1 : decode cX6_meets 1 = .ok (.iload_n 1, 1) := dk_27 (dk_at dksX6_meets_0 1 rfl rfl)
theorem dX6_meets_2 : decode cX6_meets 2 = .ok (.putfield 332, 3) := dk_181 1 76 (dk_at dksX6_meets_0 2 rfl rfl)
theorem dX6_meets_5 : decode cX6_meets 5 = .ok (.bipush (-10), 2) := dk_16 246 (dk_at dksX6_meets_0 5 rfl rfl)
theorem dX6_meets_7 : decode cX6_meets 7 = .ok (.iload_n 1, 1) := dk_27 (dk_at dksX6_meets_0 7 rfl rfl)
theorem dX6_meets_8 : decode cX6_meets 8 = .ok (.isub, 1) := dk_100 (dk_at dksX6_meets_0 8 rfl rfl)
theorem dX6_meets_9 : decode cX6_meets 9 = .ok (.ireturn, 1) := dk_172 (dk_at dksX6_meets_0 9 rfl rfl)
abbrev cX6_damp : ByteArray := prog_13_method_45_code
def yX6_damp : MethodName := ⟨RX6, "damp", "(III)I"⟩
def dkwX6_damp_1 : List UInt8 := [27, 28, 29, 182, 0, 242, 167, 0, 5, 16, 254, 172]
abbrev dktX6_damp_1 : List UInt8 := dkwX6_damp_1 ++ []
def dkwX6_damp_0 : List UInt8 := [27, 184, 0, 166, 153, 0, 29, 28, 184, 0, 154, 153, 0, 22, 29, 3, 4, 184, 0, 115, 153, 0, 13, 42]
abbrev dktX6_damp_0 : List UInt8 := dkwX6_damp_0 ++ dktX6_damp_1
theorem dksX6_damp_0 : cX6_damp.data.toList.drop 0 = dktX6_damp_0 := by decide +kernel
theorem dksX6_damp_1 : cX6_damp.data.toList.drop 24 = dktX6_damp_1 := dk_seg dksX6_damp_0 24 rfl rfl
theorem dX6_damp_0 : decode cX6_damp 0 = .ok (.iload_n 1, 1) := dk_27 (dk_at dksX6_damp_0 0 rfl rfl)
theorem dX6_damp_1 : decode cX6_damp 1 = .ok (.invokestatic 166, 3) := dk_184 0 166 (dk_at dksX6_damp_0 1 rfl rfl)
theorem dX6_damp_4 : decode cX6_damp 4 = .ok (.ifCond .eq 29, 3) := dk_153 0 29 (dk_at dksX6_damp_0 4 rfl rfl)
theorem dX6_damp_7 : decode cX6_damp 7 = .ok (.iload_n 2, 1) := dk_28 (dk_at dksX6_damp_0 7 rfl rfl)
theorem dX6_damp_8 : decode cX6_damp 8 = .ok (.invokestatic 154, 3) := dk_184 0 154 (dk_at dksX6_damp_0 8 rfl rfl)
theorem dX6_damp_11 : decode cX6_damp 11 = .ok (.ifCond .eq 22, 3) := dk_153 0 22 (dk_at dksX6_damp_0 11 rfl rfl)
theorem dX6_damp_14 : decode cX6_damp 14 = .ok (.iload_n 3, 1) := dk_29 (dk_at dksX6_damp_0 14 rfl rfl)
theorem dX6_damp_15 : decode cX6_damp 15 = .ok (.iconst 0, 1) := dk_3 (dk_at dksX6_damp_0 15 rfl rfl)
theorem dX6_damp_16 : decode cX6_damp 16 = .ok (.iconst 1, 1) := dk_4 (dk_at dksX6_damp_0 16 rfl rfl)
theorem dX6_damp_17 : decode cX6_damp 17 = .ok (.invokestatic 115, 3) := dk_184 0 115 (dk_at dksX6_damp_0 17 rfl rfl)
theorem dX6_damp_20 : decode cX6_damp 20 = .ok (.ifCond .eq 13, 3) := dk_153 0 13 (dk_at dksX6_damp_0 20 rfl rfl)
theorem dX6_damp_23 : decode cX6_damp 23 = .ok (.aload_n 0, 1) := dk_42 (dk_at dksX6_damp_0 23 rfl rfl)
theorem dX6_damp_24 : decode cX6_damp 24 = .ok (.iload_n 1, 1) := dk_27 (dk_at dksX6_damp_1 0 rfl rfl)
theorem dX6_damp_25 : decode cX6_damp 25 = .ok (.iload_n 2, 1) := dk_28 (dk_at dksX6_damp_1 1 rfl rfl)
theorem dX6_damp_26 : decode cX6_damp 26 = .ok (.iload_n 3, 1) := dk_29 (dk_at dksX6_damp_1 2 rfl rfl)
theorem dX6_damp_27 : decode cX6_damp 27 = .ok (.invokevirtual 242, 3) := dk_182 0 242 (dk_at dksX6_damp_1 3 rfl rfl)
theorem dX6_damp_30 : decode cX6_damp 30 = .ok (.goto 5, 3) := dk_167 0 5 (dk_at dksX6_damp_1 6 rfl rfl)
theorem dX6_damp_33 : decode cX6_damp 33 = .ok (.bipush (-2), 2) := dk_16 254 (dk_at dksX6_damp_1 9 rfl rfl)
theorem dX6_damp_35 : decode cX6_damp 35 = .ok (.ireturn, 1) := dk_172 (dk_at dksX6_damp_1 11 rfl rfl)
abbrev cX6_dampOf : ByteArray := prog_13_method_44_code
def yX6_dampOf : MethodName := ⟨RX6, "dampOf", "(III)I"⟩
def dkwX6_dampOf_1 : List UInt8 := [28, 182, 0, 224, 172]
abbrev dktX6_dampOf_1 : List UInt8 := dkwX6_dampOf_1 ++ []
def dkwX6_dampOf_0 : List UInt8 := [42, 182, 0, 239, 29, 154, 0, 17, 42, 180, 0, 61, 16, 12, 27, 104, 28, 96, 46, 167, 0, 9, 42, 27]
abbrev dktX6_dampOf_0 : List UInt8 := dkwX6_dampOf_0 ++ dktX6_dampOf_1
theorem dksX6_dampOf_0 : cX6_dampOf.data.toList.drop 0 = dktX6_dampOf_0 := by decide +kernel
theorem dksX6_dampOf_1 : cX6_dampOf.data.toList.drop 24 = dktX6_dampOf_1 := dk_seg dksX6_dampOf_0 24 rfl rfl
theorem dX6_dampOf_0 : decode cX6_dampOf 0 = .ok (.aload_n 0, 1) := dk_42 (dk_at dksX6_dampOf_0 0 rfl rfl)
theorem dX6_dampOf_1 : decode cX6_dampOf 1 = .ok (.invokevirtual 239, 3) := dk_182 0 239 (dk_at dksX6_dampOf_0 1 rfl rfl)
theorem dX6_dampOf_4 : decode cX6_dampOf 4 = .ok (.iload_n 3, 1) := dk_29 (dk_at dksX6_dampOf_0 4 rfl rfl)
theorem dX6_dampOf_5 : decode cX6_dampOf 5 = .ok (.ifCond .ne 17, 3) := dk_154 0 17 (dk_at dksX6_dampOf_0 5 rfl rfl)
theorem dX6_dampOf_8 : decode cX6_dampOf 8 = .ok (.aload_n 0, 1) := dk_42 (dk_at dksX6_dampOf_0 8 rfl rfl)
theorem dX6_dampOf_9 : decode cX6_dampOf 9 = .ok (.getfield 61, 3) := dk_180 0 61 (dk_at dksX6_dampOf_0 9 rfl rfl)
theorem dX6_dampOf_12 : decode cX6_dampOf 12 = .ok (.bipush 12, 2) := dk_16 12 (dk_at dksX6_dampOf_0 12 rfl rfl)
theorem dX6_dampOf_14 : decode cX6_dampOf 14 = .ok (.iload_n 1, 1) := dk_27 (dk_at dksX6_dampOf_0 14 rfl rfl)
theorem dX6_dampOf_15 : decode cX6_dampOf 15 = .ok (.imul, 1) := dk_104 (dk_at dksX6_dampOf_0 15 rfl rfl)
theorem dX6_dampOf_16 : decode cX6_dampOf 16 = .ok (.iload_n 2, 1) := dk_28 (dk_at dksX6_dampOf_0 16 rfl rfl)
theorem dX6_dampOf_17 : decode cX6_dampOf 17 = .ok (.iadd, 1) := dk_96 (dk_at dksX6_dampOf_0 17 rfl rfl)
theorem dX6_dampOf_18 : decode cX6_dampOf 18 = .ok (.iaload, 1) := dk_46 (dk_at dksX6_dampOf_0 18 rfl rfl)
theorem dX6_dampOf_19 : decode cX6_dampOf 19 = .ok (.goto 9, 3) := dk_167 0 9 (dk_at dksX6_dampOf_0 19 rfl rfl)
theorem dX6_dampOf_22 : decode cX6_dampOf 22 = .ok (.aload_n 0, 1) := dk_42 (dk_at dksX6_dampOf_0 22 rfl rfl)
theorem dX6_dampOf_23 : decode cX6_dampOf 23 = .ok (.iload_n 1, 1) := dk_27 (dk_at dksX6_dampOf_0 23 rfl rfl)
theorem dX6_dampOf_24 : decode cX6_dampOf 24 = .ok (.iload_n 2, 1) := dk_28 (dk_at dksX6_dampOf_1 0 rfl rfl)
theorem dX6_dampOf_25 : decode cX6_dampOf 25 = .ok (.invokevirtual 224, 3) := dk_182 0 224 (dk_at dksX6_dampOf_1 1 rfl rfl)
theorem dX6_dampOf_28 : decode cX6_dampOf 28 = .ok (.ireturn, 1) := dk_172 (dk_at dksX6_dampOf_1 4 rfl rfl)
abbrev cX6_runsTold : ByteArray := prog_13_method_43_code
def yX6_runsTold : MethodName := ⟨RX6, "runsTold", "()V"⟩
def dkwX6_runsTold_0 : List UInt8 := [42, 182, 0, 233, 42, 182, 0, 236, 177]
abbrev dktX6_runsTold_0 : List UInt8 := dkwX6_runsTold_0 ++ []
theorem dksX6_runsTold_0 : cX6_runsTold.data.toList.drop 0 = dktX6_runsTold_0 := by decide +kernel
theorem dX6_runsTold_0 : decode cX6_runsTold 0 = .ok (.aload_n 0, 1) := dk_42 (dk_at dksX6_runsTold_0 0 rfl rfl)
theorem dX6_runsTold_1 : decode cX6_runsTold 1 = .ok (.invokevirtual 233, 3) := dk_182 0 233 (dk_at dksX6_runsTold_0 1 rfl rfl)
theorem dX6_runsTold_4 : decode cX6_runsTold 4 = .ok (.aload_n 0, 1) := dk_42 (dk_at dksX6_runsTold_0 4 rfl rfl)
theorem dX6_runsTold_5 : decode cX6_runsTold 5 = .ok (.invokevirtual 236, 3) := dk_182 0 236 (dk_at dksX6_runsTold_0 5 rfl rfl)
theorem dX6_runsTold_8 : decode cX6_runsTold 8 = .ok (.return_, 1) := dk_177 (dk_at dksX6_runsTold_0 8 rfl rfl)
abbrev cX6_asTold : ByteArray := prog_13_method_29_code
def yX6_asTold : MethodName := ⟨RX6, "asTold", "()V"⟩
def dkwX6_asTold_2 : List UInt8 := [180, 0, 43, 27, 42, 180, 0, 34, 27, 46, 79, 132, 1, 1, 167, 255, 209, 42, 3, 181, 0, 185, 177]
abbrev dktX6_asTold_2 : List UInt8 := dkwX6_asTold_2 ++ []
def dkwX6_asTold_1 : List UInt8 := [180, 0, 37, 27, 42, 180, 0, 28, 27, 46, 79, 42, 180, 0, 40, 27, 42, 180, 0, 31, 27, 46, 79, 42]
abbrev dktX6_asTold_1 : List UInt8 := dkwX6_asTold_1 ++ dktX6_asTold_2
def dkwX6_asTold_0 : List UInt8 := [42, 182, 0, 151, 42, 42, 180, 0, 169, 181, 0, 182, 3, 60, 27, 42, 180, 0, 169, 162, 0, 45, 42]
abbrev dktX6_asTold_0 : List UInt8 := dkwX6_asTold_0 ++ dktX6_asTold_1
theorem dksX6_asTold_0 : cX6_asTold.data.toList.drop 0 = dktX6_asTold_0 := by decide +kernel
theorem dksX6_asTold_1 : cX6_asTold.data.toList.drop 23 = dktX6_asTold_1 := dk_seg dksX6_asTold_0 23 rfl rfl
theorem dksX6_asTold_2 : cX6_asTold.data.toList.drop 47 = dktX6_asTold_2 := dk_seg dksX6_asTold_1 24 rfl rfl
theorem dX6_asTold_0 : decode cX6_asTold 0 = .ok (.aload_n 0, 1) := dk_42 (dk_at dksX6_asTold_0 0 rfl rfl)
theorem dX6_asTold_1 : decode cX6_asTold 1 = .ok (.invokevirtual 151, 3) := dk_182 0 151 (dk_at dksX6_asTold_0 1 rfl rfl)
theorem dX6_asTold_4 : decode cX6_asTold 4 = .ok (.aload_n 0, 1) := dk_42 (dk_at dksX6_asTold_0 4 rfl rfl)
theorem dX6_asTold_5 : decode cX6_asTold 5 = .ok (.aload_n 0, 1) := dk_42 (dk_at dksX6_asTold_0 5 rfl rfl)
theorem dX6_asTold_6 : decode cX6_asTold 6 = .ok (.getfield 169, 3) := dk_180 0 169 (dk_at dksX6_asTold_0 6 rfl rfl)
theorem dX6_asTold_9 : decode cX6_asTold 9 = .ok (.putfield 182, 3) := dk_181 0 182 (dk_at dksX6_asTold_0 9 rfl rfl)
theorem dX6_asTold_12 : decode cX6_asTold 12 = .ok (.iconst 0, 1) := dk_3 (dk_at dksX6_asTold_0 12 rfl rfl)
theorem dX6_asTold_13 : decode cX6_asTold 13 = .ok (.istore_n 1, 1) := dk_60 (dk_at dksX6_asTold_0 13 rfl rfl)
theorem dX6_asTold_14 : decode cX6_asTold 14 = .ok (.iload_n 1, 1) := dk_27 (dk_at dksX6_asTold_0 14 rfl rfl)
theorem dX6_asTold_15 : decode cX6_asTold 15 = .ok (.aload_n 0, 1) := dk_42 (dk_at dksX6_asTold_0 15 rfl rfl)
theorem dX6_asTold_16 : decode cX6_asTold 16 = .ok (.getfield 169, 3) := dk_180 0 169 (dk_at dksX6_asTold_0 16 rfl rfl)
theorem dX6_asTold_19 : decode cX6_asTold 19 = .ok (.if_icmp .ge 45, 3) := dk_162 0 45 (dk_at dksX6_asTold_0 19 rfl rfl)
theorem dX6_asTold_22 : decode cX6_asTold 22 = .ok (.aload_n 0, 1) := dk_42 (dk_at dksX6_asTold_0 22 rfl rfl)
theorem dX6_asTold_23 : decode cX6_asTold 23 = .ok (.getfield 37, 3) := dk_180 0 37 (dk_at dksX6_asTold_1 0 rfl rfl)
theorem dX6_asTold_26 : decode cX6_asTold 26 = .ok (.iload_n 1, 1) := dk_27 (dk_at dksX6_asTold_1 3 rfl rfl)
theorem dX6_asTold_27 : decode cX6_asTold 27 = .ok (.aload_n 0, 1) := dk_42 (dk_at dksX6_asTold_1 4 rfl rfl)
theorem dX6_asTold_28 : decode cX6_asTold 28 = .ok (.getfield 28, 3) := dk_180 0 28 (dk_at dksX6_asTold_1 5 rfl rfl)
theorem dX6_asTold_31 : decode cX6_asTold 31 = .ok (.iload_n 1, 1) := dk_27 (dk_at dksX6_asTold_1 8 rfl rfl)
theorem dX6_asTold_32 : decode cX6_asTold 32 = .ok (.iaload, 1) := dk_46 (dk_at dksX6_asTold_1 9 rfl rfl)
theorem dX6_asTold_33 : decode cX6_asTold 33 = .ok (.iastore, 1) := dk_79 (dk_at dksX6_asTold_1 10 rfl rfl)
theorem dX6_asTold_34 : decode cX6_asTold 34 = .ok (.aload_n 0, 1) := dk_42 (dk_at dksX6_asTold_1 11 rfl rfl)
theorem dX6_asTold_35 : decode cX6_asTold 35 = .ok (.getfield 40, 3) := dk_180 0 40 (dk_at dksX6_asTold_1 12 rfl rfl)
theorem dX6_asTold_38 : decode cX6_asTold 38 = .ok (.iload_n 1, 1) := dk_27 (dk_at dksX6_asTold_1 15 rfl rfl)
theorem dX6_asTold_39 : decode cX6_asTold 39 = .ok (.aload_n 0, 1) := dk_42 (dk_at dksX6_asTold_1 16 rfl rfl)
theorem dX6_asTold_40 : decode cX6_asTold 40 = .ok (.getfield 31, 3) := dk_180 0 31 (dk_at dksX6_asTold_1 17 rfl rfl)
theorem dX6_asTold_43 : decode cX6_asTold 43 = .ok (.iload_n 1, 1) := dk_27 (dk_at dksX6_asTold_1 20 rfl rfl)
theorem dX6_asTold_44 : decode cX6_asTold 44 = .ok (.iaload, 1) := dk_46 (dk_at dksX6_asTold_1 21 rfl rfl)
theorem dX6_asTold_45 : decode cX6_asTold 45 = .ok (.iastore, 1) := dk_79 (dk_at dksX6_asTold_1 22 rfl rfl)
theorem dX6_asTold_46 : decode cX6_asTold 46 = .ok (.aload_n 0, 1) := dk_42 (dk_at dksX6_asTold_1 23 rfl rfl)
theorem dX6_asTold_47 : decode cX6_asTold 47 = .ok (.getfield 43, 3) := dk_180 0 43 (dk_at dksX6_asTold_2 0 rfl rfl)
theorem dX6_asTold_50 : decode cX6_asTold 50 = .ok (.iload_n 1, 1) := dk_27 (dk_at dksX6_asTold_2 3 rfl rfl)
theorem dX6_asTold_51 : decode cX6_asTold 51 = .ok (.aload_n 0, 1) := dk_42 (dk_at dksX6_asTold_2 4 rfl rfl)
theorem dX6_asTold_52 : decode cX6_asTold 52 = .ok (.getfield 34, 3) := dk_180 0 34 (dk_at dksX6_asTold_2 5 rfl rfl)
theorem dX6_asTold_55 : decode cX6_asTold 55 = .ok (.iload_n 1, 1) := dk_27 (dk_at dksX6_asTold_2 8 rfl rfl)
theorem dX6_asTold_56 : decode cX6_asTold 56 = .ok (.iaload, 1) := dk_46 (dk_at dksX6_asTold_2 9 rfl rfl)
theorem dX6_asTold_57 : decode cX6_asTold 57 = .ok (.iastore, 1) := dk_79 (dk_at dksX6_asTold_2 10 rfl rfl)
theorem dX6_asTold_58 : decode cX6_asTold 58 = .ok (.iinc 1 1, 3) := dk_132 1 1 (dk_at dksX6_asTold_2 11 rfl rfl)
theorem dX6_asTold_61 : decode cX6_asTold 61 = .ok (.goto (-47), 3) := dk_167 255 209 (dk_at dksX6_asTold_2 14 rfl rfl)
theorem dX6_asTold_64 : decode cX6_asTold 64 = .ok (.aload_n 0, 1) := dk_42 (dk_at dksX6_asTold_2 17 rfl rfl)
theorem dX6_asTold_65 : decode cX6_asTold 65 = .ok (.iconst 0, 1) := dk_3 (dk_at dksX6_asTold_2 18 rfl rfl)
theorem dX6_asTold_66 : decode cX6_asTold 66 = .ok (.putfield 185, 3) := dk_181 0 185 (dk_at dksX6_asTold_2 19 rfl rfl)
theorem dX6_asTold_69 : decode cX6_asTold 69 = .ok (.return_, 1) := dk_177 (dk_at dksX6_asTold_2 22 rfl rfl)
abbrev cX6_runs : ByteArray := prog_13_method_42_code
def yX6_runs : MethodName := ⟨RX6, "runs", "()V"⟩
def dkwX6_runs_4 : List UInt8 := [182, 0, 230, 132, 1, 1, 167, 255, 242, 177]
abbrev dktX6_runs_4 : List UInt8 := dkwX6_runs_4 ++ []
def dkwX6_runs_3 : List UInt8 := [27, 3, 79, 132, 1, 1, 167, 255, 207, 42, 3, 181, 0, 205, 3, 60, 27, 16, 20, 162, 0, 14, 42, 27]
abbrev dktX6_runs_3 : List UInt8 := dkwX6_runs_3 ++ dktX6_runs_4
def dkwX6_runs_2 : List UInt8 := [79, 42, 180, 0, 52, 27, 42, 180, 0, 25, 27, 46, 79, 42, 180, 0, 55, 27, 3, 79, 42, 180, 0, 58]
abbrev dktX6_runs_2 : List UInt8 := dkwX6_runs_2 ++ dktX6_runs_3
def dkwX6_runs_1 : List UInt8 := [167, 255, 235, 3, 60, 27, 42, 180, 0, 134, 162, 0, 47, 42, 180, 0, 49, 27, 42, 180, 0, 22, 27, 46]
abbrev dktX6_runs_1 : List UInt8 := dkwX6_runs_1 ++ dktX6_runs_2
def dkwX6_runs_0 : List UInt8 := [3, 60, 27, 16, 12, 162, 0, 21, 42, 180, 0, 46, 27, 42, 180, 0, 16, 27, 46, 79, 132, 1, 1]
abbrev dktX6_runs_0 : List UInt8 := dkwX6_runs_0 ++ dktX6_runs_1
theorem dksX6_runs_0 : cX6_runs.data.toList.drop 0 = dktX6_runs_0 := by decide +kernel
theorem dksX6_runs_1 : cX6_runs.data.toList.drop 23 = dktX6_runs_1 := dk_seg dksX6_runs_0 23 rfl rfl
theorem dksX6_runs_2 : cX6_runs.data.toList.drop 47 = dktX6_runs_2 := dk_seg dksX6_runs_1 24 rfl rfl
theorem dksX6_runs_3 : cX6_runs.data.toList.drop 71 = dktX6_runs_3 := dk_seg dksX6_runs_2 24 rfl rfl
theorem dksX6_runs_4 : cX6_runs.data.toList.drop 95 = dktX6_runs_4 := dk_seg dksX6_runs_3 24 rfl rfl
theorem dX6_runs_0 : decode cX6_runs 0 = .ok (.iconst 0, 1) := dk_3 (dk_at dksX6_runs_0 0 rfl rfl)
theorem dX6_runs_1 : decode cX6_runs 1 = .ok (.istore_n 1, 1) := dk_60 (dk_at dksX6_runs_0 1 rfl rfl)
theorem dX6_runs_2 : decode cX6_runs 2 = .ok (.iload_n 1, 1) := dk_27 (dk_at dksX6_runs_0 2 rfl rfl)
theorem dX6_runs_3 : decode cX6_runs 3 = .ok (.bipush 12, 2) := dk_16 12 (dk_at dksX6_runs_0 3 rfl rfl)
theorem dX6_runs_5 : decode cX6_runs 5 = .ok (.if_icmp .ge 21, 3) := dk_162 0 21 (dk_at dksX6_runs_0 5 rfl rfl)
theorem dX6_runs_8 : decode cX6_runs 8 = .ok (.aload_n 0, 1) := dk_42 (dk_at dksX6_runs_0 8 rfl rfl)
theorem dX6_runs_9 : decode cX6_runs 9 = .ok (.getfield 46, 3) := dk_180 0 46 (dk_at dksX6_runs_0 9 rfl rfl)
theorem dX6_runs_12 : decode cX6_runs 12 = .ok (.iload_n 1, 1) := dk_27 (dk_at dksX6_runs_0 12 rfl rfl)
theorem dX6_runs_13 : decode cX6_runs 13 = .ok (.aload_n 0, 1) := dk_42 (dk_at dksX6_runs_0 13 rfl rfl)
theorem dX6_runs_14 : decode cX6_runs 14 = .ok (.getfield 16, 3) := dk_180 0 16 (dk_at dksX6_runs_0 14 rfl rfl)
theorem dX6_runs_17 : decode cX6_runs 17 = .ok (.iload_n 1, 1) := dk_27 (dk_at dksX6_runs_0 17 rfl rfl)
theorem dX6_runs_18 : decode cX6_runs 18 = .ok (.iaload, 1) := dk_46 (dk_at dksX6_runs_0 18 rfl rfl)
theorem dX6_runs_19 : decode cX6_runs 19 = .ok (.iastore, 1) := dk_79 (dk_at dksX6_runs_0 19 rfl rfl)
theorem dX6_runs_20 : decode cX6_runs 20 = .ok (.iinc 1 1, 3) := dk_132 1 1 (dk_at dksX6_runs_0 20 rfl rfl)
theorem dX6_runs_23 : decode cX6_runs 23 = .ok (.goto (-21), 3) := dk_167 255 235 (dk_at dksX6_runs_1 0 rfl rfl)
theorem dX6_runs_26 : decode cX6_runs 26 = .ok (.iconst 0, 1) := dk_3 (dk_at dksX6_runs_1 3 rfl rfl)
theorem dX6_runs_27 : decode cX6_runs 27 = .ok (.istore_n 1, 1) := dk_60 (dk_at dksX6_runs_1 4 rfl rfl)
theorem dX6_runs_28 : decode cX6_runs 28 = .ok (.iload_n 1, 1) := dk_27 (dk_at dksX6_runs_1 5 rfl rfl)
theorem dX6_runs_29 : decode cX6_runs 29 = .ok (.aload_n 0, 1) := dk_42 (dk_at dksX6_runs_1 6 rfl rfl)
theorem dX6_runs_30 : decode cX6_runs 30 = .ok (.getfield 134, 3) := dk_180 0 134 (dk_at dksX6_runs_1 7 rfl rfl)
theorem dX6_runs_33 : decode cX6_runs 33 = .ok (.if_icmp .ge 47, 3) := dk_162 0 47 (dk_at dksX6_runs_1 10 rfl rfl)
theorem dX6_runs_36 : decode cX6_runs 36 = .ok (.aload_n 0, 1) := dk_42 (dk_at dksX6_runs_1 13 rfl rfl)
theorem dX6_runs_37 : decode cX6_runs 37 = .ok (.getfield 49, 3) := dk_180 0 49 (dk_at dksX6_runs_1 14 rfl rfl)
theorem dX6_runs_40 : decode cX6_runs 40 = .ok (.iload_n 1, 1) := dk_27 (dk_at dksX6_runs_1 17 rfl rfl)
theorem dX6_runs_41 : decode cX6_runs 41 = .ok (.aload_n 0, 1) := dk_42 (dk_at dksX6_runs_1 18 rfl rfl)
theorem dX6_runs_42 : decode cX6_runs 42 = .ok (.getfield 22, 3) := dk_180 0 22 (dk_at dksX6_runs_1 19 rfl rfl)
theorem dX6_runs_45 : decode cX6_runs 45 = .ok (.iload_n 1, 1) := dk_27 (dk_at dksX6_runs_1 22 rfl rfl)
theorem dX6_runs_46 : decode cX6_runs 46 = .ok (.iaload, 1) := dk_46 (dk_at dksX6_runs_1 23 rfl rfl)
theorem dX6_runs_47 : decode cX6_runs 47 = .ok (.iastore, 1) := dk_79 (dk_at dksX6_runs_2 0 rfl rfl)
theorem dX6_runs_48 : decode cX6_runs 48 = .ok (.aload_n 0, 1) := dk_42 (dk_at dksX6_runs_2 1 rfl rfl)
theorem dX6_runs_49 : decode cX6_runs 49 = .ok (.getfield 52, 3) := dk_180 0 52 (dk_at dksX6_runs_2 2 rfl rfl)
theorem dX6_runs_52 : decode cX6_runs 52 = .ok (.iload_n 1, 1) := dk_27 (dk_at dksX6_runs_2 5 rfl rfl)
theorem dX6_runs_53 : decode cX6_runs 53 = .ok (.aload_n 0, 1) := dk_42 (dk_at dksX6_runs_2 6 rfl rfl)
theorem dX6_runs_54 : decode cX6_runs 54 = .ok (.getfield 25, 3) := dk_180 0 25 (dk_at dksX6_runs_2 7 rfl rfl)
theorem dX6_runs_57 : decode cX6_runs 57 = .ok (.iload_n 1, 1) := dk_27 (dk_at dksX6_runs_2 10 rfl rfl)
theorem dX6_runs_58 : decode cX6_runs 58 = .ok (.iaload, 1) := dk_46 (dk_at dksX6_runs_2 11 rfl rfl)
theorem dX6_runs_59 : decode cX6_runs 59 = .ok (.iastore, 1) := dk_79 (dk_at dksX6_runs_2 12 rfl rfl)
theorem dX6_runs_60 : decode cX6_runs 60 = .ok (.aload_n 0, 1) := dk_42 (dk_at dksX6_runs_2 13 rfl rfl)
theorem dX6_runs_61 : decode cX6_runs 61 = .ok (.getfield 55, 3) := dk_180 0 55 (dk_at dksX6_runs_2 14 rfl rfl)
theorem dX6_runs_64 : decode cX6_runs 64 = .ok (.iload_n 1, 1) := dk_27 (dk_at dksX6_runs_2 17 rfl rfl)
theorem dX6_runs_65 : decode cX6_runs 65 = .ok (.iconst 0, 1) := dk_3 (dk_at dksX6_runs_2 18 rfl rfl)
theorem dX6_runs_66 : decode cX6_runs 66 = .ok (.iastore, 1) := dk_79 (dk_at dksX6_runs_2 19 rfl rfl)
theorem dX6_runs_67 : decode cX6_runs 67 = .ok (.aload_n 0, 1) := dk_42 (dk_at dksX6_runs_2 20 rfl rfl)
theorem dX6_runs_68 : decode cX6_runs 68 = .ok (.getfield 58, 3) := dk_180 0 58 (dk_at dksX6_runs_2 21 rfl rfl)
theorem dX6_runs_71 : decode cX6_runs 71 = .ok (.iload_n 1, 1) := dk_27 (dk_at dksX6_runs_3 0 rfl rfl)
theorem dX6_runs_72 : decode cX6_runs 72 = .ok (.iconst 0, 1) := dk_3 (dk_at dksX6_runs_3 1 rfl rfl)
theorem dX6_runs_73 : decode cX6_runs 73 = .ok (.iastore, 1) := dk_79 (dk_at dksX6_runs_3 2 rfl rfl)
theorem dX6_runs_74 : decode cX6_runs 74 = .ok (.iinc 1 1, 3) := dk_132 1 1 (dk_at dksX6_runs_3 3 rfl rfl)
theorem dX6_runs_77 : decode cX6_runs 77 = .ok (.goto (-49), 3) := dk_167 255 207 (dk_at dksX6_runs_3 6 rfl rfl)
theorem dX6_runs_80 : decode cX6_runs 80 = .ok (.aload_n 0, 1) := dk_42 (dk_at dksX6_runs_3 9 rfl rfl)
theorem dX6_runs_81 : decode cX6_runs 81 = .ok (.iconst 0, 1) := dk_3 (dk_at dksX6_runs_3 10 rfl rfl)
theorem dX6_runs_82 : decode cX6_runs 82 = .ok (.putfield 205, 3) := dk_181 0 205 (dk_at dksX6_runs_3 11 rfl rfl)
theorem dX6_runs_85 : decode cX6_runs 85 = .ok (.iconst 0, 1) := dk_3 (dk_at dksX6_runs_3 14 rfl rfl)
theorem dX6_runs_86 : decode cX6_runs 86 = .ok (.istore_n 1, 1) := dk_60 (dk_at dksX6_runs_3 15 rfl rfl)
theorem dX6_runs_87 : decode cX6_runs 87 = .ok (.iload_n 1, 1) := dk_27 (dk_at dksX6_runs_3 16 rfl rfl)
theorem dX6_runs_88 : decode cX6_runs 88 = .ok (.bipush 20, 2) := dk_16 20 (dk_at dksX6_runs_3 17 rfl rfl)
theorem dX6_runs_90 : decode cX6_runs 90 = .ok (.if_icmp .ge 14, 3) := dk_162 0 14 (dk_at dksX6_runs_3 19 rfl rfl)
theorem dX6_runs_93 : decode cX6_runs 93 = .ok (.aload_n 0, 1) := dk_42 (dk_at dksX6_runs_3 22 rfl rfl)
theorem dX6_runs_94 : decode cX6_runs 94 = .ok (.iload_n 1, 1) := dk_27 (dk_at dksX6_runs_3 23 rfl rfl)
theorem dX6_runs_95 : decode cX6_runs 95 = .ok (.invokevirtual 230, 3) := dk_182 0 230 (dk_at dksX6_runs_4 0 rfl rfl)
theorem dX6_runs_98 : decode cX6_runs 98 = .ok (.iinc 1 1, 3) := dk_132 1 1 (dk_at dksX6_runs_4 3 rfl rfl)
theorem dX6_runs_101 : decode cX6_runs 101 = .ok (.goto (-14), 3) := dk_167 255 242 (dk_at dksX6_runs_4 6 rfl rfl)
theorem dX6_runs_104 : decode cX6_runs 104 = .ok (.return_, 1) := dk_177 (dk_at dksX6_runs_4 9 rfl rfl)
abbrev cX6_goesBy : ByteArray := prog_13_method_41_code
def yX6_goesBy : MethodName := ⟨RX6, "goesBy", "(I)V"⟩
def dkwX6_goesBy_8 : List UInt8 := [28, 46, 79, 132, 2, 1, 167, 255, 197, 42, 27, 182, 0, 227, 177]
abbrev dktX6_goesBy_8 : List UInt8 := dkwX6_goesBy_8 ++ []
def dkwX6_goesBy_7 : List UInt8 := [158, 0, 7, 4, 167, 0, 4, 3, 100, 79, 42, 180, 0, 61, 16, 12, 27, 104, 28, 96, 42, 180, 0, 46]
abbrev dktX6_goesBy_7 : List UInt8 := dkwX6_goesBy_7 ++ dktX6_goesBy_8
def dkwX6_goesBy_6 : List UInt8 := [180, 0, 46, 28, 92, 46, 42, 27, 28, 182, 0, 224, 5, 164, 0, 16, 42, 180, 0, 46, 28, 46]
abbrev dktX6_goesBy_6 : List UInt8 := dkwX6_goesBy_6 ++ dktX6_goesBy_7
def dkwX6_goesBy_5 : List UInt8 := [28, 96, 42, 180, 0, 58, 28, 46, 79, 132, 2, 1, 167, 255, 194, 3, 61, 28, 16, 12, 162, 0, 59, 42]
abbrev dktX6_goesBy_5 : List UInt8 := dkwX6_goesBy_5 ++ dktX6_goesBy_6
def dkwX6_goesBy_4 : List UInt8 := [180, 0, 67, 16, 8, 27, 104, 28, 96, 42, 180, 0, 52, 28, 46, 79, 42, 180, 0, 70, 16, 8, 27, 104]
abbrev dktX6_goesBy_4 : List UInt8 := dkwX6_goesBy_4 ++ dktX6_goesBy_5
def dkwX6_goesBy_3 : List UInt8 := [180, 0, 134, 162, 0, 60, 42, 180, 0, 64, 16, 8, 27, 104, 28, 96, 42, 180, 0, 49, 28, 46, 79, 42]
abbrev dktX6_goesBy_3 : List UInt8 := dkwX6_goesBy_3 ++ dktX6_goesBy_4
def dkwX6_goesBy_2 : List UInt8 := [180, 0, 134, 162, 0, 15, 42, 28, 27, 182, 0, 221, 132, 2, 1, 167, 255, 239, 3, 61, 28, 42]
abbrev dktX6_goesBy_2 : List UInt8 := dkwX6_goesBy_2 ++ dktX6_goesBy_3
def dkwX6_goesBy_1 : List UInt8 := [28, 184, 0, 215, 154, 0, 8, 42, 28, 182, 0, 218, 132, 2, 1, 167, 255, 219, 3, 61, 28, 42]
abbrev dktX6_goesBy_1 : List UInt8 := dkwX6_goesBy_1 ++ dktX6_goesBy_2
def dkwX6_goesBy_0 : List UInt8 := [3, 61, 28, 42, 180, 0, 182, 162, 0, 35, 42, 180, 0, 40, 28, 46, 27, 160, 0, 19, 42, 180, 0, 185]
abbrev dktX6_goesBy_0 : List UInt8 := dkwX6_goesBy_0 ++ dktX6_goesBy_1
theorem dksX6_goesBy_0 : cX6_goesBy.data.toList.drop 0 = dktX6_goesBy_0 := by decide +kernel
theorem dksX6_goesBy_1 : cX6_goesBy.data.toList.drop 24 = dktX6_goesBy_1 := dk_seg dksX6_goesBy_0 24 rfl rfl
theorem dksX6_goesBy_2 : cX6_goesBy.data.toList.drop 46 = dktX6_goesBy_2 := dk_seg dksX6_goesBy_1 22 rfl rfl
theorem dksX6_goesBy_3 : cX6_goesBy.data.toList.drop 68 = dktX6_goesBy_3 := dk_seg dksX6_goesBy_2 22 rfl rfl
theorem dksX6_goesBy_4 : cX6_goesBy.data.toList.drop 92 = dktX6_goesBy_4 := dk_seg dksX6_goesBy_3 24 rfl rfl
theorem dksX6_goesBy_5 : cX6_goesBy.data.toList.drop 116 = dktX6_goesBy_5 := dk_seg dksX6_goesBy_4 24 rfl rfl
theorem dksX6_goesBy_6 : cX6_goesBy.data.toList.drop 140 = dktX6_goesBy_6 := dk_seg dksX6_goesBy_5 24 rfl rfl
theorem dksX6_goesBy_7 : cX6_goesBy.data.toList.drop 162 = dktX6_goesBy_7 := dk_seg dksX6_goesBy_6 22 rfl rfl
theorem dksX6_goesBy_8 : cX6_goesBy.data.toList.drop 186 = dktX6_goesBy_8 := dk_seg dksX6_goesBy_7 24 rfl rfl
theorem dX6_goesBy_0 : decode cX6_goesBy 0 = .ok (.iconst 0, 1) := dk_3 (dk_at dksX6_goesBy_0 0 rfl rfl)
theorem dX6_goesBy_1 : decode cX6_goesBy 1 = .ok (.istore_n 2, 1) := dk_61 (dk_at dksX6_goesBy_0 1 rfl rfl)
theorem dX6_goesBy_2 : decode cX6_goesBy 2 = .ok (.iload_n 2, 1) := dk_28 (dk_at dksX6_goesBy_0 2 rfl rfl)
theorem dX6_goesBy_3 : decode cX6_goesBy 3 = .ok (.aload_n 0, 1) := dk_42 (dk_at dksX6_goesBy_0 3 rfl rfl)
theorem dX6_goesBy_4 : decode cX6_goesBy 4 = .ok (.getfield 182, 3) := dk_180 0 182 (dk_at dksX6_goesBy_0 4 rfl rfl)
theorem dX6_goesBy_7 : decode cX6_goesBy 7 = .ok (.if_icmp .ge 35, 3) := dk_162 0 35 (dk_at dksX6_goesBy_0 7 rfl rfl)
theorem dX6_goesBy_10 : decode cX6_goesBy 10 = .ok (.aload_n 0, 1) := dk_42 (dk_at dksX6_goesBy_0 10 rfl rfl)
theorem dX6_goesBy_11 : decode cX6_goesBy 11 = .ok (.getfield 40, 3) := dk_180 0 40 (dk_at dksX6_goesBy_0 11 rfl rfl)
theorem dX6_goesBy_14 : decode cX6_goesBy 14 = .ok (.iload_n 2, 1) := dk_28 (dk_at dksX6_goesBy_0 14 rfl rfl)
theorem dX6_goesBy_15 : decode cX6_goesBy 15 = .ok (.iaload, 1) := dk_46 (dk_at dksX6_goesBy_0 15 rfl rfl)
theorem dX6_goesBy_16 : decode cX6_goesBy 16 = .ok (.iload_n 1, 1) := dk_27 (dk_at dksX6_goesBy_0 16 rfl rfl)
theorem dX6_goesBy_17 : decode cX6_goesBy 17 = .ok (.if_icmp .ne 19, 3) := dk_160 0 19 (dk_at dksX6_goesBy_0 17 rfl rfl)
theorem dX6_goesBy_20 : decode cX6_goesBy 20 = .ok (.aload_n 0, 1) := dk_42 (dk_at dksX6_goesBy_0 20 rfl rfl)
theorem dX6_goesBy_21 : decode cX6_goesBy 21 = .ok (.getfield 185, 3) := dk_180 0 185 (dk_at dksX6_goesBy_0 21 rfl rfl)
theorem dX6_goesBy_24 : decode cX6_goesBy 24 = .ok (.iload_n 2, 1) := dk_28 (dk_at dksX6_goesBy_1 0 rfl rfl)
theorem dX6_goesBy_25 : decode cX6_goesBy 25 = .ok (.invokestatic 215, 3) := dk_184 0 215 (dk_at dksX6_goesBy_1 1 rfl rfl)
theorem dX6_goesBy_28 : decode cX6_goesBy 28 = .ok (.ifCond .ne 8, 3) := dk_154 0 8 (dk_at dksX6_goesBy_1 4 rfl rfl)
theorem dX6_goesBy_31 : decode cX6_goesBy 31 = .ok (.aload_n 0, 1) := dk_42 (dk_at dksX6_goesBy_1 7 rfl rfl)
theorem dX6_goesBy_32 : decode cX6_goesBy 32 = .ok (.iload_n 2, 1) := dk_28 (dk_at dksX6_goesBy_1 8 rfl rfl)
theorem dX6_goesBy_33 : decode cX6_goesBy 33 = .ok (.invokevirtual 218, 3) := dk_182 0 218 (dk_at dksX6_goesBy_1 9 rfl rfl)
theorem dX6_goesBy_36 : decode cX6_goesBy 36 = .ok (.iinc 2 1, 3) := dk_132 2 1 (dk_at dksX6_goesBy_1 12 rfl rfl)
theorem dX6_goesBy_39 : decode cX6_goesBy 39 = .ok (.goto (-37), 3) := dk_167 255 219 (dk_at dksX6_goesBy_1 15 rfl rfl)
theorem dX6_goesBy_42 : decode cX6_goesBy 42 = .ok (.iconst 0, 1) := dk_3 (dk_at dksX6_goesBy_1 18 rfl rfl)
theorem dX6_goesBy_43 : decode cX6_goesBy 43 = .ok (.istore_n 2, 1) := dk_61 (dk_at dksX6_goesBy_1 19 rfl rfl)
theorem dX6_goesBy_44 : decode cX6_goesBy 44 = .ok (.iload_n 2, 1) := dk_28 (dk_at dksX6_goesBy_1 20 rfl rfl)
theorem dX6_goesBy_45 : decode cX6_goesBy 45 = .ok (.aload_n 0, 1) := dk_42 (dk_at dksX6_goesBy_1 21 rfl rfl)
theorem dX6_goesBy_46 : decode cX6_goesBy 46 = .ok (.getfield 134, 3) := dk_180 0 134 (dk_at dksX6_goesBy_2 0 rfl rfl)
theorem dX6_goesBy_49 : decode cX6_goesBy 49 = .ok (.if_icmp .ge 15, 3) := dk_162 0 15 (dk_at dksX6_goesBy_2 3 rfl rfl)
theorem dX6_goesBy_52 : decode cX6_goesBy 52 = .ok (.aload_n 0, 1) := dk_42 (dk_at dksX6_goesBy_2 6 rfl rfl)
theorem dX6_goesBy_53 : decode cX6_goesBy 53 = .ok (.iload_n 2, 1) := dk_28 (dk_at dksX6_goesBy_2 7 rfl rfl)
theorem dX6_goesBy_54 : decode cX6_goesBy 54 = .ok (.iload_n 1, 1) := dk_27 (dk_at dksX6_goesBy_2 8 rfl rfl)
theorem dX6_goesBy_55 : decode cX6_goesBy 55 = .ok (.invokevirtual 221, 3) := dk_182 0 221 (dk_at dksX6_goesBy_2 9 rfl rfl)
theorem dX6_goesBy_58 : decode cX6_goesBy 58 = .ok (.iinc 2 1, 3) := dk_132 2 1 (dk_at dksX6_goesBy_2 12 rfl rfl)
theorem dX6_goesBy_61 : decode cX6_goesBy 61 = .ok (.goto (-17), 3) := dk_167 255 239 (dk_at dksX6_goesBy_2 15 rfl rfl)
theorem dX6_goesBy_64 : decode cX6_goesBy 64 = .ok (.iconst 0, 1) := dk_3 (dk_at dksX6_goesBy_2 18 rfl rfl)
theorem dX6_goesBy_65 : decode cX6_goesBy 65 = .ok (.istore_n 2, 1) := dk_61 (dk_at dksX6_goesBy_2 19 rfl rfl)
theorem dX6_goesBy_66 : decode cX6_goesBy 66 = .ok (.iload_n 2, 1) := dk_28 (dk_at dksX6_goesBy_2 20 rfl rfl)
theorem dX6_goesBy_67 : decode cX6_goesBy 67 = .ok (.aload_n 0, 1) := dk_42 (dk_at dksX6_goesBy_2 21 rfl rfl)
theorem dX6_goesBy_68 : decode cX6_goesBy 68 = .ok (.getfield 134, 3) := dk_180 0 134 (dk_at dksX6_goesBy_3 0 rfl rfl)
theorem dX6_goesBy_71 : decode cX6_goesBy 71 = .ok (.if_icmp .ge 60, 3) := dk_162 0 60 (dk_at dksX6_goesBy_3 3 rfl rfl)
theorem dX6_goesBy_74 : decode cX6_goesBy 74 = .ok (.aload_n 0, 1) := dk_42 (dk_at dksX6_goesBy_3 6 rfl rfl)
theorem dX6_goesBy_75 : decode cX6_goesBy 75 = .ok (.getfield 64, 3) := dk_180 0 64 (dk_at dksX6_goesBy_3 7 rfl rfl)
theorem dX6_goesBy_78 : decode cX6_goesBy 78 = .ok (.bipush 8, 2) := dk_16 8 (dk_at dksX6_goesBy_3 10 rfl rfl)
theorem dX6_goesBy_80 : decode cX6_goesBy 80 = .ok (.iload_n 1, 1) := dk_27 (dk_at dksX6_goesBy_3 12 rfl rfl)
theorem dX6_goesBy_81 : decode cX6_goesBy 81 = .ok (.imul, 1) := dk_104 (dk_at dksX6_goesBy_3 13 rfl rfl)
theorem dX6_goesBy_82 : decode cX6_goesBy 82 = .ok (.iload_n 2, 1) := dk_28 (dk_at dksX6_goesBy_3 14 rfl rfl)
theorem dX6_goesBy_83 : decode cX6_goesBy 83 = .ok (.iadd, 1) := dk_96 (dk_at dksX6_goesBy_3 15 rfl rfl)
theorem dX6_goesBy_84 : decode cX6_goesBy 84 = .ok (.aload_n 0, 1) := dk_42 (dk_at dksX6_goesBy_3 16 rfl rfl)
theorem dX6_goesBy_85 : decode cX6_goesBy 85 = .ok (.getfield 49, 3) := dk_180 0 49 (dk_at dksX6_goesBy_3 17 rfl rfl)
theorem dX6_goesBy_88 : decode cX6_goesBy 88 = .ok (.iload_n 2, 1) := dk_28 (dk_at dksX6_goesBy_3 20 rfl rfl)
theorem dX6_goesBy_89 : decode cX6_goesBy 89 = .ok (.iaload, 1) := dk_46 (dk_at dksX6_goesBy_3 21 rfl rfl)
theorem dX6_goesBy_90 : decode cX6_goesBy 90 = .ok (.iastore, 1) := dk_79 (dk_at dksX6_goesBy_3 22 rfl rfl)
theorem dX6_goesBy_91 : decode cX6_goesBy 91 = .ok (.aload_n 0, 1) := dk_42 (dk_at dksX6_goesBy_3 23 rfl rfl)
theorem dX6_goesBy_92 : decode cX6_goesBy 92 = .ok (.getfield 67, 3) := dk_180 0 67 (dk_at dksX6_goesBy_4 0 rfl rfl)
theorem dX6_goesBy_95 : decode cX6_goesBy 95 = .ok (.bipush 8, 2) := dk_16 8 (dk_at dksX6_goesBy_4 3 rfl rfl)
theorem dX6_goesBy_97 : decode cX6_goesBy 97 = .ok (.iload_n 1, 1) := dk_27 (dk_at dksX6_goesBy_4 5 rfl rfl)
theorem dX6_goesBy_98 : decode cX6_goesBy 98 = .ok (.imul, 1) := dk_104 (dk_at dksX6_goesBy_4 6 rfl rfl)
theorem dX6_goesBy_99 : decode cX6_goesBy 99 = .ok (.iload_n 2, 1) := dk_28 (dk_at dksX6_goesBy_4 7 rfl rfl)
theorem dX6_goesBy_100 : decode cX6_goesBy 100 = .ok (.iadd, 1) := dk_96 (dk_at dksX6_goesBy_4 8 rfl rfl)
theorem dX6_goesBy_101 : decode cX6_goesBy 101 = .ok (.aload_n 0, 1) := dk_42 (dk_at dksX6_goesBy_4 9 rfl rfl)
theorem dX6_goesBy_102 : decode cX6_goesBy 102 = .ok (.getfield 52, 3) := dk_180 0 52 (dk_at dksX6_goesBy_4 10 rfl rfl)
theorem dX6_goesBy_105 : decode cX6_goesBy 105 = .ok (.iload_n 2, 1) := dk_28 (dk_at dksX6_goesBy_4 13 rfl rfl)
theorem dX6_goesBy_106 : decode cX6_goesBy 106 = .ok (.iaload, 1) := dk_46 (dk_at dksX6_goesBy_4 14 rfl rfl)
theorem dX6_goesBy_107 : decode cX6_goesBy 107 = .ok (.iastore, 1) := dk_79 (dk_at dksX6_goesBy_4 15 rfl rfl)
theorem dX6_goesBy_108 : decode cX6_goesBy 108 = .ok (.aload_n 0, 1) := dk_42 (dk_at dksX6_goesBy_4 16 rfl rfl)
theorem dX6_goesBy_109 : decode cX6_goesBy 109 = .ok (.getfield 70, 3) := dk_180 0 70 (dk_at dksX6_goesBy_4 17 rfl rfl)
theorem dX6_goesBy_112 : decode cX6_goesBy 112 = .ok (.bipush 8, 2) := dk_16 8 (dk_at dksX6_goesBy_4 20 rfl rfl)
theorem dX6_goesBy_114 : decode cX6_goesBy 114 = .ok (.iload_n 1, 1) := dk_27 (dk_at dksX6_goesBy_4 22 rfl rfl)
theorem dX6_goesBy_115 : decode cX6_goesBy 115 = .ok (.imul, 1) := dk_104 (dk_at dksX6_goesBy_4 23 rfl rfl)
theorem dX6_goesBy_116 : decode cX6_goesBy 116 = .ok (.iload_n 2, 1) := dk_28 (dk_at dksX6_goesBy_5 0 rfl rfl)
theorem dX6_goesBy_117 : decode cX6_goesBy 117 = .ok (.iadd, 1) := dk_96 (dk_at dksX6_goesBy_5 1 rfl rfl)
theorem dX6_goesBy_118 : decode cX6_goesBy 118 = .ok (.aload_n 0, 1) := dk_42 (dk_at dksX6_goesBy_5 2 rfl rfl)
theorem dX6_goesBy_119 : decode cX6_goesBy 119 = .ok (.getfield 58, 3) := dk_180 0 58 (dk_at dksX6_goesBy_5 3 rfl rfl)
theorem dX6_goesBy_122 : decode cX6_goesBy 122 = .ok (.iload_n 2, 1) := dk_28 (dk_at dksX6_goesBy_5 6 rfl rfl)
theorem dX6_goesBy_123 : decode cX6_goesBy 123 = .ok (.iaload, 1) := dk_46 (dk_at dksX6_goesBy_5 7 rfl rfl)
theorem dX6_goesBy_124 : decode cX6_goesBy 124 = .ok (.iastore, 1) := dk_79 (dk_at dksX6_goesBy_5 8 rfl rfl)
theorem dX6_goesBy_125 : decode cX6_goesBy 125 = .ok (.iinc 2 1, 3) := dk_132 2 1 (dk_at dksX6_goesBy_5 9 rfl rfl)
theorem dX6_goesBy_128 : decode cX6_goesBy 128 = .ok (.goto (-62), 3) := dk_167 255 194 (dk_at dksX6_goesBy_5 12 rfl rfl)
theorem dX6_goesBy_131 : decode cX6_goesBy 131 = .ok (.iconst 0, 1) := dk_3 (dk_at dksX6_goesBy_5 15 rfl rfl)
theorem dX6_goesBy_132 : decode cX6_goesBy 132 = .ok (.istore_n 2, 1) := dk_61 (dk_at dksX6_goesBy_5 16 rfl rfl)
theorem dX6_goesBy_133 : decode cX6_goesBy 133 = .ok (.iload_n 2, 1) := dk_28 (dk_at dksX6_goesBy_5 17 rfl rfl)
theorem dX6_goesBy_134 : decode cX6_goesBy 134 = .ok (.bipush 12, 2) := dk_16 12 (dk_at dksX6_goesBy_5 18 rfl rfl)
theorem dX6_goesBy_136 : decode cX6_goesBy 136 = .ok (.if_icmp .ge 59, 3) := dk_162 0 59 (dk_at dksX6_goesBy_5 20 rfl rfl)
theorem dX6_goesBy_139 : decode cX6_goesBy 139 = .ok (.aload_n 0, 1) := dk_42 (dk_at dksX6_goesBy_5 23 rfl rfl)
theorem dX6_goesBy_140 : decode cX6_goesBy 140 = .ok (.getfield 46, 3) := dk_180 0 46 (dk_at dksX6_goesBy_6 0 rfl rfl)
theorem dX6_goesBy_143 : decode cX6_goesBy 143 = .ok (.iload_n 2, 1) := dk_28 (dk_at dksX6_goesBy_6 3 rfl rfl)
theorem dX6_goesBy_144 : decode cX6_goesBy 144 = .ok (.dup2, 1) := dk_92 (dk_at dksX6_goesBy_6 4 rfl rfl)
theorem dX6_goesBy_145 : decode cX6_goesBy 145 = .ok (.iaload, 1) := dk_46 (dk_at dksX6_goesBy_6 5 rfl rfl)
theorem dX6_goesBy_146 : decode cX6_goesBy 146 = .ok (.aload_n 0, 1) := dk_42 (dk_at dksX6_goesBy_6 6 rfl rfl)
theorem dX6_goesBy_147 : decode cX6_goesBy 147 = .ok (.iload_n 1, 1) := dk_27 (dk_at dksX6_goesBy_6 7 rfl rfl)
theorem dX6_goesBy_148 : decode cX6_goesBy 148 = .ok (.iload_n 2, 1) := dk_28 (dk_at dksX6_goesBy_6 8 rfl rfl)
theorem dX6_goesBy_149 : decode cX6_goesBy 149 = .ok (.invokevirtual 224, 3) := dk_182 0 224 (dk_at dksX6_goesBy_6 9 rfl rfl)
theorem dX6_goesBy_152 : decode cX6_goesBy 152 = .ok (.iconst 2, 1) := dk_5 (dk_at dksX6_goesBy_6 12 rfl rfl)
theorem dX6_goesBy_153 : decode cX6_goesBy 153 = .ok (.if_icmp .le 16, 3) := dk_164 0 16 (dk_at dksX6_goesBy_6 13 rfl rfl)
theorem dX6_goesBy_156 : decode cX6_goesBy 156 = .ok (.aload_n 0, 1) := dk_42 (dk_at dksX6_goesBy_6 16 rfl rfl)
theorem dX6_goesBy_157 : decode cX6_goesBy 157 = .ok (.getfield 46, 3) := dk_180 0 46 (dk_at dksX6_goesBy_6 17 rfl rfl)
theorem dX6_goesBy_160 : decode cX6_goesBy 160 = .ok (.iload_n 2, 1) := dk_28 (dk_at dksX6_goesBy_6 20 rfl rfl)
theorem dX6_goesBy_161 : decode cX6_goesBy 161 = .ok (.iaload, 1) := dk_46 (dk_at dksX6_goesBy_6 21 rfl rfl)
theorem dX6_goesBy_162 : decode cX6_goesBy 162 = .ok (.ifCond .le 7, 3) := dk_158 0 7 (dk_at dksX6_goesBy_7 0 rfl rfl)
theorem dX6_goesBy_165 : decode cX6_goesBy 165 = .ok (.iconst 1, 1) := dk_4 (dk_at dksX6_goesBy_7 3 rfl rfl)
theorem dX6_goesBy_166 : decode cX6_goesBy 166 = .ok (.goto 4, 3) := dk_167 0 4 (dk_at dksX6_goesBy_7 4 rfl rfl)
theorem dX6_goesBy_169 : decode cX6_goesBy 169 = .ok (.iconst 0, 1) := dk_3 (dk_at dksX6_goesBy_7 7 rfl rfl)
theorem dX6_goesBy_170 : decode cX6_goesBy 170 = .ok (.isub, 1) := dk_100 (dk_at dksX6_goesBy_7 8 rfl rfl)
theorem dX6_goesBy_171 : decode cX6_goesBy 171 = .ok (.iastore, 1) := dk_79 (dk_at dksX6_goesBy_7 9 rfl rfl)
theorem dX6_goesBy_172 : decode cX6_goesBy 172 = .ok (.aload_n 0, 1) := dk_42 (dk_at dksX6_goesBy_7 10 rfl rfl)
theorem dX6_goesBy_173 : decode cX6_goesBy 173 = .ok (.getfield 61, 3) := dk_180 0 61 (dk_at dksX6_goesBy_7 11 rfl rfl)
theorem dX6_goesBy_176 : decode cX6_goesBy 176 = .ok (.bipush 12, 2) := dk_16 12 (dk_at dksX6_goesBy_7 14 rfl rfl)
theorem dX6_goesBy_178 : decode cX6_goesBy 178 = .ok (.iload_n 1, 1) := dk_27 (dk_at dksX6_goesBy_7 16 rfl rfl)
theorem dX6_goesBy_179 : decode cX6_goesBy 179 = .ok (.imul, 1) := dk_104 (dk_at dksX6_goesBy_7 17 rfl rfl)
theorem dX6_goesBy_180 : decode cX6_goesBy 180 = .ok (.iload_n 2, 1) := dk_28 (dk_at dksX6_goesBy_7 18 rfl rfl)
theorem dX6_goesBy_181 : decode cX6_goesBy 181 = .ok (.iadd, 1) := dk_96 (dk_at dksX6_goesBy_7 19 rfl rfl)
theorem dX6_goesBy_182 : decode cX6_goesBy 182 = .ok (.aload_n 0, 1) := dk_42 (dk_at dksX6_goesBy_7 20 rfl rfl)
theorem dX6_goesBy_183 : decode cX6_goesBy 183 = .ok (.getfield 46, 3) := dk_180 0 46 (dk_at dksX6_goesBy_7 21 rfl rfl)
theorem dX6_goesBy_186 : decode cX6_goesBy 186 = .ok (.iload_n 2, 1) := dk_28 (dk_at dksX6_goesBy_8 0 rfl rfl)
theorem dX6_goesBy_187 : decode cX6_goesBy 187 = .ok (.iaload, 1) := dk_46 (dk_at dksX6_goesBy_8 1 rfl rfl)
theorem dX6_goesBy_188 : decode cX6_goesBy 188 = .ok (.iastore, 1) := dk_79 (dk_at dksX6_goesBy_8 2 rfl rfl)
theorem dX6_goesBy_189 : decode cX6_goesBy 189 = .ok (.iinc 2 1, 3) := dk_132 2 1 (dk_at dksX6_goesBy_8 3 rfl rfl)
theorem dX6_goesBy_192 : decode cX6_goesBy 192 = .ok (.goto (-59), 3) := dk_167 255 197 (dk_at dksX6_goesBy_8 6 rfl rfl)
theorem dX6_goesBy_195 : decode cX6_goesBy 195 = .ok (.aload_n 0, 1) := dk_42 (dk_at dksX6_goesBy_8 9 rfl rfl)
theorem dX6_goesBy_196 : decode cX6_goesBy 196 = .ok (.iload_n 1, 1) := dk_27 (dk_at dksX6_goesBy_8 10 rfl rfl)
theorem dX6_goesBy_197 : decode cX6_goesBy 197 = .ok (.invokevirtual 227, 3) := dk_182 0 227 (dk_at dksX6_goesBy_8 11 rfl rfl)
theorem dX6_goesBy_200 : decode cX6_goesBy 200 = .ok (.return_, 1) := dk_177 (dk_at dksX6_goesBy_8 14 rfl rfl)
abbrev cX6_isIn : ByteArray := prog_13_method_4_code
def yX6_isIn : MethodName := ⟨RX6, "isIn", "(II)Z"⟩
def dkwX6_isIn_0 : List UInt8 := [26, 27, 122, 4, 126, 4, 160, 0, 7, 4, 167, 0, 4, 3, 172]
abbrev dktX6_isIn_0 : List UInt8 := dkwX6_isIn_0 ++ []
theorem dksX6_isIn_0 : cX6_isIn.data.toList.drop 0 = dktX6_isIn_0 := by decide +kernel
theorem dX6_isIn_0 : decode cX6_isIn 0 = .ok (.iload_n 0, 1) := dk_26 (dk_at dksX6_isIn_0 0 rfl rfl)
theorem dX6_isIn_1 : decode cX6_isIn 1 = .ok (.iload_n 1, 1) := dk_27 (dk_at dksX6_isIn_0 1 rfl rfl)
theorem dX6_isIn_2 : decode cX6_isIn 2 = .ok (.ishr, 1) := dk_122 (dk_at dksX6_isIn_0 2 rfl rfl)
theorem dX6_isIn_3 : decode cX6_isIn 3 = .ok (.iconst 1, 1) := dk_4 (dk_at dksX6_isIn_0 3 rfl rfl)
theorem dX6_isIn_4 : decode cX6_isIn 4 = .ok (.iand, 1) := dk_126 (dk_at dksX6_isIn_0 4 rfl rfl)
theorem dX6_isIn_5 : decode cX6_isIn 5 = .ok (.iconst 1, 1) := dk_4 (dk_at dksX6_isIn_0 5 rfl rfl)
theorem dX6_isIn_6 : decode cX6_isIn 6 = .ok (.if_icmp .ne 7, 3) := dk_160 0 7 (dk_at dksX6_isIn_0 6 rfl rfl)
theorem dX6_isIn_9 : decode cX6_isIn 9 = .ok (.iconst 1, 1) := dk_4 (dk_at dksX6_isIn_0 9 rfl rfl)
theorem dX6_isIn_10 : decode cX6_isIn 10 = .ok (.goto 4, 3) := dk_167 0 4 (dk_at dksX6_isIn_0 10 rfl rfl)
theorem dX6_isIn_13 : decode cX6_isIn 13 = .ok (.iconst 0, 1) := dk_3 (dk_at dksX6_isIn_0 13 rfl rfl)
theorem dX6_isIn_14 : decode cX6_isIn 14 = .ok (.ireturn, 1) := dk_172 (dk_at dksX6_isIn_0 14 rfl rfl)
abbrev cX6_befalls : ByteArray := prog_13_method_33_code
def yX6_befalls : MethodName := ⟨RX6, "befalls", "(I)V"⟩
def dkwX6_befalls_2 : List UInt8 := [16, 254, 167, 0, 4, 6, 182, 0, 195, 177]
abbrev dktX6_befalls_2 : List UInt8 := dkwX6_befalls_2 ++ []
def dkwX6_befalls_1 : List UInt8 := [160, 0, 13, 42, 42, 180, 0, 43, 27, 46, 182, 0, 192, 28, 4, 164, 0, 18, 42, 28, 5, 160, 0, 8]
abbrev dktX6_befalls_1 : List UInt8 := dkwX6_befalls_1 ++ dktX6_befalls_2
def dkwX6_befalls_0 : List UInt8 := [42, 180, 0, 37, 27, 46, 61, 28, 154, 0, 13, 42, 42, 180, 0, 40, 27, 46, 182, 0, 188, 28, 4]
abbrev dktX6_befalls_0 : List UInt8 := dkwX6_befalls_0 ++ dktX6_befalls_1
theorem dksX6_befalls_0 : cX6_befalls.data.toList.drop 0 = dktX6_befalls_0 := by decide +kernel
theorem dksX6_befalls_1 : cX6_befalls.data.toList.drop 23 = dktX6_befalls_1 := dk_seg dksX6_befalls_0 23 rfl rfl
theorem dksX6_befalls_2 : cX6_befalls.data.toList.drop 47 = dktX6_befalls_2 := dk_seg dksX6_befalls_1 24 rfl rfl
theorem dX6_befalls_0 : decode cX6_befalls 0 = .ok (.aload_n 0, 1) := dk_42 (dk_at dksX6_befalls_0 0 rfl rfl)
theorem dX6_befalls_1 : decode cX6_befalls 1 = .ok (.getfield 37, 3) := dk_180 0 37 (dk_at dksX6_befalls_0 1 rfl rfl)
theorem dX6_befalls_4 : decode cX6_befalls 4 = .ok (.iload_n 1, 1) := dk_27 (dk_at dksX6_befalls_0 4 rfl rfl)
theorem dX6_befalls_5 : decode cX6_befalls 5 = .ok (.iaload, 1) := dk_46 (dk_at dksX6_befalls_0 5 rfl rfl)
theorem dX6_befalls_6 : decode cX6_befalls 6 = .ok (.istore_n 2, 1) := dk_61 (dk_at dksX6_befalls_0 6 rfl rfl)
theorem dX6_befalls_7 : decode cX6_befalls 7 = .ok (.iload_n 2, 1) := dk_28 (dk_at dksX6_befalls_0 7 rfl rfl)
theorem dX6_befalls_8 : decode cX6_befalls 8 = .ok (.ifCond .ne 13, 3) := dk_154 0 13 (dk_at dksX6_befalls_0 8 rfl rfl)
theorem dX6_befalls_11 : decode cX6_befalls 11 = .ok (.aload_n 0, 1) := dk_42 (dk_at dksX6_befalls_0 11 rfl rfl)
theorem dX6_befalls_12 : decode cX6_befalls 12 = .ok (.aload_n 0, 1) := dk_42 (dk_at dksX6_befalls_0 12 rfl rfl)
theorem dX6_befalls_13 : decode cX6_befalls 13 = .ok (.getfield 40, 3) := dk_180 0 40 (dk_at dksX6_befalls_0 13 rfl rfl)
theorem dX6_befalls_16 : decode cX6_befalls 16 = .ok (.iload_n 1, 1) := dk_27 (dk_at dksX6_befalls_0 16 rfl rfl)
theorem dX6_befalls_17 : decode cX6_befalls 17 = .ok (.iaload, 1) := dk_46 (dk_at dksX6_befalls_0 17 rfl rfl)
theorem dX6_befalls_18 : decode cX6_befalls 18 = .ok (.invokevirtual 188, 3) := dk_182 0 188 (dk_at dksX6_befalls_0 18 rfl rfl)
theorem dX6_befalls_21 : decode cX6_befalls 21 = .ok (.iload_n 2, 1) := dk_28 (dk_at dksX6_befalls_0 21 rfl rfl)
theorem dX6_befalls_22 : decode cX6_befalls 22 = .ok (.iconst 1, 1) := dk_4 (dk_at dksX6_befalls_0 22 rfl rfl)
theorem dX6_befalls_23 : decode cX6_befalls 23 = .ok (.if_icmp .ne 13, 3) := dk_160 0 13 (dk_at dksX6_befalls_1 0 rfl rfl)
theorem dX6_befalls_26 : decode cX6_befalls 26 = .ok (.aload_n 0, 1) := dk_42 (dk_at dksX6_befalls_1 3 rfl rfl)
theorem dX6_befalls_27 : decode cX6_befalls 27 = .ok (.aload_n 0, 1) := dk_42 (dk_at dksX6_befalls_1 4 rfl rfl)
theorem dX6_befalls_28 : decode cX6_befalls 28 = .ok (.getfield 43, 3) := dk_180 0 43 (dk_at dksX6_befalls_1 5 rfl rfl)
theorem dX6_befalls_31 : decode cX6_befalls 31 = .ok (.iload_n 1, 1) := dk_27 (dk_at dksX6_befalls_1 8 rfl rfl)
theorem dX6_befalls_32 : decode cX6_befalls 32 = .ok (.iaload, 1) := dk_46 (dk_at dksX6_befalls_1 9 rfl rfl)
theorem dX6_befalls_33 : decode cX6_befalls 33 = .ok (.invokevirtual 192, 3) := dk_182 0 192 (dk_at dksX6_befalls_1 10 rfl rfl)
theorem dX6_befalls_36 : decode cX6_befalls 36 = .ok (.iload_n 2, 1) := dk_28 (dk_at dksX6_befalls_1 13 rfl rfl)
theorem dX6_befalls_37 : decode cX6_befalls 37 = .ok (.iconst 1, 1) := dk_4 (dk_at dksX6_befalls_1 14 rfl rfl)
theorem dX6_befalls_38 : decode cX6_befalls 38 = .ok (.if_icmp .le 18, 3) := dk_164 0 18 (dk_at dksX6_befalls_1 15 rfl rfl)
theorem dX6_befalls_41 : decode cX6_befalls 41 = .ok (.aload_n 0, 1) := dk_42 (dk_at dksX6_befalls_1 18 rfl rfl)
theorem dX6_befalls_42 : decode cX6_befalls 42 = .ok (.iload_n 2, 1) := dk_28 (dk_at dksX6_befalls_1 19 rfl rfl)
theorem dX6_befalls_43 : decode cX6_befalls 43 = .ok (.iconst 2, 1) := dk_5 (dk_at dksX6_befalls_1 20 rfl rfl)
theorem dX6_befalls_44 : decode cX6_befalls 44 = .ok (.if_icmp .ne 8, 3) := dk_160 0 8 (dk_at dksX6_befalls_1 21 rfl rfl)
theorem dX6_befalls_47 : decode cX6_befalls 47 = .ok (.bipush (-2), 2) := dk_16 254 (dk_at dksX6_befalls_2 0 rfl rfl)
theorem dX6_befalls_49 : decode cX6_befalls 49 = .ok (.goto 4, 3) := dk_167 0 4 (dk_at dksX6_befalls_2 2 rfl rfl)
theorem dX6_befalls_52 : decode cX6_befalls 52 = .ok (.iconst 3, 1) := dk_6 (dk_at dksX6_befalls_2 5 rfl rfl)
theorem dX6_befalls_53 : decode cX6_befalls 53 = .ok (.invokevirtual 195, 3) := dk_182 0 195 (dk_at dksX6_befalls_2 6 rfl rfl)
theorem dX6_befalls_56 : decode cX6_befalls 56 = .ok (.return_, 1) := dk_177 (dk_at dksX6_befalls_2 9 rfl rfl)
abbrev cX6_lifts : ByteArray := prog_13_method_30_code
def yX6_lifts : MethodName := ⟨RX6, "lifts", "(I)V"⟩
def dkwX6_lifts_1 : List UInt8 := [96, 79, 132, 2, 1, 167, 255, 229, 177]
abbrev dktX6_lifts_1 : List UInt8 := dkwX6_lifts_1 ++ []
def dkwX6_lifts_0 : List UInt8 := [3, 61, 28, 42, 180, 0, 134, 162, 0, 25, 42, 180, 0, 55, 28, 27, 42, 180, 0, 19, 28, 46, 96, 4]
abbrev dktX6_lifts_0 : List UInt8 := dkwX6_lifts_0 ++ dktX6_lifts_1
theorem dksX6_lifts_0 : cX6_lifts.data.toList.drop 0 = dktX6_lifts_0 := by decide +kernel
theorem dksX6_lifts_1 : cX6_lifts.data.toList.drop 24 = dktX6_lifts_1 := dk_seg dksX6_lifts_0 24 rfl rfl
theorem dX6_lifts_0 : decode cX6_lifts 0 = .ok (.iconst 0, 1) := dk_3 (dk_at dksX6_lifts_0 0 rfl rfl)
theorem dX6_lifts_1 : decode cX6_lifts 1 = .ok (.istore_n 2, 1) := dk_61 (dk_at dksX6_lifts_0 1 rfl rfl)
theorem dX6_lifts_2 : decode cX6_lifts 2 = .ok (.iload_n 2, 1) := dk_28 (dk_at dksX6_lifts_0 2 rfl rfl)
theorem dX6_lifts_3 : decode cX6_lifts 3 = .ok (.aload_n 0, 1) := dk_42 (dk_at dksX6_lifts_0 3 rfl rfl)
theorem dX6_lifts_4 : decode cX6_lifts 4 = .ok (.getfield 134, 3) := dk_180 0 134 (dk_at dksX6_lifts_0 4 rfl rfl)
theorem dX6_lifts_7 : decode cX6_lifts 7 = .ok (.if_icmp .ge 25, 3) := dk_162 0 25 (dk_at dksX6_lifts_0 7 rfl rfl)
theorem dX6_lifts_10 : decode cX6_lifts 10 = .ok (.aload_n 0, 1) := dk_42 (dk_at dksX6_lifts_0 10 rfl rfl)
theorem dX6_lifts_11 : decode cX6_lifts 11 = .ok (.getfield 55, 3) := dk_180 0 55 (dk_at dksX6_lifts_0 11 rfl rfl)
theorem dX6_lifts_14 : decode cX6_lifts 14 = .ok (.iload_n 2, 1) := dk_28 (dk_at dksX6_lifts_0 14 rfl rfl)
theorem dX6_lifts_15 : decode cX6_lifts 15 = .ok (.iload_n 1, 1) := dk_27 (dk_at dksX6_lifts_0 15 rfl rfl)
theorem dX6_lifts_16 : decode cX6_lifts 16 = .ok (.aload_n 0, 1) := dk_42 (dk_at dksX6_lifts_0 16 rfl rfl)
theorem dX6_lifts_17 : decode cX6_lifts 17 = .ok (.getfield 19, 3) := dk_180 0 19 (dk_at dksX6_lifts_0 17 rfl rfl)
theorem dX6_lifts_20 : decode cX6_lifts 20 = .ok (.iload_n 2, 1) := dk_28 (dk_at dksX6_lifts_0 20 rfl rfl)
theorem dX6_lifts_21 : decode cX6_lifts 21 = .ok (.iaload, 1) := dk_46 (dk_at dksX6_lifts_0 21 rfl rfl)
theorem dX6_lifts_22 : decode cX6_lifts 22 = .ok (.iadd, 1) := dk_96 (dk_at dksX6_lifts_0 22 rfl rfl)
theorem dX6_lifts_23 : decode cX6_lifts 23 = .ok (.iconst 1, 1) := dk_4 (dk_at dksX6_lifts_0 23 rfl rfl)
theorem dX6_lifts_24 : decode cX6_lifts 24 = .ok (.iadd, 1) := dk_96 (dk_at dksX6_lifts_1 0 rfl rfl)
theorem dX6_lifts_25 : decode cX6_lifts 25 = .ok (.iastore, 1) := dk_79 (dk_at dksX6_lifts_1 1 rfl rfl)
theorem dX6_lifts_26 : decode cX6_lifts 26 = .ok (.iinc 2 1, 3) := dk_132 2 1 (dk_at dksX6_lifts_1 2 rfl rfl)
theorem dX6_lifts_29 : decode cX6_lifts 29 = .ok (.goto (-27), 3) := dk_167 255 229 (dk_at dksX6_lifts_1 5 rfl rfl)
theorem dX6_lifts_32 : decode cX6_lifts 32 = .ok (.return_, 1) := dk_177 (dk_at dksX6_lifts_1 8 rfl rfl)
abbrev cX6_peppers : ByteArray := prog_13_method_31_code
def yX6_peppers : MethodName := ⟨RX6, "peppers", "(I)V"⟩
def dkwX6_peppers_2 : List UInt8 := [167, 255, 212, 177]
abbrev dktX6_peppers_2 : List UInt8 := dkwX6_peppers_2 ++ []
def dkwX6_peppers_1 : List UInt8 := [160, 0, 14, 4, 42, 180, 0, 52, 28, 46, 100, 167, 0, 9, 42, 180, 0, 52, 28, 46, 79, 132, 2, 1]
abbrev dktX6_peppers_1 : List UInt8 := dkwX6_peppers_1 ++ dktX6_peppers_2
def dkwX6_peppers_0 : List UInt8 := [3, 61, 28, 42, 180, 0, 134, 162, 0, 42, 42, 180, 0, 52, 28, 42, 180, 0, 49, 28, 46, 27]
abbrev dktX6_peppers_0 : List UInt8 := dkwX6_peppers_0 ++ dktX6_peppers_1
theorem dksX6_peppers_0 : cX6_peppers.data.toList.drop 0 = dktX6_peppers_0 := by decide +kernel
theorem dksX6_peppers_1 : cX6_peppers.data.toList.drop 22 = dktX6_peppers_1 := dk_seg dksX6_peppers_0 22 rfl rfl
theorem dksX6_peppers_2 : cX6_peppers.data.toList.drop 46 = dktX6_peppers_2 := dk_seg dksX6_peppers_1 24 rfl rfl
theorem dX6_peppers_0 : decode cX6_peppers 0 = .ok (.iconst 0, 1) := dk_3 (dk_at dksX6_peppers_0 0 rfl rfl)
theorem dX6_peppers_1 : decode cX6_peppers 1 = .ok (.istore_n 2, 1) := dk_61 (dk_at dksX6_peppers_0 1 rfl rfl)
theorem dX6_peppers_2 : decode cX6_peppers 2 = .ok (.iload_n 2, 1) := dk_28 (dk_at dksX6_peppers_0 2 rfl rfl)
theorem dX6_peppers_3 : decode cX6_peppers 3 = .ok (.aload_n 0, 1) := dk_42 (dk_at dksX6_peppers_0 3 rfl rfl)
theorem dX6_peppers_4 : decode cX6_peppers 4 = .ok (.getfield 134, 3) := dk_180 0 134 (dk_at dksX6_peppers_0 4 rfl rfl)
theorem dX6_peppers_7 : decode cX6_peppers 7 = .ok (.if_icmp .ge 42, 3) := dk_162 0 42 (dk_at dksX6_peppers_0 7 rfl rfl)
theorem dX6_peppers_10 : decode cX6_peppers 10 = .ok (.aload_n 0, 1) := dk_42 (dk_at dksX6_peppers_0 10 rfl rfl)
theorem dX6_peppers_11 : decode cX6_peppers 11 = .ok (.getfield 52, 3) := dk_180 0 52 (dk_at dksX6_peppers_0 11 rfl rfl)
theorem dX6_peppers_14 : decode cX6_peppers 14 = .ok (.iload_n 2, 1) := dk_28 (dk_at dksX6_peppers_0 14 rfl rfl)
theorem dX6_peppers_15 : decode cX6_peppers 15 = .ok (.aload_n 0, 1) := dk_42 (dk_at dksX6_peppers_0 15 rfl rfl)
theorem dX6_peppers_16 : decode cX6_peppers 16 = .ok (.getfield 49, 3) := dk_180 0 49 (dk_at dksX6_peppers_0 16 rfl rfl)
theorem dX6_peppers_19 : decode cX6_peppers 19 = .ok (.iload_n 2, 1) := dk_28 (dk_at dksX6_peppers_0 19 rfl rfl)
theorem dX6_peppers_20 : decode cX6_peppers 20 = .ok (.iaload, 1) := dk_46 (dk_at dksX6_peppers_0 20 rfl rfl)
theorem dX6_peppers_21 : decode cX6_peppers 21 = .ok (.iload_n 1, 1) := dk_27 (dk_at dksX6_peppers_0 21 rfl rfl)
theorem dX6_peppers_22 : decode cX6_peppers 22 = .ok (.if_icmp .ne 14, 3) := dk_160 0 14 (dk_at dksX6_peppers_1 0 rfl rfl)
theorem dX6_peppers_25 : decode cX6_peppers 25 = .ok (.iconst 1, 1) := dk_4 (dk_at dksX6_peppers_1 3 rfl rfl)
theorem dX6_peppers_26 : decode cX6_peppers 26 = .ok (.aload_n 0, 1) := dk_42 (dk_at dksX6_peppers_1 4 rfl rfl)
theorem dX6_peppers_27 : decode cX6_peppers 27 = .ok (.getfield 52, 3) := dk_180 0 52 (dk_at dksX6_peppers_1 5 rfl rfl)
theorem dX6_peppers_30 : decode cX6_peppers 30 = .ok (.iload_n 2, 1) := dk_28 (dk_at dksX6_peppers_1 8 rfl rfl)
theorem dX6_peppers_31 : decode cX6_peppers 31 = .ok (.iaload, 1) := dk_46 (dk_at dksX6_peppers_1 9 rfl rfl)
theorem dX6_peppers_32 : decode cX6_peppers 32 = .ok (.isub, 1) := dk_100 (dk_at dksX6_peppers_1 10 rfl rfl)
theorem dX6_peppers_33 : decode cX6_peppers 33 = .ok (.goto 9, 3) := dk_167 0 9 (dk_at dksX6_peppers_1 11 rfl rfl)
theorem dX6_peppers_36 : decode cX6_peppers 36 = .ok (.aload_n 0, 1) := dk_42 (dk_at dksX6_peppers_1 14 rfl rfl)
theorem dX6_peppers_37 : decode cX6_peppers 37 = .ok (.getfield 52, 3) := dk_180 0 52 (dk_at dksX6_peppers_1 15 rfl rfl)
theorem dX6_peppers_40 : decode cX6_peppers 40 = .ok (.iload_n 2, 1) := dk_28 (dk_at dksX6_peppers_1 18 rfl rfl)
theorem dX6_peppers_41 : decode cX6_peppers 41 = .ok (.iaload, 1) := dk_46 (dk_at dksX6_peppers_1 19 rfl rfl)
theorem dX6_peppers_42 : decode cX6_peppers 42 = .ok (.iastore, 1) := dk_79 (dk_at dksX6_peppers_1 20 rfl rfl)
theorem dX6_peppers_43 : decode cX6_peppers 43 = .ok (.iinc 2 1, 3) := dk_132 2 1 (dk_at dksX6_peppers_1 21 rfl rfl)
theorem dX6_peppers_46 : decode cX6_peppers 46 = .ok (.goto (-44), 3) := dk_167 255 212 (dk_at dksX6_peppers_2 0 rfl rfl)
theorem dX6_peppers_49 : decode cX6_peppers 49 = .ok (.return_, 1) := dk_177 (dk_at dksX6_peppers_2 3 rfl rfl)
abbrev cX6_wets : ByteArray := prog_13_method_32_code
def yX6_wets : MethodName := ⟨RX6, "wets", "(I)V"⟩
def dkwX6_wets_2 : List UInt8 := [167, 255, 212, 177]
abbrev dktX6_wets_2 : List UInt8 := dkwX6_wets_2 ++ []
def dkwX6_wets_1 : List UInt8 := [156, 0, 7, 3, 167, 0, 15, 29, 16, 9, 164, 0, 8, 16, 9, 167, 0, 4, 29, 79, 132, 2, 1]
abbrev dktX6_wets_1 : List UInt8 := dkwX6_wets_1 ++ dktX6_wets_2
def dkwX6_wets_0 : List UInt8 := [3, 61, 28, 16, 12, 162, 0, 44, 42, 180, 0, 46, 28, 46, 27, 96, 62, 42, 180, 0, 46, 28, 29]
abbrev dktX6_wets_0 : List UInt8 := dkwX6_wets_0 ++ dktX6_wets_1
theorem dksX6_wets_0 : cX6_wets.data.toList.drop 0 = dktX6_wets_0 := by decide +kernel
theorem dksX6_wets_1 : cX6_wets.data.toList.drop 23 = dktX6_wets_1 := dk_seg dksX6_wets_0 23 rfl rfl
theorem dksX6_wets_2 : cX6_wets.data.toList.drop 46 = dktX6_wets_2 := dk_seg dksX6_wets_1 23 rfl rfl
theorem dX6_wets_0 : decode cX6_wets 0 = .ok (.iconst 0, 1) := dk_3 (dk_at dksX6_wets_0 0 rfl rfl)
theorem dX6_wets_1 : decode cX6_wets 1 = .ok (.istore_n 2, 1) := dk_61 (dk_at dksX6_wets_0 1 rfl rfl)
theorem dX6_wets_2 : decode cX6_wets 2 = .ok (.iload_n 2, 1) := dk_28 (dk_at dksX6_wets_0 2 rfl rfl)
theorem dX6_wets_3 : decode cX6_wets 3 = .ok (.bipush 12, 2) := dk_16 12 (dk_at dksX6_wets_0 3 rfl rfl)
theorem dX6_wets_5 : decode cX6_wets 5 = .ok (.if_icmp .ge 44, 3) := dk_162 0 44 (dk_at dksX6_wets_0 5 rfl rfl)
theorem dX6_wets_8 : decode cX6_wets 8 = .ok (.aload_n 0, 1) := dk_42 (dk_at dksX6_wets_0 8 rfl rfl)
theorem dX6_wets_9 : decode cX6_wets 9 = .ok (.getfield 46, 3) := dk_180 0 46 (dk_at dksX6_wets_0 9 rfl rfl)
theorem dX6_wets_12 : decode cX6_wets 12 = .ok (.iload_n 2, 1) := dk_28 (dk_at dksX6_wets_0 12 rfl rfl)
theorem dX6_wets_13 : decode cX6_wets 13 = .ok (.iaload, 1) := dk_46 (dk_at dksX6_wets_0 13 rfl rfl)
theorem dX6_wets_14 : decode cX6_wets 14 = .ok (.iload_n 1, 1) := dk_27 (dk_at dksX6_wets_0 14 rfl rfl)
theorem dX6_wets_15 : decode cX6_wets 15 = .ok (.iadd, 1) := dk_96 (dk_at dksX6_wets_0 15 rfl rfl)
theorem dX6_wets_16 : decode cX6_wets 16 = .ok (.istore_n 3, 1) := dk_62 (dk_at dksX6_wets_0 16 rfl rfl)
theorem dX6_wets_17 : decode cX6_wets 17 = .ok (.aload_n 0, 1) := dk_42 (dk_at dksX6_wets_0 17 rfl rfl)
theorem dX6_wets_18 : decode cX6_wets 18 = .ok (.getfield 46, 3) := dk_180 0 46 (dk_at dksX6_wets_0 18 rfl rfl)
theorem dX6_wets_21 : decode cX6_wets 21 = .ok (.iload_n 2, 1) := dk_28 (dk_at dksX6_wets_0 21 rfl rfl)
theorem dX6_wets_22 : decode cX6_wets 22 = .ok (.iload_n 3, 1) := dk_29 (dk_at dksX6_wets_0 22 rfl rfl)
theorem dX6_wets_23 : decode cX6_wets 23 = .ok (.ifCond .ge 7, 3) := dk_156 0 7 (dk_at dksX6_wets_1 0 rfl rfl)
theorem dX6_wets_26 : decode cX6_wets 26 = .ok (.iconst 0, 1) := dk_3 (dk_at dksX6_wets_1 3 rfl rfl)
theorem dX6_wets_27 : decode cX6_wets 27 = .ok (.goto 15, 3) := dk_167 0 15 (dk_at dksX6_wets_1 4 rfl rfl)
theorem dX6_wets_30 : decode cX6_wets 30 = .ok (.iload_n 3, 1) := dk_29 (dk_at dksX6_wets_1 7 rfl rfl)
theorem dX6_wets_31 : decode cX6_wets 31 = .ok (.bipush 9, 2) := dk_16 9 (dk_at dksX6_wets_1 8 rfl rfl)
theorem dX6_wets_33 : decode cX6_wets 33 = .ok (.if_icmp .le 8, 3) := dk_164 0 8 (dk_at dksX6_wets_1 10 rfl rfl)
theorem dX6_wets_36 : decode cX6_wets 36 = .ok (.bipush 9, 2) := dk_16 9 (dk_at dksX6_wets_1 13 rfl rfl)
theorem dX6_wets_38 : decode cX6_wets 38 = .ok (.goto 4, 3) := dk_167 0 4 (dk_at dksX6_wets_1 15 rfl rfl)
theorem dX6_wets_41 : decode cX6_wets 41 = .ok (.iload_n 3, 1) := dk_29 (dk_at dksX6_wets_1 18 rfl rfl)
theorem dX6_wets_42 : decode cX6_wets 42 = .ok (.iastore, 1) := dk_79 (dk_at dksX6_wets_1 19 rfl rfl)
theorem dX6_wets_43 : decode cX6_wets 43 = .ok (.iinc 2 1, 3) := dk_132 2 1 (dk_at dksX6_wets_1 20 rfl rfl)
theorem dX6_wets_46 : decode cX6_wets 46 = .ok (.goto (-44), 3) := dk_167 255 212 (dk_at dksX6_wets_2 0 rfl rfl)
theorem dX6_wets_49 : decode cX6_wets 49 = .ok (.return_, 1) := dk_177 (dk_at dksX6_wets_2 3 rfl rfl)
abbrev cX6_walks : ByteArray := prog_13_method_38_code
def yX6_walks : MethodName := ⟨RX6, "walks", "(II)V"⟩
def dkwX6_walks_3 : List UInt8 := [167, 255, 222, 177]
abbrev dktX6_walks_3 : List UInt8 := dkwX6_walks_3 ++ []
def dkwX6_walks_2 : List UInt8 := [27, 46, 4, 160, 0, 24, 42, 27, 28, 182, 0, 198, 154, 0, 15, 42, 27, 28, 182, 0, 212, 132, 4, 1]
abbrev dktX6_walks_2 : List UInt8 := dkwX6_walks_2 ++ dktX6_walks_3
def dkwX6_walks_1 : List UInt8 := [5, 112, 154, 0, 7, 4, 167, 0, 4, 3, 62, 3, 54, 4, 21, 4, 29, 162, 0, 34, 42, 180, 0, 52]
abbrev dktX6_walks_1 : List UInt8 := dkwX6_walks_1 ++ dktX6_walks_2
def dkwX6_walks_0 : List UInt8 := [42, 180, 0, 19, 27, 46, 154, 0, 7, 5, 167, 0, 24, 42, 180, 0, 19, 27, 46, 4, 159, 0, 9, 28]
abbrev dktX6_walks_0 : List UInt8 := dkwX6_walks_0 ++ dktX6_walks_1
theorem dksX6_walks_0 : cX6_walks.data.toList.drop 0 = dktX6_walks_0 := by decide +kernel
theorem dksX6_walks_1 : cX6_walks.data.toList.drop 24 = dktX6_walks_1 := dk_seg dksX6_walks_0 24 rfl rfl
theorem dksX6_walks_2 : cX6_walks.data.toList.drop 48 = dktX6_walks_2 := dk_seg dksX6_walks_1 24 rfl rfl
theorem dksX6_walks_3 : cX6_walks.data.toList.drop 72 = dktX6_walks_3 := dk_seg dksX6_walks_2 24 rfl rfl
theorem dX6_walks_0 : decode cX6_walks 0 = .ok (.aload_n 0, 1) := dk_42 (dk_at dksX6_walks_0 0 rfl rfl)
theorem dX6_walks_1 : decode cX6_walks 1 = .ok (.getfield 19, 3) := dk_180 0 19 (dk_at dksX6_walks_0 1 rfl rfl)
theorem dX6_walks_4 : decode cX6_walks 4 = .ok (.iload_n 1, 1) := dk_27 (dk_at dksX6_walks_0 4 rfl rfl)
theorem dX6_walks_5 : decode cX6_walks 5 = .ok (.iaload, 1) := dk_46 (dk_at dksX6_walks_0 5 rfl rfl)
theorem dX6_walks_6 : decode cX6_walks 6 = .ok (.ifCond .ne 7, 3) := dk_154 0 7 (dk_at dksX6_walks_0 6 rfl rfl)
theorem dX6_walks_9 : decode cX6_walks 9 = .ok (.iconst 2, 1) := dk_5 (dk_at dksX6_walks_0 9 rfl rfl)
theorem dX6_walks_10 : decode cX6_walks 10 = .ok (.goto 24, 3) := dk_167 0 24 (dk_at dksX6_walks_0 10 rfl rfl)
theorem dX6_walks_13 : decode cX6_walks 13 = .ok (.aload_n 0, 1) := dk_42 (dk_at dksX6_walks_0 13 rfl rfl)
theorem dX6_walks_14 : decode cX6_walks 14 = .ok (.getfield 19, 3) := dk_180 0 19 (dk_at dksX6_walks_0 14 rfl rfl)
theorem dX6_walks_17 : decode cX6_walks 17 = .ok (.iload_n 1, 1) := dk_27 (dk_at dksX6_walks_0 17 rfl rfl)
theorem dX6_walks_18 : decode cX6_walks 18 = .ok (.iaload, 1) := dk_46 (dk_at dksX6_walks_0 18 rfl rfl)
theorem dX6_walks_19 : decode cX6_walks 19 = .ok (.iconst 1, 1) := dk_4 (dk_at dksX6_walks_0 19 rfl rfl)
theorem dX6_walks_20 : decode cX6_walks 20 = .ok (.if_icmp .eq 9, 3) := dk_159 0 9 (dk_at dksX6_walks_0 20 rfl rfl)
theorem dX6_walks_23 : decode cX6_walks 23 = .ok (.iload_n 2, 1) := dk_28 (dk_at dksX6_walks_0 23 rfl rfl)
theorem dX6_walks_24 : decode cX6_walks 24 = .ok (.iconst 2, 1) := dk_5 (dk_at dksX6_walks_1 0 rfl rfl)
theorem dX6_walks_25 : decode cX6_walks 25 = .ok (.irem, 1) := dk_112 (dk_at dksX6_walks_1 1 rfl rfl)
theorem dX6_walks_26 : decode cX6_walks 26 = .ok (.ifCond .ne 7, 3) := dk_154 0 7 (dk_at dksX6_walks_1 2 rfl rfl)
theorem dX6_walks_29 : decode cX6_walks 29 = .ok (.iconst 1, 1) := dk_4 (dk_at dksX6_walks_1 5 rfl rfl)
theorem dX6_walks_30 : decode cX6_walks 30 = .ok (.goto 4, 3) := dk_167 0 4 (dk_at dksX6_walks_1 6 rfl rfl)
theorem dX6_walks_33 : decode cX6_walks 33 = .ok (.iconst 0, 1) := dk_3 (dk_at dksX6_walks_1 9 rfl rfl)
theorem dX6_walks_34 : decode cX6_walks 34 = .ok (.istore_n 3, 1) := dk_62 (dk_at dksX6_walks_1 10 rfl rfl)
theorem dX6_walks_35 : decode cX6_walks 35 = .ok (.iconst 0, 1) := dk_3 (dk_at dksX6_walks_1 11 rfl rfl)
theorem dX6_walks_36 : decode cX6_walks 36 = .ok (.istore 4, 2) := dk_54 4 (dk_at dksX6_walks_1 12 rfl rfl)
theorem dX6_walks_38 : decode cX6_walks 38 = .ok (.iload 4, 2) := dk_21 4 (dk_at dksX6_walks_1 14 rfl rfl)
theorem dX6_walks_40 : decode cX6_walks 40 = .ok (.iload_n 3, 1) := dk_29 (dk_at dksX6_walks_1 16 rfl rfl)
theorem dX6_walks_41 : decode cX6_walks 41 = .ok (.if_icmp .ge 34, 3) := dk_162 0 34 (dk_at dksX6_walks_1 17 rfl rfl)
theorem dX6_walks_44 : decode cX6_walks 44 = .ok (.aload_n 0, 1) := dk_42 (dk_at dksX6_walks_1 20 rfl rfl)
theorem dX6_walks_45 : decode cX6_walks 45 = .ok (.getfield 52, 3) := dk_180 0 52 (dk_at dksX6_walks_1 21 rfl rfl)
theorem dX6_walks_48 : decode cX6_walks 48 = .ok (.iload_n 1, 1) := dk_27 (dk_at dksX6_walks_2 0 rfl rfl)
theorem dX6_walks_49 : decode cX6_walks 49 = .ok (.iaload, 1) := dk_46 (dk_at dksX6_walks_2 1 rfl rfl)
theorem dX6_walks_50 : decode cX6_walks 50 = .ok (.iconst 1, 1) := dk_4 (dk_at dksX6_walks_2 2 rfl rfl)
theorem dX6_walks_51 : decode cX6_walks 51 = .ok (.if_icmp .ne 24, 3) := dk_160 0 24 (dk_at dksX6_walks_2 3 rfl rfl)
theorem dX6_walks_54 : decode cX6_walks 54 = .ok (.aload_n 0, 1) := dk_42 (dk_at dksX6_walks_2 6 rfl rfl)
theorem dX6_walks_55 : decode cX6_walks 55 = .ok (.iload_n 1, 1) := dk_27 (dk_at dksX6_walks_2 7 rfl rfl)
theorem dX6_walks_56 : decode cX6_walks 56 = .ok (.iload_n 2, 1) := dk_28 (dk_at dksX6_walks_2 8 rfl rfl)
theorem dX6_walks_57 : decode cX6_walks 57 = .ok (.invokevirtual 198, 3) := dk_182 0 198 (dk_at dksX6_walks_2 9 rfl rfl)
theorem dX6_walks_60 : decode cX6_walks 60 = .ok (.ifCond .ne 15, 3) := dk_154 0 15 (dk_at dksX6_walks_2 12 rfl rfl)
theorem dX6_walks_63 : decode cX6_walks 63 = .ok (.aload_n 0, 1) := dk_42 (dk_at dksX6_walks_2 15 rfl rfl)
theorem dX6_walks_64 : decode cX6_walks 64 = .ok (.iload_n 1, 1) := dk_27 (dk_at dksX6_walks_2 16 rfl rfl)
theorem dX6_walks_65 : decode cX6_walks 65 = .ok (.iload_n 2, 1) := dk_28 (dk_at dksX6_walks_2 17 rfl rfl)
theorem dX6_walks_66 : decode cX6_walks 66 = .ok (.invokevirtual 212, 3) := dk_182 0 212 (dk_at dksX6_walks_2 18 rfl rfl)
theorem dX6_walks_69 : decode cX6_walks 69 = .ok (.iinc 4 1, 3) := dk_132 4 1 (dk_at dksX6_walks_2 21 rfl rfl)
theorem dX6_walks_72 : decode cX6_walks 72 = .ok (.goto (-34), 3) := dk_167 255 222 (dk_at dksX6_walks_3 0 rfl rfl)
theorem dX6_walks_75 : decode cX6_walks 75 = .ok (.return_, 1) := dk_177 (dk_at dksX6_walks_3 3 rfl rfl)
abbrev cX6_isRolled : ByteArray := prog_13_method_34_code
def yX6_isRolled : MethodName := ⟨RX6, "isRolled", "(II)Z"⟩
def dkwX6_isRolled_0 : List UInt8 := [28, 42, 180, 0, 55, 27, 46, 162, 0, 7, 4, 167, 0, 4, 3, 172]
abbrev dktX6_isRolled_0 : List UInt8 := dkwX6_isRolled_0 ++ []
theorem dksX6_isRolled_0 : cX6_isRolled.data.toList.drop 0 = dktX6_isRolled_0 := by decide +kernel
theorem dX6_isRolled_0 : decode cX6_isRolled 0 = .ok (.iload_n 2, 1) := dk_28 (dk_at dksX6_isRolled_0 0 rfl rfl)
theorem dX6_isRolled_1 : decode cX6_isRolled 1 = .ok (.aload_n 0, 1) := dk_42 (dk_at dksX6_isRolled_0 1 rfl rfl)
theorem dX6_isRolled_2 : decode cX6_isRolled 2 = .ok (.getfield 55, 3) := dk_180 0 55 (dk_at dksX6_isRolled_0 2 rfl rfl)
theorem dX6_isRolled_5 : decode cX6_isRolled 5 = .ok (.iload_n 1, 1) := dk_27 (dk_at dksX6_isRolled_0 5 rfl rfl)
theorem dX6_isRolled_6 : decode cX6_isRolled 6 = .ok (.iaload, 1) := dk_46 (dk_at dksX6_isRolled_0 6 rfl rfl)
theorem dX6_isRolled_7 : decode cX6_isRolled 7 = .ok (.if_icmp .ge 7, 3) := dk_162 0 7 (dk_at dksX6_isRolled_0 7 rfl rfl)
theorem dX6_isRolled_10 : decode cX6_isRolled 10 = .ok (.iconst 1, 1) := dk_4 (dk_at dksX6_isRolled_0 10 rfl rfl)
theorem dX6_isRolled_11 : decode cX6_isRolled 11 = .ok (.goto 4, 3) := dk_167 0 4 (dk_at dksX6_isRolled_0 11 rfl rfl)
theorem dX6_isRolled_14 : decode cX6_isRolled 14 = .ok (.iconst 0, 1) := dk_3 (dk_at dksX6_isRolled_0 14 rfl rfl)
theorem dX6_isRolled_15 : decode cX6_isRolled 15 = .ok (.ireturn, 1) := dk_172 (dk_at dksX6_isRolled_0 15 rfl rfl)
abbrev cX6_steps : ByteArray := prog_13_method_37_code
def yX6_steps : MethodName := ⟨RX6, "steps", "(II)V"⟩
def dkwX6_steps_4 : List UInt8 := [28, 182, 0, 208, 177]
abbrev dktX6_steps_4 : List UInt8 := dkwX6_steps_4 ++ []
def dkwX6_steps_3 : List UInt8 := [161, 0, 7, 2, 167, 0, 4, 4, 96, 79, 42, 89, 180, 0, 205, 4, 27, 120, 128, 181, 0, 205, 42, 27]
abbrev dktX6_steps_3 : List UInt8 := dkwX6_steps_3 ++ dktX6_steps_4
def dkwX6_steps_2 : List UInt8 := [180, 0, 46, 42, 180, 0, 49, 27, 46, 46, 164, 0, 41, 42, 180, 0, 49, 27, 92, 46, 29, 21, 4]
abbrev dktX6_steps_2 : List UInt8 := dkwX6_steps_2 ++ dktX6_steps_3
def dkwX6_steps_1 : List UInt8 := [182, 0, 202, 54, 4, 29, 21, 4, 161, 0, 7, 29, 167, 0, 5, 21, 4, 54, 5, 21, 5, 42]
abbrev dktX6_steps_1 : List UInt8 := dkwX6_steps_1 ++ dktX6_steps_2
def dkwX6_steps_0 : List UInt8 := [42, 42, 180, 0, 49, 27, 46, 4, 100, 182, 0, 202, 62, 42, 42, 180, 0, 49, 27, 46, 4, 96]
abbrev dktX6_steps_0 : List UInt8 := dkwX6_steps_0 ++ dktX6_steps_1
theorem dksX6_steps_0 : cX6_steps.data.toList.drop 0 = dktX6_steps_0 := by decide +kernel
theorem dksX6_steps_1 : cX6_steps.data.toList.drop 22 = dktX6_steps_1 := dk_seg dksX6_steps_0 22 rfl rfl
theorem dksX6_steps_2 : cX6_steps.data.toList.drop 44 = dktX6_steps_2 := dk_seg dksX6_steps_1 22 rfl rfl
theorem dksX6_steps_3 : cX6_steps.data.toList.drop 67 = dktX6_steps_3 := dk_seg dksX6_steps_2 23 rfl rfl
theorem dksX6_steps_4 : cX6_steps.data.toList.drop 91 = dktX6_steps_4 := dk_seg dksX6_steps_3 24 rfl rfl
theorem dX6_steps_0 : decode cX6_steps 0 = .ok (.aload_n 0, 1) := dk_42 (dk_at dksX6_steps_0 0 rfl rfl)
theorem dX6_steps_1 : decode cX6_steps 1 = .ok (.aload_n 0, 1) := dk_42 (dk_at dksX6_steps_0 1 rfl rfl)
theorem dX6_steps_2 : decode cX6_steps 2 = .ok (.getfield 49, 3) := dk_180 0 49 (dk_at dksX6_steps_0 2 rfl rfl)
theorem dX6_steps_5 : decode cX6_steps 5 = .ok (.iload_n 1, 1) := dk_27 (dk_at dksX6_steps_0 5 rfl rfl)
theorem dX6_steps_6 : decode cX6_steps 6 = .ok (.iaload, 1) := dk_46 (dk_at dksX6_steps_0 6 rfl rfl)
theorem dX6_steps_7 : decode cX6_steps 7 = .ok (.iconst 1, 1) := dk_4 (dk_at dksX6_steps_0 7 rfl rfl)
theorem dX6_steps_8 : decode cX6_steps 8 = .ok (.isub, 1) := dk_100 (dk_at dksX6_steps_0 8 rfl rfl)
theorem dX6_steps_9 : decode cX6_steps 9 = .ok (.invokevirtual 202, 3) := dk_182 0 202 (dk_at dksX6_steps_0 9 rfl rfl)
theorem dX6_steps_12 : decode cX6_steps 12 = .ok (.istore_n 3, 1) := dk_62 (dk_at dksX6_steps_0 12 rfl rfl)
theorem dX6_steps_13 : decode cX6_steps 13 = .ok (.aload_n 0, 1) := dk_42 (dk_at dksX6_steps_0 13 rfl rfl)
theorem dX6_steps_14 : decode cX6_steps 14 = .ok (.aload_n 0, 1) := dk_42 (dk_at dksX6_steps_0 14 rfl rfl)
theorem dX6_steps_15 : decode cX6_steps 15 = .ok (.getfield 49, 3) := dk_180 0 49 (dk_at dksX6_steps_0 15 rfl rfl)
theorem dX6_steps_18 : decode cX6_steps 18 = .ok (.iload_n 1, 1) := dk_27 (dk_at dksX6_steps_0 18 rfl rfl)
theorem dX6_steps_19 : decode cX6_steps 19 = .ok (.iaload, 1) := dk_46 (dk_at dksX6_steps_0 19 rfl rfl)
theorem dX6_steps_20 : decode cX6_steps 20 = .ok (.iconst 1, 1) := dk_4 (dk_at dksX6_steps_0 20 rfl rfl)
theorem dX6_steps_21 : decode cX6_steps 21 = .ok (.iadd, 1) := dk_96 (dk_at dksX6_steps_0 21 rfl rfl)
theorem dX6_steps_22 : decode cX6_steps 22 = .ok (.invokevirtual 202, 3) := dk_182 0 202 (dk_at dksX6_steps_1 0 rfl rfl)
theorem dX6_steps_25 : decode cX6_steps 25 = .ok (.istore 4, 2) := dk_54 4 (dk_at dksX6_steps_1 3 rfl rfl)
theorem dX6_steps_27 : decode cX6_steps 27 = .ok (.iload_n 3, 1) := dk_29 (dk_at dksX6_steps_1 5 rfl rfl)
theorem dX6_steps_28 : decode cX6_steps 28 = .ok (.iload 4, 2) := dk_21 4 (dk_at dksX6_steps_1 6 rfl rfl)
theorem dX6_steps_30 : decode cX6_steps 30 = .ok (.if_icmp .lt 7, 3) := dk_161 0 7 (dk_at dksX6_steps_1 8 rfl rfl)
theorem dX6_steps_33 : decode cX6_steps 33 = .ok (.iload_n 3, 1) := dk_29 (dk_at dksX6_steps_1 11 rfl rfl)
theorem dX6_steps_34 : decode cX6_steps 34 = .ok (.goto 5, 3) := dk_167 0 5 (dk_at dksX6_steps_1 12 rfl rfl)
theorem dX6_steps_37 : decode cX6_steps 37 = .ok (.iload 4, 2) := dk_21 4 (dk_at dksX6_steps_1 15 rfl rfl)
theorem dX6_steps_39 : decode cX6_steps 39 = .ok (.istore 5, 2) := dk_54 5 (dk_at dksX6_steps_1 17 rfl rfl)
theorem dX6_steps_41 : decode cX6_steps 41 = .ok (.iload 5, 2) := dk_21 5 (dk_at dksX6_steps_1 19 rfl rfl)
theorem dX6_steps_43 : decode cX6_steps 43 = .ok (.aload_n 0, 1) := dk_42 (dk_at dksX6_steps_1 21 rfl rfl)
theorem dX6_steps_44 : decode cX6_steps 44 = .ok (.getfield 46, 3) := dk_180 0 46 (dk_at dksX6_steps_2 0 rfl rfl)
theorem dX6_steps_47 : decode cX6_steps 47 = .ok (.aload_n 0, 1) := dk_42 (dk_at dksX6_steps_2 3 rfl rfl)
theorem dX6_steps_48 : decode cX6_steps 48 = .ok (.getfield 49, 3) := dk_180 0 49 (dk_at dksX6_steps_2 4 rfl rfl)
theorem dX6_steps_51 : decode cX6_steps 51 = .ok (.iload_n 1, 1) := dk_27 (dk_at dksX6_steps_2 7 rfl rfl)
theorem dX6_steps_52 : decode cX6_steps 52 = .ok (.iaload, 1) := dk_46 (dk_at dksX6_steps_2 8 rfl rfl)
theorem dX6_steps_53 : decode cX6_steps 53 = .ok (.iaload, 1) := dk_46 (dk_at dksX6_steps_2 9 rfl rfl)
theorem dX6_steps_54 : decode cX6_steps 54 = .ok (.if_icmp .le 41, 3) := dk_164 0 41 (dk_at dksX6_steps_2 10 rfl rfl)
theorem dX6_steps_57 : decode cX6_steps 57 = .ok (.aload_n 0, 1) := dk_42 (dk_at dksX6_steps_2 13 rfl rfl)
theorem dX6_steps_58 : decode cX6_steps 58 = .ok (.getfield 49, 3) := dk_180 0 49 (dk_at dksX6_steps_2 14 rfl rfl)
theorem dX6_steps_61 : decode cX6_steps 61 = .ok (.iload_n 1, 1) := dk_27 (dk_at dksX6_steps_2 17 rfl rfl)
theorem dX6_steps_62 : decode cX6_steps 62 = .ok (.dup2, 1) := dk_92 (dk_at dksX6_steps_2 18 rfl rfl)
theorem dX6_steps_63 : decode cX6_steps 63 = .ok (.iaload, 1) := dk_46 (dk_at dksX6_steps_2 19 rfl rfl)
theorem dX6_steps_64 : decode cX6_steps 64 = .ok (.iload_n 3, 1) := dk_29 (dk_at dksX6_steps_2 20 rfl rfl)
theorem dX6_steps_65 : decode cX6_steps 65 = .ok (.iload 4, 2) := dk_21 4 (dk_at dksX6_steps_2 21 rfl rfl)
theorem dX6_steps_67 : decode cX6_steps 67 = .ok (.if_icmp .lt 7, 3) := dk_161 0 7 (dk_at dksX6_steps_3 0 rfl rfl)
theorem dX6_steps_70 : decode cX6_steps 70 = .ok (.iconst (-1), 1) := dk_2 (dk_at dksX6_steps_3 3 rfl rfl)
theorem dX6_steps_71 : decode cX6_steps 71 = .ok (.goto 4, 3) := dk_167 0 4 (dk_at dksX6_steps_3 4 rfl rfl)
theorem dX6_steps_74 : decode cX6_steps 74 = .ok (.iconst 1, 1) := dk_4 (dk_at dksX6_steps_3 7 rfl rfl)
theorem dX6_steps_75 : decode cX6_steps 75 = .ok (.iadd, 1) := dk_96 (dk_at dksX6_steps_3 8 rfl rfl)
theorem dX6_steps_76 : decode cX6_steps 76 = .ok (.iastore, 1) := dk_79 (dk_at dksX6_steps_3 9 rfl rfl)
theorem dX6_steps_77 : decode cX6_steps 77 = .ok (.aload_n 0, 1) := dk_42 (dk_at dksX6_steps_3 10 rfl rfl)
theorem dX6_steps_78 : decode cX6_steps 78 = .ok (.dup, 1) := dk_89 (dk_at dksX6_steps_3 11 rfl rfl)
theorem dX6_steps_79 : decode cX6_steps 79 = .ok (.getfield 205, 3) := dk_180 0 205 (dk_at dksX6_steps_3 12 rfl rfl)
theorem dX6_steps_82 : decode cX6_steps 82 = .ok (.iconst 1, 1) := dk_4 (dk_at dksX6_steps_3 15 rfl rfl)
theorem dX6_steps_83 : decode cX6_steps 83 = .ok (.iload_n 1, 1) := dk_27 (dk_at dksX6_steps_3 16 rfl rfl)
theorem dX6_steps_84 : decode cX6_steps 84 = .ok (.ishl, 1) := dk_120 (dk_at dksX6_steps_3 17 rfl rfl)
theorem dX6_steps_85 : decode cX6_steps 85 = .ok (.ior, 1) := dk_128 (dk_at dksX6_steps_3 18 rfl rfl)
theorem dX6_steps_86 : decode cX6_steps 86 = .ok (.putfield 205, 3) := dk_181 0 205 (dk_at dksX6_steps_3 19 rfl rfl)
theorem dX6_steps_89 : decode cX6_steps 89 = .ok (.aload_n 0, 1) := dk_42 (dk_at dksX6_steps_3 22 rfl rfl)
theorem dX6_steps_90 : decode cX6_steps 90 = .ok (.iload_n 1, 1) := dk_27 (dk_at dksX6_steps_3 23 rfl rfl)
theorem dX6_steps_91 : decode cX6_steps 91 = .ok (.iload_n 2, 1) := dk_28 (dk_at dksX6_steps_4 0 rfl rfl)
theorem dX6_steps_92 : decode cX6_steps 92 = .ok (.invokevirtual 208, 3) := dk_182 0 208 (dk_at dksX6_steps_4 1 rfl rfl)
theorem dX6_steps_95 : decode cX6_steps 95 = .ok (.return_, 1) := dk_177 (dk_at dksX6_steps_4 4 rfl rfl)
abbrev cX6_dampNow : ByteArray := prog_13_method_35_code
def yX6_dampNow : MethodName := ⟨RX6, "dampNow", "(I)I"⟩
def dkwX6_dampNow_0 : List UInt8 := [27, 184, 0, 154, 153, 0, 12, 42, 180, 0, 46, 27, 46, 167, 0, 4, 2, 172]
abbrev dktX6_dampNow_0 : List UInt8 := dkwX6_dampNow_0 ++ []
theorem dksX6_dampNow_0 : cX6_dampNow.data.toList.drop 0 = dktX6_dampNow_0 := by decide +kernel
theorem dX6_dampNow_0 : decode cX6_dampNow 0 = .ok (.iload_n 1, 1) := dk_27 (dk_at dksX6_dampNow_0 0 rfl rfl)
theorem dX6_dampNow_1 : decode cX6_dampNow 1 = .ok (.invokestatic 154, 3) := dk_184 0 154 (dk_at dksX6_dampNow_0 1 rfl rfl)
theorem dX6_dampNow_4 : decode cX6_dampNow 4 = .ok (.ifCond .eq 12, 3) := dk_153 0 12 (dk_at dksX6_dampNow_0 4 rfl rfl)
theorem dX6_dampNow_7 : decode cX6_dampNow 7 = .ok (.aload_n 0, 1) := dk_42 (dk_at dksX6_dampNow_0 7 rfl rfl)
theorem dX6_dampNow_8 : decode cX6_dampNow 8 = .ok (.getfield 46, 3) := dk_180 0 46 (dk_at dksX6_dampNow_0 8 rfl rfl)
theorem dX6_dampNow_11 : decode cX6_dampNow 11 = .ok (.iload_n 1, 1) := dk_27 (dk_at dksX6_dampNow_0 11 rfl rfl)
theorem dX6_dampNow_12 : decode cX6_dampNow 12 = .ok (.iaload, 1) := dk_46 (dk_at dksX6_dampNow_0 12 rfl rfl)
theorem dX6_dampNow_13 : decode cX6_dampNow 13 = .ok (.goto 4, 3) := dk_167 0 4 (dk_at dksX6_dampNow_0 13 rfl rfl)
theorem dX6_dampNow_16 : decode cX6_dampNow 16 = .ok (.iconst (-1), 1) := dk_2 (dk_at dksX6_dampNow_0 16 rfl rfl)
theorem dX6_dampNow_17 : decode cX6_dampNow 17 = .ok (.ireturn, 1) := dk_172 (dk_at dksX6_dampNow_0 17 rfl rfl)
abbrev cX6_passesOver : ByteArray := prog_13_method_36_code
def yX6_passesOver : MethodName := ⟨RX6, "passesOver", "(II)V"⟩
def dkwX6_passesOver_3 : List UInt8 := [180, 0, 52, 29, 4, 42, 180, 0, 52, 29, 46, 100, 79, 42, 180, 0, 58, 27, 92, 46, 4, 96, 79, 177]
abbrev dktX6_passesOver_3 : List UInt8 := dkwX6_passesOver_3 ++ []
def dkwX6_passesOver_2 : List UInt8 := [154, 0, 8, 21, 4, 167, 0, 4, 29, 62, 132, 4, 255, 167, 255, 209, 29, 2, 159, 0, 27, 42]
abbrev dktX6_passesOver_2 : List UInt8 := dkwX6_passesOver_2 ++ dktX6_passesOver_3
def dkwX6_passesOver_1 : List UInt8 := [180, 0, 49, 21, 4, 46, 42, 180, 0, 49, 27, 46, 160, 0, 18, 42, 21, 4, 28, 182, 0, 198]
abbrev dktX6_passesOver_1 : List UInt8 := dkwX6_passesOver_1 ++ dktX6_passesOver_2
def dkwX6_passesOver_0 : List UInt8 := [2, 62, 42, 180, 0, 134, 4, 100, 54, 4, 21, 4, 155, 0, 48, 21, 4, 27, 159, 0, 34, 42]
abbrev dktX6_passesOver_0 : List UInt8 := dkwX6_passesOver_0 ++ dktX6_passesOver_1
theorem dksX6_passesOver_0 : cX6_passesOver.data.toList.drop 0 = dktX6_passesOver_0 := by decide +kernel
theorem dksX6_passesOver_1 : cX6_passesOver.data.toList.drop 22 = dktX6_passesOver_1 := dk_seg dksX6_passesOver_0 22 rfl rfl
theorem dksX6_passesOver_2 : cX6_passesOver.data.toList.drop 44 = dktX6_passesOver_2 := dk_seg dksX6_passesOver_1 22 rfl rfl
theorem dksX6_passesOver_3 : cX6_passesOver.data.toList.drop 66 = dktX6_passesOver_3 := dk_seg dksX6_passesOver_2 22 rfl rfl
theorem dX6_passesOver_0 : decode cX6_passesOver 0 = .ok (.iconst (-1), 1) := dk_2 (dk_at dksX6_passesOver_0 0 rfl rfl)
theorem dX6_passesOver_1 : decode cX6_passesOver 1 = .ok (.istore_n 3, 1) := dk_62 (dk_at dksX6_passesOver_0 1 rfl rfl)
theorem dX6_passesOver_2 : decode cX6_passesOver 2 = .ok (.aload_n 0, 1) := dk_42 (dk_at dksX6_passesOver_0 2 rfl rfl)
theorem dX6_passesOver_3 : decode cX6_passesOver 3 = .ok (.getfield 134, 3) := dk_180 0 134 (dk_at dksX6_passesOver_0 3 rfl rfl)
theorem dX6_passesOver_6 : decode cX6_passesOver 6 = .ok (.iconst 1, 1) := dk_4 (dk_at dksX6_passesOver_0 6 rfl rfl)
theorem dX6_passesOver_7 : decode cX6_passesOver 7 = .ok (.isub, 1) := dk_100 (dk_at dksX6_passesOver_0 7 rfl rfl)
theorem dX6_passesOver_8 : decode cX6_passesOver 8 = .ok (.istore 4, 2) := dk_54 4 (dk_at dksX6_passesOver_0 8 rfl rfl)
theorem dX6_passesOver_10 : decode cX6_passesOver 10 = .ok (.iload 4, 2) := dk_21 4 (dk_at dksX6_passesOver_0 10 rfl rfl)
theorem dX6_passesOver_12 : decode cX6_passesOver 12 = .ok (.ifCond .lt 48, 3) := dk_155 0 48 (dk_at dksX6_passesOver_0 12 rfl rfl)
theorem dX6_passesOver_15 : decode cX6_passesOver 15 = .ok (.iload 4, 2) := dk_21 4 (dk_at dksX6_passesOver_0 15 rfl rfl)
theorem dX6_passesOver_17 : decode cX6_passesOver 17 = .ok (.iload_n 1, 1) := dk_27 (dk_at dksX6_passesOver_0 17 rfl rfl)
theorem dX6_passesOver_18 : decode cX6_passesOver 18 = .ok (.if_icmp .eq 34, 3) := dk_159 0 34 (dk_at dksX6_passesOver_0 18 rfl rfl)
theorem dX6_passesOver_21 : decode cX6_passesOver 21 = .ok (.aload_n 0, 1) := dk_42 (dk_at dksX6_passesOver_0 21 rfl rfl)
theorem dX6_passesOver_22 : decode cX6_passesOver 22 = .ok (.getfield 49, 3) := dk_180 0 49 (dk_at dksX6_passesOver_1 0 rfl rfl)
theorem dX6_passesOver_25 : decode cX6_passesOver 25 = .ok (.iload 4, 2) := dk_21 4 (dk_at dksX6_passesOver_1 3 rfl rfl)
theorem dX6_passesOver_27 : decode cX6_passesOver 27 = .ok (.iaload, 1) := dk_46 (dk_at dksX6_passesOver_1 5 rfl rfl)
theorem dX6_passesOver_28 : decode cX6_passesOver 28 = .ok (.aload_n 0, 1) := dk_42 (dk_at dksX6_passesOver_1 6 rfl rfl)
theorem dX6_passesOver_29 : decode cX6_passesOver 29 = .ok (.getfield 49, 3) := dk_180 0 49 (dk_at dksX6_passesOver_1 7 rfl rfl)
theorem dX6_passesOver_32 : decode cX6_passesOver 32 = .ok (.iload_n 1, 1) := dk_27 (dk_at dksX6_passesOver_1 10 rfl rfl)
theorem dX6_passesOver_33 : decode cX6_passesOver 33 = .ok (.iaload, 1) := dk_46 (dk_at dksX6_passesOver_1 11 rfl rfl)
theorem dX6_passesOver_34 : decode cX6_passesOver 34 = .ok (.if_icmp .ne 18, 3) := dk_160 0 18 (dk_at dksX6_passesOver_1 12 rfl rfl)
theorem dX6_passesOver_37 : decode cX6_passesOver 37 = .ok (.aload_n 0, 1) := dk_42 (dk_at dksX6_passesOver_1 15 rfl rfl)
theorem dX6_passesOver_38 : decode cX6_passesOver 38 = .ok (.iload 4, 2) := dk_21 4 (dk_at dksX6_passesOver_1 16 rfl rfl)
theorem dX6_passesOver_40 : decode cX6_passesOver 40 = .ok (.iload_n 2, 1) := dk_28 (dk_at dksX6_passesOver_1 18 rfl rfl)
theorem dX6_passesOver_41 : decode cX6_passesOver 41 = .ok (.invokevirtual 198, 3) := dk_182 0 198 (dk_at dksX6_passesOver_1 19 rfl rfl)
theorem dX6_passesOver_44 : decode cX6_passesOver 44 = .ok (.ifCond .ne 8, 3) := dk_154 0 8 (dk_at dksX6_passesOver_2 0 rfl rfl)
theorem dX6_passesOver_47 : decode cX6_passesOver 47 = .ok (.iload 4, 2) := dk_21 4 (dk_at dksX6_passesOver_2 3 rfl rfl)
theorem dX6_passesOver_49 : decode cX6_passesOver 49 = .ok (.goto 4, 3) := dk_167 0 4 (dk_at dksX6_passesOver_2 5 rfl rfl)
theorem dX6_passesOver_52 : decode cX6_passesOver 52 = .ok (.iload_n 3, 1) := dk_29 (dk_at dksX6_passesOver_2 8 rfl rfl)
theorem dX6_passesOver_53 : decode cX6_passesOver 53 = .ok (.istore_n 3, 1) := dk_62 (dk_at dksX6_passesOver_2 9 rfl rfl)
theorem dX6_passesOver_54 : decode cX6_passesOver 54 = .ok (.iinc 4 (-1), 3) := dk_132 4 255 (dk_at dksX6_passesOver_2 10 rfl rfl)
theorem dX6_passesOver_57 : decode cX6_passesOver 57 = .ok (.goto (-47), 3) := dk_167 255 209 (dk_at dksX6_passesOver_2 13 rfl rfl)
theorem dX6_passesOver_60 : decode cX6_passesOver 60 = .ok (.iload_n 3, 1) := dk_29 (dk_at dksX6_passesOver_2 16 rfl rfl)
theorem dX6_passesOver_61 : decode cX6_passesOver 61 = .ok (.iconst (-1), 1) := dk_2 (dk_at dksX6_passesOver_2 17 rfl rfl)
theorem dX6_passesOver_62 : decode cX6_passesOver 62 = .ok (.if_icmp .eq 27, 3) := dk_159 0 27 (dk_at dksX6_passesOver_2 18 rfl rfl)
theorem dX6_passesOver_65 : decode cX6_passesOver 65 = .ok (.aload_n 0, 1) := dk_42 (dk_at dksX6_passesOver_2 21 rfl rfl)
theorem dX6_passesOver_66 : decode cX6_passesOver 66 = .ok (.getfield 52, 3) := dk_180 0 52 (dk_at dksX6_passesOver_3 0 rfl rfl)
theorem dX6_passesOver_69 : decode cX6_passesOver 69 = .ok (.iload_n 3, 1) := dk_29 (dk_at dksX6_passesOver_3 3 rfl rfl)
theorem dX6_passesOver_70 : decode cX6_passesOver 70 = .ok (.iconst 1, 1) := dk_4 (dk_at dksX6_passesOver_3 4 rfl rfl)
theorem dX6_passesOver_71 : decode cX6_passesOver 71 = .ok (.aload_n 0, 1) := dk_42 (dk_at dksX6_passesOver_3 5 rfl rfl)
theorem dX6_passesOver_72 : decode cX6_passesOver 72 = .ok (.getfield 52, 3) := dk_180 0 52 (dk_at dksX6_passesOver_3 6 rfl rfl)
theorem dX6_passesOver_75 : decode cX6_passesOver 75 = .ok (.iload_n 3, 1) := dk_29 (dk_at dksX6_passesOver_3 9 rfl rfl)
theorem dX6_passesOver_76 : decode cX6_passesOver 76 = .ok (.iaload, 1) := dk_46 (dk_at dksX6_passesOver_3 10 rfl rfl)
theorem dX6_passesOver_77 : decode cX6_passesOver 77 = .ok (.isub, 1) := dk_100 (dk_at dksX6_passesOver_3 11 rfl rfl)
theorem dX6_passesOver_78 : decode cX6_passesOver 78 = .ok (.iastore, 1) := dk_79 (dk_at dksX6_passesOver_3 12 rfl rfl)
theorem dX6_passesOver_79 : decode cX6_passesOver 79 = .ok (.aload_n 0, 1) := dk_42 (dk_at dksX6_passesOver_3 13 rfl rfl)
theorem dX6_passesOver_80 : decode cX6_passesOver 80 = .ok (.getfield 58, 3) := dk_180 0 58 (dk_at dksX6_passesOver_3 14 rfl rfl)
theorem dX6_passesOver_83 : decode cX6_passesOver 83 = .ok (.iload_n 1, 1) := dk_27 (dk_at dksX6_passesOver_3 17 rfl rfl)
theorem dX6_passesOver_84 : decode cX6_passesOver 84 = .ok (.dup2, 1) := dk_92 (dk_at dksX6_passesOver_3 18 rfl rfl)
theorem dX6_passesOver_85 : decode cX6_passesOver 85 = .ok (.iaload, 1) := dk_46 (dk_at dksX6_passesOver_3 19 rfl rfl)
theorem dX6_passesOver_86 : decode cX6_passesOver 86 = .ok (.iconst 1, 1) := dk_4 (dk_at dksX6_passesOver_3 20 rfl rfl)
theorem dX6_passesOver_87 : decode cX6_passesOver 87 = .ok (.iadd, 1) := dk_96 (dk_at dksX6_passesOver_3 21 rfl rfl)
theorem dX6_passesOver_88 : decode cX6_passesOver 88 = .ok (.iastore, 1) := dk_79 (dk_at dksX6_passesOver_3 22 rfl rfl)
theorem dX6_passesOver_89 : decode cX6_passesOver 89 = .ok (.return_, 1) := dk_177 (dk_at dksX6_passesOver_3 23 rfl rfl)
abbrev cX6_manyAt : ByteArray := prog_13_method_39_code
def yX6_manyAt : MethodName := ⟨RX6, "manyAt", "(II)I"⟩
def dkwX6_manyAt_1 : List UInt8 := [21, 4, 96, 46, 28, 160, 0, 7, 4, 167, 0, 4, 3, 96, 62, 132, 4, 1, 167, 255, 220, 29, 172]
abbrev dktX6_manyAt_1 : List UInt8 := dkwX6_manyAt_1 ++ []
def dkwX6_manyAt_0 : List UInt8 := [3, 62, 3, 54, 4, 21, 4, 42, 180, 0, 134, 162, 0, 33, 29, 42, 180, 0, 64, 16, 8, 27, 104]
abbrev dktX6_manyAt_0 : List UInt8 := dkwX6_manyAt_0 ++ dktX6_manyAt_1
theorem dksX6_manyAt_0 : cX6_manyAt.data.toList.drop 0 = dktX6_manyAt_0 := by decide +kernel
theorem dksX6_manyAt_1 : cX6_manyAt.data.toList.drop 23 = dktX6_manyAt_1 := dk_seg dksX6_manyAt_0 23 rfl rfl
theorem dX6_manyAt_0 : decode cX6_manyAt 0 = .ok (.iconst 0, 1) := dk_3 (dk_at dksX6_manyAt_0 0 rfl rfl)
theorem dX6_manyAt_1 : decode cX6_manyAt 1 = .ok (.istore_n 3, 1) := dk_62 (dk_at dksX6_manyAt_0 1 rfl rfl)
theorem dX6_manyAt_2 : decode cX6_manyAt 2 = .ok (.iconst 0, 1) := dk_3 (dk_at dksX6_manyAt_0 2 rfl rfl)
theorem dX6_manyAt_3 : decode cX6_manyAt 3 = .ok (.istore 4, 2) := dk_54 4 (dk_at dksX6_manyAt_0 3 rfl rfl)
theorem dX6_manyAt_5 : decode cX6_manyAt 5 = .ok (.iload 4, 2) := dk_21 4 (dk_at dksX6_manyAt_0 5 rfl rfl)
theorem dX6_manyAt_7 : decode cX6_manyAt 7 = .ok (.aload_n 0, 1) := dk_42 (dk_at dksX6_manyAt_0 7 rfl rfl)
theorem dX6_manyAt_8 : decode cX6_manyAt 8 = .ok (.getfield 134, 3) := dk_180 0 134 (dk_at dksX6_manyAt_0 8 rfl rfl)
theorem dX6_manyAt_11 : decode cX6_manyAt 11 = .ok (.if_icmp .ge 33, 3) := dk_162 0 33 (dk_at dksX6_manyAt_0 11 rfl rfl)
theorem dX6_manyAt_14 : decode cX6_manyAt 14 = .ok (.iload_n 3, 1) := dk_29 (dk_at dksX6_manyAt_0 14 rfl rfl)
theorem dX6_manyAt_15 : decode cX6_manyAt 15 = .ok (.aload_n 0, 1) := dk_42 (dk_at dksX6_manyAt_0 15 rfl rfl)
theorem dX6_manyAt_16 : decode cX6_manyAt 16 = .ok (.getfield 64, 3) := dk_180 0 64 (dk_at dksX6_manyAt_0 16 rfl rfl)
theorem dX6_manyAt_19 : decode cX6_manyAt 19 = .ok (.bipush 8, 2) := dk_16 8 (dk_at dksX6_manyAt_0 19 rfl rfl)
theorem dX6_manyAt_21 : decode cX6_manyAt 21 = .ok (.iload_n 1, 1) := dk_27 (dk_at dksX6_manyAt_0 21 rfl rfl)
theorem dX6_manyAt_22 : decode cX6_manyAt 22 = .ok (.imul, 1) := dk_104 (dk_at dksX6_manyAt_0 22 rfl rfl)
theorem dX6_manyAt_23 : decode cX6_manyAt 23 = .ok (.iload 4, 2) := dk_21 4 (dk_at dksX6_manyAt_1 0 rfl rfl)
theorem dX6_manyAt_25 : decode cX6_manyAt 25 = .ok (.iadd, 1) := dk_96 (dk_at dksX6_manyAt_1 2 rfl rfl)
theorem dX6_manyAt_26 : decode cX6_manyAt 26 = .ok (.iaload, 1) := dk_46 (dk_at dksX6_manyAt_1 3 rfl rfl)
theorem dX6_manyAt_27 : decode cX6_manyAt 27 = .ok (.iload_n 2, 1) := dk_28 (dk_at dksX6_manyAt_1 4 rfl rfl)
theorem dX6_manyAt_28 : decode cX6_manyAt 28 = .ok (.if_icmp .ne 7, 3) := dk_160 0 7 (dk_at dksX6_manyAt_1 5 rfl rfl)
theorem dX6_manyAt_31 : decode cX6_manyAt 31 = .ok (.iconst 1, 1) := dk_4 (dk_at dksX6_manyAt_1 8 rfl rfl)
theorem dX6_manyAt_32 : decode cX6_manyAt 32 = .ok (.goto 4, 3) := dk_167 0 4 (dk_at dksX6_manyAt_1 9 rfl rfl)
theorem dX6_manyAt_35 : decode cX6_manyAt 35 = .ok (.iconst 0, 1) := dk_3 (dk_at dksX6_manyAt_1 12 rfl rfl)
theorem dX6_manyAt_36 : decode cX6_manyAt 36 = .ok (.iadd, 1) := dk_96 (dk_at dksX6_manyAt_1 13 rfl rfl)
theorem dX6_manyAt_37 : decode cX6_manyAt 37 = .ok (.istore_n 3, 1) := dk_62 (dk_at dksX6_manyAt_1 14 rfl rfl)
theorem dX6_manyAt_38 : decode cX6_manyAt 38 = .ok (.iinc 4 1, 3) := dk_132 4 1 (dk_at dksX6_manyAt_1 15 rfl rfl)
theorem dX6_manyAt_41 : decode cX6_manyAt 41 = .ok (.goto (-36), 3) := dk_167 255 220 (dk_at dksX6_manyAt_1 18 rfl rfl)
theorem dX6_manyAt_44 : decode cX6_manyAt 44 = .ok (.iload_n 3, 1) := dk_29 (dk_at dksX6_manyAt_1 21 rfl rfl)
theorem dX6_manyAt_45 : decode cX6_manyAt 45 = .ok (.ireturn, 1) := dk_172 (dk_at dksX6_manyAt_1 22 rfl rfl)
abbrev cX6_divides : ByteArray := prog_13_method_40_code
def yX6_divides : MethodName := ⟨RX6, "divides", "(I)V"⟩
def dkwX6_divides_5 : List UInt8 := [167, 255, 163, 177]
abbrev dktX6_divides_5 : List UInt8 := dkwX6_divides_5 ++ []
def dkwX6_divides_4 : List UInt8 := [154, 0, 16, 42, 180, 0, 52, 28, 46, 154, 0, 7, 4, 167, 0, 4, 3, 96, 79, 132, 2, 1]
abbrev dktX6_divides_4 : List UInt8 := dkwX6_divides_4 ++ dktX6_divides_5
def dkwX6_divides_3 : List UInt8 := [180, 0, 52, 28, 46, 4, 160, 0, 7, 4, 167, 0, 4, 3, 96, 79, 42, 180, 0, 79, 27, 92, 46, 29]
abbrev dktX6_divides_3 : List UInt8 := dkwX6_divides_3 ++ dktX6_divides_4
def dkwX6_divides_2 : List UInt8 := [153, 0, 9, 4, 28, 120, 167, 0, 4, 3, 128, 79, 42, 180, 0, 76, 27, 92, 46, 29, 154, 0, 17, 42]
abbrev dktX6_divides_2 : List UInt8 := dkwX6_divides_2 ++ dktX6_divides_3
def dkwX6_divides_1 : List UInt8 := [42, 180, 0, 134, 162, 0, 91, 42, 28, 27, 182, 0, 198, 62, 42, 180, 0, 73, 27, 92, 46, 29]
abbrev dktX6_divides_1 : List UInt8 := dkwX6_divides_1 ++ dktX6_divides_2
def dkwX6_divides_0 : List UInt8 := [42, 180, 0, 76, 27, 3, 79, 42, 180, 0, 79, 27, 3, 79, 42, 180, 0, 73, 27, 3, 79, 3, 61, 28]
abbrev dktX6_divides_0 : List UInt8 := dkwX6_divides_0 ++ dktX6_divides_1
theorem dksX6_divides_0 : cX6_divides.data.toList.drop 0 = dktX6_divides_0 := by decide +kernel
theorem dksX6_divides_1 : cX6_divides.data.toList.drop 24 = dktX6_divides_1 := dk_seg dksX6_divides_0 24 rfl rfl
theorem dksX6_divides_2 : cX6_divides.data.toList.drop 46 = dktX6_divides_2 := dk_seg dksX6_divides_1 22 rfl rfl
theorem dksX6_divides_3 : cX6_divides.data.toList.drop 70 = dktX6_divides_3 := dk_seg dksX6_divides_2 24 rfl rfl
theorem dksX6_divides_4 : cX6_divides.data.toList.drop 94 = dktX6_divides_4 := dk_seg dksX6_divides_3 24 rfl rfl
theorem dksX6_divides_5 : cX6_divides.data.toList.drop 116 = dktX6_divides_5 := dk_seg dksX6_divides_4 22 rfl rfl
theorem dX6_divides_0 : decode cX6_divides 0 = .ok (.aload_n 0, 1) := dk_42 (dk_at dksX6_divides_0 0 rfl rfl)
theorem dX6_divides_1 : decode cX6_divides 1 = .ok (.getfield 76, 3) := dk_180 0 76 (dk_at dksX6_divides_0 1 rfl rfl)
theorem dX6_divides_4 : decode cX6_divides 4 = .ok (.iload_n 1, 1) := dk_27 (dk_at dksX6_divides_0 4 rfl rfl)
theorem dX6_divides_5 : decode cX6_divides 5 = .ok (.iconst 0, 1) := dk_3 (dk_at dksX6_divides_0 5 rfl rfl)
theorem dX6_divides_6 : decode cX6_divides 6 = .ok (.iastore, 1) := dk_79 (dk_at dksX6_divides_0 6 rfl rfl)
theorem dX6_divides_7 : decode cX6_divides 7 = .ok (.aload_n 0, 1) := dk_42 (dk_at dksX6_divides_0 7 rfl rfl)
theorem dX6_divides_8 : decode cX6_divides 8 = .ok (.getfield 79, 3) := dk_180 0 79 (dk_at dksX6_divides_0 8 rfl rfl)
theorem dX6_divides_11 : decode cX6_divides 11 = .ok (.iload_n 1, 1) := dk_27 (dk_at dksX6_divides_0 11 rfl rfl)
theorem dX6_divides_12 : decode cX6_divides 12 = .ok (.iconst 0, 1) := dk_3 (dk_at dksX6_divides_0 12 rfl rfl)
theorem dX6_divides_13 : decode cX6_divides 13 = .ok (.iastore, 1) := dk_79 (dk_at dksX6_divides_0 13 rfl rfl)
theorem dX6_divides_14 : decode cX6_divides 14 = .ok (.aload_n 0, 1) := dk_42 (dk_at dksX6_divides_0 14 rfl rfl)
theorem dX6_divides_15 : decode cX6_divides 15 = .ok (.getfield 73, 3) := dk_180 0 73 (dk_at dksX6_divides_0 15 rfl rfl)
theorem dX6_divides_18 : decode cX6_divides 18 = .ok (.iload_n 1, 1) := dk_27 (dk_at dksX6_divides_0 18 rfl rfl)
theorem dX6_divides_19 : decode cX6_divides 19 = .ok (.iconst 0, 1) := dk_3 (dk_at dksX6_divides_0 19 rfl rfl)
theorem dX6_divides_20 : decode cX6_divides 20 = .ok (.iastore, 1) := dk_79 (dk_at dksX6_divides_0 20 rfl rfl)
theorem dX6_divides_21 : decode cX6_divides 21 = .ok (.iconst 0, 1) := dk_3 (dk_at dksX6_divides_0 21 rfl rfl)
theorem dX6_divides_22 : decode cX6_divides 22 = .ok (.istore_n 2, 1) := dk_61 (dk_at dksX6_divides_0 22 rfl rfl)
theorem dX6_divides_23 : decode cX6_divides 23 = .ok (.iload_n 2, 1) := dk_28 (dk_at dksX6_divides_0 23 rfl rfl)
theorem dX6_divides_24 : decode cX6_divides 24 = .ok (.aload_n 0, 1) := dk_42 (dk_at dksX6_divides_1 0 rfl rfl)
theorem dX6_divides_25 : decode cX6_divides 25 = .ok (.getfield 134, 3) := dk_180 0 134 (dk_at dksX6_divides_1 1 rfl rfl)
theorem dX6_divides_28 : decode cX6_divides 28 = .ok (.if_icmp .ge 91, 3) := dk_162 0 91 (dk_at dksX6_divides_1 4 rfl rfl)
theorem dX6_divides_31 : decode cX6_divides 31 = .ok (.aload_n 0, 1) := dk_42 (dk_at dksX6_divides_1 7 rfl rfl)
theorem dX6_divides_32 : decode cX6_divides 32 = .ok (.iload_n 2, 1) := dk_28 (dk_at dksX6_divides_1 8 rfl rfl)
theorem dX6_divides_33 : decode cX6_divides 33 = .ok (.iload_n 1, 1) := dk_27 (dk_at dksX6_divides_1 9 rfl rfl)
theorem dX6_divides_34 : decode cX6_divides 34 = .ok (.invokevirtual 198, 3) := dk_182 0 198 (dk_at dksX6_divides_1 10 rfl rfl)
theorem dX6_divides_37 : decode cX6_divides 37 = .ok (.istore_n 3, 1) := dk_62 (dk_at dksX6_divides_1 13 rfl rfl)
theorem dX6_divides_38 : decode cX6_divides 38 = .ok (.aload_n 0, 1) := dk_42 (dk_at dksX6_divides_1 14 rfl rfl)
theorem dX6_divides_39 : decode cX6_divides 39 = .ok (.getfield 73, 3) := dk_180 0 73 (dk_at dksX6_divides_1 15 rfl rfl)
theorem dX6_divides_42 : decode cX6_divides 42 = .ok (.iload_n 1, 1) := dk_27 (dk_at dksX6_divides_1 18 rfl rfl)
theorem dX6_divides_43 : decode cX6_divides 43 = .ok (.dup2, 1) := dk_92 (dk_at dksX6_divides_1 19 rfl rfl)
theorem dX6_divides_44 : decode cX6_divides 44 = .ok (.iaload, 1) := dk_46 (dk_at dksX6_divides_1 20 rfl rfl)
theorem dX6_divides_45 : decode cX6_divides 45 = .ok (.iload_n 3, 1) := dk_29 (dk_at dksX6_divides_1 21 rfl rfl)
theorem dX6_divides_46 : decode cX6_divides 46 = .ok (.ifCond .eq 9, 3) := dk_153 0 9 (dk_at dksX6_divides_2 0 rfl rfl)
theorem dX6_divides_49 : decode cX6_divides 49 = .ok (.iconst 1, 1) := dk_4 (dk_at dksX6_divides_2 3 rfl rfl)
theorem dX6_divides_50 : decode cX6_divides 50 = .ok (.iload_n 2, 1) := dk_28 (dk_at dksX6_divides_2 4 rfl rfl)
theorem dX6_divides_51 : decode cX6_divides 51 = .ok (.ishl, 1) := dk_120 (dk_at dksX6_divides_2 5 rfl rfl)
theorem dX6_divides_52 : decode cX6_divides 52 = .ok (.goto 4, 3) := dk_167 0 4 (dk_at dksX6_divides_2 6 rfl rfl)
theorem dX6_divides_55 : decode cX6_divides 55 = .ok (.iconst 0, 1) := dk_3 (dk_at dksX6_divides_2 9 rfl rfl)
theorem dX6_divides_56 : decode cX6_divides 56 = .ok (.ior, 1) := dk_128 (dk_at dksX6_divides_2 10 rfl rfl)
theorem dX6_divides_57 : decode cX6_divides 57 = .ok (.iastore, 1) := dk_79 (dk_at dksX6_divides_2 11 rfl rfl)
theorem dX6_divides_58 : decode cX6_divides 58 = .ok (.aload_n 0, 1) := dk_42 (dk_at dksX6_divides_2 12 rfl rfl)
theorem dX6_divides_59 : decode cX6_divides 59 = .ok (.getfield 76, 3) := dk_180 0 76 (dk_at dksX6_divides_2 13 rfl rfl)
theorem dX6_divides_62 : decode cX6_divides 62 = .ok (.iload_n 1, 1) := dk_27 (dk_at dksX6_divides_2 16 rfl rfl)
theorem dX6_divides_63 : decode cX6_divides 63 = .ok (.dup2, 1) := dk_92 (dk_at dksX6_divides_2 17 rfl rfl)
theorem dX6_divides_64 : decode cX6_divides 64 = .ok (.iaload, 1) := dk_46 (dk_at dksX6_divides_2 18 rfl rfl)
theorem dX6_divides_65 : decode cX6_divides 65 = .ok (.iload_n 3, 1) := dk_29 (dk_at dksX6_divides_2 19 rfl rfl)
theorem dX6_divides_66 : decode cX6_divides 66 = .ok (.ifCond .ne 17, 3) := dk_154 0 17 (dk_at dksX6_divides_2 20 rfl rfl)
theorem dX6_divides_69 : decode cX6_divides 69 = .ok (.aload_n 0, 1) := dk_42 (dk_at dksX6_divides_2 23 rfl rfl)
theorem dX6_divides_70 : decode cX6_divides 70 = .ok (.getfield 52, 3) := dk_180 0 52 (dk_at dksX6_divides_3 0 rfl rfl)
theorem dX6_divides_73 : decode cX6_divides 73 = .ok (.iload_n 2, 1) := dk_28 (dk_at dksX6_divides_3 3 rfl rfl)
theorem dX6_divides_74 : decode cX6_divides 74 = .ok (.iaload, 1) := dk_46 (dk_at dksX6_divides_3 4 rfl rfl)
theorem dX6_divides_75 : decode cX6_divides 75 = .ok (.iconst 1, 1) := dk_4 (dk_at dksX6_divides_3 5 rfl rfl)
theorem dX6_divides_76 : decode cX6_divides 76 = .ok (.if_icmp .ne 7, 3) := dk_160 0 7 (dk_at dksX6_divides_3 6 rfl rfl)
theorem dX6_divides_79 : decode cX6_divides 79 = .ok (.iconst 1, 1) := dk_4 (dk_at dksX6_divides_3 9 rfl rfl)
theorem dX6_divides_80 : decode cX6_divides 80 = .ok (.goto 4, 3) := dk_167 0 4 (dk_at dksX6_divides_3 10 rfl rfl)
theorem dX6_divides_83 : decode cX6_divides 83 = .ok (.iconst 0, 1) := dk_3 (dk_at dksX6_divides_3 13 rfl rfl)
theorem dX6_divides_84 : decode cX6_divides 84 = .ok (.iadd, 1) := dk_96 (dk_at dksX6_divides_3 14 rfl rfl)
theorem dX6_divides_85 : decode cX6_divides 85 = .ok (.iastore, 1) := dk_79 (dk_at dksX6_divides_3 15 rfl rfl)
theorem dX6_divides_86 : decode cX6_divides 86 = .ok (.aload_n 0, 1) := dk_42 (dk_at dksX6_divides_3 16 rfl rfl)
theorem dX6_divides_87 : decode cX6_divides 87 = .ok (.getfield 79, 3) := dk_180 0 79 (dk_at dksX6_divides_3 17 rfl rfl)
theorem dX6_divides_90 : decode cX6_divides 90 = .ok (.iload_n 1, 1) := dk_27 (dk_at dksX6_divides_3 20 rfl rfl)
theorem dX6_divides_91 : decode cX6_divides 91 = .ok (.dup2, 1) := dk_92 (dk_at dksX6_divides_3 21 rfl rfl)
theorem dX6_divides_92 : decode cX6_divides 92 = .ok (.iaload, 1) := dk_46 (dk_at dksX6_divides_3 22 rfl rfl)
theorem dX6_divides_93 : decode cX6_divides 93 = .ok (.iload_n 3, 1) := dk_29 (dk_at dksX6_divides_3 23 rfl rfl)
theorem dX6_divides_94 : decode cX6_divides 94 = .ok (.ifCond .ne 16, 3) := dk_154 0 16 (dk_at dksX6_divides_4 0 rfl rfl)
theorem dX6_divides_97 : decode cX6_divides 97 = .ok (.aload_n 0, 1) := dk_42 (dk_at dksX6_divides_4 3 rfl rfl)
theorem dX6_divides_98 : decode cX6_divides 98 = .ok (.getfield 52, 3) := dk_180 0 52 (dk_at dksX6_divides_4 4 rfl rfl)
theorem dX6_divides_101 : decode cX6_divides 101 = .ok (.iload_n 2, 1) := dk_28 (dk_at dksX6_divides_4 7 rfl rfl)
theorem dX6_divides_102 : decode cX6_divides 102 = .ok (.iaload, 1) := dk_46 (dk_at dksX6_divides_4 8 rfl rfl)
theorem dX6_divides_103 : decode cX6_divides 103 = .ok (.ifCond .ne 7, 3) := dk_154 0 7 (dk_at dksX6_divides_4 9 rfl rfl)
theorem dX6_divides_106 : decode cX6_divides 106 = .ok (.iconst 1, 1) := dk_4 (dk_at dksX6_divides_4 12 rfl rfl)
theorem dX6_divides_107 : decode cX6_divides 107 = .ok (.goto 4, 3) := dk_167 0 4 (dk_at dksX6_divides_4 13 rfl rfl)
theorem dX6_divides_110 : decode cX6_divides 110 = .ok (.iconst 0, 1) := dk_3 (dk_at dksX6_divides_4 16 rfl rfl)
theorem dX6_divides_111 : decode cX6_divides 111 = .ok (.iadd, 1) := dk_96 (dk_at dksX6_divides_4 17 rfl rfl)
theorem dX6_divides_112 : decode cX6_divides 112 = .ok (.iastore, 1) := dk_79 (dk_at dksX6_divides_4 18 rfl rfl)
theorem dX6_divides_113 : decode cX6_divides 113 = .ok (.iinc 2 1, 3) := dk_132 2 1 (dk_at dksX6_divides_4 19 rfl rfl)
theorem dX6_divides_116 : decode cX6_divides 116 = .ok (.goto (-93), 3) := dk_167 255 163 (dk_at dksX6_divides_5 0 rfl rfl)
theorem dX6_divides_119 : decode cX6_divides 119 = .ok (.return_, 1) := dk_177 (dk_at dksX6_divides_5 3 rfl rfl)
abbrev cX6_at : ByteArray := prog_13_method_47_code
def yX6_at : MethodName := ⟨RX6, "at", "(III)I"⟩
def dkwX6_at_1 : List UInt8 := [42, 27, 28, 29, 182, 0, 245, 167, 0, 5, 16, 254, 172]
abbrev dktX6_at_1 : List UInt8 := dkwX6_at_1 ++ []
def dkwX6_at_0 : List UInt8 := [27, 184, 0, 166, 153, 0, 30, 42, 28, 182, 0, 160, 153, 0, 22, 29, 3, 6, 184, 0, 115, 153, 0, 13]
abbrev dktX6_at_0 : List UInt8 := dkwX6_at_0 ++ dktX6_at_1
theorem dksX6_at_0 : cX6_at.data.toList.drop 0 = dktX6_at_0 := by decide +kernel
theorem dksX6_at_1 : cX6_at.data.toList.drop 24 = dktX6_at_1 := dk_seg dksX6_at_0 24 rfl rfl
theorem dX6_at_0 : decode cX6_at 0 = .ok (.iload_n 1, 1) := dk_27 (dk_at dksX6_at_0 0 rfl rfl)
theorem dX6_at_1 : decode cX6_at 1 = .ok (.invokestatic 166, 3) := dk_184 0 166 (dk_at dksX6_at_0 1 rfl rfl)
theorem dX6_at_4 : decode cX6_at 4 = .ok (.ifCond .eq 30, 3) := dk_153 0 30 (dk_at dksX6_at_0 4 rfl rfl)
theorem dX6_at_7 : decode cX6_at 7 = .ok (.aload_n 0, 1) := dk_42 (dk_at dksX6_at_0 7 rfl rfl)
theorem dX6_at_8 : decode cX6_at 8 = .ok (.iload_n 2, 1) := dk_28 (dk_at dksX6_at_0 8 rfl rfl)
theorem dX6_at_9 : decode cX6_at 9 = .ok (.invokevirtual 160, 3) := dk_182 0 160 (dk_at dksX6_at_0 9 rfl rfl)
theorem dX6_at_12 : decode cX6_at 12 = .ok (.ifCond .eq 22, 3) := dk_153 0 22 (dk_at dksX6_at_0 12 rfl rfl)
theorem dX6_at_15 : decode cX6_at 15 = .ok (.iload_n 3, 1) := dk_29 (dk_at dksX6_at_0 15 rfl rfl)
theorem dX6_at_16 : decode cX6_at 16 = .ok (.iconst 0, 1) := dk_3 (dk_at dksX6_at_0 16 rfl rfl)
theorem dX6_at_17 : decode cX6_at 17 = .ok (.iconst 3, 1) := dk_6 (dk_at dksX6_at_0 17 rfl rfl)
theorem dX6_at_18 : decode cX6_at 18 = .ok (.invokestatic 115, 3) := dk_184 0 115 (dk_at dksX6_at_0 18 rfl rfl)
theorem dX6_at_21 : decode cX6_at 21 = .ok (.ifCond .eq 13, 3) := dk_153 0 13 (dk_at dksX6_at_0 21 rfl rfl)
theorem dX6_at_24 : decode cX6_at 24 = .ok (.aload_n 0, 1) := dk_42 (dk_at dksX6_at_1 0 rfl rfl)
theorem dX6_at_25 : decode cX6_at 25 = .ok (.iload_n 1, 1) := dk_27 (dk_at dksX6_at_1 1 rfl rfl)
theorem dX6_at_26 : decode cX6_at 26 = .ok (.iload_n 2, 1) := dk_28 (dk_at dksX6_at_1 2 rfl rfl)
theorem dX6_at_27 : decode cX6_at 27 = .ok (.iload_n 3, 1) := dk_29 (dk_at dksX6_at_1 3 rfl rfl)
theorem dX6_at_28 : decode cX6_at 28 = .ok (.invokevirtual 245, 3) := dk_182 0 245 (dk_at dksX6_at_1 4 rfl rfl)
theorem dX6_at_31 : decode cX6_at 31 = .ok (.goto 5, 3) := dk_167 0 5 (dk_at dksX6_at_1 7 rfl rfl)
theorem dX6_at_34 : decode cX6_at 34 = .ok (.bipush (-2), 2) := dk_16 254 (dk_at dksX6_at_1 10 rfl rfl)
theorem dX6_at_36 : decode cX6_at 36 = .ok (.ireturn, 1) := dk_172 (dk_at dksX6_at_1 12 rfl rfl)
abbrev cX6_atOf : ByteArray := prog_13_method_46_code
def yX6_atOf : MethodName := ⟨RX6, "atOf", "(III)I"⟩
def dkwX6_atOf_3 : List UInt8 := [21, 4, 46, 172]
abbrev dktX6_atOf_3 : List UInt8 := dkwX6_atOf_3 ++ []
def dkwX6_atOf_2 : List UInt8 := [180, 0, 73, 27, 46, 28, 184, 0, 215, 153, 0, 7, 4, 167, 0, 14, 3, 167, 0, 10, 42, 180, 0, 70]
abbrev dktX6_atOf_2 : List UInt8 := dkwX6_atOf_2 ++ dktX6_atOf_3
def dkwX6_atOf_1 : List UInt8 := [167, 0, 51, 29, 4, 160, 0, 13, 42, 180, 0, 67, 21, 4, 46, 167, 0, 36, 29, 5, 160, 0, 24, 42]
abbrev dktX6_atOf_1 : List UInt8 := dkwX6_atOf_1 ++ dktX6_atOf_2
def dkwX6_atOf_0 : List UInt8 := [42, 182, 0, 239, 16, 8, 27, 104, 28, 96, 54, 4, 29, 154, 0, 13, 42, 180, 0, 64, 21, 4, 46]
abbrev dktX6_atOf_0 : List UInt8 := dkwX6_atOf_0 ++ dktX6_atOf_1
theorem dksX6_atOf_0 : cX6_atOf.data.toList.drop 0 = dktX6_atOf_0 := by decide +kernel
theorem dksX6_atOf_1 : cX6_atOf.data.toList.drop 23 = dktX6_atOf_1 := dk_seg dksX6_atOf_0 23 rfl rfl
theorem dksX6_atOf_2 : cX6_atOf.data.toList.drop 47 = dktX6_atOf_2 := dk_seg dksX6_atOf_1 24 rfl rfl
theorem dksX6_atOf_3 : cX6_atOf.data.toList.drop 71 = dktX6_atOf_3 := dk_seg dksX6_atOf_2 24 rfl rfl
theorem dX6_atOf_0 : decode cX6_atOf 0 = .ok (.aload_n 0, 1) := dk_42 (dk_at dksX6_atOf_0 0 rfl rfl)
theorem dX6_atOf_1 : decode cX6_atOf 1 = .ok (.invokevirtual 239, 3) := dk_182 0 239 (dk_at dksX6_atOf_0 1 rfl rfl)
theorem dX6_atOf_4 : decode cX6_atOf 4 = .ok (.bipush 8, 2) := dk_16 8 (dk_at dksX6_atOf_0 4 rfl rfl)
theorem dX6_atOf_6 : decode cX6_atOf 6 = .ok (.iload_n 1, 1) := dk_27 (dk_at dksX6_atOf_0 6 rfl rfl)
theorem dX6_atOf_7 : decode cX6_atOf 7 = .ok (.imul, 1) := dk_104 (dk_at dksX6_atOf_0 7 rfl rfl)
theorem dX6_atOf_8 : decode cX6_atOf 8 = .ok (.iload_n 2, 1) := dk_28 (dk_at dksX6_atOf_0 8 rfl rfl)
theorem dX6_atOf_9 : decode cX6_atOf 9 = .ok (.iadd, 1) := dk_96 (dk_at dksX6_atOf_0 9 rfl rfl)
theorem dX6_atOf_10 : decode cX6_atOf 10 = .ok (.istore 4, 2) := dk_54 4 (dk_at dksX6_atOf_0 10 rfl rfl)
theorem dX6_atOf_12 : decode cX6_atOf 12 = .ok (.iload_n 3, 1) := dk_29 (dk_at dksX6_atOf_0 12 rfl rfl)
theorem dX6_atOf_13 : decode cX6_atOf 13 = .ok (.ifCond .ne 13, 3) := dk_154 0 13 (dk_at dksX6_atOf_0 13 rfl rfl)
theorem dX6_atOf_16 : decode cX6_atOf 16 = .ok (.aload_n 0, 1) := dk_42 (dk_at dksX6_atOf_0 16 rfl rfl)
theorem dX6_atOf_17 : decode cX6_atOf 17 = .ok (.getfield 64, 3) := dk_180 0 64 (dk_at dksX6_atOf_0 17 rfl rfl)
theorem dX6_atOf_20 : decode cX6_atOf 20 = .ok (.iload 4, 2) := dk_21 4 (dk_at dksX6_atOf_0 20 rfl rfl)
theorem dX6_atOf_22 : decode cX6_atOf 22 = .ok (.iaload, 1) := dk_46 (dk_at dksX6_atOf_0 22 rfl rfl)
theorem dX6_atOf_23 : decode cX6_atOf 23 = .ok (.goto 51, 3) := dk_167 0 51 (dk_at dksX6_atOf_1 0 rfl rfl)
theorem dX6_atOf_26 : decode cX6_atOf 26 = .ok (.iload_n 3, 1) := dk_29 (dk_at dksX6_atOf_1 3 rfl rfl)
theorem dX6_atOf_27 : decode cX6_atOf 27 = .ok (.iconst 1, 1) := dk_4 (dk_at dksX6_atOf_1 4 rfl rfl)
theorem dX6_atOf_28 : decode cX6_atOf 28 = .ok (.if_icmp .ne 13, 3) := dk_160 0 13 (dk_at dksX6_atOf_1 5 rfl rfl)
theorem dX6_atOf_31 : decode cX6_atOf 31 = .ok (.aload_n 0, 1) := dk_42 (dk_at dksX6_atOf_1 8 rfl rfl)
theorem dX6_atOf_32 : decode cX6_atOf 32 = .ok (.getfield 67, 3) := dk_180 0 67 (dk_at dksX6_atOf_1 9 rfl rfl)
theorem dX6_atOf_35 : decode cX6_atOf 35 = .ok (.iload 4, 2) := dk_21 4 (dk_at dksX6_atOf_1 12 rfl rfl)
theorem dX6_atOf_37 : decode cX6_atOf 37 = .ok (.iaload, 1) := dk_46 (dk_at dksX6_atOf_1 14 rfl rfl)
theorem dX6_atOf_38 : decode cX6_atOf 38 = .ok (.goto 36, 3) := dk_167 0 36 (dk_at dksX6_atOf_1 15 rfl rfl)
theorem dX6_atOf_41 : decode cX6_atOf 41 = .ok (.iload_n 3, 1) := dk_29 (dk_at dksX6_atOf_1 18 rfl rfl)
theorem dX6_atOf_42 : decode cX6_atOf 42 = .ok (.iconst 2, 1) := dk_5 (dk_at dksX6_atOf_1 19 rfl rfl)
theorem dX6_atOf_43 : decode cX6_atOf 43 = .ok (.if_icmp .ne 24, 3) := dk_160 0 24 (dk_at dksX6_atOf_1 20 rfl rfl)
theorem dX6_atOf_46 : decode cX6_atOf 46 = .ok (.aload_n 0, 1) := dk_42 (dk_at dksX6_atOf_1 23 rfl rfl)
theorem dX6_atOf_47 : decode cX6_atOf 47 = .ok (.getfield 73, 3) := dk_180 0 73 (dk_at dksX6_atOf_2 0 rfl rfl)
theorem dX6_atOf_50 : decode cX6_atOf 50 = .ok (.iload_n 1, 1) := dk_27 (dk_at dksX6_atOf_2 3 rfl rfl)
theorem dX6_atOf_51 : decode cX6_atOf 51 = .ok (.iaload, 1) := dk_46 (dk_at dksX6_atOf_2 4 rfl rfl)
theorem dX6_atOf_52 : decode cX6_atOf 52 = .ok (.iload_n 2, 1) := dk_28 (dk_at dksX6_atOf_2 5 rfl rfl)
theorem dX6_atOf_53 : decode cX6_atOf 53 = .ok (.invokestatic 215, 3) := dk_184 0 215 (dk_at dksX6_atOf_2 6 rfl rfl)
theorem dX6_atOf_56 : decode cX6_atOf 56 = .ok (.ifCond .eq 7, 3) := dk_153 0 7 (dk_at dksX6_atOf_2 9 rfl rfl)
theorem dX6_atOf_59 : decode cX6_atOf 59 = .ok (.iconst 1, 1) := dk_4 (dk_at dksX6_atOf_2 12 rfl rfl)
theorem dX6_atOf_60 : decode cX6_atOf 60 = .ok (.goto 14, 3) := dk_167 0 14 (dk_at dksX6_atOf_2 13 rfl rfl)
theorem dX6_atOf_63 : decode cX6_atOf 63 = .ok (.iconst 0, 1) := dk_3 (dk_at dksX6_atOf_2 16 rfl rfl)
theorem dX6_atOf_64 : decode cX6_atOf 64 = .ok (.goto 10, 3) := dk_167 0 10 (dk_at dksX6_atOf_2 17 rfl rfl)
theorem dX6_atOf_67 : decode cX6_atOf 67 = .ok (.aload_n 0, 1) := dk_42 (dk_at dksX6_atOf_2 20 rfl rfl)
theorem dX6_atOf_68 : decode cX6_atOf 68 = .ok (.getfield 70, 3) := dk_180 0 70 (dk_at dksX6_atOf_2 21 rfl rfl)
theorem dX6_atOf_71 : decode cX6_atOf 71 = .ok (.iload 4, 2) := dk_21 4 (dk_at dksX6_atOf_3 0 rfl rfl)
theorem dX6_atOf_73 : decode cX6_atOf 73 = .ok (.iaload, 1) := dk_46 (dk_at dksX6_atOf_3 2 rfl rfl)
theorem dX6_atOf_74 : decode cX6_atOf 74 = .ok (.ireturn, 1) := dk_172 (dk_at dksX6_atOf_3 3 rfl rfl)
abbrev cX6_house : ByteArray := prog_13_method_50_code
def yX6_house : MethodName := ⟨RX6, "house", "(II)I"⟩
def dkwX6_house_1 : List UInt8 := [167, 0, 5, 16, 254, 172]
abbrev dktX6_house_1 : List UInt8 := dkwX6_house_1 ++ []
def dkwX6_house_0 : List UInt8 := [27, 184, 0, 166, 153, 0, 21, 28, 3, 5, 184, 0, 115, 153, 0, 12, 42, 27, 28, 182, 0, 251]
abbrev dktX6_house_0 : List UInt8 := dkwX6_house_0 ++ dktX6_house_1
theorem dksX6_house_0 : cX6_house.data.toList.drop 0 = dktX6_house_0 := by decide +kernel
theorem dksX6_house_1 : cX6_house.data.toList.drop 22 = dktX6_house_1 := dk_seg dksX6_house_0 22 rfl rfl
theorem dX6_house_0 : decode cX6_house 0 = .ok (.iload_n 1, 1) := dk_27 (dk_at dksX6_house_0 0 rfl rfl)
theorem dX6_house_1 : decode cX6_house 1 = .ok (.invokestatic 166, 3) := dk_184 0 166 (dk_at dksX6_house_0 1 rfl rfl)
theorem dX6_house_4 : decode cX6_house 4 = .ok (.ifCond .eq 21, 3) := dk_153 0 21 (dk_at dksX6_house_0 4 rfl rfl)
theorem dX6_house_7 : decode cX6_house 7 = .ok (.iload_n 2, 1) := dk_28 (dk_at dksX6_house_0 7 rfl rfl)
theorem dX6_house_8 : decode cX6_house 8 = .ok (.iconst 0, 1) := dk_3 (dk_at dksX6_house_0 8 rfl rfl)
theorem dX6_house_9 : decode cX6_house 9 = .ok (.iconst 2, 1) := dk_5 (dk_at dksX6_house_0 9 rfl rfl)
theorem dX6_house_10 : decode cX6_house 10 = .ok (.invokestatic 115, 3) := dk_184 0 115 (dk_at dksX6_house_0 10 rfl rfl)
theorem dX6_house_13 : decode cX6_house 13 = .ok (.ifCond .eq 12, 3) := dk_153 0 12 (dk_at dksX6_house_0 13 rfl rfl)
theorem dX6_house_16 : decode cX6_house 16 = .ok (.aload_n 0, 1) := dk_42 (dk_at dksX6_house_0 16 rfl rfl)
theorem dX6_house_17 : decode cX6_house 17 = .ok (.iload_n 1, 1) := dk_27 (dk_at dksX6_house_0 17 rfl rfl)
theorem dX6_house_18 : decode cX6_house 18 = .ok (.iload_n 2, 1) := dk_28 (dk_at dksX6_house_0 18 rfl rfl)
theorem dX6_house_19 : decode cX6_house 19 = .ok (.invokevirtual 251, 3) := dk_182 0 251 (dk_at dksX6_house_0 19 rfl rfl)
theorem dX6_house_22 : decode cX6_house 22 = .ok (.goto 5, 3) := dk_167 0 5 (dk_at dksX6_house_1 0 rfl rfl)
theorem dX6_house_25 : decode cX6_house 25 = .ok (.bipush (-2), 2) := dk_16 254 (dk_at dksX6_house_1 3 rfl rfl)
theorem dX6_house_27 : decode cX6_house 27 = .ok (.ireturn, 1) := dk_172 (dk_at dksX6_house_1 5 rfl rfl)
abbrev cX6_houseOf : ByteArray := prog_13_method_49_code
def yX6_houseOf : MethodName := ⟨RX6, "houseOf", "(II)I"⟩
def dkwX6_houseOf_1 : List UInt8 := [180, 0, 79, 27, 46, 167, 0, 16, 42, 27, 182, 0, 248, 153, 0, 7, 4, 167, 0, 4, 3, 172]
abbrev dktX6_houseOf_1 : List UInt8 := dkwX6_houseOf_1 ++ []
def dkwX6_houseOf_0 : List UInt8 := [42, 182, 0, 239, 28, 154, 0, 12, 42, 180, 0, 76, 27, 46, 167, 0, 30, 28, 4, 160, 0, 12, 42]
abbrev dktX6_houseOf_0 : List UInt8 := dkwX6_houseOf_0 ++ dktX6_houseOf_1
theorem dksX6_houseOf_0 : cX6_houseOf.data.toList.drop 0 = dktX6_houseOf_0 := by decide +kernel
theorem dksX6_houseOf_1 : cX6_houseOf.data.toList.drop 23 = dktX6_houseOf_1 := dk_seg dksX6_houseOf_0 23 rfl rfl
theorem dX6_houseOf_0 : decode cX6_houseOf 0 = .ok (.aload_n 0, 1) := dk_42 (dk_at dksX6_houseOf_0 0 rfl rfl)
theorem dX6_houseOf_1 : decode cX6_houseOf 1 = .ok (.invokevirtual 239, 3) := dk_182 0 239 (dk_at dksX6_houseOf_0 1 rfl rfl)
theorem dX6_houseOf_4 : decode cX6_houseOf 4 = .ok (.iload_n 2, 1) := dk_28 (dk_at dksX6_houseOf_0 4 rfl rfl)
theorem dX6_houseOf_5 : decode cX6_houseOf 5 = .ok (.ifCond .ne 12, 3) := dk_154 0 12 (dk_at dksX6_houseOf_0 5 rfl rfl)
theorem dX6_houseOf_8 : decode cX6_houseOf 8 = .ok (.aload_n 0, 1) := dk_42 (dk_at dksX6_houseOf_0 8 rfl rfl)
theorem dX6_houseOf_9 : decode cX6_houseOf 9 = .ok (.getfield 76, 3) := dk_180 0 76 (dk_at dksX6_houseOf_0 9 rfl rfl)
theorem dX6_houseOf_12 : decode cX6_houseOf 12 = .ok (.iload_n 1, 1) := dk_27 (dk_at dksX6_houseOf_0 12 rfl rfl)
theorem dX6_houseOf_13 : decode cX6_houseOf 13 = .ok (.iaload, 1) := dk_46 (dk_at dksX6_houseOf_0 13 rfl rfl)
theorem dX6_houseOf_14 : decode cX6_houseOf 14 = .ok (.goto 30, 3) := dk_167 0 30 (dk_at dksX6_houseOf_0 14 rfl rfl)
theorem dX6_houseOf_17 : decode cX6_houseOf 17 = .ok (.iload_n 2, 1) := dk_28 (dk_at dksX6_houseOf_0 17 rfl rfl)
theorem dX6_houseOf_18 : decode cX6_houseOf 18 = .ok (.iconst 1, 1) := dk_4 (dk_at dksX6_houseOf_0 18 rfl rfl)
theorem dX6_houseOf_19 : decode cX6_houseOf 19 = .ok (.if_icmp .ne 12, 3) := dk_160 0 12 (dk_at dksX6_houseOf_0 19 rfl rfl)
theorem dX6_houseOf_22 : decode cX6_houseOf 22 = .ok (.aload_n 0, 1) := dk_42 (dk_at dksX6_houseOf_0 22 rfl rfl)
theorem dX6_houseOf_23 : decode cX6_houseOf 23 = .ok (.getfield 79, 3) := dk_180 0 79 (dk_at dksX6_houseOf_1 0 rfl rfl)
theorem dX6_houseOf_26 : decode cX6_houseOf 26 = .ok (.iload_n 1, 1) := dk_27 (dk_at dksX6_houseOf_1 3 rfl rfl)
theorem dX6_houseOf_27 : decode cX6_houseOf 27 = .ok (.iaload, 1) := dk_46 (dk_at dksX6_houseOf_1 4 rfl rfl)
theorem dX6_houseOf_28 : decode cX6_houseOf 28 = .ok (.goto 16, 3) := dk_167 0 16 (dk_at dksX6_houseOf_1 5 rfl rfl)
theorem dX6_houseOf_31 : decode cX6_houseOf 31 = .ok (.aload_n 0, 1) := dk_42 (dk_at dksX6_houseOf_1 8 rfl rfl)
theorem dX6_houseOf_32 : decode cX6_houseOf 32 = .ok (.iload_n 1, 1) := dk_27 (dk_at dksX6_houseOf_1 9 rfl rfl)
theorem dX6_houseOf_33 : decode cX6_houseOf 33 = .ok (.invokevirtual 248, 3) := dk_182 0 248 (dk_at dksX6_houseOf_1 10 rfl rfl)
theorem dX6_houseOf_36 : decode cX6_houseOf 36 = .ok (.ifCond .eq 7, 3) := dk_153 0 7 (dk_at dksX6_houseOf_1 13 rfl rfl)
theorem dX6_houseOf_39 : decode cX6_houseOf 39 = .ok (.iconst 1, 1) := dk_4 (dk_at dksX6_houseOf_1 16 rfl rfl)
theorem dX6_houseOf_40 : decode cX6_houseOf 40 = .ok (.goto 4, 3) := dk_167 0 4 (dk_at dksX6_houseOf_1 17 rfl rfl)
theorem dX6_houseOf_43 : decode cX6_houseOf 43 = .ok (.iconst 0, 1) := dk_3 (dk_at dksX6_houseOf_1 20 rfl rfl)
theorem dX6_houseOf_44 : decode cX6_houseOf 44 = .ok (.ireturn, 1) := dk_172 (dk_at dksX6_houseOf_1 21 rfl rfl)
abbrev cX6_isCarried : ByteArray := prog_13_method_48_code
def yX6_isCarried : MethodName := ⟨RX6, "isCarried", "(I)Z"⟩
def dkwX6_isCarried_0 : List UInt8 := [42, 180, 0, 76, 27, 46, 42, 180, 0, 79, 27, 46, 164, 0, 7, 4, 167, 0, 4, 3, 172]
abbrev dktX6_isCarried_0 : List UInt8 := dkwX6_isCarried_0 ++ []
theorem dksX6_isCarried_0 : cX6_isCarried.data.toList.drop 0 = dktX6_isCarried_0 := by decide +kernel
theorem dX6_isCarried_0 : decode cX6_isCarried 0 = .ok (.aload_n 0, 1) := dk_42 (dk_at dksX6_isCarried_0 0 rfl rfl)
theorem dX6_isCarried_1 : decode cX6_isCarried 1 = .ok (.getfield 76, 3) := dk_180 0 76 (dk_at dksX6_isCarried_0 1 rfl rfl)
theorem dX6_isCarried_4 : decode cX6_isCarried 4 = .ok (.iload_n 1, 1) := dk_27 (dk_at dksX6_isCarried_0 4 rfl rfl)
theorem dX6_isCarried_5 : decode cX6_isCarried 5 = .ok (.iaload, 1) := dk_46 (dk_at dksX6_isCarried_0 5 rfl rfl)
theorem dX6_isCarried_6 : decode cX6_isCarried 6 = .ok (.aload_n 0, 1) := dk_42 (dk_at dksX6_isCarried_0 6 rfl rfl)
theorem dX6_isCarried_7 : decode cX6_isCarried 7 = .ok (.getfield 79, 3) := dk_180 0 79 (dk_at dksX6_isCarried_0 7 rfl rfl)
theorem dX6_isCarried_10 : decode cX6_isCarried 10 = .ok (.iload_n 1, 1) := dk_27 (dk_at dksX6_isCarried_0 10 rfl rfl)
theorem dX6_isCarried_11 : decode cX6_isCarried 11 = .ok (.iaload, 1) := dk_46 (dk_at dksX6_isCarried_0 11 rfl rfl)
theorem dX6_isCarried_12 : decode cX6_isCarried 12 = .ok (.if_icmp .le 7, 3) := dk_164 0 7 (dk_at dksX6_isCarried_0 12 rfl rfl)
theorem dX6_isCarried_15 : decode cX6_isCarried 15 = .ok (.iconst 1, 1) := dk_4 (dk_at dksX6_isCarried_0 15 rfl rfl)
theorem dX6_isCarried_16 : decode cX6_isCarried 16 = .ok (.goto 4, 3) := dk_167 0 4 (dk_at dksX6_isCarried_0 16 rfl rfl)
theorem dX6_isCarried_19 : decode cX6_isCarried 19 = .ok (.iconst 0, 1) := dk_3 (dk_at dksX6_isCarried_0 19 rfl rfl)
theorem dX6_isCarried_20 : decode cX6_isCarried 20 = .ok (.ireturn, 1) := dk_172 (dk_at dksX6_isCarried_0 20 rfl rfl)
abbrev cX6_governments : ByteArray := prog_13_method_53_code
def yX6_governments : MethodName := ⟨RX6, "governments", "()I"⟩
theorem dX6_governments_0 : decode cX6_governments 0 = .ok (.aload_n 0, 1) := by decide +kernel
theorem dX6_governments_1 : decode cX6_governments 1 = .ok (.invokevirtual 257, 3) := by decide +kernel
theorem dX6_governments_4 : decode cX6_governments 4 = .ok (.ireturn, 1) := by decide +kernel
abbrev cX6_governmentsOf : ByteArray := prog_13_method_52_code
def yX6_governmentsOf : MethodName := ⟨RX6, "governmentsOf", "()I"⟩
def dkwX6_governmentsOf_0 : List UInt8 := [42, 182, 0, 239, 42, 182, 0, 254, 172]
abbrev dktX6_governmentsOf_0 : List UInt8 := dkwX6_governmentsOf_0 ++ []
theorem dksX6_governmentsOf_0 : cX6_governmentsOf.data.toList.drop 0 = dktX6_governmentsOf_0 := by decide +kernel
theorem dX6_governmentsOf_0 : decode cX6_governmentsOf 0 = .ok (.aload_n 0, 1) := dk_42 (dk_at dksX6_governmentsOf_0 0 rfl rfl)
theorem dX6_governmentsOf_1 : decode cX6_governmentsOf 1 = .ok (.invokevirtual 239, 3) := dk_182 0 239 (dk_at dksX6_governmentsOf_0 1 rfl rfl)
theorem dX6_governmentsOf_4 : decode cX6_governmentsOf 4 = .ok (.aload_n 0, 1) := dk_42 (dk_at dksX6_governmentsOf_0 4 rfl rfl)
theorem dX6_governmentsOf_5 : decode cX6_governmentsOf 5 = .ok (.invokevirtual 254, 3) := dk_182 0 254 (dk_at dksX6_governmentsOf_0 5 rfl rfl)
theorem dX6_governmentsOf_8 : decode cX6_governmentsOf 8 = .ok (.ireturn, 1) := dk_172 (dk_at dksX6_governmentsOf_0 8 rfl rfl)
abbrev cX6_governmentsNow : ByteArray := prog_13_method_51_code
def yX6_governmentsNow : MethodName := ⟨RX6, "governmentsNow", "()I"⟩
def dkwX6_governmentsNow_1 : List UInt8 := [159, 0, 7, 4, 167, 0, 4, 3, 96, 60, 132, 2, 1, 167, 255, 224, 27, 172]
abbrev dktX6_governmentsNow_1 : List UInt8 := dkwX6_governmentsNow_1 ++ []
def dkwX6_governmentsNow_0 : List UInt8 := [3, 60, 4, 61, 28, 16, 20, 162, 0, 32, 27, 42, 28, 182, 0, 248, 42, 28, 4, 100, 182, 0, 248]
abbrev dktX6_governmentsNow_0 : List UInt8 := dkwX6_governmentsNow_0 ++ dktX6_governmentsNow_1
theorem dksX6_governmentsNow_0 : cX6_governmentsNow.data.toList.drop 0 = dktX6_governmentsNow_0 := by decide +kernel
theorem dksX6_governmentsNow_1 : cX6_governmentsNow.data.toList.drop 23 = dktX6_governmentsNow_1 := dk_seg dksX6_governmentsNow_0 23 rfl rfl
theorem dX6_governmentsNow_0 : decode cX6_governmentsNow 0 = .ok (.iconst 0, 1) := dk_3 (dk_at dksX6_governmentsNow_0 0 rfl rfl)
theorem dX6_governmentsNow_1 : decode cX6_governmentsNow 1 = .ok (.istore_n 1, 1) := dk_60 (dk_at dksX6_governmentsNow_0 1 rfl rfl)
theorem dX6_governmentsNow_2 : decode cX6_governmentsNow 2 = .ok (.iconst 1, 1) := dk_4 (dk_at dksX6_governmentsNow_0 2 rfl rfl)
theorem dX6_governmentsNow_3 : decode cX6_governmentsNow 3 = .ok (.istore_n 2, 1) := dk_61 (dk_at dksX6_governmentsNow_0 3 rfl rfl)
theorem dX6_governmentsNow_4 : decode cX6_governmentsNow 4 = .ok (.iload_n 2, 1) := dk_28 (dk_at dksX6_governmentsNow_0 4 rfl rfl)
theorem dX6_governmentsNow_5 : decode cX6_governmentsNow 5 = .ok (.bipush 20, 2) := dk_16 20 (dk_at dksX6_governmentsNow_0 5 rfl rfl)
theorem dX6_governmentsNow_7 : decode cX6_governmentsNow 7 = .ok (.if_icmp .ge 32, 3) := dk_162 0 32 (dk_at dksX6_governmentsNow_0 7 rfl rfl)
theorem dX6_governmentsNow_10 : decode cX6_governmentsNow 10 = .ok (.iload_n 1, 1) := dk_27 (dk_at dksX6_governmentsNow_0 10 rfl rfl)
theorem dX6_governmentsNow_11 : decode cX6_governmentsNow 11 = .ok (.aload_n 0, 1) := dk_42 (dk_at dksX6_governmentsNow_0 11 rfl rfl)
theorem dX6_governmentsNow_12 : decode cX6_governmentsNow 12 = .ok (.iload_n 2, 1) := dk_28 (dk_at dksX6_governmentsNow_0 12 rfl rfl)
theorem dX6_governmentsNow_13 : decode cX6_governmentsNow 13 = .ok (.invokevirtual 248, 3) := dk_182 0 248 (dk_at dksX6_governmentsNow_0 13 rfl rfl)
theorem dX6_governmentsNow_16 : decode cX6_governmentsNow 16 = .ok (.aload_n 0, 1) := dk_42 (dk_at dksX6_governmentsNow_0 16 rfl rfl)
theorem dX6_governmentsNow_17 : decode cX6_governmentsNow 17 = .ok (.iload_n 2, 1) := dk_28 (dk_at dksX6_governmentsNow_0 17 rfl rfl)
theorem dX6_governmentsNow_18 : decode cX6_governmentsNow 18 = .ok (.iconst 1, 1) := dk_4 (dk_at dksX6_governmentsNow_0 18 rfl rfl)
theorem dX6_governmentsNow_19 : decode cX6_governmentsNow 19 = .ok (.isub, 1) := dk_100 (dk_at dksX6_governmentsNow_0 19 rfl rfl)
theorem dX6_governmentsNow_20 : decode cX6_governmentsNow 20 = .ok (.invokevirtual 248, 3) := dk_182 0 248 (dk_at dksX6_governmentsNow_0 20 rfl rfl)
theorem dX6_governmentsNow_23 : decode cX6_governmentsNow 23 = .ok (.if_icmp .eq 7, 3) := dk_159 0 7 (dk_at dksX6_governmentsNow_1 0 rfl rfl)
theorem dX6_governmentsNow_26 : decode cX6_governmentsNow 26 = .ok (.iconst 1, 1) := dk_4 (dk_at dksX6_governmentsNow_1 3 rfl rfl)
theorem dX6_governmentsNow_27 : decode cX6_governmentsNow 27 = .ok (.goto 4, 3) := dk_167 0 4 (dk_at dksX6_governmentsNow_1 4 rfl rfl)
theorem dX6_governmentsNow_30 : decode cX6_governmentsNow 30 = .ok (.iconst 0, 1) := dk_3 (dk_at dksX6_governmentsNow_1 7 rfl rfl)
theorem dX6_governmentsNow_31 : decode cX6_governmentsNow 31 = .ok (.iadd, 1) := dk_96 (dk_at dksX6_governmentsNow_1 8 rfl rfl)
theorem dX6_governmentsNow_32 : decode cX6_governmentsNow 32 = .ok (.istore_n 1, 1) := dk_60 (dk_at dksX6_governmentsNow_1 9 rfl rfl)
theorem dX6_governmentsNow_33 : decode cX6_governmentsNow 33 = .ok (.iinc 2 1, 3) := dk_132 2 1 (dk_at dksX6_governmentsNow_1 10 rfl rfl)
theorem dX6_governmentsNow_36 : decode cX6_governmentsNow 36 = .ok (.goto (-32), 3) := dk_167 255 224 (dk_at dksX6_governmentsNow_1 13 rfl rfl)
theorem dX6_governmentsNow_39 : decode cX6_governmentsNow 39 = .ok (.iload_n 1, 1) := dk_27 (dk_at dksX6_governmentsNow_1 16 rfl rfl)
theorem dX6_governmentsNow_40 : decode cX6_governmentsNow 40 = .ok (.ireturn, 1) := dk_172 (dk_at dksX6_governmentsNow_1 17 rfl rfl)
abbrev cX6_carried : ByteArray := prog_13_method_56_code
def yX6_carried : MethodName := ⟨RX6, "carried", "()I"⟩
theorem dX6_carried_0 : decode cX6_carried 0 = .ok (.aload_n 0, 1) := by decide +kernel
theorem dX6_carried_1 : decode cX6_carried 1 = .ok (.invokevirtual 263, 3) := by decide +kernel
theorem dX6_carried_4 : decode cX6_carried 4 = .ok (.ireturn, 1) := by decide +kernel
abbrev cX6_carriedOf : ByteArray := prog_13_method_55_code
def yX6_carriedOf : MethodName := ⟨RX6, "carriedOf", "()I"⟩
def dkwX6_carriedOf_0 : List UInt8 := [42, 182, 0, 239, 42, 182, 1, 4, 172]
abbrev dktX6_carriedOf_0 : List UInt8 := dkwX6_carriedOf_0 ++ []
theorem dksX6_carriedOf_0 : cX6_carriedOf.data.toList.drop 0 = dktX6_carriedOf_0 := by decide +kernel
theorem dX6_carriedOf_0 : decode cX6_carriedOf 0 = .ok (.aload_n 0, 1) := dk_42 (dk_at dksX6_carriedOf_0 0 rfl rfl)
theorem dX6_carriedOf_1 : decode cX6_carriedOf 1 = .ok (.invokevirtual 239, 3) := dk_182 0 239 (dk_at dksX6_carriedOf_0 1 rfl rfl)
theorem dX6_carriedOf_4 : decode cX6_carriedOf 4 = .ok (.aload_n 0, 1) := dk_42 (dk_at dksX6_carriedOf_0 4 rfl rfl)
theorem dX6_carriedOf_5 : decode cX6_carriedOf 5 = .ok (.invokevirtual 260, 3) := dk_182 1 4 (dk_at dksX6_carriedOf_0 5 rfl rfl)
theorem dX6_carriedOf_8 : decode cX6_carriedOf 8 = .ok (.ireturn, 1) := dk_172 (dk_at dksX6_carriedOf_0 8 rfl rfl)
abbrev cX6_carriedNow : ByteArray := prog_13_method_54_code
def yX6_carriedNow : MethodName := ⟨RX6, "carriedNow", "()I"⟩
def dkwX6_carriedNow_1 : List UInt8 := [96, 60, 132, 2, 1, 167, 255, 231, 27, 172]
abbrev dktX6_carriedNow_1 : List UInt8 := dkwX6_carriedNow_1 ++ []
def dkwX6_carriedNow_0 : List UInt8 := [3, 60, 3, 61, 28, 16, 20, 162, 0, 25, 27, 42, 28, 182, 0, 248, 153, 0, 7, 4, 167, 0, 4, 3]
abbrev dktX6_carriedNow_0 : List UInt8 := dkwX6_carriedNow_0 ++ dktX6_carriedNow_1
theorem dksX6_carriedNow_0 : cX6_carriedNow.data.toList.drop 0 = dktX6_carriedNow_0 := by decide +kernel
theorem dksX6_carriedNow_1 : cX6_carriedNow.data.toList.drop 24 = dktX6_carriedNow_1 := dk_seg dksX6_carriedNow_0 24 rfl rfl
theorem dX6_carriedNow_0 : decode cX6_carriedNow 0 = .ok (.iconst 0, 1) := dk_3 (dk_at dksX6_carriedNow_0 0 rfl rfl)
theorem dX6_carriedNow_1 : decode cX6_carriedNow 1 = .ok (.istore_n 1, 1) := dk_60 (dk_at dksX6_carriedNow_0 1 rfl rfl)
theorem dX6_carriedNow_2 : decode cX6_carriedNow 2 = .ok (.iconst 0, 1) := dk_3 (dk_at dksX6_carriedNow_0 2 rfl rfl)
theorem dX6_carriedNow_3 : decode cX6_carriedNow 3 = .ok (.istore_n 2, 1) := dk_61 (dk_at dksX6_carriedNow_0 3 rfl rfl)
theorem dX6_carriedNow_4 : decode cX6_carriedNow 4 = .ok (.iload_n 2, 1) := dk_28 (dk_at dksX6_carriedNow_0 4 rfl rfl)
theorem dX6_carriedNow_5 : decode cX6_carriedNow 5 = .ok (.bipush 20, 2) := dk_16 20 (dk_at dksX6_carriedNow_0 5 rfl rfl)
theorem dX6_carriedNow_7 : decode cX6_carriedNow 7 = .ok (.if_icmp .ge 25, 3) := dk_162 0 25 (dk_at dksX6_carriedNow_0 7 rfl rfl)
theorem dX6_carriedNow_10 : decode cX6_carriedNow 10 = .ok (.iload_n 1, 1) := dk_27 (dk_at dksX6_carriedNow_0 10 rfl rfl)
theorem dX6_carriedNow_11 : decode cX6_carriedNow 11 = .ok (.aload_n 0, 1) := dk_42 (dk_at dksX6_carriedNow_0 11 rfl rfl)
theorem dX6_carriedNow_12 : decode cX6_carriedNow 12 = .ok (.iload_n 2, 1) := dk_28 (dk_at dksX6_carriedNow_0 12 rfl rfl)
theorem dX6_carriedNow_13 : decode cX6_carriedNow 13 = .ok (.invokevirtual 248, 3) := dk_182 0 248 (dk_at dksX6_carriedNow_0 13 rfl rfl)
theorem dX6_carriedNow_16 : decode cX6_carriedNow 16 = .ok (.ifCond .eq 7, 3) := dk_153 0 7 (dk_at dksX6_carriedNow_0 16 rfl rfl)
theorem dX6_carriedNow_19 : decode cX6_carriedNow 19 = .ok (.iconst 1, 1) := dk_4 (dk_at dksX6_carriedNow_0 19 rfl rfl)
theorem dX6_carriedNow_20 : decode cX6_carriedNow 20 = .ok (.goto 4, 3) := dk_167 0 4 (dk_at dksX6_carriedNow_0 20 rfl rfl)
theorem dX6_carriedNow_23 : decode cX6_carriedNow 23 = .ok (.iconst 0, 1) := dk_3 (dk_at dksX6_carriedNow_0 23 rfl rfl)
theorem dX6_carriedNow_24 : decode cX6_carriedNow 24 = .ok (.iadd, 1) := dk_96 (dk_at dksX6_carriedNow_1 0 rfl rfl)
theorem dX6_carriedNow_25 : decode cX6_carriedNow 25 = .ok (.istore_n 1, 1) := dk_60 (dk_at dksX6_carriedNow_1 1 rfl rfl)
theorem dX6_carriedNow_26 : decode cX6_carriedNow 26 = .ok (.iinc 2 1, 3) := dk_132 2 1 (dk_at dksX6_carriedNow_1 2 rfl rfl)
theorem dX6_carriedNow_29 : decode cX6_carriedNow 29 = .ok (.goto (-25), 3) := dk_167 255 231 (dk_at dksX6_carriedNow_1 5 rfl rfl)
theorem dX6_carriedNow_32 : decode cX6_carriedNow 32 = .ok (.iload_n 1, 1) := dk_27 (dk_at dksX6_carriedNow_1 8 rfl rfl)
theorem dX6_carriedNow_33 : decode cX6_carriedNow 33 = .ok (.ireturn, 1) := dk_172 (dk_at dksX6_carriedNow_1 9 rfl rfl)
abbrev cX6_crowd : ByteArray := prog_13_method_58_code
def yX6_crowd : MethodName := ⟨RX6, "crowd", "(I)I"⟩
def dkwX6_crowd_0 : List UInt8 := [27, 3, 5, 184, 0, 115, 153, 0, 11, 42, 27, 182, 1, 10, 167, 0, 5, 16, 254, 172]
abbrev dktX6_crowd_0 : List UInt8 := dkwX6_crowd_0 ++ []
theorem dksX6_crowd_0 : cX6_crowd.data.toList.drop 0 = dktX6_crowd_0 := by decide +kernel
theorem dX6_crowd_0 : decode cX6_crowd 0 = .ok (.iload_n 1, 1) := dk_27 (dk_at dksX6_crowd_0 0 rfl rfl)
theorem dX6_crowd_1 : decode cX6_crowd 1 = .ok (.iconst 0, 1) := dk_3 (dk_at dksX6_crowd_0 1 rfl rfl)
theorem dX6_crowd_2 : decode cX6_crowd 2 = .ok (.iconst 2, 1) := dk_5 (dk_at dksX6_crowd_0 2 rfl rfl)
theorem dX6_crowd_3 : decode cX6_crowd 3 = .ok (.invokestatic 115, 3) := dk_184 0 115 (dk_at dksX6_crowd_0 3 rfl rfl)
theorem dX6_crowd_6 : decode cX6_crowd 6 = .ok (.ifCond .eq 11, 3) := dk_153 0 11 (dk_at dksX6_crowd_0 6 rfl rfl)
theorem dX6_crowd_9 : decode cX6_crowd 9 = .ok (.aload_n 0, 1) := dk_42 (dk_at dksX6_crowd_0 9 rfl rfl)
theorem dX6_crowd_10 : decode cX6_crowd 10 = .ok (.iload_n 1, 1) := dk_27 (dk_at dksX6_crowd_0 10 rfl rfl)
theorem dX6_crowd_11 : decode cX6_crowd 11 = .ok (.invokevirtual 266, 3) := dk_182 1 10 (dk_at dksX6_crowd_0 11 rfl rfl)
theorem dX6_crowd_14 : decode cX6_crowd 14 = .ok (.goto 5, 3) := dk_167 0 5 (dk_at dksX6_crowd_0 14 rfl rfl)
theorem dX6_crowd_17 : decode cX6_crowd 17 = .ok (.bipush (-2), 2) := dk_16 254 (dk_at dksX6_crowd_0 17 rfl rfl)
theorem dX6_crowd_19 : decode cX6_crowd 19 = .ok (.ireturn, 1) := dk_172 (dk_at dksX6_crowd_0 19 rfl rfl)
abbrev cX6_crowdOf : ByteArray := prog_13_method_57_code
def yX6_crowdOf : MethodName := ⟨RX6, "crowdOf", "(I)I"⟩
def dkwX6_crowdOf_4 : List UInt8 := [167, 0, 4, 29, 172]
abbrev dktX6_crowdOf_4 : List UInt8 := dkwX6_crowdOf_4 ++ []
def dkwX6_crowdOf_3 : List UInt8 := [2, 167, 0, 27, 27, 154, 0, 10, 28, 16, 12, 108, 167, 0, 16, 27, 4, 160, 0, 10, 28, 16, 12, 112]
abbrev dktX6_crowdOf_3 : List UInt8 := dkwX6_crowdOf_3 ++ dktX6_crowdOf_4
def dkwX6_crowdOf_2 : List UInt8 := [21, 5, 29, 164, 0, 8, 21, 5, 167, 0, 4, 29, 62, 132, 4, 1, 167, 255, 203, 28, 2, 160, 0, 7]
abbrev dktX6_crowdOf_2 : List UInt8 := dkwX6_crowdOf_2 ++ dktX6_crowdOf_3
def dkwX6_crowdOf_1 : List UInt8 := [108, 21, 4, 16, 12, 112, 182, 0, 224, 54, 5, 21, 5, 29, 164, 0, 8, 21, 4, 167, 0, 4, 28, 61]
abbrev dktX6_crowdOf_1 : List UInt8 := dkwX6_crowdOf_1 ++ dktX6_crowdOf_2
def dkwX6_crowdOf_0 : List UInt8 := [42, 182, 0, 239, 2, 61, 3, 62, 3, 54, 4, 21, 4, 17, 0, 240, 162, 0, 51, 42, 21, 4, 16, 12]
abbrev dktX6_crowdOf_0 : List UInt8 := dkwX6_crowdOf_0 ++ dktX6_crowdOf_1
theorem dksX6_crowdOf_0 : cX6_crowdOf.data.toList.drop 0 = dktX6_crowdOf_0 := by decide +kernel
theorem dksX6_crowdOf_1 : cX6_crowdOf.data.toList.drop 24 = dktX6_crowdOf_1 := dk_seg dksX6_crowdOf_0 24 rfl rfl
theorem dksX6_crowdOf_2 : cX6_crowdOf.data.toList.drop 48 = dktX6_crowdOf_2 := dk_seg dksX6_crowdOf_1 24 rfl rfl
theorem dksX6_crowdOf_3 : cX6_crowdOf.data.toList.drop 72 = dktX6_crowdOf_3 := dk_seg dksX6_crowdOf_2 24 rfl rfl
theorem dksX6_crowdOf_4 : cX6_crowdOf.data.toList.drop 96 = dktX6_crowdOf_4 := dk_seg dksX6_crowdOf_3 24 rfl rfl
theorem dX6_crowdOf_0 : decode cX6_crowdOf 0 = .ok (.aload_n 0, 1) := dk_42 (dk_at dksX6_crowdOf_0 0 rfl rfl)
theorem dX6_crowdOf_1 : decode cX6_crowdOf 1 = .ok (.invokevirtual 239, 3) := dk_182 0 239 (dk_at dksX6_crowdOf_0 1 rfl rfl)
theorem dX6_crowdOf_4 : decode cX6_crowdOf 4 = .ok (.iconst (-1), 1) := dk_2 (dk_at dksX6_crowdOf_0 4 rfl rfl)
theorem dX6_crowdOf_5 : decode cX6_crowdOf 5 = .ok (.istore_n 2, 1) := dk_61 (dk_at dksX6_crowdOf_0 5 rfl rfl)
theorem dX6_crowdOf_6 : decode cX6_crowdOf 6 = .ok (.iconst 0, 1) := dk_3 (dk_at dksX6_crowdOf_0 6 rfl rfl)
theorem dX6_crowdOf_7 : decode cX6_crowdOf 7 = .ok (.istore_n 3, 1) := dk_62 (dk_at dksX6_crowdOf_0 7 rfl rfl)
theorem dX6_crowdOf_8 : decode cX6_crowdOf 8 = .ok (.iconst 0, 1) := dk_3 (dk_at dksX6_crowdOf_0 8 rfl rfl)
theorem dX6_crowdOf_9 : decode cX6_crowdOf 9 = .ok (.istore 4, 2) := dk_54 4 (dk_at dksX6_crowdOf_0 9 rfl rfl)
theorem dX6_crowdOf_11 : decode cX6_crowdOf 11 = .ok (.iload 4, 2) := dk_21 4 (dk_at dksX6_crowdOf_0 11 rfl rfl)
theorem dX6_crowdOf_13 : decode cX6_crowdOf 13 = .ok (.sipush 240, 3) := dk_17 0 240 (dk_at dksX6_crowdOf_0 13 rfl rfl)
theorem dX6_crowdOf_16 : decode cX6_crowdOf 16 = .ok (.if_icmp .ge 51, 3) := dk_162 0 51 (dk_at dksX6_crowdOf_0 16 rfl rfl)
theorem dX6_crowdOf_19 : decode cX6_crowdOf 19 = .ok (.aload_n 0, 1) := dk_42 (dk_at dksX6_crowdOf_0 19 rfl rfl)
theorem dX6_crowdOf_20 : decode cX6_crowdOf 20 = .ok (.iload 4, 2) := dk_21 4 (dk_at dksX6_crowdOf_0 20 rfl rfl)
theorem dX6_crowdOf_22 : decode cX6_crowdOf 22 = .ok (.bipush 12, 2) := dk_16 12 (dk_at dksX6_crowdOf_0 22 rfl rfl)
theorem dX6_crowdOf_24 : decode cX6_crowdOf 24 = .ok (.idiv, 1) := dk_108 (dk_at dksX6_crowdOf_1 0 rfl rfl)
theorem dX6_crowdOf_25 : decode cX6_crowdOf 25 = .ok (.iload 4, 2) := dk_21 4 (dk_at dksX6_crowdOf_1 1 rfl rfl)
theorem dX6_crowdOf_27 : decode cX6_crowdOf 27 = .ok (.bipush 12, 2) := dk_16 12 (dk_at dksX6_crowdOf_1 3 rfl rfl)
theorem dX6_crowdOf_29 : decode cX6_crowdOf 29 = .ok (.irem, 1) := dk_112 (dk_at dksX6_crowdOf_1 5 rfl rfl)
theorem dX6_crowdOf_30 : decode cX6_crowdOf 30 = .ok (.invokevirtual 224, 3) := dk_182 0 224 (dk_at dksX6_crowdOf_1 6 rfl rfl)
theorem dX6_crowdOf_33 : decode cX6_crowdOf 33 = .ok (.istore 5, 2) := dk_54 5 (dk_at dksX6_crowdOf_1 9 rfl rfl)
theorem dX6_crowdOf_35 : decode cX6_crowdOf 35 = .ok (.iload 5, 2) := dk_21 5 (dk_at dksX6_crowdOf_1 11 rfl rfl)
theorem dX6_crowdOf_37 : decode cX6_crowdOf 37 = .ok (.iload_n 3, 1) := dk_29 (dk_at dksX6_crowdOf_1 13 rfl rfl)
theorem dX6_crowdOf_38 : decode cX6_crowdOf 38 = .ok (.if_icmp .le 8, 3) := dk_164 0 8 (dk_at dksX6_crowdOf_1 14 rfl rfl)
theorem dX6_crowdOf_41 : decode cX6_crowdOf 41 = .ok (.iload 4, 2) := dk_21 4 (dk_at dksX6_crowdOf_1 17 rfl rfl)
theorem dX6_crowdOf_43 : decode cX6_crowdOf 43 = .ok (.goto 4, 3) := dk_167 0 4 (dk_at dksX6_crowdOf_1 19 rfl rfl)
theorem dX6_crowdOf_46 : decode cX6_crowdOf 46 = .ok (.iload_n 2, 1) := dk_28 (dk_at dksX6_crowdOf_1 22 rfl rfl)
theorem dX6_crowdOf_47 : decode cX6_crowdOf 47 = .ok (.istore_n 2, 1) := dk_61 (dk_at dksX6_crowdOf_1 23 rfl rfl)
theorem dX6_crowdOf_48 : decode cX6_crowdOf 48 = .ok (.iload 5, 2) := dk_21 5 (dk_at dksX6_crowdOf_2 0 rfl rfl)
theorem dX6_crowdOf_50 : decode cX6_crowdOf 50 = .ok (.iload_n 3, 1) := dk_29 (dk_at dksX6_crowdOf_2 2 rfl rfl)
theorem dX6_crowdOf_51 : decode cX6_crowdOf 51 = .ok (.if_icmp .le 8, 3) := dk_164 0 8 (dk_at dksX6_crowdOf_2 3 rfl rfl)
theorem dX6_crowdOf_54 : decode cX6_crowdOf 54 = .ok (.iload 5, 2) := dk_21 5 (dk_at dksX6_crowdOf_2 6 rfl rfl)
theorem dX6_crowdOf_56 : decode cX6_crowdOf 56 = .ok (.goto 4, 3) := dk_167 0 4 (dk_at dksX6_crowdOf_2 8 rfl rfl)
theorem dX6_crowdOf_59 : decode cX6_crowdOf 59 = .ok (.iload_n 3, 1) := dk_29 (dk_at dksX6_crowdOf_2 11 rfl rfl)
theorem dX6_crowdOf_60 : decode cX6_crowdOf 60 = .ok (.istore_n 3, 1) := dk_62 (dk_at dksX6_crowdOf_2 12 rfl rfl)
theorem dX6_crowdOf_61 : decode cX6_crowdOf 61 = .ok (.iinc 4 1, 3) := dk_132 4 1 (dk_at dksX6_crowdOf_2 13 rfl rfl)
theorem dX6_crowdOf_64 : decode cX6_crowdOf 64 = .ok (.goto (-53), 3) := dk_167 255 203 (dk_at dksX6_crowdOf_2 16 rfl rfl)
theorem dX6_crowdOf_67 : decode cX6_crowdOf 67 = .ok (.iload_n 2, 1) := dk_28 (dk_at dksX6_crowdOf_2 19 rfl rfl)
theorem dX6_crowdOf_68 : decode cX6_crowdOf 68 = .ok (.iconst (-1), 1) := dk_2 (dk_at dksX6_crowdOf_2 20 rfl rfl)
theorem dX6_crowdOf_69 : decode cX6_crowdOf 69 = .ok (.if_icmp .ne 7, 3) := dk_160 0 7 (dk_at dksX6_crowdOf_2 21 rfl rfl)
theorem dX6_crowdOf_72 : decode cX6_crowdOf 72 = .ok (.iconst (-1), 1) := dk_2 (dk_at dksX6_crowdOf_3 0 rfl rfl)
theorem dX6_crowdOf_73 : decode cX6_crowdOf 73 = .ok (.goto 27, 3) := dk_167 0 27 (dk_at dksX6_crowdOf_3 1 rfl rfl)
theorem dX6_crowdOf_76 : decode cX6_crowdOf 76 = .ok (.iload_n 1, 1) := dk_27 (dk_at dksX6_crowdOf_3 4 rfl rfl)
theorem dX6_crowdOf_77 : decode cX6_crowdOf 77 = .ok (.ifCond .ne 10, 3) := dk_154 0 10 (dk_at dksX6_crowdOf_3 5 rfl rfl)
theorem dX6_crowdOf_80 : decode cX6_crowdOf 80 = .ok (.iload_n 2, 1) := dk_28 (dk_at dksX6_crowdOf_3 8 rfl rfl)
theorem dX6_crowdOf_81 : decode cX6_crowdOf 81 = .ok (.bipush 12, 2) := dk_16 12 (dk_at dksX6_crowdOf_3 9 rfl rfl)
theorem dX6_crowdOf_83 : decode cX6_crowdOf 83 = .ok (.idiv, 1) := dk_108 (dk_at dksX6_crowdOf_3 11 rfl rfl)
theorem dX6_crowdOf_84 : decode cX6_crowdOf 84 = .ok (.goto 16, 3) := dk_167 0 16 (dk_at dksX6_crowdOf_3 12 rfl rfl)
theorem dX6_crowdOf_87 : decode cX6_crowdOf 87 = .ok (.iload_n 1, 1) := dk_27 (dk_at dksX6_crowdOf_3 15 rfl rfl)
theorem dX6_crowdOf_88 : decode cX6_crowdOf 88 = .ok (.iconst 1, 1) := dk_4 (dk_at dksX6_crowdOf_3 16 rfl rfl)
theorem dX6_crowdOf_89 : decode cX6_crowdOf 89 = .ok (.if_icmp .ne 10, 3) := dk_160 0 10 (dk_at dksX6_crowdOf_3 17 rfl rfl)
theorem dX6_crowdOf_92 : decode cX6_crowdOf 92 = .ok (.iload_n 2, 1) := dk_28 (dk_at dksX6_crowdOf_3 20 rfl rfl)
theorem dX6_crowdOf_93 : decode cX6_crowdOf 93 = .ok (.bipush 12, 2) := dk_16 12 (dk_at dksX6_crowdOf_3 21 rfl rfl)
theorem dX6_crowdOf_95 : decode cX6_crowdOf 95 = .ok (.irem, 1) := dk_112 (dk_at dksX6_crowdOf_3 23 rfl rfl)
theorem dX6_crowdOf_96 : decode cX6_crowdOf 96 = .ok (.goto 4, 3) := dk_167 0 4 (dk_at dksX6_crowdOf_4 0 rfl rfl)
theorem dX6_crowdOf_99 : decode cX6_crowdOf 99 = .ok (.iload_n 3, 1) := dk_29 (dk_at dksX6_crowdOf_4 3 rfl rfl)
theorem dX6_crowdOf_100 : decode cX6_crowdOf 100 = .ok (.ireturn, 1) := dk_172 (dk_at dksX6_crowdOf_4 4 rfl rfl)
abbrev cX6_orator : ByteArray := prog_13_method_60_code
def yX6_orator : MethodName := ⟨RX6, "orator", "()I"⟩
theorem dX6_orator_0 : decode cX6_orator 0 = .ok (.aload_n 0, 1) := by decide +kernel
theorem dX6_orator_1 : decode cX6_orator 1 = .ok (.invokevirtual 269, 3) := by decide +kernel
theorem dX6_orator_4 : decode cX6_orator 4 = .ok (.ireturn, 1) := by decide +kernel
abbrev cX6_oratorOf : ByteArray := prog_13_method_59_code
def yX6_oratorOf : MethodName := ⟨RX6, "oratorOf", "()I"⟩
def dkwX6_oratorOf_2 : List UInt8 := [167, 255, 219, 27, 172]
abbrev dktX6_oratorOf_2 : List UInt8 := dkwX6_oratorOf_2 ++ []
def dkwX6_oratorOf_1 : List UInt8 := [180, 0, 58, 28, 46, 42, 180, 0, 58, 27, 46, 164, 0, 7, 28, 167, 0, 4, 27, 60, 132, 2, 1]
abbrev dktX6_oratorOf_1 : List UInt8 := dkwX6_oratorOf_1 ++ dktX6_oratorOf_2
def dkwX6_oratorOf_0 : List UInt8 := [42, 182, 0, 239, 2, 60, 3, 61, 28, 42, 180, 0, 134, 162, 0, 35, 27, 2, 159, 0, 18, 42]
abbrev dktX6_oratorOf_0 : List UInt8 := dkwX6_oratorOf_0 ++ dktX6_oratorOf_1
theorem dksX6_oratorOf_0 : cX6_oratorOf.data.toList.drop 0 = dktX6_oratorOf_0 := by decide +kernel
theorem dksX6_oratorOf_1 : cX6_oratorOf.data.toList.drop 22 = dktX6_oratorOf_1 := dk_seg dksX6_oratorOf_0 22 rfl rfl
theorem dksX6_oratorOf_2 : cX6_oratorOf.data.toList.drop 45 = dktX6_oratorOf_2 := dk_seg dksX6_oratorOf_1 23 rfl rfl
theorem dX6_oratorOf_0 : decode cX6_oratorOf 0 = .ok (.aload_n 0, 1) := dk_42 (dk_at dksX6_oratorOf_0 0 rfl rfl)
theorem dX6_oratorOf_1 : decode cX6_oratorOf 1 = .ok (.invokevirtual 239, 3) := dk_182 0 239 (dk_at dksX6_oratorOf_0 1 rfl rfl)
theorem dX6_oratorOf_4 : decode cX6_oratorOf 4 = .ok (.iconst (-1), 1) := dk_2 (dk_at dksX6_oratorOf_0 4 rfl rfl)
theorem dX6_oratorOf_5 : decode cX6_oratorOf 5 = .ok (.istore_n 1, 1) := dk_60 (dk_at dksX6_oratorOf_0 5 rfl rfl)
theorem dX6_oratorOf_6 : decode cX6_oratorOf 6 = .ok (.iconst 0, 1) := dk_3 (dk_at dksX6_oratorOf_0 6 rfl rfl)
theorem dX6_oratorOf_7 : decode cX6_oratorOf 7 = .ok (.istore_n 2, 1) := dk_61 (dk_at dksX6_oratorOf_0 7 rfl rfl)
theorem dX6_oratorOf_8 : decode cX6_oratorOf 8 = .ok (.iload_n 2, 1) := dk_28 (dk_at dksX6_oratorOf_0 8 rfl rfl)
theorem dX6_oratorOf_9 : decode cX6_oratorOf 9 = .ok (.aload_n 0, 1) := dk_42 (dk_at dksX6_oratorOf_0 9 rfl rfl)
theorem dX6_oratorOf_10 : decode cX6_oratorOf 10 = .ok (.getfield 134, 3) := dk_180 0 134 (dk_at dksX6_oratorOf_0 10 rfl rfl)
theorem dX6_oratorOf_13 : decode cX6_oratorOf 13 = .ok (.if_icmp .ge 35, 3) := dk_162 0 35 (dk_at dksX6_oratorOf_0 13 rfl rfl)
theorem dX6_oratorOf_16 : decode cX6_oratorOf 16 = .ok (.iload_n 1, 1) := dk_27 (dk_at dksX6_oratorOf_0 16 rfl rfl)
theorem dX6_oratorOf_17 : decode cX6_oratorOf 17 = .ok (.iconst (-1), 1) := dk_2 (dk_at dksX6_oratorOf_0 17 rfl rfl)
theorem dX6_oratorOf_18 : decode cX6_oratorOf 18 = .ok (.if_icmp .eq 18, 3) := dk_159 0 18 (dk_at dksX6_oratorOf_0 18 rfl rfl)
theorem dX6_oratorOf_21 : decode cX6_oratorOf 21 = .ok (.aload_n 0, 1) := dk_42 (dk_at dksX6_oratorOf_0 21 rfl rfl)
theorem dX6_oratorOf_22 : decode cX6_oratorOf 22 = .ok (.getfield 58, 3) := dk_180 0 58 (dk_at dksX6_oratorOf_1 0 rfl rfl)
theorem dX6_oratorOf_25 : decode cX6_oratorOf 25 = .ok (.iload_n 2, 1) := dk_28 (dk_at dksX6_oratorOf_1 3 rfl rfl)
theorem dX6_oratorOf_26 : decode cX6_oratorOf 26 = .ok (.iaload, 1) := dk_46 (dk_at dksX6_oratorOf_1 4 rfl rfl)
theorem dX6_oratorOf_27 : decode cX6_oratorOf 27 = .ok (.aload_n 0, 1) := dk_42 (dk_at dksX6_oratorOf_1 5 rfl rfl)
theorem dX6_oratorOf_28 : decode cX6_oratorOf 28 = .ok (.getfield 58, 3) := dk_180 0 58 (dk_at dksX6_oratorOf_1 6 rfl rfl)
theorem dX6_oratorOf_31 : decode cX6_oratorOf 31 = .ok (.iload_n 1, 1) := dk_27 (dk_at dksX6_oratorOf_1 9 rfl rfl)
theorem dX6_oratorOf_32 : decode cX6_oratorOf 32 = .ok (.iaload, 1) := dk_46 (dk_at dksX6_oratorOf_1 10 rfl rfl)
theorem dX6_oratorOf_33 : decode cX6_oratorOf 33 = .ok (.if_icmp .le 7, 3) := dk_164 0 7 (dk_at dksX6_oratorOf_1 11 rfl rfl)
theorem dX6_oratorOf_36 : decode cX6_oratorOf 36 = .ok (.iload_n 2, 1) := dk_28 (dk_at dksX6_oratorOf_1 14 rfl rfl)
theorem dX6_oratorOf_37 : decode cX6_oratorOf 37 = .ok (.goto 4, 3) := dk_167 0 4 (dk_at dksX6_oratorOf_1 15 rfl rfl)
theorem dX6_oratorOf_40 : decode cX6_oratorOf 40 = .ok (.iload_n 1, 1) := dk_27 (dk_at dksX6_oratorOf_1 18 rfl rfl)
theorem dX6_oratorOf_41 : decode cX6_oratorOf 41 = .ok (.istore_n 1, 1) := dk_60 (dk_at dksX6_oratorOf_1 19 rfl rfl)
theorem dX6_oratorOf_42 : decode cX6_oratorOf 42 = .ok (.iinc 2 1, 3) := dk_132 2 1 (dk_at dksX6_oratorOf_1 20 rfl rfl)
theorem dX6_oratorOf_45 : decode cX6_oratorOf 45 = .ok (.goto (-37), 3) := dk_167 255 219 (dk_at dksX6_oratorOf_2 0 rfl rfl)
theorem dX6_oratorOf_48 : decode cX6_oratorOf 48 = .ok (.iload_n 1, 1) := dk_27 (dk_at dksX6_oratorOf_2 3 rfl rfl)
theorem dX6_oratorOf_49 : decode cX6_oratorOf 49 = .ok (.ireturn, 1) := dk_172 (dk_at dksX6_oratorOf_2 4 rfl rfl)
abbrev cX6_still : ByteArray := prog_13_method_62_code
def yX6_still : MethodName := ⟨RX6, "still", "()I"⟩
theorem dX6_still_0 : decode cX6_still 0 = .ok (.aload_n 0, 1) := by decide +kernel
theorem dX6_still_1 : decode cX6_still 1 = .ok (.invokevirtual 272, 3) := by decide +kernel
theorem dX6_still_4 : decode cX6_still 4 = .ok (.ireturn, 1) := by decide +kernel
abbrev cX6_stillOf : ByteArray := prog_13_method_61_code
def yX6_stillOf : MethodName := ⟨RX6, "stillOf", "()I"⟩
def dkwX6_stillOf_0 : List UInt8 := [42, 182, 0, 239, 4, 42, 180, 0, 134, 120, 4, 100, 42, 180, 0, 205, 2, 130, 126, 172]
abbrev dktX6_stillOf_0 : List UInt8 := dkwX6_stillOf_0 ++ []
theorem dksX6_stillOf_0 : cX6_stillOf.data.toList.drop 0 = dktX6_stillOf_0 := by decide +kernel
theorem dX6_stillOf_0 : decode cX6_stillOf 0 = .ok (.aload_n 0, 1) := dk_42 (dk_at dksX6_stillOf_0 0 rfl rfl)
theorem dX6_stillOf_1 : decode cX6_stillOf 1 = .ok (.invokevirtual 239, 3) := dk_182 0 239 (dk_at dksX6_stillOf_0 1 rfl rfl)
theorem dX6_stillOf_4 : decode cX6_stillOf 4 = .ok (.iconst 1, 1) := dk_4 (dk_at dksX6_stillOf_0 4 rfl rfl)
theorem dX6_stillOf_5 : decode cX6_stillOf 5 = .ok (.aload_n 0, 1) := dk_42 (dk_at dksX6_stillOf_0 5 rfl rfl)
theorem dX6_stillOf_6 : decode cX6_stillOf 6 = .ok (.getfield 134, 3) := dk_180 0 134 (dk_at dksX6_stillOf_0 6 rfl rfl)
theorem dX6_stillOf_9 : decode cX6_stillOf 9 = .ok (.ishl, 1) := dk_120 (dk_at dksX6_stillOf_0 9 rfl rfl)
theorem dX6_stillOf_10 : decode cX6_stillOf 10 = .ok (.iconst 1, 1) := dk_4 (dk_at dksX6_stillOf_0 10 rfl rfl)
theorem dX6_stillOf_11 : decode cX6_stillOf 11 = .ok (.isub, 1) := dk_100 (dk_at dksX6_stillOf_0 11 rfl rfl)
theorem dX6_stillOf_12 : decode cX6_stillOf 12 = .ok (.aload_n 0, 1) := dk_42 (dk_at dksX6_stillOf_0 12 rfl rfl)
theorem dX6_stillOf_13 : decode cX6_stillOf 13 = .ok (.getfield 205, 3) := dk_180 0 205 (dk_at dksX6_stillOf_0 13 rfl rfl)
theorem dX6_stillOf_16 : decode cX6_stillOf 16 = .ok (.iconst (-1), 1) := dk_2 (dk_at dksX6_stillOf_0 16 rfl rfl)
theorem dX6_stillOf_17 : decode cX6_stillOf 17 = .ok (.ixor, 1) := dk_130 (dk_at dksX6_stillOf_0 17 rfl rfl)
theorem dX6_stillOf_18 : decode cX6_stillOf 18 = .ok (.iand, 1) := dk_126 (dk_at dksX6_stillOf_0 18 rfl rfl)
theorem dX6_stillOf_19 : decode cX6_stillOf 19 = .ok (.ireturn, 1) := dk_172 (dk_at dksX6_stillOf_0 19 rfl rfl)
abbrev cX6_seat : ByteArray := prog_13_method_64_code
def yX6_seat : MethodName := ⟨RX6, "seat", "(II)I"⟩
def dkwX6_seat_1 : List UInt8 := [167, 0, 5, 16, 254, 172]
abbrev dktX6_seat_1 : List UInt8 := dkwX6_seat_1 ++ []
def dkwX6_seat_0 : List UInt8 := [42, 27, 182, 0, 160, 153, 0, 21, 28, 3, 4, 184, 0, 115, 153, 0, 12, 42, 27, 28, 182, 1, 19]
abbrev dktX6_seat_0 : List UInt8 := dkwX6_seat_0 ++ dktX6_seat_1
theorem dksX6_seat_0 : cX6_seat.data.toList.drop 0 = dktX6_seat_0 := by decide +kernel
theorem dksX6_seat_1 : cX6_seat.data.toList.drop 23 = dktX6_seat_1 := dk_seg dksX6_seat_0 23 rfl rfl
theorem dX6_seat_0 : decode cX6_seat 0 = .ok (.aload_n 0, 1) := dk_42 (dk_at dksX6_seat_0 0 rfl rfl)
theorem dX6_seat_1 : decode cX6_seat 1 = .ok (.iload_n 1, 1) := dk_27 (dk_at dksX6_seat_0 1 rfl rfl)
theorem dX6_seat_2 : decode cX6_seat 2 = .ok (.invokevirtual 160, 3) := dk_182 0 160 (dk_at dksX6_seat_0 2 rfl rfl)
theorem dX6_seat_5 : decode cX6_seat 5 = .ok (.ifCond .eq 21, 3) := dk_153 0 21 (dk_at dksX6_seat_0 5 rfl rfl)
theorem dX6_seat_8 : decode cX6_seat 8 = .ok (.iload_n 2, 1) := dk_28 (dk_at dksX6_seat_0 8 rfl rfl)
theorem dX6_seat_9 : decode cX6_seat 9 = .ok (.iconst 0, 1) := dk_3 (dk_at dksX6_seat_0 9 rfl rfl)
theorem dX6_seat_10 : decode cX6_seat 10 = .ok (.iconst 1, 1) := dk_4 (dk_at dksX6_seat_0 10 rfl rfl)
theorem dX6_seat_11 : decode cX6_seat 11 = .ok (.invokestatic 115, 3) := dk_184 0 115 (dk_at dksX6_seat_0 11 rfl rfl)
theorem dX6_seat_14 : decode cX6_seat 14 = .ok (.ifCond .eq 12, 3) := dk_153 0 12 (dk_at dksX6_seat_0 14 rfl rfl)
theorem dX6_seat_17 : decode cX6_seat 17 = .ok (.aload_n 0, 1) := dk_42 (dk_at dksX6_seat_0 17 rfl rfl)
theorem dX6_seat_18 : decode cX6_seat 18 = .ok (.iload_n 1, 1) := dk_27 (dk_at dksX6_seat_0 18 rfl rfl)
theorem dX6_seat_19 : decode cX6_seat 19 = .ok (.iload_n 2, 1) := dk_28 (dk_at dksX6_seat_0 19 rfl rfl)
theorem dX6_seat_20 : decode cX6_seat 20 = .ok (.invokevirtual 275, 3) := dk_182 1 19 (dk_at dksX6_seat_0 20 rfl rfl)
theorem dX6_seat_23 : decode cX6_seat 23 = .ok (.goto 5, 3) := dk_167 0 5 (dk_at dksX6_seat_1 0 rfl rfl)
theorem dX6_seat_26 : decode cX6_seat 26 = .ok (.bipush (-2), 2) := dk_16 254 (dk_at dksX6_seat_1 3 rfl rfl)
theorem dX6_seat_28 : decode cX6_seat 28 = .ok (.ireturn, 1) := dk_172 (dk_at dksX6_seat_1 5 rfl rfl)
abbrev cX6_seatOf : ByteArray := prog_13_method_63_code
def yX6_seatOf : MethodName := ⟨RX6, "seatOf", "(II)I"⟩
def dkwX6_seatOf_4 : List UInt8 := [21, 4, 167, 0, 5, 21, 5, 172]
abbrev dktX6_seatOf_4 : List UInt8 := dkwX6_seatOf_4 ++ []
def dkwX6_seatOf_3 : List UInt8 := [167, 0, 5, 21, 5, 54, 5, 132, 6, 1, 167, 255, 196, 42, 180, 0, 22, 27, 29, 79, 28, 154, 0, 8]
abbrev dktX6_seatOf_3 : List UInt8 := dkwX6_seatOf_3 ++ dktX6_seatOf_4
def dkwX6_seatOf_2 : List UInt8 := [21, 5, 164, 0, 8, 21, 6, 167, 0, 5, 21, 4, 54, 4, 21, 7, 21, 5, 164, 0, 8, 21, 7]
abbrev dktX6_seatOf_2 : List UInt8 := dkwX6_seatOf_2 ++ dktX6_seatOf_3
def dkwX6_seatOf_1 : List UInt8 := [162, 0, 59, 42, 180, 0, 22, 27, 21, 6, 79, 42, 182, 0, 236, 42, 182, 1, 4, 54, 7, 21, 7]
abbrev dktX6_seatOf_1 : List UInt8 := dkwX6_seatOf_1 ++ dktX6_seatOf_2
def dkwX6_seatOf_0 : List UInt8 := [42, 182, 0, 233, 42, 180, 0, 22, 27, 46, 62, 2, 54, 4, 2, 54, 5, 3, 54, 6, 21, 6, 16, 12]
abbrev dktX6_seatOf_0 : List UInt8 := dkwX6_seatOf_0 ++ dktX6_seatOf_1
theorem dksX6_seatOf_0 : cX6_seatOf.data.toList.drop 0 = dktX6_seatOf_0 := by decide +kernel
theorem dksX6_seatOf_1 : cX6_seatOf.data.toList.drop 24 = dktX6_seatOf_1 := dk_seg dksX6_seatOf_0 24 rfl rfl
theorem dksX6_seatOf_2 : cX6_seatOf.data.toList.drop 47 = dktX6_seatOf_2 := dk_seg dksX6_seatOf_1 23 rfl rfl
theorem dksX6_seatOf_3 : cX6_seatOf.data.toList.drop 70 = dktX6_seatOf_3 := dk_seg dksX6_seatOf_2 23 rfl rfl
theorem dksX6_seatOf_4 : cX6_seatOf.data.toList.drop 94 = dktX6_seatOf_4 := dk_seg dksX6_seatOf_3 24 rfl rfl
theorem dX6_seatOf_0 : decode cX6_seatOf 0 = .ok (.aload_n 0, 1) := dk_42 (dk_at dksX6_seatOf_0 0 rfl rfl)
theorem dX6_seatOf_1 : decode cX6_seatOf 1 = .ok (.invokevirtual 233, 3) := dk_182 0 233 (dk_at dksX6_seatOf_0 1 rfl rfl)
theorem dX6_seatOf_4 : decode cX6_seatOf 4 = .ok (.aload_n 0, 1) := dk_42 (dk_at dksX6_seatOf_0 4 rfl rfl)
theorem dX6_seatOf_5 : decode cX6_seatOf 5 = .ok (.getfield 22, 3) := dk_180 0 22 (dk_at dksX6_seatOf_0 5 rfl rfl)
theorem dX6_seatOf_8 : decode cX6_seatOf 8 = .ok (.iload_n 1, 1) := dk_27 (dk_at dksX6_seatOf_0 8 rfl rfl)
theorem dX6_seatOf_9 : decode cX6_seatOf 9 = .ok (.iaload, 1) := dk_46 (dk_at dksX6_seatOf_0 9 rfl rfl)
theorem dX6_seatOf_10 : decode cX6_seatOf 10 = .ok (.istore_n 3, 1) := dk_62 (dk_at dksX6_seatOf_0 10 rfl rfl)
theorem dX6_seatOf_11 : decode cX6_seatOf 11 = .ok (.iconst (-1), 1) := dk_2 (dk_at dksX6_seatOf_0 11 rfl rfl)
theorem dX6_seatOf_12 : decode cX6_seatOf 12 = .ok (.istore 4, 2) := dk_54 4 (dk_at dksX6_seatOf_0 12 rfl rfl)
theorem dX6_seatOf_14 : decode cX6_seatOf 14 = .ok (.iconst (-1), 1) := dk_2 (dk_at dksX6_seatOf_0 14 rfl rfl)
theorem dX6_seatOf_15 : decode cX6_seatOf 15 = .ok (.istore 5, 2) := dk_54 5 (dk_at dksX6_seatOf_0 15 rfl rfl)
theorem dX6_seatOf_17 : decode cX6_seatOf 17 = .ok (.iconst 0, 1) := dk_3 (dk_at dksX6_seatOf_0 17 rfl rfl)
theorem dX6_seatOf_18 : decode cX6_seatOf 18 = .ok (.istore 6, 2) := dk_54 6 (dk_at dksX6_seatOf_0 18 rfl rfl)
theorem dX6_seatOf_20 : decode cX6_seatOf 20 = .ok (.iload 6, 2) := dk_21 6 (dk_at dksX6_seatOf_0 20 rfl rfl)
theorem dX6_seatOf_22 : decode cX6_seatOf 22 = .ok (.bipush 12, 2) := dk_16 12 (dk_at dksX6_seatOf_0 22 rfl rfl)
theorem dX6_seatOf_24 : decode cX6_seatOf 24 = .ok (.if_icmp .ge 59, 3) := dk_162 0 59 (dk_at dksX6_seatOf_1 0 rfl rfl)
theorem dX6_seatOf_27 : decode cX6_seatOf 27 = .ok (.aload_n 0, 1) := dk_42 (dk_at dksX6_seatOf_1 3 rfl rfl)
theorem dX6_seatOf_28 : decode cX6_seatOf 28 = .ok (.getfield 22, 3) := dk_180 0 22 (dk_at dksX6_seatOf_1 4 rfl rfl)
theorem dX6_seatOf_31 : decode cX6_seatOf 31 = .ok (.iload_n 1, 1) := dk_27 (dk_at dksX6_seatOf_1 7 rfl rfl)
theorem dX6_seatOf_32 : decode cX6_seatOf 32 = .ok (.iload 6, 2) := dk_21 6 (dk_at dksX6_seatOf_1 8 rfl rfl)
theorem dX6_seatOf_34 : decode cX6_seatOf 34 = .ok (.iastore, 1) := dk_79 (dk_at dksX6_seatOf_1 10 rfl rfl)
theorem dX6_seatOf_35 : decode cX6_seatOf 35 = .ok (.aload_n 0, 1) := dk_42 (dk_at dksX6_seatOf_1 11 rfl rfl)
theorem dX6_seatOf_36 : decode cX6_seatOf 36 = .ok (.invokevirtual 236, 3) := dk_182 0 236 (dk_at dksX6_seatOf_1 12 rfl rfl)
theorem dX6_seatOf_39 : decode cX6_seatOf 39 = .ok (.aload_n 0, 1) := dk_42 (dk_at dksX6_seatOf_1 15 rfl rfl)
theorem dX6_seatOf_40 : decode cX6_seatOf 40 = .ok (.invokevirtual 260, 3) := dk_182 1 4 (dk_at dksX6_seatOf_1 16 rfl rfl)
theorem dX6_seatOf_43 : decode cX6_seatOf 43 = .ok (.istore 7, 2) := dk_54 7 (dk_at dksX6_seatOf_1 19 rfl rfl)
theorem dX6_seatOf_45 : decode cX6_seatOf 45 = .ok (.iload 7, 2) := dk_21 7 (dk_at dksX6_seatOf_1 21 rfl rfl)
theorem dX6_seatOf_47 : decode cX6_seatOf 47 = .ok (.iload 5, 2) := dk_21 5 (dk_at dksX6_seatOf_2 0 rfl rfl)
theorem dX6_seatOf_49 : decode cX6_seatOf 49 = .ok (.if_icmp .le 8, 3) := dk_164 0 8 (dk_at dksX6_seatOf_2 2 rfl rfl)
theorem dX6_seatOf_52 : decode cX6_seatOf 52 = .ok (.iload 6, 2) := dk_21 6 (dk_at dksX6_seatOf_2 5 rfl rfl)
theorem dX6_seatOf_54 : decode cX6_seatOf 54 = .ok (.goto 5, 3) := dk_167 0 5 (dk_at dksX6_seatOf_2 7 rfl rfl)
theorem dX6_seatOf_57 : decode cX6_seatOf 57 = .ok (.iload 4, 2) := dk_21 4 (dk_at dksX6_seatOf_2 10 rfl rfl)
theorem dX6_seatOf_59 : decode cX6_seatOf 59 = .ok (.istore 4, 2) := dk_54 4 (dk_at dksX6_seatOf_2 12 rfl rfl)
theorem dX6_seatOf_61 : decode cX6_seatOf 61 = .ok (.iload 7, 2) := dk_21 7 (dk_at dksX6_seatOf_2 14 rfl rfl)
theorem dX6_seatOf_63 : decode cX6_seatOf 63 = .ok (.iload 5, 2) := dk_21 5 (dk_at dksX6_seatOf_2 16 rfl rfl)
theorem dX6_seatOf_65 : decode cX6_seatOf 65 = .ok (.if_icmp .le 8, 3) := dk_164 0 8 (dk_at dksX6_seatOf_2 18 rfl rfl)
theorem dX6_seatOf_68 : decode cX6_seatOf 68 = .ok (.iload 7, 2) := dk_21 7 (dk_at dksX6_seatOf_2 21 rfl rfl)
theorem dX6_seatOf_70 : decode cX6_seatOf 70 = .ok (.goto 5, 3) := dk_167 0 5 (dk_at dksX6_seatOf_3 0 rfl rfl)
theorem dX6_seatOf_73 : decode cX6_seatOf 73 = .ok (.iload 5, 2) := dk_21 5 (dk_at dksX6_seatOf_3 3 rfl rfl)
theorem dX6_seatOf_75 : decode cX6_seatOf 75 = .ok (.istore 5, 2) := dk_54 5 (dk_at dksX6_seatOf_3 5 rfl rfl)
theorem dX6_seatOf_77 : decode cX6_seatOf 77 = .ok (.iinc 6 1, 3) := dk_132 6 1 (dk_at dksX6_seatOf_3 7 rfl rfl)
theorem dX6_seatOf_80 : decode cX6_seatOf 80 = .ok (.goto (-60), 3) := dk_167 255 196 (dk_at dksX6_seatOf_3 10 rfl rfl)
theorem dX6_seatOf_83 : decode cX6_seatOf 83 = .ok (.aload_n 0, 1) := dk_42 (dk_at dksX6_seatOf_3 13 rfl rfl)
theorem dX6_seatOf_84 : decode cX6_seatOf 84 = .ok (.getfield 22, 3) := dk_180 0 22 (dk_at dksX6_seatOf_3 14 rfl rfl)
theorem dX6_seatOf_87 : decode cX6_seatOf 87 = .ok (.iload_n 1, 1) := dk_27 (dk_at dksX6_seatOf_3 17 rfl rfl)
theorem dX6_seatOf_88 : decode cX6_seatOf 88 = .ok (.iload_n 3, 1) := dk_29 (dk_at dksX6_seatOf_3 18 rfl rfl)
theorem dX6_seatOf_89 : decode cX6_seatOf 89 = .ok (.iastore, 1) := dk_79 (dk_at dksX6_seatOf_3 19 rfl rfl)
theorem dX6_seatOf_90 : decode cX6_seatOf 90 = .ok (.iload_n 2, 1) := dk_28 (dk_at dksX6_seatOf_3 20 rfl rfl)
theorem dX6_seatOf_91 : decode cX6_seatOf 91 = .ok (.ifCond .ne 8, 3) := dk_154 0 8 (dk_at dksX6_seatOf_3 21 rfl rfl)
theorem dX6_seatOf_94 : decode cX6_seatOf 94 = .ok (.iload 4, 2) := dk_21 4 (dk_at dksX6_seatOf_4 0 rfl rfl)
theorem dX6_seatOf_96 : decode cX6_seatOf 96 = .ok (.goto 5, 3) := dk_167 0 5 (dk_at dksX6_seatOf_4 2 rfl rfl)
theorem dX6_seatOf_99 : decode cX6_seatOf 99 = .ok (.iload 5, 2) := dk_21 5 (dk_at dksX6_seatOf_4 5 rfl rfl)
theorem dX6_seatOf_101 : decode cX6_seatOf 101 = .ok (.ireturn, 1) := dk_172 (dk_at dksX6_seatOf_4 7 rfl rfl)
abbrev cX6_dust : ByteArray := prog_13_method_67_code
def yX6_dust : MethodName := ⟨RX6, "dust", "(II)I"⟩
def dkwX6_dust_1 : List UInt8 := [167, 0, 5, 16, 254, 172]
abbrev dktX6_dust_1 : List UInt8 := dkwX6_dust_1 ++ []
def dkwX6_dust_0 : List UInt8 := [27, 184, 0, 166, 153, 0, 21, 28, 3, 4, 184, 0, 115, 153, 0, 12, 42, 27, 28, 182, 1, 26]
abbrev dktX6_dust_0 : List UInt8 := dkwX6_dust_0 ++ dktX6_dust_1
theorem dksX6_dust_0 : cX6_dust.data.toList.drop 0 = dktX6_dust_0 := by decide +kernel
theorem dksX6_dust_1 : cX6_dust.data.toList.drop 22 = dktX6_dust_1 := dk_seg dksX6_dust_0 22 rfl rfl
theorem dX6_dust_0 : decode cX6_dust 0 = .ok (.iload_n 1, 1) := dk_27 (dk_at dksX6_dust_0 0 rfl rfl)
theorem dX6_dust_1 : decode cX6_dust 1 = .ok (.invokestatic 166, 3) := dk_184 0 166 (dk_at dksX6_dust_0 1 rfl rfl)
theorem dX6_dust_4 : decode cX6_dust 4 = .ok (.ifCond .eq 21, 3) := dk_153 0 21 (dk_at dksX6_dust_0 4 rfl rfl)
theorem dX6_dust_7 : decode cX6_dust 7 = .ok (.iload_n 2, 1) := dk_28 (dk_at dksX6_dust_0 7 rfl rfl)
theorem dX6_dust_8 : decode cX6_dust 8 = .ok (.iconst 0, 1) := dk_3 (dk_at dksX6_dust_0 8 rfl rfl)
theorem dX6_dust_9 : decode cX6_dust 9 = .ok (.iconst 1, 1) := dk_4 (dk_at dksX6_dust_0 9 rfl rfl)
theorem dX6_dust_10 : decode cX6_dust 10 = .ok (.invokestatic 115, 3) := dk_184 0 115 (dk_at dksX6_dust_0 10 rfl rfl)
theorem dX6_dust_13 : decode cX6_dust 13 = .ok (.ifCond .eq 12, 3) := dk_153 0 12 (dk_at dksX6_dust_0 13 rfl rfl)
theorem dX6_dust_16 : decode cX6_dust 16 = .ok (.aload_n 0, 1) := dk_42 (dk_at dksX6_dust_0 16 rfl rfl)
theorem dX6_dust_17 : decode cX6_dust 17 = .ok (.iload_n 1, 1) := dk_27 (dk_at dksX6_dust_0 17 rfl rfl)
theorem dX6_dust_18 : decode cX6_dust 18 = .ok (.iload_n 2, 1) := dk_28 (dk_at dksX6_dust_0 18 rfl rfl)
theorem dX6_dust_19 : decode cX6_dust 19 = .ok (.invokevirtual 282, 3) := dk_182 1 26 (dk_at dksX6_dust_0 19 rfl rfl)
theorem dX6_dust_22 : decode cX6_dust 22 = .ok (.goto 5, 3) := dk_167 0 5 (dk_at dksX6_dust_1 0 rfl rfl)
theorem dX6_dust_25 : decode cX6_dust 25 = .ok (.bipush (-2), 2) := dk_16 254 (dk_at dksX6_dust_1 3 rfl rfl)
theorem dX6_dust_27 : decode cX6_dust 27 = .ok (.ireturn, 1) := dk_172 (dk_at dksX6_dust_1 5 rfl rfl)
abbrev cX6_dustOf : ByteArray := prog_13_method_66_code
def yX6_dustOf : MethodName := ⟨RX6, "dustOf", "(II)I"⟩
def dkwX6_dustOf_3 : List UInt8 := [154, 0, 7, 29, 167, 0, 5, 21, 4, 172]
abbrev dktX6_dustOf_3 : List UInt8 := dkwX6_dustOf_3 ++ []
def dkwX6_dustOf_2 : List UInt8 := [21, 6, 21, 4, 164, 0, 8, 21, 6, 167, 0, 5, 21, 4, 54, 4, 132, 5, 1, 167, 255, 202, 28]
abbrev dktX6_dustOf_2 : List UInt8 := dkwX6_dustOf_2 ++ dktX6_dustOf_3
def dkwX6_dustOf_1 : List UInt8 := [182, 1, 22, 42, 182, 1, 4, 54, 6, 21, 6, 21, 4, 164, 0, 8, 21, 5, 167, 0, 4, 29, 62]
abbrev dktX6_dustOf_1 : List UInt8 := dkwX6_dustOf_1 ++ dktX6_dustOf_2
def dkwX6_dustOf_0 : List UInt8 := [42, 182, 0, 233, 2, 62, 2, 54, 4, 3, 54, 5, 21, 5, 16, 12, 162, 0, 53, 42, 4, 27, 21, 5]
abbrev dktX6_dustOf_0 : List UInt8 := dkwX6_dustOf_0 ++ dktX6_dustOf_1
theorem dksX6_dustOf_0 : cX6_dustOf.data.toList.drop 0 = dktX6_dustOf_0 := by decide +kernel
theorem dksX6_dustOf_1 : cX6_dustOf.data.toList.drop 24 = dktX6_dustOf_1 := dk_seg dksX6_dustOf_0 24 rfl rfl
theorem dksX6_dustOf_2 : cX6_dustOf.data.toList.drop 47 = dktX6_dustOf_2 := dk_seg dksX6_dustOf_1 23 rfl rfl
theorem dksX6_dustOf_3 : cX6_dustOf.data.toList.drop 70 = dktX6_dustOf_3 := dk_seg dksX6_dustOf_2 23 rfl rfl
theorem dX6_dustOf_0 : decode cX6_dustOf 0 = .ok (.aload_n 0, 1) := dk_42 (dk_at dksX6_dustOf_0 0 rfl rfl)
theorem dX6_dustOf_1 : decode cX6_dustOf 1 = .ok (.invokevirtual 233, 3) := dk_182 0 233 (dk_at dksX6_dustOf_0 1 rfl rfl)
theorem dX6_dustOf_4 : decode cX6_dustOf 4 = .ok (.iconst (-1), 1) := dk_2 (dk_at dksX6_dustOf_0 4 rfl rfl)
theorem dX6_dustOf_5 : decode cX6_dustOf 5 = .ok (.istore_n 3, 1) := dk_62 (dk_at dksX6_dustOf_0 5 rfl rfl)
theorem dX6_dustOf_6 : decode cX6_dustOf 6 = .ok (.iconst (-1), 1) := dk_2 (dk_at dksX6_dustOf_0 6 rfl rfl)
theorem dX6_dustOf_7 : decode cX6_dustOf 7 = .ok (.istore 4, 2) := dk_54 4 (dk_at dksX6_dustOf_0 7 rfl rfl)
theorem dX6_dustOf_9 : decode cX6_dustOf 9 = .ok (.iconst 0, 1) := dk_3 (dk_at dksX6_dustOf_0 9 rfl rfl)
theorem dX6_dustOf_10 : decode cX6_dustOf 10 = .ok (.istore 5, 2) := dk_54 5 (dk_at dksX6_dustOf_0 10 rfl rfl)
theorem dX6_dustOf_12 : decode cX6_dustOf 12 = .ok (.iload 5, 2) := dk_21 5 (dk_at dksX6_dustOf_0 12 rfl rfl)
theorem dX6_dustOf_14 : decode cX6_dustOf 14 = .ok (.bipush 12, 2) := dk_16 12 (dk_at dksX6_dustOf_0 14 rfl rfl)
theorem dX6_dustOf_16 : decode cX6_dustOf 16 = .ok (.if_icmp .ge 53, 3) := dk_162 0 53 (dk_at dksX6_dustOf_0 16 rfl rfl)
theorem dX6_dustOf_19 : decode cX6_dustOf 19 = .ok (.aload_n 0, 1) := dk_42 (dk_at dksX6_dustOf_0 19 rfl rfl)
theorem dX6_dustOf_20 : decode cX6_dustOf 20 = .ok (.iconst 1, 1) := dk_4 (dk_at dksX6_dustOf_0 20 rfl rfl)
theorem dX6_dustOf_21 : decode cX6_dustOf 21 = .ok (.iload_n 1, 1) := dk_27 (dk_at dksX6_dustOf_0 21 rfl rfl)
theorem dX6_dustOf_22 : decode cX6_dustOf 22 = .ok (.iload 5, 2) := dk_21 5 (dk_at dksX6_dustOf_0 22 rfl rfl)
theorem dX6_dustOf_24 : decode cX6_dustOf 24 = .ok (.invokevirtual 278, 3) := dk_182 1 22 (dk_at dksX6_dustOf_1 0 rfl rfl)
theorem dX6_dustOf_27 : decode cX6_dustOf 27 = .ok (.aload_n 0, 1) := dk_42 (dk_at dksX6_dustOf_1 3 rfl rfl)
theorem dX6_dustOf_28 : decode cX6_dustOf 28 = .ok (.invokevirtual 260, 3) := dk_182 1 4 (dk_at dksX6_dustOf_1 4 rfl rfl)
theorem dX6_dustOf_31 : decode cX6_dustOf 31 = .ok (.istore 6, 2) := dk_54 6 (dk_at dksX6_dustOf_1 7 rfl rfl)
theorem dX6_dustOf_33 : decode cX6_dustOf 33 = .ok (.iload 6, 2) := dk_21 6 (dk_at dksX6_dustOf_1 9 rfl rfl)
theorem dX6_dustOf_35 : decode cX6_dustOf 35 = .ok (.iload 4, 2) := dk_21 4 (dk_at dksX6_dustOf_1 11 rfl rfl)
theorem dX6_dustOf_37 : decode cX6_dustOf 37 = .ok (.if_icmp .le 8, 3) := dk_164 0 8 (dk_at dksX6_dustOf_1 13 rfl rfl)
theorem dX6_dustOf_40 : decode cX6_dustOf 40 = .ok (.iload 5, 2) := dk_21 5 (dk_at dksX6_dustOf_1 16 rfl rfl)
theorem dX6_dustOf_42 : decode cX6_dustOf 42 = .ok (.goto 4, 3) := dk_167 0 4 (dk_at dksX6_dustOf_1 18 rfl rfl)
theorem dX6_dustOf_45 : decode cX6_dustOf 45 = .ok (.iload_n 3, 1) := dk_29 (dk_at dksX6_dustOf_1 21 rfl rfl)
theorem dX6_dustOf_46 : decode cX6_dustOf 46 = .ok (.istore_n 3, 1) := dk_62 (dk_at dksX6_dustOf_1 22 rfl rfl)
theorem dX6_dustOf_47 : decode cX6_dustOf 47 = .ok (.iload 6, 2) := dk_21 6 (dk_at dksX6_dustOf_2 0 rfl rfl)
theorem dX6_dustOf_49 : decode cX6_dustOf 49 = .ok (.iload 4, 2) := dk_21 4 (dk_at dksX6_dustOf_2 2 rfl rfl)
theorem dX6_dustOf_51 : decode cX6_dustOf 51 = .ok (.if_icmp .le 8, 3) := dk_164 0 8 (dk_at dksX6_dustOf_2 4 rfl rfl)
theorem dX6_dustOf_54 : decode cX6_dustOf 54 = .ok (.iload 6, 2) := dk_21 6 (dk_at dksX6_dustOf_2 7 rfl rfl)
theorem dX6_dustOf_56 : decode cX6_dustOf 56 = .ok (.goto 5, 3) := dk_167 0 5 (dk_at dksX6_dustOf_2 9 rfl rfl)
theorem dX6_dustOf_59 : decode cX6_dustOf 59 = .ok (.iload 4, 2) := dk_21 4 (dk_at dksX6_dustOf_2 12 rfl rfl)
theorem dX6_dustOf_61 : decode cX6_dustOf 61 = .ok (.istore 4, 2) := dk_54 4 (dk_at dksX6_dustOf_2 14 rfl rfl)
theorem dX6_dustOf_63 : decode cX6_dustOf 63 = .ok (.iinc 5 1, 3) := dk_132 5 1 (dk_at dksX6_dustOf_2 16 rfl rfl)
theorem dX6_dustOf_66 : decode cX6_dustOf 66 = .ok (.goto (-54), 3) := dk_167 255 202 (dk_at dksX6_dustOf_2 19 rfl rfl)
theorem dX6_dustOf_69 : decode cX6_dustOf 69 = .ok (.iload_n 2, 1) := dk_28 (dk_at dksX6_dustOf_2 22 rfl rfl)
theorem dX6_dustOf_70 : decode cX6_dustOf 70 = .ok (.ifCond .ne 7, 3) := dk_154 0 7 (dk_at dksX6_dustOf_3 0 rfl rfl)
theorem dX6_dustOf_73 : decode cX6_dustOf 73 = .ok (.iload_n 3, 1) := dk_29 (dk_at dksX6_dustOf_3 3 rfl rfl)
theorem dX6_dustOf_74 : decode cX6_dustOf 74 = .ok (.goto 5, 3) := dk_167 0 5 (dk_at dksX6_dustOf_3 4 rfl rfl)
theorem dX6_dustOf_77 : decode cX6_dustOf 77 = .ok (.iload 4, 2) := dk_21 4 (dk_at dksX6_dustOf_3 7 rfl rfl)
theorem dX6_dustOf_79 : decode cX6_dustOf 79 = .ok (.ireturn, 1) := dk_172 (dk_at dksX6_dustOf_3 9 rfl rfl)
abbrev cX6_more : ByteArray := prog_13_method_65_code
def yX6_more : MethodName := ⟨RX6, "more", "(III)V"⟩
def dkwX6_more_1 : List UInt8 := [42, 180, 0, 169, 28, 79, 42, 180, 0, 43, 42, 180, 0, 169, 29, 79, 42, 182, 0, 236, 177]
abbrev dktX6_more_1 : List UInt8 := dkwX6_more_1 ++ []
def dkwX6_more_0 : List UInt8 := [42, 42, 180, 0, 169, 4, 96, 181, 0, 182, 42, 180, 0, 37, 42, 180, 0, 169, 27, 79, 42, 180, 0, 40]
abbrev dktX6_more_0 : List UInt8 := dkwX6_more_0 ++ dktX6_more_1
theorem dksX6_more_0 : cX6_more.data.toList.drop 0 = dktX6_more_0 := by decide +kernel
theorem dksX6_more_1 : cX6_more.data.toList.drop 24 = dktX6_more_1 := dk_seg dksX6_more_0 24 rfl rfl
theorem dX6_more_0 : decode cX6_more 0 = .ok (.aload_n 0, 1) := dk_42 (dk_at dksX6_more_0 0 rfl rfl)
theorem dX6_more_1 : decode cX6_more 1 = .ok (.aload_n 0, 1) := dk_42 (dk_at dksX6_more_0 1 rfl rfl)
theorem dX6_more_2 : decode cX6_more 2 = .ok (.getfield 169, 3) := dk_180 0 169 (dk_at dksX6_more_0 2 rfl rfl)
theorem dX6_more_5 : decode cX6_more 5 = .ok (.iconst 1, 1) := dk_4 (dk_at dksX6_more_0 5 rfl rfl)
theorem dX6_more_6 : decode cX6_more 6 = .ok (.iadd, 1) := dk_96 (dk_at dksX6_more_0 6 rfl rfl)
theorem dX6_more_7 : decode cX6_more 7 = .ok (.putfield 182, 3) := dk_181 0 182 (dk_at dksX6_more_0 7 rfl rfl)
theorem dX6_more_10 : decode cX6_more 10 = .ok (.aload_n 0, 1) := dk_42 (dk_at dksX6_more_0 10 rfl rfl)
theorem dX6_more_11 : decode cX6_more 11 = .ok (.getfield 37, 3) := dk_180 0 37 (dk_at dksX6_more_0 11 rfl rfl)
theorem dX6_more_14 : decode cX6_more 14 = .ok (.aload_n 0, 1) := dk_42 (dk_at dksX6_more_0 14 rfl rfl)
theorem dX6_more_15 : decode cX6_more 15 = .ok (.getfield 169, 3) := dk_180 0 169 (dk_at dksX6_more_0 15 rfl rfl)
theorem dX6_more_18 : decode cX6_more 18 = .ok (.iload_n 1, 1) := dk_27 (dk_at dksX6_more_0 18 rfl rfl)
theorem dX6_more_19 : decode cX6_more 19 = .ok (.iastore, 1) := dk_79 (dk_at dksX6_more_0 19 rfl rfl)
theorem dX6_more_20 : decode cX6_more 20 = .ok (.aload_n 0, 1) := dk_42 (dk_at dksX6_more_0 20 rfl rfl)
theorem dX6_more_21 : decode cX6_more 21 = .ok (.getfield 40, 3) := dk_180 0 40 (dk_at dksX6_more_0 21 rfl rfl)
theorem dX6_more_24 : decode cX6_more 24 = .ok (.aload_n 0, 1) := dk_42 (dk_at dksX6_more_1 0 rfl rfl)
theorem dX6_more_25 : decode cX6_more 25 = .ok (.getfield 169, 3) := dk_180 0 169 (dk_at dksX6_more_1 1 rfl rfl)
theorem dX6_more_28 : decode cX6_more 28 = .ok (.iload_n 2, 1) := dk_28 (dk_at dksX6_more_1 4 rfl rfl)
theorem dX6_more_29 : decode cX6_more 29 = .ok (.iastore, 1) := dk_79 (dk_at dksX6_more_1 5 rfl rfl)
theorem dX6_more_30 : decode cX6_more 30 = .ok (.aload_n 0, 1) := dk_42 (dk_at dksX6_more_1 6 rfl rfl)
theorem dX6_more_31 : decode cX6_more 31 = .ok (.getfield 43, 3) := dk_180 0 43 (dk_at dksX6_more_1 7 rfl rfl)
theorem dX6_more_34 : decode cX6_more 34 = .ok (.aload_n 0, 1) := dk_42 (dk_at dksX6_more_1 10 rfl rfl)
theorem dX6_more_35 : decode cX6_more 35 = .ok (.getfield 169, 3) := dk_180 0 169 (dk_at dksX6_more_1 11 rfl rfl)
theorem dX6_more_38 : decode cX6_more 38 = .ok (.iload_n 3, 1) := dk_29 (dk_at dksX6_more_1 14 rfl rfl)
theorem dX6_more_39 : decode cX6_more 39 = .ok (.iastore, 1) := dk_79 (dk_at dksX6_more_1 15 rfl rfl)
theorem dX6_more_40 : decode cX6_more 40 = .ok (.aload_n 0, 1) := dk_42 (dk_at dksX6_more_1 16 rfl rfl)
theorem dX6_more_41 : decode cX6_more 41 = .ok (.invokevirtual 236, 3) := dk_182 0 236 (dk_at dksX6_more_1 17 rfl rfl)
theorem dX6_more_44 : decode cX6_more 44 = .ok (.return_, 1) := dk_177 (dk_at dksX6_more_1 20 rfl rfl)
abbrev cX6_boy : ByteArray := prog_13_method_69_code
def yX6_boy : MethodName := ⟨RX6, "boy", "(I)I"⟩
def dkwX6_boy_0 : List UInt8 := [27, 3, 4, 184, 0, 115, 153, 0, 11, 42, 27, 182, 1, 29, 167, 0, 5, 16, 254, 172]
abbrev dktX6_boy_0 : List UInt8 := dkwX6_boy_0 ++ []
theorem dksX6_boy_0 : cX6_boy.data.toList.drop 0 = dktX6_boy_0 := by decide +kernel
theorem dX6_boy_0 : decode cX6_boy 0 = .ok (.iload_n 1, 1) := dk_27 (dk_at dksX6_boy_0 0 rfl rfl)
theorem dX6_boy_1 : decode cX6_boy 1 = .ok (.iconst 0, 1) := dk_3 (dk_at dksX6_boy_0 1 rfl rfl)
theorem dX6_boy_2 : decode cX6_boy 2 = .ok (.iconst 1, 1) := dk_4 (dk_at dksX6_boy_0 2 rfl rfl)
theorem dX6_boy_3 : decode cX6_boy 3 = .ok (.invokestatic 115, 3) := dk_184 0 115 (dk_at dksX6_boy_0 3 rfl rfl)
theorem dX6_boy_6 : decode cX6_boy 6 = .ok (.ifCond .eq 11, 3) := dk_153 0 11 (dk_at dksX6_boy_0 6 rfl rfl)
theorem dX6_boy_9 : decode cX6_boy 9 = .ok (.aload_n 0, 1) := dk_42 (dk_at dksX6_boy_0 9 rfl rfl)
theorem dX6_boy_10 : decode cX6_boy 10 = .ok (.iload_n 1, 1) := dk_27 (dk_at dksX6_boy_0 10 rfl rfl)
theorem dX6_boy_11 : decode cX6_boy 11 = .ok (.invokevirtual 285, 3) := dk_182 1 29 (dk_at dksX6_boy_0 11 rfl rfl)
theorem dX6_boy_14 : decode cX6_boy 14 = .ok (.goto 5, 3) := dk_167 0 5 (dk_at dksX6_boy_0 14 rfl rfl)
theorem dX6_boy_17 : decode cX6_boy 17 = .ok (.bipush (-2), 2) := dk_16 254 (dk_at dksX6_boy_0 17 rfl rfl)
theorem dX6_boy_19 : decode cX6_boy 19 = .ok (.ireturn, 1) := dk_172 (dk_at dksX6_boy_0 19 rfl rfl)
abbrev cX6_boyOf : ByteArray := prog_13_method_68_code
def yX6_boyOf : MethodName := ⟨RX6, "boyOf", "(I)I"⟩
def dkwX6_boyOf_3 : List UInt8 := [167, 0, 4, 29, 172]
abbrev dktX6_boyOf_3 : List UInt8 := dkwX6_boyOf_3 ++ []
def dkwX6_boyOf_2 : List UInt8 := [29, 164, 0, 8, 21, 5, 167, 0, 4, 29, 62, 132, 4, 1, 167, 255, 206, 27, 154, 0, 7, 28]
abbrev dktX6_boyOf_2 : List UInt8 := dkwX6_boyOf_2 ++ dktX6_boyOf_3
def dkwX6_boyOf_1 : List UInt8 := [182, 1, 22, 42, 182, 0, 254, 54, 5, 21, 5, 29, 164, 0, 8, 21, 4, 167, 0, 4, 28, 61, 21, 5]
abbrev dktX6_boyOf_1 : List UInt8 := dkwX6_boyOf_1 ++ dktX6_boyOf_2
def dkwX6_boyOf_0 : List UInt8 := [42, 182, 0, 233, 2, 61, 2, 62, 3, 54, 4, 21, 4, 16, 20, 162, 0, 49, 42, 3, 21, 4, 3]
abbrev dktX6_boyOf_0 : List UInt8 := dkwX6_boyOf_0 ++ dktX6_boyOf_1
theorem dksX6_boyOf_0 : cX6_boyOf.data.toList.drop 0 = dktX6_boyOf_0 := by decide +kernel
theorem dksX6_boyOf_1 : cX6_boyOf.data.toList.drop 23 = dktX6_boyOf_1 := dk_seg dksX6_boyOf_0 23 rfl rfl
theorem dksX6_boyOf_2 : cX6_boyOf.data.toList.drop 47 = dktX6_boyOf_2 := dk_seg dksX6_boyOf_1 24 rfl rfl
theorem dksX6_boyOf_3 : cX6_boyOf.data.toList.drop 69 = dktX6_boyOf_3 := dk_seg dksX6_boyOf_2 22 rfl rfl
theorem dX6_boyOf_0 : decode cX6_boyOf 0 = .ok (.aload_n 0, 1) := dk_42 (dk_at dksX6_boyOf_0 0 rfl rfl)
theorem dX6_boyOf_1 : decode cX6_boyOf 1 = .ok (.invokevirtual 233, 3) := dk_182 0 233 (dk_at dksX6_boyOf_0 1 rfl rfl)
theorem dX6_boyOf_4 : decode cX6_boyOf 4 = .ok (.iconst (-1), 1) := dk_2 (dk_at dksX6_boyOf_0 4 rfl rfl)
theorem dX6_boyOf_5 : decode cX6_boyOf 5 = .ok (.istore_n 2, 1) := dk_61 (dk_at dksX6_boyOf_0 5 rfl rfl)
theorem dX6_boyOf_6 : decode cX6_boyOf 6 = .ok (.iconst (-1), 1) := dk_2 (dk_at dksX6_boyOf_0 6 rfl rfl)
theorem dX6_boyOf_7 : decode cX6_boyOf 7 = .ok (.istore_n 3, 1) := dk_62 (dk_at dksX6_boyOf_0 7 rfl rfl)
theorem dX6_boyOf_8 : decode cX6_boyOf 8 = .ok (.iconst 0, 1) := dk_3 (dk_at dksX6_boyOf_0 8 rfl rfl)
theorem dX6_boyOf_9 : decode cX6_boyOf 9 = .ok (.istore 4, 2) := dk_54 4 (dk_at dksX6_boyOf_0 9 rfl rfl)
theorem dX6_boyOf_11 : decode cX6_boyOf 11 = .ok (.iload 4, 2) := dk_21 4 (dk_at dksX6_boyOf_0 11 rfl rfl)
theorem dX6_boyOf_13 : decode cX6_boyOf 13 = .ok (.bipush 20, 2) := dk_16 20 (dk_at dksX6_boyOf_0 13 rfl rfl)
theorem dX6_boyOf_15 : decode cX6_boyOf 15 = .ok (.if_icmp .ge 49, 3) := dk_162 0 49 (dk_at dksX6_boyOf_0 15 rfl rfl)
theorem dX6_boyOf_18 : decode cX6_boyOf 18 = .ok (.aload_n 0, 1) := dk_42 (dk_at dksX6_boyOf_0 18 rfl rfl)
theorem dX6_boyOf_19 : decode cX6_boyOf 19 = .ok (.iconst 0, 1) := dk_3 (dk_at dksX6_boyOf_0 19 rfl rfl)
theorem dX6_boyOf_20 : decode cX6_boyOf 20 = .ok (.iload 4, 2) := dk_21 4 (dk_at dksX6_boyOf_0 20 rfl rfl)
theorem dX6_boyOf_22 : decode cX6_boyOf 22 = .ok (.iconst 0, 1) := dk_3 (dk_at dksX6_boyOf_0 22 rfl rfl)
theorem dX6_boyOf_23 : decode cX6_boyOf 23 = .ok (.invokevirtual 278, 3) := dk_182 1 22 (dk_at dksX6_boyOf_1 0 rfl rfl)
theorem dX6_boyOf_26 : decode cX6_boyOf 26 = .ok (.aload_n 0, 1) := dk_42 (dk_at dksX6_boyOf_1 3 rfl rfl)
theorem dX6_boyOf_27 : decode cX6_boyOf 27 = .ok (.invokevirtual 254, 3) := dk_182 0 254 (dk_at dksX6_boyOf_1 4 rfl rfl)
theorem dX6_boyOf_30 : decode cX6_boyOf 30 = .ok (.istore 5, 2) := dk_54 5 (dk_at dksX6_boyOf_1 7 rfl rfl)
theorem dX6_boyOf_32 : decode cX6_boyOf 32 = .ok (.iload 5, 2) := dk_21 5 (dk_at dksX6_boyOf_1 9 rfl rfl)
theorem dX6_boyOf_34 : decode cX6_boyOf 34 = .ok (.iload_n 3, 1) := dk_29 (dk_at dksX6_boyOf_1 11 rfl rfl)
theorem dX6_boyOf_35 : decode cX6_boyOf 35 = .ok (.if_icmp .le 8, 3) := dk_164 0 8 (dk_at dksX6_boyOf_1 12 rfl rfl)
theorem dX6_boyOf_38 : decode cX6_boyOf 38 = .ok (.iload 4, 2) := dk_21 4 (dk_at dksX6_boyOf_1 15 rfl rfl)
theorem dX6_boyOf_40 : decode cX6_boyOf 40 = .ok (.goto 4, 3) := dk_167 0 4 (dk_at dksX6_boyOf_1 17 rfl rfl)
theorem dX6_boyOf_43 : decode cX6_boyOf 43 = .ok (.iload_n 2, 1) := dk_28 (dk_at dksX6_boyOf_1 20 rfl rfl)
theorem dX6_boyOf_44 : decode cX6_boyOf 44 = .ok (.istore_n 2, 1) := dk_61 (dk_at dksX6_boyOf_1 21 rfl rfl)
theorem dX6_boyOf_45 : decode cX6_boyOf 45 = .ok (.iload 5, 2) := dk_21 5 (dk_at dksX6_boyOf_1 22 rfl rfl)
theorem dX6_boyOf_47 : decode cX6_boyOf 47 = .ok (.iload_n 3, 1) := dk_29 (dk_at dksX6_boyOf_2 0 rfl rfl)
theorem dX6_boyOf_48 : decode cX6_boyOf 48 = .ok (.if_icmp .le 8, 3) := dk_164 0 8 (dk_at dksX6_boyOf_2 1 rfl rfl)
theorem dX6_boyOf_51 : decode cX6_boyOf 51 = .ok (.iload 5, 2) := dk_21 5 (dk_at dksX6_boyOf_2 4 rfl rfl)
theorem dX6_boyOf_53 : decode cX6_boyOf 53 = .ok (.goto 4, 3) := dk_167 0 4 (dk_at dksX6_boyOf_2 6 rfl rfl)
theorem dX6_boyOf_56 : decode cX6_boyOf 56 = .ok (.iload_n 3, 1) := dk_29 (dk_at dksX6_boyOf_2 9 rfl rfl)
theorem dX6_boyOf_57 : decode cX6_boyOf 57 = .ok (.istore_n 3, 1) := dk_62 (dk_at dksX6_boyOf_2 10 rfl rfl)
theorem dX6_boyOf_58 : decode cX6_boyOf 58 = .ok (.iinc 4 1, 3) := dk_132 4 1 (dk_at dksX6_boyOf_2 11 rfl rfl)
theorem dX6_boyOf_61 : decode cX6_boyOf 61 = .ok (.goto (-50), 3) := dk_167 255 206 (dk_at dksX6_boyOf_2 14 rfl rfl)
theorem dX6_boyOf_64 : decode cX6_boyOf 64 = .ok (.iload_n 1, 1) := dk_27 (dk_at dksX6_boyOf_2 17 rfl rfl)
theorem dX6_boyOf_65 : decode cX6_boyOf 65 = .ok (.ifCond .ne 7, 3) := dk_154 0 7 (dk_at dksX6_boyOf_2 18 rfl rfl)
theorem dX6_boyOf_68 : decode cX6_boyOf 68 = .ok (.iload_n 2, 1) := dk_28 (dk_at dksX6_boyOf_2 21 rfl rfl)
theorem dX6_boyOf_69 : decode cX6_boyOf 69 = .ok (.goto 4, 3) := dk_167 0 4 (dk_at dksX6_boyOf_3 0 rfl rfl)
theorem dX6_boyOf_72 : decode cX6_boyOf 72 = .ok (.iload_n 3, 1) := dk_29 (dk_at dksX6_boyOf_3 3 rfl rfl)
theorem dX6_boyOf_73 : decode cX6_boyOf 73 = .ok (.ireturn, 1) := dk_172 (dk_at dksX6_boyOf_3 4 rfl rfl)
abbrev cX6_calm : ByteArray := prog_13_method_73_code
def yX6_calm : MethodName := ⟨RX6, "calm", "(I)I"⟩
def dkwX6_calm_0 : List UInt8 := [27, 2, 4, 184, 0, 115, 153, 0, 15, 42, 42, 182, 1, 35, 27, 182, 1, 38, 167, 0, 5, 16, 254, 172]
abbrev dktX6_calm_0 : List UInt8 := dkwX6_calm_0 ++ []
theorem dksX6_calm_0 : cX6_calm.data.toList.drop 0 = dktX6_calm_0 := by decide +kernel
theorem dX6_calm_0 : decode cX6_calm 0 = .ok (.iload_n 1, 1) := dk_27 (dk_at dksX6_calm_0 0 rfl rfl)
theorem dX6_calm_1 : decode cX6_calm 1 = .ok (.iconst (-1), 1) := dk_2 (dk_at dksX6_calm_0 1 rfl rfl)
theorem dX6_calm_2 : decode cX6_calm 2 = .ok (.iconst 1, 1) := dk_4 (dk_at dksX6_calm_0 2 rfl rfl)
theorem dX6_calm_3 : decode cX6_calm 3 = .ok (.invokestatic 115, 3) := dk_184 0 115 (dk_at dksX6_calm_0 3 rfl rfl)
theorem dX6_calm_6 : decode cX6_calm 6 = .ok (.ifCond .eq 15, 3) := dk_153 0 15 (dk_at dksX6_calm_0 6 rfl rfl)
theorem dX6_calm_9 : decode cX6_calm 9 = .ok (.aload_n 0, 1) := dk_42 (dk_at dksX6_calm_0 9 rfl rfl)
theorem dX6_calm_10 : decode cX6_calm 10 = .ok (.aload_n 0, 1) := dk_42 (dk_at dksX6_calm_0 10 rfl rfl)
theorem dX6_calm_11 : decode cX6_calm 11 = .ok (.invokevirtual 291, 3) := dk_182 1 35 (dk_at dksX6_calm_0 11 rfl rfl)
theorem dX6_calm_14 : decode cX6_calm 14 = .ok (.iload_n 1, 1) := dk_27 (dk_at dksX6_calm_0 14 rfl rfl)
theorem dX6_calm_15 : decode cX6_calm 15 = .ok (.invokevirtual 294, 3) := dk_182 1 38 (dk_at dksX6_calm_0 15 rfl rfl)
theorem dX6_calm_18 : decode cX6_calm 18 = .ok (.goto 5, 3) := dk_167 0 5 (dk_at dksX6_calm_0 18 rfl rfl)
theorem dX6_calm_21 : decode cX6_calm 21 = .ok (.bipush (-2), 2) := dk_16 254 (dk_at dksX6_calm_0 21 rfl rfl)
theorem dX6_calm_23 : decode cX6_calm 23 = .ok (.ireturn, 1) := dk_172 (dk_at dksX6_calm_0 23 rfl rfl)
abbrev cX6_calmBy : ByteArray := prog_13_method_71_code
def yX6_calmBy : MethodName := ⟨RX6, "calmBy", "()I"⟩
def dkwX6_calmBy_4 : List UInt8 := [128, 182, 1, 32, 153, 0, 5, 5, 172, 132, 2, 1, 167, 255, 215, 132, 1, 1, 167, 255, 197, 2, 172]
abbrev dktX6_calmBy_4 : List UInt8 := dkwX6_calmBy_4 ++ []
def dkwX6_calmBy_3 : List UInt8 := [162, 0, 39, 42, 180, 0, 82, 3, 27, 79, 42, 180, 0, 82, 4, 28, 79, 42, 4, 27, 120, 4, 28, 120]
abbrev dktX6_calmBy_3 : List UInt8 := dkwX6_calmBy_3 ++ dktX6_calmBy_4
def dkwX6_calmBy_2 : List UInt8 := [167, 255, 226, 3, 60, 27, 42, 180, 0, 169, 162, 0, 57, 27, 4, 96, 61, 28, 42, 180, 0, 169]
abbrev dktX6_calmBy_2 : List UInt8 := dkwX6_calmBy_2 ++ dktX6_calmBy_3
def dkwX6_calmBy_1 : List UInt8 := [42, 180, 0, 82, 3, 27, 79, 42, 4, 27, 120, 182, 1, 32, 153, 0, 5, 4, 172, 132, 1, 1]
abbrev dktX6_calmBy_1 : List UInt8 := dkwX6_calmBy_1 ++ dktX6_calmBy_2
def dkwX6_calmBy_0 : List UInt8 := [42, 182, 0, 233, 42, 3, 182, 1, 32, 153, 0, 5, 3, 172, 3, 60, 27, 42, 180, 0, 169, 162, 0, 28]
abbrev dktX6_calmBy_0 : List UInt8 := dkwX6_calmBy_0 ++ dktX6_calmBy_1
theorem dksX6_calmBy_0 : cX6_calmBy.data.toList.drop 0 = dktX6_calmBy_0 := by decide +kernel
theorem dksX6_calmBy_1 : cX6_calmBy.data.toList.drop 24 = dktX6_calmBy_1 := dk_seg dksX6_calmBy_0 24 rfl rfl
theorem dksX6_calmBy_2 : cX6_calmBy.data.toList.drop 46 = dktX6_calmBy_2 := dk_seg dksX6_calmBy_1 22 rfl rfl
theorem dksX6_calmBy_3 : cX6_calmBy.data.toList.drop 68 = dktX6_calmBy_3 := dk_seg dksX6_calmBy_2 22 rfl rfl
theorem dksX6_calmBy_4 : cX6_calmBy.data.toList.drop 92 = dktX6_calmBy_4 := dk_seg dksX6_calmBy_3 24 rfl rfl
theorem dX6_calmBy_0 : decode cX6_calmBy 0 = .ok (.aload_n 0, 1) := dk_42 (dk_at dksX6_calmBy_0 0 rfl rfl)
theorem dX6_calmBy_1 : decode cX6_calmBy 1 = .ok (.invokevirtual 233, 3) := dk_182 0 233 (dk_at dksX6_calmBy_0 1 rfl rfl)
theorem dX6_calmBy_4 : decode cX6_calmBy 4 = .ok (.aload_n 0, 1) := dk_42 (dk_at dksX6_calmBy_0 4 rfl rfl)
theorem dX6_calmBy_5 : decode cX6_calmBy 5 = .ok (.iconst 0, 1) := dk_3 (dk_at dksX6_calmBy_0 5 rfl rfl)
theorem dX6_calmBy_6 : decode cX6_calmBy 6 = .ok (.invokevirtual 288, 3) := dk_182 1 32 (dk_at dksX6_calmBy_0 6 rfl rfl)
theorem dX6_calmBy_9 : decode cX6_calmBy 9 = .ok (.ifCond .eq 5, 3) := dk_153 0 5 (dk_at dksX6_calmBy_0 9 rfl rfl)
theorem dX6_calmBy_12 : decode cX6_calmBy 12 = .ok (.iconst 0, 1) := dk_3 (dk_at dksX6_calmBy_0 12 rfl rfl)
theorem dX6_calmBy_13 : decode cX6_calmBy 13 = .ok (.ireturn, 1) := dk_172 (dk_at dksX6_calmBy_0 13 rfl rfl)
theorem dX6_calmBy_14 : decode cX6_calmBy 14 = .ok (.iconst 0, 1) := dk_3 (dk_at dksX6_calmBy_0 14 rfl rfl)
theorem dX6_calmBy_15 : decode cX6_calmBy 15 = .ok (.istore_n 1, 1) := dk_60 (dk_at dksX6_calmBy_0 15 rfl rfl)
theorem dX6_calmBy_16 : decode cX6_calmBy 16 = .ok (.iload_n 1, 1) := dk_27 (dk_at dksX6_calmBy_0 16 rfl rfl)
theorem dX6_calmBy_17 : decode cX6_calmBy 17 = .ok (.aload_n 0, 1) := dk_42 (dk_at dksX6_calmBy_0 17 rfl rfl)
theorem dX6_calmBy_18 : decode cX6_calmBy 18 = .ok (.getfield 169, 3) := dk_180 0 169 (dk_at dksX6_calmBy_0 18 rfl rfl)
theorem dX6_calmBy_21 : decode cX6_calmBy 21 = .ok (.if_icmp .ge 28, 3) := dk_162 0 28 (dk_at dksX6_calmBy_0 21 rfl rfl)
theorem dX6_calmBy_24 : decode cX6_calmBy 24 = .ok (.aload_n 0, 1) := dk_42 (dk_at dksX6_calmBy_1 0 rfl rfl)
theorem dX6_calmBy_25 : decode cX6_calmBy 25 = .ok (.getfield 82, 3) := dk_180 0 82 (dk_at dksX6_calmBy_1 1 rfl rfl)
theorem dX6_calmBy_28 : decode cX6_calmBy 28 = .ok (.iconst 0, 1) := dk_3 (dk_at dksX6_calmBy_1 4 rfl rfl)
theorem dX6_calmBy_29 : decode cX6_calmBy 29 = .ok (.iload_n 1, 1) := dk_27 (dk_at dksX6_calmBy_1 5 rfl rfl)
theorem dX6_calmBy_30 : decode cX6_calmBy 30 = .ok (.iastore, 1) := dk_79 (dk_at dksX6_calmBy_1 6 rfl rfl)
theorem dX6_calmBy_31 : decode cX6_calmBy 31 = .ok (.aload_n 0, 1) := dk_42 (dk_at dksX6_calmBy_1 7 rfl rfl)
theorem dX6_calmBy_32 : decode cX6_calmBy 32 = .ok (.iconst 1, 1) := dk_4 (dk_at dksX6_calmBy_1 8 rfl rfl)
theorem dX6_calmBy_33 : decode cX6_calmBy 33 = .ok (.iload_n 1, 1) := dk_27 (dk_at dksX6_calmBy_1 9 rfl rfl)
theorem dX6_calmBy_34 : decode cX6_calmBy 34 = .ok (.ishl, 1) := dk_120 (dk_at dksX6_calmBy_1 10 rfl rfl)
theorem dX6_calmBy_35 : decode cX6_calmBy 35 = .ok (.invokevirtual 288, 3) := dk_182 1 32 (dk_at dksX6_calmBy_1 11 rfl rfl)
theorem dX6_calmBy_38 : decode cX6_calmBy 38 = .ok (.ifCond .eq 5, 3) := dk_153 0 5 (dk_at dksX6_calmBy_1 14 rfl rfl)
theorem dX6_calmBy_41 : decode cX6_calmBy 41 = .ok (.iconst 1, 1) := dk_4 (dk_at dksX6_calmBy_1 17 rfl rfl)
theorem dX6_calmBy_42 : decode cX6_calmBy 42 = .ok (.ireturn, 1) := dk_172 (dk_at dksX6_calmBy_1 18 rfl rfl)
theorem dX6_calmBy_43 : decode cX6_calmBy 43 = .ok (.iinc 1 1, 3) := dk_132 1 1 (dk_at dksX6_calmBy_1 19 rfl rfl)
theorem dX6_calmBy_46 : decode cX6_calmBy 46 = .ok (.goto (-30), 3) := dk_167 255 226 (dk_at dksX6_calmBy_2 0 rfl rfl)
theorem dX6_calmBy_49 : decode cX6_calmBy 49 = .ok (.iconst 0, 1) := dk_3 (dk_at dksX6_calmBy_2 3 rfl rfl)
theorem dX6_calmBy_50 : decode cX6_calmBy 50 = .ok (.istore_n 1, 1) := dk_60 (dk_at dksX6_calmBy_2 4 rfl rfl)
theorem dX6_calmBy_51 : decode cX6_calmBy 51 = .ok (.iload_n 1, 1) := dk_27 (dk_at dksX6_calmBy_2 5 rfl rfl)
theorem dX6_calmBy_52 : decode cX6_calmBy 52 = .ok (.aload_n 0, 1) := dk_42 (dk_at dksX6_calmBy_2 6 rfl rfl)
theorem dX6_calmBy_53 : decode cX6_calmBy 53 = .ok (.getfield 169, 3) := dk_180 0 169 (dk_at dksX6_calmBy_2 7 rfl rfl)
theorem dX6_calmBy_56 : decode cX6_calmBy 56 = .ok (.if_icmp .ge 57, 3) := dk_162 0 57 (dk_at dksX6_calmBy_2 10 rfl rfl)
theorem dX6_calmBy_59 : decode cX6_calmBy 59 = .ok (.iload_n 1, 1) := dk_27 (dk_at dksX6_calmBy_2 13 rfl rfl)
theorem dX6_calmBy_60 : decode cX6_calmBy 60 = .ok (.iconst 1, 1) := dk_4 (dk_at dksX6_calmBy_2 14 rfl rfl)
theorem dX6_calmBy_61 : decode cX6_calmBy 61 = .ok (.iadd, 1) := dk_96 (dk_at dksX6_calmBy_2 15 rfl rfl)
theorem dX6_calmBy_62 : decode cX6_calmBy 62 = .ok (.istore_n 2, 1) := dk_61 (dk_at dksX6_calmBy_2 16 rfl rfl)
theorem dX6_calmBy_63 : decode cX6_calmBy 63 = .ok (.iload_n 2, 1) := dk_28 (dk_at dksX6_calmBy_2 17 rfl rfl)
theorem dX6_calmBy_64 : decode cX6_calmBy 64 = .ok (.aload_n 0, 1) := dk_42 (dk_at dksX6_calmBy_2 18 rfl rfl)
theorem dX6_calmBy_65 : decode cX6_calmBy 65 = .ok (.getfield 169, 3) := dk_180 0 169 (dk_at dksX6_calmBy_2 19 rfl rfl)
theorem dX6_calmBy_68 : decode cX6_calmBy 68 = .ok (.if_icmp .ge 39, 3) := dk_162 0 39 (dk_at dksX6_calmBy_3 0 rfl rfl)
theorem dX6_calmBy_71 : decode cX6_calmBy 71 = .ok (.aload_n 0, 1) := dk_42 (dk_at dksX6_calmBy_3 3 rfl rfl)
theorem dX6_calmBy_72 : decode cX6_calmBy 72 = .ok (.getfield 82, 3) := dk_180 0 82 (dk_at dksX6_calmBy_3 4 rfl rfl)
theorem dX6_calmBy_75 : decode cX6_calmBy 75 = .ok (.iconst 0, 1) := dk_3 (dk_at dksX6_calmBy_3 7 rfl rfl)
theorem dX6_calmBy_76 : decode cX6_calmBy 76 = .ok (.iload_n 1, 1) := dk_27 (dk_at dksX6_calmBy_3 8 rfl rfl)
theorem dX6_calmBy_77 : decode cX6_calmBy 77 = .ok (.iastore, 1) := dk_79 (dk_at dksX6_calmBy_3 9 rfl rfl)
theorem dX6_calmBy_78 : decode cX6_calmBy 78 = .ok (.aload_n 0, 1) := dk_42 (dk_at dksX6_calmBy_3 10 rfl rfl)
theorem dX6_calmBy_79 : decode cX6_calmBy 79 = .ok (.getfield 82, 3) := dk_180 0 82 (dk_at dksX6_calmBy_3 11 rfl rfl)
theorem dX6_calmBy_82 : decode cX6_calmBy 82 = .ok (.iconst 1, 1) := dk_4 (dk_at dksX6_calmBy_3 14 rfl rfl)
theorem dX6_calmBy_83 : decode cX6_calmBy 83 = .ok (.iload_n 2, 1) := dk_28 (dk_at dksX6_calmBy_3 15 rfl rfl)
theorem dX6_calmBy_84 : decode cX6_calmBy 84 = .ok (.iastore, 1) := dk_79 (dk_at dksX6_calmBy_3 16 rfl rfl)
theorem dX6_calmBy_85 : decode cX6_calmBy 85 = .ok (.aload_n 0, 1) := dk_42 (dk_at dksX6_calmBy_3 17 rfl rfl)
theorem dX6_calmBy_86 : decode cX6_calmBy 86 = .ok (.iconst 1, 1) := dk_4 (dk_at dksX6_calmBy_3 18 rfl rfl)
theorem dX6_calmBy_87 : decode cX6_calmBy 87 = .ok (.iload_n 1, 1) := dk_27 (dk_at dksX6_calmBy_3 19 rfl rfl)
theorem dX6_calmBy_88 : decode cX6_calmBy 88 = .ok (.ishl, 1) := dk_120 (dk_at dksX6_calmBy_3 20 rfl rfl)
theorem dX6_calmBy_89 : decode cX6_calmBy 89 = .ok (.iconst 1, 1) := dk_4 (dk_at dksX6_calmBy_3 21 rfl rfl)
theorem dX6_calmBy_90 : decode cX6_calmBy 90 = .ok (.iload_n 2, 1) := dk_28 (dk_at dksX6_calmBy_3 22 rfl rfl)
theorem dX6_calmBy_91 : decode cX6_calmBy 91 = .ok (.ishl, 1) := dk_120 (dk_at dksX6_calmBy_3 23 rfl rfl)
theorem dX6_calmBy_92 : decode cX6_calmBy 92 = .ok (.ior, 1) := dk_128 (dk_at dksX6_calmBy_4 0 rfl rfl)
theorem dX6_calmBy_93 : decode cX6_calmBy 93 = .ok (.invokevirtual 288, 3) := dk_182 1 32 (dk_at dksX6_calmBy_4 1 rfl rfl)
theorem dX6_calmBy_96 : decode cX6_calmBy 96 = .ok (.ifCond .eq 5, 3) := dk_153 0 5 (dk_at dksX6_calmBy_4 4 rfl rfl)
theorem dX6_calmBy_99 : decode cX6_calmBy 99 = .ok (.iconst 2, 1) := dk_5 (dk_at dksX6_calmBy_4 7 rfl rfl)
theorem dX6_calmBy_100 : decode cX6_calmBy 100 = .ok (.ireturn, 1) := dk_172 (dk_at dksX6_calmBy_4 8 rfl rfl)
theorem dX6_calmBy_101 : decode cX6_calmBy 101 = .ok (.iinc 2 1, 3) := dk_132 2 1 (dk_at dksX6_calmBy_4 9 rfl rfl)
theorem dX6_calmBy_104 : decode cX6_calmBy 104 = .ok (.goto (-41), 3) := dk_167 255 215 (dk_at dksX6_calmBy_4 12 rfl rfl)
theorem dX6_calmBy_107 : decode cX6_calmBy 107 = .ok (.iinc 1 1, 3) := dk_132 1 1 (dk_at dksX6_calmBy_4 15 rfl rfl)
theorem dX6_calmBy_110 : decode cX6_calmBy 110 = .ok (.goto (-59), 3) := dk_167 255 197 (dk_at dksX6_calmBy_4 18 rfl rfl)
theorem dX6_calmBy_113 : decode cX6_calmBy 113 = .ok (.iconst (-1), 1) := dk_2 (dk_at dksX6_calmBy_4 21 rfl rfl)
theorem dX6_calmBy_114 : decode cX6_calmBy 114 = .ok (.ireturn, 1) := dk_172 (dk_at dksX6_calmBy_4 22 rfl rfl)
abbrev cX6_isCalm : ByteArray := prog_13_method_70_code
def yX6_isCalm : MethodName := ⟨RX6, "isCalm", "(I)Z"⟩
def dkwX6_isCalm_0 : List UInt8 := [42, 27, 181, 0, 185, 42, 182, 0, 236, 42, 182, 1, 4, 16, 20, 160, 0, 7, 4, 167, 0, 4, 3, 172]
abbrev dktX6_isCalm_0 : List UInt8 := dkwX6_isCalm_0 ++ []
theorem dksX6_isCalm_0 : cX6_isCalm.data.toList.drop 0 = dktX6_isCalm_0 := by decide +kernel
theorem dX6_isCalm_0 : decode cX6_isCalm 0 = .ok (.aload_n 0, 1) := dk_42 (dk_at dksX6_isCalm_0 0 rfl rfl)
theorem dX6_isCalm_1 : decode cX6_isCalm 1 = .ok (.iload_n 1, 1) := dk_27 (dk_at dksX6_isCalm_0 1 rfl rfl)
theorem dX6_isCalm_2 : decode cX6_isCalm 2 = .ok (.putfield 185, 3) := dk_181 0 185 (dk_at dksX6_isCalm_0 2 rfl rfl)
theorem dX6_isCalm_5 : decode cX6_isCalm 5 = .ok (.aload_n 0, 1) := dk_42 (dk_at dksX6_isCalm_0 5 rfl rfl)
theorem dX6_isCalm_6 : decode cX6_isCalm 6 = .ok (.invokevirtual 236, 3) := dk_182 0 236 (dk_at dksX6_isCalm_0 6 rfl rfl)
theorem dX6_isCalm_9 : decode cX6_isCalm 9 = .ok (.aload_n 0, 1) := dk_42 (dk_at dksX6_isCalm_0 9 rfl rfl)
theorem dX6_isCalm_10 : decode cX6_isCalm 10 = .ok (.invokevirtual 260, 3) := dk_182 1 4 (dk_at dksX6_isCalm_0 10 rfl rfl)
theorem dX6_isCalm_13 : decode cX6_isCalm 13 = .ok (.bipush 20, 2) := dk_16 20 (dk_at dksX6_isCalm_0 13 rfl rfl)
theorem dX6_isCalm_15 : decode cX6_isCalm 15 = .ok (.if_icmp .ne 7, 3) := dk_160 0 7 (dk_at dksX6_isCalm_0 15 rfl rfl)
theorem dX6_isCalm_18 : decode cX6_isCalm 18 = .ok (.iconst 1, 1) := dk_4 (dk_at dksX6_isCalm_0 18 rfl rfl)
theorem dX6_isCalm_19 : decode cX6_isCalm 19 = .ok (.goto 4, 3) := dk_167 0 4 (dk_at dksX6_isCalm_0 19 rfl rfl)
theorem dX6_isCalm_22 : decode cX6_isCalm 22 = .ok (.iconst 0, 1) := dk_3 (dk_at dksX6_isCalm_0 22 rfl rfl)
theorem dX6_isCalm_23 : decode cX6_isCalm 23 = .ok (.ireturn, 1) := dk_172 (dk_at dksX6_isCalm_0 23 rfl rfl)
abbrev cX6_ofRow : ByteArray := prog_13_method_72_code
def yX6_ofRow : MethodName := ⟨RX6, "ofRow", "(II)I"⟩
def dkwX6_ofRow_1 : List UInt8 := [172]
abbrev dktX6_ofRow_1 : List UInt8 := dkwX6_ofRow_1 ++ []
def dkwX6_ofRow_0 : List UInt8 := [28, 2, 160, 0, 7, 27, 167, 0, 18, 28, 27, 162, 0, 12, 42, 180, 0, 82, 28, 46, 167, 0, 4, 2]
abbrev dktX6_ofRow_0 : List UInt8 := dkwX6_ofRow_0 ++ dktX6_ofRow_1
theorem dksX6_ofRow_0 : cX6_ofRow.data.toList.drop 0 = dktX6_ofRow_0 := by decide +kernel
theorem dksX6_ofRow_1 : cX6_ofRow.data.toList.drop 24 = dktX6_ofRow_1 := dk_seg dksX6_ofRow_0 24 rfl rfl
theorem dX6_ofRow_0 : decode cX6_ofRow 0 = .ok (.iload_n 2, 1) := dk_28 (dk_at dksX6_ofRow_0 0 rfl rfl)
theorem dX6_ofRow_1 : decode cX6_ofRow 1 = .ok (.iconst (-1), 1) := dk_2 (dk_at dksX6_ofRow_0 1 rfl rfl)
theorem dX6_ofRow_2 : decode cX6_ofRow 2 = .ok (.if_icmp .ne 7, 3) := dk_160 0 7 (dk_at dksX6_ofRow_0 2 rfl rfl)
theorem dX6_ofRow_5 : decode cX6_ofRow 5 = .ok (.iload_n 1, 1) := dk_27 (dk_at dksX6_ofRow_0 5 rfl rfl)
theorem dX6_ofRow_6 : decode cX6_ofRow 6 = .ok (.goto 18, 3) := dk_167 0 18 (dk_at dksX6_ofRow_0 6 rfl rfl)
theorem dX6_ofRow_9 : decode cX6_ofRow 9 = .ok (.iload_n 2, 1) := dk_28 (dk_at dksX6_ofRow_0 9 rfl rfl)
theorem dX6_ofRow_10 : decode cX6_ofRow 10 = .ok (.iload_n 1, 1) := dk_27 (dk_at dksX6_ofRow_0 10 rfl rfl)
theorem dX6_ofRow_11 : decode cX6_ofRow 11 = .ok (.if_icmp .ge 12, 3) := dk_162 0 12 (dk_at dksX6_ofRow_0 11 rfl rfl)
theorem dX6_ofRow_14 : decode cX6_ofRow 14 = .ok (.aload_n 0, 1) := dk_42 (dk_at dksX6_ofRow_0 14 rfl rfl)
theorem dX6_ofRow_15 : decode cX6_ofRow 15 = .ok (.getfield 82, 3) := dk_180 0 82 (dk_at dksX6_ofRow_0 15 rfl rfl)
theorem dX6_ofRow_18 : decode cX6_ofRow 18 = .ok (.iload_n 2, 1) := dk_28 (dk_at dksX6_ofRow_0 18 rfl rfl)
theorem dX6_ofRow_19 : decode cX6_ofRow 19 = .ok (.iaload, 1) := dk_46 (dk_at dksX6_ofRow_0 19 rfl rfl)
theorem dX6_ofRow_20 : decode cX6_ofRow 20 = .ok (.goto 4, 3) := dk_167 0 4 (dk_at dksX6_ofRow_0 20 rfl rfl)
theorem dX6_ofRow_23 : decode cX6_ofRow 23 = .ok (.iconst (-1), 1) := dk_2 (dk_at dksX6_ofRow_0 23 rfl rfl)
theorem dX6_ofRow_24 : decode cX6_ofRow 24 = .ok (.ireturn, 1) := dk_172 (dk_at dksX6_ofRow_1 0 rfl rfl)
abbrev cX6_seen : ByteArray := prog_13_method_74_code
def yX6_seen : MethodName := ⟨RX6, "seen", "(III)I"⟩
def dkwX6_seen_3 : List UInt8 := [180, 1, 41, 4, 96, 181, 1, 41, 42, 180, 1, 41, 172]
abbrev dktX6_seen_3 : List UInt8 := dkwX6_seen_3 ++ []
def dkwX6_seen_2 : List UInt8 := [79, 42, 180, 0, 88, 42, 180, 1, 41, 28, 79, 42, 180, 0, 91, 42, 180, 1, 41, 29, 79, 42, 89]
abbrev dktX6_seen_2 : List UInt8 := dkwX6_seen_2 ++ dktX6_seen_3
def dkwX6_seen_1 : List UInt8 := [16, 254, 172, 42, 180, 1, 41, 16, 8, 160, 0, 6, 16, 252, 172, 42, 180, 0, 85, 42, 180, 1, 41, 27]
abbrev dktX6_seen_1 : List UInt8 := dkwX6_seen_1 ++ dktX6_seen_2
def dkwX6_seen_0 : List UInt8 := [27, 184, 0, 166, 153, 0, 20, 28, 3, 16, 7, 184, 0, 115, 153, 0, 10, 29, 184, 0, 154, 154, 0, 6]
abbrev dktX6_seen_0 : List UInt8 := dkwX6_seen_0 ++ dktX6_seen_1
theorem dksX6_seen_0 : cX6_seen.data.toList.drop 0 = dktX6_seen_0 := by decide +kernel
theorem dksX6_seen_1 : cX6_seen.data.toList.drop 24 = dktX6_seen_1 := dk_seg dksX6_seen_0 24 rfl rfl
theorem dksX6_seen_2 : cX6_seen.data.toList.drop 48 = dktX6_seen_2 := dk_seg dksX6_seen_1 24 rfl rfl
theorem dksX6_seen_3 : cX6_seen.data.toList.drop 71 = dktX6_seen_3 := dk_seg dksX6_seen_2 23 rfl rfl
theorem dX6_seen_0 : decode cX6_seen 0 = .ok (.iload_n 1, 1) := dk_27 (dk_at dksX6_seen_0 0 rfl rfl)
theorem dX6_seen_1 : decode cX6_seen 1 = .ok (.invokestatic 166, 3) := dk_184 0 166 (dk_at dksX6_seen_0 1 rfl rfl)
theorem dX6_seen_4 : decode cX6_seen 4 = .ok (.ifCond .eq 20, 3) := dk_153 0 20 (dk_at dksX6_seen_0 4 rfl rfl)
theorem dX6_seen_7 : decode cX6_seen 7 = .ok (.iload_n 2, 1) := dk_28 (dk_at dksX6_seen_0 7 rfl rfl)
theorem dX6_seen_8 : decode cX6_seen 8 = .ok (.iconst 0, 1) := dk_3 (dk_at dksX6_seen_0 8 rfl rfl)
theorem dX6_seen_9 : decode cX6_seen 9 = .ok (.bipush 7, 2) := dk_16 7 (dk_at dksX6_seen_0 9 rfl rfl)
theorem dX6_seen_11 : decode cX6_seen 11 = .ok (.invokestatic 115, 3) := dk_184 0 115 (dk_at dksX6_seen_0 11 rfl rfl)
theorem dX6_seen_14 : decode cX6_seen 14 = .ok (.ifCond .eq 10, 3) := dk_153 0 10 (dk_at dksX6_seen_0 14 rfl rfl)
theorem dX6_seen_17 : decode cX6_seen 17 = .ok (.iload_n 3, 1) := dk_29 (dk_at dksX6_seen_0 17 rfl rfl)
theorem dX6_seen_18 : decode cX6_seen 18 = .ok (.invokestatic 154, 3) := dk_184 0 154 (dk_at dksX6_seen_0 18 rfl rfl)
theorem dX6_seen_21 : decode cX6_seen 21 = .ok (.ifCond .ne 6, 3) := dk_154 0 6 (dk_at dksX6_seen_0 21 rfl rfl)
theorem dX6_seen_24 : decode cX6_seen 24 = .ok (.bipush (-2), 2) := dk_16 254 (dk_at dksX6_seen_1 0 rfl rfl)
theorem dX6_seen_26 : decode cX6_seen 26 = .ok (.ireturn, 1) := dk_172 (dk_at dksX6_seen_1 2 rfl rfl)
theorem dX6_seen_27 : decode cX6_seen 27 = .ok (.aload_n 0, 1) := dk_42 (dk_at dksX6_seen_1 3 rfl rfl)
theorem dX6_seen_28 : decode cX6_seen 28 = .ok (.getfield 297, 3) := dk_180 1 41 (dk_at dksX6_seen_1 4 rfl rfl)
theorem dX6_seen_31 : decode cX6_seen 31 = .ok (.bipush 8, 2) := dk_16 8 (dk_at dksX6_seen_1 7 rfl rfl)
theorem dX6_seen_33 : decode cX6_seen 33 = .ok (.if_icmp .ne 6, 3) := dk_160 0 6 (dk_at dksX6_seen_1 9 rfl rfl)
theorem dX6_seen_36 : decode cX6_seen 36 = .ok (.bipush (-4), 2) := dk_16 252 (dk_at dksX6_seen_1 12 rfl rfl)
theorem dX6_seen_38 : decode cX6_seen 38 = .ok (.ireturn, 1) := dk_172 (dk_at dksX6_seen_1 14 rfl rfl)
theorem dX6_seen_39 : decode cX6_seen 39 = .ok (.aload_n 0, 1) := dk_42 (dk_at dksX6_seen_1 15 rfl rfl)
theorem dX6_seen_40 : decode cX6_seen 40 = .ok (.getfield 85, 3) := dk_180 0 85 (dk_at dksX6_seen_1 16 rfl rfl)
theorem dX6_seen_43 : decode cX6_seen 43 = .ok (.aload_n 0, 1) := dk_42 (dk_at dksX6_seen_1 19 rfl rfl)
theorem dX6_seen_44 : decode cX6_seen 44 = .ok (.getfield 297, 3) := dk_180 1 41 (dk_at dksX6_seen_1 20 rfl rfl)
theorem dX6_seen_47 : decode cX6_seen 47 = .ok (.iload_n 1, 1) := dk_27 (dk_at dksX6_seen_1 23 rfl rfl)
theorem dX6_seen_48 : decode cX6_seen 48 = .ok (.iastore, 1) := dk_79 (dk_at dksX6_seen_2 0 rfl rfl)
theorem dX6_seen_49 : decode cX6_seen 49 = .ok (.aload_n 0, 1) := dk_42 (dk_at dksX6_seen_2 1 rfl rfl)
theorem dX6_seen_50 : decode cX6_seen 50 = .ok (.getfield 88, 3) := dk_180 0 88 (dk_at dksX6_seen_2 2 rfl rfl)
theorem dX6_seen_53 : decode cX6_seen 53 = .ok (.aload_n 0, 1) := dk_42 (dk_at dksX6_seen_2 5 rfl rfl)
theorem dX6_seen_54 : decode cX6_seen 54 = .ok (.getfield 297, 3) := dk_180 1 41 (dk_at dksX6_seen_2 6 rfl rfl)
theorem dX6_seen_57 : decode cX6_seen 57 = .ok (.iload_n 2, 1) := dk_28 (dk_at dksX6_seen_2 9 rfl rfl)
theorem dX6_seen_58 : decode cX6_seen 58 = .ok (.iastore, 1) := dk_79 (dk_at dksX6_seen_2 10 rfl rfl)
theorem dX6_seen_59 : decode cX6_seen 59 = .ok (.aload_n 0, 1) := dk_42 (dk_at dksX6_seen_2 11 rfl rfl)
theorem dX6_seen_60 : decode cX6_seen 60 = .ok (.getfield 91, 3) := dk_180 0 91 (dk_at dksX6_seen_2 12 rfl rfl)
theorem dX6_seen_63 : decode cX6_seen 63 = .ok (.aload_n 0, 1) := dk_42 (dk_at dksX6_seen_2 15 rfl rfl)
theorem dX6_seen_64 : decode cX6_seen 64 = .ok (.getfield 297, 3) := dk_180 1 41 (dk_at dksX6_seen_2 16 rfl rfl)
theorem dX6_seen_67 : decode cX6_seen 67 = .ok (.iload_n 3, 1) := dk_29 (dk_at dksX6_seen_2 19 rfl rfl)
theorem dX6_seen_68 : decode cX6_seen 68 = .ok (.iastore, 1) := dk_79 (dk_at dksX6_seen_2 20 rfl rfl)
theorem dX6_seen_69 : decode cX6_seen 69 = .ok (.aload_n 0, 1) := dk_42 (dk_at dksX6_seen_2 21 rfl rfl)
theorem dX6_seen_70 : decode cX6_seen 70 = .ok (.dup, 1) := dk_89 (dk_at dksX6_seen_2 22 rfl rfl)
theorem dX6_seen_71 : decode cX6_seen 71 = .ok (.getfield 297, 3) := dk_180 1 41 (dk_at dksX6_seen_3 0 rfl rfl)
theorem dX6_seen_74 : decode cX6_seen 74 = .ok (.iconst 1, 1) := dk_4 (dk_at dksX6_seen_3 3 rfl rfl)
theorem dX6_seen_75 : decode cX6_seen 75 = .ok (.iadd, 1) := dk_96 (dk_at dksX6_seen_3 4 rfl rfl)
theorem dX6_seen_76 : decode cX6_seen 76 = .ok (.putfield 297, 3) := dk_181 1 41 (dk_at dksX6_seen_3 5 rfl rfl)
theorem dX6_seen_79 : decode cX6_seen 79 = .ok (.aload_n 0, 1) := dk_42 (dk_at dksX6_seen_3 8 rfl rfl)
theorem dX6_seen_80 : decode cX6_seen 80 = .ok (.getfield 297, 3) := dk_180 1 41 (dk_at dksX6_seen_3 9 rfl rfl)
theorem dX6_seen_83 : decode cX6_seen 83 = .ok (.ireturn, 1) := dk_172 (dk_at dksX6_seen_3 12 rfl rfl)
abbrev cX6_forget : ByteArray := prog_13_method_75_code
def yX6_forget : MethodName := ⟨RX6, "forget", "()I"⟩
def dkwX6_forget_0 : List UInt8 := [42, 180, 1, 41, 60, 42, 3, 181, 1, 41, 27, 172]
abbrev dktX6_forget_0 : List UInt8 := dkwX6_forget_0 ++ []
theorem dksX6_forget_0 : cX6_forget.data.toList.drop 0 = dktX6_forget_0 := by decide +kernel
theorem dX6_forget_0 : decode cX6_forget 0 = .ok (.aload_n 0, 1) := dk_42 (dk_at dksX6_forget_0 0 rfl rfl)
theorem dX6_forget_1 : decode cX6_forget 1 = .ok (.getfield 297, 3) := dk_180 1 41 (dk_at dksX6_forget_0 1 rfl rfl)
theorem dX6_forget_4 : decode cX6_forget 4 = .ok (.istore_n 1, 1) := dk_60 (dk_at dksX6_forget_0 4 rfl rfl)
theorem dX6_forget_5 : decode cX6_forget 5 = .ok (.aload_n 0, 1) := dk_42 (dk_at dksX6_forget_0 5 rfl rfl)
theorem dX6_forget_6 : decode cX6_forget 6 = .ok (.iconst 0, 1) := dk_3 (dk_at dksX6_forget_0 6 rfl rfl)
theorem dX6_forget_7 : decode cX6_forget 7 = .ok (.putfield 297, 3) := dk_181 1 41 (dk_at dksX6_forget_0 7 rfl rfl)
theorem dX6_forget_10 : decode cX6_forget 10 = .ok (.iload_n 1, 1) := dk_27 (dk_at dksX6_forget_0 10 rfl rfl)
theorem dX6_forget_11 : decode cX6_forget 11 = .ok (.ireturn, 1) := dk_172 (dk_at dksX6_forget_0 11 rfl rfl)
abbrev cX6_never : ByteArray := prog_13_method_78_code
def yX6_never : MethodName := ⟨RX6, "never", "()I"⟩
theorem dX6_never_0 : decode cX6_never 0 = .ok (.aload_n 0, 1) := by decide +kernel
theorem dX6_never_1 : decode cX6_never 1 = .ok (.invokevirtual 304, 3) := by decide +kernel
theorem dX6_never_4 : decode cX6_never 4 = .ok (.ireturn, 1) := by decide +kernel
abbrev cX6_neverNow : ByteArray := prog_13_method_77_code
def yX6_neverNow : MethodName := ⟨RX6, "neverNow", "()I"⟩
def dkwX6_neverNow_1 : List UInt8 := [42, 182, 1, 44, 153, 0, 9, 4, 28, 120, 167, 0, 4, 3, 128, 60, 132, 2, 1, 167, 255, 221, 27, 172]
abbrev dktX6_neverNow_1 : List UInt8 := dkwX6_neverNow_1 ++ []
def dkwX6_neverNow_0 : List UInt8 := [42, 182, 0, 233, 3, 60, 3, 61, 28, 42, 180, 0, 169, 162, 0, 33, 42, 4, 28, 120, 181, 0, 185, 27]
abbrev dktX6_neverNow_0 : List UInt8 := dkwX6_neverNow_0 ++ dktX6_neverNow_1
theorem dksX6_neverNow_0 : cX6_neverNow.data.toList.drop 0 = dktX6_neverNow_0 := by decide +kernel
theorem dksX6_neverNow_1 : cX6_neverNow.data.toList.drop 24 = dktX6_neverNow_1 := dk_seg dksX6_neverNow_0 24 rfl rfl
theorem dX6_neverNow_0 : decode cX6_neverNow 0 = .ok (.aload_n 0, 1) := dk_42 (dk_at dksX6_neverNow_0 0 rfl rfl)
theorem dX6_neverNow_1 : decode cX6_neverNow 1 = .ok (.invokevirtual 233, 3) := dk_182 0 233 (dk_at dksX6_neverNow_0 1 rfl rfl)
theorem dX6_neverNow_4 : decode cX6_neverNow 4 = .ok (.iconst 0, 1) := dk_3 (dk_at dksX6_neverNow_0 4 rfl rfl)
theorem dX6_neverNow_5 : decode cX6_neverNow 5 = .ok (.istore_n 1, 1) := dk_60 (dk_at dksX6_neverNow_0 5 rfl rfl)
theorem dX6_neverNow_6 : decode cX6_neverNow 6 = .ok (.iconst 0, 1) := dk_3 (dk_at dksX6_neverNow_0 6 rfl rfl)
theorem dX6_neverNow_7 : decode cX6_neverNow 7 = .ok (.istore_n 2, 1) := dk_61 (dk_at dksX6_neverNow_0 7 rfl rfl)
theorem dX6_neverNow_8 : decode cX6_neverNow 8 = .ok (.iload_n 2, 1) := dk_28 (dk_at dksX6_neverNow_0 8 rfl rfl)
theorem dX6_neverNow_9 : decode cX6_neverNow 9 = .ok (.aload_n 0, 1) := dk_42 (dk_at dksX6_neverNow_0 9 rfl rfl)
theorem dX6_neverNow_10 : decode cX6_neverNow 10 = .ok (.getfield 169, 3) := dk_180 0 169 (dk_at dksX6_neverNow_0 10 rfl rfl)
theorem dX6_neverNow_13 : decode cX6_neverNow 13 = .ok (.if_icmp .ge 33, 3) := dk_162 0 33 (dk_at dksX6_neverNow_0 13 rfl rfl)
theorem dX6_neverNow_16 : decode cX6_neverNow 16 = .ok (.aload_n 0, 1) := dk_42 (dk_at dksX6_neverNow_0 16 rfl rfl)
theorem dX6_neverNow_17 : decode cX6_neverNow 17 = .ok (.iconst 1, 1) := dk_4 (dk_at dksX6_neverNow_0 17 rfl rfl)
theorem dX6_neverNow_18 : decode cX6_neverNow 18 = .ok (.iload_n 2, 1) := dk_28 (dk_at dksX6_neverNow_0 18 rfl rfl)
theorem dX6_neverNow_19 : decode cX6_neverNow 19 = .ok (.ishl, 1) := dk_120 (dk_at dksX6_neverNow_0 19 rfl rfl)
theorem dX6_neverNow_20 : decode cX6_neverNow 20 = .ok (.putfield 185, 3) := dk_181 0 185 (dk_at dksX6_neverNow_0 20 rfl rfl)
theorem dX6_neverNow_23 : decode cX6_neverNow 23 = .ok (.iload_n 1, 1) := dk_27 (dk_at dksX6_neverNow_0 23 rfl rfl)
theorem dX6_neverNow_24 : decode cX6_neverNow 24 = .ok (.aload_n 0, 1) := dk_42 (dk_at dksX6_neverNow_1 0 rfl rfl)
theorem dX6_neverNow_25 : decode cX6_neverNow 25 = .ok (.invokevirtual 300, 3) := dk_182 1 44 (dk_at dksX6_neverNow_1 1 rfl rfl)
theorem dX6_neverNow_28 : decode cX6_neverNow 28 = .ok (.ifCond .eq 9, 3) := dk_153 0 9 (dk_at dksX6_neverNow_1 4 rfl rfl)
theorem dX6_neverNow_31 : decode cX6_neverNow 31 = .ok (.iconst 1, 1) := dk_4 (dk_at dksX6_neverNow_1 7 rfl rfl)
theorem dX6_neverNow_32 : decode cX6_neverNow 32 = .ok (.iload_n 2, 1) := dk_28 (dk_at dksX6_neverNow_1 8 rfl rfl)
theorem dX6_neverNow_33 : decode cX6_neverNow 33 = .ok (.ishl, 1) := dk_120 (dk_at dksX6_neverNow_1 9 rfl rfl)
theorem dX6_neverNow_34 : decode cX6_neverNow 34 = .ok (.goto 4, 3) := dk_167 0 4 (dk_at dksX6_neverNow_1 10 rfl rfl)
theorem dX6_neverNow_37 : decode cX6_neverNow 37 = .ok (.iconst 0, 1) := dk_3 (dk_at dksX6_neverNow_1 13 rfl rfl)
theorem dX6_neverNow_38 : decode cX6_neverNow 38 = .ok (.ior, 1) := dk_128 (dk_at dksX6_neverNow_1 14 rfl rfl)
theorem dX6_neverNow_39 : decode cX6_neverNow 39 = .ok (.istore_n 1, 1) := dk_60 (dk_at dksX6_neverNow_1 15 rfl rfl)
theorem dX6_neverNow_40 : decode cX6_neverNow 40 = .ok (.iinc 2 1, 3) := dk_132 2 1 (dk_at dksX6_neverNow_1 16 rfl rfl)
theorem dX6_neverNow_43 : decode cX6_neverNow 43 = .ok (.goto (-35), 3) := dk_167 255 221 (dk_at dksX6_neverNow_1 19 rfl rfl)
theorem dX6_neverNow_46 : decode cX6_neverNow 46 = .ok (.iload_n 1, 1) := dk_27 (dk_at dksX6_neverNow_1 22 rfl rfl)
theorem dX6_neverNow_47 : decode cX6_neverNow 47 = .ok (.ireturn, 1) := dk_172 (dk_at dksX6_neverNow_1 23 rfl rfl)
abbrev cX6_isSeen : ByteArray := prog_13_method_76_code
def yX6_isSeen : MethodName := ⟨RX6, "isSeen", "()Z"⟩
def dkwX6_isSeen_3 : List UInt8 := [132, 2, 1, 167, 255, 192, 27, 172]
abbrev dktX6_isSeen_3 : List UInt8 := dkwX6_isSeen_3 ++ []
def dkwX6_isSeen_2 : List UInt8 := [180, 0, 88, 28, 46, 96, 46, 42, 180, 0, 91, 28, 46, 160, 0, 7, 4, 167, 0, 4, 3, 60]
abbrev dktX6_isSeen_2 : List UInt8 := dkwX6_isSeen_2 ++ dktX6_isSeen_3
def dkwX6_isSeen_1 : List UInt8 := [28, 46, 42, 180, 0, 134, 162, 0, 37, 42, 180, 0, 64, 16, 8, 42, 180, 0, 85, 28, 46, 104, 42]
abbrev dktX6_isSeen_1 : List UInt8 := dkwX6_isSeen_1 ++ dktX6_isSeen_2
def dkwX6_isSeen_0 : List UInt8 := [42, 182, 0, 236, 4, 60, 3, 61, 28, 42, 180, 1, 41, 162, 0, 62, 27, 153, 0, 58, 42, 180, 0, 88]
abbrev dktX6_isSeen_0 : List UInt8 := dkwX6_isSeen_0 ++ dktX6_isSeen_1
theorem dksX6_isSeen_0 : cX6_isSeen.data.toList.drop 0 = dktX6_isSeen_0 := by decide +kernel
theorem dksX6_isSeen_1 : cX6_isSeen.data.toList.drop 24 = dktX6_isSeen_1 := dk_seg dksX6_isSeen_0 24 rfl rfl
theorem dksX6_isSeen_2 : cX6_isSeen.data.toList.drop 47 = dktX6_isSeen_2 := dk_seg dksX6_isSeen_1 23 rfl rfl
theorem dksX6_isSeen_3 : cX6_isSeen.data.toList.drop 69 = dktX6_isSeen_3 := dk_seg dksX6_isSeen_2 22 rfl rfl
theorem dX6_isSeen_0 : decode cX6_isSeen 0 = .ok (.aload_n 0, 1) := dk_42 (dk_at dksX6_isSeen_0 0 rfl rfl)
theorem dX6_isSeen_1 : decode cX6_isSeen 1 = .ok (.invokevirtual 236, 3) := dk_182 0 236 (dk_at dksX6_isSeen_0 1 rfl rfl)
theorem dX6_isSeen_4 : decode cX6_isSeen 4 = .ok (.iconst 1, 1) := dk_4 (dk_at dksX6_isSeen_0 4 rfl rfl)
theorem dX6_isSeen_5 : decode cX6_isSeen 5 = .ok (.istore_n 1, 1) := dk_60 (dk_at dksX6_isSeen_0 5 rfl rfl)
theorem dX6_isSeen_6 : decode cX6_isSeen 6 = .ok (.iconst 0, 1) := dk_3 (dk_at dksX6_isSeen_0 6 rfl rfl)
theorem dX6_isSeen_7 : decode cX6_isSeen 7 = .ok (.istore_n 2, 1) := dk_61 (dk_at dksX6_isSeen_0 7 rfl rfl)
theorem dX6_isSeen_8 : decode cX6_isSeen 8 = .ok (.iload_n 2, 1) := dk_28 (dk_at dksX6_isSeen_0 8 rfl rfl)
theorem dX6_isSeen_9 : decode cX6_isSeen 9 = .ok (.aload_n 0, 1) := dk_42 (dk_at dksX6_isSeen_0 9 rfl rfl)
theorem dX6_isSeen_10 : decode cX6_isSeen 10 = .ok (.getfield 297, 3) := dk_180 1 41 (dk_at dksX6_isSeen_0 10 rfl rfl)
theorem dX6_isSeen_13 : decode cX6_isSeen 13 = .ok (.if_icmp .ge 62, 3) := dk_162 0 62 (dk_at dksX6_isSeen_0 13 rfl rfl)
theorem dX6_isSeen_16 : decode cX6_isSeen 16 = .ok (.iload_n 1, 1) := dk_27 (dk_at dksX6_isSeen_0 16 rfl rfl)
theorem dX6_isSeen_17 : decode cX6_isSeen 17 = .ok (.ifCond .eq 58, 3) := dk_153 0 58 (dk_at dksX6_isSeen_0 17 rfl rfl)
theorem dX6_isSeen_20 : decode cX6_isSeen 20 = .ok (.aload_n 0, 1) := dk_42 (dk_at dksX6_isSeen_0 20 rfl rfl)
theorem dX6_isSeen_21 : decode cX6_isSeen 21 = .ok (.getfield 88, 3) := dk_180 0 88 (dk_at dksX6_isSeen_0 21 rfl rfl)
theorem dX6_isSeen_24 : decode cX6_isSeen 24 = .ok (.iload_n 2, 1) := dk_28 (dk_at dksX6_isSeen_1 0 rfl rfl)
theorem dX6_isSeen_25 : decode cX6_isSeen 25 = .ok (.iaload, 1) := dk_46 (dk_at dksX6_isSeen_1 1 rfl rfl)
theorem dX6_isSeen_26 : decode cX6_isSeen 26 = .ok (.aload_n 0, 1) := dk_42 (dk_at dksX6_isSeen_1 2 rfl rfl)
theorem dX6_isSeen_27 : decode cX6_isSeen 27 = .ok (.getfield 134, 3) := dk_180 0 134 (dk_at dksX6_isSeen_1 3 rfl rfl)
theorem dX6_isSeen_30 : decode cX6_isSeen 30 = .ok (.if_icmp .ge 37, 3) := dk_162 0 37 (dk_at dksX6_isSeen_1 6 rfl rfl)
theorem dX6_isSeen_33 : decode cX6_isSeen 33 = .ok (.aload_n 0, 1) := dk_42 (dk_at dksX6_isSeen_1 9 rfl rfl)
theorem dX6_isSeen_34 : decode cX6_isSeen 34 = .ok (.getfield 64, 3) := dk_180 0 64 (dk_at dksX6_isSeen_1 10 rfl rfl)
theorem dX6_isSeen_37 : decode cX6_isSeen 37 = .ok (.bipush 8, 2) := dk_16 8 (dk_at dksX6_isSeen_1 13 rfl rfl)
theorem dX6_isSeen_39 : decode cX6_isSeen 39 = .ok (.aload_n 0, 1) := dk_42 (dk_at dksX6_isSeen_1 15 rfl rfl)
theorem dX6_isSeen_40 : decode cX6_isSeen 40 = .ok (.getfield 85, 3) := dk_180 0 85 (dk_at dksX6_isSeen_1 16 rfl rfl)
theorem dX6_isSeen_43 : decode cX6_isSeen 43 = .ok (.iload_n 2, 1) := dk_28 (dk_at dksX6_isSeen_1 19 rfl rfl)
theorem dX6_isSeen_44 : decode cX6_isSeen 44 = .ok (.iaload, 1) := dk_46 (dk_at dksX6_isSeen_1 20 rfl rfl)
theorem dX6_isSeen_45 : decode cX6_isSeen 45 = .ok (.imul, 1) := dk_104 (dk_at dksX6_isSeen_1 21 rfl rfl)
theorem dX6_isSeen_46 : decode cX6_isSeen 46 = .ok (.aload_n 0, 1) := dk_42 (dk_at dksX6_isSeen_1 22 rfl rfl)
theorem dX6_isSeen_47 : decode cX6_isSeen 47 = .ok (.getfield 88, 3) := dk_180 0 88 (dk_at dksX6_isSeen_2 0 rfl rfl)
theorem dX6_isSeen_50 : decode cX6_isSeen 50 = .ok (.iload_n 2, 1) := dk_28 (dk_at dksX6_isSeen_2 3 rfl rfl)
theorem dX6_isSeen_51 : decode cX6_isSeen 51 = .ok (.iaload, 1) := dk_46 (dk_at dksX6_isSeen_2 4 rfl rfl)
theorem dX6_isSeen_52 : decode cX6_isSeen 52 = .ok (.iadd, 1) := dk_96 (dk_at dksX6_isSeen_2 5 rfl rfl)
theorem dX6_isSeen_53 : decode cX6_isSeen 53 = .ok (.iaload, 1) := dk_46 (dk_at dksX6_isSeen_2 6 rfl rfl)
theorem dX6_isSeen_54 : decode cX6_isSeen 54 = .ok (.aload_n 0, 1) := dk_42 (dk_at dksX6_isSeen_2 7 rfl rfl)
theorem dX6_isSeen_55 : decode cX6_isSeen 55 = .ok (.getfield 91, 3) := dk_180 0 91 (dk_at dksX6_isSeen_2 8 rfl rfl)
theorem dX6_isSeen_58 : decode cX6_isSeen 58 = .ok (.iload_n 2, 1) := dk_28 (dk_at dksX6_isSeen_2 11 rfl rfl)
theorem dX6_isSeen_59 : decode cX6_isSeen 59 = .ok (.iaload, 1) := dk_46 (dk_at dksX6_isSeen_2 12 rfl rfl)
theorem dX6_isSeen_60 : decode cX6_isSeen 60 = .ok (.if_icmp .ne 7, 3) := dk_160 0 7 (dk_at dksX6_isSeen_2 13 rfl rfl)
theorem dX6_isSeen_63 : decode cX6_isSeen 63 = .ok (.iconst 1, 1) := dk_4 (dk_at dksX6_isSeen_2 16 rfl rfl)
theorem dX6_isSeen_64 : decode cX6_isSeen 64 = .ok (.goto 4, 3) := dk_167 0 4 (dk_at dksX6_isSeen_2 17 rfl rfl)
theorem dX6_isSeen_67 : decode cX6_isSeen 67 = .ok (.iconst 0, 1) := dk_3 (dk_at dksX6_isSeen_2 20 rfl rfl)
theorem dX6_isSeen_68 : decode cX6_isSeen 68 = .ok (.istore_n 1, 1) := dk_60 (dk_at dksX6_isSeen_2 21 rfl rfl)
theorem dX6_isSeen_69 : decode cX6_isSeen 69 = .ok (.iinc 2 1, 3) := dk_132 2 1 (dk_at dksX6_isSeen_3 0 rfl rfl)
theorem dX6_isSeen_72 : decode cX6_isSeen 72 = .ok (.goto (-64), 3) := dk_167 255 192 (dk_at dksX6_isSeen_3 3 rfl rfl)
theorem dX6_isSeen_75 : decode cX6_isSeen 75 = .ok (.iload_n 1, 1) := dk_27 (dk_at dksX6_isSeen_3 6 rfl rfl)
theorem dX6_isSeen_76 : decode cX6_isSeen 76 = .ok (.ireturn, 1) := dk_172 (dk_at dksX6_isSeen_3 7 rfl rfl)
abbrev cX6_sort : ByteArray := prog_13_method_80_code
def yX6_sort : MethodName := ⟨RX6, "sort", "(I)I"⟩
def dkwX6_sort_0 : List UInt8 := [42, 27, 182, 0, 160, 153, 0, 11, 42, 27, 182, 1, 51, 167, 0, 5, 16, 254, 172]
abbrev dktX6_sort_0 : List UInt8 := dkwX6_sort_0 ++ []
theorem dksX6_sort_0 : cX6_sort.data.toList.drop 0 = dktX6_sort_0 := by decide +kernel
theorem dX6_sort_0 : decode cX6_sort 0 = .ok (.aload_n 0, 1) := dk_42 (dk_at dksX6_sort_0 0 rfl rfl)
theorem dX6_sort_1 : decode cX6_sort 1 = .ok (.iload_n 1, 1) := dk_27 (dk_at dksX6_sort_0 1 rfl rfl)
theorem dX6_sort_2 : decode cX6_sort 2 = .ok (.invokevirtual 160, 3) := dk_182 0 160 (dk_at dksX6_sort_0 2 rfl rfl)
theorem dX6_sort_5 : decode cX6_sort 5 = .ok (.ifCond .eq 11, 3) := dk_153 0 11 (dk_at dksX6_sort_0 5 rfl rfl)
theorem dX6_sort_8 : decode cX6_sort 8 = .ok (.aload_n 0, 1) := dk_42 (dk_at dksX6_sort_0 8 rfl rfl)
theorem dX6_sort_9 : decode cX6_sort 9 = .ok (.iload_n 1, 1) := dk_27 (dk_at dksX6_sort_0 9 rfl rfl)
theorem dX6_sort_10 : decode cX6_sort 10 = .ok (.invokevirtual 307, 3) := dk_182 1 51 (dk_at dksX6_sort_0 10 rfl rfl)
theorem dX6_sort_13 : decode cX6_sort 13 = .ok (.goto 5, 3) := dk_167 0 5 (dk_at dksX6_sort_0 13 rfl rfl)
theorem dX6_sort_16 : decode cX6_sort 16 = .ok (.bipush (-2), 2) := dk_16 254 (dk_at dksX6_sort_0 16 rfl rfl)
theorem dX6_sort_18 : decode cX6_sort 18 = .ok (.ireturn, 1) := dk_172 (dk_at dksX6_sort_0 18 rfl rfl)
abbrev cX6_sortsBy : ByteArray := prog_13_method_79_code
def yX6_sortsBy : MethodName := ⟨RX6, "sortsBy", "(I)I"⟩
def dkwX6_sortsBy_2 : List UInt8 := [62, 132, 4, 1, 167, 255, 221, 42, 180, 0, 19, 27, 28, 79, 29, 172]
abbrev dktX6_sortsBy_2 : List UInt8 := dkwX6_sortsBy_2 ++ []
def dkwX6_sortsBy_1 : List UInt8 := [180, 0, 19, 27, 21, 4, 79, 29, 42, 182, 1, 44, 153, 0, 10, 4, 21, 4, 120, 167, 0, 4, 3, 128]
abbrev dktX6_sortsBy_1 : List UInt8 := dkwX6_sortsBy_1 ++ dktX6_sortsBy_2
def dkwX6_sortsBy_0 : List UInt8 := [42, 182, 0, 233, 42, 180, 0, 19, 27, 46, 61, 3, 62, 3, 54, 4, 21, 4, 6, 162, 0, 35, 42]
abbrev dktX6_sortsBy_0 : List UInt8 := dkwX6_sortsBy_0 ++ dktX6_sortsBy_1
theorem dksX6_sortsBy_0 : cX6_sortsBy.data.toList.drop 0 = dktX6_sortsBy_0 := by decide +kernel
theorem dksX6_sortsBy_1 : cX6_sortsBy.data.toList.drop 23 = dktX6_sortsBy_1 := dk_seg dksX6_sortsBy_0 23 rfl rfl
theorem dksX6_sortsBy_2 : cX6_sortsBy.data.toList.drop 47 = dktX6_sortsBy_2 := dk_seg dksX6_sortsBy_1 24 rfl rfl
theorem dX6_sortsBy_0 : decode cX6_sortsBy 0 = .ok (.aload_n 0, 1) := dk_42 (dk_at dksX6_sortsBy_0 0 rfl rfl)
theorem dX6_sortsBy_1 : decode cX6_sortsBy 1 = .ok (.invokevirtual 233, 3) := dk_182 0 233 (dk_at dksX6_sortsBy_0 1 rfl rfl)
theorem dX6_sortsBy_4 : decode cX6_sortsBy 4 = .ok (.aload_n 0, 1) := dk_42 (dk_at dksX6_sortsBy_0 4 rfl rfl)
theorem dX6_sortsBy_5 : decode cX6_sortsBy 5 = .ok (.getfield 19, 3) := dk_180 0 19 (dk_at dksX6_sortsBy_0 5 rfl rfl)
theorem dX6_sortsBy_8 : decode cX6_sortsBy 8 = .ok (.iload_n 1, 1) := dk_27 (dk_at dksX6_sortsBy_0 8 rfl rfl)
theorem dX6_sortsBy_9 : decode cX6_sortsBy 9 = .ok (.iaload, 1) := dk_46 (dk_at dksX6_sortsBy_0 9 rfl rfl)
theorem dX6_sortsBy_10 : decode cX6_sortsBy 10 = .ok (.istore_n 2, 1) := dk_61 (dk_at dksX6_sortsBy_0 10 rfl rfl)
theorem dX6_sortsBy_11 : decode cX6_sortsBy 11 = .ok (.iconst 0, 1) := dk_3 (dk_at dksX6_sortsBy_0 11 rfl rfl)
theorem dX6_sortsBy_12 : decode cX6_sortsBy 12 = .ok (.istore_n 3, 1) := dk_62 (dk_at dksX6_sortsBy_0 12 rfl rfl)
theorem dX6_sortsBy_13 : decode cX6_sortsBy 13 = .ok (.iconst 0, 1) := dk_3 (dk_at dksX6_sortsBy_0 13 rfl rfl)
theorem dX6_sortsBy_14 : decode cX6_sortsBy 14 = .ok (.istore 4, 2) := dk_54 4 (dk_at dksX6_sortsBy_0 14 rfl rfl)
theorem dX6_sortsBy_16 : decode cX6_sortsBy 16 = .ok (.iload 4, 2) := dk_21 4 (dk_at dksX6_sortsBy_0 16 rfl rfl)
theorem dX6_sortsBy_18 : decode cX6_sortsBy 18 = .ok (.iconst 3, 1) := dk_6 (dk_at dksX6_sortsBy_0 18 rfl rfl)
theorem dX6_sortsBy_19 : decode cX6_sortsBy 19 = .ok (.if_icmp .ge 35, 3) := dk_162 0 35 (dk_at dksX6_sortsBy_0 19 rfl rfl)
theorem dX6_sortsBy_22 : decode cX6_sortsBy 22 = .ok (.aload_n 0, 1) := dk_42 (dk_at dksX6_sortsBy_0 22 rfl rfl)
theorem dX6_sortsBy_23 : decode cX6_sortsBy 23 = .ok (.getfield 19, 3) := dk_180 0 19 (dk_at dksX6_sortsBy_1 0 rfl rfl)
theorem dX6_sortsBy_26 : decode cX6_sortsBy 26 = .ok (.iload_n 1, 1) := dk_27 (dk_at dksX6_sortsBy_1 3 rfl rfl)
theorem dX6_sortsBy_27 : decode cX6_sortsBy 27 = .ok (.iload 4, 2) := dk_21 4 (dk_at dksX6_sortsBy_1 4 rfl rfl)
theorem dX6_sortsBy_29 : decode cX6_sortsBy 29 = .ok (.iastore, 1) := dk_79 (dk_at dksX6_sortsBy_1 6 rfl rfl)
theorem dX6_sortsBy_30 : decode cX6_sortsBy 30 = .ok (.iload_n 3, 1) := dk_29 (dk_at dksX6_sortsBy_1 7 rfl rfl)
theorem dX6_sortsBy_31 : decode cX6_sortsBy 31 = .ok (.aload_n 0, 1) := dk_42 (dk_at dksX6_sortsBy_1 8 rfl rfl)
theorem dX6_sortsBy_32 : decode cX6_sortsBy 32 = .ok (.invokevirtual 300, 3) := dk_182 1 44 (dk_at dksX6_sortsBy_1 9 rfl rfl)
theorem dX6_sortsBy_35 : decode cX6_sortsBy 35 = .ok (.ifCond .eq 10, 3) := dk_153 0 10 (dk_at dksX6_sortsBy_1 12 rfl rfl)
theorem dX6_sortsBy_38 : decode cX6_sortsBy 38 = .ok (.iconst 1, 1) := dk_4 (dk_at dksX6_sortsBy_1 15 rfl rfl)
theorem dX6_sortsBy_39 : decode cX6_sortsBy 39 = .ok (.iload 4, 2) := dk_21 4 (dk_at dksX6_sortsBy_1 16 rfl rfl)
theorem dX6_sortsBy_41 : decode cX6_sortsBy 41 = .ok (.ishl, 1) := dk_120 (dk_at dksX6_sortsBy_1 18 rfl rfl)
theorem dX6_sortsBy_42 : decode cX6_sortsBy 42 = .ok (.goto 4, 3) := dk_167 0 4 (dk_at dksX6_sortsBy_1 19 rfl rfl)
theorem dX6_sortsBy_45 : decode cX6_sortsBy 45 = .ok (.iconst 0, 1) := dk_3 (dk_at dksX6_sortsBy_1 22 rfl rfl)
theorem dX6_sortsBy_46 : decode cX6_sortsBy 46 = .ok (.ior, 1) := dk_128 (dk_at dksX6_sortsBy_1 23 rfl rfl)
theorem dX6_sortsBy_47 : decode cX6_sortsBy 47 = .ok (.istore_n 3, 1) := dk_62 (dk_at dksX6_sortsBy_2 0 rfl rfl)
theorem dX6_sortsBy_48 : decode cX6_sortsBy 48 = .ok (.iinc 4 1, 3) := dk_132 4 1 (dk_at dksX6_sortsBy_2 1 rfl rfl)
theorem dX6_sortsBy_51 : decode cX6_sortsBy 51 = .ok (.goto (-35), 3) := dk_167 255 221 (dk_at dksX6_sortsBy_2 4 rfl rfl)
theorem dX6_sortsBy_54 : decode cX6_sortsBy 54 = .ok (.aload_n 0, 1) := dk_42 (dk_at dksX6_sortsBy_2 7 rfl rfl)
theorem dX6_sortsBy_55 : decode cX6_sortsBy 55 = .ok (.getfield 19, 3) := dk_180 0 19 (dk_at dksX6_sortsBy_2 8 rfl rfl)
theorem dX6_sortsBy_58 : decode cX6_sortsBy 58 = .ok (.iload_n 1, 1) := dk_27 (dk_at dksX6_sortsBy_2 11 rfl rfl)
theorem dX6_sortsBy_59 : decode cX6_sortsBy 59 = .ok (.iload_n 2, 1) := dk_28 (dk_at dksX6_sortsBy_2 12 rfl rfl)
theorem dX6_sortsBy_60 : decode cX6_sortsBy 60 = .ok (.iastore, 1) := dk_79 (dk_at dksX6_sortsBy_2 13 rfl rfl)
theorem dX6_sortsBy_61 : decode cX6_sortsBy 61 = .ok (.iload_n 3, 1) := dk_29 (dk_at dksX6_sortsBy_2 14 rfl rfl)
theorem dX6_sortsBy_62 : decode cX6_sortsBy 62 = .ok (.ireturn, 1) := dk_172 (dk_at dksX6_sortsBy_2 15 rfl rfl)
abbrev cX6_wet : ByteArray := prog_13_method_82_code
def yX6_wet : MethodName := ⟨RX6, "wet", "(I)I"⟩
def dkwX6_wet_0 : List UInt8 := [27, 184, 0, 154, 153, 0, 11, 42, 27, 182, 1, 54, 167, 0, 5, 16, 254, 172]
abbrev dktX6_wet_0 : List UInt8 := dkwX6_wet_0 ++ []
theorem dksX6_wet_0 : cX6_wet.data.toList.drop 0 = dktX6_wet_0 := by decide +kernel
theorem dX6_wet_0 : decode cX6_wet 0 = .ok (.iload_n 1, 1) := dk_27 (dk_at dksX6_wet_0 0 rfl rfl)
theorem dX6_wet_1 : decode cX6_wet 1 = .ok (.invokestatic 154, 3) := dk_184 0 154 (dk_at dksX6_wet_0 1 rfl rfl)
theorem dX6_wet_4 : decode cX6_wet 4 = .ok (.ifCond .eq 11, 3) := dk_153 0 11 (dk_at dksX6_wet_0 4 rfl rfl)
theorem dX6_wet_7 : decode cX6_wet 7 = .ok (.aload_n 0, 1) := dk_42 (dk_at dksX6_wet_0 7 rfl rfl)
theorem dX6_wet_8 : decode cX6_wet 8 = .ok (.iload_n 1, 1) := dk_27 (dk_at dksX6_wet_0 8 rfl rfl)
theorem dX6_wet_9 : decode cX6_wet 9 = .ok (.invokevirtual 310, 3) := dk_182 1 54 (dk_at dksX6_wet_0 9 rfl rfl)
theorem dX6_wet_12 : decode cX6_wet 12 = .ok (.goto 5, 3) := dk_167 0 5 (dk_at dksX6_wet_0 12 rfl rfl)
theorem dX6_wet_15 : decode cX6_wet 15 = .ok (.bipush (-2), 2) := dk_16 254 (dk_at dksX6_wet_0 15 rfl rfl)
theorem dX6_wet_17 : decode cX6_wet 17 = .ok (.ireturn, 1) := dk_172 (dk_at dksX6_wet_0 17 rfl rfl)
abbrev cX6_wetBy : ByteArray := prog_13_method_81_code
def yX6_wetBy : MethodName := ⟨RX6, "wetBy", "(I)I"⟩
def dkwX6_wetBy_4 : List UInt8 := [42, 180, 0, 16, 27, 28, 79, 29, 172]
abbrev dktX6_wetBy_4 : List UInt8 := dkwX6_wetBy_4 ++ []
def dkwX6_wetBy_3 : List UInt8 := [180, 0, 61, 16, 12, 21, 5, 104, 27, 96, 46, 79, 132, 5, 1, 167, 255, 221, 132, 4, 1, 167, 255, 179]
abbrev dktX6_wetBy_3 : List UInt8 := dkwX6_wetBy_3 ++ dktX6_wetBy_4
def dkwX6_wetBy_2 : List UInt8 := [62, 3, 54, 5, 21, 5, 16, 20, 162, 0, 34, 42, 180, 0, 94, 16, 20, 21, 4, 104, 21, 5, 96, 42]
abbrev dktX6_wetBy_2 : List UInt8 := dkwX6_wetBy_2 ++ dktX6_wetBy_3
def dkwX6_wetBy_1 : List UInt8 := [180, 0, 16, 27, 21, 4, 79, 29, 42, 182, 1, 44, 153, 0, 10, 4, 21, 4, 120, 167, 0, 4, 3, 128]
abbrev dktX6_wetBy_1 : List UInt8 := dkwX6_wetBy_1 ++ dktX6_wetBy_2
def dkwX6_wetBy_0 : List UInt8 := [42, 182, 0, 233, 42, 180, 0, 16, 27, 46, 61, 3, 62, 3, 54, 4, 21, 4, 16, 10, 162, 0, 76, 42]
abbrev dktX6_wetBy_0 : List UInt8 := dkwX6_wetBy_0 ++ dktX6_wetBy_1
theorem dksX6_wetBy_0 : cX6_wetBy.data.toList.drop 0 = dktX6_wetBy_0 := by decide +kernel
theorem dksX6_wetBy_1 : cX6_wetBy.data.toList.drop 24 = dktX6_wetBy_1 := dk_seg dksX6_wetBy_0 24 rfl rfl
theorem dksX6_wetBy_2 : cX6_wetBy.data.toList.drop 48 = dktX6_wetBy_2 := dk_seg dksX6_wetBy_1 24 rfl rfl
theorem dksX6_wetBy_3 : cX6_wetBy.data.toList.drop 72 = dktX6_wetBy_3 := dk_seg dksX6_wetBy_2 24 rfl rfl
theorem dksX6_wetBy_4 : cX6_wetBy.data.toList.drop 96 = dktX6_wetBy_4 := dk_seg dksX6_wetBy_3 24 rfl rfl
theorem dX6_wetBy_0 : decode cX6_wetBy 0 = .ok (.aload_n 0, 1) := dk_42 (dk_at dksX6_wetBy_0 0 rfl rfl)
theorem dX6_wetBy_1 : decode cX6_wetBy 1 = .ok (.invokevirtual 233, 3) := dk_182 0 233 (dk_at dksX6_wetBy_0 1 rfl rfl)
theorem dX6_wetBy_4 : decode cX6_wetBy 4 = .ok (.aload_n 0, 1) := dk_42 (dk_at dksX6_wetBy_0 4 rfl rfl)
theorem dX6_wetBy_5 : decode cX6_wetBy 5 = .ok (.getfield 16, 3) := dk_180 0 16 (dk_at dksX6_wetBy_0 5 rfl rfl)
theorem dX6_wetBy_8 : decode cX6_wetBy 8 = .ok (.iload_n 1, 1) := dk_27 (dk_at dksX6_wetBy_0 8 rfl rfl)
theorem dX6_wetBy_9 : decode cX6_wetBy 9 = .ok (.iaload, 1) := dk_46 (dk_at dksX6_wetBy_0 9 rfl rfl)
theorem dX6_wetBy_10 : decode cX6_wetBy 10 = .ok (.istore_n 2, 1) := dk_61 (dk_at dksX6_wetBy_0 10 rfl rfl)
theorem dX6_wetBy_11 : decode cX6_wetBy 11 = .ok (.iconst 0, 1) := dk_3 (dk_at dksX6_wetBy_0 11 rfl rfl)
theorem dX6_wetBy_12 : decode cX6_wetBy 12 = .ok (.istore_n 3, 1) := dk_62 (dk_at dksX6_wetBy_0 12 rfl rfl)
theorem dX6_wetBy_13 : decode cX6_wetBy 13 = .ok (.iconst 0, 1) := dk_3 (dk_at dksX6_wetBy_0 13 rfl rfl)
theorem dX6_wetBy_14 : decode cX6_wetBy 14 = .ok (.istore 4, 2) := dk_54 4 (dk_at dksX6_wetBy_0 14 rfl rfl)
theorem dX6_wetBy_16 : decode cX6_wetBy 16 = .ok (.iload 4, 2) := dk_21 4 (dk_at dksX6_wetBy_0 16 rfl rfl)
theorem dX6_wetBy_18 : decode cX6_wetBy 18 = .ok (.bipush 10, 2) := dk_16 10 (dk_at dksX6_wetBy_0 18 rfl rfl)
theorem dX6_wetBy_20 : decode cX6_wetBy 20 = .ok (.if_icmp .ge 76, 3) := dk_162 0 76 (dk_at dksX6_wetBy_0 20 rfl rfl)
theorem dX6_wetBy_23 : decode cX6_wetBy 23 = .ok (.aload_n 0, 1) := dk_42 (dk_at dksX6_wetBy_0 23 rfl rfl)
theorem dX6_wetBy_24 : decode cX6_wetBy 24 = .ok (.getfield 16, 3) := dk_180 0 16 (dk_at dksX6_wetBy_1 0 rfl rfl)
theorem dX6_wetBy_27 : decode cX6_wetBy 27 = .ok (.iload_n 1, 1) := dk_27 (dk_at dksX6_wetBy_1 3 rfl rfl)
theorem dX6_wetBy_28 : decode cX6_wetBy 28 = .ok (.iload 4, 2) := dk_21 4 (dk_at dksX6_wetBy_1 4 rfl rfl)
theorem dX6_wetBy_30 : decode cX6_wetBy 30 = .ok (.iastore, 1) := dk_79 (dk_at dksX6_wetBy_1 6 rfl rfl)
theorem dX6_wetBy_31 : decode cX6_wetBy 31 = .ok (.iload_n 3, 1) := dk_29 (dk_at dksX6_wetBy_1 7 rfl rfl)
theorem dX6_wetBy_32 : decode cX6_wetBy 32 = .ok (.aload_n 0, 1) := dk_42 (dk_at dksX6_wetBy_1 8 rfl rfl)
theorem dX6_wetBy_33 : decode cX6_wetBy 33 = .ok (.invokevirtual 300, 3) := dk_182 1 44 (dk_at dksX6_wetBy_1 9 rfl rfl)
theorem dX6_wetBy_36 : decode cX6_wetBy 36 = .ok (.ifCond .eq 10, 3) := dk_153 0 10 (dk_at dksX6_wetBy_1 12 rfl rfl)
theorem dX6_wetBy_39 : decode cX6_wetBy 39 = .ok (.iconst 1, 1) := dk_4 (dk_at dksX6_wetBy_1 15 rfl rfl)
theorem dX6_wetBy_40 : decode cX6_wetBy 40 = .ok (.iload 4, 2) := dk_21 4 (dk_at dksX6_wetBy_1 16 rfl rfl)
theorem dX6_wetBy_42 : decode cX6_wetBy 42 = .ok (.ishl, 1) := dk_120 (dk_at dksX6_wetBy_1 18 rfl rfl)
theorem dX6_wetBy_43 : decode cX6_wetBy 43 = .ok (.goto 4, 3) := dk_167 0 4 (dk_at dksX6_wetBy_1 19 rfl rfl)
theorem dX6_wetBy_46 : decode cX6_wetBy 46 = .ok (.iconst 0, 1) := dk_3 (dk_at dksX6_wetBy_1 22 rfl rfl)
theorem dX6_wetBy_47 : decode cX6_wetBy 47 = .ok (.ior, 1) := dk_128 (dk_at dksX6_wetBy_1 23 rfl rfl)
theorem dX6_wetBy_48 : decode cX6_wetBy 48 = .ok (.istore_n 3, 1) := dk_62 (dk_at dksX6_wetBy_2 0 rfl rfl)
theorem dX6_wetBy_49 : decode cX6_wetBy 49 = .ok (.iconst 0, 1) := dk_3 (dk_at dksX6_wetBy_2 1 rfl rfl)
theorem dX6_wetBy_50 : decode cX6_wetBy 50 = .ok (.istore 5, 2) := dk_54 5 (dk_at dksX6_wetBy_2 2 rfl rfl)
theorem dX6_wetBy_52 : decode cX6_wetBy 52 = .ok (.iload 5, 2) := dk_21 5 (dk_at dksX6_wetBy_2 4 rfl rfl)
theorem dX6_wetBy_54 : decode cX6_wetBy 54 = .ok (.bipush 20, 2) := dk_16 20 (dk_at dksX6_wetBy_2 6 rfl rfl)
theorem dX6_wetBy_56 : decode cX6_wetBy 56 = .ok (.if_icmp .ge 34, 3) := dk_162 0 34 (dk_at dksX6_wetBy_2 8 rfl rfl)
theorem dX6_wetBy_59 : decode cX6_wetBy 59 = .ok (.aload_n 0, 1) := dk_42 (dk_at dksX6_wetBy_2 11 rfl rfl)
theorem dX6_wetBy_60 : decode cX6_wetBy 60 = .ok (.getfield 94, 3) := dk_180 0 94 (dk_at dksX6_wetBy_2 12 rfl rfl)
theorem dX6_wetBy_63 : decode cX6_wetBy 63 = .ok (.bipush 20, 2) := dk_16 20 (dk_at dksX6_wetBy_2 15 rfl rfl)
theorem dX6_wetBy_65 : decode cX6_wetBy 65 = .ok (.iload 4, 2) := dk_21 4 (dk_at dksX6_wetBy_2 17 rfl rfl)
theorem dX6_wetBy_67 : decode cX6_wetBy 67 = .ok (.imul, 1) := dk_104 (dk_at dksX6_wetBy_2 19 rfl rfl)
theorem dX6_wetBy_68 : decode cX6_wetBy 68 = .ok (.iload 5, 2) := dk_21 5 (dk_at dksX6_wetBy_2 20 rfl rfl)
theorem dX6_wetBy_70 : decode cX6_wetBy 70 = .ok (.iadd, 1) := dk_96 (dk_at dksX6_wetBy_2 22 rfl rfl)
theorem dX6_wetBy_71 : decode cX6_wetBy 71 = .ok (.aload_n 0, 1) := dk_42 (dk_at dksX6_wetBy_2 23 rfl rfl)
theorem dX6_wetBy_72 : decode cX6_wetBy 72 = .ok (.getfield 61, 3) := dk_180 0 61 (dk_at dksX6_wetBy_3 0 rfl rfl)
theorem dX6_wetBy_75 : decode cX6_wetBy 75 = .ok (.bipush 12, 2) := dk_16 12 (dk_at dksX6_wetBy_3 3 rfl rfl)
theorem dX6_wetBy_77 : decode cX6_wetBy 77 = .ok (.iload 5, 2) := dk_21 5 (dk_at dksX6_wetBy_3 5 rfl rfl)
theorem dX6_wetBy_79 : decode cX6_wetBy 79 = .ok (.imul, 1) := dk_104 (dk_at dksX6_wetBy_3 7 rfl rfl)
theorem dX6_wetBy_80 : decode cX6_wetBy 80 = .ok (.iload_n 1, 1) := dk_27 (dk_at dksX6_wetBy_3 8 rfl rfl)
theorem dX6_wetBy_81 : decode cX6_wetBy 81 = .ok (.iadd, 1) := dk_96 (dk_at dksX6_wetBy_3 9 rfl rfl)
theorem dX6_wetBy_82 : decode cX6_wetBy 82 = .ok (.iaload, 1) := dk_46 (dk_at dksX6_wetBy_3 10 rfl rfl)
theorem dX6_wetBy_83 : decode cX6_wetBy 83 = .ok (.iastore, 1) := dk_79 (dk_at dksX6_wetBy_3 11 rfl rfl)
theorem dX6_wetBy_84 : decode cX6_wetBy 84 = .ok (.iinc 5 1, 3) := dk_132 5 1 (dk_at dksX6_wetBy_3 12 rfl rfl)
theorem dX6_wetBy_87 : decode cX6_wetBy 87 = .ok (.goto (-35), 3) := dk_167 255 221 (dk_at dksX6_wetBy_3 15 rfl rfl)
theorem dX6_wetBy_90 : decode cX6_wetBy 90 = .ok (.iinc 4 1, 3) := dk_132 4 1 (dk_at dksX6_wetBy_3 18 rfl rfl)
theorem dX6_wetBy_93 : decode cX6_wetBy 93 = .ok (.goto (-77), 3) := dk_167 255 179 (dk_at dksX6_wetBy_3 21 rfl rfl)
theorem dX6_wetBy_96 : decode cX6_wetBy 96 = .ok (.aload_n 0, 1) := dk_42 (dk_at dksX6_wetBy_4 0 rfl rfl)
theorem dX6_wetBy_97 : decode cX6_wetBy 97 = .ok (.getfield 16, 3) := dk_180 0 16 (dk_at dksX6_wetBy_4 1 rfl rfl)
theorem dX6_wetBy_100 : decode cX6_wetBy 100 = .ok (.iload_n 1, 1) := dk_27 (dk_at dksX6_wetBy_4 4 rfl rfl)
theorem dX6_wetBy_101 : decode cX6_wetBy 101 = .ok (.iload_n 2, 1) := dk_28 (dk_at dksX6_wetBy_4 5 rfl rfl)
theorem dX6_wetBy_102 : decode cX6_wetBy 102 = .ok (.iastore, 1) := dk_79 (dk_at dksX6_wetBy_4 6 rfl rfl)
theorem dX6_wetBy_103 : decode cX6_wetBy 103 = .ok (.iload_n 3, 1) := dk_29 (dk_at dksX6_wetBy_4 7 rfl rfl)
theorem dX6_wetBy_104 : decode cX6_wetBy 104 = .ok (.ireturn, 1) := dk_172 (dk_at dksX6_wetBy_4 8 rfl rfl)
abbrev cX6_ask : ByteArray := prog_13_method_84_code
def yX6_ask : MethodName := ⟨RX6, "ask", "(I)I"⟩
def dkwX6_ask_0 : List UInt8 := [27, 184, 0, 154, 153, 0, 11, 42, 27, 182, 1, 57, 167, 0, 5, 16, 254, 172]
abbrev dktX6_ask_0 : List UInt8 := dkwX6_ask_0 ++ []
theorem dksX6_ask_0 : cX6_ask.data.toList.drop 0 = dktX6_ask_0 := by decide +kernel
theorem dX6_ask_0 : decode cX6_ask 0 = .ok (.iload_n 1, 1) := dk_27 (dk_at dksX6_ask_0 0 rfl rfl)
theorem dX6_ask_1 : decode cX6_ask 1 = .ok (.invokestatic 154, 3) := dk_184 0 154 (dk_at dksX6_ask_0 1 rfl rfl)
theorem dX6_ask_4 : decode cX6_ask 4 = .ok (.ifCond .eq 11, 3) := dk_153 0 11 (dk_at dksX6_ask_0 4 rfl rfl)
theorem dX6_ask_7 : decode cX6_ask 7 = .ok (.aload_n 0, 1) := dk_42 (dk_at dksX6_ask_0 7 rfl rfl)
theorem dX6_ask_8 : decode cX6_ask 8 = .ok (.iload_n 1, 1) := dk_27 (dk_at dksX6_ask_0 8 rfl rfl)
theorem dX6_ask_9 : decode cX6_ask 9 = .ok (.invokevirtual 313, 3) := dk_182 1 57 (dk_at dksX6_ask_0 9 rfl rfl)
theorem dX6_ask_12 : decode cX6_ask 12 = .ok (.goto 5, 3) := dk_167 0 5 (dk_at dksX6_ask_0 12 rfl rfl)
theorem dX6_ask_15 : decode cX6_ask 15 = .ok (.bipush (-2), 2) := dk_16 254 (dk_at dksX6_ask_0 15 rfl rfl)
theorem dX6_ask_17 : decode cX6_ask 17 = .ok (.ireturn, 1) := dk_172 (dk_at dksX6_ask_0 17 rfl rfl)
abbrev cX6_askOf : ByteArray := prog_13_method_83_code
def yX6_askOf : MethodName := ⟨RX6, "askOf", "(I)I"⟩
def dkwX6_askOf_7 : List UInt8 := [153, 0, 8, 21, 6, 167, 0, 5, 21, 4, 54, 4, 132, 5, 1, 167, 255, 90, 29, 172]
abbrev dktX6_askOf_7 : List UInt8 := dkwX6_askOf_7 ++ []
def dkwX6_askOf_6 : List UInt8 := [162, 0, 7, 4, 167, 0, 4, 3, 54, 7, 21, 7, 153, 0, 8, 21, 5, 167, 0, 4, 29, 62, 21, 7]
abbrev dktX6_askOf_6 : List UInt8 := dkwX6_askOf_6 ++ dktX6_askOf_7
def dkwX6_askOf_5 : List UInt8 := [21, 8, 167, 0, 5, 21, 6, 54, 6, 132, 7, 1, 167, 255, 154, 29, 2, 159, 0, 10, 21, 6, 21, 4]
abbrev dktX6_askOf_5 : List UInt8 := dkwX6_askOf_5 ++ dktX6_askOf_6
def dkwX6_askOf_4 : List UInt8 := [160, 0, 7, 4, 167, 0, 4, 3, 96, 54, 8, 132, 9, 1, 167, 255, 189, 21, 8, 21, 6, 164, 0, 8]
abbrev dktX6_askOf_4 : List UInt8 := dkwX6_askOf_4 ++ dktX6_askOf_5
def dkwX6_askOf_3 : List UInt8 := [16, 20, 21, 7, 104, 21, 5, 96, 46, 42, 180, 0, 94, 16, 20, 21, 9, 104, 21, 5, 96, 46]
abbrev dktX6_askOf_3 : List UInt8 := dkwX6_askOf_3 ++ dktX6_askOf_4
def dkwX6_askOf_2 : List UInt8 := [21, 8, 28, 21, 7, 184, 0, 215, 153, 0, 45, 28, 21, 9, 184, 0, 215, 153, 0, 36, 42, 180, 0, 94]
abbrev dktX6_askOf_2 : List UInt8 := dkwX6_askOf_2 ++ dktX6_askOf_3
def dkwX6_askOf_1 : List UInt8 := [3, 54, 7, 21, 7, 16, 10, 162, 0, 101, 3, 54, 8, 3, 54, 9, 21, 9, 16, 10, 162, 0, 66]
abbrev dktX6_askOf_1 : List UInt8 := dkwX6_askOf_1 ++ dktX6_askOf_2
def dkwX6_askOf_0 : List UInt8 := [42, 27, 182, 1, 54, 61, 2, 62, 3, 54, 4, 3, 54, 5, 21, 5, 16, 20, 162, 0, 165, 3, 54, 6]
abbrev dktX6_askOf_0 : List UInt8 := dkwX6_askOf_0 ++ dktX6_askOf_1
theorem dksX6_askOf_0 : cX6_askOf.data.toList.drop 0 = dktX6_askOf_0 := by decide +kernel
theorem dksX6_askOf_1 : cX6_askOf.data.toList.drop 24 = dktX6_askOf_1 := dk_seg dksX6_askOf_0 24 rfl rfl
theorem dksX6_askOf_2 : cX6_askOf.data.toList.drop 47 = dktX6_askOf_2 := dk_seg dksX6_askOf_1 23 rfl rfl
theorem dksX6_askOf_3 : cX6_askOf.data.toList.drop 71 = dktX6_askOf_3 := dk_seg dksX6_askOf_2 24 rfl rfl
theorem dksX6_askOf_4 : cX6_askOf.data.toList.drop 93 = dktX6_askOf_4 := dk_seg dksX6_askOf_3 22 rfl rfl
theorem dksX6_askOf_5 : cX6_askOf.data.toList.drop 117 = dktX6_askOf_5 := dk_seg dksX6_askOf_4 24 rfl rfl
theorem dksX6_askOf_6 : cX6_askOf.data.toList.drop 141 = dktX6_askOf_6 := dk_seg dksX6_askOf_5 24 rfl rfl
theorem dksX6_askOf_7 : cX6_askOf.data.toList.drop 165 = dktX6_askOf_7 := dk_seg dksX6_askOf_6 24 rfl rfl
theorem dX6_askOf_0 : decode cX6_askOf 0 = .ok (.aload_n 0, 1) := dk_42 (dk_at dksX6_askOf_0 0 rfl rfl)
theorem dX6_askOf_1 : decode cX6_askOf 1 = .ok (.iload_n 1, 1) := dk_27 (dk_at dksX6_askOf_0 1 rfl rfl)
theorem dX6_askOf_2 : decode cX6_askOf 2 = .ok (.invokevirtual 310, 3) := dk_182 1 54 (dk_at dksX6_askOf_0 2 rfl rfl)
theorem dX6_askOf_5 : decode cX6_askOf 5 = .ok (.istore_n 2, 1) := dk_61 (dk_at dksX6_askOf_0 5 rfl rfl)
theorem dX6_askOf_6 : decode cX6_askOf 6 = .ok (.iconst (-1), 1) := dk_2 (dk_at dksX6_askOf_0 6 rfl rfl)
theorem dX6_askOf_7 : decode cX6_askOf 7 = .ok (.istore_n 3, 1) := dk_62 (dk_at dksX6_askOf_0 7 rfl rfl)
theorem dX6_askOf_8 : decode cX6_askOf 8 = .ok (.iconst 0, 1) := dk_3 (dk_at dksX6_askOf_0 8 rfl rfl)
theorem dX6_askOf_9 : decode cX6_askOf 9 = .ok (.istore 4, 2) := dk_54 4 (dk_at dksX6_askOf_0 9 rfl rfl)
theorem dX6_askOf_11 : decode cX6_askOf 11 = .ok (.iconst 0, 1) := dk_3 (dk_at dksX6_askOf_0 11 rfl rfl)
theorem dX6_askOf_12 : decode cX6_askOf 12 = .ok (.istore 5, 2) := dk_54 5 (dk_at dksX6_askOf_0 12 rfl rfl)
theorem dX6_askOf_14 : decode cX6_askOf 14 = .ok (.iload 5, 2) := dk_21 5 (dk_at dksX6_askOf_0 14 rfl rfl)
theorem dX6_askOf_16 : decode cX6_askOf 16 = .ok (.bipush 20, 2) := dk_16 20 (dk_at dksX6_askOf_0 16 rfl rfl)
theorem dX6_askOf_18 : decode cX6_askOf 18 = .ok (.if_icmp .ge 165, 3) := dk_162 0 165 (dk_at dksX6_askOf_0 18 rfl rfl)
theorem dX6_askOf_21 : decode cX6_askOf 21 = .ok (.iconst 0, 1) := dk_3 (dk_at dksX6_askOf_0 21 rfl rfl)
theorem dX6_askOf_22 : decode cX6_askOf 22 = .ok (.istore 6, 2) := dk_54 6 (dk_at dksX6_askOf_0 22 rfl rfl)
theorem dX6_askOf_24 : decode cX6_askOf 24 = .ok (.iconst 0, 1) := dk_3 (dk_at dksX6_askOf_1 0 rfl rfl)
theorem dX6_askOf_25 : decode cX6_askOf 25 = .ok (.istore 7, 2) := dk_54 7 (dk_at dksX6_askOf_1 1 rfl rfl)
theorem dX6_askOf_27 : decode cX6_askOf 27 = .ok (.iload 7, 2) := dk_21 7 (dk_at dksX6_askOf_1 3 rfl rfl)
theorem dX6_askOf_29 : decode cX6_askOf 29 = .ok (.bipush 10, 2) := dk_16 10 (dk_at dksX6_askOf_1 5 rfl rfl)
theorem dX6_askOf_31 : decode cX6_askOf 31 = .ok (.if_icmp .ge 101, 3) := dk_162 0 101 (dk_at dksX6_askOf_1 7 rfl rfl)
theorem dX6_askOf_34 : decode cX6_askOf 34 = .ok (.iconst 0, 1) := dk_3 (dk_at dksX6_askOf_1 10 rfl rfl)
theorem dX6_askOf_35 : decode cX6_askOf 35 = .ok (.istore 8, 2) := dk_54 8 (dk_at dksX6_askOf_1 11 rfl rfl)
theorem dX6_askOf_37 : decode cX6_askOf 37 = .ok (.iconst 0, 1) := dk_3 (dk_at dksX6_askOf_1 13 rfl rfl)
theorem dX6_askOf_38 : decode cX6_askOf 38 = .ok (.istore 9, 2) := dk_54 9 (dk_at dksX6_askOf_1 14 rfl rfl)
theorem dX6_askOf_40 : decode cX6_askOf 40 = .ok (.iload 9, 2) := dk_21 9 (dk_at dksX6_askOf_1 16 rfl rfl)
theorem dX6_askOf_42 : decode cX6_askOf 42 = .ok (.bipush 10, 2) := dk_16 10 (dk_at dksX6_askOf_1 18 rfl rfl)
theorem dX6_askOf_44 : decode cX6_askOf 44 = .ok (.if_icmp .ge 66, 3) := dk_162 0 66 (dk_at dksX6_askOf_1 20 rfl rfl)
theorem dX6_askOf_47 : decode cX6_askOf 47 = .ok (.iload 8, 2) := dk_21 8 (dk_at dksX6_askOf_2 0 rfl rfl)
theorem dX6_askOf_49 : decode cX6_askOf 49 = .ok (.iload_n 2, 1) := dk_28 (dk_at dksX6_askOf_2 2 rfl rfl)
theorem dX6_askOf_50 : decode cX6_askOf 50 = .ok (.iload 7, 2) := dk_21 7 (dk_at dksX6_askOf_2 3 rfl rfl)
theorem dX6_askOf_52 : decode cX6_askOf 52 = .ok (.invokestatic 215, 3) := dk_184 0 215 (dk_at dksX6_askOf_2 5 rfl rfl)
theorem dX6_askOf_55 : decode cX6_askOf 55 = .ok (.ifCond .eq 45, 3) := dk_153 0 45 (dk_at dksX6_askOf_2 8 rfl rfl)
theorem dX6_askOf_58 : decode cX6_askOf 58 = .ok (.iload_n 2, 1) := dk_28 (dk_at dksX6_askOf_2 11 rfl rfl)
theorem dX6_askOf_59 : decode cX6_askOf 59 = .ok (.iload 9, 2) := dk_21 9 (dk_at dksX6_askOf_2 12 rfl rfl)
theorem dX6_askOf_61 : decode cX6_askOf 61 = .ok (.invokestatic 215, 3) := dk_184 0 215 (dk_at dksX6_askOf_2 14 rfl rfl)
theorem dX6_askOf_64 : decode cX6_askOf 64 = .ok (.ifCond .eq 36, 3) := dk_153 0 36 (dk_at dksX6_askOf_2 17 rfl rfl)
theorem dX6_askOf_67 : decode cX6_askOf 67 = .ok (.aload_n 0, 1) := dk_42 (dk_at dksX6_askOf_2 20 rfl rfl)
theorem dX6_askOf_68 : decode cX6_askOf 68 = .ok (.getfield 94, 3) := dk_180 0 94 (dk_at dksX6_askOf_2 21 rfl rfl)
theorem dX6_askOf_71 : decode cX6_askOf 71 = .ok (.bipush 20, 2) := dk_16 20 (dk_at dksX6_askOf_3 0 rfl rfl)
theorem dX6_askOf_73 : decode cX6_askOf 73 = .ok (.iload 7, 2) := dk_21 7 (dk_at dksX6_askOf_3 2 rfl rfl)
theorem dX6_askOf_75 : decode cX6_askOf 75 = .ok (.imul, 1) := dk_104 (dk_at dksX6_askOf_3 4 rfl rfl)
theorem dX6_askOf_76 : decode cX6_askOf 76 = .ok (.iload 5, 2) := dk_21 5 (dk_at dksX6_askOf_3 5 rfl rfl)
theorem dX6_askOf_78 : decode cX6_askOf 78 = .ok (.iadd, 1) := dk_96 (dk_at dksX6_askOf_3 7 rfl rfl)
theorem dX6_askOf_79 : decode cX6_askOf 79 = .ok (.iaload, 1) := dk_46 (dk_at dksX6_askOf_3 8 rfl rfl)
theorem dX6_askOf_80 : decode cX6_askOf 80 = .ok (.aload_n 0, 1) := dk_42 (dk_at dksX6_askOf_3 9 rfl rfl)
theorem dX6_askOf_81 : decode cX6_askOf 81 = .ok (.getfield 94, 3) := dk_180 0 94 (dk_at dksX6_askOf_3 10 rfl rfl)
theorem dX6_askOf_84 : decode cX6_askOf 84 = .ok (.bipush 20, 2) := dk_16 20 (dk_at dksX6_askOf_3 13 rfl rfl)
theorem dX6_askOf_86 : decode cX6_askOf 86 = .ok (.iload 9, 2) := dk_21 9 (dk_at dksX6_askOf_3 15 rfl rfl)
theorem dX6_askOf_88 : decode cX6_askOf 88 = .ok (.imul, 1) := dk_104 (dk_at dksX6_askOf_3 17 rfl rfl)
theorem dX6_askOf_89 : decode cX6_askOf 89 = .ok (.iload 5, 2) := dk_21 5 (dk_at dksX6_askOf_3 18 rfl rfl)
theorem dX6_askOf_91 : decode cX6_askOf 91 = .ok (.iadd, 1) := dk_96 (dk_at dksX6_askOf_3 20 rfl rfl)
theorem dX6_askOf_92 : decode cX6_askOf 92 = .ok (.iaload, 1) := dk_46 (dk_at dksX6_askOf_3 21 rfl rfl)
theorem dX6_askOf_93 : decode cX6_askOf 93 = .ok (.if_icmp .ne 7, 3) := dk_160 0 7 (dk_at dksX6_askOf_4 0 rfl rfl)
theorem dX6_askOf_96 : decode cX6_askOf 96 = .ok (.iconst 1, 1) := dk_4 (dk_at dksX6_askOf_4 3 rfl rfl)
theorem dX6_askOf_97 : decode cX6_askOf 97 = .ok (.goto 4, 3) := dk_167 0 4 (dk_at dksX6_askOf_4 4 rfl rfl)
theorem dX6_askOf_100 : decode cX6_askOf 100 = .ok (.iconst 0, 1) := dk_3 (dk_at dksX6_askOf_4 7 rfl rfl)
theorem dX6_askOf_101 : decode cX6_askOf 101 = .ok (.iadd, 1) := dk_96 (dk_at dksX6_askOf_4 8 rfl rfl)
theorem dX6_askOf_102 : decode cX6_askOf 102 = .ok (.istore 8, 2) := dk_54 8 (dk_at dksX6_askOf_4 9 rfl rfl)
theorem dX6_askOf_104 : decode cX6_askOf 104 = .ok (.iinc 9 1, 3) := dk_132 9 1 (dk_at dksX6_askOf_4 11 rfl rfl)
theorem dX6_askOf_107 : decode cX6_askOf 107 = .ok (.goto (-67), 3) := dk_167 255 189 (dk_at dksX6_askOf_4 14 rfl rfl)
theorem dX6_askOf_110 : decode cX6_askOf 110 = .ok (.iload 8, 2) := dk_21 8 (dk_at dksX6_askOf_4 17 rfl rfl)
theorem dX6_askOf_112 : decode cX6_askOf 112 = .ok (.iload 6, 2) := dk_21 6 (dk_at dksX6_askOf_4 19 rfl rfl)
theorem dX6_askOf_114 : decode cX6_askOf 114 = .ok (.if_icmp .le 8, 3) := dk_164 0 8 (dk_at dksX6_askOf_4 21 rfl rfl)
theorem dX6_askOf_117 : decode cX6_askOf 117 = .ok (.iload 8, 2) := dk_21 8 (dk_at dksX6_askOf_5 0 rfl rfl)
theorem dX6_askOf_119 : decode cX6_askOf 119 = .ok (.goto 5, 3) := dk_167 0 5 (dk_at dksX6_askOf_5 2 rfl rfl)
theorem dX6_askOf_122 : decode cX6_askOf 122 = .ok (.iload 6, 2) := dk_21 6 (dk_at dksX6_askOf_5 5 rfl rfl)
theorem dX6_askOf_124 : decode cX6_askOf 124 = .ok (.istore 6, 2) := dk_54 6 (dk_at dksX6_askOf_5 7 rfl rfl)
theorem dX6_askOf_126 : decode cX6_askOf 126 = .ok (.iinc 7 1, 3) := dk_132 7 1 (dk_at dksX6_askOf_5 9 rfl rfl)
theorem dX6_askOf_129 : decode cX6_askOf 129 = .ok (.goto (-102), 3) := dk_167 255 154 (dk_at dksX6_askOf_5 12 rfl rfl)
theorem dX6_askOf_132 : decode cX6_askOf 132 = .ok (.iload_n 3, 1) := dk_29 (dk_at dksX6_askOf_5 15 rfl rfl)
theorem dX6_askOf_133 : decode cX6_askOf 133 = .ok (.iconst (-1), 1) := dk_2 (dk_at dksX6_askOf_5 16 rfl rfl)
theorem dX6_askOf_134 : decode cX6_askOf 134 = .ok (.if_icmp .eq 10, 3) := dk_159 0 10 (dk_at dksX6_askOf_5 17 rfl rfl)
theorem dX6_askOf_137 : decode cX6_askOf 137 = .ok (.iload 6, 2) := dk_21 6 (dk_at dksX6_askOf_5 20 rfl rfl)
theorem dX6_askOf_139 : decode cX6_askOf 139 = .ok (.iload 4, 2) := dk_21 4 (dk_at dksX6_askOf_5 22 rfl rfl)
theorem dX6_askOf_141 : decode cX6_askOf 141 = .ok (.if_icmp .ge 7, 3) := dk_162 0 7 (dk_at dksX6_askOf_6 0 rfl rfl)
theorem dX6_askOf_144 : decode cX6_askOf 144 = .ok (.iconst 1, 1) := dk_4 (dk_at dksX6_askOf_6 3 rfl rfl)
theorem dX6_askOf_145 : decode cX6_askOf 145 = .ok (.goto 4, 3) := dk_167 0 4 (dk_at dksX6_askOf_6 4 rfl rfl)
theorem dX6_askOf_148 : decode cX6_askOf 148 = .ok (.iconst 0, 1) := dk_3 (dk_at dksX6_askOf_6 7 rfl rfl)
theorem dX6_askOf_149 : decode cX6_askOf 149 = .ok (.istore 7, 2) := dk_54 7 (dk_at dksX6_askOf_6 8 rfl rfl)
theorem dX6_askOf_151 : decode cX6_askOf 151 = .ok (.iload 7, 2) := dk_21 7 (dk_at dksX6_askOf_6 10 rfl rfl)
theorem dX6_askOf_153 : decode cX6_askOf 153 = .ok (.ifCond .eq 8, 3) := dk_153 0 8 (dk_at dksX6_askOf_6 12 rfl rfl)
theorem dX6_askOf_156 : decode cX6_askOf 156 = .ok (.iload 5, 2) := dk_21 5 (dk_at dksX6_askOf_6 15 rfl rfl)
theorem dX6_askOf_158 : decode cX6_askOf 158 = .ok (.goto 4, 3) := dk_167 0 4 (dk_at dksX6_askOf_6 17 rfl rfl)
theorem dX6_askOf_161 : decode cX6_askOf 161 = .ok (.iload_n 3, 1) := dk_29 (dk_at dksX6_askOf_6 20 rfl rfl)
theorem dX6_askOf_162 : decode cX6_askOf 162 = .ok (.istore_n 3, 1) := dk_62 (dk_at dksX6_askOf_6 21 rfl rfl)
theorem dX6_askOf_163 : decode cX6_askOf 163 = .ok (.iload 7, 2) := dk_21 7 (dk_at dksX6_askOf_6 22 rfl rfl)
theorem dX6_askOf_165 : decode cX6_askOf 165 = .ok (.ifCond .eq 8, 3) := dk_153 0 8 (dk_at dksX6_askOf_7 0 rfl rfl)
theorem dX6_askOf_168 : decode cX6_askOf 168 = .ok (.iload 6, 2) := dk_21 6 (dk_at dksX6_askOf_7 3 rfl rfl)
theorem dX6_askOf_170 : decode cX6_askOf 170 = .ok (.goto 5, 3) := dk_167 0 5 (dk_at dksX6_askOf_7 5 rfl rfl)
theorem dX6_askOf_173 : decode cX6_askOf 173 = .ok (.iload 4, 2) := dk_21 4 (dk_at dksX6_askOf_7 8 rfl rfl)
theorem dX6_askOf_175 : decode cX6_askOf 175 = .ok (.istore 4, 2) := dk_54 4 (dk_at dksX6_askOf_7 10 rfl rfl)
theorem dX6_askOf_177 : decode cX6_askOf 177 = .ok (.iinc 5 1, 3) := dk_132 5 1 (dk_at dksX6_askOf_7 12 rfl rfl)
theorem dX6_askOf_180 : decode cX6_askOf 180 = .ok (.goto (-166), 3) := dk_167 255 90 (dk_at dksX6_askOf_7 15 rfl rfl)
theorem dX6_askOf_183 : decode cX6_askOf 183 = .ok (.iload_n 3, 1) := dk_29 (dk_at dksX6_askOf_7 18 rfl rfl)
theorem dX6_askOf_184 : decode cX6_askOf 184 = .ok (.ireturn, 1) := dk_172 (dk_at dksX6_askOf_7 19 rfl rfl)
abbrev cX6_chance : ByteArray := prog_13_method_86_code
def yX6_chance : MethodName := ⟨RX6, "chance", "(III)J"⟩
def dkwX6_chance_1 : List UInt8 := [153, 0, 13, 42, 27, 28, 29, 182, 1, 64, 167, 0, 8, 16, 254, 184, 1, 68, 173]
abbrev dktX6_chance_1 : List UInt8 := dkwX6_chance_1 ++ []
def dkwX6_chance_0 : List UInt8 := [27, 3, 16, 16, 184, 0, 115, 153, 0, 29, 28, 184, 0, 166, 153, 0, 22, 29, 3, 4, 184, 0, 115]
abbrev dktX6_chance_0 : List UInt8 := dkwX6_chance_0 ++ dktX6_chance_1
theorem dksX6_chance_0 : cX6_chance.data.toList.drop 0 = dktX6_chance_0 := by decide +kernel
theorem dksX6_chance_1 : cX6_chance.data.toList.drop 23 = dktX6_chance_1 := dk_seg dksX6_chance_0 23 rfl rfl
theorem dX6_chance_0 : decode cX6_chance 0 = .ok (.iload_n 1, 1) := dk_27 (dk_at dksX6_chance_0 0 rfl rfl)
theorem dX6_chance_1 : decode cX6_chance 1 = .ok (.iconst 0, 1) := dk_3 (dk_at dksX6_chance_0 1 rfl rfl)
theorem dX6_chance_2 : decode cX6_chance 2 = .ok (.bipush 16, 2) := dk_16 16 (dk_at dksX6_chance_0 2 rfl rfl)
theorem dX6_chance_4 : decode cX6_chance 4 = .ok (.invokestatic 115, 3) := dk_184 0 115 (dk_at dksX6_chance_0 4 rfl rfl)
theorem dX6_chance_7 : decode cX6_chance 7 = .ok (.ifCond .eq 29, 3) := dk_153 0 29 (dk_at dksX6_chance_0 7 rfl rfl)
theorem dX6_chance_10 : decode cX6_chance 10 = .ok (.iload_n 2, 1) := dk_28 (dk_at dksX6_chance_0 10 rfl rfl)
theorem dX6_chance_11 : decode cX6_chance 11 = .ok (.invokestatic 166, 3) := dk_184 0 166 (dk_at dksX6_chance_0 11 rfl rfl)
theorem dX6_chance_14 : decode cX6_chance 14 = .ok (.ifCond .eq 22, 3) := dk_153 0 22 (dk_at dksX6_chance_0 14 rfl rfl)
theorem dX6_chance_17 : decode cX6_chance 17 = .ok (.iload_n 3, 1) := dk_29 (dk_at dksX6_chance_0 17 rfl rfl)
theorem dX6_chance_18 : decode cX6_chance 18 = .ok (.iconst 0, 1) := dk_3 (dk_at dksX6_chance_0 18 rfl rfl)
theorem dX6_chance_19 : decode cX6_chance 19 = .ok (.iconst 1, 1) := dk_4 (dk_at dksX6_chance_0 19 rfl rfl)
theorem dX6_chance_20 : decode cX6_chance 20 = .ok (.invokestatic 115, 3) := dk_184 0 115 (dk_at dksX6_chance_0 20 rfl rfl)
theorem dX6_chance_23 : decode cX6_chance 23 = .ok (.ifCond .eq 13, 3) := dk_153 0 13 (dk_at dksX6_chance_1 0 rfl rfl)
theorem dX6_chance_26 : decode cX6_chance 26 = .ok (.aload_n 0, 1) := dk_42 (dk_at dksX6_chance_1 3 rfl rfl)
theorem dX6_chance_27 : decode cX6_chance 27 = .ok (.iload_n 1, 1) := dk_27 (dk_at dksX6_chance_1 4 rfl rfl)
theorem dX6_chance_28 : decode cX6_chance 28 = .ok (.iload_n 2, 1) := dk_28 (dk_at dksX6_chance_1 5 rfl rfl)
theorem dX6_chance_29 : decode cX6_chance 29 = .ok (.iload_n 3, 1) := dk_29 (dk_at dksX6_chance_1 6 rfl rfl)
theorem dX6_chance_30 : decode cX6_chance 30 = .ok (.invokevirtual 320, 3) := dk_182 1 64 (dk_at dksX6_chance_1 7 rfl rfl)
theorem dX6_chance_33 : decode cX6_chance 33 = .ok (.goto 8, 3) := dk_167 0 8 (dk_at dksX6_chance_1 10 rfl rfl)
theorem dX6_chance_36 : decode cX6_chance 36 = .ok (.bipush (-2), 2) := dk_16 254 (dk_at dksX6_chance_1 13 rfl rfl)
theorem dX6_chance_38 : decode cX6_chance 38 = .ok (.invokestatic 324, 3) := dk_184 1 68 (dk_at dksX6_chance_1 15 rfl rfl)
theorem dX6_chance_41 : decode cX6_chance 41 = .ok (.lreturn, 1) := dk_173 (dk_at dksX6_chance_1 18 rfl rfl)
abbrev cX6_chanceOf : ByteArray := prog_13_method_85_code
def yX6_chanceOf : MethodName := ⟨RX6, "chanceOf", "(III)J"⟩
def dkwX6_chanceOf_5 : List UInt8 := [121, 29, 184, 1, 60, 173]
abbrev dktX6_chanceOf_5 : List UInt8 := dkwX6_chanceOf_5 ++ []
def dkwX6_chanceOf_4 : List UInt8 := [22, 7, 167, 0, 4, 9, 97, 55, 4, 132, 6, 1, 167, 255, 160, 22, 4, 10, 7, 42, 180, 0, 169, 104]
abbrev dktX6_chanceOf_4 : List UInt8 := dkwX6_chanceOf_4 ++ dktX6_chanceOf_5
def dkwX6_chanceOf_3 : List UInt8 := [158, 0, 32, 42, 21, 6, 181, 0, 185, 42, 182, 0, 236, 22, 4, 42, 28, 182, 0, 248, 153, 0, 8]
abbrev dktX6_chanceOf_3 : List UInt8 := dkwX6_chanceOf_3 ++ dktX6_chanceOf_4
def dkwX6_chanceOf_2 : List UInt8 := [16, 16, 27, 100, 133, 167, 0, 5, 27, 133, 105, 55, 7, 132, 9, 1, 167, 255, 219, 22, 7, 9, 148]
abbrev dktX6_chanceOf_2 : List UInt8 := dkwX6_chanceOf_2 ++ dktX6_chanceOf_3
def dkwX6_chanceOf_1 : List UInt8 := [3, 54, 9, 21, 9, 42, 180, 0, 169, 162, 0, 34, 22, 7, 21, 6, 21, 9, 184, 0, 215, 153, 0, 11]
abbrev dktX6_chanceOf_1 : List UInt8 := dkwX6_chanceOf_1 ++ dktX6_chanceOf_2
def dkwX6_chanceOf_0 : List UInt8 := [42, 182, 0, 233, 9, 55, 4, 3, 54, 6, 21, 6, 4, 42, 180, 0, 169, 120, 162, 0, 91, 10, 55, 7]
abbrev dktX6_chanceOf_0 : List UInt8 := dkwX6_chanceOf_0 ++ dktX6_chanceOf_1
theorem dksX6_chanceOf_0 : cX6_chanceOf.data.toList.drop 0 = dktX6_chanceOf_0 := by decide +kernel
theorem dksX6_chanceOf_1 : cX6_chanceOf.data.toList.drop 24 = dktX6_chanceOf_1 := dk_seg dksX6_chanceOf_0 24 rfl rfl
theorem dksX6_chanceOf_2 : cX6_chanceOf.data.toList.drop 48 = dktX6_chanceOf_2 := dk_seg dksX6_chanceOf_1 24 rfl rfl
theorem dksX6_chanceOf_3 : cX6_chanceOf.data.toList.drop 71 = dktX6_chanceOf_3 := dk_seg dksX6_chanceOf_2 23 rfl rfl
theorem dksX6_chanceOf_4 : cX6_chanceOf.data.toList.drop 94 = dktX6_chanceOf_4 := dk_seg dksX6_chanceOf_3 23 rfl rfl
theorem dksX6_chanceOf_5 : cX6_chanceOf.data.toList.drop 118 = dktX6_chanceOf_5 := dk_seg dksX6_chanceOf_4 24 rfl rfl
theorem dX6_chanceOf_0 : decode cX6_chanceOf 0 = .ok (.aload_n 0, 1) := dk_42 (dk_at dksX6_chanceOf_0 0 rfl rfl)
theorem dX6_chanceOf_1 : decode cX6_chanceOf 1 = .ok (.invokevirtual 233, 3) := dk_182 0 233 (dk_at dksX6_chanceOf_0 1 rfl rfl)
theorem dX6_chanceOf_4 : decode cX6_chanceOf 4 = .ok (.lconst 0, 1) := dk_9 (dk_at dksX6_chanceOf_0 4 rfl rfl)
theorem dX6_chanceOf_5 : decode cX6_chanceOf 5 = .ok (.lstore 4, 2) := dk_55 4 (dk_at dksX6_chanceOf_0 5 rfl rfl)
theorem dX6_chanceOf_7 : decode cX6_chanceOf 7 = .ok (.iconst 0, 1) := dk_3 (dk_at dksX6_chanceOf_0 7 rfl rfl)
theorem dX6_chanceOf_8 : decode cX6_chanceOf 8 = .ok (.istore 6, 2) := dk_54 6 (dk_at dksX6_chanceOf_0 8 rfl rfl)
theorem dX6_chanceOf_10 : decode cX6_chanceOf 10 = .ok (.iload 6, 2) := dk_21 6 (dk_at dksX6_chanceOf_0 10 rfl rfl)
theorem dX6_chanceOf_12 : decode cX6_chanceOf 12 = .ok (.iconst 1, 1) := dk_4 (dk_at dksX6_chanceOf_0 12 rfl rfl)
theorem dX6_chanceOf_13 : decode cX6_chanceOf 13 = .ok (.aload_n 0, 1) := dk_42 (dk_at dksX6_chanceOf_0 13 rfl rfl)
theorem dX6_chanceOf_14 : decode cX6_chanceOf 14 = .ok (.getfield 169, 3) := dk_180 0 169 (dk_at dksX6_chanceOf_0 14 rfl rfl)
theorem dX6_chanceOf_17 : decode cX6_chanceOf 17 = .ok (.ishl, 1) := dk_120 (dk_at dksX6_chanceOf_0 17 rfl rfl)
theorem dX6_chanceOf_18 : decode cX6_chanceOf 18 = .ok (.if_icmp .ge 91, 3) := dk_162 0 91 (dk_at dksX6_chanceOf_0 18 rfl rfl)
theorem dX6_chanceOf_21 : decode cX6_chanceOf 21 = .ok (.lconst 1, 1) := dk_10 (dk_at dksX6_chanceOf_0 21 rfl rfl)
theorem dX6_chanceOf_22 : decode cX6_chanceOf 22 = .ok (.lstore 7, 2) := dk_55 7 (dk_at dksX6_chanceOf_0 22 rfl rfl)
theorem dX6_chanceOf_24 : decode cX6_chanceOf 24 = .ok (.iconst 0, 1) := dk_3 (dk_at dksX6_chanceOf_1 0 rfl rfl)
theorem dX6_chanceOf_25 : decode cX6_chanceOf 25 = .ok (.istore 9, 2) := dk_54 9 (dk_at dksX6_chanceOf_1 1 rfl rfl)
theorem dX6_chanceOf_27 : decode cX6_chanceOf 27 = .ok (.iload 9, 2) := dk_21 9 (dk_at dksX6_chanceOf_1 3 rfl rfl)
theorem dX6_chanceOf_29 : decode cX6_chanceOf 29 = .ok (.aload_n 0, 1) := dk_42 (dk_at dksX6_chanceOf_1 5 rfl rfl)
theorem dX6_chanceOf_30 : decode cX6_chanceOf 30 = .ok (.getfield 169, 3) := dk_180 0 169 (dk_at dksX6_chanceOf_1 6 rfl rfl)
theorem dX6_chanceOf_33 : decode cX6_chanceOf 33 = .ok (.if_icmp .ge 34, 3) := dk_162 0 34 (dk_at dksX6_chanceOf_1 9 rfl rfl)
theorem dX6_chanceOf_36 : decode cX6_chanceOf 36 = .ok (.lload 7, 2) := dk_22 7 (dk_at dksX6_chanceOf_1 12 rfl rfl)
theorem dX6_chanceOf_38 : decode cX6_chanceOf 38 = .ok (.iload 6, 2) := dk_21 6 (dk_at dksX6_chanceOf_1 14 rfl rfl)
theorem dX6_chanceOf_40 : decode cX6_chanceOf 40 = .ok (.iload 9, 2) := dk_21 9 (dk_at dksX6_chanceOf_1 16 rfl rfl)
theorem dX6_chanceOf_42 : decode cX6_chanceOf 42 = .ok (.invokestatic 215, 3) := dk_184 0 215 (dk_at dksX6_chanceOf_1 18 rfl rfl)
theorem dX6_chanceOf_45 : decode cX6_chanceOf 45 = .ok (.ifCond .eq 11, 3) := dk_153 0 11 (dk_at dksX6_chanceOf_1 21 rfl rfl)
theorem dX6_chanceOf_48 : decode cX6_chanceOf 48 = .ok (.bipush 16, 2) := dk_16 16 (dk_at dksX6_chanceOf_2 0 rfl rfl)
theorem dX6_chanceOf_50 : decode cX6_chanceOf 50 = .ok (.iload_n 1, 1) := dk_27 (dk_at dksX6_chanceOf_2 2 rfl rfl)
theorem dX6_chanceOf_51 : decode cX6_chanceOf 51 = .ok (.isub, 1) := dk_100 (dk_at dksX6_chanceOf_2 3 rfl rfl)
theorem dX6_chanceOf_52 : decode cX6_chanceOf 52 = .ok (.i2l, 1) := dk_133 (dk_at dksX6_chanceOf_2 4 rfl rfl)
theorem dX6_chanceOf_53 : decode cX6_chanceOf 53 = .ok (.goto 5, 3) := dk_167 0 5 (dk_at dksX6_chanceOf_2 5 rfl rfl)
theorem dX6_chanceOf_56 : decode cX6_chanceOf 56 = .ok (.iload_n 1, 1) := dk_27 (dk_at dksX6_chanceOf_2 8 rfl rfl)
theorem dX6_chanceOf_57 : decode cX6_chanceOf 57 = .ok (.i2l, 1) := dk_133 (dk_at dksX6_chanceOf_2 9 rfl rfl)
theorem dX6_chanceOf_58 : decode cX6_chanceOf 58 = .ok (.lmul, 1) := dk_105 (dk_at dksX6_chanceOf_2 10 rfl rfl)
theorem dX6_chanceOf_59 : decode cX6_chanceOf 59 = .ok (.lstore 7, 2) := dk_55 7 (dk_at dksX6_chanceOf_2 11 rfl rfl)
theorem dX6_chanceOf_61 : decode cX6_chanceOf 61 = .ok (.iinc 9 1, 3) := dk_132 9 1 (dk_at dksX6_chanceOf_2 13 rfl rfl)
theorem dX6_chanceOf_64 : decode cX6_chanceOf 64 = .ok (.goto (-37), 3) := dk_167 255 219 (dk_at dksX6_chanceOf_2 16 rfl rfl)
theorem dX6_chanceOf_67 : decode cX6_chanceOf 67 = .ok (.lload 7, 2) := dk_22 7 (dk_at dksX6_chanceOf_2 19 rfl rfl)
theorem dX6_chanceOf_69 : decode cX6_chanceOf 69 = .ok (.lconst 0, 1) := dk_9 (dk_at dksX6_chanceOf_2 21 rfl rfl)
theorem dX6_chanceOf_70 : decode cX6_chanceOf 70 = .ok (.lcmp, 1) := dk_148 (dk_at dksX6_chanceOf_2 22 rfl rfl)
theorem dX6_chanceOf_71 : decode cX6_chanceOf 71 = .ok (.ifCond .le 32, 3) := dk_158 0 32 (dk_at dksX6_chanceOf_3 0 rfl rfl)
theorem dX6_chanceOf_74 : decode cX6_chanceOf 74 = .ok (.aload_n 0, 1) := dk_42 (dk_at dksX6_chanceOf_3 3 rfl rfl)
theorem dX6_chanceOf_75 : decode cX6_chanceOf 75 = .ok (.iload 6, 2) := dk_21 6 (dk_at dksX6_chanceOf_3 4 rfl rfl)
theorem dX6_chanceOf_77 : decode cX6_chanceOf 77 = .ok (.putfield 185, 3) := dk_181 0 185 (dk_at dksX6_chanceOf_3 6 rfl rfl)
theorem dX6_chanceOf_80 : decode cX6_chanceOf 80 = .ok (.aload_n 0, 1) := dk_42 (dk_at dksX6_chanceOf_3 9 rfl rfl)
theorem dX6_chanceOf_81 : decode cX6_chanceOf 81 = .ok (.invokevirtual 236, 3) := dk_182 0 236 (dk_at dksX6_chanceOf_3 10 rfl rfl)
theorem dX6_chanceOf_84 : decode cX6_chanceOf 84 = .ok (.lload 4, 2) := dk_22 4 (dk_at dksX6_chanceOf_3 13 rfl rfl)
theorem dX6_chanceOf_86 : decode cX6_chanceOf 86 = .ok (.aload_n 0, 1) := dk_42 (dk_at dksX6_chanceOf_3 15 rfl rfl)
theorem dX6_chanceOf_87 : decode cX6_chanceOf 87 = .ok (.iload_n 2, 1) := dk_28 (dk_at dksX6_chanceOf_3 16 rfl rfl)
theorem dX6_chanceOf_88 : decode cX6_chanceOf 88 = .ok (.invokevirtual 248, 3) := dk_182 0 248 (dk_at dksX6_chanceOf_3 17 rfl rfl)
theorem dX6_chanceOf_91 : decode cX6_chanceOf 91 = .ok (.ifCond .eq 8, 3) := dk_153 0 8 (dk_at dksX6_chanceOf_3 20 rfl rfl)
theorem dX6_chanceOf_94 : decode cX6_chanceOf 94 = .ok (.lload 7, 2) := dk_22 7 (dk_at dksX6_chanceOf_4 0 rfl rfl)
theorem dX6_chanceOf_96 : decode cX6_chanceOf 96 = .ok (.goto 4, 3) := dk_167 0 4 (dk_at dksX6_chanceOf_4 2 rfl rfl)
theorem dX6_chanceOf_99 : decode cX6_chanceOf 99 = .ok (.lconst 0, 1) := dk_9 (dk_at dksX6_chanceOf_4 5 rfl rfl)
theorem dX6_chanceOf_100 : decode cX6_chanceOf 100 = .ok (.ladd, 1) := dk_97 (dk_at dksX6_chanceOf_4 6 rfl rfl)
theorem dX6_chanceOf_101 : decode cX6_chanceOf 101 = .ok (.lstore 4, 2) := dk_55 4 (dk_at dksX6_chanceOf_4 7 rfl rfl)
theorem dX6_chanceOf_103 : decode cX6_chanceOf 103 = .ok (.iinc 6 1, 3) := dk_132 6 1 (dk_at dksX6_chanceOf_4 9 rfl rfl)
theorem dX6_chanceOf_106 : decode cX6_chanceOf 106 = .ok (.goto (-96), 3) := dk_167 255 160 (dk_at dksX6_chanceOf_4 12 rfl rfl)
theorem dX6_chanceOf_109 : decode cX6_chanceOf 109 = .ok (.lload 4, 2) := dk_22 4 (dk_at dksX6_chanceOf_4 15 rfl rfl)
theorem dX6_chanceOf_111 : decode cX6_chanceOf 111 = .ok (.lconst 1, 1) := dk_10 (dk_at dksX6_chanceOf_4 17 rfl rfl)
theorem dX6_chanceOf_112 : decode cX6_chanceOf 112 = .ok (.iconst 4, 1) := dk_7 (dk_at dksX6_chanceOf_4 18 rfl rfl)
theorem dX6_chanceOf_113 : decode cX6_chanceOf 113 = .ok (.aload_n 0, 1) := dk_42 (dk_at dksX6_chanceOf_4 19 rfl rfl)
theorem dX6_chanceOf_114 : decode cX6_chanceOf 114 = .ok (.getfield 169, 3) := dk_180 0 169 (dk_at dksX6_chanceOf_4 20 rfl rfl)
theorem dX6_chanceOf_117 : decode cX6_chanceOf 117 = .ok (.imul, 1) := dk_104 (dk_at dksX6_chanceOf_4 23 rfl rfl)
theorem dX6_chanceOf_118 : decode cX6_chanceOf 118 = .ok (.lshl, 1) := dk_121 (dk_at dksX6_chanceOf_5 0 rfl rfl)
theorem dX6_chanceOf_119 : decode cX6_chanceOf 119 = .ok (.iload_n 3, 1) := dk_29 (dk_at dksX6_chanceOf_5 1 rfl rfl)
theorem dX6_chanceOf_120 : decode cX6_chanceOf 120 = .ok (.invokestatic 316, 3) := dk_184 1 60 (dk_at dksX6_chanceOf_5 2 rfl rfl)
theorem dX6_chanceOf_123 : decode cX6_chanceOf 123 = .ok (.lreturn, 1) := dk_173 (dk_at dksX6_chanceOf_5 5 rfl rfl)
abbrev cX6_lowest : ByteArray := prog_13_method_6_code
def yX6_lowest : MethodName := ⟨RX6, "lowest", "(JJI)J"⟩
def dkwX6_lowest_1 : List UInt8 := [22, 9, 55, 7, 167, 255, 234, 21, 4, 154, 0, 10, 30, 22, 5, 109, 167, 0, 7, 32, 22, 5, 109, 173]
abbrev dktX6_lowest_1 : List UInt8 := dkwX6_lowest_1 ++ []
def dkwX6_lowest_0 : List UInt8 := [30, 55, 5, 32, 55, 7, 22, 7, 9, 148, 153, 0, 21, 22, 5, 22, 7, 113, 55, 9, 22, 7, 55, 5]
abbrev dktX6_lowest_0 : List UInt8 := dkwX6_lowest_0 ++ dktX6_lowest_1
theorem dksX6_lowest_0 : cX6_lowest.data.toList.drop 0 = dktX6_lowest_0 := by decide +kernel
theorem dksX6_lowest_1 : cX6_lowest.data.toList.drop 24 = dktX6_lowest_1 := dk_seg dksX6_lowest_0 24 rfl rfl
theorem dX6_lowest_0 : decode cX6_lowest 0 = .ok (.lload_n 0, 1) := dk_30 (dk_at dksX6_lowest_0 0 rfl rfl)
theorem dX6_lowest_1 : decode cX6_lowest 1 = .ok (.lstore 5, 2) := dk_55 5 (dk_at dksX6_lowest_0 1 rfl rfl)
theorem dX6_lowest_3 : decode cX6_lowest 3 = .ok (.lload_n 2, 1) := dk_32 (dk_at dksX6_lowest_0 3 rfl rfl)
theorem dX6_lowest_4 : decode cX6_lowest 4 = .ok (.lstore 7, 2) := dk_55 7 (dk_at dksX6_lowest_0 4 rfl rfl)
theorem dX6_lowest_6 : decode cX6_lowest 6 = .ok (.lload 7, 2) := dk_22 7 (dk_at dksX6_lowest_0 6 rfl rfl)
theorem dX6_lowest_8 : decode cX6_lowest 8 = .ok (.lconst 0, 1) := dk_9 (dk_at dksX6_lowest_0 8 rfl rfl)
theorem dX6_lowest_9 : decode cX6_lowest 9 = .ok (.lcmp, 1) := dk_148 (dk_at dksX6_lowest_0 9 rfl rfl)
theorem dX6_lowest_10 : decode cX6_lowest 10 = .ok (.ifCond .eq 21, 3) := dk_153 0 21 (dk_at dksX6_lowest_0 10 rfl rfl)
theorem dX6_lowest_13 : decode cX6_lowest 13 = .ok (.lload 5, 2) := dk_22 5 (dk_at dksX6_lowest_0 13 rfl rfl)
theorem dX6_lowest_15 : decode cX6_lowest 15 = .ok (.lload 7, 2) := dk_22 7 (dk_at dksX6_lowest_0 15 rfl rfl)
theorem dX6_lowest_17 : decode cX6_lowest 17 = .ok (.lrem, 1) := dk_113 (dk_at dksX6_lowest_0 17 rfl rfl)
theorem dX6_lowest_18 : decode cX6_lowest 18 = .ok (.lstore 9, 2) := dk_55 9 (dk_at dksX6_lowest_0 18 rfl rfl)
theorem dX6_lowest_20 : decode cX6_lowest 20 = .ok (.lload 7, 2) := dk_22 7 (dk_at dksX6_lowest_0 20 rfl rfl)
theorem dX6_lowest_22 : decode cX6_lowest 22 = .ok (.lstore 5, 2) := dk_55 5 (dk_at dksX6_lowest_0 22 rfl rfl)
theorem dX6_lowest_24 : decode cX6_lowest 24 = .ok (.lload 9, 2) := dk_22 9 (dk_at dksX6_lowest_1 0 rfl rfl)
theorem dX6_lowest_26 : decode cX6_lowest 26 = .ok (.lstore 7, 2) := dk_55 7 (dk_at dksX6_lowest_1 2 rfl rfl)
theorem dX6_lowest_28 : decode cX6_lowest 28 = .ok (.goto (-22), 3) := dk_167 255 234 (dk_at dksX6_lowest_1 4 rfl rfl)
theorem dX6_lowest_31 : decode cX6_lowest 31 = .ok (.iload 4, 2) := dk_21 4 (dk_at dksX6_lowest_1 7 rfl rfl)
theorem dX6_lowest_33 : decode cX6_lowest 33 = .ok (.ifCond .ne 10, 3) := dk_154 0 10 (dk_at dksX6_lowest_1 9 rfl rfl)
theorem dX6_lowest_36 : decode cX6_lowest 36 = .ok (.lload_n 0, 1) := dk_30 (dk_at dksX6_lowest_1 12 rfl rfl)
theorem dX6_lowest_37 : decode cX6_lowest 37 = .ok (.lload 5, 2) := dk_22 5 (dk_at dksX6_lowest_1 13 rfl rfl)
theorem dX6_lowest_39 : decode cX6_lowest 39 = .ok (.ldiv, 1) := dk_109 (dk_at dksX6_lowest_1 15 rfl rfl)
theorem dX6_lowest_40 : decode cX6_lowest 40 = .ok (.goto 7, 3) := dk_167 0 7 (dk_at dksX6_lowest_1 16 rfl rfl)
theorem dX6_lowest_43 : decode cX6_lowest 43 = .ok (.lload_n 2, 1) := dk_32 (dk_at dksX6_lowest_1 19 rfl rfl)
theorem dX6_lowest_44 : decode cX6_lowest 44 = .ok (.lload 5, 2) := dk_22 5 (dk_at dksX6_lowest_1 20 rfl rfl)
theorem dX6_lowest_46 : decode cX6_lowest 46 = .ok (.ldiv, 1) := dk_109 (dk_at dksX6_lowest_1 22 rfl rfl)
theorem dX6_lowest_47 : decode cX6_lowest 47 = .ok (.lreturn, 1) := dk_173 (dk_at dksX6_lowest_1 23 rfl rfl)
abbrev cX6_no : ByteArray := prog_13_method_5_code
def yX6_no : MethodName := ⟨RX6, "no", "(I)J"⟩
def dkwX6_no_0 : List UInt8 := [20, 0, 113, 26, 133, 101, 173]
abbrev dktX6_no_0 : List UInt8 := dkwX6_no_0 ++ []
theorem dksX6_no_0 : cX6_no.data.toList.drop 0 = dktX6_no_0 := by decide +kernel
theorem dX6_no_0 : decode cX6_no 0 = .ok (.ldc2_w 113, 3) := dk_20 0 113 (dk_at dksX6_no_0 0 rfl rfl)
theorem dX6_no_3 : decode cX6_no 3 = .ok (.iload_n 0, 1) := dk_26 (dk_at dksX6_no_0 3 rfl rfl)
theorem dX6_no_4 : decode cX6_no 4 = .ok (.i2l, 1) := dk_133 (dk_at dksX6_no_0 4 rfl rfl)
theorem dX6_no_5 : decode cX6_no 5 = .ok (.lsub, 1) := dk_101 (dk_at dksX6_no_0 5 rfl rfl)
theorem dX6_no_6 : decode cX6_no 6 = .ok (.lreturn, 1) := dk_173 (dk_at dksX6_no_0 6 rfl rfl)
abbrev cX6_ages : ByteArray := prog_13_method_88_code
def yX6_ages : MethodName := ⟨RX6, "ages", "(III)I"⟩
def dkwX6_ages_1 : List UInt8 := [182, 1, 73, 167, 0, 5, 16, 254, 172]
abbrev dktX6_ages_1 : List UInt8 := dkwX6_ages_1 ++ []
def dkwX6_ages_0 : List UInt8 := [28, 3, 16, 8, 184, 0, 115, 153, 0, 22, 29, 3, 4, 184, 0, 115, 153, 0, 13, 42, 27, 28, 29]
abbrev dktX6_ages_0 : List UInt8 := dkwX6_ages_0 ++ dktX6_ages_1
theorem dksX6_ages_0 : cX6_ages.data.toList.drop 0 = dktX6_ages_0 := by decide +kernel
theorem dksX6_ages_1 : cX6_ages.data.toList.drop 23 = dktX6_ages_1 := dk_seg dksX6_ages_0 23 rfl rfl
theorem dX6_ages_0 : decode cX6_ages 0 = .ok (.iload_n 2, 1) := dk_28 (dk_at dksX6_ages_0 0 rfl rfl)
theorem dX6_ages_1 : decode cX6_ages 1 = .ok (.iconst 0, 1) := dk_3 (dk_at dksX6_ages_0 1 rfl rfl)
theorem dX6_ages_2 : decode cX6_ages 2 = .ok (.bipush 8, 2) := dk_16 8 (dk_at dksX6_ages_0 2 rfl rfl)
theorem dX6_ages_4 : decode cX6_ages 4 = .ok (.invokestatic 115, 3) := dk_184 0 115 (dk_at dksX6_ages_0 4 rfl rfl)
theorem dX6_ages_7 : decode cX6_ages 7 = .ok (.ifCond .eq 22, 3) := dk_153 0 22 (dk_at dksX6_ages_0 7 rfl rfl)
theorem dX6_ages_10 : decode cX6_ages 10 = .ok (.iload_n 3, 1) := dk_29 (dk_at dksX6_ages_0 10 rfl rfl)
theorem dX6_ages_11 : decode cX6_ages 11 = .ok (.iconst 0, 1) := dk_3 (dk_at dksX6_ages_0 11 rfl rfl)
theorem dX6_ages_12 : decode cX6_ages 12 = .ok (.iconst 1, 1) := dk_4 (dk_at dksX6_ages_0 12 rfl rfl)
theorem dX6_ages_13 : decode cX6_ages 13 = .ok (.invokestatic 115, 3) := dk_184 0 115 (dk_at dksX6_ages_0 13 rfl rfl)
theorem dX6_ages_16 : decode cX6_ages 16 = .ok (.ifCond .eq 13, 3) := dk_153 0 13 (dk_at dksX6_ages_0 16 rfl rfl)
theorem dX6_ages_19 : decode cX6_ages 19 = .ok (.aload_n 0, 1) := dk_42 (dk_at dksX6_ages_0 19 rfl rfl)
theorem dX6_ages_20 : decode cX6_ages 20 = .ok (.iload_n 1, 1) := dk_27 (dk_at dksX6_ages_0 20 rfl rfl)
theorem dX6_ages_21 : decode cX6_ages 21 = .ok (.iload_n 2, 1) := dk_28 (dk_at dksX6_ages_0 21 rfl rfl)
theorem dX6_ages_22 : decode cX6_ages 22 = .ok (.iload_n 3, 1) := dk_29 (dk_at dksX6_ages_0 22 rfl rfl)
theorem dX6_ages_23 : decode cX6_ages 23 = .ok (.invokevirtual 329, 3) := dk_182 1 73 (dk_at dksX6_ages_1 0 rfl rfl)
theorem dX6_ages_26 : decode cX6_ages 26 = .ok (.goto 5, 3) := dk_167 0 5 (dk_at dksX6_ages_1 3 rfl rfl)
theorem dX6_ages_29 : decode cX6_ages 29 = .ok (.bipush (-2), 2) := dk_16 254 (dk_at dksX6_ages_1 6 rfl rfl)
theorem dX6_ages_31 : decode cX6_ages 31 = .ok (.ireturn, 1) := dk_172 (dk_at dksX6_ages_1 8 rfl rfl)
abbrev cX6_agesOf : ByteArray := prog_13_method_87_code
def yX6_agesOf : MethodName := ⟨RX6, "agesOf", "(III)I"⟩
def dkwX6_agesOf_5 : List UInt8 := [182, 1, 4, 167, 0, 7, 42, 182, 0, 254, 172]
abbrev dktX6_agesOf_5 : List UInt8 := dkwX6_agesOf_5 ++ []
def dkwX6_agesOf_4 : List UInt8 := [16, 16, 124, 16, 12, 112, 79, 132, 5, 1, 167, 255, 167, 42, 182, 0, 236, 29, 154, 0, 10, 42]
abbrev dktX6_agesOf_4 : List UInt8 := dkwX6_agesOf_4 ++ dktX6_agesOf_5
def dkwX6_agesOf_3 : List UInt8 := [16, 20, 112, 79, 19, 1, 72, 21, 4, 104, 17, 48, 57, 96, 54, 4, 42, 180, 0, 43, 21, 5, 21, 4]
abbrev dktX6_agesOf_3 : List UInt8 := dkwX6_agesOf_3 ++ dktX6_agesOf_4
def dkwX6_agesOf_2 : List UInt8 := [19, 1, 72, 21, 4, 104, 17, 48, 57, 96, 54, 4, 42, 180, 0, 40, 21, 5, 21, 4, 16, 16, 124]
abbrev dktX6_agesOf_2 : List UInt8 := dkwX6_agesOf_2 ++ dktX6_agesOf_3
def dkwX6_agesOf_1 : List UInt8 := [21, 4, 104, 17, 48, 57, 96, 54, 4, 42, 180, 0, 37, 21, 5, 21, 4, 16, 16, 124, 7, 112, 79]
abbrev dktX6_agesOf_1 : List UInt8 := dkwX6_agesOf_1 ++ dktX6_agesOf_2
def dkwX6_agesOf_0 : List UInt8 := [42, 182, 0, 233, 27, 54, 4, 42, 28, 181, 0, 182, 3, 54, 5, 21, 5, 28, 162, 0, 89, 19, 1, 72]
abbrev dktX6_agesOf_0 : List UInt8 := dkwX6_agesOf_0 ++ dktX6_agesOf_1
theorem dksX6_agesOf_0 : cX6_agesOf.data.toList.drop 0 = dktX6_agesOf_0 := by decide +kernel
theorem dksX6_agesOf_1 : cX6_agesOf.data.toList.drop 24 = dktX6_agesOf_1 := dk_seg dksX6_agesOf_0 24 rfl rfl
theorem dksX6_agesOf_2 : cX6_agesOf.data.toList.drop 47 = dktX6_agesOf_2 := dk_seg dksX6_agesOf_1 23 rfl rfl
theorem dksX6_agesOf_3 : cX6_agesOf.data.toList.drop 70 = dktX6_agesOf_3 := dk_seg dksX6_agesOf_2 23 rfl rfl
theorem dksX6_agesOf_4 : cX6_agesOf.data.toList.drop 94 = dktX6_agesOf_4 := dk_seg dksX6_agesOf_3 24 rfl rfl
theorem dksX6_agesOf_5 : cX6_agesOf.data.toList.drop 116 = dktX6_agesOf_5 := dk_seg dksX6_agesOf_4 22 rfl rfl
theorem dX6_agesOf_0 : decode cX6_agesOf 0 = .ok (.aload_n 0, 1) := dk_42 (dk_at dksX6_agesOf_0 0 rfl rfl)
theorem dX6_agesOf_1 : decode cX6_agesOf 1 = .ok (.invokevirtual 233, 3) := dk_182 0 233 (dk_at dksX6_agesOf_0 1 rfl rfl)
theorem dX6_agesOf_4 : decode cX6_agesOf 4 = .ok (.iload_n 1, 1) := dk_27 (dk_at dksX6_agesOf_0 4 rfl rfl)
theorem dX6_agesOf_5 : decode cX6_agesOf 5 = .ok (.istore 4, 2) := dk_54 4 (dk_at dksX6_agesOf_0 5 rfl rfl)
theorem dX6_agesOf_7 : decode cX6_agesOf 7 = .ok (.aload_n 0, 1) := dk_42 (dk_at dksX6_agesOf_0 7 rfl rfl)
theorem dX6_agesOf_8 : decode cX6_agesOf 8 = .ok (.iload_n 2, 1) := dk_28 (dk_at dksX6_agesOf_0 8 rfl rfl)
theorem dX6_agesOf_9 : decode cX6_agesOf 9 = .ok (.putfield 182, 3) := dk_181 0 182 (dk_at dksX6_agesOf_0 9 rfl rfl)
theorem dX6_agesOf_12 : decode cX6_agesOf 12 = .ok (.iconst 0, 1) := dk_3 (dk_at dksX6_agesOf_0 12 rfl rfl)
theorem dX6_agesOf_13 : decode cX6_agesOf 13 = .ok (.istore 5, 2) := dk_54 5 (dk_at dksX6_agesOf_0 13 rfl rfl)
theorem dX6_agesOf_15 : decode cX6_agesOf 15 = .ok (.iload 5, 2) := dk_21 5 (dk_at dksX6_agesOf_0 15 rfl rfl)
theorem dX6_agesOf_17 : decode cX6_agesOf 17 = .ok (.iload_n 2, 1) := dk_28 (dk_at dksX6_agesOf_0 17 rfl rfl)
theorem dX6_agesOf_18 : decode cX6_agesOf 18 = .ok (.if_icmp .ge 89, 3) := dk_162 0 89 (dk_at dksX6_agesOf_0 18 rfl rfl)
theorem dX6_agesOf_21 : decode cX6_agesOf 21 = .ok (.ldc_w 328, 3) := dk_19 1 72 (dk_at dksX6_agesOf_0 21 rfl rfl)
theorem dX6_agesOf_24 : decode cX6_agesOf 24 = .ok (.iload 4, 2) := dk_21 4 (dk_at dksX6_agesOf_1 0 rfl rfl)
theorem dX6_agesOf_26 : decode cX6_agesOf 26 = .ok (.imul, 1) := dk_104 (dk_at dksX6_agesOf_1 2 rfl rfl)
theorem dX6_agesOf_27 : decode cX6_agesOf 27 = .ok (.sipush 12345, 3) := dk_17 48 57 (dk_at dksX6_agesOf_1 3 rfl rfl)
theorem dX6_agesOf_30 : decode cX6_agesOf 30 = .ok (.iadd, 1) := dk_96 (dk_at dksX6_agesOf_1 6 rfl rfl)
theorem dX6_agesOf_31 : decode cX6_agesOf 31 = .ok (.istore 4, 2) := dk_54 4 (dk_at dksX6_agesOf_1 7 rfl rfl)
theorem dX6_agesOf_33 : decode cX6_agesOf 33 = .ok (.aload_n 0, 1) := dk_42 (dk_at dksX6_agesOf_1 9 rfl rfl)
theorem dX6_agesOf_34 : decode cX6_agesOf 34 = .ok (.getfield 37, 3) := dk_180 0 37 (dk_at dksX6_agesOf_1 10 rfl rfl)
theorem dX6_agesOf_37 : decode cX6_agesOf 37 = .ok (.iload 5, 2) := dk_21 5 (dk_at dksX6_agesOf_1 13 rfl rfl)
theorem dX6_agesOf_39 : decode cX6_agesOf 39 = .ok (.iload 4, 2) := dk_21 4 (dk_at dksX6_agesOf_1 15 rfl rfl)
theorem dX6_agesOf_41 : decode cX6_agesOf 41 = .ok (.bipush 16, 2) := dk_16 16 (dk_at dksX6_agesOf_1 17 rfl rfl)
theorem dX6_agesOf_43 : decode cX6_agesOf 43 = .ok (.iushr, 1) := dk_124 (dk_at dksX6_agesOf_1 19 rfl rfl)
theorem dX6_agesOf_44 : decode cX6_agesOf 44 = .ok (.iconst 4, 1) := dk_7 (dk_at dksX6_agesOf_1 20 rfl rfl)
theorem dX6_agesOf_45 : decode cX6_agesOf 45 = .ok (.irem, 1) := dk_112 (dk_at dksX6_agesOf_1 21 rfl rfl)
theorem dX6_agesOf_46 : decode cX6_agesOf 46 = .ok (.iastore, 1) := dk_79 (dk_at dksX6_agesOf_1 22 rfl rfl)
theorem dX6_agesOf_47 : decode cX6_agesOf 47 = .ok (.ldc_w 328, 3) := dk_19 1 72 (dk_at dksX6_agesOf_2 0 rfl rfl)
theorem dX6_agesOf_50 : decode cX6_agesOf 50 = .ok (.iload 4, 2) := dk_21 4 (dk_at dksX6_agesOf_2 3 rfl rfl)
theorem dX6_agesOf_52 : decode cX6_agesOf 52 = .ok (.imul, 1) := dk_104 (dk_at dksX6_agesOf_2 5 rfl rfl)
theorem dX6_agesOf_53 : decode cX6_agesOf 53 = .ok (.sipush 12345, 3) := dk_17 48 57 (dk_at dksX6_agesOf_2 6 rfl rfl)
theorem dX6_agesOf_56 : decode cX6_agesOf 56 = .ok (.iadd, 1) := dk_96 (dk_at dksX6_agesOf_2 9 rfl rfl)
theorem dX6_agesOf_57 : decode cX6_agesOf 57 = .ok (.istore 4, 2) := dk_54 4 (dk_at dksX6_agesOf_2 10 rfl rfl)
theorem dX6_agesOf_59 : decode cX6_agesOf 59 = .ok (.aload_n 0, 1) := dk_42 (dk_at dksX6_agesOf_2 12 rfl rfl)
theorem dX6_agesOf_60 : decode cX6_agesOf 60 = .ok (.getfield 40, 3) := dk_180 0 40 (dk_at dksX6_agesOf_2 13 rfl rfl)
theorem dX6_agesOf_63 : decode cX6_agesOf 63 = .ok (.iload 5, 2) := dk_21 5 (dk_at dksX6_agesOf_2 16 rfl rfl)
theorem dX6_agesOf_65 : decode cX6_agesOf 65 = .ok (.iload 4, 2) := dk_21 4 (dk_at dksX6_agesOf_2 18 rfl rfl)
theorem dX6_agesOf_67 : decode cX6_agesOf 67 = .ok (.bipush 16, 2) := dk_16 16 (dk_at dksX6_agesOf_2 20 rfl rfl)
theorem dX6_agesOf_69 : decode cX6_agesOf 69 = .ok (.iushr, 1) := dk_124 (dk_at dksX6_agesOf_2 22 rfl rfl)
theorem dX6_agesOf_70 : decode cX6_agesOf 70 = .ok (.bipush 20, 2) := dk_16 20 (dk_at dksX6_agesOf_3 0 rfl rfl)
theorem dX6_agesOf_72 : decode cX6_agesOf 72 = .ok (.irem, 1) := dk_112 (dk_at dksX6_agesOf_3 2 rfl rfl)
theorem dX6_agesOf_73 : decode cX6_agesOf 73 = .ok (.iastore, 1) := dk_79 (dk_at dksX6_agesOf_3 3 rfl rfl)
theorem dX6_agesOf_74 : decode cX6_agesOf 74 = .ok (.ldc_w 328, 3) := dk_19 1 72 (dk_at dksX6_agesOf_3 4 rfl rfl)
theorem dX6_agesOf_77 : decode cX6_agesOf 77 = .ok (.iload 4, 2) := dk_21 4 (dk_at dksX6_agesOf_3 7 rfl rfl)
theorem dX6_agesOf_79 : decode cX6_agesOf 79 = .ok (.imul, 1) := dk_104 (dk_at dksX6_agesOf_3 9 rfl rfl)
theorem dX6_agesOf_80 : decode cX6_agesOf 80 = .ok (.sipush 12345, 3) := dk_17 48 57 (dk_at dksX6_agesOf_3 10 rfl rfl)
theorem dX6_agesOf_83 : decode cX6_agesOf 83 = .ok (.iadd, 1) := dk_96 (dk_at dksX6_agesOf_3 13 rfl rfl)
theorem dX6_agesOf_84 : decode cX6_agesOf 84 = .ok (.istore 4, 2) := dk_54 4 (dk_at dksX6_agesOf_3 14 rfl rfl)
theorem dX6_agesOf_86 : decode cX6_agesOf 86 = .ok (.aload_n 0, 1) := dk_42 (dk_at dksX6_agesOf_3 16 rfl rfl)
theorem dX6_agesOf_87 : decode cX6_agesOf 87 = .ok (.getfield 43, 3) := dk_180 0 43 (dk_at dksX6_agesOf_3 17 rfl rfl)
theorem dX6_agesOf_90 : decode cX6_agesOf 90 = .ok (.iload 5, 2) := dk_21 5 (dk_at dksX6_agesOf_3 20 rfl rfl)
theorem dX6_agesOf_92 : decode cX6_agesOf 92 = .ok (.iload 4, 2) := dk_21 4 (dk_at dksX6_agesOf_3 22 rfl rfl)
theorem dX6_agesOf_94 : decode cX6_agesOf 94 = .ok (.bipush 16, 2) := dk_16 16 (dk_at dksX6_agesOf_4 0 rfl rfl)
theorem dX6_agesOf_96 : decode cX6_agesOf 96 = .ok (.iushr, 1) := dk_124 (dk_at dksX6_agesOf_4 2 rfl rfl)
theorem dX6_agesOf_97 : decode cX6_agesOf 97 = .ok (.bipush 12, 2) := dk_16 12 (dk_at dksX6_agesOf_4 3 rfl rfl)
theorem dX6_agesOf_99 : decode cX6_agesOf 99 = .ok (.irem, 1) := dk_112 (dk_at dksX6_agesOf_4 5 rfl rfl)
theorem dX6_agesOf_100 : decode cX6_agesOf 100 = .ok (.iastore, 1) := dk_79 (dk_at dksX6_agesOf_4 6 rfl rfl)
theorem dX6_agesOf_101 : decode cX6_agesOf 101 = .ok (.iinc 5 1, 3) := dk_132 5 1 (dk_at dksX6_agesOf_4 7 rfl rfl)
theorem dX6_agesOf_104 : decode cX6_agesOf 104 = .ok (.goto (-89), 3) := dk_167 255 167 (dk_at dksX6_agesOf_4 10 rfl rfl)
theorem dX6_agesOf_107 : decode cX6_agesOf 107 = .ok (.aload_n 0, 1) := dk_42 (dk_at dksX6_agesOf_4 13 rfl rfl)
theorem dX6_agesOf_108 : decode cX6_agesOf 108 = .ok (.invokevirtual 236, 3) := dk_182 0 236 (dk_at dksX6_agesOf_4 14 rfl rfl)
theorem dX6_agesOf_111 : decode cX6_agesOf 111 = .ok (.iload_n 3, 1) := dk_29 (dk_at dksX6_agesOf_4 17 rfl rfl)
theorem dX6_agesOf_112 : decode cX6_agesOf 112 = .ok (.ifCond .ne 10, 3) := dk_154 0 10 (dk_at dksX6_agesOf_4 18 rfl rfl)
theorem dX6_agesOf_115 : decode cX6_agesOf 115 = .ok (.aload_n 0, 1) := dk_42 (dk_at dksX6_agesOf_4 21 rfl rfl)
theorem dX6_agesOf_116 : decode cX6_agesOf 116 = .ok (.invokevirtual 260, 3) := dk_182 1 4 (dk_at dksX6_agesOf_5 0 rfl rfl)
theorem dX6_agesOf_119 : decode cX6_agesOf 119 = .ok (.goto 7, 3) := dk_167 0 7 (dk_at dksX6_agesOf_5 3 rfl rfl)
theorem dX6_agesOf_122 : decode cX6_agesOf 122 = .ok (.aload_n 0, 1) := dk_42 (dk_at dksX6_agesOf_5 6 rfl rfl)
theorem dX6_agesOf_123 : decode cX6_agesOf 123 = .ok (.invokevirtual 254, 3) := dk_182 0 254 (dk_at dksX6_agesOf_5 7 rfl rfl)
theorem dX6_agesOf_126 : decode cX6_agesOf 126 = .ok (.ireturn, 1) := dk_172 (dk_at dksX6_agesOf_5 10 rfl rfl)
abbrev cX6_sheet : ByteArray := prog_13_method_91_code
def yX6_sheet : MethodName := ⟨RX6, "sheet", "(III)I"⟩
def dkwX6_sheet_3 : List UInt8 := [27, 104, 21, 4, 96, 3, 79, 132, 4, 1, 167, 255, 233, 29, 172]
abbrev dktX6_sheet_3 : List UInt8 := dkwX6_sheet_3 ++ []
def dkwX6_sheet_2 : List UInt8 := [79, 42, 180, 0, 104, 27, 29, 79, 3, 54, 4, 21, 4, 16, 60, 162, 0, 22, 42, 180, 0, 107, 16, 60]
abbrev dktX6_sheet_2 : List UInt8 := dkwX6_sheet_2 ++ dktX6_sheet_3
def dkwX6_sheet_1 : List UInt8 := [172, 29, 156, 0, 9, 42, 8, 182, 0, 175, 172, 42, 180, 0, 97, 27, 4, 84, 42, 180, 0, 101, 27, 28]
abbrev dktX6_sheet_1 : List UInt8 := dkwX6_sheet_1 ++ dktX6_sheet_2
def dkwX6_sheet_0 : List UInt8 := [27, 184, 0, 172, 153, 0, 18, 28, 3, 5, 184, 0, 115, 153, 0, 9, 29, 16, 60, 164, 0, 6, 16, 254]
abbrev dktX6_sheet_0 : List UInt8 := dkwX6_sheet_0 ++ dktX6_sheet_1
theorem dksX6_sheet_0 : cX6_sheet.data.toList.drop 0 = dktX6_sheet_0 := by decide +kernel
theorem dksX6_sheet_1 : cX6_sheet.data.toList.drop 24 = dktX6_sheet_1 := dk_seg dksX6_sheet_0 24 rfl rfl
theorem dksX6_sheet_2 : cX6_sheet.data.toList.drop 48 = dktX6_sheet_2 := dk_seg dksX6_sheet_1 24 rfl rfl
theorem dksX6_sheet_3 : cX6_sheet.data.toList.drop 72 = dktX6_sheet_3 := dk_seg dksX6_sheet_2 24 rfl rfl
theorem dX6_sheet_0 : decode cX6_sheet 0 = .ok (.iload_n 1, 1) := dk_27 (dk_at dksX6_sheet_0 0 rfl rfl)
theorem dX6_sheet_1 : decode cX6_sheet 1 = .ok (.invokestatic 172, 3) := dk_184 0 172 (dk_at dksX6_sheet_0 1 rfl rfl)
theorem dX6_sheet_4 : decode cX6_sheet 4 = .ok (.ifCond .eq 18, 3) := dk_153 0 18 (dk_at dksX6_sheet_0 4 rfl rfl)
theorem dX6_sheet_7 : decode cX6_sheet 7 = .ok (.iload_n 2, 1) := dk_28 (dk_at dksX6_sheet_0 7 rfl rfl)
theorem dX6_sheet_8 : decode cX6_sheet 8 = .ok (.iconst 0, 1) := dk_3 (dk_at dksX6_sheet_0 8 rfl rfl)
theorem dX6_sheet_9 : decode cX6_sheet 9 = .ok (.iconst 2, 1) := dk_5 (dk_at dksX6_sheet_0 9 rfl rfl)
theorem dX6_sheet_10 : decode cX6_sheet 10 = .ok (.invokestatic 115, 3) := dk_184 0 115 (dk_at dksX6_sheet_0 10 rfl rfl)
theorem dX6_sheet_13 : decode cX6_sheet 13 = .ok (.ifCond .eq 9, 3) := dk_153 0 9 (dk_at dksX6_sheet_0 13 rfl rfl)
theorem dX6_sheet_16 : decode cX6_sheet 16 = .ok (.iload_n 3, 1) := dk_29 (dk_at dksX6_sheet_0 16 rfl rfl)
theorem dX6_sheet_17 : decode cX6_sheet 17 = .ok (.bipush 60, 2) := dk_16 60 (dk_at dksX6_sheet_0 17 rfl rfl)
theorem dX6_sheet_19 : decode cX6_sheet 19 = .ok (.if_icmp .le 6, 3) := dk_164 0 6 (dk_at dksX6_sheet_0 19 rfl rfl)
theorem dX6_sheet_22 : decode cX6_sheet 22 = .ok (.bipush (-2), 2) := dk_16 254 (dk_at dksX6_sheet_0 22 rfl rfl)
theorem dX6_sheet_24 : decode cX6_sheet 24 = .ok (.ireturn, 1) := dk_172 (dk_at dksX6_sheet_1 0 rfl rfl)
theorem dX6_sheet_25 : decode cX6_sheet 25 = .ok (.iload_n 3, 1) := dk_29 (dk_at dksX6_sheet_1 1 rfl rfl)
theorem dX6_sheet_26 : decode cX6_sheet 26 = .ok (.ifCond .ge 9, 3) := dk_156 0 9 (dk_at dksX6_sheet_1 2 rfl rfl)
theorem dX6_sheet_29 : decode cX6_sheet 29 = .ok (.aload_n 0, 1) := dk_42 (dk_at dksX6_sheet_1 5 rfl rfl)
theorem dX6_sheet_30 : decode cX6_sheet 30 = .ok (.iconst 5, 1) := dk_8 (dk_at dksX6_sheet_1 6 rfl rfl)
theorem dX6_sheet_31 : decode cX6_sheet 31 = .ok (.invokevirtual 175, 3) := dk_182 0 175 (dk_at dksX6_sheet_1 7 rfl rfl)
theorem dX6_sheet_34 : decode cX6_sheet 34 = .ok (.ireturn, 1) := dk_172 (dk_at dksX6_sheet_1 10 rfl rfl)
theorem dX6_sheet_35 : decode cX6_sheet 35 = .ok (.aload_n 0, 1) := dk_42 (dk_at dksX6_sheet_1 11 rfl rfl)
theorem dX6_sheet_36 : decode cX6_sheet 36 = .ok (.getfield 97, 3) := dk_180 0 97 (dk_at dksX6_sheet_1 12 rfl rfl)
theorem dX6_sheet_39 : decode cX6_sheet 39 = .ok (.iload_n 1, 1) := dk_27 (dk_at dksX6_sheet_1 15 rfl rfl)
theorem dX6_sheet_40 : decode cX6_sheet 40 = .ok (.iconst 1, 1) := dk_4 (dk_at dksX6_sheet_1 16 rfl rfl)
theorem dX6_sheet_41 : decode cX6_sheet 41 = .ok (.bastore, 1) := dk_84 (dk_at dksX6_sheet_1 17 rfl rfl)
theorem dX6_sheet_42 : decode cX6_sheet 42 = .ok (.aload_n 0, 1) := dk_42 (dk_at dksX6_sheet_1 18 rfl rfl)
theorem dX6_sheet_43 : decode cX6_sheet 43 = .ok (.getfield 101, 3) := dk_180 0 101 (dk_at dksX6_sheet_1 19 rfl rfl)
theorem dX6_sheet_46 : decode cX6_sheet 46 = .ok (.iload_n 1, 1) := dk_27 (dk_at dksX6_sheet_1 22 rfl rfl)
theorem dX6_sheet_47 : decode cX6_sheet 47 = .ok (.iload_n 2, 1) := dk_28 (dk_at dksX6_sheet_1 23 rfl rfl)
theorem dX6_sheet_48 : decode cX6_sheet 48 = .ok (.iastore, 1) := dk_79 (dk_at dksX6_sheet_2 0 rfl rfl)
theorem dX6_sheet_49 : decode cX6_sheet 49 = .ok (.aload_n 0, 1) := dk_42 (dk_at dksX6_sheet_2 1 rfl rfl)
theorem dX6_sheet_50 : decode cX6_sheet 50 = .ok (.getfield 104, 3) := dk_180 0 104 (dk_at dksX6_sheet_2 2 rfl rfl)
theorem dX6_sheet_53 : decode cX6_sheet 53 = .ok (.iload_n 1, 1) := dk_27 (dk_at dksX6_sheet_2 5 rfl rfl)
theorem dX6_sheet_54 : decode cX6_sheet 54 = .ok (.iload_n 3, 1) := dk_29 (dk_at dksX6_sheet_2 6 rfl rfl)
theorem dX6_sheet_55 : decode cX6_sheet 55 = .ok (.iastore, 1) := dk_79 (dk_at dksX6_sheet_2 7 rfl rfl)
theorem dX6_sheet_56 : decode cX6_sheet 56 = .ok (.iconst 0, 1) := dk_3 (dk_at dksX6_sheet_2 8 rfl rfl)
theorem dX6_sheet_57 : decode cX6_sheet 57 = .ok (.istore 4, 2) := dk_54 4 (dk_at dksX6_sheet_2 9 rfl rfl)
theorem dX6_sheet_59 : decode cX6_sheet 59 = .ok (.iload 4, 2) := dk_21 4 (dk_at dksX6_sheet_2 11 rfl rfl)
theorem dX6_sheet_61 : decode cX6_sheet 61 = .ok (.bipush 60, 2) := dk_16 60 (dk_at dksX6_sheet_2 13 rfl rfl)
theorem dX6_sheet_63 : decode cX6_sheet 63 = .ok (.if_icmp .ge 22, 3) := dk_162 0 22 (dk_at dksX6_sheet_2 15 rfl rfl)
theorem dX6_sheet_66 : decode cX6_sheet 66 = .ok (.aload_n 0, 1) := dk_42 (dk_at dksX6_sheet_2 18 rfl rfl)
theorem dX6_sheet_67 : decode cX6_sheet 67 = .ok (.getfield 107, 3) := dk_180 0 107 (dk_at dksX6_sheet_2 19 rfl rfl)
theorem dX6_sheet_70 : decode cX6_sheet 70 = .ok (.bipush 60, 2) := dk_16 60 (dk_at dksX6_sheet_2 22 rfl rfl)
theorem dX6_sheet_72 : decode cX6_sheet 72 = .ok (.iload_n 1, 1) := dk_27 (dk_at dksX6_sheet_3 0 rfl rfl)
theorem dX6_sheet_73 : decode cX6_sheet 73 = .ok (.imul, 1) := dk_104 (dk_at dksX6_sheet_3 1 rfl rfl)
theorem dX6_sheet_74 : decode cX6_sheet 74 = .ok (.iload 4, 2) := dk_21 4 (dk_at dksX6_sheet_3 2 rfl rfl)
theorem dX6_sheet_76 : decode cX6_sheet 76 = .ok (.iadd, 1) := dk_96 (dk_at dksX6_sheet_3 4 rfl rfl)
theorem dX6_sheet_77 : decode cX6_sheet 77 = .ok (.iconst 0, 1) := dk_3 (dk_at dksX6_sheet_3 5 rfl rfl)
theorem dX6_sheet_78 : decode cX6_sheet 78 = .ok (.iastore, 1) := dk_79 (dk_at dksX6_sheet_3 6 rfl rfl)
theorem dX6_sheet_79 : decode cX6_sheet 79 = .ok (.iinc 4 1, 3) := dk_132 4 1 (dk_at dksX6_sheet_3 7 rfl rfl)
theorem dX6_sheet_82 : decode cX6_sheet 82 = .ok (.goto (-23), 3) := dk_167 255 233 (dk_at dksX6_sheet_3 10 rfl rfl)
theorem dX6_sheet_85 : decode cX6_sheet 85 = .ok (.iload_n 3, 1) := dk_29 (dk_at dksX6_sheet_3 13 rfl rfl)
theorem dX6_sheet_86 : decode cX6_sheet 86 = .ok (.ireturn, 1) := dk_172 (dk_at dksX6_sheet_3 14 rfl rfl)
abbrev cX6_lose : ByteArray := prog_13_method_92_code
def yX6_lose : MethodName := ⟨RX6, "lose", "(I)I"⟩
def dkwX6_lose_1 : List UInt8 := [172, 42, 180, 0, 97, 27, 3, 84, 42, 180, 0, 104, 27, 46, 172]
abbrev dktX6_lose_1 : List UInt8 := dkwX6_lose_1 ++ []
def dkwX6_lose_0 : List UInt8 := [27, 184, 0, 172, 154, 0, 6, 16, 254, 172, 42, 180, 0, 97, 27, 51, 154, 0, 9, 42, 4, 182, 0, 175]
abbrev dktX6_lose_0 : List UInt8 := dkwX6_lose_0 ++ dktX6_lose_1
theorem dksX6_lose_0 : cX6_lose.data.toList.drop 0 = dktX6_lose_0 := by decide +kernel
theorem dksX6_lose_1 : cX6_lose.data.toList.drop 24 = dktX6_lose_1 := dk_seg dksX6_lose_0 24 rfl rfl
theorem dX6_lose_0 : decode cX6_lose 0 = .ok (.iload_n 1, 1) := dk_27 (dk_at dksX6_lose_0 0 rfl rfl)
theorem dX6_lose_1 : decode cX6_lose 1 = .ok (.invokestatic 172, 3) := dk_184 0 172 (dk_at dksX6_lose_0 1 rfl rfl)
theorem dX6_lose_4 : decode cX6_lose 4 = .ok (.ifCond .ne 6, 3) := dk_154 0 6 (dk_at dksX6_lose_0 4 rfl rfl)
theorem dX6_lose_7 : decode cX6_lose 7 = .ok (.bipush (-2), 2) := dk_16 254 (dk_at dksX6_lose_0 7 rfl rfl)
theorem dX6_lose_9 : decode cX6_lose 9 = .ok (.ireturn, 1) := dk_172 (dk_at dksX6_lose_0 9 rfl rfl)
theorem dX6_lose_10 : decode cX6_lose 10 = .ok (.aload_n 0, 1) := dk_42 (dk_at dksX6_lose_0 10 rfl rfl)
theorem dX6_lose_11 : decode cX6_lose 11 = .ok (.getfield 97, 3) := dk_180 0 97 (dk_at dksX6_lose_0 11 rfl rfl)
theorem dX6_lose_14 : decode cX6_lose 14 = .ok (.iload_n 1, 1) := dk_27 (dk_at dksX6_lose_0 14 rfl rfl)
theorem dX6_lose_15 : decode cX6_lose 15 = .ok (.baload, 1) := dk_51 (dk_at dksX6_lose_0 15 rfl rfl)
theorem dX6_lose_16 : decode cX6_lose 16 = .ok (.ifCond .ne 9, 3) := dk_154 0 9 (dk_at dksX6_lose_0 16 rfl rfl)
theorem dX6_lose_19 : decode cX6_lose 19 = .ok (.aload_n 0, 1) := dk_42 (dk_at dksX6_lose_0 19 rfl rfl)
theorem dX6_lose_20 : decode cX6_lose 20 = .ok (.iconst 1, 1) := dk_4 (dk_at dksX6_lose_0 20 rfl rfl)
theorem dX6_lose_21 : decode cX6_lose 21 = .ok (.invokevirtual 175, 3) := dk_182 0 175 (dk_at dksX6_lose_0 21 rfl rfl)
theorem dX6_lose_24 : decode cX6_lose 24 = .ok (.ireturn, 1) := dk_172 (dk_at dksX6_lose_1 0 rfl rfl)
theorem dX6_lose_25 : decode cX6_lose 25 = .ok (.aload_n 0, 1) := dk_42 (dk_at dksX6_lose_1 1 rfl rfl)
theorem dX6_lose_26 : decode cX6_lose 26 = .ok (.getfield 97, 3) := dk_180 0 97 (dk_at dksX6_lose_1 2 rfl rfl)
theorem dX6_lose_29 : decode cX6_lose 29 = .ok (.iload_n 1, 1) := dk_27 (dk_at dksX6_lose_1 5 rfl rfl)
theorem dX6_lose_30 : decode cX6_lose 30 = .ok (.iconst 0, 1) := dk_3 (dk_at dksX6_lose_1 6 rfl rfl)
theorem dX6_lose_31 : decode cX6_lose 31 = .ok (.bastore, 1) := dk_84 (dk_at dksX6_lose_1 7 rfl rfl)
theorem dX6_lose_32 : decode cX6_lose 32 = .ok (.aload_n 0, 1) := dk_42 (dk_at dksX6_lose_1 8 rfl rfl)
theorem dX6_lose_33 : decode cX6_lose 33 = .ok (.getfield 104, 3) := dk_180 0 104 (dk_at dksX6_lose_1 9 rfl rfl)
theorem dX6_lose_36 : decode cX6_lose 36 = .ok (.iload_n 1, 1) := dk_27 (dk_at dksX6_lose_1 12 rfl rfl)
theorem dX6_lose_37 : decode cX6_lose 37 = .ok (.iaload, 1) := dk_46 (dk_at dksX6_lose_1 13 rfl rfl)
theorem dX6_lose_38 : decode cX6_lose 38 = .ok (.ireturn, 1) := dk_172 (dk_at dksX6_lose_1 14 rfl rfl)
abbrev cX6_put : ByteArray := prog_13_method_95_code
def yX6_put : MethodName := ⟨RX6, "put", "(IIII)I"⟩
def dkwX6_put_2 : List UInt8 := [182, 1, 82, 4, 172]
abbrev dktX6_put_2 : List UInt8 := dkwX6_put_2 ++ []
def dkwX6_put_1 : List UInt8 := [182, 1, 79, 54, 5, 21, 5, 158, 0, 10, 42, 21, 5, 182, 0, 175, 172, 42, 27, 29, 21, 4]
abbrev dktX6_put_1 : List UInt8 := dkwX6_put_1 ++ dktX6_put_2
def dkwX6_put_0 : List UInt8 := [27, 184, 0, 172, 153, 0, 12, 28, 3, 5, 184, 0, 115, 154, 0, 6, 16, 254, 172, 42, 27, 28, 29]
abbrev dktX6_put_0 : List UInt8 := dkwX6_put_0 ++ dktX6_put_1
theorem dksX6_put_0 : cX6_put.data.toList.drop 0 = dktX6_put_0 := by decide +kernel
theorem dksX6_put_1 : cX6_put.data.toList.drop 23 = dktX6_put_1 := dk_seg dksX6_put_0 23 rfl rfl
theorem dksX6_put_2 : cX6_put.data.toList.drop 45 = dktX6_put_2 := dk_seg dksX6_put_1 22 rfl rfl
theorem dX6_put_0 : decode cX6_put 0 = .ok (.iload_n 1, 1) := dk_27 (dk_at dksX6_put_0 0 rfl rfl)
theorem dX6_put_1 : decode cX6_put 1 = .ok (.invokestatic 172, 3) := dk_184 0 172 (dk_at dksX6_put_0 1 rfl rfl)
theorem dX6_put_4 : decode cX6_put 4 = .ok (.ifCond .eq 12, 3) := dk_153 0 12 (dk_at dksX6_put_0 4 rfl rfl)
theorem dX6_put_7 : decode cX6_put 7 = .ok (.iload_n 2, 1) := dk_28 (dk_at dksX6_put_0 7 rfl rfl)
theorem dX6_put_8 : decode cX6_put 8 = .ok (.iconst 0, 1) := dk_3 (dk_at dksX6_put_0 8 rfl rfl)
theorem dX6_put_9 : decode cX6_put 9 = .ok (.iconst 2, 1) := dk_5 (dk_at dksX6_put_0 9 rfl rfl)
theorem dX6_put_10 : decode cX6_put 10 = .ok (.invokestatic 115, 3) := dk_184 0 115 (dk_at dksX6_put_0 10 rfl rfl)
theorem dX6_put_13 : decode cX6_put 13 = .ok (.ifCond .ne 6, 3) := dk_154 0 6 (dk_at dksX6_put_0 13 rfl rfl)
theorem dX6_put_16 : decode cX6_put 16 = .ok (.bipush (-2), 2) := dk_16 254 (dk_at dksX6_put_0 16 rfl rfl)
theorem dX6_put_18 : decode cX6_put 18 = .ok (.ireturn, 1) := dk_172 (dk_at dksX6_put_0 18 rfl rfl)
theorem dX6_put_19 : decode cX6_put 19 = .ok (.aload_n 0, 1) := dk_42 (dk_at dksX6_put_0 19 rfl rfl)
theorem dX6_put_20 : decode cX6_put 20 = .ok (.iload_n 1, 1) := dk_27 (dk_at dksX6_put_0 20 rfl rfl)
theorem dX6_put_21 : decode cX6_put 21 = .ok (.iload_n 2, 1) := dk_28 (dk_at dksX6_put_0 21 rfl rfl)
theorem dX6_put_22 : decode cX6_put 22 = .ok (.iload_n 3, 1) := dk_29 (dk_at dksX6_put_0 22 rfl rfl)
theorem dX6_put_23 : decode cX6_put 23 = .ok (.invokevirtual 335, 3) := dk_182 1 79 (dk_at dksX6_put_1 0 rfl rfl)
theorem dX6_put_26 : decode cX6_put 26 = .ok (.istore 5, 2) := dk_54 5 (dk_at dksX6_put_1 3 rfl rfl)
theorem dX6_put_28 : decode cX6_put 28 = .ok (.iload 5, 2) := dk_21 5 (dk_at dksX6_put_1 5 rfl rfl)
theorem dX6_put_30 : decode cX6_put 30 = .ok (.ifCond .le 10, 3) := dk_158 0 10 (dk_at dksX6_put_1 7 rfl rfl)
theorem dX6_put_33 : decode cX6_put 33 = .ok (.aload_n 0, 1) := dk_42 (dk_at dksX6_put_1 10 rfl rfl)
theorem dX6_put_34 : decode cX6_put 34 = .ok (.iload 5, 2) := dk_21 5 (dk_at dksX6_put_1 11 rfl rfl)
theorem dX6_put_36 : decode cX6_put 36 = .ok (.invokevirtual 175, 3) := dk_182 0 175 (dk_at dksX6_put_1 13 rfl rfl)
theorem dX6_put_39 : decode cX6_put 39 = .ok (.ireturn, 1) := dk_172 (dk_at dksX6_put_1 16 rfl rfl)
theorem dX6_put_40 : decode cX6_put 40 = .ok (.aload_n 0, 1) := dk_42 (dk_at dksX6_put_1 17 rfl rfl)
theorem dX6_put_41 : decode cX6_put 41 = .ok (.iload_n 1, 1) := dk_27 (dk_at dksX6_put_1 18 rfl rfl)
theorem dX6_put_42 : decode cX6_put 42 = .ok (.iload_n 3, 1) := dk_29 (dk_at dksX6_put_1 19 rfl rfl)
theorem dX6_put_43 : decode cX6_put 43 = .ok (.iload 4, 2) := dk_21 4 (dk_at dksX6_put_1 20 rfl rfl)
theorem dX6_put_45 : decode cX6_put 45 = .ok (.invokevirtual 338, 3) := dk_182 1 82 (dk_at dksX6_put_2 0 rfl rfl)
theorem dX6_put_48 : decode cX6_put 48 = .ok (.iconst 1, 1) := dk_4 (dk_at dksX6_put_2 3 rfl rfl)
theorem dX6_put_49 : decode cX6_put 49 = .ok (.ireturn, 1) := dk_172 (dk_at dksX6_put_2 4 rfl rfl)
abbrev cX6_lacks : ByteArray := prog_13_method_93_code
def yX6_lacks : MethodName := ⟨RX6, "lacks", "(III)I"⟩
def dkwX6_lacks_2 : List UInt8 := [172]
abbrev dktX6_lacks_2 : List UInt8 := dkwX6_lacks_2 ++ []
def dkwX6_lacks_1 : List UInt8 := [167, 0, 24, 29, 3, 42, 180, 0, 104, 27, 46, 4, 100, 184, 0, 115, 153, 0, 7, 3, 167, 0, 4, 5]
abbrev dktX6_lacks_1 : List UInt8 := dkwX6_lacks_1 ++ dktX6_lacks_2
def dkwX6_lacks_0 : List UInt8 := [42, 180, 0, 97, 27, 51, 154, 0, 7, 4, 167, 0, 38, 42, 180, 0, 101, 27, 46, 28, 159, 0, 7, 6]
abbrev dktX6_lacks_0 : List UInt8 := dkwX6_lacks_0 ++ dktX6_lacks_1
theorem dksX6_lacks_0 : cX6_lacks.data.toList.drop 0 = dktX6_lacks_0 := by decide +kernel
theorem dksX6_lacks_1 : cX6_lacks.data.toList.drop 24 = dktX6_lacks_1 := dk_seg dksX6_lacks_0 24 rfl rfl
theorem dksX6_lacks_2 : cX6_lacks.data.toList.drop 48 = dktX6_lacks_2 := dk_seg dksX6_lacks_1 24 rfl rfl
theorem dX6_lacks_0 : decode cX6_lacks 0 = .ok (.aload_n 0, 1) := dk_42 (dk_at dksX6_lacks_0 0 rfl rfl)
theorem dX6_lacks_1 : decode cX6_lacks 1 = .ok (.getfield 97, 3) := dk_180 0 97 (dk_at dksX6_lacks_0 1 rfl rfl)
theorem dX6_lacks_4 : decode cX6_lacks 4 = .ok (.iload_n 1, 1) := dk_27 (dk_at dksX6_lacks_0 4 rfl rfl)
theorem dX6_lacks_5 : decode cX6_lacks 5 = .ok (.baload, 1) := dk_51 (dk_at dksX6_lacks_0 5 rfl rfl)
theorem dX6_lacks_6 : decode cX6_lacks 6 = .ok (.ifCond .ne 7, 3) := dk_154 0 7 (dk_at dksX6_lacks_0 6 rfl rfl)
theorem dX6_lacks_9 : decode cX6_lacks 9 = .ok (.iconst 1, 1) := dk_4 (dk_at dksX6_lacks_0 9 rfl rfl)
theorem dX6_lacks_10 : decode cX6_lacks 10 = .ok (.goto 38, 3) := dk_167 0 38 (dk_at dksX6_lacks_0 10 rfl rfl)
theorem dX6_lacks_13 : decode cX6_lacks 13 = .ok (.aload_n 0, 1) := dk_42 (dk_at dksX6_lacks_0 13 rfl rfl)
theorem dX6_lacks_14 : decode cX6_lacks 14 = .ok (.getfield 101, 3) := dk_180 0 101 (dk_at dksX6_lacks_0 14 rfl rfl)
theorem dX6_lacks_17 : decode cX6_lacks 17 = .ok (.iload_n 1, 1) := dk_27 (dk_at dksX6_lacks_0 17 rfl rfl)
theorem dX6_lacks_18 : decode cX6_lacks 18 = .ok (.iaload, 1) := dk_46 (dk_at dksX6_lacks_0 18 rfl rfl)
theorem dX6_lacks_19 : decode cX6_lacks 19 = .ok (.iload_n 2, 1) := dk_28 (dk_at dksX6_lacks_0 19 rfl rfl)
theorem dX6_lacks_20 : decode cX6_lacks 20 = .ok (.if_icmp .eq 7, 3) := dk_159 0 7 (dk_at dksX6_lacks_0 20 rfl rfl)
theorem dX6_lacks_23 : decode cX6_lacks 23 = .ok (.iconst 3, 1) := dk_6 (dk_at dksX6_lacks_0 23 rfl rfl)
theorem dX6_lacks_24 : decode cX6_lacks 24 = .ok (.goto 24, 3) := dk_167 0 24 (dk_at dksX6_lacks_1 0 rfl rfl)
theorem dX6_lacks_27 : decode cX6_lacks 27 = .ok (.iload_n 3, 1) := dk_29 (dk_at dksX6_lacks_1 3 rfl rfl)
theorem dX6_lacks_28 : decode cX6_lacks 28 = .ok (.iconst 0, 1) := dk_3 (dk_at dksX6_lacks_1 4 rfl rfl)
theorem dX6_lacks_29 : decode cX6_lacks 29 = .ok (.aload_n 0, 1) := dk_42 (dk_at dksX6_lacks_1 5 rfl rfl)
theorem dX6_lacks_30 : decode cX6_lacks 30 = .ok (.getfield 104, 3) := dk_180 0 104 (dk_at dksX6_lacks_1 6 rfl rfl)
theorem dX6_lacks_33 : decode cX6_lacks 33 = .ok (.iload_n 1, 1) := dk_27 (dk_at dksX6_lacks_1 9 rfl rfl)
theorem dX6_lacks_34 : decode cX6_lacks 34 = .ok (.iaload, 1) := dk_46 (dk_at dksX6_lacks_1 10 rfl rfl)
theorem dX6_lacks_35 : decode cX6_lacks 35 = .ok (.iconst 1, 1) := dk_4 (dk_at dksX6_lacks_1 11 rfl rfl)
theorem dX6_lacks_36 : decode cX6_lacks 36 = .ok (.isub, 1) := dk_100 (dk_at dksX6_lacks_1 12 rfl rfl)
theorem dX6_lacks_37 : decode cX6_lacks 37 = .ok (.invokestatic 115, 3) := dk_184 0 115 (dk_at dksX6_lacks_1 13 rfl rfl)
theorem dX6_lacks_40 : decode cX6_lacks 40 = .ok (.ifCond .eq 7, 3) := dk_153 0 7 (dk_at dksX6_lacks_1 16 rfl rfl)
theorem dX6_lacks_43 : decode cX6_lacks 43 = .ok (.iconst 0, 1) := dk_3 (dk_at dksX6_lacks_1 19 rfl rfl)
theorem dX6_lacks_44 : decode cX6_lacks 44 = .ok (.goto 4, 3) := dk_167 0 4 (dk_at dksX6_lacks_1 20 rfl rfl)
theorem dX6_lacks_47 : decode cX6_lacks 47 = .ok (.iconst 2, 1) := dk_5 (dk_at dksX6_lacks_1 23 rfl rfl)
theorem dX6_lacks_48 : decode cX6_lacks 48 = .ok (.ireturn, 1) := dk_172 (dk_at dksX6_lacks_2 0 rfl rfl)
abbrev cX6_keep : ByteArray := prog_13_method_94_code
def yX6_keep : MethodName := ⟨RX6, "keep", "(III)V"⟩
def dkwX6_keep_1 : List UInt8 := [42, 180, 0, 101, 27, 46, 4, 160, 0, 8, 29, 147, 167, 0, 4, 29, 79, 177]
abbrev dktX6_keep_1 : List UInt8 := dkwX6_keep_1 ++ []
def dkwX6_keep_0 : List UInt8 := [42, 180, 0, 107, 16, 60, 27, 104, 28, 96, 42, 180, 0, 101, 27, 46, 154, 0, 8, 29, 145, 167, 0, 19]
abbrev dktX6_keep_0 : List UInt8 := dkwX6_keep_0 ++ dktX6_keep_1
theorem dksX6_keep_0 : cX6_keep.data.toList.drop 0 = dktX6_keep_0 := by decide +kernel
theorem dksX6_keep_1 : cX6_keep.data.toList.drop 24 = dktX6_keep_1 := dk_seg dksX6_keep_0 24 rfl rfl
theorem dX6_keep_0 : decode cX6_keep 0 = .ok (.aload_n 0, 1) := dk_42 (dk_at dksX6_keep_0 0 rfl rfl)
theorem dX6_keep_1 : decode cX6_keep 1 = .ok (.getfield 107, 3) := dk_180 0 107 (dk_at dksX6_keep_0 1 rfl rfl)
theorem dX6_keep_4 : decode cX6_keep 4 = .ok (.bipush 60, 2) := dk_16 60 (dk_at dksX6_keep_0 4 rfl rfl)
theorem dX6_keep_6 : decode cX6_keep 6 = .ok (.iload_n 1, 1) := dk_27 (dk_at dksX6_keep_0 6 rfl rfl)
theorem dX6_keep_7 : decode cX6_keep 7 = .ok (.imul, 1) := dk_104 (dk_at dksX6_keep_0 7 rfl rfl)
theorem dX6_keep_8 : decode cX6_keep 8 = .ok (.iload_n 2, 1) := dk_28 (dk_at dksX6_keep_0 8 rfl rfl)
theorem dX6_keep_9 : decode cX6_keep 9 = .ok (.iadd, 1) := dk_96 (dk_at dksX6_keep_0 9 rfl rfl)
theorem dX6_keep_10 : decode cX6_keep 10 = .ok (.aload_n 0, 1) := dk_42 (dk_at dksX6_keep_0 10 rfl rfl)
theorem dX6_keep_11 : decode cX6_keep 11 = .ok (.getfield 101, 3) := dk_180 0 101 (dk_at dksX6_keep_0 11 rfl rfl)
theorem dX6_keep_14 : decode cX6_keep 14 = .ok (.iload_n 1, 1) := dk_27 (dk_at dksX6_keep_0 14 rfl rfl)
theorem dX6_keep_15 : decode cX6_keep 15 = .ok (.iaload, 1) := dk_46 (dk_at dksX6_keep_0 15 rfl rfl)
theorem dX6_keep_16 : decode cX6_keep 16 = .ok (.ifCond .ne 8, 3) := dk_154 0 8 (dk_at dksX6_keep_0 16 rfl rfl)
theorem dX6_keep_19 : decode cX6_keep 19 = .ok (.iload_n 3, 1) := dk_29 (dk_at dksX6_keep_0 19 rfl rfl)
theorem dX6_keep_20 : decode cX6_keep 20 = .ok (.i2b, 1) := dk_145 (dk_at dksX6_keep_0 20 rfl rfl)
theorem dX6_keep_21 : decode cX6_keep 21 = .ok (.goto 19, 3) := dk_167 0 19 (dk_at dksX6_keep_0 21 rfl rfl)
theorem dX6_keep_24 : decode cX6_keep 24 = .ok (.aload_n 0, 1) := dk_42 (dk_at dksX6_keep_1 0 rfl rfl)
theorem dX6_keep_25 : decode cX6_keep 25 = .ok (.getfield 101, 3) := dk_180 0 101 (dk_at dksX6_keep_1 1 rfl rfl)
theorem dX6_keep_28 : decode cX6_keep 28 = .ok (.iload_n 1, 1) := dk_27 (dk_at dksX6_keep_1 4 rfl rfl)
theorem dX6_keep_29 : decode cX6_keep 29 = .ok (.iaload, 1) := dk_46 (dk_at dksX6_keep_1 5 rfl rfl)
theorem dX6_keep_30 : decode cX6_keep 30 = .ok (.iconst 1, 1) := dk_4 (dk_at dksX6_keep_1 6 rfl rfl)
theorem dX6_keep_31 : decode cX6_keep 31 = .ok (.if_icmp .ne 8, 3) := dk_160 0 8 (dk_at dksX6_keep_1 7 rfl rfl)
theorem dX6_keep_34 : decode cX6_keep 34 = .ok (.iload_n 3, 1) := dk_29 (dk_at dksX6_keep_1 10 rfl rfl)
theorem dX6_keep_35 : decode cX6_keep 35 = .ok (.i2s, 1) := dk_147 (dk_at dksX6_keep_1 11 rfl rfl)
theorem dX6_keep_36 : decode cX6_keep 36 = .ok (.goto 4, 3) := dk_167 0 4 (dk_at dksX6_keep_1 12 rfl rfl)
theorem dX6_keep_39 : decode cX6_keep 39 = .ok (.iload_n 3, 1) := dk_29 (dk_at dksX6_keep_1 15 rfl rfl)
theorem dX6_keep_40 : decode cX6_keep 40 = .ok (.iastore, 1) := dk_79 (dk_at dksX6_keep_1 16 rfl rfl)
theorem dX6_keep_41 : decode cX6_keep 41 = .ok (.return_, 1) := dk_177 (dk_at dksX6_keep_1 17 rfl rfl)
abbrev cX6_get : ByteArray := prog_13_method_96_code
def yX6_get : MethodName := ⟨RX6, "get", "(III)I"⟩
def dkwX6_get_2 : List UInt8 := [16, 60, 27, 104, 29, 96, 46, 172]
abbrev dktX6_get_2 : List UInt8 := dkwX6_get_2 ++ []
def dkwX6_get_1 : List UInt8 := [182, 1, 79, 54, 4, 21, 4, 158, 0, 13, 42, 21, 4, 181, 1, 76, 19, 1, 85, 172, 42, 180, 0, 107]
abbrev dktX6_get_1 : List UInt8 := dkwX6_get_1 ++ dktX6_get_2
def dkwX6_get_0 : List UInt8 := [27, 184, 0, 172, 153, 0, 12, 28, 3, 5, 184, 0, 115, 154, 0, 7, 19, 1, 85, 172, 42, 27, 28, 29]
abbrev dktX6_get_0 : List UInt8 := dkwX6_get_0 ++ dktX6_get_1
theorem dksX6_get_0 : cX6_get.data.toList.drop 0 = dktX6_get_0 := by decide +kernel
theorem dksX6_get_1 : cX6_get.data.toList.drop 24 = dktX6_get_1 := dk_seg dksX6_get_0 24 rfl rfl
theorem dksX6_get_2 : cX6_get.data.toList.drop 48 = dktX6_get_2 := dk_seg dksX6_get_1 24 rfl rfl
theorem dX6_get_0 : decode cX6_get 0 = .ok (.iload_n 1, 1) := dk_27 (dk_at dksX6_get_0 0 rfl rfl)
theorem dX6_get_1 : decode cX6_get 1 = .ok (.invokestatic 172, 3) := dk_184 0 172 (dk_at dksX6_get_0 1 rfl rfl)
theorem dX6_get_4 : decode cX6_get 4 = .ok (.ifCond .eq 12, 3) := dk_153 0 12 (dk_at dksX6_get_0 4 rfl rfl)
theorem dX6_get_7 : decode cX6_get 7 = .ok (.iload_n 2, 1) := dk_28 (dk_at dksX6_get_0 7 rfl rfl)
theorem dX6_get_8 : decode cX6_get 8 = .ok (.iconst 0, 1) := dk_3 (dk_at dksX6_get_0 8 rfl rfl)
theorem dX6_get_9 : decode cX6_get 9 = .ok (.iconst 2, 1) := dk_5 (dk_at dksX6_get_0 9 rfl rfl)
theorem dX6_get_10 : decode cX6_get 10 = .ok (.invokestatic 115, 3) := dk_184 0 115 (dk_at dksX6_get_0 10 rfl rfl)
theorem dX6_get_13 : decode cX6_get 13 = .ok (.ifCond .ne 7, 3) := dk_154 0 7 (dk_at dksX6_get_0 13 rfl rfl)
theorem dX6_get_16 : decode cX6_get 16 = .ok (.ldc_w 341, 3) := dk_19 1 85 (dk_at dksX6_get_0 16 rfl rfl)
theorem dX6_get_19 : decode cX6_get 19 = .ok (.ireturn, 1) := dk_172 (dk_at dksX6_get_0 19 rfl rfl)
theorem dX6_get_20 : decode cX6_get 20 = .ok (.aload_n 0, 1) := dk_42 (dk_at dksX6_get_0 20 rfl rfl)
theorem dX6_get_21 : decode cX6_get 21 = .ok (.iload_n 1, 1) := dk_27 (dk_at dksX6_get_0 21 rfl rfl)
theorem dX6_get_22 : decode cX6_get 22 = .ok (.iload_n 2, 1) := dk_28 (dk_at dksX6_get_0 22 rfl rfl)
theorem dX6_get_23 : decode cX6_get 23 = .ok (.iload_n 3, 1) := dk_29 (dk_at dksX6_get_0 23 rfl rfl)
theorem dX6_get_24 : decode cX6_get 24 = .ok (.invokevirtual 335, 3) := dk_182 1 79 (dk_at dksX6_get_1 0 rfl rfl)
theorem dX6_get_27 : decode cX6_get 27 = .ok (.istore 4, 2) := dk_54 4 (dk_at dksX6_get_1 3 rfl rfl)
theorem dX6_get_29 : decode cX6_get 29 = .ok (.iload 4, 2) := dk_21 4 (dk_at dksX6_get_1 5 rfl rfl)
theorem dX6_get_31 : decode cX6_get 31 = .ok (.ifCond .le 13, 3) := dk_158 0 13 (dk_at dksX6_get_1 7 rfl rfl)
theorem dX6_get_34 : decode cX6_get 34 = .ok (.aload_n 0, 1) := dk_42 (dk_at dksX6_get_1 10 rfl rfl)
theorem dX6_get_35 : decode cX6_get 35 = .ok (.iload 4, 2) := dk_21 4 (dk_at dksX6_get_1 11 rfl rfl)
theorem dX6_get_37 : decode cX6_get 37 = .ok (.putfield 332, 3) := dk_181 1 76 (dk_at dksX6_get_1 13 rfl rfl)
theorem dX6_get_40 : decode cX6_get 40 = .ok (.ldc_w 341, 3) := dk_19 1 85 (dk_at dksX6_get_1 16 rfl rfl)
theorem dX6_get_43 : decode cX6_get 43 = .ok (.ireturn, 1) := dk_172 (dk_at dksX6_get_1 19 rfl rfl)
theorem dX6_get_44 : decode cX6_get 44 = .ok (.aload_n 0, 1) := dk_42 (dk_at dksX6_get_1 20 rfl rfl)
theorem dX6_get_45 : decode cX6_get 45 = .ok (.getfield 107, 3) := dk_180 0 107 (dk_at dksX6_get_1 21 rfl rfl)
theorem dX6_get_48 : decode cX6_get 48 = .ok (.bipush 60, 2) := dk_16 60 (dk_at dksX6_get_2 0 rfl rfl)
theorem dX6_get_50 : decode cX6_get 50 = .ok (.iload_n 1, 1) := dk_27 (dk_at dksX6_get_2 2 rfl rfl)
theorem dX6_get_51 : decode cX6_get 51 = .ok (.imul, 1) := dk_104 (dk_at dksX6_get_2 3 rfl rfl)
theorem dX6_get_52 : decode cX6_get 52 = .ok (.iload_n 3, 1) := dk_29 (dk_at dksX6_get_2 4 rfl rfl)
theorem dX6_get_53 : decode cX6_get 53 = .ok (.iadd, 1) := dk_96 (dk_at dksX6_get_2 5 rfl rfl)
theorem dX6_get_54 : decode cX6_get 54 = .ok (.iaload, 1) := dk_46 (dk_at dksX6_get_2 6 rfl rfl)
theorem dX6_get_55 : decode cX6_get 55 = .ok (.ireturn, 1) := dk_172 (dk_at dksX6_get_2 7 rfl rfl)
abbrev cX6_copy : ByteArray := prog_13_method_97_code
def yX6_copy : MethodName := ⟨RX6, "copy", "(IIIII)I"⟩
def dkwX6_copy_8 : List UInt8 := [167, 255, 224, 4, 172]
abbrev dktX6_copy_8 : List UInt8 := dkwX6_copy_8 ++ []
def dkwX6_copy_7 : List UInt8 := [180, 0, 107, 16, 60, 29, 104, 21, 4, 96, 21, 6, 96, 42, 180, 0, 110, 21, 6, 46, 79, 132, 6, 1]
abbrev dktX6_copy_7 : List UInt8 := dkwX6_copy_7 ++ dktX6_copy_8
def dkwX6_copy_6 : List UInt8 := [96, 21, 6, 96, 46, 79, 132, 6, 1, 167, 255, 225, 3, 54, 6, 21, 6, 21, 5, 162, 0, 31, 42]
abbrev dktX6_copy_6 : List UInt8 := dkwX6_copy_6 ++ dktX6_copy_7
def dkwX6_copy_5 : List UInt8 := [54, 6, 21, 6, 21, 5, 162, 0, 30, 42, 180, 0, 110, 21, 6, 42, 180, 0, 107, 16, 60, 27, 104, 28]
abbrev dktX6_copy_5 : List UInt8 := dkwX6_copy_5 ++ dktX6_copy_6
def dkwX6_copy_4 : List UInt8 := [133, 21, 5, 133, 97, 42, 180, 0, 104, 29, 46, 133, 148, 158, 0, 9, 42, 5, 182, 0, 175, 172, 3]
abbrev dktX6_copy_4 : List UInt8 := dkwX6_copy_4 ++ dktX6_copy_5
def dkwX6_copy_3 : List UInt8 := [21, 5, 155, 0, 38, 28, 133, 21, 5, 133, 97, 42, 180, 0, 104, 27, 46, 133, 148, 157, 0, 21, 21, 4]
abbrev dktX6_copy_3 : List UInt8 := dkwX6_copy_3 ++ dktX6_copy_4
def dkwX6_copy_2 : List UInt8 := [42, 180, 0, 101, 29, 46, 159, 0, 9, 42, 7, 182, 0, 175, 172, 28, 155, 0, 48, 21, 4, 155, 0, 43]
abbrev dktX6_copy_2 : List UInt8 := dkwX6_copy_2 ++ dktX6_copy_3
def dkwX6_copy_1 : List UInt8 := [153, 0, 12, 42, 180, 0, 97, 29, 51, 154, 0, 9, 42, 4, 182, 0, 175, 172, 42, 180, 0, 101, 27, 46]
abbrev dktX6_copy_1 : List UInt8 := dkwX6_copy_1 ++ dktX6_copy_2
def dkwX6_copy_0 : List UInt8 := [27, 184, 0, 172, 153, 0, 10, 29, 184, 0, 172, 154, 0, 6, 16, 254, 172, 42, 180, 0, 97, 27, 51]
abbrev dktX6_copy_0 : List UInt8 := dkwX6_copy_0 ++ dktX6_copy_1
theorem dksX6_copy_0 : cX6_copy.data.toList.drop 0 = dktX6_copy_0 := by decide +kernel
theorem dksX6_copy_1 : cX6_copy.data.toList.drop 23 = dktX6_copy_1 := dk_seg dksX6_copy_0 23 rfl rfl
theorem dksX6_copy_2 : cX6_copy.data.toList.drop 47 = dktX6_copy_2 := dk_seg dksX6_copy_1 24 rfl rfl
theorem dksX6_copy_3 : cX6_copy.data.toList.drop 71 = dktX6_copy_3 := dk_seg dksX6_copy_2 24 rfl rfl
theorem dksX6_copy_4 : cX6_copy.data.toList.drop 95 = dktX6_copy_4 := dk_seg dksX6_copy_3 24 rfl rfl
theorem dksX6_copy_5 : cX6_copy.data.toList.drop 118 = dktX6_copy_5 := dk_seg dksX6_copy_4 23 rfl rfl
theorem dksX6_copy_6 : cX6_copy.data.toList.drop 142 = dktX6_copy_6 := dk_seg dksX6_copy_5 24 rfl rfl
theorem dksX6_copy_7 : cX6_copy.data.toList.drop 165 = dktX6_copy_7 := dk_seg dksX6_copy_6 23 rfl rfl
theorem dksX6_copy_8 : cX6_copy.data.toList.drop 189 = dktX6_copy_8 := dk_seg dksX6_copy_7 24 rfl rfl
theorem dX6_copy_0 : decode cX6_copy 0 = .ok (.iload_n 1, 1) := dk_27 (dk_at dksX6_copy_0 0 rfl rfl)
theorem dX6_copy_1 : decode cX6_copy 1 = .ok (.invokestatic 172, 3) := dk_184 0 172 (dk_at dksX6_copy_0 1 rfl rfl)
theorem dX6_copy_4 : decode cX6_copy 4 = .ok (.ifCond .eq 10, 3) := dk_153 0 10 (dk_at dksX6_copy_0 4 rfl rfl)
theorem dX6_copy_7 : decode cX6_copy 7 = .ok (.iload_n 3, 1) := dk_29 (dk_at dksX6_copy_0 7 rfl rfl)
theorem dX6_copy_8 : decode cX6_copy 8 = .ok (.invokestatic 172, 3) := dk_184 0 172 (dk_at dksX6_copy_0 8 rfl rfl)
theorem dX6_copy_11 : decode cX6_copy 11 = .ok (.ifCond .ne 6, 3) := dk_154 0 6 (dk_at dksX6_copy_0 11 rfl rfl)
theorem dX6_copy_14 : decode cX6_copy 14 = .ok (.bipush (-2), 2) := dk_16 254 (dk_at dksX6_copy_0 14 rfl rfl)
theorem dX6_copy_16 : decode cX6_copy 16 = .ok (.ireturn, 1) := dk_172 (dk_at dksX6_copy_0 16 rfl rfl)
theorem dX6_copy_17 : decode cX6_copy 17 = .ok (.aload_n 0, 1) := dk_42 (dk_at dksX6_copy_0 17 rfl rfl)
theorem dX6_copy_18 : decode cX6_copy 18 = .ok (.getfield 97, 3) := dk_180 0 97 (dk_at dksX6_copy_0 18 rfl rfl)
theorem dX6_copy_21 : decode cX6_copy 21 = .ok (.iload_n 1, 1) := dk_27 (dk_at dksX6_copy_0 21 rfl rfl)
theorem dX6_copy_22 : decode cX6_copy 22 = .ok (.baload, 1) := dk_51 (dk_at dksX6_copy_0 22 rfl rfl)
theorem dX6_copy_23 : decode cX6_copy 23 = .ok (.ifCond .eq 12, 3) := dk_153 0 12 (dk_at dksX6_copy_1 0 rfl rfl)
theorem dX6_copy_26 : decode cX6_copy 26 = .ok (.aload_n 0, 1) := dk_42 (dk_at dksX6_copy_1 3 rfl rfl)
theorem dX6_copy_27 : decode cX6_copy 27 = .ok (.getfield 97, 3) := dk_180 0 97 (dk_at dksX6_copy_1 4 rfl rfl)
theorem dX6_copy_30 : decode cX6_copy 30 = .ok (.iload_n 3, 1) := dk_29 (dk_at dksX6_copy_1 7 rfl rfl)
theorem dX6_copy_31 : decode cX6_copy 31 = .ok (.baload, 1) := dk_51 (dk_at dksX6_copy_1 8 rfl rfl)
theorem dX6_copy_32 : decode cX6_copy 32 = .ok (.ifCond .ne 9, 3) := dk_154 0 9 (dk_at dksX6_copy_1 9 rfl rfl)
theorem dX6_copy_35 : decode cX6_copy 35 = .ok (.aload_n 0, 1) := dk_42 (dk_at dksX6_copy_1 12 rfl rfl)
theorem dX6_copy_36 : decode cX6_copy 36 = .ok (.iconst 1, 1) := dk_4 (dk_at dksX6_copy_1 13 rfl rfl)
theorem dX6_copy_37 : decode cX6_copy 37 = .ok (.invokevirtual 175, 3) := dk_182 0 175 (dk_at dksX6_copy_1 14 rfl rfl)
theorem dX6_copy_40 : decode cX6_copy 40 = .ok (.ireturn, 1) := dk_172 (dk_at dksX6_copy_1 17 rfl rfl)
theorem dX6_copy_41 : decode cX6_copy 41 = .ok (.aload_n 0, 1) := dk_42 (dk_at dksX6_copy_1 18 rfl rfl)
theorem dX6_copy_42 : decode cX6_copy 42 = .ok (.getfield 101, 3) := dk_180 0 101 (dk_at dksX6_copy_1 19 rfl rfl)
theorem dX6_copy_45 : decode cX6_copy 45 = .ok (.iload_n 1, 1) := dk_27 (dk_at dksX6_copy_1 22 rfl rfl)
theorem dX6_copy_46 : decode cX6_copy 46 = .ok (.iaload, 1) := dk_46 (dk_at dksX6_copy_1 23 rfl rfl)
theorem dX6_copy_47 : decode cX6_copy 47 = .ok (.aload_n 0, 1) := dk_42 (dk_at dksX6_copy_2 0 rfl rfl)
theorem dX6_copy_48 : decode cX6_copy 48 = .ok (.getfield 101, 3) := dk_180 0 101 (dk_at dksX6_copy_2 1 rfl rfl)
theorem dX6_copy_51 : decode cX6_copy 51 = .ok (.iload_n 3, 1) := dk_29 (dk_at dksX6_copy_2 4 rfl rfl)
theorem dX6_copy_52 : decode cX6_copy 52 = .ok (.iaload, 1) := dk_46 (dk_at dksX6_copy_2 5 rfl rfl)
theorem dX6_copy_53 : decode cX6_copy 53 = .ok (.if_icmp .eq 9, 3) := dk_159 0 9 (dk_at dksX6_copy_2 6 rfl rfl)
theorem dX6_copy_56 : decode cX6_copy 56 = .ok (.aload_n 0, 1) := dk_42 (dk_at dksX6_copy_2 9 rfl rfl)
theorem dX6_copy_57 : decode cX6_copy 57 = .ok (.iconst 4, 1) := dk_7 (dk_at dksX6_copy_2 10 rfl rfl)
theorem dX6_copy_58 : decode cX6_copy 58 = .ok (.invokevirtual 175, 3) := dk_182 0 175 (dk_at dksX6_copy_2 11 rfl rfl)
theorem dX6_copy_61 : decode cX6_copy 61 = .ok (.ireturn, 1) := dk_172 (dk_at dksX6_copy_2 14 rfl rfl)
theorem dX6_copy_62 : decode cX6_copy 62 = .ok (.iload_n 2, 1) := dk_28 (dk_at dksX6_copy_2 15 rfl rfl)
theorem dX6_copy_63 : decode cX6_copy 63 = .ok (.ifCond .lt 48, 3) := dk_155 0 48 (dk_at dksX6_copy_2 16 rfl rfl)
theorem dX6_copy_66 : decode cX6_copy 66 = .ok (.iload 4, 2) := dk_21 4 (dk_at dksX6_copy_2 19 rfl rfl)
theorem dX6_copy_68 : decode cX6_copy 68 = .ok (.ifCond .lt 43, 3) := dk_155 0 43 (dk_at dksX6_copy_2 21 rfl rfl)
theorem dX6_copy_71 : decode cX6_copy 71 = .ok (.iload 5, 2) := dk_21 5 (dk_at dksX6_copy_3 0 rfl rfl)
theorem dX6_copy_73 : decode cX6_copy 73 = .ok (.ifCond .lt 38, 3) := dk_155 0 38 (dk_at dksX6_copy_3 2 rfl rfl)
theorem dX6_copy_76 : decode cX6_copy 76 = .ok (.iload_n 2, 1) := dk_28 (dk_at dksX6_copy_3 5 rfl rfl)
theorem dX6_copy_77 : decode cX6_copy 77 = .ok (.i2l, 1) := dk_133 (dk_at dksX6_copy_3 6 rfl rfl)
theorem dX6_copy_78 : decode cX6_copy 78 = .ok (.iload 5, 2) := dk_21 5 (dk_at dksX6_copy_3 7 rfl rfl)
theorem dX6_copy_80 : decode cX6_copy 80 = .ok (.i2l, 1) := dk_133 (dk_at dksX6_copy_3 9 rfl rfl)
theorem dX6_copy_81 : decode cX6_copy 81 = .ok (.ladd, 1) := dk_97 (dk_at dksX6_copy_3 10 rfl rfl)
theorem dX6_copy_82 : decode cX6_copy 82 = .ok (.aload_n 0, 1) := dk_42 (dk_at dksX6_copy_3 11 rfl rfl)
theorem dX6_copy_83 : decode cX6_copy 83 = .ok (.getfield 104, 3) := dk_180 0 104 (dk_at dksX6_copy_3 12 rfl rfl)
theorem dX6_copy_86 : decode cX6_copy 86 = .ok (.iload_n 1, 1) := dk_27 (dk_at dksX6_copy_3 15 rfl rfl)
theorem dX6_copy_87 : decode cX6_copy 87 = .ok (.iaload, 1) := dk_46 (dk_at dksX6_copy_3 16 rfl rfl)
theorem dX6_copy_88 : decode cX6_copy 88 = .ok (.i2l, 1) := dk_133 (dk_at dksX6_copy_3 17 rfl rfl)
theorem dX6_copy_89 : decode cX6_copy 89 = .ok (.lcmp, 1) := dk_148 (dk_at dksX6_copy_3 18 rfl rfl)
theorem dX6_copy_90 : decode cX6_copy 90 = .ok (.ifCond .gt 21, 3) := dk_157 0 21 (dk_at dksX6_copy_3 19 rfl rfl)
theorem dX6_copy_93 : decode cX6_copy 93 = .ok (.iload 4, 2) := dk_21 4 (dk_at dksX6_copy_3 22 rfl rfl)
theorem dX6_copy_95 : decode cX6_copy 95 = .ok (.i2l, 1) := dk_133 (dk_at dksX6_copy_4 0 rfl rfl)
theorem dX6_copy_96 : decode cX6_copy 96 = .ok (.iload 5, 2) := dk_21 5 (dk_at dksX6_copy_4 1 rfl rfl)
theorem dX6_copy_98 : decode cX6_copy 98 = .ok (.i2l, 1) := dk_133 (dk_at dksX6_copy_4 3 rfl rfl)
theorem dX6_copy_99 : decode cX6_copy 99 = .ok (.ladd, 1) := dk_97 (dk_at dksX6_copy_4 4 rfl rfl)
theorem dX6_copy_100 : decode cX6_copy 100 = .ok (.aload_n 0, 1) := dk_42 (dk_at dksX6_copy_4 5 rfl rfl)
theorem dX6_copy_101 : decode cX6_copy 101 = .ok (.getfield 104, 3) := dk_180 0 104 (dk_at dksX6_copy_4 6 rfl rfl)
theorem dX6_copy_104 : decode cX6_copy 104 = .ok (.iload_n 3, 1) := dk_29 (dk_at dksX6_copy_4 9 rfl rfl)
theorem dX6_copy_105 : decode cX6_copy 105 = .ok (.iaload, 1) := dk_46 (dk_at dksX6_copy_4 10 rfl rfl)
theorem dX6_copy_106 : decode cX6_copy 106 = .ok (.i2l, 1) := dk_133 (dk_at dksX6_copy_4 11 rfl rfl)
theorem dX6_copy_107 : decode cX6_copy 107 = .ok (.lcmp, 1) := dk_148 (dk_at dksX6_copy_4 12 rfl rfl)
theorem dX6_copy_108 : decode cX6_copy 108 = .ok (.ifCond .le 9, 3) := dk_158 0 9 (dk_at dksX6_copy_4 13 rfl rfl)
theorem dX6_copy_111 : decode cX6_copy 111 = .ok (.aload_n 0, 1) := dk_42 (dk_at dksX6_copy_4 16 rfl rfl)
theorem dX6_copy_112 : decode cX6_copy 112 = .ok (.iconst 2, 1) := dk_5 (dk_at dksX6_copy_4 17 rfl rfl)
theorem dX6_copy_113 : decode cX6_copy 113 = .ok (.invokevirtual 175, 3) := dk_182 0 175 (dk_at dksX6_copy_4 18 rfl rfl)
theorem dX6_copy_116 : decode cX6_copy 116 = .ok (.ireturn, 1) := dk_172 (dk_at dksX6_copy_4 21 rfl rfl)
theorem dX6_copy_117 : decode cX6_copy 117 = .ok (.iconst 0, 1) := dk_3 (dk_at dksX6_copy_4 22 rfl rfl)
theorem dX6_copy_118 : decode cX6_copy 118 = .ok (.istore 6, 2) := dk_54 6 (dk_at dksX6_copy_5 0 rfl rfl)
theorem dX6_copy_120 : decode cX6_copy 120 = .ok (.iload 6, 2) := dk_21 6 (dk_at dksX6_copy_5 2 rfl rfl)
theorem dX6_copy_122 : decode cX6_copy 122 = .ok (.iload 5, 2) := dk_21 5 (dk_at dksX6_copy_5 4 rfl rfl)
theorem dX6_copy_124 : decode cX6_copy 124 = .ok (.if_icmp .ge 30, 3) := dk_162 0 30 (dk_at dksX6_copy_5 6 rfl rfl)
theorem dX6_copy_127 : decode cX6_copy 127 = .ok (.aload_n 0, 1) := dk_42 (dk_at dksX6_copy_5 9 rfl rfl)
theorem dX6_copy_128 : decode cX6_copy 128 = .ok (.getfield 110, 3) := dk_180 0 110 (dk_at dksX6_copy_5 10 rfl rfl)
theorem dX6_copy_131 : decode cX6_copy 131 = .ok (.iload 6, 2) := dk_21 6 (dk_at dksX6_copy_5 13 rfl rfl)
theorem dX6_copy_133 : decode cX6_copy 133 = .ok (.aload_n 0, 1) := dk_42 (dk_at dksX6_copy_5 15 rfl rfl)
theorem dX6_copy_134 : decode cX6_copy 134 = .ok (.getfield 107, 3) := dk_180 0 107 (dk_at dksX6_copy_5 16 rfl rfl)
theorem dX6_copy_137 : decode cX6_copy 137 = .ok (.bipush 60, 2) := dk_16 60 (dk_at dksX6_copy_5 19 rfl rfl)
theorem dX6_copy_139 : decode cX6_copy 139 = .ok (.iload_n 1, 1) := dk_27 (dk_at dksX6_copy_5 21 rfl rfl)
theorem dX6_copy_140 : decode cX6_copy 140 = .ok (.imul, 1) := dk_104 (dk_at dksX6_copy_5 22 rfl rfl)
theorem dX6_copy_141 : decode cX6_copy 141 = .ok (.iload_n 2, 1) := dk_28 (dk_at dksX6_copy_5 23 rfl rfl)
theorem dX6_copy_142 : decode cX6_copy 142 = .ok (.iadd, 1) := dk_96 (dk_at dksX6_copy_6 0 rfl rfl)
theorem dX6_copy_143 : decode cX6_copy 143 = .ok (.iload 6, 2) := dk_21 6 (dk_at dksX6_copy_6 1 rfl rfl)
theorem dX6_copy_145 : decode cX6_copy 145 = .ok (.iadd, 1) := dk_96 (dk_at dksX6_copy_6 3 rfl rfl)
theorem dX6_copy_146 : decode cX6_copy 146 = .ok (.iaload, 1) := dk_46 (dk_at dksX6_copy_6 4 rfl rfl)
theorem dX6_copy_147 : decode cX6_copy 147 = .ok (.iastore, 1) := dk_79 (dk_at dksX6_copy_6 5 rfl rfl)
theorem dX6_copy_148 : decode cX6_copy 148 = .ok (.iinc 6 1, 3) := dk_132 6 1 (dk_at dksX6_copy_6 6 rfl rfl)
theorem dX6_copy_151 : decode cX6_copy 151 = .ok (.goto (-31), 3) := dk_167 255 225 (dk_at dksX6_copy_6 9 rfl rfl)
theorem dX6_copy_154 : decode cX6_copy 154 = .ok (.iconst 0, 1) := dk_3 (dk_at dksX6_copy_6 12 rfl rfl)
theorem dX6_copy_155 : decode cX6_copy 155 = .ok (.istore 6, 2) := dk_54 6 (dk_at dksX6_copy_6 13 rfl rfl)
theorem dX6_copy_157 : decode cX6_copy 157 = .ok (.iload 6, 2) := dk_21 6 (dk_at dksX6_copy_6 15 rfl rfl)
theorem dX6_copy_159 : decode cX6_copy 159 = .ok (.iload 5, 2) := dk_21 5 (dk_at dksX6_copy_6 17 rfl rfl)
theorem dX6_copy_161 : decode cX6_copy 161 = .ok (.if_icmp .ge 31, 3) := dk_162 0 31 (dk_at dksX6_copy_6 19 rfl rfl)
theorem dX6_copy_164 : decode cX6_copy 164 = .ok (.aload_n 0, 1) := dk_42 (dk_at dksX6_copy_6 22 rfl rfl)
theorem dX6_copy_165 : decode cX6_copy 165 = .ok (.getfield 107, 3) := dk_180 0 107 (dk_at dksX6_copy_7 0 rfl rfl)
theorem dX6_copy_168 : decode cX6_copy 168 = .ok (.bipush 60, 2) := dk_16 60 (dk_at dksX6_copy_7 3 rfl rfl)
theorem dX6_copy_170 : decode cX6_copy 170 = .ok (.iload_n 3, 1) := dk_29 (dk_at dksX6_copy_7 5 rfl rfl)
theorem dX6_copy_171 : decode cX6_copy 171 = .ok (.imul, 1) := dk_104 (dk_at dksX6_copy_7 6 rfl rfl)
theorem dX6_copy_172 : decode cX6_copy 172 = .ok (.iload 4, 2) := dk_21 4 (dk_at dksX6_copy_7 7 rfl rfl)
theorem dX6_copy_174 : decode cX6_copy 174 = .ok (.iadd, 1) := dk_96 (dk_at dksX6_copy_7 9 rfl rfl)
theorem dX6_copy_175 : decode cX6_copy 175 = .ok (.iload 6, 2) := dk_21 6 (dk_at dksX6_copy_7 10 rfl rfl)
theorem dX6_copy_177 : decode cX6_copy 177 = .ok (.iadd, 1) := dk_96 (dk_at dksX6_copy_7 12 rfl rfl)
theorem dX6_copy_178 : decode cX6_copy 178 = .ok (.aload_n 0, 1) := dk_42 (dk_at dksX6_copy_7 13 rfl rfl)
theorem dX6_copy_179 : decode cX6_copy 179 = .ok (.getfield 110, 3) := dk_180 0 110 (dk_at dksX6_copy_7 14 rfl rfl)
theorem dX6_copy_182 : decode cX6_copy 182 = .ok (.iload 6, 2) := dk_21 6 (dk_at dksX6_copy_7 17 rfl rfl)
theorem dX6_copy_184 : decode cX6_copy 184 = .ok (.iaload, 1) := dk_46 (dk_at dksX6_copy_7 19 rfl rfl)
theorem dX6_copy_185 : decode cX6_copy 185 = .ok (.iastore, 1) := dk_79 (dk_at dksX6_copy_7 20 rfl rfl)
theorem dX6_copy_186 : decode cX6_copy 186 = .ok (.iinc 6 1, 3) := dk_132 6 1 (dk_at dksX6_copy_7 21 rfl rfl)
theorem dX6_copy_189 : decode cX6_copy 189 = .ok (.goto (-32), 3) := dk_167 255 224 (dk_at dksX6_copy_8 0 rfl rfl)
theorem dX6_copy_192 : decode cX6_copy 192 = .ok (.iconst 1, 1) := dk_4 (dk_at dksX6_copy_8 3 rfl rfl)
theorem dX6_copy_193 : decode cX6_copy 193 = .ok (.ireturn, 1) := dk_172 (dk_at dksX6_copy_8 4 rfl rfl)
abbrev cX6_write : ByteArray := prog_13_method_98_code
def yX6_write : MethodName := ⟨RX6, "write", "(II)I"⟩
def dkwX6_write_3 : List UInt8 := [182, 1, 82, 132, 3, 1, 167, 255, 220, 29, 172]
abbrev dktX6_write_3 : List UInt8 := dkwX6_write_3 ++ []
def dkwX6_write_2 : List UInt8 := [162, 0, 32, 29, 16, 12, 162, 0, 26, 42, 28, 29, 42, 180, 0, 61, 16, 12, 27, 104, 29, 96, 46]
abbrev dktX6_write_2 : List UInt8 := dkwX6_write_2 ++ dktX6_write_3
def dkwX6_write_1 : List UInt8 := [154, 0, 9, 42, 4, 182, 0, 175, 172, 42, 182, 0, 239, 3, 62, 29, 42, 180, 0, 104, 28, 46]
abbrev dktX6_write_1 : List UInt8 := dkwX6_write_1 ++ dktX6_write_2
def dkwX6_write_0 : List UInt8 := [27, 184, 0, 166, 153, 0, 10, 28, 184, 0, 172, 154, 0, 6, 16, 254, 172, 42, 180, 0, 97, 28, 51]
abbrev dktX6_write_0 : List UInt8 := dkwX6_write_0 ++ dktX6_write_1
theorem dksX6_write_0 : cX6_write.data.toList.drop 0 = dktX6_write_0 := by decide +kernel
theorem dksX6_write_1 : cX6_write.data.toList.drop 23 = dktX6_write_1 := dk_seg dksX6_write_0 23 rfl rfl
theorem dksX6_write_2 : cX6_write.data.toList.drop 45 = dktX6_write_2 := dk_seg dksX6_write_1 22 rfl rfl
theorem dksX6_write_3 : cX6_write.data.toList.drop 68 = dktX6_write_3 := dk_seg dksX6_write_2 23 rfl rfl
theorem dX6_write_0 : decode cX6_write 0 = .ok (.iload_n 1, 1) := dk_27 (dk_at dksX6_write_0 0 rfl rfl)
theorem dX6_write_1 : decode cX6_write 1 = .ok (.invokestatic 166, 3) := dk_184 0 166 (dk_at dksX6_write_0 1 rfl rfl)
theorem dX6_write_4 : decode cX6_write 4 = .ok (.ifCond .eq 10, 3) := dk_153 0 10 (dk_at dksX6_write_0 4 rfl rfl)
theorem dX6_write_7 : decode cX6_write 7 = .ok (.iload_n 2, 1) := dk_28 (dk_at dksX6_write_0 7 rfl rfl)
theorem dX6_write_8 : decode cX6_write 8 = .ok (.invokestatic 172, 3) := dk_184 0 172 (dk_at dksX6_write_0 8 rfl rfl)
theorem dX6_write_11 : decode cX6_write 11 = .ok (.ifCond .ne 6, 3) := dk_154 0 6 (dk_at dksX6_write_0 11 rfl rfl)
theorem dX6_write_14 : decode cX6_write 14 = .ok (.bipush (-2), 2) := dk_16 254 (dk_at dksX6_write_0 14 rfl rfl)
theorem dX6_write_16 : decode cX6_write 16 = .ok (.ireturn, 1) := dk_172 (dk_at dksX6_write_0 16 rfl rfl)
theorem dX6_write_17 : decode cX6_write 17 = .ok (.aload_n 0, 1) := dk_42 (dk_at dksX6_write_0 17 rfl rfl)
theorem dX6_write_18 : decode cX6_write 18 = .ok (.getfield 97, 3) := dk_180 0 97 (dk_at dksX6_write_0 18 rfl rfl)
theorem dX6_write_21 : decode cX6_write 21 = .ok (.iload_n 2, 1) := dk_28 (dk_at dksX6_write_0 21 rfl rfl)
theorem dX6_write_22 : decode cX6_write 22 = .ok (.baload, 1) := dk_51 (dk_at dksX6_write_0 22 rfl rfl)
theorem dX6_write_23 : decode cX6_write 23 = .ok (.ifCond .ne 9, 3) := dk_154 0 9 (dk_at dksX6_write_1 0 rfl rfl)
theorem dX6_write_26 : decode cX6_write 26 = .ok (.aload_n 0, 1) := dk_42 (dk_at dksX6_write_1 3 rfl rfl)
theorem dX6_write_27 : decode cX6_write 27 = .ok (.iconst 1, 1) := dk_4 (dk_at dksX6_write_1 4 rfl rfl)
theorem dX6_write_28 : decode cX6_write 28 = .ok (.invokevirtual 175, 3) := dk_182 0 175 (dk_at dksX6_write_1 5 rfl rfl)
theorem dX6_write_31 : decode cX6_write 31 = .ok (.ireturn, 1) := dk_172 (dk_at dksX6_write_1 8 rfl rfl)
theorem dX6_write_32 : decode cX6_write 32 = .ok (.aload_n 0, 1) := dk_42 (dk_at dksX6_write_1 9 rfl rfl)
theorem dX6_write_33 : decode cX6_write 33 = .ok (.invokevirtual 239, 3) := dk_182 0 239 (dk_at dksX6_write_1 10 rfl rfl)
theorem dX6_write_36 : decode cX6_write 36 = .ok (.iconst 0, 1) := dk_3 (dk_at dksX6_write_1 13 rfl rfl)
theorem dX6_write_37 : decode cX6_write 37 = .ok (.istore_n 3, 1) := dk_62 (dk_at dksX6_write_1 14 rfl rfl)
theorem dX6_write_38 : decode cX6_write 38 = .ok (.iload_n 3, 1) := dk_29 (dk_at dksX6_write_1 15 rfl rfl)
theorem dX6_write_39 : decode cX6_write 39 = .ok (.aload_n 0, 1) := dk_42 (dk_at dksX6_write_1 16 rfl rfl)
theorem dX6_write_40 : decode cX6_write 40 = .ok (.getfield 104, 3) := dk_180 0 104 (dk_at dksX6_write_1 17 rfl rfl)
theorem dX6_write_43 : decode cX6_write 43 = .ok (.iload_n 2, 1) := dk_28 (dk_at dksX6_write_1 20 rfl rfl)
theorem dX6_write_44 : decode cX6_write 44 = .ok (.iaload, 1) := dk_46 (dk_at dksX6_write_1 21 rfl rfl)
theorem dX6_write_45 : decode cX6_write 45 = .ok (.if_icmp .ge 32, 3) := dk_162 0 32 (dk_at dksX6_write_2 0 rfl rfl)
theorem dX6_write_48 : decode cX6_write 48 = .ok (.iload_n 3, 1) := dk_29 (dk_at dksX6_write_2 3 rfl rfl)
theorem dX6_write_49 : decode cX6_write 49 = .ok (.bipush 12, 2) := dk_16 12 (dk_at dksX6_write_2 4 rfl rfl)
theorem dX6_write_51 : decode cX6_write 51 = .ok (.if_icmp .ge 26, 3) := dk_162 0 26 (dk_at dksX6_write_2 6 rfl rfl)
theorem dX6_write_54 : decode cX6_write 54 = .ok (.aload_n 0, 1) := dk_42 (dk_at dksX6_write_2 9 rfl rfl)
theorem dX6_write_55 : decode cX6_write 55 = .ok (.iload_n 2, 1) := dk_28 (dk_at dksX6_write_2 10 rfl rfl)
theorem dX6_write_56 : decode cX6_write 56 = .ok (.iload_n 3, 1) := dk_29 (dk_at dksX6_write_2 11 rfl rfl)
theorem dX6_write_57 : decode cX6_write 57 = .ok (.aload_n 0, 1) := dk_42 (dk_at dksX6_write_2 12 rfl rfl)
theorem dX6_write_58 : decode cX6_write 58 = .ok (.getfield 61, 3) := dk_180 0 61 (dk_at dksX6_write_2 13 rfl rfl)
theorem dX6_write_61 : decode cX6_write 61 = .ok (.bipush 12, 2) := dk_16 12 (dk_at dksX6_write_2 16 rfl rfl)
theorem dX6_write_63 : decode cX6_write 63 = .ok (.iload_n 1, 1) := dk_27 (dk_at dksX6_write_2 18 rfl rfl)
theorem dX6_write_64 : decode cX6_write 64 = .ok (.imul, 1) := dk_104 (dk_at dksX6_write_2 19 rfl rfl)
theorem dX6_write_65 : decode cX6_write 65 = .ok (.iload_n 3, 1) := dk_29 (dk_at dksX6_write_2 20 rfl rfl)
theorem dX6_write_66 : decode cX6_write 66 = .ok (.iadd, 1) := dk_96 (dk_at dksX6_write_2 21 rfl rfl)
theorem dX6_write_67 : decode cX6_write 67 = .ok (.iaload, 1) := dk_46 (dk_at dksX6_write_2 22 rfl rfl)
theorem dX6_write_68 : decode cX6_write 68 = .ok (.invokevirtual 338, 3) := dk_182 1 82 (dk_at dksX6_write_3 0 rfl rfl)
theorem dX6_write_71 : decode cX6_write 71 = .ok (.iinc 3 1, 3) := dk_132 3 1 (dk_at dksX6_write_3 3 rfl rfl)
theorem dX6_write_74 : decode cX6_write 74 = .ok (.goto (-36), 3) := dk_167 255 220 (dk_at dksX6_write_3 6 rfl rfl)
theorem dX6_write_77 : decode cX6_write 77 = .ok (.iload_n 3, 1) := dk_29 (dk_at dksX6_write_3 9 rfl rfl)
theorem dX6_write_78 : decode cX6_write 78 = .ok (.ireturn, 1) := dk_172 (dk_at dksX6_write_3 10 rfl rfl)
abbrev cX6_count : ByteArray := prog_13_method_100_code
def yX6_count : MethodName := ⟨RX6, "count", "(I)I"⟩
def dkwX6_count_3 : List UInt8 := [172, 42, 180, 1, 76, 172, 16, 254, 172]
abbrev dktX6_count_3 : List UInt8 := dkwX6_count_3 ++ []
def dkwX6_count_2 : List UInt8 := [42, 27, 182, 1, 86, 172, 42, 180, 0, 169, 172, 42, 180, 0, 7, 27, 5, 100, 46, 172, 42, 180, 1, 41]
abbrev dktX6_count_2 : List UInt8 := dkwX6_count_2 ++ dktX6_count_3
def dkwX6_count_1 : List UInt8 := [170, 0, 0, 0, 0, 0, 81, 0, 0, 0, 0, 0, 0, 0, 8, 0, 0, 0, 51, 0, 0, 0, 57, 0, 0, 0, 62, 0, 0, 0, 62, 0, 0, 0, 51, 0, 0, 0, 51, 0, 0, 0, 51, 0, 0, 0, 71, 0, 0, 0, 76]
abbrev dktX6_count_1 : List UInt8 := dkwX6_count_1 ++ dktX6_count_2
def dkwX6_count_0 : List UInt8 := [27]
abbrev dktX6_count_0 : List UInt8 := dkwX6_count_0 ++ dktX6_count_1
theorem dksX6_count_0 : cX6_count.data.toList.drop 0 = dktX6_count_0 := by decide +kernel
theorem dksX6_count_1 : cX6_count.data.toList.drop 1 = dktX6_count_1 := dk_seg dksX6_count_0 1 rfl rfl
theorem dksX6_count_2 : cX6_count.data.toList.drop 52 = dktX6_count_2 := dk_seg dksX6_count_1 51 rfl rfl
theorem dksX6_count_3 : cX6_count.data.toList.drop 76 = dktX6_count_3 := dk_seg dksX6_count_2 24 rfl rfl
theorem dX6_count_0 : decode cX6_count 0 = .ok (.iload_n 1, 1) := dk_27 (dk_at dksX6_count_0 0 rfl rfl)
theorem dX6_count_1 : decode cX6_count 1 = .ok (.tableswitch 81 0 8 #[51, 57, 62, 62, 51, 51, 51, 71, 76], 51) := by decide +kernel
theorem dX6_count_52 : decode cX6_count 52 = .ok (.aload_n 0, 1) := dk_42 (dk_at dksX6_count_2 0 rfl rfl)
theorem dX6_count_53 : decode cX6_count 53 = .ok (.iload_n 1, 1) := dk_27 (dk_at dksX6_count_2 1 rfl rfl)
theorem dX6_count_54 : decode cX6_count 54 = .ok (.invokevirtual 342, 3) := dk_182 1 86 (dk_at dksX6_count_2 2 rfl rfl)
theorem dX6_count_57 : decode cX6_count 57 = .ok (.ireturn, 1) := dk_172 (dk_at dksX6_count_2 5 rfl rfl)
theorem dX6_count_58 : decode cX6_count 58 = .ok (.aload_n 0, 1) := dk_42 (dk_at dksX6_count_2 6 rfl rfl)
theorem dX6_count_59 : decode cX6_count 59 = .ok (.getfield 169, 3) := dk_180 0 169 (dk_at dksX6_count_2 7 rfl rfl)
theorem dX6_count_62 : decode cX6_count 62 = .ok (.ireturn, 1) := dk_172 (dk_at dksX6_count_2 10 rfl rfl)
theorem dX6_count_63 : decode cX6_count 63 = .ok (.aload_n 0, 1) := dk_42 (dk_at dksX6_count_2 11 rfl rfl)
theorem dX6_count_64 : decode cX6_count 64 = .ok (.getfield 7, 3) := dk_180 0 7 (dk_at dksX6_count_2 12 rfl rfl)
theorem dX6_count_67 : decode cX6_count 67 = .ok (.iload_n 1, 1) := dk_27 (dk_at dksX6_count_2 15 rfl rfl)
theorem dX6_count_68 : decode cX6_count 68 = .ok (.iconst 2, 1) := dk_5 (dk_at dksX6_count_2 16 rfl rfl)
theorem dX6_count_69 : decode cX6_count 69 = .ok (.isub, 1) := dk_100 (dk_at dksX6_count_2 17 rfl rfl)
theorem dX6_count_70 : decode cX6_count 70 = .ok (.iaload, 1) := dk_46 (dk_at dksX6_count_2 18 rfl rfl)
theorem dX6_count_71 : decode cX6_count 71 = .ok (.ireturn, 1) := dk_172 (dk_at dksX6_count_2 19 rfl rfl)
theorem dX6_count_72 : decode cX6_count 72 = .ok (.aload_n 0, 1) := dk_42 (dk_at dksX6_count_2 20 rfl rfl)
theorem dX6_count_73 : decode cX6_count 73 = .ok (.getfield 297, 3) := dk_180 1 41 (dk_at dksX6_count_2 21 rfl rfl)
theorem dX6_count_76 : decode cX6_count 76 = .ok (.ireturn, 1) := dk_172 (dk_at dksX6_count_3 0 rfl rfl)
theorem dX6_count_77 : decode cX6_count 77 = .ok (.aload_n 0, 1) := dk_42 (dk_at dksX6_count_3 1 rfl rfl)
theorem dX6_count_78 : decode cX6_count 78 = .ok (.getfield 332, 3) := dk_180 1 76 (dk_at dksX6_count_3 2 rfl rfl)
theorem dX6_count_81 : decode cX6_count 81 = .ok (.ireturn, 1) := dk_172 (dk_at dksX6_count_3 5 rfl rfl)
theorem dX6_count_82 : decode cX6_count 82 = .ok (.bipush (-2), 2) := dk_16 254 (dk_at dksX6_count_3 6 rfl rfl)
theorem dX6_count_84 : decode cX6_count 84 = .ok (.ireturn, 1) := dk_172 (dk_at dksX6_count_3 8 rfl rfl)
abbrev cX6_sumOf : ByteArray := prog_13_method_99_code
def yX6_sumOf : MethodName := ⟨RX6, "sumOf", "(I)I"⟩
def dkwX6_sumOf_4 : List UInt8 := [180, 0, 123, 172]
abbrev dktX6_sumOf_4 : List UInt8 := dkwX6_sumOf_4 ++ []
def dkwX6_sumOf_3 : List UInt8 := [167, 0, 25, 27, 7, 160, 0, 7, 28, 167, 0, 16, 27, 8, 160, 0, 7, 29, 167, 0, 7, 42]
abbrev dktX6_sumOf_3 : List UInt8 := dkwX6_sumOf_3 ++ dktX6_sumOf_4
def dkwX6_sumOf_2 : List UInt8 := [29, 42, 180, 0, 76, 21, 4, 46, 96, 62, 132, 4, 1, 167, 255, 236, 27, 154, 0, 10, 42, 180, 0, 134]
abbrev dktX6_sumOf_2 : List UInt8 := dkwX6_sumOf_2 ++ dktX6_sumOf_3
def dkwX6_sumOf_1 : List UInt8 := [180, 0, 58, 21, 4, 46, 96, 61, 132, 4, 1, 167, 255, 234, 3, 54, 4, 21, 4, 16, 20, 162, 0, 19]
abbrev dktX6_sumOf_1 : List UInt8 := dkwX6_sumOf_1 ++ dktX6_sumOf_2
def dkwX6_sumOf_0 : List UInt8 := [42, 182, 0, 239, 3, 61, 3, 62, 3, 54, 4, 21, 4, 42, 180, 0, 134, 162, 0, 19, 28, 42]
abbrev dktX6_sumOf_0 : List UInt8 := dkwX6_sumOf_0 ++ dktX6_sumOf_1
theorem dksX6_sumOf_0 : cX6_sumOf.data.toList.drop 0 = dktX6_sumOf_0 := by decide +kernel
theorem dksX6_sumOf_1 : cX6_sumOf.data.toList.drop 22 = dktX6_sumOf_1 := dk_seg dksX6_sumOf_0 22 rfl rfl
theorem dksX6_sumOf_2 : cX6_sumOf.data.toList.drop 46 = dktX6_sumOf_2 := dk_seg dksX6_sumOf_1 24 rfl rfl
theorem dksX6_sumOf_3 : cX6_sumOf.data.toList.drop 70 = dktX6_sumOf_3 := dk_seg dksX6_sumOf_2 24 rfl rfl
theorem dksX6_sumOf_4 : cX6_sumOf.data.toList.drop 92 = dktX6_sumOf_4 := dk_seg dksX6_sumOf_3 22 rfl rfl
theorem dX6_sumOf_0 : decode cX6_sumOf 0 = .ok (.aload_n 0, 1) := dk_42 (dk_at dksX6_sumOf_0 0 rfl rfl)
theorem dX6_sumOf_1 : decode cX6_sumOf 1 = .ok (.invokevirtual 239, 3) := dk_182 0 239 (dk_at dksX6_sumOf_0 1 rfl rfl)
theorem dX6_sumOf_4 : decode cX6_sumOf 4 = .ok (.iconst 0, 1) := dk_3 (dk_at dksX6_sumOf_0 4 rfl rfl)
theorem dX6_sumOf_5 : decode cX6_sumOf 5 = .ok (.istore_n 2, 1) := dk_61 (dk_at dksX6_sumOf_0 5 rfl rfl)
theorem dX6_sumOf_6 : decode cX6_sumOf 6 = .ok (.iconst 0, 1) := dk_3 (dk_at dksX6_sumOf_0 6 rfl rfl)
theorem dX6_sumOf_7 : decode cX6_sumOf 7 = .ok (.istore_n 3, 1) := dk_62 (dk_at dksX6_sumOf_0 7 rfl rfl)
theorem dX6_sumOf_8 : decode cX6_sumOf 8 = .ok (.iconst 0, 1) := dk_3 (dk_at dksX6_sumOf_0 8 rfl rfl)
theorem dX6_sumOf_9 : decode cX6_sumOf 9 = .ok (.istore 4, 2) := dk_54 4 (dk_at dksX6_sumOf_0 9 rfl rfl)
theorem dX6_sumOf_11 : decode cX6_sumOf 11 = .ok (.iload 4, 2) := dk_21 4 (dk_at dksX6_sumOf_0 11 rfl rfl)
theorem dX6_sumOf_13 : decode cX6_sumOf 13 = .ok (.aload_n 0, 1) := dk_42 (dk_at dksX6_sumOf_0 13 rfl rfl)
theorem dX6_sumOf_14 : decode cX6_sumOf 14 = .ok (.getfield 134, 3) := dk_180 0 134 (dk_at dksX6_sumOf_0 14 rfl rfl)
theorem dX6_sumOf_17 : decode cX6_sumOf 17 = .ok (.if_icmp .ge 19, 3) := dk_162 0 19 (dk_at dksX6_sumOf_0 17 rfl rfl)
theorem dX6_sumOf_20 : decode cX6_sumOf 20 = .ok (.iload_n 2, 1) := dk_28 (dk_at dksX6_sumOf_0 20 rfl rfl)
theorem dX6_sumOf_21 : decode cX6_sumOf 21 = .ok (.aload_n 0, 1) := dk_42 (dk_at dksX6_sumOf_0 21 rfl rfl)
theorem dX6_sumOf_22 : decode cX6_sumOf 22 = .ok (.getfield 58, 3) := dk_180 0 58 (dk_at dksX6_sumOf_1 0 rfl rfl)
theorem dX6_sumOf_25 : decode cX6_sumOf 25 = .ok (.iload 4, 2) := dk_21 4 (dk_at dksX6_sumOf_1 3 rfl rfl)
theorem dX6_sumOf_27 : decode cX6_sumOf 27 = .ok (.iaload, 1) := dk_46 (dk_at dksX6_sumOf_1 5 rfl rfl)
theorem dX6_sumOf_28 : decode cX6_sumOf 28 = .ok (.iadd, 1) := dk_96 (dk_at dksX6_sumOf_1 6 rfl rfl)
theorem dX6_sumOf_29 : decode cX6_sumOf 29 = .ok (.istore_n 2, 1) := dk_61 (dk_at dksX6_sumOf_1 7 rfl rfl)
theorem dX6_sumOf_30 : decode cX6_sumOf 30 = .ok (.iinc 4 1, 3) := dk_132 4 1 (dk_at dksX6_sumOf_1 8 rfl rfl)
theorem dX6_sumOf_33 : decode cX6_sumOf 33 = .ok (.goto (-22), 3) := dk_167 255 234 (dk_at dksX6_sumOf_1 11 rfl rfl)
theorem dX6_sumOf_36 : decode cX6_sumOf 36 = .ok (.iconst 0, 1) := dk_3 (dk_at dksX6_sumOf_1 14 rfl rfl)
theorem dX6_sumOf_37 : decode cX6_sumOf 37 = .ok (.istore 4, 2) := dk_54 4 (dk_at dksX6_sumOf_1 15 rfl rfl)
theorem dX6_sumOf_39 : decode cX6_sumOf 39 = .ok (.iload 4, 2) := dk_21 4 (dk_at dksX6_sumOf_1 17 rfl rfl)
theorem dX6_sumOf_41 : decode cX6_sumOf 41 = .ok (.bipush 20, 2) := dk_16 20 (dk_at dksX6_sumOf_1 19 rfl rfl)
theorem dX6_sumOf_43 : decode cX6_sumOf 43 = .ok (.if_icmp .ge 19, 3) := dk_162 0 19 (dk_at dksX6_sumOf_1 21 rfl rfl)
theorem dX6_sumOf_46 : decode cX6_sumOf 46 = .ok (.iload_n 3, 1) := dk_29 (dk_at dksX6_sumOf_2 0 rfl rfl)
theorem dX6_sumOf_47 : decode cX6_sumOf 47 = .ok (.aload_n 0, 1) := dk_42 (dk_at dksX6_sumOf_2 1 rfl rfl)
theorem dX6_sumOf_48 : decode cX6_sumOf 48 = .ok (.getfield 76, 3) := dk_180 0 76 (dk_at dksX6_sumOf_2 2 rfl rfl)
theorem dX6_sumOf_51 : decode cX6_sumOf 51 = .ok (.iload 4, 2) := dk_21 4 (dk_at dksX6_sumOf_2 5 rfl rfl)
theorem dX6_sumOf_53 : decode cX6_sumOf 53 = .ok (.iaload, 1) := dk_46 (dk_at dksX6_sumOf_2 7 rfl rfl)
theorem dX6_sumOf_54 : decode cX6_sumOf 54 = .ok (.iadd, 1) := dk_96 (dk_at dksX6_sumOf_2 8 rfl rfl)
theorem dX6_sumOf_55 : decode cX6_sumOf 55 = .ok (.istore_n 3, 1) := dk_62 (dk_at dksX6_sumOf_2 9 rfl rfl)
theorem dX6_sumOf_56 : decode cX6_sumOf 56 = .ok (.iinc 4 1, 3) := dk_132 4 1 (dk_at dksX6_sumOf_2 10 rfl rfl)
theorem dX6_sumOf_59 : decode cX6_sumOf 59 = .ok (.goto (-20), 3) := dk_167 255 236 (dk_at dksX6_sumOf_2 13 rfl rfl)
theorem dX6_sumOf_62 : decode cX6_sumOf 62 = .ok (.iload_n 1, 1) := dk_27 (dk_at dksX6_sumOf_2 16 rfl rfl)
theorem dX6_sumOf_63 : decode cX6_sumOf 63 = .ok (.ifCond .ne 10, 3) := dk_154 0 10 (dk_at dksX6_sumOf_2 17 rfl rfl)
theorem dX6_sumOf_66 : decode cX6_sumOf 66 = .ok (.aload_n 0, 1) := dk_42 (dk_at dksX6_sumOf_2 20 rfl rfl)
theorem dX6_sumOf_67 : decode cX6_sumOf 67 = .ok (.getfield 134, 3) := dk_180 0 134 (dk_at dksX6_sumOf_2 21 rfl rfl)
theorem dX6_sumOf_70 : decode cX6_sumOf 70 = .ok (.goto 25, 3) := dk_167 0 25 (dk_at dksX6_sumOf_3 0 rfl rfl)
theorem dX6_sumOf_73 : decode cX6_sumOf 73 = .ok (.iload_n 1, 1) := dk_27 (dk_at dksX6_sumOf_3 3 rfl rfl)
theorem dX6_sumOf_74 : decode cX6_sumOf 74 = .ok (.iconst 4, 1) := dk_7 (dk_at dksX6_sumOf_3 4 rfl rfl)
theorem dX6_sumOf_75 : decode cX6_sumOf 75 = .ok (.if_icmp .ne 7, 3) := dk_160 0 7 (dk_at dksX6_sumOf_3 5 rfl rfl)
theorem dX6_sumOf_78 : decode cX6_sumOf 78 = .ok (.iload_n 2, 1) := dk_28 (dk_at dksX6_sumOf_3 8 rfl rfl)
theorem dX6_sumOf_79 : decode cX6_sumOf 79 = .ok (.goto 16, 3) := dk_167 0 16 (dk_at dksX6_sumOf_3 9 rfl rfl)
theorem dX6_sumOf_82 : decode cX6_sumOf 82 = .ok (.iload_n 1, 1) := dk_27 (dk_at dksX6_sumOf_3 12 rfl rfl)
theorem dX6_sumOf_83 : decode cX6_sumOf 83 = .ok (.iconst 5, 1) := dk_8 (dk_at dksX6_sumOf_3 13 rfl rfl)
theorem dX6_sumOf_84 : decode cX6_sumOf 84 = .ok (.if_icmp .ne 7, 3) := dk_160 0 7 (dk_at dksX6_sumOf_3 14 rfl rfl)
theorem dX6_sumOf_87 : decode cX6_sumOf 87 = .ok (.iload_n 3, 1) := dk_29 (dk_at dksX6_sumOf_3 17 rfl rfl)
theorem dX6_sumOf_88 : decode cX6_sumOf 88 = .ok (.goto 7, 3) := dk_167 0 7 (dk_at dksX6_sumOf_3 18 rfl rfl)
theorem dX6_sumOf_91 : decode cX6_sumOf 91 = .ok (.aload_n 0, 1) := dk_42 (dk_at dksX6_sumOf_3 21 rfl rfl)
theorem dX6_sumOf_92 : decode cX6_sumOf 92 = .ok (.getfield 123, 3) := dk_180 0 123 (dk_at dksX6_sumOf_4 0 rfl rfl)
theorem dX6_sumOf_95 : decode cX6_sumOf 95 = .ok (.ireturn, 1) := dk_172 (dk_at dksX6_sumOf_4 3 rfl rfl)
abbrev cX6_digest : ByteArray := prog_13_method_104_code
def yX6_digest : MethodName := ⟨RX6, "digest", "()J"⟩
def dkwX6_digest_15 : List UInt8 := [182, 1, 73, 133, 97, 64, 20, 1, 89, 31, 105, 42, 16, 7, 16, 6, 4, 182, 1, 73, 133, 97, 173]
abbrev dktX6_digest_15 : List UInt8 := dkwX6_digest_15 ++ []
def dkwX6_digest_14 : List UInt8 := [31, 105, 42, 8, 16, 9, 4, 182, 1, 64, 97, 64, 20, 1, 89, 31, 105, 42, 16, 7, 16, 6, 3]
abbrev dktX6_digest_14 : List UInt8 := dkwX6_digest_14 ++ dktX6_digest_15
def dkwX6_digest_13 : List UInt8 := [182, 1, 48, 133, 97, 64, 20, 1, 89, 31, 105, 42, 8, 16, 9, 3, 182, 1, 64, 97, 64, 20, 1, 89]
abbrev dktX6_digest_13 : List UInt8 := dkwX6_digest_13 ++ dktX6_digest_14
def dkwX6_digest_12 : List UInt8 := [29, 133, 97, 64, 20, 1, 89, 31, 105, 42, 29, 3, 182, 1, 38, 133, 97, 64, 20, 1, 89, 31, 105, 42]
abbrev dktX6_digest_12 : List UInt8 := dkwX6_digest_12 ++ dktX6_digest_13
def dkwX6_digest_11 : List UInt8 := [64, 20, 1, 89, 31, 105, 42, 4, 182, 1, 29, 133, 97, 64, 42, 182, 1, 35, 62, 20, 1, 89, 31, 105]
abbrev dktX6_digest_11 : List UInt8 := dkwX6_digest_11 ++ dktX6_digest_12
def dkwX6_digest_10 : List UInt8 := [31, 105, 42, 16, 8, 4, 182, 1, 26, 133, 97, 64, 20, 1, 89, 31, 105, 42, 3, 182, 1, 29, 133, 97]
abbrev dktX6_digest_10 : List UInt8 := dkwX6_digest_10 ++ dktX6_digest_11
def dkwX6_digest_9 : List UInt8 := [182, 1, 16, 133, 97, 64, 20, 1, 89, 31, 105, 42, 16, 8, 3, 182, 1, 26, 133, 97, 64, 20, 1, 89]
abbrev dktX6_digest_9 : List UInt8 := dkwX6_digest_9 ++ dktX6_digest_10
def dkwX6_digest_8 : List UInt8 := [132, 3, 1, 167, 255, 235, 20, 1, 89, 31, 105, 42, 182, 1, 13, 133, 97, 64, 20, 1, 89, 31, 105, 42]
abbrev dktX6_digest_8 : List UInt8 := dkwX6_digest_8 ++ dktX6_digest_9
def dkwX6_digest_7 : List UInt8 := [133, 97, 64, 3, 62, 29, 6, 162, 0, 22, 20, 1, 89, 31, 105, 42, 29, 182, 1, 10, 133, 97, 64]
abbrev dktX6_digest_7 : List UInt8 := dkwX6_digest_7 ++ dktX6_digest_8
def dkwX6_digest_6 : List UInt8 := [167, 255, 217, 20, 1, 89, 31, 105, 42, 182, 1, 1, 133, 97, 64, 20, 1, 89, 31, 105, 42, 182, 1, 7]
abbrev dktX6_digest_6 : List UInt8 := dkwX6_digest_6 ++ dktX6_digest_7
def dkwX6_digest_5 : List UInt8 := [20, 1, 89, 31, 105, 42, 29, 21, 4, 182, 0, 251, 133, 97, 64, 132, 4, 1, 167, 255, 232, 132, 3, 1]
abbrev dktX6_digest_5 : List UInt8 := dkwX6_digest_5 ++ dktX6_digest_6
def dkwX6_digest_4 : List UInt8 := [132, 3, 1, 167, 255, 238, 3, 62, 29, 16, 20, 162, 0, 39, 3, 54, 4, 21, 4, 6, 162, 0, 24]
abbrev dktX6_digest_4 : List UInt8 := dkwX6_digest_4 ++ dktX6_digest_5
def dkwX6_digest_3 : List UInt8 := [132, 3, 1, 167, 255, 240, 3, 62, 29, 42, 180, 0, 134, 162, 0, 16, 42, 31, 29, 182, 1, 104, 64]
abbrev dktX6_digest_3 : List UInt8 := dkwX6_digest_3 ++ dktX6_digest_4
def dkwX6_digest_2 : List UInt8 := [105, 42, 4, 182, 0, 148, 133, 97, 64, 3, 62, 29, 16, 12, 162, 0, 16, 42, 31, 29, 182, 1, 100, 64]
abbrev dktX6_digest_2 : List UInt8 := dkwX6_digest_2 ++ dktX6_digest_3
def dkwX6_digest_1 : List UInt8 := [64, 132, 3, 1, 167, 255, 234, 20, 1, 89, 31, 105, 42, 3, 182, 0, 148, 133, 97, 64, 20, 1, 89, 31]
abbrev dktX6_digest_1 : List UInt8 := dkwX6_digest_1 ++ dktX6_digest_2
def dkwX6_digest_0 : List UInt8 := [20, 1, 95, 64, 3, 62, 29, 16, 8, 162, 0, 22, 20, 1, 89, 31, 105, 42, 29, 182, 1, 97, 133, 97]
abbrev dktX6_digest_0 : List UInt8 := dkwX6_digest_0 ++ dktX6_digest_1
theorem dksX6_digest_0 : cX6_digest.data.toList.drop 0 = dktX6_digest_0 := by decide +kernel
theorem dksX6_digest_1 : cX6_digest.data.toList.drop 24 = dktX6_digest_1 := dk_seg dksX6_digest_0 24 rfl rfl
theorem dksX6_digest_2 : cX6_digest.data.toList.drop 48 = dktX6_digest_2 := dk_seg dksX6_digest_1 24 rfl rfl
theorem dksX6_digest_3 : cX6_digest.data.toList.drop 72 = dktX6_digest_3 := dk_seg dksX6_digest_2 24 rfl rfl
theorem dksX6_digest_4 : cX6_digest.data.toList.drop 95 = dktX6_digest_4 := dk_seg dksX6_digest_3 23 rfl rfl
theorem dksX6_digest_5 : cX6_digest.data.toList.drop 118 = dktX6_digest_5 := dk_seg dksX6_digest_4 23 rfl rfl
theorem dksX6_digest_6 : cX6_digest.data.toList.drop 142 = dktX6_digest_6 := dk_seg dksX6_digest_5 24 rfl rfl
theorem dksX6_digest_7 : cX6_digest.data.toList.drop 166 = dktX6_digest_7 := dk_seg dksX6_digest_6 24 rfl rfl
theorem dksX6_digest_8 : cX6_digest.data.toList.drop 189 = dktX6_digest_8 := dk_seg dksX6_digest_7 23 rfl rfl
theorem dksX6_digest_9 : cX6_digest.data.toList.drop 213 = dktX6_digest_9 := dk_seg dksX6_digest_8 24 rfl rfl
theorem dksX6_digest_10 : cX6_digest.data.toList.drop 237 = dktX6_digest_10 := dk_seg dksX6_digest_9 24 rfl rfl
theorem dksX6_digest_11 : cX6_digest.data.toList.drop 261 = dktX6_digest_11 := dk_seg dksX6_digest_10 24 rfl rfl
theorem dksX6_digest_12 : cX6_digest.data.toList.drop 285 = dktX6_digest_12 := dk_seg dksX6_digest_11 24 rfl rfl
theorem dksX6_digest_13 : cX6_digest.data.toList.drop 309 = dktX6_digest_13 := dk_seg dksX6_digest_12 24 rfl rfl
theorem dksX6_digest_14 : cX6_digest.data.toList.drop 333 = dktX6_digest_14 := dk_seg dksX6_digest_13 24 rfl rfl
theorem dksX6_digest_15 : cX6_digest.data.toList.drop 356 = dktX6_digest_15 := dk_seg dksX6_digest_14 23 rfl rfl
theorem dX6_digest_0 : decode cX6_digest 0 = .ok (.ldc2_w 351, 3) := dk_20 1 95 (dk_at dksX6_digest_0 0 rfl rfl)
theorem dX6_digest_3 : decode cX6_digest 3 = .ok (.lstore_n 1, 1) := dk_64 (dk_at dksX6_digest_0 3 rfl rfl)
theorem dX6_digest_4 : decode cX6_digest 4 = .ok (.iconst 0, 1) := dk_3 (dk_at dksX6_digest_0 4 rfl rfl)
theorem dX6_digest_5 : decode cX6_digest 5 = .ok (.istore_n 3, 1) := dk_62 (dk_at dksX6_digest_0 5 rfl rfl)
theorem dX6_digest_6 : decode cX6_digest 6 = .ok (.iload_n 3, 1) := dk_29 (dk_at dksX6_digest_0 6 rfl rfl)
theorem dX6_digest_7 : decode cX6_digest 7 = .ok (.bipush 8, 2) := dk_16 8 (dk_at dksX6_digest_0 7 rfl rfl)
theorem dX6_digest_9 : decode cX6_digest 9 = .ok (.if_icmp .ge 22, 3) := dk_162 0 22 (dk_at dksX6_digest_0 9 rfl rfl)
theorem dX6_digest_12 : decode cX6_digest 12 = .ok (.ldc2_w 345, 3) := dk_20 1 89 (dk_at dksX6_digest_0 12 rfl rfl)
theorem dX6_digest_15 : decode cX6_digest 15 = .ok (.lload_n 1, 1) := dk_31 (dk_at dksX6_digest_0 15 rfl rfl)
theorem dX6_digest_16 : decode cX6_digest 16 = .ok (.lmul, 1) := dk_105 (dk_at dksX6_digest_0 16 rfl rfl)
theorem dX6_digest_17 : decode cX6_digest 17 = .ok (.aload_n 0, 1) := dk_42 (dk_at dksX6_digest_0 17 rfl rfl)
theorem dX6_digest_18 : decode cX6_digest 18 = .ok (.iload_n 3, 1) := dk_29 (dk_at dksX6_digest_0 18 rfl rfl)
theorem dX6_digest_19 : decode cX6_digest 19 = .ok (.invokevirtual 353, 3) := dk_182 1 97 (dk_at dksX6_digest_0 19 rfl rfl)
theorem dX6_digest_22 : decode cX6_digest 22 = .ok (.i2l, 1) := dk_133 (dk_at dksX6_digest_0 22 rfl rfl)
theorem dX6_digest_23 : decode cX6_digest 23 = .ok (.ladd, 1) := dk_97 (dk_at dksX6_digest_0 23 rfl rfl)
theorem dX6_digest_24 : decode cX6_digest 24 = .ok (.lstore_n 1, 1) := dk_64 (dk_at dksX6_digest_1 0 rfl rfl)
theorem dX6_digest_25 : decode cX6_digest 25 = .ok (.iinc 3 1, 3) := dk_132 3 1 (dk_at dksX6_digest_1 1 rfl rfl)
theorem dX6_digest_28 : decode cX6_digest 28 = .ok (.goto (-22), 3) := dk_167 255 234 (dk_at dksX6_digest_1 4 rfl rfl)
theorem dX6_digest_31 : decode cX6_digest 31 = .ok (.ldc2_w 345, 3) := dk_20 1 89 (dk_at dksX6_digest_1 7 rfl rfl)
theorem dX6_digest_34 : decode cX6_digest 34 = .ok (.lload_n 1, 1) := dk_31 (dk_at dksX6_digest_1 10 rfl rfl)
theorem dX6_digest_35 : decode cX6_digest 35 = .ok (.lmul, 1) := dk_105 (dk_at dksX6_digest_1 11 rfl rfl)
theorem dX6_digest_36 : decode cX6_digest 36 = .ok (.aload_n 0, 1) := dk_42 (dk_at dksX6_digest_1 12 rfl rfl)
theorem dX6_digest_37 : decode cX6_digest 37 = .ok (.iconst 0, 1) := dk_3 (dk_at dksX6_digest_1 13 rfl rfl)
theorem dX6_digest_38 : decode cX6_digest 38 = .ok (.invokevirtual 148, 3) := dk_182 0 148 (dk_at dksX6_digest_1 14 rfl rfl)
theorem dX6_digest_41 : decode cX6_digest 41 = .ok (.i2l, 1) := dk_133 (dk_at dksX6_digest_1 17 rfl rfl)
theorem dX6_digest_42 : decode cX6_digest 42 = .ok (.ladd, 1) := dk_97 (dk_at dksX6_digest_1 18 rfl rfl)
theorem dX6_digest_43 : decode cX6_digest 43 = .ok (.lstore_n 1, 1) := dk_64 (dk_at dksX6_digest_1 19 rfl rfl)
theorem dX6_digest_44 : decode cX6_digest 44 = .ok (.ldc2_w 345, 3) := dk_20 1 89 (dk_at dksX6_digest_1 20 rfl rfl)
theorem dX6_digest_47 : decode cX6_digest 47 = .ok (.lload_n 1, 1) := dk_31 (dk_at dksX6_digest_1 23 rfl rfl)
theorem dX6_digest_48 : decode cX6_digest 48 = .ok (.lmul, 1) := dk_105 (dk_at dksX6_digest_2 0 rfl rfl)
theorem dX6_digest_49 : decode cX6_digest 49 = .ok (.aload_n 0, 1) := dk_42 (dk_at dksX6_digest_2 1 rfl rfl)
theorem dX6_digest_50 : decode cX6_digest 50 = .ok (.iconst 1, 1) := dk_4 (dk_at dksX6_digest_2 2 rfl rfl)
theorem dX6_digest_51 : decode cX6_digest 51 = .ok (.invokevirtual 148, 3) := dk_182 0 148 (dk_at dksX6_digest_2 3 rfl rfl)
theorem dX6_digest_54 : decode cX6_digest 54 = .ok (.i2l, 1) := dk_133 (dk_at dksX6_digest_2 6 rfl rfl)
theorem dX6_digest_55 : decode cX6_digest 55 = .ok (.ladd, 1) := dk_97 (dk_at dksX6_digest_2 7 rfl rfl)
theorem dX6_digest_56 : decode cX6_digest 56 = .ok (.lstore_n 1, 1) := dk_64 (dk_at dksX6_digest_2 8 rfl rfl)
theorem dX6_digest_57 : decode cX6_digest 57 = .ok (.iconst 0, 1) := dk_3 (dk_at dksX6_digest_2 9 rfl rfl)
theorem dX6_digest_58 : decode cX6_digest 58 = .ok (.istore_n 3, 1) := dk_62 (dk_at dksX6_digest_2 10 rfl rfl)
theorem dX6_digest_59 : decode cX6_digest 59 = .ok (.iload_n 3, 1) := dk_29 (dk_at dksX6_digest_2 11 rfl rfl)
theorem dX6_digest_60 : decode cX6_digest 60 = .ok (.bipush 12, 2) := dk_16 12 (dk_at dksX6_digest_2 12 rfl rfl)
theorem dX6_digest_62 : decode cX6_digest 62 = .ok (.if_icmp .ge 16, 3) := dk_162 0 16 (dk_at dksX6_digest_2 14 rfl rfl)
theorem dX6_digest_65 : decode cX6_digest 65 = .ok (.aload_n 0, 1) := dk_42 (dk_at dksX6_digest_2 17 rfl rfl)
theorem dX6_digest_66 : decode cX6_digest 66 = .ok (.lload_n 1, 1) := dk_31 (dk_at dksX6_digest_2 18 rfl rfl)
theorem dX6_digest_67 : decode cX6_digest 67 = .ok (.iload_n 3, 1) := dk_29 (dk_at dksX6_digest_2 19 rfl rfl)
theorem dX6_digest_68 : decode cX6_digest 68 = .ok (.invokevirtual 356, 3) := dk_182 1 100 (dk_at dksX6_digest_2 20 rfl rfl)
theorem dX6_digest_71 : decode cX6_digest 71 = .ok (.lstore_n 1, 1) := dk_64 (dk_at dksX6_digest_2 23 rfl rfl)
theorem dX6_digest_72 : decode cX6_digest 72 = .ok (.iinc 3 1, 3) := dk_132 3 1 (dk_at dksX6_digest_3 0 rfl rfl)
theorem dX6_digest_75 : decode cX6_digest 75 = .ok (.goto (-16), 3) := dk_167 255 240 (dk_at dksX6_digest_3 3 rfl rfl)
theorem dX6_digest_78 : decode cX6_digest 78 = .ok (.iconst 0, 1) := dk_3 (dk_at dksX6_digest_3 6 rfl rfl)
theorem dX6_digest_79 : decode cX6_digest 79 = .ok (.istore_n 3, 1) := dk_62 (dk_at dksX6_digest_3 7 rfl rfl)
theorem dX6_digest_80 : decode cX6_digest 80 = .ok (.iload_n 3, 1) := dk_29 (dk_at dksX6_digest_3 8 rfl rfl)
theorem dX6_digest_81 : decode cX6_digest 81 = .ok (.aload_n 0, 1) := dk_42 (dk_at dksX6_digest_3 9 rfl rfl)
theorem dX6_digest_82 : decode cX6_digest 82 = .ok (.getfield 134, 3) := dk_180 0 134 (dk_at dksX6_digest_3 10 rfl rfl)
theorem dX6_digest_85 : decode cX6_digest 85 = .ok (.if_icmp .ge 16, 3) := dk_162 0 16 (dk_at dksX6_digest_3 13 rfl rfl)
theorem dX6_digest_88 : decode cX6_digest 88 = .ok (.aload_n 0, 1) := dk_42 (dk_at dksX6_digest_3 16 rfl rfl)
theorem dX6_digest_89 : decode cX6_digest 89 = .ok (.lload_n 1, 1) := dk_31 (dk_at dksX6_digest_3 17 rfl rfl)
theorem dX6_digest_90 : decode cX6_digest 90 = .ok (.iload_n 3, 1) := dk_29 (dk_at dksX6_digest_3 18 rfl rfl)
theorem dX6_digest_91 : decode cX6_digest 91 = .ok (.invokevirtual 360, 3) := dk_182 1 104 (dk_at dksX6_digest_3 19 rfl rfl)
theorem dX6_digest_94 : decode cX6_digest 94 = .ok (.lstore_n 1, 1) := dk_64 (dk_at dksX6_digest_3 22 rfl rfl)
theorem dX6_digest_95 : decode cX6_digest 95 = .ok (.iinc 3 1, 3) := dk_132 3 1 (dk_at dksX6_digest_4 0 rfl rfl)
theorem dX6_digest_98 : decode cX6_digest 98 = .ok (.goto (-18), 3) := dk_167 255 238 (dk_at dksX6_digest_4 3 rfl rfl)
theorem dX6_digest_101 : decode cX6_digest 101 = .ok (.iconst 0, 1) := dk_3 (dk_at dksX6_digest_4 6 rfl rfl)
theorem dX6_digest_102 : decode cX6_digest 102 = .ok (.istore_n 3, 1) := dk_62 (dk_at dksX6_digest_4 7 rfl rfl)
theorem dX6_digest_103 : decode cX6_digest 103 = .ok (.iload_n 3, 1) := dk_29 (dk_at dksX6_digest_4 8 rfl rfl)
theorem dX6_digest_104 : decode cX6_digest 104 = .ok (.bipush 20, 2) := dk_16 20 (dk_at dksX6_digest_4 9 rfl rfl)
theorem dX6_digest_106 : decode cX6_digest 106 = .ok (.if_icmp .ge 39, 3) := dk_162 0 39 (dk_at dksX6_digest_4 11 rfl rfl)
theorem dX6_digest_109 : decode cX6_digest 109 = .ok (.iconst 0, 1) := dk_3 (dk_at dksX6_digest_4 14 rfl rfl)
theorem dX6_digest_110 : decode cX6_digest 110 = .ok (.istore 4, 2) := dk_54 4 (dk_at dksX6_digest_4 15 rfl rfl)
theorem dX6_digest_112 : decode cX6_digest 112 = .ok (.iload 4, 2) := dk_21 4 (dk_at dksX6_digest_4 17 rfl rfl)
theorem dX6_digest_114 : decode cX6_digest 114 = .ok (.iconst 3, 1) := dk_6 (dk_at dksX6_digest_4 19 rfl rfl)
theorem dX6_digest_115 : decode cX6_digest 115 = .ok (.if_icmp .ge 24, 3) := dk_162 0 24 (dk_at dksX6_digest_4 20 rfl rfl)
theorem dX6_digest_118 : decode cX6_digest 118 = .ok (.ldc2_w 345, 3) := dk_20 1 89 (dk_at dksX6_digest_5 0 rfl rfl)
theorem dX6_digest_121 : decode cX6_digest 121 = .ok (.lload_n 1, 1) := dk_31 (dk_at dksX6_digest_5 3 rfl rfl)
theorem dX6_digest_122 : decode cX6_digest 122 = .ok (.lmul, 1) := dk_105 (dk_at dksX6_digest_5 4 rfl rfl)
theorem dX6_digest_123 : decode cX6_digest 123 = .ok (.aload_n 0, 1) := dk_42 (dk_at dksX6_digest_5 5 rfl rfl)
theorem dX6_digest_124 : decode cX6_digest 124 = .ok (.iload_n 3, 1) := dk_29 (dk_at dksX6_digest_5 6 rfl rfl)
theorem dX6_digest_125 : decode cX6_digest 125 = .ok (.iload 4, 2) := dk_21 4 (dk_at dksX6_digest_5 7 rfl rfl)
theorem dX6_digest_127 : decode cX6_digest 127 = .ok (.invokevirtual 251, 3) := dk_182 0 251 (dk_at dksX6_digest_5 9 rfl rfl)
theorem dX6_digest_130 : decode cX6_digest 130 = .ok (.i2l, 1) := dk_133 (dk_at dksX6_digest_5 12 rfl rfl)
theorem dX6_digest_131 : decode cX6_digest 131 = .ok (.ladd, 1) := dk_97 (dk_at dksX6_digest_5 13 rfl rfl)
theorem dX6_digest_132 : decode cX6_digest 132 = .ok (.lstore_n 1, 1) := dk_64 (dk_at dksX6_digest_5 14 rfl rfl)
theorem dX6_digest_133 : decode cX6_digest 133 = .ok (.iinc 4 1, 3) := dk_132 4 1 (dk_at dksX6_digest_5 15 rfl rfl)
theorem dX6_digest_136 : decode cX6_digest 136 = .ok (.goto (-24), 3) := dk_167 255 232 (dk_at dksX6_digest_5 18 rfl rfl)
theorem dX6_digest_139 : decode cX6_digest 139 = .ok (.iinc 3 1, 3) := dk_132 3 1 (dk_at dksX6_digest_5 21 rfl rfl)
theorem dX6_digest_142 : decode cX6_digest 142 = .ok (.goto (-39), 3) := dk_167 255 217 (dk_at dksX6_digest_6 0 rfl rfl)
theorem dX6_digest_145 : decode cX6_digest 145 = .ok (.ldc2_w 345, 3) := dk_20 1 89 (dk_at dksX6_digest_6 3 rfl rfl)
theorem dX6_digest_148 : decode cX6_digest 148 = .ok (.lload_n 1, 1) := dk_31 (dk_at dksX6_digest_6 6 rfl rfl)
theorem dX6_digest_149 : decode cX6_digest 149 = .ok (.lmul, 1) := dk_105 (dk_at dksX6_digest_6 7 rfl rfl)
theorem dX6_digest_150 : decode cX6_digest 150 = .ok (.aload_n 0, 1) := dk_42 (dk_at dksX6_digest_6 8 rfl rfl)
theorem dX6_digest_151 : decode cX6_digest 151 = .ok (.invokevirtual 257, 3) := dk_182 1 1 (dk_at dksX6_digest_6 9 rfl rfl)
theorem dX6_digest_154 : decode cX6_digest 154 = .ok (.i2l, 1) := dk_133 (dk_at dksX6_digest_6 12 rfl rfl)
theorem dX6_digest_155 : decode cX6_digest 155 = .ok (.ladd, 1) := dk_97 (dk_at dksX6_digest_6 13 rfl rfl)
theorem dX6_digest_156 : decode cX6_digest 156 = .ok (.lstore_n 1, 1) := dk_64 (dk_at dksX6_digest_6 14 rfl rfl)
theorem dX6_digest_157 : decode cX6_digest 157 = .ok (.ldc2_w 345, 3) := dk_20 1 89 (dk_at dksX6_digest_6 15 rfl rfl)
theorem dX6_digest_160 : decode cX6_digest 160 = .ok (.lload_n 1, 1) := dk_31 (dk_at dksX6_digest_6 18 rfl rfl)
theorem dX6_digest_161 : decode cX6_digest 161 = .ok (.lmul, 1) := dk_105 (dk_at dksX6_digest_6 19 rfl rfl)
theorem dX6_digest_162 : decode cX6_digest 162 = .ok (.aload_n 0, 1) := dk_42 (dk_at dksX6_digest_6 20 rfl rfl)
theorem dX6_digest_163 : decode cX6_digest 163 = .ok (.invokevirtual 263, 3) := dk_182 1 7 (dk_at dksX6_digest_6 21 rfl rfl)
theorem dX6_digest_166 : decode cX6_digest 166 = .ok (.i2l, 1) := dk_133 (dk_at dksX6_digest_7 0 rfl rfl)
theorem dX6_digest_167 : decode cX6_digest 167 = .ok (.ladd, 1) := dk_97 (dk_at dksX6_digest_7 1 rfl rfl)
theorem dX6_digest_168 : decode cX6_digest 168 = .ok (.lstore_n 1, 1) := dk_64 (dk_at dksX6_digest_7 2 rfl rfl)
theorem dX6_digest_169 : decode cX6_digest 169 = .ok (.iconst 0, 1) := dk_3 (dk_at dksX6_digest_7 3 rfl rfl)
theorem dX6_digest_170 : decode cX6_digest 170 = .ok (.istore_n 3, 1) := dk_62 (dk_at dksX6_digest_7 4 rfl rfl)
theorem dX6_digest_171 : decode cX6_digest 171 = .ok (.iload_n 3, 1) := dk_29 (dk_at dksX6_digest_7 5 rfl rfl)
theorem dX6_digest_172 : decode cX6_digest 172 = .ok (.iconst 3, 1) := dk_6 (dk_at dksX6_digest_7 6 rfl rfl)
theorem dX6_digest_173 : decode cX6_digest 173 = .ok (.if_icmp .ge 22, 3) := dk_162 0 22 (dk_at dksX6_digest_7 7 rfl rfl)
theorem dX6_digest_176 : decode cX6_digest 176 = .ok (.ldc2_w 345, 3) := dk_20 1 89 (dk_at dksX6_digest_7 10 rfl rfl)
theorem dX6_digest_179 : decode cX6_digest 179 = .ok (.lload_n 1, 1) := dk_31 (dk_at dksX6_digest_7 13 rfl rfl)
theorem dX6_digest_180 : decode cX6_digest 180 = .ok (.lmul, 1) := dk_105 (dk_at dksX6_digest_7 14 rfl rfl)
theorem dX6_digest_181 : decode cX6_digest 181 = .ok (.aload_n 0, 1) := dk_42 (dk_at dksX6_digest_7 15 rfl rfl)
theorem dX6_digest_182 : decode cX6_digest 182 = .ok (.iload_n 3, 1) := dk_29 (dk_at dksX6_digest_7 16 rfl rfl)
theorem dX6_digest_183 : decode cX6_digest 183 = .ok (.invokevirtual 266, 3) := dk_182 1 10 (dk_at dksX6_digest_7 17 rfl rfl)
theorem dX6_digest_186 : decode cX6_digest 186 = .ok (.i2l, 1) := dk_133 (dk_at dksX6_digest_7 20 rfl rfl)
theorem dX6_digest_187 : decode cX6_digest 187 = .ok (.ladd, 1) := dk_97 (dk_at dksX6_digest_7 21 rfl rfl)
theorem dX6_digest_188 : decode cX6_digest 188 = .ok (.lstore_n 1, 1) := dk_64 (dk_at dksX6_digest_7 22 rfl rfl)
theorem dX6_digest_189 : decode cX6_digest 189 = .ok (.iinc 3 1, 3) := dk_132 3 1 (dk_at dksX6_digest_8 0 rfl rfl)
theorem dX6_digest_192 : decode cX6_digest 192 = .ok (.goto (-21), 3) := dk_167 255 235 (dk_at dksX6_digest_8 3 rfl rfl)
theorem dX6_digest_195 : decode cX6_digest 195 = .ok (.ldc2_w 345, 3) := dk_20 1 89 (dk_at dksX6_digest_8 6 rfl rfl)
theorem dX6_digest_198 : decode cX6_digest 198 = .ok (.lload_n 1, 1) := dk_31 (dk_at dksX6_digest_8 9 rfl rfl)
theorem dX6_digest_199 : decode cX6_digest 199 = .ok (.lmul, 1) := dk_105 (dk_at dksX6_digest_8 10 rfl rfl)
theorem dX6_digest_200 : decode cX6_digest 200 = .ok (.aload_n 0, 1) := dk_42 (dk_at dksX6_digest_8 11 rfl rfl)
theorem dX6_digest_201 : decode cX6_digest 201 = .ok (.invokevirtual 269, 3) := dk_182 1 13 (dk_at dksX6_digest_8 12 rfl rfl)
theorem dX6_digest_204 : decode cX6_digest 204 = .ok (.i2l, 1) := dk_133 (dk_at dksX6_digest_8 15 rfl rfl)
theorem dX6_digest_205 : decode cX6_digest 205 = .ok (.ladd, 1) := dk_97 (dk_at dksX6_digest_8 16 rfl rfl)
theorem dX6_digest_206 : decode cX6_digest 206 = .ok (.lstore_n 1, 1) := dk_64 (dk_at dksX6_digest_8 17 rfl rfl)
theorem dX6_digest_207 : decode cX6_digest 207 = .ok (.ldc2_w 345, 3) := dk_20 1 89 (dk_at dksX6_digest_8 18 rfl rfl)
theorem dX6_digest_210 : decode cX6_digest 210 = .ok (.lload_n 1, 1) := dk_31 (dk_at dksX6_digest_8 21 rfl rfl)
theorem dX6_digest_211 : decode cX6_digest 211 = .ok (.lmul, 1) := dk_105 (dk_at dksX6_digest_8 22 rfl rfl)
theorem dX6_digest_212 : decode cX6_digest 212 = .ok (.aload_n 0, 1) := dk_42 (dk_at dksX6_digest_8 23 rfl rfl)
theorem dX6_digest_213 : decode cX6_digest 213 = .ok (.invokevirtual 272, 3) := dk_182 1 16 (dk_at dksX6_digest_9 0 rfl rfl)
theorem dX6_digest_216 : decode cX6_digest 216 = .ok (.i2l, 1) := dk_133 (dk_at dksX6_digest_9 3 rfl rfl)
theorem dX6_digest_217 : decode cX6_digest 217 = .ok (.ladd, 1) := dk_97 (dk_at dksX6_digest_9 4 rfl rfl)
theorem dX6_digest_218 : decode cX6_digest 218 = .ok (.lstore_n 1, 1) := dk_64 (dk_at dksX6_digest_9 5 rfl rfl)
theorem dX6_digest_219 : decode cX6_digest 219 = .ok (.ldc2_w 345, 3) := dk_20 1 89 (dk_at dksX6_digest_9 6 rfl rfl)
theorem dX6_digest_222 : decode cX6_digest 222 = .ok (.lload_n 1, 1) := dk_31 (dk_at dksX6_digest_9 9 rfl rfl)
theorem dX6_digest_223 : decode cX6_digest 223 = .ok (.lmul, 1) := dk_105 (dk_at dksX6_digest_9 10 rfl rfl)
theorem dX6_digest_224 : decode cX6_digest 224 = .ok (.aload_n 0, 1) := dk_42 (dk_at dksX6_digest_9 11 rfl rfl)
theorem dX6_digest_225 : decode cX6_digest 225 = .ok (.bipush 8, 2) := dk_16 8 (dk_at dksX6_digest_9 12 rfl rfl)
theorem dX6_digest_227 : decode cX6_digest 227 = .ok (.iconst 0, 1) := dk_3 (dk_at dksX6_digest_9 14 rfl rfl)
theorem dX6_digest_228 : decode cX6_digest 228 = .ok (.invokevirtual 282, 3) := dk_182 1 26 (dk_at dksX6_digest_9 15 rfl rfl)
theorem dX6_digest_231 : decode cX6_digest 231 = .ok (.i2l, 1) := dk_133 (dk_at dksX6_digest_9 18 rfl rfl)
theorem dX6_digest_232 : decode cX6_digest 232 = .ok (.ladd, 1) := dk_97 (dk_at dksX6_digest_9 19 rfl rfl)
theorem dX6_digest_233 : decode cX6_digest 233 = .ok (.lstore_n 1, 1) := dk_64 (dk_at dksX6_digest_9 20 rfl rfl)
theorem dX6_digest_234 : decode cX6_digest 234 = .ok (.ldc2_w 345, 3) := dk_20 1 89 (dk_at dksX6_digest_9 21 rfl rfl)
theorem dX6_digest_237 : decode cX6_digest 237 = .ok (.lload_n 1, 1) := dk_31 (dk_at dksX6_digest_10 0 rfl rfl)
theorem dX6_digest_238 : decode cX6_digest 238 = .ok (.lmul, 1) := dk_105 (dk_at dksX6_digest_10 1 rfl rfl)
theorem dX6_digest_239 : decode cX6_digest 239 = .ok (.aload_n 0, 1) := dk_42 (dk_at dksX6_digest_10 2 rfl rfl)
theorem dX6_digest_240 : decode cX6_digest 240 = .ok (.bipush 8, 2) := dk_16 8 (dk_at dksX6_digest_10 3 rfl rfl)
theorem dX6_digest_242 : decode cX6_digest 242 = .ok (.iconst 1, 1) := dk_4 (dk_at dksX6_digest_10 5 rfl rfl)
theorem dX6_digest_243 : decode cX6_digest 243 = .ok (.invokevirtual 282, 3) := dk_182 1 26 (dk_at dksX6_digest_10 6 rfl rfl)
theorem dX6_digest_246 : decode cX6_digest 246 = .ok (.i2l, 1) := dk_133 (dk_at dksX6_digest_10 9 rfl rfl)
theorem dX6_digest_247 : decode cX6_digest 247 = .ok (.ladd, 1) := dk_97 (dk_at dksX6_digest_10 10 rfl rfl)
theorem dX6_digest_248 : decode cX6_digest 248 = .ok (.lstore_n 1, 1) := dk_64 (dk_at dksX6_digest_10 11 rfl rfl)
theorem dX6_digest_249 : decode cX6_digest 249 = .ok (.ldc2_w 345, 3) := dk_20 1 89 (dk_at dksX6_digest_10 12 rfl rfl)
theorem dX6_digest_252 : decode cX6_digest 252 = .ok (.lload_n 1, 1) := dk_31 (dk_at dksX6_digest_10 15 rfl rfl)
theorem dX6_digest_253 : decode cX6_digest 253 = .ok (.lmul, 1) := dk_105 (dk_at dksX6_digest_10 16 rfl rfl)
theorem dX6_digest_254 : decode cX6_digest 254 = .ok (.aload_n 0, 1) := dk_42 (dk_at dksX6_digest_10 17 rfl rfl)
theorem dX6_digest_255 : decode cX6_digest 255 = .ok (.iconst 0, 1) := dk_3 (dk_at dksX6_digest_10 18 rfl rfl)
theorem dX6_digest_256 : decode cX6_digest 256 = .ok (.invokevirtual 285, 3) := dk_182 1 29 (dk_at dksX6_digest_10 19 rfl rfl)
theorem dX6_digest_259 : decode cX6_digest 259 = .ok (.i2l, 1) := dk_133 (dk_at dksX6_digest_10 22 rfl rfl)
theorem dX6_digest_260 : decode cX6_digest 260 = .ok (.ladd, 1) := dk_97 (dk_at dksX6_digest_10 23 rfl rfl)
theorem dX6_digest_261 : decode cX6_digest 261 = .ok (.lstore_n 1, 1) := dk_64 (dk_at dksX6_digest_11 0 rfl rfl)
theorem dX6_digest_262 : decode cX6_digest 262 = .ok (.ldc2_w 345, 3) := dk_20 1 89 (dk_at dksX6_digest_11 1 rfl rfl)
theorem dX6_digest_265 : decode cX6_digest 265 = .ok (.lload_n 1, 1) := dk_31 (dk_at dksX6_digest_11 4 rfl rfl)
theorem dX6_digest_266 : decode cX6_digest 266 = .ok (.lmul, 1) := dk_105 (dk_at dksX6_digest_11 5 rfl rfl)
theorem dX6_digest_267 : decode cX6_digest 267 = .ok (.aload_n 0, 1) := dk_42 (dk_at dksX6_digest_11 6 rfl rfl)
theorem dX6_digest_268 : decode cX6_digest 268 = .ok (.iconst 1, 1) := dk_4 (dk_at dksX6_digest_11 7 rfl rfl)
theorem dX6_digest_269 : decode cX6_digest 269 = .ok (.invokevirtual 285, 3) := dk_182 1 29 (dk_at dksX6_digest_11 8 rfl rfl)
theorem dX6_digest_272 : decode cX6_digest 272 = .ok (.i2l, 1) := dk_133 (dk_at dksX6_digest_11 11 rfl rfl)
theorem dX6_digest_273 : decode cX6_digest 273 = .ok (.ladd, 1) := dk_97 (dk_at dksX6_digest_11 12 rfl rfl)
theorem dX6_digest_274 : decode cX6_digest 274 = .ok (.lstore_n 1, 1) := dk_64 (dk_at dksX6_digest_11 13 rfl rfl)
theorem dX6_digest_275 : decode cX6_digest 275 = .ok (.aload_n 0, 1) := dk_42 (dk_at dksX6_digest_11 14 rfl rfl)
theorem dX6_digest_276 : decode cX6_digest 276 = .ok (.invokevirtual 291, 3) := dk_182 1 35 (dk_at dksX6_digest_11 15 rfl rfl)
theorem dX6_digest_279 : decode cX6_digest 279 = .ok (.istore_n 3, 1) := dk_62 (dk_at dksX6_digest_11 18 rfl rfl)
theorem dX6_digest_280 : decode cX6_digest 280 = .ok (.ldc2_w 345, 3) := dk_20 1 89 (dk_at dksX6_digest_11 19 rfl rfl)
theorem dX6_digest_283 : decode cX6_digest 283 = .ok (.lload_n 1, 1) := dk_31 (dk_at dksX6_digest_11 22 rfl rfl)
theorem dX6_digest_284 : decode cX6_digest 284 = .ok (.lmul, 1) := dk_105 (dk_at dksX6_digest_11 23 rfl rfl)
theorem dX6_digest_285 : decode cX6_digest 285 = .ok (.iload_n 3, 1) := dk_29 (dk_at dksX6_digest_12 0 rfl rfl)
theorem dX6_digest_286 : decode cX6_digest 286 = .ok (.i2l, 1) := dk_133 (dk_at dksX6_digest_12 1 rfl rfl)
theorem dX6_digest_287 : decode cX6_digest 287 = .ok (.ladd, 1) := dk_97 (dk_at dksX6_digest_12 2 rfl rfl)
theorem dX6_digest_288 : decode cX6_digest 288 = .ok (.lstore_n 1, 1) := dk_64 (dk_at dksX6_digest_12 3 rfl rfl)
theorem dX6_digest_289 : decode cX6_digest 289 = .ok (.ldc2_w 345, 3) := dk_20 1 89 (dk_at dksX6_digest_12 4 rfl rfl)
theorem dX6_digest_292 : decode cX6_digest 292 = .ok (.lload_n 1, 1) := dk_31 (dk_at dksX6_digest_12 7 rfl rfl)
theorem dX6_digest_293 : decode cX6_digest 293 = .ok (.lmul, 1) := dk_105 (dk_at dksX6_digest_12 8 rfl rfl)
theorem dX6_digest_294 : decode cX6_digest 294 = .ok (.aload_n 0, 1) := dk_42 (dk_at dksX6_digest_12 9 rfl rfl)
theorem dX6_digest_295 : decode cX6_digest 295 = .ok (.iload_n 3, 1) := dk_29 (dk_at dksX6_digest_12 10 rfl rfl)
theorem dX6_digest_296 : decode cX6_digest 296 = .ok (.iconst 0, 1) := dk_3 (dk_at dksX6_digest_12 11 rfl rfl)
theorem dX6_digest_297 : decode cX6_digest 297 = .ok (.invokevirtual 294, 3) := dk_182 1 38 (dk_at dksX6_digest_12 12 rfl rfl)
theorem dX6_digest_300 : decode cX6_digest 300 = .ok (.i2l, 1) := dk_133 (dk_at dksX6_digest_12 15 rfl rfl)
theorem dX6_digest_301 : decode cX6_digest 301 = .ok (.ladd, 1) := dk_97 (dk_at dksX6_digest_12 16 rfl rfl)
theorem dX6_digest_302 : decode cX6_digest 302 = .ok (.lstore_n 1, 1) := dk_64 (dk_at dksX6_digest_12 17 rfl rfl)
theorem dX6_digest_303 : decode cX6_digest 303 = .ok (.ldc2_w 345, 3) := dk_20 1 89 (dk_at dksX6_digest_12 18 rfl rfl)
theorem dX6_digest_306 : decode cX6_digest 306 = .ok (.lload_n 1, 1) := dk_31 (dk_at dksX6_digest_12 21 rfl rfl)
theorem dX6_digest_307 : decode cX6_digest 307 = .ok (.lmul, 1) := dk_105 (dk_at dksX6_digest_12 22 rfl rfl)
theorem dX6_digest_308 : decode cX6_digest 308 = .ok (.aload_n 0, 1) := dk_42 (dk_at dksX6_digest_12 23 rfl rfl)
theorem dX6_digest_309 : decode cX6_digest 309 = .ok (.invokevirtual 304, 3) := dk_182 1 48 (dk_at dksX6_digest_13 0 rfl rfl)
theorem dX6_digest_312 : decode cX6_digest 312 = .ok (.i2l, 1) := dk_133 (dk_at dksX6_digest_13 3 rfl rfl)
theorem dX6_digest_313 : decode cX6_digest 313 = .ok (.ladd, 1) := dk_97 (dk_at dksX6_digest_13 4 rfl rfl)
theorem dX6_digest_314 : decode cX6_digest 314 = .ok (.lstore_n 1, 1) := dk_64 (dk_at dksX6_digest_13 5 rfl rfl)
theorem dX6_digest_315 : decode cX6_digest 315 = .ok (.ldc2_w 345, 3) := dk_20 1 89 (dk_at dksX6_digest_13 6 rfl rfl)
theorem dX6_digest_318 : decode cX6_digest 318 = .ok (.lload_n 1, 1) := dk_31 (dk_at dksX6_digest_13 9 rfl rfl)
theorem dX6_digest_319 : decode cX6_digest 319 = .ok (.lmul, 1) := dk_105 (dk_at dksX6_digest_13 10 rfl rfl)
theorem dX6_digest_320 : decode cX6_digest 320 = .ok (.aload_n 0, 1) := dk_42 (dk_at dksX6_digest_13 11 rfl rfl)
theorem dX6_digest_321 : decode cX6_digest 321 = .ok (.iconst 5, 1) := dk_8 (dk_at dksX6_digest_13 12 rfl rfl)
theorem dX6_digest_322 : decode cX6_digest 322 = .ok (.bipush 9, 2) := dk_16 9 (dk_at dksX6_digest_13 13 rfl rfl)
theorem dX6_digest_324 : decode cX6_digest 324 = .ok (.iconst 0, 1) := dk_3 (dk_at dksX6_digest_13 15 rfl rfl)
theorem dX6_digest_325 : decode cX6_digest 325 = .ok (.invokevirtual 320, 3) := dk_182 1 64 (dk_at dksX6_digest_13 16 rfl rfl)
theorem dX6_digest_328 : decode cX6_digest 328 = .ok (.ladd, 1) := dk_97 (dk_at dksX6_digest_13 19 rfl rfl)
theorem dX6_digest_329 : decode cX6_digest 329 = .ok (.lstore_n 1, 1) := dk_64 (dk_at dksX6_digest_13 20 rfl rfl)
theorem dX6_digest_330 : decode cX6_digest 330 = .ok (.ldc2_w 345, 3) := dk_20 1 89 (dk_at dksX6_digest_13 21 rfl rfl)
theorem dX6_digest_333 : decode cX6_digest 333 = .ok (.lload_n 1, 1) := dk_31 (dk_at dksX6_digest_14 0 rfl rfl)
theorem dX6_digest_334 : decode cX6_digest 334 = .ok (.lmul, 1) := dk_105 (dk_at dksX6_digest_14 1 rfl rfl)
theorem dX6_digest_335 : decode cX6_digest 335 = .ok (.aload_n 0, 1) := dk_42 (dk_at dksX6_digest_14 2 rfl rfl)
theorem dX6_digest_336 : decode cX6_digest 336 = .ok (.iconst 5, 1) := dk_8 (dk_at dksX6_digest_14 3 rfl rfl)
theorem dX6_digest_337 : decode cX6_digest 337 = .ok (.bipush 9, 2) := dk_16 9 (dk_at dksX6_digest_14 4 rfl rfl)
theorem dX6_digest_339 : decode cX6_digest 339 = .ok (.iconst 1, 1) := dk_4 (dk_at dksX6_digest_14 6 rfl rfl)
theorem dX6_digest_340 : decode cX6_digest 340 = .ok (.invokevirtual 320, 3) := dk_182 1 64 (dk_at dksX6_digest_14 7 rfl rfl)
theorem dX6_digest_343 : decode cX6_digest 343 = .ok (.ladd, 1) := dk_97 (dk_at dksX6_digest_14 10 rfl rfl)
theorem dX6_digest_344 : decode cX6_digest 344 = .ok (.lstore_n 1, 1) := dk_64 (dk_at dksX6_digest_14 11 rfl rfl)
theorem dX6_digest_345 : decode cX6_digest 345 = .ok (.ldc2_w 345, 3) := dk_20 1 89 (dk_at dksX6_digest_14 12 rfl rfl)
theorem dX6_digest_348 : decode cX6_digest 348 = .ok (.lload_n 1, 1) := dk_31 (dk_at dksX6_digest_14 15 rfl rfl)
theorem dX6_digest_349 : decode cX6_digest 349 = .ok (.lmul, 1) := dk_105 (dk_at dksX6_digest_14 16 rfl rfl)
theorem dX6_digest_350 : decode cX6_digest 350 = .ok (.aload_n 0, 1) := dk_42 (dk_at dksX6_digest_14 17 rfl rfl)
theorem dX6_digest_351 : decode cX6_digest 351 = .ok (.bipush 7, 2) := dk_16 7 (dk_at dksX6_digest_14 18 rfl rfl)
theorem dX6_digest_353 : decode cX6_digest 353 = .ok (.bipush 6, 2) := dk_16 6 (dk_at dksX6_digest_14 20 rfl rfl)
theorem dX6_digest_355 : decode cX6_digest 355 = .ok (.iconst 0, 1) := dk_3 (dk_at dksX6_digest_14 22 rfl rfl)
theorem dX6_digest_356 : decode cX6_digest 356 = .ok (.invokevirtual 329, 3) := dk_182 1 73 (dk_at dksX6_digest_15 0 rfl rfl)
theorem dX6_digest_359 : decode cX6_digest 359 = .ok (.i2l, 1) := dk_133 (dk_at dksX6_digest_15 3 rfl rfl)
theorem dX6_digest_360 : decode cX6_digest 360 = .ok (.ladd, 1) := dk_97 (dk_at dksX6_digest_15 4 rfl rfl)
theorem dX6_digest_361 : decode cX6_digest 361 = .ok (.lstore_n 1, 1) := dk_64 (dk_at dksX6_digest_15 5 rfl rfl)
theorem dX6_digest_362 : decode cX6_digest 362 = .ok (.ldc2_w 345, 3) := dk_20 1 89 (dk_at dksX6_digest_15 6 rfl rfl)
theorem dX6_digest_365 : decode cX6_digest 365 = .ok (.lload_n 1, 1) := dk_31 (dk_at dksX6_digest_15 9 rfl rfl)
theorem dX6_digest_366 : decode cX6_digest 366 = .ok (.lmul, 1) := dk_105 (dk_at dksX6_digest_15 10 rfl rfl)
theorem dX6_digest_367 : decode cX6_digest 367 = .ok (.aload_n 0, 1) := dk_42 (dk_at dksX6_digest_15 11 rfl rfl)
theorem dX6_digest_368 : decode cX6_digest 368 = .ok (.bipush 7, 2) := dk_16 7 (dk_at dksX6_digest_15 12 rfl rfl)
theorem dX6_digest_370 : decode cX6_digest 370 = .ok (.bipush 6, 2) := dk_16 6 (dk_at dksX6_digest_15 14 rfl rfl)
theorem dX6_digest_372 : decode cX6_digest 372 = .ok (.iconst 1, 1) := dk_4 (dk_at dksX6_digest_15 16 rfl rfl)
theorem dX6_digest_373 : decode cX6_digest 373 = .ok (.invokevirtual 329, 3) := dk_182 1 73 (dk_at dksX6_digest_15 17 rfl rfl)
theorem dX6_digest_376 : decode cX6_digest 376 = .ok (.i2l, 1) := dk_133 (dk_at dksX6_digest_15 20 rfl rfl)
theorem dX6_digest_377 : decode cX6_digest 377 = .ok (.ladd, 1) := dk_97 (dk_at dksX6_digest_15 21 rfl rfl)
theorem dX6_digest_378 : decode cX6_digest 378 = .ok (.lreturn, 1) := dk_173 (dk_at dksX6_digest_15 22 rfl rfl)
abbrev cX6_placeDigest : ByteArray := prog_13_method_101_code
def yX6_placeDigest : MethodName := ⟨RX6, "placeDigest", "(JI)J"⟩
def dkwX6_placeDigest_4 : List UInt8 := [182, 1, 54, 133, 97, 55, 4, 20, 1, 89, 22, 4, 105, 42, 29, 182, 1, 57, 133, 97, 173]
abbrev dktX6_placeDigest_4 : List UInt8 := dkwX6_placeDigest_4 ++ []
def dkwX6_placeDigest_3 : List UInt8 := [22, 4, 105, 42, 16, 19, 29, 4, 182, 0, 242, 133, 97, 55, 4, 20, 1, 89, 22, 4, 105, 42, 29]
abbrev dktX6_placeDigest_3 : List UInt8 := dkwX6_placeDigest_3 ++ dktX6_placeDigest_4
def dkwX6_placeDigest_2 : List UInt8 := [55, 4, 20, 1, 89, 22, 4, 105, 42, 16, 19, 29, 3, 182, 0, 242, 133, 97, 55, 4, 20, 1, 89]
abbrev dktX6_placeDigest_2 : List UInt8 := dkwX6_placeDigest_2 ++ dktX6_placeDigest_3
def dkwX6_placeDigest_1 : List UInt8 := [3, 182, 0, 242, 133, 97, 55, 4, 20, 1, 89, 22, 4, 105, 42, 16, 6, 29, 4, 182, 0, 242, 133, 97]
abbrev dktX6_placeDigest_1 : List UInt8 := dkwX6_placeDigest_1 ++ dktX6_placeDigest_2
def dkwX6_placeDigest_0 : List UInt8 := [20, 1, 89, 31, 105, 42, 29, 182, 0, 157, 133, 97, 55, 4, 20, 1, 89, 22, 4, 105, 42, 16, 6, 29]
abbrev dktX6_placeDigest_0 : List UInt8 := dkwX6_placeDigest_0 ++ dktX6_placeDigest_1
theorem dksX6_placeDigest_0 : cX6_placeDigest.data.toList.drop 0 = dktX6_placeDigest_0 := by decide +kernel
theorem dksX6_placeDigest_1 : cX6_placeDigest.data.toList.drop 24 = dktX6_placeDigest_1 := dk_seg dksX6_placeDigest_0 24 rfl rfl
theorem dksX6_placeDigest_2 : cX6_placeDigest.data.toList.drop 48 = dktX6_placeDigest_2 := dk_seg dksX6_placeDigest_1 24 rfl rfl
theorem dksX6_placeDigest_3 : cX6_placeDigest.data.toList.drop 71 = dktX6_placeDigest_3 := dk_seg dksX6_placeDigest_2 23 rfl rfl
theorem dksX6_placeDigest_4 : cX6_placeDigest.data.toList.drop 94 = dktX6_placeDigest_4 := dk_seg dksX6_placeDigest_3 23 rfl rfl
theorem dX6_placeDigest_0 : decode cX6_placeDigest 0 = .ok (.ldc2_w 345, 3) := dk_20 1 89 (dk_at dksX6_placeDigest_0 0 rfl rfl)
theorem dX6_placeDigest_3 : decode cX6_placeDigest 3 = .ok (.lload_n 1, 1) := dk_31 (dk_at dksX6_placeDigest_0 3 rfl rfl)
theorem dX6_placeDigest_4 : decode cX6_placeDigest 4 = .ok (.lmul, 1) := dk_105 (dk_at dksX6_placeDigest_0 4 rfl rfl)
theorem dX6_placeDigest_5 : decode cX6_placeDigest 5 = .ok (.aload_n 0, 1) := dk_42 (dk_at dksX6_placeDigest_0 5 rfl rfl)
theorem dX6_placeDigest_6 : decode cX6_placeDigest 6 = .ok (.iload_n 3, 1) := dk_29 (dk_at dksX6_placeDigest_0 6 rfl rfl)
theorem dX6_placeDigest_7 : decode cX6_placeDigest 7 = .ok (.invokevirtual 157, 3) := dk_182 0 157 (dk_at dksX6_placeDigest_0 7 rfl rfl)
theorem dX6_placeDigest_10 : decode cX6_placeDigest 10 = .ok (.i2l, 1) := dk_133 (dk_at dksX6_placeDigest_0 10 rfl rfl)
theorem dX6_placeDigest_11 : decode cX6_placeDigest 11 = .ok (.ladd, 1) := dk_97 (dk_at dksX6_placeDigest_0 11 rfl rfl)
theorem dX6_placeDigest_12 : decode cX6_placeDigest 12 = .ok (.lstore 4, 2) := dk_55 4 (dk_at dksX6_placeDigest_0 12 rfl rfl)
theorem dX6_placeDigest_14 : decode cX6_placeDigest 14 = .ok (.ldc2_w 345, 3) := dk_20 1 89 (dk_at dksX6_placeDigest_0 14 rfl rfl)
theorem dX6_placeDigest_17 : decode cX6_placeDigest 17 = .ok (.lload 4, 2) := dk_22 4 (dk_at dksX6_placeDigest_0 17 rfl rfl)
theorem dX6_placeDigest_19 : decode cX6_placeDigest 19 = .ok (.lmul, 1) := dk_105 (dk_at dksX6_placeDigest_0 19 rfl rfl)
theorem dX6_placeDigest_20 : decode cX6_placeDigest 20 = .ok (.aload_n 0, 1) := dk_42 (dk_at dksX6_placeDigest_0 20 rfl rfl)
theorem dX6_placeDigest_21 : decode cX6_placeDigest 21 = .ok (.bipush 6, 2) := dk_16 6 (dk_at dksX6_placeDigest_0 21 rfl rfl)
theorem dX6_placeDigest_23 : decode cX6_placeDigest 23 = .ok (.iload_n 3, 1) := dk_29 (dk_at dksX6_placeDigest_0 23 rfl rfl)
theorem dX6_placeDigest_24 : decode cX6_placeDigest 24 = .ok (.iconst 0, 1) := dk_3 (dk_at dksX6_placeDigest_1 0 rfl rfl)
theorem dX6_placeDigest_25 : decode cX6_placeDigest 25 = .ok (.invokevirtual 242, 3) := dk_182 0 242 (dk_at dksX6_placeDigest_1 1 rfl rfl)
theorem dX6_placeDigest_28 : decode cX6_placeDigest 28 = .ok (.i2l, 1) := dk_133 (dk_at dksX6_placeDigest_1 4 rfl rfl)
theorem dX6_placeDigest_29 : decode cX6_placeDigest 29 = .ok (.ladd, 1) := dk_97 (dk_at dksX6_placeDigest_1 5 rfl rfl)
theorem dX6_placeDigest_30 : decode cX6_placeDigest 30 = .ok (.lstore 4, 2) := dk_55 4 (dk_at dksX6_placeDigest_1 6 rfl rfl)
theorem dX6_placeDigest_32 : decode cX6_placeDigest 32 = .ok (.ldc2_w 345, 3) := dk_20 1 89 (dk_at dksX6_placeDigest_1 8 rfl rfl)
theorem dX6_placeDigest_35 : decode cX6_placeDigest 35 = .ok (.lload 4, 2) := dk_22 4 (dk_at dksX6_placeDigest_1 11 rfl rfl)
theorem dX6_placeDigest_37 : decode cX6_placeDigest 37 = .ok (.lmul, 1) := dk_105 (dk_at dksX6_placeDigest_1 13 rfl rfl)
theorem dX6_placeDigest_38 : decode cX6_placeDigest 38 = .ok (.aload_n 0, 1) := dk_42 (dk_at dksX6_placeDigest_1 14 rfl rfl)
theorem dX6_placeDigest_39 : decode cX6_placeDigest 39 = .ok (.bipush 6, 2) := dk_16 6 (dk_at dksX6_placeDigest_1 15 rfl rfl)
theorem dX6_placeDigest_41 : decode cX6_placeDigest 41 = .ok (.iload_n 3, 1) := dk_29 (dk_at dksX6_placeDigest_1 17 rfl rfl)
theorem dX6_placeDigest_42 : decode cX6_placeDigest 42 = .ok (.iconst 1, 1) := dk_4 (dk_at dksX6_placeDigest_1 18 rfl rfl)
theorem dX6_placeDigest_43 : decode cX6_placeDigest 43 = .ok (.invokevirtual 242, 3) := dk_182 0 242 (dk_at dksX6_placeDigest_1 19 rfl rfl)
theorem dX6_placeDigest_46 : decode cX6_placeDigest 46 = .ok (.i2l, 1) := dk_133 (dk_at dksX6_placeDigest_1 22 rfl rfl)
theorem dX6_placeDigest_47 : decode cX6_placeDigest 47 = .ok (.ladd, 1) := dk_97 (dk_at dksX6_placeDigest_1 23 rfl rfl)
theorem dX6_placeDigest_48 : decode cX6_placeDigest 48 = .ok (.lstore 4, 2) := dk_55 4 (dk_at dksX6_placeDigest_2 0 rfl rfl)
theorem dX6_placeDigest_50 : decode cX6_placeDigest 50 = .ok (.ldc2_w 345, 3) := dk_20 1 89 (dk_at dksX6_placeDigest_2 2 rfl rfl)
theorem dX6_placeDigest_53 : decode cX6_placeDigest 53 = .ok (.lload 4, 2) := dk_22 4 (dk_at dksX6_placeDigest_2 5 rfl rfl)
theorem dX6_placeDigest_55 : decode cX6_placeDigest 55 = .ok (.lmul, 1) := dk_105 (dk_at dksX6_placeDigest_2 7 rfl rfl)
theorem dX6_placeDigest_56 : decode cX6_placeDigest 56 = .ok (.aload_n 0, 1) := dk_42 (dk_at dksX6_placeDigest_2 8 rfl rfl)
theorem dX6_placeDigest_57 : decode cX6_placeDigest 57 = .ok (.bipush 19, 2) := dk_16 19 (dk_at dksX6_placeDigest_2 9 rfl rfl)
theorem dX6_placeDigest_59 : decode cX6_placeDigest 59 = .ok (.iload_n 3, 1) := dk_29 (dk_at dksX6_placeDigest_2 11 rfl rfl)
theorem dX6_placeDigest_60 : decode cX6_placeDigest 60 = .ok (.iconst 0, 1) := dk_3 (dk_at dksX6_placeDigest_2 12 rfl rfl)
theorem dX6_placeDigest_61 : decode cX6_placeDigest 61 = .ok (.invokevirtual 242, 3) := dk_182 0 242 (dk_at dksX6_placeDigest_2 13 rfl rfl)
theorem dX6_placeDigest_64 : decode cX6_placeDigest 64 = .ok (.i2l, 1) := dk_133 (dk_at dksX6_placeDigest_2 16 rfl rfl)
theorem dX6_placeDigest_65 : decode cX6_placeDigest 65 = .ok (.ladd, 1) := dk_97 (dk_at dksX6_placeDigest_2 17 rfl rfl)
theorem dX6_placeDigest_66 : decode cX6_placeDigest 66 = .ok (.lstore 4, 2) := dk_55 4 (dk_at dksX6_placeDigest_2 18 rfl rfl)
theorem dX6_placeDigest_68 : decode cX6_placeDigest 68 = .ok (.ldc2_w 345, 3) := dk_20 1 89 (dk_at dksX6_placeDigest_2 20 rfl rfl)
theorem dX6_placeDigest_71 : decode cX6_placeDigest 71 = .ok (.lload 4, 2) := dk_22 4 (dk_at dksX6_placeDigest_3 0 rfl rfl)
theorem dX6_placeDigest_73 : decode cX6_placeDigest 73 = .ok (.lmul, 1) := dk_105 (dk_at dksX6_placeDigest_3 2 rfl rfl)
theorem dX6_placeDigest_74 : decode cX6_placeDigest 74 = .ok (.aload_n 0, 1) := dk_42 (dk_at dksX6_placeDigest_3 3 rfl rfl)
theorem dX6_placeDigest_75 : decode cX6_placeDigest 75 = .ok (.bipush 19, 2) := dk_16 19 (dk_at dksX6_placeDigest_3 4 rfl rfl)
theorem dX6_placeDigest_77 : decode cX6_placeDigest 77 = .ok (.iload_n 3, 1) := dk_29 (dk_at dksX6_placeDigest_3 6 rfl rfl)
theorem dX6_placeDigest_78 : decode cX6_placeDigest 78 = .ok (.iconst 1, 1) := dk_4 (dk_at dksX6_placeDigest_3 7 rfl rfl)
theorem dX6_placeDigest_79 : decode cX6_placeDigest 79 = .ok (.invokevirtual 242, 3) := dk_182 0 242 (dk_at dksX6_placeDigest_3 8 rfl rfl)
theorem dX6_placeDigest_82 : decode cX6_placeDigest 82 = .ok (.i2l, 1) := dk_133 (dk_at dksX6_placeDigest_3 11 rfl rfl)
theorem dX6_placeDigest_83 : decode cX6_placeDigest 83 = .ok (.ladd, 1) := dk_97 (dk_at dksX6_placeDigest_3 12 rfl rfl)
theorem dX6_placeDigest_84 : decode cX6_placeDigest 84 = .ok (.lstore 4, 2) := dk_55 4 (dk_at dksX6_placeDigest_3 13 rfl rfl)
theorem dX6_placeDigest_86 : decode cX6_placeDigest 86 = .ok (.ldc2_w 345, 3) := dk_20 1 89 (dk_at dksX6_placeDigest_3 15 rfl rfl)
theorem dX6_placeDigest_89 : decode cX6_placeDigest 89 = .ok (.lload 4, 2) := dk_22 4 (dk_at dksX6_placeDigest_3 18 rfl rfl)
theorem dX6_placeDigest_91 : decode cX6_placeDigest 91 = .ok (.lmul, 1) := dk_105 (dk_at dksX6_placeDigest_3 20 rfl rfl)
theorem dX6_placeDigest_92 : decode cX6_placeDigest 92 = .ok (.aload_n 0, 1) := dk_42 (dk_at dksX6_placeDigest_3 21 rfl rfl)
theorem dX6_placeDigest_93 : decode cX6_placeDigest 93 = .ok (.iload_n 3, 1) := dk_29 (dk_at dksX6_placeDigest_3 22 rfl rfl)
theorem dX6_placeDigest_94 : decode cX6_placeDigest 94 = .ok (.invokevirtual 310, 3) := dk_182 1 54 (dk_at dksX6_placeDigest_4 0 rfl rfl)
theorem dX6_placeDigest_97 : decode cX6_placeDigest 97 = .ok (.i2l, 1) := dk_133 (dk_at dksX6_placeDigest_4 3 rfl rfl)
theorem dX6_placeDigest_98 : decode cX6_placeDigest 98 = .ok (.ladd, 1) := dk_97 (dk_at dksX6_placeDigest_4 4 rfl rfl)
theorem dX6_placeDigest_99 : decode cX6_placeDigest 99 = .ok (.lstore 4, 2) := dk_55 4 (dk_at dksX6_placeDigest_4 5 rfl rfl)
theorem dX6_placeDigest_101 : decode cX6_placeDigest 101 = .ok (.ldc2_w 345, 3) := dk_20 1 89 (dk_at dksX6_placeDigest_4 7 rfl rfl)
theorem dX6_placeDigest_104 : decode cX6_placeDigest 104 = .ok (.lload 4, 2) := dk_22 4 (dk_at dksX6_placeDigest_4 10 rfl rfl)
theorem dX6_placeDigest_106 : decode cX6_placeDigest 106 = .ok (.lmul, 1) := dk_105 (dk_at dksX6_placeDigest_4 12 rfl rfl)
theorem dX6_placeDigest_107 : decode cX6_placeDigest 107 = .ok (.aload_n 0, 1) := dk_42 (dk_at dksX6_placeDigest_4 13 rfl rfl)
theorem dX6_placeDigest_108 : decode cX6_placeDigest 108 = .ok (.iload_n 3, 1) := dk_29 (dk_at dksX6_placeDigest_4 14 rfl rfl)
theorem dX6_placeDigest_109 : decode cX6_placeDigest 109 = .ok (.invokevirtual 313, 3) := dk_182 1 57 (dk_at dksX6_placeDigest_4 15 rfl rfl)
theorem dX6_placeDigest_112 : decode cX6_placeDigest 112 = .ok (.i2l, 1) := dk_133 (dk_at dksX6_placeDigest_4 18 rfl rfl)
theorem dX6_placeDigest_113 : decode cX6_placeDigest 113 = .ok (.ladd, 1) := dk_97 (dk_at dksX6_placeDigest_4 19 rfl rfl)
theorem dX6_placeDigest_114 : decode cX6_placeDigest 114 = .ok (.lreturn, 1) := dk_173 (dk_at dksX6_placeDigest_4 20 rfl rfl)
abbrev cX6_memberDigest : ByteArray := prog_13_method_103_code
def yX6_memberDigest : MethodName := ⟨RX6, "memberDigest", "(JI)J"⟩
def dkwX6_memberDigest_4 : List UInt8 := [182, 1, 19, 133, 97, 55, 4, 20, 1, 89, 22, 4, 105, 42, 29, 182, 1, 51, 133, 97, 173]
abbrev dktX6_memberDigest_4 : List UInt8 := dkwX6_memberDigest_4 ++ []
def dkwX6_memberDigest_3 : List UInt8 := [22, 4, 105, 42, 29, 3, 182, 1, 19, 133, 97, 55, 4, 20, 1, 89, 22, 4, 105, 42, 29, 4]
abbrev dktX6_memberDigest_3 : List UInt8 := dkwX6_memberDigest_3 ++ dktX6_memberDigest_4
def dkwX6_memberDigest_2 : List UInt8 := [22, 4, 16, 7, 29, 182, 1, 91, 55, 4, 42, 22, 4, 16, 19, 29, 182, 1, 91, 55, 4, 20, 1, 89]
abbrev dktX6_memberDigest_2 : List UInt8 := dkwX6_memberDigest_2 ++ dktX6_memberDigest_3
def dkwX6_memberDigest_1 : List UInt8 := [182, 0, 163, 133, 97, 55, 4, 132, 6, 1, 167, 255, 230, 42, 22, 4, 3, 29, 182, 1, 91, 55, 4, 42]
abbrev dktX6_memberDigest_1 : List UInt8 := dkwX6_memberDigest_1 ++ dktX6_memberDigest_2
def dkwX6_memberDigest_0 : List UInt8 := [31, 55, 4, 3, 54, 6, 21, 6, 6, 162, 0, 26, 20, 1, 89, 22, 4, 105, 42, 29, 21, 6]
abbrev dktX6_memberDigest_0 : List UInt8 := dkwX6_memberDigest_0 ++ dktX6_memberDigest_1
theorem dksX6_memberDigest_0 : cX6_memberDigest.data.toList.drop 0 = dktX6_memberDigest_0 := by decide +kernel
theorem dksX6_memberDigest_1 : cX6_memberDigest.data.toList.drop 22 = dktX6_memberDigest_1 := dk_seg dksX6_memberDigest_0 22 rfl rfl
theorem dksX6_memberDigest_2 : cX6_memberDigest.data.toList.drop 46 = dktX6_memberDigest_2 := dk_seg dksX6_memberDigest_1 24 rfl rfl
theorem dksX6_memberDigest_3 : cX6_memberDigest.data.toList.drop 70 = dktX6_memberDigest_3 := dk_seg dksX6_memberDigest_2 24 rfl rfl
theorem dksX6_memberDigest_4 : cX6_memberDigest.data.toList.drop 92 = dktX6_memberDigest_4 := dk_seg dksX6_memberDigest_3 22 rfl rfl
theorem dX6_memberDigest_0 : decode cX6_memberDigest 0 = .ok (.lload_n 1, 1) := dk_31 (dk_at dksX6_memberDigest_0 0 rfl rfl)
theorem dX6_memberDigest_1 : decode cX6_memberDigest 1 = .ok (.lstore 4, 2) := dk_55 4 (dk_at dksX6_memberDigest_0 1 rfl rfl)
theorem dX6_memberDigest_3 : decode cX6_memberDigest 3 = .ok (.iconst 0, 1) := dk_3 (dk_at dksX6_memberDigest_0 3 rfl rfl)
theorem dX6_memberDigest_4 : decode cX6_memberDigest 4 = .ok (.istore 6, 2) := dk_54 6 (dk_at dksX6_memberDigest_0 4 rfl rfl)
theorem dX6_memberDigest_6 : decode cX6_memberDigest 6 = .ok (.iload 6, 2) := dk_21 6 (dk_at dksX6_memberDigest_0 6 rfl rfl)
theorem dX6_memberDigest_8 : decode cX6_memberDigest 8 = .ok (.iconst 3, 1) := dk_6 (dk_at dksX6_memberDigest_0 8 rfl rfl)
theorem dX6_memberDigest_9 : decode cX6_memberDigest 9 = .ok (.if_icmp .ge 26, 3) := dk_162 0 26 (dk_at dksX6_memberDigest_0 9 rfl rfl)
theorem dX6_memberDigest_12 : decode cX6_memberDigest 12 = .ok (.ldc2_w 345, 3) := dk_20 1 89 (dk_at dksX6_memberDigest_0 12 rfl rfl)
theorem dX6_memberDigest_15 : decode cX6_memberDigest 15 = .ok (.lload 4, 2) := dk_22 4 (dk_at dksX6_memberDigest_0 15 rfl rfl)
theorem dX6_memberDigest_17 : decode cX6_memberDigest 17 = .ok (.lmul, 1) := dk_105 (dk_at dksX6_memberDigest_0 17 rfl rfl)
theorem dX6_memberDigest_18 : decode cX6_memberDigest 18 = .ok (.aload_n 0, 1) := dk_42 (dk_at dksX6_memberDigest_0 18 rfl rfl)
theorem dX6_memberDigest_19 : decode cX6_memberDigest 19 = .ok (.iload_n 3, 1) := dk_29 (dk_at dksX6_memberDigest_0 19 rfl rfl)
theorem dX6_memberDigest_20 : decode cX6_memberDigest 20 = .ok (.iload 6, 2) := dk_21 6 (dk_at dksX6_memberDigest_0 20 rfl rfl)
theorem dX6_memberDigest_22 : decode cX6_memberDigest 22 = .ok (.invokevirtual 163, 3) := dk_182 0 163 (dk_at dksX6_memberDigest_1 0 rfl rfl)
theorem dX6_memberDigest_25 : decode cX6_memberDigest 25 = .ok (.i2l, 1) := dk_133 (dk_at dksX6_memberDigest_1 3 rfl rfl)
theorem dX6_memberDigest_26 : decode cX6_memberDigest 26 = .ok (.ladd, 1) := dk_97 (dk_at dksX6_memberDigest_1 4 rfl rfl)
theorem dX6_memberDigest_27 : decode cX6_memberDigest 27 = .ok (.lstore 4, 2) := dk_55 4 (dk_at dksX6_memberDigest_1 5 rfl rfl)
theorem dX6_memberDigest_29 : decode cX6_memberDigest 29 = .ok (.iinc 6 1, 3) := dk_132 6 1 (dk_at dksX6_memberDigest_1 7 rfl rfl)
theorem dX6_memberDigest_32 : decode cX6_memberDigest 32 = .ok (.goto (-26), 3) := dk_167 255 230 (dk_at dksX6_memberDigest_1 10 rfl rfl)
theorem dX6_memberDigest_35 : decode cX6_memberDigest 35 = .ok (.aload_n 0, 1) := dk_42 (dk_at dksX6_memberDigest_1 13 rfl rfl)
theorem dX6_memberDigest_36 : decode cX6_memberDigest 36 = .ok (.lload 4, 2) := dk_22 4 (dk_at dksX6_memberDigest_1 14 rfl rfl)
theorem dX6_memberDigest_38 : decode cX6_memberDigest 38 = .ok (.iconst 0, 1) := dk_3 (dk_at dksX6_memberDigest_1 16 rfl rfl)
theorem dX6_memberDigest_39 : decode cX6_memberDigest 39 = .ok (.iload_n 3, 1) := dk_29 (dk_at dksX6_memberDigest_1 17 rfl rfl)
theorem dX6_memberDigest_40 : decode cX6_memberDigest 40 = .ok (.invokevirtual 347, 3) := dk_182 1 91 (dk_at dksX6_memberDigest_1 18 rfl rfl)
theorem dX6_memberDigest_43 : decode cX6_memberDigest 43 = .ok (.lstore 4, 2) := dk_55 4 (dk_at dksX6_memberDigest_1 21 rfl rfl)
theorem dX6_memberDigest_45 : decode cX6_memberDigest 45 = .ok (.aload_n 0, 1) := dk_42 (dk_at dksX6_memberDigest_1 23 rfl rfl)
theorem dX6_memberDigest_46 : decode cX6_memberDigest 46 = .ok (.lload 4, 2) := dk_22 4 (dk_at dksX6_memberDigest_2 0 rfl rfl)
theorem dX6_memberDigest_48 : decode cX6_memberDigest 48 = .ok (.bipush 7, 2) := dk_16 7 (dk_at dksX6_memberDigest_2 2 rfl rfl)
theorem dX6_memberDigest_50 : decode cX6_memberDigest 50 = .ok (.iload_n 3, 1) := dk_29 (dk_at dksX6_memberDigest_2 4 rfl rfl)
theorem dX6_memberDigest_51 : decode cX6_memberDigest 51 = .ok (.invokevirtual 347, 3) := dk_182 1 91 (dk_at dksX6_memberDigest_2 5 rfl rfl)
theorem dX6_memberDigest_54 : decode cX6_memberDigest 54 = .ok (.lstore 4, 2) := dk_55 4 (dk_at dksX6_memberDigest_2 8 rfl rfl)
theorem dX6_memberDigest_56 : decode cX6_memberDigest 56 = .ok (.aload_n 0, 1) := dk_42 (dk_at dksX6_memberDigest_2 10 rfl rfl)
theorem dX6_memberDigest_57 : decode cX6_memberDigest 57 = .ok (.lload 4, 2) := dk_22 4 (dk_at dksX6_memberDigest_2 11 rfl rfl)
theorem dX6_memberDigest_59 : decode cX6_memberDigest 59 = .ok (.bipush 19, 2) := dk_16 19 (dk_at dksX6_memberDigest_2 13 rfl rfl)
theorem dX6_memberDigest_61 : decode cX6_memberDigest 61 = .ok (.iload_n 3, 1) := dk_29 (dk_at dksX6_memberDigest_2 15 rfl rfl)
theorem dX6_memberDigest_62 : decode cX6_memberDigest 62 = .ok (.invokevirtual 347, 3) := dk_182 1 91 (dk_at dksX6_memberDigest_2 16 rfl rfl)
theorem dX6_memberDigest_65 : decode cX6_memberDigest 65 = .ok (.lstore 4, 2) := dk_55 4 (dk_at dksX6_memberDigest_2 19 rfl rfl)
theorem dX6_memberDigest_67 : decode cX6_memberDigest 67 = .ok (.ldc2_w 345, 3) := dk_20 1 89 (dk_at dksX6_memberDigest_2 21 rfl rfl)
theorem dX6_memberDigest_70 : decode cX6_memberDigest 70 = .ok (.lload 4, 2) := dk_22 4 (dk_at dksX6_memberDigest_3 0 rfl rfl)
theorem dX6_memberDigest_72 : decode cX6_memberDigest 72 = .ok (.lmul, 1) := dk_105 (dk_at dksX6_memberDigest_3 2 rfl rfl)
theorem dX6_memberDigest_73 : decode cX6_memberDigest 73 = .ok (.aload_n 0, 1) := dk_42 (dk_at dksX6_memberDigest_3 3 rfl rfl)
theorem dX6_memberDigest_74 : decode cX6_memberDigest 74 = .ok (.iload_n 3, 1) := dk_29 (dk_at dksX6_memberDigest_3 4 rfl rfl)
theorem dX6_memberDigest_75 : decode cX6_memberDigest 75 = .ok (.iconst 0, 1) := dk_3 (dk_at dksX6_memberDigest_3 5 rfl rfl)
theorem dX6_memberDigest_76 : decode cX6_memberDigest 76 = .ok (.invokevirtual 275, 3) := dk_182 1 19 (dk_at dksX6_memberDigest_3 6 rfl rfl)
theorem dX6_memberDigest_79 : decode cX6_memberDigest 79 = .ok (.i2l, 1) := dk_133 (dk_at dksX6_memberDigest_3 9 rfl rfl)
theorem dX6_memberDigest_80 : decode cX6_memberDigest 80 = .ok (.ladd, 1) := dk_97 (dk_at dksX6_memberDigest_3 10 rfl rfl)
theorem dX6_memberDigest_81 : decode cX6_memberDigest 81 = .ok (.lstore 4, 2) := dk_55 4 (dk_at dksX6_memberDigest_3 11 rfl rfl)
theorem dX6_memberDigest_83 : decode cX6_memberDigest 83 = .ok (.ldc2_w 345, 3) := dk_20 1 89 (dk_at dksX6_memberDigest_3 13 rfl rfl)
theorem dX6_memberDigest_86 : decode cX6_memberDigest 86 = .ok (.lload 4, 2) := dk_22 4 (dk_at dksX6_memberDigest_3 16 rfl rfl)
theorem dX6_memberDigest_88 : decode cX6_memberDigest 88 = .ok (.lmul, 1) := dk_105 (dk_at dksX6_memberDigest_3 18 rfl rfl)
theorem dX6_memberDigest_89 : decode cX6_memberDigest 89 = .ok (.aload_n 0, 1) := dk_42 (dk_at dksX6_memberDigest_3 19 rfl rfl)
theorem dX6_memberDigest_90 : decode cX6_memberDigest 90 = .ok (.iload_n 3, 1) := dk_29 (dk_at dksX6_memberDigest_3 20 rfl rfl)
theorem dX6_memberDigest_91 : decode cX6_memberDigest 91 = .ok (.iconst 1, 1) := dk_4 (dk_at dksX6_memberDigest_3 21 rfl rfl)
theorem dX6_memberDigest_92 : decode cX6_memberDigest 92 = .ok (.invokevirtual 275, 3) := dk_182 1 19 (dk_at dksX6_memberDigest_4 0 rfl rfl)
theorem dX6_memberDigest_95 : decode cX6_memberDigest 95 = .ok (.i2l, 1) := dk_133 (dk_at dksX6_memberDigest_4 3 rfl rfl)
theorem dX6_memberDigest_96 : decode cX6_memberDigest 96 = .ok (.ladd, 1) := dk_97 (dk_at dksX6_memberDigest_4 4 rfl rfl)
theorem dX6_memberDigest_97 : decode cX6_memberDigest 97 = .ok (.lstore 4, 2) := dk_55 4 (dk_at dksX6_memberDigest_4 5 rfl rfl)
theorem dX6_memberDigest_99 : decode cX6_memberDigest 99 = .ok (.ldc2_w 345, 3) := dk_20 1 89 (dk_at dksX6_memberDigest_4 7 rfl rfl)
theorem dX6_memberDigest_102 : decode cX6_memberDigest 102 = .ok (.lload 4, 2) := dk_22 4 (dk_at dksX6_memberDigest_4 10 rfl rfl)
theorem dX6_memberDigest_104 : decode cX6_memberDigest 104 = .ok (.lmul, 1) := dk_105 (dk_at dksX6_memberDigest_4 12 rfl rfl)
theorem dX6_memberDigest_105 : decode cX6_memberDigest 105 = .ok (.aload_n 0, 1) := dk_42 (dk_at dksX6_memberDigest_4 13 rfl rfl)
theorem dX6_memberDigest_106 : decode cX6_memberDigest 106 = .ok (.iload_n 3, 1) := dk_29 (dk_at dksX6_memberDigest_4 14 rfl rfl)
theorem dX6_memberDigest_107 : decode cX6_memberDigest 107 = .ok (.invokevirtual 307, 3) := dk_182 1 51 (dk_at dksX6_memberDigest_4 15 rfl rfl)
theorem dX6_memberDigest_110 : decode cX6_memberDigest 110 = .ok (.i2l, 1) := dk_133 (dk_at dksX6_memberDigest_4 18 rfl rfl)
theorem dX6_memberDigest_111 : decode cX6_memberDigest 111 = .ok (.ladd, 1) := dk_97 (dk_at dksX6_memberDigest_4 19 rfl rfl)
theorem dX6_memberDigest_112 : decode cX6_memberDigest 112 = .ok (.lreturn, 1) := dk_173 (dk_at dksX6_memberDigest_4 20 rfl rfl)
abbrev cX6_hourDigest : ByteArray := prog_13_method_102_code
def yX6_hourDigest : MethodName := ⟨RX6, "hourDigest", "(JII)J"⟩
def dkwX6_hourDigest_1 : List UInt8 := [182, 0, 245, 133, 97, 55, 5, 132, 7, 1, 167, 255, 228, 22, 5, 173]
abbrev dktX6_hourDigest_1 : List UInt8 := dkwX6_hourDigest_1 ++ []
def dkwX6_hourDigest_0 : List UInt8 := [31, 55, 5, 3, 54, 7, 21, 7, 7, 162, 0, 28, 20, 1, 89, 22, 5, 105, 42, 29, 21, 4, 21, 7]
abbrev dktX6_hourDigest_0 : List UInt8 := dkwX6_hourDigest_0 ++ dktX6_hourDigest_1
theorem dksX6_hourDigest_0 : cX6_hourDigest.data.toList.drop 0 = dktX6_hourDigest_0 := by decide +kernel
theorem dksX6_hourDigest_1 : cX6_hourDigest.data.toList.drop 24 = dktX6_hourDigest_1 := dk_seg dksX6_hourDigest_0 24 rfl rfl
theorem dX6_hourDigest_0 : decode cX6_hourDigest 0 = .ok (.lload_n 1, 1) := dk_31 (dk_at dksX6_hourDigest_0 0 rfl rfl)
theorem dX6_hourDigest_1 : decode cX6_hourDigest 1 = .ok (.lstore 5, 2) := dk_55 5 (dk_at dksX6_hourDigest_0 1 rfl rfl)
theorem dX6_hourDigest_3 : decode cX6_hourDigest 3 = .ok (.iconst 0, 1) := dk_3 (dk_at dksX6_hourDigest_0 3 rfl rfl)
theorem dX6_hourDigest_4 : decode cX6_hourDigest 4 = .ok (.istore 7, 2) := dk_54 7 (dk_at dksX6_hourDigest_0 4 rfl rfl)
theorem dX6_hourDigest_6 : decode cX6_hourDigest 6 = .ok (.iload 7, 2) := dk_21 7 (dk_at dksX6_hourDigest_0 6 rfl rfl)
theorem dX6_hourDigest_8 : decode cX6_hourDigest 8 = .ok (.iconst 4, 1) := dk_7 (dk_at dksX6_hourDigest_0 8 rfl rfl)
theorem dX6_hourDigest_9 : decode cX6_hourDigest 9 = .ok (.if_icmp .ge 28, 3) := dk_162 0 28 (dk_at dksX6_hourDigest_0 9 rfl rfl)
theorem dX6_hourDigest_12 : decode cX6_hourDigest 12 = .ok (.ldc2_w 345, 3) := dk_20 1 89 (dk_at dksX6_hourDigest_0 12 rfl rfl)
theorem dX6_hourDigest_15 : decode cX6_hourDigest 15 = .ok (.lload 5, 2) := dk_22 5 (dk_at dksX6_hourDigest_0 15 rfl rfl)
theorem dX6_hourDigest_17 : decode cX6_hourDigest 17 = .ok (.lmul, 1) := dk_105 (dk_at dksX6_hourDigest_0 17 rfl rfl)
theorem dX6_hourDigest_18 : decode cX6_hourDigest 18 = .ok (.aload_n 0, 1) := dk_42 (dk_at dksX6_hourDigest_0 18 rfl rfl)
theorem dX6_hourDigest_19 : decode cX6_hourDigest 19 = .ok (.iload_n 3, 1) := dk_29 (dk_at dksX6_hourDigest_0 19 rfl rfl)
theorem dX6_hourDigest_20 : decode cX6_hourDigest 20 = .ok (.iload 4, 2) := dk_21 4 (dk_at dksX6_hourDigest_0 20 rfl rfl)
theorem dX6_hourDigest_22 : decode cX6_hourDigest 22 = .ok (.iload 7, 2) := dk_21 7 (dk_at dksX6_hourDigest_0 22 rfl rfl)
theorem dX6_hourDigest_24 : decode cX6_hourDigest 24 = .ok (.invokevirtual 245, 3) := dk_182 0 245 (dk_at dksX6_hourDigest_1 0 rfl rfl)
theorem dX6_hourDigest_27 : decode cX6_hourDigest 27 = .ok (.i2l, 1) := dk_133 (dk_at dksX6_hourDigest_1 3 rfl rfl)
theorem dX6_hourDigest_28 : decode cX6_hourDigest 28 = .ok (.ladd, 1) := dk_97 (dk_at dksX6_hourDigest_1 4 rfl rfl)
theorem dX6_hourDigest_29 : decode cX6_hourDigest 29 = .ok (.lstore 5, 2) := dk_55 5 (dk_at dksX6_hourDigest_1 5 rfl rfl)
theorem dX6_hourDigest_31 : decode cX6_hourDigest 31 = .ok (.iinc 7 1, 3) := dk_132 7 1 (dk_at dksX6_hourDigest_1 7 rfl rfl)
theorem dX6_hourDigest_34 : decode cX6_hourDigest 34 = .ok (.goto (-28), 3) := dk_167 255 228 (dk_at dksX6_hourDigest_1 10 rfl rfl)
theorem dX6_hourDigest_37 : decode cX6_hourDigest 37 = .ok (.lload 5, 2) := dk_22 5 (dk_at dksX6_hourDigest_1 13 rfl rfl)
theorem dX6_hourDigest_39 : decode cX6_hourDigest 39 = .ok (.lreturn, 1) := dk_173 (dk_at dksX6_hourDigest_1 15 rfl rfl)
theorem q118 : (Jvm.Cond.initialized "WoodliceSenateModel") ∈ lw_all := lw_g (lw_at lw_m1 10 rfl) rfl
theorem q462 : (Jvm.Cond.selects "WoodliceSenateModel" ({ cls := "java/lang/Object", name := "getClass", desc := "()Ljava/lang/Class;" } : Jvm.MethodName) ({ cls := "java/lang/Object", name := "getClass", desc := "()Ljava/lang/Class;" } : Jvm.MethodName)) ∈ lw_all := lw_g (lw_at lw_m2 114 rfl) rfl
theorem q1225 : (Jvm.Cond.instantiable "WoodliceSenateModel" (42 : Nat)) ∈ lw_all := lw_g (lw_at lw_m5 157 rfl) rfl
theorem q1227 : (Jvm.Cond.instanceMethod ({ cls := "WoodliceSenateModel", name := "<init>", desc := "()V" } : Jvm.MethodName)) ∈ lw_all := lw_g (lw_at lw_m5 159 rfl) rfl
theorem q1228 : (Jvm.Cond.code ({ cls := "WoodliceSenateModel", name := "<init>", desc := "()V" } : Jvm.MethodName) prog_13_method_1_code (1 : Nat) (Option.none : Option Jvm.ClassFile.FieldType)) ∈ lw_all := lw_g (lw_at lw_m5 160 rfl) rfl
theorem q1229 : (Jvm.Cond.methodLink "WoodliceSenateModel" (1 : Nat) ({ cls := "java/lang/Object", name := "<init>", desc := "()V" } : Jvm.MethodName)) ∈ lw_all := lw_g (lw_at lw_m5 161 rfl) rfl
theorem q1230 : (Jvm.Cond.fieldLink "WoodliceSenateModel" (7 : Nat) "WoodliceSenateModel" "typed" "[I") ∈ lw_all := lw_g (lw_at lw_m5 162 rfl) rfl
theorem q1231 : (Jvm.Cond.fieldLink "WoodliceSenateModel" (13 : Nat) "WoodliceSenateModel" "texts" "[I") ∈ lw_all := lw_g (lw_at lw_m5 163 rfl) rfl
theorem q1232 : (Jvm.Cond.fieldLink "WoodliceSenateModel" (123 : Nat) "WoodliceSenateModel" "figures" "I") ∈ lw_all := lw_g (lw_at lw_m5 164 rfl) rfl
theorem q1233 : (Jvm.Cond.fieldLink "WoodliceSenateModel" (16 : Nat) "WoodliceSenateModel" "stoneTold" "[I") ∈ lw_all := lw_g (lw_at lw_m5 165 rfl) rfl
theorem q1234 : (Jvm.Cond.fieldLink "WoodliceSenateModel" (134 : Nat) "WoodliceSenateModel" "members" "I") ∈ lw_all := lw_g (lw_at lw_m5 166 rfl) rfl
theorem q1235 : (Jvm.Cond.fieldLink "WoodliceSenateModel" (19 : Nat) "WoodliceSenateModel" "sorts" "[I") ∈ lw_all := lw_g (lw_at lw_m5 167 rfl) rfl
theorem q1236 : (Jvm.Cond.fieldLink "WoodliceSenateModel" (22 : Nat) "WoodliceSenateModel" "placeTold" "[I") ∈ lw_all := lw_g (lw_at lw_m5 168 rfl) rfl
theorem q1237 : (Jvm.Cond.fieldLink "WoodliceSenateModel" (25 : Nat) "WoodliceSenateModel" "upTold" "[I") ∈ lw_all := lw_g (lw_at lw_m5 169 rfl) rfl
theorem q1238 : (Jvm.Cond.fieldLink "WoodliceSenateModel" (169 : Nat) "WoodliceSenateModel" "events" "I") ∈ lw_all := lw_g (lw_at lw_m5 170 rfl) rfl
theorem q1239 : (Jvm.Cond.fieldLink "WoodliceSenateModel" (28 : Nat) "WoodliceSenateModel" "eventKind" "[I") ∈ lw_all := lw_g (lw_at lw_m5 171 rfl) rfl
theorem q1240 : (Jvm.Cond.fieldLink "WoodliceSenateModel" (31 : Nat) "WoodliceSenateModel" "eventHour" "[I") ∈ lw_all := lw_g (lw_at lw_m5 172 rfl) rfl
theorem q1241 : (Jvm.Cond.fieldLink "WoodliceSenateModel" (34 : Nat) "WoodliceSenateModel" "eventPlace" "[I") ∈ lw_all := lw_g (lw_at lw_m5 173 rfl) rfl
theorem q1242 : (Jvm.Cond.fieldLink "WoodliceSenateModel" (182 : Nat) "WoodliceSenateModel" "eventsNow" "I") ∈ lw_all := lw_g (lw_at lw_m5 174 rfl) rfl
theorem q1243 : (Jvm.Cond.fieldLink "WoodliceSenateModel" (37 : Nat) "WoodliceSenateModel" "kindNow" "[I") ∈ lw_all := lw_g (lw_at lw_m5 175 rfl) rfl
theorem q1244 : (Jvm.Cond.fieldLink "WoodliceSenateModel" (40 : Nat) "WoodliceSenateModel" "hourNow" "[I") ∈ lw_all := lw_g (lw_at lw_m5 176 rfl) rfl
theorem q1245 : (Jvm.Cond.fieldLink "WoodliceSenateModel" (43 : Nat) "WoodliceSenateModel" "placeNow" "[I") ∈ lw_all := lw_g (lw_at lw_m5 177 rfl) rfl
theorem q1246 : (Jvm.Cond.fieldLink "WoodliceSenateModel" (185 : Nat) "WoodliceSenateModel" "notEvents" "I") ∈ lw_all := lw_g (lw_at lw_m5 178 rfl) rfl
theorem q1247 : (Jvm.Cond.fieldLink "WoodliceSenateModel" (46 : Nat) "WoodliceSenateModel" "damps" "[I") ∈ lw_all := lw_g (lw_at lw_m5 179 rfl) rfl
theorem q1248 : (Jvm.Cond.fieldLink "WoodliceSenateModel" (49 : Nat) "WoodliceSenateModel" "at" "[I") ∈ lw_all := lw_g (lw_at lw_m5 180 rfl) rfl
theorem q1249 : (Jvm.Cond.fieldLink "WoodliceSenateModel" (52 : Nat) "WoodliceSenateModel" "ups" "[I") ∈ lw_all := lw_g (lw_at lw_m5 181 rfl) rfl
theorem q1250 : (Jvm.Cond.fieldLink "WoodliceSenateModel" (55 : Nat) "WoodliceSenateModel" "until" "[I") ∈ lw_all := lw_g (lw_at lw_m5 182 rfl) rfl
theorem q1251 : (Jvm.Cond.fieldLink "WoodliceSenateModel" (58 : Nat) "WoodliceSenateModel" "speeches" "[I") ∈ lw_all := lw_g (lw_at lw_m5 183 rfl) rfl
theorem q1252 : (Jvm.Cond.fieldLink "WoodliceSenateModel" (205 : Nat) "WoodliceSenateModel" "went" "I") ∈ lw_all := lw_g (lw_at lw_m5 184 rfl) rfl
theorem q1253 : (Jvm.Cond.fieldLink "WoodliceSenateModel" (61 : Nat) "WoodliceSenateModel" "dampAt" "[I") ∈ lw_all := lw_g (lw_at lw_m5 185 rfl) rfl
theorem q1254 : (Jvm.Cond.fieldLink "WoodliceSenateModel" (64 : Nat) "WoodliceSenateModel" "atAt" "[I") ∈ lw_all := lw_g (lw_at lw_m5 186 rfl) rfl
theorem q1255 : (Jvm.Cond.fieldLink "WoodliceSenateModel" (67 : Nat) "WoodliceSenateModel" "upAt" "[I") ∈ lw_all := lw_g (lw_at lw_m5 187 rfl) rfl
theorem q1256 : (Jvm.Cond.fieldLink "WoodliceSenateModel" (70 : Nat) "WoodliceSenateModel" "speechAt" "[I") ∈ lw_all := lw_g (lw_at lw_m5 188 rfl) rfl
theorem q1257 : (Jvm.Cond.fieldLink "WoodliceSenateModel" (73 : Nat) "WoodliceSenateModel" "rolledAt" "[I") ∈ lw_all := lw_g (lw_at lw_m5 189 rfl) rfl
theorem q1258 : (Jvm.Cond.fieldLink "WoodliceSenateModel" (76 : Nat) "WoodliceSenateModel" "ayesAt" "[I") ∈ lw_all := lw_g (lw_at lw_m5 190 rfl) rfl
theorem q1259 : (Jvm.Cond.fieldLink "WoodliceSenateModel" (79 : Nat) "WoodliceSenateModel" "noesAt" "[I") ∈ lw_all := lw_g (lw_at lw_m5 191 rfl) rfl
theorem q1260 : (Jvm.Cond.fieldLink "WoodliceSenateModel" (82 : Nat) "WoodliceSenateModel" "planRow" "[I") ∈ lw_all := lw_g (lw_at lw_m5 192 rfl) rfl
theorem q1261 : (Jvm.Cond.fieldLink "WoodliceSenateModel" (297 : Nat) "WoodliceSenateModel" "seens" "I") ∈ lw_all := lw_g (lw_at lw_m5 193 rfl) rfl
theorem q1262 : (Jvm.Cond.fieldLink "WoodliceSenateModel" (85 : Nat) "WoodliceSenateModel" "seenHour" "[I") ∈ lw_all := lw_g (lw_at lw_m5 194 rfl) rfl
theorem q1263 : (Jvm.Cond.fieldLink "WoodliceSenateModel" (88 : Nat) "WoodliceSenateModel" "seenWho" "[I") ∈ lw_all := lw_g (lw_at lw_m5 195 rfl) rfl
theorem q1264 : (Jvm.Cond.fieldLink "WoodliceSenateModel" (91 : Nat) "WoodliceSenateModel" "seenPlace" "[I") ∈ lw_all := lw_g (lw_at lw_m5 196 rfl) rfl
theorem q1265 : (Jvm.Cond.fieldLink "WoodliceSenateModel" (94 : Nat) "WoodliceSenateModel" "dampBy" "[I") ∈ lw_all := lw_g (lw_at lw_m5 197 rfl) rfl
theorem q1266 : (Jvm.Cond.fieldLink "WoodliceSenateModel" (97 : Nat) "WoodliceSenateModel" "isThere" "[Z") ∈ lw_all := lw_g (lw_at lw_m5 198 rfl) rfl
theorem q1267 : (Jvm.Cond.fieldLink "WoodliceSenateModel" (101 : Nat) "WoodliceSenateModel" "forms" "[I") ∈ lw_all := lw_g (lw_at lw_m5 199 rfl) rfl
theorem q1268 : (Jvm.Cond.fieldLink "WoodliceSenateModel" (104 : Nat) "WoodliceSenateModel" "sizes" "[I") ∈ lw_all := lw_g (lw_at lw_m5 200 rfl) rfl
theorem q1269 : (Jvm.Cond.fieldLink "WoodliceSenateModel" (107 : Nat) "WoodliceSenateModel" "items" "[I") ∈ lw_all := lw_g (lw_at lw_m5 201 rfl) rfl
theorem q1270 : (Jvm.Cond.fieldLink "WoodliceSenateModel" (110 : Nat) "WoodliceSenateModel" "moved" "[I") ∈ lw_all := lw_g (lw_at lw_m5 202 rfl) rfl
theorem q1271 : (Jvm.Cond.fieldLink "WoodliceSenateModel" (332 : Nat) "WoodliceSenateModel" "finding" "I") ∈ lw_all := lw_g (lw_at lw_m5 203 rfl) rfl
theorem q1272 : (Jvm.Cond.laysFinal "WoodliceSenateModel" "WoodliceSenateModel" "typed" "[I") ∈ lw_all := lw_g (lw_at lw_m5 204 rfl) rfl
theorem q1273 : (Jvm.Cond.soleField "WoodliceSenateModel" "typed") ∈ lw_all := lw_g (lw_at lw_m5 205 rfl) rfl
theorem q1274 : (Jvm.Cond.laysFinal "WoodliceSenateModel" "WoodliceSenateModel" "texts" "[I") ∈ lw_all := lw_g (lw_at lw_m5 206 rfl) rfl
theorem q1275 : (Jvm.Cond.soleField "WoodliceSenateModel" "texts") ∈ lw_all := lw_g (lw_at lw_m5 207 rfl) rfl
theorem q1276 : (Jvm.Cond.lays "WoodliceSenateModel" "WoodliceSenateModel" "figures" "I") ∈ lw_all := lw_g (lw_at lw_m5 208 rfl) rfl
theorem q1277 : (Jvm.Cond.soleField "WoodliceSenateModel" "figures") ∈ lw_all := lw_g (lw_at lw_m5 209 rfl) rfl
theorem q1278 : (Jvm.Cond.laysFinal "WoodliceSenateModel" "WoodliceSenateModel" "stoneTold" "[I") ∈ lw_all := lw_g (lw_at lw_m5 210 rfl) rfl
theorem q1279 : (Jvm.Cond.soleField "WoodliceSenateModel" "stoneTold") ∈ lw_all := lw_g (lw_at lw_m5 211 rfl) rfl
theorem q1280 : (Jvm.Cond.lays "WoodliceSenateModel" "WoodliceSenateModel" "members" "I") ∈ lw_all := lw_g (lw_at lw_m5 212 rfl) rfl
theorem q1281 : (Jvm.Cond.soleField "WoodliceSenateModel" "members") ∈ lw_all := lw_g (lw_at lw_m5 213 rfl) rfl
theorem q1282 : (Jvm.Cond.laysFinal "WoodliceSenateModel" "WoodliceSenateModel" "sorts" "[I") ∈ lw_all := lw_g (lw_at lw_m5 214 rfl) rfl
theorem q1283 : (Jvm.Cond.soleField "WoodliceSenateModel" "sorts") ∈ lw_all := lw_g (lw_at lw_m5 215 rfl) rfl
theorem q1284 : (Jvm.Cond.laysFinal "WoodliceSenateModel" "WoodliceSenateModel" "placeTold" "[I") ∈ lw_all := lw_g (lw_at lw_m5 216 rfl) rfl
theorem q1285 : (Jvm.Cond.soleField "WoodliceSenateModel" "placeTold") ∈ lw_all := lw_g (lw_at lw_m5 217 rfl) rfl
theorem q1286 : (Jvm.Cond.laysFinal "WoodliceSenateModel" "WoodliceSenateModel" "upTold" "[I") ∈ lw_all := lw_g (lw_at lw_m5 218 rfl) rfl
theorem q1287 : (Jvm.Cond.soleField "WoodliceSenateModel" "upTold") ∈ lw_all := lw_g (lw_at lw_m5 219 rfl) rfl
theorem q1288 : (Jvm.Cond.lays "WoodliceSenateModel" "WoodliceSenateModel" "events" "I") ∈ lw_all := lw_g (lw_at lw_m5 220 rfl) rfl
theorem q1289 : (Jvm.Cond.soleField "WoodliceSenateModel" "events") ∈ lw_all := lw_g (lw_at lw_m5 221 rfl) rfl
theorem q1290 : (Jvm.Cond.laysFinal "WoodliceSenateModel" "WoodliceSenateModel" "eventKind" "[I") ∈ lw_all := lw_g (lw_at lw_m5 222 rfl) rfl
theorem q1291 : (Jvm.Cond.soleField "WoodliceSenateModel" "eventKind") ∈ lw_all := lw_g (lw_at lw_m5 223 rfl) rfl
theorem q1292 : (Jvm.Cond.laysFinal "WoodliceSenateModel" "WoodliceSenateModel" "eventHour" "[I") ∈ lw_all := lw_g (lw_at lw_m5 224 rfl) rfl
theorem q1293 : (Jvm.Cond.soleField "WoodliceSenateModel" "eventHour") ∈ lw_all := lw_g (lw_at lw_m5 225 rfl) rfl
theorem q1294 : (Jvm.Cond.laysFinal "WoodliceSenateModel" "WoodliceSenateModel" "eventPlace" "[I") ∈ lw_all := lw_g (lw_at lw_m5 226 rfl) rfl
theorem q1295 : (Jvm.Cond.soleField "WoodliceSenateModel" "eventPlace") ∈ lw_all := lw_g (lw_at lw_m5 227 rfl) rfl
theorem q1296 : (Jvm.Cond.lays "WoodliceSenateModel" "WoodliceSenateModel" "eventsNow" "I") ∈ lw_all := lw_g (lw_at lw_m5 228 rfl) rfl
theorem q1297 : (Jvm.Cond.soleField "WoodliceSenateModel" "eventsNow") ∈ lw_all := lw_g (lw_at lw_m5 229 rfl) rfl
theorem q1298 : (Jvm.Cond.laysFinal "WoodliceSenateModel" "WoodliceSenateModel" "kindNow" "[I") ∈ lw_all := lw_g (lw_at lw_m5 230 rfl) rfl
theorem q1299 : (Jvm.Cond.soleField "WoodliceSenateModel" "kindNow") ∈ lw_all := lw_g (lw_at lw_m5 231 rfl) rfl
theorem q1300 : (Jvm.Cond.laysFinal "WoodliceSenateModel" "WoodliceSenateModel" "hourNow" "[I") ∈ lw_all := lw_g (lw_at lw_m5 232 rfl) rfl
theorem q1301 : (Jvm.Cond.soleField "WoodliceSenateModel" "hourNow") ∈ lw_all := lw_g (lw_at lw_m5 233 rfl) rfl
theorem q1302 : (Jvm.Cond.laysFinal "WoodliceSenateModel" "WoodliceSenateModel" "placeNow" "[I") ∈ lw_all := lw_g (lw_at lw_m5 234 rfl) rfl
theorem q1303 : (Jvm.Cond.soleField "WoodliceSenateModel" "placeNow") ∈ lw_all := lw_g (lw_at lw_m5 235 rfl) rfl
theorem q1304 : (Jvm.Cond.lays "WoodliceSenateModel" "WoodliceSenateModel" "notEvents" "I") ∈ lw_all := lw_g (lw_at lw_m5 236 rfl) rfl
theorem q1305 : (Jvm.Cond.soleField "WoodliceSenateModel" "notEvents") ∈ lw_all := lw_g (lw_at lw_m5 237 rfl) rfl
theorem q1306 : (Jvm.Cond.laysFinal "WoodliceSenateModel" "WoodliceSenateModel" "damps" "[I") ∈ lw_all := lw_g (lw_at lw_m5 238 rfl) rfl
theorem q1307 : (Jvm.Cond.soleField "WoodliceSenateModel" "damps") ∈ lw_all := lw_g (lw_at lw_m5 239 rfl) rfl
theorem q1308 : (Jvm.Cond.laysFinal "WoodliceSenateModel" "WoodliceSenateModel" "at" "[I") ∈ lw_all := lw_g (lw_at lw_m6 0 rfl) rfl
theorem q1309 : (Jvm.Cond.soleField "WoodliceSenateModel" "at") ∈ lw_all := lw_g (lw_at lw_m6 1 rfl) rfl
theorem q1310 : (Jvm.Cond.laysFinal "WoodliceSenateModel" "WoodliceSenateModel" "ups" "[I") ∈ lw_all := lw_g (lw_at lw_m6 2 rfl) rfl
theorem q1311 : (Jvm.Cond.soleField "WoodliceSenateModel" "ups") ∈ lw_all := lw_g (lw_at lw_m6 3 rfl) rfl
theorem q1312 : (Jvm.Cond.laysFinal "WoodliceSenateModel" "WoodliceSenateModel" "until" "[I") ∈ lw_all := lw_g (lw_at lw_m6 4 rfl) rfl
theorem q1313 : (Jvm.Cond.soleField "WoodliceSenateModel" "until") ∈ lw_all := lw_g (lw_at lw_m6 5 rfl) rfl
theorem q1314 : (Jvm.Cond.laysFinal "WoodliceSenateModel" "WoodliceSenateModel" "speeches" "[I") ∈ lw_all := lw_g (lw_at lw_m6 6 rfl) rfl
theorem q1315 : (Jvm.Cond.soleField "WoodliceSenateModel" "speeches") ∈ lw_all := lw_g (lw_at lw_m6 7 rfl) rfl
theorem q1316 : (Jvm.Cond.lays "WoodliceSenateModel" "WoodliceSenateModel" "went" "I") ∈ lw_all := lw_g (lw_at lw_m6 8 rfl) rfl
theorem q1317 : (Jvm.Cond.soleField "WoodliceSenateModel" "went") ∈ lw_all := lw_g (lw_at lw_m6 9 rfl) rfl
theorem q1318 : (Jvm.Cond.laysFinal "WoodliceSenateModel" "WoodliceSenateModel" "dampAt" "[I") ∈ lw_all := lw_g (lw_at lw_m6 10 rfl) rfl
theorem q1319 : (Jvm.Cond.soleField "WoodliceSenateModel" "dampAt") ∈ lw_all := lw_g (lw_at lw_m6 11 rfl) rfl
theorem q1320 : (Jvm.Cond.laysFinal "WoodliceSenateModel" "WoodliceSenateModel" "atAt" "[I") ∈ lw_all := lw_g (lw_at lw_m6 12 rfl) rfl
theorem q1321 : (Jvm.Cond.soleField "WoodliceSenateModel" "atAt") ∈ lw_all := lw_g (lw_at lw_m6 13 rfl) rfl
theorem q1322 : (Jvm.Cond.laysFinal "WoodliceSenateModel" "WoodliceSenateModel" "upAt" "[I") ∈ lw_all := lw_g (lw_at lw_m6 14 rfl) rfl
theorem q1323 : (Jvm.Cond.soleField "WoodliceSenateModel" "upAt") ∈ lw_all := lw_g (lw_at lw_m6 15 rfl) rfl
theorem q1324 : (Jvm.Cond.laysFinal "WoodliceSenateModel" "WoodliceSenateModel" "speechAt" "[I") ∈ lw_all := lw_g (lw_at lw_m6 16 rfl) rfl
theorem q1325 : (Jvm.Cond.soleField "WoodliceSenateModel" "speechAt") ∈ lw_all := lw_g (lw_at lw_m6 17 rfl) rfl
theorem q1326 : (Jvm.Cond.laysFinal "WoodliceSenateModel" "WoodliceSenateModel" "rolledAt" "[I") ∈ lw_all := lw_g (lw_at lw_m6 18 rfl) rfl
theorem q1327 : (Jvm.Cond.soleField "WoodliceSenateModel" "rolledAt") ∈ lw_all := lw_g (lw_at lw_m6 19 rfl) rfl
theorem q1328 : (Jvm.Cond.laysFinal "WoodliceSenateModel" "WoodliceSenateModel" "ayesAt" "[I") ∈ lw_all := lw_g (lw_at lw_m6 20 rfl) rfl
theorem q1329 : (Jvm.Cond.soleField "WoodliceSenateModel" "ayesAt") ∈ lw_all := lw_g (lw_at lw_m6 21 rfl) rfl
theorem q1330 : (Jvm.Cond.laysFinal "WoodliceSenateModel" "WoodliceSenateModel" "noesAt" "[I") ∈ lw_all := lw_g (lw_at lw_m6 22 rfl) rfl
theorem q1331 : (Jvm.Cond.soleField "WoodliceSenateModel" "noesAt") ∈ lw_all := lw_g (lw_at lw_m6 23 rfl) rfl
theorem q1332 : (Jvm.Cond.laysFinal "WoodliceSenateModel" "WoodliceSenateModel" "planRow" "[I") ∈ lw_all := lw_g (lw_at lw_m6 24 rfl) rfl
theorem q1333 : (Jvm.Cond.soleField "WoodliceSenateModel" "planRow") ∈ lw_all := lw_g (lw_at lw_m6 25 rfl) rfl
theorem q1334 : (Jvm.Cond.lays "WoodliceSenateModel" "WoodliceSenateModel" "seens" "I") ∈ lw_all := lw_g (lw_at lw_m6 26 rfl) rfl
theorem q1335 : (Jvm.Cond.soleField "WoodliceSenateModel" "seens") ∈ lw_all := lw_g (lw_at lw_m6 27 rfl) rfl
theorem q1336 : (Jvm.Cond.laysFinal "WoodliceSenateModel" "WoodliceSenateModel" "seenHour" "[I") ∈ lw_all := lw_g (lw_at lw_m6 28 rfl) rfl
theorem q1337 : (Jvm.Cond.soleField "WoodliceSenateModel" "seenHour") ∈ lw_all := lw_g (lw_at lw_m6 29 rfl) rfl
theorem q1338 : (Jvm.Cond.laysFinal "WoodliceSenateModel" "WoodliceSenateModel" "seenWho" "[I") ∈ lw_all := lw_g (lw_at lw_m6 30 rfl) rfl
theorem q1339 : (Jvm.Cond.soleField "WoodliceSenateModel" "seenWho") ∈ lw_all := lw_g (lw_at lw_m6 31 rfl) rfl
theorem q1340 : (Jvm.Cond.laysFinal "WoodliceSenateModel" "WoodliceSenateModel" "seenPlace" "[I") ∈ lw_all := lw_g (lw_at lw_m6 32 rfl) rfl
theorem q1341 : (Jvm.Cond.soleField "WoodliceSenateModel" "seenPlace") ∈ lw_all := lw_g (lw_at lw_m6 33 rfl) rfl
theorem q1342 : (Jvm.Cond.laysFinal "WoodliceSenateModel" "WoodliceSenateModel" "dampBy" "[I") ∈ lw_all := lw_g (lw_at lw_m6 34 rfl) rfl
theorem q1343 : (Jvm.Cond.soleField "WoodliceSenateModel" "dampBy") ∈ lw_all := lw_g (lw_at lw_m6 35 rfl) rfl
theorem q1344 : (Jvm.Cond.laysFinal "WoodliceSenateModel" "WoodliceSenateModel" "isThere" "[Z") ∈ lw_all := lw_g (lw_at lw_m6 36 rfl) rfl
theorem q1345 : (Jvm.Cond.soleField "WoodliceSenateModel" "isThere") ∈ lw_all := lw_g (lw_at lw_m6 37 rfl) rfl
theorem q1346 : (Jvm.Cond.laysFinal "WoodliceSenateModel" "WoodliceSenateModel" "forms" "[I") ∈ lw_all := lw_g (lw_at lw_m6 38 rfl) rfl
theorem q1347 : (Jvm.Cond.soleField "WoodliceSenateModel" "forms") ∈ lw_all := lw_g (lw_at lw_m6 39 rfl) rfl
theorem q1348 : (Jvm.Cond.laysFinal "WoodliceSenateModel" "WoodliceSenateModel" "sizes" "[I") ∈ lw_all := lw_g (lw_at lw_m6 40 rfl) rfl
theorem q1349 : (Jvm.Cond.soleField "WoodliceSenateModel" "sizes") ∈ lw_all := lw_g (lw_at lw_m6 41 rfl) rfl
theorem q1350 : (Jvm.Cond.laysFinal "WoodliceSenateModel" "WoodliceSenateModel" "items" "[I") ∈ lw_all := lw_g (lw_at lw_m6 42 rfl) rfl
theorem q1351 : (Jvm.Cond.soleField "WoodliceSenateModel" "items") ∈ lw_all := lw_g (lw_at lw_m6 43 rfl) rfl
theorem q1352 : (Jvm.Cond.laysFinal "WoodliceSenateModel" "WoodliceSenateModel" "moved" "[I") ∈ lw_all := lw_g (lw_at lw_m6 44 rfl) rfl
theorem q1353 : (Jvm.Cond.soleField "WoodliceSenateModel" "moved") ∈ lw_all := lw_g (lw_at lw_m6 45 rfl) rfl
theorem q1354 : (Jvm.Cond.lays "WoodliceSenateModel" "WoodliceSenateModel" "finding" "I") ∈ lw_all := lw_g (lw_at lw_m6 46 rfl) rfl
theorem q1355 : (Jvm.Cond.soleField "WoodliceSenateModel" "finding") ∈ lw_all := lw_g (lw_at lw_m6 47 rfl) rfl
theorem q1356 : (Jvm.Cond.superclass "WoodliceSenateModel" "java/lang/Object") ∈ lw_all := lw_g (lw_at lw_m6 48 rfl) rfl
theorem q1359 : (Jvm.Cond.instanceMethod ({ cls := "WoodliceSenateModel", name := "type", desc := "(II)I" } : Jvm.MethodName)) ∈ lw_all := lw_g (lw_at lw_m6 51 rfl) rfl
theorem q1360 : (Jvm.Cond.selects "WoodliceSenateModel" ({ cls := "WoodliceSenateModel", name := "type", desc := "(II)I" } : Jvm.MethodName) ({ cls := "WoodliceSenateModel", name := "type", desc := "(II)I" } : Jvm.MethodName)) ∈ lw_all := lw_g (lw_at lw_m6 52 rfl) rfl
theorem q1361 : (Jvm.Cond.code ({ cls := "WoodliceSenateModel", name := "type", desc := "(II)I" } : Jvm.MethodName) prog_13_method_10_code (3 : Nat) (Option.some Jvm.ClassFile.FieldType.int)) ∈ lw_all := lw_g (lw_at lw_m6 53 rfl) rfl
theorem q1362 : (Jvm.Cond.methodLink "WoodliceSenateModel" (119 : Nat) ({ cls := "WoodliceSenateModel", name := "isText", desc := "(I)Z" } : Jvm.MethodName)) ∈ lw_all := lw_g (lw_at lw_m6 54 rfl) rfl
theorem q1363 : (Jvm.Cond.static ({ cls := "WoodliceSenateModel", name := "isText", desc := "(I)Z" } : Jvm.MethodName)) ∈ lw_all := lw_g (lw_at lw_m6 55 rfl) rfl
theorem q1364 : (Jvm.Cond.code ({ cls := "WoodliceSenateModel", name := "isText", desc := "(I)Z" } : Jvm.MethodName) prog_13_method_7_code (1 : Nat) (Option.some Jvm.ClassFile.FieldType.boolean)) ∈ lw_all := lw_g (lw_at lw_m6 56 rfl) rfl
theorem q1365 : (Jvm.Cond.methodLink "WoodliceSenateModel" (115 : Nat) ({ cls := "WoodliceSenateModel", name := "in", desc := "(III)Z" } : Jvm.MethodName)) ∈ lw_all := lw_g (lw_at lw_m6 57 rfl) rfl
theorem q1366 : (Jvm.Cond.static ({ cls := "WoodliceSenateModel", name := "in", desc := "(III)Z" } : Jvm.MethodName)) ∈ lw_all := lw_g (lw_at lw_m6 58 rfl) rfl
theorem q1367 : (Jvm.Cond.code ({ cls := "WoodliceSenateModel", name := "in", desc := "(III)Z" } : Jvm.MethodName) prog_13_method_3_code (3 : Nat) (Option.some Jvm.ClassFile.FieldType.boolean)) ∈ lw_all := lw_g (lw_at lw_m6 59 rfl) rfl
theorem q1369 : (Jvm.Cond.instanceMethod ({ cls := "WoodliceSenateModel", name := "wipe", desc := "(I)I" } : Jvm.MethodName)) ∈ lw_all := lw_g (lw_at lw_m6 61 rfl) rfl
theorem q1370 : (Jvm.Cond.selects "WoodliceSenateModel" ({ cls := "WoodliceSenateModel", name := "wipe", desc := "(I)I" } : Jvm.MethodName) ({ cls := "WoodliceSenateModel", name := "wipe", desc := "(I)I" } : Jvm.MethodName)) ∈ lw_all := lw_g (lw_at lw_m6 62 rfl) rfl
theorem q1371 : (Jvm.Cond.code ({ cls := "WoodliceSenateModel", name := "wipe", desc := "(I)I" } : Jvm.MethodName) prog_13_method_11_code (3 : Nat) (Option.some Jvm.ClassFile.FieldType.int)) ∈ lw_all := lw_g (lw_at lw_m6 63 rfl) rfl
theorem q1373 : (Jvm.Cond.instanceMethod ({ cls := "WoodliceSenateModel", name := "undo", desc := "(I)I" } : Jvm.MethodName)) ∈ lw_all := lw_g (lw_at lw_m6 65 rfl) rfl
theorem q1374 : (Jvm.Cond.selects "WoodliceSenateModel" ({ cls := "WoodliceSenateModel", name := "undo", desc := "(I)I" } : Jvm.MethodName) ({ cls := "WoodliceSenateModel", name := "undo", desc := "(I)I" } : Jvm.MethodName)) ∈ lw_all := lw_g (lw_at lw_m6 66 rfl) rfl
theorem q1375 : (Jvm.Cond.code ({ cls := "WoodliceSenateModel", name := "undo", desc := "(I)I" } : Jvm.MethodName) prog_13_method_12_code (2 : Nat) (Option.some Jvm.ClassFile.FieldType.int)) ∈ lw_all := lw_g (lw_at lw_m6 67 rfl) rfl
theorem q1377 : (Jvm.Cond.instanceMethod ({ cls := "WoodliceSenateModel", name := "fault", desc := "(I)I" } : Jvm.MethodName)) ∈ lw_all := lw_g (lw_at lw_m6 69 rfl) rfl
theorem q1378 : (Jvm.Cond.selects "WoodliceSenateModel" ({ cls := "WoodliceSenateModel", name := "fault", desc := "(I)I" } : Jvm.MethodName) ({ cls := "WoodliceSenateModel", name := "fault", desc := "(I)I" } : Jvm.MethodName)) ∈ lw_all := lw_g (lw_at lw_m6 70 rfl) rfl
theorem q1379 : (Jvm.Cond.code ({ cls := "WoodliceSenateModel", name := "fault", desc := "(I)I" } : Jvm.MethodName) prog_13_method_20_code (2 : Nat) (Option.some Jvm.ClassFile.FieldType.int)) ∈ lw_all := lw_g (lw_at lw_m6 71 rfl) rfl
theorem q1380 : (Jvm.Cond.methodLink "WoodliceSenateModel" (148 : Nat) ({ cls := "WoodliceSenateModel", name := "faultOf", desc := "(I)I" } : Jvm.MethodName)) ∈ lw_all := lw_g (lw_at lw_m6 72 rfl) rfl
theorem q1381 : (Jvm.Cond.privateMethod ({ cls := "WoodliceSenateModel", name := "faultOf", desc := "(I)I" } : Jvm.MethodName)) ∈ lw_tbl := lw_at lw_m6 73 rfl
theorem q1382 : (Jvm.Cond.instanceMethod ({ cls := "WoodliceSenateModel", name := "faultOf", desc := "(I)I" } : Jvm.MethodName)) ∈ lw_all := lw_g (lw_at lw_m6 74 rfl) rfl
theorem q1383 : (Jvm.Cond.code ({ cls := "WoodliceSenateModel", name := "faultOf", desc := "(I)I" } : Jvm.MethodName) prog_13_method_18_code (4 : Nat) (Option.some Jvm.ClassFile.FieldType.int)) ∈ lw_all := lw_g (lw_at lw_m6 75 rfl) rfl
theorem q1384 : (Jvm.Cond.methodLink "WoodliceSenateModel" (141 : Nat) ({ cls := "WoodliceSenateModel", name := "readsStone", desc := "()I" } : Jvm.MethodName)) ∈ lw_all := lw_g (lw_at lw_m6 76 rfl) rfl
theorem q1385 : (Jvm.Cond.privateMethod ({ cls := "WoodliceSenateModel", name := "readsStone", desc := "()I" } : Jvm.MethodName)) ∈ lw_tbl := lw_at lw_m6 77 rfl
theorem q1386 : (Jvm.Cond.instanceMethod ({ cls := "WoodliceSenateModel", name := "readsStone", desc := "()I" } : Jvm.MethodName)) ∈ lw_all := lw_g (lw_at lw_m6 78 rfl) rfl
theorem q1387 : (Jvm.Cond.code ({ cls := "WoodliceSenateModel", name := "readsStone", desc := "()I" } : Jvm.MethodName) prog_13_method_13_code (2 : Nat) (Option.some Jvm.ClassFile.FieldType.int)) ∈ lw_all := lw_g (lw_at lw_m6 79 rfl) rfl
theorem q1388 : (Jvm.Cond.methodLink "WoodliceSenateModel" (145 : Nat) ({ cls := "WoodliceSenateModel", name := "readsMembers", desc := "()I" } : Jvm.MethodName)) ∈ lw_all := lw_g (lw_at lw_m6 80 rfl) rfl
theorem q1389 : (Jvm.Cond.privateMethod ({ cls := "WoodliceSenateModel", name := "readsMembers", desc := "()I" } : Jvm.MethodName)) ∈ lw_tbl := lw_at lw_m6 81 rfl
theorem q1390 : (Jvm.Cond.instanceMethod ({ cls := "WoodliceSenateModel", name := "readsMembers", desc := "()I" } : Jvm.MethodName)) ∈ lw_all := lw_g (lw_at lw_m6 82 rfl) rfl
theorem q1391 : (Jvm.Cond.code ({ cls := "WoodliceSenateModel", name := "readsMembers", desc := "()I" } : Jvm.MethodName) prog_13_method_17_code (4 : Nat) (Option.some Jvm.ClassFile.FieldType.int)) ∈ lw_all := lw_g (lw_at lw_m6 83 rfl) rfl
theorem q1392 : (Jvm.Cond.methodLink "WoodliceSenateModel" (137 : Nat) ({ cls := "WoodliceSenateModel", name := "readsMember", desc := "(II)I" } : Jvm.MethodName)) ∈ lw_all := lw_g (lw_at lw_m6 84 rfl) rfl
theorem q1393 : (Jvm.Cond.privateMethod ({ cls := "WoodliceSenateModel", name := "readsMember", desc := "(II)I" } : Jvm.MethodName)) ∈ lw_tbl := lw_at lw_m6 85 rfl
theorem q1394 : (Jvm.Cond.instanceMethod ({ cls := "WoodliceSenateModel", name := "readsMember", desc := "(II)I" } : Jvm.MethodName)) ∈ lw_all := lw_g (lw_at lw_m6 86 rfl) rfl
theorem q1395 : (Jvm.Cond.code ({ cls := "WoodliceSenateModel", name := "readsMember", desc := "(II)I" } : Jvm.MethodName) prog_13_method_16_code (4 : Nat) (Option.some Jvm.ClassFile.FieldType.int)) ∈ lw_all := lw_g (lw_at lw_m6 87 rfl) rfl
theorem q1396 : (Jvm.Cond.methodLink "WoodliceSenateModel" (131 : Nat) ({ cls := "WoodliceSenateModel", name := "sortAt", desc := "(I)I" } : Jvm.MethodName)) ∈ lw_all := lw_g (lw_at lw_m6 88 rfl) rfl
theorem q1397 : (Jvm.Cond.privateMethod ({ cls := "WoodliceSenateModel", name := "sortAt", desc := "(I)I" } : Jvm.MethodName)) ∈ lw_tbl := lw_at lw_m6 89 rfl
theorem q1398 : (Jvm.Cond.instanceMethod ({ cls := "WoodliceSenateModel", name := "sortAt", desc := "(I)I" } : Jvm.MethodName)) ∈ lw_all := lw_g (lw_at lw_m6 90 rfl) rfl
theorem q1399 : (Jvm.Cond.code ({ cls := "WoodliceSenateModel", name := "sortAt", desc := "(I)I" } : Jvm.MethodName) prog_13_method_15_code (3 : Nat) (Option.some Jvm.ClassFile.FieldType.int)) ∈ lw_all := lw_g (lw_at lw_m6 91 rfl) rfl
theorem q1400 : (Jvm.Cond.methodLink "WoodliceSenateModel" (127 : Nat) ({ cls := "WoodliceSenateModel", name := "byteAt", desc := "(I)I" } : Jvm.MethodName)) ∈ lw_all := lw_g (lw_at lw_m6 92 rfl) rfl
theorem q1401 : (Jvm.Cond.privateMethod ({ cls := "WoodliceSenateModel", name := "byteAt", desc := "(I)I" } : Jvm.MethodName)) ∈ lw_tbl := lw_at lw_m6 93 rfl
theorem q1402 : (Jvm.Cond.instanceMethod ({ cls := "WoodliceSenateModel", name := "byteAt", desc := "(I)I" } : Jvm.MethodName)) ∈ lw_all := lw_g (lw_at lw_m6 94 rfl) rfl
theorem q1403 : (Jvm.Cond.code ({ cls := "WoodliceSenateModel", name := "byteAt", desc := "(I)I" } : Jvm.MethodName) prog_13_method_14_code (2 : Nat) (Option.some Jvm.ClassFile.FieldType.int)) ∈ lw_all := lw_g (lw_at lw_m6 95 rfl) rfl
theorem q1405 : (Jvm.Cond.instanceMethod ({ cls := "WoodliceSenateModel", name := "stone", desc := "(I)I" } : Jvm.MethodName)) ∈ lw_all := lw_g (lw_at lw_m6 97 rfl) rfl
theorem q1406 : (Jvm.Cond.selects "WoodliceSenateModel" ({ cls := "WoodliceSenateModel", name := "stone", desc := "(I)I" } : Jvm.MethodName) ({ cls := "WoodliceSenateModel", name := "stone", desc := "(I)I" } : Jvm.MethodName)) ∈ lw_all := lw_g (lw_at lw_m6 98 rfl) rfl
theorem q1407 : (Jvm.Cond.code ({ cls := "WoodliceSenateModel", name := "stone", desc := "(I)I" } : Jvm.MethodName) prog_13_method_23_code (2 : Nat) (Option.some Jvm.ClassFile.FieldType.int)) ∈ lw_all := lw_g (lw_at lw_m6 99 rfl) rfl
theorem q1408 : (Jvm.Cond.methodLink "WoodliceSenateModel" (154 : Nat) ({ cls := "WoodliceSenateModel", name := "isPlace", desc := "(I)Z" } : Jvm.MethodName)) ∈ lw_all := lw_g (lw_at lw_m6 100 rfl) rfl
theorem q1409 : (Jvm.Cond.static ({ cls := "WoodliceSenateModel", name := "isPlace", desc := "(I)Z" } : Jvm.MethodName)) ∈ lw_all := lw_g (lw_at lw_m6 101 rfl) rfl
theorem q1410 : (Jvm.Cond.code ({ cls := "WoodliceSenateModel", name := "isPlace", desc := "(I)Z" } : Jvm.MethodName) prog_13_method_9_code (1 : Nat) (Option.some Jvm.ClassFile.FieldType.boolean)) ∈ lw_all := lw_g (lw_at lw_m6 102 rfl) rfl
theorem q1411 : (Jvm.Cond.methodLink "WoodliceSenateModel" (157 : Nat) ({ cls := "WoodliceSenateModel", name := "stoneOf", desc := "(I)I" } : Jvm.MethodName)) ∈ lw_all := lw_g (lw_at lw_m6 103 rfl) rfl
theorem q1412 : (Jvm.Cond.privateMethod ({ cls := "WoodliceSenateModel", name := "stoneOf", desc := "(I)I" } : Jvm.MethodName)) ∈ lw_tbl := lw_at lw_m6 104 rfl
theorem q1413 : (Jvm.Cond.instanceMethod ({ cls := "WoodliceSenateModel", name := "stoneOf", desc := "(I)I" } : Jvm.MethodName)) ∈ lw_all := lw_g (lw_at lw_m6 105 rfl) rfl
theorem q1414 : (Jvm.Cond.code ({ cls := "WoodliceSenateModel", name := "stoneOf", desc := "(I)I" } : Jvm.MethodName) prog_13_method_22_code (2 : Nat) (Option.some Jvm.ClassFile.FieldType.int)) ∈ lw_all := lw_g (lw_at lw_m6 106 rfl) rfl
theorem q1415 : (Jvm.Cond.methodLink "WoodliceSenateModel" (151 : Nat) ({ cls := "WoodliceSenateModel", name := "reads", desc := "()V" } : Jvm.MethodName)) ∈ lw_all := lw_g (lw_at lw_m6 107 rfl) rfl
theorem q1416 : (Jvm.Cond.privateMethod ({ cls := "WoodliceSenateModel", name := "reads", desc := "()V" } : Jvm.MethodName)) ∈ lw_tbl := lw_at lw_m6 108 rfl
theorem q1417 : (Jvm.Cond.instanceMethod ({ cls := "WoodliceSenateModel", name := "reads", desc := "()V" } : Jvm.MethodName)) ∈ lw_all := lw_g (lw_at lw_m6 109 rfl) rfl
theorem q1418 : (Jvm.Cond.code ({ cls := "WoodliceSenateModel", name := "reads", desc := "()V" } : Jvm.MethodName) prog_13_method_19_code (2 : Nat) (Option.none : Option Jvm.ClassFile.FieldType)) ∈ lw_all := lw_g (lw_at lw_m6 110 rfl) rfl
theorem q1420 : (Jvm.Cond.instanceMethod ({ cls := "WoodliceSenateModel", name := "member", desc := "(II)I" } : Jvm.MethodName)) ∈ lw_all := lw_g (lw_at lw_m6 112 rfl) rfl
theorem q1421 : (Jvm.Cond.selects "WoodliceSenateModel" ({ cls := "WoodliceSenateModel", name := "member", desc := "(II)I" } : Jvm.MethodName) ({ cls := "WoodliceSenateModel", name := "member", desc := "(II)I" } : Jvm.MethodName)) ∈ lw_all := lw_g (lw_at lw_m6 113 rfl) rfl
theorem q1422 : (Jvm.Cond.code ({ cls := "WoodliceSenateModel", name := "member", desc := "(II)I" } : Jvm.MethodName) prog_13_method_25_code (3 : Nat) (Option.some Jvm.ClassFile.FieldType.int)) ∈ lw_all := lw_g (lw_at lw_m6 114 rfl) rfl
theorem q1423 : (Jvm.Cond.methodLink "WoodliceSenateModel" (160 : Nat) ({ cls := "WoodliceSenateModel", name := "isMember", desc := "(I)Z" } : Jvm.MethodName)) ∈ lw_all := lw_g (lw_at lw_m6 115 rfl) rfl
theorem q1424 : (Jvm.Cond.privateMethod ({ cls := "WoodliceSenateModel", name := "isMember", desc := "(I)Z" } : Jvm.MethodName)) ∈ lw_tbl := lw_at lw_m6 116 rfl
theorem q1425 : (Jvm.Cond.instanceMethod ({ cls := "WoodliceSenateModel", name := "isMember", desc := "(I)Z" } : Jvm.MethodName)) ∈ lw_all := lw_g (lw_at lw_m6 117 rfl) rfl
theorem q1426 : (Jvm.Cond.code ({ cls := "WoodliceSenateModel", name := "isMember", desc := "(I)Z" } : Jvm.MethodName) prog_13_method_21_code (2 : Nat) (Option.some Jvm.ClassFile.FieldType.boolean)) ∈ lw_all := lw_g (lw_at lw_m6 118 rfl) rfl
theorem q1427 : (Jvm.Cond.methodLink "WoodliceSenateModel" (163 : Nat) ({ cls := "WoodliceSenateModel", name := "memberOf", desc := "(II)I" } : Jvm.MethodName)) ∈ lw_all := lw_g (lw_at lw_m6 119 rfl) rfl
theorem q1428 : (Jvm.Cond.privateMethod ({ cls := "WoodliceSenateModel", name := "memberOf", desc := "(II)I" } : Jvm.MethodName)) ∈ lw_tbl := lw_at lw_m6 120 rfl
theorem q1429 : (Jvm.Cond.instanceMethod ({ cls := "WoodliceSenateModel", name := "memberOf", desc := "(II)I" } : Jvm.MethodName)) ∈ lw_all := lw_g (lw_at lw_m6 121 rfl) rfl
theorem q1430 : (Jvm.Cond.code ({ cls := "WoodliceSenateModel", name := "memberOf", desc := "(II)I" } : Jvm.MethodName) prog_13_method_24_code (3 : Nat) (Option.some Jvm.ClassFile.FieldType.int)) ∈ lw_all := lw_g (lw_at lw_m6 122 rfl) rfl
theorem q1432 : (Jvm.Cond.instanceMethod ({ cls := "WoodliceSenateModel", name := "event", desc := "(III)I" } : Jvm.MethodName)) ∈ lw_all := lw_g (lw_at lw_m6 124 rfl) rfl
theorem q1433 : (Jvm.Cond.selects "WoodliceSenateModel" ({ cls := "WoodliceSenateModel", name := "event", desc := "(III)I" } : Jvm.MethodName) ({ cls := "WoodliceSenateModel", name := "event", desc := "(III)I" } : Jvm.MethodName)) ∈ lw_all := lw_g (lw_at lw_m6 125 rfl) rfl
theorem q1434 : (Jvm.Cond.code ({ cls := "WoodliceSenateModel", name := "event", desc := "(III)I" } : Jvm.MethodName) prog_13_method_26_code (4 : Nat) (Option.some Jvm.ClassFile.FieldType.int)) ∈ lw_all := lw_g (lw_at lw_m6 126 rfl) rfl
theorem q1435 : (Jvm.Cond.methodLink "WoodliceSenateModel" (166 : Nat) ({ cls := "WoodliceSenateModel", name := "isHour", desc := "(I)Z" } : Jvm.MethodName)) ∈ lw_all := lw_g (lw_at lw_m6 127 rfl) rfl
theorem q1436 : (Jvm.Cond.static ({ cls := "WoodliceSenateModel", name := "isHour", desc := "(I)Z" } : Jvm.MethodName)) ∈ lw_all := lw_g (lw_at lw_m6 128 rfl) rfl
theorem q1437 : (Jvm.Cond.code ({ cls := "WoodliceSenateModel", name := "isHour", desc := "(I)Z" } : Jvm.MethodName) prog_13_method_8_code (1 : Nat) (Option.some Jvm.ClassFile.FieldType.boolean)) ∈ lw_all := lw_g (lw_at lw_m6 129 rfl) rfl
theorem q1439 : (Jvm.Cond.instanceMethod ({ cls := "WoodliceSenateModel", name := "back", desc := "()I" } : Jvm.MethodName)) ∈ lw_all := lw_g (lw_at lw_m6 131 rfl) rfl
theorem q1440 : (Jvm.Cond.selects "WoodliceSenateModel" ({ cls := "WoodliceSenateModel", name := "back", desc := "()I" } : Jvm.MethodName) ({ cls := "WoodliceSenateModel", name := "back", desc := "()I" } : Jvm.MethodName)) ∈ lw_all := lw_g (lw_at lw_m6 132 rfl) rfl
theorem q1441 : (Jvm.Cond.code ({ cls := "WoodliceSenateModel", name := "back", desc := "()I" } : Jvm.MethodName) prog_13_method_27_code (1 : Nat) (Option.some Jvm.ClassFile.FieldType.int)) ∈ lw_all := lw_g (lw_at lw_m6 133 rfl) rfl
theorem q1443 : (Jvm.Cond.instanceMethod ({ cls := "WoodliceSenateModel", name := "read", desc := "(I)I" } : Jvm.MethodName)) ∈ lw_all := lw_g (lw_at lw_m6 135 rfl) rfl
theorem q1444 : (Jvm.Cond.selects "WoodliceSenateModel" ({ cls := "WoodliceSenateModel", name := "read", desc := "(I)I" } : Jvm.MethodName) ({ cls := "WoodliceSenateModel", name := "read", desc := "(I)I" } : Jvm.MethodName)) ∈ lw_all := lw_g (lw_at lw_m6 136 rfl) rfl
theorem q1445 : (Jvm.Cond.code ({ cls := "WoodliceSenateModel", name := "read", desc := "(I)I" } : Jvm.MethodName) prog_13_method_28_code (4 : Nat) (Option.some Jvm.ClassFile.FieldType.int)) ∈ lw_all := lw_g (lw_at lw_m6 137 rfl) rfl
theorem q1446 : (Jvm.Cond.methodLink "WoodliceSenateModel" (172 : Nat) ({ cls := "WoodliceSenateModel", name := "isSheet", desc := "(I)Z" } : Jvm.MethodName)) ∈ lw_all := lw_g (lw_at lw_m6 138 rfl) rfl
theorem q1447 : (Jvm.Cond.static ({ cls := "WoodliceSenateModel", name := "isSheet", desc := "(I)Z" } : Jvm.MethodName)) ∈ lw_all := lw_g (lw_at lw_m6 139 rfl) rfl
theorem q1448 : (Jvm.Cond.code ({ cls := "WoodliceSenateModel", name := "isSheet", desc := "(I)Z" } : Jvm.MethodName) prog_13_method_90_code (1 : Nat) (Option.some Jvm.ClassFile.FieldType.boolean)) ∈ lw_all := lw_g (lw_at lw_m6 140 rfl) rfl
theorem q1449 : (Jvm.Cond.methodLink "WoodliceSenateModel" (175 : Nat) ({ cls := "WoodliceSenateModel", name := "meets", desc := "(I)I" } : Jvm.MethodName)) ∈ lw_all := lw_g (lw_at lw_m6 141 rfl) rfl
theorem q1450 : (Jvm.Cond.privateMethod ({ cls := "WoodliceSenateModel", name := "meets", desc := "(I)I" } : Jvm.MethodName)) ∈ lw_tbl := lw_at lw_m6 142 rfl
theorem q1451 : (Jvm.Cond.instanceMethod ({ cls := "WoodliceSenateModel", name := "meets", desc := "(I)I" } : Jvm.MethodName)) ∈ lw_all := lw_g (lw_at lw_m6 143 rfl) rfl
theorem q1452 : (Jvm.Cond.code ({ cls := "WoodliceSenateModel", name := "meets", desc := "(I)I" } : Jvm.MethodName) prog_13_method_89_code (2 : Nat) (Option.some Jvm.ClassFile.FieldType.int)) ∈ lw_all := lw_g (lw_at lw_m6 144 rfl) rfl
theorem q1453 : (Jvm.Cond.methodLink "WoodliceSenateModel" (178 : Nat) ({ cls := "WoodliceSenateModel", name := "event", desc := "(III)I" } : Jvm.MethodName)) ∈ lw_all := lw_g (lw_at lw_m6 145 rfl) rfl
theorem q1455 : (Jvm.Cond.instanceMethod ({ cls := "WoodliceSenateModel", name := "damp", desc := "(III)I" } : Jvm.MethodName)) ∈ lw_all := lw_g (lw_at lw_m6 147 rfl) rfl
theorem q1456 : (Jvm.Cond.selects "WoodliceSenateModel" ({ cls := "WoodliceSenateModel", name := "damp", desc := "(III)I" } : Jvm.MethodName) ({ cls := "WoodliceSenateModel", name := "damp", desc := "(III)I" } : Jvm.MethodName)) ∈ lw_all := lw_g (lw_at lw_m6 148 rfl) rfl
theorem q1457 : (Jvm.Cond.code ({ cls := "WoodliceSenateModel", name := "damp", desc := "(III)I" } : Jvm.MethodName) prog_13_method_45_code (4 : Nat) (Option.some Jvm.ClassFile.FieldType.int)) ∈ lw_all := lw_g (lw_at lw_m6 149 rfl) rfl
theorem q1458 : (Jvm.Cond.methodLink "WoodliceSenateModel" (242 : Nat) ({ cls := "WoodliceSenateModel", name := "dampOf", desc := "(III)I" } : Jvm.MethodName)) ∈ lw_all := lw_g (lw_at lw_m6 150 rfl) rfl
theorem q1459 : (Jvm.Cond.privateMethod ({ cls := "WoodliceSenateModel", name := "dampOf", desc := "(III)I" } : Jvm.MethodName)) ∈ lw_tbl := lw_at lw_m6 151 rfl
theorem q1460 : (Jvm.Cond.instanceMethod ({ cls := "WoodliceSenateModel", name := "dampOf", desc := "(III)I" } : Jvm.MethodName)) ∈ lw_all := lw_g (lw_at lw_m6 152 rfl) rfl
theorem q1461 : (Jvm.Cond.code ({ cls := "WoodliceSenateModel", name := "dampOf", desc := "(III)I" } : Jvm.MethodName) prog_13_method_44_code (4 : Nat) (Option.some Jvm.ClassFile.FieldType.int)) ∈ lw_all := lw_g (lw_at lw_m6 153 rfl) rfl
theorem q1462 : (Jvm.Cond.methodLink "WoodliceSenateModel" (239 : Nat) ({ cls := "WoodliceSenateModel", name := "runsTold", desc := "()V" } : Jvm.MethodName)) ∈ lw_all := lw_g (lw_at lw_m6 154 rfl) rfl
theorem q1463 : (Jvm.Cond.privateMethod ({ cls := "WoodliceSenateModel", name := "runsTold", desc := "()V" } : Jvm.MethodName)) ∈ lw_tbl := lw_at lw_m6 155 rfl
theorem q1464 : (Jvm.Cond.instanceMethod ({ cls := "WoodliceSenateModel", name := "runsTold", desc := "()V" } : Jvm.MethodName)) ∈ lw_all := lw_g (lw_at lw_m6 156 rfl) rfl
theorem q1465 : (Jvm.Cond.code ({ cls := "WoodliceSenateModel", name := "runsTold", desc := "()V" } : Jvm.MethodName) prog_13_method_43_code (1 : Nat) (Option.none : Option Jvm.ClassFile.FieldType)) ∈ lw_all := lw_g (lw_at lw_m6 157 rfl) rfl
theorem q1466 : (Jvm.Cond.methodLink "WoodliceSenateModel" (233 : Nat) ({ cls := "WoodliceSenateModel", name := "asTold", desc := "()V" } : Jvm.MethodName)) ∈ lw_all := lw_g (lw_at lw_m6 158 rfl) rfl
theorem q1467 : (Jvm.Cond.privateMethod ({ cls := "WoodliceSenateModel", name := "asTold", desc := "()V" } : Jvm.MethodName)) ∈ lw_tbl := lw_at lw_m6 159 rfl
theorem q1468 : (Jvm.Cond.instanceMethod ({ cls := "WoodliceSenateModel", name := "asTold", desc := "()V" } : Jvm.MethodName)) ∈ lw_all := lw_g (lw_at lw_m6 160 rfl) rfl
theorem q1469 : (Jvm.Cond.code ({ cls := "WoodliceSenateModel", name := "asTold", desc := "()V" } : Jvm.MethodName) prog_13_method_29_code (2 : Nat) (Option.none : Option Jvm.ClassFile.FieldType)) ∈ lw_all := lw_g (lw_at lw_m6 161 rfl) rfl
theorem q1470 : (Jvm.Cond.methodLink "WoodliceSenateModel" (236 : Nat) ({ cls := "WoodliceSenateModel", name := "runs", desc := "()V" } : Jvm.MethodName)) ∈ lw_all := lw_g (lw_at lw_m6 162 rfl) rfl
theorem q1471 : (Jvm.Cond.privateMethod ({ cls := "WoodliceSenateModel", name := "runs", desc := "()V" } : Jvm.MethodName)) ∈ lw_tbl := lw_at lw_m6 163 rfl
theorem q1472 : (Jvm.Cond.instanceMethod ({ cls := "WoodliceSenateModel", name := "runs", desc := "()V" } : Jvm.MethodName)) ∈ lw_all := lw_g (lw_at lw_m6 164 rfl) rfl
theorem q1473 : (Jvm.Cond.code ({ cls := "WoodliceSenateModel", name := "runs", desc := "()V" } : Jvm.MethodName) prog_13_method_42_code (2 : Nat) (Option.none : Option Jvm.ClassFile.FieldType)) ∈ lw_all := lw_g (lw_at lw_m6 165 rfl) rfl
theorem q1474 : (Jvm.Cond.methodLink "WoodliceSenateModel" (230 : Nat) ({ cls := "WoodliceSenateModel", name := "goesBy", desc := "(I)V" } : Jvm.MethodName)) ∈ lw_all := lw_g (lw_at lw_m6 166 rfl) rfl
theorem q1475 : (Jvm.Cond.privateMethod ({ cls := "WoodliceSenateModel", name := "goesBy", desc := "(I)V" } : Jvm.MethodName)) ∈ lw_tbl := lw_at lw_m6 167 rfl
theorem q1476 : (Jvm.Cond.instanceMethod ({ cls := "WoodliceSenateModel", name := "goesBy", desc := "(I)V" } : Jvm.MethodName)) ∈ lw_all := lw_g (lw_at lw_m6 168 rfl) rfl
theorem q1477 : (Jvm.Cond.code ({ cls := "WoodliceSenateModel", name := "goesBy", desc := "(I)V" } : Jvm.MethodName) prog_13_method_41_code (3 : Nat) (Option.none : Option Jvm.ClassFile.FieldType)) ∈ lw_all := lw_g (lw_at lw_m6 169 rfl) rfl
theorem q1478 : (Jvm.Cond.methodLink "WoodliceSenateModel" (215 : Nat) ({ cls := "WoodliceSenateModel", name := "isIn", desc := "(II)Z" } : Jvm.MethodName)) ∈ lw_all := lw_g (lw_at lw_m6 170 rfl) rfl
theorem q1479 : (Jvm.Cond.static ({ cls := "WoodliceSenateModel", name := "isIn", desc := "(II)Z" } : Jvm.MethodName)) ∈ lw_all := lw_g (lw_at lw_m6 171 rfl) rfl
theorem q1480 : (Jvm.Cond.code ({ cls := "WoodliceSenateModel", name := "isIn", desc := "(II)Z" } : Jvm.MethodName) prog_13_method_4_code (2 : Nat) (Option.some Jvm.ClassFile.FieldType.boolean)) ∈ lw_all := lw_g (lw_at lw_m6 172 rfl) rfl
theorem q1481 : (Jvm.Cond.methodLink "WoodliceSenateModel" (218 : Nat) ({ cls := "WoodliceSenateModel", name := "befalls", desc := "(I)V" } : Jvm.MethodName)) ∈ lw_all := lw_g (lw_at lw_m6 173 rfl) rfl
theorem q1482 : (Jvm.Cond.privateMethod ({ cls := "WoodliceSenateModel", name := "befalls", desc := "(I)V" } : Jvm.MethodName)) ∈ lw_tbl := lw_at lw_m6 174 rfl
theorem q1483 : (Jvm.Cond.instanceMethod ({ cls := "WoodliceSenateModel", name := "befalls", desc := "(I)V" } : Jvm.MethodName)) ∈ lw_all := lw_g (lw_at lw_m6 175 rfl) rfl
theorem q1484 : (Jvm.Cond.code ({ cls := "WoodliceSenateModel", name := "befalls", desc := "(I)V" } : Jvm.MethodName) prog_13_method_33_code (3 : Nat) (Option.none : Option Jvm.ClassFile.FieldType)) ∈ lw_all := lw_g (lw_at lw_m6 176 rfl) rfl
theorem q1485 : (Jvm.Cond.methodLink "WoodliceSenateModel" (188 : Nat) ({ cls := "WoodliceSenateModel", name := "lifts", desc := "(I)V" } : Jvm.MethodName)) ∈ lw_all := lw_g (lw_at lw_m6 177 rfl) rfl
theorem q1486 : (Jvm.Cond.privateMethod ({ cls := "WoodliceSenateModel", name := "lifts", desc := "(I)V" } : Jvm.MethodName)) ∈ lw_tbl := lw_at lw_m6 178 rfl
theorem q1487 : (Jvm.Cond.instanceMethod ({ cls := "WoodliceSenateModel", name := "lifts", desc := "(I)V" } : Jvm.MethodName)) ∈ lw_all := lw_g (lw_at lw_m6 179 rfl) rfl
theorem q1488 : (Jvm.Cond.code ({ cls := "WoodliceSenateModel", name := "lifts", desc := "(I)V" } : Jvm.MethodName) prog_13_method_30_code (3 : Nat) (Option.none : Option Jvm.ClassFile.FieldType)) ∈ lw_all := lw_g (lw_at lw_m6 180 rfl) rfl
theorem q1489 : (Jvm.Cond.methodLink "WoodliceSenateModel" (192 : Nat) ({ cls := "WoodliceSenateModel", name := "peppers", desc := "(I)V" } : Jvm.MethodName)) ∈ lw_all := lw_g (lw_at lw_m6 181 rfl) rfl
theorem q1490 : (Jvm.Cond.privateMethod ({ cls := "WoodliceSenateModel", name := "peppers", desc := "(I)V" } : Jvm.MethodName)) ∈ lw_tbl := lw_at lw_m6 182 rfl
theorem q1491 : (Jvm.Cond.instanceMethod ({ cls := "WoodliceSenateModel", name := "peppers", desc := "(I)V" } : Jvm.MethodName)) ∈ lw_all := lw_g (lw_at lw_m6 183 rfl) rfl
theorem q1492 : (Jvm.Cond.code ({ cls := "WoodliceSenateModel", name := "peppers", desc := "(I)V" } : Jvm.MethodName) prog_13_method_31_code (3 : Nat) (Option.none : Option Jvm.ClassFile.FieldType)) ∈ lw_all := lw_g (lw_at lw_m6 184 rfl) rfl
theorem q1493 : (Jvm.Cond.methodLink "WoodliceSenateModel" (195 : Nat) ({ cls := "WoodliceSenateModel", name := "wets", desc := "(I)V" } : Jvm.MethodName)) ∈ lw_all := lw_g (lw_at lw_m6 185 rfl) rfl
theorem q1494 : (Jvm.Cond.privateMethod ({ cls := "WoodliceSenateModel", name := "wets", desc := "(I)V" } : Jvm.MethodName)) ∈ lw_tbl := lw_at lw_m6 186 rfl
theorem q1495 : (Jvm.Cond.instanceMethod ({ cls := "WoodliceSenateModel", name := "wets", desc := "(I)V" } : Jvm.MethodName)) ∈ lw_all := lw_g (lw_at lw_m6 187 rfl) rfl
theorem q1496 : (Jvm.Cond.code ({ cls := "WoodliceSenateModel", name := "wets", desc := "(I)V" } : Jvm.MethodName) prog_13_method_32_code (4 : Nat) (Option.none : Option Jvm.ClassFile.FieldType)) ∈ lw_all := lw_g (lw_at lw_m6 188 rfl) rfl
theorem q1497 : (Jvm.Cond.methodLink "WoodliceSenateModel" (221 : Nat) ({ cls := "WoodliceSenateModel", name := "walks", desc := "(II)V" } : Jvm.MethodName)) ∈ lw_all := lw_g (lw_at lw_m6 189 rfl) rfl
theorem q1498 : (Jvm.Cond.privateMethod ({ cls := "WoodliceSenateModel", name := "walks", desc := "(II)V" } : Jvm.MethodName)) ∈ lw_tbl := lw_at lw_m6 190 rfl
theorem q1499 : (Jvm.Cond.instanceMethod ({ cls := "WoodliceSenateModel", name := "walks", desc := "(II)V" } : Jvm.MethodName)) ∈ lw_all := lw_g (lw_at lw_m6 191 rfl) rfl
theorem q1500 : (Jvm.Cond.code ({ cls := "WoodliceSenateModel", name := "walks", desc := "(II)V" } : Jvm.MethodName) prog_13_method_38_code (5 : Nat) (Option.none : Option Jvm.ClassFile.FieldType)) ∈ lw_all := lw_g (lw_at lw_m6 192 rfl) rfl
theorem q1501 : (Jvm.Cond.methodLink "WoodliceSenateModel" (198 : Nat) ({ cls := "WoodliceSenateModel", name := "isRolled", desc := "(II)Z" } : Jvm.MethodName)) ∈ lw_all := lw_g (lw_at lw_m6 193 rfl) rfl
theorem q1502 : (Jvm.Cond.privateMethod ({ cls := "WoodliceSenateModel", name := "isRolled", desc := "(II)Z" } : Jvm.MethodName)) ∈ lw_tbl := lw_at lw_m6 194 rfl
theorem q1503 : (Jvm.Cond.instanceMethod ({ cls := "WoodliceSenateModel", name := "isRolled", desc := "(II)Z" } : Jvm.MethodName)) ∈ lw_all := lw_g (lw_at lw_m6 195 rfl) rfl
theorem q1504 : (Jvm.Cond.code ({ cls := "WoodliceSenateModel", name := "isRolled", desc := "(II)Z" } : Jvm.MethodName) prog_13_method_34_code (3 : Nat) (Option.some Jvm.ClassFile.FieldType.boolean)) ∈ lw_all := lw_g (lw_at lw_m6 196 rfl) rfl
theorem q1505 : (Jvm.Cond.methodLink "WoodliceSenateModel" (212 : Nat) ({ cls := "WoodliceSenateModel", name := "steps", desc := "(II)V" } : Jvm.MethodName)) ∈ lw_all := lw_g (lw_at lw_m6 197 rfl) rfl
theorem q1506 : (Jvm.Cond.privateMethod ({ cls := "WoodliceSenateModel", name := "steps", desc := "(II)V" } : Jvm.MethodName)) ∈ lw_tbl := lw_at lw_m6 198 rfl
theorem q1507 : (Jvm.Cond.instanceMethod ({ cls := "WoodliceSenateModel", name := "steps", desc := "(II)V" } : Jvm.MethodName)) ∈ lw_all := lw_g (lw_at lw_m6 199 rfl) rfl
theorem q1508 : (Jvm.Cond.code ({ cls := "WoodliceSenateModel", name := "steps", desc := "(II)V" } : Jvm.MethodName) prog_13_method_37_code (6 : Nat) (Option.none : Option Jvm.ClassFile.FieldType)) ∈ lw_all := lw_g (lw_at lw_m6 200 rfl) rfl
theorem q1509 : (Jvm.Cond.methodLink "WoodliceSenateModel" (202 : Nat) ({ cls := "WoodliceSenateModel", name := "dampNow", desc := "(I)I" } : Jvm.MethodName)) ∈ lw_all := lw_g (lw_at lw_m6 201 rfl) rfl
theorem q1510 : (Jvm.Cond.privateMethod ({ cls := "WoodliceSenateModel", name := "dampNow", desc := "(I)I" } : Jvm.MethodName)) ∈ lw_tbl := lw_at lw_m6 202 rfl
theorem q1511 : (Jvm.Cond.instanceMethod ({ cls := "WoodliceSenateModel", name := "dampNow", desc := "(I)I" } : Jvm.MethodName)) ∈ lw_all := lw_g (lw_at lw_m6 203 rfl) rfl
theorem q1512 : (Jvm.Cond.code ({ cls := "WoodliceSenateModel", name := "dampNow", desc := "(I)I" } : Jvm.MethodName) prog_13_method_35_code (2 : Nat) (Option.some Jvm.ClassFile.FieldType.int)) ∈ lw_all := lw_g (lw_at lw_m6 204 rfl) rfl
theorem q1513 : (Jvm.Cond.methodLink "WoodliceSenateModel" (208 : Nat) ({ cls := "WoodliceSenateModel", name := "passesOver", desc := "(II)V" } : Jvm.MethodName)) ∈ lw_all := lw_g (lw_at lw_m6 205 rfl) rfl
theorem q1514 : (Jvm.Cond.privateMethod ({ cls := "WoodliceSenateModel", name := "passesOver", desc := "(II)V" } : Jvm.MethodName)) ∈ lw_tbl := lw_at lw_m6 206 rfl
theorem q1515 : (Jvm.Cond.instanceMethod ({ cls := "WoodliceSenateModel", name := "passesOver", desc := "(II)V" } : Jvm.MethodName)) ∈ lw_all := lw_g (lw_at lw_m6 207 rfl) rfl
theorem q1516 : (Jvm.Cond.code ({ cls := "WoodliceSenateModel", name := "passesOver", desc := "(II)V" } : Jvm.MethodName) prog_13_method_36_code (5 : Nat) (Option.none : Option Jvm.ClassFile.FieldType)) ∈ lw_all := lw_g (lw_at lw_m6 208 rfl) rfl
theorem q1517 : (Jvm.Cond.methodLink "WoodliceSenateModel" (224 : Nat) ({ cls := "WoodliceSenateModel", name := "manyAt", desc := "(II)I" } : Jvm.MethodName)) ∈ lw_all := lw_g (lw_at lw_m6 209 rfl) rfl
theorem q1518 : (Jvm.Cond.privateMethod ({ cls := "WoodliceSenateModel", name := "manyAt", desc := "(II)I" } : Jvm.MethodName)) ∈ lw_tbl := lw_at lw_m6 210 rfl
theorem q1519 : (Jvm.Cond.instanceMethod ({ cls := "WoodliceSenateModel", name := "manyAt", desc := "(II)I" } : Jvm.MethodName)) ∈ lw_all := lw_g (lw_at lw_m6 211 rfl) rfl
theorem q1520 : (Jvm.Cond.code ({ cls := "WoodliceSenateModel", name := "manyAt", desc := "(II)I" } : Jvm.MethodName) prog_13_method_39_code (5 : Nat) (Option.some Jvm.ClassFile.FieldType.int)) ∈ lw_all := lw_g (lw_at lw_m6 212 rfl) rfl
theorem q1521 : (Jvm.Cond.methodLink "WoodliceSenateModel" (227 : Nat) ({ cls := "WoodliceSenateModel", name := "divides", desc := "(I)V" } : Jvm.MethodName)) ∈ lw_all := lw_g (lw_at lw_m6 213 rfl) rfl
theorem q1522 : (Jvm.Cond.privateMethod ({ cls := "WoodliceSenateModel", name := "divides", desc := "(I)V" } : Jvm.MethodName)) ∈ lw_tbl := lw_at lw_m6 214 rfl
theorem q1523 : (Jvm.Cond.instanceMethod ({ cls := "WoodliceSenateModel", name := "divides", desc := "(I)V" } : Jvm.MethodName)) ∈ lw_all := lw_g (lw_at lw_m6 215 rfl) rfl
theorem q1524 : (Jvm.Cond.code ({ cls := "WoodliceSenateModel", name := "divides", desc := "(I)V" } : Jvm.MethodName) prog_13_method_40_code (4 : Nat) (Option.none : Option Jvm.ClassFile.FieldType)) ∈ lw_all := lw_g (lw_at lw_m6 216 rfl) rfl
theorem q1526 : (Jvm.Cond.instanceMethod ({ cls := "WoodliceSenateModel", name := "at", desc := "(III)I" } : Jvm.MethodName)) ∈ lw_all := lw_g (lw_at lw_m6 218 rfl) rfl
theorem q1527 : (Jvm.Cond.selects "WoodliceSenateModel" ({ cls := "WoodliceSenateModel", name := "at", desc := "(III)I" } : Jvm.MethodName) ({ cls := "WoodliceSenateModel", name := "at", desc := "(III)I" } : Jvm.MethodName)) ∈ lw_all := lw_g (lw_at lw_m6 219 rfl) rfl
theorem q1528 : (Jvm.Cond.code ({ cls := "WoodliceSenateModel", name := "at", desc := "(III)I" } : Jvm.MethodName) prog_13_method_47_code (4 : Nat) (Option.some Jvm.ClassFile.FieldType.int)) ∈ lw_all := lw_g (lw_at lw_m6 220 rfl) rfl
theorem q1529 : (Jvm.Cond.methodLink "WoodliceSenateModel" (245 : Nat) ({ cls := "WoodliceSenateModel", name := "atOf", desc := "(III)I" } : Jvm.MethodName)) ∈ lw_all := lw_g (lw_at lw_m6 221 rfl) rfl
theorem q1530 : (Jvm.Cond.privateMethod ({ cls := "WoodliceSenateModel", name := "atOf", desc := "(III)I" } : Jvm.MethodName)) ∈ lw_tbl := lw_at lw_m6 222 rfl
theorem q1531 : (Jvm.Cond.instanceMethod ({ cls := "WoodliceSenateModel", name := "atOf", desc := "(III)I" } : Jvm.MethodName)) ∈ lw_all := lw_g (lw_at lw_m6 223 rfl) rfl
theorem q1532 : (Jvm.Cond.code ({ cls := "WoodliceSenateModel", name := "atOf", desc := "(III)I" } : Jvm.MethodName) prog_13_method_46_code (5 : Nat) (Option.some Jvm.ClassFile.FieldType.int)) ∈ lw_all := lw_g (lw_at lw_m6 224 rfl) rfl
theorem q1534 : (Jvm.Cond.instanceMethod ({ cls := "WoodliceSenateModel", name := "house", desc := "(II)I" } : Jvm.MethodName)) ∈ lw_all := lw_g (lw_at lw_m6 226 rfl) rfl
theorem q1535 : (Jvm.Cond.selects "WoodliceSenateModel" ({ cls := "WoodliceSenateModel", name := "house", desc := "(II)I" } : Jvm.MethodName) ({ cls := "WoodliceSenateModel", name := "house", desc := "(II)I" } : Jvm.MethodName)) ∈ lw_all := lw_g (lw_at lw_m6 227 rfl) rfl
theorem q1536 : (Jvm.Cond.code ({ cls := "WoodliceSenateModel", name := "house", desc := "(II)I" } : Jvm.MethodName) prog_13_method_50_code (3 : Nat) (Option.some Jvm.ClassFile.FieldType.int)) ∈ lw_all := lw_g (lw_at lw_m6 228 rfl) rfl
theorem q1537 : (Jvm.Cond.methodLink "WoodliceSenateModel" (251 : Nat) ({ cls := "WoodliceSenateModel", name := "houseOf", desc := "(II)I" } : Jvm.MethodName)) ∈ lw_all := lw_g (lw_at lw_m6 229 rfl) rfl
theorem q1538 : (Jvm.Cond.privateMethod ({ cls := "WoodliceSenateModel", name := "houseOf", desc := "(II)I" } : Jvm.MethodName)) ∈ lw_tbl := lw_at lw_m6 230 rfl
theorem q1539 : (Jvm.Cond.instanceMethod ({ cls := "WoodliceSenateModel", name := "houseOf", desc := "(II)I" } : Jvm.MethodName)) ∈ lw_all := lw_g (lw_at lw_m6 231 rfl) rfl
theorem q1540 : (Jvm.Cond.code ({ cls := "WoodliceSenateModel", name := "houseOf", desc := "(II)I" } : Jvm.MethodName) prog_13_method_49_code (3 : Nat) (Option.some Jvm.ClassFile.FieldType.int)) ∈ lw_all := lw_g (lw_at lw_m6 232 rfl) rfl
theorem q1541 : (Jvm.Cond.methodLink "WoodliceSenateModel" (248 : Nat) ({ cls := "WoodliceSenateModel", name := "isCarried", desc := "(I)Z" } : Jvm.MethodName)) ∈ lw_all := lw_g (lw_at lw_m6 233 rfl) rfl
theorem q1542 : (Jvm.Cond.privateMethod ({ cls := "WoodliceSenateModel", name := "isCarried", desc := "(I)Z" } : Jvm.MethodName)) ∈ lw_tbl := lw_at lw_m6 234 rfl
theorem q1543 : (Jvm.Cond.instanceMethod ({ cls := "WoodliceSenateModel", name := "isCarried", desc := "(I)Z" } : Jvm.MethodName)) ∈ lw_all := lw_g (lw_at lw_m6 235 rfl) rfl
theorem q1544 : (Jvm.Cond.code ({ cls := "WoodliceSenateModel", name := "isCarried", desc := "(I)Z" } : Jvm.MethodName) prog_13_method_48_code (2 : Nat) (Option.some Jvm.ClassFile.FieldType.boolean)) ∈ lw_all := lw_g (lw_at lw_m6 236 rfl) rfl
theorem q1546 : (Jvm.Cond.instanceMethod ({ cls := "WoodliceSenateModel", name := "governments", desc := "()I" } : Jvm.MethodName)) ∈ lw_all := lw_g (lw_at lw_m6 238 rfl) rfl
theorem q1547 : (Jvm.Cond.selects "WoodliceSenateModel" ({ cls := "WoodliceSenateModel", name := "governments", desc := "()I" } : Jvm.MethodName) ({ cls := "WoodliceSenateModel", name := "governments", desc := "()I" } : Jvm.MethodName)) ∈ lw_all := lw_g (lw_at lw_m6 239 rfl) rfl
theorem q1548 : (Jvm.Cond.code ({ cls := "WoodliceSenateModel", name := "governments", desc := "()I" } : Jvm.MethodName) prog_13_method_53_code (1 : Nat) (Option.some Jvm.ClassFile.FieldType.int)) ∈ lw_all := lw_g (lw_at lw_m7 0 rfl) rfl
theorem q1549 : (Jvm.Cond.methodLink "WoodliceSenateModel" (257 : Nat) ({ cls := "WoodliceSenateModel", name := "governmentsOf", desc := "()I" } : Jvm.MethodName)) ∈ lw_all := lw_g (lw_at lw_m7 1 rfl) rfl
theorem q1550 : (Jvm.Cond.privateMethod ({ cls := "WoodliceSenateModel", name := "governmentsOf", desc := "()I" } : Jvm.MethodName)) ∈ lw_tbl := lw_at lw_m7 2 rfl
theorem q1551 : (Jvm.Cond.instanceMethod ({ cls := "WoodliceSenateModel", name := "governmentsOf", desc := "()I" } : Jvm.MethodName)) ∈ lw_all := lw_g (lw_at lw_m7 3 rfl) rfl
theorem q1552 : (Jvm.Cond.code ({ cls := "WoodliceSenateModel", name := "governmentsOf", desc := "()I" } : Jvm.MethodName) prog_13_method_52_code (1 : Nat) (Option.some Jvm.ClassFile.FieldType.int)) ∈ lw_all := lw_g (lw_at lw_m7 4 rfl) rfl
theorem q1553 : (Jvm.Cond.methodLink "WoodliceSenateModel" (254 : Nat) ({ cls := "WoodliceSenateModel", name := "governmentsNow", desc := "()I" } : Jvm.MethodName)) ∈ lw_all := lw_g (lw_at lw_m7 5 rfl) rfl
theorem q1554 : (Jvm.Cond.privateMethod ({ cls := "WoodliceSenateModel", name := "governmentsNow", desc := "()I" } : Jvm.MethodName)) ∈ lw_tbl := lw_at lw_m7 6 rfl
theorem q1555 : (Jvm.Cond.instanceMethod ({ cls := "WoodliceSenateModel", name := "governmentsNow", desc := "()I" } : Jvm.MethodName)) ∈ lw_all := lw_g (lw_at lw_m7 7 rfl) rfl
theorem q1556 : (Jvm.Cond.code ({ cls := "WoodliceSenateModel", name := "governmentsNow", desc := "()I" } : Jvm.MethodName) prog_13_method_51_code (3 : Nat) (Option.some Jvm.ClassFile.FieldType.int)) ∈ lw_all := lw_g (lw_at lw_m7 8 rfl) rfl
theorem q1558 : (Jvm.Cond.instanceMethod ({ cls := "WoodliceSenateModel", name := "carried", desc := "()I" } : Jvm.MethodName)) ∈ lw_all := lw_g (lw_at lw_m7 10 rfl) rfl
theorem q1559 : (Jvm.Cond.selects "WoodliceSenateModel" ({ cls := "WoodliceSenateModel", name := "carried", desc := "()I" } : Jvm.MethodName) ({ cls := "WoodliceSenateModel", name := "carried", desc := "()I" } : Jvm.MethodName)) ∈ lw_all := lw_g (lw_at lw_m7 11 rfl) rfl
theorem q1560 : (Jvm.Cond.code ({ cls := "WoodliceSenateModel", name := "carried", desc := "()I" } : Jvm.MethodName) prog_13_method_56_code (1 : Nat) (Option.some Jvm.ClassFile.FieldType.int)) ∈ lw_all := lw_g (lw_at lw_m7 12 rfl) rfl
theorem q1561 : (Jvm.Cond.methodLink "WoodliceSenateModel" (263 : Nat) ({ cls := "WoodliceSenateModel", name := "carriedOf", desc := "()I" } : Jvm.MethodName)) ∈ lw_all := lw_g (lw_at lw_m7 13 rfl) rfl
theorem q1562 : (Jvm.Cond.privateMethod ({ cls := "WoodliceSenateModel", name := "carriedOf", desc := "()I" } : Jvm.MethodName)) ∈ lw_tbl := lw_at lw_m7 14 rfl
theorem q1563 : (Jvm.Cond.instanceMethod ({ cls := "WoodliceSenateModel", name := "carriedOf", desc := "()I" } : Jvm.MethodName)) ∈ lw_all := lw_g (lw_at lw_m7 15 rfl) rfl
theorem q1564 : (Jvm.Cond.code ({ cls := "WoodliceSenateModel", name := "carriedOf", desc := "()I" } : Jvm.MethodName) prog_13_method_55_code (1 : Nat) (Option.some Jvm.ClassFile.FieldType.int)) ∈ lw_all := lw_g (lw_at lw_m7 16 rfl) rfl
theorem q1565 : (Jvm.Cond.methodLink "WoodliceSenateModel" (260 : Nat) ({ cls := "WoodliceSenateModel", name := "carriedNow", desc := "()I" } : Jvm.MethodName)) ∈ lw_all := lw_g (lw_at lw_m7 17 rfl) rfl
theorem q1566 : (Jvm.Cond.privateMethod ({ cls := "WoodliceSenateModel", name := "carriedNow", desc := "()I" } : Jvm.MethodName)) ∈ lw_tbl := lw_at lw_m7 18 rfl
theorem q1567 : (Jvm.Cond.instanceMethod ({ cls := "WoodliceSenateModel", name := "carriedNow", desc := "()I" } : Jvm.MethodName)) ∈ lw_all := lw_g (lw_at lw_m7 19 rfl) rfl
theorem q1568 : (Jvm.Cond.code ({ cls := "WoodliceSenateModel", name := "carriedNow", desc := "()I" } : Jvm.MethodName) prog_13_method_54_code (3 : Nat) (Option.some Jvm.ClassFile.FieldType.int)) ∈ lw_all := lw_g (lw_at lw_m7 20 rfl) rfl
theorem q1570 : (Jvm.Cond.instanceMethod ({ cls := "WoodliceSenateModel", name := "crowd", desc := "(I)I" } : Jvm.MethodName)) ∈ lw_all := lw_g (lw_at lw_m7 22 rfl) rfl
theorem q1571 : (Jvm.Cond.selects "WoodliceSenateModel" ({ cls := "WoodliceSenateModel", name := "crowd", desc := "(I)I" } : Jvm.MethodName) ({ cls := "WoodliceSenateModel", name := "crowd", desc := "(I)I" } : Jvm.MethodName)) ∈ lw_all := lw_g (lw_at lw_m7 23 rfl) rfl
theorem q1572 : (Jvm.Cond.code ({ cls := "WoodliceSenateModel", name := "crowd", desc := "(I)I" } : Jvm.MethodName) prog_13_method_58_code (2 : Nat) (Option.some Jvm.ClassFile.FieldType.int)) ∈ lw_all := lw_g (lw_at lw_m7 24 rfl) rfl
theorem q1573 : (Jvm.Cond.methodLink "WoodliceSenateModel" (266 : Nat) ({ cls := "WoodliceSenateModel", name := "crowdOf", desc := "(I)I" } : Jvm.MethodName)) ∈ lw_all := lw_g (lw_at lw_m7 25 rfl) rfl
theorem q1574 : (Jvm.Cond.privateMethod ({ cls := "WoodliceSenateModel", name := "crowdOf", desc := "(I)I" } : Jvm.MethodName)) ∈ lw_tbl := lw_at lw_m7 26 rfl
theorem q1575 : (Jvm.Cond.instanceMethod ({ cls := "WoodliceSenateModel", name := "crowdOf", desc := "(I)I" } : Jvm.MethodName)) ∈ lw_all := lw_g (lw_at lw_m7 27 rfl) rfl
theorem q1576 : (Jvm.Cond.code ({ cls := "WoodliceSenateModel", name := "crowdOf", desc := "(I)I" } : Jvm.MethodName) prog_13_method_57_code (6 : Nat) (Option.some Jvm.ClassFile.FieldType.int)) ∈ lw_all := lw_g (lw_at lw_m7 28 rfl) rfl
theorem q1578 : (Jvm.Cond.instanceMethod ({ cls := "WoodliceSenateModel", name := "orator", desc := "()I" } : Jvm.MethodName)) ∈ lw_all := lw_g (lw_at lw_m7 30 rfl) rfl
theorem q1579 : (Jvm.Cond.selects "WoodliceSenateModel" ({ cls := "WoodliceSenateModel", name := "orator", desc := "()I" } : Jvm.MethodName) ({ cls := "WoodliceSenateModel", name := "orator", desc := "()I" } : Jvm.MethodName)) ∈ lw_all := lw_g (lw_at lw_m7 31 rfl) rfl
theorem q1580 : (Jvm.Cond.code ({ cls := "WoodliceSenateModel", name := "orator", desc := "()I" } : Jvm.MethodName) prog_13_method_60_code (1 : Nat) (Option.some Jvm.ClassFile.FieldType.int)) ∈ lw_all := lw_g (lw_at lw_m7 32 rfl) rfl
theorem q1581 : (Jvm.Cond.methodLink "WoodliceSenateModel" (269 : Nat) ({ cls := "WoodliceSenateModel", name := "oratorOf", desc := "()I" } : Jvm.MethodName)) ∈ lw_all := lw_g (lw_at lw_m7 33 rfl) rfl
theorem q1582 : (Jvm.Cond.privateMethod ({ cls := "WoodliceSenateModel", name := "oratorOf", desc := "()I" } : Jvm.MethodName)) ∈ lw_tbl := lw_at lw_m7 34 rfl
theorem q1583 : (Jvm.Cond.instanceMethod ({ cls := "WoodliceSenateModel", name := "oratorOf", desc := "()I" } : Jvm.MethodName)) ∈ lw_all := lw_g (lw_at lw_m7 35 rfl) rfl
theorem q1584 : (Jvm.Cond.code ({ cls := "WoodliceSenateModel", name := "oratorOf", desc := "()I" } : Jvm.MethodName) prog_13_method_59_code (3 : Nat) (Option.some Jvm.ClassFile.FieldType.int)) ∈ lw_all := lw_g (lw_at lw_m7 36 rfl) rfl
theorem q1586 : (Jvm.Cond.instanceMethod ({ cls := "WoodliceSenateModel", name := "still", desc := "()I" } : Jvm.MethodName)) ∈ lw_all := lw_g (lw_at lw_m7 38 rfl) rfl
theorem q1587 : (Jvm.Cond.selects "WoodliceSenateModel" ({ cls := "WoodliceSenateModel", name := "still", desc := "()I" } : Jvm.MethodName) ({ cls := "WoodliceSenateModel", name := "still", desc := "()I" } : Jvm.MethodName)) ∈ lw_all := lw_g (lw_at lw_m7 39 rfl) rfl
theorem q1588 : (Jvm.Cond.code ({ cls := "WoodliceSenateModel", name := "still", desc := "()I" } : Jvm.MethodName) prog_13_method_62_code (1 : Nat) (Option.some Jvm.ClassFile.FieldType.int)) ∈ lw_all := lw_g (lw_at lw_m7 40 rfl) rfl
theorem q1589 : (Jvm.Cond.methodLink "WoodliceSenateModel" (272 : Nat) ({ cls := "WoodliceSenateModel", name := "stillOf", desc := "()I" } : Jvm.MethodName)) ∈ lw_all := lw_g (lw_at lw_m7 41 rfl) rfl
theorem q1590 : (Jvm.Cond.privateMethod ({ cls := "WoodliceSenateModel", name := "stillOf", desc := "()I" } : Jvm.MethodName)) ∈ lw_tbl := lw_at lw_m7 42 rfl
theorem q1591 : (Jvm.Cond.instanceMethod ({ cls := "WoodliceSenateModel", name := "stillOf", desc := "()I" } : Jvm.MethodName)) ∈ lw_all := lw_g (lw_at lw_m7 43 rfl) rfl
theorem q1592 : (Jvm.Cond.code ({ cls := "WoodliceSenateModel", name := "stillOf", desc := "()I" } : Jvm.MethodName) prog_13_method_61_code (1 : Nat) (Option.some Jvm.ClassFile.FieldType.int)) ∈ lw_all := lw_g (lw_at lw_m7 44 rfl) rfl
theorem q1594 : (Jvm.Cond.instanceMethod ({ cls := "WoodliceSenateModel", name := "seat", desc := "(II)I" } : Jvm.MethodName)) ∈ lw_all := lw_g (lw_at lw_m7 46 rfl) rfl
theorem q1595 : (Jvm.Cond.selects "WoodliceSenateModel" ({ cls := "WoodliceSenateModel", name := "seat", desc := "(II)I" } : Jvm.MethodName) ({ cls := "WoodliceSenateModel", name := "seat", desc := "(II)I" } : Jvm.MethodName)) ∈ lw_all := lw_g (lw_at lw_m7 47 rfl) rfl
theorem q1596 : (Jvm.Cond.code ({ cls := "WoodliceSenateModel", name := "seat", desc := "(II)I" } : Jvm.MethodName) prog_13_method_64_code (3 : Nat) (Option.some Jvm.ClassFile.FieldType.int)) ∈ lw_all := lw_g (lw_at lw_m7 48 rfl) rfl
theorem q1597 : (Jvm.Cond.methodLink "WoodliceSenateModel" (275 : Nat) ({ cls := "WoodliceSenateModel", name := "seatOf", desc := "(II)I" } : Jvm.MethodName)) ∈ lw_all := lw_g (lw_at lw_m7 49 rfl) rfl
theorem q1598 : (Jvm.Cond.privateMethod ({ cls := "WoodliceSenateModel", name := "seatOf", desc := "(II)I" } : Jvm.MethodName)) ∈ lw_tbl := lw_at lw_m7 50 rfl
theorem q1599 : (Jvm.Cond.instanceMethod ({ cls := "WoodliceSenateModel", name := "seatOf", desc := "(II)I" } : Jvm.MethodName)) ∈ lw_all := lw_g (lw_at lw_m7 51 rfl) rfl
theorem q1600 : (Jvm.Cond.code ({ cls := "WoodliceSenateModel", name := "seatOf", desc := "(II)I" } : Jvm.MethodName) prog_13_method_63_code (8 : Nat) (Option.some Jvm.ClassFile.FieldType.int)) ∈ lw_all := lw_g (lw_at lw_m7 52 rfl) rfl
theorem q1602 : (Jvm.Cond.instanceMethod ({ cls := "WoodliceSenateModel", name := "dust", desc := "(II)I" } : Jvm.MethodName)) ∈ lw_all := lw_g (lw_at lw_m7 54 rfl) rfl
theorem q1603 : (Jvm.Cond.selects "WoodliceSenateModel" ({ cls := "WoodliceSenateModel", name := "dust", desc := "(II)I" } : Jvm.MethodName) ({ cls := "WoodliceSenateModel", name := "dust", desc := "(II)I" } : Jvm.MethodName)) ∈ lw_all := lw_g (lw_at lw_m7 55 rfl) rfl
theorem q1604 : (Jvm.Cond.code ({ cls := "WoodliceSenateModel", name := "dust", desc := "(II)I" } : Jvm.MethodName) prog_13_method_67_code (3 : Nat) (Option.some Jvm.ClassFile.FieldType.int)) ∈ lw_all := lw_g (lw_at lw_m7 56 rfl) rfl
theorem q1605 : (Jvm.Cond.methodLink "WoodliceSenateModel" (282 : Nat) ({ cls := "WoodliceSenateModel", name := "dustOf", desc := "(II)I" } : Jvm.MethodName)) ∈ lw_all := lw_g (lw_at lw_m7 57 rfl) rfl
theorem q1606 : (Jvm.Cond.privateMethod ({ cls := "WoodliceSenateModel", name := "dustOf", desc := "(II)I" } : Jvm.MethodName)) ∈ lw_tbl := lw_at lw_m7 58 rfl
theorem q1607 : (Jvm.Cond.instanceMethod ({ cls := "WoodliceSenateModel", name := "dustOf", desc := "(II)I" } : Jvm.MethodName)) ∈ lw_all := lw_g (lw_at lw_m7 59 rfl) rfl
theorem q1608 : (Jvm.Cond.code ({ cls := "WoodliceSenateModel", name := "dustOf", desc := "(II)I" } : Jvm.MethodName) prog_13_method_66_code (7 : Nat) (Option.some Jvm.ClassFile.FieldType.int)) ∈ lw_all := lw_g (lw_at lw_m7 60 rfl) rfl
theorem q1609 : (Jvm.Cond.methodLink "WoodliceSenateModel" (278 : Nat) ({ cls := "WoodliceSenateModel", name := "more", desc := "(III)V" } : Jvm.MethodName)) ∈ lw_all := lw_g (lw_at lw_m7 61 rfl) rfl
theorem q1610 : (Jvm.Cond.privateMethod ({ cls := "WoodliceSenateModel", name := "more", desc := "(III)V" } : Jvm.MethodName)) ∈ lw_tbl := lw_at lw_m7 62 rfl
theorem q1611 : (Jvm.Cond.instanceMethod ({ cls := "WoodliceSenateModel", name := "more", desc := "(III)V" } : Jvm.MethodName)) ∈ lw_all := lw_g (lw_at lw_m7 63 rfl) rfl
theorem q1612 : (Jvm.Cond.code ({ cls := "WoodliceSenateModel", name := "more", desc := "(III)V" } : Jvm.MethodName) prog_13_method_65_code (4 : Nat) (Option.none : Option Jvm.ClassFile.FieldType)) ∈ lw_all := lw_g (lw_at lw_m7 64 rfl) rfl
theorem q1614 : (Jvm.Cond.instanceMethod ({ cls := "WoodliceSenateModel", name := "boy", desc := "(I)I" } : Jvm.MethodName)) ∈ lw_all := lw_g (lw_at lw_m7 66 rfl) rfl
theorem q1615 : (Jvm.Cond.selects "WoodliceSenateModel" ({ cls := "WoodliceSenateModel", name := "boy", desc := "(I)I" } : Jvm.MethodName) ({ cls := "WoodliceSenateModel", name := "boy", desc := "(I)I" } : Jvm.MethodName)) ∈ lw_all := lw_g (lw_at lw_m7 67 rfl) rfl
theorem q1616 : (Jvm.Cond.code ({ cls := "WoodliceSenateModel", name := "boy", desc := "(I)I" } : Jvm.MethodName) prog_13_method_69_code (2 : Nat) (Option.some Jvm.ClassFile.FieldType.int)) ∈ lw_all := lw_g (lw_at lw_m7 68 rfl) rfl
theorem q1617 : (Jvm.Cond.methodLink "WoodliceSenateModel" (285 : Nat) ({ cls := "WoodliceSenateModel", name := "boyOf", desc := "(I)I" } : Jvm.MethodName)) ∈ lw_all := lw_g (lw_at lw_m7 69 rfl) rfl
theorem q1618 : (Jvm.Cond.privateMethod ({ cls := "WoodliceSenateModel", name := "boyOf", desc := "(I)I" } : Jvm.MethodName)) ∈ lw_tbl := lw_at lw_m7 70 rfl
theorem q1619 : (Jvm.Cond.instanceMethod ({ cls := "WoodliceSenateModel", name := "boyOf", desc := "(I)I" } : Jvm.MethodName)) ∈ lw_all := lw_g (lw_at lw_m7 71 rfl) rfl
theorem q1620 : (Jvm.Cond.code ({ cls := "WoodliceSenateModel", name := "boyOf", desc := "(I)I" } : Jvm.MethodName) prog_13_method_68_code (6 : Nat) (Option.some Jvm.ClassFile.FieldType.int)) ∈ lw_all := lw_g (lw_at lw_m7 72 rfl) rfl
theorem q1622 : (Jvm.Cond.instanceMethod ({ cls := "WoodliceSenateModel", name := "calm", desc := "(I)I" } : Jvm.MethodName)) ∈ lw_all := lw_g (lw_at lw_m7 74 rfl) rfl
theorem q1623 : (Jvm.Cond.selects "WoodliceSenateModel" ({ cls := "WoodliceSenateModel", name := "calm", desc := "(I)I" } : Jvm.MethodName) ({ cls := "WoodliceSenateModel", name := "calm", desc := "(I)I" } : Jvm.MethodName)) ∈ lw_all := lw_g (lw_at lw_m7 75 rfl) rfl
theorem q1624 : (Jvm.Cond.code ({ cls := "WoodliceSenateModel", name := "calm", desc := "(I)I" } : Jvm.MethodName) prog_13_method_73_code (2 : Nat) (Option.some Jvm.ClassFile.FieldType.int)) ∈ lw_all := lw_g (lw_at lw_m7 76 rfl) rfl
theorem q1625 : (Jvm.Cond.methodLink "WoodliceSenateModel" (291 : Nat) ({ cls := "WoodliceSenateModel", name := "calmBy", desc := "()I" } : Jvm.MethodName)) ∈ lw_all := lw_g (lw_at lw_m7 77 rfl) rfl
theorem q1626 : (Jvm.Cond.privateMethod ({ cls := "WoodliceSenateModel", name := "calmBy", desc := "()I" } : Jvm.MethodName)) ∈ lw_tbl := lw_at lw_m7 78 rfl
theorem q1627 : (Jvm.Cond.instanceMethod ({ cls := "WoodliceSenateModel", name := "calmBy", desc := "()I" } : Jvm.MethodName)) ∈ lw_all := lw_g (lw_at lw_m7 79 rfl) rfl
theorem q1628 : (Jvm.Cond.code ({ cls := "WoodliceSenateModel", name := "calmBy", desc := "()I" } : Jvm.MethodName) prog_13_method_71_code (3 : Nat) (Option.some Jvm.ClassFile.FieldType.int)) ∈ lw_all := lw_g (lw_at lw_m7 80 rfl) rfl
theorem q1629 : (Jvm.Cond.methodLink "WoodliceSenateModel" (288 : Nat) ({ cls := "WoodliceSenateModel", name := "isCalm", desc := "(I)Z" } : Jvm.MethodName)) ∈ lw_all := lw_g (lw_at lw_m7 81 rfl) rfl
theorem q1630 : (Jvm.Cond.privateMethod ({ cls := "WoodliceSenateModel", name := "isCalm", desc := "(I)Z" } : Jvm.MethodName)) ∈ lw_tbl := lw_at lw_m7 82 rfl
theorem q1631 : (Jvm.Cond.instanceMethod ({ cls := "WoodliceSenateModel", name := "isCalm", desc := "(I)Z" } : Jvm.MethodName)) ∈ lw_all := lw_g (lw_at lw_m7 83 rfl) rfl
theorem q1632 : (Jvm.Cond.code ({ cls := "WoodliceSenateModel", name := "isCalm", desc := "(I)Z" } : Jvm.MethodName) prog_13_method_70_code (2 : Nat) (Option.some Jvm.ClassFile.FieldType.boolean)) ∈ lw_all := lw_g (lw_at lw_m7 84 rfl) rfl
theorem q1633 : (Jvm.Cond.methodLink "WoodliceSenateModel" (294 : Nat) ({ cls := "WoodliceSenateModel", name := "ofRow", desc := "(II)I" } : Jvm.MethodName)) ∈ lw_all := lw_g (lw_at lw_m7 85 rfl) rfl
theorem q1634 : (Jvm.Cond.privateMethod ({ cls := "WoodliceSenateModel", name := "ofRow", desc := "(II)I" } : Jvm.MethodName)) ∈ lw_tbl := lw_at lw_m7 86 rfl
theorem q1635 : (Jvm.Cond.instanceMethod ({ cls := "WoodliceSenateModel", name := "ofRow", desc := "(II)I" } : Jvm.MethodName)) ∈ lw_all := lw_g (lw_at lw_m7 87 rfl) rfl
theorem q1636 : (Jvm.Cond.code ({ cls := "WoodliceSenateModel", name := "ofRow", desc := "(II)I" } : Jvm.MethodName) prog_13_method_72_code (3 : Nat) (Option.some Jvm.ClassFile.FieldType.int)) ∈ lw_all := lw_g (lw_at lw_m7 88 rfl) rfl
theorem q1638 : (Jvm.Cond.instanceMethod ({ cls := "WoodliceSenateModel", name := "seen", desc := "(III)I" } : Jvm.MethodName)) ∈ lw_all := lw_g (lw_at lw_m7 90 rfl) rfl
theorem q1639 : (Jvm.Cond.selects "WoodliceSenateModel" ({ cls := "WoodliceSenateModel", name := "seen", desc := "(III)I" } : Jvm.MethodName) ({ cls := "WoodliceSenateModel", name := "seen", desc := "(III)I" } : Jvm.MethodName)) ∈ lw_all := lw_g (lw_at lw_m7 91 rfl) rfl
theorem q1640 : (Jvm.Cond.code ({ cls := "WoodliceSenateModel", name := "seen", desc := "(III)I" } : Jvm.MethodName) prog_13_method_74_code (4 : Nat) (Option.some Jvm.ClassFile.FieldType.int)) ∈ lw_all := lw_g (lw_at lw_m7 92 rfl) rfl
theorem q1642 : (Jvm.Cond.instanceMethod ({ cls := "WoodliceSenateModel", name := "forget", desc := "()I" } : Jvm.MethodName)) ∈ lw_all := lw_g (lw_at lw_m7 94 rfl) rfl
theorem q1643 : (Jvm.Cond.selects "WoodliceSenateModel" ({ cls := "WoodliceSenateModel", name := "forget", desc := "()I" } : Jvm.MethodName) ({ cls := "WoodliceSenateModel", name := "forget", desc := "()I" } : Jvm.MethodName)) ∈ lw_all := lw_g (lw_at lw_m7 95 rfl) rfl
theorem q1644 : (Jvm.Cond.code ({ cls := "WoodliceSenateModel", name := "forget", desc := "()I" } : Jvm.MethodName) prog_13_method_75_code (2 : Nat) (Option.some Jvm.ClassFile.FieldType.int)) ∈ lw_all := lw_g (lw_at lw_m7 96 rfl) rfl
theorem q1646 : (Jvm.Cond.instanceMethod ({ cls := "WoodliceSenateModel", name := "never", desc := "()I" } : Jvm.MethodName)) ∈ lw_all := lw_g (lw_at lw_m7 98 rfl) rfl
theorem q1647 : (Jvm.Cond.selects "WoodliceSenateModel" ({ cls := "WoodliceSenateModel", name := "never", desc := "()I" } : Jvm.MethodName) ({ cls := "WoodliceSenateModel", name := "never", desc := "()I" } : Jvm.MethodName)) ∈ lw_all := lw_g (lw_at lw_m7 99 rfl) rfl
theorem q1648 : (Jvm.Cond.code ({ cls := "WoodliceSenateModel", name := "never", desc := "()I" } : Jvm.MethodName) prog_13_method_78_code (1 : Nat) (Option.some Jvm.ClassFile.FieldType.int)) ∈ lw_all := lw_g (lw_at lw_m7 100 rfl) rfl
theorem q1649 : (Jvm.Cond.methodLink "WoodliceSenateModel" (304 : Nat) ({ cls := "WoodliceSenateModel", name := "neverNow", desc := "()I" } : Jvm.MethodName)) ∈ lw_all := lw_g (lw_at lw_m7 101 rfl) rfl
theorem q1650 : (Jvm.Cond.privateMethod ({ cls := "WoodliceSenateModel", name := "neverNow", desc := "()I" } : Jvm.MethodName)) ∈ lw_tbl := lw_at lw_m7 102 rfl
theorem q1651 : (Jvm.Cond.instanceMethod ({ cls := "WoodliceSenateModel", name := "neverNow", desc := "()I" } : Jvm.MethodName)) ∈ lw_all := lw_g (lw_at lw_m7 103 rfl) rfl
theorem q1652 : (Jvm.Cond.code ({ cls := "WoodliceSenateModel", name := "neverNow", desc := "()I" } : Jvm.MethodName) prog_13_method_77_code (3 : Nat) (Option.some Jvm.ClassFile.FieldType.int)) ∈ lw_all := lw_g (lw_at lw_m7 104 rfl) rfl
theorem q1653 : (Jvm.Cond.methodLink "WoodliceSenateModel" (300 : Nat) ({ cls := "WoodliceSenateModel", name := "isSeen", desc := "()Z" } : Jvm.MethodName)) ∈ lw_all := lw_g (lw_at lw_m7 105 rfl) rfl
theorem q1654 : (Jvm.Cond.privateMethod ({ cls := "WoodliceSenateModel", name := "isSeen", desc := "()Z" } : Jvm.MethodName)) ∈ lw_tbl := lw_at lw_m7 106 rfl
theorem q1655 : (Jvm.Cond.instanceMethod ({ cls := "WoodliceSenateModel", name := "isSeen", desc := "()Z" } : Jvm.MethodName)) ∈ lw_all := lw_g (lw_at lw_m7 107 rfl) rfl
theorem q1656 : (Jvm.Cond.code ({ cls := "WoodliceSenateModel", name := "isSeen", desc := "()Z" } : Jvm.MethodName) prog_13_method_76_code (3 : Nat) (Option.some Jvm.ClassFile.FieldType.boolean)) ∈ lw_all := lw_g (lw_at lw_m7 108 rfl) rfl
theorem q1658 : (Jvm.Cond.instanceMethod ({ cls := "WoodliceSenateModel", name := "sort", desc := "(I)I" } : Jvm.MethodName)) ∈ lw_all := lw_g (lw_at lw_m7 110 rfl) rfl
theorem q1659 : (Jvm.Cond.selects "WoodliceSenateModel" ({ cls := "WoodliceSenateModel", name := "sort", desc := "(I)I" } : Jvm.MethodName) ({ cls := "WoodliceSenateModel", name := "sort", desc := "(I)I" } : Jvm.MethodName)) ∈ lw_all := lw_g (lw_at lw_m7 111 rfl) rfl
theorem q1660 : (Jvm.Cond.code ({ cls := "WoodliceSenateModel", name := "sort", desc := "(I)I" } : Jvm.MethodName) prog_13_method_80_code (2 : Nat) (Option.some Jvm.ClassFile.FieldType.int)) ∈ lw_all := lw_g (lw_at lw_m7 112 rfl) rfl
theorem q1661 : (Jvm.Cond.methodLink "WoodliceSenateModel" (307 : Nat) ({ cls := "WoodliceSenateModel", name := "sortsBy", desc := "(I)I" } : Jvm.MethodName)) ∈ lw_all := lw_g (lw_at lw_m7 113 rfl) rfl
theorem q1662 : (Jvm.Cond.privateMethod ({ cls := "WoodliceSenateModel", name := "sortsBy", desc := "(I)I" } : Jvm.MethodName)) ∈ lw_tbl := lw_at lw_m7 114 rfl
theorem q1663 : (Jvm.Cond.instanceMethod ({ cls := "WoodliceSenateModel", name := "sortsBy", desc := "(I)I" } : Jvm.MethodName)) ∈ lw_all := lw_g (lw_at lw_m7 115 rfl) rfl
theorem q1664 : (Jvm.Cond.code ({ cls := "WoodliceSenateModel", name := "sortsBy", desc := "(I)I" } : Jvm.MethodName) prog_13_method_79_code (5 : Nat) (Option.some Jvm.ClassFile.FieldType.int)) ∈ lw_all := lw_g (lw_at lw_m7 116 rfl) rfl
theorem q1666 : (Jvm.Cond.instanceMethod ({ cls := "WoodliceSenateModel", name := "wet", desc := "(I)I" } : Jvm.MethodName)) ∈ lw_all := lw_g (lw_at lw_m7 118 rfl) rfl
theorem q1667 : (Jvm.Cond.selects "WoodliceSenateModel" ({ cls := "WoodliceSenateModel", name := "wet", desc := "(I)I" } : Jvm.MethodName) ({ cls := "WoodliceSenateModel", name := "wet", desc := "(I)I" } : Jvm.MethodName)) ∈ lw_all := lw_g (lw_at lw_m7 119 rfl) rfl
theorem q1668 : (Jvm.Cond.code ({ cls := "WoodliceSenateModel", name := "wet", desc := "(I)I" } : Jvm.MethodName) prog_13_method_82_code (2 : Nat) (Option.some Jvm.ClassFile.FieldType.int)) ∈ lw_all := lw_g (lw_at lw_m7 120 rfl) rfl
theorem q1669 : (Jvm.Cond.methodLink "WoodliceSenateModel" (310 : Nat) ({ cls := "WoodliceSenateModel", name := "wetBy", desc := "(I)I" } : Jvm.MethodName)) ∈ lw_all := lw_g (lw_at lw_m7 121 rfl) rfl
theorem q1670 : (Jvm.Cond.privateMethod ({ cls := "WoodliceSenateModel", name := "wetBy", desc := "(I)I" } : Jvm.MethodName)) ∈ lw_tbl := lw_at lw_m7 122 rfl
theorem q1671 : (Jvm.Cond.instanceMethod ({ cls := "WoodliceSenateModel", name := "wetBy", desc := "(I)I" } : Jvm.MethodName)) ∈ lw_all := lw_g (lw_at lw_m7 123 rfl) rfl
theorem q1672 : (Jvm.Cond.code ({ cls := "WoodliceSenateModel", name := "wetBy", desc := "(I)I" } : Jvm.MethodName) prog_13_method_81_code (6 : Nat) (Option.some Jvm.ClassFile.FieldType.int)) ∈ lw_all := lw_g (lw_at lw_m7 124 rfl) rfl
theorem q1674 : (Jvm.Cond.instanceMethod ({ cls := "WoodliceSenateModel", name := "ask", desc := "(I)I" } : Jvm.MethodName)) ∈ lw_all := lw_g (lw_at lw_m7 126 rfl) rfl
theorem q1675 : (Jvm.Cond.selects "WoodliceSenateModel" ({ cls := "WoodliceSenateModel", name := "ask", desc := "(I)I" } : Jvm.MethodName) ({ cls := "WoodliceSenateModel", name := "ask", desc := "(I)I" } : Jvm.MethodName)) ∈ lw_all := lw_g (lw_at lw_m7 127 rfl) rfl
theorem q1676 : (Jvm.Cond.code ({ cls := "WoodliceSenateModel", name := "ask", desc := "(I)I" } : Jvm.MethodName) prog_13_method_84_code (2 : Nat) (Option.some Jvm.ClassFile.FieldType.int)) ∈ lw_all := lw_g (lw_at lw_m7 128 rfl) rfl
theorem q1677 : (Jvm.Cond.methodLink "WoodliceSenateModel" (313 : Nat) ({ cls := "WoodliceSenateModel", name := "askOf", desc := "(I)I" } : Jvm.MethodName)) ∈ lw_all := lw_g (lw_at lw_m7 129 rfl) rfl
theorem q1678 : (Jvm.Cond.privateMethod ({ cls := "WoodliceSenateModel", name := "askOf", desc := "(I)I" } : Jvm.MethodName)) ∈ lw_tbl := lw_at lw_m7 130 rfl
theorem q1679 : (Jvm.Cond.instanceMethod ({ cls := "WoodliceSenateModel", name := "askOf", desc := "(I)I" } : Jvm.MethodName)) ∈ lw_all := lw_g (lw_at lw_m7 131 rfl) rfl
theorem q1680 : (Jvm.Cond.code ({ cls := "WoodliceSenateModel", name := "askOf", desc := "(I)I" } : Jvm.MethodName) prog_13_method_83_code (10 : Nat) (Option.some Jvm.ClassFile.FieldType.int)) ∈ lw_all := lw_g (lw_at lw_m7 132 rfl) rfl
theorem q1682 : (Jvm.Cond.instanceMethod ({ cls := "WoodliceSenateModel", name := "chance", desc := "(III)J" } : Jvm.MethodName)) ∈ lw_all := lw_g (lw_at lw_m7 134 rfl) rfl
theorem q1683 : (Jvm.Cond.selects "WoodliceSenateModel" ({ cls := "WoodliceSenateModel", name := "chance", desc := "(III)J" } : Jvm.MethodName) ({ cls := "WoodliceSenateModel", name := "chance", desc := "(III)J" } : Jvm.MethodName)) ∈ lw_all := lw_g (lw_at lw_m7 135 rfl) rfl
theorem q1684 : (Jvm.Cond.code ({ cls := "WoodliceSenateModel", name := "chance", desc := "(III)J" } : Jvm.MethodName) prog_13_method_86_code (4 : Nat) (Option.some Jvm.ClassFile.FieldType.long)) ∈ lw_all := lw_g (lw_at lw_m7 136 rfl) rfl
theorem q1685 : (Jvm.Cond.methodLink "WoodliceSenateModel" (320 : Nat) ({ cls := "WoodliceSenateModel", name := "chanceOf", desc := "(III)J" } : Jvm.MethodName)) ∈ lw_all := lw_g (lw_at lw_m7 137 rfl) rfl
theorem q1686 : (Jvm.Cond.privateMethod ({ cls := "WoodliceSenateModel", name := "chanceOf", desc := "(III)J" } : Jvm.MethodName)) ∈ lw_tbl := lw_at lw_m7 138 rfl
theorem q1687 : (Jvm.Cond.instanceMethod ({ cls := "WoodliceSenateModel", name := "chanceOf", desc := "(III)J" } : Jvm.MethodName)) ∈ lw_all := lw_g (lw_at lw_m7 139 rfl) rfl
theorem q1688 : (Jvm.Cond.code ({ cls := "WoodliceSenateModel", name := "chanceOf", desc := "(III)J" } : Jvm.MethodName) prog_13_method_85_code (10 : Nat) (Option.some Jvm.ClassFile.FieldType.long)) ∈ lw_all := lw_g (lw_at lw_m7 140 rfl) rfl
theorem q1689 : (Jvm.Cond.methodLink "WoodliceSenateModel" (316 : Nat) ({ cls := "WoodliceSenateModel", name := "lowest", desc := "(JJI)J" } : Jvm.MethodName)) ∈ lw_all := lw_g (lw_at lw_m7 141 rfl) rfl
theorem q1690 : (Jvm.Cond.static ({ cls := "WoodliceSenateModel", name := "lowest", desc := "(JJI)J" } : Jvm.MethodName)) ∈ lw_all := lw_g (lw_at lw_m7 142 rfl) rfl
theorem q1691 : (Jvm.Cond.code ({ cls := "WoodliceSenateModel", name := "lowest", desc := "(JJI)J" } : Jvm.MethodName) prog_13_method_6_code (11 : Nat) (Option.some Jvm.ClassFile.FieldType.long)) ∈ lw_all := lw_g (lw_at lw_m7 143 rfl) rfl
theorem q1692 : (Jvm.Cond.methodLink "WoodliceSenateModel" (324 : Nat) ({ cls := "WoodliceSenateModel", name := "no", desc := "(I)J" } : Jvm.MethodName)) ∈ lw_all := lw_g (lw_at lw_m7 144 rfl) rfl
theorem q1693 : (Jvm.Cond.static ({ cls := "WoodliceSenateModel", name := "no", desc := "(I)J" } : Jvm.MethodName)) ∈ lw_all := lw_g (lw_at lw_m7 145 rfl) rfl
theorem q1694 : (Jvm.Cond.code ({ cls := "WoodliceSenateModel", name := "no", desc := "(I)J" } : Jvm.MethodName) prog_13_method_5_code (1 : Nat) (Option.some Jvm.ClassFile.FieldType.long)) ∈ lw_all := lw_g (lw_at lw_m7 146 rfl) rfl
theorem q1695 : (Jvm.Cond.constantLong "WoodliceSenateModel" (113 : Nat) (-9223372036854775808 : Int64)) ∈ lw_all := lw_g (lw_at lw_m7 147 rfl) rfl
theorem q1697 : (Jvm.Cond.instanceMethod ({ cls := "WoodliceSenateModel", name := "ages", desc := "(III)I" } : Jvm.MethodName)) ∈ lw_all := lw_g (lw_at lw_m7 149 rfl) rfl
theorem q1698 : (Jvm.Cond.selects "WoodliceSenateModel" ({ cls := "WoodliceSenateModel", name := "ages", desc := "(III)I" } : Jvm.MethodName) ({ cls := "WoodliceSenateModel", name := "ages", desc := "(III)I" } : Jvm.MethodName)) ∈ lw_all := lw_g (lw_at lw_m7 150 rfl) rfl
theorem q1699 : (Jvm.Cond.code ({ cls := "WoodliceSenateModel", name := "ages", desc := "(III)I" } : Jvm.MethodName) prog_13_method_88_code (4 : Nat) (Option.some Jvm.ClassFile.FieldType.int)) ∈ lw_all := lw_g (lw_at lw_m7 151 rfl) rfl
theorem q1700 : (Jvm.Cond.methodLink "WoodliceSenateModel" (329 : Nat) ({ cls := "WoodliceSenateModel", name := "agesOf", desc := "(III)I" } : Jvm.MethodName)) ∈ lw_all := lw_g (lw_at lw_m7 152 rfl) rfl
theorem q1701 : (Jvm.Cond.privateMethod ({ cls := "WoodliceSenateModel", name := "agesOf", desc := "(III)I" } : Jvm.MethodName)) ∈ lw_tbl := lw_at lw_m7 153 rfl
theorem q1702 : (Jvm.Cond.instanceMethod ({ cls := "WoodliceSenateModel", name := "agesOf", desc := "(III)I" } : Jvm.MethodName)) ∈ lw_all := lw_g (lw_at lw_m7 154 rfl) rfl
theorem q1703 : (Jvm.Cond.code ({ cls := "WoodliceSenateModel", name := "agesOf", desc := "(III)I" } : Jvm.MethodName) prog_13_method_87_code (6 : Nat) (Option.some Jvm.ClassFile.FieldType.int)) ∈ lw_all := lw_g (lw_at lw_m7 155 rfl) rfl
theorem q1704 : (Jvm.Cond.constant "WoodliceSenateModel" (328 : Nat) (1103515245 : Int32)) ∈ lw_all := lw_g (lw_at lw_m7 156 rfl) rfl
theorem q1706 : (Jvm.Cond.instanceMethod ({ cls := "WoodliceSenateModel", name := "sheet", desc := "(III)I" } : Jvm.MethodName)) ∈ lw_all := lw_g (lw_at lw_m7 158 rfl) rfl
theorem q1707 : (Jvm.Cond.selects "WoodliceSenateModel" ({ cls := "WoodliceSenateModel", name := "sheet", desc := "(III)I" } : Jvm.MethodName) ({ cls := "WoodliceSenateModel", name := "sheet", desc := "(III)I" } : Jvm.MethodName)) ∈ lw_all := lw_g (lw_at lw_m7 159 rfl) rfl
theorem q1708 : (Jvm.Cond.code ({ cls := "WoodliceSenateModel", name := "sheet", desc := "(III)I" } : Jvm.MethodName) prog_13_method_91_code (5 : Nat) (Option.some Jvm.ClassFile.FieldType.int)) ∈ lw_all := lw_g (lw_at lw_m7 160 rfl) rfl
theorem q1710 : (Jvm.Cond.instanceMethod ({ cls := "WoodliceSenateModel", name := "lose", desc := "(I)I" } : Jvm.MethodName)) ∈ lw_all := lw_g (lw_at lw_m7 162 rfl) rfl
theorem q1711 : (Jvm.Cond.selects "WoodliceSenateModel" ({ cls := "WoodliceSenateModel", name := "lose", desc := "(I)I" } : Jvm.MethodName) ({ cls := "WoodliceSenateModel", name := "lose", desc := "(I)I" } : Jvm.MethodName)) ∈ lw_all := lw_g (lw_at lw_m7 163 rfl) rfl
theorem q1712 : (Jvm.Cond.code ({ cls := "WoodliceSenateModel", name := "lose", desc := "(I)I" } : Jvm.MethodName) prog_13_method_92_code (2 : Nat) (Option.some Jvm.ClassFile.FieldType.int)) ∈ lw_all := lw_g (lw_at lw_m7 164 rfl) rfl
theorem q1714 : (Jvm.Cond.instanceMethod ({ cls := "WoodliceSenateModel", name := "put", desc := "(IIII)I" } : Jvm.MethodName)) ∈ lw_all := lw_g (lw_at lw_m7 166 rfl) rfl
theorem q1715 : (Jvm.Cond.selects "WoodliceSenateModel" ({ cls := "WoodliceSenateModel", name := "put", desc := "(IIII)I" } : Jvm.MethodName) ({ cls := "WoodliceSenateModel", name := "put", desc := "(IIII)I" } : Jvm.MethodName)) ∈ lw_all := lw_g (lw_at lw_m7 167 rfl) rfl
theorem q1716 : (Jvm.Cond.code ({ cls := "WoodliceSenateModel", name := "put", desc := "(IIII)I" } : Jvm.MethodName) prog_13_method_95_code (6 : Nat) (Option.some Jvm.ClassFile.FieldType.int)) ∈ lw_all := lw_g (lw_at lw_m7 168 rfl) rfl
theorem q1717 : (Jvm.Cond.methodLink "WoodliceSenateModel" (335 : Nat) ({ cls := "WoodliceSenateModel", name := "lacks", desc := "(III)I" } : Jvm.MethodName)) ∈ lw_all := lw_g (lw_at lw_m7 169 rfl) rfl
theorem q1718 : (Jvm.Cond.privateMethod ({ cls := "WoodliceSenateModel", name := "lacks", desc := "(III)I" } : Jvm.MethodName)) ∈ lw_tbl := lw_at lw_m7 170 rfl
theorem q1719 : (Jvm.Cond.instanceMethod ({ cls := "WoodliceSenateModel", name := "lacks", desc := "(III)I" } : Jvm.MethodName)) ∈ lw_all := lw_g (lw_at lw_m7 171 rfl) rfl
theorem q1720 : (Jvm.Cond.code ({ cls := "WoodliceSenateModel", name := "lacks", desc := "(III)I" } : Jvm.MethodName) prog_13_method_93_code (4 : Nat) (Option.some Jvm.ClassFile.FieldType.int)) ∈ lw_all := lw_g (lw_at lw_m7 172 rfl) rfl
theorem q1721 : (Jvm.Cond.methodLink "WoodliceSenateModel" (338 : Nat) ({ cls := "WoodliceSenateModel", name := "keep", desc := "(III)V" } : Jvm.MethodName)) ∈ lw_all := lw_g (lw_at lw_m7 173 rfl) rfl
theorem q1722 : (Jvm.Cond.privateMethod ({ cls := "WoodliceSenateModel", name := "keep", desc := "(III)V" } : Jvm.MethodName)) ∈ lw_tbl := lw_at lw_m7 174 rfl
theorem q1723 : (Jvm.Cond.instanceMethod ({ cls := "WoodliceSenateModel", name := "keep", desc := "(III)V" } : Jvm.MethodName)) ∈ lw_all := lw_g (lw_at lw_m7 175 rfl) rfl
theorem q1724 : (Jvm.Cond.code ({ cls := "WoodliceSenateModel", name := "keep", desc := "(III)V" } : Jvm.MethodName) prog_13_method_94_code (4 : Nat) (Option.none : Option Jvm.ClassFile.FieldType)) ∈ lw_all := lw_g (lw_at lw_m7 176 rfl) rfl
theorem q1726 : (Jvm.Cond.instanceMethod ({ cls := "WoodliceSenateModel", name := "get", desc := "(III)I" } : Jvm.MethodName)) ∈ lw_all := lw_g (lw_at lw_m7 178 rfl) rfl
theorem q1727 : (Jvm.Cond.selects "WoodliceSenateModel" ({ cls := "WoodliceSenateModel", name := "get", desc := "(III)I" } : Jvm.MethodName) ({ cls := "WoodliceSenateModel", name := "get", desc := "(III)I" } : Jvm.MethodName)) ∈ lw_all := lw_g (lw_at lw_m7 179 rfl) rfl
theorem q1728 : (Jvm.Cond.code ({ cls := "WoodliceSenateModel", name := "get", desc := "(III)I" } : Jvm.MethodName) prog_13_method_96_code (5 : Nat) (Option.some Jvm.ClassFile.FieldType.int)) ∈ lw_all := lw_g (lw_at lw_m7 180 rfl) rfl
theorem q1729 : (Jvm.Cond.constant "WoodliceSenateModel" (341 : Nat) (-2147483648 : Int32)) ∈ lw_all := lw_g (lw_at lw_m7 181 rfl) rfl
theorem q1731 : (Jvm.Cond.instanceMethod ({ cls := "WoodliceSenateModel", name := "copy", desc := "(IIIII)I" } : Jvm.MethodName)) ∈ lw_all := lw_g (lw_at lw_m7 183 rfl) rfl
theorem q1732 : (Jvm.Cond.selects "WoodliceSenateModel" ({ cls := "WoodliceSenateModel", name := "copy", desc := "(IIIII)I" } : Jvm.MethodName) ({ cls := "WoodliceSenateModel", name := "copy", desc := "(IIIII)I" } : Jvm.MethodName)) ∈ lw_all := lw_g (lw_at lw_m7 184 rfl) rfl
theorem q1733 : (Jvm.Cond.code ({ cls := "WoodliceSenateModel", name := "copy", desc := "(IIIII)I" } : Jvm.MethodName) prog_13_method_97_code (7 : Nat) (Option.some Jvm.ClassFile.FieldType.int)) ∈ lw_all := lw_g (lw_at lw_m7 185 rfl) rfl
theorem q1735 : (Jvm.Cond.instanceMethod ({ cls := "WoodliceSenateModel", name := "write", desc := "(II)I" } : Jvm.MethodName)) ∈ lw_all := lw_g (lw_at lw_m7 187 rfl) rfl
theorem q1736 : (Jvm.Cond.selects "WoodliceSenateModel" ({ cls := "WoodliceSenateModel", name := "write", desc := "(II)I" } : Jvm.MethodName) ({ cls := "WoodliceSenateModel", name := "write", desc := "(II)I" } : Jvm.MethodName)) ∈ lw_all := lw_g (lw_at lw_m7 188 rfl) rfl
theorem q1737 : (Jvm.Cond.code ({ cls := "WoodliceSenateModel", name := "write", desc := "(II)I" } : Jvm.MethodName) prog_13_method_98_code (4 : Nat) (Option.some Jvm.ClassFile.FieldType.int)) ∈ lw_all := lw_g (lw_at lw_m7 189 rfl) rfl
theorem q1739 : (Jvm.Cond.instanceMethod ({ cls := "WoodliceSenateModel", name := "count", desc := "(I)I" } : Jvm.MethodName)) ∈ lw_all := lw_g (lw_at lw_m7 191 rfl) rfl
theorem q1740 : (Jvm.Cond.selects "WoodliceSenateModel" ({ cls := "WoodliceSenateModel", name := "count", desc := "(I)I" } : Jvm.MethodName) ({ cls := "WoodliceSenateModel", name := "count", desc := "(I)I" } : Jvm.MethodName)) ∈ lw_all := lw_g (lw_at lw_m7 192 rfl) rfl
theorem q1741 : (Jvm.Cond.code ({ cls := "WoodliceSenateModel", name := "count", desc := "(I)I" } : Jvm.MethodName) prog_13_method_100_code (2 : Nat) (Option.some Jvm.ClassFile.FieldType.int)) ∈ lw_all := lw_g (lw_at lw_m7 193 rfl) rfl
theorem q1742 : (Jvm.Cond.methodLink "WoodliceSenateModel" (342 : Nat) ({ cls := "WoodliceSenateModel", name := "sumOf", desc := "(I)I" } : Jvm.MethodName)) ∈ lw_all := lw_g (lw_at lw_m7 194 rfl) rfl
theorem q1743 : (Jvm.Cond.privateMethod ({ cls := "WoodliceSenateModel", name := "sumOf", desc := "(I)I" } : Jvm.MethodName)) ∈ lw_tbl := lw_at lw_m7 195 rfl
theorem q1744 : (Jvm.Cond.instanceMethod ({ cls := "WoodliceSenateModel", name := "sumOf", desc := "(I)I" } : Jvm.MethodName)) ∈ lw_all := lw_g (lw_at lw_m7 196 rfl) rfl
theorem q1745 : (Jvm.Cond.code ({ cls := "WoodliceSenateModel", name := "sumOf", desc := "(I)I" } : Jvm.MethodName) prog_13_method_99_code (5 : Nat) (Option.some Jvm.ClassFile.FieldType.int)) ∈ lw_all := lw_g (lw_at lw_m7 197 rfl) rfl
theorem q1747 : (Jvm.Cond.instanceMethod ({ cls := "WoodliceSenateModel", name := "digest", desc := "()J" } : Jvm.MethodName)) ∈ lw_all := lw_g (lw_at lw_m7 199 rfl) rfl
theorem q1748 : (Jvm.Cond.selects "WoodliceSenateModel" ({ cls := "WoodliceSenateModel", name := "digest", desc := "()J" } : Jvm.MethodName) ({ cls := "WoodliceSenateModel", name := "digest", desc := "()J" } : Jvm.MethodName)) ∈ lw_all := lw_g (lw_at lw_m7 200 rfl) rfl
theorem q1749 : (Jvm.Cond.code ({ cls := "WoodliceSenateModel", name := "digest", desc := "()J" } : Jvm.MethodName) prog_13_method_104_code (5 : Nat) (Option.some Jvm.ClassFile.FieldType.long)) ∈ lw_all := lw_g (lw_at lw_m7 201 rfl) rfl
theorem q1750 : (Jvm.Cond.constantLong "WoodliceSenateModel" (351 : Nat) (17 : Int64)) ∈ lw_all := lw_g (lw_at lw_m7 202 rfl) rfl
theorem q1751 : (Jvm.Cond.constantLong "WoodliceSenateModel" (345 : Nat) (31 : Int64)) ∈ lw_all := lw_g (lw_at lw_m7 203 rfl) rfl
theorem q1752 : (Jvm.Cond.methodLink "WoodliceSenateModel" (353 : Nat) ({ cls := "WoodliceSenateModel", name := "count", desc := "(I)I" } : Jvm.MethodName)) ∈ lw_all := lw_g (lw_at lw_m7 204 rfl) rfl
theorem q1753 : (Jvm.Cond.methodLink "WoodliceSenateModel" (356 : Nat) ({ cls := "WoodliceSenateModel", name := "placeDigest", desc := "(JI)J" } : Jvm.MethodName)) ∈ lw_all := lw_g (lw_at lw_m7 205 rfl) rfl
theorem q1754 : (Jvm.Cond.privateMethod ({ cls := "WoodliceSenateModel", name := "placeDigest", desc := "(JI)J" } : Jvm.MethodName)) ∈ lw_tbl := lw_at lw_m7 206 rfl
theorem q1755 : (Jvm.Cond.instanceMethod ({ cls := "WoodliceSenateModel", name := "placeDigest", desc := "(JI)J" } : Jvm.MethodName)) ∈ lw_all := lw_g (lw_at lw_m7 207 rfl) rfl
theorem q1756 : (Jvm.Cond.code ({ cls := "WoodliceSenateModel", name := "placeDigest", desc := "(JI)J" } : Jvm.MethodName) prog_13_method_101_code (6 : Nat) (Option.some Jvm.ClassFile.FieldType.long)) ∈ lw_all := lw_g (lw_at lw_m7 208 rfl) rfl
theorem q1757 : (Jvm.Cond.methodLink "WoodliceSenateModel" (360 : Nat) ({ cls := "WoodliceSenateModel", name := "memberDigest", desc := "(JI)J" } : Jvm.MethodName)) ∈ lw_all := lw_g (lw_at lw_m7 209 rfl) rfl
theorem q1758 : (Jvm.Cond.privateMethod ({ cls := "WoodliceSenateModel", name := "memberDigest", desc := "(JI)J" } : Jvm.MethodName)) ∈ lw_tbl := lw_at lw_m7 210 rfl
theorem q1759 : (Jvm.Cond.instanceMethod ({ cls := "WoodliceSenateModel", name := "memberDigest", desc := "(JI)J" } : Jvm.MethodName)) ∈ lw_all := lw_g (lw_at lw_m7 211 rfl) rfl
theorem q1760 : (Jvm.Cond.code ({ cls := "WoodliceSenateModel", name := "memberDigest", desc := "(JI)J" } : Jvm.MethodName) prog_13_method_103_code (7 : Nat) (Option.some Jvm.ClassFile.FieldType.long)) ∈ lw_all := lw_g (lw_at lw_m7 212 rfl) rfl
theorem q1761 : (Jvm.Cond.methodLink "WoodliceSenateModel" (347 : Nat) ({ cls := "WoodliceSenateModel", name := "hourDigest", desc := "(JII)J" } : Jvm.MethodName)) ∈ lw_all := lw_g (lw_at lw_m7 213 rfl) rfl
theorem q1762 : (Jvm.Cond.privateMethod ({ cls := "WoodliceSenateModel", name := "hourDigest", desc := "(JII)J" } : Jvm.MethodName)) ∈ lw_tbl := lw_at lw_m7 214 rfl
theorem q1763 : (Jvm.Cond.instanceMethod ({ cls := "WoodliceSenateModel", name := "hourDigest", desc := "(JII)J" } : Jvm.MethodName)) ∈ lw_all := lw_g (lw_at lw_m7 215 rfl) rfl
theorem q1764 : (Jvm.Cond.code ({ cls := "WoodliceSenateModel", name := "hourDigest", desc := "(JII)J" } : Jvm.MethodName) prog_13_method_102_code (8 : Nat) (Option.some Jvm.ClassFile.FieldType.long)) ∈ lw_all := lw_g (lw_at lw_m7 216 rfl) rfl
theorem q1779 : (Jvm.Cond.castable "WoodliceSenateModel" "java/lang/Object") ∈ lw_tbl := lw_at lw_m7 231 rfl
theorem in_X6 : ∀ w ∈ wsX60, w ∈ lw_all := lw_in wsX60 [1272, 1274, 1276, 1278, 1280, 1282, 1284, 1286, 1288, 1290, 1292, 1294, 1296, 1298, 1300, 1302, 1304, 1306, 1308, 1310, 1312, 1314, 1316, 1318, 1320, 1322, 1324, 1326, 1328, 1330, 1332, 1334, 1336, 1338, 1340, 1342, 1344, 1346, 1348, 1350, 1352, 1354] (by decide +kernel) (by decide +kernel)

theorem q1794 : (Jvm.Cond.castable "[I" "java/lang/Object") ∈ lw_tbl := lw_at lw_m8 6 rfl
set_option maxRecDepth 100000

theorem q1800 : (Jvm.Cond.castable "[Z" "java/lang/Object") ∈ lw_tbl := lw_at lw_m8 12 rfl
set_option maxRecDepth 100000
