/-! PromisePoundsModel -/
set_option maxRecDepth 100000
def RX3 : String := "PromisePoundsModel"
def TX3 : u_T := fun k => match k with
  | 0 => ("PromisePoundsModel", "w", "[I", true)
  | 1 => ("PromisePoundsModel", "acts", "I", false)
  | 2 => ("PromisePoundsModel", "isKept", "[Z", true)
  | 3 => ("PromisePoundsModel", "lanes", "[I", true)
  | 4 => ("PromisePoundsModel", "sizes", "[I", true)
  | 5 => ("PromisePoundsModel", "items", "[I", true)
  | 6 => ("PromisePoundsModel", "held", "[I", true)
  | 7 => ("PromisePoundsModel", "status", "I", false)
  | 8 => ("PromisePoundsModel", "tape", "[I", true)
  | 9 => ("PromisePoundsModel", "taped", "I", false)
  | 10 => ("PromisePoundsModel", "latest", "I", false)
  | 11 => ("PromisePoundsModel", "at", "I", false)
  | 12 => ("PromisePoundsModel", "start", "I", false)
  | 13 => ("PromisePoundsModel", "fault", "I", false)
  | 14 => ("PromisePoundsModel", "value", "I", false)
  | 15 => ("PromisePoundsModel", "order", "[I", true)
  | 16 => ("PromisePoundsModel", "bestOrder", "[I", true)
  | 17 => ("PromisePoundsModel", "day", "[I", true)
  | 18 => ("PromisePoundsModel", "spot", "[I", true)
  | 19 => ("PromisePoundsModel", "timely", "[I", true)
  | 20 => ("PromisePoundsModel", "crossings", "[I", true)
  | 21 => ("PromisePoundsModel", "was", "[I", true)
  | 22 => ("PromisePoundsModel", "trace", "[I", true)
  | _ => ("PromisePoundsModel", "traced", "I", false)
def tyX3 : Nat → FieldType := fun k => match k with
  | 0 => .array .int
  | 1 => .int
  | 2 => .array .boolean
  | 3 => .array .int
  | 4 => .array .int
  | 5 => .array .int
  | 6 => .array .int
  | 7 => .int
  | 8 => .array .int
  | 9 => .int
  | 10 => .int
  | 11 => .int
  | 12 => .int
  | 13 => .int
  | 14 => .int
  | 15 => .array .int
  | 16 => .array .int
  | 17 => .array .int
  | 18 => .array .int
  | 19 => .array .int
  | 20 => .array .int
  | 21 => .array .int
  | 22 => .array .int
  | _ => .int
abbrev wsX30 : List Cond := u_ws RX3 TX3 24
set_option maxRecDepth 100000 in
theorem nmX3 : ∀ a, a < 24 → ∀ b, b < 24 → a ≠ b → (TX3 a).2.1 ≠ (TX3 b).2.1 := by decide +kernel
set_option maxRecDepth 100000 in
theorem tyX3_ok : ∀ k, k < 24 → parseFieldDescriptor (TX3 k).2.2.1 = some (tyX3 k) := by decide +kernel
abbrev cX3_init : ByteArray := prog_16_method_1_code
def yX3_init : MethodName := ⟨RX3, "<init>", "()V"⟩
def dkwX3_init_6 : List UInt8 := [132, 1, 1, 167, 255, 240, 177]
abbrev dktX3_init_6 : List UInt8 := dkwX3_init_6 ++ []
def dkwX3_init_5 : List UInt8 := [16, 16, 188, 10, 181, 0, 53, 3, 60, 27, 16, 8, 162, 0, 16, 42, 180, 0, 17, 27, 2, 79]
abbrev dktX3_init_5 : List UInt8 := dkwX3_init_5 ++ dktX3_init_6
def dkwX3_init_4 : List UInt8 := [16, 9, 188, 10, 181, 0, 44, 42, 16, 32, 188, 10, 181, 0, 47, 42, 16, 10, 188, 10, 181, 0, 50, 42]
abbrev dktX3_init_4 : List UInt8 := dkwX3_init_4 ++ dktX3_init_5
def dkwX3_init_3 : List UInt8 := [16, 8, 188, 10, 181, 0, 35, 42, 16, 9, 188, 10, 181, 0, 38, 42, 16, 9, 188, 10, 181, 0, 41, 42]
abbrev dktX3_init_3 : List UInt8 := dkwX3_init_3 ++ dktX3_init_4
def dkwX3_init_2 : List UInt8 := [16, 40, 188, 10, 181, 0, 26, 42, 16, 120, 188, 10, 181, 0, 29, 42, 16, 8, 188, 10, 181, 0, 32, 42]
abbrev dktX3_init_2 : List UInt8 := dkwX3_init_2 ++ dktX3_init_3
def dkwX3_init_1 : List UInt8 := [188, 10, 181, 0, 17, 42, 16, 8, 188, 10, 181, 0, 20, 42, 17, 1, 64, 188, 10, 181, 0, 23, 42]
abbrev dktX3_init_1 : List UInt8 := dkwX3_init_1 ++ dktX3_init_2
def dkwX3_init_0 : List UInt8 := [42, 183, 0, 1, 42, 17, 7, 252, 188, 10, 181, 0, 7, 42, 5, 188, 4, 181, 0, 13, 42, 16, 8]
abbrev dktX3_init_0 : List UInt8 := dkwX3_init_0 ++ dktX3_init_1
theorem dksX3_init_0 : cX3_init.data.toList.drop 0 = dktX3_init_0 := by decide +kernel
theorem dksX3_init_1 : cX3_init.data.toList.drop 23 = dktX3_init_1 := dk_seg dksX3_init_0 23 rfl rfl
theorem dksX3_init_2 : cX3_init.data.toList.drop 46 = dktX3_init_2 := dk_seg dksX3_init_1 23 rfl rfl
theorem dksX3_init_3 : cX3_init.data.toList.drop 70 = dktX3_init_3 := dk_seg dksX3_init_2 24 rfl rfl
theorem dksX3_init_4 : cX3_init.data.toList.drop 94 = dktX3_init_4 := dk_seg dksX3_init_3 24 rfl rfl
theorem dksX3_init_5 : cX3_init.data.toList.drop 118 = dktX3_init_5 := dk_seg dksX3_init_4 24 rfl rfl
theorem dksX3_init_6 : cX3_init.data.toList.drop 140 = dktX3_init_6 := dk_seg dksX3_init_5 22 rfl rfl
theorem dX3_init_0 : decode cX3_init 0 = .ok (.aload_n 0, 1) := dk_42 (dk_at dksX3_init_0 0 rfl rfl)
theorem dX3_init_1 : decode cX3_init 1 = .ok (.invokespecial 1, 3) := dk_183 0 1 (dk_at dksX3_init_0 1 rfl rfl)
theorem dX3_init_4 : decode cX3_init 4 = .ok (.aload_n 0, 1) := dk_42 (dk_at dksX3_init_0 4 rfl rfl)
theorem dX3_init_5 : decode cX3_init 5 = .ok (.sipush 2044, 3) := dk_17 7 252 (dk_at dksX3_init_0 5 rfl rfl)
theorem dX3_init_8 : decode cX3_init 8 = .ok (.newarray .int, 2) := dk_188_10 (dk_at dksX3_init_0 8 rfl rfl)
theorem dX3_init_10 : decode cX3_init 10 = .ok (.putfield 7, 3) := dk_181 0 7 (dk_at dksX3_init_0 10 rfl rfl)
theorem dX3_init_13 : decode cX3_init 13 = .ok (.aload_n 0, 1) := dk_42 (dk_at dksX3_init_0 13 rfl rfl)
theorem dX3_init_14 : decode cX3_init 14 = .ok (.iconst 2, 1) := dk_5 (dk_at dksX3_init_0 14 rfl rfl)
theorem dX3_init_15 : decode cX3_init 15 = .ok (.newarray .boolean, 2) := dk_188_4 (dk_at dksX3_init_0 15 rfl rfl)
theorem dX3_init_17 : decode cX3_init 17 = .ok (.putfield 13, 3) := dk_181 0 13 (dk_at dksX3_init_0 17 rfl rfl)
theorem dX3_init_20 : decode cX3_init 20 = .ok (.aload_n 0, 1) := dk_42 (dk_at dksX3_init_0 20 rfl rfl)
theorem dX3_init_21 : decode cX3_init 21 = .ok (.bipush 8, 2) := dk_16 8 (dk_at dksX3_init_0 21 rfl rfl)
theorem dX3_init_23 : decode cX3_init 23 = .ok (.newarray .int, 2) := dk_188_10 (dk_at dksX3_init_1 0 rfl rfl)
theorem dX3_init_25 : decode cX3_init 25 = .ok (.putfield 17, 3) := dk_181 0 17 (dk_at dksX3_init_1 2 rfl rfl)
theorem dX3_init_28 : decode cX3_init 28 = .ok (.aload_n 0, 1) := dk_42 (dk_at dksX3_init_1 5 rfl rfl)
theorem dX3_init_29 : decode cX3_init 29 = .ok (.bipush 8, 2) := dk_16 8 (dk_at dksX3_init_1 6 rfl rfl)
theorem dX3_init_31 : decode cX3_init 31 = .ok (.newarray .int, 2) := dk_188_10 (dk_at dksX3_init_1 8 rfl rfl)
theorem dX3_init_33 : decode cX3_init 33 = .ok (.putfield 20, 3) := dk_181 0 20 (dk_at dksX3_init_1 10 rfl rfl)
theorem dX3_init_36 : decode cX3_init 36 = .ok (.aload_n 0, 1) := dk_42 (dk_at dksX3_init_1 13 rfl rfl)
theorem dX3_init_37 : decode cX3_init 37 = .ok (.sipush 320, 3) := dk_17 1 64 (dk_at dksX3_init_1 14 rfl rfl)
theorem dX3_init_40 : decode cX3_init 40 = .ok (.newarray .int, 2) := dk_188_10 (dk_at dksX3_init_1 17 rfl rfl)
theorem dX3_init_42 : decode cX3_init 42 = .ok (.putfield 23, 3) := dk_181 0 23 (dk_at dksX3_init_1 19 rfl rfl)
theorem dX3_init_45 : decode cX3_init 45 = .ok (.aload_n 0, 1) := dk_42 (dk_at dksX3_init_1 22 rfl rfl)
theorem dX3_init_46 : decode cX3_init 46 = .ok (.bipush 40, 2) := dk_16 40 (dk_at dksX3_init_2 0 rfl rfl)
theorem dX3_init_48 : decode cX3_init 48 = .ok (.newarray .int, 2) := dk_188_10 (dk_at dksX3_init_2 2 rfl rfl)
theorem dX3_init_50 : decode cX3_init 50 = .ok (.putfield 26, 3) := dk_181 0 26 (dk_at dksX3_init_2 4 rfl rfl)
theorem dX3_init_53 : decode cX3_init 53 = .ok (.aload_n 0, 1) := dk_42 (dk_at dksX3_init_2 7 rfl rfl)
theorem dX3_init_54 : decode cX3_init 54 = .ok (.bipush 120, 2) := dk_16 120 (dk_at dksX3_init_2 8 rfl rfl)
theorem dX3_init_56 : decode cX3_init 56 = .ok (.newarray .int, 2) := dk_188_10 (dk_at dksX3_init_2 10 rfl rfl)
theorem dX3_init_58 : decode cX3_init 58 = .ok (.putfield 29, 3) := dk_181 0 29 (dk_at dksX3_init_2 12 rfl rfl)
theorem dX3_init_61 : decode cX3_init 61 = .ok (.aload_n 0, 1) := dk_42 (dk_at dksX3_init_2 15 rfl rfl)
theorem dX3_init_62 : decode cX3_init 62 = .ok (.bipush 8, 2) := dk_16 8 (dk_at dksX3_init_2 16 rfl rfl)
theorem dX3_init_64 : decode cX3_init 64 = .ok (.newarray .int, 2) := dk_188_10 (dk_at dksX3_init_2 18 rfl rfl)
theorem dX3_init_66 : decode cX3_init 66 = .ok (.putfield 32, 3) := dk_181 0 32 (dk_at dksX3_init_2 20 rfl rfl)
theorem dX3_init_69 : decode cX3_init 69 = .ok (.aload_n 0, 1) := dk_42 (dk_at dksX3_init_2 23 rfl rfl)
theorem dX3_init_70 : decode cX3_init 70 = .ok (.bipush 8, 2) := dk_16 8 (dk_at dksX3_init_3 0 rfl rfl)
theorem dX3_init_72 : decode cX3_init 72 = .ok (.newarray .int, 2) := dk_188_10 (dk_at dksX3_init_3 2 rfl rfl)
theorem dX3_init_74 : decode cX3_init 74 = .ok (.putfield 35, 3) := dk_181 0 35 (dk_at dksX3_init_3 4 rfl rfl)
theorem dX3_init_77 : decode cX3_init 77 = .ok (.aload_n 0, 1) := dk_42 (dk_at dksX3_init_3 7 rfl rfl)
theorem dX3_init_78 : decode cX3_init 78 = .ok (.bipush 9, 2) := dk_16 9 (dk_at dksX3_init_3 8 rfl rfl)
theorem dX3_init_80 : decode cX3_init 80 = .ok (.newarray .int, 2) := dk_188_10 (dk_at dksX3_init_3 10 rfl rfl)
theorem dX3_init_82 : decode cX3_init 82 = .ok (.putfield 38, 3) := dk_181 0 38 (dk_at dksX3_init_3 12 rfl rfl)
theorem dX3_init_85 : decode cX3_init 85 = .ok (.aload_n 0, 1) := dk_42 (dk_at dksX3_init_3 15 rfl rfl)
theorem dX3_init_86 : decode cX3_init 86 = .ok (.bipush 9, 2) := dk_16 9 (dk_at dksX3_init_3 16 rfl rfl)
theorem dX3_init_88 : decode cX3_init 88 = .ok (.newarray .int, 2) := dk_188_10 (dk_at dksX3_init_3 18 rfl rfl)
theorem dX3_init_90 : decode cX3_init 90 = .ok (.putfield 41, 3) := dk_181 0 41 (dk_at dksX3_init_3 20 rfl rfl)
theorem dX3_init_93 : decode cX3_init 93 = .ok (.aload_n 0, 1) := dk_42 (dk_at dksX3_init_3 23 rfl rfl)
theorem dX3_init_94 : decode cX3_init 94 = .ok (.bipush 9, 2) := dk_16 9 (dk_at dksX3_init_4 0 rfl rfl)
theorem dX3_init_96 : decode cX3_init 96 = .ok (.newarray .int, 2) := dk_188_10 (dk_at dksX3_init_4 2 rfl rfl)
theorem dX3_init_98 : decode cX3_init 98 = .ok (.putfield 44, 3) := dk_181 0 44 (dk_at dksX3_init_4 4 rfl rfl)
theorem dX3_init_101 : decode cX3_init 101 = .ok (.aload_n 0, 1) := dk_42 (dk_at dksX3_init_4 7 rfl rfl)
theorem dX3_init_102 : decode cX3_init 102 = .ok (.bipush 32, 2) := dk_16 32 (dk_at dksX3_init_4 8 rfl rfl)
theorem dX3_init_104 : decode cX3_init 104 = .ok (.newarray .int, 2) := dk_188_10 (dk_at dksX3_init_4 10 rfl rfl)
theorem dX3_init_106 : decode cX3_init 106 = .ok (.putfield 47, 3) := dk_181 0 47 (dk_at dksX3_init_4 12 rfl rfl)
theorem dX3_init_109 : decode cX3_init 109 = .ok (.aload_n 0, 1) := dk_42 (dk_at dksX3_init_4 15 rfl rfl)
theorem dX3_init_110 : decode cX3_init 110 = .ok (.bipush 10, 2) := dk_16 10 (dk_at dksX3_init_4 16 rfl rfl)
theorem dX3_init_112 : decode cX3_init 112 = .ok (.newarray .int, 2) := dk_188_10 (dk_at dksX3_init_4 18 rfl rfl)
theorem dX3_init_114 : decode cX3_init 114 = .ok (.putfield 50, 3) := dk_181 0 50 (dk_at dksX3_init_4 20 rfl rfl)
theorem dX3_init_117 : decode cX3_init 117 = .ok (.aload_n 0, 1) := dk_42 (dk_at dksX3_init_4 23 rfl rfl)
theorem dX3_init_118 : decode cX3_init 118 = .ok (.bipush 16, 2) := dk_16 16 (dk_at dksX3_init_5 0 rfl rfl)
theorem dX3_init_120 : decode cX3_init 120 = .ok (.newarray .int, 2) := dk_188_10 (dk_at dksX3_init_5 2 rfl rfl)
theorem dX3_init_122 : decode cX3_init 122 = .ok (.putfield 53, 3) := dk_181 0 53 (dk_at dksX3_init_5 4 rfl rfl)
theorem dX3_init_125 : decode cX3_init 125 = .ok (.iconst 0, 1) := dk_3 (dk_at dksX3_init_5 7 rfl rfl)
theorem dX3_init_126 : decode cX3_init 126 = .ok (.istore_n 1, 1) := dk_60 (dk_at dksX3_init_5 8 rfl rfl)
theorem dX3_init_127 : decode cX3_init 127 = .ok (.iload_n 1, 1) := dk_27 (dk_at dksX3_init_5 9 rfl rfl)
theorem dX3_init_128 : decode cX3_init 128 = .ok (.bipush 8, 2) := dk_16 8 (dk_at dksX3_init_5 10 rfl rfl)
theorem dX3_init_130 : decode cX3_init 130 = .ok (.if_icmp .ge 16, 3) := dk_162 0 16 (dk_at dksX3_init_5 12 rfl rfl)
theorem dX3_init_133 : decode cX3_init 133 = .ok (.aload_n 0, 1) := dk_42 (dk_at dksX3_init_5 15 rfl rfl)
theorem dX3_init_134 : decode cX3_init 134 = .ok (.getfield 17, 3) := dk_180 0 17 (dk_at dksX3_init_5 16 rfl rfl)
theorem dX3_init_137 : decode cX3_init 137 = .ok (.iload_n 1, 1) := dk_27 (dk_at dksX3_init_5 19 rfl rfl)
theorem dX3_init_138 : decode cX3_init 138 = .ok (.iconst (-1), 1) := dk_2 (dk_at dksX3_init_5 20 rfl rfl)
theorem dX3_init_139 : decode cX3_init 139 = .ok (.iastore, 1) := dk_79 (dk_at dksX3_init_5 21 rfl rfl)
theorem dX3_init_140 : decode cX3_init 140 = .ok (.iinc 1 1, 3) := dk_132 1 1 (dk_at dksX3_init_6 0 rfl rfl)
theorem dX3_init_143 : decode cX3_init 143 = .ok (.goto (-16), 3) := dk_167 255 240 (dk_at dksX3_init_6 3 rfl rfl)
theorem dX3_init_146 : decode cX3_init 146 = .ok (.return_, 1) := dk_177 (dk_at dksX3_init_6 6 rfl rfl)
abbrev cX3_row : ByteArray := prog_16_method_10_code
def yX3_row : MethodName := ⟨RX3, "row", "(III)I"⟩
def dkwX3_row_3 : List UInt8 := [21, 4, 96, 3, 79, 132, 4, 1, 167, 255, 233, 42, 29, 182, 0, 78, 172]
abbrev dktX3_row_3 : List UInt8 := dkwX3_row_3 ++ []
def dkwX3_row_2 : List UInt8 := [180, 0, 20, 27, 29, 79, 3, 54, 4, 21, 4, 16, 40, 162, 0, 22, 42, 180, 0, 23, 16, 40, 27, 104]
abbrev dktX3_row_2 : List UInt8 := dkwX3_row_2 ++ dktX3_row_3
def dkwX3_row_1 : List UInt8 := [164, 0, 6, 18, 73, 172, 29, 156, 0, 9, 42, 7, 182, 0, 74, 172, 42, 180, 0, 17, 27, 28, 79, 42]
abbrev dktX3_row_1 : List UInt8 := dkwX3_row_1 ++ dktX3_row_2
def dkwX3_row_0 : List UInt8 := [27, 184, 0, 67, 153, 0, 21, 28, 133, 9, 20, 0, 71, 184, 0, 63, 153, 0, 9, 29, 16, 40]
abbrev dktX3_row_0 : List UInt8 := dkwX3_row_0 ++ dktX3_row_1
theorem dksX3_row_0 : cX3_row.data.toList.drop 0 = dktX3_row_0 := by decide +kernel
theorem dksX3_row_1 : cX3_row.data.toList.drop 22 = dktX3_row_1 := dk_seg dksX3_row_0 22 rfl rfl
theorem dksX3_row_2 : cX3_row.data.toList.drop 46 = dktX3_row_2 := dk_seg dksX3_row_1 24 rfl rfl
theorem dksX3_row_3 : cX3_row.data.toList.drop 70 = dktX3_row_3 := dk_seg dksX3_row_2 24 rfl rfl
theorem dX3_row_0 : decode cX3_row 0 = .ok (.iload_n 1, 1) := dk_27 (dk_at dksX3_row_0 0 rfl rfl)
theorem dX3_row_1 : decode cX3_row 1 = .ok (.invokestatic 67, 3) := dk_184 0 67 (dk_at dksX3_row_0 1 rfl rfl)
theorem dX3_row_4 : decode cX3_row 4 = .ok (.ifCond .eq 21, 3) := dk_153 0 21 (dk_at dksX3_row_0 4 rfl rfl)
theorem dX3_row_7 : decode cX3_row 7 = .ok (.iload_n 2, 1) := dk_28 (dk_at dksX3_row_0 7 rfl rfl)
theorem dX3_row_8 : decode cX3_row 8 = .ok (.i2l, 1) := dk_133 (dk_at dksX3_row_0 8 rfl rfl)
theorem dX3_row_9 : decode cX3_row 9 = .ok (.lconst 0, 1) := dk_9 (dk_at dksX3_row_0 9 rfl rfl)
theorem dX3_row_10 : decode cX3_row 10 = .ok (.ldc2_w 71, 3) := dk_20 0 71 (dk_at dksX3_row_0 10 rfl rfl)
theorem dX3_row_13 : decode cX3_row 13 = .ok (.invokestatic 63, 3) := dk_184 0 63 (dk_at dksX3_row_0 13 rfl rfl)
theorem dX3_row_16 : decode cX3_row 16 = .ok (.ifCond .eq 9, 3) := dk_153 0 9 (dk_at dksX3_row_0 16 rfl rfl)
theorem dX3_row_19 : decode cX3_row 19 = .ok (.iload_n 3, 1) := dk_29 (dk_at dksX3_row_0 19 rfl rfl)
theorem dX3_row_20 : decode cX3_row 20 = .ok (.bipush 40, 2) := dk_16 40 (dk_at dksX3_row_0 20 rfl rfl)
theorem dX3_row_22 : decode cX3_row 22 = .ok (.if_icmp .le 6, 3) := dk_164 0 6 (dk_at dksX3_row_1 0 rfl rfl)
theorem dX3_row_25 : decode cX3_row 25 = .ok (.ldc 73, 2) := dk_18 73 (dk_at dksX3_row_1 3 rfl rfl)
theorem dX3_row_27 : decode cX3_row 27 = .ok (.ireturn, 1) := dk_172 (dk_at dksX3_row_1 5 rfl rfl)
theorem dX3_row_28 : decode cX3_row 28 = .ok (.iload_n 3, 1) := dk_29 (dk_at dksX3_row_1 6 rfl rfl)
theorem dX3_row_29 : decode cX3_row 29 = .ok (.ifCond .ge 9, 3) := dk_156 0 9 (dk_at dksX3_row_1 7 rfl rfl)
theorem dX3_row_32 : decode cX3_row 32 = .ok (.aload_n 0, 1) := dk_42 (dk_at dksX3_row_1 10 rfl rfl)
theorem dX3_row_33 : decode cX3_row 33 = .ok (.iconst 4, 1) := dk_7 (dk_at dksX3_row_1 11 rfl rfl)
theorem dX3_row_34 : decode cX3_row 34 = .ok (.invokevirtual 74, 3) := dk_182 0 74 (dk_at dksX3_row_1 12 rfl rfl)
theorem dX3_row_37 : decode cX3_row 37 = .ok (.ireturn, 1) := dk_172 (dk_at dksX3_row_1 15 rfl rfl)
theorem dX3_row_38 : decode cX3_row 38 = .ok (.aload_n 0, 1) := dk_42 (dk_at dksX3_row_1 16 rfl rfl)
theorem dX3_row_39 : decode cX3_row 39 = .ok (.getfield 17, 3) := dk_180 0 17 (dk_at dksX3_row_1 17 rfl rfl)
theorem dX3_row_42 : decode cX3_row 42 = .ok (.iload_n 1, 1) := dk_27 (dk_at dksX3_row_1 20 rfl rfl)
theorem dX3_row_43 : decode cX3_row 43 = .ok (.iload_n 2, 1) := dk_28 (dk_at dksX3_row_1 21 rfl rfl)
theorem dX3_row_44 : decode cX3_row 44 = .ok (.iastore, 1) := dk_79 (dk_at dksX3_row_1 22 rfl rfl)
theorem dX3_row_45 : decode cX3_row 45 = .ok (.aload_n 0, 1) := dk_42 (dk_at dksX3_row_1 23 rfl rfl)
theorem dX3_row_46 : decode cX3_row 46 = .ok (.getfield 20, 3) := dk_180 0 20 (dk_at dksX3_row_2 0 rfl rfl)
theorem dX3_row_49 : decode cX3_row 49 = .ok (.iload_n 1, 1) := dk_27 (dk_at dksX3_row_2 3 rfl rfl)
theorem dX3_row_50 : decode cX3_row 50 = .ok (.iload_n 3, 1) := dk_29 (dk_at dksX3_row_2 4 rfl rfl)
theorem dX3_row_51 : decode cX3_row 51 = .ok (.iastore, 1) := dk_79 (dk_at dksX3_row_2 5 rfl rfl)
theorem dX3_row_52 : decode cX3_row 52 = .ok (.iconst 0, 1) := dk_3 (dk_at dksX3_row_2 6 rfl rfl)
theorem dX3_row_53 : decode cX3_row 53 = .ok (.istore 4, 2) := dk_54 4 (dk_at dksX3_row_2 7 rfl rfl)
theorem dX3_row_55 : decode cX3_row 55 = .ok (.iload 4, 2) := dk_21 4 (dk_at dksX3_row_2 9 rfl rfl)
theorem dX3_row_57 : decode cX3_row 57 = .ok (.bipush 40, 2) := dk_16 40 (dk_at dksX3_row_2 11 rfl rfl)
theorem dX3_row_59 : decode cX3_row 59 = .ok (.if_icmp .ge 22, 3) := dk_162 0 22 (dk_at dksX3_row_2 13 rfl rfl)
theorem dX3_row_62 : decode cX3_row 62 = .ok (.aload_n 0, 1) := dk_42 (dk_at dksX3_row_2 16 rfl rfl)
theorem dX3_row_63 : decode cX3_row 63 = .ok (.getfield 23, 3) := dk_180 0 23 (dk_at dksX3_row_2 17 rfl rfl)
theorem dX3_row_66 : decode cX3_row 66 = .ok (.bipush 40, 2) := dk_16 40 (dk_at dksX3_row_2 20 rfl rfl)
theorem dX3_row_68 : decode cX3_row 68 = .ok (.iload_n 1, 1) := dk_27 (dk_at dksX3_row_2 22 rfl rfl)
theorem dX3_row_69 : decode cX3_row 69 = .ok (.imul, 1) := dk_104 (dk_at dksX3_row_2 23 rfl rfl)
theorem dX3_row_70 : decode cX3_row 70 = .ok (.iload 4, 2) := dk_21 4 (dk_at dksX3_row_3 0 rfl rfl)
theorem dX3_row_72 : decode cX3_row 72 = .ok (.iadd, 1) := dk_96 (dk_at dksX3_row_3 2 rfl rfl)
theorem dX3_row_73 : decode cX3_row 73 = .ok (.iconst 0, 1) := dk_3 (dk_at dksX3_row_3 3 rfl rfl)
theorem dX3_row_74 : decode cX3_row 74 = .ok (.iastore, 1) := dk_79 (dk_at dksX3_row_3 4 rfl rfl)
theorem dX3_row_75 : decode cX3_row 75 = .ok (.iinc 4 1, 3) := dk_132 4 1 (dk_at dksX3_row_3 5 rfl rfl)
theorem dX3_row_78 : decode cX3_row 78 = .ok (.goto (-23), 3) := dk_167 255 233 (dk_at dksX3_row_3 8 rfl rfl)
theorem dX3_row_81 : decode cX3_row 81 = .ok (.aload_n 0, 1) := dk_42 (dk_at dksX3_row_3 11 rfl rfl)
theorem dX3_row_82 : decode cX3_row 82 = .ok (.iload_n 3, 1) := dk_29 (dk_at dksX3_row_3 12 rfl rfl)
theorem dX3_row_83 : decode cX3_row 83 = .ok (.invokevirtual 78, 3) := dk_182 0 78 (dk_at dksX3_row_3 13 rfl rfl)
theorem dX3_row_86 : decode cX3_row 86 = .ok (.ireturn, 1) := dk_172 (dk_at dksX3_row_3 16 rfl rfl)
abbrev cX3_isRow : ByteArray := prog_16_method_9_code
def yX3_isRow : MethodName := ⟨RX3, "isRow", "(I)Z"⟩
def dkwX3_isRow_0 : List UInt8 := [26, 133, 9, 20, 0, 61, 184, 0, 63, 172]
abbrev dktX3_isRow_0 : List UInt8 := dkwX3_isRow_0 ++ []
theorem dksX3_isRow_0 : cX3_isRow.data.toList.drop 0 = dktX3_isRow_0 := by decide +kernel
theorem dX3_isRow_0 : decode cX3_isRow 0 = .ok (.iload_n 0, 1) := dk_26 (dk_at dksX3_isRow_0 0 rfl rfl)
theorem dX3_isRow_1 : decode cX3_isRow 1 = .ok (.i2l, 1) := dk_133 (dk_at dksX3_isRow_0 1 rfl rfl)
theorem dX3_isRow_2 : decode cX3_isRow 2 = .ok (.lconst 0, 1) := dk_9 (dk_at dksX3_isRow_0 2 rfl rfl)
theorem dX3_isRow_3 : decode cX3_isRow 3 = .ok (.ldc2_w 61, 3) := dk_20 0 61 (dk_at dksX3_isRow_0 3 rfl rfl)
theorem dX3_isRow_6 : decode cX3_isRow 6 = .ok (.invokestatic 63, 3) := dk_184 0 63 (dk_at dksX3_isRow_0 6 rfl rfl)
theorem dX3_isRow_9 : decode cX3_isRow 9 = .ok (.ireturn, 1) := dk_172 (dk_at dksX3_isRow_0 9 rfl rfl)
abbrev cX3_in : ByteArray := prog_16_method_3_code
def yX3_in : MethodName := ⟨RX3, "in", "(JJJ)Z"⟩
def dkwX3_in_0 : List UInt8 := [30, 32, 148, 155, 0, 14, 30, 22, 4, 148, 157, 0, 7, 4, 167, 0, 4, 3, 172]
abbrev dktX3_in_0 : List UInt8 := dkwX3_in_0 ++ []
theorem dksX3_in_0 : cX3_in.data.toList.drop 0 = dktX3_in_0 := by decide +kernel
theorem dX3_in_0 : decode cX3_in 0 = .ok (.lload_n 0, 1) := dk_30 (dk_at dksX3_in_0 0 rfl rfl)
theorem dX3_in_1 : decode cX3_in 1 = .ok (.lload_n 2, 1) := dk_32 (dk_at dksX3_in_0 1 rfl rfl)
theorem dX3_in_2 : decode cX3_in 2 = .ok (.lcmp, 1) := dk_148 (dk_at dksX3_in_0 2 rfl rfl)
theorem dX3_in_3 : decode cX3_in 3 = .ok (.ifCond .lt 14, 3) := dk_155 0 14 (dk_at dksX3_in_0 3 rfl rfl)
theorem dX3_in_6 : decode cX3_in 6 = .ok (.lload_n 0, 1) := dk_30 (dk_at dksX3_in_0 6 rfl rfl)
theorem dX3_in_7 : decode cX3_in 7 = .ok (.lload 4, 2) := dk_22 4 (dk_at dksX3_in_0 7 rfl rfl)
theorem dX3_in_9 : decode cX3_in 9 = .ok (.lcmp, 1) := dk_148 (dk_at dksX3_in_0 9 rfl rfl)
theorem dX3_in_10 : decode cX3_in 10 = .ok (.ifCond .gt 7, 3) := dk_157 0 7 (dk_at dksX3_in_0 10 rfl rfl)
theorem dX3_in_13 : decode cX3_in 13 = .ok (.iconst 1, 1) := dk_4 (dk_at dksX3_in_0 13 rfl rfl)
theorem dX3_in_14 : decode cX3_in 14 = .ok (.goto 4, 3) := dk_167 0 4 (dk_at dksX3_in_0 14 rfl rfl)
theorem dX3_in_17 : decode cX3_in 17 = .ok (.iconst 0, 1) := dk_3 (dk_at dksX3_in_0 17 rfl rfl)
theorem dX3_in_18 : decode cX3_in 18 = .ok (.ireturn, 1) := dk_172 (dk_at dksX3_in_0 18 rfl rfl)
abbrev cX3_found : ByteArray := prog_16_method_7_code
def yX3_found : MethodName := ⟨RX3, "found", "(I)I"⟩
def dkwX3_found_0 : List UInt8 := [42, 27, 181, 0, 56, 18, 60, 27, 100, 172]
abbrev dktX3_found_0 : List UInt8 := dkwX3_found_0 ++ []
theorem dksX3_found_0 : cX3_found.data.toList.drop 0 = dktX3_found_0 := by decide +kernel
theorem dX3_found_0 : decode cX3_found 0 = .ok (.aload_n 0, 1) := dk_42 (dk_at dksX3_found_0 0 rfl rfl)
theorem dX3_found_1 : decode cX3_found 1 = .ok (.iload_n 1, 1) := dk_27 (dk_at dksX3_found_0 1 rfl rfl)
theorem dX3_found_2 : decode cX3_found 2 = .ok (.putfield 56, 3) := dk_181 0 56 (dk_at dksX3_found_0 2 rfl rfl)
theorem dX3_found_5 : decode cX3_found 5 = .ok (.ldc 60, 2) := dk_18 60 (dk_at dksX3_found_0 5 rfl rfl)
theorem dX3_found_7 : decode cX3_found 7 = .ok (.iload_n 1, 1) := dk_27 (dk_at dksX3_found_0 7 rfl rfl)
theorem dX3_found_8 : decode cX3_found 8 = .ok (.isub, 1) := dk_100 (dk_at dksX3_found_0 8 rfl rfl)
theorem dX3_found_9 : decode cX3_found 9 = .ok (.ireturn, 1) := dk_172 (dk_at dksX3_found_0 9 rfl rfl)
abbrev cX3_well : ByteArray := prog_16_method_8_code
def yX3_well : MethodName := ⟨RX3, "well", "(I)I"⟩
def dkwX3_well_0 : List UInt8 := [42, 3, 181, 0, 56, 27, 172]
abbrev dktX3_well_0 : List UInt8 := dkwX3_well_0 ++ []
theorem dksX3_well_0 : cX3_well.data.toList.drop 0 = dktX3_well_0 := by decide +kernel
theorem dX3_well_0 : decode cX3_well 0 = .ok (.aload_n 0, 1) := dk_42 (dk_at dksX3_well_0 0 rfl rfl)
theorem dX3_well_1 : decode cX3_well 1 = .ok (.iconst 0, 1) := dk_3 (dk_at dksX3_well_0 1 rfl rfl)
theorem dX3_well_2 : decode cX3_well 2 = .ok (.putfield 56, 3) := dk_181 0 56 (dk_at dksX3_well_0 2 rfl rfl)
theorem dX3_well_5 : decode cX3_well 5 = .ok (.iload_n 1, 1) := dk_27 (dk_at dksX3_well_0 5 rfl rfl)
theorem dX3_well_6 : decode cX3_well 6 = .ok (.ireturn, 1) := dk_172 (dk_at dksX3_well_0 6 rfl rfl)
abbrev cX3_set : ByteArray := prog_16_method_13_code
def yX3_set : MethodName := ⟨RX3, "set", "(III)I"⟩
def dkwX3_set_2 : List UInt8 := [184, 0, 85, 79, 42, 42, 180, 0, 23, 16, 40, 27, 104, 28, 96, 46, 182, 0, 78, 172]
abbrev dktX3_set_2 : List UInt8 := dkwX3_set_2 ++ []
def dkwX3_set_1 : List UInt8 := [42, 21, 4, 182, 0, 74, 172, 42, 180, 0, 23, 16, 40, 27, 104, 28, 96, 42, 180, 0, 17, 27, 46, 29]
abbrev dktX3_set_1 : List UInt8 := dkwX3_set_1 ++ dktX3_set_2
def dkwX3_set_0 : List UInt8 := [27, 184, 0, 67, 154, 0, 6, 18, 73, 172, 42, 27, 28, 4, 182, 0, 81, 54, 4, 21, 4, 158, 0, 10]
abbrev dktX3_set_0 : List UInt8 := dkwX3_set_0 ++ dktX3_set_1
theorem dksX3_set_0 : cX3_set.data.toList.drop 0 = dktX3_set_0 := by decide +kernel
theorem dksX3_set_1 : cX3_set.data.toList.drop 24 = dktX3_set_1 := dk_seg dksX3_set_0 24 rfl rfl
theorem dksX3_set_2 : cX3_set.data.toList.drop 48 = dktX3_set_2 := dk_seg dksX3_set_1 24 rfl rfl
theorem dX3_set_0 : decode cX3_set 0 = .ok (.iload_n 1, 1) := dk_27 (dk_at dksX3_set_0 0 rfl rfl)
theorem dX3_set_1 : decode cX3_set 1 = .ok (.invokestatic 67, 3) := dk_184 0 67 (dk_at dksX3_set_0 1 rfl rfl)
theorem dX3_set_4 : decode cX3_set 4 = .ok (.ifCond .ne 6, 3) := dk_154 0 6 (dk_at dksX3_set_0 4 rfl rfl)
theorem dX3_set_7 : decode cX3_set 7 = .ok (.ldc 73, 2) := dk_18 73 (dk_at dksX3_set_0 7 rfl rfl)
theorem dX3_set_9 : decode cX3_set 9 = .ok (.ireturn, 1) := dk_172 (dk_at dksX3_set_0 9 rfl rfl)
theorem dX3_set_10 : decode cX3_set 10 = .ok (.aload_n 0, 1) := dk_42 (dk_at dksX3_set_0 10 rfl rfl)
theorem dX3_set_11 : decode cX3_set 11 = .ok (.iload_n 1, 1) := dk_27 (dk_at dksX3_set_0 11 rfl rfl)
theorem dX3_set_12 : decode cX3_set 12 = .ok (.iload_n 2, 1) := dk_28 (dk_at dksX3_set_0 12 rfl rfl)
theorem dX3_set_13 : decode cX3_set 13 = .ok (.iconst 1, 1) := dk_4 (dk_at dksX3_set_0 13 rfl rfl)
theorem dX3_set_14 : decode cX3_set 14 = .ok (.invokevirtual 81, 3) := dk_182 0 81 (dk_at dksX3_set_0 14 rfl rfl)
theorem dX3_set_17 : decode cX3_set 17 = .ok (.istore 4, 2) := dk_54 4 (dk_at dksX3_set_0 17 rfl rfl)
theorem dX3_set_19 : decode cX3_set 19 = .ok (.iload 4, 2) := dk_21 4 (dk_at dksX3_set_0 19 rfl rfl)
theorem dX3_set_21 : decode cX3_set 21 = .ok (.ifCond .le 10, 3) := dk_158 0 10 (dk_at dksX3_set_0 21 rfl rfl)
theorem dX3_set_24 : decode cX3_set 24 = .ok (.aload_n 0, 1) := dk_42 (dk_at dksX3_set_1 0 rfl rfl)
theorem dX3_set_25 : decode cX3_set 25 = .ok (.iload 4, 2) := dk_21 4 (dk_at dksX3_set_1 1 rfl rfl)
theorem dX3_set_27 : decode cX3_set 27 = .ok (.invokevirtual 74, 3) := dk_182 0 74 (dk_at dksX3_set_1 3 rfl rfl)
theorem dX3_set_30 : decode cX3_set 30 = .ok (.ireturn, 1) := dk_172 (dk_at dksX3_set_1 6 rfl rfl)
theorem dX3_set_31 : decode cX3_set 31 = .ok (.aload_n 0, 1) := dk_42 (dk_at dksX3_set_1 7 rfl rfl)
theorem dX3_set_32 : decode cX3_set 32 = .ok (.getfield 23, 3) := dk_180 0 23 (dk_at dksX3_set_1 8 rfl rfl)
theorem dX3_set_35 : decode cX3_set 35 = .ok (.bipush 40, 2) := dk_16 40 (dk_at dksX3_set_1 11 rfl rfl)
theorem dX3_set_37 : decode cX3_set 37 = .ok (.iload_n 1, 1) := dk_27 (dk_at dksX3_set_1 13 rfl rfl)
theorem dX3_set_38 : decode cX3_set 38 = .ok (.imul, 1) := dk_104 (dk_at dksX3_set_1 14 rfl rfl)
theorem dX3_set_39 : decode cX3_set 39 = .ok (.iload_n 2, 1) := dk_28 (dk_at dksX3_set_1 15 rfl rfl)
theorem dX3_set_40 : decode cX3_set 40 = .ok (.iadd, 1) := dk_96 (dk_at dksX3_set_1 16 rfl rfl)
theorem dX3_set_41 : decode cX3_set 41 = .ok (.aload_n 0, 1) := dk_42 (dk_at dksX3_set_1 17 rfl rfl)
theorem dX3_set_42 : decode cX3_set 42 = .ok (.getfield 17, 3) := dk_180 0 17 (dk_at dksX3_set_1 18 rfl rfl)
theorem dX3_set_45 : decode cX3_set 45 = .ok (.iload_n 1, 1) := dk_27 (dk_at dksX3_set_1 21 rfl rfl)
theorem dX3_set_46 : decode cX3_set 46 = .ok (.iaload, 1) := dk_46 (dk_at dksX3_set_1 22 rfl rfl)
theorem dX3_set_47 : decode cX3_set 47 = .ok (.iload_n 3, 1) := dk_29 (dk_at dksX3_set_1 23 rfl rfl)
theorem dX3_set_48 : decode cX3_set 48 = .ok (.invokestatic 85, 3) := dk_184 0 85 (dk_at dksX3_set_2 0 rfl rfl)
theorem dX3_set_51 : decode cX3_set 51 = .ok (.iastore, 1) := dk_79 (dk_at dksX3_set_2 3 rfl rfl)
theorem dX3_set_52 : decode cX3_set 52 = .ok (.aload_n 0, 1) := dk_42 (dk_at dksX3_set_2 4 rfl rfl)
theorem dX3_set_53 : decode cX3_set 53 = .ok (.aload_n 0, 1) := dk_42 (dk_at dksX3_set_2 5 rfl rfl)
theorem dX3_set_54 : decode cX3_set 54 = .ok (.getfield 23, 3) := dk_180 0 23 (dk_at dksX3_set_2 6 rfl rfl)
theorem dX3_set_57 : decode cX3_set 57 = .ok (.bipush 40, 2) := dk_16 40 (dk_at dksX3_set_2 9 rfl rfl)
theorem dX3_set_59 : decode cX3_set 59 = .ok (.iload_n 1, 1) := dk_27 (dk_at dksX3_set_2 11 rfl rfl)
theorem dX3_set_60 : decode cX3_set 60 = .ok (.imul, 1) := dk_104 (dk_at dksX3_set_2 12 rfl rfl)
theorem dX3_set_61 : decode cX3_set 61 = .ok (.iload_n 2, 1) := dk_28 (dk_at dksX3_set_2 13 rfl rfl)
theorem dX3_set_62 : decode cX3_set 62 = .ok (.iadd, 1) := dk_96 (dk_at dksX3_set_2 14 rfl rfl)
theorem dX3_set_63 : decode cX3_set 63 = .ok (.iaload, 1) := dk_46 (dk_at dksX3_set_2 15 rfl rfl)
theorem dX3_set_64 : decode cX3_set 64 = .ok (.invokevirtual 78, 3) := dk_182 0 78 (dk_at dksX3_set_2 16 rfl rfl)
theorem dX3_set_67 : decode cX3_set 67 = .ok (.ireturn, 1) := dk_172 (dk_at dksX3_set_2 19 rfl rfl)
abbrev cX3_against : ByteArray := prog_16_method_12_code
def yX3_against : MethodName := ⟨RX3, "against", "(III)I"⟩
def dkwX3_against_1 : List UInt8 := [133, 97, 42, 180, 0, 20, 27, 46, 133, 148, 158, 0, 7, 5, 167, 0, 4, 3, 172]
abbrev dktX3_against_1 : List UInt8 := dkwX3_against_1 ++ []
def dkwX3_against_0 : List UInt8 := [42, 180, 0, 17, 27, 46, 156, 0, 7, 4, 167, 0, 32, 28, 155, 0, 23, 29, 155, 0, 19, 28, 133, 29]
abbrev dktX3_against_0 : List UInt8 := dkwX3_against_0 ++ dktX3_against_1
theorem dksX3_against_0 : cX3_against.data.toList.drop 0 = dktX3_against_0 := by decide +kernel
theorem dksX3_against_1 : cX3_against.data.toList.drop 24 = dktX3_against_1 := dk_seg dksX3_against_0 24 rfl rfl
theorem dX3_against_0 : decode cX3_against 0 = .ok (.aload_n 0, 1) := dk_42 (dk_at dksX3_against_0 0 rfl rfl)
theorem dX3_against_1 : decode cX3_against 1 = .ok (.getfield 17, 3) := dk_180 0 17 (dk_at dksX3_against_0 1 rfl rfl)
theorem dX3_against_4 : decode cX3_against 4 = .ok (.iload_n 1, 1) := dk_27 (dk_at dksX3_against_0 4 rfl rfl)
theorem dX3_against_5 : decode cX3_against 5 = .ok (.iaload, 1) := dk_46 (dk_at dksX3_against_0 5 rfl rfl)
theorem dX3_against_6 : decode cX3_against 6 = .ok (.ifCond .ge 7, 3) := dk_156 0 7 (dk_at dksX3_against_0 6 rfl rfl)
theorem dX3_against_9 : decode cX3_against 9 = .ok (.iconst 1, 1) := dk_4 (dk_at dksX3_against_0 9 rfl rfl)
theorem dX3_against_10 : decode cX3_against 10 = .ok (.goto 32, 3) := dk_167 0 32 (dk_at dksX3_against_0 10 rfl rfl)
theorem dX3_against_13 : decode cX3_against 13 = .ok (.iload_n 2, 1) := dk_28 (dk_at dksX3_against_0 13 rfl rfl)
theorem dX3_against_14 : decode cX3_against 14 = .ok (.ifCond .lt 23, 3) := dk_155 0 23 (dk_at dksX3_against_0 14 rfl rfl)
theorem dX3_against_17 : decode cX3_against 17 = .ok (.iload_n 3, 1) := dk_29 (dk_at dksX3_against_0 17 rfl rfl)
theorem dX3_against_18 : decode cX3_against 18 = .ok (.ifCond .lt 19, 3) := dk_155 0 19 (dk_at dksX3_against_0 18 rfl rfl)
theorem dX3_against_21 : decode cX3_against 21 = .ok (.iload_n 2, 1) := dk_28 (dk_at dksX3_against_0 21 rfl rfl)
theorem dX3_against_22 : decode cX3_against 22 = .ok (.i2l, 1) := dk_133 (dk_at dksX3_against_0 22 rfl rfl)
theorem dX3_against_23 : decode cX3_against 23 = .ok (.iload_n 3, 1) := dk_29 (dk_at dksX3_against_0 23 rfl rfl)
theorem dX3_against_24 : decode cX3_against 24 = .ok (.i2l, 1) := dk_133 (dk_at dksX3_against_1 0 rfl rfl)
theorem dX3_against_25 : decode cX3_against 25 = .ok (.ladd, 1) := dk_97 (dk_at dksX3_against_1 1 rfl rfl)
theorem dX3_against_26 : decode cX3_against 26 = .ok (.aload_n 0, 1) := dk_42 (dk_at dksX3_against_1 2 rfl rfl)
theorem dX3_against_27 : decode cX3_against 27 = .ok (.getfield 20, 3) := dk_180 0 20 (dk_at dksX3_against_1 3 rfl rfl)
theorem dX3_against_30 : decode cX3_against 30 = .ok (.iload_n 1, 1) := dk_27 (dk_at dksX3_against_1 6 rfl rfl)
theorem dX3_against_31 : decode cX3_against 31 = .ok (.iaload, 1) := dk_46 (dk_at dksX3_against_1 7 rfl rfl)
theorem dX3_against_32 : decode cX3_against 32 = .ok (.i2l, 1) := dk_133 (dk_at dksX3_against_1 8 rfl rfl)
theorem dX3_against_33 : decode cX3_against 33 = .ok (.lcmp, 1) := dk_148 (dk_at dksX3_against_1 9 rfl rfl)
theorem dX3_against_34 : decode cX3_against 34 = .ok (.ifCond .le 7, 3) := dk_158 0 7 (dk_at dksX3_against_1 10 rfl rfl)
theorem dX3_against_37 : decode cX3_against 37 = .ok (.iconst 2, 1) := dk_5 (dk_at dksX3_against_1 13 rfl rfl)
theorem dX3_against_38 : decode cX3_against 38 = .ok (.goto 4, 3) := dk_167 0 4 (dk_at dksX3_against_1 14 rfl rfl)
theorem dX3_against_41 : decode cX3_against 41 = .ok (.iconst 0, 1) := dk_3 (dk_at dksX3_against_1 17 rfl rfl)
theorem dX3_against_42 : decode cX3_against 42 = .ok (.ireturn, 1) := dk_172 (dk_at dksX3_against_1 18 rfl rfl)
abbrev cX3_cutTo : ByteArray := prog_16_method_11_code
def yX3_cutTo : MethodName := ⟨RX3, "cutTo", "(II)I"⟩
def dkwX3_cutTo_0 : List UInt8 := [26, 154, 0, 8, 27, 145, 167, 0, 14, 26, 4, 160, 0, 8, 27, 147, 167, 0, 4, 27, 172]
abbrev dktX3_cutTo_0 : List UInt8 := dkwX3_cutTo_0 ++ []
theorem dksX3_cutTo_0 : cX3_cutTo.data.toList.drop 0 = dktX3_cutTo_0 := by decide +kernel
theorem dX3_cutTo_0 : decode cX3_cutTo 0 = .ok (.iload_n 0, 1) := dk_26 (dk_at dksX3_cutTo_0 0 rfl rfl)
theorem dX3_cutTo_1 : decode cX3_cutTo 1 = .ok (.ifCond .ne 8, 3) := dk_154 0 8 (dk_at dksX3_cutTo_0 1 rfl rfl)
theorem dX3_cutTo_4 : decode cX3_cutTo 4 = .ok (.iload_n 1, 1) := dk_27 (dk_at dksX3_cutTo_0 4 rfl rfl)
theorem dX3_cutTo_5 : decode cX3_cutTo 5 = .ok (.i2b, 1) := dk_145 (dk_at dksX3_cutTo_0 5 rfl rfl)
theorem dX3_cutTo_6 : decode cX3_cutTo 6 = .ok (.goto 14, 3) := dk_167 0 14 (dk_at dksX3_cutTo_0 6 rfl rfl)
theorem dX3_cutTo_9 : decode cX3_cutTo 9 = .ok (.iload_n 0, 1) := dk_26 (dk_at dksX3_cutTo_0 9 rfl rfl)
theorem dX3_cutTo_10 : decode cX3_cutTo 10 = .ok (.iconst 1, 1) := dk_4 (dk_at dksX3_cutTo_0 10 rfl rfl)
theorem dX3_cutTo_11 : decode cX3_cutTo 11 = .ok (.if_icmp .ne 8, 3) := dk_160 0 8 (dk_at dksX3_cutTo_0 11 rfl rfl)
theorem dX3_cutTo_14 : decode cX3_cutTo 14 = .ok (.iload_n 1, 1) := dk_27 (dk_at dksX3_cutTo_0 14 rfl rfl)
theorem dX3_cutTo_15 : decode cX3_cutTo 15 = .ok (.i2s, 1) := dk_147 (dk_at dksX3_cutTo_0 15 rfl rfl)
theorem dX3_cutTo_16 : decode cX3_cutTo 16 = .ok (.goto 4, 3) := dk_167 0 4 (dk_at dksX3_cutTo_0 16 rfl rfl)
theorem dX3_cutTo_19 : decode cX3_cutTo 19 = .ok (.iload_n 1, 1) := dk_27 (dk_at dksX3_cutTo_0 19 rfl rfl)
theorem dX3_cutTo_20 : decode cX3_cutTo 20 = .ok (.ireturn, 1) := dk_172 (dk_at dksX3_cutTo_0 20 rfl rfl)
abbrev cX3_copy : ByteArray := prog_16_method_14_code
def yX3_copy : MethodName := ⟨RX3, "copy", "(IIIII)I"⟩
def dkwX3_copy_7 : List UInt8 := [167, 255, 224, 42, 21, 5, 182, 0, 78, 172]
abbrev dktX3_copy_7 : List UInt8 := dkwX3_copy_7 ++ []
def dkwX3_copy_6 : List UInt8 := [180, 0, 23, 16, 40, 29, 104, 21, 4, 96, 21, 6, 96, 42, 180, 0, 26, 21, 6, 46, 79, 132, 6, 1]
abbrev dktX3_copy_6 : List UInt8 := dkwX3_copy_6 ++ dktX3_copy_7
def dkwX3_copy_5 : List UInt8 := [21, 6, 96, 46, 79, 132, 6, 1, 167, 255, 225, 3, 54, 6, 21, 6, 21, 5, 162, 0, 31, 42]
abbrev dktX3_copy_5 : List UInt8 := dkwX3_copy_5 ++ dktX3_copy_6
def dkwX3_copy_4 : List UInt8 := [21, 6, 21, 5, 162, 0, 30, 42, 180, 0, 26, 21, 6, 42, 180, 0, 23, 16, 40, 27, 104, 28, 96]
abbrev dktX3_copy_4 : List UInt8 := dkwX3_copy_4 ++ dktX3_copy_5
def dkwX3_copy_3 : List UInt8 := [157, 0, 15, 42, 29, 21, 4, 21, 5, 182, 0, 81, 158, 0, 9, 42, 5, 182, 0, 74, 172, 3, 54, 6]
abbrev dktX3_copy_3 : List UInt8 := dkwX3_copy_3 ++ dktX3_copy_4
def dkwX3_copy_2 : List UInt8 := [42, 180, 0, 17, 29, 46, 159, 0, 9, 42, 8, 182, 0, 74, 172, 42, 27, 28, 21, 5, 182, 0, 81]
abbrev dktX3_copy_2 : List UInt8 := dkwX3_copy_2 ++ dktX3_copy_3
def dkwX3_copy_1 : List UInt8 := [155, 0, 12, 42, 180, 0, 17, 29, 46, 156, 0, 9, 42, 4, 182, 0, 74, 172, 42, 180, 0, 17, 27, 46]
abbrev dktX3_copy_1 : List UInt8 := dkwX3_copy_1 ++ dktX3_copy_2
def dkwX3_copy_0 : List UInt8 := [27, 184, 0, 67, 153, 0, 10, 29, 184, 0, 67, 154, 0, 6, 18, 73, 172, 42, 180, 0, 17, 27, 46]
abbrev dktX3_copy_0 : List UInt8 := dkwX3_copy_0 ++ dktX3_copy_1
theorem dksX3_copy_0 : cX3_copy.data.toList.drop 0 = dktX3_copy_0 := by decide +kernel
theorem dksX3_copy_1 : cX3_copy.data.toList.drop 23 = dktX3_copy_1 := dk_seg dksX3_copy_0 23 rfl rfl
theorem dksX3_copy_2 : cX3_copy.data.toList.drop 47 = dktX3_copy_2 := dk_seg dksX3_copy_1 24 rfl rfl
theorem dksX3_copy_3 : cX3_copy.data.toList.drop 70 = dktX3_copy_3 := dk_seg dksX3_copy_2 23 rfl rfl
theorem dksX3_copy_4 : cX3_copy.data.toList.drop 94 = dktX3_copy_4 := dk_seg dksX3_copy_3 24 rfl rfl
theorem dksX3_copy_5 : cX3_copy.data.toList.drop 117 = dktX3_copy_5 := dk_seg dksX3_copy_4 23 rfl rfl
theorem dksX3_copy_6 : cX3_copy.data.toList.drop 139 = dktX3_copy_6 := dk_seg dksX3_copy_5 22 rfl rfl
theorem dksX3_copy_7 : cX3_copy.data.toList.drop 163 = dktX3_copy_7 := dk_seg dksX3_copy_6 24 rfl rfl
theorem dX3_copy_0 : decode cX3_copy 0 = .ok (.iload_n 1, 1) := dk_27 (dk_at dksX3_copy_0 0 rfl rfl)
theorem dX3_copy_1 : decode cX3_copy 1 = .ok (.invokestatic 67, 3) := dk_184 0 67 (dk_at dksX3_copy_0 1 rfl rfl)
theorem dX3_copy_4 : decode cX3_copy 4 = .ok (.ifCond .eq 10, 3) := dk_153 0 10 (dk_at dksX3_copy_0 4 rfl rfl)
theorem dX3_copy_7 : decode cX3_copy 7 = .ok (.iload_n 3, 1) := dk_29 (dk_at dksX3_copy_0 7 rfl rfl)
theorem dX3_copy_8 : decode cX3_copy 8 = .ok (.invokestatic 67, 3) := dk_184 0 67 (dk_at dksX3_copy_0 8 rfl rfl)
theorem dX3_copy_11 : decode cX3_copy 11 = .ok (.ifCond .ne 6, 3) := dk_154 0 6 (dk_at dksX3_copy_0 11 rfl rfl)
theorem dX3_copy_14 : decode cX3_copy 14 = .ok (.ldc 73, 2) := dk_18 73 (dk_at dksX3_copy_0 14 rfl rfl)
theorem dX3_copy_16 : decode cX3_copy 16 = .ok (.ireturn, 1) := dk_172 (dk_at dksX3_copy_0 16 rfl rfl)
theorem dX3_copy_17 : decode cX3_copy 17 = .ok (.aload_n 0, 1) := dk_42 (dk_at dksX3_copy_0 17 rfl rfl)
theorem dX3_copy_18 : decode cX3_copy 18 = .ok (.getfield 17, 3) := dk_180 0 17 (dk_at dksX3_copy_0 18 rfl rfl)
theorem dX3_copy_21 : decode cX3_copy 21 = .ok (.iload_n 1, 1) := dk_27 (dk_at dksX3_copy_0 21 rfl rfl)
theorem dX3_copy_22 : decode cX3_copy 22 = .ok (.iaload, 1) := dk_46 (dk_at dksX3_copy_0 22 rfl rfl)
theorem dX3_copy_23 : decode cX3_copy 23 = .ok (.ifCond .lt 12, 3) := dk_155 0 12 (dk_at dksX3_copy_1 0 rfl rfl)
theorem dX3_copy_26 : decode cX3_copy 26 = .ok (.aload_n 0, 1) := dk_42 (dk_at dksX3_copy_1 3 rfl rfl)
theorem dX3_copy_27 : decode cX3_copy 27 = .ok (.getfield 17, 3) := dk_180 0 17 (dk_at dksX3_copy_1 4 rfl rfl)
theorem dX3_copy_30 : decode cX3_copy 30 = .ok (.iload_n 3, 1) := dk_29 (dk_at dksX3_copy_1 7 rfl rfl)
theorem dX3_copy_31 : decode cX3_copy 31 = .ok (.iaload, 1) := dk_46 (dk_at dksX3_copy_1 8 rfl rfl)
theorem dX3_copy_32 : decode cX3_copy 32 = .ok (.ifCond .ge 9, 3) := dk_156 0 9 (dk_at dksX3_copy_1 9 rfl rfl)
theorem dX3_copy_35 : decode cX3_copy 35 = .ok (.aload_n 0, 1) := dk_42 (dk_at dksX3_copy_1 12 rfl rfl)
theorem dX3_copy_36 : decode cX3_copy 36 = .ok (.iconst 1, 1) := dk_4 (dk_at dksX3_copy_1 13 rfl rfl)
theorem dX3_copy_37 : decode cX3_copy 37 = .ok (.invokevirtual 74, 3) := dk_182 0 74 (dk_at dksX3_copy_1 14 rfl rfl)
theorem dX3_copy_40 : decode cX3_copy 40 = .ok (.ireturn, 1) := dk_172 (dk_at dksX3_copy_1 17 rfl rfl)
theorem dX3_copy_41 : decode cX3_copy 41 = .ok (.aload_n 0, 1) := dk_42 (dk_at dksX3_copy_1 18 rfl rfl)
theorem dX3_copy_42 : decode cX3_copy 42 = .ok (.getfield 17, 3) := dk_180 0 17 (dk_at dksX3_copy_1 19 rfl rfl)
theorem dX3_copy_45 : decode cX3_copy 45 = .ok (.iload_n 1, 1) := dk_27 (dk_at dksX3_copy_1 22 rfl rfl)
theorem dX3_copy_46 : decode cX3_copy 46 = .ok (.iaload, 1) := dk_46 (dk_at dksX3_copy_1 23 rfl rfl)
theorem dX3_copy_47 : decode cX3_copy 47 = .ok (.aload_n 0, 1) := dk_42 (dk_at dksX3_copy_2 0 rfl rfl)
theorem dX3_copy_48 : decode cX3_copy 48 = .ok (.getfield 17, 3) := dk_180 0 17 (dk_at dksX3_copy_2 1 rfl rfl)
theorem dX3_copy_51 : decode cX3_copy 51 = .ok (.iload_n 3, 1) := dk_29 (dk_at dksX3_copy_2 4 rfl rfl)
theorem dX3_copy_52 : decode cX3_copy 52 = .ok (.iaload, 1) := dk_46 (dk_at dksX3_copy_2 5 rfl rfl)
theorem dX3_copy_53 : decode cX3_copy 53 = .ok (.if_icmp .eq 9, 3) := dk_159 0 9 (dk_at dksX3_copy_2 6 rfl rfl)
theorem dX3_copy_56 : decode cX3_copy 56 = .ok (.aload_n 0, 1) := dk_42 (dk_at dksX3_copy_2 9 rfl rfl)
theorem dX3_copy_57 : decode cX3_copy 57 = .ok (.iconst 5, 1) := dk_8 (dk_at dksX3_copy_2 10 rfl rfl)
theorem dX3_copy_58 : decode cX3_copy 58 = .ok (.invokevirtual 74, 3) := dk_182 0 74 (dk_at dksX3_copy_2 11 rfl rfl)
theorem dX3_copy_61 : decode cX3_copy 61 = .ok (.ireturn, 1) := dk_172 (dk_at dksX3_copy_2 14 rfl rfl)
theorem dX3_copy_62 : decode cX3_copy 62 = .ok (.aload_n 0, 1) := dk_42 (dk_at dksX3_copy_2 15 rfl rfl)
theorem dX3_copy_63 : decode cX3_copy 63 = .ok (.iload_n 1, 1) := dk_27 (dk_at dksX3_copy_2 16 rfl rfl)
theorem dX3_copy_64 : decode cX3_copy 64 = .ok (.iload_n 2, 1) := dk_28 (dk_at dksX3_copy_2 17 rfl rfl)
theorem dX3_copy_65 : decode cX3_copy 65 = .ok (.iload 5, 2) := dk_21 5 (dk_at dksX3_copy_2 18 rfl rfl)
theorem dX3_copy_67 : decode cX3_copy 67 = .ok (.invokevirtual 81, 3) := dk_182 0 81 (dk_at dksX3_copy_2 20 rfl rfl)
theorem dX3_copy_70 : decode cX3_copy 70 = .ok (.ifCond .gt 15, 3) := dk_157 0 15 (dk_at dksX3_copy_3 0 rfl rfl)
theorem dX3_copy_73 : decode cX3_copy 73 = .ok (.aload_n 0, 1) := dk_42 (dk_at dksX3_copy_3 3 rfl rfl)
theorem dX3_copy_74 : decode cX3_copy 74 = .ok (.iload_n 3, 1) := dk_29 (dk_at dksX3_copy_3 4 rfl rfl)
theorem dX3_copy_75 : decode cX3_copy 75 = .ok (.iload 4, 2) := dk_21 4 (dk_at dksX3_copy_3 5 rfl rfl)
theorem dX3_copy_77 : decode cX3_copy 77 = .ok (.iload 5, 2) := dk_21 5 (dk_at dksX3_copy_3 7 rfl rfl)
theorem dX3_copy_79 : decode cX3_copy 79 = .ok (.invokevirtual 81, 3) := dk_182 0 81 (dk_at dksX3_copy_3 9 rfl rfl)
theorem dX3_copy_82 : decode cX3_copy 82 = .ok (.ifCond .le 9, 3) := dk_158 0 9 (dk_at dksX3_copy_3 12 rfl rfl)
theorem dX3_copy_85 : decode cX3_copy 85 = .ok (.aload_n 0, 1) := dk_42 (dk_at dksX3_copy_3 15 rfl rfl)
theorem dX3_copy_86 : decode cX3_copy 86 = .ok (.iconst 2, 1) := dk_5 (dk_at dksX3_copy_3 16 rfl rfl)
theorem dX3_copy_87 : decode cX3_copy 87 = .ok (.invokevirtual 74, 3) := dk_182 0 74 (dk_at dksX3_copy_3 17 rfl rfl)
theorem dX3_copy_90 : decode cX3_copy 90 = .ok (.ireturn, 1) := dk_172 (dk_at dksX3_copy_3 20 rfl rfl)
theorem dX3_copy_91 : decode cX3_copy 91 = .ok (.iconst 0, 1) := dk_3 (dk_at dksX3_copy_3 21 rfl rfl)
theorem dX3_copy_92 : decode cX3_copy 92 = .ok (.istore 6, 2) := dk_54 6 (dk_at dksX3_copy_3 22 rfl rfl)
theorem dX3_copy_94 : decode cX3_copy 94 = .ok (.iload 6, 2) := dk_21 6 (dk_at dksX3_copy_4 0 rfl rfl)
theorem dX3_copy_96 : decode cX3_copy 96 = .ok (.iload 5, 2) := dk_21 5 (dk_at dksX3_copy_4 2 rfl rfl)
theorem dX3_copy_98 : decode cX3_copy 98 = .ok (.if_icmp .ge 30, 3) := dk_162 0 30 (dk_at dksX3_copy_4 4 rfl rfl)
theorem dX3_copy_101 : decode cX3_copy 101 = .ok (.aload_n 0, 1) := dk_42 (dk_at dksX3_copy_4 7 rfl rfl)
theorem dX3_copy_102 : decode cX3_copy 102 = .ok (.getfield 26, 3) := dk_180 0 26 (dk_at dksX3_copy_4 8 rfl rfl)
theorem dX3_copy_105 : decode cX3_copy 105 = .ok (.iload 6, 2) := dk_21 6 (dk_at dksX3_copy_4 11 rfl rfl)
theorem dX3_copy_107 : decode cX3_copy 107 = .ok (.aload_n 0, 1) := dk_42 (dk_at dksX3_copy_4 13 rfl rfl)
theorem dX3_copy_108 : decode cX3_copy 108 = .ok (.getfield 23, 3) := dk_180 0 23 (dk_at dksX3_copy_4 14 rfl rfl)
theorem dX3_copy_111 : decode cX3_copy 111 = .ok (.bipush 40, 2) := dk_16 40 (dk_at dksX3_copy_4 17 rfl rfl)
theorem dX3_copy_113 : decode cX3_copy 113 = .ok (.iload_n 1, 1) := dk_27 (dk_at dksX3_copy_4 19 rfl rfl)
theorem dX3_copy_114 : decode cX3_copy 114 = .ok (.imul, 1) := dk_104 (dk_at dksX3_copy_4 20 rfl rfl)
theorem dX3_copy_115 : decode cX3_copy 115 = .ok (.iload_n 2, 1) := dk_28 (dk_at dksX3_copy_4 21 rfl rfl)
theorem dX3_copy_116 : decode cX3_copy 116 = .ok (.iadd, 1) := dk_96 (dk_at dksX3_copy_4 22 rfl rfl)
theorem dX3_copy_117 : decode cX3_copy 117 = .ok (.iload 6, 2) := dk_21 6 (dk_at dksX3_copy_5 0 rfl rfl)
theorem dX3_copy_119 : decode cX3_copy 119 = .ok (.iadd, 1) := dk_96 (dk_at dksX3_copy_5 2 rfl rfl)
theorem dX3_copy_120 : decode cX3_copy 120 = .ok (.iaload, 1) := dk_46 (dk_at dksX3_copy_5 3 rfl rfl)
theorem dX3_copy_121 : decode cX3_copy 121 = .ok (.iastore, 1) := dk_79 (dk_at dksX3_copy_5 4 rfl rfl)
theorem dX3_copy_122 : decode cX3_copy 122 = .ok (.iinc 6 1, 3) := dk_132 6 1 (dk_at dksX3_copy_5 5 rfl rfl)
theorem dX3_copy_125 : decode cX3_copy 125 = .ok (.goto (-31), 3) := dk_167 255 225 (dk_at dksX3_copy_5 8 rfl rfl)
theorem dX3_copy_128 : decode cX3_copy 128 = .ok (.iconst 0, 1) := dk_3 (dk_at dksX3_copy_5 11 rfl rfl)
theorem dX3_copy_129 : decode cX3_copy 129 = .ok (.istore 6, 2) := dk_54 6 (dk_at dksX3_copy_5 12 rfl rfl)
theorem dX3_copy_131 : decode cX3_copy 131 = .ok (.iload 6, 2) := dk_21 6 (dk_at dksX3_copy_5 14 rfl rfl)
theorem dX3_copy_133 : decode cX3_copy 133 = .ok (.iload 5, 2) := dk_21 5 (dk_at dksX3_copy_5 16 rfl rfl)
theorem dX3_copy_135 : decode cX3_copy 135 = .ok (.if_icmp .ge 31, 3) := dk_162 0 31 (dk_at dksX3_copy_5 18 rfl rfl)
theorem dX3_copy_138 : decode cX3_copy 138 = .ok (.aload_n 0, 1) := dk_42 (dk_at dksX3_copy_5 21 rfl rfl)
theorem dX3_copy_139 : decode cX3_copy 139 = .ok (.getfield 23, 3) := dk_180 0 23 (dk_at dksX3_copy_6 0 rfl rfl)
theorem dX3_copy_142 : decode cX3_copy 142 = .ok (.bipush 40, 2) := dk_16 40 (dk_at dksX3_copy_6 3 rfl rfl)
theorem dX3_copy_144 : decode cX3_copy 144 = .ok (.iload_n 3, 1) := dk_29 (dk_at dksX3_copy_6 5 rfl rfl)
theorem dX3_copy_145 : decode cX3_copy 145 = .ok (.imul, 1) := dk_104 (dk_at dksX3_copy_6 6 rfl rfl)
theorem dX3_copy_146 : decode cX3_copy 146 = .ok (.iload 4, 2) := dk_21 4 (dk_at dksX3_copy_6 7 rfl rfl)
theorem dX3_copy_148 : decode cX3_copy 148 = .ok (.iadd, 1) := dk_96 (dk_at dksX3_copy_6 9 rfl rfl)
theorem dX3_copy_149 : decode cX3_copy 149 = .ok (.iload 6, 2) := dk_21 6 (dk_at dksX3_copy_6 10 rfl rfl)
theorem dX3_copy_151 : decode cX3_copy 151 = .ok (.iadd, 1) := dk_96 (dk_at dksX3_copy_6 12 rfl rfl)
theorem dX3_copy_152 : decode cX3_copy 152 = .ok (.aload_n 0, 1) := dk_42 (dk_at dksX3_copy_6 13 rfl rfl)
theorem dX3_copy_153 : decode cX3_copy 153 = .ok (.getfield 26, 3) := dk_180 0 26 (dk_at dksX3_copy_6 14 rfl rfl)
theorem dX3_copy_156 : decode cX3_copy 156 = .ok (.iload 6, 2) := dk_21 6 (dk_at dksX3_copy_6 17 rfl rfl)
theorem dX3_copy_158 : decode cX3_copy 158 = .ok (.iaload, 1) := dk_46 (dk_at dksX3_copy_6 19 rfl rfl)
theorem dX3_copy_159 : decode cX3_copy 159 = .ok (.iastore, 1) := dk_79 (dk_at dksX3_copy_6 20 rfl rfl)
theorem dX3_copy_160 : decode cX3_copy 160 = .ok (.iinc 6 1, 3) := dk_132 6 1 (dk_at dksX3_copy_6 21 rfl rfl)
theorem dX3_copy_163 : decode cX3_copy 163 = .ok (.goto (-32), 3) := dk_167 255 224 (dk_at dksX3_copy_7 0 rfl rfl)
theorem dX3_copy_166 : decode cX3_copy 166 = .ok (.aload_n 0, 1) := dk_42 (dk_at dksX3_copy_7 3 rfl rfl)
theorem dX3_copy_167 : decode cX3_copy 167 = .ok (.iload 5, 2) := dk_21 5 (dk_at dksX3_copy_7 4 rfl rfl)
theorem dX3_copy_169 : decode cX3_copy 169 = .ok (.invokevirtual 78, 3) := dk_182 0 78 (dk_at dksX3_copy_7 6 rfl rfl)
theorem dX3_copy_172 : decode cX3_copy 172 = .ok (.ireturn, 1) := dk_172 (dk_at dksX3_copy_7 9 rfl rfl)
abbrev cX3_drop : ByteArray := prog_16_method_15_code
def yX3_drop : MethodName := ⟨RX3, "drop", "(I)I"⟩
def dkwX3_drop_1 : List UInt8 := [172, 42, 180, 0, 17, 27, 2, 79, 42, 42, 180, 0, 20, 27, 46, 182, 0, 78, 172]
abbrev dktX3_drop_1 : List UInt8 := dkwX3_drop_1 ++ []
def dkwX3_drop_0 : List UInt8 := [27, 184, 0, 67, 154, 0, 6, 18, 73, 172, 42, 180, 0, 17, 27, 46, 156, 0, 9, 42, 4, 182, 0, 74]
abbrev dktX3_drop_0 : List UInt8 := dkwX3_drop_0 ++ dktX3_drop_1
theorem dksX3_drop_0 : cX3_drop.data.toList.drop 0 = dktX3_drop_0 := by decide +kernel
theorem dksX3_drop_1 : cX3_drop.data.toList.drop 24 = dktX3_drop_1 := dk_seg dksX3_drop_0 24 rfl rfl
theorem dX3_drop_0 : decode cX3_drop 0 = .ok (.iload_n 1, 1) := dk_27 (dk_at dksX3_drop_0 0 rfl rfl)
theorem dX3_drop_1 : decode cX3_drop 1 = .ok (.invokestatic 67, 3) := dk_184 0 67 (dk_at dksX3_drop_0 1 rfl rfl)
theorem dX3_drop_4 : decode cX3_drop 4 = .ok (.ifCond .ne 6, 3) := dk_154 0 6 (dk_at dksX3_drop_0 4 rfl rfl)
theorem dX3_drop_7 : decode cX3_drop 7 = .ok (.ldc 73, 2) := dk_18 73 (dk_at dksX3_drop_0 7 rfl rfl)
theorem dX3_drop_9 : decode cX3_drop 9 = .ok (.ireturn, 1) := dk_172 (dk_at dksX3_drop_0 9 rfl rfl)
theorem dX3_drop_10 : decode cX3_drop 10 = .ok (.aload_n 0, 1) := dk_42 (dk_at dksX3_drop_0 10 rfl rfl)
theorem dX3_drop_11 : decode cX3_drop 11 = .ok (.getfield 17, 3) := dk_180 0 17 (dk_at dksX3_drop_0 11 rfl rfl)
theorem dX3_drop_14 : decode cX3_drop 14 = .ok (.iload_n 1, 1) := dk_27 (dk_at dksX3_drop_0 14 rfl rfl)
theorem dX3_drop_15 : decode cX3_drop 15 = .ok (.iaload, 1) := dk_46 (dk_at dksX3_drop_0 15 rfl rfl)
theorem dX3_drop_16 : decode cX3_drop 16 = .ok (.ifCond .ge 9, 3) := dk_156 0 9 (dk_at dksX3_drop_0 16 rfl rfl)
theorem dX3_drop_19 : decode cX3_drop 19 = .ok (.aload_n 0, 1) := dk_42 (dk_at dksX3_drop_0 19 rfl rfl)
theorem dX3_drop_20 : decode cX3_drop 20 = .ok (.iconst 1, 1) := dk_4 (dk_at dksX3_drop_0 20 rfl rfl)
theorem dX3_drop_21 : decode cX3_drop 21 = .ok (.invokevirtual 74, 3) := dk_182 0 74 (dk_at dksX3_drop_0 21 rfl rfl)
theorem dX3_drop_24 : decode cX3_drop 24 = .ok (.ireturn, 1) := dk_172 (dk_at dksX3_drop_1 0 rfl rfl)
theorem dX3_drop_25 : decode cX3_drop 25 = .ok (.aload_n 0, 1) := dk_42 (dk_at dksX3_drop_1 1 rfl rfl)
theorem dX3_drop_26 : decode cX3_drop 26 = .ok (.getfield 17, 3) := dk_180 0 17 (dk_at dksX3_drop_1 2 rfl rfl)
theorem dX3_drop_29 : decode cX3_drop 29 = .ok (.iload_n 1, 1) := dk_27 (dk_at dksX3_drop_1 5 rfl rfl)
theorem dX3_drop_30 : decode cX3_drop 30 = .ok (.iconst (-1), 1) := dk_2 (dk_at dksX3_drop_1 6 rfl rfl)
theorem dX3_drop_31 : decode cX3_drop 31 = .ok (.iastore, 1) := dk_79 (dk_at dksX3_drop_1 7 rfl rfl)
theorem dX3_drop_32 : decode cX3_drop 32 = .ok (.aload_n 0, 1) := dk_42 (dk_at dksX3_drop_1 8 rfl rfl)
theorem dX3_drop_33 : decode cX3_drop 33 = .ok (.aload_n 0, 1) := dk_42 (dk_at dksX3_drop_1 9 rfl rfl)
theorem dX3_drop_34 : decode cX3_drop 34 = .ok (.getfield 20, 3) := dk_180 0 20 (dk_at dksX3_drop_1 10 rfl rfl)
theorem dX3_drop_37 : decode cX3_drop 37 = .ok (.iload_n 1, 1) := dk_27 (dk_at dksX3_drop_1 13 rfl rfl)
theorem dX3_drop_38 : decode cX3_drop 38 = .ok (.iaload, 1) := dk_46 (dk_at dksX3_drop_1 14 rfl rfl)
theorem dX3_drop_39 : decode cX3_drop 39 = .ok (.invokevirtual 78, 3) := dk_182 0 78 (dk_at dksX3_drop_1 15 rfl rfl)
theorem dX3_drop_42 : decode cX3_drop 42 = .ok (.ireturn, 1) := dk_172 (dk_at dksX3_drop_1 18 rfl rfl)
abbrev cX3_feed : ByteArray := prog_16_method_16_code
def yX3_feed : MethodName := ⟨RX3, "feed", "(I)I"⟩
def dkwX3_feed_2 : List UInt8 := [180, 0, 91, 172]
abbrev dktX3_feed_2 : List UInt8 := dkwX3_feed_2 ++ []
def dkwX3_feed_1 : List UInt8 := [18, 94, 172, 42, 180, 0, 29, 42, 180, 0, 91, 27, 79, 42, 89, 180, 0, 91, 4, 96, 181, 0, 91, 42]
abbrev dktX3_feed_1 : List UInt8 := dkwX3_feed_1 ++ dktX3_feed_2
def dkwX3_feed_0 : List UInt8 := [27, 133, 9, 20, 0, 89, 184, 0, 63, 154, 0, 6, 18, 73, 172, 42, 180, 0, 91, 16, 120, 160, 0, 6]
abbrev dktX3_feed_0 : List UInt8 := dkwX3_feed_0 ++ dktX3_feed_1
theorem dksX3_feed_0 : cX3_feed.data.toList.drop 0 = dktX3_feed_0 := by decide +kernel
theorem dksX3_feed_1 : cX3_feed.data.toList.drop 24 = dktX3_feed_1 := dk_seg dksX3_feed_0 24 rfl rfl
theorem dksX3_feed_2 : cX3_feed.data.toList.drop 48 = dktX3_feed_2 := dk_seg dksX3_feed_1 24 rfl rfl
theorem dX3_feed_0 : decode cX3_feed 0 = .ok (.iload_n 1, 1) := dk_27 (dk_at dksX3_feed_0 0 rfl rfl)
theorem dX3_feed_1 : decode cX3_feed 1 = .ok (.i2l, 1) := dk_133 (dk_at dksX3_feed_0 1 rfl rfl)
theorem dX3_feed_2 : decode cX3_feed 2 = .ok (.lconst 0, 1) := dk_9 (dk_at dksX3_feed_0 2 rfl rfl)
theorem dX3_feed_3 : decode cX3_feed 3 = .ok (.ldc2_w 89, 3) := dk_20 0 89 (dk_at dksX3_feed_0 3 rfl rfl)
theorem dX3_feed_6 : decode cX3_feed 6 = .ok (.invokestatic 63, 3) := dk_184 0 63 (dk_at dksX3_feed_0 6 rfl rfl)
theorem dX3_feed_9 : decode cX3_feed 9 = .ok (.ifCond .ne 6, 3) := dk_154 0 6 (dk_at dksX3_feed_0 9 rfl rfl)
theorem dX3_feed_12 : decode cX3_feed 12 = .ok (.ldc 73, 2) := dk_18 73 (dk_at dksX3_feed_0 12 rfl rfl)
theorem dX3_feed_14 : decode cX3_feed 14 = .ok (.ireturn, 1) := dk_172 (dk_at dksX3_feed_0 14 rfl rfl)
theorem dX3_feed_15 : decode cX3_feed 15 = .ok (.aload_n 0, 1) := dk_42 (dk_at dksX3_feed_0 15 rfl rfl)
theorem dX3_feed_16 : decode cX3_feed 16 = .ok (.getfield 91, 3) := dk_180 0 91 (dk_at dksX3_feed_0 16 rfl rfl)
theorem dX3_feed_19 : decode cX3_feed 19 = .ok (.bipush 120, 2) := dk_16 120 (dk_at dksX3_feed_0 19 rfl rfl)
theorem dX3_feed_21 : decode cX3_feed 21 = .ok (.if_icmp .ne 6, 3) := dk_160 0 6 (dk_at dksX3_feed_0 21 rfl rfl)
theorem dX3_feed_24 : decode cX3_feed 24 = .ok (.ldc 94, 2) := dk_18 94 (dk_at dksX3_feed_1 0 rfl rfl)
theorem dX3_feed_26 : decode cX3_feed 26 = .ok (.ireturn, 1) := dk_172 (dk_at dksX3_feed_1 2 rfl rfl)
theorem dX3_feed_27 : decode cX3_feed 27 = .ok (.aload_n 0, 1) := dk_42 (dk_at dksX3_feed_1 3 rfl rfl)
theorem dX3_feed_28 : decode cX3_feed 28 = .ok (.getfield 29, 3) := dk_180 0 29 (dk_at dksX3_feed_1 4 rfl rfl)
theorem dX3_feed_31 : decode cX3_feed 31 = .ok (.aload_n 0, 1) := dk_42 (dk_at dksX3_feed_1 7 rfl rfl)
theorem dX3_feed_32 : decode cX3_feed 32 = .ok (.getfield 91, 3) := dk_180 0 91 (dk_at dksX3_feed_1 8 rfl rfl)
theorem dX3_feed_35 : decode cX3_feed 35 = .ok (.iload_n 1, 1) := dk_27 (dk_at dksX3_feed_1 11 rfl rfl)
theorem dX3_feed_36 : decode cX3_feed 36 = .ok (.iastore, 1) := dk_79 (dk_at dksX3_feed_1 12 rfl rfl)
theorem dX3_feed_37 : decode cX3_feed 37 = .ok (.aload_n 0, 1) := dk_42 (dk_at dksX3_feed_1 13 rfl rfl)
theorem dX3_feed_38 : decode cX3_feed 38 = .ok (.dup, 1) := dk_89 (dk_at dksX3_feed_1 14 rfl rfl)
theorem dX3_feed_39 : decode cX3_feed 39 = .ok (.getfield 91, 3) := dk_180 0 91 (dk_at dksX3_feed_1 15 rfl rfl)
theorem dX3_feed_42 : decode cX3_feed 42 = .ok (.iconst 1, 1) := dk_4 (dk_at dksX3_feed_1 18 rfl rfl)
theorem dX3_feed_43 : decode cX3_feed 43 = .ok (.iadd, 1) := dk_96 (dk_at dksX3_feed_1 19 rfl rfl)
theorem dX3_feed_44 : decode cX3_feed 44 = .ok (.putfield 91, 3) := dk_181 0 91 (dk_at dksX3_feed_1 20 rfl rfl)
theorem dX3_feed_47 : decode cX3_feed 47 = .ok (.aload_n 0, 1) := dk_42 (dk_at dksX3_feed_1 23 rfl rfl)
theorem dX3_feed_48 : decode cX3_feed 48 = .ok (.getfield 91, 3) := dk_180 0 91 (dk_at dksX3_feed_2 0 rfl rfl)
theorem dX3_feed_51 : decode cX3_feed 51 = .ok (.ireturn, 1) := dk_172 (dk_at dksX3_feed_2 3 rfl rfl)
abbrev cX3_parish : ByteArray := prog_16_method_28_code
def yX3_parish : MethodName := ⟨RX3, "parish", "()I"⟩
def dkwX3_parish_3 : List UInt8 := [181, 0, 151, 42, 180, 0, 7, 16, 6, 46, 172]
abbrev dktX3_parish_3 : List UInt8 := dkwX3_parish_3 ++ []
def dkwX3_parish_2 : List UInt8 := [17, 0, 219, 28, 96, 46, 79, 132, 2, 1, 167, 255, 231, 42, 180, 0, 7, 16, 9, 4, 79, 42, 3]
abbrev dktX3_parish_2 : List UInt8 := dkwX3_parish_2 ++ dktX3_parish_3
def dkwX3_parish_1 : List UInt8 := [42, 180, 0, 105, 100, 172, 3, 61, 28, 16, 73, 162, 0, 25, 42, 180, 0, 7, 28, 42, 180, 0, 7]
abbrev dktX3_parish_1 : List UInt8 := dkwX3_parish_1 ++ dktX3_parish_2
def dkwX3_parish_0 : List UInt8 := [42, 182, 0, 144, 60, 42, 3, 181, 0, 91, 27, 154, 0, 19, 42, 42, 180, 0, 108, 181, 0, 147, 18, 150]
abbrev dktX3_parish_0 : List UInt8 := dkwX3_parish_0 ++ dktX3_parish_1
theorem dksX3_parish_0 : cX3_parish.data.toList.drop 0 = dktX3_parish_0 := by decide +kernel
theorem dksX3_parish_1 : cX3_parish.data.toList.drop 24 = dktX3_parish_1 := dk_seg dksX3_parish_0 24 rfl rfl
theorem dksX3_parish_2 : cX3_parish.data.toList.drop 47 = dktX3_parish_2 := dk_seg dksX3_parish_1 23 rfl rfl
theorem dksX3_parish_3 : cX3_parish.data.toList.drop 70 = dktX3_parish_3 := dk_seg dksX3_parish_2 23 rfl rfl
theorem dX3_parish_0 : decode cX3_parish 0 = .ok (.aload_n 0, 1) := dk_42 (dk_at dksX3_parish_0 0 rfl rfl)
theorem dX3_parish_1 : decode cX3_parish 1 = .ok (.invokevirtual 144, 3) := dk_182 0 144 (dk_at dksX3_parish_0 1 rfl rfl)
theorem dX3_parish_4 : decode cX3_parish 4 = .ok (.istore_n 1, 1) := dk_60 (dk_at dksX3_parish_0 4 rfl rfl)
theorem dX3_parish_5 : decode cX3_parish 5 = .ok (.aload_n 0, 1) := dk_42 (dk_at dksX3_parish_0 5 rfl rfl)
theorem dX3_parish_6 : decode cX3_parish 6 = .ok (.iconst 0, 1) := dk_3 (dk_at dksX3_parish_0 6 rfl rfl)
theorem dX3_parish_7 : decode cX3_parish 7 = .ok (.putfield 91, 3) := dk_181 0 91 (dk_at dksX3_parish_0 7 rfl rfl)
theorem dX3_parish_10 : decode cX3_parish 10 = .ok (.iload_n 1, 1) := dk_27 (dk_at dksX3_parish_0 10 rfl rfl)
theorem dX3_parish_11 : decode cX3_parish 11 = .ok (.ifCond .ne 19, 3) := dk_154 0 19 (dk_at dksX3_parish_0 11 rfl rfl)
theorem dX3_parish_14 : decode cX3_parish 14 = .ok (.aload_n 0, 1) := dk_42 (dk_at dksX3_parish_0 14 rfl rfl)
theorem dX3_parish_15 : decode cX3_parish 15 = .ok (.aload_n 0, 1) := dk_42 (dk_at dksX3_parish_0 15 rfl rfl)
theorem dX3_parish_16 : decode cX3_parish 16 = .ok (.getfield 108, 3) := dk_180 0 108 (dk_at dksX3_parish_0 16 rfl rfl)
theorem dX3_parish_19 : decode cX3_parish 19 = .ok (.putfield 147, 3) := dk_181 0 147 (dk_at dksX3_parish_0 19 rfl rfl)
theorem dX3_parish_22 : decode cX3_parish 22 = .ok (.ldc 150, 2) := dk_18 150 (dk_at dksX3_parish_0 22 rfl rfl)
theorem dX3_parish_24 : decode cX3_parish 24 = .ok (.aload_n 0, 1) := dk_42 (dk_at dksX3_parish_1 0 rfl rfl)
theorem dX3_parish_25 : decode cX3_parish 25 = .ok (.getfield 105, 3) := dk_180 0 105 (dk_at dksX3_parish_1 1 rfl rfl)
theorem dX3_parish_28 : decode cX3_parish 28 = .ok (.isub, 1) := dk_100 (dk_at dksX3_parish_1 4 rfl rfl)
theorem dX3_parish_29 : decode cX3_parish 29 = .ok (.ireturn, 1) := dk_172 (dk_at dksX3_parish_1 5 rfl rfl)
theorem dX3_parish_30 : decode cX3_parish 30 = .ok (.iconst 0, 1) := dk_3 (dk_at dksX3_parish_1 6 rfl rfl)
theorem dX3_parish_31 : decode cX3_parish 31 = .ok (.istore_n 2, 1) := dk_61 (dk_at dksX3_parish_1 7 rfl rfl)
theorem dX3_parish_32 : decode cX3_parish 32 = .ok (.iload_n 2, 1) := dk_28 (dk_at dksX3_parish_1 8 rfl rfl)
theorem dX3_parish_33 : decode cX3_parish 33 = .ok (.bipush 73, 2) := dk_16 73 (dk_at dksX3_parish_1 9 rfl rfl)
theorem dX3_parish_35 : decode cX3_parish 35 = .ok (.if_icmp .ge 25, 3) := dk_162 0 25 (dk_at dksX3_parish_1 11 rfl rfl)
theorem dX3_parish_38 : decode cX3_parish 38 = .ok (.aload_n 0, 1) := dk_42 (dk_at dksX3_parish_1 14 rfl rfl)
theorem dX3_parish_39 : decode cX3_parish 39 = .ok (.getfield 7, 3) := dk_180 0 7 (dk_at dksX3_parish_1 15 rfl rfl)
theorem dX3_parish_42 : decode cX3_parish 42 = .ok (.iload_n 2, 1) := dk_28 (dk_at dksX3_parish_1 18 rfl rfl)
theorem dX3_parish_43 : decode cX3_parish 43 = .ok (.aload_n 0, 1) := dk_42 (dk_at dksX3_parish_1 19 rfl rfl)
theorem dX3_parish_44 : decode cX3_parish 44 = .ok (.getfield 7, 3) := dk_180 0 7 (dk_at dksX3_parish_1 20 rfl rfl)
theorem dX3_parish_47 : decode cX3_parish 47 = .ok (.sipush 219, 3) := dk_17 0 219 (dk_at dksX3_parish_2 0 rfl rfl)
theorem dX3_parish_50 : decode cX3_parish 50 = .ok (.iload_n 2, 1) := dk_28 (dk_at dksX3_parish_2 3 rfl rfl)
theorem dX3_parish_51 : decode cX3_parish 51 = .ok (.iadd, 1) := dk_96 (dk_at dksX3_parish_2 4 rfl rfl)
theorem dX3_parish_52 : decode cX3_parish 52 = .ok (.iaload, 1) := dk_46 (dk_at dksX3_parish_2 5 rfl rfl)
theorem dX3_parish_53 : decode cX3_parish 53 = .ok (.iastore, 1) := dk_79 (dk_at dksX3_parish_2 6 rfl rfl)
theorem dX3_parish_54 : decode cX3_parish 54 = .ok (.iinc 2 1, 3) := dk_132 2 1 (dk_at dksX3_parish_2 7 rfl rfl)
theorem dX3_parish_57 : decode cX3_parish 57 = .ok (.goto (-25), 3) := dk_167 255 231 (dk_at dksX3_parish_2 10 rfl rfl)
theorem dX3_parish_60 : decode cX3_parish 60 = .ok (.aload_n 0, 1) := dk_42 (dk_at dksX3_parish_2 13 rfl rfl)
theorem dX3_parish_61 : decode cX3_parish 61 = .ok (.getfield 7, 3) := dk_180 0 7 (dk_at dksX3_parish_2 14 rfl rfl)
theorem dX3_parish_64 : decode cX3_parish 64 = .ok (.bipush 9, 2) := dk_16 9 (dk_at dksX3_parish_2 17 rfl rfl)
theorem dX3_parish_66 : decode cX3_parish 66 = .ok (.iconst 1, 1) := dk_4 (dk_at dksX3_parish_2 19 rfl rfl)
theorem dX3_parish_67 : decode cX3_parish 67 = .ok (.iastore, 1) := dk_79 (dk_at dksX3_parish_2 20 rfl rfl)
theorem dX3_parish_68 : decode cX3_parish 68 = .ok (.aload_n 0, 1) := dk_42 (dk_at dksX3_parish_2 21 rfl rfl)
theorem dX3_parish_69 : decode cX3_parish 69 = .ok (.iconst 0, 1) := dk_3 (dk_at dksX3_parish_2 22 rfl rfl)
theorem dX3_parish_70 : decode cX3_parish 70 = .ok (.putfield 151, 3) := dk_181 0 151 (dk_at dksX3_parish_3 0 rfl rfl)
theorem dX3_parish_73 : decode cX3_parish 73 = .ok (.aload_n 0, 1) := dk_42 (dk_at dksX3_parish_3 3 rfl rfl)
theorem dX3_parish_74 : decode cX3_parish 74 = .ok (.getfield 7, 3) := dk_180 0 7 (dk_at dksX3_parish_3 4 rfl rfl)
theorem dX3_parish_77 : decode cX3_parish 77 = .ok (.bipush 6, 2) := dk_16 6 (dk_at dksX3_parish_3 7 rfl rfl)
theorem dX3_parish_79 : decode cX3_parish 79 = .ok (.iaload, 1) := dk_46 (dk_at dksX3_parish_3 9 rfl rfl)
theorem dX3_parish_80 : decode cX3_parish 80 = .ok (.ireturn, 1) := dk_172 (dk_at dksX3_parish_3 10 rfl rfl)
abbrev cX3_isParish : ByteArray := prog_16_method_27_code
def yX3_isParish : MethodName := ⟨RX3, "isParish", "()Z"⟩
def dkwX3_isParish_4 : List UInt8 := [182, 0, 141, 60, 167, 255, 236, 27, 172]
abbrev dktX3_isParish_4 : List UInt8 := dkwX3_isParish_4 ++ []
def dkwX3_isParish_3 : List UInt8 := [182, 0, 138, 60, 167, 255, 233, 27, 153, 0, 22, 42, 180, 0, 102, 42, 180, 0, 91, 162, 0, 11, 42]
abbrev dktX3_isParish_3 : List UInt8 := dkwX3_isParish_3 ++ dktX3_isParish_4
def dkwX3_isParish_2 : List UInt8 := [167, 0, 4, 3, 60, 27, 153, 0, 25, 42, 42, 180, 0, 102, 182, 0, 95, 184, 0, 128, 158, 0, 11, 42]
abbrev dktX3_isParish_2 : List UInt8 := dkwX3_isParish_2 ++ dktX3_isParish_3
def dkwX3_isParish_1 : List UInt8 := [167, 255, 236, 42, 3, 181, 0, 102, 42, 182, 0, 135, 153, 0, 14, 42, 182, 0, 138, 153, 0, 7, 4]
abbrev dktX3_isParish_1 : List UInt8 := dkwX3_isParish_1 ++ dktX3_isParish_2
def dkwX3_isParish_0 : List UInt8 := [3, 60, 27, 16, 73, 162, 0, 20, 42, 180, 0, 7, 17, 0, 219, 27, 96, 3, 79, 132, 1, 1]
abbrev dktX3_isParish_0 : List UInt8 := dkwX3_isParish_0 ++ dktX3_isParish_1
theorem dksX3_isParish_0 : cX3_isParish.data.toList.drop 0 = dktX3_isParish_0 := by decide +kernel
theorem dksX3_isParish_1 : cX3_isParish.data.toList.drop 22 = dktX3_isParish_1 := dk_seg dksX3_isParish_0 22 rfl rfl
theorem dksX3_isParish_2 : cX3_isParish.data.toList.drop 45 = dktX3_isParish_2 := dk_seg dksX3_isParish_1 23 rfl rfl
theorem dksX3_isParish_3 : cX3_isParish.data.toList.drop 69 = dktX3_isParish_3 := dk_seg dksX3_isParish_2 24 rfl rfl
theorem dksX3_isParish_4 : cX3_isParish.data.toList.drop 92 = dktX3_isParish_4 := dk_seg dksX3_isParish_3 23 rfl rfl
theorem dX3_isParish_0 : decode cX3_isParish 0 = .ok (.iconst 0, 1) := dk_3 (dk_at dksX3_isParish_0 0 rfl rfl)
theorem dX3_isParish_1 : decode cX3_isParish 1 = .ok (.istore_n 1, 1) := dk_60 (dk_at dksX3_isParish_0 1 rfl rfl)
theorem dX3_isParish_2 : decode cX3_isParish 2 = .ok (.iload_n 1, 1) := dk_27 (dk_at dksX3_isParish_0 2 rfl rfl)
theorem dX3_isParish_3 : decode cX3_isParish 3 = .ok (.bipush 73, 2) := dk_16 73 (dk_at dksX3_isParish_0 3 rfl rfl)
theorem dX3_isParish_5 : decode cX3_isParish 5 = .ok (.if_icmp .ge 20, 3) := dk_162 0 20 (dk_at dksX3_isParish_0 5 rfl rfl)
theorem dX3_isParish_8 : decode cX3_isParish 8 = .ok (.aload_n 0, 1) := dk_42 (dk_at dksX3_isParish_0 8 rfl rfl)
theorem dX3_isParish_9 : decode cX3_isParish 9 = .ok (.getfield 7, 3) := dk_180 0 7 (dk_at dksX3_isParish_0 9 rfl rfl)
theorem dX3_isParish_12 : decode cX3_isParish 12 = .ok (.sipush 219, 3) := dk_17 0 219 (dk_at dksX3_isParish_0 12 rfl rfl)
theorem dX3_isParish_15 : decode cX3_isParish 15 = .ok (.iload_n 1, 1) := dk_27 (dk_at dksX3_isParish_0 15 rfl rfl)
theorem dX3_isParish_16 : decode cX3_isParish 16 = .ok (.iadd, 1) := dk_96 (dk_at dksX3_isParish_0 16 rfl rfl)
theorem dX3_isParish_17 : decode cX3_isParish 17 = .ok (.iconst 0, 1) := dk_3 (dk_at dksX3_isParish_0 17 rfl rfl)
theorem dX3_isParish_18 : decode cX3_isParish 18 = .ok (.iastore, 1) := dk_79 (dk_at dksX3_isParish_0 18 rfl rfl)
theorem dX3_isParish_19 : decode cX3_isParish 19 = .ok (.iinc 1 1, 3) := dk_132 1 1 (dk_at dksX3_isParish_0 19 rfl rfl)
theorem dX3_isParish_22 : decode cX3_isParish 22 = .ok (.goto (-20), 3) := dk_167 255 236 (dk_at dksX3_isParish_1 0 rfl rfl)
theorem dX3_isParish_25 : decode cX3_isParish 25 = .ok (.aload_n 0, 1) := dk_42 (dk_at dksX3_isParish_1 3 rfl rfl)
theorem dX3_isParish_26 : decode cX3_isParish 26 = .ok (.iconst 0, 1) := dk_3 (dk_at dksX3_isParish_1 4 rfl rfl)
theorem dX3_isParish_27 : decode cX3_isParish 27 = .ok (.putfield 102, 3) := dk_181 0 102 (dk_at dksX3_isParish_1 5 rfl rfl)
theorem dX3_isParish_30 : decode cX3_isParish 30 = .ok (.aload_n 0, 1) := dk_42 (dk_at dksX3_isParish_1 8 rfl rfl)
theorem dX3_isParish_31 : decode cX3_isParish 31 = .ok (.invokevirtual 135, 3) := dk_182 0 135 (dk_at dksX3_isParish_1 9 rfl rfl)
theorem dX3_isParish_34 : decode cX3_isParish 34 = .ok (.ifCond .eq 14, 3) := dk_153 0 14 (dk_at dksX3_isParish_1 12 rfl rfl)
theorem dX3_isParish_37 : decode cX3_isParish 37 = .ok (.aload_n 0, 1) := dk_42 (dk_at dksX3_isParish_1 15 rfl rfl)
theorem dX3_isParish_38 : decode cX3_isParish 38 = .ok (.invokevirtual 138, 3) := dk_182 0 138 (dk_at dksX3_isParish_1 16 rfl rfl)
theorem dX3_isParish_41 : decode cX3_isParish 41 = .ok (.ifCond .eq 7, 3) := dk_153 0 7 (dk_at dksX3_isParish_1 19 rfl rfl)
theorem dX3_isParish_44 : decode cX3_isParish 44 = .ok (.iconst 1, 1) := dk_4 (dk_at dksX3_isParish_1 22 rfl rfl)
theorem dX3_isParish_45 : decode cX3_isParish 45 = .ok (.goto 4, 3) := dk_167 0 4 (dk_at dksX3_isParish_2 0 rfl rfl)
theorem dX3_isParish_48 : decode cX3_isParish 48 = .ok (.iconst 0, 1) := dk_3 (dk_at dksX3_isParish_2 3 rfl rfl)
theorem dX3_isParish_49 : decode cX3_isParish 49 = .ok (.istore_n 1, 1) := dk_60 (dk_at dksX3_isParish_2 4 rfl rfl)
theorem dX3_isParish_50 : decode cX3_isParish 50 = .ok (.iload_n 1, 1) := dk_27 (dk_at dksX3_isParish_2 5 rfl rfl)
theorem dX3_isParish_51 : decode cX3_isParish 51 = .ok (.ifCond .eq 25, 3) := dk_153 0 25 (dk_at dksX3_isParish_2 6 rfl rfl)
theorem dX3_isParish_54 : decode cX3_isParish 54 = .ok (.aload_n 0, 1) := dk_42 (dk_at dksX3_isParish_2 9 rfl rfl)
theorem dX3_isParish_55 : decode cX3_isParish 55 = .ok (.aload_n 0, 1) := dk_42 (dk_at dksX3_isParish_2 10 rfl rfl)
theorem dX3_isParish_56 : decode cX3_isParish 56 = .ok (.getfield 102, 3) := dk_180 0 102 (dk_at dksX3_isParish_2 11 rfl rfl)
theorem dX3_isParish_59 : decode cX3_isParish 59 = .ok (.invokevirtual 95, 3) := dk_182 0 95 (dk_at dksX3_isParish_2 14 rfl rfl)
theorem dX3_isParish_62 : decode cX3_isParish 62 = .ok (.invokestatic 128, 3) := dk_184 0 128 (dk_at dksX3_isParish_2 17 rfl rfl)
theorem dX3_isParish_65 : decode cX3_isParish 65 = .ok (.ifCond .le 11, 3) := dk_158 0 11 (dk_at dksX3_isParish_2 20 rfl rfl)
theorem dX3_isParish_68 : decode cX3_isParish 68 = .ok (.aload_n 0, 1) := dk_42 (dk_at dksX3_isParish_2 23 rfl rfl)
theorem dX3_isParish_69 : decode cX3_isParish 69 = .ok (.invokevirtual 138, 3) := dk_182 0 138 (dk_at dksX3_isParish_3 0 rfl rfl)
theorem dX3_isParish_72 : decode cX3_isParish 72 = .ok (.istore_n 1, 1) := dk_60 (dk_at dksX3_isParish_3 3 rfl rfl)
theorem dX3_isParish_73 : decode cX3_isParish 73 = .ok (.goto (-23), 3) := dk_167 255 233 (dk_at dksX3_isParish_3 4 rfl rfl)
theorem dX3_isParish_76 : decode cX3_isParish 76 = .ok (.iload_n 1, 1) := dk_27 (dk_at dksX3_isParish_3 7 rfl rfl)
theorem dX3_isParish_77 : decode cX3_isParish 77 = .ok (.ifCond .eq 22, 3) := dk_153 0 22 (dk_at dksX3_isParish_3 8 rfl rfl)
theorem dX3_isParish_80 : decode cX3_isParish 80 = .ok (.aload_n 0, 1) := dk_42 (dk_at dksX3_isParish_3 11 rfl rfl)
theorem dX3_isParish_81 : decode cX3_isParish 81 = .ok (.getfield 102, 3) := dk_180 0 102 (dk_at dksX3_isParish_3 12 rfl rfl)
theorem dX3_isParish_84 : decode cX3_isParish 84 = .ok (.aload_n 0, 1) := dk_42 (dk_at dksX3_isParish_3 15 rfl rfl)
theorem dX3_isParish_85 : decode cX3_isParish 85 = .ok (.getfield 91, 3) := dk_180 0 91 (dk_at dksX3_isParish_3 16 rfl rfl)
theorem dX3_isParish_88 : decode cX3_isParish 88 = .ok (.if_icmp .ge 11, 3) := dk_162 0 11 (dk_at dksX3_isParish_3 19 rfl rfl)
theorem dX3_isParish_91 : decode cX3_isParish 91 = .ok (.aload_n 0, 1) := dk_42 (dk_at dksX3_isParish_3 22 rfl rfl)
theorem dX3_isParish_92 : decode cX3_isParish 92 = .ok (.invokevirtual 141, 3) := dk_182 0 141 (dk_at dksX3_isParish_4 0 rfl rfl)
theorem dX3_isParish_95 : decode cX3_isParish 95 = .ok (.istore_n 1, 1) := dk_60 (dk_at dksX3_isParish_4 3 rfl rfl)
theorem dX3_isParish_96 : decode cX3_isParish 96 = .ok (.goto (-20), 3) := dk_167 255 236 (dk_at dksX3_isParish_4 4 rfl rfl)
theorem dX3_isParish_99 : decode cX3_isParish 99 = .ok (.iload_n 1, 1) := dk_27 (dk_at dksX3_isParish_4 7 rfl rfl)
theorem dX3_isParish_100 : decode cX3_isParish 100 = .ok (.ireturn, 1) := dk_172 (dk_at dksX3_isParish_4 8 rfl rfl)
abbrev cX3_takesLaw : ByteArray := prog_16_method_23_code
def yX3_takesLaw : MethodName := ⟨RX3, "takesLaw", "()Z"⟩
def dkwX3_takesLaw_2 : List UInt8 := [27, 172]
abbrev dktX3_takesLaw_2 : List UInt8 := dkwX3_takesLaw_2 ++ []
def dkwX3_takesLaw_1 : List UInt8 := [16, 20, 28, 8, 162, 0, 8, 16, 44, 167, 0, 5, 16, 59, 182, 0, 124, 60, 132, 2, 1, 167, 255, 220]
abbrev dktX3_takesLaw_1 : List UInt8 := dkwX3_takesLaw_1 ++ dktX3_takesLaw_2
def dkwX3_takesLaw_0 : List UInt8 := [42, 16, 104, 182, 0, 121, 60, 3, 61, 28, 16, 6, 162, 0, 36, 27, 153, 0, 32, 42, 3, 28, 96, 3]
abbrev dktX3_takesLaw_0 : List UInt8 := dkwX3_takesLaw_0 ++ dktX3_takesLaw_1
theorem dksX3_takesLaw_0 : cX3_takesLaw.data.toList.drop 0 = dktX3_takesLaw_0 := by decide +kernel
theorem dksX3_takesLaw_1 : cX3_takesLaw.data.toList.drop 24 = dktX3_takesLaw_1 := dk_seg dksX3_takesLaw_0 24 rfl rfl
theorem dksX3_takesLaw_2 : cX3_takesLaw.data.toList.drop 48 = dktX3_takesLaw_2 := dk_seg dksX3_takesLaw_1 24 rfl rfl
theorem dX3_takesLaw_0 : decode cX3_takesLaw 0 = .ok (.aload_n 0, 1) := dk_42 (dk_at dksX3_takesLaw_0 0 rfl rfl)
theorem dX3_takesLaw_1 : decode cX3_takesLaw 1 = .ok (.bipush 104, 2) := dk_16 104 (dk_at dksX3_takesLaw_0 1 rfl rfl)
theorem dX3_takesLaw_3 : decode cX3_takesLaw 3 = .ok (.invokevirtual 121, 3) := dk_182 0 121 (dk_at dksX3_takesLaw_0 3 rfl rfl)
theorem dX3_takesLaw_6 : decode cX3_takesLaw 6 = .ok (.istore_n 1, 1) := dk_60 (dk_at dksX3_takesLaw_0 6 rfl rfl)
theorem dX3_takesLaw_7 : decode cX3_takesLaw 7 = .ok (.iconst 0, 1) := dk_3 (dk_at dksX3_takesLaw_0 7 rfl rfl)
theorem dX3_takesLaw_8 : decode cX3_takesLaw 8 = .ok (.istore_n 2, 1) := dk_61 (dk_at dksX3_takesLaw_0 8 rfl rfl)
theorem dX3_takesLaw_9 : decode cX3_takesLaw 9 = .ok (.iload_n 2, 1) := dk_28 (dk_at dksX3_takesLaw_0 9 rfl rfl)
theorem dX3_takesLaw_10 : decode cX3_takesLaw 10 = .ok (.bipush 6, 2) := dk_16 6 (dk_at dksX3_takesLaw_0 10 rfl rfl)
theorem dX3_takesLaw_12 : decode cX3_takesLaw 12 = .ok (.if_icmp .ge 36, 3) := dk_162 0 36 (dk_at dksX3_takesLaw_0 12 rfl rfl)
theorem dX3_takesLaw_15 : decode cX3_takesLaw 15 = .ok (.iload_n 1, 1) := dk_27 (dk_at dksX3_takesLaw_0 15 rfl rfl)
theorem dX3_takesLaw_16 : decode cX3_takesLaw 16 = .ok (.ifCond .eq 32, 3) := dk_153 0 32 (dk_at dksX3_takesLaw_0 16 rfl rfl)
theorem dX3_takesLaw_19 : decode cX3_takesLaw 19 = .ok (.aload_n 0, 1) := dk_42 (dk_at dksX3_takesLaw_0 19 rfl rfl)
theorem dX3_takesLaw_20 : decode cX3_takesLaw 20 = .ok (.iconst 0, 1) := dk_3 (dk_at dksX3_takesLaw_0 20 rfl rfl)
theorem dX3_takesLaw_21 : decode cX3_takesLaw 21 = .ok (.iload_n 2, 1) := dk_28 (dk_at dksX3_takesLaw_0 21 rfl rfl)
theorem dX3_takesLaw_22 : decode cX3_takesLaw 22 = .ok (.iadd, 1) := dk_96 (dk_at dksX3_takesLaw_0 22 rfl rfl)
theorem dX3_takesLaw_23 : decode cX3_takesLaw 23 = .ok (.iconst 0, 1) := dk_3 (dk_at dksX3_takesLaw_0 23 rfl rfl)
theorem dX3_takesLaw_24 : decode cX3_takesLaw 24 = .ok (.bipush 20, 2) := dk_16 20 (dk_at dksX3_takesLaw_1 0 rfl rfl)
theorem dX3_takesLaw_26 : decode cX3_takesLaw 26 = .ok (.iload_n 2, 1) := dk_28 (dk_at dksX3_takesLaw_1 2 rfl rfl)
theorem dX3_takesLaw_27 : decode cX3_takesLaw 27 = .ok (.iconst 5, 1) := dk_8 (dk_at dksX3_takesLaw_1 3 rfl rfl)
theorem dX3_takesLaw_28 : decode cX3_takesLaw 28 = .ok (.if_icmp .ge 8, 3) := dk_162 0 8 (dk_at dksX3_takesLaw_1 4 rfl rfl)
theorem dX3_takesLaw_31 : decode cX3_takesLaw 31 = .ok (.bipush 44, 2) := dk_16 44 (dk_at dksX3_takesLaw_1 7 rfl rfl)
theorem dX3_takesLaw_33 : decode cX3_takesLaw 33 = .ok (.goto 5, 3) := dk_167 0 5 (dk_at dksX3_takesLaw_1 9 rfl rfl)
theorem dX3_takesLaw_36 : decode cX3_takesLaw 36 = .ok (.bipush 59, 2) := dk_16 59 (dk_at dksX3_takesLaw_1 12 rfl rfl)
theorem dX3_takesLaw_38 : decode cX3_takesLaw 38 = .ok (.invokevirtual 124, 3) := dk_182 0 124 (dk_at dksX3_takesLaw_1 14 rfl rfl)
theorem dX3_takesLaw_41 : decode cX3_takesLaw 41 = .ok (.istore_n 1, 1) := dk_60 (dk_at dksX3_takesLaw_1 17 rfl rfl)
theorem dX3_takesLaw_42 : decode cX3_takesLaw 42 = .ok (.iinc 2 1, 3) := dk_132 2 1 (dk_at dksX3_takesLaw_1 18 rfl rfl)
theorem dX3_takesLaw_45 : decode cX3_takesLaw 45 = .ok (.goto (-36), 3) := dk_167 255 220 (dk_at dksX3_takesLaw_1 21 rfl rfl)
theorem dX3_takesLaw_48 : decode cX3_takesLaw 48 = .ok (.iload_n 1, 1) := dk_27 (dk_at dksX3_takesLaw_2 0 rfl rfl)
theorem dX3_takesLaw_49 : decode cX3_takesLaw 49 = .ok (.ireturn, 1) := dk_172 (dk_at dksX3_takesLaw_2 1 rfl rfl)
abbrev cX3_takes : ByteArray := prog_16_method_19_code
def yX3_takes : MethodName := ⟨RX3, "takes", "(I)Z"⟩
def dkwX3_takes_2 : List UInt8 := [181, 0, 102, 28, 172]
abbrev dktX3_takes_2 : List UInt8 := dkwX3_takes_2 ++ []
def dkwX3_takes_1 : List UInt8 := [160, 0, 7, 4, 167, 0, 4, 3, 61, 42, 89, 180, 0, 102, 28, 153, 0, 7, 4, 167, 0, 4, 3, 96]
abbrev dktX3_takes_1 : List UInt8 := dkwX3_takes_1 ++ dktX3_takes_2
def dkwX3_takes_0 : List UInt8 := [42, 42, 180, 0, 102, 181, 0, 105, 42, 4, 181, 0, 108, 42, 42, 180, 0, 102, 182, 0, 95, 27]
abbrev dktX3_takes_0 : List UInt8 := dkwX3_takes_0 ++ dktX3_takes_1
theorem dksX3_takes_0 : cX3_takes.data.toList.drop 0 = dktX3_takes_0 := by decide +kernel
theorem dksX3_takes_1 : cX3_takes.data.toList.drop 22 = dktX3_takes_1 := dk_seg dksX3_takes_0 22 rfl rfl
theorem dksX3_takes_2 : cX3_takes.data.toList.drop 46 = dktX3_takes_2 := dk_seg dksX3_takes_1 24 rfl rfl
theorem dX3_takes_0 : decode cX3_takes 0 = .ok (.aload_n 0, 1) := dk_42 (dk_at dksX3_takes_0 0 rfl rfl)
theorem dX3_takes_1 : decode cX3_takes 1 = .ok (.aload_n 0, 1) := dk_42 (dk_at dksX3_takes_0 1 rfl rfl)
theorem dX3_takes_2 : decode cX3_takes 2 = .ok (.getfield 102, 3) := dk_180 0 102 (dk_at dksX3_takes_0 2 rfl rfl)
theorem dX3_takes_5 : decode cX3_takes 5 = .ok (.putfield 105, 3) := dk_181 0 105 (dk_at dksX3_takes_0 5 rfl rfl)
theorem dX3_takes_8 : decode cX3_takes 8 = .ok (.aload_n 0, 1) := dk_42 (dk_at dksX3_takes_0 8 rfl rfl)
theorem dX3_takes_9 : decode cX3_takes 9 = .ok (.iconst 1, 1) := dk_4 (dk_at dksX3_takes_0 9 rfl rfl)
theorem dX3_takes_10 : decode cX3_takes 10 = .ok (.putfield 108, 3) := dk_181 0 108 (dk_at dksX3_takes_0 10 rfl rfl)
theorem dX3_takes_13 : decode cX3_takes 13 = .ok (.aload_n 0, 1) := dk_42 (dk_at dksX3_takes_0 13 rfl rfl)
theorem dX3_takes_14 : decode cX3_takes 14 = .ok (.aload_n 0, 1) := dk_42 (dk_at dksX3_takes_0 14 rfl rfl)
theorem dX3_takes_15 : decode cX3_takes 15 = .ok (.getfield 102, 3) := dk_180 0 102 (dk_at dksX3_takes_0 15 rfl rfl)
theorem dX3_takes_18 : decode cX3_takes 18 = .ok (.invokevirtual 95, 3) := dk_182 0 95 (dk_at dksX3_takes_0 18 rfl rfl)
theorem dX3_takes_21 : decode cX3_takes 21 = .ok (.iload_n 1, 1) := dk_27 (dk_at dksX3_takes_0 21 rfl rfl)
theorem dX3_takes_22 : decode cX3_takes 22 = .ok (.if_icmp .ne 7, 3) := dk_160 0 7 (dk_at dksX3_takes_1 0 rfl rfl)
theorem dX3_takes_25 : decode cX3_takes 25 = .ok (.iconst 1, 1) := dk_4 (dk_at dksX3_takes_1 3 rfl rfl)
theorem dX3_takes_26 : decode cX3_takes 26 = .ok (.goto 4, 3) := dk_167 0 4 (dk_at dksX3_takes_1 4 rfl rfl)
theorem dX3_takes_29 : decode cX3_takes 29 = .ok (.iconst 0, 1) := dk_3 (dk_at dksX3_takes_1 7 rfl rfl)
theorem dX3_takes_30 : decode cX3_takes 30 = .ok (.istore_n 2, 1) := dk_61 (dk_at dksX3_takes_1 8 rfl rfl)
theorem dX3_takes_31 : decode cX3_takes 31 = .ok (.aload_n 0, 1) := dk_42 (dk_at dksX3_takes_1 9 rfl rfl)
theorem dX3_takes_32 : decode cX3_takes 32 = .ok (.dup, 1) := dk_89 (dk_at dksX3_takes_1 10 rfl rfl)
theorem dX3_takes_33 : decode cX3_takes 33 = .ok (.getfield 102, 3) := dk_180 0 102 (dk_at dksX3_takes_1 11 rfl rfl)
theorem dX3_takes_36 : decode cX3_takes 36 = .ok (.iload_n 2, 1) := dk_28 (dk_at dksX3_takes_1 14 rfl rfl)
theorem dX3_takes_37 : decode cX3_takes 37 = .ok (.ifCond .eq 7, 3) := dk_153 0 7 (dk_at dksX3_takes_1 15 rfl rfl)
theorem dX3_takes_40 : decode cX3_takes 40 = .ok (.iconst 1, 1) := dk_4 (dk_at dksX3_takes_1 18 rfl rfl)
theorem dX3_takes_41 : decode cX3_takes 41 = .ok (.goto 4, 3) := dk_167 0 4 (dk_at dksX3_takes_1 19 rfl rfl)
theorem dX3_takes_44 : decode cX3_takes 44 = .ok (.iconst 0, 1) := dk_3 (dk_at dksX3_takes_1 22 rfl rfl)
theorem dX3_takes_45 : decode cX3_takes 45 = .ok (.iadd, 1) := dk_96 (dk_at dksX3_takes_1 23 rfl rfl)
theorem dX3_takes_46 : decode cX3_takes 46 = .ok (.putfield 102, 3) := dk_181 0 102 (dk_at dksX3_takes_2 0 rfl rfl)
theorem dX3_takes_49 : decode cX3_takes 49 = .ok (.iload_n 2, 1) := dk_28 (dk_at dksX3_takes_2 3 rfl rfl)
theorem dX3_takes_50 : decode cX3_takes 50 = .ok (.ireturn, 1) := dk_172 (dk_at dksX3_takes_2 4 rfl rfl)
abbrev cX3_byteAt : ByteArray := prog_16_method_17_code
def yX3_byteAt : MethodName := ⟨RX3, "byteAt", "(I)I"⟩
def dkwX3_byteAt_0 : List UInt8 := [27, 42, 180, 0, 91, 162, 0, 12, 42, 180, 0, 29, 27, 46, 167, 0, 4, 2, 172]
abbrev dktX3_byteAt_0 : List UInt8 := dkwX3_byteAt_0 ++ []
theorem dksX3_byteAt_0 : cX3_byteAt.data.toList.drop 0 = dktX3_byteAt_0 := by decide +kernel
theorem dX3_byteAt_0 : decode cX3_byteAt 0 = .ok (.iload_n 1, 1) := dk_27 (dk_at dksX3_byteAt_0 0 rfl rfl)
theorem dX3_byteAt_1 : decode cX3_byteAt 1 = .ok (.aload_n 0, 1) := dk_42 (dk_at dksX3_byteAt_0 1 rfl rfl)
theorem dX3_byteAt_2 : decode cX3_byteAt 2 = .ok (.getfield 91, 3) := dk_180 0 91 (dk_at dksX3_byteAt_0 2 rfl rfl)
theorem dX3_byteAt_5 : decode cX3_byteAt 5 = .ok (.if_icmp .ge 12, 3) := dk_162 0 12 (dk_at dksX3_byteAt_0 5 rfl rfl)
theorem dX3_byteAt_8 : decode cX3_byteAt 8 = .ok (.aload_n 0, 1) := dk_42 (dk_at dksX3_byteAt_0 8 rfl rfl)
theorem dX3_byteAt_9 : decode cX3_byteAt 9 = .ok (.getfield 29, 3) := dk_180 0 29 (dk_at dksX3_byteAt_0 9 rfl rfl)
theorem dX3_byteAt_12 : decode cX3_byteAt 12 = .ok (.iload_n 1, 1) := dk_27 (dk_at dksX3_byteAt_0 12 rfl rfl)
theorem dX3_byteAt_13 : decode cX3_byteAt 13 = .ok (.iaload, 1) := dk_46 (dk_at dksX3_byteAt_0 13 rfl rfl)
theorem dX3_byteAt_14 : decode cX3_byteAt 14 = .ok (.goto 4, 3) := dk_167 0 4 (dk_at dksX3_byteAt_0 14 rfl rfl)
theorem dX3_byteAt_17 : decode cX3_byteAt 17 = .ok (.iconst (-1), 1) := dk_2 (dk_at dksX3_byteAt_0 17 rfl rfl)
theorem dX3_byteAt_18 : decode cX3_byteAt 18 = .ok (.ireturn, 1) := dk_172 (dk_at dksX3_byteAt_0 18 rfl rfl)
abbrev cX3_reads : ByteArray := prog_16_method_22_code
def yX3_reads : MethodName := ⟨RX3, "reads", "(IIII)Z"⟩
def dkwX3_reads_1 : List UInt8 := [79, 42, 21, 4, 182, 0, 121, 172]
abbrev dktX3_reads_1 : List UInt8 := dkwX3_reads_1 ++ []
def dkwX3_reads_0 : List UInt8 := [42, 28, 29, 182, 0, 117, 154, 0, 5, 3, 172, 42, 180, 0, 7, 17, 0, 219, 27, 96, 42, 180, 0, 111]
abbrev dktX3_reads_0 : List UInt8 := dkwX3_reads_0 ++ dktX3_reads_1
theorem dksX3_reads_0 : cX3_reads.data.toList.drop 0 = dktX3_reads_0 := by decide +kernel
theorem dksX3_reads_1 : cX3_reads.data.toList.drop 24 = dktX3_reads_1 := dk_seg dksX3_reads_0 24 rfl rfl
theorem dX3_reads_0 : decode cX3_reads 0 = .ok (.aload_n 0, 1) := dk_42 (dk_at dksX3_reads_0 0 rfl rfl)
theorem dX3_reads_1 : decode cX3_reads 1 = .ok (.iload_n 2, 1) := dk_28 (dk_at dksX3_reads_0 1 rfl rfl)
theorem dX3_reads_2 : decode cX3_reads 2 = .ok (.iload_n 3, 1) := dk_29 (dk_at dksX3_reads_0 2 rfl rfl)
theorem dX3_reads_3 : decode cX3_reads 3 = .ok (.invokevirtual 117, 3) := dk_182 0 117 (dk_at dksX3_reads_0 3 rfl rfl)
theorem dX3_reads_6 : decode cX3_reads 6 = .ok (.ifCond .ne 5, 3) := dk_154 0 5 (dk_at dksX3_reads_0 6 rfl rfl)
theorem dX3_reads_9 : decode cX3_reads 9 = .ok (.iconst 0, 1) := dk_3 (dk_at dksX3_reads_0 9 rfl rfl)
theorem dX3_reads_10 : decode cX3_reads 10 = .ok (.ireturn, 1) := dk_172 (dk_at dksX3_reads_0 10 rfl rfl)
theorem dX3_reads_11 : decode cX3_reads 11 = .ok (.aload_n 0, 1) := dk_42 (dk_at dksX3_reads_0 11 rfl rfl)
theorem dX3_reads_12 : decode cX3_reads 12 = .ok (.getfield 7, 3) := dk_180 0 7 (dk_at dksX3_reads_0 12 rfl rfl)
theorem dX3_reads_15 : decode cX3_reads 15 = .ok (.sipush 219, 3) := dk_17 0 219 (dk_at dksX3_reads_0 15 rfl rfl)
theorem dX3_reads_18 : decode cX3_reads 18 = .ok (.iload_n 1, 1) := dk_27 (dk_at dksX3_reads_0 18 rfl rfl)
theorem dX3_reads_19 : decode cX3_reads 19 = .ok (.iadd, 1) := dk_96 (dk_at dksX3_reads_0 19 rfl rfl)
theorem dX3_reads_20 : decode cX3_reads 20 = .ok (.aload_n 0, 1) := dk_42 (dk_at dksX3_reads_0 20 rfl rfl)
theorem dX3_reads_21 : decode cX3_reads 21 = .ok (.getfield 111, 3) := dk_180 0 111 (dk_at dksX3_reads_0 21 rfl rfl)
theorem dX3_reads_24 : decode cX3_reads 24 = .ok (.iastore, 1) := dk_79 (dk_at dksX3_reads_1 0 rfl rfl)
theorem dX3_reads_25 : decode cX3_reads 25 = .ok (.aload_n 0, 1) := dk_42 (dk_at dksX3_reads_1 1 rfl rfl)
theorem dX3_reads_26 : decode cX3_reads 26 = .ok (.iload 4, 2) := dk_21 4 (dk_at dksX3_reads_1 2 rfl rfl)
theorem dX3_reads_28 : decode cX3_reads 28 = .ok (.invokevirtual 121, 3) := dk_182 0 121 (dk_at dksX3_reads_1 4 rfl rfl)
theorem dX3_reads_31 : decode cX3_reads 31 = .ok (.ireturn, 1) := dk_172 (dk_at dksX3_reads_1 7 rfl rfl)
abbrev cX3_takesNumber : ByteArray := prog_16_method_20_code
def yX3_takesNumber : MethodName := ⟨RX3, "takesNumber", "(II)Z"⟩
def dkwX3_takesNumber_4 : List UInt8 := [181, 0, 102, 42, 5, 181, 0, 108, 42, 180, 0, 111, 133, 27, 133, 28, 133, 184, 0, 63, 172]
abbrev dktX3_takesNumber_4 : List UInt8 := dkwX3_takesNumber_4 ++ []
def dkwX3_takesNumber_3 : List UInt8 := [132, 3, 1, 167, 255, 203, 29, 153, 0, 8, 29, 5, 164, 0, 5, 3, 172, 42, 89, 180, 0, 102, 29, 96]
abbrev dktX3_takesNumber_3 : List UInt8 := dkwX3_takesNumber_3 ++ dktX3_takesNumber_4
def dkwX3_takesNumber_2 : List UInt8 := [42, 42, 180, 0, 102, 29, 96, 182, 0, 95, 96, 16, 48, 100, 167, 0, 7, 42, 180, 0, 111, 181, 0, 111]
abbrev dktX3_takesNumber_2 : List UInt8 := dkwX3_takesNumber_2 ++ dktX3_takesNumber_3
def dkwX3_takesNumber_1 : List UInt8 := [180, 0, 102, 29, 96, 182, 0, 114, 153, 0, 46, 42, 29, 5, 162, 0, 27, 16, 10, 42, 180, 0, 111, 104]
abbrev dktX3_takesNumber_1 : List UInt8 := dkwX3_takesNumber_1 ++ dktX3_takesNumber_2
def dkwX3_takesNumber_0 : List UInt8 := [42, 42, 180, 0, 102, 181, 0, 105, 42, 4, 181, 0, 108, 3, 62, 42, 3, 181, 0, 111, 42, 42]
abbrev dktX3_takesNumber_0 : List UInt8 := dkwX3_takesNumber_0 ++ dktX3_takesNumber_1
theorem dksX3_takesNumber_0 : cX3_takesNumber.data.toList.drop 0 = dktX3_takesNumber_0 := by decide +kernel
theorem dksX3_takesNumber_1 : cX3_takesNumber.data.toList.drop 22 = dktX3_takesNumber_1 := dk_seg dksX3_takesNumber_0 22 rfl rfl
theorem dksX3_takesNumber_2 : cX3_takesNumber.data.toList.drop 46 = dktX3_takesNumber_2 := dk_seg dksX3_takesNumber_1 24 rfl rfl
theorem dksX3_takesNumber_3 : cX3_takesNumber.data.toList.drop 70 = dktX3_takesNumber_3 := dk_seg dksX3_takesNumber_2 24 rfl rfl
theorem dksX3_takesNumber_4 : cX3_takesNumber.data.toList.drop 94 = dktX3_takesNumber_4 := dk_seg dksX3_takesNumber_3 24 rfl rfl
theorem dX3_takesNumber_0 : decode cX3_takesNumber 0 = .ok (.aload_n 0, 1) := dk_42 (dk_at dksX3_takesNumber_0 0 rfl rfl)
theorem dX3_takesNumber_1 : decode cX3_takesNumber 1 = .ok (.aload_n 0, 1) := dk_42 (dk_at dksX3_takesNumber_0 1 rfl rfl)
theorem dX3_takesNumber_2 : decode cX3_takesNumber 2 = .ok (.getfield 102, 3) := dk_180 0 102 (dk_at dksX3_takesNumber_0 2 rfl rfl)
theorem dX3_takesNumber_5 : decode cX3_takesNumber 5 = .ok (.putfield 105, 3) := dk_181 0 105 (dk_at dksX3_takesNumber_0 5 rfl rfl)
theorem dX3_takesNumber_8 : decode cX3_takesNumber 8 = .ok (.aload_n 0, 1) := dk_42 (dk_at dksX3_takesNumber_0 8 rfl rfl)
theorem dX3_takesNumber_9 : decode cX3_takesNumber 9 = .ok (.iconst 1, 1) := dk_4 (dk_at dksX3_takesNumber_0 9 rfl rfl)
theorem dX3_takesNumber_10 : decode cX3_takesNumber 10 = .ok (.putfield 108, 3) := dk_181 0 108 (dk_at dksX3_takesNumber_0 10 rfl rfl)
theorem dX3_takesNumber_13 : decode cX3_takesNumber 13 = .ok (.iconst 0, 1) := dk_3 (dk_at dksX3_takesNumber_0 13 rfl rfl)
theorem dX3_takesNumber_14 : decode cX3_takesNumber 14 = .ok (.istore_n 3, 1) := dk_62 (dk_at dksX3_takesNumber_0 14 rfl rfl)
theorem dX3_takesNumber_15 : decode cX3_takesNumber 15 = .ok (.aload_n 0, 1) := dk_42 (dk_at dksX3_takesNumber_0 15 rfl rfl)
theorem dX3_takesNumber_16 : decode cX3_takesNumber 16 = .ok (.iconst 0, 1) := dk_3 (dk_at dksX3_takesNumber_0 16 rfl rfl)
theorem dX3_takesNumber_17 : decode cX3_takesNumber 17 = .ok (.putfield 111, 3) := dk_181 0 111 (dk_at dksX3_takesNumber_0 17 rfl rfl)
theorem dX3_takesNumber_20 : decode cX3_takesNumber 20 = .ok (.aload_n 0, 1) := dk_42 (dk_at dksX3_takesNumber_0 20 rfl rfl)
theorem dX3_takesNumber_21 : decode cX3_takesNumber 21 = .ok (.aload_n 0, 1) := dk_42 (dk_at dksX3_takesNumber_0 21 rfl rfl)
theorem dX3_takesNumber_22 : decode cX3_takesNumber 22 = .ok (.getfield 102, 3) := dk_180 0 102 (dk_at dksX3_takesNumber_1 0 rfl rfl)
theorem dX3_takesNumber_25 : decode cX3_takesNumber 25 = .ok (.iload_n 3, 1) := dk_29 (dk_at dksX3_takesNumber_1 3 rfl rfl)
theorem dX3_takesNumber_26 : decode cX3_takesNumber 26 = .ok (.iadd, 1) := dk_96 (dk_at dksX3_takesNumber_1 4 rfl rfl)
theorem dX3_takesNumber_27 : decode cX3_takesNumber 27 = .ok (.invokevirtual 114, 3) := dk_182 0 114 (dk_at dksX3_takesNumber_1 5 rfl rfl)
theorem dX3_takesNumber_30 : decode cX3_takesNumber 30 = .ok (.ifCond .eq 46, 3) := dk_153 0 46 (dk_at dksX3_takesNumber_1 8 rfl rfl)
theorem dX3_takesNumber_33 : decode cX3_takesNumber 33 = .ok (.aload_n 0, 1) := dk_42 (dk_at dksX3_takesNumber_1 11 rfl rfl)
theorem dX3_takesNumber_34 : decode cX3_takesNumber 34 = .ok (.iload_n 3, 1) := dk_29 (dk_at dksX3_takesNumber_1 12 rfl rfl)
theorem dX3_takesNumber_35 : decode cX3_takesNumber 35 = .ok (.iconst 2, 1) := dk_5 (dk_at dksX3_takesNumber_1 13 rfl rfl)
theorem dX3_takesNumber_36 : decode cX3_takesNumber 36 = .ok (.if_icmp .ge 27, 3) := dk_162 0 27 (dk_at dksX3_takesNumber_1 14 rfl rfl)
theorem dX3_takesNumber_39 : decode cX3_takesNumber 39 = .ok (.bipush 10, 2) := dk_16 10 (dk_at dksX3_takesNumber_1 17 rfl rfl)
theorem dX3_takesNumber_41 : decode cX3_takesNumber 41 = .ok (.aload_n 0, 1) := dk_42 (dk_at dksX3_takesNumber_1 19 rfl rfl)
theorem dX3_takesNumber_42 : decode cX3_takesNumber 42 = .ok (.getfield 111, 3) := dk_180 0 111 (dk_at dksX3_takesNumber_1 20 rfl rfl)
theorem dX3_takesNumber_45 : decode cX3_takesNumber 45 = .ok (.imul, 1) := dk_104 (dk_at dksX3_takesNumber_1 23 rfl rfl)
theorem dX3_takesNumber_46 : decode cX3_takesNumber 46 = .ok (.aload_n 0, 1) := dk_42 (dk_at dksX3_takesNumber_2 0 rfl rfl)
theorem dX3_takesNumber_47 : decode cX3_takesNumber 47 = .ok (.aload_n 0, 1) := dk_42 (dk_at dksX3_takesNumber_2 1 rfl rfl)
theorem dX3_takesNumber_48 : decode cX3_takesNumber 48 = .ok (.getfield 102, 3) := dk_180 0 102 (dk_at dksX3_takesNumber_2 2 rfl rfl)
theorem dX3_takesNumber_51 : decode cX3_takesNumber 51 = .ok (.iload_n 3, 1) := dk_29 (dk_at dksX3_takesNumber_2 5 rfl rfl)
theorem dX3_takesNumber_52 : decode cX3_takesNumber 52 = .ok (.iadd, 1) := dk_96 (dk_at dksX3_takesNumber_2 6 rfl rfl)
theorem dX3_takesNumber_53 : decode cX3_takesNumber 53 = .ok (.invokevirtual 95, 3) := dk_182 0 95 (dk_at dksX3_takesNumber_2 7 rfl rfl)
theorem dX3_takesNumber_56 : decode cX3_takesNumber 56 = .ok (.iadd, 1) := dk_96 (dk_at dksX3_takesNumber_2 10 rfl rfl)
theorem dX3_takesNumber_57 : decode cX3_takesNumber 57 = .ok (.bipush 48, 2) := dk_16 48 (dk_at dksX3_takesNumber_2 11 rfl rfl)
theorem dX3_takesNumber_59 : decode cX3_takesNumber 59 = .ok (.isub, 1) := dk_100 (dk_at dksX3_takesNumber_2 13 rfl rfl)
theorem dX3_takesNumber_60 : decode cX3_takesNumber 60 = .ok (.goto 7, 3) := dk_167 0 7 (dk_at dksX3_takesNumber_2 14 rfl rfl)
theorem dX3_takesNumber_63 : decode cX3_takesNumber 63 = .ok (.aload_n 0, 1) := dk_42 (dk_at dksX3_takesNumber_2 17 rfl rfl)
theorem dX3_takesNumber_64 : decode cX3_takesNumber 64 = .ok (.getfield 111, 3) := dk_180 0 111 (dk_at dksX3_takesNumber_2 18 rfl rfl)
theorem dX3_takesNumber_67 : decode cX3_takesNumber 67 = .ok (.putfield 111, 3) := dk_181 0 111 (dk_at dksX3_takesNumber_2 21 rfl rfl)
theorem dX3_takesNumber_70 : decode cX3_takesNumber 70 = .ok (.iinc 3 1, 3) := dk_132 3 1 (dk_at dksX3_takesNumber_3 0 rfl rfl)
theorem dX3_takesNumber_73 : decode cX3_takesNumber 73 = .ok (.goto (-53), 3) := dk_167 255 203 (dk_at dksX3_takesNumber_3 3 rfl rfl)
theorem dX3_takesNumber_76 : decode cX3_takesNumber 76 = .ok (.iload_n 3, 1) := dk_29 (dk_at dksX3_takesNumber_3 6 rfl rfl)
theorem dX3_takesNumber_77 : decode cX3_takesNumber 77 = .ok (.ifCond .eq 8, 3) := dk_153 0 8 (dk_at dksX3_takesNumber_3 7 rfl rfl)
theorem dX3_takesNumber_80 : decode cX3_takesNumber 80 = .ok (.iload_n 3, 1) := dk_29 (dk_at dksX3_takesNumber_3 10 rfl rfl)
theorem dX3_takesNumber_81 : decode cX3_takesNumber 81 = .ok (.iconst 2, 1) := dk_5 (dk_at dksX3_takesNumber_3 11 rfl rfl)
theorem dX3_takesNumber_82 : decode cX3_takesNumber 82 = .ok (.if_icmp .le 5, 3) := dk_164 0 5 (dk_at dksX3_takesNumber_3 12 rfl rfl)
theorem dX3_takesNumber_85 : decode cX3_takesNumber 85 = .ok (.iconst 0, 1) := dk_3 (dk_at dksX3_takesNumber_3 15 rfl rfl)
theorem dX3_takesNumber_86 : decode cX3_takesNumber 86 = .ok (.ireturn, 1) := dk_172 (dk_at dksX3_takesNumber_3 16 rfl rfl)
theorem dX3_takesNumber_87 : decode cX3_takesNumber 87 = .ok (.aload_n 0, 1) := dk_42 (dk_at dksX3_takesNumber_3 17 rfl rfl)
theorem dX3_takesNumber_88 : decode cX3_takesNumber 88 = .ok (.dup, 1) := dk_89 (dk_at dksX3_takesNumber_3 18 rfl rfl)
theorem dX3_takesNumber_89 : decode cX3_takesNumber 89 = .ok (.getfield 102, 3) := dk_180 0 102 (dk_at dksX3_takesNumber_3 19 rfl rfl)
theorem dX3_takesNumber_92 : decode cX3_takesNumber 92 = .ok (.iload_n 3, 1) := dk_29 (dk_at dksX3_takesNumber_3 22 rfl rfl)
theorem dX3_takesNumber_93 : decode cX3_takesNumber 93 = .ok (.iadd, 1) := dk_96 (dk_at dksX3_takesNumber_3 23 rfl rfl)
theorem dX3_takesNumber_94 : decode cX3_takesNumber 94 = .ok (.putfield 102, 3) := dk_181 0 102 (dk_at dksX3_takesNumber_4 0 rfl rfl)
theorem dX3_takesNumber_97 : decode cX3_takesNumber 97 = .ok (.aload_n 0, 1) := dk_42 (dk_at dksX3_takesNumber_4 3 rfl rfl)
theorem dX3_takesNumber_98 : decode cX3_takesNumber 98 = .ok (.iconst 2, 1) := dk_5 (dk_at dksX3_takesNumber_4 4 rfl rfl)
theorem dX3_takesNumber_99 : decode cX3_takesNumber 99 = .ok (.putfield 108, 3) := dk_181 0 108 (dk_at dksX3_takesNumber_4 5 rfl rfl)
theorem dX3_takesNumber_102 : decode cX3_takesNumber 102 = .ok (.aload_n 0, 1) := dk_42 (dk_at dksX3_takesNumber_4 8 rfl rfl)
theorem dX3_takesNumber_103 : decode cX3_takesNumber 103 = .ok (.getfield 111, 3) := dk_180 0 111 (dk_at dksX3_takesNumber_4 9 rfl rfl)
theorem dX3_takesNumber_106 : decode cX3_takesNumber 106 = .ok (.i2l, 1) := dk_133 (dk_at dksX3_takesNumber_4 12 rfl rfl)
theorem dX3_takesNumber_107 : decode cX3_takesNumber 107 = .ok (.iload_n 1, 1) := dk_27 (dk_at dksX3_takesNumber_4 13 rfl rfl)
theorem dX3_takesNumber_108 : decode cX3_takesNumber 108 = .ok (.i2l, 1) := dk_133 (dk_at dksX3_takesNumber_4 14 rfl rfl)
theorem dX3_takesNumber_109 : decode cX3_takesNumber 109 = .ok (.iload_n 2, 1) := dk_28 (dk_at dksX3_takesNumber_4 15 rfl rfl)
theorem dX3_takesNumber_110 : decode cX3_takesNumber 110 = .ok (.i2l, 1) := dk_133 (dk_at dksX3_takesNumber_4 16 rfl rfl)
theorem dX3_takesNumber_111 : decode cX3_takesNumber 111 = .ok (.invokestatic 63, 3) := dk_184 0 63 (dk_at dksX3_takesNumber_4 17 rfl rfl)
theorem dX3_takesNumber_114 : decode cX3_takesNumber 114 = .ok (.ireturn, 1) := dk_172 (dk_at dksX3_takesNumber_4 20 rfl rfl)
abbrev cX3_isFigure : ByteArray := prog_16_method_18_code
def yX3_isFigure : MethodName := ⟨RX3, "isFigure", "(I)Z"⟩
def dkwX3_isFigure_0 : List UInt8 := [42, 27, 182, 0, 95, 133, 20, 0, 98, 20, 0, 100, 184, 0, 63, 172]
abbrev dktX3_isFigure_0 : List UInt8 := dkwX3_isFigure_0 ++ []
theorem dksX3_isFigure_0 : cX3_isFigure.data.toList.drop 0 = dktX3_isFigure_0 := by decide +kernel
theorem dX3_isFigure_0 : decode cX3_isFigure 0 = .ok (.aload_n 0, 1) := dk_42 (dk_at dksX3_isFigure_0 0 rfl rfl)
theorem dX3_isFigure_1 : decode cX3_isFigure 1 = .ok (.iload_n 1, 1) := dk_27 (dk_at dksX3_isFigure_0 1 rfl rfl)
theorem dX3_isFigure_2 : decode cX3_isFigure 2 = .ok (.invokevirtual 95, 3) := dk_182 0 95 (dk_at dksX3_isFigure_0 2 rfl rfl)
theorem dX3_isFigure_5 : decode cX3_isFigure 5 = .ok (.i2l, 1) := dk_133 (dk_at dksX3_isFigure_0 5 rfl rfl)
theorem dX3_isFigure_6 : decode cX3_isFigure 6 = .ok (.ldc2_w 98, 3) := dk_20 0 98 (dk_at dksX3_isFigure_0 6 rfl rfl)
theorem dX3_isFigure_9 : decode cX3_isFigure 9 = .ok (.ldc2_w 100, 3) := dk_20 0 100 (dk_at dksX3_isFigure_0 9 rfl rfl)
theorem dX3_isFigure_12 : decode cX3_isFigure 12 = .ok (.invokestatic 63, 3) := dk_184 0 63 (dk_at dksX3_isFigure_0 12 rfl rfl)
theorem dX3_isFigure_15 : decode cX3_isFigure 15 = .ok (.ireturn, 1) := dk_172 (dk_at dksX3_isFigure_0 15 rfl rfl)
abbrev cX3_takesPerson : ByteArray := prog_16_method_25_code
def yX3_takesPerson : MethodName := ⟨RX3, "takesPerson", "()Z"⟩
def dkwX3_takesPerson_4 : List UInt8 := [153, 0, 22, 42, 16, 20, 28, 96, 3, 8, 16, 59, 182, 0, 124, 153, 0, 7, 4, 167, 0, 4, 3, 172]
abbrev dktX3_takesPerson_4 : List UInt8 := dkwX3_takesPerson_4 ++ []
def dkwX3_takesPerson_3 : List UInt8 := [180, 0, 7, 17, 0, 225, 92, 46, 4, 96, 79, 42, 16, 15, 28, 96, 4, 16, 60, 16, 44, 182, 0, 124]
abbrev dktX3_takesPerson_3 : List UInt8 := dkwX3_takesPerson_3 ++ dktX3_takesPerson_4
def dkwX3_takesPerson_2 : List UInt8 := [46, 61, 28, 8, 160, 0, 8, 42, 182, 0, 131, 172, 42, 180, 0, 7, 17, 0, 229, 28, 96, 27, 79, 42]
abbrev dktX3_takesPerson_2 : List UInt8 := dkwX3_takesPerson_2 ++ dktX3_takesPerson_3
def dkwX3_takesPerson_1 : List UInt8 := [60, 27, 154, 0, 5, 3, 172, 42, 89, 180, 0, 102, 4, 96, 181, 0, 102, 42, 180, 0, 7, 17, 0, 225]
abbrev dktX3_takesPerson_1 : List UInt8 := dkwX3_takesPerson_1 ++ dktX3_takesPerson_2
def dkwX3_takesPerson_0 : List UInt8 := [42, 42, 180, 0, 102, 181, 0, 105, 42, 4, 181, 0, 108, 42, 42, 180, 0, 102, 182, 0, 95, 184, 0, 128]
abbrev dktX3_takesPerson_0 : List UInt8 := dkwX3_takesPerson_0 ++ dktX3_takesPerson_1
theorem dksX3_takesPerson_0 : cX3_takesPerson.data.toList.drop 0 = dktX3_takesPerson_0 := by decide +kernel
theorem dksX3_takesPerson_1 : cX3_takesPerson.data.toList.drop 24 = dktX3_takesPerson_1 := dk_seg dksX3_takesPerson_0 24 rfl rfl
theorem dksX3_takesPerson_2 : cX3_takesPerson.data.toList.drop 48 = dktX3_takesPerson_2 := dk_seg dksX3_takesPerson_1 24 rfl rfl
theorem dksX3_takesPerson_3 : cX3_takesPerson.data.toList.drop 72 = dktX3_takesPerson_3 := dk_seg dksX3_takesPerson_2 24 rfl rfl
theorem dksX3_takesPerson_4 : cX3_takesPerson.data.toList.drop 96 = dktX3_takesPerson_4 := dk_seg dksX3_takesPerson_3 24 rfl rfl
theorem dX3_takesPerson_0 : decode cX3_takesPerson 0 = .ok (.aload_n 0, 1) := dk_42 (dk_at dksX3_takesPerson_0 0 rfl rfl)
theorem dX3_takesPerson_1 : decode cX3_takesPerson 1 = .ok (.aload_n 0, 1) := dk_42 (dk_at dksX3_takesPerson_0 1 rfl rfl)
theorem dX3_takesPerson_2 : decode cX3_takesPerson 2 = .ok (.getfield 102, 3) := dk_180 0 102 (dk_at dksX3_takesPerson_0 2 rfl rfl)
theorem dX3_takesPerson_5 : decode cX3_takesPerson 5 = .ok (.putfield 105, 3) := dk_181 0 105 (dk_at dksX3_takesPerson_0 5 rfl rfl)
theorem dX3_takesPerson_8 : decode cX3_takesPerson 8 = .ok (.aload_n 0, 1) := dk_42 (dk_at dksX3_takesPerson_0 8 rfl rfl)
theorem dX3_takesPerson_9 : decode cX3_takesPerson 9 = .ok (.iconst 1, 1) := dk_4 (dk_at dksX3_takesPerson_0 9 rfl rfl)
theorem dX3_takesPerson_10 : decode cX3_takesPerson 10 = .ok (.putfield 108, 3) := dk_181 0 108 (dk_at dksX3_takesPerson_0 10 rfl rfl)
theorem dX3_takesPerson_13 : decode cX3_takesPerson 13 = .ok (.aload_n 0, 1) := dk_42 (dk_at dksX3_takesPerson_0 13 rfl rfl)
theorem dX3_takesPerson_14 : decode cX3_takesPerson 14 = .ok (.aload_n 0, 1) := dk_42 (dk_at dksX3_takesPerson_0 14 rfl rfl)
theorem dX3_takesPerson_15 : decode cX3_takesPerson 15 = .ok (.getfield 102, 3) := dk_180 0 102 (dk_at dksX3_takesPerson_0 15 rfl rfl)
theorem dX3_takesPerson_18 : decode cX3_takesPerson 18 = .ok (.invokevirtual 95, 3) := dk_182 0 95 (dk_at dksX3_takesPerson_0 18 rfl rfl)
theorem dX3_takesPerson_21 : decode cX3_takesPerson 21 = .ok (.invokestatic 128, 3) := dk_184 0 128 (dk_at dksX3_takesPerson_0 21 rfl rfl)
theorem dX3_takesPerson_24 : decode cX3_takesPerson 24 = .ok (.istore_n 1, 1) := dk_60 (dk_at dksX3_takesPerson_1 0 rfl rfl)
theorem dX3_takesPerson_25 : decode cX3_takesPerson 25 = .ok (.iload_n 1, 1) := dk_27 (dk_at dksX3_takesPerson_1 1 rfl rfl)
theorem dX3_takesPerson_26 : decode cX3_takesPerson 26 = .ok (.ifCond .ne 5, 3) := dk_154 0 5 (dk_at dksX3_takesPerson_1 2 rfl rfl)
theorem dX3_takesPerson_29 : decode cX3_takesPerson 29 = .ok (.iconst 0, 1) := dk_3 (dk_at dksX3_takesPerson_1 5 rfl rfl)
theorem dX3_takesPerson_30 : decode cX3_takesPerson 30 = .ok (.ireturn, 1) := dk_172 (dk_at dksX3_takesPerson_1 6 rfl rfl)
theorem dX3_takesPerson_31 : decode cX3_takesPerson 31 = .ok (.aload_n 0, 1) := dk_42 (dk_at dksX3_takesPerson_1 7 rfl rfl)
theorem dX3_takesPerson_32 : decode cX3_takesPerson 32 = .ok (.dup, 1) := dk_89 (dk_at dksX3_takesPerson_1 8 rfl rfl)
theorem dX3_takesPerson_33 : decode cX3_takesPerson 33 = .ok (.getfield 102, 3) := dk_180 0 102 (dk_at dksX3_takesPerson_1 9 rfl rfl)
theorem dX3_takesPerson_36 : decode cX3_takesPerson 36 = .ok (.iconst 1, 1) := dk_4 (dk_at dksX3_takesPerson_1 12 rfl rfl)
theorem dX3_takesPerson_37 : decode cX3_takesPerson 37 = .ok (.iadd, 1) := dk_96 (dk_at dksX3_takesPerson_1 13 rfl rfl)
theorem dX3_takesPerson_38 : decode cX3_takesPerson 38 = .ok (.putfield 102, 3) := dk_181 0 102 (dk_at dksX3_takesPerson_1 14 rfl rfl)
theorem dX3_takesPerson_41 : decode cX3_takesPerson 41 = .ok (.aload_n 0, 1) := dk_42 (dk_at dksX3_takesPerson_1 17 rfl rfl)
theorem dX3_takesPerson_42 : decode cX3_takesPerson 42 = .ok (.getfield 7, 3) := dk_180 0 7 (dk_at dksX3_takesPerson_1 18 rfl rfl)
theorem dX3_takesPerson_45 : decode cX3_takesPerson 45 = .ok (.sipush 225, 3) := dk_17 0 225 (dk_at dksX3_takesPerson_1 21 rfl rfl)
theorem dX3_takesPerson_48 : decode cX3_takesPerson 48 = .ok (.iaload, 1) := dk_46 (dk_at dksX3_takesPerson_2 0 rfl rfl)
theorem dX3_takesPerson_49 : decode cX3_takesPerson 49 = .ok (.istore_n 2, 1) := dk_61 (dk_at dksX3_takesPerson_2 1 rfl rfl)
theorem dX3_takesPerson_50 : decode cX3_takesPerson 50 = .ok (.iload_n 2, 1) := dk_28 (dk_at dksX3_takesPerson_2 2 rfl rfl)
theorem dX3_takesPerson_51 : decode cX3_takesPerson 51 = .ok (.iconst 5, 1) := dk_8 (dk_at dksX3_takesPerson_2 3 rfl rfl)
theorem dX3_takesPerson_52 : decode cX3_takesPerson 52 = .ok (.if_icmp .ne 8, 3) := dk_160 0 8 (dk_at dksX3_takesPerson_2 4 rfl rfl)
theorem dX3_takesPerson_55 : decode cX3_takesPerson 55 = .ok (.aload_n 0, 1) := dk_42 (dk_at dksX3_takesPerson_2 7 rfl rfl)
theorem dX3_takesPerson_56 : decode cX3_takesPerson 56 = .ok (.invokevirtual 131, 3) := dk_182 0 131 (dk_at dksX3_takesPerson_2 8 rfl rfl)
theorem dX3_takesPerson_59 : decode cX3_takesPerson 59 = .ok (.ireturn, 1) := dk_172 (dk_at dksX3_takesPerson_2 11 rfl rfl)
theorem dX3_takesPerson_60 : decode cX3_takesPerson 60 = .ok (.aload_n 0, 1) := dk_42 (dk_at dksX3_takesPerson_2 12 rfl rfl)
theorem dX3_takesPerson_61 : decode cX3_takesPerson 61 = .ok (.getfield 7, 3) := dk_180 0 7 (dk_at dksX3_takesPerson_2 13 rfl rfl)
theorem dX3_takesPerson_64 : decode cX3_takesPerson 64 = .ok (.sipush 229, 3) := dk_17 0 229 (dk_at dksX3_takesPerson_2 16 rfl rfl)
theorem dX3_takesPerson_67 : decode cX3_takesPerson 67 = .ok (.iload_n 2, 1) := dk_28 (dk_at dksX3_takesPerson_2 19 rfl rfl)
theorem dX3_takesPerson_68 : decode cX3_takesPerson 68 = .ok (.iadd, 1) := dk_96 (dk_at dksX3_takesPerson_2 20 rfl rfl)
theorem dX3_takesPerson_69 : decode cX3_takesPerson 69 = .ok (.iload_n 1, 1) := dk_27 (dk_at dksX3_takesPerson_2 21 rfl rfl)
theorem dX3_takesPerson_70 : decode cX3_takesPerson 70 = .ok (.iastore, 1) := dk_79 (dk_at dksX3_takesPerson_2 22 rfl rfl)
theorem dX3_takesPerson_71 : decode cX3_takesPerson 71 = .ok (.aload_n 0, 1) := dk_42 (dk_at dksX3_takesPerson_2 23 rfl rfl)
theorem dX3_takesPerson_72 : decode cX3_takesPerson 72 = .ok (.getfield 7, 3) := dk_180 0 7 (dk_at dksX3_takesPerson_3 0 rfl rfl)
theorem dX3_takesPerson_75 : decode cX3_takesPerson 75 = .ok (.sipush 225, 3) := dk_17 0 225 (dk_at dksX3_takesPerson_3 3 rfl rfl)
theorem dX3_takesPerson_78 : decode cX3_takesPerson 78 = .ok (.dup2, 1) := dk_92 (dk_at dksX3_takesPerson_3 6 rfl rfl)
theorem dX3_takesPerson_79 : decode cX3_takesPerson 79 = .ok (.iaload, 1) := dk_46 (dk_at dksX3_takesPerson_3 7 rfl rfl)
theorem dX3_takesPerson_80 : decode cX3_takesPerson 80 = .ok (.iconst 1, 1) := dk_4 (dk_at dksX3_takesPerson_3 8 rfl rfl)
theorem dX3_takesPerson_81 : decode cX3_takesPerson 81 = .ok (.iadd, 1) := dk_96 (dk_at dksX3_takesPerson_3 9 rfl rfl)
theorem dX3_takesPerson_82 : decode cX3_takesPerson 82 = .ok (.iastore, 1) := dk_79 (dk_at dksX3_takesPerson_3 10 rfl rfl)
theorem dX3_takesPerson_83 : decode cX3_takesPerson 83 = .ok (.aload_n 0, 1) := dk_42 (dk_at dksX3_takesPerson_3 11 rfl rfl)
theorem dX3_takesPerson_84 : decode cX3_takesPerson 84 = .ok (.bipush 15, 2) := dk_16 15 (dk_at dksX3_takesPerson_3 12 rfl rfl)
theorem dX3_takesPerson_86 : decode cX3_takesPerson 86 = .ok (.iload_n 2, 1) := dk_28 (dk_at dksX3_takesPerson_3 14 rfl rfl)
theorem dX3_takesPerson_87 : decode cX3_takesPerson 87 = .ok (.iadd, 1) := dk_96 (dk_at dksX3_takesPerson_3 15 rfl rfl)
theorem dX3_takesPerson_88 : decode cX3_takesPerson 88 = .ok (.iconst 1, 1) := dk_4 (dk_at dksX3_takesPerson_3 16 rfl rfl)
theorem dX3_takesPerson_89 : decode cX3_takesPerson 89 = .ok (.bipush 60, 2) := dk_16 60 (dk_at dksX3_takesPerson_3 17 rfl rfl)
theorem dX3_takesPerson_91 : decode cX3_takesPerson 91 = .ok (.bipush 44, 2) := dk_16 44 (dk_at dksX3_takesPerson_3 19 rfl rfl)
theorem dX3_takesPerson_93 : decode cX3_takesPerson 93 = .ok (.invokevirtual 124, 3) := dk_182 0 124 (dk_at dksX3_takesPerson_3 21 rfl rfl)
theorem dX3_takesPerson_96 : decode cX3_takesPerson 96 = .ok (.ifCond .eq 22, 3) := dk_153 0 22 (dk_at dksX3_takesPerson_4 0 rfl rfl)
theorem dX3_takesPerson_99 : decode cX3_takesPerson 99 = .ok (.aload_n 0, 1) := dk_42 (dk_at dksX3_takesPerson_4 3 rfl rfl)
theorem dX3_takesPerson_100 : decode cX3_takesPerson 100 = .ok (.bipush 20, 2) := dk_16 20 (dk_at dksX3_takesPerson_4 4 rfl rfl)
theorem dX3_takesPerson_102 : decode cX3_takesPerson 102 = .ok (.iload_n 2, 1) := dk_28 (dk_at dksX3_takesPerson_4 6 rfl rfl)
theorem dX3_takesPerson_103 : decode cX3_takesPerson 103 = .ok (.iadd, 1) := dk_96 (dk_at dksX3_takesPerson_4 7 rfl rfl)
theorem dX3_takesPerson_104 : decode cX3_takesPerson 104 = .ok (.iconst 0, 1) := dk_3 (dk_at dksX3_takesPerson_4 8 rfl rfl)
theorem dX3_takesPerson_105 : decode cX3_takesPerson 105 = .ok (.iconst 5, 1) := dk_8 (dk_at dksX3_takesPerson_4 9 rfl rfl)
theorem dX3_takesPerson_106 : decode cX3_takesPerson 106 = .ok (.bipush 59, 2) := dk_16 59 (dk_at dksX3_takesPerson_4 10 rfl rfl)
theorem dX3_takesPerson_108 : decode cX3_takesPerson 108 = .ok (.invokevirtual 124, 3) := dk_182 0 124 (dk_at dksX3_takesPerson_4 12 rfl rfl)
theorem dX3_takesPerson_111 : decode cX3_takesPerson 111 = .ok (.ifCond .eq 7, 3) := dk_153 0 7 (dk_at dksX3_takesPerson_4 15 rfl rfl)
theorem dX3_takesPerson_114 : decode cX3_takesPerson 114 = .ok (.iconst 1, 1) := dk_4 (dk_at dksX3_takesPerson_4 18 rfl rfl)
theorem dX3_takesPerson_115 : decode cX3_takesPerson 115 = .ok (.goto 4, 3) := dk_167 0 4 (dk_at dksX3_takesPerson_4 19 rfl rfl)
theorem dX3_takesPerson_118 : decode cX3_takesPerson 118 = .ok (.iconst 0, 1) := dk_3 (dk_at dksX3_takesPerson_4 22 rfl rfl)
theorem dX3_takesPerson_119 : decode cX3_takesPerson 119 = .ok (.ireturn, 1) := dk_172 (dk_at dksX3_takesPerson_4 23 rfl rfl)
abbrev cX3_sortOf : ByteArray := prog_16_method_24_code
def yX3_sortOf : MethodName := ⟨RX3, "sortOf", "(I)I"⟩
def dkwX3_sortOf_2 : List UInt8 := [167, 0, 4, 3, 172]
abbrev dktX3_sortOf_2 : List UInt8 := dkwX3_sortOf_2 ++ []
def dkwX3_sortOf_1 : List UInt8 := [160, 0, 7, 6, 167, 0, 24, 26, 16, 107, 160, 0, 7, 7, 167, 0, 14, 26, 16, 108, 160, 0, 7, 8]
abbrev dktX3_sortOf_1 : List UInt8 := dkwX3_sortOf_1 ++ dktX3_sortOf_2
def dkwX3_sortOf_0 : List UInt8 := [26, 16, 103, 160, 0, 7, 4, 167, 0, 44, 26, 16, 99, 160, 0, 7, 5, 167, 0, 34, 26, 16, 118]
abbrev dktX3_sortOf_0 : List UInt8 := dkwX3_sortOf_0 ++ dktX3_sortOf_1
theorem dksX3_sortOf_0 : cX3_sortOf.data.toList.drop 0 = dktX3_sortOf_0 := by decide +kernel
theorem dksX3_sortOf_1 : cX3_sortOf.data.toList.drop 23 = dktX3_sortOf_1 := dk_seg dksX3_sortOf_0 23 rfl rfl
theorem dksX3_sortOf_2 : cX3_sortOf.data.toList.drop 47 = dktX3_sortOf_2 := dk_seg dksX3_sortOf_1 24 rfl rfl
theorem dX3_sortOf_0 : decode cX3_sortOf 0 = .ok (.iload_n 0, 1) := dk_26 (dk_at dksX3_sortOf_0 0 rfl rfl)
theorem dX3_sortOf_1 : decode cX3_sortOf 1 = .ok (.bipush 103, 2) := dk_16 103 (dk_at dksX3_sortOf_0 1 rfl rfl)
theorem dX3_sortOf_3 : decode cX3_sortOf 3 = .ok (.if_icmp .ne 7, 3) := dk_160 0 7 (dk_at dksX3_sortOf_0 3 rfl rfl)
theorem dX3_sortOf_6 : decode cX3_sortOf 6 = .ok (.iconst 1, 1) := dk_4 (dk_at dksX3_sortOf_0 6 rfl rfl)
theorem dX3_sortOf_7 : decode cX3_sortOf 7 = .ok (.goto 44, 3) := dk_167 0 44 (dk_at dksX3_sortOf_0 7 rfl rfl)
theorem dX3_sortOf_10 : decode cX3_sortOf 10 = .ok (.iload_n 0, 1) := dk_26 (dk_at dksX3_sortOf_0 10 rfl rfl)
theorem dX3_sortOf_11 : decode cX3_sortOf 11 = .ok (.bipush 99, 2) := dk_16 99 (dk_at dksX3_sortOf_0 11 rfl rfl)
theorem dX3_sortOf_13 : decode cX3_sortOf 13 = .ok (.if_icmp .ne 7, 3) := dk_160 0 7 (dk_at dksX3_sortOf_0 13 rfl rfl)
theorem dX3_sortOf_16 : decode cX3_sortOf 16 = .ok (.iconst 2, 1) := dk_5 (dk_at dksX3_sortOf_0 16 rfl rfl)
theorem dX3_sortOf_17 : decode cX3_sortOf 17 = .ok (.goto 34, 3) := dk_167 0 34 (dk_at dksX3_sortOf_0 17 rfl rfl)
theorem dX3_sortOf_20 : decode cX3_sortOf 20 = .ok (.iload_n 0, 1) := dk_26 (dk_at dksX3_sortOf_0 20 rfl rfl)
theorem dX3_sortOf_21 : decode cX3_sortOf 21 = .ok (.bipush 118, 2) := dk_16 118 (dk_at dksX3_sortOf_0 21 rfl rfl)
theorem dX3_sortOf_23 : decode cX3_sortOf 23 = .ok (.if_icmp .ne 7, 3) := dk_160 0 7 (dk_at dksX3_sortOf_1 0 rfl rfl)
theorem dX3_sortOf_26 : decode cX3_sortOf 26 = .ok (.iconst 3, 1) := dk_6 (dk_at dksX3_sortOf_1 3 rfl rfl)
theorem dX3_sortOf_27 : decode cX3_sortOf 27 = .ok (.goto 24, 3) := dk_167 0 24 (dk_at dksX3_sortOf_1 4 rfl rfl)
theorem dX3_sortOf_30 : decode cX3_sortOf 30 = .ok (.iload_n 0, 1) := dk_26 (dk_at dksX3_sortOf_1 7 rfl rfl)
theorem dX3_sortOf_31 : decode cX3_sortOf 31 = .ok (.bipush 107, 2) := dk_16 107 (dk_at dksX3_sortOf_1 8 rfl rfl)
theorem dX3_sortOf_33 : decode cX3_sortOf 33 = .ok (.if_icmp .ne 7, 3) := dk_160 0 7 (dk_at dksX3_sortOf_1 10 rfl rfl)
theorem dX3_sortOf_36 : decode cX3_sortOf 36 = .ok (.iconst 4, 1) := dk_7 (dk_at dksX3_sortOf_1 13 rfl rfl)
theorem dX3_sortOf_37 : decode cX3_sortOf 37 = .ok (.goto 14, 3) := dk_167 0 14 (dk_at dksX3_sortOf_1 14 rfl rfl)
theorem dX3_sortOf_40 : decode cX3_sortOf 40 = .ok (.iload_n 0, 1) := dk_26 (dk_at dksX3_sortOf_1 17 rfl rfl)
theorem dX3_sortOf_41 : decode cX3_sortOf 41 = .ok (.bipush 108, 2) := dk_16 108 (dk_at dksX3_sortOf_1 18 rfl rfl)
theorem dX3_sortOf_43 : decode cX3_sortOf 43 = .ok (.if_icmp .ne 7, 3) := dk_160 0 7 (dk_at dksX3_sortOf_1 20 rfl rfl)
theorem dX3_sortOf_46 : decode cX3_sortOf 46 = .ok (.iconst 5, 1) := dk_8 (dk_at dksX3_sortOf_1 23 rfl rfl)
theorem dX3_sortOf_47 : decode cX3_sortOf 47 = .ok (.goto 4, 3) := dk_167 0 4 (dk_at dksX3_sortOf_2 0 rfl rfl)
theorem dX3_sortOf_50 : decode cX3_sortOf 50 = .ok (.iconst 0, 1) := dk_3 (dk_at dksX3_sortOf_2 3 rfl rfl)
theorem dX3_sortOf_51 : decode cX3_sortOf 51 = .ok (.ireturn, 1) := dk_172 (dk_at dksX3_sortOf_2 4 rfl rfl)
abbrev cX3_isMore : ByteArray := prog_16_method_21_code
def yX3_isMore : MethodName := ⟨RX3, "isMore", "()Z"⟩
def dkwX3_isMore_0 : List UInt8 := [42, 42, 180, 0, 102, 4, 100, 181, 0, 105, 42, 6, 181, 0, 108, 3, 172]
abbrev dktX3_isMore_0 : List UInt8 := dkwX3_isMore_0 ++ []
theorem dksX3_isMore_0 : cX3_isMore.data.toList.drop 0 = dktX3_isMore_0 := by decide +kernel
theorem dX3_isMore_0 : decode cX3_isMore 0 = .ok (.aload_n 0, 1) := dk_42 (dk_at dksX3_isMore_0 0 rfl rfl)
theorem dX3_isMore_1 : decode cX3_isMore 1 = .ok (.aload_n 0, 1) := dk_42 (dk_at dksX3_isMore_0 1 rfl rfl)
theorem dX3_isMore_2 : decode cX3_isMore 2 = .ok (.getfield 102, 3) := dk_180 0 102 (dk_at dksX3_isMore_0 2 rfl rfl)
theorem dX3_isMore_5 : decode cX3_isMore 5 = .ok (.iconst 1, 1) := dk_4 (dk_at dksX3_isMore_0 5 rfl rfl)
theorem dX3_isMore_6 : decode cX3_isMore 6 = .ok (.isub, 1) := dk_100 (dk_at dksX3_isMore_0 6 rfl rfl)
theorem dX3_isMore_7 : decode cX3_isMore 7 = .ok (.putfield 105, 3) := dk_181 0 105 (dk_at dksX3_isMore_0 7 rfl rfl)
theorem dX3_isMore_10 : decode cX3_isMore 10 = .ok (.aload_n 0, 1) := dk_42 (dk_at dksX3_isMore_0 10 rfl rfl)
theorem dX3_isMore_11 : decode cX3_isMore 11 = .ok (.iconst 3, 1) := dk_6 (dk_at dksX3_isMore_0 11 rfl rfl)
theorem dX3_isMore_12 : decode cX3_isMore 12 = .ok (.putfield 108, 3) := dk_181 0 108 (dk_at dksX3_isMore_0 12 rfl rfl)
theorem dX3_isMore_15 : decode cX3_isMore 15 = .ok (.iconst 0, 1) := dk_3 (dk_at dksX3_isMore_0 15 rfl rfl)
theorem dX3_isMore_16 : decode cX3_isMore 16 = .ok (.ireturn, 1) := dk_172 (dk_at dksX3_isMore_0 16 rfl rfl)
abbrev cX3_takesPromise : ByteArray := prog_16_method_26_code
def yX3_takesPromise : MethodName := ⟨RX3, "takesPromise", "()Z"⟩
def dkwX3_takesPromise_7 : List UInt8 := [153, 0, 7, 4, 167, 0, 4, 3, 172]
abbrev dktX3_takesPromise_7 : List UInt8 := dkwX3_takesPromise_7 ++ []
def dkwX3_takesPromise_6 : List UInt8 := [3, 16, 99, 16, 44, 182, 0, 124, 153, 0, 22, 42, 16, 57, 27, 96, 3, 8, 16, 59, 182, 0, 124]
abbrev dktX3_takesPromise_6 : List UInt8 := dkwX3_takesPromise_6 ++ dktX3_takesPromise_7
def dkwX3_takesPromise_5 : List UInt8 := [153, 0, 54, 42, 16, 41, 27, 96, 4, 16, 20, 16, 44, 182, 0, 124, 153, 0, 38, 42, 16, 49, 27, 96]
abbrev dktX3_takesPromise_5 : List UInt8 := dkwX3_takesPromise_5 ++ dktX3_takesPromise_6
def dkwX3_takesPromise_4 : List UInt8 := [180, 0, 111, 79, 42, 180, 0, 7, 17, 0, 226, 92, 46, 4, 96, 79, 42, 16, 44, 182, 0, 121]
abbrev dktX3_takesPromise_4 : List UInt8 := dkwX3_takesPromise_4 ++ dktX3_takesPromise_5
def dkwX3_takesPromise_3 : List UInt8 := [180, 0, 7, 17, 0, 244, 27, 96, 46, 160, 0, 5, 3, 172, 42, 180, 0, 7, 17, 0, 252, 27, 96, 42]
abbrev dktX3_takesPromise_3 : List UInt8 := dkwX3_takesPromise_3 ++ dktX3_takesPromise_4
def dkwX3_takesPromise_2 : List UInt8 := [3, 28, 16, 44, 182, 0, 124, 153, 0, 29, 42, 3, 28, 182, 0, 117, 153, 0, 20, 42, 180, 0, 111, 42]
abbrev dktX3_takesPromise_2 : List UInt8 := dkwX3_takesPromise_2 ++ dktX3_takesPromise_3
def dkwX3_takesPromise_1 : List UInt8 := [160, 0, 8, 42, 182, 0, 131, 172, 42, 180, 0, 7, 17, 0, 225, 46, 4, 100, 61, 42, 16, 25, 27, 96]
abbrev dktX3_takesPromise_1 : List UInt8 := dkwX3_takesPromise_1 ++ dktX3_takesPromise_2
def dkwX3_takesPromise_0 : List UInt8 := [42, 16, 109, 182, 0, 121, 154, 0, 5, 3, 172, 42, 180, 0, 7, 17, 0, 226, 46, 60, 27, 16, 8]
abbrev dktX3_takesPromise_0 : List UInt8 := dkwX3_takesPromise_0 ++ dktX3_takesPromise_1
theorem dksX3_takesPromise_0 : cX3_takesPromise.data.toList.drop 0 = dktX3_takesPromise_0 := by decide +kernel
theorem dksX3_takesPromise_1 : cX3_takesPromise.data.toList.drop 23 = dktX3_takesPromise_1 := dk_seg dksX3_takesPromise_0 23 rfl rfl
theorem dksX3_takesPromise_2 : cX3_takesPromise.data.toList.drop 47 = dktX3_takesPromise_2 := dk_seg dksX3_takesPromise_1 24 rfl rfl
theorem dksX3_takesPromise_3 : cX3_takesPromise.data.toList.drop 71 = dktX3_takesPromise_3 := dk_seg dksX3_takesPromise_2 24 rfl rfl
theorem dksX3_takesPromise_4 : cX3_takesPromise.data.toList.drop 95 = dktX3_takesPromise_4 := dk_seg dksX3_takesPromise_3 24 rfl rfl
theorem dksX3_takesPromise_5 : cX3_takesPromise.data.toList.drop 117 = dktX3_takesPromise_5 := dk_seg dksX3_takesPromise_4 22 rfl rfl
theorem dksX3_takesPromise_6 : cX3_takesPromise.data.toList.drop 141 = dktX3_takesPromise_6 := dk_seg dksX3_takesPromise_5 24 rfl rfl
theorem dksX3_takesPromise_7 : cX3_takesPromise.data.toList.drop 164 = dktX3_takesPromise_7 := dk_seg dksX3_takesPromise_6 23 rfl rfl
theorem dX3_takesPromise_0 : decode cX3_takesPromise 0 = .ok (.aload_n 0, 1) := dk_42 (dk_at dksX3_takesPromise_0 0 rfl rfl)
theorem dX3_takesPromise_1 : decode cX3_takesPromise 1 = .ok (.bipush 109, 2) := dk_16 109 (dk_at dksX3_takesPromise_0 1 rfl rfl)
theorem dX3_takesPromise_3 : decode cX3_takesPromise 3 = .ok (.invokevirtual 121, 3) := dk_182 0 121 (dk_at dksX3_takesPromise_0 3 rfl rfl)
theorem dX3_takesPromise_6 : decode cX3_takesPromise 6 = .ok (.ifCond .ne 5, 3) := dk_154 0 5 (dk_at dksX3_takesPromise_0 6 rfl rfl)
theorem dX3_takesPromise_9 : decode cX3_takesPromise 9 = .ok (.iconst 0, 1) := dk_3 (dk_at dksX3_takesPromise_0 9 rfl rfl)
theorem dX3_takesPromise_10 : decode cX3_takesPromise 10 = .ok (.ireturn, 1) := dk_172 (dk_at dksX3_takesPromise_0 10 rfl rfl)
theorem dX3_takesPromise_11 : decode cX3_takesPromise 11 = .ok (.aload_n 0, 1) := dk_42 (dk_at dksX3_takesPromise_0 11 rfl rfl)
theorem dX3_takesPromise_12 : decode cX3_takesPromise 12 = .ok (.getfield 7, 3) := dk_180 0 7 (dk_at dksX3_takesPromise_0 12 rfl rfl)
theorem dX3_takesPromise_15 : decode cX3_takesPromise 15 = .ok (.sipush 226, 3) := dk_17 0 226 (dk_at dksX3_takesPromise_0 15 rfl rfl)
theorem dX3_takesPromise_18 : decode cX3_takesPromise 18 = .ok (.iaload, 1) := dk_46 (dk_at dksX3_takesPromise_0 18 rfl rfl)
theorem dX3_takesPromise_19 : decode cX3_takesPromise 19 = .ok (.istore_n 1, 1) := dk_60 (dk_at dksX3_takesPromise_0 19 rfl rfl)
theorem dX3_takesPromise_20 : decode cX3_takesPromise 20 = .ok (.iload_n 1, 1) := dk_27 (dk_at dksX3_takesPromise_0 20 rfl rfl)
theorem dX3_takesPromise_21 : decode cX3_takesPromise 21 = .ok (.bipush 8, 2) := dk_16 8 (dk_at dksX3_takesPromise_0 21 rfl rfl)
theorem dX3_takesPromise_23 : decode cX3_takesPromise 23 = .ok (.if_icmp .ne 8, 3) := dk_160 0 8 (dk_at dksX3_takesPromise_1 0 rfl rfl)
theorem dX3_takesPromise_26 : decode cX3_takesPromise 26 = .ok (.aload_n 0, 1) := dk_42 (dk_at dksX3_takesPromise_1 3 rfl rfl)
theorem dX3_takesPromise_27 : decode cX3_takesPromise 27 = .ok (.invokevirtual 131, 3) := dk_182 0 131 (dk_at dksX3_takesPromise_1 4 rfl rfl)
theorem dX3_takesPromise_30 : decode cX3_takesPromise 30 = .ok (.ireturn, 1) := dk_172 (dk_at dksX3_takesPromise_1 7 rfl rfl)
theorem dX3_takesPromise_31 : decode cX3_takesPromise 31 = .ok (.aload_n 0, 1) := dk_42 (dk_at dksX3_takesPromise_1 8 rfl rfl)
theorem dX3_takesPromise_32 : decode cX3_takesPromise 32 = .ok (.getfield 7, 3) := dk_180 0 7 (dk_at dksX3_takesPromise_1 9 rfl rfl)
theorem dX3_takesPromise_35 : decode cX3_takesPromise 35 = .ok (.sipush 225, 3) := dk_17 0 225 (dk_at dksX3_takesPromise_1 12 rfl rfl)
theorem dX3_takesPromise_38 : decode cX3_takesPromise 38 = .ok (.iaload, 1) := dk_46 (dk_at dksX3_takesPromise_1 15 rfl rfl)
theorem dX3_takesPromise_39 : decode cX3_takesPromise 39 = .ok (.iconst 1, 1) := dk_4 (dk_at dksX3_takesPromise_1 16 rfl rfl)
theorem dX3_takesPromise_40 : decode cX3_takesPromise 40 = .ok (.isub, 1) := dk_100 (dk_at dksX3_takesPromise_1 17 rfl rfl)
theorem dX3_takesPromise_41 : decode cX3_takesPromise 41 = .ok (.istore_n 2, 1) := dk_61 (dk_at dksX3_takesPromise_1 18 rfl rfl)
theorem dX3_takesPromise_42 : decode cX3_takesPromise 42 = .ok (.aload_n 0, 1) := dk_42 (dk_at dksX3_takesPromise_1 19 rfl rfl)
theorem dX3_takesPromise_43 : decode cX3_takesPromise 43 = .ok (.bipush 25, 2) := dk_16 25 (dk_at dksX3_takesPromise_1 20 rfl rfl)
theorem dX3_takesPromise_45 : decode cX3_takesPromise 45 = .ok (.iload_n 1, 1) := dk_27 (dk_at dksX3_takesPromise_1 22 rfl rfl)
theorem dX3_takesPromise_46 : decode cX3_takesPromise 46 = .ok (.iadd, 1) := dk_96 (dk_at dksX3_takesPromise_1 23 rfl rfl)
theorem dX3_takesPromise_47 : decode cX3_takesPromise 47 = .ok (.iconst 0, 1) := dk_3 (dk_at dksX3_takesPromise_2 0 rfl rfl)
theorem dX3_takesPromise_48 : decode cX3_takesPromise 48 = .ok (.iload_n 2, 1) := dk_28 (dk_at dksX3_takesPromise_2 1 rfl rfl)
theorem dX3_takesPromise_49 : decode cX3_takesPromise 49 = .ok (.bipush 44, 2) := dk_16 44 (dk_at dksX3_takesPromise_2 2 rfl rfl)
theorem dX3_takesPromise_51 : decode cX3_takesPromise 51 = .ok (.invokevirtual 124, 3) := dk_182 0 124 (dk_at dksX3_takesPromise_2 4 rfl rfl)
theorem dX3_takesPromise_54 : decode cX3_takesPromise 54 = .ok (.ifCond .eq 29, 3) := dk_153 0 29 (dk_at dksX3_takesPromise_2 7 rfl rfl)
theorem dX3_takesPromise_57 : decode cX3_takesPromise 57 = .ok (.aload_n 0, 1) := dk_42 (dk_at dksX3_takesPromise_2 10 rfl rfl)
theorem dX3_takesPromise_58 : decode cX3_takesPromise 58 = .ok (.iconst 0, 1) := dk_3 (dk_at dksX3_takesPromise_2 11 rfl rfl)
theorem dX3_takesPromise_59 : decode cX3_takesPromise 59 = .ok (.iload_n 2, 1) := dk_28 (dk_at dksX3_takesPromise_2 12 rfl rfl)
theorem dX3_takesPromise_60 : decode cX3_takesPromise 60 = .ok (.invokevirtual 117, 3) := dk_182 0 117 (dk_at dksX3_takesPromise_2 13 rfl rfl)
theorem dX3_takesPromise_63 : decode cX3_takesPromise 63 = .ok (.ifCond .eq 20, 3) := dk_153 0 20 (dk_at dksX3_takesPromise_2 16 rfl rfl)
theorem dX3_takesPromise_66 : decode cX3_takesPromise 66 = .ok (.aload_n 0, 1) := dk_42 (dk_at dksX3_takesPromise_2 19 rfl rfl)
theorem dX3_takesPromise_67 : decode cX3_takesPromise 67 = .ok (.getfield 111, 3) := dk_180 0 111 (dk_at dksX3_takesPromise_2 20 rfl rfl)
theorem dX3_takesPromise_70 : decode cX3_takesPromise 70 = .ok (.aload_n 0, 1) := dk_42 (dk_at dksX3_takesPromise_2 23 rfl rfl)
theorem dX3_takesPromise_71 : decode cX3_takesPromise 71 = .ok (.getfield 7, 3) := dk_180 0 7 (dk_at dksX3_takesPromise_3 0 rfl rfl)
theorem dX3_takesPromise_74 : decode cX3_takesPromise 74 = .ok (.sipush 244, 3) := dk_17 0 244 (dk_at dksX3_takesPromise_3 3 rfl rfl)
theorem dX3_takesPromise_77 : decode cX3_takesPromise 77 = .ok (.iload_n 1, 1) := dk_27 (dk_at dksX3_takesPromise_3 6 rfl rfl)
theorem dX3_takesPromise_78 : decode cX3_takesPromise 78 = .ok (.iadd, 1) := dk_96 (dk_at dksX3_takesPromise_3 7 rfl rfl)
theorem dX3_takesPromise_79 : decode cX3_takesPromise 79 = .ok (.iaload, 1) := dk_46 (dk_at dksX3_takesPromise_3 8 rfl rfl)
theorem dX3_takesPromise_80 : decode cX3_takesPromise 80 = .ok (.if_icmp .ne 5, 3) := dk_160 0 5 (dk_at dksX3_takesPromise_3 9 rfl rfl)
theorem dX3_takesPromise_83 : decode cX3_takesPromise 83 = .ok (.iconst 0, 1) := dk_3 (dk_at dksX3_takesPromise_3 12 rfl rfl)
theorem dX3_takesPromise_84 : decode cX3_takesPromise 84 = .ok (.ireturn, 1) := dk_172 (dk_at dksX3_takesPromise_3 13 rfl rfl)
theorem dX3_takesPromise_85 : decode cX3_takesPromise 85 = .ok (.aload_n 0, 1) := dk_42 (dk_at dksX3_takesPromise_3 14 rfl rfl)
theorem dX3_takesPromise_86 : decode cX3_takesPromise 86 = .ok (.getfield 7, 3) := dk_180 0 7 (dk_at dksX3_takesPromise_3 15 rfl rfl)
theorem dX3_takesPromise_89 : decode cX3_takesPromise 89 = .ok (.sipush 252, 3) := dk_17 0 252 (dk_at dksX3_takesPromise_3 18 rfl rfl)
theorem dX3_takesPromise_92 : decode cX3_takesPromise 92 = .ok (.iload_n 1, 1) := dk_27 (dk_at dksX3_takesPromise_3 21 rfl rfl)
theorem dX3_takesPromise_93 : decode cX3_takesPromise 93 = .ok (.iadd, 1) := dk_96 (dk_at dksX3_takesPromise_3 22 rfl rfl)
theorem dX3_takesPromise_94 : decode cX3_takesPromise 94 = .ok (.aload_n 0, 1) := dk_42 (dk_at dksX3_takesPromise_3 23 rfl rfl)
theorem dX3_takesPromise_95 : decode cX3_takesPromise 95 = .ok (.getfield 111, 3) := dk_180 0 111 (dk_at dksX3_takesPromise_4 0 rfl rfl)
theorem dX3_takesPromise_98 : decode cX3_takesPromise 98 = .ok (.iastore, 1) := dk_79 (dk_at dksX3_takesPromise_4 3 rfl rfl)
theorem dX3_takesPromise_99 : decode cX3_takesPromise 99 = .ok (.aload_n 0, 1) := dk_42 (dk_at dksX3_takesPromise_4 4 rfl rfl)
theorem dX3_takesPromise_100 : decode cX3_takesPromise 100 = .ok (.getfield 7, 3) := dk_180 0 7 (dk_at dksX3_takesPromise_4 5 rfl rfl)
theorem dX3_takesPromise_103 : decode cX3_takesPromise 103 = .ok (.sipush 226, 3) := dk_17 0 226 (dk_at dksX3_takesPromise_4 8 rfl rfl)
theorem dX3_takesPromise_106 : decode cX3_takesPromise 106 = .ok (.dup2, 1) := dk_92 (dk_at dksX3_takesPromise_4 11 rfl rfl)
theorem dX3_takesPromise_107 : decode cX3_takesPromise 107 = .ok (.iaload, 1) := dk_46 (dk_at dksX3_takesPromise_4 12 rfl rfl)
theorem dX3_takesPromise_108 : decode cX3_takesPromise 108 = .ok (.iconst 1, 1) := dk_4 (dk_at dksX3_takesPromise_4 13 rfl rfl)
theorem dX3_takesPromise_109 : decode cX3_takesPromise 109 = .ok (.iadd, 1) := dk_96 (dk_at dksX3_takesPromise_4 14 rfl rfl)
theorem dX3_takesPromise_110 : decode cX3_takesPromise 110 = .ok (.iastore, 1) := dk_79 (dk_at dksX3_takesPromise_4 15 rfl rfl)
theorem dX3_takesPromise_111 : decode cX3_takesPromise 111 = .ok (.aload_n 0, 1) := dk_42 (dk_at dksX3_takesPromise_4 16 rfl rfl)
theorem dX3_takesPromise_112 : decode cX3_takesPromise 112 = .ok (.bipush 44, 2) := dk_16 44 (dk_at dksX3_takesPromise_4 17 rfl rfl)
theorem dX3_takesPromise_114 : decode cX3_takesPromise 114 = .ok (.invokevirtual 121, 3) := dk_182 0 121 (dk_at dksX3_takesPromise_4 19 rfl rfl)
theorem dX3_takesPromise_117 : decode cX3_takesPromise 117 = .ok (.ifCond .eq 54, 3) := dk_153 0 54 (dk_at dksX3_takesPromise_5 0 rfl rfl)
theorem dX3_takesPromise_120 : decode cX3_takesPromise 120 = .ok (.aload_n 0, 1) := dk_42 (dk_at dksX3_takesPromise_5 3 rfl rfl)
theorem dX3_takesPromise_121 : decode cX3_takesPromise 121 = .ok (.bipush 41, 2) := dk_16 41 (dk_at dksX3_takesPromise_5 4 rfl rfl)
theorem dX3_takesPromise_123 : decode cX3_takesPromise 123 = .ok (.iload_n 1, 1) := dk_27 (dk_at dksX3_takesPromise_5 6 rfl rfl)
theorem dX3_takesPromise_124 : decode cX3_takesPromise 124 = .ok (.iadd, 1) := dk_96 (dk_at dksX3_takesPromise_5 7 rfl rfl)
theorem dX3_takesPromise_125 : decode cX3_takesPromise 125 = .ok (.iconst 1, 1) := dk_4 (dk_at dksX3_takesPromise_5 8 rfl rfl)
theorem dX3_takesPromise_126 : decode cX3_takesPromise 126 = .ok (.bipush 20, 2) := dk_16 20 (dk_at dksX3_takesPromise_5 9 rfl rfl)
theorem dX3_takesPromise_128 : decode cX3_takesPromise 128 = .ok (.bipush 44, 2) := dk_16 44 (dk_at dksX3_takesPromise_5 11 rfl rfl)
theorem dX3_takesPromise_130 : decode cX3_takesPromise 130 = .ok (.invokevirtual 124, 3) := dk_182 0 124 (dk_at dksX3_takesPromise_5 13 rfl rfl)
theorem dX3_takesPromise_133 : decode cX3_takesPromise 133 = .ok (.ifCond .eq 38, 3) := dk_153 0 38 (dk_at dksX3_takesPromise_5 16 rfl rfl)
theorem dX3_takesPromise_136 : decode cX3_takesPromise 136 = .ok (.aload_n 0, 1) := dk_42 (dk_at dksX3_takesPromise_5 19 rfl rfl)
theorem dX3_takesPromise_137 : decode cX3_takesPromise 137 = .ok (.bipush 49, 2) := dk_16 49 (dk_at dksX3_takesPromise_5 20 rfl rfl)
theorem dX3_takesPromise_139 : decode cX3_takesPromise 139 = .ok (.iload_n 1, 1) := dk_27 (dk_at dksX3_takesPromise_5 22 rfl rfl)
theorem dX3_takesPromise_140 : decode cX3_takesPromise 140 = .ok (.iadd, 1) := dk_96 (dk_at dksX3_takesPromise_5 23 rfl rfl)
theorem dX3_takesPromise_141 : decode cX3_takesPromise 141 = .ok (.iconst 0, 1) := dk_3 (dk_at dksX3_takesPromise_6 0 rfl rfl)
theorem dX3_takesPromise_142 : decode cX3_takesPromise 142 = .ok (.bipush 99, 2) := dk_16 99 (dk_at dksX3_takesPromise_6 1 rfl rfl)
theorem dX3_takesPromise_144 : decode cX3_takesPromise 144 = .ok (.bipush 44, 2) := dk_16 44 (dk_at dksX3_takesPromise_6 3 rfl rfl)
theorem dX3_takesPromise_146 : decode cX3_takesPromise 146 = .ok (.invokevirtual 124, 3) := dk_182 0 124 (dk_at dksX3_takesPromise_6 5 rfl rfl)
theorem dX3_takesPromise_149 : decode cX3_takesPromise 149 = .ok (.ifCond .eq 22, 3) := dk_153 0 22 (dk_at dksX3_takesPromise_6 8 rfl rfl)
theorem dX3_takesPromise_152 : decode cX3_takesPromise 152 = .ok (.aload_n 0, 1) := dk_42 (dk_at dksX3_takesPromise_6 11 rfl rfl)
theorem dX3_takesPromise_153 : decode cX3_takesPromise 153 = .ok (.bipush 57, 2) := dk_16 57 (dk_at dksX3_takesPromise_6 12 rfl rfl)
theorem dX3_takesPromise_155 : decode cX3_takesPromise 155 = .ok (.iload_n 1, 1) := dk_27 (dk_at dksX3_takesPromise_6 14 rfl rfl)
theorem dX3_takesPromise_156 : decode cX3_takesPromise 156 = .ok (.iadd, 1) := dk_96 (dk_at dksX3_takesPromise_6 15 rfl rfl)
theorem dX3_takesPromise_157 : decode cX3_takesPromise 157 = .ok (.iconst 0, 1) := dk_3 (dk_at dksX3_takesPromise_6 16 rfl rfl)
theorem dX3_takesPromise_158 : decode cX3_takesPromise 158 = .ok (.iconst 5, 1) := dk_8 (dk_at dksX3_takesPromise_6 17 rfl rfl)
theorem dX3_takesPromise_159 : decode cX3_takesPromise 159 = .ok (.bipush 59, 2) := dk_16 59 (dk_at dksX3_takesPromise_6 18 rfl rfl)
theorem dX3_takesPromise_161 : decode cX3_takesPromise 161 = .ok (.invokevirtual 124, 3) := dk_182 0 124 (dk_at dksX3_takesPromise_6 20 rfl rfl)
theorem dX3_takesPromise_164 : decode cX3_takesPromise 164 = .ok (.ifCond .eq 7, 3) := dk_153 0 7 (dk_at dksX3_takesPromise_7 0 rfl rfl)
theorem dX3_takesPromise_167 : decode cX3_takesPromise 167 = .ok (.iconst 1, 1) := dk_4 (dk_at dksX3_takesPromise_7 3 rfl rfl)
theorem dX3_takesPromise_168 : decode cX3_takesPromise 168 = .ok (.goto 4, 3) := dk_167 0 4 (dk_at dksX3_takesPromise_7 4 rfl rfl)
theorem dX3_takesPromise_171 : decode cX3_takesPromise 171 = .ok (.iconst 0, 1) := dk_3 (dk_at dksX3_takesPromise_7 7 rfl rfl)
theorem dX3_takesPromise_172 : decode cX3_takesPromise 172 = .ok (.ireturn, 1) := dk_172 (dk_at dksX3_takesPromise_7 8 rfl rfl)
abbrev cX3_fault : ByteArray := prog_16_method_29_code
def yX3_fault : MethodName := ⟨RX3, "fault", "()I"⟩
theorem dX3_fault_0 : decode cX3_fault 0 = .ok (.aload_n 0, 1) := by decide +kernel
theorem dX3_fault_1 : decode cX3_fault 1 = .ok (.getfield 147, 3) := by decide +kernel
theorem dX3_fault_4 : decode cX3_fault 4 = .ok (.ireturn, 1) := by decide +kernel
abbrev cX3_undo : ByteArray := prog_16_method_31_code
def yX3_undo : MethodName := ⟨RX3, "undo", "()I"⟩
def dkwX3_undo_2 : List UInt8 := [96, 27, 96, 46, 79, 132, 1, 1, 167, 255, 223, 42, 180, 0, 151, 172]
abbrev dktX3_undo_2 : List UInt8 := dkwX3_undo_2 ++ []
def dkwX3_undo_1 : List UInt8 := [16, 73, 162, 0, 33, 42, 180, 0, 7, 27, 42, 180, 0, 7, 17, 1, 36, 16, 73, 42, 180, 0, 151, 104]
abbrev dktX3_undo_1 : List UInt8 := dkwX3_undo_1 ++ dktX3_undo_2
def dkwX3_undo_0 : List UInt8 := [42, 180, 0, 151, 154, 0, 6, 18, 154, 172, 42, 89, 180, 0, 151, 4, 100, 181, 0, 151, 3, 60, 27]
abbrev dktX3_undo_0 : List UInt8 := dkwX3_undo_0 ++ dktX3_undo_1
theorem dksX3_undo_0 : cX3_undo.data.toList.drop 0 = dktX3_undo_0 := by decide +kernel
theorem dksX3_undo_1 : cX3_undo.data.toList.drop 23 = dktX3_undo_1 := dk_seg dksX3_undo_0 23 rfl rfl
theorem dksX3_undo_2 : cX3_undo.data.toList.drop 47 = dktX3_undo_2 := dk_seg dksX3_undo_1 24 rfl rfl
theorem dX3_undo_0 : decode cX3_undo 0 = .ok (.aload_n 0, 1) := dk_42 (dk_at dksX3_undo_0 0 rfl rfl)
theorem dX3_undo_1 : decode cX3_undo 1 = .ok (.getfield 151, 3) := dk_180 0 151 (dk_at dksX3_undo_0 1 rfl rfl)
theorem dX3_undo_4 : decode cX3_undo 4 = .ok (.ifCond .ne 6, 3) := dk_154 0 6 (dk_at dksX3_undo_0 4 rfl rfl)
theorem dX3_undo_7 : decode cX3_undo 7 = .ok (.ldc 154, 2) := dk_18 154 (dk_at dksX3_undo_0 7 rfl rfl)
theorem dX3_undo_9 : decode cX3_undo 9 = .ok (.ireturn, 1) := dk_172 (dk_at dksX3_undo_0 9 rfl rfl)
theorem dX3_undo_10 : decode cX3_undo 10 = .ok (.aload_n 0, 1) := dk_42 (dk_at dksX3_undo_0 10 rfl rfl)
theorem dX3_undo_11 : decode cX3_undo 11 = .ok (.dup, 1) := dk_89 (dk_at dksX3_undo_0 11 rfl rfl)
theorem dX3_undo_12 : decode cX3_undo 12 = .ok (.getfield 151, 3) := dk_180 0 151 (dk_at dksX3_undo_0 12 rfl rfl)
theorem dX3_undo_15 : decode cX3_undo 15 = .ok (.iconst 1, 1) := dk_4 (dk_at dksX3_undo_0 15 rfl rfl)
theorem dX3_undo_16 : decode cX3_undo 16 = .ok (.isub, 1) := dk_100 (dk_at dksX3_undo_0 16 rfl rfl)
theorem dX3_undo_17 : decode cX3_undo 17 = .ok (.putfield 151, 3) := dk_181 0 151 (dk_at dksX3_undo_0 17 rfl rfl)
theorem dX3_undo_20 : decode cX3_undo 20 = .ok (.iconst 0, 1) := dk_3 (dk_at dksX3_undo_0 20 rfl rfl)
theorem dX3_undo_21 : decode cX3_undo 21 = .ok (.istore_n 1, 1) := dk_60 (dk_at dksX3_undo_0 21 rfl rfl)
theorem dX3_undo_22 : decode cX3_undo 22 = .ok (.iload_n 1, 1) := dk_27 (dk_at dksX3_undo_0 22 rfl rfl)
theorem dX3_undo_23 : decode cX3_undo 23 = .ok (.bipush 73, 2) := dk_16 73 (dk_at dksX3_undo_1 0 rfl rfl)
theorem dX3_undo_25 : decode cX3_undo 25 = .ok (.if_icmp .ge 33, 3) := dk_162 0 33 (dk_at dksX3_undo_1 2 rfl rfl)
theorem dX3_undo_28 : decode cX3_undo 28 = .ok (.aload_n 0, 1) := dk_42 (dk_at dksX3_undo_1 5 rfl rfl)
theorem dX3_undo_29 : decode cX3_undo 29 = .ok (.getfield 7, 3) := dk_180 0 7 (dk_at dksX3_undo_1 6 rfl rfl)
theorem dX3_undo_32 : decode cX3_undo 32 = .ok (.iload_n 1, 1) := dk_27 (dk_at dksX3_undo_1 9 rfl rfl)
theorem dX3_undo_33 : decode cX3_undo 33 = .ok (.aload_n 0, 1) := dk_42 (dk_at dksX3_undo_1 10 rfl rfl)
theorem dX3_undo_34 : decode cX3_undo 34 = .ok (.getfield 7, 3) := dk_180 0 7 (dk_at dksX3_undo_1 11 rfl rfl)
theorem dX3_undo_37 : decode cX3_undo 37 = .ok (.sipush 292, 3) := dk_17 1 36 (dk_at dksX3_undo_1 14 rfl rfl)
theorem dX3_undo_40 : decode cX3_undo 40 = .ok (.bipush 73, 2) := dk_16 73 (dk_at dksX3_undo_1 17 rfl rfl)
theorem dX3_undo_42 : decode cX3_undo 42 = .ok (.aload_n 0, 1) := dk_42 (dk_at dksX3_undo_1 19 rfl rfl)
theorem dX3_undo_43 : decode cX3_undo 43 = .ok (.getfield 151, 3) := dk_180 0 151 (dk_at dksX3_undo_1 20 rfl rfl)
theorem dX3_undo_46 : decode cX3_undo 46 = .ok (.imul, 1) := dk_104 (dk_at dksX3_undo_1 23 rfl rfl)
theorem dX3_undo_47 : decode cX3_undo 47 = .ok (.iadd, 1) := dk_96 (dk_at dksX3_undo_2 0 rfl rfl)
theorem dX3_undo_48 : decode cX3_undo 48 = .ok (.iload_n 1, 1) := dk_27 (dk_at dksX3_undo_2 1 rfl rfl)
theorem dX3_undo_49 : decode cX3_undo 49 = .ok (.iadd, 1) := dk_96 (dk_at dksX3_undo_2 2 rfl rfl)
theorem dX3_undo_50 : decode cX3_undo 50 = .ok (.iaload, 1) := dk_46 (dk_at dksX3_undo_2 3 rfl rfl)
theorem dX3_undo_51 : decode cX3_undo 51 = .ok (.iastore, 1) := dk_79 (dk_at dksX3_undo_2 4 rfl rfl)
theorem dX3_undo_52 : decode cX3_undo 52 = .ok (.iinc 1 1, 3) := dk_132 1 1 (dk_at dksX3_undo_2 5 rfl rfl)
theorem dX3_undo_55 : decode cX3_undo 55 = .ok (.goto (-33), 3) := dk_167 255 223 (dk_at dksX3_undo_2 8 rfl rfl)
theorem dX3_undo_58 : decode cX3_undo 58 = .ok (.aload_n 0, 1) := dk_42 (dk_at dksX3_undo_2 11 rfl rfl)
theorem dX3_undo_59 : decode cX3_undo 59 = .ok (.getfield 151, 3) := dk_180 0 151 (dk_at dksX3_undo_2 12 rfl rfl)
theorem dX3_undo_62 : decode cX3_undo 62 = .ok (.ireturn, 1) := dk_172 (dk_at dksX3_undo_2 15 rfl rfl)
abbrev cX3_walk : ByteArray := prog_16_method_40_code
def yX3_walk : MethodName := ⟨RX3, "walk", "(II)I"⟩
def dkwX3_walk_2 : List UInt8 := [96, 79, 42, 180, 0, 7, 16, 20, 27, 96, 46, 172]
abbrev dktX3_walk_2 : List UInt8 := dkwX3_walk_2 ++ []
def dkwX3_walk_1 : List UInt8 := [182, 0, 172, 154, 0, 6, 18, 154, 172, 42, 182, 0, 175, 42, 180, 0, 7, 16, 20, 27, 96, 92, 46, 28]
abbrev dktX3_walk_1 : List UInt8 := dkwX3_walk_1 ++ dktX3_walk_2
def dkwX3_walk_0 : List UInt8 := [42, 27, 182, 0, 169, 153, 0, 13, 28, 4, 159, 0, 11, 28, 2, 159, 0, 6, 18, 73, 172, 42, 27, 28]
abbrev dktX3_walk_0 : List UInt8 := dkwX3_walk_0 ++ dktX3_walk_1
theorem dksX3_walk_0 : cX3_walk.data.toList.drop 0 = dktX3_walk_0 := by decide +kernel
theorem dksX3_walk_1 : cX3_walk.data.toList.drop 24 = dktX3_walk_1 := dk_seg dksX3_walk_0 24 rfl rfl
theorem dksX3_walk_2 : cX3_walk.data.toList.drop 48 = dktX3_walk_2 := dk_seg dksX3_walk_1 24 rfl rfl
theorem dX3_walk_0 : decode cX3_walk 0 = .ok (.aload_n 0, 1) := dk_42 (dk_at dksX3_walk_0 0 rfl rfl)
theorem dX3_walk_1 : decode cX3_walk 1 = .ok (.iload_n 1, 1) := dk_27 (dk_at dksX3_walk_0 1 rfl rfl)
theorem dX3_walk_2 : decode cX3_walk 2 = .ok (.invokevirtual 169, 3) := dk_182 0 169 (dk_at dksX3_walk_0 2 rfl rfl)
theorem dX3_walk_5 : decode cX3_walk 5 = .ok (.ifCond .eq 13, 3) := dk_153 0 13 (dk_at dksX3_walk_0 5 rfl rfl)
theorem dX3_walk_8 : decode cX3_walk 8 = .ok (.iload_n 2, 1) := dk_28 (dk_at dksX3_walk_0 8 rfl rfl)
theorem dX3_walk_9 : decode cX3_walk 9 = .ok (.iconst 1, 1) := dk_4 (dk_at dksX3_walk_0 9 rfl rfl)
theorem dX3_walk_10 : decode cX3_walk 10 = .ok (.if_icmp .eq 11, 3) := dk_159 0 11 (dk_at dksX3_walk_0 10 rfl rfl)
theorem dX3_walk_13 : decode cX3_walk 13 = .ok (.iload_n 2, 1) := dk_28 (dk_at dksX3_walk_0 13 rfl rfl)
theorem dX3_walk_14 : decode cX3_walk 14 = .ok (.iconst (-1), 1) := dk_2 (dk_at dksX3_walk_0 14 rfl rfl)
theorem dX3_walk_15 : decode cX3_walk 15 = .ok (.if_icmp .eq 6, 3) := dk_159 0 6 (dk_at dksX3_walk_0 15 rfl rfl)
theorem dX3_walk_18 : decode cX3_walk 18 = .ok (.ldc 73, 2) := dk_18 73 (dk_at dksX3_walk_0 18 rfl rfl)
theorem dX3_walk_20 : decode cX3_walk 20 = .ok (.ireturn, 1) := dk_172 (dk_at dksX3_walk_0 20 rfl rfl)
theorem dX3_walk_21 : decode cX3_walk 21 = .ok (.aload_n 0, 1) := dk_42 (dk_at dksX3_walk_0 21 rfl rfl)
theorem dX3_walk_22 : decode cX3_walk 22 = .ok (.iload_n 1, 1) := dk_27 (dk_at dksX3_walk_0 22 rfl rfl)
theorem dX3_walk_23 : decode cX3_walk 23 = .ok (.iload_n 2, 1) := dk_28 (dk_at dksX3_walk_0 23 rfl rfl)
theorem dX3_walk_24 : decode cX3_walk 24 = .ok (.invokevirtual 172, 3) := dk_182 0 172 (dk_at dksX3_walk_1 0 rfl rfl)
theorem dX3_walk_27 : decode cX3_walk 27 = .ok (.ifCond .ne 6, 3) := dk_154 0 6 (dk_at dksX3_walk_1 3 rfl rfl)
theorem dX3_walk_30 : decode cX3_walk 30 = .ok (.ldc 154, 2) := dk_18 154 (dk_at dksX3_walk_1 6 rfl rfl)
theorem dX3_walk_32 : decode cX3_walk 32 = .ok (.ireturn, 1) := dk_172 (dk_at dksX3_walk_1 8 rfl rfl)
theorem dX3_walk_33 : decode cX3_walk 33 = .ok (.aload_n 0, 1) := dk_42 (dk_at dksX3_walk_1 9 rfl rfl)
theorem dX3_walk_34 : decode cX3_walk 34 = .ok (.invokevirtual 175, 3) := dk_182 0 175 (dk_at dksX3_walk_1 10 rfl rfl)
theorem dX3_walk_37 : decode cX3_walk 37 = .ok (.aload_n 0, 1) := dk_42 (dk_at dksX3_walk_1 13 rfl rfl)
theorem dX3_walk_38 : decode cX3_walk 38 = .ok (.getfield 7, 3) := dk_180 0 7 (dk_at dksX3_walk_1 14 rfl rfl)
theorem dX3_walk_41 : decode cX3_walk 41 = .ok (.bipush 20, 2) := dk_16 20 (dk_at dksX3_walk_1 17 rfl rfl)
theorem dX3_walk_43 : decode cX3_walk 43 = .ok (.iload_n 1, 1) := dk_27 (dk_at dksX3_walk_1 19 rfl rfl)
theorem dX3_walk_44 : decode cX3_walk 44 = .ok (.iadd, 1) := dk_96 (dk_at dksX3_walk_1 20 rfl rfl)
theorem dX3_walk_45 : decode cX3_walk 45 = .ok (.dup2, 1) := dk_92 (dk_at dksX3_walk_1 21 rfl rfl)
theorem dX3_walk_46 : decode cX3_walk 46 = .ok (.iaload, 1) := dk_46 (dk_at dksX3_walk_1 22 rfl rfl)
theorem dX3_walk_47 : decode cX3_walk 47 = .ok (.iload_n 2, 1) := dk_28 (dk_at dksX3_walk_1 23 rfl rfl)
theorem dX3_walk_48 : decode cX3_walk 48 = .ok (.iadd, 1) := dk_96 (dk_at dksX3_walk_2 0 rfl rfl)
theorem dX3_walk_49 : decode cX3_walk 49 = .ok (.iastore, 1) := dk_79 (dk_at dksX3_walk_2 1 rfl rfl)
theorem dX3_walk_50 : decode cX3_walk 50 = .ok (.aload_n 0, 1) := dk_42 (dk_at dksX3_walk_2 2 rfl rfl)
theorem dX3_walk_51 : decode cX3_walk 51 = .ok (.getfield 7, 3) := dk_180 0 7 (dk_at dksX3_walk_2 3 rfl rfl)
theorem dX3_walk_54 : decode cX3_walk 54 = .ok (.bipush 20, 2) := dk_16 20 (dk_at dksX3_walk_2 6 rfl rfl)
theorem dX3_walk_56 : decode cX3_walk 56 = .ok (.iload_n 1, 1) := dk_27 (dk_at dksX3_walk_2 8 rfl rfl)
theorem dX3_walk_57 : decode cX3_walk 57 = .ok (.iadd, 1) := dk_96 (dk_at dksX3_walk_2 9 rfl rfl)
theorem dX3_walk_58 : decode cX3_walk 58 = .ok (.iaload, 1) := dk_46 (dk_at dksX3_walk_2 10 rfl rfl)
theorem dX3_walk_59 : decode cX3_walk 59 = .ok (.ireturn, 1) := dk_172 (dk_at dksX3_walk_2 11 rfl rfl)
abbrev cX3_isPerson : ByteArray := prog_16_method_33_code
def yX3_isPerson : MethodName := ⟨RX3, "isPerson", "(I)Z"⟩
def dkwX3_isPerson_0 : List UInt8 := [27, 133, 9, 42, 180, 0, 7, 16, 6, 46, 4, 100, 133, 184, 0, 63, 172]
abbrev dktX3_isPerson_0 : List UInt8 := dkwX3_isPerson_0 ++ []
theorem dksX3_isPerson_0 : cX3_isPerson.data.toList.drop 0 = dktX3_isPerson_0 := by decide +kernel
theorem dX3_isPerson_0 : decode cX3_isPerson 0 = .ok (.iload_n 1, 1) := dk_27 (dk_at dksX3_isPerson_0 0 rfl rfl)
theorem dX3_isPerson_1 : decode cX3_isPerson 1 = .ok (.i2l, 1) := dk_133 (dk_at dksX3_isPerson_0 1 rfl rfl)
theorem dX3_isPerson_2 : decode cX3_isPerson 2 = .ok (.lconst 0, 1) := dk_9 (dk_at dksX3_isPerson_0 2 rfl rfl)
theorem dX3_isPerson_3 : decode cX3_isPerson 3 = .ok (.aload_n 0, 1) := dk_42 (dk_at dksX3_isPerson_0 3 rfl rfl)
theorem dX3_isPerson_4 : decode cX3_isPerson 4 = .ok (.getfield 7, 3) := dk_180 0 7 (dk_at dksX3_isPerson_0 4 rfl rfl)
theorem dX3_isPerson_7 : decode cX3_isPerson 7 = .ok (.bipush 6, 2) := dk_16 6 (dk_at dksX3_isPerson_0 7 rfl rfl)
theorem dX3_isPerson_9 : decode cX3_isPerson 9 = .ok (.iaload, 1) := dk_46 (dk_at dksX3_isPerson_0 9 rfl rfl)
theorem dX3_isPerson_10 : decode cX3_isPerson 10 = .ok (.iconst 1, 1) := dk_4 (dk_at dksX3_isPerson_0 10 rfl rfl)
theorem dX3_isPerson_11 : decode cX3_isPerson 11 = .ok (.isub, 1) := dk_100 (dk_at dksX3_isPerson_0 11 rfl rfl)
theorem dX3_isPerson_12 : decode cX3_isPerson 12 = .ok (.i2l, 1) := dk_133 (dk_at dksX3_isPerson_0 12 rfl rfl)
theorem dX3_isPerson_13 : decode cX3_isPerson 13 = .ok (.invokestatic 63, 3) := dk_184 0 63 (dk_at dksX3_isPerson_0 13 rfl rfl)
theorem dX3_isPerson_16 : decode cX3_isPerson 16 = .ok (.ireturn, 1) := dk_172 (dk_at dksX3_isPerson_0 16 rfl rfl)
abbrev cX3_canWalk : ByteArray := prog_16_method_39_code
def yX3_canWalk : MethodName := ⟨RX3, "canWalk", "(II)Z"⟩
def dkwX3_canWalk_2 : List UInt8 := [161, 0, 7, 4, 167, 0, 4, 3, 172]
abbrev dktX3_canWalk_2 : List UInt8 := dkwX3_canWalk_2 ++ []
def dkwX3_canWalk_1 : List UInt8 := [42, 180, 0, 7, 16, 15, 27, 96, 46, 42, 27, 42, 180, 0, 7, 16, 20, 27, 96, 46, 29, 182, 0, 166]
abbrev dktX3_canWalk_1 : List UInt8 := dkwX3_canWalk_1 ++ dktX3_canWalk_2
def dkwX3_canWalk_0 : List UInt8 := [42, 180, 0, 7, 16, 20, 27, 96, 46, 28, 96, 62, 29, 133, 9, 20, 0, 164, 184, 0, 63, 153, 0, 34]
abbrev dktX3_canWalk_0 : List UInt8 := dkwX3_canWalk_0 ++ dktX3_canWalk_1
theorem dksX3_canWalk_0 : cX3_canWalk.data.toList.drop 0 = dktX3_canWalk_0 := by decide +kernel
theorem dksX3_canWalk_1 : cX3_canWalk.data.toList.drop 24 = dktX3_canWalk_1 := dk_seg dksX3_canWalk_0 24 rfl rfl
theorem dksX3_canWalk_2 : cX3_canWalk.data.toList.drop 48 = dktX3_canWalk_2 := dk_seg dksX3_canWalk_1 24 rfl rfl
theorem dX3_canWalk_0 : decode cX3_canWalk 0 = .ok (.aload_n 0, 1) := dk_42 (dk_at dksX3_canWalk_0 0 rfl rfl)
theorem dX3_canWalk_1 : decode cX3_canWalk 1 = .ok (.getfield 7, 3) := dk_180 0 7 (dk_at dksX3_canWalk_0 1 rfl rfl)
theorem dX3_canWalk_4 : decode cX3_canWalk 4 = .ok (.bipush 20, 2) := dk_16 20 (dk_at dksX3_canWalk_0 4 rfl rfl)
theorem dX3_canWalk_6 : decode cX3_canWalk 6 = .ok (.iload_n 1, 1) := dk_27 (dk_at dksX3_canWalk_0 6 rfl rfl)
theorem dX3_canWalk_7 : decode cX3_canWalk 7 = .ok (.iadd, 1) := dk_96 (dk_at dksX3_canWalk_0 7 rfl rfl)
theorem dX3_canWalk_8 : decode cX3_canWalk 8 = .ok (.iaload, 1) := dk_46 (dk_at dksX3_canWalk_0 8 rfl rfl)
theorem dX3_canWalk_9 : decode cX3_canWalk 9 = .ok (.iload_n 2, 1) := dk_28 (dk_at dksX3_canWalk_0 9 rfl rfl)
theorem dX3_canWalk_10 : decode cX3_canWalk 10 = .ok (.iadd, 1) := dk_96 (dk_at dksX3_canWalk_0 10 rfl rfl)
theorem dX3_canWalk_11 : decode cX3_canWalk 11 = .ok (.istore_n 3, 1) := dk_62 (dk_at dksX3_canWalk_0 11 rfl rfl)
theorem dX3_canWalk_12 : decode cX3_canWalk 12 = .ok (.iload_n 3, 1) := dk_29 (dk_at dksX3_canWalk_0 12 rfl rfl)
theorem dX3_canWalk_13 : decode cX3_canWalk 13 = .ok (.i2l, 1) := dk_133 (dk_at dksX3_canWalk_0 13 rfl rfl)
theorem dX3_canWalk_14 : decode cX3_canWalk 14 = .ok (.lconst 0, 1) := dk_9 (dk_at dksX3_canWalk_0 14 rfl rfl)
theorem dX3_canWalk_15 : decode cX3_canWalk 15 = .ok (.ldc2_w 164, 3) := dk_20 0 164 (dk_at dksX3_canWalk_0 15 rfl rfl)
theorem dX3_canWalk_18 : decode cX3_canWalk 18 = .ok (.invokestatic 63, 3) := dk_184 0 63 (dk_at dksX3_canWalk_0 18 rfl rfl)
theorem dX3_canWalk_21 : decode cX3_canWalk 21 = .ok (.ifCond .eq 34, 3) := dk_153 0 34 (dk_at dksX3_canWalk_0 21 rfl rfl)
theorem dX3_canWalk_24 : decode cX3_canWalk 24 = .ok (.aload_n 0, 1) := dk_42 (dk_at dksX3_canWalk_1 0 rfl rfl)
theorem dX3_canWalk_25 : decode cX3_canWalk 25 = .ok (.getfield 7, 3) := dk_180 0 7 (dk_at dksX3_canWalk_1 1 rfl rfl)
theorem dX3_canWalk_28 : decode cX3_canWalk 28 = .ok (.bipush 15, 2) := dk_16 15 (dk_at dksX3_canWalk_1 4 rfl rfl)
theorem dX3_canWalk_30 : decode cX3_canWalk 30 = .ok (.iload_n 1, 1) := dk_27 (dk_at dksX3_canWalk_1 6 rfl rfl)
theorem dX3_canWalk_31 : decode cX3_canWalk 31 = .ok (.iadd, 1) := dk_96 (dk_at dksX3_canWalk_1 7 rfl rfl)
theorem dX3_canWalk_32 : decode cX3_canWalk 32 = .ok (.iaload, 1) := dk_46 (dk_at dksX3_canWalk_1 8 rfl rfl)
theorem dX3_canWalk_33 : decode cX3_canWalk 33 = .ok (.aload_n 0, 1) := dk_42 (dk_at dksX3_canWalk_1 9 rfl rfl)
theorem dX3_canWalk_34 : decode cX3_canWalk 34 = .ok (.iload_n 1, 1) := dk_27 (dk_at dksX3_canWalk_1 10 rfl rfl)
theorem dX3_canWalk_35 : decode cX3_canWalk 35 = .ok (.aload_n 0, 1) := dk_42 (dk_at dksX3_canWalk_1 11 rfl rfl)
theorem dX3_canWalk_36 : decode cX3_canWalk 36 = .ok (.getfield 7, 3) := dk_180 0 7 (dk_at dksX3_canWalk_1 12 rfl rfl)
theorem dX3_canWalk_39 : decode cX3_canWalk 39 = .ok (.bipush 20, 2) := dk_16 20 (dk_at dksX3_canWalk_1 15 rfl rfl)
theorem dX3_canWalk_41 : decode cX3_canWalk 41 = .ok (.iload_n 1, 1) := dk_27 (dk_at dksX3_canWalk_1 17 rfl rfl)
theorem dX3_canWalk_42 : decode cX3_canWalk 42 = .ok (.iadd, 1) := dk_96 (dk_at dksX3_canWalk_1 18 rfl rfl)
theorem dX3_canWalk_43 : decode cX3_canWalk 43 = .ok (.iaload, 1) := dk_46 (dk_at dksX3_canWalk_1 19 rfl rfl)
theorem dX3_canWalk_44 : decode cX3_canWalk 44 = .ok (.iload_n 3, 1) := dk_29 (dk_at dksX3_canWalk_1 20 rfl rfl)
theorem dX3_canWalk_45 : decode cX3_canWalk 45 = .ok (.invokevirtual 166, 3) := dk_182 0 166 (dk_at dksX3_canWalk_1 21 rfl rfl)
theorem dX3_canWalk_48 : decode cX3_canWalk 48 = .ok (.if_icmp .lt 7, 3) := dk_161 0 7 (dk_at dksX3_canWalk_2 0 rfl rfl)
theorem dX3_canWalk_51 : decode cX3_canWalk 51 = .ok (.iconst 1, 1) := dk_4 (dk_at dksX3_canWalk_2 3 rfl rfl)
theorem dX3_canWalk_52 : decode cX3_canWalk 52 = .ok (.goto 4, 3) := dk_167 0 4 (dk_at dksX3_canWalk_2 4 rfl rfl)
theorem dX3_canWalk_55 : decode cX3_canWalk 55 = .ok (.iconst 0, 1) := dk_3 (dk_at dksX3_canWalk_2 7 rfl rfl)
theorem dX3_canWalk_56 : decode cX3_canWalk 56 = .ok (.ireturn, 1) := dk_172 (dk_at dksX3_canWalk_2 8 rfl rfl)
abbrev cX3_wants : ByteArray := prog_16_method_38_code
def yX3_wants : MethodName := ⟨RX3, "wants", "(III)I"⟩
def dkwX3_wants_1 : List UInt8 := [21, 4, 158, 0, 8, 21, 4, 167, 0, 4, 3, 96, 172]
abbrev dktX3_wants_1 : List UInt8 := dkwX3_wants_1 ++ []
def dkwX3_wants_0 : List UInt8 := [42, 180, 0, 7, 3, 29, 96, 46, 42, 180, 0, 7, 3, 28, 96, 46, 100, 54, 4, 42, 27, 182, 0, 161]
abbrev dktX3_wants_0 : List UInt8 := dkwX3_wants_0 ++ dktX3_wants_1
theorem dksX3_wants_0 : cX3_wants.data.toList.drop 0 = dktX3_wants_0 := by decide +kernel
theorem dksX3_wants_1 : cX3_wants.data.toList.drop 24 = dktX3_wants_1 := dk_seg dksX3_wants_0 24 rfl rfl
theorem dX3_wants_0 : decode cX3_wants 0 = .ok (.aload_n 0, 1) := dk_42 (dk_at dksX3_wants_0 0 rfl rfl)
theorem dX3_wants_1 : decode cX3_wants 1 = .ok (.getfield 7, 3) := dk_180 0 7 (dk_at dksX3_wants_0 1 rfl rfl)
theorem dX3_wants_4 : decode cX3_wants 4 = .ok (.iconst 0, 1) := dk_3 (dk_at dksX3_wants_0 4 rfl rfl)
theorem dX3_wants_5 : decode cX3_wants 5 = .ok (.iload_n 3, 1) := dk_29 (dk_at dksX3_wants_0 5 rfl rfl)
theorem dX3_wants_6 : decode cX3_wants 6 = .ok (.iadd, 1) := dk_96 (dk_at dksX3_wants_0 6 rfl rfl)
theorem dX3_wants_7 : decode cX3_wants 7 = .ok (.iaload, 1) := dk_46 (dk_at dksX3_wants_0 7 rfl rfl)
theorem dX3_wants_8 : decode cX3_wants 8 = .ok (.aload_n 0, 1) := dk_42 (dk_at dksX3_wants_0 8 rfl rfl)
theorem dX3_wants_9 : decode cX3_wants 9 = .ok (.getfield 7, 3) := dk_180 0 7 (dk_at dksX3_wants_0 9 rfl rfl)
theorem dX3_wants_12 : decode cX3_wants 12 = .ok (.iconst 0, 1) := dk_3 (dk_at dksX3_wants_0 12 rfl rfl)
theorem dX3_wants_13 : decode cX3_wants 13 = .ok (.iload_n 2, 1) := dk_28 (dk_at dksX3_wants_0 13 rfl rfl)
theorem dX3_wants_14 : decode cX3_wants 14 = .ok (.iadd, 1) := dk_96 (dk_at dksX3_wants_0 14 rfl rfl)
theorem dX3_wants_15 : decode cX3_wants 15 = .ok (.iaload, 1) := dk_46 (dk_at dksX3_wants_0 15 rfl rfl)
theorem dX3_wants_16 : decode cX3_wants 16 = .ok (.isub, 1) := dk_100 (dk_at dksX3_wants_0 16 rfl rfl)
theorem dX3_wants_17 : decode cX3_wants 17 = .ok (.istore 4, 2) := dk_54 4 (dk_at dksX3_wants_0 17 rfl rfl)
theorem dX3_wants_19 : decode cX3_wants 19 = .ok (.aload_n 0, 1) := dk_42 (dk_at dksX3_wants_0 19 rfl rfl)
theorem dX3_wants_20 : decode cX3_wants 20 = .ok (.iload_n 1, 1) := dk_27 (dk_at dksX3_wants_0 20 rfl rfl)
theorem dX3_wants_21 : decode cX3_wants 21 = .ok (.invokevirtual 161, 3) := dk_182 0 161 (dk_at dksX3_wants_0 21 rfl rfl)
theorem dX3_wants_24 : decode cX3_wants 24 = .ok (.iload 4, 2) := dk_21 4 (dk_at dksX3_wants_1 0 rfl rfl)
theorem dX3_wants_26 : decode cX3_wants 26 = .ok (.ifCond .le 8, 3) := dk_158 0 8 (dk_at dksX3_wants_1 2 rfl rfl)
theorem dX3_wants_29 : decode cX3_wants 29 = .ok (.iload 4, 2) := dk_21 4 (dk_at dksX3_wants_1 5 rfl rfl)
theorem dX3_wants_31 : decode cX3_wants 31 = .ok (.goto 4, 3) := dk_167 0 4 (dk_at dksX3_wants_1 7 rfl rfl)
theorem dX3_wants_34 : decode cX3_wants 34 = .ok (.iconst 0, 1) := dk_3 (dk_at dksX3_wants_1 10 rfl rfl)
theorem dX3_wants_35 : decode cX3_wants 35 = .ok (.iadd, 1) := dk_96 (dk_at dksX3_wants_1 11 rfl rfl)
theorem dX3_wants_36 : decode cX3_wants 36 = .ok (.ireturn, 1) := dk_172 (dk_at dksX3_wants_1 12 rfl rfl)
abbrev cX3_loadOf : ByteArray := prog_16_method_36_code
def yX3_loadOf : MethodName := ⟨RX3, "loadOf", "(I)I"⟩
def dkwX3_loadOf_1 : List UInt8 := [46, 27, 160, 0, 11, 42, 29, 182, 0, 158, 167, 0, 4, 3, 96, 61, 132, 3, 1, 167, 255, 217, 28, 172]
abbrev dktX3_loadOf_1 : List UInt8 := dkwX3_loadOf_1 ++ []
def dkwX3_loadOf_0 : List UInt8 := [3, 61, 3, 62, 29, 42, 180, 0, 7, 16, 7, 46, 162, 0, 34, 28, 42, 180, 0, 7, 16, 25, 29, 96]
abbrev dktX3_loadOf_0 : List UInt8 := dkwX3_loadOf_0 ++ dktX3_loadOf_1
theorem dksX3_loadOf_0 : cX3_loadOf.data.toList.drop 0 = dktX3_loadOf_0 := by decide +kernel
theorem dksX3_loadOf_1 : cX3_loadOf.data.toList.drop 24 = dktX3_loadOf_1 := dk_seg dksX3_loadOf_0 24 rfl rfl
theorem dX3_loadOf_0 : decode cX3_loadOf 0 = .ok (.iconst 0, 1) := dk_3 (dk_at dksX3_loadOf_0 0 rfl rfl)
theorem dX3_loadOf_1 : decode cX3_loadOf 1 = .ok (.istore_n 2, 1) := dk_61 (dk_at dksX3_loadOf_0 1 rfl rfl)
theorem dX3_loadOf_2 : decode cX3_loadOf 2 = .ok (.iconst 0, 1) := dk_3 (dk_at dksX3_loadOf_0 2 rfl rfl)
theorem dX3_loadOf_3 : decode cX3_loadOf 3 = .ok (.istore_n 3, 1) := dk_62 (dk_at dksX3_loadOf_0 3 rfl rfl)
theorem dX3_loadOf_4 : decode cX3_loadOf 4 = .ok (.iload_n 3, 1) := dk_29 (dk_at dksX3_loadOf_0 4 rfl rfl)
theorem dX3_loadOf_5 : decode cX3_loadOf 5 = .ok (.aload_n 0, 1) := dk_42 (dk_at dksX3_loadOf_0 5 rfl rfl)
theorem dX3_loadOf_6 : decode cX3_loadOf 6 = .ok (.getfield 7, 3) := dk_180 0 7 (dk_at dksX3_loadOf_0 6 rfl rfl)
theorem dX3_loadOf_9 : decode cX3_loadOf 9 = .ok (.bipush 7, 2) := dk_16 7 (dk_at dksX3_loadOf_0 9 rfl rfl)
theorem dX3_loadOf_11 : decode cX3_loadOf 11 = .ok (.iaload, 1) := dk_46 (dk_at dksX3_loadOf_0 11 rfl rfl)
theorem dX3_loadOf_12 : decode cX3_loadOf 12 = .ok (.if_icmp .ge 34, 3) := dk_162 0 34 (dk_at dksX3_loadOf_0 12 rfl rfl)
theorem dX3_loadOf_15 : decode cX3_loadOf 15 = .ok (.iload_n 2, 1) := dk_28 (dk_at dksX3_loadOf_0 15 rfl rfl)
theorem dX3_loadOf_16 : decode cX3_loadOf 16 = .ok (.aload_n 0, 1) := dk_42 (dk_at dksX3_loadOf_0 16 rfl rfl)
theorem dX3_loadOf_17 : decode cX3_loadOf 17 = .ok (.getfield 7, 3) := dk_180 0 7 (dk_at dksX3_loadOf_0 17 rfl rfl)
theorem dX3_loadOf_20 : decode cX3_loadOf 20 = .ok (.bipush 25, 2) := dk_16 25 (dk_at dksX3_loadOf_0 20 rfl rfl)
theorem dX3_loadOf_22 : decode cX3_loadOf 22 = .ok (.iload_n 3, 1) := dk_29 (dk_at dksX3_loadOf_0 22 rfl rfl)
theorem dX3_loadOf_23 : decode cX3_loadOf 23 = .ok (.iadd, 1) := dk_96 (dk_at dksX3_loadOf_0 23 rfl rfl)
theorem dX3_loadOf_24 : decode cX3_loadOf 24 = .ok (.iaload, 1) := dk_46 (dk_at dksX3_loadOf_1 0 rfl rfl)
theorem dX3_loadOf_25 : decode cX3_loadOf 25 = .ok (.iload_n 1, 1) := dk_27 (dk_at dksX3_loadOf_1 1 rfl rfl)
theorem dX3_loadOf_26 : decode cX3_loadOf 26 = .ok (.if_icmp .ne 11, 3) := dk_160 0 11 (dk_at dksX3_loadOf_1 2 rfl rfl)
theorem dX3_loadOf_29 : decode cX3_loadOf 29 = .ok (.aload_n 0, 1) := dk_42 (dk_at dksX3_loadOf_1 5 rfl rfl)
theorem dX3_loadOf_30 : decode cX3_loadOf 30 = .ok (.iload_n 3, 1) := dk_29 (dk_at dksX3_loadOf_1 6 rfl rfl)
theorem dX3_loadOf_31 : decode cX3_loadOf 31 = .ok (.invokevirtual 158, 3) := dk_182 0 158 (dk_at dksX3_loadOf_1 7 rfl rfl)
theorem dX3_loadOf_34 : decode cX3_loadOf 34 = .ok (.goto 4, 3) := dk_167 0 4 (dk_at dksX3_loadOf_1 10 rfl rfl)
theorem dX3_loadOf_37 : decode cX3_loadOf 37 = .ok (.iconst 0, 1) := dk_3 (dk_at dksX3_loadOf_1 13 rfl rfl)
theorem dX3_loadOf_38 : decode cX3_loadOf 38 = .ok (.iadd, 1) := dk_96 (dk_at dksX3_loadOf_1 14 rfl rfl)
theorem dX3_loadOf_39 : decode cX3_loadOf 39 = .ok (.istore_n 2, 1) := dk_61 (dk_at dksX3_loadOf_1 15 rfl rfl)
theorem dX3_loadOf_40 : decode cX3_loadOf 40 = .ok (.iinc 3 1, 3) := dk_132 3 1 (dk_at dksX3_loadOf_1 16 rfl rfl)
theorem dX3_loadOf_43 : decode cX3_loadOf 43 = .ok (.goto (-39), 3) := dk_167 255 217 (dk_at dksX3_loadOf_1 19 rfl rfl)
theorem dX3_loadOf_46 : decode cX3_loadOf 46 = .ok (.iload_n 2, 1) := dk_28 (dk_at dksX3_loadOf_1 22 rfl rfl)
theorem dX3_loadOf_47 : decode cX3_loadOf 47 = .ok (.ireturn, 1) := dk_172 (dk_at dksX3_loadOf_1 23 rfl rfl)
abbrev cX3_poundsOf : ByteArray := prog_16_method_35_code
def yX3_poundsOf : MethodName := ⟨RX3, "poundsOf", "(I)I"⟩
def dkwX3_poundsOf_5 : List UInt8 := [184, 0, 155, 172, 3, 172]
abbrev dktX3_poundsOf_5 : List UInt8 := dkwX3_poundsOf_5 ++ []
def dkwX3_poundsOf_4 : List UInt8 := [180, 0, 7, 16, 33, 27, 96, 46, 96, 46, 160, 0, 9, 5, 28, 104, 167, 0, 4, 28, 172, 28, 16, 10]
abbrev dktX3_poundsOf_4 : List UInt8 := dkwX3_poundsOf_4 ++ dktX3_poundsOf_5
def dkwX3_poundsOf_3 : List UInt8 := [28, 172, 28, 5, 108, 172, 42, 180, 0, 7, 16, 57, 27, 96, 46, 42, 180, 0, 7, 16, 20, 42]
abbrev dktX3_poundsOf_3 : List UInt8 := dkwX3_poundsOf_3 ++ dktX3_poundsOf_4
def dkwX3_poundsOf_2 : List UInt8 := [170, 0, 0, 0, 0, 80, 0, 0, 0, 1, 0, 0, 0, 4, 0, 0, 0, 30, 0, 0, 0, 32, 0, 0, 0, 36, 0, 0, 0, 73]
abbrev dktX3_poundsOf_2 : List UInt8 := dkwX3_poundsOf_2 ++ dktX3_poundsOf_3
def dkwX3_poundsOf_1 : List UInt8 := [61, 42, 180, 0, 7, 16, 10, 42, 180, 0, 7, 16, 25, 27, 96, 46, 96, 46]
abbrev dktX3_poundsOf_1 : List UInt8 := dkwX3_poundsOf_1 ++ dktX3_poundsOf_2
def dkwX3_poundsOf_0 : List UInt8 := [42, 180, 0, 7, 16, 65, 27, 96, 46, 4, 160, 0, 5, 3, 172, 42, 180, 0, 7, 16, 41, 27, 96, 46]
abbrev dktX3_poundsOf_0 : List UInt8 := dkwX3_poundsOf_0 ++ dktX3_poundsOf_1
theorem dksX3_poundsOf_0 : cX3_poundsOf.data.toList.drop 0 = dktX3_poundsOf_0 := by decide +kernel
theorem dksX3_poundsOf_1 : cX3_poundsOf.data.toList.drop 24 = dktX3_poundsOf_1 := dk_seg dksX3_poundsOf_0 24 rfl rfl
theorem dksX3_poundsOf_2 : cX3_poundsOf.data.toList.drop 42 = dktX3_poundsOf_2 := dk_seg dksX3_poundsOf_1 18 rfl rfl
theorem dksX3_poundsOf_3 : cX3_poundsOf.data.toList.drop 72 = dktX3_poundsOf_3 := dk_seg dksX3_poundsOf_2 30 rfl rfl
theorem dksX3_poundsOf_4 : cX3_poundsOf.data.toList.drop 94 = dktX3_poundsOf_4 := dk_seg dksX3_poundsOf_3 22 rfl rfl
theorem dksX3_poundsOf_5 : cX3_poundsOf.data.toList.drop 118 = dktX3_poundsOf_5 := dk_seg dksX3_poundsOf_4 24 rfl rfl
theorem dX3_poundsOf_0 : decode cX3_poundsOf 0 = .ok (.aload_n 0, 1) := dk_42 (dk_at dksX3_poundsOf_0 0 rfl rfl)
theorem dX3_poundsOf_1 : decode cX3_poundsOf 1 = .ok (.getfield 7, 3) := dk_180 0 7 (dk_at dksX3_poundsOf_0 1 rfl rfl)
theorem dX3_poundsOf_4 : decode cX3_poundsOf 4 = .ok (.bipush 65, 2) := dk_16 65 (dk_at dksX3_poundsOf_0 4 rfl rfl)
theorem dX3_poundsOf_6 : decode cX3_poundsOf 6 = .ok (.iload_n 1, 1) := dk_27 (dk_at dksX3_poundsOf_0 6 rfl rfl)
theorem dX3_poundsOf_7 : decode cX3_poundsOf 7 = .ok (.iadd, 1) := dk_96 (dk_at dksX3_poundsOf_0 7 rfl rfl)
theorem dX3_poundsOf_8 : decode cX3_poundsOf 8 = .ok (.iaload, 1) := dk_46 (dk_at dksX3_poundsOf_0 8 rfl rfl)
theorem dX3_poundsOf_9 : decode cX3_poundsOf 9 = .ok (.iconst 1, 1) := dk_4 (dk_at dksX3_poundsOf_0 9 rfl rfl)
theorem dX3_poundsOf_10 : decode cX3_poundsOf 10 = .ok (.if_icmp .ne 5, 3) := dk_160 0 5 (dk_at dksX3_poundsOf_0 10 rfl rfl)
theorem dX3_poundsOf_13 : decode cX3_poundsOf 13 = .ok (.iconst 0, 1) := dk_3 (dk_at dksX3_poundsOf_0 13 rfl rfl)
theorem dX3_poundsOf_14 : decode cX3_poundsOf 14 = .ok (.ireturn, 1) := dk_172 (dk_at dksX3_poundsOf_0 14 rfl rfl)
theorem dX3_poundsOf_15 : decode cX3_poundsOf 15 = .ok (.aload_n 0, 1) := dk_42 (dk_at dksX3_poundsOf_0 15 rfl rfl)
theorem dX3_poundsOf_16 : decode cX3_poundsOf 16 = .ok (.getfield 7, 3) := dk_180 0 7 (dk_at dksX3_poundsOf_0 16 rfl rfl)
theorem dX3_poundsOf_19 : decode cX3_poundsOf 19 = .ok (.bipush 41, 2) := dk_16 41 (dk_at dksX3_poundsOf_0 19 rfl rfl)
theorem dX3_poundsOf_21 : decode cX3_poundsOf 21 = .ok (.iload_n 1, 1) := dk_27 (dk_at dksX3_poundsOf_0 21 rfl rfl)
theorem dX3_poundsOf_22 : decode cX3_poundsOf 22 = .ok (.iadd, 1) := dk_96 (dk_at dksX3_poundsOf_0 22 rfl rfl)
theorem dX3_poundsOf_23 : decode cX3_poundsOf 23 = .ok (.iaload, 1) := dk_46 (dk_at dksX3_poundsOf_0 23 rfl rfl)
theorem dX3_poundsOf_24 : decode cX3_poundsOf 24 = .ok (.istore_n 2, 1) := dk_61 (dk_at dksX3_poundsOf_1 0 rfl rfl)
theorem dX3_poundsOf_25 : decode cX3_poundsOf 25 = .ok (.aload_n 0, 1) := dk_42 (dk_at dksX3_poundsOf_1 1 rfl rfl)
theorem dX3_poundsOf_26 : decode cX3_poundsOf 26 = .ok (.getfield 7, 3) := dk_180 0 7 (dk_at dksX3_poundsOf_1 2 rfl rfl)
theorem dX3_poundsOf_29 : decode cX3_poundsOf 29 = .ok (.bipush 10, 2) := dk_16 10 (dk_at dksX3_poundsOf_1 5 rfl rfl)
theorem dX3_poundsOf_31 : decode cX3_poundsOf 31 = .ok (.aload_n 0, 1) := dk_42 (dk_at dksX3_poundsOf_1 7 rfl rfl)
theorem dX3_poundsOf_32 : decode cX3_poundsOf 32 = .ok (.getfield 7, 3) := dk_180 0 7 (dk_at dksX3_poundsOf_1 8 rfl rfl)
theorem dX3_poundsOf_35 : decode cX3_poundsOf 35 = .ok (.bipush 25, 2) := dk_16 25 (dk_at dksX3_poundsOf_1 11 rfl rfl)
theorem dX3_poundsOf_37 : decode cX3_poundsOf 37 = .ok (.iload_n 1, 1) := dk_27 (dk_at dksX3_poundsOf_1 13 rfl rfl)
theorem dX3_poundsOf_38 : decode cX3_poundsOf 38 = .ok (.iadd, 1) := dk_96 (dk_at dksX3_poundsOf_1 14 rfl rfl)
theorem dX3_poundsOf_39 : decode cX3_poundsOf 39 = .ok (.iaload, 1) := dk_46 (dk_at dksX3_poundsOf_1 15 rfl rfl)
theorem dX3_poundsOf_40 : decode cX3_poundsOf 40 = .ok (.iadd, 1) := dk_96 (dk_at dksX3_poundsOf_1 16 rfl rfl)
theorem dX3_poundsOf_41 : decode cX3_poundsOf 41 = .ok (.iaload, 1) := dk_46 (dk_at dksX3_poundsOf_1 17 rfl rfl)
theorem dX3_poundsOf_42 : decode cX3_poundsOf 42 = .ok (.tableswitch 80 1 4 #[30, 32, 36, 73], 30) := by decide +kernel
theorem dX3_poundsOf_72 : decode cX3_poundsOf 72 = .ok (.iload_n 2, 1) := dk_28 (dk_at dksX3_poundsOf_3 0 rfl rfl)
theorem dX3_poundsOf_73 : decode cX3_poundsOf 73 = .ok (.ireturn, 1) := dk_172 (dk_at dksX3_poundsOf_3 1 rfl rfl)
theorem dX3_poundsOf_74 : decode cX3_poundsOf 74 = .ok (.iload_n 2, 1) := dk_28 (dk_at dksX3_poundsOf_3 2 rfl rfl)
theorem dX3_poundsOf_75 : decode cX3_poundsOf 75 = .ok (.iconst 2, 1) := dk_5 (dk_at dksX3_poundsOf_3 3 rfl rfl)
theorem dX3_poundsOf_76 : decode cX3_poundsOf 76 = .ok (.idiv, 1) := dk_108 (dk_at dksX3_poundsOf_3 4 rfl rfl)
theorem dX3_poundsOf_77 : decode cX3_poundsOf 77 = .ok (.ireturn, 1) := dk_172 (dk_at dksX3_poundsOf_3 5 rfl rfl)
theorem dX3_poundsOf_78 : decode cX3_poundsOf 78 = .ok (.aload_n 0, 1) := dk_42 (dk_at dksX3_poundsOf_3 6 rfl rfl)
theorem dX3_poundsOf_79 : decode cX3_poundsOf 79 = .ok (.getfield 7, 3) := dk_180 0 7 (dk_at dksX3_poundsOf_3 7 rfl rfl)
theorem dX3_poundsOf_82 : decode cX3_poundsOf 82 = .ok (.bipush 57, 2) := dk_16 57 (dk_at dksX3_poundsOf_3 10 rfl rfl)
theorem dX3_poundsOf_84 : decode cX3_poundsOf 84 = .ok (.iload_n 1, 1) := dk_27 (dk_at dksX3_poundsOf_3 12 rfl rfl)
theorem dX3_poundsOf_85 : decode cX3_poundsOf 85 = .ok (.iadd, 1) := dk_96 (dk_at dksX3_poundsOf_3 13 rfl rfl)
theorem dX3_poundsOf_86 : decode cX3_poundsOf 86 = .ok (.iaload, 1) := dk_46 (dk_at dksX3_poundsOf_3 14 rfl rfl)
theorem dX3_poundsOf_87 : decode cX3_poundsOf 87 = .ok (.aload_n 0, 1) := dk_42 (dk_at dksX3_poundsOf_3 15 rfl rfl)
theorem dX3_poundsOf_88 : decode cX3_poundsOf 88 = .ok (.getfield 7, 3) := dk_180 0 7 (dk_at dksX3_poundsOf_3 16 rfl rfl)
theorem dX3_poundsOf_91 : decode cX3_poundsOf 91 = .ok (.bipush 20, 2) := dk_16 20 (dk_at dksX3_poundsOf_3 19 rfl rfl)
theorem dX3_poundsOf_93 : decode cX3_poundsOf 93 = .ok (.aload_n 0, 1) := dk_42 (dk_at dksX3_poundsOf_3 21 rfl rfl)
theorem dX3_poundsOf_94 : decode cX3_poundsOf 94 = .ok (.getfield 7, 3) := dk_180 0 7 (dk_at dksX3_poundsOf_4 0 rfl rfl)
theorem dX3_poundsOf_97 : decode cX3_poundsOf 97 = .ok (.bipush 33, 2) := dk_16 33 (dk_at dksX3_poundsOf_4 3 rfl rfl)
theorem dX3_poundsOf_99 : decode cX3_poundsOf 99 = .ok (.iload_n 1, 1) := dk_27 (dk_at dksX3_poundsOf_4 5 rfl rfl)
theorem dX3_poundsOf_100 : decode cX3_poundsOf 100 = .ok (.iadd, 1) := dk_96 (dk_at dksX3_poundsOf_4 6 rfl rfl)
theorem dX3_poundsOf_101 : decode cX3_poundsOf 101 = .ok (.iaload, 1) := dk_46 (dk_at dksX3_poundsOf_4 7 rfl rfl)
theorem dX3_poundsOf_102 : decode cX3_poundsOf 102 = .ok (.iadd, 1) := dk_96 (dk_at dksX3_poundsOf_4 8 rfl rfl)
theorem dX3_poundsOf_103 : decode cX3_poundsOf 103 = .ok (.iaload, 1) := dk_46 (dk_at dksX3_poundsOf_4 9 rfl rfl)
theorem dX3_poundsOf_104 : decode cX3_poundsOf 104 = .ok (.if_icmp .ne 9, 3) := dk_160 0 9 (dk_at dksX3_poundsOf_4 10 rfl rfl)
theorem dX3_poundsOf_107 : decode cX3_poundsOf 107 = .ok (.iconst 2, 1) := dk_5 (dk_at dksX3_poundsOf_4 13 rfl rfl)
theorem dX3_poundsOf_108 : decode cX3_poundsOf 108 = .ok (.iload_n 2, 1) := dk_28 (dk_at dksX3_poundsOf_4 14 rfl rfl)
theorem dX3_poundsOf_109 : decode cX3_poundsOf 109 = .ok (.imul, 1) := dk_104 (dk_at dksX3_poundsOf_4 15 rfl rfl)
theorem dX3_poundsOf_110 : decode cX3_poundsOf 110 = .ok (.goto 4, 3) := dk_167 0 4 (dk_at dksX3_poundsOf_4 16 rfl rfl)
theorem dX3_poundsOf_113 : decode cX3_poundsOf 113 = .ok (.iload_n 2, 1) := dk_28 (dk_at dksX3_poundsOf_4 19 rfl rfl)
theorem dX3_poundsOf_114 : decode cX3_poundsOf 114 = .ok (.ireturn, 1) := dk_172 (dk_at dksX3_poundsOf_4 20 rfl rfl)
theorem dX3_poundsOf_115 : decode cX3_poundsOf 115 = .ok (.iload_n 2, 1) := dk_28 (dk_at dksX3_poundsOf_4 21 rfl rfl)
theorem dX3_poundsOf_116 : decode cX3_poundsOf 116 = .ok (.bipush 10, 2) := dk_16 10 (dk_at dksX3_poundsOf_4 22 rfl rfl)
theorem dX3_poundsOf_118 : decode cX3_poundsOf 118 = .ok (.invokestatic 155, 3) := dk_184 0 155 (dk_at dksX3_poundsOf_5 0 rfl rfl)
theorem dX3_poundsOf_121 : decode cX3_poundsOf 121 = .ok (.ireturn, 1) := dk_172 (dk_at dksX3_poundsOf_5 3 rfl rfl)
theorem dX3_poundsOf_122 : decode cX3_poundsOf 122 = .ok (.iconst 0, 1) := dk_3 (dk_at dksX3_poundsOf_5 4 rfl rfl)
theorem dX3_poundsOf_123 : decode cX3_poundsOf 123 = .ok (.ireturn, 1) := dk_172 (dk_at dksX3_poundsOf_5 5 rfl rfl)
abbrev cX3_lesser : ByteArray := prog_16_method_5_code
def yX3_lesser : MethodName := ⟨RX3, "lesser", "(II)I"⟩
def dkwX3_lesser_0 : List UInt8 := [26, 27, 162, 0, 7, 26, 167, 0, 4, 27, 172]
abbrev dktX3_lesser_0 : List UInt8 := dkwX3_lesser_0 ++ []
theorem dksX3_lesser_0 : cX3_lesser.data.toList.drop 0 = dktX3_lesser_0 := by decide +kernel
theorem dX3_lesser_0 : decode cX3_lesser 0 = .ok (.iload_n 0, 1) := dk_26 (dk_at dksX3_lesser_0 0 rfl rfl)
theorem dX3_lesser_1 : decode cX3_lesser 1 = .ok (.iload_n 1, 1) := dk_27 (dk_at dksX3_lesser_0 1 rfl rfl)
theorem dX3_lesser_2 : decode cX3_lesser 2 = .ok (.if_icmp .ge 7, 3) := dk_162 0 7 (dk_at dksX3_lesser_0 2 rfl rfl)
theorem dX3_lesser_5 : decode cX3_lesser 5 = .ok (.iload_n 0, 1) := dk_26 (dk_at dksX3_lesser_0 5 rfl rfl)
theorem dX3_lesser_6 : decode cX3_lesser 6 = .ok (.goto 4, 3) := dk_167 0 4 (dk_at dksX3_lesser_0 6 rfl rfl)
theorem dX3_lesser_9 : decode cX3_lesser 9 = .ok (.iload_n 1, 1) := dk_27 (dk_at dksX3_lesser_0 9 rfl rfl)
theorem dX3_lesser_10 : decode cX3_lesser 10 = .ok (.ireturn, 1) := dk_172 (dk_at dksX3_lesser_0 10 rfl rfl)
abbrev cX3_minds : ByteArray := prog_16_method_30_code
def yX3_minds : MethodName := ⟨RX3, "minds", "()V"⟩
def dkwX3_minds_4 : List UInt8 := [132, 1, 1, 167, 255, 223, 42, 89, 180, 0, 151, 4, 96, 181, 0, 151, 177]
abbrev dktX3_minds_4 : List UInt8 := dkwX3_minds_4 ++ []
def dkwX3_minds_3 : List UInt8 := [180, 0, 7, 17, 1, 36, 16, 73, 42, 180, 0, 151, 104, 96, 27, 96, 42, 180, 0, 7, 27, 46, 79]
abbrev dktX3_minds_3 : List UInt8 := dkwX3_minds_3 ++ dktX3_minds_4
def dkwX3_minds_2 : List UInt8 := [167, 255, 223, 42, 89, 180, 0, 151, 4, 100, 181, 0, 151, 3, 60, 27, 16, 73, 162, 0, 33, 42]
abbrev dktX3_minds_2 : List UInt8 := dkwX3_minds_2 ++ dktX3_minds_3
def dkwX3_minds_1 : List UInt8 := [17, 1, 36, 27, 96, 42, 180, 0, 7, 17, 1, 36, 27, 96, 16, 73, 96, 46, 79, 132, 1, 1]
abbrev dktX3_minds_1 : List UInt8 := dkwX3_minds_1 ++ dktX3_minds_2
def dkwX3_minds_0 : List UInt8 := [42, 180, 0, 151, 16, 24, 160, 0, 51, 3, 60, 27, 17, 6, 143, 162, 0, 32, 42, 180, 0, 7]
abbrev dktX3_minds_0 : List UInt8 := dkwX3_minds_0 ++ dktX3_minds_1
theorem dksX3_minds_0 : cX3_minds.data.toList.drop 0 = dktX3_minds_0 := by decide +kernel
theorem dksX3_minds_1 : cX3_minds.data.toList.drop 22 = dktX3_minds_1 := dk_seg dksX3_minds_0 22 rfl rfl
theorem dksX3_minds_2 : cX3_minds.data.toList.drop 44 = dktX3_minds_2 := dk_seg dksX3_minds_1 22 rfl rfl
theorem dksX3_minds_3 : cX3_minds.data.toList.drop 66 = dktX3_minds_3 := dk_seg dksX3_minds_2 22 rfl rfl
theorem dksX3_minds_4 : cX3_minds.data.toList.drop 89 = dktX3_minds_4 := dk_seg dksX3_minds_3 23 rfl rfl
theorem dX3_minds_0 : decode cX3_minds 0 = .ok (.aload_n 0, 1) := dk_42 (dk_at dksX3_minds_0 0 rfl rfl)
theorem dX3_minds_1 : decode cX3_minds 1 = .ok (.getfield 151, 3) := dk_180 0 151 (dk_at dksX3_minds_0 1 rfl rfl)
theorem dX3_minds_4 : decode cX3_minds 4 = .ok (.bipush 24, 2) := dk_16 24 (dk_at dksX3_minds_0 4 rfl rfl)
theorem dX3_minds_6 : decode cX3_minds 6 = .ok (.if_icmp .ne 51, 3) := dk_160 0 51 (dk_at dksX3_minds_0 6 rfl rfl)
theorem dX3_minds_9 : decode cX3_minds 9 = .ok (.iconst 0, 1) := dk_3 (dk_at dksX3_minds_0 9 rfl rfl)
theorem dX3_minds_10 : decode cX3_minds 10 = .ok (.istore_n 1, 1) := dk_60 (dk_at dksX3_minds_0 10 rfl rfl)
theorem dX3_minds_11 : decode cX3_minds 11 = .ok (.iload_n 1, 1) := dk_27 (dk_at dksX3_minds_0 11 rfl rfl)
theorem dX3_minds_12 : decode cX3_minds 12 = .ok (.sipush 1679, 3) := dk_17 6 143 (dk_at dksX3_minds_0 12 rfl rfl)
theorem dX3_minds_15 : decode cX3_minds 15 = .ok (.if_icmp .ge 32, 3) := dk_162 0 32 (dk_at dksX3_minds_0 15 rfl rfl)
theorem dX3_minds_18 : decode cX3_minds 18 = .ok (.aload_n 0, 1) := dk_42 (dk_at dksX3_minds_0 18 rfl rfl)
theorem dX3_minds_19 : decode cX3_minds 19 = .ok (.getfield 7, 3) := dk_180 0 7 (dk_at dksX3_minds_0 19 rfl rfl)
theorem dX3_minds_22 : decode cX3_minds 22 = .ok (.sipush 292, 3) := dk_17 1 36 (dk_at dksX3_minds_1 0 rfl rfl)
theorem dX3_minds_25 : decode cX3_minds 25 = .ok (.iload_n 1, 1) := dk_27 (dk_at dksX3_minds_1 3 rfl rfl)
theorem dX3_minds_26 : decode cX3_minds 26 = .ok (.iadd, 1) := dk_96 (dk_at dksX3_minds_1 4 rfl rfl)
theorem dX3_minds_27 : decode cX3_minds 27 = .ok (.aload_n 0, 1) := dk_42 (dk_at dksX3_minds_1 5 rfl rfl)
theorem dX3_minds_28 : decode cX3_minds 28 = .ok (.getfield 7, 3) := dk_180 0 7 (dk_at dksX3_minds_1 6 rfl rfl)
theorem dX3_minds_31 : decode cX3_minds 31 = .ok (.sipush 292, 3) := dk_17 1 36 (dk_at dksX3_minds_1 9 rfl rfl)
theorem dX3_minds_34 : decode cX3_minds 34 = .ok (.iload_n 1, 1) := dk_27 (dk_at dksX3_minds_1 12 rfl rfl)
theorem dX3_minds_35 : decode cX3_minds 35 = .ok (.iadd, 1) := dk_96 (dk_at dksX3_minds_1 13 rfl rfl)
theorem dX3_minds_36 : decode cX3_minds 36 = .ok (.bipush 73, 2) := dk_16 73 (dk_at dksX3_minds_1 14 rfl rfl)
theorem dX3_minds_38 : decode cX3_minds 38 = .ok (.iadd, 1) := dk_96 (dk_at dksX3_minds_1 16 rfl rfl)
theorem dX3_minds_39 : decode cX3_minds 39 = .ok (.iaload, 1) := dk_46 (dk_at dksX3_minds_1 17 rfl rfl)
theorem dX3_minds_40 : decode cX3_minds 40 = .ok (.iastore, 1) := dk_79 (dk_at dksX3_minds_1 18 rfl rfl)
theorem dX3_minds_41 : decode cX3_minds 41 = .ok (.iinc 1 1, 3) := dk_132 1 1 (dk_at dksX3_minds_1 19 rfl rfl)
theorem dX3_minds_44 : decode cX3_minds 44 = .ok (.goto (-33), 3) := dk_167 255 223 (dk_at dksX3_minds_2 0 rfl rfl)
theorem dX3_minds_47 : decode cX3_minds 47 = .ok (.aload_n 0, 1) := dk_42 (dk_at dksX3_minds_2 3 rfl rfl)
theorem dX3_minds_48 : decode cX3_minds 48 = .ok (.dup, 1) := dk_89 (dk_at dksX3_minds_2 4 rfl rfl)
theorem dX3_minds_49 : decode cX3_minds 49 = .ok (.getfield 151, 3) := dk_180 0 151 (dk_at dksX3_minds_2 5 rfl rfl)
theorem dX3_minds_52 : decode cX3_minds 52 = .ok (.iconst 1, 1) := dk_4 (dk_at dksX3_minds_2 8 rfl rfl)
theorem dX3_minds_53 : decode cX3_minds 53 = .ok (.isub, 1) := dk_100 (dk_at dksX3_minds_2 9 rfl rfl)
theorem dX3_minds_54 : decode cX3_minds 54 = .ok (.putfield 151, 3) := dk_181 0 151 (dk_at dksX3_minds_2 10 rfl rfl)
theorem dX3_minds_57 : decode cX3_minds 57 = .ok (.iconst 0, 1) := dk_3 (dk_at dksX3_minds_2 13 rfl rfl)
theorem dX3_minds_58 : decode cX3_minds 58 = .ok (.istore_n 1, 1) := dk_60 (dk_at dksX3_minds_2 14 rfl rfl)
theorem dX3_minds_59 : decode cX3_minds 59 = .ok (.iload_n 1, 1) := dk_27 (dk_at dksX3_minds_2 15 rfl rfl)
theorem dX3_minds_60 : decode cX3_minds 60 = .ok (.bipush 73, 2) := dk_16 73 (dk_at dksX3_minds_2 16 rfl rfl)
theorem dX3_minds_62 : decode cX3_minds 62 = .ok (.if_icmp .ge 33, 3) := dk_162 0 33 (dk_at dksX3_minds_2 18 rfl rfl)
theorem dX3_minds_65 : decode cX3_minds 65 = .ok (.aload_n 0, 1) := dk_42 (dk_at dksX3_minds_2 21 rfl rfl)
theorem dX3_minds_66 : decode cX3_minds 66 = .ok (.getfield 7, 3) := dk_180 0 7 (dk_at dksX3_minds_3 0 rfl rfl)
theorem dX3_minds_69 : decode cX3_minds 69 = .ok (.sipush 292, 3) := dk_17 1 36 (dk_at dksX3_minds_3 3 rfl rfl)
theorem dX3_minds_72 : decode cX3_minds 72 = .ok (.bipush 73, 2) := dk_16 73 (dk_at dksX3_minds_3 6 rfl rfl)
theorem dX3_minds_74 : decode cX3_minds 74 = .ok (.aload_n 0, 1) := dk_42 (dk_at dksX3_minds_3 8 rfl rfl)
theorem dX3_minds_75 : decode cX3_minds 75 = .ok (.getfield 151, 3) := dk_180 0 151 (dk_at dksX3_minds_3 9 rfl rfl)
theorem dX3_minds_78 : decode cX3_minds 78 = .ok (.imul, 1) := dk_104 (dk_at dksX3_minds_3 12 rfl rfl)
theorem dX3_minds_79 : decode cX3_minds 79 = .ok (.iadd, 1) := dk_96 (dk_at dksX3_minds_3 13 rfl rfl)
theorem dX3_minds_80 : decode cX3_minds 80 = .ok (.iload_n 1, 1) := dk_27 (dk_at dksX3_minds_3 14 rfl rfl)
theorem dX3_minds_81 : decode cX3_minds 81 = .ok (.iadd, 1) := dk_96 (dk_at dksX3_minds_3 15 rfl rfl)
theorem dX3_minds_82 : decode cX3_minds 82 = .ok (.aload_n 0, 1) := dk_42 (dk_at dksX3_minds_3 16 rfl rfl)
theorem dX3_minds_83 : decode cX3_minds 83 = .ok (.getfield 7, 3) := dk_180 0 7 (dk_at dksX3_minds_3 17 rfl rfl)
theorem dX3_minds_86 : decode cX3_minds 86 = .ok (.iload_n 1, 1) := dk_27 (dk_at dksX3_minds_3 20 rfl rfl)
theorem dX3_minds_87 : decode cX3_minds 87 = .ok (.iaload, 1) := dk_46 (dk_at dksX3_minds_3 21 rfl rfl)
theorem dX3_minds_88 : decode cX3_minds 88 = .ok (.iastore, 1) := dk_79 (dk_at dksX3_minds_3 22 rfl rfl)
theorem dX3_minds_89 : decode cX3_minds 89 = .ok (.iinc 1 1, 3) := dk_132 1 1 (dk_at dksX3_minds_4 0 rfl rfl)
theorem dX3_minds_92 : decode cX3_minds 92 = .ok (.goto (-33), 3) := dk_167 255 223 (dk_at dksX3_minds_4 3 rfl rfl)
theorem dX3_minds_95 : decode cX3_minds 95 = .ok (.aload_n 0, 1) := dk_42 (dk_at dksX3_minds_4 6 rfl rfl)
theorem dX3_minds_96 : decode cX3_minds 96 = .ok (.dup, 1) := dk_89 (dk_at dksX3_minds_4 7 rfl rfl)
theorem dX3_minds_97 : decode cX3_minds 97 = .ok (.getfield 151, 3) := dk_180 0 151 (dk_at dksX3_minds_4 8 rfl rfl)
theorem dX3_minds_100 : decode cX3_minds 100 = .ok (.iconst 1, 1) := dk_4 (dk_at dksX3_minds_4 11 rfl rfl)
theorem dX3_minds_101 : decode cX3_minds 101 = .ok (.iadd, 1) := dk_96 (dk_at dksX3_minds_4 12 rfl rfl)
theorem dX3_minds_102 : decode cX3_minds 102 = .ok (.putfield 151, 3) := dk_181 0 151 (dk_at dksX3_minds_4 13 rfl rfl)
theorem dX3_minds_105 : decode cX3_minds 105 = .ok (.return_, 1) := dk_177 (dk_at dksX3_minds_4 16 rfl rfl)
abbrev cX3_give : ByteArray := prog_16_method_41_code
def yX3_give : MethodName := ⟨RX3, "give", "(IIIII)I"⟩
def dkwX3_give_6 : List UInt8 := [180, 0, 7, 16, 65, 21, 6, 96, 3, 79, 42, 180, 0, 7, 16, 7, 92, 46, 4, 96, 79, 21, 6, 172]
abbrev dktX3_give_6 : List UInt8 := dkwX3_give_6 ++ []
def dkwX3_give_5 : List UInt8 := [180, 0, 7, 16, 49, 21, 6, 96, 21, 4, 79, 42, 180, 0, 7, 16, 57, 21, 6, 96, 21, 5, 79, 42]
abbrev dktX3_give_5 : List UInt8 := dkwX3_give_5 ++ dktX3_give_6
def dkwX3_give_4 : List UInt8 := [79, 42, 180, 0, 7, 16, 33, 21, 6, 96, 28, 79, 42, 180, 0, 7, 16, 41, 21, 6, 96, 29, 79, 42]
abbrev dktX3_give_4 : List UInt8 := dkwX3_give_4 ++ dktX3_give_5
def dkwX3_give_3 : List UInt8 := [21, 6, 16, 8, 160, 0, 6, 18, 94, 172, 42, 182, 0, 175, 42, 180, 0, 7, 16, 25, 21, 6, 96, 27]
abbrev dktX3_give_3 : List UInt8 := dkwX3_give_3 ++ dktX3_give_4
def dkwX3_give_2 : List UInt8 := [133, 9, 20, 0, 164, 184, 0, 63, 154, 0, 6, 18, 73, 172, 42, 180, 0, 7, 16, 7, 46, 54, 6]
abbrev dktX3_give_2 : List UInt8 := dkwX3_give_2 ++ dktX3_give_3
def dkwX3_give_1 : List UInt8 := [20, 0, 178, 184, 0, 63, 153, 0, 29, 21, 4, 133, 9, 20, 0, 180, 184, 0, 63, 153, 0, 16, 21, 5]
abbrev dktX3_give_1 : List UInt8 := dkwX3_give_1 ++ dktX3_give_2
def dkwX3_give_0 : List UInt8 := [42, 27, 182, 0, 169, 153, 0, 54, 42, 28, 182, 0, 169, 153, 0, 46, 27, 28, 159, 0, 41, 29, 133, 10]
abbrev dktX3_give_0 : List UInt8 := dkwX3_give_0 ++ dktX3_give_1
theorem dksX3_give_0 : cX3_give.data.toList.drop 0 = dktX3_give_0 := by decide +kernel
theorem dksX3_give_1 : cX3_give.data.toList.drop 24 = dktX3_give_1 := dk_seg dksX3_give_0 24 rfl rfl
theorem dksX3_give_2 : cX3_give.data.toList.drop 48 = dktX3_give_2 := dk_seg dksX3_give_1 24 rfl rfl
theorem dksX3_give_3 : cX3_give.data.toList.drop 71 = dktX3_give_3 := dk_seg dksX3_give_2 23 rfl rfl
theorem dksX3_give_4 : cX3_give.data.toList.drop 95 = dktX3_give_4 := dk_seg dksX3_give_3 24 rfl rfl
theorem dksX3_give_5 : cX3_give.data.toList.drop 119 = dktX3_give_5 := dk_seg dksX3_give_4 24 rfl rfl
theorem dksX3_give_6 : cX3_give.data.toList.drop 143 = dktX3_give_6 := dk_seg dksX3_give_5 24 rfl rfl
theorem dX3_give_0 : decode cX3_give 0 = .ok (.aload_n 0, 1) := dk_42 (dk_at dksX3_give_0 0 rfl rfl)
theorem dX3_give_1 : decode cX3_give 1 = .ok (.iload_n 1, 1) := dk_27 (dk_at dksX3_give_0 1 rfl rfl)
theorem dX3_give_2 : decode cX3_give 2 = .ok (.invokevirtual 169, 3) := dk_182 0 169 (dk_at dksX3_give_0 2 rfl rfl)
theorem dX3_give_5 : decode cX3_give 5 = .ok (.ifCond .eq 54, 3) := dk_153 0 54 (dk_at dksX3_give_0 5 rfl rfl)
theorem dX3_give_8 : decode cX3_give 8 = .ok (.aload_n 0, 1) := dk_42 (dk_at dksX3_give_0 8 rfl rfl)
theorem dX3_give_9 : decode cX3_give 9 = .ok (.iload_n 2, 1) := dk_28 (dk_at dksX3_give_0 9 rfl rfl)
theorem dX3_give_10 : decode cX3_give 10 = .ok (.invokevirtual 169, 3) := dk_182 0 169 (dk_at dksX3_give_0 10 rfl rfl)
theorem dX3_give_13 : decode cX3_give 13 = .ok (.ifCond .eq 46, 3) := dk_153 0 46 (dk_at dksX3_give_0 13 rfl rfl)
theorem dX3_give_16 : decode cX3_give 16 = .ok (.iload_n 1, 1) := dk_27 (dk_at dksX3_give_0 16 rfl rfl)
theorem dX3_give_17 : decode cX3_give 17 = .ok (.iload_n 2, 1) := dk_28 (dk_at dksX3_give_0 17 rfl rfl)
theorem dX3_give_18 : decode cX3_give 18 = .ok (.if_icmp .eq 41, 3) := dk_159 0 41 (dk_at dksX3_give_0 18 rfl rfl)
theorem dX3_give_21 : decode cX3_give 21 = .ok (.iload_n 3, 1) := dk_29 (dk_at dksX3_give_0 21 rfl rfl)
theorem dX3_give_22 : decode cX3_give 22 = .ok (.i2l, 1) := dk_133 (dk_at dksX3_give_0 22 rfl rfl)
theorem dX3_give_23 : decode cX3_give 23 = .ok (.lconst 1, 1) := dk_10 (dk_at dksX3_give_0 23 rfl rfl)
theorem dX3_give_24 : decode cX3_give 24 = .ok (.ldc2_w 178, 3) := dk_20 0 178 (dk_at dksX3_give_1 0 rfl rfl)
theorem dX3_give_27 : decode cX3_give 27 = .ok (.invokestatic 63, 3) := dk_184 0 63 (dk_at dksX3_give_1 3 rfl rfl)
theorem dX3_give_30 : decode cX3_give 30 = .ok (.ifCond .eq 29, 3) := dk_153 0 29 (dk_at dksX3_give_1 6 rfl rfl)
theorem dX3_give_33 : decode cX3_give 33 = .ok (.iload 4, 2) := dk_21 4 (dk_at dksX3_give_1 9 rfl rfl)
theorem dX3_give_35 : decode cX3_give 35 = .ok (.i2l, 1) := dk_133 (dk_at dksX3_give_1 11 rfl rfl)
theorem dX3_give_36 : decode cX3_give 36 = .ok (.lconst 0, 1) := dk_9 (dk_at dksX3_give_1 12 rfl rfl)
theorem dX3_give_37 : decode cX3_give 37 = .ok (.ldc2_w 180, 3) := dk_20 0 180 (dk_at dksX3_give_1 13 rfl rfl)
theorem dX3_give_40 : decode cX3_give 40 = .ok (.invokestatic 63, 3) := dk_184 0 63 (dk_at dksX3_give_1 16 rfl rfl)
theorem dX3_give_43 : decode cX3_give 43 = .ok (.ifCond .eq 16, 3) := dk_153 0 16 (dk_at dksX3_give_1 19 rfl rfl)
theorem dX3_give_46 : decode cX3_give 46 = .ok (.iload 5, 2) := dk_21 5 (dk_at dksX3_give_1 22 rfl rfl)
theorem dX3_give_48 : decode cX3_give 48 = .ok (.i2l, 1) := dk_133 (dk_at dksX3_give_2 0 rfl rfl)
theorem dX3_give_49 : decode cX3_give 49 = .ok (.lconst 0, 1) := dk_9 (dk_at dksX3_give_2 1 rfl rfl)
theorem dX3_give_50 : decode cX3_give 50 = .ok (.ldc2_w 164, 3) := dk_20 0 164 (dk_at dksX3_give_2 2 rfl rfl)
theorem dX3_give_53 : decode cX3_give 53 = .ok (.invokestatic 63, 3) := dk_184 0 63 (dk_at dksX3_give_2 5 rfl rfl)
theorem dX3_give_56 : decode cX3_give 56 = .ok (.ifCond .ne 6, 3) := dk_154 0 6 (dk_at dksX3_give_2 8 rfl rfl)
theorem dX3_give_59 : decode cX3_give 59 = .ok (.ldc 73, 2) := dk_18 73 (dk_at dksX3_give_2 11 rfl rfl)
theorem dX3_give_61 : decode cX3_give 61 = .ok (.ireturn, 1) := dk_172 (dk_at dksX3_give_2 13 rfl rfl)
theorem dX3_give_62 : decode cX3_give 62 = .ok (.aload_n 0, 1) := dk_42 (dk_at dksX3_give_2 14 rfl rfl)
theorem dX3_give_63 : decode cX3_give 63 = .ok (.getfield 7, 3) := dk_180 0 7 (dk_at dksX3_give_2 15 rfl rfl)
theorem dX3_give_66 : decode cX3_give 66 = .ok (.bipush 7, 2) := dk_16 7 (dk_at dksX3_give_2 18 rfl rfl)
theorem dX3_give_68 : decode cX3_give 68 = .ok (.iaload, 1) := dk_46 (dk_at dksX3_give_2 20 rfl rfl)
theorem dX3_give_69 : decode cX3_give 69 = .ok (.istore 6, 2) := dk_54 6 (dk_at dksX3_give_2 21 rfl rfl)
theorem dX3_give_71 : decode cX3_give 71 = .ok (.iload 6, 2) := dk_21 6 (dk_at dksX3_give_3 0 rfl rfl)
theorem dX3_give_73 : decode cX3_give 73 = .ok (.bipush 8, 2) := dk_16 8 (dk_at dksX3_give_3 2 rfl rfl)
theorem dX3_give_75 : decode cX3_give 75 = .ok (.if_icmp .ne 6, 3) := dk_160 0 6 (dk_at dksX3_give_3 4 rfl rfl)
theorem dX3_give_78 : decode cX3_give 78 = .ok (.ldc 94, 2) := dk_18 94 (dk_at dksX3_give_3 7 rfl rfl)
theorem dX3_give_80 : decode cX3_give 80 = .ok (.ireturn, 1) := dk_172 (dk_at dksX3_give_3 9 rfl rfl)
theorem dX3_give_81 : decode cX3_give 81 = .ok (.aload_n 0, 1) := dk_42 (dk_at dksX3_give_3 10 rfl rfl)
theorem dX3_give_82 : decode cX3_give 82 = .ok (.invokevirtual 175, 3) := dk_182 0 175 (dk_at dksX3_give_3 11 rfl rfl)
theorem dX3_give_85 : decode cX3_give 85 = .ok (.aload_n 0, 1) := dk_42 (dk_at dksX3_give_3 14 rfl rfl)
theorem dX3_give_86 : decode cX3_give 86 = .ok (.getfield 7, 3) := dk_180 0 7 (dk_at dksX3_give_3 15 rfl rfl)
theorem dX3_give_89 : decode cX3_give 89 = .ok (.bipush 25, 2) := dk_16 25 (dk_at dksX3_give_3 18 rfl rfl)
theorem dX3_give_91 : decode cX3_give 91 = .ok (.iload 6, 2) := dk_21 6 (dk_at dksX3_give_3 20 rfl rfl)
theorem dX3_give_93 : decode cX3_give 93 = .ok (.iadd, 1) := dk_96 (dk_at dksX3_give_3 22 rfl rfl)
theorem dX3_give_94 : decode cX3_give 94 = .ok (.iload_n 1, 1) := dk_27 (dk_at dksX3_give_3 23 rfl rfl)
theorem dX3_give_95 : decode cX3_give 95 = .ok (.iastore, 1) := dk_79 (dk_at dksX3_give_4 0 rfl rfl)
theorem dX3_give_96 : decode cX3_give 96 = .ok (.aload_n 0, 1) := dk_42 (dk_at dksX3_give_4 1 rfl rfl)
theorem dX3_give_97 : decode cX3_give 97 = .ok (.getfield 7, 3) := dk_180 0 7 (dk_at dksX3_give_4 2 rfl rfl)
theorem dX3_give_100 : decode cX3_give 100 = .ok (.bipush 33, 2) := dk_16 33 (dk_at dksX3_give_4 5 rfl rfl)
theorem dX3_give_102 : decode cX3_give 102 = .ok (.iload 6, 2) := dk_21 6 (dk_at dksX3_give_4 7 rfl rfl)
theorem dX3_give_104 : decode cX3_give 104 = .ok (.iadd, 1) := dk_96 (dk_at dksX3_give_4 9 rfl rfl)
theorem dX3_give_105 : decode cX3_give 105 = .ok (.iload_n 2, 1) := dk_28 (dk_at dksX3_give_4 10 rfl rfl)
theorem dX3_give_106 : decode cX3_give 106 = .ok (.iastore, 1) := dk_79 (dk_at dksX3_give_4 11 rfl rfl)
theorem dX3_give_107 : decode cX3_give 107 = .ok (.aload_n 0, 1) := dk_42 (dk_at dksX3_give_4 12 rfl rfl)
theorem dX3_give_108 : decode cX3_give 108 = .ok (.getfield 7, 3) := dk_180 0 7 (dk_at dksX3_give_4 13 rfl rfl)
theorem dX3_give_111 : decode cX3_give 111 = .ok (.bipush 41, 2) := dk_16 41 (dk_at dksX3_give_4 16 rfl rfl)
theorem dX3_give_113 : decode cX3_give 113 = .ok (.iload 6, 2) := dk_21 6 (dk_at dksX3_give_4 18 rfl rfl)
theorem dX3_give_115 : decode cX3_give 115 = .ok (.iadd, 1) := dk_96 (dk_at dksX3_give_4 20 rfl rfl)
theorem dX3_give_116 : decode cX3_give 116 = .ok (.iload_n 3, 1) := dk_29 (dk_at dksX3_give_4 21 rfl rfl)
theorem dX3_give_117 : decode cX3_give 117 = .ok (.iastore, 1) := dk_79 (dk_at dksX3_give_4 22 rfl rfl)
theorem dX3_give_118 : decode cX3_give 118 = .ok (.aload_n 0, 1) := dk_42 (dk_at dksX3_give_4 23 rfl rfl)
theorem dX3_give_119 : decode cX3_give 119 = .ok (.getfield 7, 3) := dk_180 0 7 (dk_at dksX3_give_5 0 rfl rfl)
theorem dX3_give_122 : decode cX3_give 122 = .ok (.bipush 49, 2) := dk_16 49 (dk_at dksX3_give_5 3 rfl rfl)
theorem dX3_give_124 : decode cX3_give 124 = .ok (.iload 6, 2) := dk_21 6 (dk_at dksX3_give_5 5 rfl rfl)
theorem dX3_give_126 : decode cX3_give 126 = .ok (.iadd, 1) := dk_96 (dk_at dksX3_give_5 7 rfl rfl)
theorem dX3_give_127 : decode cX3_give 127 = .ok (.iload 4, 2) := dk_21 4 (dk_at dksX3_give_5 8 rfl rfl)
theorem dX3_give_129 : decode cX3_give 129 = .ok (.iastore, 1) := dk_79 (dk_at dksX3_give_5 10 rfl rfl)
theorem dX3_give_130 : decode cX3_give 130 = .ok (.aload_n 0, 1) := dk_42 (dk_at dksX3_give_5 11 rfl rfl)
theorem dX3_give_131 : decode cX3_give 131 = .ok (.getfield 7, 3) := dk_180 0 7 (dk_at dksX3_give_5 12 rfl rfl)
theorem dX3_give_134 : decode cX3_give 134 = .ok (.bipush 57, 2) := dk_16 57 (dk_at dksX3_give_5 15 rfl rfl)
theorem dX3_give_136 : decode cX3_give 136 = .ok (.iload 6, 2) := dk_21 6 (dk_at dksX3_give_5 17 rfl rfl)
theorem dX3_give_138 : decode cX3_give 138 = .ok (.iadd, 1) := dk_96 (dk_at dksX3_give_5 19 rfl rfl)
theorem dX3_give_139 : decode cX3_give 139 = .ok (.iload 5, 2) := dk_21 5 (dk_at dksX3_give_5 20 rfl rfl)
theorem dX3_give_141 : decode cX3_give 141 = .ok (.iastore, 1) := dk_79 (dk_at dksX3_give_5 22 rfl rfl)
theorem dX3_give_142 : decode cX3_give 142 = .ok (.aload_n 0, 1) := dk_42 (dk_at dksX3_give_5 23 rfl rfl)
theorem dX3_give_143 : decode cX3_give 143 = .ok (.getfield 7, 3) := dk_180 0 7 (dk_at dksX3_give_6 0 rfl rfl)
theorem dX3_give_146 : decode cX3_give 146 = .ok (.bipush 65, 2) := dk_16 65 (dk_at dksX3_give_6 3 rfl rfl)
theorem dX3_give_148 : decode cX3_give 148 = .ok (.iload 6, 2) := dk_21 6 (dk_at dksX3_give_6 5 rfl rfl)
theorem dX3_give_150 : decode cX3_give 150 = .ok (.iadd, 1) := dk_96 (dk_at dksX3_give_6 7 rfl rfl)
theorem dX3_give_151 : decode cX3_give 151 = .ok (.iconst 0, 1) := dk_3 (dk_at dksX3_give_6 8 rfl rfl)
theorem dX3_give_152 : decode cX3_give 152 = .ok (.iastore, 1) := dk_79 (dk_at dksX3_give_6 9 rfl rfl)
theorem dX3_give_153 : decode cX3_give 153 = .ok (.aload_n 0, 1) := dk_42 (dk_at dksX3_give_6 10 rfl rfl)
theorem dX3_give_154 : decode cX3_give 154 = .ok (.getfield 7, 3) := dk_180 0 7 (dk_at dksX3_give_6 11 rfl rfl)
theorem dX3_give_157 : decode cX3_give 157 = .ok (.bipush 7, 2) := dk_16 7 (dk_at dksX3_give_6 14 rfl rfl)
theorem dX3_give_159 : decode cX3_give 159 = .ok (.dup2, 1) := dk_92 (dk_at dksX3_give_6 16 rfl rfl)
theorem dX3_give_160 : decode cX3_give 160 = .ok (.iaload, 1) := dk_46 (dk_at dksX3_give_6 17 rfl rfl)
theorem dX3_give_161 : decode cX3_give 161 = .ok (.iconst 1, 1) := dk_4 (dk_at dksX3_give_6 18 rfl rfl)
theorem dX3_give_162 : decode cX3_give 162 = .ok (.iadd, 1) := dk_96 (dk_at dksX3_give_6 19 rfl rfl)
theorem dX3_give_163 : decode cX3_give 163 = .ok (.iastore, 1) := dk_79 (dk_at dksX3_give_6 20 rfl rfl)
theorem dX3_give_164 : decode cX3_give 164 = .ok (.iload 6, 2) := dk_21 6 (dk_at dksX3_give_6 21 rfl rfl)
theorem dX3_give_166 : decode cX3_give 166 = .ok (.ireturn, 1) := dk_172 (dk_at dksX3_give_6 23 rfl rfl)
abbrev cX3_redeem : ByteArray := prog_16_method_42_code
def yX3_redeem : MethodName := ⟨RX3, "redeem", "(I)I"⟩
def dkwX3_redeem_3 : List UInt8 := [180, 0, 7, 16, 8, 46, 42, 180, 0, 7, 16, 49, 27, 96, 46, 163, 0, 7, 4, 167, 0, 4, 3, 172]
abbrev dktX3_redeem_3 : List UInt8 := dkwX3_redeem_3 ++ []
def dkwX3_redeem_2 : List UInt8 := [96, 46, 159, 0, 6, 18, 154, 172, 42, 182, 0, 175, 42, 180, 0, 7, 16, 65, 27, 96, 4, 79, 42]
abbrev dktX3_redeem_2 : List UInt8 := dkwX3_redeem_2 ++ dktX3_redeem_3
def dkwX3_redeem_1 : List UInt8 := [42, 180, 0, 7, 16, 20, 42, 180, 0, 7, 16, 25, 27, 96, 46, 96, 46, 42, 180, 0, 7, 16, 57, 27]
abbrev dktX3_redeem_1 : List UInt8 := dkwX3_redeem_1 ++ dktX3_redeem_2
def dkwX3_redeem_0 : List UInt8 := [42, 27, 182, 0, 182, 154, 0, 6, 18, 73, 172, 42, 180, 0, 7, 16, 65, 27, 96, 46, 4, 159, 0, 32]
abbrev dktX3_redeem_0 : List UInt8 := dkwX3_redeem_0 ++ dktX3_redeem_1
theorem dksX3_redeem_0 : cX3_redeem.data.toList.drop 0 = dktX3_redeem_0 := by decide +kernel
theorem dksX3_redeem_1 : cX3_redeem.data.toList.drop 24 = dktX3_redeem_1 := dk_seg dksX3_redeem_0 24 rfl rfl
theorem dksX3_redeem_2 : cX3_redeem.data.toList.drop 48 = dktX3_redeem_2 := dk_seg dksX3_redeem_1 24 rfl rfl
theorem dksX3_redeem_3 : cX3_redeem.data.toList.drop 71 = dktX3_redeem_3 := dk_seg dksX3_redeem_2 23 rfl rfl
theorem dX3_redeem_0 : decode cX3_redeem 0 = .ok (.aload_n 0, 1) := dk_42 (dk_at dksX3_redeem_0 0 rfl rfl)
theorem dX3_redeem_1 : decode cX3_redeem 1 = .ok (.iload_n 1, 1) := dk_27 (dk_at dksX3_redeem_0 1 rfl rfl)
theorem dX3_redeem_2 : decode cX3_redeem 2 = .ok (.invokevirtual 182, 3) := dk_182 0 182 (dk_at dksX3_redeem_0 2 rfl rfl)
theorem dX3_redeem_5 : decode cX3_redeem 5 = .ok (.ifCond .ne 6, 3) := dk_154 0 6 (dk_at dksX3_redeem_0 5 rfl rfl)
theorem dX3_redeem_8 : decode cX3_redeem 8 = .ok (.ldc 73, 2) := dk_18 73 (dk_at dksX3_redeem_0 8 rfl rfl)
theorem dX3_redeem_10 : decode cX3_redeem 10 = .ok (.ireturn, 1) := dk_172 (dk_at dksX3_redeem_0 10 rfl rfl)
theorem dX3_redeem_11 : decode cX3_redeem 11 = .ok (.aload_n 0, 1) := dk_42 (dk_at dksX3_redeem_0 11 rfl rfl)
theorem dX3_redeem_12 : decode cX3_redeem 12 = .ok (.getfield 7, 3) := dk_180 0 7 (dk_at dksX3_redeem_0 12 rfl rfl)
theorem dX3_redeem_15 : decode cX3_redeem 15 = .ok (.bipush 65, 2) := dk_16 65 (dk_at dksX3_redeem_0 15 rfl rfl)
theorem dX3_redeem_17 : decode cX3_redeem 17 = .ok (.iload_n 1, 1) := dk_27 (dk_at dksX3_redeem_0 17 rfl rfl)
theorem dX3_redeem_18 : decode cX3_redeem 18 = .ok (.iadd, 1) := dk_96 (dk_at dksX3_redeem_0 18 rfl rfl)
theorem dX3_redeem_19 : decode cX3_redeem 19 = .ok (.iaload, 1) := dk_46 (dk_at dksX3_redeem_0 19 rfl rfl)
theorem dX3_redeem_20 : decode cX3_redeem 20 = .ok (.iconst 1, 1) := dk_4 (dk_at dksX3_redeem_0 20 rfl rfl)
theorem dX3_redeem_21 : decode cX3_redeem 21 = .ok (.if_icmp .eq 32, 3) := dk_159 0 32 (dk_at dksX3_redeem_0 21 rfl rfl)
theorem dX3_redeem_24 : decode cX3_redeem 24 = .ok (.aload_n 0, 1) := dk_42 (dk_at dksX3_redeem_1 0 rfl rfl)
theorem dX3_redeem_25 : decode cX3_redeem 25 = .ok (.getfield 7, 3) := dk_180 0 7 (dk_at dksX3_redeem_1 1 rfl rfl)
theorem dX3_redeem_28 : decode cX3_redeem 28 = .ok (.bipush 20, 2) := dk_16 20 (dk_at dksX3_redeem_1 4 rfl rfl)
theorem dX3_redeem_30 : decode cX3_redeem 30 = .ok (.aload_n 0, 1) := dk_42 (dk_at dksX3_redeem_1 6 rfl rfl)
theorem dX3_redeem_31 : decode cX3_redeem 31 = .ok (.getfield 7, 3) := dk_180 0 7 (dk_at dksX3_redeem_1 7 rfl rfl)
theorem dX3_redeem_34 : decode cX3_redeem 34 = .ok (.bipush 25, 2) := dk_16 25 (dk_at dksX3_redeem_1 10 rfl rfl)
theorem dX3_redeem_36 : decode cX3_redeem 36 = .ok (.iload_n 1, 1) := dk_27 (dk_at dksX3_redeem_1 12 rfl rfl)
theorem dX3_redeem_37 : decode cX3_redeem 37 = .ok (.iadd, 1) := dk_96 (dk_at dksX3_redeem_1 13 rfl rfl)
theorem dX3_redeem_38 : decode cX3_redeem 38 = .ok (.iaload, 1) := dk_46 (dk_at dksX3_redeem_1 14 rfl rfl)
theorem dX3_redeem_39 : decode cX3_redeem 39 = .ok (.iadd, 1) := dk_96 (dk_at dksX3_redeem_1 15 rfl rfl)
theorem dX3_redeem_40 : decode cX3_redeem 40 = .ok (.iaload, 1) := dk_46 (dk_at dksX3_redeem_1 16 rfl rfl)
theorem dX3_redeem_41 : decode cX3_redeem 41 = .ok (.aload_n 0, 1) := dk_42 (dk_at dksX3_redeem_1 17 rfl rfl)
theorem dX3_redeem_42 : decode cX3_redeem 42 = .ok (.getfield 7, 3) := dk_180 0 7 (dk_at dksX3_redeem_1 18 rfl rfl)
theorem dX3_redeem_45 : decode cX3_redeem 45 = .ok (.bipush 57, 2) := dk_16 57 (dk_at dksX3_redeem_1 21 rfl rfl)
theorem dX3_redeem_47 : decode cX3_redeem 47 = .ok (.iload_n 1, 1) := dk_27 (dk_at dksX3_redeem_1 23 rfl rfl)
theorem dX3_redeem_48 : decode cX3_redeem 48 = .ok (.iadd, 1) := dk_96 (dk_at dksX3_redeem_2 0 rfl rfl)
theorem dX3_redeem_49 : decode cX3_redeem 49 = .ok (.iaload, 1) := dk_46 (dk_at dksX3_redeem_2 1 rfl rfl)
theorem dX3_redeem_50 : decode cX3_redeem 50 = .ok (.if_icmp .eq 6, 3) := dk_159 0 6 (dk_at dksX3_redeem_2 2 rfl rfl)
theorem dX3_redeem_53 : decode cX3_redeem 53 = .ok (.ldc 154, 2) := dk_18 154 (dk_at dksX3_redeem_2 5 rfl rfl)
theorem dX3_redeem_55 : decode cX3_redeem 55 = .ok (.ireturn, 1) := dk_172 (dk_at dksX3_redeem_2 7 rfl rfl)
theorem dX3_redeem_56 : decode cX3_redeem 56 = .ok (.aload_n 0, 1) := dk_42 (dk_at dksX3_redeem_2 8 rfl rfl)
theorem dX3_redeem_57 : decode cX3_redeem 57 = .ok (.invokevirtual 175, 3) := dk_182 0 175 (dk_at dksX3_redeem_2 9 rfl rfl)
theorem dX3_redeem_60 : decode cX3_redeem 60 = .ok (.aload_n 0, 1) := dk_42 (dk_at dksX3_redeem_2 12 rfl rfl)
theorem dX3_redeem_61 : decode cX3_redeem 61 = .ok (.getfield 7, 3) := dk_180 0 7 (dk_at dksX3_redeem_2 13 rfl rfl)
theorem dX3_redeem_64 : decode cX3_redeem 64 = .ok (.bipush 65, 2) := dk_16 65 (dk_at dksX3_redeem_2 16 rfl rfl)
theorem dX3_redeem_66 : decode cX3_redeem 66 = .ok (.iload_n 1, 1) := dk_27 (dk_at dksX3_redeem_2 18 rfl rfl)
theorem dX3_redeem_67 : decode cX3_redeem 67 = .ok (.iadd, 1) := dk_96 (dk_at dksX3_redeem_2 19 rfl rfl)
theorem dX3_redeem_68 : decode cX3_redeem 68 = .ok (.iconst 1, 1) := dk_4 (dk_at dksX3_redeem_2 20 rfl rfl)
theorem dX3_redeem_69 : decode cX3_redeem 69 = .ok (.iastore, 1) := dk_79 (dk_at dksX3_redeem_2 21 rfl rfl)
theorem dX3_redeem_70 : decode cX3_redeem 70 = .ok (.aload_n 0, 1) := dk_42 (dk_at dksX3_redeem_2 22 rfl rfl)
theorem dX3_redeem_71 : decode cX3_redeem 71 = .ok (.getfield 7, 3) := dk_180 0 7 (dk_at dksX3_redeem_3 0 rfl rfl)
theorem dX3_redeem_74 : decode cX3_redeem 74 = .ok (.bipush 8, 2) := dk_16 8 (dk_at dksX3_redeem_3 3 rfl rfl)
theorem dX3_redeem_76 : decode cX3_redeem 76 = .ok (.iaload, 1) := dk_46 (dk_at dksX3_redeem_3 5 rfl rfl)
theorem dX3_redeem_77 : decode cX3_redeem 77 = .ok (.aload_n 0, 1) := dk_42 (dk_at dksX3_redeem_3 6 rfl rfl)
theorem dX3_redeem_78 : decode cX3_redeem 78 = .ok (.getfield 7, 3) := dk_180 0 7 (dk_at dksX3_redeem_3 7 rfl rfl)
theorem dX3_redeem_81 : decode cX3_redeem 81 = .ok (.bipush 49, 2) := dk_16 49 (dk_at dksX3_redeem_3 10 rfl rfl)
theorem dX3_redeem_83 : decode cX3_redeem 83 = .ok (.iload_n 1, 1) := dk_27 (dk_at dksX3_redeem_3 12 rfl rfl)
theorem dX3_redeem_84 : decode cX3_redeem 84 = .ok (.iadd, 1) := dk_96 (dk_at dksX3_redeem_3 13 rfl rfl)
theorem dX3_redeem_85 : decode cX3_redeem 85 = .ok (.iaload, 1) := dk_46 (dk_at dksX3_redeem_3 14 rfl rfl)
theorem dX3_redeem_86 : decode cX3_redeem 86 = .ok (.if_icmp .gt 7, 3) := dk_163 0 7 (dk_at dksX3_redeem_3 15 rfl rfl)
theorem dX3_redeem_89 : decode cX3_redeem 89 = .ok (.iconst 1, 1) := dk_4 (dk_at dksX3_redeem_3 18 rfl rfl)
theorem dX3_redeem_90 : decode cX3_redeem 90 = .ok (.goto 4, 3) := dk_167 0 4 (dk_at dksX3_redeem_3 19 rfl rfl)
theorem dX3_redeem_93 : decode cX3_redeem 93 = .ok (.iconst 0, 1) := dk_3 (dk_at dksX3_redeem_3 22 rfl rfl)
theorem dX3_redeem_94 : decode cX3_redeem 94 = .ok (.ireturn, 1) := dk_172 (dk_at dksX3_redeem_3 23 rfl rfl)
abbrev cX3_isPromise : ByteArray := prog_16_method_34_code
def yX3_isPromise : MethodName := ⟨RX3, "isPromise", "(I)Z"⟩
def dkwX3_isPromise_0 : List UInt8 := [27, 133, 9, 42, 180, 0, 7, 16, 7, 46, 4, 100, 133, 184, 0, 63, 172]
abbrev dktX3_isPromise_0 : List UInt8 := dkwX3_isPromise_0 ++ []
theorem dksX3_isPromise_0 : cX3_isPromise.data.toList.drop 0 = dktX3_isPromise_0 := by decide +kernel
theorem dX3_isPromise_0 : decode cX3_isPromise 0 = .ok (.iload_n 1, 1) := dk_27 (dk_at dksX3_isPromise_0 0 rfl rfl)
theorem dX3_isPromise_1 : decode cX3_isPromise 1 = .ok (.i2l, 1) := dk_133 (dk_at dksX3_isPromise_0 1 rfl rfl)
theorem dX3_isPromise_2 : decode cX3_isPromise 2 = .ok (.lconst 0, 1) := dk_9 (dk_at dksX3_isPromise_0 2 rfl rfl)
theorem dX3_isPromise_3 : decode cX3_isPromise 3 = .ok (.aload_n 0, 1) := dk_42 (dk_at dksX3_isPromise_0 3 rfl rfl)
theorem dX3_isPromise_4 : decode cX3_isPromise 4 = .ok (.getfield 7, 3) := dk_180 0 7 (dk_at dksX3_isPromise_0 4 rfl rfl)
theorem dX3_isPromise_7 : decode cX3_isPromise 7 = .ok (.bipush 7, 2) := dk_16 7 (dk_at dksX3_isPromise_0 7 rfl rfl)
theorem dX3_isPromise_9 : decode cX3_isPromise 9 = .ok (.iaload, 1) := dk_46 (dk_at dksX3_isPromise_0 9 rfl rfl)
theorem dX3_isPromise_10 : decode cX3_isPromise 10 = .ok (.iconst 1, 1) := dk_4 (dk_at dksX3_isPromise_0 10 rfl rfl)
theorem dX3_isPromise_11 : decode cX3_isPromise 11 = .ok (.isub, 1) := dk_100 (dk_at dksX3_isPromise_0 11 rfl rfl)
theorem dX3_isPromise_12 : decode cX3_isPromise 12 = .ok (.i2l, 1) := dk_133 (dk_at dksX3_isPromise_0 12 rfl rfl)
theorem dX3_isPromise_13 : decode cX3_isPromise 13 = .ok (.invokestatic 63, 3) := dk_184 0 63 (dk_at dksX3_isPromise_0 13 rfl rfl)
theorem dX3_isPromise_16 : decode cX3_isPromise 16 = .ok (.ireturn, 1) := dk_172 (dk_at dksX3_isPromise_0 16 rfl rfl)
abbrev cX3_pass : ByteArray := prog_16_method_43_code
def yX3_pass : MethodName := ⟨RX3, "pass", "(II)I"⟩
def dkwX3_pass_3 : List UInt8 := [27, 96, 28, 79, 42, 28, 182, 0, 161, 172]
abbrev dktX3_pass_3 : List UInt8 := dkwX3_pass_3 ++ []
def dkwX3_pass_2 : List UInt8 := [180, 0, 7, 16, 25, 27, 96, 46, 160, 0, 6, 18, 154, 172, 42, 182, 0, 175, 42, 180, 0, 7, 16, 25]
abbrev dktX3_pass_2 : List UInt8 := dkwX3_pass_2 ++ dktX3_pass_3
def dkwX3_pass_1 : List UInt8 := [16, 65, 27, 96, 46, 4, 159, 0, 29, 28, 42, 180, 0, 7, 16, 33, 27, 96, 46, 159, 0, 16, 28, 42]
abbrev dktX3_pass_1 : List UInt8 := dkwX3_pass_1 ++ dktX3_pass_2
def dkwX3_pass_0 : List UInt8 := [42, 27, 182, 0, 182, 153, 0, 11, 42, 28, 182, 0, 169, 154, 0, 6, 18, 73, 172, 42, 180, 0, 7]
abbrev dktX3_pass_0 : List UInt8 := dkwX3_pass_0 ++ dktX3_pass_1
theorem dksX3_pass_0 : cX3_pass.data.toList.drop 0 = dktX3_pass_0 := by decide +kernel
theorem dksX3_pass_1 : cX3_pass.data.toList.drop 23 = dktX3_pass_1 := dk_seg dksX3_pass_0 23 rfl rfl
theorem dksX3_pass_2 : cX3_pass.data.toList.drop 47 = dktX3_pass_2 := dk_seg dksX3_pass_1 24 rfl rfl
theorem dksX3_pass_3 : cX3_pass.data.toList.drop 71 = dktX3_pass_3 := dk_seg dksX3_pass_2 24 rfl rfl
theorem dX3_pass_0 : decode cX3_pass 0 = .ok (.aload_n 0, 1) := dk_42 (dk_at dksX3_pass_0 0 rfl rfl)
theorem dX3_pass_1 : decode cX3_pass 1 = .ok (.iload_n 1, 1) := dk_27 (dk_at dksX3_pass_0 1 rfl rfl)
theorem dX3_pass_2 : decode cX3_pass 2 = .ok (.invokevirtual 182, 3) := dk_182 0 182 (dk_at dksX3_pass_0 2 rfl rfl)
theorem dX3_pass_5 : decode cX3_pass 5 = .ok (.ifCond .eq 11, 3) := dk_153 0 11 (dk_at dksX3_pass_0 5 rfl rfl)
theorem dX3_pass_8 : decode cX3_pass 8 = .ok (.aload_n 0, 1) := dk_42 (dk_at dksX3_pass_0 8 rfl rfl)
theorem dX3_pass_9 : decode cX3_pass 9 = .ok (.iload_n 2, 1) := dk_28 (dk_at dksX3_pass_0 9 rfl rfl)
theorem dX3_pass_10 : decode cX3_pass 10 = .ok (.invokevirtual 169, 3) := dk_182 0 169 (dk_at dksX3_pass_0 10 rfl rfl)
theorem dX3_pass_13 : decode cX3_pass 13 = .ok (.ifCond .ne 6, 3) := dk_154 0 6 (dk_at dksX3_pass_0 13 rfl rfl)
theorem dX3_pass_16 : decode cX3_pass 16 = .ok (.ldc 73, 2) := dk_18 73 (dk_at dksX3_pass_0 16 rfl rfl)
theorem dX3_pass_18 : decode cX3_pass 18 = .ok (.ireturn, 1) := dk_172 (dk_at dksX3_pass_0 18 rfl rfl)
theorem dX3_pass_19 : decode cX3_pass 19 = .ok (.aload_n 0, 1) := dk_42 (dk_at dksX3_pass_0 19 rfl rfl)
theorem dX3_pass_20 : decode cX3_pass 20 = .ok (.getfield 7, 3) := dk_180 0 7 (dk_at dksX3_pass_0 20 rfl rfl)
theorem dX3_pass_23 : decode cX3_pass 23 = .ok (.bipush 65, 2) := dk_16 65 (dk_at dksX3_pass_1 0 rfl rfl)
theorem dX3_pass_25 : decode cX3_pass 25 = .ok (.iload_n 1, 1) := dk_27 (dk_at dksX3_pass_1 2 rfl rfl)
theorem dX3_pass_26 : decode cX3_pass 26 = .ok (.iadd, 1) := dk_96 (dk_at dksX3_pass_1 3 rfl rfl)
theorem dX3_pass_27 : decode cX3_pass 27 = .ok (.iaload, 1) := dk_46 (dk_at dksX3_pass_1 4 rfl rfl)
theorem dX3_pass_28 : decode cX3_pass 28 = .ok (.iconst 1, 1) := dk_4 (dk_at dksX3_pass_1 5 rfl rfl)
theorem dX3_pass_29 : decode cX3_pass 29 = .ok (.if_icmp .eq 29, 3) := dk_159 0 29 (dk_at dksX3_pass_1 6 rfl rfl)
theorem dX3_pass_32 : decode cX3_pass 32 = .ok (.iload_n 2, 1) := dk_28 (dk_at dksX3_pass_1 9 rfl rfl)
theorem dX3_pass_33 : decode cX3_pass 33 = .ok (.aload_n 0, 1) := dk_42 (dk_at dksX3_pass_1 10 rfl rfl)
theorem dX3_pass_34 : decode cX3_pass 34 = .ok (.getfield 7, 3) := dk_180 0 7 (dk_at dksX3_pass_1 11 rfl rfl)
theorem dX3_pass_37 : decode cX3_pass 37 = .ok (.bipush 33, 2) := dk_16 33 (dk_at dksX3_pass_1 14 rfl rfl)
theorem dX3_pass_39 : decode cX3_pass 39 = .ok (.iload_n 1, 1) := dk_27 (dk_at dksX3_pass_1 16 rfl rfl)
theorem dX3_pass_40 : decode cX3_pass 40 = .ok (.iadd, 1) := dk_96 (dk_at dksX3_pass_1 17 rfl rfl)
theorem dX3_pass_41 : decode cX3_pass 41 = .ok (.iaload, 1) := dk_46 (dk_at dksX3_pass_1 18 rfl rfl)
theorem dX3_pass_42 : decode cX3_pass 42 = .ok (.if_icmp .eq 16, 3) := dk_159 0 16 (dk_at dksX3_pass_1 19 rfl rfl)
theorem dX3_pass_45 : decode cX3_pass 45 = .ok (.iload_n 2, 1) := dk_28 (dk_at dksX3_pass_1 22 rfl rfl)
theorem dX3_pass_46 : decode cX3_pass 46 = .ok (.aload_n 0, 1) := dk_42 (dk_at dksX3_pass_1 23 rfl rfl)
theorem dX3_pass_47 : decode cX3_pass 47 = .ok (.getfield 7, 3) := dk_180 0 7 (dk_at dksX3_pass_2 0 rfl rfl)
theorem dX3_pass_50 : decode cX3_pass 50 = .ok (.bipush 25, 2) := dk_16 25 (dk_at dksX3_pass_2 3 rfl rfl)
theorem dX3_pass_52 : decode cX3_pass 52 = .ok (.iload_n 1, 1) := dk_27 (dk_at dksX3_pass_2 5 rfl rfl)
theorem dX3_pass_53 : decode cX3_pass 53 = .ok (.iadd, 1) := dk_96 (dk_at dksX3_pass_2 6 rfl rfl)
theorem dX3_pass_54 : decode cX3_pass 54 = .ok (.iaload, 1) := dk_46 (dk_at dksX3_pass_2 7 rfl rfl)
theorem dX3_pass_55 : decode cX3_pass 55 = .ok (.if_icmp .ne 6, 3) := dk_160 0 6 (dk_at dksX3_pass_2 8 rfl rfl)
theorem dX3_pass_58 : decode cX3_pass 58 = .ok (.ldc 154, 2) := dk_18 154 (dk_at dksX3_pass_2 11 rfl rfl)
theorem dX3_pass_60 : decode cX3_pass 60 = .ok (.ireturn, 1) := dk_172 (dk_at dksX3_pass_2 13 rfl rfl)
theorem dX3_pass_61 : decode cX3_pass 61 = .ok (.aload_n 0, 1) := dk_42 (dk_at dksX3_pass_2 14 rfl rfl)
theorem dX3_pass_62 : decode cX3_pass 62 = .ok (.invokevirtual 175, 3) := dk_182 0 175 (dk_at dksX3_pass_2 15 rfl rfl)
theorem dX3_pass_65 : decode cX3_pass 65 = .ok (.aload_n 0, 1) := dk_42 (dk_at dksX3_pass_2 18 rfl rfl)
theorem dX3_pass_66 : decode cX3_pass 66 = .ok (.getfield 7, 3) := dk_180 0 7 (dk_at dksX3_pass_2 19 rfl rfl)
theorem dX3_pass_69 : decode cX3_pass 69 = .ok (.bipush 25, 2) := dk_16 25 (dk_at dksX3_pass_2 22 rfl rfl)
theorem dX3_pass_71 : decode cX3_pass 71 = .ok (.iload_n 1, 1) := dk_27 (dk_at dksX3_pass_3 0 rfl rfl)
theorem dX3_pass_72 : decode cX3_pass 72 = .ok (.iadd, 1) := dk_96 (dk_at dksX3_pass_3 1 rfl rfl)
theorem dX3_pass_73 : decode cX3_pass 73 = .ok (.iload_n 2, 1) := dk_28 (dk_at dksX3_pass_3 2 rfl rfl)
theorem dX3_pass_74 : decode cX3_pass 74 = .ok (.iastore, 1) := dk_79 (dk_at dksX3_pass_3 3 rfl rfl)
theorem dX3_pass_75 : decode cX3_pass 75 = .ok (.aload_n 0, 1) := dk_42 (dk_at dksX3_pass_3 4 rfl rfl)
theorem dX3_pass_76 : decode cX3_pass 76 = .ok (.iload_n 2, 1) := dk_28 (dk_at dksX3_pass_3 5 rfl rfl)
theorem dX3_pass_77 : decode cX3_pass 77 = .ok (.invokevirtual 161, 3) := dk_182 0 161 (dk_at dksX3_pass_3 6 rfl rfl)
theorem dX3_pass_80 : decode cX3_pass 80 = .ok (.ireturn, 1) := dk_172 (dk_at dksX3_pass_3 9 rfl rfl)
abbrev cX3_days : ByteArray := prog_16_method_45_code
def yX3_days : MethodName := ⟨RX3, "days", "(I)I"⟩
def dkwX3_days_3 : List UInt8 := [132, 2, 1, 167, 255, 229, 42, 180, 0, 7, 16, 8, 46, 172]
abbrev dktX3_days_3 : List UInt8 := dkwX3_days_3 ++ []
def dkwX3_days_2 : List UInt8 := [162, 0, 28, 42, 182, 0, 175, 42, 182, 0, 190, 42, 180, 0, 7, 16, 8, 92, 46, 4, 96, 79]
abbrev dktX3_days_2 : List UInt8 := dkwX3_days_2 ++ dktX3_days_3
def dkwX3_days_1 : List UInt8 := [172, 42, 180, 0, 7, 16, 8, 46, 27, 96, 17, 3, 231, 164, 0, 6, 18, 94, 172, 3, 61, 28, 27]
abbrev dktX3_days_1 : List UInt8 := dkwX3_days_1 ++ dktX3_days_2
def dkwX3_days_0 : List UInt8 := [42, 182, 0, 185, 153, 0, 6, 18, 154, 172, 27, 133, 10, 20, 0, 188, 184, 0, 63, 154, 0, 6, 18, 73]
abbrev dktX3_days_0 : List UInt8 := dkwX3_days_0 ++ dktX3_days_1
theorem dksX3_days_0 : cX3_days.data.toList.drop 0 = dktX3_days_0 := by decide +kernel
theorem dksX3_days_1 : cX3_days.data.toList.drop 24 = dktX3_days_1 := dk_seg dksX3_days_0 24 rfl rfl
theorem dksX3_days_2 : cX3_days.data.toList.drop 47 = dktX3_days_2 := dk_seg dksX3_days_1 23 rfl rfl
theorem dksX3_days_3 : cX3_days.data.toList.drop 69 = dktX3_days_3 := dk_seg dksX3_days_2 22 rfl rfl
theorem dX3_days_0 : decode cX3_days 0 = .ok (.aload_n 0, 1) := dk_42 (dk_at dksX3_days_0 0 rfl rfl)
theorem dX3_days_1 : decode cX3_days 1 = .ok (.invokevirtual 185, 3) := dk_182 0 185 (dk_at dksX3_days_0 1 rfl rfl)
theorem dX3_days_4 : decode cX3_days 4 = .ok (.ifCond .eq 6, 3) := dk_153 0 6 (dk_at dksX3_days_0 4 rfl rfl)
theorem dX3_days_7 : decode cX3_days 7 = .ok (.ldc 154, 2) := dk_18 154 (dk_at dksX3_days_0 7 rfl rfl)
theorem dX3_days_9 : decode cX3_days 9 = .ok (.ireturn, 1) := dk_172 (dk_at dksX3_days_0 9 rfl rfl)
theorem dX3_days_10 : decode cX3_days 10 = .ok (.iload_n 1, 1) := dk_27 (dk_at dksX3_days_0 10 rfl rfl)
theorem dX3_days_11 : decode cX3_days 11 = .ok (.i2l, 1) := dk_133 (dk_at dksX3_days_0 11 rfl rfl)
theorem dX3_days_12 : decode cX3_days 12 = .ok (.lconst 1, 1) := dk_10 (dk_at dksX3_days_0 12 rfl rfl)
theorem dX3_days_13 : decode cX3_days 13 = .ok (.ldc2_w 188, 3) := dk_20 0 188 (dk_at dksX3_days_0 13 rfl rfl)
theorem dX3_days_16 : decode cX3_days 16 = .ok (.invokestatic 63, 3) := dk_184 0 63 (dk_at dksX3_days_0 16 rfl rfl)
theorem dX3_days_19 : decode cX3_days 19 = .ok (.ifCond .ne 6, 3) := dk_154 0 6 (dk_at dksX3_days_0 19 rfl rfl)
theorem dX3_days_22 : decode cX3_days 22 = .ok (.ldc 73, 2) := dk_18 73 (dk_at dksX3_days_0 22 rfl rfl)
theorem dX3_days_24 : decode cX3_days 24 = .ok (.ireturn, 1) := dk_172 (dk_at dksX3_days_1 0 rfl rfl)
theorem dX3_days_25 : decode cX3_days 25 = .ok (.aload_n 0, 1) := dk_42 (dk_at dksX3_days_1 1 rfl rfl)
theorem dX3_days_26 : decode cX3_days 26 = .ok (.getfield 7, 3) := dk_180 0 7 (dk_at dksX3_days_1 2 rfl rfl)
theorem dX3_days_29 : decode cX3_days 29 = .ok (.bipush 8, 2) := dk_16 8 (dk_at dksX3_days_1 5 rfl rfl)
theorem dX3_days_31 : decode cX3_days 31 = .ok (.iaload, 1) := dk_46 (dk_at dksX3_days_1 7 rfl rfl)
theorem dX3_days_32 : decode cX3_days 32 = .ok (.iload_n 1, 1) := dk_27 (dk_at dksX3_days_1 8 rfl rfl)
theorem dX3_days_33 : decode cX3_days 33 = .ok (.iadd, 1) := dk_96 (dk_at dksX3_days_1 9 rfl rfl)
theorem dX3_days_34 : decode cX3_days 34 = .ok (.sipush 999, 3) := dk_17 3 231 (dk_at dksX3_days_1 10 rfl rfl)
theorem dX3_days_37 : decode cX3_days 37 = .ok (.if_icmp .le 6, 3) := dk_164 0 6 (dk_at dksX3_days_1 13 rfl rfl)
theorem dX3_days_40 : decode cX3_days 40 = .ok (.ldc 94, 2) := dk_18 94 (dk_at dksX3_days_1 16 rfl rfl)
theorem dX3_days_42 : decode cX3_days 42 = .ok (.ireturn, 1) := dk_172 (dk_at dksX3_days_1 18 rfl rfl)
theorem dX3_days_43 : decode cX3_days 43 = .ok (.iconst 0, 1) := dk_3 (dk_at dksX3_days_1 19 rfl rfl)
theorem dX3_days_44 : decode cX3_days 44 = .ok (.istore_n 2, 1) := dk_61 (dk_at dksX3_days_1 20 rfl rfl)
theorem dX3_days_45 : decode cX3_days 45 = .ok (.iload_n 2, 1) := dk_28 (dk_at dksX3_days_1 21 rfl rfl)
theorem dX3_days_46 : decode cX3_days 46 = .ok (.iload_n 1, 1) := dk_27 (dk_at dksX3_days_1 22 rfl rfl)
theorem dX3_days_47 : decode cX3_days 47 = .ok (.if_icmp .ge 28, 3) := dk_162 0 28 (dk_at dksX3_days_2 0 rfl rfl)
theorem dX3_days_50 : decode cX3_days 50 = .ok (.aload_n 0, 1) := dk_42 (dk_at dksX3_days_2 3 rfl rfl)
theorem dX3_days_51 : decode cX3_days 51 = .ok (.invokevirtual 175, 3) := dk_182 0 175 (dk_at dksX3_days_2 4 rfl rfl)
theorem dX3_days_54 : decode cX3_days 54 = .ok (.aload_n 0, 1) := dk_42 (dk_at dksX3_days_2 7 rfl rfl)
theorem dX3_days_55 : decode cX3_days 55 = .ok (.invokevirtual 190, 3) := dk_182 0 190 (dk_at dksX3_days_2 8 rfl rfl)
theorem dX3_days_58 : decode cX3_days 58 = .ok (.aload_n 0, 1) := dk_42 (dk_at dksX3_days_2 11 rfl rfl)
theorem dX3_days_59 : decode cX3_days 59 = .ok (.getfield 7, 3) := dk_180 0 7 (dk_at dksX3_days_2 12 rfl rfl)
theorem dX3_days_62 : decode cX3_days 62 = .ok (.bipush 8, 2) := dk_16 8 (dk_at dksX3_days_2 15 rfl rfl)
theorem dX3_days_64 : decode cX3_days 64 = .ok (.dup2, 1) := dk_92 (dk_at dksX3_days_2 17 rfl rfl)
theorem dX3_days_65 : decode cX3_days 65 = .ok (.iaload, 1) := dk_46 (dk_at dksX3_days_2 18 rfl rfl)
theorem dX3_days_66 : decode cX3_days 66 = .ok (.iconst 1, 1) := dk_4 (dk_at dksX3_days_2 19 rfl rfl)
theorem dX3_days_67 : decode cX3_days 67 = .ok (.iadd, 1) := dk_96 (dk_at dksX3_days_2 20 rfl rfl)
theorem dX3_days_68 : decode cX3_days 68 = .ok (.iastore, 1) := dk_79 (dk_at dksX3_days_2 21 rfl rfl)
theorem dX3_days_69 : decode cX3_days 69 = .ok (.iinc 2 1, 3) := dk_132 2 1 (dk_at dksX3_days_3 0 rfl rfl)
theorem dX3_days_72 : decode cX3_days 72 = .ok (.goto (-27), 3) := dk_167 255 229 (dk_at dksX3_days_3 3 rfl rfl)
theorem dX3_days_75 : decode cX3_days 75 = .ok (.aload_n 0, 1) := dk_42 (dk_at dksX3_days_3 6 rfl rfl)
theorem dX3_days_76 : decode cX3_days 76 = .ok (.getfield 7, 3) := dk_180 0 7 (dk_at dksX3_days_3 7 rfl rfl)
theorem dX3_days_79 : decode cX3_days 79 = .ok (.bipush 8, 2) := dk_16 8 (dk_at dksX3_days_3 10 rfl rfl)
theorem dX3_days_81 : decode cX3_days 81 = .ok (.iaload, 1) := dk_46 (dk_at dksX3_days_3 12 rfl rfl)
theorem dX3_days_82 : decode cX3_days 82 = .ok (.ireturn, 1) := dk_172 (dk_at dksX3_days_3 13 rfl rfl)
abbrev cX3_isNone : ByteArray := prog_16_method_32_code
def yX3_isNone : MethodName := ⟨RX3, "isNone", "()Z"⟩
def dkwX3_isNone_0 : List UInt8 := [42, 180, 0, 7, 16, 9, 46, 154, 0, 7, 4, 167, 0, 4, 3, 172]
abbrev dktX3_isNone_0 : List UInt8 := dkwX3_isNone_0 ++ []
theorem dksX3_isNone_0 : cX3_isNone.data.toList.drop 0 = dktX3_isNone_0 := by decide +kernel
theorem dX3_isNone_0 : decode cX3_isNone 0 = .ok (.aload_n 0, 1) := dk_42 (dk_at dksX3_isNone_0 0 rfl rfl)
theorem dX3_isNone_1 : decode cX3_isNone 1 = .ok (.getfield 7, 3) := dk_180 0 7 (dk_at dksX3_isNone_0 1 rfl rfl)
theorem dX3_isNone_4 : decode cX3_isNone 4 = .ok (.bipush 9, 2) := dk_16 9 (dk_at dksX3_isNone_0 4 rfl rfl)
theorem dX3_isNone_6 : decode cX3_isNone 6 = .ok (.iaload, 1) := dk_46 (dk_at dksX3_isNone_0 6 rfl rfl)
theorem dX3_isNone_7 : decode cX3_isNone 7 = .ok (.ifCond .ne 7, 3) := dk_154 0 7 (dk_at dksX3_isNone_0 7 rfl rfl)
theorem dX3_isNone_10 : decode cX3_isNone 10 = .ok (.iconst 1, 1) := dk_4 (dk_at dksX3_isNone_0 10 rfl rfl)
theorem dX3_isNone_11 : decode cX3_isNone 11 = .ok (.goto 4, 3) := dk_167 0 4 (dk_at dksX3_isNone_0 11 rfl rfl)
theorem dX3_isNone_14 : decode cX3_isNone 14 = .ok (.iconst 0, 1) := dk_3 (dk_at dksX3_isNone_0 14 rfl rfl)
theorem dX3_isNone_15 : decode cX3_isNone 15 = .ok (.ireturn, 1) := dk_172 (dk_at dksX3_isNone_0 15 rfl rfl)
abbrev cX3_grows : ByteArray := prog_16_method_44_code
def yX3_grows : MethodName := ⟨RX3, "grows", "()V"⟩
def dkwX3_grows_2 : List UInt8 := [162, 0, 7, 4, 167, 0, 4, 3, 96, 79, 132, 1, 1, 167, 255, 198, 177]
abbrev dktX3_grows_2 : List UInt8 := dkwX3_grows_2 ++ []
def dkwX3_grows_1 : List UInt8 := [180, 0, 7, 16, 10, 27, 96, 46, 7, 161, 0, 21, 42, 180, 0, 7, 16, 15, 27, 96, 46, 16, 99]
abbrev dktX3_grows_1 : List UInt8 := dkwX3_grows_1 ++ dktX3_grows_2
def dkwX3_grows_0 : List UInt8 := [3, 60, 27, 42, 180, 0, 7, 16, 6, 46, 162, 0, 53, 42, 180, 0, 7, 16, 15, 27, 96, 92, 46, 42]
abbrev dktX3_grows_0 : List UInt8 := dkwX3_grows_0 ++ dktX3_grows_1
theorem dksX3_grows_0 : cX3_grows.data.toList.drop 0 = dktX3_grows_0 := by decide +kernel
theorem dksX3_grows_1 : cX3_grows.data.toList.drop 24 = dktX3_grows_1 := dk_seg dksX3_grows_0 24 rfl rfl
theorem dksX3_grows_2 : cX3_grows.data.toList.drop 47 = dktX3_grows_2 := dk_seg dksX3_grows_1 23 rfl rfl
theorem dX3_grows_0 : decode cX3_grows 0 = .ok (.iconst 0, 1) := dk_3 (dk_at dksX3_grows_0 0 rfl rfl)
theorem dX3_grows_1 : decode cX3_grows 1 = .ok (.istore_n 1, 1) := dk_60 (dk_at dksX3_grows_0 1 rfl rfl)
theorem dX3_grows_2 : decode cX3_grows 2 = .ok (.iload_n 1, 1) := dk_27 (dk_at dksX3_grows_0 2 rfl rfl)
theorem dX3_grows_3 : decode cX3_grows 3 = .ok (.aload_n 0, 1) := dk_42 (dk_at dksX3_grows_0 3 rfl rfl)
theorem dX3_grows_4 : decode cX3_grows 4 = .ok (.getfield 7, 3) := dk_180 0 7 (dk_at dksX3_grows_0 4 rfl rfl)
theorem dX3_grows_7 : decode cX3_grows 7 = .ok (.bipush 6, 2) := dk_16 6 (dk_at dksX3_grows_0 7 rfl rfl)
theorem dX3_grows_9 : decode cX3_grows 9 = .ok (.iaload, 1) := dk_46 (dk_at dksX3_grows_0 9 rfl rfl)
theorem dX3_grows_10 : decode cX3_grows 10 = .ok (.if_icmp .ge 53, 3) := dk_162 0 53 (dk_at dksX3_grows_0 10 rfl rfl)
theorem dX3_grows_13 : decode cX3_grows 13 = .ok (.aload_n 0, 1) := dk_42 (dk_at dksX3_grows_0 13 rfl rfl)
theorem dX3_grows_14 : decode cX3_grows 14 = .ok (.getfield 7, 3) := dk_180 0 7 (dk_at dksX3_grows_0 14 rfl rfl)
theorem dX3_grows_17 : decode cX3_grows 17 = .ok (.bipush 15, 2) := dk_16 15 (dk_at dksX3_grows_0 17 rfl rfl)
theorem dX3_grows_19 : decode cX3_grows 19 = .ok (.iload_n 1, 1) := dk_27 (dk_at dksX3_grows_0 19 rfl rfl)
theorem dX3_grows_20 : decode cX3_grows 20 = .ok (.iadd, 1) := dk_96 (dk_at dksX3_grows_0 20 rfl rfl)
theorem dX3_grows_21 : decode cX3_grows 21 = .ok (.dup2, 1) := dk_92 (dk_at dksX3_grows_0 21 rfl rfl)
theorem dX3_grows_22 : decode cX3_grows 22 = .ok (.iaload, 1) := dk_46 (dk_at dksX3_grows_0 22 rfl rfl)
theorem dX3_grows_23 : decode cX3_grows 23 = .ok (.aload_n 0, 1) := dk_42 (dk_at dksX3_grows_0 23 rfl rfl)
theorem dX3_grows_24 : decode cX3_grows 24 = .ok (.getfield 7, 3) := dk_180 0 7 (dk_at dksX3_grows_1 0 rfl rfl)
theorem dX3_grows_27 : decode cX3_grows 27 = .ok (.bipush 10, 2) := dk_16 10 (dk_at dksX3_grows_1 3 rfl rfl)
theorem dX3_grows_29 : decode cX3_grows 29 = .ok (.iload_n 1, 1) := dk_27 (dk_at dksX3_grows_1 5 rfl rfl)
theorem dX3_grows_30 : decode cX3_grows 30 = .ok (.iadd, 1) := dk_96 (dk_at dksX3_grows_1 6 rfl rfl)
theorem dX3_grows_31 : decode cX3_grows 31 = .ok (.iaload, 1) := dk_46 (dk_at dksX3_grows_1 7 rfl rfl)
theorem dX3_grows_32 : decode cX3_grows 32 = .ok (.iconst 4, 1) := dk_7 (dk_at dksX3_grows_1 8 rfl rfl)
theorem dX3_grows_33 : decode cX3_grows 33 = .ok (.if_icmp .lt 21, 3) := dk_161 0 21 (dk_at dksX3_grows_1 9 rfl rfl)
theorem dX3_grows_36 : decode cX3_grows 36 = .ok (.aload_n 0, 1) := dk_42 (dk_at dksX3_grows_1 12 rfl rfl)
theorem dX3_grows_37 : decode cX3_grows 37 = .ok (.getfield 7, 3) := dk_180 0 7 (dk_at dksX3_grows_1 13 rfl rfl)
theorem dX3_grows_40 : decode cX3_grows 40 = .ok (.bipush 15, 2) := dk_16 15 (dk_at dksX3_grows_1 16 rfl rfl)
theorem dX3_grows_42 : decode cX3_grows 42 = .ok (.iload_n 1, 1) := dk_27 (dk_at dksX3_grows_1 18 rfl rfl)
theorem dX3_grows_43 : decode cX3_grows 43 = .ok (.iadd, 1) := dk_96 (dk_at dksX3_grows_1 19 rfl rfl)
theorem dX3_grows_44 : decode cX3_grows 44 = .ok (.iaload, 1) := dk_46 (dk_at dksX3_grows_1 20 rfl rfl)
theorem dX3_grows_45 : decode cX3_grows 45 = .ok (.bipush 99, 2) := dk_16 99 (dk_at dksX3_grows_1 21 rfl rfl)
theorem dX3_grows_47 : decode cX3_grows 47 = .ok (.if_icmp .ge 7, 3) := dk_162 0 7 (dk_at dksX3_grows_2 0 rfl rfl)
theorem dX3_grows_50 : decode cX3_grows 50 = .ok (.iconst 1, 1) := dk_4 (dk_at dksX3_grows_2 3 rfl rfl)
theorem dX3_grows_51 : decode cX3_grows 51 = .ok (.goto 4, 3) := dk_167 0 4 (dk_at dksX3_grows_2 4 rfl rfl)
theorem dX3_grows_54 : decode cX3_grows 54 = .ok (.iconst 0, 1) := dk_3 (dk_at dksX3_grows_2 7 rfl rfl)
theorem dX3_grows_55 : decode cX3_grows 55 = .ok (.iadd, 1) := dk_96 (dk_at dksX3_grows_2 8 rfl rfl)
theorem dX3_grows_56 : decode cX3_grows 56 = .ok (.iastore, 1) := dk_79 (dk_at dksX3_grows_2 9 rfl rfl)
theorem dX3_grows_57 : decode cX3_grows 57 = .ok (.iinc 1 1, 3) := dk_132 1 1 (dk_at dksX3_grows_2 10 rfl rfl)
theorem dX3_grows_60 : decode cX3_grows 60 = .ok (.goto (-58), 3) := dk_167 255 198 (dk_at dksX3_grows_2 13 rfl rfl)
theorem dX3_grows_63 : decode cX3_grows 63 = .ok (.return_, 1) := dk_177 (dk_at dksX3_grows_2 16 rfl rfl)
abbrev cX3_person : ByteArray := prog_16_method_46_code
def yX3_person : MethodName := ⟨RX3, "person", "(II)I"⟩
def dkwX3_person_3 : List UInt8 := [182, 0, 195, 153, 0, 7, 4, 167, 0, 4, 3, 172]
abbrev dktX3_person_3 : List UInt8 := dkwX3_person_3 ++ []
def dkwX3_person_2 : List UInt8 := [16, 20, 27, 96, 46, 167, 0, 29, 28, 5, 160, 0, 11, 42, 27, 182, 0, 161, 167, 0, 16, 42, 27]
abbrev dktX3_person_2 : List UInt8 := dkwX3_person_2 ++ dktX3_person_3
def dkwX3_person_1 : List UInt8 := [154, 0, 15, 42, 180, 0, 7, 16, 15, 27, 96, 46, 167, 0, 46, 28, 4, 160, 0, 15, 42, 180, 0, 7]
abbrev dktX3_person_1 : List UInt8 := dkwX3_person_1 ++ dktX3_person_2
def dkwX3_person_0 : List UInt8 := [42, 27, 182, 0, 169, 153, 0, 15, 28, 133, 9, 20, 0, 193, 184, 0, 63, 154, 0, 6, 18, 73, 172, 28]
abbrev dktX3_person_0 : List UInt8 := dkwX3_person_0 ++ dktX3_person_1
theorem dksX3_person_0 : cX3_person.data.toList.drop 0 = dktX3_person_0 := by decide +kernel
theorem dksX3_person_1 : cX3_person.data.toList.drop 24 = dktX3_person_1 := dk_seg dksX3_person_0 24 rfl rfl
theorem dksX3_person_2 : cX3_person.data.toList.drop 48 = dktX3_person_2 := dk_seg dksX3_person_1 24 rfl rfl
theorem dksX3_person_3 : cX3_person.data.toList.drop 71 = dktX3_person_3 := dk_seg dksX3_person_2 23 rfl rfl
theorem dX3_person_0 : decode cX3_person 0 = .ok (.aload_n 0, 1) := dk_42 (dk_at dksX3_person_0 0 rfl rfl)
theorem dX3_person_1 : decode cX3_person 1 = .ok (.iload_n 1, 1) := dk_27 (dk_at dksX3_person_0 1 rfl rfl)
theorem dX3_person_2 : decode cX3_person 2 = .ok (.invokevirtual 169, 3) := dk_182 0 169 (dk_at dksX3_person_0 2 rfl rfl)
theorem dX3_person_5 : decode cX3_person 5 = .ok (.ifCond .eq 15, 3) := dk_153 0 15 (dk_at dksX3_person_0 5 rfl rfl)
theorem dX3_person_8 : decode cX3_person 8 = .ok (.iload_n 2, 1) := dk_28 (dk_at dksX3_person_0 8 rfl rfl)
theorem dX3_person_9 : decode cX3_person 9 = .ok (.i2l, 1) := dk_133 (dk_at dksX3_person_0 9 rfl rfl)
theorem dX3_person_10 : decode cX3_person 10 = .ok (.lconst 0, 1) := dk_9 (dk_at dksX3_person_0 10 rfl rfl)
theorem dX3_person_11 : decode cX3_person 11 = .ok (.ldc2_w 193, 3) := dk_20 0 193 (dk_at dksX3_person_0 11 rfl rfl)
theorem dX3_person_14 : decode cX3_person 14 = .ok (.invokestatic 63, 3) := dk_184 0 63 (dk_at dksX3_person_0 14 rfl rfl)
theorem dX3_person_17 : decode cX3_person 17 = .ok (.ifCond .ne 6, 3) := dk_154 0 6 (dk_at dksX3_person_0 17 rfl rfl)
theorem dX3_person_20 : decode cX3_person 20 = .ok (.ldc 73, 2) := dk_18 73 (dk_at dksX3_person_0 20 rfl rfl)
theorem dX3_person_22 : decode cX3_person 22 = .ok (.ireturn, 1) := dk_172 (dk_at dksX3_person_0 22 rfl rfl)
theorem dX3_person_23 : decode cX3_person 23 = .ok (.iload_n 2, 1) := dk_28 (dk_at dksX3_person_0 23 rfl rfl)
theorem dX3_person_24 : decode cX3_person 24 = .ok (.ifCond .ne 15, 3) := dk_154 0 15 (dk_at dksX3_person_1 0 rfl rfl)
theorem dX3_person_27 : decode cX3_person 27 = .ok (.aload_n 0, 1) := dk_42 (dk_at dksX3_person_1 3 rfl rfl)
theorem dX3_person_28 : decode cX3_person 28 = .ok (.getfield 7, 3) := dk_180 0 7 (dk_at dksX3_person_1 4 rfl rfl)
theorem dX3_person_31 : decode cX3_person 31 = .ok (.bipush 15, 2) := dk_16 15 (dk_at dksX3_person_1 7 rfl rfl)
theorem dX3_person_33 : decode cX3_person 33 = .ok (.iload_n 1, 1) := dk_27 (dk_at dksX3_person_1 9 rfl rfl)
theorem dX3_person_34 : decode cX3_person 34 = .ok (.iadd, 1) := dk_96 (dk_at dksX3_person_1 10 rfl rfl)
theorem dX3_person_35 : decode cX3_person 35 = .ok (.iaload, 1) := dk_46 (dk_at dksX3_person_1 11 rfl rfl)
theorem dX3_person_36 : decode cX3_person 36 = .ok (.goto 46, 3) := dk_167 0 46 (dk_at dksX3_person_1 12 rfl rfl)
theorem dX3_person_39 : decode cX3_person 39 = .ok (.iload_n 2, 1) := dk_28 (dk_at dksX3_person_1 15 rfl rfl)
theorem dX3_person_40 : decode cX3_person 40 = .ok (.iconst 1, 1) := dk_4 (dk_at dksX3_person_1 16 rfl rfl)
theorem dX3_person_41 : decode cX3_person 41 = .ok (.if_icmp .ne 15, 3) := dk_160 0 15 (dk_at dksX3_person_1 17 rfl rfl)
theorem dX3_person_44 : decode cX3_person 44 = .ok (.aload_n 0, 1) := dk_42 (dk_at dksX3_person_1 20 rfl rfl)
theorem dX3_person_45 : decode cX3_person 45 = .ok (.getfield 7, 3) := dk_180 0 7 (dk_at dksX3_person_1 21 rfl rfl)
theorem dX3_person_48 : decode cX3_person 48 = .ok (.bipush 20, 2) := dk_16 20 (dk_at dksX3_person_2 0 rfl rfl)
theorem dX3_person_50 : decode cX3_person 50 = .ok (.iload_n 1, 1) := dk_27 (dk_at dksX3_person_2 2 rfl rfl)
theorem dX3_person_51 : decode cX3_person 51 = .ok (.iadd, 1) := dk_96 (dk_at dksX3_person_2 3 rfl rfl)
theorem dX3_person_52 : decode cX3_person 52 = .ok (.iaload, 1) := dk_46 (dk_at dksX3_person_2 4 rfl rfl)
theorem dX3_person_53 : decode cX3_person 53 = .ok (.goto 29, 3) := dk_167 0 29 (dk_at dksX3_person_2 5 rfl rfl)
theorem dX3_person_56 : decode cX3_person 56 = .ok (.iload_n 2, 1) := dk_28 (dk_at dksX3_person_2 8 rfl rfl)
theorem dX3_person_57 : decode cX3_person 57 = .ok (.iconst 2, 1) := dk_5 (dk_at dksX3_person_2 9 rfl rfl)
theorem dX3_person_58 : decode cX3_person 58 = .ok (.if_icmp .ne 11, 3) := dk_160 0 11 (dk_at dksX3_person_2 10 rfl rfl)
theorem dX3_person_61 : decode cX3_person 61 = .ok (.aload_n 0, 1) := dk_42 (dk_at dksX3_person_2 13 rfl rfl)
theorem dX3_person_62 : decode cX3_person 62 = .ok (.iload_n 1, 1) := dk_27 (dk_at dksX3_person_2 14 rfl rfl)
theorem dX3_person_63 : decode cX3_person 63 = .ok (.invokevirtual 161, 3) := dk_182 0 161 (dk_at dksX3_person_2 15 rfl rfl)
theorem dX3_person_66 : decode cX3_person 66 = .ok (.goto 16, 3) := dk_167 0 16 (dk_at dksX3_person_2 18 rfl rfl)
theorem dX3_person_69 : decode cX3_person 69 = .ok (.aload_n 0, 1) := dk_42 (dk_at dksX3_person_2 21 rfl rfl)
theorem dX3_person_70 : decode cX3_person 70 = .ok (.iload_n 1, 1) := dk_27 (dk_at dksX3_person_2 22 rfl rfl)
theorem dX3_person_71 : decode cX3_person 71 = .ok (.invokevirtual 195, 3) := dk_182 0 195 (dk_at dksX3_person_3 0 rfl rfl)
theorem dX3_person_74 : decode cX3_person 74 = .ok (.ifCond .eq 7, 3) := dk_153 0 7 (dk_at dksX3_person_3 3 rfl rfl)
theorem dX3_person_77 : decode cX3_person 77 = .ok (.iconst 1, 1) := dk_4 (dk_at dksX3_person_3 6 rfl rfl)
theorem dX3_person_78 : decode cX3_person 78 = .ok (.goto 4, 3) := dk_167 0 4 (dk_at dksX3_person_3 7 rfl rfl)
theorem dX3_person_81 : decode cX3_person 81 = .ok (.iconst 0, 1) := dk_3 (dk_at dksX3_person_3 10 rfl rfl)
theorem dX3_person_82 : decode cX3_person 82 = .ok (.ireturn, 1) := dk_172 (dk_at dksX3_person_3 11 rfl rfl)
abbrev cX3_isCrushed : ByteArray := prog_16_method_37_code
def yX3_isCrushed : MethodName := ⟨RX3, "isCrushed", "(I)Z"⟩
def dkwX3_isCrushed_0 : List UInt8 := [42, 27, 182, 0, 161, 42, 180, 0, 7, 16, 15, 27, 96, 46, 164, 0, 7, 4, 167, 0, 4, 3, 172]
abbrev dktX3_isCrushed_0 : List UInt8 := dkwX3_isCrushed_0 ++ []
theorem dksX3_isCrushed_0 : cX3_isCrushed.data.toList.drop 0 = dktX3_isCrushed_0 := by decide +kernel
theorem dX3_isCrushed_0 : decode cX3_isCrushed 0 = .ok (.aload_n 0, 1) := dk_42 (dk_at dksX3_isCrushed_0 0 rfl rfl)
theorem dX3_isCrushed_1 : decode cX3_isCrushed 1 = .ok (.iload_n 1, 1) := dk_27 (dk_at dksX3_isCrushed_0 1 rfl rfl)
theorem dX3_isCrushed_2 : decode cX3_isCrushed 2 = .ok (.invokevirtual 161, 3) := dk_182 0 161 (dk_at dksX3_isCrushed_0 2 rfl rfl)
theorem dX3_isCrushed_5 : decode cX3_isCrushed 5 = .ok (.aload_n 0, 1) := dk_42 (dk_at dksX3_isCrushed_0 5 rfl rfl)
theorem dX3_isCrushed_6 : decode cX3_isCrushed 6 = .ok (.getfield 7, 3) := dk_180 0 7 (dk_at dksX3_isCrushed_0 6 rfl rfl)
theorem dX3_isCrushed_9 : decode cX3_isCrushed 9 = .ok (.bipush 15, 2) := dk_16 15 (dk_at dksX3_isCrushed_0 9 rfl rfl)
theorem dX3_isCrushed_11 : decode cX3_isCrushed 11 = .ok (.iload_n 1, 1) := dk_27 (dk_at dksX3_isCrushed_0 11 rfl rfl)
theorem dX3_isCrushed_12 : decode cX3_isCrushed 12 = .ok (.iadd, 1) := dk_96 (dk_at dksX3_isCrushed_0 12 rfl rfl)
theorem dX3_isCrushed_13 : decode cX3_isCrushed 13 = .ok (.iaload, 1) := dk_46 (dk_at dksX3_isCrushed_0 13 rfl rfl)
theorem dX3_isCrushed_14 : decode cX3_isCrushed 14 = .ok (.if_icmp .le 7, 3) := dk_164 0 7 (dk_at dksX3_isCrushed_0 14 rfl rfl)
theorem dX3_isCrushed_17 : decode cX3_isCrushed 17 = .ok (.iconst 1, 1) := dk_4 (dk_at dksX3_isCrushed_0 17 rfl rfl)
theorem dX3_isCrushed_18 : decode cX3_isCrushed 18 = .ok (.goto 4, 3) := dk_167 0 4 (dk_at dksX3_isCrushed_0 18 rfl rfl)
theorem dX3_isCrushed_21 : decode cX3_isCrushed 21 = .ok (.iconst 0, 1) := dk_3 (dk_at dksX3_isCrushed_0 21 rfl rfl)
theorem dX3_isCrushed_22 : decode cX3_isCrushed 22 = .ok (.ireturn, 1) := dk_172 (dk_at dksX3_isCrushed_0 22 rfl rfl)
abbrev cX3_promise : ByteArray := prog_16_method_47_code
def yX3_promise : MethodName := ⟨RX3, "promise", "(II)I"⟩
def dkwX3_promise_2 : List UInt8 := [182, 0, 158, 172]
abbrev dktX3_promise_2 : List UInt8 := dkwX3_promise_2 ++ []
def dkwX3_promise_1 : List UInt8 := [16, 6, 162, 0, 20, 42, 180, 0, 7, 16, 25, 16, 8, 28, 104, 96, 27, 96, 46, 167, 0, 8, 42, 27]
abbrev dktX3_promise_1 : List UInt8 := dkwX3_promise_1 ++ dktX3_promise_2
def dkwX3_promise_0 : List UInt8 := [42, 27, 182, 0, 182, 153, 0, 15, 28, 133, 9, 20, 0, 198, 184, 0, 63, 154, 0, 6, 18, 73, 172, 28]
abbrev dktX3_promise_0 : List UInt8 := dkwX3_promise_0 ++ dktX3_promise_1
theorem dksX3_promise_0 : cX3_promise.data.toList.drop 0 = dktX3_promise_0 := by decide +kernel
theorem dksX3_promise_1 : cX3_promise.data.toList.drop 24 = dktX3_promise_1 := dk_seg dksX3_promise_0 24 rfl rfl
theorem dksX3_promise_2 : cX3_promise.data.toList.drop 48 = dktX3_promise_2 := dk_seg dksX3_promise_1 24 rfl rfl
theorem dX3_promise_0 : decode cX3_promise 0 = .ok (.aload_n 0, 1) := dk_42 (dk_at dksX3_promise_0 0 rfl rfl)
theorem dX3_promise_1 : decode cX3_promise 1 = .ok (.iload_n 1, 1) := dk_27 (dk_at dksX3_promise_0 1 rfl rfl)
theorem dX3_promise_2 : decode cX3_promise 2 = .ok (.invokevirtual 182, 3) := dk_182 0 182 (dk_at dksX3_promise_0 2 rfl rfl)
theorem dX3_promise_5 : decode cX3_promise 5 = .ok (.ifCond .eq 15, 3) := dk_153 0 15 (dk_at dksX3_promise_0 5 rfl rfl)
theorem dX3_promise_8 : decode cX3_promise 8 = .ok (.iload_n 2, 1) := dk_28 (dk_at dksX3_promise_0 8 rfl rfl)
theorem dX3_promise_9 : decode cX3_promise 9 = .ok (.i2l, 1) := dk_133 (dk_at dksX3_promise_0 9 rfl rfl)
theorem dX3_promise_10 : decode cX3_promise 10 = .ok (.lconst 0, 1) := dk_9 (dk_at dksX3_promise_0 10 rfl rfl)
theorem dX3_promise_11 : decode cX3_promise 11 = .ok (.ldc2_w 198, 3) := dk_20 0 198 (dk_at dksX3_promise_0 11 rfl rfl)
theorem dX3_promise_14 : decode cX3_promise 14 = .ok (.invokestatic 63, 3) := dk_184 0 63 (dk_at dksX3_promise_0 14 rfl rfl)
theorem dX3_promise_17 : decode cX3_promise 17 = .ok (.ifCond .ne 6, 3) := dk_154 0 6 (dk_at dksX3_promise_0 17 rfl rfl)
theorem dX3_promise_20 : decode cX3_promise 20 = .ok (.ldc 73, 2) := dk_18 73 (dk_at dksX3_promise_0 20 rfl rfl)
theorem dX3_promise_22 : decode cX3_promise 22 = .ok (.ireturn, 1) := dk_172 (dk_at dksX3_promise_0 22 rfl rfl)
theorem dX3_promise_23 : decode cX3_promise 23 = .ok (.iload_n 2, 1) := dk_28 (dk_at dksX3_promise_0 23 rfl rfl)
theorem dX3_promise_24 : decode cX3_promise 24 = .ok (.bipush 6, 2) := dk_16 6 (dk_at dksX3_promise_1 0 rfl rfl)
theorem dX3_promise_26 : decode cX3_promise 26 = .ok (.if_icmp .ge 20, 3) := dk_162 0 20 (dk_at dksX3_promise_1 2 rfl rfl)
theorem dX3_promise_29 : decode cX3_promise 29 = .ok (.aload_n 0, 1) := dk_42 (dk_at dksX3_promise_1 5 rfl rfl)
theorem dX3_promise_30 : decode cX3_promise 30 = .ok (.getfield 7, 3) := dk_180 0 7 (dk_at dksX3_promise_1 6 rfl rfl)
theorem dX3_promise_33 : decode cX3_promise 33 = .ok (.bipush 25, 2) := dk_16 25 (dk_at dksX3_promise_1 9 rfl rfl)
theorem dX3_promise_35 : decode cX3_promise 35 = .ok (.bipush 8, 2) := dk_16 8 (dk_at dksX3_promise_1 11 rfl rfl)
theorem dX3_promise_37 : decode cX3_promise 37 = .ok (.iload_n 2, 1) := dk_28 (dk_at dksX3_promise_1 13 rfl rfl)
theorem dX3_promise_38 : decode cX3_promise 38 = .ok (.imul, 1) := dk_104 (dk_at dksX3_promise_1 14 rfl rfl)
theorem dX3_promise_39 : decode cX3_promise 39 = .ok (.iadd, 1) := dk_96 (dk_at dksX3_promise_1 15 rfl rfl)
theorem dX3_promise_40 : decode cX3_promise 40 = .ok (.iload_n 1, 1) := dk_27 (dk_at dksX3_promise_1 16 rfl rfl)
theorem dX3_promise_41 : decode cX3_promise 41 = .ok (.iadd, 1) := dk_96 (dk_at dksX3_promise_1 17 rfl rfl)
theorem dX3_promise_42 : decode cX3_promise 42 = .ok (.iaload, 1) := dk_46 (dk_at dksX3_promise_1 18 rfl rfl)
theorem dX3_promise_43 : decode cX3_promise 43 = .ok (.goto 8, 3) := dk_167 0 8 (dk_at dksX3_promise_1 19 rfl rfl)
theorem dX3_promise_46 : decode cX3_promise 46 = .ok (.aload_n 0, 1) := dk_42 (dk_at dksX3_promise_1 22 rfl rfl)
theorem dX3_promise_47 : decode cX3_promise 47 = .ok (.iload_n 1, 1) := dk_27 (dk_at dksX3_promise_1 23 rfl rfl)
theorem dX3_promise_48 : decode cX3_promise 48 = .ok (.invokevirtual 158, 3) := dk_182 0 158 (dk_at dksX3_promise_2 0 rfl rfl)
theorem dX3_promise_51 : decode cX3_promise 51 = .ok (.ireturn, 1) := dk_172 (dk_at dksX3_promise_2 3 rfl rfl)
abbrev cX3_height : ByteArray := prog_16_method_48_code
def yX3_height : MethodName := ⟨RX3, "height", "(I)I"⟩
def dkwX3_height_1 : List UInt8 := [180, 0, 7, 3, 27, 96, 46, 167, 0, 5, 18, 73, 172]
abbrev dktX3_height_1 : List UInt8 := dkwX3_height_1 ++ []
def dkwX3_height_0 : List UInt8 := [42, 182, 0, 185, 153, 0, 6, 18, 154, 172, 27, 133, 9, 20, 0, 164, 184, 0, 63, 153, 0, 14, 42]
abbrev dktX3_height_0 : List UInt8 := dkwX3_height_0 ++ dktX3_height_1
theorem dksX3_height_0 : cX3_height.data.toList.drop 0 = dktX3_height_0 := by decide +kernel
theorem dksX3_height_1 : cX3_height.data.toList.drop 23 = dktX3_height_1 := dk_seg dksX3_height_0 23 rfl rfl
theorem dX3_height_0 : decode cX3_height 0 = .ok (.aload_n 0, 1) := dk_42 (dk_at dksX3_height_0 0 rfl rfl)
theorem dX3_height_1 : decode cX3_height 1 = .ok (.invokevirtual 185, 3) := dk_182 0 185 (dk_at dksX3_height_0 1 rfl rfl)
theorem dX3_height_4 : decode cX3_height 4 = .ok (.ifCond .eq 6, 3) := dk_153 0 6 (dk_at dksX3_height_0 4 rfl rfl)
theorem dX3_height_7 : decode cX3_height 7 = .ok (.ldc 154, 2) := dk_18 154 (dk_at dksX3_height_0 7 rfl rfl)
theorem dX3_height_9 : decode cX3_height 9 = .ok (.ireturn, 1) := dk_172 (dk_at dksX3_height_0 9 rfl rfl)
theorem dX3_height_10 : decode cX3_height 10 = .ok (.iload_n 1, 1) := dk_27 (dk_at dksX3_height_0 10 rfl rfl)
theorem dX3_height_11 : decode cX3_height 11 = .ok (.i2l, 1) := dk_133 (dk_at dksX3_height_0 11 rfl rfl)
theorem dX3_height_12 : decode cX3_height 12 = .ok (.lconst 0, 1) := dk_9 (dk_at dksX3_height_0 12 rfl rfl)
theorem dX3_height_13 : decode cX3_height 13 = .ok (.ldc2_w 164, 3) := dk_20 0 164 (dk_at dksX3_height_0 13 rfl rfl)
theorem dX3_height_16 : decode cX3_height 16 = .ok (.invokestatic 63, 3) := dk_184 0 63 (dk_at dksX3_height_0 16 rfl rfl)
theorem dX3_height_19 : decode cX3_height 19 = .ok (.ifCond .eq 14, 3) := dk_153 0 14 (dk_at dksX3_height_0 19 rfl rfl)
theorem dX3_height_22 : decode cX3_height 22 = .ok (.aload_n 0, 1) := dk_42 (dk_at dksX3_height_0 22 rfl rfl)
theorem dX3_height_23 : decode cX3_height 23 = .ok (.getfield 7, 3) := dk_180 0 7 (dk_at dksX3_height_1 0 rfl rfl)
theorem dX3_height_26 : decode cX3_height 26 = .ok (.iconst 0, 1) := dk_3 (dk_at dksX3_height_1 3 rfl rfl)
theorem dX3_height_27 : decode cX3_height 27 = .ok (.iload_n 1, 1) := dk_27 (dk_at dksX3_height_1 4 rfl rfl)
theorem dX3_height_28 : decode cX3_height 28 = .ok (.iadd, 1) := dk_96 (dk_at dksX3_height_1 5 rfl rfl)
theorem dX3_height_29 : decode cX3_height 29 = .ok (.iaload, 1) := dk_46 (dk_at dksX3_height_1 6 rfl rfl)
theorem dX3_height_30 : decode cX3_height 30 = .ok (.goto 5, 3) := dk_167 0 5 (dk_at dksX3_height_1 7 rfl rfl)
theorem dX3_height_33 : decode cX3_height 33 = .ok (.ldc 73, 2) := dk_18 73 (dk_at dksX3_height_1 10 rfl rfl)
theorem dX3_height_35 : decode cX3_height 35 = .ok (.ireturn, 1) := dk_172 (dk_at dksX3_height_1 12 rfl rfl)
abbrev cX3_gets : ByteArray := prog_16_method_49_code
def yX3_gets : MethodName := ⟨RX3, "gets", "(III)I"⟩
def dkwX3_gets_7 : List UInt8 := [167, 0, 4, 3, 172]
abbrev dktX3_gets_7 : List UInt8 := dkwX3_gets_7 ++ []
def dkwX3_gets_6 : List UInt8 := [167, 0, 4, 3, 54, 6, 29, 4, 160, 0, 8, 21, 6, 167, 0, 13, 21, 6, 154, 0, 7, 4]
abbrev dktX3_gets_6 : List UInt8 := dkwX3_gets_6 ++ dktX3_gets_7
def dkwX3_gets_5 : List UInt8 := [180, 0, 7, 16, 15, 27, 96, 46, 164, 0, 18, 21, 5, 42, 180, 0, 7, 16, 15, 27, 96, 46, 100]
abbrev dktX3_gets_5 : List UInt8 := dkwX3_gets_5 ++ dktX3_gets_6
def dkwX3_gets_4 : List UInt8 := [21, 7, 167, 0, 5, 21, 5, 54, 5, 21, 6, 21, 4, 96, 54, 6, 167, 255, 213, 21, 5, 42]
abbrev dktX3_gets_4 : List UInt8 := dkwX3_gets_4 ++ dktX3_gets_5
def dkwX3_gets_3 : List UInt8 := [159, 0, 43, 42, 27, 21, 6, 21, 6, 21, 4, 96, 182, 0, 166, 54, 7, 21, 7, 21, 5, 164, 0, 8]
abbrev dktX3_gets_3 : List UInt8 := dkwX3_gets_3 ++ dktX3_gets_4
def dkwX3_gets_2 : List UInt8 := [167, 0, 4, 2, 54, 4, 3, 54, 5, 42, 180, 0, 7, 16, 20, 27, 96, 46, 54, 6, 21, 6, 28]
abbrev dktX3_gets_2 : List UInt8 := dkwX3_gets_2 ++ dktX3_gets_3
def dkwX3_gets_1 : List UInt8 := [184, 0, 63, 154, 0, 6, 18, 73, 172, 28, 42, 180, 0, 7, 16, 20, 27, 96, 46, 164, 0, 7, 4]
abbrev dktX3_gets_1 : List UInt8 := dkwX3_gets_1 ++ dktX3_gets_2
def dkwX3_gets_0 : List UInt8 := [42, 27, 182, 0, 169, 153, 0, 25, 28, 133, 9, 20, 0, 164, 184, 0, 63, 153, 0, 13, 29, 133, 9, 10]
abbrev dktX3_gets_0 : List UInt8 := dkwX3_gets_0 ++ dktX3_gets_1
theorem dksX3_gets_0 : cX3_gets.data.toList.drop 0 = dktX3_gets_0 := by decide +kernel
theorem dksX3_gets_1 : cX3_gets.data.toList.drop 24 = dktX3_gets_1 := dk_seg dksX3_gets_0 24 rfl rfl
theorem dksX3_gets_2 : cX3_gets.data.toList.drop 47 = dktX3_gets_2 := dk_seg dksX3_gets_1 23 rfl rfl
theorem dksX3_gets_3 : cX3_gets.data.toList.drop 70 = dktX3_gets_3 := dk_seg dksX3_gets_2 23 rfl rfl
theorem dksX3_gets_4 : cX3_gets.data.toList.drop 94 = dktX3_gets_4 := dk_seg dksX3_gets_3 24 rfl rfl
theorem dksX3_gets_5 : cX3_gets.data.toList.drop 116 = dktX3_gets_5 := dk_seg dksX3_gets_4 22 rfl rfl
theorem dksX3_gets_6 : cX3_gets.data.toList.drop 139 = dktX3_gets_6 := dk_seg dksX3_gets_5 23 rfl rfl
theorem dksX3_gets_7 : cX3_gets.data.toList.drop 161 = dktX3_gets_7 := dk_seg dksX3_gets_6 22 rfl rfl
theorem dX3_gets_0 : decode cX3_gets 0 = .ok (.aload_n 0, 1) := dk_42 (dk_at dksX3_gets_0 0 rfl rfl)
theorem dX3_gets_1 : decode cX3_gets 1 = .ok (.iload_n 1, 1) := dk_27 (dk_at dksX3_gets_0 1 rfl rfl)
theorem dX3_gets_2 : decode cX3_gets 2 = .ok (.invokevirtual 169, 3) := dk_182 0 169 (dk_at dksX3_gets_0 2 rfl rfl)
theorem dX3_gets_5 : decode cX3_gets 5 = .ok (.ifCond .eq 25, 3) := dk_153 0 25 (dk_at dksX3_gets_0 5 rfl rfl)
theorem dX3_gets_8 : decode cX3_gets 8 = .ok (.iload_n 2, 1) := dk_28 (dk_at dksX3_gets_0 8 rfl rfl)
theorem dX3_gets_9 : decode cX3_gets 9 = .ok (.i2l, 1) := dk_133 (dk_at dksX3_gets_0 9 rfl rfl)
theorem dX3_gets_10 : decode cX3_gets 10 = .ok (.lconst 0, 1) := dk_9 (dk_at dksX3_gets_0 10 rfl rfl)
theorem dX3_gets_11 : decode cX3_gets 11 = .ok (.ldc2_w 164, 3) := dk_20 0 164 (dk_at dksX3_gets_0 11 rfl rfl)
theorem dX3_gets_14 : decode cX3_gets 14 = .ok (.invokestatic 63, 3) := dk_184 0 63 (dk_at dksX3_gets_0 14 rfl rfl)
theorem dX3_gets_17 : decode cX3_gets 17 = .ok (.ifCond .eq 13, 3) := dk_153 0 13 (dk_at dksX3_gets_0 17 rfl rfl)
theorem dX3_gets_20 : decode cX3_gets 20 = .ok (.iload_n 3, 1) := dk_29 (dk_at dksX3_gets_0 20 rfl rfl)
theorem dX3_gets_21 : decode cX3_gets 21 = .ok (.i2l, 1) := dk_133 (dk_at dksX3_gets_0 21 rfl rfl)
theorem dX3_gets_22 : decode cX3_gets 22 = .ok (.lconst 0, 1) := dk_9 (dk_at dksX3_gets_0 22 rfl rfl)
theorem dX3_gets_23 : decode cX3_gets 23 = .ok (.lconst 1, 1) := dk_10 (dk_at dksX3_gets_0 23 rfl rfl)
theorem dX3_gets_24 : decode cX3_gets 24 = .ok (.invokestatic 63, 3) := dk_184 0 63 (dk_at dksX3_gets_1 0 rfl rfl)
theorem dX3_gets_27 : decode cX3_gets 27 = .ok (.ifCond .ne 6, 3) := dk_154 0 6 (dk_at dksX3_gets_1 3 rfl rfl)
theorem dX3_gets_30 : decode cX3_gets 30 = .ok (.ldc 73, 2) := dk_18 73 (dk_at dksX3_gets_1 6 rfl rfl)
theorem dX3_gets_32 : decode cX3_gets 32 = .ok (.ireturn, 1) := dk_172 (dk_at dksX3_gets_1 8 rfl rfl)
theorem dX3_gets_33 : decode cX3_gets 33 = .ok (.iload_n 2, 1) := dk_28 (dk_at dksX3_gets_1 9 rfl rfl)
theorem dX3_gets_34 : decode cX3_gets 34 = .ok (.aload_n 0, 1) := dk_42 (dk_at dksX3_gets_1 10 rfl rfl)
theorem dX3_gets_35 : decode cX3_gets 35 = .ok (.getfield 7, 3) := dk_180 0 7 (dk_at dksX3_gets_1 11 rfl rfl)
theorem dX3_gets_38 : decode cX3_gets 38 = .ok (.bipush 20, 2) := dk_16 20 (dk_at dksX3_gets_1 14 rfl rfl)
theorem dX3_gets_40 : decode cX3_gets 40 = .ok (.iload_n 1, 1) := dk_27 (dk_at dksX3_gets_1 16 rfl rfl)
theorem dX3_gets_41 : decode cX3_gets 41 = .ok (.iadd, 1) := dk_96 (dk_at dksX3_gets_1 17 rfl rfl)
theorem dX3_gets_42 : decode cX3_gets 42 = .ok (.iaload, 1) := dk_46 (dk_at dksX3_gets_1 18 rfl rfl)
theorem dX3_gets_43 : decode cX3_gets 43 = .ok (.if_icmp .le 7, 3) := dk_164 0 7 (dk_at dksX3_gets_1 19 rfl rfl)
theorem dX3_gets_46 : decode cX3_gets 46 = .ok (.iconst 1, 1) := dk_4 (dk_at dksX3_gets_1 22 rfl rfl)
theorem dX3_gets_47 : decode cX3_gets 47 = .ok (.goto 4, 3) := dk_167 0 4 (dk_at dksX3_gets_2 0 rfl rfl)
theorem dX3_gets_50 : decode cX3_gets 50 = .ok (.iconst (-1), 1) := dk_2 (dk_at dksX3_gets_2 3 rfl rfl)
theorem dX3_gets_51 : decode cX3_gets 51 = .ok (.istore 4, 2) := dk_54 4 (dk_at dksX3_gets_2 4 rfl rfl)
theorem dX3_gets_53 : decode cX3_gets 53 = .ok (.iconst 0, 1) := dk_3 (dk_at dksX3_gets_2 6 rfl rfl)
theorem dX3_gets_54 : decode cX3_gets 54 = .ok (.istore 5, 2) := dk_54 5 (dk_at dksX3_gets_2 7 rfl rfl)
theorem dX3_gets_56 : decode cX3_gets 56 = .ok (.aload_n 0, 1) := dk_42 (dk_at dksX3_gets_2 9 rfl rfl)
theorem dX3_gets_57 : decode cX3_gets 57 = .ok (.getfield 7, 3) := dk_180 0 7 (dk_at dksX3_gets_2 10 rfl rfl)
theorem dX3_gets_60 : decode cX3_gets 60 = .ok (.bipush 20, 2) := dk_16 20 (dk_at dksX3_gets_2 13 rfl rfl)
theorem dX3_gets_62 : decode cX3_gets 62 = .ok (.iload_n 1, 1) := dk_27 (dk_at dksX3_gets_2 15 rfl rfl)
theorem dX3_gets_63 : decode cX3_gets 63 = .ok (.iadd, 1) := dk_96 (dk_at dksX3_gets_2 16 rfl rfl)
theorem dX3_gets_64 : decode cX3_gets 64 = .ok (.iaload, 1) := dk_46 (dk_at dksX3_gets_2 17 rfl rfl)
theorem dX3_gets_65 : decode cX3_gets 65 = .ok (.istore 6, 2) := dk_54 6 (dk_at dksX3_gets_2 18 rfl rfl)
theorem dX3_gets_67 : decode cX3_gets 67 = .ok (.iload 6, 2) := dk_21 6 (dk_at dksX3_gets_2 20 rfl rfl)
theorem dX3_gets_69 : decode cX3_gets 69 = .ok (.iload_n 2, 1) := dk_28 (dk_at dksX3_gets_2 22 rfl rfl)
theorem dX3_gets_70 : decode cX3_gets 70 = .ok (.if_icmp .eq 43, 3) := dk_159 0 43 (dk_at dksX3_gets_3 0 rfl rfl)
theorem dX3_gets_73 : decode cX3_gets 73 = .ok (.aload_n 0, 1) := dk_42 (dk_at dksX3_gets_3 3 rfl rfl)
theorem dX3_gets_74 : decode cX3_gets 74 = .ok (.iload_n 1, 1) := dk_27 (dk_at dksX3_gets_3 4 rfl rfl)
theorem dX3_gets_75 : decode cX3_gets 75 = .ok (.iload 6, 2) := dk_21 6 (dk_at dksX3_gets_3 5 rfl rfl)
theorem dX3_gets_77 : decode cX3_gets 77 = .ok (.iload 6, 2) := dk_21 6 (dk_at dksX3_gets_3 7 rfl rfl)
theorem dX3_gets_79 : decode cX3_gets 79 = .ok (.iload 4, 2) := dk_21 4 (dk_at dksX3_gets_3 9 rfl rfl)
theorem dX3_gets_81 : decode cX3_gets 81 = .ok (.iadd, 1) := dk_96 (dk_at dksX3_gets_3 11 rfl rfl)
theorem dX3_gets_82 : decode cX3_gets 82 = .ok (.invokevirtual 166, 3) := dk_182 0 166 (dk_at dksX3_gets_3 12 rfl rfl)
theorem dX3_gets_85 : decode cX3_gets 85 = .ok (.istore 7, 2) := dk_54 7 (dk_at dksX3_gets_3 15 rfl rfl)
theorem dX3_gets_87 : decode cX3_gets 87 = .ok (.iload 7, 2) := dk_21 7 (dk_at dksX3_gets_3 17 rfl rfl)
theorem dX3_gets_89 : decode cX3_gets 89 = .ok (.iload 5, 2) := dk_21 5 (dk_at dksX3_gets_3 19 rfl rfl)
theorem dX3_gets_91 : decode cX3_gets 91 = .ok (.if_icmp .le 8, 3) := dk_164 0 8 (dk_at dksX3_gets_3 21 rfl rfl)
theorem dX3_gets_94 : decode cX3_gets 94 = .ok (.iload 7, 2) := dk_21 7 (dk_at dksX3_gets_4 0 rfl rfl)
theorem dX3_gets_96 : decode cX3_gets 96 = .ok (.goto 5, 3) := dk_167 0 5 (dk_at dksX3_gets_4 2 rfl rfl)
theorem dX3_gets_99 : decode cX3_gets 99 = .ok (.iload 5, 2) := dk_21 5 (dk_at dksX3_gets_4 5 rfl rfl)
theorem dX3_gets_101 : decode cX3_gets 101 = .ok (.istore 5, 2) := dk_54 5 (dk_at dksX3_gets_4 7 rfl rfl)
theorem dX3_gets_103 : decode cX3_gets 103 = .ok (.iload 6, 2) := dk_21 6 (dk_at dksX3_gets_4 9 rfl rfl)
theorem dX3_gets_105 : decode cX3_gets 105 = .ok (.iload 4, 2) := dk_21 4 (dk_at dksX3_gets_4 11 rfl rfl)
theorem dX3_gets_107 : decode cX3_gets 107 = .ok (.iadd, 1) := dk_96 (dk_at dksX3_gets_4 13 rfl rfl)
theorem dX3_gets_108 : decode cX3_gets 108 = .ok (.istore 6, 2) := dk_54 6 (dk_at dksX3_gets_4 14 rfl rfl)
theorem dX3_gets_110 : decode cX3_gets 110 = .ok (.goto (-43), 3) := dk_167 255 213 (dk_at dksX3_gets_4 16 rfl rfl)
theorem dX3_gets_113 : decode cX3_gets 113 = .ok (.iload 5, 2) := dk_21 5 (dk_at dksX3_gets_4 19 rfl rfl)
theorem dX3_gets_115 : decode cX3_gets 115 = .ok (.aload_n 0, 1) := dk_42 (dk_at dksX3_gets_4 21 rfl rfl)
theorem dX3_gets_116 : decode cX3_gets 116 = .ok (.getfield 7, 3) := dk_180 0 7 (dk_at dksX3_gets_5 0 rfl rfl)
theorem dX3_gets_119 : decode cX3_gets 119 = .ok (.bipush 15, 2) := dk_16 15 (dk_at dksX3_gets_5 3 rfl rfl)
theorem dX3_gets_121 : decode cX3_gets 121 = .ok (.iload_n 1, 1) := dk_27 (dk_at dksX3_gets_5 5 rfl rfl)
theorem dX3_gets_122 : decode cX3_gets 122 = .ok (.iadd, 1) := dk_96 (dk_at dksX3_gets_5 6 rfl rfl)
theorem dX3_gets_123 : decode cX3_gets 123 = .ok (.iaload, 1) := dk_46 (dk_at dksX3_gets_5 7 rfl rfl)
theorem dX3_gets_124 : decode cX3_gets 124 = .ok (.if_icmp .le 18, 3) := dk_164 0 18 (dk_at dksX3_gets_5 8 rfl rfl)
theorem dX3_gets_127 : decode cX3_gets 127 = .ok (.iload 5, 2) := dk_21 5 (dk_at dksX3_gets_5 11 rfl rfl)
theorem dX3_gets_129 : decode cX3_gets 129 = .ok (.aload_n 0, 1) := dk_42 (dk_at dksX3_gets_5 13 rfl rfl)
theorem dX3_gets_130 : decode cX3_gets 130 = .ok (.getfield 7, 3) := dk_180 0 7 (dk_at dksX3_gets_5 14 rfl rfl)
theorem dX3_gets_133 : decode cX3_gets 133 = .ok (.bipush 15, 2) := dk_16 15 (dk_at dksX3_gets_5 17 rfl rfl)
theorem dX3_gets_135 : decode cX3_gets 135 = .ok (.iload_n 1, 1) := dk_27 (dk_at dksX3_gets_5 19 rfl rfl)
theorem dX3_gets_136 : decode cX3_gets 136 = .ok (.iadd, 1) := dk_96 (dk_at dksX3_gets_5 20 rfl rfl)
theorem dX3_gets_137 : decode cX3_gets 137 = .ok (.iaload, 1) := dk_46 (dk_at dksX3_gets_5 21 rfl rfl)
theorem dX3_gets_138 : decode cX3_gets 138 = .ok (.isub, 1) := dk_100 (dk_at dksX3_gets_5 22 rfl rfl)
theorem dX3_gets_139 : decode cX3_gets 139 = .ok (.goto 4, 3) := dk_167 0 4 (dk_at dksX3_gets_6 0 rfl rfl)
theorem dX3_gets_142 : decode cX3_gets 142 = .ok (.iconst 0, 1) := dk_3 (dk_at dksX3_gets_6 3 rfl rfl)
theorem dX3_gets_143 : decode cX3_gets 143 = .ok (.istore 6, 2) := dk_54 6 (dk_at dksX3_gets_6 4 rfl rfl)
theorem dX3_gets_145 : decode cX3_gets 145 = .ok (.iload_n 3, 1) := dk_29 (dk_at dksX3_gets_6 6 rfl rfl)
theorem dX3_gets_146 : decode cX3_gets 146 = .ok (.iconst 1, 1) := dk_4 (dk_at dksX3_gets_6 7 rfl rfl)
theorem dX3_gets_147 : decode cX3_gets 147 = .ok (.if_icmp .ne 8, 3) := dk_160 0 8 (dk_at dksX3_gets_6 8 rfl rfl)
theorem dX3_gets_150 : decode cX3_gets 150 = .ok (.iload 6, 2) := dk_21 6 (dk_at dksX3_gets_6 11 rfl rfl)
theorem dX3_gets_152 : decode cX3_gets 152 = .ok (.goto 13, 3) := dk_167 0 13 (dk_at dksX3_gets_6 13 rfl rfl)
theorem dX3_gets_155 : decode cX3_gets 155 = .ok (.iload 6, 2) := dk_21 6 (dk_at dksX3_gets_6 16 rfl rfl)
theorem dX3_gets_157 : decode cX3_gets 157 = .ok (.ifCond .ne 7, 3) := dk_154 0 7 (dk_at dksX3_gets_6 18 rfl rfl)
theorem dX3_gets_160 : decode cX3_gets 160 = .ok (.iconst 1, 1) := dk_4 (dk_at dksX3_gets_6 21 rfl rfl)
theorem dX3_gets_161 : decode cX3_gets 161 = .ok (.goto 4, 3) := dk_167 0 4 (dk_at dksX3_gets_7 0 rfl rfl)
theorem dX3_gets_164 : decode cX3_gets 164 = .ok (.iconst 0, 1) := dk_3 (dk_at dksX3_gets_7 3 rfl rfl)
theorem dX3_gets_165 : decode cX3_gets 165 = .ok (.ireturn, 1) := dk_172 (dk_at dksX3_gets_7 4 rfl rfl)
abbrev cX3_keeps : ByteArray := prog_16_method_51_code
def yX3_keeps : MethodName := ⟨RX3, "keeps", "(II)I"⟩
def dkwX3_keeps_6 : List UInt8 := [42, 180, 0, 35, 28, 46, 167, 0, 5, 18, 211, 172]
abbrev dktX3_keeps_6 : List UInt8 := dkwX3_keeps_6 ++ []
def dkwX3_keeps_5 : List UInt8 := [27, 29, 21, 4, 182, 0, 208, 54, 5, 28, 156, 0, 8, 21, 5, 167, 0, 20, 28, 21, 4, 162, 0, 12]
abbrev dktX3_keeps_5 : List UInt8 := dkwX3_keeps_5 ++ dktX3_keeps_6
def dkwX3_keeps_4 : List UInt8 := [128, 62, 21, 4, 21, 6, 153, 0, 7, 4, 167, 0, 4, 3, 96, 54, 4, 132, 5, 1, 167, 255, 176, 42]
abbrev dktX3_keeps_4 : List UInt8 := dkwX3_keeps_4 ++ dktX3_keeps_5
def dkwX3_keeps_3 : List UInt8 := [154, 0, 7, 4, 167, 0, 4, 3, 54, 6, 29, 21, 6, 153, 0, 10, 4, 21, 5, 120, 167, 0, 4, 3]
abbrev dktX3_keeps_3 : List UInt8 := dkwX3_keeps_3 ++ dktX3_keeps_4
def dkwX3_keeps_2 : List UInt8 := [180, 0, 7, 16, 25, 21, 5, 96, 46, 27, 160, 0, 20, 42, 180, 0, 7, 16, 65, 21, 5, 96, 46]
abbrev dktX3_keeps_2 : List UInt8 := dkwX3_keeps_2 ++ dktX3_keeps_3
def dkwX3_keeps_1 : List UInt8 := [172, 3, 62, 3, 54, 4, 3, 54, 5, 21, 5, 42, 180, 0, 7, 16, 7, 46, 162, 0, 74, 42]
abbrev dktX3_keeps_1 : List UInt8 := dkwX3_keeps_1 ++ dktX3_keeps_2
def dkwX3_keeps_0 : List UInt8 := [42, 27, 182, 0, 169, 153, 0, 17, 28, 133, 20, 0, 206, 20, 0, 61, 184, 0, 63, 154, 0, 6, 18, 73]
abbrev dktX3_keeps_0 : List UInt8 := dkwX3_keeps_0 ++ dktX3_keeps_1
theorem dksX3_keeps_0 : cX3_keeps.data.toList.drop 0 = dktX3_keeps_0 := by decide +kernel
theorem dksX3_keeps_1 : cX3_keeps.data.toList.drop 24 = dktX3_keeps_1 := dk_seg dksX3_keeps_0 24 rfl rfl
theorem dksX3_keeps_2 : cX3_keeps.data.toList.drop 46 = dktX3_keeps_2 := dk_seg dksX3_keeps_1 22 rfl rfl
theorem dksX3_keeps_3 : cX3_keeps.data.toList.drop 69 = dktX3_keeps_3 := dk_seg dksX3_keeps_2 23 rfl rfl
theorem dksX3_keeps_4 : cX3_keeps.data.toList.drop 93 = dktX3_keeps_4 := dk_seg dksX3_keeps_3 24 rfl rfl
theorem dksX3_keeps_5 : cX3_keeps.data.toList.drop 117 = dktX3_keeps_5 := dk_seg dksX3_keeps_4 24 rfl rfl
theorem dksX3_keeps_6 : cX3_keeps.data.toList.drop 141 = dktX3_keeps_6 := dk_seg dksX3_keeps_5 24 rfl rfl
theorem dX3_keeps_0 : decode cX3_keeps 0 = .ok (.aload_n 0, 1) := dk_42 (dk_at dksX3_keeps_0 0 rfl rfl)
theorem dX3_keeps_1 : decode cX3_keeps 1 = .ok (.iload_n 1, 1) := dk_27 (dk_at dksX3_keeps_0 1 rfl rfl)
theorem dX3_keeps_2 : decode cX3_keeps 2 = .ok (.invokevirtual 169, 3) := dk_182 0 169 (dk_at dksX3_keeps_0 2 rfl rfl)
theorem dX3_keeps_5 : decode cX3_keeps 5 = .ok (.ifCond .eq 17, 3) := dk_153 0 17 (dk_at dksX3_keeps_0 5 rfl rfl)
theorem dX3_keeps_8 : decode cX3_keeps 8 = .ok (.iload_n 2, 1) := dk_28 (dk_at dksX3_keeps_0 8 rfl rfl)
theorem dX3_keeps_9 : decode cX3_keeps 9 = .ok (.i2l, 1) := dk_133 (dk_at dksX3_keeps_0 9 rfl rfl)
theorem dX3_keeps_10 : decode cX3_keeps 10 = .ok (.ldc2_w 206, 3) := dk_20 0 206 (dk_at dksX3_keeps_0 10 rfl rfl)
theorem dX3_keeps_13 : decode cX3_keeps 13 = .ok (.ldc2_w 61, 3) := dk_20 0 61 (dk_at dksX3_keeps_0 13 rfl rfl)
theorem dX3_keeps_16 : decode cX3_keeps 16 = .ok (.invokestatic 63, 3) := dk_184 0 63 (dk_at dksX3_keeps_0 16 rfl rfl)
theorem dX3_keeps_19 : decode cX3_keeps 19 = .ok (.ifCond .ne 6, 3) := dk_154 0 6 (dk_at dksX3_keeps_0 19 rfl rfl)
theorem dX3_keeps_22 : decode cX3_keeps 22 = .ok (.ldc 73, 2) := dk_18 73 (dk_at dksX3_keeps_0 22 rfl rfl)
theorem dX3_keeps_24 : decode cX3_keeps 24 = .ok (.ireturn, 1) := dk_172 (dk_at dksX3_keeps_1 0 rfl rfl)
theorem dX3_keeps_25 : decode cX3_keeps 25 = .ok (.iconst 0, 1) := dk_3 (dk_at dksX3_keeps_1 1 rfl rfl)
theorem dX3_keeps_26 : decode cX3_keeps 26 = .ok (.istore_n 3, 1) := dk_62 (dk_at dksX3_keeps_1 2 rfl rfl)
theorem dX3_keeps_27 : decode cX3_keeps 27 = .ok (.iconst 0, 1) := dk_3 (dk_at dksX3_keeps_1 3 rfl rfl)
theorem dX3_keeps_28 : decode cX3_keeps 28 = .ok (.istore 4, 2) := dk_54 4 (dk_at dksX3_keeps_1 4 rfl rfl)
theorem dX3_keeps_30 : decode cX3_keeps 30 = .ok (.iconst 0, 1) := dk_3 (dk_at dksX3_keeps_1 6 rfl rfl)
theorem dX3_keeps_31 : decode cX3_keeps 31 = .ok (.istore 5, 2) := dk_54 5 (dk_at dksX3_keeps_1 7 rfl rfl)
theorem dX3_keeps_33 : decode cX3_keeps 33 = .ok (.iload 5, 2) := dk_21 5 (dk_at dksX3_keeps_1 9 rfl rfl)
theorem dX3_keeps_35 : decode cX3_keeps 35 = .ok (.aload_n 0, 1) := dk_42 (dk_at dksX3_keeps_1 11 rfl rfl)
theorem dX3_keeps_36 : decode cX3_keeps 36 = .ok (.getfield 7, 3) := dk_180 0 7 (dk_at dksX3_keeps_1 12 rfl rfl)
theorem dX3_keeps_39 : decode cX3_keeps 39 = .ok (.bipush 7, 2) := dk_16 7 (dk_at dksX3_keeps_1 15 rfl rfl)
theorem dX3_keeps_41 : decode cX3_keeps 41 = .ok (.iaload, 1) := dk_46 (dk_at dksX3_keeps_1 17 rfl rfl)
theorem dX3_keeps_42 : decode cX3_keeps 42 = .ok (.if_icmp .ge 74, 3) := dk_162 0 74 (dk_at dksX3_keeps_1 18 rfl rfl)
theorem dX3_keeps_45 : decode cX3_keeps 45 = .ok (.aload_n 0, 1) := dk_42 (dk_at dksX3_keeps_1 21 rfl rfl)
theorem dX3_keeps_46 : decode cX3_keeps 46 = .ok (.getfield 7, 3) := dk_180 0 7 (dk_at dksX3_keeps_2 0 rfl rfl)
theorem dX3_keeps_49 : decode cX3_keeps 49 = .ok (.bipush 25, 2) := dk_16 25 (dk_at dksX3_keeps_2 3 rfl rfl)
theorem dX3_keeps_51 : decode cX3_keeps 51 = .ok (.iload 5, 2) := dk_21 5 (dk_at dksX3_keeps_2 5 rfl rfl)
theorem dX3_keeps_53 : decode cX3_keeps 53 = .ok (.iadd, 1) := dk_96 (dk_at dksX3_keeps_2 7 rfl rfl)
theorem dX3_keeps_54 : decode cX3_keeps 54 = .ok (.iaload, 1) := dk_46 (dk_at dksX3_keeps_2 8 rfl rfl)
theorem dX3_keeps_55 : decode cX3_keeps 55 = .ok (.iload_n 1, 1) := dk_27 (dk_at dksX3_keeps_2 9 rfl rfl)
theorem dX3_keeps_56 : decode cX3_keeps 56 = .ok (.if_icmp .ne 20, 3) := dk_160 0 20 (dk_at dksX3_keeps_2 10 rfl rfl)
theorem dX3_keeps_59 : decode cX3_keeps 59 = .ok (.aload_n 0, 1) := dk_42 (dk_at dksX3_keeps_2 13 rfl rfl)
theorem dX3_keeps_60 : decode cX3_keeps 60 = .ok (.getfield 7, 3) := dk_180 0 7 (dk_at dksX3_keeps_2 14 rfl rfl)
theorem dX3_keeps_63 : decode cX3_keeps 63 = .ok (.bipush 65, 2) := dk_16 65 (dk_at dksX3_keeps_2 17 rfl rfl)
theorem dX3_keeps_65 : decode cX3_keeps 65 = .ok (.iload 5, 2) := dk_21 5 (dk_at dksX3_keeps_2 19 rfl rfl)
theorem dX3_keeps_67 : decode cX3_keeps 67 = .ok (.iadd, 1) := dk_96 (dk_at dksX3_keeps_2 21 rfl rfl)
theorem dX3_keeps_68 : decode cX3_keeps 68 = .ok (.iaload, 1) := dk_46 (dk_at dksX3_keeps_2 22 rfl rfl)
theorem dX3_keeps_69 : decode cX3_keeps 69 = .ok (.ifCond .ne 7, 3) := dk_154 0 7 (dk_at dksX3_keeps_3 0 rfl rfl)
theorem dX3_keeps_72 : decode cX3_keeps 72 = .ok (.iconst 1, 1) := dk_4 (dk_at dksX3_keeps_3 3 rfl rfl)
theorem dX3_keeps_73 : decode cX3_keeps 73 = .ok (.goto 4, 3) := dk_167 0 4 (dk_at dksX3_keeps_3 4 rfl rfl)
theorem dX3_keeps_76 : decode cX3_keeps 76 = .ok (.iconst 0, 1) := dk_3 (dk_at dksX3_keeps_3 7 rfl rfl)
theorem dX3_keeps_77 : decode cX3_keeps 77 = .ok (.istore 6, 2) := dk_54 6 (dk_at dksX3_keeps_3 8 rfl rfl)
theorem dX3_keeps_79 : decode cX3_keeps 79 = .ok (.iload_n 3, 1) := dk_29 (dk_at dksX3_keeps_3 10 rfl rfl)
theorem dX3_keeps_80 : decode cX3_keeps 80 = .ok (.iload 6, 2) := dk_21 6 (dk_at dksX3_keeps_3 11 rfl rfl)
theorem dX3_keeps_82 : decode cX3_keeps 82 = .ok (.ifCond .eq 10, 3) := dk_153 0 10 (dk_at dksX3_keeps_3 13 rfl rfl)
theorem dX3_keeps_85 : decode cX3_keeps 85 = .ok (.iconst 1, 1) := dk_4 (dk_at dksX3_keeps_3 16 rfl rfl)
theorem dX3_keeps_86 : decode cX3_keeps 86 = .ok (.iload 5, 2) := dk_21 5 (dk_at dksX3_keeps_3 17 rfl rfl)
theorem dX3_keeps_88 : decode cX3_keeps 88 = .ok (.ishl, 1) := dk_120 (dk_at dksX3_keeps_3 19 rfl rfl)
theorem dX3_keeps_89 : decode cX3_keeps 89 = .ok (.goto 4, 3) := dk_167 0 4 (dk_at dksX3_keeps_3 20 rfl rfl)
theorem dX3_keeps_92 : decode cX3_keeps 92 = .ok (.iconst 0, 1) := dk_3 (dk_at dksX3_keeps_3 23 rfl rfl)
theorem dX3_keeps_93 : decode cX3_keeps 93 = .ok (.ior, 1) := dk_128 (dk_at dksX3_keeps_4 0 rfl rfl)
theorem dX3_keeps_94 : decode cX3_keeps 94 = .ok (.istore_n 3, 1) := dk_62 (dk_at dksX3_keeps_4 1 rfl rfl)
theorem dX3_keeps_95 : decode cX3_keeps 95 = .ok (.iload 4, 2) := dk_21 4 (dk_at dksX3_keeps_4 2 rfl rfl)
theorem dX3_keeps_97 : decode cX3_keeps 97 = .ok (.iload 6, 2) := dk_21 6 (dk_at dksX3_keeps_4 4 rfl rfl)
theorem dX3_keeps_99 : decode cX3_keeps 99 = .ok (.ifCond .eq 7, 3) := dk_153 0 7 (dk_at dksX3_keeps_4 6 rfl rfl)
theorem dX3_keeps_102 : decode cX3_keeps 102 = .ok (.iconst 1, 1) := dk_4 (dk_at dksX3_keeps_4 9 rfl rfl)
theorem dX3_keeps_103 : decode cX3_keeps 103 = .ok (.goto 4, 3) := dk_167 0 4 (dk_at dksX3_keeps_4 10 rfl rfl)
theorem dX3_keeps_106 : decode cX3_keeps 106 = .ok (.iconst 0, 1) := dk_3 (dk_at dksX3_keeps_4 13 rfl rfl)
theorem dX3_keeps_107 : decode cX3_keeps 107 = .ok (.iadd, 1) := dk_96 (dk_at dksX3_keeps_4 14 rfl rfl)
theorem dX3_keeps_108 : decode cX3_keeps 108 = .ok (.istore 4, 2) := dk_54 4 (dk_at dksX3_keeps_4 15 rfl rfl)
theorem dX3_keeps_110 : decode cX3_keeps 110 = .ok (.iinc 5 1, 3) := dk_132 5 1 (dk_at dksX3_keeps_4 17 rfl rfl)
theorem dX3_keeps_113 : decode cX3_keeps 113 = .ok (.goto (-80), 3) := dk_167 255 176 (dk_at dksX3_keeps_4 20 rfl rfl)
theorem dX3_keeps_116 : decode cX3_keeps 116 = .ok (.aload_n 0, 1) := dk_42 (dk_at dksX3_keeps_4 23 rfl rfl)
theorem dX3_keeps_117 : decode cX3_keeps 117 = .ok (.iload_n 1, 1) := dk_27 (dk_at dksX3_keeps_5 0 rfl rfl)
theorem dX3_keeps_118 : decode cX3_keeps 118 = .ok (.iload_n 3, 1) := dk_29 (dk_at dksX3_keeps_5 1 rfl rfl)
theorem dX3_keeps_119 : decode cX3_keeps 119 = .ok (.iload 4, 2) := dk_21 4 (dk_at dksX3_keeps_5 2 rfl rfl)
theorem dX3_keeps_121 : decode cX3_keeps 121 = .ok (.invokevirtual 208, 3) := dk_182 0 208 (dk_at dksX3_keeps_5 4 rfl rfl)
theorem dX3_keeps_124 : decode cX3_keeps 124 = .ok (.istore 5, 2) := dk_54 5 (dk_at dksX3_keeps_5 7 rfl rfl)
theorem dX3_keeps_126 : decode cX3_keeps 126 = .ok (.iload_n 2, 1) := dk_28 (dk_at dksX3_keeps_5 9 rfl rfl)
theorem dX3_keeps_127 : decode cX3_keeps 127 = .ok (.ifCond .ge 8, 3) := dk_156 0 8 (dk_at dksX3_keeps_5 10 rfl rfl)
theorem dX3_keeps_130 : decode cX3_keeps 130 = .ok (.iload 5, 2) := dk_21 5 (dk_at dksX3_keeps_5 13 rfl rfl)
theorem dX3_keeps_132 : decode cX3_keeps 132 = .ok (.goto 20, 3) := dk_167 0 20 (dk_at dksX3_keeps_5 15 rfl rfl)
theorem dX3_keeps_135 : decode cX3_keeps 135 = .ok (.iload_n 2, 1) := dk_28 (dk_at dksX3_keeps_5 18 rfl rfl)
theorem dX3_keeps_136 : decode cX3_keeps 136 = .ok (.iload 4, 2) := dk_21 4 (dk_at dksX3_keeps_5 19 rfl rfl)
theorem dX3_keeps_138 : decode cX3_keeps 138 = .ok (.if_icmp .ge 12, 3) := dk_162 0 12 (dk_at dksX3_keeps_5 21 rfl rfl)
theorem dX3_keeps_141 : decode cX3_keeps 141 = .ok (.aload_n 0, 1) := dk_42 (dk_at dksX3_keeps_6 0 rfl rfl)
theorem dX3_keeps_142 : decode cX3_keeps 142 = .ok (.getfield 35, 3) := dk_180 0 35 (dk_at dksX3_keeps_6 1 rfl rfl)
theorem dX3_keeps_145 : decode cX3_keeps 145 = .ok (.iload_n 2, 1) := dk_28 (dk_at dksX3_keeps_6 4 rfl rfl)
theorem dX3_keeps_146 : decode cX3_keeps 146 = .ok (.iaload, 1) := dk_46 (dk_at dksX3_keeps_6 5 rfl rfl)
theorem dX3_keeps_147 : decode cX3_keeps 147 = .ok (.goto 5, 3) := dk_167 0 5 (dk_at dksX3_keeps_6 6 rfl rfl)
theorem dX3_keeps_150 : decode cX3_keeps 150 = .ok (.ldc 211, 2) := dk_18 211 (dk_at dksX3_keeps_6 9 rfl rfl)
theorem dX3_keeps_152 : decode cX3_keeps 152 = .ok (.ireturn, 1) := dk_172 (dk_at dksX3_keeps_6 11 rfl rfl)
abbrev cX3_findOrder : ByteArray := prog_16_method_50_code
def yX3_findOrder : MethodName := ⟨RX3, "findOrder", "(III)I"⟩
def dkwX3_findOrder_14 : List UInt8 := [54, 7, 167, 254, 228, 21, 4, 172]
abbrev dktX3_findOrder_14 : List UInt8 := dkwX3_findOrder_14 ++ []
def dkwX3_findOrder_13 : List UInt8 := [42, 180, 0, 7, 16, 49, 21, 7, 96, 46, 163, 0, 7, 4, 167, 0, 4, 3, 96, 79, 132, 5, 1, 3]
abbrev dktX3_findOrder_13 : List UInt8 := dkwX3_findOrder_13 ++ dktX3_findOrder_14
def dkwX3_findOrder_12 : List UInt8 := [42, 180, 0, 44, 21, 5, 4, 96, 42, 180, 0, 44, 21, 5, 46, 42, 180, 0, 38, 21, 5, 4, 96, 46]
abbrev dktX3_findOrder_12 : List UInt8 := dkwX3_findOrder_12 ++ dktX3_findOrder_13
def dkwX3_findOrder_11 : List UInt8 := [184, 0, 203, 96, 79, 42, 180, 0, 41, 21, 5, 4, 96, 42, 180, 0, 7, 16, 57, 21, 7, 96, 46, 79]
abbrev dktX3_findOrder_11 : List UInt8 := dkwX3_findOrder_11 ++ dktX3_findOrder_12
def dkwX3_findOrder_10 : List UInt8 := [180, 0, 38, 21, 5, 46, 42, 180, 0, 7, 16, 57, 21, 7, 96, 46, 42, 180, 0, 41, 21, 5, 46, 100]
abbrev dktX3_findOrder_10 : List UInt8 := dkwX3_findOrder_10 ++ dktX3_findOrder_11
def dkwX3_findOrder_9 : List UInt8 := [21, 7, 79, 21, 6, 4, 21, 7, 120, 2, 130, 126, 54, 6, 42, 180, 0, 38, 21, 5, 4, 96, 42]
abbrev dktX3_findOrder_9 : List UInt8 := dkwX3_findOrder_9 ++ dktX3_findOrder_10
def dkwX3_findOrder_8 : List UInt8 := [167, 0, 12, 4, 42, 180, 0, 32, 21, 5, 46, 120, 128, 54, 6, 167, 255, 102, 42, 180, 0, 32, 21, 5]
abbrev dktX3_findOrder_8 : List UInt8 := dkwX3_findOrder_8 ++ dktX3_findOrder_9
def dkwX3_findOrder_7 : List UInt8 := [167, 0, 12, 42, 180, 0, 32, 21, 5, 46, 4, 96, 54, 7, 21, 6, 21, 5, 156, 0, 7, 3]
abbrev dktX3_findOrder_7 : List UInt8 := dkwX3_findOrder_7 ++ dktX3_findOrder_8
def dkwX3_findOrder_6 : List UInt8 := [21, 5, 46, 29, 96, 21, 5, 100, 21, 4, 163, 0, 52, 132, 5, 255, 21, 5, 156, 0, 7, 3]
abbrev dktX3_findOrder_6 : List UInt8 := dkwX3_findOrder_6 ++ dktX3_findOrder_7
def dkwX3_findOrder_5 : List UInt8 := [184, 0, 200, 154, 0, 9, 132, 7, 1, 167, 255, 236, 21, 7, 16, 8, 159, 0, 20, 42, 180, 0, 44]
abbrev dktX3_findOrder_5 : List UInt8 := dkwX3_findOrder_5 ++ dktX3_findOrder_6
def dkwX3_findOrder_4 : List UInt8 := [180, 0, 32, 21, 8, 46, 79, 132, 8, 1, 167, 255, 233, 21, 7, 16, 8, 162, 0, 19, 21, 6, 21, 7]
abbrev dktX3_findOrder_4 : List UInt8 := dkwX3_findOrder_4 ++ dktX3_findOrder_5
def dkwX3_findOrder_3 : List UInt8 := [180, 0, 44, 21, 5, 46, 54, 4, 3, 54, 8, 21, 8, 29, 162, 0, 23, 42, 180, 0, 35, 21, 8, 42]
abbrev dktX3_findOrder_3 : List UInt8 := dkwX3_findOrder_3 ++ dktX3_findOrder_4
def dkwX3_findOrder_2 : List UInt8 := [21, 5, 155, 1, 29, 21, 5, 29, 160, 0, 53, 42, 180, 0, 44, 21, 5, 46, 21, 4, 164, 0, 41, 42]
abbrev dktX3_findOrder_2 : List UInt8 := dkwX3_findOrder_2 ++ dktX3_findOrder_3
def dkwX3_findOrder_1 : List UInt8 := [180, 0, 41, 3, 42, 180, 0, 7, 16, 20, 27, 96, 46, 79, 42, 180, 0, 44, 3, 3, 79, 3, 54, 7]
abbrev dktX3_findOrder_1 : List UInt8 := dkwX3_findOrder_1 ++ dktX3_findOrder_2
def dkwX3_findOrder_0 : List UInt8 := [2, 54, 4, 3, 54, 5, 28, 54, 6, 42, 180, 0, 38, 3, 42, 180, 0, 7, 16, 8, 46, 79, 42]
abbrev dktX3_findOrder_0 : List UInt8 := dkwX3_findOrder_0 ++ dktX3_findOrder_1
theorem dksX3_findOrder_0 : cX3_findOrder.data.toList.drop 0 = dktX3_findOrder_0 := by decide +kernel
theorem dksX3_findOrder_1 : cX3_findOrder.data.toList.drop 23 = dktX3_findOrder_1 := dk_seg dksX3_findOrder_0 23 rfl rfl
theorem dksX3_findOrder_2 : cX3_findOrder.data.toList.drop 47 = dktX3_findOrder_2 := dk_seg dksX3_findOrder_1 24 rfl rfl
theorem dksX3_findOrder_3 : cX3_findOrder.data.toList.drop 71 = dktX3_findOrder_3 := dk_seg dksX3_findOrder_2 24 rfl rfl
theorem dksX3_findOrder_4 : cX3_findOrder.data.toList.drop 95 = dktX3_findOrder_4 := dk_seg dksX3_findOrder_3 24 rfl rfl
theorem dksX3_findOrder_5 : cX3_findOrder.data.toList.drop 119 = dktX3_findOrder_5 := dk_seg dksX3_findOrder_4 24 rfl rfl
theorem dksX3_findOrder_6 : cX3_findOrder.data.toList.drop 142 = dktX3_findOrder_6 := dk_seg dksX3_findOrder_5 23 rfl rfl
theorem dksX3_findOrder_7 : cX3_findOrder.data.toList.drop 164 = dktX3_findOrder_7 := dk_seg dksX3_findOrder_6 22 rfl rfl
theorem dksX3_findOrder_8 : cX3_findOrder.data.toList.drop 186 = dktX3_findOrder_8 := dk_seg dksX3_findOrder_7 22 rfl rfl
theorem dksX3_findOrder_9 : cX3_findOrder.data.toList.drop 210 = dktX3_findOrder_9 := dk_seg dksX3_findOrder_8 24 rfl rfl
theorem dksX3_findOrder_10 : cX3_findOrder.data.toList.drop 233 = dktX3_findOrder_10 := dk_seg dksX3_findOrder_9 23 rfl rfl
theorem dksX3_findOrder_11 : cX3_findOrder.data.toList.drop 257 = dktX3_findOrder_11 := dk_seg dksX3_findOrder_10 24 rfl rfl
theorem dksX3_findOrder_12 : cX3_findOrder.data.toList.drop 281 = dktX3_findOrder_12 := dk_seg dksX3_findOrder_11 24 rfl rfl
theorem dksX3_findOrder_13 : cX3_findOrder.data.toList.drop 305 = dktX3_findOrder_13 := dk_seg dksX3_findOrder_12 24 rfl rfl
theorem dksX3_findOrder_14 : cX3_findOrder.data.toList.drop 329 = dktX3_findOrder_14 := dk_seg dksX3_findOrder_13 24 rfl rfl
theorem dX3_findOrder_0 : decode cX3_findOrder 0 = .ok (.iconst (-1), 1) := dk_2 (dk_at dksX3_findOrder_0 0 rfl rfl)
theorem dX3_findOrder_1 : decode cX3_findOrder 1 = .ok (.istore 4, 2) := dk_54 4 (dk_at dksX3_findOrder_0 1 rfl rfl)
theorem dX3_findOrder_3 : decode cX3_findOrder 3 = .ok (.iconst 0, 1) := dk_3 (dk_at dksX3_findOrder_0 3 rfl rfl)
theorem dX3_findOrder_4 : decode cX3_findOrder 4 = .ok (.istore 5, 2) := dk_54 5 (dk_at dksX3_findOrder_0 4 rfl rfl)
theorem dX3_findOrder_6 : decode cX3_findOrder 6 = .ok (.iload_n 2, 1) := dk_28 (dk_at dksX3_findOrder_0 6 rfl rfl)
theorem dX3_findOrder_7 : decode cX3_findOrder 7 = .ok (.istore 6, 2) := dk_54 6 (dk_at dksX3_findOrder_0 7 rfl rfl)
theorem dX3_findOrder_9 : decode cX3_findOrder 9 = .ok (.aload_n 0, 1) := dk_42 (dk_at dksX3_findOrder_0 9 rfl rfl)
theorem dX3_findOrder_10 : decode cX3_findOrder 10 = .ok (.getfield 38, 3) := dk_180 0 38 (dk_at dksX3_findOrder_0 10 rfl rfl)
theorem dX3_findOrder_13 : decode cX3_findOrder 13 = .ok (.iconst 0, 1) := dk_3 (dk_at dksX3_findOrder_0 13 rfl rfl)
theorem dX3_findOrder_14 : decode cX3_findOrder 14 = .ok (.aload_n 0, 1) := dk_42 (dk_at dksX3_findOrder_0 14 rfl rfl)
theorem dX3_findOrder_15 : decode cX3_findOrder 15 = .ok (.getfield 7, 3) := dk_180 0 7 (dk_at dksX3_findOrder_0 15 rfl rfl)
theorem dX3_findOrder_18 : decode cX3_findOrder 18 = .ok (.bipush 8, 2) := dk_16 8 (dk_at dksX3_findOrder_0 18 rfl rfl)
theorem dX3_findOrder_20 : decode cX3_findOrder 20 = .ok (.iaload, 1) := dk_46 (dk_at dksX3_findOrder_0 20 rfl rfl)
theorem dX3_findOrder_21 : decode cX3_findOrder 21 = .ok (.iastore, 1) := dk_79 (dk_at dksX3_findOrder_0 21 rfl rfl)
theorem dX3_findOrder_22 : decode cX3_findOrder 22 = .ok (.aload_n 0, 1) := dk_42 (dk_at dksX3_findOrder_0 22 rfl rfl)
theorem dX3_findOrder_23 : decode cX3_findOrder 23 = .ok (.getfield 41, 3) := dk_180 0 41 (dk_at dksX3_findOrder_1 0 rfl rfl)
theorem dX3_findOrder_26 : decode cX3_findOrder 26 = .ok (.iconst 0, 1) := dk_3 (dk_at dksX3_findOrder_1 3 rfl rfl)
theorem dX3_findOrder_27 : decode cX3_findOrder 27 = .ok (.aload_n 0, 1) := dk_42 (dk_at dksX3_findOrder_1 4 rfl rfl)
theorem dX3_findOrder_28 : decode cX3_findOrder 28 = .ok (.getfield 7, 3) := dk_180 0 7 (dk_at dksX3_findOrder_1 5 rfl rfl)
theorem dX3_findOrder_31 : decode cX3_findOrder 31 = .ok (.bipush 20, 2) := dk_16 20 (dk_at dksX3_findOrder_1 8 rfl rfl)
theorem dX3_findOrder_33 : decode cX3_findOrder 33 = .ok (.iload_n 1, 1) := dk_27 (dk_at dksX3_findOrder_1 10 rfl rfl)
theorem dX3_findOrder_34 : decode cX3_findOrder 34 = .ok (.iadd, 1) := dk_96 (dk_at dksX3_findOrder_1 11 rfl rfl)
theorem dX3_findOrder_35 : decode cX3_findOrder 35 = .ok (.iaload, 1) := dk_46 (dk_at dksX3_findOrder_1 12 rfl rfl)
theorem dX3_findOrder_36 : decode cX3_findOrder 36 = .ok (.iastore, 1) := dk_79 (dk_at dksX3_findOrder_1 13 rfl rfl)
theorem dX3_findOrder_37 : decode cX3_findOrder 37 = .ok (.aload_n 0, 1) := dk_42 (dk_at dksX3_findOrder_1 14 rfl rfl)
theorem dX3_findOrder_38 : decode cX3_findOrder 38 = .ok (.getfield 44, 3) := dk_180 0 44 (dk_at dksX3_findOrder_1 15 rfl rfl)
theorem dX3_findOrder_41 : decode cX3_findOrder 41 = .ok (.iconst 0, 1) := dk_3 (dk_at dksX3_findOrder_1 18 rfl rfl)
theorem dX3_findOrder_42 : decode cX3_findOrder 42 = .ok (.iconst 0, 1) := dk_3 (dk_at dksX3_findOrder_1 19 rfl rfl)
theorem dX3_findOrder_43 : decode cX3_findOrder 43 = .ok (.iastore, 1) := dk_79 (dk_at dksX3_findOrder_1 20 rfl rfl)
theorem dX3_findOrder_44 : decode cX3_findOrder 44 = .ok (.iconst 0, 1) := dk_3 (dk_at dksX3_findOrder_1 21 rfl rfl)
theorem dX3_findOrder_45 : decode cX3_findOrder 45 = .ok (.istore 7, 2) := dk_54 7 (dk_at dksX3_findOrder_1 22 rfl rfl)
theorem dX3_findOrder_47 : decode cX3_findOrder 47 = .ok (.iload 5, 2) := dk_21 5 (dk_at dksX3_findOrder_2 0 rfl rfl)
theorem dX3_findOrder_49 : decode cX3_findOrder 49 = .ok (.ifCond .lt 285, 3) := dk_155 1 29 (dk_at dksX3_findOrder_2 2 rfl rfl)
theorem dX3_findOrder_52 : decode cX3_findOrder 52 = .ok (.iload 5, 2) := dk_21 5 (dk_at dksX3_findOrder_2 5 rfl rfl)
theorem dX3_findOrder_54 : decode cX3_findOrder 54 = .ok (.iload_n 3, 1) := dk_29 (dk_at dksX3_findOrder_2 7 rfl rfl)
theorem dX3_findOrder_55 : decode cX3_findOrder 55 = .ok (.if_icmp .ne 53, 3) := dk_160 0 53 (dk_at dksX3_findOrder_2 8 rfl rfl)
theorem dX3_findOrder_58 : decode cX3_findOrder 58 = .ok (.aload_n 0, 1) := dk_42 (dk_at dksX3_findOrder_2 11 rfl rfl)
theorem dX3_findOrder_59 : decode cX3_findOrder 59 = .ok (.getfield 44, 3) := dk_180 0 44 (dk_at dksX3_findOrder_2 12 rfl rfl)
theorem dX3_findOrder_62 : decode cX3_findOrder 62 = .ok (.iload 5, 2) := dk_21 5 (dk_at dksX3_findOrder_2 15 rfl rfl)
theorem dX3_findOrder_64 : decode cX3_findOrder 64 = .ok (.iaload, 1) := dk_46 (dk_at dksX3_findOrder_2 17 rfl rfl)
theorem dX3_findOrder_65 : decode cX3_findOrder 65 = .ok (.iload 4, 2) := dk_21 4 (dk_at dksX3_findOrder_2 18 rfl rfl)
theorem dX3_findOrder_67 : decode cX3_findOrder 67 = .ok (.if_icmp .le 41, 3) := dk_164 0 41 (dk_at dksX3_findOrder_2 20 rfl rfl)
theorem dX3_findOrder_70 : decode cX3_findOrder 70 = .ok (.aload_n 0, 1) := dk_42 (dk_at dksX3_findOrder_2 23 rfl rfl)
theorem dX3_findOrder_71 : decode cX3_findOrder 71 = .ok (.getfield 44, 3) := dk_180 0 44 (dk_at dksX3_findOrder_3 0 rfl rfl)
theorem dX3_findOrder_74 : decode cX3_findOrder 74 = .ok (.iload 5, 2) := dk_21 5 (dk_at dksX3_findOrder_3 3 rfl rfl)
theorem dX3_findOrder_76 : decode cX3_findOrder 76 = .ok (.iaload, 1) := dk_46 (dk_at dksX3_findOrder_3 5 rfl rfl)
theorem dX3_findOrder_77 : decode cX3_findOrder 77 = .ok (.istore 4, 2) := dk_54 4 (dk_at dksX3_findOrder_3 6 rfl rfl)
theorem dX3_findOrder_79 : decode cX3_findOrder 79 = .ok (.iconst 0, 1) := dk_3 (dk_at dksX3_findOrder_3 8 rfl rfl)
theorem dX3_findOrder_80 : decode cX3_findOrder 80 = .ok (.istore 8, 2) := dk_54 8 (dk_at dksX3_findOrder_3 9 rfl rfl)
theorem dX3_findOrder_82 : decode cX3_findOrder 82 = .ok (.iload 8, 2) := dk_21 8 (dk_at dksX3_findOrder_3 11 rfl rfl)
theorem dX3_findOrder_84 : decode cX3_findOrder 84 = .ok (.iload_n 3, 1) := dk_29 (dk_at dksX3_findOrder_3 13 rfl rfl)
theorem dX3_findOrder_85 : decode cX3_findOrder 85 = .ok (.if_icmp .ge 23, 3) := dk_162 0 23 (dk_at dksX3_findOrder_3 14 rfl rfl)
theorem dX3_findOrder_88 : decode cX3_findOrder 88 = .ok (.aload_n 0, 1) := dk_42 (dk_at dksX3_findOrder_3 17 rfl rfl)
theorem dX3_findOrder_89 : decode cX3_findOrder 89 = .ok (.getfield 35, 3) := dk_180 0 35 (dk_at dksX3_findOrder_3 18 rfl rfl)
theorem dX3_findOrder_92 : decode cX3_findOrder 92 = .ok (.iload 8, 2) := dk_21 8 (dk_at dksX3_findOrder_3 21 rfl rfl)
theorem dX3_findOrder_94 : decode cX3_findOrder 94 = .ok (.aload_n 0, 1) := dk_42 (dk_at dksX3_findOrder_3 23 rfl rfl)
theorem dX3_findOrder_95 : decode cX3_findOrder 95 = .ok (.getfield 32, 3) := dk_180 0 32 (dk_at dksX3_findOrder_4 0 rfl rfl)
theorem dX3_findOrder_98 : decode cX3_findOrder 98 = .ok (.iload 8, 2) := dk_21 8 (dk_at dksX3_findOrder_4 3 rfl rfl)
theorem dX3_findOrder_100 : decode cX3_findOrder 100 = .ok (.iaload, 1) := dk_46 (dk_at dksX3_findOrder_4 5 rfl rfl)
theorem dX3_findOrder_101 : decode cX3_findOrder 101 = .ok (.iastore, 1) := dk_79 (dk_at dksX3_findOrder_4 6 rfl rfl)
theorem dX3_findOrder_102 : decode cX3_findOrder 102 = .ok (.iinc 8 1, 3) := dk_132 8 1 (dk_at dksX3_findOrder_4 7 rfl rfl)
theorem dX3_findOrder_105 : decode cX3_findOrder 105 = .ok (.goto (-23), 3) := dk_167 255 233 (dk_at dksX3_findOrder_4 10 rfl rfl)
theorem dX3_findOrder_108 : decode cX3_findOrder 108 = .ok (.iload 7, 2) := dk_21 7 (dk_at dksX3_findOrder_4 13 rfl rfl)
theorem dX3_findOrder_110 : decode cX3_findOrder 110 = .ok (.bipush 8, 2) := dk_16 8 (dk_at dksX3_findOrder_4 15 rfl rfl)
theorem dX3_findOrder_112 : decode cX3_findOrder 112 = .ok (.if_icmp .ge 19, 3) := dk_162 0 19 (dk_at dksX3_findOrder_4 17 rfl rfl)
theorem dX3_findOrder_115 : decode cX3_findOrder 115 = .ok (.iload 6, 2) := dk_21 6 (dk_at dksX3_findOrder_4 20 rfl rfl)
theorem dX3_findOrder_117 : decode cX3_findOrder 117 = .ok (.iload 7, 2) := dk_21 7 (dk_at dksX3_findOrder_4 22 rfl rfl)
theorem dX3_findOrder_119 : decode cX3_findOrder 119 = .ok (.invokestatic 200, 3) := dk_184 0 200 (dk_at dksX3_findOrder_5 0 rfl rfl)
theorem dX3_findOrder_122 : decode cX3_findOrder 122 = .ok (.ifCond .ne 9, 3) := dk_154 0 9 (dk_at dksX3_findOrder_5 3 rfl rfl)
theorem dX3_findOrder_125 : decode cX3_findOrder 125 = .ok (.iinc 7 1, 3) := dk_132 7 1 (dk_at dksX3_findOrder_5 6 rfl rfl)
theorem dX3_findOrder_128 : decode cX3_findOrder 128 = .ok (.goto (-20), 3) := dk_167 255 236 (dk_at dksX3_findOrder_5 9 rfl rfl)
theorem dX3_findOrder_131 : decode cX3_findOrder 131 = .ok (.iload 7, 2) := dk_21 7 (dk_at dksX3_findOrder_5 12 rfl rfl)
theorem dX3_findOrder_133 : decode cX3_findOrder 133 = .ok (.bipush 8, 2) := dk_16 8 (dk_at dksX3_findOrder_5 14 rfl rfl)
theorem dX3_findOrder_135 : decode cX3_findOrder 135 = .ok (.if_icmp .eq 20, 3) := dk_159 0 20 (dk_at dksX3_findOrder_5 16 rfl rfl)
theorem dX3_findOrder_138 : decode cX3_findOrder 138 = .ok (.aload_n 0, 1) := dk_42 (dk_at dksX3_findOrder_5 19 rfl rfl)
theorem dX3_findOrder_139 : decode cX3_findOrder 139 = .ok (.getfield 44, 3) := dk_180 0 44 (dk_at dksX3_findOrder_5 20 rfl rfl)
theorem dX3_findOrder_142 : decode cX3_findOrder 142 = .ok (.iload 5, 2) := dk_21 5 (dk_at dksX3_findOrder_6 0 rfl rfl)
theorem dX3_findOrder_144 : decode cX3_findOrder 144 = .ok (.iaload, 1) := dk_46 (dk_at dksX3_findOrder_6 2 rfl rfl)
theorem dX3_findOrder_145 : decode cX3_findOrder 145 = .ok (.iload_n 3, 1) := dk_29 (dk_at dksX3_findOrder_6 3 rfl rfl)
theorem dX3_findOrder_146 : decode cX3_findOrder 146 = .ok (.iadd, 1) := dk_96 (dk_at dksX3_findOrder_6 4 rfl rfl)
theorem dX3_findOrder_147 : decode cX3_findOrder 147 = .ok (.iload 5, 2) := dk_21 5 (dk_at dksX3_findOrder_6 5 rfl rfl)
theorem dX3_findOrder_149 : decode cX3_findOrder 149 = .ok (.isub, 1) := dk_100 (dk_at dksX3_findOrder_6 7 rfl rfl)
theorem dX3_findOrder_150 : decode cX3_findOrder 150 = .ok (.iload 4, 2) := dk_21 4 (dk_at dksX3_findOrder_6 8 rfl rfl)
theorem dX3_findOrder_152 : decode cX3_findOrder 152 = .ok (.if_icmp .gt 52, 3) := dk_163 0 52 (dk_at dksX3_findOrder_6 10 rfl rfl)
theorem dX3_findOrder_155 : decode cX3_findOrder 155 = .ok (.iinc 5 (-1), 3) := dk_132 5 255 (dk_at dksX3_findOrder_6 13 rfl rfl)
theorem dX3_findOrder_158 : decode cX3_findOrder 158 = .ok (.iload 5, 2) := dk_21 5 (dk_at dksX3_findOrder_6 16 rfl rfl)
theorem dX3_findOrder_160 : decode cX3_findOrder 160 = .ok (.ifCond .ge 7, 3) := dk_156 0 7 (dk_at dksX3_findOrder_6 18 rfl rfl)
theorem dX3_findOrder_163 : decode cX3_findOrder 163 = .ok (.iconst 0, 1) := dk_3 (dk_at dksX3_findOrder_6 21 rfl rfl)
theorem dX3_findOrder_164 : decode cX3_findOrder 164 = .ok (.goto 12, 3) := dk_167 0 12 (dk_at dksX3_findOrder_7 0 rfl rfl)
theorem dX3_findOrder_167 : decode cX3_findOrder 167 = .ok (.aload_n 0, 1) := dk_42 (dk_at dksX3_findOrder_7 3 rfl rfl)
theorem dX3_findOrder_168 : decode cX3_findOrder 168 = .ok (.getfield 32, 3) := dk_180 0 32 (dk_at dksX3_findOrder_7 4 rfl rfl)
theorem dX3_findOrder_171 : decode cX3_findOrder 171 = .ok (.iload 5, 2) := dk_21 5 (dk_at dksX3_findOrder_7 7 rfl rfl)
theorem dX3_findOrder_173 : decode cX3_findOrder 173 = .ok (.iaload, 1) := dk_46 (dk_at dksX3_findOrder_7 9 rfl rfl)
theorem dX3_findOrder_174 : decode cX3_findOrder 174 = .ok (.iconst 1, 1) := dk_4 (dk_at dksX3_findOrder_7 10 rfl rfl)
theorem dX3_findOrder_175 : decode cX3_findOrder 175 = .ok (.iadd, 1) := dk_96 (dk_at dksX3_findOrder_7 11 rfl rfl)
theorem dX3_findOrder_176 : decode cX3_findOrder 176 = .ok (.istore 7, 2) := dk_54 7 (dk_at dksX3_findOrder_7 12 rfl rfl)
theorem dX3_findOrder_178 : decode cX3_findOrder 178 = .ok (.iload 6, 2) := dk_21 6 (dk_at dksX3_findOrder_7 14 rfl rfl)
theorem dX3_findOrder_180 : decode cX3_findOrder 180 = .ok (.iload 5, 2) := dk_21 5 (dk_at dksX3_findOrder_7 16 rfl rfl)
theorem dX3_findOrder_182 : decode cX3_findOrder 182 = .ok (.ifCond .ge 7, 3) := dk_156 0 7 (dk_at dksX3_findOrder_7 18 rfl rfl)
theorem dX3_findOrder_185 : decode cX3_findOrder 185 = .ok (.iconst 0, 1) := dk_3 (dk_at dksX3_findOrder_7 21 rfl rfl)
theorem dX3_findOrder_186 : decode cX3_findOrder 186 = .ok (.goto 12, 3) := dk_167 0 12 (dk_at dksX3_findOrder_8 0 rfl rfl)
theorem dX3_findOrder_189 : decode cX3_findOrder 189 = .ok (.iconst 1, 1) := dk_4 (dk_at dksX3_findOrder_8 3 rfl rfl)
theorem dX3_findOrder_190 : decode cX3_findOrder 190 = .ok (.aload_n 0, 1) := dk_42 (dk_at dksX3_findOrder_8 4 rfl rfl)
theorem dX3_findOrder_191 : decode cX3_findOrder 191 = .ok (.getfield 32, 3) := dk_180 0 32 (dk_at dksX3_findOrder_8 5 rfl rfl)
theorem dX3_findOrder_194 : decode cX3_findOrder 194 = .ok (.iload 5, 2) := dk_21 5 (dk_at dksX3_findOrder_8 8 rfl rfl)
theorem dX3_findOrder_196 : decode cX3_findOrder 196 = .ok (.iaload, 1) := dk_46 (dk_at dksX3_findOrder_8 10 rfl rfl)
theorem dX3_findOrder_197 : decode cX3_findOrder 197 = .ok (.ishl, 1) := dk_120 (dk_at dksX3_findOrder_8 11 rfl rfl)
theorem dX3_findOrder_198 : decode cX3_findOrder 198 = .ok (.ior, 1) := dk_128 (dk_at dksX3_findOrder_8 12 rfl rfl)
theorem dX3_findOrder_199 : decode cX3_findOrder 199 = .ok (.istore 6, 2) := dk_54 6 (dk_at dksX3_findOrder_8 13 rfl rfl)
theorem dX3_findOrder_201 : decode cX3_findOrder 201 = .ok (.goto (-154), 3) := dk_167 255 102 (dk_at dksX3_findOrder_8 15 rfl rfl)
theorem dX3_findOrder_204 : decode cX3_findOrder 204 = .ok (.aload_n 0, 1) := dk_42 (dk_at dksX3_findOrder_8 18 rfl rfl)
theorem dX3_findOrder_205 : decode cX3_findOrder 205 = .ok (.getfield 32, 3) := dk_180 0 32 (dk_at dksX3_findOrder_8 19 rfl rfl)
theorem dX3_findOrder_208 : decode cX3_findOrder 208 = .ok (.iload 5, 2) := dk_21 5 (dk_at dksX3_findOrder_8 22 rfl rfl)
theorem dX3_findOrder_210 : decode cX3_findOrder 210 = .ok (.iload 7, 2) := dk_21 7 (dk_at dksX3_findOrder_9 0 rfl rfl)
theorem dX3_findOrder_212 : decode cX3_findOrder 212 = .ok (.iastore, 1) := dk_79 (dk_at dksX3_findOrder_9 2 rfl rfl)
theorem dX3_findOrder_213 : decode cX3_findOrder 213 = .ok (.iload 6, 2) := dk_21 6 (dk_at dksX3_findOrder_9 3 rfl rfl)
theorem dX3_findOrder_215 : decode cX3_findOrder 215 = .ok (.iconst 1, 1) := dk_4 (dk_at dksX3_findOrder_9 5 rfl rfl)
theorem dX3_findOrder_216 : decode cX3_findOrder 216 = .ok (.iload 7, 2) := dk_21 7 (dk_at dksX3_findOrder_9 6 rfl rfl)
theorem dX3_findOrder_218 : decode cX3_findOrder 218 = .ok (.ishl, 1) := dk_120 (dk_at dksX3_findOrder_9 8 rfl rfl)
theorem dX3_findOrder_219 : decode cX3_findOrder 219 = .ok (.iconst (-1), 1) := dk_2 (dk_at dksX3_findOrder_9 9 rfl rfl)
theorem dX3_findOrder_220 : decode cX3_findOrder 220 = .ok (.ixor, 1) := dk_130 (dk_at dksX3_findOrder_9 10 rfl rfl)
theorem dX3_findOrder_221 : decode cX3_findOrder 221 = .ok (.iand, 1) := dk_126 (dk_at dksX3_findOrder_9 11 rfl rfl)
theorem dX3_findOrder_222 : decode cX3_findOrder 222 = .ok (.istore 6, 2) := dk_54 6 (dk_at dksX3_findOrder_9 12 rfl rfl)
theorem dX3_findOrder_224 : decode cX3_findOrder 224 = .ok (.aload_n 0, 1) := dk_42 (dk_at dksX3_findOrder_9 14 rfl rfl)
theorem dX3_findOrder_225 : decode cX3_findOrder 225 = .ok (.getfield 38, 3) := dk_180 0 38 (dk_at dksX3_findOrder_9 15 rfl rfl)
theorem dX3_findOrder_228 : decode cX3_findOrder 228 = .ok (.iload 5, 2) := dk_21 5 (dk_at dksX3_findOrder_9 18 rfl rfl)
theorem dX3_findOrder_230 : decode cX3_findOrder 230 = .ok (.iconst 1, 1) := dk_4 (dk_at dksX3_findOrder_9 20 rfl rfl)
theorem dX3_findOrder_231 : decode cX3_findOrder 231 = .ok (.iadd, 1) := dk_96 (dk_at dksX3_findOrder_9 21 rfl rfl)
theorem dX3_findOrder_232 : decode cX3_findOrder 232 = .ok (.aload_n 0, 1) := dk_42 (dk_at dksX3_findOrder_9 22 rfl rfl)
theorem dX3_findOrder_233 : decode cX3_findOrder 233 = .ok (.getfield 38, 3) := dk_180 0 38 (dk_at dksX3_findOrder_10 0 rfl rfl)
theorem dX3_findOrder_236 : decode cX3_findOrder 236 = .ok (.iload 5, 2) := dk_21 5 (dk_at dksX3_findOrder_10 3 rfl rfl)
theorem dX3_findOrder_238 : decode cX3_findOrder 238 = .ok (.iaload, 1) := dk_46 (dk_at dksX3_findOrder_10 5 rfl rfl)
theorem dX3_findOrder_239 : decode cX3_findOrder 239 = .ok (.aload_n 0, 1) := dk_42 (dk_at dksX3_findOrder_10 6 rfl rfl)
theorem dX3_findOrder_240 : decode cX3_findOrder 240 = .ok (.getfield 7, 3) := dk_180 0 7 (dk_at dksX3_findOrder_10 7 rfl rfl)
theorem dX3_findOrder_243 : decode cX3_findOrder 243 = .ok (.bipush 57, 2) := dk_16 57 (dk_at dksX3_findOrder_10 10 rfl rfl)
theorem dX3_findOrder_245 : decode cX3_findOrder 245 = .ok (.iload 7, 2) := dk_21 7 (dk_at dksX3_findOrder_10 12 rfl rfl)
theorem dX3_findOrder_247 : decode cX3_findOrder 247 = .ok (.iadd, 1) := dk_96 (dk_at dksX3_findOrder_10 14 rfl rfl)
theorem dX3_findOrder_248 : decode cX3_findOrder 248 = .ok (.iaload, 1) := dk_46 (dk_at dksX3_findOrder_10 15 rfl rfl)
theorem dX3_findOrder_249 : decode cX3_findOrder 249 = .ok (.aload_n 0, 1) := dk_42 (dk_at dksX3_findOrder_10 16 rfl rfl)
theorem dX3_findOrder_250 : decode cX3_findOrder 250 = .ok (.getfield 41, 3) := dk_180 0 41 (dk_at dksX3_findOrder_10 17 rfl rfl)
theorem dX3_findOrder_253 : decode cX3_findOrder 253 = .ok (.iload 5, 2) := dk_21 5 (dk_at dksX3_findOrder_10 20 rfl rfl)
theorem dX3_findOrder_255 : decode cX3_findOrder 255 = .ok (.iaload, 1) := dk_46 (dk_at dksX3_findOrder_10 22 rfl rfl)
theorem dX3_findOrder_256 : decode cX3_findOrder 256 = .ok (.isub, 1) := dk_100 (dk_at dksX3_findOrder_10 23 rfl rfl)
theorem dX3_findOrder_257 : decode cX3_findOrder 257 = .ok (.invokestatic 203, 3) := dk_184 0 203 (dk_at dksX3_findOrder_11 0 rfl rfl)
theorem dX3_findOrder_260 : decode cX3_findOrder 260 = .ok (.iadd, 1) := dk_96 (dk_at dksX3_findOrder_11 3 rfl rfl)
theorem dX3_findOrder_261 : decode cX3_findOrder 261 = .ok (.iastore, 1) := dk_79 (dk_at dksX3_findOrder_11 4 rfl rfl)
theorem dX3_findOrder_262 : decode cX3_findOrder 262 = .ok (.aload_n 0, 1) := dk_42 (dk_at dksX3_findOrder_11 5 rfl rfl)
theorem dX3_findOrder_263 : decode cX3_findOrder 263 = .ok (.getfield 41, 3) := dk_180 0 41 (dk_at dksX3_findOrder_11 6 rfl rfl)
theorem dX3_findOrder_266 : decode cX3_findOrder 266 = .ok (.iload 5, 2) := dk_21 5 (dk_at dksX3_findOrder_11 9 rfl rfl)
theorem dX3_findOrder_268 : decode cX3_findOrder 268 = .ok (.iconst 1, 1) := dk_4 (dk_at dksX3_findOrder_11 11 rfl rfl)
theorem dX3_findOrder_269 : decode cX3_findOrder 269 = .ok (.iadd, 1) := dk_96 (dk_at dksX3_findOrder_11 12 rfl rfl)
theorem dX3_findOrder_270 : decode cX3_findOrder 270 = .ok (.aload_n 0, 1) := dk_42 (dk_at dksX3_findOrder_11 13 rfl rfl)
theorem dX3_findOrder_271 : decode cX3_findOrder 271 = .ok (.getfield 7, 3) := dk_180 0 7 (dk_at dksX3_findOrder_11 14 rfl rfl)
theorem dX3_findOrder_274 : decode cX3_findOrder 274 = .ok (.bipush 57, 2) := dk_16 57 (dk_at dksX3_findOrder_11 17 rfl rfl)
theorem dX3_findOrder_276 : decode cX3_findOrder 276 = .ok (.iload 7, 2) := dk_21 7 (dk_at dksX3_findOrder_11 19 rfl rfl)
theorem dX3_findOrder_278 : decode cX3_findOrder 278 = .ok (.iadd, 1) := dk_96 (dk_at dksX3_findOrder_11 21 rfl rfl)
theorem dX3_findOrder_279 : decode cX3_findOrder 279 = .ok (.iaload, 1) := dk_46 (dk_at dksX3_findOrder_11 22 rfl rfl)
theorem dX3_findOrder_280 : decode cX3_findOrder 280 = .ok (.iastore, 1) := dk_79 (dk_at dksX3_findOrder_11 23 rfl rfl)
theorem dX3_findOrder_281 : decode cX3_findOrder 281 = .ok (.aload_n 0, 1) := dk_42 (dk_at dksX3_findOrder_12 0 rfl rfl)
theorem dX3_findOrder_282 : decode cX3_findOrder 282 = .ok (.getfield 44, 3) := dk_180 0 44 (dk_at dksX3_findOrder_12 1 rfl rfl)
theorem dX3_findOrder_285 : decode cX3_findOrder 285 = .ok (.iload 5, 2) := dk_21 5 (dk_at dksX3_findOrder_12 4 rfl rfl)
theorem dX3_findOrder_287 : decode cX3_findOrder 287 = .ok (.iconst 1, 1) := dk_4 (dk_at dksX3_findOrder_12 6 rfl rfl)
theorem dX3_findOrder_288 : decode cX3_findOrder 288 = .ok (.iadd, 1) := dk_96 (dk_at dksX3_findOrder_12 7 rfl rfl)
theorem dX3_findOrder_289 : decode cX3_findOrder 289 = .ok (.aload_n 0, 1) := dk_42 (dk_at dksX3_findOrder_12 8 rfl rfl)
theorem dX3_findOrder_290 : decode cX3_findOrder 290 = .ok (.getfield 44, 3) := dk_180 0 44 (dk_at dksX3_findOrder_12 9 rfl rfl)
theorem dX3_findOrder_293 : decode cX3_findOrder 293 = .ok (.iload 5, 2) := dk_21 5 (dk_at dksX3_findOrder_12 12 rfl rfl)
theorem dX3_findOrder_295 : decode cX3_findOrder 295 = .ok (.iaload, 1) := dk_46 (dk_at dksX3_findOrder_12 14 rfl rfl)
theorem dX3_findOrder_296 : decode cX3_findOrder 296 = .ok (.aload_n 0, 1) := dk_42 (dk_at dksX3_findOrder_12 15 rfl rfl)
theorem dX3_findOrder_297 : decode cX3_findOrder 297 = .ok (.getfield 38, 3) := dk_180 0 38 (dk_at dksX3_findOrder_12 16 rfl rfl)
theorem dX3_findOrder_300 : decode cX3_findOrder 300 = .ok (.iload 5, 2) := dk_21 5 (dk_at dksX3_findOrder_12 19 rfl rfl)
theorem dX3_findOrder_302 : decode cX3_findOrder 302 = .ok (.iconst 1, 1) := dk_4 (dk_at dksX3_findOrder_12 21 rfl rfl)
theorem dX3_findOrder_303 : decode cX3_findOrder 303 = .ok (.iadd, 1) := dk_96 (dk_at dksX3_findOrder_12 22 rfl rfl)
theorem dX3_findOrder_304 : decode cX3_findOrder 304 = .ok (.iaload, 1) := dk_46 (dk_at dksX3_findOrder_12 23 rfl rfl)
theorem dX3_findOrder_305 : decode cX3_findOrder 305 = .ok (.aload_n 0, 1) := dk_42 (dk_at dksX3_findOrder_13 0 rfl rfl)
theorem dX3_findOrder_306 : decode cX3_findOrder 306 = .ok (.getfield 7, 3) := dk_180 0 7 (dk_at dksX3_findOrder_13 1 rfl rfl)
theorem dX3_findOrder_309 : decode cX3_findOrder 309 = .ok (.bipush 49, 2) := dk_16 49 (dk_at dksX3_findOrder_13 4 rfl rfl)
theorem dX3_findOrder_311 : decode cX3_findOrder 311 = .ok (.iload 7, 2) := dk_21 7 (dk_at dksX3_findOrder_13 6 rfl rfl)
theorem dX3_findOrder_313 : decode cX3_findOrder 313 = .ok (.iadd, 1) := dk_96 (dk_at dksX3_findOrder_13 8 rfl rfl)
theorem dX3_findOrder_314 : decode cX3_findOrder 314 = .ok (.iaload, 1) := dk_46 (dk_at dksX3_findOrder_13 9 rfl rfl)
theorem dX3_findOrder_315 : decode cX3_findOrder 315 = .ok (.if_icmp .gt 7, 3) := dk_163 0 7 (dk_at dksX3_findOrder_13 10 rfl rfl)
theorem dX3_findOrder_318 : decode cX3_findOrder 318 = .ok (.iconst 1, 1) := dk_4 (dk_at dksX3_findOrder_13 13 rfl rfl)
theorem dX3_findOrder_319 : decode cX3_findOrder 319 = .ok (.goto 4, 3) := dk_167 0 4 (dk_at dksX3_findOrder_13 14 rfl rfl)
theorem dX3_findOrder_322 : decode cX3_findOrder 322 = .ok (.iconst 0, 1) := dk_3 (dk_at dksX3_findOrder_13 17 rfl rfl)
theorem dX3_findOrder_323 : decode cX3_findOrder 323 = .ok (.iadd, 1) := dk_96 (dk_at dksX3_findOrder_13 18 rfl rfl)
theorem dX3_findOrder_324 : decode cX3_findOrder 324 = .ok (.iastore, 1) := dk_79 (dk_at dksX3_findOrder_13 19 rfl rfl)
theorem dX3_findOrder_325 : decode cX3_findOrder 325 = .ok (.iinc 5 1, 3) := dk_132 5 1 (dk_at dksX3_findOrder_13 20 rfl rfl)
theorem dX3_findOrder_328 : decode cX3_findOrder 328 = .ok (.iconst 0, 1) := dk_3 (dk_at dksX3_findOrder_13 23 rfl rfl)
theorem dX3_findOrder_329 : decode cX3_findOrder 329 = .ok (.istore 7, 2) := dk_54 7 (dk_at dksX3_findOrder_14 0 rfl rfl)
theorem dX3_findOrder_331 : decode cX3_findOrder 331 = .ok (.goto (-284), 3) := dk_167 254 228 (dk_at dksX3_findOrder_14 2 rfl rfl)
theorem dX3_findOrder_334 : decode cX3_findOrder 334 = .ok (.iload 4, 2) := dk_21 4 (dk_at dksX3_findOrder_14 5 rfl rfl)
theorem dX3_findOrder_336 : decode cX3_findOrder 336 = .ok (.ireturn, 1) := dk_172 (dk_at dksX3_findOrder_14 7 rfl rfl)
abbrev cX3_has : ByteArray := prog_16_method_4_code
def yX3_has : MethodName := ⟨RX3, "has", "(II)Z"⟩
def dkwX3_has_0 : List UInt8 := [26, 27, 122, 4, 126, 4, 160, 0, 7, 4, 167, 0, 4, 3, 172]
abbrev dktX3_has_0 : List UInt8 := dkwX3_has_0 ++ []
theorem dksX3_has_0 : cX3_has.data.toList.drop 0 = dktX3_has_0 := by decide +kernel
theorem dX3_has_0 : decode cX3_has 0 = .ok (.iload_n 0, 1) := dk_26 (dk_at dksX3_has_0 0 rfl rfl)
theorem dX3_has_1 : decode cX3_has 1 = .ok (.iload_n 1, 1) := dk_27 (dk_at dksX3_has_0 1 rfl rfl)
theorem dX3_has_2 : decode cX3_has 2 = .ok (.ishr, 1) := dk_122 (dk_at dksX3_has_0 2 rfl rfl)
theorem dX3_has_3 : decode cX3_has 3 = .ok (.iconst 1, 1) := dk_4 (dk_at dksX3_has_0 3 rfl rfl)
theorem dX3_has_4 : decode cX3_has 4 = .ok (.iand, 1) := dk_126 (dk_at dksX3_has_0 4 rfl rfl)
theorem dX3_has_5 : decode cX3_has 5 = .ok (.iconst 1, 1) := dk_4 (dk_at dksX3_has_0 5 rfl rfl)
theorem dX3_has_6 : decode cX3_has 6 = .ok (.if_icmp .ne 7, 3) := dk_160 0 7 (dk_at dksX3_has_0 6 rfl rfl)
theorem dX3_has_9 : decode cX3_has 9 = .ok (.iconst 1, 1) := dk_4 (dk_at dksX3_has_0 9 rfl rfl)
theorem dX3_has_10 : decode cX3_has 10 = .ok (.goto 4, 3) := dk_167 0 4 (dk_at dksX3_has_0 10 rfl rfl)
theorem dX3_has_13 : decode cX3_has 13 = .ok (.iconst 0, 1) := dk_3 (dk_at dksX3_has_0 13 rfl rfl)
theorem dX3_has_14 : decode cX3_has 14 = .ok (.ireturn, 1) := dk_172 (dk_at dksX3_has_0 14 rfl rfl)
abbrev cX3_plain : ByteArray := prog_16_method_6_code
def yX3_plain : MethodName := ⟨RX3, "plain", "(I)I"⟩
def dkwX3_plain_0 : List UInt8 := [26, 156, 0, 8, 26, 116, 167, 0, 4, 26, 172]
abbrev dktX3_plain_0 : List UInt8 := dkwX3_plain_0 ++ []
theorem dksX3_plain_0 : cX3_plain.data.toList.drop 0 = dktX3_plain_0 := by decide +kernel
theorem dX3_plain_0 : decode cX3_plain 0 = .ok (.iload_n 0, 1) := dk_26 (dk_at dksX3_plain_0 0 rfl rfl)
theorem dX3_plain_1 : decode cX3_plain 1 = .ok (.ifCond .ge 8, 3) := dk_156 0 8 (dk_at dksX3_plain_0 1 rfl rfl)
theorem dX3_plain_4 : decode cX3_plain 4 = .ok (.iload_n 0, 1) := dk_26 (dk_at dksX3_plain_0 4 rfl rfl)
theorem dX3_plain_5 : decode cX3_plain 5 = .ok (.ineg, 1) := dk_116 (dk_at dksX3_plain_0 5 rfl rfl)
theorem dX3_plain_6 : decode cX3_plain 6 = .ok (.goto 4, 3) := dk_167 0 4 (dk_at dksX3_plain_0 6 rfl rfl)
theorem dX3_plain_9 : decode cX3_plain 9 = .ok (.iload_n 0, 1) := dk_26 (dk_at dksX3_plain_0 9 rfl rfl)
theorem dX3_plain_10 : decode cX3_plain 10 = .ok (.ireturn, 1) := dk_172 (dk_at dksX3_plain_0 10 rfl rfl)
abbrev cX3_frees : ByteArray := prog_16_method_53_code
def yX3_frees : MethodName := ⟨RX3, "frees", "(I)I"⟩
def dkwX3_frees_8 : List UInt8 := [167, 0, 4, 29, 172]
abbrev dktX3_frees_8 : List UInt8 := dkwX3_frees_8 ++ []
def dkwX3_frees_7 : List UInt8 := [21, 4, 96, 21, 5, 79, 132, 6, 1, 167, 255, 144, 132, 4, 1, 167, 255, 111, 27, 154, 0, 7, 28]
abbrev dktX3_frees_7 : List UInt8 := dkwX3_frees_7 ++ dktX3_frees_8
def dkwX3_frees_6 : List UInt8 := [167, 0, 4, 28, 61, 21, 7, 29, 162, 0, 8, 21, 7, 167, 0, 4, 29, 62, 42, 180, 0, 7, 16, 25]
abbrev dktX3_frees_6 : List UInt8 := dkwX3_frees_6 ++ dktX3_frees_7
def dkwX3_frees_5 : List UInt8 := [21, 6, 79, 42, 182, 0, 213, 54, 7, 21, 7, 29, 162, 0, 14, 16, 8, 21, 4, 104, 21, 6, 96]
abbrev dktX3_frees_5 : List UInt8 := dkwX3_frees_5 ++ dktX3_frees_6
def dkwX3_frees_4 : List UInt8 := [21, 6, 42, 180, 0, 7, 16, 33, 21, 4, 96, 46, 159, 0, 65, 42, 180, 0, 7, 16, 25, 21, 4, 96]
abbrev dktX3_frees_4 : List UInt8 := dkwX3_frees_4 ++ dktX3_frees_5
def dkwX3_frees_3 : List UInt8 := [162, 0, 106, 42, 180, 0, 7, 16, 65, 21, 4, 96, 46, 154, 0, 93, 21, 6, 21, 5, 159, 0, 80]
abbrev dktX3_frees_3 : List UInt8 := dkwX3_frees_3 ++ dktX3_frees_4
def dkwX3_frees_2 : List UInt8 := [180, 0, 7, 16, 25, 21, 4, 96, 46, 54, 5, 3, 54, 6, 21, 6, 42, 180, 0, 7, 16, 6, 46]
abbrev dktX3_frees_2 : List UInt8 := dkwX3_frees_2 ++ dktX3_frees_3
def dkwX3_frees_1 : List UInt8 := [18, 211, 61, 42, 182, 0, 213, 62, 3, 54, 4, 21, 4, 42, 180, 0, 7, 16, 7, 46, 162, 0, 139, 42]
abbrev dktX3_frees_1 : List UInt8 := dkwX3_frees_1 ++ dktX3_frees_2
def dkwX3_frees_0 : List UInt8 := [42, 182, 0, 185, 153, 0, 6, 18, 154, 172, 27, 133, 9, 10, 184, 0, 63, 154, 0, 6, 18, 73, 172]
abbrev dktX3_frees_0 : List UInt8 := dkwX3_frees_0 ++ dktX3_frees_1
theorem dksX3_frees_0 : cX3_frees.data.toList.drop 0 = dktX3_frees_0 := by decide +kernel
theorem dksX3_frees_1 : cX3_frees.data.toList.drop 23 = dktX3_frees_1 := dk_seg dksX3_frees_0 23 rfl rfl
theorem dksX3_frees_2 : cX3_frees.data.toList.drop 47 = dktX3_frees_2 := dk_seg dksX3_frees_1 24 rfl rfl
theorem dksX3_frees_3 : cX3_frees.data.toList.drop 70 = dktX3_frees_3 := dk_seg dksX3_frees_2 23 rfl rfl
theorem dksX3_frees_4 : cX3_frees.data.toList.drop 93 = dktX3_frees_4 := dk_seg dksX3_frees_3 23 rfl rfl
theorem dksX3_frees_5 : cX3_frees.data.toList.drop 117 = dktX3_frees_5 := dk_seg dksX3_frees_4 24 rfl rfl
theorem dksX3_frees_6 : cX3_frees.data.toList.drop 140 = dktX3_frees_6 := dk_seg dksX3_frees_5 23 rfl rfl
theorem dksX3_frees_7 : cX3_frees.data.toList.drop 164 = dktX3_frees_7 := dk_seg dksX3_frees_6 24 rfl rfl
theorem dksX3_frees_8 : cX3_frees.data.toList.drop 187 = dktX3_frees_8 := dk_seg dksX3_frees_7 23 rfl rfl
theorem dX3_frees_0 : decode cX3_frees 0 = .ok (.aload_n 0, 1) := dk_42 (dk_at dksX3_frees_0 0 rfl rfl)
theorem dX3_frees_1 : decode cX3_frees 1 = .ok (.invokevirtual 185, 3) := dk_182 0 185 (dk_at dksX3_frees_0 1 rfl rfl)
theorem dX3_frees_4 : decode cX3_frees 4 = .ok (.ifCond .eq 6, 3) := dk_153 0 6 (dk_at dksX3_frees_0 4 rfl rfl)
theorem dX3_frees_7 : decode cX3_frees 7 = .ok (.ldc 154, 2) := dk_18 154 (dk_at dksX3_frees_0 7 rfl rfl)
theorem dX3_frees_9 : decode cX3_frees 9 = .ok (.ireturn, 1) := dk_172 (dk_at dksX3_frees_0 9 rfl rfl)
theorem dX3_frees_10 : decode cX3_frees 10 = .ok (.iload_n 1, 1) := dk_27 (dk_at dksX3_frees_0 10 rfl rfl)
theorem dX3_frees_11 : decode cX3_frees 11 = .ok (.i2l, 1) := dk_133 (dk_at dksX3_frees_0 11 rfl rfl)
theorem dX3_frees_12 : decode cX3_frees 12 = .ok (.lconst 0, 1) := dk_9 (dk_at dksX3_frees_0 12 rfl rfl)
theorem dX3_frees_13 : decode cX3_frees 13 = .ok (.lconst 1, 1) := dk_10 (dk_at dksX3_frees_0 13 rfl rfl)
theorem dX3_frees_14 : decode cX3_frees 14 = .ok (.invokestatic 63, 3) := dk_184 0 63 (dk_at dksX3_frees_0 14 rfl rfl)
theorem dX3_frees_17 : decode cX3_frees 17 = .ok (.ifCond .ne 6, 3) := dk_154 0 6 (dk_at dksX3_frees_0 17 rfl rfl)
theorem dX3_frees_20 : decode cX3_frees 20 = .ok (.ldc 73, 2) := dk_18 73 (dk_at dksX3_frees_0 20 rfl rfl)
theorem dX3_frees_22 : decode cX3_frees 22 = .ok (.ireturn, 1) := dk_172 (dk_at dksX3_frees_0 22 rfl rfl)
theorem dX3_frees_23 : decode cX3_frees 23 = .ok (.ldc 211, 2) := dk_18 211 (dk_at dksX3_frees_1 0 rfl rfl)
theorem dX3_frees_25 : decode cX3_frees 25 = .ok (.istore_n 2, 1) := dk_61 (dk_at dksX3_frees_1 2 rfl rfl)
theorem dX3_frees_26 : decode cX3_frees 26 = .ok (.aload_n 0, 1) := dk_42 (dk_at dksX3_frees_1 3 rfl rfl)
theorem dX3_frees_27 : decode cX3_frees 27 = .ok (.invokevirtual 213, 3) := dk_182 0 213 (dk_at dksX3_frees_1 4 rfl rfl)
theorem dX3_frees_30 : decode cX3_frees 30 = .ok (.istore_n 3, 1) := dk_62 (dk_at dksX3_frees_1 7 rfl rfl)
theorem dX3_frees_31 : decode cX3_frees 31 = .ok (.iconst 0, 1) := dk_3 (dk_at dksX3_frees_1 8 rfl rfl)
theorem dX3_frees_32 : decode cX3_frees 32 = .ok (.istore 4, 2) := dk_54 4 (dk_at dksX3_frees_1 9 rfl rfl)
theorem dX3_frees_34 : decode cX3_frees 34 = .ok (.iload 4, 2) := dk_21 4 (dk_at dksX3_frees_1 11 rfl rfl)
theorem dX3_frees_36 : decode cX3_frees 36 = .ok (.aload_n 0, 1) := dk_42 (dk_at dksX3_frees_1 13 rfl rfl)
theorem dX3_frees_37 : decode cX3_frees 37 = .ok (.getfield 7, 3) := dk_180 0 7 (dk_at dksX3_frees_1 14 rfl rfl)
theorem dX3_frees_40 : decode cX3_frees 40 = .ok (.bipush 7, 2) := dk_16 7 (dk_at dksX3_frees_1 17 rfl rfl)
theorem dX3_frees_42 : decode cX3_frees 42 = .ok (.iaload, 1) := dk_46 (dk_at dksX3_frees_1 19 rfl rfl)
theorem dX3_frees_43 : decode cX3_frees 43 = .ok (.if_icmp .ge 139, 3) := dk_162 0 139 (dk_at dksX3_frees_1 20 rfl rfl)
theorem dX3_frees_46 : decode cX3_frees 46 = .ok (.aload_n 0, 1) := dk_42 (dk_at dksX3_frees_1 23 rfl rfl)
theorem dX3_frees_47 : decode cX3_frees 47 = .ok (.getfield 7, 3) := dk_180 0 7 (dk_at dksX3_frees_2 0 rfl rfl)
theorem dX3_frees_50 : decode cX3_frees 50 = .ok (.bipush 25, 2) := dk_16 25 (dk_at dksX3_frees_2 3 rfl rfl)
theorem dX3_frees_52 : decode cX3_frees 52 = .ok (.iload 4, 2) := dk_21 4 (dk_at dksX3_frees_2 5 rfl rfl)
theorem dX3_frees_54 : decode cX3_frees 54 = .ok (.iadd, 1) := dk_96 (dk_at dksX3_frees_2 7 rfl rfl)
theorem dX3_frees_55 : decode cX3_frees 55 = .ok (.iaload, 1) := dk_46 (dk_at dksX3_frees_2 8 rfl rfl)
theorem dX3_frees_56 : decode cX3_frees 56 = .ok (.istore 5, 2) := dk_54 5 (dk_at dksX3_frees_2 9 rfl rfl)
theorem dX3_frees_58 : decode cX3_frees 58 = .ok (.iconst 0, 1) := dk_3 (dk_at dksX3_frees_2 11 rfl rfl)
theorem dX3_frees_59 : decode cX3_frees 59 = .ok (.istore 6, 2) := dk_54 6 (dk_at dksX3_frees_2 12 rfl rfl)
theorem dX3_frees_61 : decode cX3_frees 61 = .ok (.iload 6, 2) := dk_21 6 (dk_at dksX3_frees_2 14 rfl rfl)
theorem dX3_frees_63 : decode cX3_frees 63 = .ok (.aload_n 0, 1) := dk_42 (dk_at dksX3_frees_2 16 rfl rfl)
theorem dX3_frees_64 : decode cX3_frees 64 = .ok (.getfield 7, 3) := dk_180 0 7 (dk_at dksX3_frees_2 17 rfl rfl)
theorem dX3_frees_67 : decode cX3_frees 67 = .ok (.bipush 6, 2) := dk_16 6 (dk_at dksX3_frees_2 20 rfl rfl)
theorem dX3_frees_69 : decode cX3_frees 69 = .ok (.iaload, 1) := dk_46 (dk_at dksX3_frees_2 22 rfl rfl)
theorem dX3_frees_70 : decode cX3_frees 70 = .ok (.if_icmp .ge 106, 3) := dk_162 0 106 (dk_at dksX3_frees_3 0 rfl rfl)
theorem dX3_frees_73 : decode cX3_frees 73 = .ok (.aload_n 0, 1) := dk_42 (dk_at dksX3_frees_3 3 rfl rfl)
theorem dX3_frees_74 : decode cX3_frees 74 = .ok (.getfield 7, 3) := dk_180 0 7 (dk_at dksX3_frees_3 4 rfl rfl)
theorem dX3_frees_77 : decode cX3_frees 77 = .ok (.bipush 65, 2) := dk_16 65 (dk_at dksX3_frees_3 7 rfl rfl)
theorem dX3_frees_79 : decode cX3_frees 79 = .ok (.iload 4, 2) := dk_21 4 (dk_at dksX3_frees_3 9 rfl rfl)
theorem dX3_frees_81 : decode cX3_frees 81 = .ok (.iadd, 1) := dk_96 (dk_at dksX3_frees_3 11 rfl rfl)
theorem dX3_frees_82 : decode cX3_frees 82 = .ok (.iaload, 1) := dk_46 (dk_at dksX3_frees_3 12 rfl rfl)
theorem dX3_frees_83 : decode cX3_frees 83 = .ok (.ifCond .ne 93, 3) := dk_154 0 93 (dk_at dksX3_frees_3 13 rfl rfl)
theorem dX3_frees_86 : decode cX3_frees 86 = .ok (.iload 6, 2) := dk_21 6 (dk_at dksX3_frees_3 16 rfl rfl)
theorem dX3_frees_88 : decode cX3_frees 88 = .ok (.iload 5, 2) := dk_21 5 (dk_at dksX3_frees_3 18 rfl rfl)
theorem dX3_frees_90 : decode cX3_frees 90 = .ok (.if_icmp .eq 80, 3) := dk_159 0 80 (dk_at dksX3_frees_3 20 rfl rfl)
theorem dX3_frees_93 : decode cX3_frees 93 = .ok (.iload 6, 2) := dk_21 6 (dk_at dksX3_frees_4 0 rfl rfl)
theorem dX3_frees_95 : decode cX3_frees 95 = .ok (.aload_n 0, 1) := dk_42 (dk_at dksX3_frees_4 2 rfl rfl)
theorem dX3_frees_96 : decode cX3_frees 96 = .ok (.getfield 7, 3) := dk_180 0 7 (dk_at dksX3_frees_4 3 rfl rfl)
theorem dX3_frees_99 : decode cX3_frees 99 = .ok (.bipush 33, 2) := dk_16 33 (dk_at dksX3_frees_4 6 rfl rfl)
theorem dX3_frees_101 : decode cX3_frees 101 = .ok (.iload 4, 2) := dk_21 4 (dk_at dksX3_frees_4 8 rfl rfl)
theorem dX3_frees_103 : decode cX3_frees 103 = .ok (.iadd, 1) := dk_96 (dk_at dksX3_frees_4 10 rfl rfl)
theorem dX3_frees_104 : decode cX3_frees 104 = .ok (.iaload, 1) := dk_46 (dk_at dksX3_frees_4 11 rfl rfl)
theorem dX3_frees_105 : decode cX3_frees 105 = .ok (.if_icmp .eq 65, 3) := dk_159 0 65 (dk_at dksX3_frees_4 12 rfl rfl)
theorem dX3_frees_108 : decode cX3_frees 108 = .ok (.aload_n 0, 1) := dk_42 (dk_at dksX3_frees_4 15 rfl rfl)
theorem dX3_frees_109 : decode cX3_frees 109 = .ok (.getfield 7, 3) := dk_180 0 7 (dk_at dksX3_frees_4 16 rfl rfl)
theorem dX3_frees_112 : decode cX3_frees 112 = .ok (.bipush 25, 2) := dk_16 25 (dk_at dksX3_frees_4 19 rfl rfl)
theorem dX3_frees_114 : decode cX3_frees 114 = .ok (.iload 4, 2) := dk_21 4 (dk_at dksX3_frees_4 21 rfl rfl)
theorem dX3_frees_116 : decode cX3_frees 116 = .ok (.iadd, 1) := dk_96 (dk_at dksX3_frees_4 23 rfl rfl)
theorem dX3_frees_117 : decode cX3_frees 117 = .ok (.iload 6, 2) := dk_21 6 (dk_at dksX3_frees_5 0 rfl rfl)
theorem dX3_frees_119 : decode cX3_frees 119 = .ok (.iastore, 1) := dk_79 (dk_at dksX3_frees_5 2 rfl rfl)
theorem dX3_frees_120 : decode cX3_frees 120 = .ok (.aload_n 0, 1) := dk_42 (dk_at dksX3_frees_5 3 rfl rfl)
theorem dX3_frees_121 : decode cX3_frees 121 = .ok (.invokevirtual 213, 3) := dk_182 0 213 (dk_at dksX3_frees_5 4 rfl rfl)
theorem dX3_frees_124 : decode cX3_frees 124 = .ok (.istore 7, 2) := dk_54 7 (dk_at dksX3_frees_5 7 rfl rfl)
theorem dX3_frees_126 : decode cX3_frees 126 = .ok (.iload 7, 2) := dk_21 7 (dk_at dksX3_frees_5 9 rfl rfl)
theorem dX3_frees_128 : decode cX3_frees 128 = .ok (.iload_n 3, 1) := dk_29 (dk_at dksX3_frees_5 11 rfl rfl)
theorem dX3_frees_129 : decode cX3_frees 129 = .ok (.if_icmp .ge 14, 3) := dk_162 0 14 (dk_at dksX3_frees_5 12 rfl rfl)
theorem dX3_frees_132 : decode cX3_frees 132 = .ok (.bipush 8, 2) := dk_16 8 (dk_at dksX3_frees_5 15 rfl rfl)
theorem dX3_frees_134 : decode cX3_frees 134 = .ok (.iload 4, 2) := dk_21 4 (dk_at dksX3_frees_5 17 rfl rfl)
theorem dX3_frees_136 : decode cX3_frees 136 = .ok (.imul, 1) := dk_104 (dk_at dksX3_frees_5 19 rfl rfl)
theorem dX3_frees_137 : decode cX3_frees 137 = .ok (.iload 6, 2) := dk_21 6 (dk_at dksX3_frees_5 20 rfl rfl)
theorem dX3_frees_139 : decode cX3_frees 139 = .ok (.iadd, 1) := dk_96 (dk_at dksX3_frees_5 22 rfl rfl)
theorem dX3_frees_140 : decode cX3_frees 140 = .ok (.goto 4, 3) := dk_167 0 4 (dk_at dksX3_frees_6 0 rfl rfl)
theorem dX3_frees_143 : decode cX3_frees 143 = .ok (.iload_n 2, 1) := dk_28 (dk_at dksX3_frees_6 3 rfl rfl)
theorem dX3_frees_144 : decode cX3_frees 144 = .ok (.istore_n 2, 1) := dk_61 (dk_at dksX3_frees_6 4 rfl rfl)
theorem dX3_frees_145 : decode cX3_frees 145 = .ok (.iload 7, 2) := dk_21 7 (dk_at dksX3_frees_6 5 rfl rfl)
theorem dX3_frees_147 : decode cX3_frees 147 = .ok (.iload_n 3, 1) := dk_29 (dk_at dksX3_frees_6 7 rfl rfl)
theorem dX3_frees_148 : decode cX3_frees 148 = .ok (.if_icmp .ge 8, 3) := dk_162 0 8 (dk_at dksX3_frees_6 8 rfl rfl)
theorem dX3_frees_151 : decode cX3_frees 151 = .ok (.iload 7, 2) := dk_21 7 (dk_at dksX3_frees_6 11 rfl rfl)
theorem dX3_frees_153 : decode cX3_frees 153 = .ok (.goto 4, 3) := dk_167 0 4 (dk_at dksX3_frees_6 13 rfl rfl)
theorem dX3_frees_156 : decode cX3_frees 156 = .ok (.iload_n 3, 1) := dk_29 (dk_at dksX3_frees_6 16 rfl rfl)
theorem dX3_frees_157 : decode cX3_frees 157 = .ok (.istore_n 3, 1) := dk_62 (dk_at dksX3_frees_6 17 rfl rfl)
theorem dX3_frees_158 : decode cX3_frees 158 = .ok (.aload_n 0, 1) := dk_42 (dk_at dksX3_frees_6 18 rfl rfl)
theorem dX3_frees_159 : decode cX3_frees 159 = .ok (.getfield 7, 3) := dk_180 0 7 (dk_at dksX3_frees_6 19 rfl rfl)
theorem dX3_frees_162 : decode cX3_frees 162 = .ok (.bipush 25, 2) := dk_16 25 (dk_at dksX3_frees_6 22 rfl rfl)
theorem dX3_frees_164 : decode cX3_frees 164 = .ok (.iload 4, 2) := dk_21 4 (dk_at dksX3_frees_7 0 rfl rfl)
theorem dX3_frees_166 : decode cX3_frees 166 = .ok (.iadd, 1) := dk_96 (dk_at dksX3_frees_7 2 rfl rfl)
theorem dX3_frees_167 : decode cX3_frees 167 = .ok (.iload 5, 2) := dk_21 5 (dk_at dksX3_frees_7 3 rfl rfl)
theorem dX3_frees_169 : decode cX3_frees 169 = .ok (.iastore, 1) := dk_79 (dk_at dksX3_frees_7 5 rfl rfl)
theorem dX3_frees_170 : decode cX3_frees 170 = .ok (.iinc 6 1, 3) := dk_132 6 1 (dk_at dksX3_frees_7 6 rfl rfl)
theorem dX3_frees_173 : decode cX3_frees 173 = .ok (.goto (-112), 3) := dk_167 255 144 (dk_at dksX3_frees_7 9 rfl rfl)
theorem dX3_frees_176 : decode cX3_frees 176 = .ok (.iinc 4 1, 3) := dk_132 4 1 (dk_at dksX3_frees_7 12 rfl rfl)
theorem dX3_frees_179 : decode cX3_frees 179 = .ok (.goto (-145), 3) := dk_167 255 111 (dk_at dksX3_frees_7 15 rfl rfl)
theorem dX3_frees_182 : decode cX3_frees 182 = .ok (.iload_n 1, 1) := dk_27 (dk_at dksX3_frees_7 18 rfl rfl)
theorem dX3_frees_183 : decode cX3_frees 183 = .ok (.ifCond .ne 7, 3) := dk_154 0 7 (dk_at dksX3_frees_7 19 rfl rfl)
theorem dX3_frees_186 : decode cX3_frees 186 = .ok (.iload_n 2, 1) := dk_28 (dk_at dksX3_frees_7 22 rfl rfl)
theorem dX3_frees_187 : decode cX3_frees 187 = .ok (.goto 4, 3) := dk_167 0 4 (dk_at dksX3_frees_8 0 rfl rfl)
theorem dX3_frees_190 : decode cX3_frees 190 = .ok (.iload_n 3, 1) := dk_29 (dk_at dksX3_frees_8 3 rfl rfl)
theorem dX3_frees_191 : decode cX3_frees 191 = .ok (.ireturn, 1) := dk_172 (dk_at dksX3_frees_8 4 rfl rfl)
abbrev cX3_greatest : ByteArray := prog_16_method_52_code
def yX3_greatest : MethodName := ⟨RX3, "greatest", "()I"⟩
def dkwX3_greatest_2 : List UInt8 := [167, 255, 215, 27, 172]
abbrev dktX3_greatest_2 : List UInt8 := dkwX3_greatest_2 ++ []
def dkwX3_greatest_1 : List UInt8 := [180, 0, 7, 16, 15, 28, 96, 46, 100, 62, 29, 27, 164, 0, 7, 29, 167, 0, 4, 27, 60, 132, 2, 1]
abbrev dktX3_greatest_1 : List UInt8 := dkwX3_greatest_1 ++ dktX3_greatest_2
def dkwX3_greatest_0 : List UInt8 := [18, 212, 60, 3, 61, 28, 42, 180, 0, 7, 16, 6, 46, 162, 0, 36, 42, 28, 182, 0, 161, 42]
abbrev dktX3_greatest_0 : List UInt8 := dkwX3_greatest_0 ++ dktX3_greatest_1
theorem dksX3_greatest_0 : cX3_greatest.data.toList.drop 0 = dktX3_greatest_0 := by decide +kernel
theorem dksX3_greatest_1 : cX3_greatest.data.toList.drop 22 = dktX3_greatest_1 := dk_seg dksX3_greatest_0 22 rfl rfl
theorem dksX3_greatest_2 : cX3_greatest.data.toList.drop 46 = dktX3_greatest_2 := dk_seg dksX3_greatest_1 24 rfl rfl
theorem dX3_greatest_0 : decode cX3_greatest 0 = .ok (.ldc 212, 2) := dk_18 212 (dk_at dksX3_greatest_0 0 rfl rfl)
theorem dX3_greatest_2 : decode cX3_greatest 2 = .ok (.istore_n 1, 1) := dk_60 (dk_at dksX3_greatest_0 2 rfl rfl)
theorem dX3_greatest_3 : decode cX3_greatest 3 = .ok (.iconst 0, 1) := dk_3 (dk_at dksX3_greatest_0 3 rfl rfl)
theorem dX3_greatest_4 : decode cX3_greatest 4 = .ok (.istore_n 2, 1) := dk_61 (dk_at dksX3_greatest_0 4 rfl rfl)
theorem dX3_greatest_5 : decode cX3_greatest 5 = .ok (.iload_n 2, 1) := dk_28 (dk_at dksX3_greatest_0 5 rfl rfl)
theorem dX3_greatest_6 : decode cX3_greatest 6 = .ok (.aload_n 0, 1) := dk_42 (dk_at dksX3_greatest_0 6 rfl rfl)
theorem dX3_greatest_7 : decode cX3_greatest 7 = .ok (.getfield 7, 3) := dk_180 0 7 (dk_at dksX3_greatest_0 7 rfl rfl)
theorem dX3_greatest_10 : decode cX3_greatest 10 = .ok (.bipush 6, 2) := dk_16 6 (dk_at dksX3_greatest_0 10 rfl rfl)
theorem dX3_greatest_12 : decode cX3_greatest 12 = .ok (.iaload, 1) := dk_46 (dk_at dksX3_greatest_0 12 rfl rfl)
theorem dX3_greatest_13 : decode cX3_greatest 13 = .ok (.if_icmp .ge 36, 3) := dk_162 0 36 (dk_at dksX3_greatest_0 13 rfl rfl)
theorem dX3_greatest_16 : decode cX3_greatest 16 = .ok (.aload_n 0, 1) := dk_42 (dk_at dksX3_greatest_0 16 rfl rfl)
theorem dX3_greatest_17 : decode cX3_greatest 17 = .ok (.iload_n 2, 1) := dk_28 (dk_at dksX3_greatest_0 17 rfl rfl)
theorem dX3_greatest_18 : decode cX3_greatest 18 = .ok (.invokevirtual 161, 3) := dk_182 0 161 (dk_at dksX3_greatest_0 18 rfl rfl)
theorem dX3_greatest_21 : decode cX3_greatest 21 = .ok (.aload_n 0, 1) := dk_42 (dk_at dksX3_greatest_0 21 rfl rfl)
theorem dX3_greatest_22 : decode cX3_greatest 22 = .ok (.getfield 7, 3) := dk_180 0 7 (dk_at dksX3_greatest_1 0 rfl rfl)
theorem dX3_greatest_25 : decode cX3_greatest 25 = .ok (.bipush 15, 2) := dk_16 15 (dk_at dksX3_greatest_1 3 rfl rfl)
theorem dX3_greatest_27 : decode cX3_greatest 27 = .ok (.iload_n 2, 1) := dk_28 (dk_at dksX3_greatest_1 5 rfl rfl)
theorem dX3_greatest_28 : decode cX3_greatest 28 = .ok (.iadd, 1) := dk_96 (dk_at dksX3_greatest_1 6 rfl rfl)
theorem dX3_greatest_29 : decode cX3_greatest 29 = .ok (.iaload, 1) := dk_46 (dk_at dksX3_greatest_1 7 rfl rfl)
theorem dX3_greatest_30 : decode cX3_greatest 30 = .ok (.isub, 1) := dk_100 (dk_at dksX3_greatest_1 8 rfl rfl)
theorem dX3_greatest_31 : decode cX3_greatest 31 = .ok (.istore_n 3, 1) := dk_62 (dk_at dksX3_greatest_1 9 rfl rfl)
theorem dX3_greatest_32 : decode cX3_greatest 32 = .ok (.iload_n 3, 1) := dk_29 (dk_at dksX3_greatest_1 10 rfl rfl)
theorem dX3_greatest_33 : decode cX3_greatest 33 = .ok (.iload_n 1, 1) := dk_27 (dk_at dksX3_greatest_1 11 rfl rfl)
theorem dX3_greatest_34 : decode cX3_greatest 34 = .ok (.if_icmp .le 7, 3) := dk_164 0 7 (dk_at dksX3_greatest_1 12 rfl rfl)
theorem dX3_greatest_37 : decode cX3_greatest 37 = .ok (.iload_n 3, 1) := dk_29 (dk_at dksX3_greatest_1 15 rfl rfl)
theorem dX3_greatest_38 : decode cX3_greatest 38 = .ok (.goto 4, 3) := dk_167 0 4 (dk_at dksX3_greatest_1 16 rfl rfl)
theorem dX3_greatest_41 : decode cX3_greatest 41 = .ok (.iload_n 1, 1) := dk_27 (dk_at dksX3_greatest_1 19 rfl rfl)
theorem dX3_greatest_42 : decode cX3_greatest 42 = .ok (.istore_n 1, 1) := dk_60 (dk_at dksX3_greatest_1 20 rfl rfl)
theorem dX3_greatest_43 : decode cX3_greatest 43 = .ok (.iinc 2 1, 3) := dk_132 2 1 (dk_at dksX3_greatest_1 21 rfl rfl)
theorem dX3_greatest_46 : decode cX3_greatest 46 = .ok (.goto (-41), 3) := dk_167 255 215 (dk_at dksX3_greatest_2 0 rfl rfl)
theorem dX3_greatest_49 : decode cX3_greatest 49 = .ok (.iload_n 1, 1) := dk_27 (dk_at dksX3_greatest_2 3 rfl rfl)
theorem dX3_greatest_50 : decode cX3_greatest 50 = .ok (.ireturn, 1) := dk_172 (dk_at dksX3_greatest_2 4 rfl rfl)
abbrev cX3_boat : ByteArray := prog_16_method_54_code
def yX3_boat : MethodName := ⟨RX3, "boat", "(I)I"⟩
def dkwX3_boat_10 : List UInt8 := [180, 0, 47, 28, 46, 172]
abbrev dktX3_boat_10 : List UInt8 := dkwX3_boat_10 ++ []
def dkwX3_boat_9 : List UInt8 := [132, 3, 1, 167, 255, 93, 42, 180, 0, 47, 28, 46, 18, 217, 160, 0, 8, 18, 211, 167, 0, 9, 42]
abbrev dktX3_boat_9 : List UInt8 := dkwX3_boat_9 ++ dktX3_boat_10
def dkwX3_boat_8 : List UInt8 := [130, 126, 46, 96, 184, 0, 155, 167, 0, 9, 42, 180, 0, 47, 29, 46, 79, 132, 4, 1, 167, 255, 115]
abbrev dktX3_boat_8 : List UInt8 := dkwX3_boat_8 ++ dktX3_boat_9
def dkwX3_boat_7 : List UInt8 := [180, 0, 47, 29, 21, 6, 153, 0, 28, 42, 180, 0, 47, 29, 46, 4, 42, 180, 0, 47, 29, 21, 4, 2]
abbrev dktX3_boat_7 : List UInt8 := dkwX3_boat_7 ++ dktX3_boat_8
def dkwX3_boat_6 : List UInt8 := [180, 0, 47, 29, 21, 4, 2, 130, 126, 46, 18, 217, 162, 0, 7, 4, 167, 0, 4, 3, 54, 6, 42]
abbrev dktX3_boat_6 : List UInt8 := dkwX3_boat_6 ++ dktX3_boat_7
def dkwX3_boat_5 : List UInt8 := [132, 6, 1, 167, 255, 213, 21, 4, 29, 2, 130, 126, 154, 0, 29, 21, 5, 27, 163, 0, 23, 42]
abbrev dktX3_boat_5 : List UInt8 := dkwX3_boat_5 ++ dktX3_boat_6
def dkwX3_boat_4 : List UInt8 := [184, 0, 200, 153, 0, 15, 42, 21, 6, 182, 0, 161, 16, 10, 96, 167, 0, 4, 3, 96, 54, 5]
abbrev dktX3_boat_4 : List UInt8 := dkwX3_boat_4 ++ dktX3_boat_5
def dkwX3_boat_3 : List UInt8 := [54, 5, 3, 54, 6, 21, 6, 42, 180, 0, 7, 16, 6, 46, 162, 0, 37, 21, 5, 21, 4, 21, 6]
abbrev dktX3_boat_3 : List UInt8 := dkwX3_boat_3 ++ dktX3_boat_4
def dkwX3_boat_2 : List UInt8 := [29, 28, 163, 0, 164, 42, 180, 0, 47, 29, 18, 217, 79, 4, 54, 4, 21, 4, 29, 163, 0, 141, 3]
abbrev dktX3_boat_2 : List UInt8 := dkwX3_boat_2 ++ dktX3_boat_3
def dkwX3_boat_1 : List UInt8 := [18, 73, 172, 4, 42, 180, 0, 7, 16, 6, 46, 120, 4, 100, 61, 42, 180, 0, 47, 3, 3, 79, 4, 62]
abbrev dktX3_boat_1 : List UInt8 := dkwX3_boat_1 ++ dktX3_boat_2
def dkwX3_boat_0 : List UInt8 := [42, 182, 0, 185, 153, 0, 6, 18, 154, 172, 27, 133, 20, 0, 178, 20, 0, 180, 184, 0, 63, 154, 0, 6]
abbrev dktX3_boat_0 : List UInt8 := dkwX3_boat_0 ++ dktX3_boat_1
theorem dksX3_boat_0 : cX3_boat.data.toList.drop 0 = dktX3_boat_0 := by decide +kernel
theorem dksX3_boat_1 : cX3_boat.data.toList.drop 24 = dktX3_boat_1 := dk_seg dksX3_boat_0 24 rfl rfl
theorem dksX3_boat_2 : cX3_boat.data.toList.drop 48 = dktX3_boat_2 := dk_seg dksX3_boat_1 24 rfl rfl
theorem dksX3_boat_3 : cX3_boat.data.toList.drop 71 = dktX3_boat_3 := dk_seg dksX3_boat_2 23 rfl rfl
theorem dksX3_boat_4 : cX3_boat.data.toList.drop 94 = dktX3_boat_4 := dk_seg dksX3_boat_3 23 rfl rfl
theorem dksX3_boat_5 : cX3_boat.data.toList.drop 116 = dktX3_boat_5 := dk_seg dksX3_boat_4 22 rfl rfl
theorem dksX3_boat_6 : cX3_boat.data.toList.drop 138 = dktX3_boat_6 := dk_seg dksX3_boat_5 22 rfl rfl
theorem dksX3_boat_7 : cX3_boat.data.toList.drop 161 = dktX3_boat_7 := dk_seg dksX3_boat_6 23 rfl rfl
theorem dksX3_boat_8 : cX3_boat.data.toList.drop 185 = dktX3_boat_8 := dk_seg dksX3_boat_7 24 rfl rfl
theorem dksX3_boat_9 : cX3_boat.data.toList.drop 208 = dktX3_boat_9 := dk_seg dksX3_boat_8 23 rfl rfl
theorem dksX3_boat_10 : cX3_boat.data.toList.drop 231 = dktX3_boat_10 := dk_seg dksX3_boat_9 23 rfl rfl
theorem dX3_boat_0 : decode cX3_boat 0 = .ok (.aload_n 0, 1) := dk_42 (dk_at dksX3_boat_0 0 rfl rfl)
theorem dX3_boat_1 : decode cX3_boat 1 = .ok (.invokevirtual 185, 3) := dk_182 0 185 (dk_at dksX3_boat_0 1 rfl rfl)
theorem dX3_boat_4 : decode cX3_boat 4 = .ok (.ifCond .eq 6, 3) := dk_153 0 6 (dk_at dksX3_boat_0 4 rfl rfl)
theorem dX3_boat_7 : decode cX3_boat 7 = .ok (.ldc 154, 2) := dk_18 154 (dk_at dksX3_boat_0 7 rfl rfl)
theorem dX3_boat_9 : decode cX3_boat 9 = .ok (.ireturn, 1) := dk_172 (dk_at dksX3_boat_0 9 rfl rfl)
theorem dX3_boat_10 : decode cX3_boat 10 = .ok (.iload_n 1, 1) := dk_27 (dk_at dksX3_boat_0 10 rfl rfl)
theorem dX3_boat_11 : decode cX3_boat 11 = .ok (.i2l, 1) := dk_133 (dk_at dksX3_boat_0 11 rfl rfl)
theorem dX3_boat_12 : decode cX3_boat 12 = .ok (.ldc2_w 178, 3) := dk_20 0 178 (dk_at dksX3_boat_0 12 rfl rfl)
theorem dX3_boat_15 : decode cX3_boat 15 = .ok (.ldc2_w 180, 3) := dk_20 0 180 (dk_at dksX3_boat_0 15 rfl rfl)
theorem dX3_boat_18 : decode cX3_boat 18 = .ok (.invokestatic 63, 3) := dk_184 0 63 (dk_at dksX3_boat_0 18 rfl rfl)
theorem dX3_boat_21 : decode cX3_boat 21 = .ok (.ifCond .ne 6, 3) := dk_154 0 6 (dk_at dksX3_boat_0 21 rfl rfl)
theorem dX3_boat_24 : decode cX3_boat 24 = .ok (.ldc 73, 2) := dk_18 73 (dk_at dksX3_boat_1 0 rfl rfl)
theorem dX3_boat_26 : decode cX3_boat 26 = .ok (.ireturn, 1) := dk_172 (dk_at dksX3_boat_1 2 rfl rfl)
theorem dX3_boat_27 : decode cX3_boat 27 = .ok (.iconst 1, 1) := dk_4 (dk_at dksX3_boat_1 3 rfl rfl)
theorem dX3_boat_28 : decode cX3_boat 28 = .ok (.aload_n 0, 1) := dk_42 (dk_at dksX3_boat_1 4 rfl rfl)
theorem dX3_boat_29 : decode cX3_boat 29 = .ok (.getfield 7, 3) := dk_180 0 7 (dk_at dksX3_boat_1 5 rfl rfl)
theorem dX3_boat_32 : decode cX3_boat 32 = .ok (.bipush 6, 2) := dk_16 6 (dk_at dksX3_boat_1 8 rfl rfl)
theorem dX3_boat_34 : decode cX3_boat 34 = .ok (.iaload, 1) := dk_46 (dk_at dksX3_boat_1 10 rfl rfl)
theorem dX3_boat_35 : decode cX3_boat 35 = .ok (.ishl, 1) := dk_120 (dk_at dksX3_boat_1 11 rfl rfl)
theorem dX3_boat_36 : decode cX3_boat 36 = .ok (.iconst 1, 1) := dk_4 (dk_at dksX3_boat_1 12 rfl rfl)
theorem dX3_boat_37 : decode cX3_boat 37 = .ok (.isub, 1) := dk_100 (dk_at dksX3_boat_1 13 rfl rfl)
theorem dX3_boat_38 : decode cX3_boat 38 = .ok (.istore_n 2, 1) := dk_61 (dk_at dksX3_boat_1 14 rfl rfl)
theorem dX3_boat_39 : decode cX3_boat 39 = .ok (.aload_n 0, 1) := dk_42 (dk_at dksX3_boat_1 15 rfl rfl)
theorem dX3_boat_40 : decode cX3_boat 40 = .ok (.getfield 47, 3) := dk_180 0 47 (dk_at dksX3_boat_1 16 rfl rfl)
theorem dX3_boat_43 : decode cX3_boat 43 = .ok (.iconst 0, 1) := dk_3 (dk_at dksX3_boat_1 19 rfl rfl)
theorem dX3_boat_44 : decode cX3_boat 44 = .ok (.iconst 0, 1) := dk_3 (dk_at dksX3_boat_1 20 rfl rfl)
theorem dX3_boat_45 : decode cX3_boat 45 = .ok (.iastore, 1) := dk_79 (dk_at dksX3_boat_1 21 rfl rfl)
theorem dX3_boat_46 : decode cX3_boat 46 = .ok (.iconst 1, 1) := dk_4 (dk_at dksX3_boat_1 22 rfl rfl)
theorem dX3_boat_47 : decode cX3_boat 47 = .ok (.istore_n 3, 1) := dk_62 (dk_at dksX3_boat_1 23 rfl rfl)
theorem dX3_boat_48 : decode cX3_boat 48 = .ok (.iload_n 3, 1) := dk_29 (dk_at dksX3_boat_2 0 rfl rfl)
theorem dX3_boat_49 : decode cX3_boat 49 = .ok (.iload_n 2, 1) := dk_28 (dk_at dksX3_boat_2 1 rfl rfl)
theorem dX3_boat_50 : decode cX3_boat 50 = .ok (.if_icmp .gt 164, 3) := dk_163 0 164 (dk_at dksX3_boat_2 2 rfl rfl)
theorem dX3_boat_53 : decode cX3_boat 53 = .ok (.aload_n 0, 1) := dk_42 (dk_at dksX3_boat_2 5 rfl rfl)
theorem dX3_boat_54 : decode cX3_boat 54 = .ok (.getfield 47, 3) := dk_180 0 47 (dk_at dksX3_boat_2 6 rfl rfl)
theorem dX3_boat_57 : decode cX3_boat 57 = .ok (.iload_n 3, 1) := dk_29 (dk_at dksX3_boat_2 9 rfl rfl)
theorem dX3_boat_58 : decode cX3_boat 58 = .ok (.ldc 217, 2) := dk_18 217 (dk_at dksX3_boat_2 10 rfl rfl)
theorem dX3_boat_60 : decode cX3_boat 60 = .ok (.iastore, 1) := dk_79 (dk_at dksX3_boat_2 12 rfl rfl)
theorem dX3_boat_61 : decode cX3_boat 61 = .ok (.iconst 1, 1) := dk_4 (dk_at dksX3_boat_2 13 rfl rfl)
theorem dX3_boat_62 : decode cX3_boat 62 = .ok (.istore 4, 2) := dk_54 4 (dk_at dksX3_boat_2 14 rfl rfl)
theorem dX3_boat_64 : decode cX3_boat 64 = .ok (.iload 4, 2) := dk_21 4 (dk_at dksX3_boat_2 16 rfl rfl)
theorem dX3_boat_66 : decode cX3_boat 66 = .ok (.iload_n 3, 1) := dk_29 (dk_at dksX3_boat_2 18 rfl rfl)
theorem dX3_boat_67 : decode cX3_boat 67 = .ok (.if_icmp .gt 141, 3) := dk_163 0 141 (dk_at dksX3_boat_2 19 rfl rfl)
theorem dX3_boat_70 : decode cX3_boat 70 = .ok (.iconst 0, 1) := dk_3 (dk_at dksX3_boat_2 22 rfl rfl)
theorem dX3_boat_71 : decode cX3_boat 71 = .ok (.istore 5, 2) := dk_54 5 (dk_at dksX3_boat_3 0 rfl rfl)
theorem dX3_boat_73 : decode cX3_boat 73 = .ok (.iconst 0, 1) := dk_3 (dk_at dksX3_boat_3 2 rfl rfl)
theorem dX3_boat_74 : decode cX3_boat 74 = .ok (.istore 6, 2) := dk_54 6 (dk_at dksX3_boat_3 3 rfl rfl)
theorem dX3_boat_76 : decode cX3_boat 76 = .ok (.iload 6, 2) := dk_21 6 (dk_at dksX3_boat_3 5 rfl rfl)
theorem dX3_boat_78 : decode cX3_boat 78 = .ok (.aload_n 0, 1) := dk_42 (dk_at dksX3_boat_3 7 rfl rfl)
theorem dX3_boat_79 : decode cX3_boat 79 = .ok (.getfield 7, 3) := dk_180 0 7 (dk_at dksX3_boat_3 8 rfl rfl)
theorem dX3_boat_82 : decode cX3_boat 82 = .ok (.bipush 6, 2) := dk_16 6 (dk_at dksX3_boat_3 11 rfl rfl)
theorem dX3_boat_84 : decode cX3_boat 84 = .ok (.iaload, 1) := dk_46 (dk_at dksX3_boat_3 13 rfl rfl)
theorem dX3_boat_85 : decode cX3_boat 85 = .ok (.if_icmp .ge 37, 3) := dk_162 0 37 (dk_at dksX3_boat_3 14 rfl rfl)
theorem dX3_boat_88 : decode cX3_boat 88 = .ok (.iload 5, 2) := dk_21 5 (dk_at dksX3_boat_3 17 rfl rfl)
theorem dX3_boat_90 : decode cX3_boat 90 = .ok (.iload 4, 2) := dk_21 4 (dk_at dksX3_boat_3 19 rfl rfl)
theorem dX3_boat_92 : decode cX3_boat 92 = .ok (.iload 6, 2) := dk_21 6 (dk_at dksX3_boat_3 21 rfl rfl)
theorem dX3_boat_94 : decode cX3_boat 94 = .ok (.invokestatic 200, 3) := dk_184 0 200 (dk_at dksX3_boat_4 0 rfl rfl)
theorem dX3_boat_97 : decode cX3_boat 97 = .ok (.ifCond .eq 15, 3) := dk_153 0 15 (dk_at dksX3_boat_4 3 rfl rfl)
theorem dX3_boat_100 : decode cX3_boat 100 = .ok (.aload_n 0, 1) := dk_42 (dk_at dksX3_boat_4 6 rfl rfl)
theorem dX3_boat_101 : decode cX3_boat 101 = .ok (.iload 6, 2) := dk_21 6 (dk_at dksX3_boat_4 7 rfl rfl)
theorem dX3_boat_103 : decode cX3_boat 103 = .ok (.invokevirtual 161, 3) := dk_182 0 161 (dk_at dksX3_boat_4 9 rfl rfl)
theorem dX3_boat_106 : decode cX3_boat 106 = .ok (.bipush 10, 2) := dk_16 10 (dk_at dksX3_boat_4 12 rfl rfl)
theorem dX3_boat_108 : decode cX3_boat 108 = .ok (.iadd, 1) := dk_96 (dk_at dksX3_boat_4 14 rfl rfl)
theorem dX3_boat_109 : decode cX3_boat 109 = .ok (.goto 4, 3) := dk_167 0 4 (dk_at dksX3_boat_4 15 rfl rfl)
theorem dX3_boat_112 : decode cX3_boat 112 = .ok (.iconst 0, 1) := dk_3 (dk_at dksX3_boat_4 18 rfl rfl)
theorem dX3_boat_113 : decode cX3_boat 113 = .ok (.iadd, 1) := dk_96 (dk_at dksX3_boat_4 19 rfl rfl)
theorem dX3_boat_114 : decode cX3_boat 114 = .ok (.istore 5, 2) := dk_54 5 (dk_at dksX3_boat_4 20 rfl rfl)
theorem dX3_boat_116 : decode cX3_boat 116 = .ok (.iinc 6 1, 3) := dk_132 6 1 (dk_at dksX3_boat_5 0 rfl rfl)
theorem dX3_boat_119 : decode cX3_boat 119 = .ok (.goto (-43), 3) := dk_167 255 213 (dk_at dksX3_boat_5 3 rfl rfl)
theorem dX3_boat_122 : decode cX3_boat 122 = .ok (.iload 4, 2) := dk_21 4 (dk_at dksX3_boat_5 6 rfl rfl)
theorem dX3_boat_124 : decode cX3_boat 124 = .ok (.iload_n 3, 1) := dk_29 (dk_at dksX3_boat_5 8 rfl rfl)
theorem dX3_boat_125 : decode cX3_boat 125 = .ok (.iconst (-1), 1) := dk_2 (dk_at dksX3_boat_5 9 rfl rfl)
theorem dX3_boat_126 : decode cX3_boat 126 = .ok (.ixor, 1) := dk_130 (dk_at dksX3_boat_5 10 rfl rfl)
theorem dX3_boat_127 : decode cX3_boat 127 = .ok (.iand, 1) := dk_126 (dk_at dksX3_boat_5 11 rfl rfl)
theorem dX3_boat_128 : decode cX3_boat 128 = .ok (.ifCond .ne 29, 3) := dk_154 0 29 (dk_at dksX3_boat_5 12 rfl rfl)
theorem dX3_boat_131 : decode cX3_boat 131 = .ok (.iload 5, 2) := dk_21 5 (dk_at dksX3_boat_5 15 rfl rfl)
theorem dX3_boat_133 : decode cX3_boat 133 = .ok (.iload_n 1, 1) := dk_27 (dk_at dksX3_boat_5 17 rfl rfl)
theorem dX3_boat_134 : decode cX3_boat 134 = .ok (.if_icmp .gt 23, 3) := dk_163 0 23 (dk_at dksX3_boat_5 18 rfl rfl)
theorem dX3_boat_137 : decode cX3_boat 137 = .ok (.aload_n 0, 1) := dk_42 (dk_at dksX3_boat_5 21 rfl rfl)
theorem dX3_boat_138 : decode cX3_boat 138 = .ok (.getfield 47, 3) := dk_180 0 47 (dk_at dksX3_boat_6 0 rfl rfl)
theorem dX3_boat_141 : decode cX3_boat 141 = .ok (.iload_n 3, 1) := dk_29 (dk_at dksX3_boat_6 3 rfl rfl)
theorem dX3_boat_142 : decode cX3_boat 142 = .ok (.iload 4, 2) := dk_21 4 (dk_at dksX3_boat_6 4 rfl rfl)
theorem dX3_boat_144 : decode cX3_boat 144 = .ok (.iconst (-1), 1) := dk_2 (dk_at dksX3_boat_6 6 rfl rfl)
theorem dX3_boat_145 : decode cX3_boat 145 = .ok (.ixor, 1) := dk_130 (dk_at dksX3_boat_6 7 rfl rfl)
theorem dX3_boat_146 : decode cX3_boat 146 = .ok (.iand, 1) := dk_126 (dk_at dksX3_boat_6 8 rfl rfl)
theorem dX3_boat_147 : decode cX3_boat 147 = .ok (.iaload, 1) := dk_46 (dk_at dksX3_boat_6 9 rfl rfl)
theorem dX3_boat_148 : decode cX3_boat 148 = .ok (.ldc 217, 2) := dk_18 217 (dk_at dksX3_boat_6 10 rfl rfl)
theorem dX3_boat_150 : decode cX3_boat 150 = .ok (.if_icmp .ge 7, 3) := dk_162 0 7 (dk_at dksX3_boat_6 12 rfl rfl)
theorem dX3_boat_153 : decode cX3_boat 153 = .ok (.iconst 1, 1) := dk_4 (dk_at dksX3_boat_6 15 rfl rfl)
theorem dX3_boat_154 : decode cX3_boat 154 = .ok (.goto 4, 3) := dk_167 0 4 (dk_at dksX3_boat_6 16 rfl rfl)
theorem dX3_boat_157 : decode cX3_boat 157 = .ok (.iconst 0, 1) := dk_3 (dk_at dksX3_boat_6 19 rfl rfl)
theorem dX3_boat_158 : decode cX3_boat 158 = .ok (.istore 6, 2) := dk_54 6 (dk_at dksX3_boat_6 20 rfl rfl)
theorem dX3_boat_160 : decode cX3_boat 160 = .ok (.aload_n 0, 1) := dk_42 (dk_at dksX3_boat_6 22 rfl rfl)
theorem dX3_boat_161 : decode cX3_boat 161 = .ok (.getfield 47, 3) := dk_180 0 47 (dk_at dksX3_boat_7 0 rfl rfl)
theorem dX3_boat_164 : decode cX3_boat 164 = .ok (.iload_n 3, 1) := dk_29 (dk_at dksX3_boat_7 3 rfl rfl)
theorem dX3_boat_165 : decode cX3_boat 165 = .ok (.iload 6, 2) := dk_21 6 (dk_at dksX3_boat_7 4 rfl rfl)
theorem dX3_boat_167 : decode cX3_boat 167 = .ok (.ifCond .eq 28, 3) := dk_153 0 28 (dk_at dksX3_boat_7 6 rfl rfl)
theorem dX3_boat_170 : decode cX3_boat 170 = .ok (.aload_n 0, 1) := dk_42 (dk_at dksX3_boat_7 9 rfl rfl)
theorem dX3_boat_171 : decode cX3_boat 171 = .ok (.getfield 47, 3) := dk_180 0 47 (dk_at dksX3_boat_7 10 rfl rfl)
theorem dX3_boat_174 : decode cX3_boat 174 = .ok (.iload_n 3, 1) := dk_29 (dk_at dksX3_boat_7 13 rfl rfl)
theorem dX3_boat_175 : decode cX3_boat 175 = .ok (.iaload, 1) := dk_46 (dk_at dksX3_boat_7 14 rfl rfl)
theorem dX3_boat_176 : decode cX3_boat 176 = .ok (.iconst 1, 1) := dk_4 (dk_at dksX3_boat_7 15 rfl rfl)
theorem dX3_boat_177 : decode cX3_boat 177 = .ok (.aload_n 0, 1) := dk_42 (dk_at dksX3_boat_7 16 rfl rfl)
theorem dX3_boat_178 : decode cX3_boat 178 = .ok (.getfield 47, 3) := dk_180 0 47 (dk_at dksX3_boat_7 17 rfl rfl)
theorem dX3_boat_181 : decode cX3_boat 181 = .ok (.iload_n 3, 1) := dk_29 (dk_at dksX3_boat_7 20 rfl rfl)
theorem dX3_boat_182 : decode cX3_boat 182 = .ok (.iload 4, 2) := dk_21 4 (dk_at dksX3_boat_7 21 rfl rfl)
theorem dX3_boat_184 : decode cX3_boat 184 = .ok (.iconst (-1), 1) := dk_2 (dk_at dksX3_boat_7 23 rfl rfl)
theorem dX3_boat_185 : decode cX3_boat 185 = .ok (.ixor, 1) := dk_130 (dk_at dksX3_boat_8 0 rfl rfl)
theorem dX3_boat_186 : decode cX3_boat 186 = .ok (.iand, 1) := dk_126 (dk_at dksX3_boat_8 1 rfl rfl)
theorem dX3_boat_187 : decode cX3_boat 187 = .ok (.iaload, 1) := dk_46 (dk_at dksX3_boat_8 2 rfl rfl)
theorem dX3_boat_188 : decode cX3_boat 188 = .ok (.iadd, 1) := dk_96 (dk_at dksX3_boat_8 3 rfl rfl)
theorem dX3_boat_189 : decode cX3_boat 189 = .ok (.invokestatic 155, 3) := dk_184 0 155 (dk_at dksX3_boat_8 4 rfl rfl)
theorem dX3_boat_192 : decode cX3_boat 192 = .ok (.goto 9, 3) := dk_167 0 9 (dk_at dksX3_boat_8 7 rfl rfl)
theorem dX3_boat_195 : decode cX3_boat 195 = .ok (.aload_n 0, 1) := dk_42 (dk_at dksX3_boat_8 10 rfl rfl)
theorem dX3_boat_196 : decode cX3_boat 196 = .ok (.getfield 47, 3) := dk_180 0 47 (dk_at dksX3_boat_8 11 rfl rfl)
theorem dX3_boat_199 : decode cX3_boat 199 = .ok (.iload_n 3, 1) := dk_29 (dk_at dksX3_boat_8 14 rfl rfl)
theorem dX3_boat_200 : decode cX3_boat 200 = .ok (.iaload, 1) := dk_46 (dk_at dksX3_boat_8 15 rfl rfl)
theorem dX3_boat_201 : decode cX3_boat 201 = .ok (.iastore, 1) := dk_79 (dk_at dksX3_boat_8 16 rfl rfl)
theorem dX3_boat_202 : decode cX3_boat 202 = .ok (.iinc 4 1, 3) := dk_132 4 1 (dk_at dksX3_boat_8 17 rfl rfl)
theorem dX3_boat_205 : decode cX3_boat 205 = .ok (.goto (-141), 3) := dk_167 255 115 (dk_at dksX3_boat_8 20 rfl rfl)
theorem dX3_boat_208 : decode cX3_boat 208 = .ok (.iinc 3 1, 3) := dk_132 3 1 (dk_at dksX3_boat_9 0 rfl rfl)
theorem dX3_boat_211 : decode cX3_boat 211 = .ok (.goto (-163), 3) := dk_167 255 93 (dk_at dksX3_boat_9 3 rfl rfl)
theorem dX3_boat_214 : decode cX3_boat 214 = .ok (.aload_n 0, 1) := dk_42 (dk_at dksX3_boat_9 6 rfl rfl)
theorem dX3_boat_215 : decode cX3_boat 215 = .ok (.getfield 47, 3) := dk_180 0 47 (dk_at dksX3_boat_9 7 rfl rfl)
theorem dX3_boat_218 : decode cX3_boat 218 = .ok (.iload_n 2, 1) := dk_28 (dk_at dksX3_boat_9 10 rfl rfl)
theorem dX3_boat_219 : decode cX3_boat 219 = .ok (.iaload, 1) := dk_46 (dk_at dksX3_boat_9 11 rfl rfl)
theorem dX3_boat_220 : decode cX3_boat 220 = .ok (.ldc 217, 2) := dk_18 217 (dk_at dksX3_boat_9 12 rfl rfl)
theorem dX3_boat_222 : decode cX3_boat 222 = .ok (.if_icmp .ne 8, 3) := dk_160 0 8 (dk_at dksX3_boat_9 14 rfl rfl)
theorem dX3_boat_225 : decode cX3_boat 225 = .ok (.ldc 211, 2) := dk_18 211 (dk_at dksX3_boat_9 17 rfl rfl)
theorem dX3_boat_227 : decode cX3_boat 227 = .ok (.goto 9, 3) := dk_167 0 9 (dk_at dksX3_boat_9 19 rfl rfl)
theorem dX3_boat_230 : decode cX3_boat 230 = .ok (.aload_n 0, 1) := dk_42 (dk_at dksX3_boat_9 22 rfl rfl)
theorem dX3_boat_231 : decode cX3_boat 231 = .ok (.getfield 47, 3) := dk_180 0 47 (dk_at dksX3_boat_10 0 rfl rfl)
theorem dX3_boat_234 : decode cX3_boat 234 = .ok (.iload_n 2, 1) := dk_28 (dk_at dksX3_boat_10 3 rfl rfl)
theorem dX3_boat_235 : decode cX3_boat 235 = .ok (.iaload, 1) := dk_46 (dk_at dksX3_boat_10 4 rfl rfl)
theorem dX3_boat_236 : decode cX3_boat 236 = .ok (.ireturn, 1) := dk_172 (dk_at dksX3_boat_10 5 rfl rfl)
abbrev cX3_votes : ByteArray := prog_16_method_57_code
def yX3_votes : MethodName := ⟨RX3, "votes", "(I)I"⟩
def dkwX3_votes_1 : List UInt8 := [182, 0, 221, 167, 0, 5, 18, 73, 172]
abbrev dktX3_votes_1 : List UInt8 := dkwX3_votes_1 ++ []
def dkwX3_votes_0 : List UInt8 := [42, 27, 182, 0, 169, 153, 0, 24, 42, 180, 0, 7, 16, 10, 27, 96, 46, 5, 160, 0, 11, 42, 27]
abbrev dktX3_votes_0 : List UInt8 := dkwX3_votes_0 ++ dktX3_votes_1
theorem dksX3_votes_0 : cX3_votes.data.toList.drop 0 = dktX3_votes_0 := by decide +kernel
theorem dksX3_votes_1 : cX3_votes.data.toList.drop 23 = dktX3_votes_1 := dk_seg dksX3_votes_0 23 rfl rfl
theorem dX3_votes_0 : decode cX3_votes 0 = .ok (.aload_n 0, 1) := dk_42 (dk_at dksX3_votes_0 0 rfl rfl)
theorem dX3_votes_1 : decode cX3_votes 1 = .ok (.iload_n 1, 1) := dk_27 (dk_at dksX3_votes_0 1 rfl rfl)
theorem dX3_votes_2 : decode cX3_votes 2 = .ok (.invokevirtual 169, 3) := dk_182 0 169 (dk_at dksX3_votes_0 2 rfl rfl)
theorem dX3_votes_5 : decode cX3_votes 5 = .ok (.ifCond .eq 24, 3) := dk_153 0 24 (dk_at dksX3_votes_0 5 rfl rfl)
theorem dX3_votes_8 : decode cX3_votes 8 = .ok (.aload_n 0, 1) := dk_42 (dk_at dksX3_votes_0 8 rfl rfl)
theorem dX3_votes_9 : decode cX3_votes 9 = .ok (.getfield 7, 3) := dk_180 0 7 (dk_at dksX3_votes_0 9 rfl rfl)
theorem dX3_votes_12 : decode cX3_votes 12 = .ok (.bipush 10, 2) := dk_16 10 (dk_at dksX3_votes_0 12 rfl rfl)
theorem dX3_votes_14 : decode cX3_votes 14 = .ok (.iload_n 1, 1) := dk_27 (dk_at dksX3_votes_0 14 rfl rfl)
theorem dX3_votes_15 : decode cX3_votes 15 = .ok (.iadd, 1) := dk_96 (dk_at dksX3_votes_0 15 rfl rfl)
theorem dX3_votes_16 : decode cX3_votes 16 = .ok (.iaload, 1) := dk_46 (dk_at dksX3_votes_0 16 rfl rfl)
theorem dX3_votes_17 : decode cX3_votes 17 = .ok (.iconst 2, 1) := dk_5 (dk_at dksX3_votes_0 17 rfl rfl)
theorem dX3_votes_18 : decode cX3_votes 18 = .ok (.if_icmp .ne 11, 3) := dk_160 0 11 (dk_at dksX3_votes_0 18 rfl rfl)
theorem dX3_votes_21 : decode cX3_votes 21 = .ok (.aload_n 0, 1) := dk_42 (dk_at dksX3_votes_0 21 rfl rfl)
theorem dX3_votes_22 : decode cX3_votes 22 = .ok (.iload_n 1, 1) := dk_27 (dk_at dksX3_votes_0 22 rfl rfl)
theorem dX3_votes_23 : decode cX3_votes 23 = .ok (.invokevirtual 221, 3) := dk_182 0 221 (dk_at dksX3_votes_1 0 rfl rfl)
theorem dX3_votes_26 : decode cX3_votes 26 = .ok (.goto 5, 3) := dk_167 0 5 (dk_at dksX3_votes_1 3 rfl rfl)
theorem dX3_votes_29 : decode cX3_votes 29 = .ok (.ldc 73, 2) := dk_18 73 (dk_at dksX3_votes_1 6 rfl rfl)
theorem dX3_votes_31 : decode cX3_votes 31 = .ok (.ireturn, 1) := dk_172 (dk_at dksX3_votes_1 8 rfl rfl)
abbrev cX3_votesFor : ByteArray := prog_16_method_56_code
def yX3_votesFor : MethodName := ⟨RX3, "votesFor", "(I)I"⟩
def dkwX3_votesFor_1 : List UInt8 := [160, 0, 7, 4, 167, 0, 4, 3, 96, 61, 132, 3, 1, 167, 255, 225, 28, 172]
abbrev dktX3_votesFor_1 : List UInt8 := dkwX3_votesFor_1 ++ []
def dkwX3_votesFor_0 : List UInt8 := [3, 61, 3, 62, 29, 42, 180, 0, 7, 16, 6, 46, 162, 0, 26, 28, 42, 29, 182, 0, 218, 27]
abbrev dktX3_votesFor_0 : List UInt8 := dkwX3_votesFor_0 ++ dktX3_votesFor_1
theorem dksX3_votesFor_0 : cX3_votesFor.data.toList.drop 0 = dktX3_votesFor_0 := by decide +kernel
theorem dksX3_votesFor_1 : cX3_votesFor.data.toList.drop 22 = dktX3_votesFor_1 := dk_seg dksX3_votesFor_0 22 rfl rfl
theorem dX3_votesFor_0 : decode cX3_votesFor 0 = .ok (.iconst 0, 1) := dk_3 (dk_at dksX3_votesFor_0 0 rfl rfl)
theorem dX3_votesFor_1 : decode cX3_votesFor 1 = .ok (.istore_n 2, 1) := dk_61 (dk_at dksX3_votesFor_0 1 rfl rfl)
theorem dX3_votesFor_2 : decode cX3_votesFor 2 = .ok (.iconst 0, 1) := dk_3 (dk_at dksX3_votesFor_0 2 rfl rfl)
theorem dX3_votesFor_3 : decode cX3_votesFor 3 = .ok (.istore_n 3, 1) := dk_62 (dk_at dksX3_votesFor_0 3 rfl rfl)
theorem dX3_votesFor_4 : decode cX3_votesFor 4 = .ok (.iload_n 3, 1) := dk_29 (dk_at dksX3_votesFor_0 4 rfl rfl)
theorem dX3_votesFor_5 : decode cX3_votesFor 5 = .ok (.aload_n 0, 1) := dk_42 (dk_at dksX3_votesFor_0 5 rfl rfl)
theorem dX3_votesFor_6 : decode cX3_votesFor 6 = .ok (.getfield 7, 3) := dk_180 0 7 (dk_at dksX3_votesFor_0 6 rfl rfl)
theorem dX3_votesFor_9 : decode cX3_votesFor 9 = .ok (.bipush 6, 2) := dk_16 6 (dk_at dksX3_votesFor_0 9 rfl rfl)
theorem dX3_votesFor_11 : decode cX3_votesFor 11 = .ok (.iaload, 1) := dk_46 (dk_at dksX3_votesFor_0 11 rfl rfl)
theorem dX3_votesFor_12 : decode cX3_votesFor 12 = .ok (.if_icmp .ge 26, 3) := dk_162 0 26 (dk_at dksX3_votesFor_0 12 rfl rfl)
theorem dX3_votesFor_15 : decode cX3_votesFor 15 = .ok (.iload_n 2, 1) := dk_28 (dk_at dksX3_votesFor_0 15 rfl rfl)
theorem dX3_votesFor_16 : decode cX3_votesFor 16 = .ok (.aload_n 0, 1) := dk_42 (dk_at dksX3_votesFor_0 16 rfl rfl)
theorem dX3_votesFor_17 : decode cX3_votesFor 17 = .ok (.iload_n 3, 1) := dk_29 (dk_at dksX3_votesFor_0 17 rfl rfl)
theorem dX3_votesFor_18 : decode cX3_votesFor 18 = .ok (.invokevirtual 218, 3) := dk_182 0 218 (dk_at dksX3_votesFor_0 18 rfl rfl)
theorem dX3_votesFor_21 : decode cX3_votesFor 21 = .ok (.iload_n 1, 1) := dk_27 (dk_at dksX3_votesFor_0 21 rfl rfl)
theorem dX3_votesFor_22 : decode cX3_votesFor 22 = .ok (.if_icmp .ne 7, 3) := dk_160 0 7 (dk_at dksX3_votesFor_1 0 rfl rfl)
theorem dX3_votesFor_25 : decode cX3_votesFor 25 = .ok (.iconst 1, 1) := dk_4 (dk_at dksX3_votesFor_1 3 rfl rfl)
theorem dX3_votesFor_26 : decode cX3_votesFor 26 = .ok (.goto 4, 3) := dk_167 0 4 (dk_at dksX3_votesFor_1 4 rfl rfl)
theorem dX3_votesFor_29 : decode cX3_votesFor 29 = .ok (.iconst 0, 1) := dk_3 (dk_at dksX3_votesFor_1 7 rfl rfl)
theorem dX3_votesFor_30 : decode cX3_votesFor 30 = .ok (.iadd, 1) := dk_96 (dk_at dksX3_votesFor_1 8 rfl rfl)
theorem dX3_votesFor_31 : decode cX3_votesFor 31 = .ok (.istore_n 2, 1) := dk_61 (dk_at dksX3_votesFor_1 9 rfl rfl)
theorem dX3_votesFor_32 : decode cX3_votesFor 32 = .ok (.iinc 3 1, 3) := dk_132 3 1 (dk_at dksX3_votesFor_1 10 rfl rfl)
theorem dX3_votesFor_35 : decode cX3_votesFor 35 = .ok (.goto (-31), 3) := dk_167 255 225 (dk_at dksX3_votesFor_1 13 rfl rfl)
theorem dX3_votesFor_38 : decode cX3_votesFor 38 = .ok (.iload_n 2, 1) := dk_28 (dk_at dksX3_votesFor_1 16 rfl rfl)
theorem dX3_votesFor_39 : decode cX3_votesFor 39 = .ok (.ireturn, 1) := dk_172 (dk_at dksX3_votesFor_1 17 rfl rfl)
abbrev cX3_voteOf : ByteArray := prog_16_method_55_code
def yX3_voteOf : MethodName := ⟨RX3, "voteOf", "(I)I"⟩
def dkwX3_voteOf_6 : List UInt8 := [132, 4, 1, 167, 255, 120, 28, 172]
abbrev dktX3_voteOf_6 : List UInt8 := dkwX3_voteOf_6 ++ []
def dkwX3_voteOf_5 : List UInt8 := [29, 164, 0, 8, 21, 4, 167, 0, 4, 28, 61, 21, 5, 29, 164, 0, 8, 21, 5, 167, 0, 4, 29, 62]
abbrev dktX3_voteOf_5 : List UInt8 := dkwX3_voteOf_5 ++ dktX3_voteOf_6
def dkwX3_voteOf_4 : List UInt8 := [160, 0, 12, 42, 21, 6, 182, 0, 158, 167, 0, 4, 3, 96, 54, 5, 132, 6, 1, 167, 255, 183, 21, 5]
abbrev dktX3_voteOf_4 : List UInt8 := dkwX3_voteOf_4 ++ dktX3_voteOf_5
def dkwX3_voteOf_3 : List UInt8 := [16, 25, 21, 6, 96, 46, 21, 4, 160, 0, 26, 42, 180, 0, 7, 16, 33, 21, 6, 96, 46, 27]
abbrev dktX3_voteOf_3 : List UInt8 := dkwX3_voteOf_3 ++ dktX3_voteOf_4
def dkwX3_voteOf_2 : List UInt8 := [162, 0, 67, 21, 5, 42, 180, 0, 7, 16, 10, 21, 4, 96, 46, 5, 160, 0, 41, 42, 180, 0, 7]
abbrev dktX3_voteOf_2 : List UInt8 := dkwX3_voteOf_2 ++ dktX3_voteOf_3
def dkwX3_voteOf_1 : List UInt8 := [16, 10, 27, 96, 46, 5, 159, 0, 117, 3, 54, 5, 3, 54, 6, 21, 6, 42, 180, 0, 7, 16, 7, 46]
abbrev dktX3_voteOf_1 : List UInt8 := dkwX3_voteOf_1 ++ dktX3_voteOf_2
def dkwX3_voteOf_0 : List UInt8 := [18, 211, 61, 3, 62, 3, 54, 4, 21, 4, 42, 180, 0, 7, 16, 6, 46, 162, 0, 130, 42, 180, 0, 7]
abbrev dktX3_voteOf_0 : List UInt8 := dkwX3_voteOf_0 ++ dktX3_voteOf_1
theorem dksX3_voteOf_0 : cX3_voteOf.data.toList.drop 0 = dktX3_voteOf_0 := by decide +kernel
theorem dksX3_voteOf_1 : cX3_voteOf.data.toList.drop 24 = dktX3_voteOf_1 := dk_seg dksX3_voteOf_0 24 rfl rfl
theorem dksX3_voteOf_2 : cX3_voteOf.data.toList.drop 48 = dktX3_voteOf_2 := dk_seg dksX3_voteOf_1 24 rfl rfl
theorem dksX3_voteOf_3 : cX3_voteOf.data.toList.drop 71 = dktX3_voteOf_3 := dk_seg dksX3_voteOf_2 23 rfl rfl
theorem dksX3_voteOf_4 : cX3_voteOf.data.toList.drop 93 = dktX3_voteOf_4 := dk_seg dksX3_voteOf_3 22 rfl rfl
theorem dksX3_voteOf_5 : cX3_voteOf.data.toList.drop 117 = dktX3_voteOf_5 := dk_seg dksX3_voteOf_4 24 rfl rfl
theorem dksX3_voteOf_6 : cX3_voteOf.data.toList.drop 141 = dktX3_voteOf_6 := dk_seg dksX3_voteOf_5 24 rfl rfl
theorem dX3_voteOf_0 : decode cX3_voteOf 0 = .ok (.ldc 211, 2) := dk_18 211 (dk_at dksX3_voteOf_0 0 rfl rfl)
theorem dX3_voteOf_2 : decode cX3_voteOf 2 = .ok (.istore_n 2, 1) := dk_61 (dk_at dksX3_voteOf_0 2 rfl rfl)
theorem dX3_voteOf_3 : decode cX3_voteOf 3 = .ok (.iconst 0, 1) := dk_3 (dk_at dksX3_voteOf_0 3 rfl rfl)
theorem dX3_voteOf_4 : decode cX3_voteOf 4 = .ok (.istore_n 3, 1) := dk_62 (dk_at dksX3_voteOf_0 4 rfl rfl)
theorem dX3_voteOf_5 : decode cX3_voteOf 5 = .ok (.iconst 0, 1) := dk_3 (dk_at dksX3_voteOf_0 5 rfl rfl)
theorem dX3_voteOf_6 : decode cX3_voteOf 6 = .ok (.istore 4, 2) := dk_54 4 (dk_at dksX3_voteOf_0 6 rfl rfl)
theorem dX3_voteOf_8 : decode cX3_voteOf 8 = .ok (.iload 4, 2) := dk_21 4 (dk_at dksX3_voteOf_0 8 rfl rfl)
theorem dX3_voteOf_10 : decode cX3_voteOf 10 = .ok (.aload_n 0, 1) := dk_42 (dk_at dksX3_voteOf_0 10 rfl rfl)
theorem dX3_voteOf_11 : decode cX3_voteOf 11 = .ok (.getfield 7, 3) := dk_180 0 7 (dk_at dksX3_voteOf_0 11 rfl rfl)
theorem dX3_voteOf_14 : decode cX3_voteOf 14 = .ok (.bipush 6, 2) := dk_16 6 (dk_at dksX3_voteOf_0 14 rfl rfl)
theorem dX3_voteOf_16 : decode cX3_voteOf 16 = .ok (.iaload, 1) := dk_46 (dk_at dksX3_voteOf_0 16 rfl rfl)
theorem dX3_voteOf_17 : decode cX3_voteOf 17 = .ok (.if_icmp .ge 130, 3) := dk_162 0 130 (dk_at dksX3_voteOf_0 17 rfl rfl)
theorem dX3_voteOf_20 : decode cX3_voteOf 20 = .ok (.aload_n 0, 1) := dk_42 (dk_at dksX3_voteOf_0 20 rfl rfl)
theorem dX3_voteOf_21 : decode cX3_voteOf 21 = .ok (.getfield 7, 3) := dk_180 0 7 (dk_at dksX3_voteOf_0 21 rfl rfl)
theorem dX3_voteOf_24 : decode cX3_voteOf 24 = .ok (.bipush 10, 2) := dk_16 10 (dk_at dksX3_voteOf_1 0 rfl rfl)
theorem dX3_voteOf_26 : decode cX3_voteOf 26 = .ok (.iload_n 1, 1) := dk_27 (dk_at dksX3_voteOf_1 2 rfl rfl)
theorem dX3_voteOf_27 : decode cX3_voteOf 27 = .ok (.iadd, 1) := dk_96 (dk_at dksX3_voteOf_1 3 rfl rfl)
theorem dX3_voteOf_28 : decode cX3_voteOf 28 = .ok (.iaload, 1) := dk_46 (dk_at dksX3_voteOf_1 4 rfl rfl)
theorem dX3_voteOf_29 : decode cX3_voteOf 29 = .ok (.iconst 2, 1) := dk_5 (dk_at dksX3_voteOf_1 5 rfl rfl)
theorem dX3_voteOf_30 : decode cX3_voteOf 30 = .ok (.if_icmp .eq 117, 3) := dk_159 0 117 (dk_at dksX3_voteOf_1 6 rfl rfl)
theorem dX3_voteOf_33 : decode cX3_voteOf 33 = .ok (.iconst 0, 1) := dk_3 (dk_at dksX3_voteOf_1 9 rfl rfl)
theorem dX3_voteOf_34 : decode cX3_voteOf 34 = .ok (.istore 5, 2) := dk_54 5 (dk_at dksX3_voteOf_1 10 rfl rfl)
theorem dX3_voteOf_36 : decode cX3_voteOf 36 = .ok (.iconst 0, 1) := dk_3 (dk_at dksX3_voteOf_1 12 rfl rfl)
theorem dX3_voteOf_37 : decode cX3_voteOf 37 = .ok (.istore 6, 2) := dk_54 6 (dk_at dksX3_voteOf_1 13 rfl rfl)
theorem dX3_voteOf_39 : decode cX3_voteOf 39 = .ok (.iload 6, 2) := dk_21 6 (dk_at dksX3_voteOf_1 15 rfl rfl)
theorem dX3_voteOf_41 : decode cX3_voteOf 41 = .ok (.aload_n 0, 1) := dk_42 (dk_at dksX3_voteOf_1 17 rfl rfl)
theorem dX3_voteOf_42 : decode cX3_voteOf 42 = .ok (.getfield 7, 3) := dk_180 0 7 (dk_at dksX3_voteOf_1 18 rfl rfl)
theorem dX3_voteOf_45 : decode cX3_voteOf 45 = .ok (.bipush 7, 2) := dk_16 7 (dk_at dksX3_voteOf_1 21 rfl rfl)
theorem dX3_voteOf_47 : decode cX3_voteOf 47 = .ok (.iaload, 1) := dk_46 (dk_at dksX3_voteOf_1 23 rfl rfl)
theorem dX3_voteOf_48 : decode cX3_voteOf 48 = .ok (.if_icmp .ge 67, 3) := dk_162 0 67 (dk_at dksX3_voteOf_2 0 rfl rfl)
theorem dX3_voteOf_51 : decode cX3_voteOf 51 = .ok (.iload 5, 2) := dk_21 5 (dk_at dksX3_voteOf_2 3 rfl rfl)
theorem dX3_voteOf_53 : decode cX3_voteOf 53 = .ok (.aload_n 0, 1) := dk_42 (dk_at dksX3_voteOf_2 5 rfl rfl)
theorem dX3_voteOf_54 : decode cX3_voteOf 54 = .ok (.getfield 7, 3) := dk_180 0 7 (dk_at dksX3_voteOf_2 6 rfl rfl)
theorem dX3_voteOf_57 : decode cX3_voteOf 57 = .ok (.bipush 10, 2) := dk_16 10 (dk_at dksX3_voteOf_2 9 rfl rfl)
theorem dX3_voteOf_59 : decode cX3_voteOf 59 = .ok (.iload 4, 2) := dk_21 4 (dk_at dksX3_voteOf_2 11 rfl rfl)
theorem dX3_voteOf_61 : decode cX3_voteOf 61 = .ok (.iadd, 1) := dk_96 (dk_at dksX3_voteOf_2 13 rfl rfl)
theorem dX3_voteOf_62 : decode cX3_voteOf 62 = .ok (.iaload, 1) := dk_46 (dk_at dksX3_voteOf_2 14 rfl rfl)
theorem dX3_voteOf_63 : decode cX3_voteOf 63 = .ok (.iconst 2, 1) := dk_5 (dk_at dksX3_voteOf_2 15 rfl rfl)
theorem dX3_voteOf_64 : decode cX3_voteOf 64 = .ok (.if_icmp .ne 41, 3) := dk_160 0 41 (dk_at dksX3_voteOf_2 16 rfl rfl)
theorem dX3_voteOf_67 : decode cX3_voteOf 67 = .ok (.aload_n 0, 1) := dk_42 (dk_at dksX3_voteOf_2 19 rfl rfl)
theorem dX3_voteOf_68 : decode cX3_voteOf 68 = .ok (.getfield 7, 3) := dk_180 0 7 (dk_at dksX3_voteOf_2 20 rfl rfl)
theorem dX3_voteOf_71 : decode cX3_voteOf 71 = .ok (.bipush 25, 2) := dk_16 25 (dk_at dksX3_voteOf_3 0 rfl rfl)
theorem dX3_voteOf_73 : decode cX3_voteOf 73 = .ok (.iload 6, 2) := dk_21 6 (dk_at dksX3_voteOf_3 2 rfl rfl)
theorem dX3_voteOf_75 : decode cX3_voteOf 75 = .ok (.iadd, 1) := dk_96 (dk_at dksX3_voteOf_3 4 rfl rfl)
theorem dX3_voteOf_76 : decode cX3_voteOf 76 = .ok (.iaload, 1) := dk_46 (dk_at dksX3_voteOf_3 5 rfl rfl)
theorem dX3_voteOf_77 : decode cX3_voteOf 77 = .ok (.iload 4, 2) := dk_21 4 (dk_at dksX3_voteOf_3 6 rfl rfl)
theorem dX3_voteOf_79 : decode cX3_voteOf 79 = .ok (.if_icmp .ne 26, 3) := dk_160 0 26 (dk_at dksX3_voteOf_3 8 rfl rfl)
theorem dX3_voteOf_82 : decode cX3_voteOf 82 = .ok (.aload_n 0, 1) := dk_42 (dk_at dksX3_voteOf_3 11 rfl rfl)
theorem dX3_voteOf_83 : decode cX3_voteOf 83 = .ok (.getfield 7, 3) := dk_180 0 7 (dk_at dksX3_voteOf_3 12 rfl rfl)
theorem dX3_voteOf_86 : decode cX3_voteOf 86 = .ok (.bipush 33, 2) := dk_16 33 (dk_at dksX3_voteOf_3 15 rfl rfl)
theorem dX3_voteOf_88 : decode cX3_voteOf 88 = .ok (.iload 6, 2) := dk_21 6 (dk_at dksX3_voteOf_3 17 rfl rfl)
theorem dX3_voteOf_90 : decode cX3_voteOf 90 = .ok (.iadd, 1) := dk_96 (dk_at dksX3_voteOf_3 19 rfl rfl)
theorem dX3_voteOf_91 : decode cX3_voteOf 91 = .ok (.iaload, 1) := dk_46 (dk_at dksX3_voteOf_3 20 rfl rfl)
theorem dX3_voteOf_92 : decode cX3_voteOf 92 = .ok (.iload_n 1, 1) := dk_27 (dk_at dksX3_voteOf_3 21 rfl rfl)
theorem dX3_voteOf_93 : decode cX3_voteOf 93 = .ok (.if_icmp .ne 12, 3) := dk_160 0 12 (dk_at dksX3_voteOf_4 0 rfl rfl)
theorem dX3_voteOf_96 : decode cX3_voteOf 96 = .ok (.aload_n 0, 1) := dk_42 (dk_at dksX3_voteOf_4 3 rfl rfl)
theorem dX3_voteOf_97 : decode cX3_voteOf 97 = .ok (.iload 6, 2) := dk_21 6 (dk_at dksX3_voteOf_4 4 rfl rfl)
theorem dX3_voteOf_99 : decode cX3_voteOf 99 = .ok (.invokevirtual 158, 3) := dk_182 0 158 (dk_at dksX3_voteOf_4 6 rfl rfl)
theorem dX3_voteOf_102 : decode cX3_voteOf 102 = .ok (.goto 4, 3) := dk_167 0 4 (dk_at dksX3_voteOf_4 9 rfl rfl)
theorem dX3_voteOf_105 : decode cX3_voteOf 105 = .ok (.iconst 0, 1) := dk_3 (dk_at dksX3_voteOf_4 12 rfl rfl)
theorem dX3_voteOf_106 : decode cX3_voteOf 106 = .ok (.iadd, 1) := dk_96 (dk_at dksX3_voteOf_4 13 rfl rfl)
theorem dX3_voteOf_107 : decode cX3_voteOf 107 = .ok (.istore 5, 2) := dk_54 5 (dk_at dksX3_voteOf_4 14 rfl rfl)
theorem dX3_voteOf_109 : decode cX3_voteOf 109 = .ok (.iinc 6 1, 3) := dk_132 6 1 (dk_at dksX3_voteOf_4 16 rfl rfl)
theorem dX3_voteOf_112 : decode cX3_voteOf 112 = .ok (.goto (-73), 3) := dk_167 255 183 (dk_at dksX3_voteOf_4 19 rfl rfl)
theorem dX3_voteOf_115 : decode cX3_voteOf 115 = .ok (.iload 5, 2) := dk_21 5 (dk_at dksX3_voteOf_4 22 rfl rfl)
theorem dX3_voteOf_117 : decode cX3_voteOf 117 = .ok (.iload_n 3, 1) := dk_29 (dk_at dksX3_voteOf_5 0 rfl rfl)
theorem dX3_voteOf_118 : decode cX3_voteOf 118 = .ok (.if_icmp .le 8, 3) := dk_164 0 8 (dk_at dksX3_voteOf_5 1 rfl rfl)
theorem dX3_voteOf_121 : decode cX3_voteOf 121 = .ok (.iload 4, 2) := dk_21 4 (dk_at dksX3_voteOf_5 4 rfl rfl)
theorem dX3_voteOf_123 : decode cX3_voteOf 123 = .ok (.goto 4, 3) := dk_167 0 4 (dk_at dksX3_voteOf_5 6 rfl rfl)
theorem dX3_voteOf_126 : decode cX3_voteOf 126 = .ok (.iload_n 2, 1) := dk_28 (dk_at dksX3_voteOf_5 9 rfl rfl)
theorem dX3_voteOf_127 : decode cX3_voteOf 127 = .ok (.istore_n 2, 1) := dk_61 (dk_at dksX3_voteOf_5 10 rfl rfl)
theorem dX3_voteOf_128 : decode cX3_voteOf 128 = .ok (.iload 5, 2) := dk_21 5 (dk_at dksX3_voteOf_5 11 rfl rfl)
theorem dX3_voteOf_130 : decode cX3_voteOf 130 = .ok (.iload_n 3, 1) := dk_29 (dk_at dksX3_voteOf_5 13 rfl rfl)
theorem dX3_voteOf_131 : decode cX3_voteOf 131 = .ok (.if_icmp .le 8, 3) := dk_164 0 8 (dk_at dksX3_voteOf_5 14 rfl rfl)
theorem dX3_voteOf_134 : decode cX3_voteOf 134 = .ok (.iload 5, 2) := dk_21 5 (dk_at dksX3_voteOf_5 17 rfl rfl)
theorem dX3_voteOf_136 : decode cX3_voteOf 136 = .ok (.goto 4, 3) := dk_167 0 4 (dk_at dksX3_voteOf_5 19 rfl rfl)
theorem dX3_voteOf_139 : decode cX3_voteOf 139 = .ok (.iload_n 3, 1) := dk_29 (dk_at dksX3_voteOf_5 22 rfl rfl)
theorem dX3_voteOf_140 : decode cX3_voteOf 140 = .ok (.istore_n 3, 1) := dk_62 (dk_at dksX3_voteOf_5 23 rfl rfl)
theorem dX3_voteOf_141 : decode cX3_voteOf 141 = .ok (.iinc 4 1, 3) := dk_132 4 1 (dk_at dksX3_voteOf_6 0 rfl rfl)
theorem dX3_voteOf_144 : decode cX3_voteOf 144 = .ok (.goto (-136), 3) := dk_167 255 120 (dk_at dksX3_voteOf_6 3 rfl rfl)
theorem dX3_voteOf_147 : decode cX3_voteOf 147 = .ok (.iload_n 2, 1) := dk_28 (dk_at dksX3_voteOf_6 6 rfl rfl)
theorem dX3_voteOf_148 : decode cX3_voteOf 148 = .ok (.ireturn, 1) := dk_172 (dk_at dksX3_voteOf_6 7 rfl rfl)
abbrev cX3_wins : ByteArray := prog_16_method_58_code
def yX3_wins : MethodName := ⟨RX3, "wins", "()I"⟩
def dkwX3_wins_3 : List UInt8 := [27, 60, 21, 4, 28, 164, 0, 8, 21, 4, 167, 0, 4, 28, 61, 132, 3, 1, 167, 255, 185, 27, 172]
abbrev dktX3_wins_3 : List UInt8 := dkwX3_wins_3 ++ []
def dkwX3_wins_2 : List UInt8 := [154, 0, 11, 42, 29, 182, 0, 221, 167, 0, 4, 2, 54, 4, 21, 4, 28, 164, 0, 7, 29, 167, 0, 4]
abbrev dktX3_wins_2 : List UInt8 := dkwX3_wins_2 ++ dktX3_wins_3
def dkwX3_wins_1 : List UInt8 := [46, 162, 0, 66, 42, 180, 0, 7, 16, 10, 29, 96, 46, 5, 160, 0, 19, 42, 29, 182, 0, 195]
abbrev dktX3_wins_1 : List UInt8 := dkwX3_wins_1 ++ dktX3_wins_2
def dkwX3_wins_0 : List UInt8 := [42, 182, 0, 185, 153, 0, 6, 18, 154, 172, 18, 211, 60, 2, 61, 3, 62, 29, 42, 180, 0, 7, 16, 6]
abbrev dktX3_wins_0 : List UInt8 := dkwX3_wins_0 ++ dktX3_wins_1
theorem dksX3_wins_0 : cX3_wins.data.toList.drop 0 = dktX3_wins_0 := by decide +kernel
theorem dksX3_wins_1 : cX3_wins.data.toList.drop 24 = dktX3_wins_1 := dk_seg dksX3_wins_0 24 rfl rfl
theorem dksX3_wins_2 : cX3_wins.data.toList.drop 46 = dktX3_wins_2 := dk_seg dksX3_wins_1 22 rfl rfl
theorem dksX3_wins_3 : cX3_wins.data.toList.drop 70 = dktX3_wins_3 := dk_seg dksX3_wins_2 24 rfl rfl
theorem dX3_wins_0 : decode cX3_wins 0 = .ok (.aload_n 0, 1) := dk_42 (dk_at dksX3_wins_0 0 rfl rfl)
theorem dX3_wins_1 : decode cX3_wins 1 = .ok (.invokevirtual 185, 3) := dk_182 0 185 (dk_at dksX3_wins_0 1 rfl rfl)
theorem dX3_wins_4 : decode cX3_wins 4 = .ok (.ifCond .eq 6, 3) := dk_153 0 6 (dk_at dksX3_wins_0 4 rfl rfl)
theorem dX3_wins_7 : decode cX3_wins 7 = .ok (.ldc 154, 2) := dk_18 154 (dk_at dksX3_wins_0 7 rfl rfl)
theorem dX3_wins_9 : decode cX3_wins 9 = .ok (.ireturn, 1) := dk_172 (dk_at dksX3_wins_0 9 rfl rfl)
theorem dX3_wins_10 : decode cX3_wins 10 = .ok (.ldc 211, 2) := dk_18 211 (dk_at dksX3_wins_0 10 rfl rfl)
theorem dX3_wins_12 : decode cX3_wins 12 = .ok (.istore_n 1, 1) := dk_60 (dk_at dksX3_wins_0 12 rfl rfl)
theorem dX3_wins_13 : decode cX3_wins 13 = .ok (.iconst (-1), 1) := dk_2 (dk_at dksX3_wins_0 13 rfl rfl)
theorem dX3_wins_14 : decode cX3_wins 14 = .ok (.istore_n 2, 1) := dk_61 (dk_at dksX3_wins_0 14 rfl rfl)
theorem dX3_wins_15 : decode cX3_wins 15 = .ok (.iconst 0, 1) := dk_3 (dk_at dksX3_wins_0 15 rfl rfl)
theorem dX3_wins_16 : decode cX3_wins 16 = .ok (.istore_n 3, 1) := dk_62 (dk_at dksX3_wins_0 16 rfl rfl)
theorem dX3_wins_17 : decode cX3_wins 17 = .ok (.iload_n 3, 1) := dk_29 (dk_at dksX3_wins_0 17 rfl rfl)
theorem dX3_wins_18 : decode cX3_wins 18 = .ok (.aload_n 0, 1) := dk_42 (dk_at dksX3_wins_0 18 rfl rfl)
theorem dX3_wins_19 : decode cX3_wins 19 = .ok (.getfield 7, 3) := dk_180 0 7 (dk_at dksX3_wins_0 19 rfl rfl)
theorem dX3_wins_22 : decode cX3_wins 22 = .ok (.bipush 6, 2) := dk_16 6 (dk_at dksX3_wins_0 22 rfl rfl)
theorem dX3_wins_24 : decode cX3_wins 24 = .ok (.iaload, 1) := dk_46 (dk_at dksX3_wins_1 0 rfl rfl)
theorem dX3_wins_25 : decode cX3_wins 25 = .ok (.if_icmp .ge 66, 3) := dk_162 0 66 (dk_at dksX3_wins_1 1 rfl rfl)
theorem dX3_wins_28 : decode cX3_wins 28 = .ok (.aload_n 0, 1) := dk_42 (dk_at dksX3_wins_1 4 rfl rfl)
theorem dX3_wins_29 : decode cX3_wins 29 = .ok (.getfield 7, 3) := dk_180 0 7 (dk_at dksX3_wins_1 5 rfl rfl)
theorem dX3_wins_32 : decode cX3_wins 32 = .ok (.bipush 10, 2) := dk_16 10 (dk_at dksX3_wins_1 8 rfl rfl)
theorem dX3_wins_34 : decode cX3_wins 34 = .ok (.iload_n 3, 1) := dk_29 (dk_at dksX3_wins_1 10 rfl rfl)
theorem dX3_wins_35 : decode cX3_wins 35 = .ok (.iadd, 1) := dk_96 (dk_at dksX3_wins_1 11 rfl rfl)
theorem dX3_wins_36 : decode cX3_wins 36 = .ok (.iaload, 1) := dk_46 (dk_at dksX3_wins_1 12 rfl rfl)
theorem dX3_wins_37 : decode cX3_wins 37 = .ok (.iconst 2, 1) := dk_5 (dk_at dksX3_wins_1 13 rfl rfl)
theorem dX3_wins_38 : decode cX3_wins 38 = .ok (.if_icmp .ne 19, 3) := dk_160 0 19 (dk_at dksX3_wins_1 14 rfl rfl)
theorem dX3_wins_41 : decode cX3_wins 41 = .ok (.aload_n 0, 1) := dk_42 (dk_at dksX3_wins_1 17 rfl rfl)
theorem dX3_wins_42 : decode cX3_wins 42 = .ok (.iload_n 3, 1) := dk_29 (dk_at dksX3_wins_1 18 rfl rfl)
theorem dX3_wins_43 : decode cX3_wins 43 = .ok (.invokevirtual 195, 3) := dk_182 0 195 (dk_at dksX3_wins_1 19 rfl rfl)
theorem dX3_wins_46 : decode cX3_wins 46 = .ok (.ifCond .ne 11, 3) := dk_154 0 11 (dk_at dksX3_wins_2 0 rfl rfl)
theorem dX3_wins_49 : decode cX3_wins 49 = .ok (.aload_n 0, 1) := dk_42 (dk_at dksX3_wins_2 3 rfl rfl)
theorem dX3_wins_50 : decode cX3_wins 50 = .ok (.iload_n 3, 1) := dk_29 (dk_at dksX3_wins_2 4 rfl rfl)
theorem dX3_wins_51 : decode cX3_wins 51 = .ok (.invokevirtual 221, 3) := dk_182 0 221 (dk_at dksX3_wins_2 5 rfl rfl)
theorem dX3_wins_54 : decode cX3_wins 54 = .ok (.goto 4, 3) := dk_167 0 4 (dk_at dksX3_wins_2 8 rfl rfl)
theorem dX3_wins_57 : decode cX3_wins 57 = .ok (.iconst (-1), 1) := dk_2 (dk_at dksX3_wins_2 11 rfl rfl)
theorem dX3_wins_58 : decode cX3_wins 58 = .ok (.istore 4, 2) := dk_54 4 (dk_at dksX3_wins_2 12 rfl rfl)
theorem dX3_wins_60 : decode cX3_wins 60 = .ok (.iload 4, 2) := dk_21 4 (dk_at dksX3_wins_2 14 rfl rfl)
theorem dX3_wins_62 : decode cX3_wins 62 = .ok (.iload_n 2, 1) := dk_28 (dk_at dksX3_wins_2 16 rfl rfl)
theorem dX3_wins_63 : decode cX3_wins 63 = .ok (.if_icmp .le 7, 3) := dk_164 0 7 (dk_at dksX3_wins_2 17 rfl rfl)
theorem dX3_wins_66 : decode cX3_wins 66 = .ok (.iload_n 3, 1) := dk_29 (dk_at dksX3_wins_2 20 rfl rfl)
theorem dX3_wins_67 : decode cX3_wins 67 = .ok (.goto 4, 3) := dk_167 0 4 (dk_at dksX3_wins_2 21 rfl rfl)
theorem dX3_wins_70 : decode cX3_wins 70 = .ok (.iload_n 1, 1) := dk_27 (dk_at dksX3_wins_3 0 rfl rfl)
theorem dX3_wins_71 : decode cX3_wins 71 = .ok (.istore_n 1, 1) := dk_60 (dk_at dksX3_wins_3 1 rfl rfl)
theorem dX3_wins_72 : decode cX3_wins 72 = .ok (.iload 4, 2) := dk_21 4 (dk_at dksX3_wins_3 2 rfl rfl)
theorem dX3_wins_74 : decode cX3_wins 74 = .ok (.iload_n 2, 1) := dk_28 (dk_at dksX3_wins_3 4 rfl rfl)
theorem dX3_wins_75 : decode cX3_wins 75 = .ok (.if_icmp .le 8, 3) := dk_164 0 8 (dk_at dksX3_wins_3 5 rfl rfl)
theorem dX3_wins_78 : decode cX3_wins 78 = .ok (.iload 4, 2) := dk_21 4 (dk_at dksX3_wins_3 8 rfl rfl)
theorem dX3_wins_80 : decode cX3_wins 80 = .ok (.goto 4, 3) := dk_167 0 4 (dk_at dksX3_wins_3 10 rfl rfl)
theorem dX3_wins_83 : decode cX3_wins 83 = .ok (.iload_n 2, 1) := dk_28 (dk_at dksX3_wins_3 13 rfl rfl)
theorem dX3_wins_84 : decode cX3_wins 84 = .ok (.istore_n 2, 1) := dk_61 (dk_at dksX3_wins_3 14 rfl rfl)
theorem dX3_wins_85 : decode cX3_wins 85 = .ok (.iinc 3 1, 3) := dk_132 3 1 (dk_at dksX3_wins_3 15 rfl rfl)
theorem dX3_wins_88 : decode cX3_wins 88 = .ok (.goto (-71), 3) := dk_167 255 185 (dk_at dksX3_wins_3 18 rfl rfl)
theorem dX3_wins_91 : decode cX3_wins 91 = .ok (.iload_n 1, 1) := dk_27 (dk_at dksX3_wins_3 21 rfl rfl)
theorem dX3_wins_92 : decode cX3_wins 92 = .ok (.ireturn, 1) := dk_172 (dk_at dksX3_wins_3 22 rfl rfl)
abbrev cX3_law : ByteArray := prog_16_method_60_code
def yX3_law : MethodName := ⟨RX3, "law", "()I"⟩
def dkwX3_law_1 : List UInt8 := [167, 255, 245, 27, 172]
abbrev dktX3_law_1 : List UInt8 := dkwX3_law_1 ++ []
def dkwX3_law_0 : List UInt8 := [42, 182, 0, 185, 153, 0, 6, 18, 154, 172, 16, 40, 60, 42, 27, 182, 0, 224, 154, 0, 9, 132, 1, 255]
abbrev dktX3_law_0 : List UInt8 := dkwX3_law_0 ++ dktX3_law_1
theorem dksX3_law_0 : cX3_law.data.toList.drop 0 = dktX3_law_0 := by decide +kernel
theorem dksX3_law_1 : cX3_law.data.toList.drop 24 = dktX3_law_1 := dk_seg dksX3_law_0 24 rfl rfl
theorem dX3_law_0 : decode cX3_law 0 = .ok (.aload_n 0, 1) := dk_42 (dk_at dksX3_law_0 0 rfl rfl)
theorem dX3_law_1 : decode cX3_law 1 = .ok (.invokevirtual 185, 3) := dk_182 0 185 (dk_at dksX3_law_0 1 rfl rfl)
theorem dX3_law_4 : decode cX3_law 4 = .ok (.ifCond .eq 6, 3) := dk_153 0 6 (dk_at dksX3_law_0 4 rfl rfl)
theorem dX3_law_7 : decode cX3_law 7 = .ok (.ldc 154, 2) := dk_18 154 (dk_at dksX3_law_0 7 rfl rfl)
theorem dX3_law_9 : decode cX3_law 9 = .ok (.ireturn, 1) := dk_172 (dk_at dksX3_law_0 9 rfl rfl)
theorem dX3_law_10 : decode cX3_law 10 = .ok (.bipush 40, 2) := dk_16 40 (dk_at dksX3_law_0 10 rfl rfl)
theorem dX3_law_12 : decode cX3_law 12 = .ok (.istore_n 1, 1) := dk_60 (dk_at dksX3_law_0 12 rfl rfl)
theorem dX3_law_13 : decode cX3_law 13 = .ok (.aload_n 0, 1) := dk_42 (dk_at dksX3_law_0 13 rfl rfl)
theorem dX3_law_14 : decode cX3_law 14 = .ok (.iload_n 1, 1) := dk_27 (dk_at dksX3_law_0 14 rfl rfl)
theorem dX3_law_15 : decode cX3_law 15 = .ok (.invokevirtual 224, 3) := dk_182 0 224 (dk_at dksX3_law_0 15 rfl rfl)
theorem dX3_law_18 : decode cX3_law 18 = .ok (.ifCond .ne 9, 3) := dk_154 0 9 (dk_at dksX3_law_0 18 rfl rfl)
theorem dX3_law_21 : decode cX3_law 21 = .ok (.iinc 1 (-1), 3) := dk_132 1 255 (dk_at dksX3_law_0 21 rfl rfl)
theorem dX3_law_24 : decode cX3_law 24 = .ok (.goto (-11), 3) := dk_167 255 245 (dk_at dksX3_law_1 0 rfl rfl)
theorem dX3_law_27 : decode cX3_law 27 = .ok (.iload_n 1, 1) := dk_27 (dk_at dksX3_law_1 3 rfl rfl)
theorem dX3_law_28 : decode cX3_law 28 = .ok (.ireturn, 1) := dk_172 (dk_at dksX3_law_1 4 rfl rfl)
abbrev cX3_isBorne : ByteArray := prog_16_method_59_code
def yX3_isBorne : MethodName := ⟨RX3, "isBorne", "(I)Z"⟩
def dkwX3_isBorne_4 : List UInt8 := [167, 0, 4, 3, 61, 132, 3, 1, 167, 255, 160, 28, 172]
abbrev dktX3_isBorne_4 : List UInt8 := dkwX3_isBorne_4 ++ []
def dkwX3_isBorne_3 : List UInt8 := [167, 255, 207, 28, 153, 0, 21, 21, 4, 42, 180, 0, 7, 16, 15, 29, 96, 46, 163, 0, 7, 4]
abbrev dktX3_isBorne_3 : List UInt8 := dkwX3_isBorne_3 ++ dktX3_isBorne_4
def dkwX3_isBorne_2 : List UInt8 := [160, 0, 17, 42, 21, 5, 182, 0, 158, 27, 104, 16, 10, 108, 167, 0, 4, 3, 96, 54, 4, 132, 5, 1]
abbrev dktX3_isBorne_2 : List UInt8 := dkwX3_isBorne_2 ++ dktX3_isBorne_3
def dkwX3_isBorne_1 : List UInt8 := [180, 0, 7, 16, 7, 46, 162, 0, 43, 21, 4, 42, 180, 0, 7, 16, 25, 21, 5, 96, 46, 29]
abbrev dktX3_isBorne_1 : List UInt8 := dkwX3_isBorne_1 ++ dktX3_isBorne_2
def dkwX3_isBorne_0 : List UInt8 := [4, 61, 3, 62, 29, 42, 180, 0, 7, 16, 6, 46, 162, 0, 91, 3, 54, 4, 3, 54, 5, 21, 5, 42]
abbrev dktX3_isBorne_0 : List UInt8 := dkwX3_isBorne_0 ++ dktX3_isBorne_1
theorem dksX3_isBorne_0 : cX3_isBorne.data.toList.drop 0 = dktX3_isBorne_0 := by decide +kernel
theorem dksX3_isBorne_1 : cX3_isBorne.data.toList.drop 24 = dktX3_isBorne_1 := dk_seg dksX3_isBorne_0 24 rfl rfl
theorem dksX3_isBorne_2 : cX3_isBorne.data.toList.drop 46 = dktX3_isBorne_2 := dk_seg dksX3_isBorne_1 22 rfl rfl
theorem dksX3_isBorne_3 : cX3_isBorne.data.toList.drop 70 = dktX3_isBorne_3 := dk_seg dksX3_isBorne_2 24 rfl rfl
theorem dksX3_isBorne_4 : cX3_isBorne.data.toList.drop 92 = dktX3_isBorne_4 := dk_seg dksX3_isBorne_3 22 rfl rfl
theorem dX3_isBorne_0 : decode cX3_isBorne 0 = .ok (.iconst 1, 1) := dk_4 (dk_at dksX3_isBorne_0 0 rfl rfl)
theorem dX3_isBorne_1 : decode cX3_isBorne 1 = .ok (.istore_n 2, 1) := dk_61 (dk_at dksX3_isBorne_0 1 rfl rfl)
theorem dX3_isBorne_2 : decode cX3_isBorne 2 = .ok (.iconst 0, 1) := dk_3 (dk_at dksX3_isBorne_0 2 rfl rfl)
theorem dX3_isBorne_3 : decode cX3_isBorne 3 = .ok (.istore_n 3, 1) := dk_62 (dk_at dksX3_isBorne_0 3 rfl rfl)
theorem dX3_isBorne_4 : decode cX3_isBorne 4 = .ok (.iload_n 3, 1) := dk_29 (dk_at dksX3_isBorne_0 4 rfl rfl)
theorem dX3_isBorne_5 : decode cX3_isBorne 5 = .ok (.aload_n 0, 1) := dk_42 (dk_at dksX3_isBorne_0 5 rfl rfl)
theorem dX3_isBorne_6 : decode cX3_isBorne 6 = .ok (.getfield 7, 3) := dk_180 0 7 (dk_at dksX3_isBorne_0 6 rfl rfl)
theorem dX3_isBorne_9 : decode cX3_isBorne 9 = .ok (.bipush 6, 2) := dk_16 6 (dk_at dksX3_isBorne_0 9 rfl rfl)
theorem dX3_isBorne_11 : decode cX3_isBorne 11 = .ok (.iaload, 1) := dk_46 (dk_at dksX3_isBorne_0 11 rfl rfl)
theorem dX3_isBorne_12 : decode cX3_isBorne 12 = .ok (.if_icmp .ge 91, 3) := dk_162 0 91 (dk_at dksX3_isBorne_0 12 rfl rfl)
theorem dX3_isBorne_15 : decode cX3_isBorne 15 = .ok (.iconst 0, 1) := dk_3 (dk_at dksX3_isBorne_0 15 rfl rfl)
theorem dX3_isBorne_16 : decode cX3_isBorne 16 = .ok (.istore 4, 2) := dk_54 4 (dk_at dksX3_isBorne_0 16 rfl rfl)
theorem dX3_isBorne_18 : decode cX3_isBorne 18 = .ok (.iconst 0, 1) := dk_3 (dk_at dksX3_isBorne_0 18 rfl rfl)
theorem dX3_isBorne_19 : decode cX3_isBorne 19 = .ok (.istore 5, 2) := dk_54 5 (dk_at dksX3_isBorne_0 19 rfl rfl)
theorem dX3_isBorne_21 : decode cX3_isBorne 21 = .ok (.iload 5, 2) := dk_21 5 (dk_at dksX3_isBorne_0 21 rfl rfl)
theorem dX3_isBorne_23 : decode cX3_isBorne 23 = .ok (.aload_n 0, 1) := dk_42 (dk_at dksX3_isBorne_0 23 rfl rfl)
theorem dX3_isBorne_24 : decode cX3_isBorne 24 = .ok (.getfield 7, 3) := dk_180 0 7 (dk_at dksX3_isBorne_1 0 rfl rfl)
theorem dX3_isBorne_27 : decode cX3_isBorne 27 = .ok (.bipush 7, 2) := dk_16 7 (dk_at dksX3_isBorne_1 3 rfl rfl)
theorem dX3_isBorne_29 : decode cX3_isBorne 29 = .ok (.iaload, 1) := dk_46 (dk_at dksX3_isBorne_1 5 rfl rfl)
theorem dX3_isBorne_30 : decode cX3_isBorne 30 = .ok (.if_icmp .ge 43, 3) := dk_162 0 43 (dk_at dksX3_isBorne_1 6 rfl rfl)
theorem dX3_isBorne_33 : decode cX3_isBorne 33 = .ok (.iload 4, 2) := dk_21 4 (dk_at dksX3_isBorne_1 9 rfl rfl)
theorem dX3_isBorne_35 : decode cX3_isBorne 35 = .ok (.aload_n 0, 1) := dk_42 (dk_at dksX3_isBorne_1 11 rfl rfl)
theorem dX3_isBorne_36 : decode cX3_isBorne 36 = .ok (.getfield 7, 3) := dk_180 0 7 (dk_at dksX3_isBorne_1 12 rfl rfl)
theorem dX3_isBorne_39 : decode cX3_isBorne 39 = .ok (.bipush 25, 2) := dk_16 25 (dk_at dksX3_isBorne_1 15 rfl rfl)
theorem dX3_isBorne_41 : decode cX3_isBorne 41 = .ok (.iload 5, 2) := dk_21 5 (dk_at dksX3_isBorne_1 17 rfl rfl)
theorem dX3_isBorne_43 : decode cX3_isBorne 43 = .ok (.iadd, 1) := dk_96 (dk_at dksX3_isBorne_1 19 rfl rfl)
theorem dX3_isBorne_44 : decode cX3_isBorne 44 = .ok (.iaload, 1) := dk_46 (dk_at dksX3_isBorne_1 20 rfl rfl)
theorem dX3_isBorne_45 : decode cX3_isBorne 45 = .ok (.iload_n 3, 1) := dk_29 (dk_at dksX3_isBorne_1 21 rfl rfl)
theorem dX3_isBorne_46 : decode cX3_isBorne 46 = .ok (.if_icmp .ne 17, 3) := dk_160 0 17 (dk_at dksX3_isBorne_2 0 rfl rfl)
theorem dX3_isBorne_49 : decode cX3_isBorne 49 = .ok (.aload_n 0, 1) := dk_42 (dk_at dksX3_isBorne_2 3 rfl rfl)
theorem dX3_isBorne_50 : decode cX3_isBorne 50 = .ok (.iload 5, 2) := dk_21 5 (dk_at dksX3_isBorne_2 4 rfl rfl)
theorem dX3_isBorne_52 : decode cX3_isBorne 52 = .ok (.invokevirtual 158, 3) := dk_182 0 158 (dk_at dksX3_isBorne_2 6 rfl rfl)
theorem dX3_isBorne_55 : decode cX3_isBorne 55 = .ok (.iload_n 1, 1) := dk_27 (dk_at dksX3_isBorne_2 9 rfl rfl)
theorem dX3_isBorne_56 : decode cX3_isBorne 56 = .ok (.imul, 1) := dk_104 (dk_at dksX3_isBorne_2 10 rfl rfl)
theorem dX3_isBorne_57 : decode cX3_isBorne 57 = .ok (.bipush 10, 2) := dk_16 10 (dk_at dksX3_isBorne_2 11 rfl rfl)
theorem dX3_isBorne_59 : decode cX3_isBorne 59 = .ok (.idiv, 1) := dk_108 (dk_at dksX3_isBorne_2 13 rfl rfl)
theorem dX3_isBorne_60 : decode cX3_isBorne 60 = .ok (.goto 4, 3) := dk_167 0 4 (dk_at dksX3_isBorne_2 14 rfl rfl)
theorem dX3_isBorne_63 : decode cX3_isBorne 63 = .ok (.iconst 0, 1) := dk_3 (dk_at dksX3_isBorne_2 17 rfl rfl)
theorem dX3_isBorne_64 : decode cX3_isBorne 64 = .ok (.iadd, 1) := dk_96 (dk_at dksX3_isBorne_2 18 rfl rfl)
theorem dX3_isBorne_65 : decode cX3_isBorne 65 = .ok (.istore 4, 2) := dk_54 4 (dk_at dksX3_isBorne_2 19 rfl rfl)
theorem dX3_isBorne_67 : decode cX3_isBorne 67 = .ok (.iinc 5 1, 3) := dk_132 5 1 (dk_at dksX3_isBorne_2 21 rfl rfl)
theorem dX3_isBorne_70 : decode cX3_isBorne 70 = .ok (.goto (-49), 3) := dk_167 255 207 (dk_at dksX3_isBorne_3 0 rfl rfl)
theorem dX3_isBorne_73 : decode cX3_isBorne 73 = .ok (.iload_n 2, 1) := dk_28 (dk_at dksX3_isBorne_3 3 rfl rfl)
theorem dX3_isBorne_74 : decode cX3_isBorne 74 = .ok (.ifCond .eq 21, 3) := dk_153 0 21 (dk_at dksX3_isBorne_3 4 rfl rfl)
theorem dX3_isBorne_77 : decode cX3_isBorne 77 = .ok (.iload 4, 2) := dk_21 4 (dk_at dksX3_isBorne_3 7 rfl rfl)
theorem dX3_isBorne_79 : decode cX3_isBorne 79 = .ok (.aload_n 0, 1) := dk_42 (dk_at dksX3_isBorne_3 9 rfl rfl)
theorem dX3_isBorne_80 : decode cX3_isBorne 80 = .ok (.getfield 7, 3) := dk_180 0 7 (dk_at dksX3_isBorne_3 10 rfl rfl)
theorem dX3_isBorne_83 : decode cX3_isBorne 83 = .ok (.bipush 15, 2) := dk_16 15 (dk_at dksX3_isBorne_3 13 rfl rfl)
theorem dX3_isBorne_85 : decode cX3_isBorne 85 = .ok (.iload_n 3, 1) := dk_29 (dk_at dksX3_isBorne_3 15 rfl rfl)
theorem dX3_isBorne_86 : decode cX3_isBorne 86 = .ok (.iadd, 1) := dk_96 (dk_at dksX3_isBorne_3 16 rfl rfl)
theorem dX3_isBorne_87 : decode cX3_isBorne 87 = .ok (.iaload, 1) := dk_46 (dk_at dksX3_isBorne_3 17 rfl rfl)
theorem dX3_isBorne_88 : decode cX3_isBorne 88 = .ok (.if_icmp .gt 7, 3) := dk_163 0 7 (dk_at dksX3_isBorne_3 18 rfl rfl)
theorem dX3_isBorne_91 : decode cX3_isBorne 91 = .ok (.iconst 1, 1) := dk_4 (dk_at dksX3_isBorne_3 21 rfl rfl)
theorem dX3_isBorne_92 : decode cX3_isBorne 92 = .ok (.goto 4, 3) := dk_167 0 4 (dk_at dksX3_isBorne_4 0 rfl rfl)
theorem dX3_isBorne_95 : decode cX3_isBorne 95 = .ok (.iconst 0, 1) := dk_3 (dk_at dksX3_isBorne_4 3 rfl rfl)
theorem dX3_isBorne_96 : decode cX3_isBorne 96 = .ok (.istore_n 2, 1) := dk_61 (dk_at dksX3_isBorne_4 4 rfl rfl)
theorem dX3_isBorne_97 : decode cX3_isBorne 97 = .ok (.iinc 3 1, 3) := dk_132 3 1 (dk_at dksX3_isBorne_4 5 rfl rfl)
theorem dX3_isBorne_100 : decode cX3_isBorne 100 = .ok (.goto (-96), 3) := dk_167 255 160 (dk_at dksX3_isBorne_4 8 rfl rfl)
theorem dX3_isBorne_103 : decode cX3_isBorne 103 = .ok (.iload_n 2, 1) := dk_28 (dk_at dksX3_isBorne_4 11 rfl rfl)
theorem dX3_isBorne_104 : decode cX3_isBorne 104 = .ok (.ireturn, 1) := dk_172 (dk_at dksX3_isBorne_4 12 rfl rfl)
abbrev cX3_scale : ByteArray := prog_16_method_61_code
def yX3_scale : MethodName := ⟨RX3, "scale", "(II)I"⟩
def dkwX3_scale_12 : List UInt8 := [167, 255, 197, 28, 154, 0, 7, 29, 167, 0, 15, 28, 4, 160, 0, 8, 21, 4, 167, 0, 5, 21, 5, 172]
abbrev dktX3_scale_12 : List UInt8 := dkwX3_scale_12 ++ []
def dkwX3_scale_11 : List UInt8 := [46, 104, 29, 100, 184, 0, 203, 163, 0, 8, 21, 6, 167, 0, 5, 21, 5, 54, 5, 132, 6, 255]
abbrev dktX3_scale_11 : List UInt8 := dkwX3_scale_11 ++ dktX3_scale_12
def dkwX3_scale_10 : List UInt8 := [159, 0, 34, 5, 42, 180, 0, 32, 21, 6, 46, 104, 29, 100, 184, 0, 203, 5, 42, 180, 0, 32, 21, 5]
abbrev dktX3_scale_10 : List UInt8 := dkwX3_scale_10 ++ dktX3_scale_11
def dkwX3_scale_9 : List UInt8 := [180, 0, 7, 16, 7, 46, 4, 100, 54, 6, 21, 6, 155, 0, 60, 29, 158, 0, 56, 21, 5, 18, 211]
abbrev dktX3_scale_9 : List UInt8 := dkwX3_scale_9 ++ dktX3_scale_10
def dkwX3_scale_8 : List UInt8 := [4, 167, 0, 4, 3, 96, 79, 132, 7, 1, 167, 255, 216, 132, 5, 1, 167, 255, 118, 18, 211, 54, 5, 42]
abbrev dktX3_scale_8 : List UInt8 := dkwX3_scale_8 ++ dktX3_scale_9
def dkwX3_scale_7 : List UInt8 := [16, 7, 46, 162, 0, 34, 42, 180, 0, 32, 21, 7, 92, 46, 21, 5, 21, 7, 184, 0, 200, 153, 0, 7]
abbrev dktX3_scale_7 : List UInt8 := dkwX3_scale_7 ++ dktX3_scale_8
def dkwX3_scale_6 : List UInt8 := [154, 0, 8, 21, 5, 167, 0, 5, 21, 4, 54, 4, 132, 3, 1, 3, 54, 7, 21, 7, 42, 180, 0, 7]
abbrev dktX3_scale_6 : List UInt8 := dkwX3_scale_6 ++ dktX3_scale_7
def dkwX3_scale_5 : List UInt8 := [21, 7, 96, 46, 167, 0, 4, 3, 96, 54, 6, 132, 7, 1, 167, 255, 212, 21, 6, 27, 160, 0, 65, 29]
abbrev dktX3_scale_5 : List UInt8 := dkwX3_scale_5 ++ dktX3_scale_6
def dkwX3_scale_4 : List UInt8 := [16, 7, 46, 162, 0, 38, 21, 6, 21, 5, 21, 7, 184, 0, 200, 153, 0, 16, 42, 180, 0, 7, 16, 41]
abbrev dktX3_scale_4 : List UInt8 := dkwX3_scale_4 ++ dktX3_scale_5
def dkwX3_scale_3 : List UInt8 := [4, 42, 180, 0, 7, 16, 7, 46, 120, 162, 0, 130, 3, 54, 6, 3, 54, 7, 21, 7, 42, 180, 0, 7]
abbrev dktX3_scale_3 : List UInt8 := dkwX3_scale_3 ++ dktX3_scale_4
def dkwX3_scale_2 : List UInt8 := [16, 8, 162, 0, 17, 42, 180, 0, 32, 21, 5, 3, 79, 132, 5, 1, 167, 255, 238, 3, 54, 5, 21, 5]
abbrev dktX3_scale_2 : List UInt8 := dkwX3_scale_2 ++ dktX3_scale_3
def dkwX3_scale_1 : List UInt8 := [9, 20, 0, 71, 184, 0, 63, 154, 0, 6, 18, 73, 172, 3, 62, 18, 211, 54, 4, 3, 54, 5, 21, 5]
abbrev dktX3_scale_1 : List UInt8 := dkwX3_scale_1 ++ dktX3_scale_2
def dkwX3_scale_0 : List UInt8 := [42, 182, 0, 185, 153, 0, 6, 18, 154, 172, 27, 133, 9, 20, 0, 227, 184, 0, 63, 153, 0, 15, 28, 133]
abbrev dktX3_scale_0 : List UInt8 := dkwX3_scale_0 ++ dktX3_scale_1
theorem dksX3_scale_0 : cX3_scale.data.toList.drop 0 = dktX3_scale_0 := by decide +kernel
theorem dksX3_scale_1 : cX3_scale.data.toList.drop 24 = dktX3_scale_1 := dk_seg dksX3_scale_0 24 rfl rfl
theorem dksX3_scale_2 : cX3_scale.data.toList.drop 48 = dktX3_scale_2 := dk_seg dksX3_scale_1 24 rfl rfl
theorem dksX3_scale_3 : cX3_scale.data.toList.drop 72 = dktX3_scale_3 := dk_seg dksX3_scale_2 24 rfl rfl
theorem dksX3_scale_4 : cX3_scale.data.toList.drop 96 = dktX3_scale_4 := dk_seg dksX3_scale_3 24 rfl rfl
theorem dksX3_scale_5 : cX3_scale.data.toList.drop 120 = dktX3_scale_5 := dk_seg dksX3_scale_4 24 rfl rfl
theorem dksX3_scale_6 : cX3_scale.data.toList.drop 144 = dktX3_scale_6 := dk_seg dksX3_scale_5 24 rfl rfl
theorem dksX3_scale_7 : cX3_scale.data.toList.drop 168 = dktX3_scale_7 := dk_seg dksX3_scale_6 24 rfl rfl
theorem dksX3_scale_8 : cX3_scale.data.toList.drop 192 = dktX3_scale_8 := dk_seg dksX3_scale_7 24 rfl rfl
theorem dksX3_scale_9 : cX3_scale.data.toList.drop 216 = dktX3_scale_9 := dk_seg dksX3_scale_8 24 rfl rfl
theorem dksX3_scale_10 : cX3_scale.data.toList.drop 239 = dktX3_scale_10 := dk_seg dksX3_scale_9 23 rfl rfl
theorem dksX3_scale_11 : cX3_scale.data.toList.drop 263 = dktX3_scale_11 := dk_seg dksX3_scale_10 24 rfl rfl
theorem dksX3_scale_12 : cX3_scale.data.toList.drop 285 = dktX3_scale_12 := dk_seg dksX3_scale_11 22 rfl rfl
theorem dX3_scale_0 : decode cX3_scale 0 = .ok (.aload_n 0, 1) := dk_42 (dk_at dksX3_scale_0 0 rfl rfl)
theorem dX3_scale_1 : decode cX3_scale 1 = .ok (.invokevirtual 185, 3) := dk_182 0 185 (dk_at dksX3_scale_0 1 rfl rfl)
theorem dX3_scale_4 : decode cX3_scale 4 = .ok (.ifCond .eq 6, 3) := dk_153 0 6 (dk_at dksX3_scale_0 4 rfl rfl)
theorem dX3_scale_7 : decode cX3_scale 7 = .ok (.ldc 154, 2) := dk_18 154 (dk_at dksX3_scale_0 7 rfl rfl)
theorem dX3_scale_9 : decode cX3_scale 9 = .ok (.ireturn, 1) := dk_172 (dk_at dksX3_scale_0 9 rfl rfl)
theorem dX3_scale_10 : decode cX3_scale 10 = .ok (.iload_n 1, 1) := dk_27 (dk_at dksX3_scale_0 10 rfl rfl)
theorem dX3_scale_11 : decode cX3_scale 11 = .ok (.i2l, 1) := dk_133 (dk_at dksX3_scale_0 11 rfl rfl)
theorem dX3_scale_12 : decode cX3_scale 12 = .ok (.lconst 0, 1) := dk_9 (dk_at dksX3_scale_0 12 rfl rfl)
theorem dX3_scale_13 : decode cX3_scale 13 = .ok (.ldc2_w 227, 3) := dk_20 0 227 (dk_at dksX3_scale_0 13 rfl rfl)
theorem dX3_scale_16 : decode cX3_scale 16 = .ok (.invokestatic 63, 3) := dk_184 0 63 (dk_at dksX3_scale_0 16 rfl rfl)
theorem dX3_scale_19 : decode cX3_scale 19 = .ok (.ifCond .eq 15, 3) := dk_153 0 15 (dk_at dksX3_scale_0 19 rfl rfl)
theorem dX3_scale_22 : decode cX3_scale 22 = .ok (.iload_n 2, 1) := dk_28 (dk_at dksX3_scale_0 22 rfl rfl)
theorem dX3_scale_23 : decode cX3_scale 23 = .ok (.i2l, 1) := dk_133 (dk_at dksX3_scale_0 23 rfl rfl)
theorem dX3_scale_24 : decode cX3_scale 24 = .ok (.lconst 0, 1) := dk_9 (dk_at dksX3_scale_1 0 rfl rfl)
theorem dX3_scale_25 : decode cX3_scale 25 = .ok (.ldc2_w 71, 3) := dk_20 0 71 (dk_at dksX3_scale_1 1 rfl rfl)
theorem dX3_scale_28 : decode cX3_scale 28 = .ok (.invokestatic 63, 3) := dk_184 0 63 (dk_at dksX3_scale_1 4 rfl rfl)
theorem dX3_scale_31 : decode cX3_scale 31 = .ok (.ifCond .ne 6, 3) := dk_154 0 6 (dk_at dksX3_scale_1 7 rfl rfl)
theorem dX3_scale_34 : decode cX3_scale 34 = .ok (.ldc 73, 2) := dk_18 73 (dk_at dksX3_scale_1 10 rfl rfl)
theorem dX3_scale_36 : decode cX3_scale 36 = .ok (.ireturn, 1) := dk_172 (dk_at dksX3_scale_1 12 rfl rfl)
theorem dX3_scale_37 : decode cX3_scale 37 = .ok (.iconst 0, 1) := dk_3 (dk_at dksX3_scale_1 13 rfl rfl)
theorem dX3_scale_38 : decode cX3_scale 38 = .ok (.istore_n 3, 1) := dk_62 (dk_at dksX3_scale_1 14 rfl rfl)
theorem dX3_scale_39 : decode cX3_scale 39 = .ok (.ldc 211, 2) := dk_18 211 (dk_at dksX3_scale_1 15 rfl rfl)
theorem dX3_scale_41 : decode cX3_scale 41 = .ok (.istore 4, 2) := dk_54 4 (dk_at dksX3_scale_1 17 rfl rfl)
theorem dX3_scale_43 : decode cX3_scale 43 = .ok (.iconst 0, 1) := dk_3 (dk_at dksX3_scale_1 19 rfl rfl)
theorem dX3_scale_44 : decode cX3_scale 44 = .ok (.istore 5, 2) := dk_54 5 (dk_at dksX3_scale_1 20 rfl rfl)
theorem dX3_scale_46 : decode cX3_scale 46 = .ok (.iload 5, 2) := dk_21 5 (dk_at dksX3_scale_1 22 rfl rfl)
theorem dX3_scale_48 : decode cX3_scale 48 = .ok (.bipush 8, 2) := dk_16 8 (dk_at dksX3_scale_2 0 rfl rfl)
theorem dX3_scale_50 : decode cX3_scale 50 = .ok (.if_icmp .ge 17, 3) := dk_162 0 17 (dk_at dksX3_scale_2 2 rfl rfl)
theorem dX3_scale_53 : decode cX3_scale 53 = .ok (.aload_n 0, 1) := dk_42 (dk_at dksX3_scale_2 5 rfl rfl)
theorem dX3_scale_54 : decode cX3_scale 54 = .ok (.getfield 32, 3) := dk_180 0 32 (dk_at dksX3_scale_2 6 rfl rfl)
theorem dX3_scale_57 : decode cX3_scale 57 = .ok (.iload 5, 2) := dk_21 5 (dk_at dksX3_scale_2 9 rfl rfl)
theorem dX3_scale_59 : decode cX3_scale 59 = .ok (.iconst 0, 1) := dk_3 (dk_at dksX3_scale_2 11 rfl rfl)
theorem dX3_scale_60 : decode cX3_scale 60 = .ok (.iastore, 1) := dk_79 (dk_at dksX3_scale_2 12 rfl rfl)
theorem dX3_scale_61 : decode cX3_scale 61 = .ok (.iinc 5 1, 3) := dk_132 5 1 (dk_at dksX3_scale_2 13 rfl rfl)
theorem dX3_scale_64 : decode cX3_scale 64 = .ok (.goto (-18), 3) := dk_167 255 238 (dk_at dksX3_scale_2 16 rfl rfl)
theorem dX3_scale_67 : decode cX3_scale 67 = .ok (.iconst 0, 1) := dk_3 (dk_at dksX3_scale_2 19 rfl rfl)
theorem dX3_scale_68 : decode cX3_scale 68 = .ok (.istore 5, 2) := dk_54 5 (dk_at dksX3_scale_2 20 rfl rfl)
theorem dX3_scale_70 : decode cX3_scale 70 = .ok (.iload 5, 2) := dk_21 5 (dk_at dksX3_scale_2 22 rfl rfl)
theorem dX3_scale_72 : decode cX3_scale 72 = .ok (.iconst 1, 1) := dk_4 (dk_at dksX3_scale_3 0 rfl rfl)
theorem dX3_scale_73 : decode cX3_scale 73 = .ok (.aload_n 0, 1) := dk_42 (dk_at dksX3_scale_3 1 rfl rfl)
theorem dX3_scale_74 : decode cX3_scale 74 = .ok (.getfield 7, 3) := dk_180 0 7 (dk_at dksX3_scale_3 2 rfl rfl)
theorem dX3_scale_77 : decode cX3_scale 77 = .ok (.bipush 7, 2) := dk_16 7 (dk_at dksX3_scale_3 5 rfl rfl)
theorem dX3_scale_79 : decode cX3_scale 79 = .ok (.iaload, 1) := dk_46 (dk_at dksX3_scale_3 7 rfl rfl)
theorem dX3_scale_80 : decode cX3_scale 80 = .ok (.ishl, 1) := dk_120 (dk_at dksX3_scale_3 8 rfl rfl)
theorem dX3_scale_81 : decode cX3_scale 81 = .ok (.if_icmp .ge 130, 3) := dk_162 0 130 (dk_at dksX3_scale_3 9 rfl rfl)
theorem dX3_scale_84 : decode cX3_scale 84 = .ok (.iconst 0, 1) := dk_3 (dk_at dksX3_scale_3 12 rfl rfl)
theorem dX3_scale_85 : decode cX3_scale 85 = .ok (.istore 6, 2) := dk_54 6 (dk_at dksX3_scale_3 13 rfl rfl)
theorem dX3_scale_87 : decode cX3_scale 87 = .ok (.iconst 0, 1) := dk_3 (dk_at dksX3_scale_3 15 rfl rfl)
theorem dX3_scale_88 : decode cX3_scale 88 = .ok (.istore 7, 2) := dk_54 7 (dk_at dksX3_scale_3 16 rfl rfl)
theorem dX3_scale_90 : decode cX3_scale 90 = .ok (.iload 7, 2) := dk_21 7 (dk_at dksX3_scale_3 18 rfl rfl)
theorem dX3_scale_92 : decode cX3_scale 92 = .ok (.aload_n 0, 1) := dk_42 (dk_at dksX3_scale_3 20 rfl rfl)
theorem dX3_scale_93 : decode cX3_scale 93 = .ok (.getfield 7, 3) := dk_180 0 7 (dk_at dksX3_scale_3 21 rfl rfl)
theorem dX3_scale_96 : decode cX3_scale 96 = .ok (.bipush 7, 2) := dk_16 7 (dk_at dksX3_scale_4 0 rfl rfl)
theorem dX3_scale_98 : decode cX3_scale 98 = .ok (.iaload, 1) := dk_46 (dk_at dksX3_scale_4 2 rfl rfl)
theorem dX3_scale_99 : decode cX3_scale 99 = .ok (.if_icmp .ge 38, 3) := dk_162 0 38 (dk_at dksX3_scale_4 3 rfl rfl)
theorem dX3_scale_102 : decode cX3_scale 102 = .ok (.iload 6, 2) := dk_21 6 (dk_at dksX3_scale_4 6 rfl rfl)
theorem dX3_scale_104 : decode cX3_scale 104 = .ok (.iload 5, 2) := dk_21 5 (dk_at dksX3_scale_4 8 rfl rfl)
theorem dX3_scale_106 : decode cX3_scale 106 = .ok (.iload 7, 2) := dk_21 7 (dk_at dksX3_scale_4 10 rfl rfl)
theorem dX3_scale_108 : decode cX3_scale 108 = .ok (.invokestatic 200, 3) := dk_184 0 200 (dk_at dksX3_scale_4 12 rfl rfl)
theorem dX3_scale_111 : decode cX3_scale 111 = .ok (.ifCond .eq 16, 3) := dk_153 0 16 (dk_at dksX3_scale_4 15 rfl rfl)
theorem dX3_scale_114 : decode cX3_scale 114 = .ok (.aload_n 0, 1) := dk_42 (dk_at dksX3_scale_4 18 rfl rfl)
theorem dX3_scale_115 : decode cX3_scale 115 = .ok (.getfield 7, 3) := dk_180 0 7 (dk_at dksX3_scale_4 19 rfl rfl)
theorem dX3_scale_118 : decode cX3_scale 118 = .ok (.bipush 41, 2) := dk_16 41 (dk_at dksX3_scale_4 22 rfl rfl)
theorem dX3_scale_120 : decode cX3_scale 120 = .ok (.iload 7, 2) := dk_21 7 (dk_at dksX3_scale_5 0 rfl rfl)
theorem dX3_scale_122 : decode cX3_scale 122 = .ok (.iadd, 1) := dk_96 (dk_at dksX3_scale_5 2 rfl rfl)
theorem dX3_scale_123 : decode cX3_scale 123 = .ok (.iaload, 1) := dk_46 (dk_at dksX3_scale_5 3 rfl rfl)
theorem dX3_scale_124 : decode cX3_scale 124 = .ok (.goto 4, 3) := dk_167 0 4 (dk_at dksX3_scale_5 4 rfl rfl)
theorem dX3_scale_127 : decode cX3_scale 127 = .ok (.iconst 0, 1) := dk_3 (dk_at dksX3_scale_5 7 rfl rfl)
theorem dX3_scale_128 : decode cX3_scale 128 = .ok (.iadd, 1) := dk_96 (dk_at dksX3_scale_5 8 rfl rfl)
theorem dX3_scale_129 : decode cX3_scale 129 = .ok (.istore 6, 2) := dk_54 6 (dk_at dksX3_scale_5 9 rfl rfl)
theorem dX3_scale_131 : decode cX3_scale 131 = .ok (.iinc 7 1, 3) := dk_132 7 1 (dk_at dksX3_scale_5 11 rfl rfl)
theorem dX3_scale_134 : decode cX3_scale 134 = .ok (.goto (-44), 3) := dk_167 255 212 (dk_at dksX3_scale_5 14 rfl rfl)
theorem dX3_scale_137 : decode cX3_scale 137 = .ok (.iload 6, 2) := dk_21 6 (dk_at dksX3_scale_5 17 rfl rfl)
theorem dX3_scale_139 : decode cX3_scale 139 = .ok (.iload_n 1, 1) := dk_27 (dk_at dksX3_scale_5 19 rfl rfl)
theorem dX3_scale_140 : decode cX3_scale 140 = .ok (.if_icmp .ne 65, 3) := dk_160 0 65 (dk_at dksX3_scale_5 20 rfl rfl)
theorem dX3_scale_143 : decode cX3_scale 143 = .ok (.iload_n 3, 1) := dk_29 (dk_at dksX3_scale_5 23 rfl rfl)
theorem dX3_scale_144 : decode cX3_scale 144 = .ok (.ifCond .ne 8, 3) := dk_154 0 8 (dk_at dksX3_scale_6 0 rfl rfl)
theorem dX3_scale_147 : decode cX3_scale 147 = .ok (.iload 5, 2) := dk_21 5 (dk_at dksX3_scale_6 3 rfl rfl)
theorem dX3_scale_149 : decode cX3_scale 149 = .ok (.goto 5, 3) := dk_167 0 5 (dk_at dksX3_scale_6 5 rfl rfl)
theorem dX3_scale_152 : decode cX3_scale 152 = .ok (.iload 4, 2) := dk_21 4 (dk_at dksX3_scale_6 8 rfl rfl)
theorem dX3_scale_154 : decode cX3_scale 154 = .ok (.istore 4, 2) := dk_54 4 (dk_at dksX3_scale_6 10 rfl rfl)
theorem dX3_scale_156 : decode cX3_scale 156 = .ok (.iinc 3 1, 3) := dk_132 3 1 (dk_at dksX3_scale_6 12 rfl rfl)
theorem dX3_scale_159 : decode cX3_scale 159 = .ok (.iconst 0, 1) := dk_3 (dk_at dksX3_scale_6 15 rfl rfl)
theorem dX3_scale_160 : decode cX3_scale 160 = .ok (.istore 7, 2) := dk_54 7 (dk_at dksX3_scale_6 16 rfl rfl)
theorem dX3_scale_162 : decode cX3_scale 162 = .ok (.iload 7, 2) := dk_21 7 (dk_at dksX3_scale_6 18 rfl rfl)
theorem dX3_scale_164 : decode cX3_scale 164 = .ok (.aload_n 0, 1) := dk_42 (dk_at dksX3_scale_6 20 rfl rfl)
theorem dX3_scale_165 : decode cX3_scale 165 = .ok (.getfield 7, 3) := dk_180 0 7 (dk_at dksX3_scale_6 21 rfl rfl)
theorem dX3_scale_168 : decode cX3_scale 168 = .ok (.bipush 7, 2) := dk_16 7 (dk_at dksX3_scale_7 0 rfl rfl)
theorem dX3_scale_170 : decode cX3_scale 170 = .ok (.iaload, 1) := dk_46 (dk_at dksX3_scale_7 2 rfl rfl)
theorem dX3_scale_171 : decode cX3_scale 171 = .ok (.if_icmp .ge 34, 3) := dk_162 0 34 (dk_at dksX3_scale_7 3 rfl rfl)
theorem dX3_scale_174 : decode cX3_scale 174 = .ok (.aload_n 0, 1) := dk_42 (dk_at dksX3_scale_7 6 rfl rfl)
theorem dX3_scale_175 : decode cX3_scale 175 = .ok (.getfield 32, 3) := dk_180 0 32 (dk_at dksX3_scale_7 7 rfl rfl)
theorem dX3_scale_178 : decode cX3_scale 178 = .ok (.iload 7, 2) := dk_21 7 (dk_at dksX3_scale_7 10 rfl rfl)
theorem dX3_scale_180 : decode cX3_scale 180 = .ok (.dup2, 1) := dk_92 (dk_at dksX3_scale_7 12 rfl rfl)
theorem dX3_scale_181 : decode cX3_scale 181 = .ok (.iaload, 1) := dk_46 (dk_at dksX3_scale_7 13 rfl rfl)
theorem dX3_scale_182 : decode cX3_scale 182 = .ok (.iload 5, 2) := dk_21 5 (dk_at dksX3_scale_7 14 rfl rfl)
theorem dX3_scale_184 : decode cX3_scale 184 = .ok (.iload 7, 2) := dk_21 7 (dk_at dksX3_scale_7 16 rfl rfl)
theorem dX3_scale_186 : decode cX3_scale 186 = .ok (.invokestatic 200, 3) := dk_184 0 200 (dk_at dksX3_scale_7 18 rfl rfl)
theorem dX3_scale_189 : decode cX3_scale 189 = .ok (.ifCond .eq 7, 3) := dk_153 0 7 (dk_at dksX3_scale_7 21 rfl rfl)
theorem dX3_scale_192 : decode cX3_scale 192 = .ok (.iconst 1, 1) := dk_4 (dk_at dksX3_scale_8 0 rfl rfl)
theorem dX3_scale_193 : decode cX3_scale 193 = .ok (.goto 4, 3) := dk_167 0 4 (dk_at dksX3_scale_8 1 rfl rfl)
theorem dX3_scale_196 : decode cX3_scale 196 = .ok (.iconst 0, 1) := dk_3 (dk_at dksX3_scale_8 4 rfl rfl)
theorem dX3_scale_197 : decode cX3_scale 197 = .ok (.iadd, 1) := dk_96 (dk_at dksX3_scale_8 5 rfl rfl)
theorem dX3_scale_198 : decode cX3_scale 198 = .ok (.iastore, 1) := dk_79 (dk_at dksX3_scale_8 6 rfl rfl)
theorem dX3_scale_199 : decode cX3_scale 199 = .ok (.iinc 7 1, 3) := dk_132 7 1 (dk_at dksX3_scale_8 7 rfl rfl)
theorem dX3_scale_202 : decode cX3_scale 202 = .ok (.goto (-40), 3) := dk_167 255 216 (dk_at dksX3_scale_8 10 rfl rfl)
theorem dX3_scale_205 : decode cX3_scale 205 = .ok (.iinc 5 1, 3) := dk_132 5 1 (dk_at dksX3_scale_8 13 rfl rfl)
theorem dX3_scale_208 : decode cX3_scale 208 = .ok (.goto (-138), 3) := dk_167 255 118 (dk_at dksX3_scale_8 16 rfl rfl)
theorem dX3_scale_211 : decode cX3_scale 211 = .ok (.ldc 211, 2) := dk_18 211 (dk_at dksX3_scale_8 19 rfl rfl)
theorem dX3_scale_213 : decode cX3_scale 213 = .ok (.istore 5, 2) := dk_54 5 (dk_at dksX3_scale_8 21 rfl rfl)
theorem dX3_scale_215 : decode cX3_scale 215 = .ok (.aload_n 0, 1) := dk_42 (dk_at dksX3_scale_8 23 rfl rfl)
theorem dX3_scale_216 : decode cX3_scale 216 = .ok (.getfield 7, 3) := dk_180 0 7 (dk_at dksX3_scale_9 0 rfl rfl)
theorem dX3_scale_219 : decode cX3_scale 219 = .ok (.bipush 7, 2) := dk_16 7 (dk_at dksX3_scale_9 3 rfl rfl)
theorem dX3_scale_221 : decode cX3_scale 221 = .ok (.iaload, 1) := dk_46 (dk_at dksX3_scale_9 5 rfl rfl)
theorem dX3_scale_222 : decode cX3_scale 222 = .ok (.iconst 1, 1) := dk_4 (dk_at dksX3_scale_9 6 rfl rfl)
theorem dX3_scale_223 : decode cX3_scale 223 = .ok (.isub, 1) := dk_100 (dk_at dksX3_scale_9 7 rfl rfl)
theorem dX3_scale_224 : decode cX3_scale 224 = .ok (.istore 6, 2) := dk_54 6 (dk_at dksX3_scale_9 8 rfl rfl)
theorem dX3_scale_226 : decode cX3_scale 226 = .ok (.iload 6, 2) := dk_21 6 (dk_at dksX3_scale_9 10 rfl rfl)
theorem dX3_scale_228 : decode cX3_scale 228 = .ok (.ifCond .lt 60, 3) := dk_155 0 60 (dk_at dksX3_scale_9 12 rfl rfl)
theorem dX3_scale_231 : decode cX3_scale 231 = .ok (.iload_n 3, 1) := dk_29 (dk_at dksX3_scale_9 15 rfl rfl)
theorem dX3_scale_232 : decode cX3_scale 232 = .ok (.ifCond .le 56, 3) := dk_158 0 56 (dk_at dksX3_scale_9 16 rfl rfl)
theorem dX3_scale_235 : decode cX3_scale 235 = .ok (.iload 5, 2) := dk_21 5 (dk_at dksX3_scale_9 19 rfl rfl)
theorem dX3_scale_237 : decode cX3_scale 237 = .ok (.ldc 211, 2) := dk_18 211 (dk_at dksX3_scale_9 21 rfl rfl)
theorem dX3_scale_239 : decode cX3_scale 239 = .ok (.if_icmp .eq 34, 3) := dk_159 0 34 (dk_at dksX3_scale_10 0 rfl rfl)
theorem dX3_scale_242 : decode cX3_scale 242 = .ok (.iconst 2, 1) := dk_5 (dk_at dksX3_scale_10 3 rfl rfl)
theorem dX3_scale_243 : decode cX3_scale 243 = .ok (.aload_n 0, 1) := dk_42 (dk_at dksX3_scale_10 4 rfl rfl)
theorem dX3_scale_244 : decode cX3_scale 244 = .ok (.getfield 32, 3) := dk_180 0 32 (dk_at dksX3_scale_10 5 rfl rfl)
theorem dX3_scale_247 : decode cX3_scale 247 = .ok (.iload 6, 2) := dk_21 6 (dk_at dksX3_scale_10 8 rfl rfl)
theorem dX3_scale_249 : decode cX3_scale 249 = .ok (.iaload, 1) := dk_46 (dk_at dksX3_scale_10 10 rfl rfl)
theorem dX3_scale_250 : decode cX3_scale 250 = .ok (.imul, 1) := dk_104 (dk_at dksX3_scale_10 11 rfl rfl)
theorem dX3_scale_251 : decode cX3_scale 251 = .ok (.iload_n 3, 1) := dk_29 (dk_at dksX3_scale_10 12 rfl rfl)
theorem dX3_scale_252 : decode cX3_scale 252 = .ok (.isub, 1) := dk_100 (dk_at dksX3_scale_10 13 rfl rfl)
theorem dX3_scale_253 : decode cX3_scale 253 = .ok (.invokestatic 203, 3) := dk_184 0 203 (dk_at dksX3_scale_10 14 rfl rfl)
theorem dX3_scale_256 : decode cX3_scale 256 = .ok (.iconst 2, 1) := dk_5 (dk_at dksX3_scale_10 17 rfl rfl)
theorem dX3_scale_257 : decode cX3_scale 257 = .ok (.aload_n 0, 1) := dk_42 (dk_at dksX3_scale_10 18 rfl rfl)
theorem dX3_scale_258 : decode cX3_scale 258 = .ok (.getfield 32, 3) := dk_180 0 32 (dk_at dksX3_scale_10 19 rfl rfl)
theorem dX3_scale_261 : decode cX3_scale 261 = .ok (.iload 5, 2) := dk_21 5 (dk_at dksX3_scale_10 22 rfl rfl)
theorem dX3_scale_263 : decode cX3_scale 263 = .ok (.iaload, 1) := dk_46 (dk_at dksX3_scale_11 0 rfl rfl)
theorem dX3_scale_264 : decode cX3_scale 264 = .ok (.imul, 1) := dk_104 (dk_at dksX3_scale_11 1 rfl rfl)
theorem dX3_scale_265 : decode cX3_scale 265 = .ok (.iload_n 3, 1) := dk_29 (dk_at dksX3_scale_11 2 rfl rfl)
theorem dX3_scale_266 : decode cX3_scale 266 = .ok (.isub, 1) := dk_100 (dk_at dksX3_scale_11 3 rfl rfl)
theorem dX3_scale_267 : decode cX3_scale 267 = .ok (.invokestatic 203, 3) := dk_184 0 203 (dk_at dksX3_scale_11 4 rfl rfl)
theorem dX3_scale_270 : decode cX3_scale 270 = .ok (.if_icmp .gt 8, 3) := dk_163 0 8 (dk_at dksX3_scale_11 7 rfl rfl)
theorem dX3_scale_273 : decode cX3_scale 273 = .ok (.iload 6, 2) := dk_21 6 (dk_at dksX3_scale_11 10 rfl rfl)
theorem dX3_scale_275 : decode cX3_scale 275 = .ok (.goto 5, 3) := dk_167 0 5 (dk_at dksX3_scale_11 12 rfl rfl)
theorem dX3_scale_278 : decode cX3_scale 278 = .ok (.iload 5, 2) := dk_21 5 (dk_at dksX3_scale_11 15 rfl rfl)
theorem dX3_scale_280 : decode cX3_scale 280 = .ok (.istore 5, 2) := dk_54 5 (dk_at dksX3_scale_11 17 rfl rfl)
theorem dX3_scale_282 : decode cX3_scale 282 = .ok (.iinc 6 (-1), 3) := dk_132 6 255 (dk_at dksX3_scale_11 19 rfl rfl)
theorem dX3_scale_285 : decode cX3_scale 285 = .ok (.goto (-59), 3) := dk_167 255 197 (dk_at dksX3_scale_12 0 rfl rfl)
theorem dX3_scale_288 : decode cX3_scale 288 = .ok (.iload_n 2, 1) := dk_28 (dk_at dksX3_scale_12 3 rfl rfl)
theorem dX3_scale_289 : decode cX3_scale 289 = .ok (.ifCond .ne 7, 3) := dk_154 0 7 (dk_at dksX3_scale_12 4 rfl rfl)
theorem dX3_scale_292 : decode cX3_scale 292 = .ok (.iload_n 3, 1) := dk_29 (dk_at dksX3_scale_12 7 rfl rfl)
theorem dX3_scale_293 : decode cX3_scale 293 = .ok (.goto 15, 3) := dk_167 0 15 (dk_at dksX3_scale_12 8 rfl rfl)
theorem dX3_scale_296 : decode cX3_scale 296 = .ok (.iload_n 2, 1) := dk_28 (dk_at dksX3_scale_12 11 rfl rfl)
theorem dX3_scale_297 : decode cX3_scale 297 = .ok (.iconst 1, 1) := dk_4 (dk_at dksX3_scale_12 12 rfl rfl)
theorem dX3_scale_298 : decode cX3_scale 298 = .ok (.if_icmp .ne 8, 3) := dk_160 0 8 (dk_at dksX3_scale_12 13 rfl rfl)
theorem dX3_scale_301 : decode cX3_scale 301 = .ok (.iload 4, 2) := dk_21 4 (dk_at dksX3_scale_12 16 rfl rfl)
theorem dX3_scale_303 : decode cX3_scale 303 = .ok (.goto 5, 3) := dk_167 0 5 (dk_at dksX3_scale_12 18 rfl rfl)
theorem dX3_scale_306 : decode cX3_scale 306 = .ok (.iload 5, 2) := dk_21 5 (dk_at dksX3_scale_12 21 rfl rfl)
theorem dX3_scale_308 : decode cX3_scale 308 = .ok (.ireturn, 1) := dk_172 (dk_at dksX3_scale_12 23 rfl rfl)
abbrev cX3_lies : ByteArray := prog_16_method_62_code
def yX3_lies : MethodName := ⟨RX3, "lies", "(II)I"⟩
def dkwX3_lies_4 : List UInt8 := [128, 54, 4, 132, 5, 1, 167, 255, 205, 42, 21, 4, 182, 0, 78, 172]
abbrev dktX3_lies_4 : List UInt8 := dkwX3_lies_4 ++ []
def dkwX3_lies_3 : List UInt8 := [180, 0, 23, 16, 40, 27, 104, 28, 96, 21, 5, 96, 46, 162, 0, 10, 4, 21, 5, 120, 167, 0, 4, 3]
abbrev dktX3_lies_3 : List UInt8 := dkwX3_lies_3 ++ dktX3_lies_4
def dkwX3_lies_2 : List UInt8 := [54, 5, 21, 5, 42, 180, 0, 7, 16, 6, 46, 162, 0, 45, 21, 4, 42, 21, 5, 182, 0, 161, 42]
abbrev dktX3_lies_2 : List UInt8 := dkwX3_lies_2 ++ dktX3_lies_3
def dkwX3_lies_1 : List UInt8 := [180, 0, 7, 16, 6, 46, 182, 0, 81, 62, 29, 158, 0, 9, 42, 29, 182, 0, 74, 172, 3, 54, 4, 3]
abbrev dktX3_lies_1 : List UInt8 := dkwX3_lies_1 ++ dktX3_lies_2
def dkwX3_lies_0 : List UInt8 := [42, 182, 0, 185, 153, 0, 6, 18, 154, 172, 27, 184, 0, 67, 154, 0, 6, 18, 73, 172, 42, 27, 28, 42]
abbrev dktX3_lies_0 : List UInt8 := dkwX3_lies_0 ++ dktX3_lies_1
theorem dksX3_lies_0 : cX3_lies.data.toList.drop 0 = dktX3_lies_0 := by decide +kernel
theorem dksX3_lies_1 : cX3_lies.data.toList.drop 24 = dktX3_lies_1 := dk_seg dksX3_lies_0 24 rfl rfl
theorem dksX3_lies_2 : cX3_lies.data.toList.drop 48 = dktX3_lies_2 := dk_seg dksX3_lies_1 24 rfl rfl
theorem dksX3_lies_3 : cX3_lies.data.toList.drop 71 = dktX3_lies_3 := dk_seg dksX3_lies_2 23 rfl rfl
theorem dksX3_lies_4 : cX3_lies.data.toList.drop 95 = dktX3_lies_4 := dk_seg dksX3_lies_3 24 rfl rfl
theorem dX3_lies_0 : decode cX3_lies 0 = .ok (.aload_n 0, 1) := dk_42 (dk_at dksX3_lies_0 0 rfl rfl)
theorem dX3_lies_1 : decode cX3_lies 1 = .ok (.invokevirtual 185, 3) := dk_182 0 185 (dk_at dksX3_lies_0 1 rfl rfl)
theorem dX3_lies_4 : decode cX3_lies 4 = .ok (.ifCond .eq 6, 3) := dk_153 0 6 (dk_at dksX3_lies_0 4 rfl rfl)
theorem dX3_lies_7 : decode cX3_lies 7 = .ok (.ldc 154, 2) := dk_18 154 (dk_at dksX3_lies_0 7 rfl rfl)
theorem dX3_lies_9 : decode cX3_lies 9 = .ok (.ireturn, 1) := dk_172 (dk_at dksX3_lies_0 9 rfl rfl)
theorem dX3_lies_10 : decode cX3_lies 10 = .ok (.iload_n 1, 1) := dk_27 (dk_at dksX3_lies_0 10 rfl rfl)
theorem dX3_lies_11 : decode cX3_lies 11 = .ok (.invokestatic 67, 3) := dk_184 0 67 (dk_at dksX3_lies_0 11 rfl rfl)
theorem dX3_lies_14 : decode cX3_lies 14 = .ok (.ifCond .ne 6, 3) := dk_154 0 6 (dk_at dksX3_lies_0 14 rfl rfl)
theorem dX3_lies_17 : decode cX3_lies 17 = .ok (.ldc 73, 2) := dk_18 73 (dk_at dksX3_lies_0 17 rfl rfl)
theorem dX3_lies_19 : decode cX3_lies 19 = .ok (.ireturn, 1) := dk_172 (dk_at dksX3_lies_0 19 rfl rfl)
theorem dX3_lies_20 : decode cX3_lies 20 = .ok (.aload_n 0, 1) := dk_42 (dk_at dksX3_lies_0 20 rfl rfl)
theorem dX3_lies_21 : decode cX3_lies 21 = .ok (.iload_n 1, 1) := dk_27 (dk_at dksX3_lies_0 21 rfl rfl)
theorem dX3_lies_22 : decode cX3_lies 22 = .ok (.iload_n 2, 1) := dk_28 (dk_at dksX3_lies_0 22 rfl rfl)
theorem dX3_lies_23 : decode cX3_lies 23 = .ok (.aload_n 0, 1) := dk_42 (dk_at dksX3_lies_0 23 rfl rfl)
theorem dX3_lies_24 : decode cX3_lies 24 = .ok (.getfield 7, 3) := dk_180 0 7 (dk_at dksX3_lies_1 0 rfl rfl)
theorem dX3_lies_27 : decode cX3_lies 27 = .ok (.bipush 6, 2) := dk_16 6 (dk_at dksX3_lies_1 3 rfl rfl)
theorem dX3_lies_29 : decode cX3_lies 29 = .ok (.iaload, 1) := dk_46 (dk_at dksX3_lies_1 5 rfl rfl)
theorem dX3_lies_30 : decode cX3_lies 30 = .ok (.invokevirtual 81, 3) := dk_182 0 81 (dk_at dksX3_lies_1 6 rfl rfl)
theorem dX3_lies_33 : decode cX3_lies 33 = .ok (.istore_n 3, 1) := dk_62 (dk_at dksX3_lies_1 9 rfl rfl)
theorem dX3_lies_34 : decode cX3_lies 34 = .ok (.iload_n 3, 1) := dk_29 (dk_at dksX3_lies_1 10 rfl rfl)
theorem dX3_lies_35 : decode cX3_lies 35 = .ok (.ifCond .le 9, 3) := dk_158 0 9 (dk_at dksX3_lies_1 11 rfl rfl)
theorem dX3_lies_38 : decode cX3_lies 38 = .ok (.aload_n 0, 1) := dk_42 (dk_at dksX3_lies_1 14 rfl rfl)
theorem dX3_lies_39 : decode cX3_lies 39 = .ok (.iload_n 3, 1) := dk_29 (dk_at dksX3_lies_1 15 rfl rfl)
theorem dX3_lies_40 : decode cX3_lies 40 = .ok (.invokevirtual 74, 3) := dk_182 0 74 (dk_at dksX3_lies_1 16 rfl rfl)
theorem dX3_lies_43 : decode cX3_lies 43 = .ok (.ireturn, 1) := dk_172 (dk_at dksX3_lies_1 19 rfl rfl)
theorem dX3_lies_44 : decode cX3_lies 44 = .ok (.iconst 0, 1) := dk_3 (dk_at dksX3_lies_1 20 rfl rfl)
theorem dX3_lies_45 : decode cX3_lies 45 = .ok (.istore 4, 2) := dk_54 4 (dk_at dksX3_lies_1 21 rfl rfl)
theorem dX3_lies_47 : decode cX3_lies 47 = .ok (.iconst 0, 1) := dk_3 (dk_at dksX3_lies_1 23 rfl rfl)
theorem dX3_lies_48 : decode cX3_lies 48 = .ok (.istore 5, 2) := dk_54 5 (dk_at dksX3_lies_2 0 rfl rfl)
theorem dX3_lies_50 : decode cX3_lies 50 = .ok (.iload 5, 2) := dk_21 5 (dk_at dksX3_lies_2 2 rfl rfl)
theorem dX3_lies_52 : decode cX3_lies 52 = .ok (.aload_n 0, 1) := dk_42 (dk_at dksX3_lies_2 4 rfl rfl)
theorem dX3_lies_53 : decode cX3_lies 53 = .ok (.getfield 7, 3) := dk_180 0 7 (dk_at dksX3_lies_2 5 rfl rfl)
theorem dX3_lies_56 : decode cX3_lies 56 = .ok (.bipush 6, 2) := dk_16 6 (dk_at dksX3_lies_2 8 rfl rfl)
theorem dX3_lies_58 : decode cX3_lies 58 = .ok (.iaload, 1) := dk_46 (dk_at dksX3_lies_2 10 rfl rfl)
theorem dX3_lies_59 : decode cX3_lies 59 = .ok (.if_icmp .ge 45, 3) := dk_162 0 45 (dk_at dksX3_lies_2 11 rfl rfl)
theorem dX3_lies_62 : decode cX3_lies 62 = .ok (.iload 4, 2) := dk_21 4 (dk_at dksX3_lies_2 14 rfl rfl)
theorem dX3_lies_64 : decode cX3_lies 64 = .ok (.aload_n 0, 1) := dk_42 (dk_at dksX3_lies_2 16 rfl rfl)
theorem dX3_lies_65 : decode cX3_lies 65 = .ok (.iload 5, 2) := dk_21 5 (dk_at dksX3_lies_2 17 rfl rfl)
theorem dX3_lies_67 : decode cX3_lies 67 = .ok (.invokevirtual 161, 3) := dk_182 0 161 (dk_at dksX3_lies_2 19 rfl rfl)
theorem dX3_lies_70 : decode cX3_lies 70 = .ok (.aload_n 0, 1) := dk_42 (dk_at dksX3_lies_2 22 rfl rfl)
theorem dX3_lies_71 : decode cX3_lies 71 = .ok (.getfield 23, 3) := dk_180 0 23 (dk_at dksX3_lies_3 0 rfl rfl)
theorem dX3_lies_74 : decode cX3_lies 74 = .ok (.bipush 40, 2) := dk_16 40 (dk_at dksX3_lies_3 3 rfl rfl)
theorem dX3_lies_76 : decode cX3_lies 76 = .ok (.iload_n 1, 1) := dk_27 (dk_at dksX3_lies_3 5 rfl rfl)
theorem dX3_lies_77 : decode cX3_lies 77 = .ok (.imul, 1) := dk_104 (dk_at dksX3_lies_3 6 rfl rfl)
theorem dX3_lies_78 : decode cX3_lies 78 = .ok (.iload_n 2, 1) := dk_28 (dk_at dksX3_lies_3 7 rfl rfl)
theorem dX3_lies_79 : decode cX3_lies 79 = .ok (.iadd, 1) := dk_96 (dk_at dksX3_lies_3 8 rfl rfl)
theorem dX3_lies_80 : decode cX3_lies 80 = .ok (.iload 5, 2) := dk_21 5 (dk_at dksX3_lies_3 9 rfl rfl)
theorem dX3_lies_82 : decode cX3_lies 82 = .ok (.iadd, 1) := dk_96 (dk_at dksX3_lies_3 11 rfl rfl)
theorem dX3_lies_83 : decode cX3_lies 83 = .ok (.iaload, 1) := dk_46 (dk_at dksX3_lies_3 12 rfl rfl)
theorem dX3_lies_84 : decode cX3_lies 84 = .ok (.if_icmp .ge 10, 3) := dk_162 0 10 (dk_at dksX3_lies_3 13 rfl rfl)
theorem dX3_lies_87 : decode cX3_lies 87 = .ok (.iconst 1, 1) := dk_4 (dk_at dksX3_lies_3 16 rfl rfl)
theorem dX3_lies_88 : decode cX3_lies 88 = .ok (.iload 5, 2) := dk_21 5 (dk_at dksX3_lies_3 17 rfl rfl)
theorem dX3_lies_90 : decode cX3_lies 90 = .ok (.ishl, 1) := dk_120 (dk_at dksX3_lies_3 19 rfl rfl)
theorem dX3_lies_91 : decode cX3_lies 91 = .ok (.goto 4, 3) := dk_167 0 4 (dk_at dksX3_lies_3 20 rfl rfl)
theorem dX3_lies_94 : decode cX3_lies 94 = .ok (.iconst 0, 1) := dk_3 (dk_at dksX3_lies_3 23 rfl rfl)
theorem dX3_lies_95 : decode cX3_lies 95 = .ok (.ior, 1) := dk_128 (dk_at dksX3_lies_4 0 rfl rfl)
theorem dX3_lies_96 : decode cX3_lies 96 = .ok (.istore 4, 2) := dk_54 4 (dk_at dksX3_lies_4 1 rfl rfl)
theorem dX3_lies_98 : decode cX3_lies 98 = .ok (.iinc 5 1, 3) := dk_132 5 1 (dk_at dksX3_lies_4 3 rfl rfl)
theorem dX3_lies_101 : decode cX3_lies 101 = .ok (.goto (-51), 3) := dk_167 255 205 (dk_at dksX3_lies_4 6 rfl rfl)
theorem dX3_lies_104 : decode cX3_lies 104 = .ok (.aload_n 0, 1) := dk_42 (dk_at dksX3_lies_4 9 rfl rfl)
theorem dX3_lies_105 : decode cX3_lies 105 = .ok (.iload 4, 2) := dk_21 4 (dk_at dksX3_lies_4 10 rfl rfl)
theorem dX3_lies_107 : decode cX3_lies 107 = .ok (.invokevirtual 78, 3) := dk_182 0 78 (dk_at dksX3_lies_4 12 rfl rfl)
theorem dX3_lies_110 : decode cX3_lies 110 = .ok (.ireturn, 1) := dk_172 (dk_at dksX3_lies_4 15 rfl rfl)
abbrev cX3_crushed : ByteArray := prog_16_method_66_code
def yX3_crushed : MethodName := ⟨RX3, "crushed", "(I)I"⟩
def dkwX3_crushed_3 : List UInt8 := [182, 0, 237, 28, 172]
abbrev dktX3_crushed_3 : List UInt8 := dkwX3_crushed_3 ++ []
def dkwX3_crushed_2 : List UInt8 := [182, 0, 190, 42, 182, 0, 234, 154, 0, 7, 29, 167, 0, 4, 28, 61, 132, 3, 1, 167, 255, 225, 42]
abbrev dktX3_crushed_2 : List UInt8 := dkwX3_crushed_2 ++ dktX3_crushed_3
def dkwX3_crushed_1 : List UInt8 := [172, 42, 182, 0, 231, 18, 211, 61, 3, 62, 29, 27, 162, 0, 32, 28, 18, 211, 160, 0, 26, 42]
abbrev dktX3_crushed_1 : List UInt8 := dkwX3_crushed_1 ++ dktX3_crushed_2
def dkwX3_crushed_0 : List UInt8 := [42, 182, 0, 185, 153, 0, 6, 18, 154, 172, 27, 133, 10, 20, 0, 229, 184, 0, 63, 154, 0, 6, 18, 73]
abbrev dktX3_crushed_0 : List UInt8 := dkwX3_crushed_0 ++ dktX3_crushed_1
theorem dksX3_crushed_0 : cX3_crushed.data.toList.drop 0 = dktX3_crushed_0 := by decide +kernel
theorem dksX3_crushed_1 : cX3_crushed.data.toList.drop 24 = dktX3_crushed_1 := dk_seg dksX3_crushed_0 24 rfl rfl
theorem dksX3_crushed_2 : cX3_crushed.data.toList.drop 46 = dktX3_crushed_2 := dk_seg dksX3_crushed_1 22 rfl rfl
theorem dksX3_crushed_3 : cX3_crushed.data.toList.drop 69 = dktX3_crushed_3 := dk_seg dksX3_crushed_2 23 rfl rfl
theorem dX3_crushed_0 : decode cX3_crushed 0 = .ok (.aload_n 0, 1) := dk_42 (dk_at dksX3_crushed_0 0 rfl rfl)
theorem dX3_crushed_1 : decode cX3_crushed 1 = .ok (.invokevirtual 185, 3) := dk_182 0 185 (dk_at dksX3_crushed_0 1 rfl rfl)
theorem dX3_crushed_4 : decode cX3_crushed 4 = .ok (.ifCond .eq 6, 3) := dk_153 0 6 (dk_at dksX3_crushed_0 4 rfl rfl)
theorem dX3_crushed_7 : decode cX3_crushed 7 = .ok (.ldc 154, 2) := dk_18 154 (dk_at dksX3_crushed_0 7 rfl rfl)
theorem dX3_crushed_9 : decode cX3_crushed 9 = .ok (.ireturn, 1) := dk_172 (dk_at dksX3_crushed_0 9 rfl rfl)
theorem dX3_crushed_10 : decode cX3_crushed 10 = .ok (.iload_n 1, 1) := dk_27 (dk_at dksX3_crushed_0 10 rfl rfl)
theorem dX3_crushed_11 : decode cX3_crushed 11 = .ok (.i2l, 1) := dk_133 (dk_at dksX3_crushed_0 11 rfl rfl)
theorem dX3_crushed_12 : decode cX3_crushed 12 = .ok (.lconst 1, 1) := dk_10 (dk_at dksX3_crushed_0 12 rfl rfl)
theorem dX3_crushed_13 : decode cX3_crushed 13 = .ok (.ldc2_w 229, 3) := dk_20 0 229 (dk_at dksX3_crushed_0 13 rfl rfl)
theorem dX3_crushed_16 : decode cX3_crushed 16 = .ok (.invokestatic 63, 3) := dk_184 0 63 (dk_at dksX3_crushed_0 16 rfl rfl)
theorem dX3_crushed_19 : decode cX3_crushed 19 = .ok (.ifCond .ne 6, 3) := dk_154 0 6 (dk_at dksX3_crushed_0 19 rfl rfl)
theorem dX3_crushed_22 : decode cX3_crushed 22 = .ok (.ldc 73, 2) := dk_18 73 (dk_at dksX3_crushed_0 22 rfl rfl)
theorem dX3_crushed_24 : decode cX3_crushed 24 = .ok (.ireturn, 1) := dk_172 (dk_at dksX3_crushed_1 0 rfl rfl)
theorem dX3_crushed_25 : decode cX3_crushed 25 = .ok (.aload_n 0, 1) := dk_42 (dk_at dksX3_crushed_1 1 rfl rfl)
theorem dX3_crushed_26 : decode cX3_crushed 26 = .ok (.invokevirtual 231, 3) := dk_182 0 231 (dk_at dksX3_crushed_1 2 rfl rfl)
theorem dX3_crushed_29 : decode cX3_crushed 29 = .ok (.ldc 211, 2) := dk_18 211 (dk_at dksX3_crushed_1 5 rfl rfl)
theorem dX3_crushed_31 : decode cX3_crushed 31 = .ok (.istore_n 2, 1) := dk_61 (dk_at dksX3_crushed_1 7 rfl rfl)
theorem dX3_crushed_32 : decode cX3_crushed 32 = .ok (.iconst 0, 1) := dk_3 (dk_at dksX3_crushed_1 8 rfl rfl)
theorem dX3_crushed_33 : decode cX3_crushed 33 = .ok (.istore_n 3, 1) := dk_62 (dk_at dksX3_crushed_1 9 rfl rfl)
theorem dX3_crushed_34 : decode cX3_crushed 34 = .ok (.iload_n 3, 1) := dk_29 (dk_at dksX3_crushed_1 10 rfl rfl)
theorem dX3_crushed_35 : decode cX3_crushed 35 = .ok (.iload_n 1, 1) := dk_27 (dk_at dksX3_crushed_1 11 rfl rfl)
theorem dX3_crushed_36 : decode cX3_crushed 36 = .ok (.if_icmp .ge 32, 3) := dk_162 0 32 (dk_at dksX3_crushed_1 12 rfl rfl)
theorem dX3_crushed_39 : decode cX3_crushed 39 = .ok (.iload_n 2, 1) := dk_28 (dk_at dksX3_crushed_1 15 rfl rfl)
theorem dX3_crushed_40 : decode cX3_crushed 40 = .ok (.ldc 211, 2) := dk_18 211 (dk_at dksX3_crushed_1 16 rfl rfl)
theorem dX3_crushed_42 : decode cX3_crushed 42 = .ok (.if_icmp .ne 26, 3) := dk_160 0 26 (dk_at dksX3_crushed_1 18 rfl rfl)
theorem dX3_crushed_45 : decode cX3_crushed 45 = .ok (.aload_n 0, 1) := dk_42 (dk_at dksX3_crushed_1 21 rfl rfl)
theorem dX3_crushed_46 : decode cX3_crushed 46 = .ok (.invokevirtual 190, 3) := dk_182 0 190 (dk_at dksX3_crushed_2 0 rfl rfl)
theorem dX3_crushed_49 : decode cX3_crushed 49 = .ok (.aload_n 0, 1) := dk_42 (dk_at dksX3_crushed_2 3 rfl rfl)
theorem dX3_crushed_50 : decode cX3_crushed 50 = .ok (.invokevirtual 234, 3) := dk_182 0 234 (dk_at dksX3_crushed_2 4 rfl rfl)
theorem dX3_crushed_53 : decode cX3_crushed 53 = .ok (.ifCond .ne 7, 3) := dk_154 0 7 (dk_at dksX3_crushed_2 7 rfl rfl)
theorem dX3_crushed_56 : decode cX3_crushed 56 = .ok (.iload_n 3, 1) := dk_29 (dk_at dksX3_crushed_2 10 rfl rfl)
theorem dX3_crushed_57 : decode cX3_crushed 57 = .ok (.goto 4, 3) := dk_167 0 4 (dk_at dksX3_crushed_2 11 rfl rfl)
theorem dX3_crushed_60 : decode cX3_crushed 60 = .ok (.iload_n 2, 1) := dk_28 (dk_at dksX3_crushed_2 14 rfl rfl)
theorem dX3_crushed_61 : decode cX3_crushed 61 = .ok (.istore_n 2, 1) := dk_61 (dk_at dksX3_crushed_2 15 rfl rfl)
theorem dX3_crushed_62 : decode cX3_crushed 62 = .ok (.iinc 3 1, 3) := dk_132 3 1 (dk_at dksX3_crushed_2 16 rfl rfl)
theorem dX3_crushed_65 : decode cX3_crushed 65 = .ok (.goto (-31), 3) := dk_167 255 225 (dk_at dksX3_crushed_2 19 rfl rfl)
theorem dX3_crushed_68 : decode cX3_crushed 68 = .ok (.aload_n 0, 1) := dk_42 (dk_at dksX3_crushed_2 22 rfl rfl)
theorem dX3_crushed_69 : decode cX3_crushed 69 = .ok (.invokevirtual 237, 3) := dk_182 0 237 (dk_at dksX3_crushed_3 0 rfl rfl)
theorem dX3_crushed_72 : decode cX3_crushed 72 = .ok (.iload_n 2, 1) := dk_28 (dk_at dksX3_crushed_3 3 rfl rfl)
theorem dX3_crushed_73 : decode cX3_crushed 73 = .ok (.ireturn, 1) := dk_172 (dk_at dksX3_crushed_3 4 rfl rfl)
abbrev cX3_lays : ByteArray := prog_16_method_64_code
def yX3_lays : MethodName := ⟨RX3, "lays", "()V"⟩
def dkwX3_lays_1 : List UInt8 := [132, 1, 1, 167, 255, 232, 177]
abbrev dktX3_lays_1 : List UInt8 := dkwX3_lays_1 ++ []
def dkwX3_lays_0 : List UInt8 := [3, 60, 27, 16, 10, 162, 0, 24, 42, 180, 0, 50, 27, 42, 180, 0, 7, 16, 15, 27, 96, 46, 79]
abbrev dktX3_lays_0 : List UInt8 := dkwX3_lays_0 ++ dktX3_lays_1
theorem dksX3_lays_0 : cX3_lays.data.toList.drop 0 = dktX3_lays_0 := by decide +kernel
theorem dksX3_lays_1 : cX3_lays.data.toList.drop 23 = dktX3_lays_1 := dk_seg dksX3_lays_0 23 rfl rfl
theorem dX3_lays_0 : decode cX3_lays 0 = .ok (.iconst 0, 1) := dk_3 (dk_at dksX3_lays_0 0 rfl rfl)
theorem dX3_lays_1 : decode cX3_lays 1 = .ok (.istore_n 1, 1) := dk_60 (dk_at dksX3_lays_0 1 rfl rfl)
theorem dX3_lays_2 : decode cX3_lays 2 = .ok (.iload_n 1, 1) := dk_27 (dk_at dksX3_lays_0 2 rfl rfl)
theorem dX3_lays_3 : decode cX3_lays 3 = .ok (.bipush 10, 2) := dk_16 10 (dk_at dksX3_lays_0 3 rfl rfl)
theorem dX3_lays_5 : decode cX3_lays 5 = .ok (.if_icmp .ge 24, 3) := dk_162 0 24 (dk_at dksX3_lays_0 5 rfl rfl)
theorem dX3_lays_8 : decode cX3_lays 8 = .ok (.aload_n 0, 1) := dk_42 (dk_at dksX3_lays_0 8 rfl rfl)
theorem dX3_lays_9 : decode cX3_lays 9 = .ok (.getfield 50, 3) := dk_180 0 50 (dk_at dksX3_lays_0 9 rfl rfl)
theorem dX3_lays_12 : decode cX3_lays 12 = .ok (.iload_n 1, 1) := dk_27 (dk_at dksX3_lays_0 12 rfl rfl)
theorem dX3_lays_13 : decode cX3_lays 13 = .ok (.aload_n 0, 1) := dk_42 (dk_at dksX3_lays_0 13 rfl rfl)
theorem dX3_lays_14 : decode cX3_lays 14 = .ok (.getfield 7, 3) := dk_180 0 7 (dk_at dksX3_lays_0 14 rfl rfl)
theorem dX3_lays_17 : decode cX3_lays 17 = .ok (.bipush 15, 2) := dk_16 15 (dk_at dksX3_lays_0 17 rfl rfl)
theorem dX3_lays_19 : decode cX3_lays 19 = .ok (.iload_n 1, 1) := dk_27 (dk_at dksX3_lays_0 19 rfl rfl)
theorem dX3_lays_20 : decode cX3_lays 20 = .ok (.iadd, 1) := dk_96 (dk_at dksX3_lays_0 20 rfl rfl)
theorem dX3_lays_21 : decode cX3_lays 21 = .ok (.iaload, 1) := dk_46 (dk_at dksX3_lays_0 21 rfl rfl)
theorem dX3_lays_22 : decode cX3_lays 22 = .ok (.iastore, 1) := dk_79 (dk_at dksX3_lays_0 22 rfl rfl)
theorem dX3_lays_23 : decode cX3_lays 23 = .ok (.iinc 1 1, 3) := dk_132 1 1 (dk_at dksX3_lays_1 0 rfl rfl)
theorem dX3_lays_26 : decode cX3_lays 26 = .ok (.goto (-24), 3) := dk_167 255 232 (dk_at dksX3_lays_1 3 rfl rfl)
theorem dX3_lays_29 : decode cX3_lays 29 = .ok (.return_, 1) := dk_177 (dk_at dksX3_lays_1 6 rfl rfl)
abbrev cX3_crushedNow : ByteArray := prog_16_method_63_code
def yX3_crushedNow : MethodName := ⟨RX3, "crushedNow", "()I"⟩
def dkwX3_crushedNow_1 : List UInt8 := [4, 28, 120, 167, 0, 4, 3, 128, 60, 132, 2, 1, 167, 255, 224, 27, 172]
abbrev dktX3_crushedNow_1 : List UInt8 := dkwX3_crushedNow_1 ++ []
def dkwX3_crushedNow_0 : List UInt8 := [3, 60, 3, 61, 28, 42, 180, 0, 7, 16, 6, 46, 162, 0, 27, 27, 42, 28, 182, 0, 195, 153, 0, 9]
abbrev dktX3_crushedNow_0 : List UInt8 := dkwX3_crushedNow_0 ++ dktX3_crushedNow_1
theorem dksX3_crushedNow_0 : cX3_crushedNow.data.toList.drop 0 = dktX3_crushedNow_0 := by decide +kernel
theorem dksX3_crushedNow_1 : cX3_crushedNow.data.toList.drop 24 = dktX3_crushedNow_1 := dk_seg dksX3_crushedNow_0 24 rfl rfl
theorem dX3_crushedNow_0 : decode cX3_crushedNow 0 = .ok (.iconst 0, 1) := dk_3 (dk_at dksX3_crushedNow_0 0 rfl rfl)
theorem dX3_crushedNow_1 : decode cX3_crushedNow 1 = .ok (.istore_n 1, 1) := dk_60 (dk_at dksX3_crushedNow_0 1 rfl rfl)
theorem dX3_crushedNow_2 : decode cX3_crushedNow 2 = .ok (.iconst 0, 1) := dk_3 (dk_at dksX3_crushedNow_0 2 rfl rfl)
theorem dX3_crushedNow_3 : decode cX3_crushedNow 3 = .ok (.istore_n 2, 1) := dk_61 (dk_at dksX3_crushedNow_0 3 rfl rfl)
theorem dX3_crushedNow_4 : decode cX3_crushedNow 4 = .ok (.iload_n 2, 1) := dk_28 (dk_at dksX3_crushedNow_0 4 rfl rfl)
theorem dX3_crushedNow_5 : decode cX3_crushedNow 5 = .ok (.aload_n 0, 1) := dk_42 (dk_at dksX3_crushedNow_0 5 rfl rfl)
theorem dX3_crushedNow_6 : decode cX3_crushedNow 6 = .ok (.getfield 7, 3) := dk_180 0 7 (dk_at dksX3_crushedNow_0 6 rfl rfl)
theorem dX3_crushedNow_9 : decode cX3_crushedNow 9 = .ok (.bipush 6, 2) := dk_16 6 (dk_at dksX3_crushedNow_0 9 rfl rfl)
theorem dX3_crushedNow_11 : decode cX3_crushedNow 11 = .ok (.iaload, 1) := dk_46 (dk_at dksX3_crushedNow_0 11 rfl rfl)
theorem dX3_crushedNow_12 : decode cX3_crushedNow 12 = .ok (.if_icmp .ge 27, 3) := dk_162 0 27 (dk_at dksX3_crushedNow_0 12 rfl rfl)
theorem dX3_crushedNow_15 : decode cX3_crushedNow 15 = .ok (.iload_n 1, 1) := dk_27 (dk_at dksX3_crushedNow_0 15 rfl rfl)
theorem dX3_crushedNow_16 : decode cX3_crushedNow 16 = .ok (.aload_n 0, 1) := dk_42 (dk_at dksX3_crushedNow_0 16 rfl rfl)
theorem dX3_crushedNow_17 : decode cX3_crushedNow 17 = .ok (.iload_n 2, 1) := dk_28 (dk_at dksX3_crushedNow_0 17 rfl rfl)
theorem dX3_crushedNow_18 : decode cX3_crushedNow 18 = .ok (.invokevirtual 195, 3) := dk_182 0 195 (dk_at dksX3_crushedNow_0 18 rfl rfl)
theorem dX3_crushedNow_21 : decode cX3_crushedNow 21 = .ok (.ifCond .eq 9, 3) := dk_153 0 9 (dk_at dksX3_crushedNow_0 21 rfl rfl)
theorem dX3_crushedNow_24 : decode cX3_crushedNow 24 = .ok (.iconst 1, 1) := dk_4 (dk_at dksX3_crushedNow_1 0 rfl rfl)
theorem dX3_crushedNow_25 : decode cX3_crushedNow 25 = .ok (.iload_n 2, 1) := dk_28 (dk_at dksX3_crushedNow_1 1 rfl rfl)
theorem dX3_crushedNow_26 : decode cX3_crushedNow 26 = .ok (.ishl, 1) := dk_120 (dk_at dksX3_crushedNow_1 2 rfl rfl)
theorem dX3_crushedNow_27 : decode cX3_crushedNow 27 = .ok (.goto 4, 3) := dk_167 0 4 (dk_at dksX3_crushedNow_1 3 rfl rfl)
theorem dX3_crushedNow_30 : decode cX3_crushedNow 30 = .ok (.iconst 0, 1) := dk_3 (dk_at dksX3_crushedNow_1 6 rfl rfl)
theorem dX3_crushedNow_31 : decode cX3_crushedNow 31 = .ok (.ior, 1) := dk_128 (dk_at dksX3_crushedNow_1 7 rfl rfl)
theorem dX3_crushedNow_32 : decode cX3_crushedNow 32 = .ok (.istore_n 1, 1) := dk_60 (dk_at dksX3_crushedNow_1 8 rfl rfl)
theorem dX3_crushedNow_33 : decode cX3_crushedNow 33 = .ok (.iinc 2 1, 3) := dk_132 2 1 (dk_at dksX3_crushedNow_1 9 rfl rfl)
theorem dX3_crushedNow_36 : decode cX3_crushedNow 36 = .ok (.goto (-32), 3) := dk_167 255 224 (dk_at dksX3_crushedNow_1 12 rfl rfl)
theorem dX3_crushedNow_39 : decode cX3_crushedNow 39 = .ok (.iload_n 1, 1) := dk_27 (dk_at dksX3_crushedNow_1 15 rfl rfl)
theorem dX3_crushedNow_40 : decode cX3_crushedNow 40 = .ok (.ireturn, 1) := dk_172 (dk_at dksX3_crushedNow_1 16 rfl rfl)
abbrev cX3_putsBack : ByteArray := prog_16_method_65_code
def yX3_putsBack : MethodName := ⟨RX3, "putsBack", "()V"⟩
def dkwX3_putsBack_1 : List UInt8 := [132, 1, 1, 167, 255, 232, 177]
abbrev dktX3_putsBack_1 : List UInt8 := dkwX3_putsBack_1 ++ []
def dkwX3_putsBack_0 : List UInt8 := [3, 60, 27, 16, 10, 162, 0, 24, 42, 180, 0, 7, 16, 15, 27, 96, 42, 180, 0, 50, 27, 46, 79]
abbrev dktX3_putsBack_0 : List UInt8 := dkwX3_putsBack_0 ++ dktX3_putsBack_1
theorem dksX3_putsBack_0 : cX3_putsBack.data.toList.drop 0 = dktX3_putsBack_0 := by decide +kernel
theorem dksX3_putsBack_1 : cX3_putsBack.data.toList.drop 23 = dktX3_putsBack_1 := dk_seg dksX3_putsBack_0 23 rfl rfl
theorem dX3_putsBack_0 : decode cX3_putsBack 0 = .ok (.iconst 0, 1) := dk_3 (dk_at dksX3_putsBack_0 0 rfl rfl)
theorem dX3_putsBack_1 : decode cX3_putsBack 1 = .ok (.istore_n 1, 1) := dk_60 (dk_at dksX3_putsBack_0 1 rfl rfl)
theorem dX3_putsBack_2 : decode cX3_putsBack 2 = .ok (.iload_n 1, 1) := dk_27 (dk_at dksX3_putsBack_0 2 rfl rfl)
theorem dX3_putsBack_3 : decode cX3_putsBack 3 = .ok (.bipush 10, 2) := dk_16 10 (dk_at dksX3_putsBack_0 3 rfl rfl)
theorem dX3_putsBack_5 : decode cX3_putsBack 5 = .ok (.if_icmp .ge 24, 3) := dk_162 0 24 (dk_at dksX3_putsBack_0 5 rfl rfl)
theorem dX3_putsBack_8 : decode cX3_putsBack 8 = .ok (.aload_n 0, 1) := dk_42 (dk_at dksX3_putsBack_0 8 rfl rfl)
theorem dX3_putsBack_9 : decode cX3_putsBack 9 = .ok (.getfield 7, 3) := dk_180 0 7 (dk_at dksX3_putsBack_0 9 rfl rfl)
theorem dX3_putsBack_12 : decode cX3_putsBack 12 = .ok (.bipush 15, 2) := dk_16 15 (dk_at dksX3_putsBack_0 12 rfl rfl)
theorem dX3_putsBack_14 : decode cX3_putsBack 14 = .ok (.iload_n 1, 1) := dk_27 (dk_at dksX3_putsBack_0 14 rfl rfl)
theorem dX3_putsBack_15 : decode cX3_putsBack 15 = .ok (.iadd, 1) := dk_96 (dk_at dksX3_putsBack_0 15 rfl rfl)
theorem dX3_putsBack_16 : decode cX3_putsBack 16 = .ok (.aload_n 0, 1) := dk_42 (dk_at dksX3_putsBack_0 16 rfl rfl)
theorem dX3_putsBack_17 : decode cX3_putsBack 17 = .ok (.getfield 50, 3) := dk_180 0 50 (dk_at dksX3_putsBack_0 17 rfl rfl)
theorem dX3_putsBack_20 : decode cX3_putsBack 20 = .ok (.iload_n 1, 1) := dk_27 (dk_at dksX3_putsBack_0 20 rfl rfl)
theorem dX3_putsBack_21 : decode cX3_putsBack 21 = .ok (.iaload, 1) := dk_46 (dk_at dksX3_putsBack_0 21 rfl rfl)
theorem dX3_putsBack_22 : decode cX3_putsBack 22 = .ok (.iastore, 1) := dk_79 (dk_at dksX3_putsBack_0 22 rfl rfl)
theorem dX3_putsBack_23 : decode cX3_putsBack 23 = .ok (.iinc 1 1, 3) := dk_132 1 1 (dk_at dksX3_putsBack_1 0 rfl rfl)
theorem dX3_putsBack_26 : decode cX3_putsBack 26 = .ok (.goto (-24), 3) := dk_167 255 232 (dk_at dksX3_putsBack_1 3 rfl rfl)
theorem dX3_putsBack_29 : decode cX3_putsBack 29 = .ok (.return_, 1) := dk_177 (dk_at dksX3_putsBack_1 6 rfl rfl)
abbrev cX3_late : ByteArray := prog_16_method_67_code
def yX3_late : MethodName := ⟨RX3, "late", "()I"⟩
def dkwX3_late_3 : List UInt8 := [167, 255, 201, 27, 172]
abbrev dktX3_late_3 : List UInt8 := dkwX3_late_3 ++ []
def dkwX3_late_2 : List UInt8 := [46, 42, 180, 0, 7, 16, 8, 46, 162, 0, 9, 4, 28, 120, 167, 0, 4, 3, 128, 60, 132, 2, 1]
abbrev dktX3_late_2 : List UInt8 := dkwX3_late_2 ++ dktX3_late_3
def dkwX3_late_1 : List UInt8 := [162, 0, 50, 27, 42, 180, 0, 7, 16, 65, 28, 96, 46, 154, 0, 28, 42, 180, 0, 7, 16, 49, 28, 96]
abbrev dktX3_late_1 : List UInt8 := dkwX3_late_1 ++ dktX3_late_2
def dkwX3_late_0 : List UInt8 := [42, 182, 0, 185, 153, 0, 6, 18, 154, 172, 3, 60, 3, 61, 28, 42, 180, 0, 7, 16, 7, 46]
abbrev dktX3_late_0 : List UInt8 := dkwX3_late_0 ++ dktX3_late_1
theorem dksX3_late_0 : cX3_late.data.toList.drop 0 = dktX3_late_0 := by decide +kernel
theorem dksX3_late_1 : cX3_late.data.toList.drop 22 = dktX3_late_1 := dk_seg dksX3_late_0 22 rfl rfl
theorem dksX3_late_2 : cX3_late.data.toList.drop 46 = dktX3_late_2 := dk_seg dksX3_late_1 24 rfl rfl
theorem dksX3_late_3 : cX3_late.data.toList.drop 69 = dktX3_late_3 := dk_seg dksX3_late_2 23 rfl rfl
theorem dX3_late_0 : decode cX3_late 0 = .ok (.aload_n 0, 1) := dk_42 (dk_at dksX3_late_0 0 rfl rfl)
theorem dX3_late_1 : decode cX3_late 1 = .ok (.invokevirtual 185, 3) := dk_182 0 185 (dk_at dksX3_late_0 1 rfl rfl)
theorem dX3_late_4 : decode cX3_late 4 = .ok (.ifCond .eq 6, 3) := dk_153 0 6 (dk_at dksX3_late_0 4 rfl rfl)
theorem dX3_late_7 : decode cX3_late 7 = .ok (.ldc 154, 2) := dk_18 154 (dk_at dksX3_late_0 7 rfl rfl)
theorem dX3_late_9 : decode cX3_late 9 = .ok (.ireturn, 1) := dk_172 (dk_at dksX3_late_0 9 rfl rfl)
theorem dX3_late_10 : decode cX3_late 10 = .ok (.iconst 0, 1) := dk_3 (dk_at dksX3_late_0 10 rfl rfl)
theorem dX3_late_11 : decode cX3_late 11 = .ok (.istore_n 1, 1) := dk_60 (dk_at dksX3_late_0 11 rfl rfl)
theorem dX3_late_12 : decode cX3_late 12 = .ok (.iconst 0, 1) := dk_3 (dk_at dksX3_late_0 12 rfl rfl)
theorem dX3_late_13 : decode cX3_late 13 = .ok (.istore_n 2, 1) := dk_61 (dk_at dksX3_late_0 13 rfl rfl)
theorem dX3_late_14 : decode cX3_late 14 = .ok (.iload_n 2, 1) := dk_28 (dk_at dksX3_late_0 14 rfl rfl)
theorem dX3_late_15 : decode cX3_late 15 = .ok (.aload_n 0, 1) := dk_42 (dk_at dksX3_late_0 15 rfl rfl)
theorem dX3_late_16 : decode cX3_late 16 = .ok (.getfield 7, 3) := dk_180 0 7 (dk_at dksX3_late_0 16 rfl rfl)
theorem dX3_late_19 : decode cX3_late 19 = .ok (.bipush 7, 2) := dk_16 7 (dk_at dksX3_late_0 19 rfl rfl)
theorem dX3_late_21 : decode cX3_late 21 = .ok (.iaload, 1) := dk_46 (dk_at dksX3_late_0 21 rfl rfl)
theorem dX3_late_22 : decode cX3_late 22 = .ok (.if_icmp .ge 50, 3) := dk_162 0 50 (dk_at dksX3_late_1 0 rfl rfl)
theorem dX3_late_25 : decode cX3_late 25 = .ok (.iload_n 1, 1) := dk_27 (dk_at dksX3_late_1 3 rfl rfl)
theorem dX3_late_26 : decode cX3_late 26 = .ok (.aload_n 0, 1) := dk_42 (dk_at dksX3_late_1 4 rfl rfl)
theorem dX3_late_27 : decode cX3_late 27 = .ok (.getfield 7, 3) := dk_180 0 7 (dk_at dksX3_late_1 5 rfl rfl)
theorem dX3_late_30 : decode cX3_late 30 = .ok (.bipush 65, 2) := dk_16 65 (dk_at dksX3_late_1 8 rfl rfl)
theorem dX3_late_32 : decode cX3_late 32 = .ok (.iload_n 2, 1) := dk_28 (dk_at dksX3_late_1 10 rfl rfl)
theorem dX3_late_33 : decode cX3_late 33 = .ok (.iadd, 1) := dk_96 (dk_at dksX3_late_1 11 rfl rfl)
theorem dX3_late_34 : decode cX3_late 34 = .ok (.iaload, 1) := dk_46 (dk_at dksX3_late_1 12 rfl rfl)
theorem dX3_late_35 : decode cX3_late 35 = .ok (.ifCond .ne 28, 3) := dk_154 0 28 (dk_at dksX3_late_1 13 rfl rfl)
theorem dX3_late_38 : decode cX3_late 38 = .ok (.aload_n 0, 1) := dk_42 (dk_at dksX3_late_1 16 rfl rfl)
theorem dX3_late_39 : decode cX3_late 39 = .ok (.getfield 7, 3) := dk_180 0 7 (dk_at dksX3_late_1 17 rfl rfl)
theorem dX3_late_42 : decode cX3_late 42 = .ok (.bipush 49, 2) := dk_16 49 (dk_at dksX3_late_1 20 rfl rfl)
theorem dX3_late_44 : decode cX3_late 44 = .ok (.iload_n 2, 1) := dk_28 (dk_at dksX3_late_1 22 rfl rfl)
theorem dX3_late_45 : decode cX3_late 45 = .ok (.iadd, 1) := dk_96 (dk_at dksX3_late_1 23 rfl rfl)
theorem dX3_late_46 : decode cX3_late 46 = .ok (.iaload, 1) := dk_46 (dk_at dksX3_late_2 0 rfl rfl)
theorem dX3_late_47 : decode cX3_late 47 = .ok (.aload_n 0, 1) := dk_42 (dk_at dksX3_late_2 1 rfl rfl)
theorem dX3_late_48 : decode cX3_late 48 = .ok (.getfield 7, 3) := dk_180 0 7 (dk_at dksX3_late_2 2 rfl rfl)
theorem dX3_late_51 : decode cX3_late 51 = .ok (.bipush 8, 2) := dk_16 8 (dk_at dksX3_late_2 5 rfl rfl)
theorem dX3_late_53 : decode cX3_late 53 = .ok (.iaload, 1) := dk_46 (dk_at dksX3_late_2 7 rfl rfl)
theorem dX3_late_54 : decode cX3_late 54 = .ok (.if_icmp .ge 9, 3) := dk_162 0 9 (dk_at dksX3_late_2 8 rfl rfl)
theorem dX3_late_57 : decode cX3_late 57 = .ok (.iconst 1, 1) := dk_4 (dk_at dksX3_late_2 11 rfl rfl)
theorem dX3_late_58 : decode cX3_late 58 = .ok (.iload_n 2, 1) := dk_28 (dk_at dksX3_late_2 12 rfl rfl)
theorem dX3_late_59 : decode cX3_late 59 = .ok (.ishl, 1) := dk_120 (dk_at dksX3_late_2 13 rfl rfl)
theorem dX3_late_60 : decode cX3_late 60 = .ok (.goto 4, 3) := dk_167 0 4 (dk_at dksX3_late_2 14 rfl rfl)
theorem dX3_late_63 : decode cX3_late 63 = .ok (.iconst 0, 1) := dk_3 (dk_at dksX3_late_2 17 rfl rfl)
theorem dX3_late_64 : decode cX3_late 64 = .ok (.ior, 1) := dk_128 (dk_at dksX3_late_2 18 rfl rfl)
theorem dX3_late_65 : decode cX3_late 65 = .ok (.istore_n 1, 1) := dk_60 (dk_at dksX3_late_2 19 rfl rfl)
theorem dX3_late_66 : decode cX3_late 66 = .ok (.iinc 2 1, 3) := dk_132 2 1 (dk_at dksX3_late_2 20 rfl rfl)
theorem dX3_late_69 : decode cX3_late 69 = .ok (.goto (-55), 3) := dk_167 255 201 (dk_at dksX3_late_3 0 rfl rfl)
theorem dX3_late_72 : decode cX3_late 72 = .ok (.iload_n 1, 1) := dk_27 (dk_at dksX3_late_3 3 rfl rfl)
theorem dX3_late_73 : decode cX3_late 73 = .ok (.ireturn, 1) := dk_172 (dk_at dksX3_late_3 4 rfl rfl)
abbrev cX3_year : ByteArray := prog_16_method_68_code
def yX3_year : MethodName := ⟨RX3, "year", "(III)I"⟩
def dkwX3_year_10 : List UInt8 := [132, 8, 1, 167, 255, 180, 42, 182, 0, 237, 29, 154, 0, 8, 21, 7, 167, 0, 5, 21, 6, 172]
abbrev dktX3_year_10 : List UInt8 := dkwX3_year_10 ++ []
def dkwX3_year_9 : List UInt8 := [180, 0, 7, 16, 20, 21, 7, 96, 46, 96, 46, 164, 0, 8, 21, 8, 167, 0, 5, 21, 7, 54, 7]
abbrev dktX3_year_9 : List UInt8 := dkwX3_year_9 ++ dktX3_year_10
def dkwX3_year_8 : List UInt8 := [180, 0, 7, 3, 42, 180, 0, 7, 16, 20, 21, 8, 96, 46, 96, 46, 42, 180, 0, 7, 3, 42]
abbrev dktX3_year_8 : List UInt8 := dkwX3_year_8 ++ dktX3_year_9
def dkwX3_year_7 : List UInt8 := [16, 6, 46, 162, 0, 70, 21, 6, 42, 180, 0, 7, 16, 20, 21, 8, 96, 46, 96, 54, 6, 42]
abbrev dktX3_year_7 : List UInt8 := dkwX3_year_7 ++ dktX3_year_8
def dkwX3_year_6 : List UInt8 := [182, 0, 190, 132, 6, 1, 167, 255, 169, 3, 54, 6, 3, 54, 7, 3, 54, 8, 21, 8, 42, 180, 0, 7]
abbrev dktX3_year_6 : List UInt8 := dkwX3_year_6 ++ dktX3_year_7
def dkwX3_year_5 : List UInt8 := [96, 92, 46, 42, 21, 7, 21, 8, 182, 0, 172, 153, 0, 8, 21, 8, 167, 0, 4, 3, 96, 79, 42]
abbrev dktX3_year_5 : List UInt8 := dkwX3_year_5 ++ dktX3_year_6
def dkwX3_year_4 : List UInt8 := [20, 0, 71, 113, 9, 148, 154, 0, 7, 4, 167, 0, 4, 2, 54, 8, 42, 180, 0, 7, 16, 20, 21, 7]
abbrev dktX3_year_4 : List UInt8 := dkwX3_year_4 ++ dktX3_year_5
def dkwX3_year_3 : List UInt8 := [20, 0, 244, 113, 55, 4, 22, 4, 42, 180, 0, 7, 16, 6, 46, 133, 113, 136, 54, 7, 22, 4]
abbrev dktX3_year_3 : List UInt8 := dkwX3_year_3 ++ dktX3_year_4
def dkwX3_year_2 : List UInt8 := [182, 0, 231, 28, 133, 55, 4, 3, 54, 6, 21, 6, 27, 162, 0, 87, 22, 4, 20, 0, 242, 105]
abbrev dktX3_year_2 : List UInt8 := dkwX3_year_2 ++ dktX3_year_3
def dkwX3_year_1 : List UInt8 := [10, 20, 0, 240, 184, 0, 63, 153, 0, 13, 29, 133, 9, 10, 184, 0, 63, 154, 0, 6, 18, 73, 172, 42]
abbrev dktX3_year_1 : List UInt8 := dkwX3_year_1 ++ dktX3_year_2
def dkwX3_year_0 : List UInt8 := [42, 182, 0, 185, 153, 0, 6, 18, 154, 172, 27, 133, 9, 20, 0, 229, 184, 0, 63, 153, 0, 25, 28, 133]
abbrev dktX3_year_0 : List UInt8 := dkwX3_year_0 ++ dktX3_year_1
theorem dksX3_year_0 : cX3_year.data.toList.drop 0 = dktX3_year_0 := by decide +kernel
theorem dksX3_year_1 : cX3_year.data.toList.drop 24 = dktX3_year_1 := dk_seg dksX3_year_0 24 rfl rfl
theorem dksX3_year_2 : cX3_year.data.toList.drop 48 = dktX3_year_2 := dk_seg dksX3_year_1 24 rfl rfl
theorem dksX3_year_3 : cX3_year.data.toList.drop 70 = dktX3_year_3 := dk_seg dksX3_year_2 22 rfl rfl
theorem dksX3_year_4 : cX3_year.data.toList.drop 92 = dktX3_year_4 := dk_seg dksX3_year_3 22 rfl rfl
theorem dksX3_year_5 : cX3_year.data.toList.drop 116 = dktX3_year_5 := dk_seg dksX3_year_4 24 rfl rfl
theorem dksX3_year_6 : cX3_year.data.toList.drop 139 = dktX3_year_6 := dk_seg dksX3_year_5 23 rfl rfl
theorem dksX3_year_7 : cX3_year.data.toList.drop 163 = dktX3_year_7 := dk_seg dksX3_year_6 24 rfl rfl
theorem dksX3_year_8 : cX3_year.data.toList.drop 185 = dktX3_year_8 := dk_seg dksX3_year_7 22 rfl rfl
theorem dksX3_year_9 : cX3_year.data.toList.drop 207 = dktX3_year_9 := dk_seg dksX3_year_8 22 rfl rfl
theorem dksX3_year_10 : cX3_year.data.toList.drop 230 = dktX3_year_10 := dk_seg dksX3_year_9 23 rfl rfl
theorem dX3_year_0 : decode cX3_year 0 = .ok (.aload_n 0, 1) := dk_42 (dk_at dksX3_year_0 0 rfl rfl)
theorem dX3_year_1 : decode cX3_year 1 = .ok (.invokevirtual 185, 3) := dk_182 0 185 (dk_at dksX3_year_0 1 rfl rfl)
theorem dX3_year_4 : decode cX3_year 4 = .ok (.ifCond .eq 6, 3) := dk_153 0 6 (dk_at dksX3_year_0 4 rfl rfl)
theorem dX3_year_7 : decode cX3_year 7 = .ok (.ldc 154, 2) := dk_18 154 (dk_at dksX3_year_0 7 rfl rfl)
theorem dX3_year_9 : decode cX3_year 9 = .ok (.ireturn, 1) := dk_172 (dk_at dksX3_year_0 9 rfl rfl)
theorem dX3_year_10 : decode cX3_year 10 = .ok (.iload_n 1, 1) := dk_27 (dk_at dksX3_year_0 10 rfl rfl)
theorem dX3_year_11 : decode cX3_year 11 = .ok (.i2l, 1) := dk_133 (dk_at dksX3_year_0 11 rfl rfl)
theorem dX3_year_12 : decode cX3_year 12 = .ok (.lconst 0, 1) := dk_9 (dk_at dksX3_year_0 12 rfl rfl)
theorem dX3_year_13 : decode cX3_year 13 = .ok (.ldc2_w 229, 3) := dk_20 0 229 (dk_at dksX3_year_0 13 rfl rfl)
theorem dX3_year_16 : decode cX3_year 16 = .ok (.invokestatic 63, 3) := dk_184 0 63 (dk_at dksX3_year_0 16 rfl rfl)
theorem dX3_year_19 : decode cX3_year 19 = .ok (.ifCond .eq 25, 3) := dk_153 0 25 (dk_at dksX3_year_0 19 rfl rfl)
theorem dX3_year_22 : decode cX3_year 22 = .ok (.iload_n 2, 1) := dk_28 (dk_at dksX3_year_0 22 rfl rfl)
theorem dX3_year_23 : decode cX3_year 23 = .ok (.i2l, 1) := dk_133 (dk_at dksX3_year_0 23 rfl rfl)
theorem dX3_year_24 : decode cX3_year 24 = .ok (.lconst 1, 1) := dk_10 (dk_at dksX3_year_1 0 rfl rfl)
theorem dX3_year_25 : decode cX3_year 25 = .ok (.ldc2_w 240, 3) := dk_20 0 240 (dk_at dksX3_year_1 1 rfl rfl)
theorem dX3_year_28 : decode cX3_year 28 = .ok (.invokestatic 63, 3) := dk_184 0 63 (dk_at dksX3_year_1 4 rfl rfl)
theorem dX3_year_31 : decode cX3_year 31 = .ok (.ifCond .eq 13, 3) := dk_153 0 13 (dk_at dksX3_year_1 7 rfl rfl)
theorem dX3_year_34 : decode cX3_year 34 = .ok (.iload_n 3, 1) := dk_29 (dk_at dksX3_year_1 10 rfl rfl)
theorem dX3_year_35 : decode cX3_year 35 = .ok (.i2l, 1) := dk_133 (dk_at dksX3_year_1 11 rfl rfl)
theorem dX3_year_36 : decode cX3_year 36 = .ok (.lconst 0, 1) := dk_9 (dk_at dksX3_year_1 12 rfl rfl)
theorem dX3_year_37 : decode cX3_year 37 = .ok (.lconst 1, 1) := dk_10 (dk_at dksX3_year_1 13 rfl rfl)
theorem dX3_year_38 : decode cX3_year 38 = .ok (.invokestatic 63, 3) := dk_184 0 63 (dk_at dksX3_year_1 14 rfl rfl)
theorem dX3_year_41 : decode cX3_year 41 = .ok (.ifCond .ne 6, 3) := dk_154 0 6 (dk_at dksX3_year_1 17 rfl rfl)
theorem dX3_year_44 : decode cX3_year 44 = .ok (.ldc 73, 2) := dk_18 73 (dk_at dksX3_year_1 20 rfl rfl)
theorem dX3_year_46 : decode cX3_year 46 = .ok (.ireturn, 1) := dk_172 (dk_at dksX3_year_1 22 rfl rfl)
theorem dX3_year_47 : decode cX3_year 47 = .ok (.aload_n 0, 1) := dk_42 (dk_at dksX3_year_1 23 rfl rfl)
theorem dX3_year_48 : decode cX3_year 48 = .ok (.invokevirtual 231, 3) := dk_182 0 231 (dk_at dksX3_year_2 0 rfl rfl)
theorem dX3_year_51 : decode cX3_year 51 = .ok (.iload_n 2, 1) := dk_28 (dk_at dksX3_year_2 3 rfl rfl)
theorem dX3_year_52 : decode cX3_year 52 = .ok (.i2l, 1) := dk_133 (dk_at dksX3_year_2 4 rfl rfl)
theorem dX3_year_53 : decode cX3_year 53 = .ok (.lstore 4, 2) := dk_55 4 (dk_at dksX3_year_2 5 rfl rfl)
theorem dX3_year_55 : decode cX3_year 55 = .ok (.iconst 0, 1) := dk_3 (dk_at dksX3_year_2 7 rfl rfl)
theorem dX3_year_56 : decode cX3_year 56 = .ok (.istore 6, 2) := dk_54 6 (dk_at dksX3_year_2 8 rfl rfl)
theorem dX3_year_58 : decode cX3_year 58 = .ok (.iload 6, 2) := dk_21 6 (dk_at dksX3_year_2 10 rfl rfl)
theorem dX3_year_60 : decode cX3_year 60 = .ok (.iload_n 1, 1) := dk_27 (dk_at dksX3_year_2 12 rfl rfl)
theorem dX3_year_61 : decode cX3_year 61 = .ok (.if_icmp .ge 87, 3) := dk_162 0 87 (dk_at dksX3_year_2 13 rfl rfl)
theorem dX3_year_64 : decode cX3_year 64 = .ok (.lload 4, 2) := dk_22 4 (dk_at dksX3_year_2 16 rfl rfl)
theorem dX3_year_66 : decode cX3_year 66 = .ok (.ldc2_w 242, 3) := dk_20 0 242 (dk_at dksX3_year_2 18 rfl rfl)
theorem dX3_year_69 : decode cX3_year 69 = .ok (.lmul, 1) := dk_105 (dk_at dksX3_year_2 21 rfl rfl)
theorem dX3_year_70 : decode cX3_year 70 = .ok (.ldc2_w 244, 3) := dk_20 0 244 (dk_at dksX3_year_3 0 rfl rfl)
theorem dX3_year_73 : decode cX3_year 73 = .ok (.lrem, 1) := dk_113 (dk_at dksX3_year_3 3 rfl rfl)
theorem dX3_year_74 : decode cX3_year 74 = .ok (.lstore 4, 2) := dk_55 4 (dk_at dksX3_year_3 4 rfl rfl)
theorem dX3_year_76 : decode cX3_year 76 = .ok (.lload 4, 2) := dk_22 4 (dk_at dksX3_year_3 6 rfl rfl)
theorem dX3_year_78 : decode cX3_year 78 = .ok (.aload_n 0, 1) := dk_42 (dk_at dksX3_year_3 8 rfl rfl)
theorem dX3_year_79 : decode cX3_year 79 = .ok (.getfield 7, 3) := dk_180 0 7 (dk_at dksX3_year_3 9 rfl rfl)
theorem dX3_year_82 : decode cX3_year 82 = .ok (.bipush 6, 2) := dk_16 6 (dk_at dksX3_year_3 12 rfl rfl)
theorem dX3_year_84 : decode cX3_year 84 = .ok (.iaload, 1) := dk_46 (dk_at dksX3_year_3 14 rfl rfl)
theorem dX3_year_85 : decode cX3_year 85 = .ok (.i2l, 1) := dk_133 (dk_at dksX3_year_3 15 rfl rfl)
theorem dX3_year_86 : decode cX3_year 86 = .ok (.lrem, 1) := dk_113 (dk_at dksX3_year_3 16 rfl rfl)
theorem dX3_year_87 : decode cX3_year 87 = .ok (.l2i, 1) := dk_136 (dk_at dksX3_year_3 17 rfl rfl)
theorem dX3_year_88 : decode cX3_year 88 = .ok (.istore 7, 2) := dk_54 7 (dk_at dksX3_year_3 18 rfl rfl)
theorem dX3_year_90 : decode cX3_year 90 = .ok (.lload 4, 2) := dk_22 4 (dk_at dksX3_year_3 20 rfl rfl)
theorem dX3_year_92 : decode cX3_year 92 = .ok (.ldc2_w 71, 3) := dk_20 0 71 (dk_at dksX3_year_4 0 rfl rfl)
theorem dX3_year_95 : decode cX3_year 95 = .ok (.lrem, 1) := dk_113 (dk_at dksX3_year_4 3 rfl rfl)
theorem dX3_year_96 : decode cX3_year 96 = .ok (.lconst 0, 1) := dk_9 (dk_at dksX3_year_4 4 rfl rfl)
theorem dX3_year_97 : decode cX3_year 97 = .ok (.lcmp, 1) := dk_148 (dk_at dksX3_year_4 5 rfl rfl)
theorem dX3_year_98 : decode cX3_year 98 = .ok (.ifCond .ne 7, 3) := dk_154 0 7 (dk_at dksX3_year_4 6 rfl rfl)
theorem dX3_year_101 : decode cX3_year 101 = .ok (.iconst 1, 1) := dk_4 (dk_at dksX3_year_4 9 rfl rfl)
theorem dX3_year_102 : decode cX3_year 102 = .ok (.goto 4, 3) := dk_167 0 4 (dk_at dksX3_year_4 10 rfl rfl)
theorem dX3_year_105 : decode cX3_year 105 = .ok (.iconst (-1), 1) := dk_2 (dk_at dksX3_year_4 13 rfl rfl)
theorem dX3_year_106 : decode cX3_year 106 = .ok (.istore 8, 2) := dk_54 8 (dk_at dksX3_year_4 14 rfl rfl)
theorem dX3_year_108 : decode cX3_year 108 = .ok (.aload_n 0, 1) := dk_42 (dk_at dksX3_year_4 16 rfl rfl)
theorem dX3_year_109 : decode cX3_year 109 = .ok (.getfield 7, 3) := dk_180 0 7 (dk_at dksX3_year_4 17 rfl rfl)
theorem dX3_year_112 : decode cX3_year 112 = .ok (.bipush 20, 2) := dk_16 20 (dk_at dksX3_year_4 20 rfl rfl)
theorem dX3_year_114 : decode cX3_year 114 = .ok (.iload 7, 2) := dk_21 7 (dk_at dksX3_year_4 22 rfl rfl)
theorem dX3_year_116 : decode cX3_year 116 = .ok (.iadd, 1) := dk_96 (dk_at dksX3_year_5 0 rfl rfl)
theorem dX3_year_117 : decode cX3_year 117 = .ok (.dup2, 1) := dk_92 (dk_at dksX3_year_5 1 rfl rfl)
theorem dX3_year_118 : decode cX3_year 118 = .ok (.iaload, 1) := dk_46 (dk_at dksX3_year_5 2 rfl rfl)
theorem dX3_year_119 : decode cX3_year 119 = .ok (.aload_n 0, 1) := dk_42 (dk_at dksX3_year_5 3 rfl rfl)
theorem dX3_year_120 : decode cX3_year 120 = .ok (.iload 7, 2) := dk_21 7 (dk_at dksX3_year_5 4 rfl rfl)
theorem dX3_year_122 : decode cX3_year 122 = .ok (.iload 8, 2) := dk_21 8 (dk_at dksX3_year_5 6 rfl rfl)
theorem dX3_year_124 : decode cX3_year 124 = .ok (.invokevirtual 172, 3) := dk_182 0 172 (dk_at dksX3_year_5 8 rfl rfl)
theorem dX3_year_127 : decode cX3_year 127 = .ok (.ifCond .eq 8, 3) := dk_153 0 8 (dk_at dksX3_year_5 11 rfl rfl)
theorem dX3_year_130 : decode cX3_year 130 = .ok (.iload 8, 2) := dk_21 8 (dk_at dksX3_year_5 14 rfl rfl)
theorem dX3_year_132 : decode cX3_year 132 = .ok (.goto 4, 3) := dk_167 0 4 (dk_at dksX3_year_5 16 rfl rfl)
theorem dX3_year_135 : decode cX3_year 135 = .ok (.iconst 0, 1) := dk_3 (dk_at dksX3_year_5 19 rfl rfl)
theorem dX3_year_136 : decode cX3_year 136 = .ok (.iadd, 1) := dk_96 (dk_at dksX3_year_5 20 rfl rfl)
theorem dX3_year_137 : decode cX3_year 137 = .ok (.iastore, 1) := dk_79 (dk_at dksX3_year_5 21 rfl rfl)
theorem dX3_year_138 : decode cX3_year 138 = .ok (.aload_n 0, 1) := dk_42 (dk_at dksX3_year_5 22 rfl rfl)
theorem dX3_year_139 : decode cX3_year 139 = .ok (.invokevirtual 190, 3) := dk_182 0 190 (dk_at dksX3_year_6 0 rfl rfl)
theorem dX3_year_142 : decode cX3_year 142 = .ok (.iinc 6 1, 3) := dk_132 6 1 (dk_at dksX3_year_6 3 rfl rfl)
theorem dX3_year_145 : decode cX3_year 145 = .ok (.goto (-87), 3) := dk_167 255 169 (dk_at dksX3_year_6 6 rfl rfl)
theorem dX3_year_148 : decode cX3_year 148 = .ok (.iconst 0, 1) := dk_3 (dk_at dksX3_year_6 9 rfl rfl)
theorem dX3_year_149 : decode cX3_year 149 = .ok (.istore 6, 2) := dk_54 6 (dk_at dksX3_year_6 10 rfl rfl)
theorem dX3_year_151 : decode cX3_year 151 = .ok (.iconst 0, 1) := dk_3 (dk_at dksX3_year_6 12 rfl rfl)
theorem dX3_year_152 : decode cX3_year 152 = .ok (.istore 7, 2) := dk_54 7 (dk_at dksX3_year_6 13 rfl rfl)
theorem dX3_year_154 : decode cX3_year 154 = .ok (.iconst 0, 1) := dk_3 (dk_at dksX3_year_6 15 rfl rfl)
theorem dX3_year_155 : decode cX3_year 155 = .ok (.istore 8, 2) := dk_54 8 (dk_at dksX3_year_6 16 rfl rfl)
theorem dX3_year_157 : decode cX3_year 157 = .ok (.iload 8, 2) := dk_21 8 (dk_at dksX3_year_6 18 rfl rfl)
theorem dX3_year_159 : decode cX3_year 159 = .ok (.aload_n 0, 1) := dk_42 (dk_at dksX3_year_6 20 rfl rfl)
theorem dX3_year_160 : decode cX3_year 160 = .ok (.getfield 7, 3) := dk_180 0 7 (dk_at dksX3_year_6 21 rfl rfl)
theorem dX3_year_163 : decode cX3_year 163 = .ok (.bipush 6, 2) := dk_16 6 (dk_at dksX3_year_7 0 rfl rfl)
theorem dX3_year_165 : decode cX3_year 165 = .ok (.iaload, 1) := dk_46 (dk_at dksX3_year_7 2 rfl rfl)
theorem dX3_year_166 : decode cX3_year 166 = .ok (.if_icmp .ge 70, 3) := dk_162 0 70 (dk_at dksX3_year_7 3 rfl rfl)
theorem dX3_year_169 : decode cX3_year 169 = .ok (.iload 6, 2) := dk_21 6 (dk_at dksX3_year_7 6 rfl rfl)
theorem dX3_year_171 : decode cX3_year 171 = .ok (.aload_n 0, 1) := dk_42 (dk_at dksX3_year_7 8 rfl rfl)
theorem dX3_year_172 : decode cX3_year 172 = .ok (.getfield 7, 3) := dk_180 0 7 (dk_at dksX3_year_7 9 rfl rfl)
theorem dX3_year_175 : decode cX3_year 175 = .ok (.bipush 20, 2) := dk_16 20 (dk_at dksX3_year_7 12 rfl rfl)
theorem dX3_year_177 : decode cX3_year 177 = .ok (.iload 8, 2) := dk_21 8 (dk_at dksX3_year_7 14 rfl rfl)
theorem dX3_year_179 : decode cX3_year 179 = .ok (.iadd, 1) := dk_96 (dk_at dksX3_year_7 16 rfl rfl)
theorem dX3_year_180 : decode cX3_year 180 = .ok (.iaload, 1) := dk_46 (dk_at dksX3_year_7 17 rfl rfl)
theorem dX3_year_181 : decode cX3_year 181 = .ok (.iadd, 1) := dk_96 (dk_at dksX3_year_7 18 rfl rfl)
theorem dX3_year_182 : decode cX3_year 182 = .ok (.istore 6, 2) := dk_54 6 (dk_at dksX3_year_7 19 rfl rfl)
theorem dX3_year_184 : decode cX3_year 184 = .ok (.aload_n 0, 1) := dk_42 (dk_at dksX3_year_7 21 rfl rfl)
theorem dX3_year_185 : decode cX3_year 185 = .ok (.getfield 7, 3) := dk_180 0 7 (dk_at dksX3_year_8 0 rfl rfl)
theorem dX3_year_188 : decode cX3_year 188 = .ok (.iconst 0, 1) := dk_3 (dk_at dksX3_year_8 3 rfl rfl)
theorem dX3_year_189 : decode cX3_year 189 = .ok (.aload_n 0, 1) := dk_42 (dk_at dksX3_year_8 4 rfl rfl)
theorem dX3_year_190 : decode cX3_year 190 = .ok (.getfield 7, 3) := dk_180 0 7 (dk_at dksX3_year_8 5 rfl rfl)
theorem dX3_year_193 : decode cX3_year 193 = .ok (.bipush 20, 2) := dk_16 20 (dk_at dksX3_year_8 8 rfl rfl)
theorem dX3_year_195 : decode cX3_year 195 = .ok (.iload 8, 2) := dk_21 8 (dk_at dksX3_year_8 10 rfl rfl)
theorem dX3_year_197 : decode cX3_year 197 = .ok (.iadd, 1) := dk_96 (dk_at dksX3_year_8 12 rfl rfl)
theorem dX3_year_198 : decode cX3_year 198 = .ok (.iaload, 1) := dk_46 (dk_at dksX3_year_8 13 rfl rfl)
theorem dX3_year_199 : decode cX3_year 199 = .ok (.iadd, 1) := dk_96 (dk_at dksX3_year_8 14 rfl rfl)
theorem dX3_year_200 : decode cX3_year 200 = .ok (.iaload, 1) := dk_46 (dk_at dksX3_year_8 15 rfl rfl)
theorem dX3_year_201 : decode cX3_year 201 = .ok (.aload_n 0, 1) := dk_42 (dk_at dksX3_year_8 16 rfl rfl)
theorem dX3_year_202 : decode cX3_year 202 = .ok (.getfield 7, 3) := dk_180 0 7 (dk_at dksX3_year_8 17 rfl rfl)
theorem dX3_year_205 : decode cX3_year 205 = .ok (.iconst 0, 1) := dk_3 (dk_at dksX3_year_8 20 rfl rfl)
theorem dX3_year_206 : decode cX3_year 206 = .ok (.aload_n 0, 1) := dk_42 (dk_at dksX3_year_8 21 rfl rfl)
theorem dX3_year_207 : decode cX3_year 207 = .ok (.getfield 7, 3) := dk_180 0 7 (dk_at dksX3_year_9 0 rfl rfl)
theorem dX3_year_210 : decode cX3_year 210 = .ok (.bipush 20, 2) := dk_16 20 (dk_at dksX3_year_9 3 rfl rfl)
theorem dX3_year_212 : decode cX3_year 212 = .ok (.iload 7, 2) := dk_21 7 (dk_at dksX3_year_9 5 rfl rfl)
theorem dX3_year_214 : decode cX3_year 214 = .ok (.iadd, 1) := dk_96 (dk_at dksX3_year_9 7 rfl rfl)
theorem dX3_year_215 : decode cX3_year 215 = .ok (.iaload, 1) := dk_46 (dk_at dksX3_year_9 8 rfl rfl)
theorem dX3_year_216 : decode cX3_year 216 = .ok (.iadd, 1) := dk_96 (dk_at dksX3_year_9 9 rfl rfl)
theorem dX3_year_217 : decode cX3_year 217 = .ok (.iaload, 1) := dk_46 (dk_at dksX3_year_9 10 rfl rfl)
theorem dX3_year_218 : decode cX3_year 218 = .ok (.if_icmp .le 8, 3) := dk_164 0 8 (dk_at dksX3_year_9 11 rfl rfl)
theorem dX3_year_221 : decode cX3_year 221 = .ok (.iload 8, 2) := dk_21 8 (dk_at dksX3_year_9 14 rfl rfl)
theorem dX3_year_223 : decode cX3_year 223 = .ok (.goto 5, 3) := dk_167 0 5 (dk_at dksX3_year_9 16 rfl rfl)
theorem dX3_year_226 : decode cX3_year 226 = .ok (.iload 7, 2) := dk_21 7 (dk_at dksX3_year_9 19 rfl rfl)
theorem dX3_year_228 : decode cX3_year 228 = .ok (.istore 7, 2) := dk_54 7 (dk_at dksX3_year_9 21 rfl rfl)
theorem dX3_year_230 : decode cX3_year 230 = .ok (.iinc 8 1, 3) := dk_132 8 1 (dk_at dksX3_year_10 0 rfl rfl)
theorem dX3_year_233 : decode cX3_year 233 = .ok (.goto (-76), 3) := dk_167 255 180 (dk_at dksX3_year_10 3 rfl rfl)
theorem dX3_year_236 : decode cX3_year 236 = .ok (.aload_n 0, 1) := dk_42 (dk_at dksX3_year_10 6 rfl rfl)
theorem dX3_year_237 : decode cX3_year 237 = .ok (.invokevirtual 237, 3) := dk_182 0 237 (dk_at dksX3_year_10 7 rfl rfl)
theorem dX3_year_240 : decode cX3_year 240 = .ok (.iload_n 3, 1) := dk_29 (dk_at dksX3_year_10 10 rfl rfl)
theorem dX3_year_241 : decode cX3_year 241 = .ok (.ifCond .ne 8, 3) := dk_154 0 8 (dk_at dksX3_year_10 11 rfl rfl)
theorem dX3_year_244 : decode cX3_year 244 = .ok (.iload 7, 2) := dk_21 7 (dk_at dksX3_year_10 14 rfl rfl)
theorem dX3_year_246 : decode cX3_year 246 = .ok (.goto 5, 3) := dk_167 0 5 (dk_at dksX3_year_10 16 rfl rfl)
theorem dX3_year_249 : decode cX3_year 249 = .ok (.iload 6, 2) := dk_21 6 (dk_at dksX3_year_10 19 rfl rfl)
theorem dX3_year_251 : decode cX3_year 251 = .ok (.ireturn, 1) := dk_172 (dk_at dksX3_year_10 21 rfl rfl)
abbrev cX3_image : ByteArray := prog_16_method_69_code
def yX3_image : MethodName := ⟨RX3, "image", "(I)I"⟩
def dkwX3_image_2 : List UInt8 := [46, 79, 132, 2, 1, 167, 255, 228, 42, 180, 0, 13, 27, 4, 84, 4, 172]
abbrev dktX3_image_2 : List UInt8 := dkwX3_image_2 ++ []
def dkwX3_image_1 : List UInt8 := [61, 28, 16, 73, 162, 0, 28, 42, 180, 0, 7, 16, 73, 27, 4, 96, 104, 28, 96, 42, 180, 0, 7, 28]
abbrev dktX3_image_1 : List UInt8 := dkwX3_image_1 ++ dktX3_image_2
def dkwX3_image_0 : List UInt8 := [27, 133, 9, 10, 184, 0, 63, 154, 0, 6, 18, 73, 172, 42, 182, 0, 185, 153, 0, 6, 18, 154, 172, 3]
abbrev dktX3_image_0 : List UInt8 := dkwX3_image_0 ++ dktX3_image_1
theorem dksX3_image_0 : cX3_image.data.toList.drop 0 = dktX3_image_0 := by decide +kernel
theorem dksX3_image_1 : cX3_image.data.toList.drop 24 = dktX3_image_1 := dk_seg dksX3_image_0 24 rfl rfl
theorem dksX3_image_2 : cX3_image.data.toList.drop 48 = dktX3_image_2 := dk_seg dksX3_image_1 24 rfl rfl
theorem dX3_image_0 : decode cX3_image 0 = .ok (.iload_n 1, 1) := dk_27 (dk_at dksX3_image_0 0 rfl rfl)
theorem dX3_image_1 : decode cX3_image 1 = .ok (.i2l, 1) := dk_133 (dk_at dksX3_image_0 1 rfl rfl)
theorem dX3_image_2 : decode cX3_image 2 = .ok (.lconst 0, 1) := dk_9 (dk_at dksX3_image_0 2 rfl rfl)
theorem dX3_image_3 : decode cX3_image 3 = .ok (.lconst 1, 1) := dk_10 (dk_at dksX3_image_0 3 rfl rfl)
theorem dX3_image_4 : decode cX3_image 4 = .ok (.invokestatic 63, 3) := dk_184 0 63 (dk_at dksX3_image_0 4 rfl rfl)
theorem dX3_image_7 : decode cX3_image 7 = .ok (.ifCond .ne 6, 3) := dk_154 0 6 (dk_at dksX3_image_0 7 rfl rfl)
theorem dX3_image_10 : decode cX3_image 10 = .ok (.ldc 73, 2) := dk_18 73 (dk_at dksX3_image_0 10 rfl rfl)
theorem dX3_image_12 : decode cX3_image 12 = .ok (.ireturn, 1) := dk_172 (dk_at dksX3_image_0 12 rfl rfl)
theorem dX3_image_13 : decode cX3_image 13 = .ok (.aload_n 0, 1) := dk_42 (dk_at dksX3_image_0 13 rfl rfl)
theorem dX3_image_14 : decode cX3_image 14 = .ok (.invokevirtual 185, 3) := dk_182 0 185 (dk_at dksX3_image_0 14 rfl rfl)
theorem dX3_image_17 : decode cX3_image 17 = .ok (.ifCond .eq 6, 3) := dk_153 0 6 (dk_at dksX3_image_0 17 rfl rfl)
theorem dX3_image_20 : decode cX3_image 20 = .ok (.ldc 154, 2) := dk_18 154 (dk_at dksX3_image_0 20 rfl rfl)
theorem dX3_image_22 : decode cX3_image 22 = .ok (.ireturn, 1) := dk_172 (dk_at dksX3_image_0 22 rfl rfl)
theorem dX3_image_23 : decode cX3_image 23 = .ok (.iconst 0, 1) := dk_3 (dk_at dksX3_image_0 23 rfl rfl)
theorem dX3_image_24 : decode cX3_image 24 = .ok (.istore_n 2, 1) := dk_61 (dk_at dksX3_image_1 0 rfl rfl)
theorem dX3_image_25 : decode cX3_image 25 = .ok (.iload_n 2, 1) := dk_28 (dk_at dksX3_image_1 1 rfl rfl)
theorem dX3_image_26 : decode cX3_image 26 = .ok (.bipush 73, 2) := dk_16 73 (dk_at dksX3_image_1 2 rfl rfl)
theorem dX3_image_28 : decode cX3_image 28 = .ok (.if_icmp .ge 28, 3) := dk_162 0 28 (dk_at dksX3_image_1 4 rfl rfl)
theorem dX3_image_31 : decode cX3_image 31 = .ok (.aload_n 0, 1) := dk_42 (dk_at dksX3_image_1 7 rfl rfl)
theorem dX3_image_32 : decode cX3_image 32 = .ok (.getfield 7, 3) := dk_180 0 7 (dk_at dksX3_image_1 8 rfl rfl)
theorem dX3_image_35 : decode cX3_image 35 = .ok (.bipush 73, 2) := dk_16 73 (dk_at dksX3_image_1 11 rfl rfl)
theorem dX3_image_37 : decode cX3_image 37 = .ok (.iload_n 1, 1) := dk_27 (dk_at dksX3_image_1 13 rfl rfl)
theorem dX3_image_38 : decode cX3_image 38 = .ok (.iconst 1, 1) := dk_4 (dk_at dksX3_image_1 14 rfl rfl)
theorem dX3_image_39 : decode cX3_image 39 = .ok (.iadd, 1) := dk_96 (dk_at dksX3_image_1 15 rfl rfl)
theorem dX3_image_40 : decode cX3_image 40 = .ok (.imul, 1) := dk_104 (dk_at dksX3_image_1 16 rfl rfl)
theorem dX3_image_41 : decode cX3_image 41 = .ok (.iload_n 2, 1) := dk_28 (dk_at dksX3_image_1 17 rfl rfl)
theorem dX3_image_42 : decode cX3_image 42 = .ok (.iadd, 1) := dk_96 (dk_at dksX3_image_1 18 rfl rfl)
theorem dX3_image_43 : decode cX3_image 43 = .ok (.aload_n 0, 1) := dk_42 (dk_at dksX3_image_1 19 rfl rfl)
theorem dX3_image_44 : decode cX3_image 44 = .ok (.getfield 7, 3) := dk_180 0 7 (dk_at dksX3_image_1 20 rfl rfl)
theorem dX3_image_47 : decode cX3_image 47 = .ok (.iload_n 2, 1) := dk_28 (dk_at dksX3_image_1 23 rfl rfl)
theorem dX3_image_48 : decode cX3_image 48 = .ok (.iaload, 1) := dk_46 (dk_at dksX3_image_2 0 rfl rfl)
theorem dX3_image_49 : decode cX3_image 49 = .ok (.iastore, 1) := dk_79 (dk_at dksX3_image_2 1 rfl rfl)
theorem dX3_image_50 : decode cX3_image 50 = .ok (.iinc 2 1, 3) := dk_132 2 1 (dk_at dksX3_image_2 2 rfl rfl)
theorem dX3_image_53 : decode cX3_image 53 = .ok (.goto (-28), 3) := dk_167 255 228 (dk_at dksX3_image_2 5 rfl rfl)
theorem dX3_image_56 : decode cX3_image 56 = .ok (.aload_n 0, 1) := dk_42 (dk_at dksX3_image_2 8 rfl rfl)
theorem dX3_image_57 : decode cX3_image 57 = .ok (.getfield 13, 3) := dk_180 0 13 (dk_at dksX3_image_2 9 rfl rfl)
theorem dX3_image_60 : decode cX3_image 60 = .ok (.iload_n 1, 1) := dk_27 (dk_at dksX3_image_2 12 rfl rfl)
theorem dX3_image_61 : decode cX3_image 61 = .ok (.iconst 1, 1) := dk_4 (dk_at dksX3_image_2 13 rfl rfl)
theorem dX3_image_62 : decode cX3_image 62 = .ok (.bastore, 1) := dk_84 (dk_at dksX3_image_2 14 rfl rfl)
theorem dX3_image_63 : decode cX3_image 63 = .ok (.iconst 1, 1) := dk_4 (dk_at dksX3_image_2 15 rfl rfl)
theorem dX3_image_64 : decode cX3_image 64 = .ok (.ireturn, 1) := dk_172 (dk_at dksX3_image_2 16 rfl rfl)
abbrev cX3_restore : ByteArray := prog_16_method_70_code
def yX3_restore : MethodName := ⟨RX3, "restore", "(I)I"⟩
def dkwX3_restore_2 : List UInt8 := [28, 96, 46, 79, 132, 2, 1, 167, 255, 228, 42, 3, 181, 0, 151, 4, 172]
abbrev dktX3_restore_2 : List UInt8 := dkwX3_restore_2 ++ []
def dkwX3_restore_1 : List UInt8 := [172, 3, 61, 28, 16, 73, 162, 0, 28, 42, 180, 0, 7, 28, 42, 180, 0, 7, 16, 73, 27, 4, 96, 104]
abbrev dktX3_restore_1 : List UInt8 := dkwX3_restore_1 ++ dktX3_restore_2
def dkwX3_restore_0 : List UInt8 := [27, 133, 9, 10, 184, 0, 63, 154, 0, 6, 18, 73, 172, 42, 180, 0, 13, 27, 51, 154, 0, 6, 18, 154]
abbrev dktX3_restore_0 : List UInt8 := dkwX3_restore_0 ++ dktX3_restore_1
theorem dksX3_restore_0 : cX3_restore.data.toList.drop 0 = dktX3_restore_0 := by decide +kernel
theorem dksX3_restore_1 : cX3_restore.data.toList.drop 24 = dktX3_restore_1 := dk_seg dksX3_restore_0 24 rfl rfl
theorem dksX3_restore_2 : cX3_restore.data.toList.drop 48 = dktX3_restore_2 := dk_seg dksX3_restore_1 24 rfl rfl
theorem dX3_restore_0 : decode cX3_restore 0 = .ok (.iload_n 1, 1) := dk_27 (dk_at dksX3_restore_0 0 rfl rfl)
theorem dX3_restore_1 : decode cX3_restore 1 = .ok (.i2l, 1) := dk_133 (dk_at dksX3_restore_0 1 rfl rfl)
theorem dX3_restore_2 : decode cX3_restore 2 = .ok (.lconst 0, 1) := dk_9 (dk_at dksX3_restore_0 2 rfl rfl)
theorem dX3_restore_3 : decode cX3_restore 3 = .ok (.lconst 1, 1) := dk_10 (dk_at dksX3_restore_0 3 rfl rfl)
theorem dX3_restore_4 : decode cX3_restore 4 = .ok (.invokestatic 63, 3) := dk_184 0 63 (dk_at dksX3_restore_0 4 rfl rfl)
theorem dX3_restore_7 : decode cX3_restore 7 = .ok (.ifCond .ne 6, 3) := dk_154 0 6 (dk_at dksX3_restore_0 7 rfl rfl)
theorem dX3_restore_10 : decode cX3_restore 10 = .ok (.ldc 73, 2) := dk_18 73 (dk_at dksX3_restore_0 10 rfl rfl)
theorem dX3_restore_12 : decode cX3_restore 12 = .ok (.ireturn, 1) := dk_172 (dk_at dksX3_restore_0 12 rfl rfl)
theorem dX3_restore_13 : decode cX3_restore 13 = .ok (.aload_n 0, 1) := dk_42 (dk_at dksX3_restore_0 13 rfl rfl)
theorem dX3_restore_14 : decode cX3_restore 14 = .ok (.getfield 13, 3) := dk_180 0 13 (dk_at dksX3_restore_0 14 rfl rfl)
theorem dX3_restore_17 : decode cX3_restore 17 = .ok (.iload_n 1, 1) := dk_27 (dk_at dksX3_restore_0 17 rfl rfl)
theorem dX3_restore_18 : decode cX3_restore 18 = .ok (.baload, 1) := dk_51 (dk_at dksX3_restore_0 18 rfl rfl)
theorem dX3_restore_19 : decode cX3_restore 19 = .ok (.ifCond .ne 6, 3) := dk_154 0 6 (dk_at dksX3_restore_0 19 rfl rfl)
theorem dX3_restore_22 : decode cX3_restore 22 = .ok (.ldc 154, 2) := dk_18 154 (dk_at dksX3_restore_0 22 rfl rfl)
theorem dX3_restore_24 : decode cX3_restore 24 = .ok (.ireturn, 1) := dk_172 (dk_at dksX3_restore_1 0 rfl rfl)
theorem dX3_restore_25 : decode cX3_restore 25 = .ok (.iconst 0, 1) := dk_3 (dk_at dksX3_restore_1 1 rfl rfl)
theorem dX3_restore_26 : decode cX3_restore 26 = .ok (.istore_n 2, 1) := dk_61 (dk_at dksX3_restore_1 2 rfl rfl)
theorem dX3_restore_27 : decode cX3_restore 27 = .ok (.iload_n 2, 1) := dk_28 (dk_at dksX3_restore_1 3 rfl rfl)
theorem dX3_restore_28 : decode cX3_restore 28 = .ok (.bipush 73, 2) := dk_16 73 (dk_at dksX3_restore_1 4 rfl rfl)
theorem dX3_restore_30 : decode cX3_restore 30 = .ok (.if_icmp .ge 28, 3) := dk_162 0 28 (dk_at dksX3_restore_1 6 rfl rfl)
theorem dX3_restore_33 : decode cX3_restore 33 = .ok (.aload_n 0, 1) := dk_42 (dk_at dksX3_restore_1 9 rfl rfl)
theorem dX3_restore_34 : decode cX3_restore 34 = .ok (.getfield 7, 3) := dk_180 0 7 (dk_at dksX3_restore_1 10 rfl rfl)
theorem dX3_restore_37 : decode cX3_restore 37 = .ok (.iload_n 2, 1) := dk_28 (dk_at dksX3_restore_1 13 rfl rfl)
theorem dX3_restore_38 : decode cX3_restore 38 = .ok (.aload_n 0, 1) := dk_42 (dk_at dksX3_restore_1 14 rfl rfl)
theorem dX3_restore_39 : decode cX3_restore 39 = .ok (.getfield 7, 3) := dk_180 0 7 (dk_at dksX3_restore_1 15 rfl rfl)
theorem dX3_restore_42 : decode cX3_restore 42 = .ok (.bipush 73, 2) := dk_16 73 (dk_at dksX3_restore_1 18 rfl rfl)
theorem dX3_restore_44 : decode cX3_restore 44 = .ok (.iload_n 1, 1) := dk_27 (dk_at dksX3_restore_1 20 rfl rfl)
theorem dX3_restore_45 : decode cX3_restore 45 = .ok (.iconst 1, 1) := dk_4 (dk_at dksX3_restore_1 21 rfl rfl)
theorem dX3_restore_46 : decode cX3_restore 46 = .ok (.iadd, 1) := dk_96 (dk_at dksX3_restore_1 22 rfl rfl)
theorem dX3_restore_47 : decode cX3_restore 47 = .ok (.imul, 1) := dk_104 (dk_at dksX3_restore_1 23 rfl rfl)
theorem dX3_restore_48 : decode cX3_restore 48 = .ok (.iload_n 2, 1) := dk_28 (dk_at dksX3_restore_2 0 rfl rfl)
theorem dX3_restore_49 : decode cX3_restore 49 = .ok (.iadd, 1) := dk_96 (dk_at dksX3_restore_2 1 rfl rfl)
theorem dX3_restore_50 : decode cX3_restore 50 = .ok (.iaload, 1) := dk_46 (dk_at dksX3_restore_2 2 rfl rfl)
theorem dX3_restore_51 : decode cX3_restore 51 = .ok (.iastore, 1) := dk_79 (dk_at dksX3_restore_2 3 rfl rfl)
theorem dX3_restore_52 : decode cX3_restore 52 = .ok (.iinc 2 1, 3) := dk_132 2 1 (dk_at dksX3_restore_2 4 rfl rfl)
theorem dX3_restore_55 : decode cX3_restore 55 = .ok (.goto (-28), 3) := dk_167 255 228 (dk_at dksX3_restore_2 7 rfl rfl)
theorem dX3_restore_58 : decode cX3_restore 58 = .ok (.aload_n 0, 1) := dk_42 (dk_at dksX3_restore_2 10 rfl rfl)
theorem dX3_restore_59 : decode cX3_restore 59 = .ok (.iconst 0, 1) := dk_3 (dk_at dksX3_restore_2 11 rfl rfl)
theorem dX3_restore_60 : decode cX3_restore 60 = .ok (.putfield 151, 3) := dk_181 0 151 (dk_at dksX3_restore_2 12 rfl rfl)
theorem dX3_restore_63 : decode cX3_restore 63 = .ok (.iconst 1, 1) := dk_4 (dk_at dksX3_restore_2 15 rfl rfl)
theorem dX3_restore_64 : decode cX3_restore 64 = .ok (.ireturn, 1) := dk_172 (dk_at dksX3_restore_2 16 rfl rfl)
abbrev cX3_kind : ByteArray := prog_16_method_72_code
def yX3_kind : MethodName := ⟨RX3, "kind", "(I)I"⟩
def dkwX3_kind_0 : List UInt8 := [42, 27, 182, 0, 169, 153, 0, 15, 42, 180, 0, 7, 16, 10, 27, 96, 46, 167, 0, 5, 18, 73, 172]
abbrev dktX3_kind_0 : List UInt8 := dkwX3_kind_0 ++ []
theorem dksX3_kind_0 : cX3_kind.data.toList.drop 0 = dktX3_kind_0 := by decide +kernel
theorem dX3_kind_0 : decode cX3_kind 0 = .ok (.aload_n 0, 1) := dk_42 (dk_at dksX3_kind_0 0 rfl rfl)
theorem dX3_kind_1 : decode cX3_kind 1 = .ok (.iload_n 1, 1) := dk_27 (dk_at dksX3_kind_0 1 rfl rfl)
theorem dX3_kind_2 : decode cX3_kind 2 = .ok (.invokevirtual 169, 3) := dk_182 0 169 (dk_at dksX3_kind_0 2 rfl rfl)
theorem dX3_kind_5 : decode cX3_kind 5 = .ok (.ifCond .eq 15, 3) := dk_153 0 15 (dk_at dksX3_kind_0 5 rfl rfl)
theorem dX3_kind_8 : decode cX3_kind 8 = .ok (.aload_n 0, 1) := dk_42 (dk_at dksX3_kind_0 8 rfl rfl)
theorem dX3_kind_9 : decode cX3_kind 9 = .ok (.getfield 7, 3) := dk_180 0 7 (dk_at dksX3_kind_0 9 rfl rfl)
theorem dX3_kind_12 : decode cX3_kind 12 = .ok (.bipush 10, 2) := dk_16 10 (dk_at dksX3_kind_0 12 rfl rfl)
theorem dX3_kind_14 : decode cX3_kind 14 = .ok (.iload_n 1, 1) := dk_27 (dk_at dksX3_kind_0 14 rfl rfl)
theorem dX3_kind_15 : decode cX3_kind 15 = .ok (.iadd, 1) := dk_96 (dk_at dksX3_kind_0 15 rfl rfl)
theorem dX3_kind_16 : decode cX3_kind 16 = .ok (.iaload, 1) := dk_46 (dk_at dksX3_kind_0 16 rfl rfl)
theorem dX3_kind_17 : decode cX3_kind 17 = .ok (.goto 5, 3) := dk_167 0 5 (dk_at dksX3_kind_0 17 rfl rfl)
theorem dX3_kind_20 : decode cX3_kind 20 = .ok (.ldc 73, 2) := dk_18 73 (dk_at dksX3_kind_0 20 rfl rfl)
theorem dX3_kind_22 : decode cX3_kind 22 = .ok (.ireturn, 1) := dk_172 (dk_at dksX3_kind_0 22 rfl rfl)
abbrev cX3_as : ByteArray := prog_16_method_74_code
def yX3_as : MethodName := ⟨RX3, "as", "(II)I"⟩
def dkwX3_as_2 : List UInt8 := [6, 182, 0, 74, 172]
abbrev dktX3_as_2 : List UInt8 := dkwX3_as_2 ++ []
def dkwX3_as_1 : List UInt8 := [180, 0, 7, 16, 10, 27, 96, 46, 28, 184, 0, 249, 153, 0, 11, 42, 27, 182, 0, 78, 167, 0, 8, 42]
abbrev dktX3_as_1 : List UInt8 := dkwX3_as_1 ++ dktX3_as_2
def dkwX3_as_0 : List UInt8 := [42, 27, 182, 0, 169, 153, 0, 15, 28, 133, 9, 20, 0, 164, 184, 0, 63, 154, 0, 6, 18, 73, 172, 42]
abbrev dktX3_as_0 : List UInt8 := dkwX3_as_0 ++ dktX3_as_1
theorem dksX3_as_0 : cX3_as.data.toList.drop 0 = dktX3_as_0 := by decide +kernel
theorem dksX3_as_1 : cX3_as.data.toList.drop 24 = dktX3_as_1 := dk_seg dksX3_as_0 24 rfl rfl
theorem dksX3_as_2 : cX3_as.data.toList.drop 48 = dktX3_as_2 := dk_seg dksX3_as_1 24 rfl rfl
theorem dX3_as_0 : decode cX3_as 0 = .ok (.aload_n 0, 1) := dk_42 (dk_at dksX3_as_0 0 rfl rfl)
theorem dX3_as_1 : decode cX3_as 1 = .ok (.iload_n 1, 1) := dk_27 (dk_at dksX3_as_0 1 rfl rfl)
theorem dX3_as_2 : decode cX3_as 2 = .ok (.invokevirtual 169, 3) := dk_182 0 169 (dk_at dksX3_as_0 2 rfl rfl)
theorem dX3_as_5 : decode cX3_as 5 = .ok (.ifCond .eq 15, 3) := dk_153 0 15 (dk_at dksX3_as_0 5 rfl rfl)
theorem dX3_as_8 : decode cX3_as 8 = .ok (.iload_n 2, 1) := dk_28 (dk_at dksX3_as_0 8 rfl rfl)
theorem dX3_as_9 : decode cX3_as 9 = .ok (.i2l, 1) := dk_133 (dk_at dksX3_as_0 9 rfl rfl)
theorem dX3_as_10 : decode cX3_as 10 = .ok (.lconst 0, 1) := dk_9 (dk_at dksX3_as_0 10 rfl rfl)
theorem dX3_as_11 : decode cX3_as 11 = .ok (.ldc2_w 164, 3) := dk_20 0 164 (dk_at dksX3_as_0 11 rfl rfl)
theorem dX3_as_14 : decode cX3_as 14 = .ok (.invokestatic 63, 3) := dk_184 0 63 (dk_at dksX3_as_0 14 rfl rfl)
theorem dX3_as_17 : decode cX3_as 17 = .ok (.ifCond .ne 6, 3) := dk_154 0 6 (dk_at dksX3_as_0 17 rfl rfl)
theorem dX3_as_20 : decode cX3_as 20 = .ok (.ldc 73, 2) := dk_18 73 (dk_at dksX3_as_0 20 rfl rfl)
theorem dX3_as_22 : decode cX3_as 22 = .ok (.ireturn, 1) := dk_172 (dk_at dksX3_as_0 22 rfl rfl)
theorem dX3_as_23 : decode cX3_as 23 = .ok (.aload_n 0, 1) := dk_42 (dk_at dksX3_as_0 23 rfl rfl)
theorem dX3_as_24 : decode cX3_as 24 = .ok (.getfield 7, 3) := dk_180 0 7 (dk_at dksX3_as_1 0 rfl rfl)
theorem dX3_as_27 : decode cX3_as 27 = .ok (.bipush 10, 2) := dk_16 10 (dk_at dksX3_as_1 3 rfl rfl)
theorem dX3_as_29 : decode cX3_as 29 = .ok (.iload_n 1, 1) := dk_27 (dk_at dksX3_as_1 5 rfl rfl)
theorem dX3_as_30 : decode cX3_as 30 = .ok (.iadd, 1) := dk_96 (dk_at dksX3_as_1 6 rfl rfl)
theorem dX3_as_31 : decode cX3_as 31 = .ok (.iaload, 1) := dk_46 (dk_at dksX3_as_1 7 rfl rfl)
theorem dX3_as_32 : decode cX3_as 32 = .ok (.iload_n 2, 1) := dk_28 (dk_at dksX3_as_1 8 rfl rfl)
theorem dX3_as_33 : decode cX3_as 33 = .ok (.invokestatic 249, 3) := dk_184 0 249 (dk_at dksX3_as_1 9 rfl rfl)
theorem dX3_as_36 : decode cX3_as 36 = .ok (.ifCond .eq 11, 3) := dk_153 0 11 (dk_at dksX3_as_1 12 rfl rfl)
theorem dX3_as_39 : decode cX3_as 39 = .ok (.aload_n 0, 1) := dk_42 (dk_at dksX3_as_1 15 rfl rfl)
theorem dX3_as_40 : decode cX3_as 40 = .ok (.iload_n 1, 1) := dk_27 (dk_at dksX3_as_1 16 rfl rfl)
theorem dX3_as_41 : decode cX3_as 41 = .ok (.invokevirtual 78, 3) := dk_182 0 78 (dk_at dksX3_as_1 17 rfl rfl)
theorem dX3_as_44 : decode cX3_as 44 = .ok (.goto 8, 3) := dk_167 0 8 (dk_at dksX3_as_1 20 rfl rfl)
theorem dX3_as_47 : decode cX3_as 47 = .ok (.aload_n 0, 1) := dk_42 (dk_at dksX3_as_1 23 rfl rfl)
theorem dX3_as_48 : decode cX3_as 48 = .ok (.iconst 3, 1) := dk_6 (dk_at dksX3_as_2 0 rfl rfl)
theorem dX3_as_49 : decode cX3_as 49 = .ok (.invokevirtual 74, 3) := dk_182 0 74 (dk_at dksX3_as_2 1 rfl rfl)
theorem dX3_as_52 : decode cX3_as 52 = .ok (.ireturn, 1) := dk_172 (dk_at dksX3_as_2 4 rfl rfl)
abbrev cX3_isOf : ByteArray := prog_16_method_73_code
def yX3_isOf : MethodName := ⟨RX3, "isOf", "(II)Z"⟩
def dkwX3_isOf_1 : List UInt8 := [26, 8, 160, 0, 7, 4, 167, 0, 4, 3, 172]
abbrev dktX3_isOf_1 : List UInt8 := dkwX3_isOf_1 ++ []
def dkwX3_isOf_0 : List UInt8 := [27, 153, 0, 28, 27, 26, 159, 0, 23, 27, 4, 160, 0, 8, 26, 6, 164, 0, 13, 27, 7, 160, 0, 12]
abbrev dktX3_isOf_0 : List UInt8 := dkwX3_isOf_0 ++ dktX3_isOf_1
theorem dksX3_isOf_0 : cX3_isOf.data.toList.drop 0 = dktX3_isOf_0 := by decide +kernel
theorem dksX3_isOf_1 : cX3_isOf.data.toList.drop 24 = dktX3_isOf_1 := dk_seg dksX3_isOf_0 24 rfl rfl
theorem dX3_isOf_0 : decode cX3_isOf 0 = .ok (.iload_n 1, 1) := dk_27 (dk_at dksX3_isOf_0 0 rfl rfl)
theorem dX3_isOf_1 : decode cX3_isOf 1 = .ok (.ifCond .eq 28, 3) := dk_153 0 28 (dk_at dksX3_isOf_0 1 rfl rfl)
theorem dX3_isOf_4 : decode cX3_isOf 4 = .ok (.iload_n 1, 1) := dk_27 (dk_at dksX3_isOf_0 4 rfl rfl)
theorem dX3_isOf_5 : decode cX3_isOf 5 = .ok (.iload_n 0, 1) := dk_26 (dk_at dksX3_isOf_0 5 rfl rfl)
theorem dX3_isOf_6 : decode cX3_isOf 6 = .ok (.if_icmp .eq 23, 3) := dk_159 0 23 (dk_at dksX3_isOf_0 6 rfl rfl)
theorem dX3_isOf_9 : decode cX3_isOf 9 = .ok (.iload_n 1, 1) := dk_27 (dk_at dksX3_isOf_0 9 rfl rfl)
theorem dX3_isOf_10 : decode cX3_isOf 10 = .ok (.iconst 1, 1) := dk_4 (dk_at dksX3_isOf_0 10 rfl rfl)
theorem dX3_isOf_11 : decode cX3_isOf 11 = .ok (.if_icmp .ne 8, 3) := dk_160 0 8 (dk_at dksX3_isOf_0 11 rfl rfl)
theorem dX3_isOf_14 : decode cX3_isOf 14 = .ok (.iload_n 0, 1) := dk_26 (dk_at dksX3_isOf_0 14 rfl rfl)
theorem dX3_isOf_15 : decode cX3_isOf 15 = .ok (.iconst 3, 1) := dk_6 (dk_at dksX3_isOf_0 15 rfl rfl)
theorem dX3_isOf_16 : decode cX3_isOf 16 = .ok (.if_icmp .le 13, 3) := dk_164 0 13 (dk_at dksX3_isOf_0 16 rfl rfl)
theorem dX3_isOf_19 : decode cX3_isOf 19 = .ok (.iload_n 1, 1) := dk_27 (dk_at dksX3_isOf_0 19 rfl rfl)
theorem dX3_isOf_20 : decode cX3_isOf 20 = .ok (.iconst 4, 1) := dk_7 (dk_at dksX3_isOf_0 20 rfl rfl)
theorem dX3_isOf_21 : decode cX3_isOf 21 = .ok (.if_icmp .ne 12, 3) := dk_160 0 12 (dk_at dksX3_isOf_0 21 rfl rfl)
theorem dX3_isOf_24 : decode cX3_isOf 24 = .ok (.iload_n 0, 1) := dk_26 (dk_at dksX3_isOf_1 0 rfl rfl)
theorem dX3_isOf_25 : decode cX3_isOf 25 = .ok (.iconst 5, 1) := dk_8 (dk_at dksX3_isOf_1 1 rfl rfl)
theorem dX3_isOf_26 : decode cX3_isOf 26 = .ok (.if_icmp .ne 7, 3) := dk_160 0 7 (dk_at dksX3_isOf_1 2 rfl rfl)
theorem dX3_isOf_29 : decode cX3_isOf 29 = .ok (.iconst 1, 1) := dk_4 (dk_at dksX3_isOf_1 5 rfl rfl)
theorem dX3_isOf_30 : decode cX3_isOf 30 = .ok (.goto 4, 3) := dk_167 0 4 (dk_at dksX3_isOf_1 6 rfl rfl)
theorem dX3_isOf_33 : decode cX3_isOf 33 = .ok (.iconst 0, 1) := dk_3 (dk_at dksX3_isOf_1 9 rfl rfl)
theorem dX3_isOf_34 : decode cX3_isOf 34 = .ok (.ireturn, 1) := dk_172 (dk_at dksX3_isOf_1 10 rfl rfl)
abbrev cX3_ask : ByteArray := prog_16_method_83_code
def yX3_ask : MethodName := ⟨RX3, "ask", "(II)I"⟩
def dkwX3_ask_1 : List UInt8 := [181, 0, 246, 28, 154, 0, 11, 42, 27, 182, 1, 18, 167, 0, 8, 42, 27, 182, 1, 21, 172]
abbrev dktX3_ask_1 : List UInt8 := dkwX3_ask_1 ++ []
def dkwX3_ask_0 : List UInt8 := [42, 27, 182, 0, 169, 153, 0, 13, 28, 133, 9, 10, 184, 0, 63, 154, 0, 6, 18, 73, 172, 42, 3]
abbrev dktX3_ask_0 : List UInt8 := dkwX3_ask_0 ++ dktX3_ask_1
theorem dksX3_ask_0 : cX3_ask.data.toList.drop 0 = dktX3_ask_0 := by decide +kernel
theorem dksX3_ask_1 : cX3_ask.data.toList.drop 23 = dktX3_ask_1 := dk_seg dksX3_ask_0 23 rfl rfl
theorem dX3_ask_0 : decode cX3_ask 0 = .ok (.aload_n 0, 1) := dk_42 (dk_at dksX3_ask_0 0 rfl rfl)
theorem dX3_ask_1 : decode cX3_ask 1 = .ok (.iload_n 1, 1) := dk_27 (dk_at dksX3_ask_0 1 rfl rfl)
theorem dX3_ask_2 : decode cX3_ask 2 = .ok (.invokevirtual 169, 3) := dk_182 0 169 (dk_at dksX3_ask_0 2 rfl rfl)
theorem dX3_ask_5 : decode cX3_ask 5 = .ok (.ifCond .eq 13, 3) := dk_153 0 13 (dk_at dksX3_ask_0 5 rfl rfl)
theorem dX3_ask_8 : decode cX3_ask 8 = .ok (.iload_n 2, 1) := dk_28 (dk_at dksX3_ask_0 8 rfl rfl)
theorem dX3_ask_9 : decode cX3_ask 9 = .ok (.i2l, 1) := dk_133 (dk_at dksX3_ask_0 9 rfl rfl)
theorem dX3_ask_10 : decode cX3_ask 10 = .ok (.lconst 0, 1) := dk_9 (dk_at dksX3_ask_0 10 rfl rfl)
theorem dX3_ask_11 : decode cX3_ask 11 = .ok (.lconst 1, 1) := dk_10 (dk_at dksX3_ask_0 11 rfl rfl)
theorem dX3_ask_12 : decode cX3_ask 12 = .ok (.invokestatic 63, 3) := dk_184 0 63 (dk_at dksX3_ask_0 12 rfl rfl)
theorem dX3_ask_15 : decode cX3_ask 15 = .ok (.ifCond .ne 6, 3) := dk_154 0 6 (dk_at dksX3_ask_0 15 rfl rfl)
theorem dX3_ask_18 : decode cX3_ask 18 = .ok (.ldc 73, 2) := dk_18 73 (dk_at dksX3_ask_0 18 rfl rfl)
theorem dX3_ask_20 : decode cX3_ask 20 = .ok (.ireturn, 1) := dk_172 (dk_at dksX3_ask_0 20 rfl rfl)
theorem dX3_ask_21 : decode cX3_ask 21 = .ok (.aload_n 0, 1) := dk_42 (dk_at dksX3_ask_0 21 rfl rfl)
theorem dX3_ask_22 : decode cX3_ask 22 = .ok (.iconst 0, 1) := dk_3 (dk_at dksX3_ask_0 22 rfl rfl)
theorem dX3_ask_23 : decode cX3_ask 23 = .ok (.putfield 246, 3) := dk_181 0 246 (dk_at dksX3_ask_1 0 rfl rfl)
theorem dX3_ask_26 : decode cX3_ask 26 = .ok (.iload_n 2, 1) := dk_28 (dk_at dksX3_ask_1 3 rfl rfl)
theorem dX3_ask_27 : decode cX3_ask 27 = .ok (.ifCond .ne 11, 3) := dk_154 0 11 (dk_at dksX3_ask_1 4 rfl rfl)
theorem dX3_ask_30 : decode cX3_ask 30 = .ok (.aload_n 0, 1) := dk_42 (dk_at dksX3_ask_1 7 rfl rfl)
theorem dX3_ask_31 : decode cX3_ask 31 = .ok (.iload_n 1, 1) := dk_27 (dk_at dksX3_ask_1 8 rfl rfl)
theorem dX3_ask_32 : decode cX3_ask 32 = .ok (.invokevirtual 274, 3) := dk_182 1 18 (dk_at dksX3_ask_1 9 rfl rfl)
theorem dX3_ask_35 : decode cX3_ask 35 = .ok (.goto 8, 3) := dk_167 0 8 (dk_at dksX3_ask_1 12 rfl rfl)
theorem dX3_ask_38 : decode cX3_ask 38 = .ok (.aload_n 0, 1) := dk_42 (dk_at dksX3_ask_1 15 rfl rfl)
theorem dX3_ask_39 : decode cX3_ask 39 = .ok (.iload_n 1, 1) := dk_27 (dk_at dksX3_ask_1 16 rfl rfl)
theorem dX3_ask_40 : decode cX3_ask 40 = .ok (.invokevirtual 277, 3) := dk_182 1 21 (dk_at dksX3_ask_1 17 rfl rfl)
theorem dX3_ask_43 : decode cX3_ask 43 = .ok (.ireturn, 1) := dk_172 (dk_at dksX3_ask_1 20 rfl rfl)
abbrev cX3_sizeOf : ByteArray := prog_16_method_81_code
def yX3_sizeOf : MethodName := ⟨RX3, "sizeOf", "(I)I"⟩
def dkwX3_sizeOf_3 : List UInt8 := [182, 0, 252, 5, 42, 27, 182, 1, 15, 104, 172, 42, 27, 182, 1, 12, 172]
abbrev dktX3_sizeOf_3 : List UInt8 := dkwX3_sizeOf_3 ++ []
def dkwX3_sizeOf_2 : List UInt8 := [42, 16, 12, 182, 0, 252, 42, 27, 182, 1, 12, 116, 172, 42, 27, 182, 1, 15, 172, 42, 16, 14]
abbrev dktX3_sizeOf_2 : List UInt8 := dkwX3_sizeOf_2 ++ dktX3_sizeOf_3
def dkwX3_sizeOf_1 : List UInt8 := [170, 0, 0, 0, 0, 0, 64, 0, 0, 0, 2, 0, 0, 0, 5, 0, 0, 0, 31, 0, 0, 0, 64, 0, 0, 0, 44, 0, 0, 0, 50]
abbrev dktX3_sizeOf_1 : List UInt8 := dkwX3_sizeOf_1 ++ dktX3_sizeOf_2
def dkwX3_sizeOf_0 : List UInt8 := [42, 180, 0, 7, 16, 10, 27, 96, 46]
abbrev dktX3_sizeOf_0 : List UInt8 := dkwX3_sizeOf_0 ++ dktX3_sizeOf_1
theorem dksX3_sizeOf_0 : cX3_sizeOf.data.toList.drop 0 = dktX3_sizeOf_0 := by decide +kernel
theorem dksX3_sizeOf_1 : cX3_sizeOf.data.toList.drop 9 = dktX3_sizeOf_1 := dk_seg dksX3_sizeOf_0 9 rfl rfl
theorem dksX3_sizeOf_2 : cX3_sizeOf.data.toList.drop 40 = dktX3_sizeOf_2 := dk_seg dksX3_sizeOf_1 31 rfl rfl
theorem dksX3_sizeOf_3 : cX3_sizeOf.data.toList.drop 62 = dktX3_sizeOf_3 := dk_seg dksX3_sizeOf_2 22 rfl rfl
theorem dX3_sizeOf_0 : decode cX3_sizeOf 0 = .ok (.aload_n 0, 1) := dk_42 (dk_at dksX3_sizeOf_0 0 rfl rfl)
theorem dX3_sizeOf_1 : decode cX3_sizeOf 1 = .ok (.getfield 7, 3) := dk_180 0 7 (dk_at dksX3_sizeOf_0 1 rfl rfl)
theorem dX3_sizeOf_4 : decode cX3_sizeOf 4 = .ok (.bipush 10, 2) := dk_16 10 (dk_at dksX3_sizeOf_0 4 rfl rfl)
theorem dX3_sizeOf_6 : decode cX3_sizeOf 6 = .ok (.iload_n 1, 1) := dk_27 (dk_at dksX3_sizeOf_0 6 rfl rfl)
theorem dX3_sizeOf_7 : decode cX3_sizeOf 7 = .ok (.iadd, 1) := dk_96 (dk_at dksX3_sizeOf_0 7 rfl rfl)
theorem dX3_sizeOf_8 : decode cX3_sizeOf 8 = .ok (.iaload, 1) := dk_46 (dk_at dksX3_sizeOf_0 8 rfl rfl)
theorem dX3_sizeOf_9 : decode cX3_sizeOf 9 = .ok (.tableswitch 64 2 5 #[31, 64, 44, 50], 31) := by decide +kernel
theorem dX3_sizeOf_40 : decode cX3_sizeOf 40 = .ok (.aload_n 0, 1) := dk_42 (dk_at dksX3_sizeOf_2 0 rfl rfl)
theorem dX3_sizeOf_41 : decode cX3_sizeOf 41 = .ok (.bipush 12, 2) := dk_16 12 (dk_at dksX3_sizeOf_2 1 rfl rfl)
theorem dX3_sizeOf_43 : decode cX3_sizeOf 43 = .ok (.invokevirtual 252, 3) := dk_182 0 252 (dk_at dksX3_sizeOf_2 3 rfl rfl)
theorem dX3_sizeOf_46 : decode cX3_sizeOf 46 = .ok (.aload_n 0, 1) := dk_42 (dk_at dksX3_sizeOf_2 6 rfl rfl)
theorem dX3_sizeOf_47 : decode cX3_sizeOf 47 = .ok (.iload_n 1, 1) := dk_27 (dk_at dksX3_sizeOf_2 7 rfl rfl)
theorem dX3_sizeOf_48 : decode cX3_sizeOf 48 = .ok (.invokevirtual 268, 3) := dk_182 1 12 (dk_at dksX3_sizeOf_2 8 rfl rfl)
theorem dX3_sizeOf_51 : decode cX3_sizeOf 51 = .ok (.ineg, 1) := dk_116 (dk_at dksX3_sizeOf_2 11 rfl rfl)
theorem dX3_sizeOf_52 : decode cX3_sizeOf 52 = .ok (.ireturn, 1) := dk_172 (dk_at dksX3_sizeOf_2 12 rfl rfl)
theorem dX3_sizeOf_53 : decode cX3_sizeOf 53 = .ok (.aload_n 0, 1) := dk_42 (dk_at dksX3_sizeOf_2 13 rfl rfl)
theorem dX3_sizeOf_54 : decode cX3_sizeOf 54 = .ok (.iload_n 1, 1) := dk_27 (dk_at dksX3_sizeOf_2 14 rfl rfl)
theorem dX3_sizeOf_55 : decode cX3_sizeOf 55 = .ok (.invokevirtual 271, 3) := dk_182 1 15 (dk_at dksX3_sizeOf_2 15 rfl rfl)
theorem dX3_sizeOf_58 : decode cX3_sizeOf 58 = .ok (.ireturn, 1) := dk_172 (dk_at dksX3_sizeOf_2 18 rfl rfl)
theorem dX3_sizeOf_59 : decode cX3_sizeOf 59 = .ok (.aload_n 0, 1) := dk_42 (dk_at dksX3_sizeOf_2 19 rfl rfl)
theorem dX3_sizeOf_60 : decode cX3_sizeOf 60 = .ok (.bipush 14, 2) := dk_16 14 (dk_at dksX3_sizeOf_2 20 rfl rfl)
theorem dX3_sizeOf_62 : decode cX3_sizeOf 62 = .ok (.invokevirtual 252, 3) := dk_182 0 252 (dk_at dksX3_sizeOf_3 0 rfl rfl)
theorem dX3_sizeOf_65 : decode cX3_sizeOf 65 = .ok (.iconst 2, 1) := dk_5 (dk_at dksX3_sizeOf_3 3 rfl rfl)
theorem dX3_sizeOf_66 : decode cX3_sizeOf 66 = .ok (.aload_n 0, 1) := dk_42 (dk_at dksX3_sizeOf_3 4 rfl rfl)
theorem dX3_sizeOf_67 : decode cX3_sizeOf 67 = .ok (.iload_n 1, 1) := dk_27 (dk_at dksX3_sizeOf_3 5 rfl rfl)
theorem dX3_sizeOf_68 : decode cX3_sizeOf 68 = .ok (.invokevirtual 271, 3) := dk_182 1 15 (dk_at dksX3_sizeOf_3 6 rfl rfl)
theorem dX3_sizeOf_71 : decode cX3_sizeOf 71 = .ok (.imul, 1) := dk_104 (dk_at dksX3_sizeOf_3 9 rfl rfl)
theorem dX3_sizeOf_72 : decode cX3_sizeOf 72 = .ok (.ireturn, 1) := dk_172 (dk_at dksX3_sizeOf_3 10 rfl rfl)
theorem dX3_sizeOf_73 : decode cX3_sizeOf 73 = .ok (.aload_n 0, 1) := dk_42 (dk_at dksX3_sizeOf_3 11 rfl rfl)
theorem dX3_sizeOf_74 : decode cX3_sizeOf 74 = .ok (.iload_n 1, 1) := dk_27 (dk_at dksX3_sizeOf_3 12 rfl rfl)
theorem dX3_sizeOf_75 : decode cX3_sizeOf 75 = .ok (.invokevirtual 268, 3) := dk_182 1 12 (dk_at dksX3_sizeOf_3 13 rfl rfl)
theorem dX3_sizeOf_78 : decode cX3_sizeOf 78 = .ok (.ireturn, 1) := dk_172 (dk_at dksX3_sizeOf_3 16 rfl rfl)
abbrev cX3_leaves : ByteArray := prog_16_method_71_code
def yX3_leaves : MethodName := ⟨RX3, "leaves", "(I)V"⟩
def dkwX3_leaves_1 : List UInt8 := [4, 96, 181, 0, 246, 177]
abbrev dktX3_leaves_1 : List UInt8 := dkwX3_leaves_1 ++ []
def dkwX3_leaves_0 : List UInt8 := [42, 180, 0, 246, 16, 16, 162, 0, 23, 42, 180, 0, 53, 42, 180, 0, 246, 27, 79, 42, 89, 180, 0, 246]
abbrev dktX3_leaves_0 : List UInt8 := dkwX3_leaves_0 ++ dktX3_leaves_1
theorem dksX3_leaves_0 : cX3_leaves.data.toList.drop 0 = dktX3_leaves_0 := by decide +kernel
theorem dksX3_leaves_1 : cX3_leaves.data.toList.drop 24 = dktX3_leaves_1 := dk_seg dksX3_leaves_0 24 rfl rfl
theorem dX3_leaves_0 : decode cX3_leaves 0 = .ok (.aload_n 0, 1) := dk_42 (dk_at dksX3_leaves_0 0 rfl rfl)
theorem dX3_leaves_1 : decode cX3_leaves 1 = .ok (.getfield 246, 3) := dk_180 0 246 (dk_at dksX3_leaves_0 1 rfl rfl)
theorem dX3_leaves_4 : decode cX3_leaves 4 = .ok (.bipush 16, 2) := dk_16 16 (dk_at dksX3_leaves_0 4 rfl rfl)
theorem dX3_leaves_6 : decode cX3_leaves 6 = .ok (.if_icmp .ge 23, 3) := dk_162 0 23 (dk_at dksX3_leaves_0 6 rfl rfl)
theorem dX3_leaves_9 : decode cX3_leaves 9 = .ok (.aload_n 0, 1) := dk_42 (dk_at dksX3_leaves_0 9 rfl rfl)
theorem dX3_leaves_10 : decode cX3_leaves 10 = .ok (.getfield 53, 3) := dk_180 0 53 (dk_at dksX3_leaves_0 10 rfl rfl)
theorem dX3_leaves_13 : decode cX3_leaves 13 = .ok (.aload_n 0, 1) := dk_42 (dk_at dksX3_leaves_0 13 rfl rfl)
theorem dX3_leaves_14 : decode cX3_leaves 14 = .ok (.getfield 246, 3) := dk_180 0 246 (dk_at dksX3_leaves_0 14 rfl rfl)
theorem dX3_leaves_17 : decode cX3_leaves 17 = .ok (.iload_n 1, 1) := dk_27 (dk_at dksX3_leaves_0 17 rfl rfl)
theorem dX3_leaves_18 : decode cX3_leaves 18 = .ok (.iastore, 1) := dk_79 (dk_at dksX3_leaves_0 18 rfl rfl)
theorem dX3_leaves_19 : decode cX3_leaves 19 = .ok (.aload_n 0, 1) := dk_42 (dk_at dksX3_leaves_0 19 rfl rfl)
theorem dX3_leaves_20 : decode cX3_leaves 20 = .ok (.dup, 1) := dk_89 (dk_at dksX3_leaves_0 20 rfl rfl)
theorem dX3_leaves_21 : decode cX3_leaves 21 = .ok (.getfield 246, 3) := dk_180 0 246 (dk_at dksX3_leaves_0 21 rfl rfl)
theorem dX3_leaves_24 : decode cX3_leaves 24 = .ok (.iconst 1, 1) := dk_4 (dk_at dksX3_leaves_1 0 rfl rfl)
theorem dX3_leaves_25 : decode cX3_leaves 25 = .ok (.iadd, 1) := dk_96 (dk_at dksX3_leaves_1 1 rfl rfl)
theorem dX3_leaves_26 : decode cX3_leaves 26 = .ok (.putfield 246, 3) := dk_181 0 246 (dk_at dksX3_leaves_1 2 rfl rfl)
theorem dX3_leaves_29 : decode cX3_leaves 29 = .ok (.return_, 1) := dk_177 (dk_at dksX3_leaves_1 5 rfl rfl)
abbrev cX3_grownSize : ByteArray := prog_16_method_79_code
def yX3_grownSize : MethodName := ⟨RX3, "grownSize", "(I)I"⟩
def dkwX3_grownSize_0 : List UInt8 := [42, 16, 11, 182, 0, 252, 42, 27, 182, 1, 6, 61, 28, 42, 27, 182, 1, 9, 96, 172]
abbrev dktX3_grownSize_0 : List UInt8 := dkwX3_grownSize_0 ++ []
theorem dksX3_grownSize_0 : cX3_grownSize.data.toList.drop 0 = dktX3_grownSize_0 := by decide +kernel
theorem dX3_grownSize_0 : decode cX3_grownSize 0 = .ok (.aload_n 0, 1) := dk_42 (dk_at dksX3_grownSize_0 0 rfl rfl)
theorem dX3_grownSize_1 : decode cX3_grownSize 1 = .ok (.bipush 11, 2) := dk_16 11 (dk_at dksX3_grownSize_0 1 rfl rfl)
theorem dX3_grownSize_3 : decode cX3_grownSize 3 = .ok (.invokevirtual 252, 3) := dk_182 0 252 (dk_at dksX3_grownSize_0 3 rfl rfl)
theorem dX3_grownSize_6 : decode cX3_grownSize 6 = .ok (.aload_n 0, 1) := dk_42 (dk_at dksX3_grownSize_0 6 rfl rfl)
theorem dX3_grownSize_7 : decode cX3_grownSize 7 = .ok (.iload_n 1, 1) := dk_27 (dk_at dksX3_grownSize_0 7 rfl rfl)
theorem dX3_grownSize_8 : decode cX3_grownSize 8 = .ok (.invokevirtual 262, 3) := dk_182 1 6 (dk_at dksX3_grownSize_0 8 rfl rfl)
theorem dX3_grownSize_11 : decode cX3_grownSize 11 = .ok (.istore_n 2, 1) := dk_61 (dk_at dksX3_grownSize_0 11 rfl rfl)
theorem dX3_grownSize_12 : decode cX3_grownSize 12 = .ok (.iload_n 2, 1) := dk_28 (dk_at dksX3_grownSize_0 12 rfl rfl)
theorem dX3_grownSize_13 : decode cX3_grownSize 13 = .ok (.aload_n 0, 1) := dk_42 (dk_at dksX3_grownSize_0 13 rfl rfl)
theorem dX3_grownSize_14 : decode cX3_grownSize 14 = .ok (.iload_n 1, 1) := dk_27 (dk_at dksX3_grownSize_0 14 rfl rfl)
theorem dX3_grownSize_15 : decode cX3_grownSize 15 = .ok (.invokevirtual 265, 3) := dk_182 1 9 (dk_at dksX3_grownSize_0 15 rfl rfl)
theorem dX3_grownSize_18 : decode cX3_grownSize 18 = .ok (.iadd, 1) := dk_96 (dk_at dksX3_grownSize_0 18 rfl rfl)
theorem dX3_grownSize_19 : decode cX3_grownSize 19 = .ok (.ireturn, 1) := dk_172 (dk_at dksX3_grownSize_0 19 rfl rfl)
abbrev cX3_bareSize : ByteArray := prog_16_method_75_code
def yX3_bareSize : MethodName := ⟨RX3, "bareSize", "(I)I"⟩
def dkwX3_bareSize_0 : List UInt8 := [42, 16, 10, 182, 0, 252, 42, 27, 182, 0, 161, 172]
abbrev dktX3_bareSize_0 : List UInt8 := dkwX3_bareSize_0 ++ []
theorem dksX3_bareSize_0 : cX3_bareSize.data.toList.drop 0 = dktX3_bareSize_0 := by decide +kernel
theorem dX3_bareSize_0 : decode cX3_bareSize 0 = .ok (.aload_n 0, 1) := dk_42 (dk_at dksX3_bareSize_0 0 rfl rfl)
theorem dX3_bareSize_1 : decode cX3_bareSize 1 = .ok (.bipush 10, 2) := dk_16 10 (dk_at dksX3_bareSize_0 1 rfl rfl)
theorem dX3_bareSize_3 : decode cX3_bareSize 3 = .ok (.invokevirtual 252, 3) := dk_182 0 252 (dk_at dksX3_bareSize_0 3 rfl rfl)
theorem dX3_bareSize_6 : decode cX3_bareSize 6 = .ok (.aload_n 0, 1) := dk_42 (dk_at dksX3_bareSize_0 6 rfl rfl)
theorem dX3_bareSize_7 : decode cX3_bareSize 7 = .ok (.iload_n 1, 1) := dk_27 (dk_at dksX3_bareSize_0 7 rfl rfl)
theorem dX3_bareSize_8 : decode cX3_bareSize 8 = .ok (.invokevirtual 161, 3) := dk_182 0 161 (dk_at dksX3_bareSize_0 8 rfl rfl)
theorem dX3_bareSize_11 : decode cX3_bareSize 11 = .ok (.ireturn, 1) := dk_172 (dk_at dksX3_bareSize_0 11 rfl rfl)
abbrev cX3_markOfGrown : ByteArray := prog_16_method_78_code
def yX3_markOfGrown : MethodName := ⟨RX3, "markOfGrown", "(I)I"⟩
def dkwX3_markOfGrown_2 : List UInt8 := [42, 27, 182, 1, 3, 17, 3, 232, 100, 172, 42, 27, 182, 1, 3, 172]
abbrev dktX3_markOfGrown_2 : List UInt8 := dkwX3_markOfGrown_2 ++ []
def dkwX3_markOfGrown_1 : List UInt8 := [182, 1, 3, 104, 172, 42, 180, 0, 7, 16, 10, 27, 96, 46, 6, 160, 0, 19, 42, 16, 22, 182, 0, 252]
abbrev dktX3_markOfGrown_1 : List UInt8 := dkwX3_markOfGrown_1 ++ dktX3_markOfGrown_2
def dkwX3_markOfGrown_0 : List UInt8 := [42, 180, 0, 7, 16, 10, 27, 96, 46, 5, 160, 0, 17, 42, 16, 24, 182, 0, 252, 5, 42, 27]
abbrev dktX3_markOfGrown_0 : List UInt8 := dkwX3_markOfGrown_0 ++ dktX3_markOfGrown_1
theorem dksX3_markOfGrown_0 : cX3_markOfGrown.data.toList.drop 0 = dktX3_markOfGrown_0 := by decide +kernel
theorem dksX3_markOfGrown_1 : cX3_markOfGrown.data.toList.drop 22 = dktX3_markOfGrown_1 := dk_seg dksX3_markOfGrown_0 22 rfl rfl
theorem dksX3_markOfGrown_2 : cX3_markOfGrown.data.toList.drop 46 = dktX3_markOfGrown_2 := dk_seg dksX3_markOfGrown_1 24 rfl rfl
theorem dX3_markOfGrown_0 : decode cX3_markOfGrown 0 = .ok (.aload_n 0, 1) := dk_42 (dk_at dksX3_markOfGrown_0 0 rfl rfl)
theorem dX3_markOfGrown_1 : decode cX3_markOfGrown 1 = .ok (.getfield 7, 3) := dk_180 0 7 (dk_at dksX3_markOfGrown_0 1 rfl rfl)
theorem dX3_markOfGrown_4 : decode cX3_markOfGrown 4 = .ok (.bipush 10, 2) := dk_16 10 (dk_at dksX3_markOfGrown_0 4 rfl rfl)
theorem dX3_markOfGrown_6 : decode cX3_markOfGrown 6 = .ok (.iload_n 1, 1) := dk_27 (dk_at dksX3_markOfGrown_0 6 rfl rfl)
theorem dX3_markOfGrown_7 : decode cX3_markOfGrown 7 = .ok (.iadd, 1) := dk_96 (dk_at dksX3_markOfGrown_0 7 rfl rfl)
theorem dX3_markOfGrown_8 : decode cX3_markOfGrown 8 = .ok (.iaload, 1) := dk_46 (dk_at dksX3_markOfGrown_0 8 rfl rfl)
theorem dX3_markOfGrown_9 : decode cX3_markOfGrown 9 = .ok (.iconst 2, 1) := dk_5 (dk_at dksX3_markOfGrown_0 9 rfl rfl)
theorem dX3_markOfGrown_10 : decode cX3_markOfGrown 10 = .ok (.if_icmp .ne 17, 3) := dk_160 0 17 (dk_at dksX3_markOfGrown_0 10 rfl rfl)
theorem dX3_markOfGrown_13 : decode cX3_markOfGrown 13 = .ok (.aload_n 0, 1) := dk_42 (dk_at dksX3_markOfGrown_0 13 rfl rfl)
theorem dX3_markOfGrown_14 : decode cX3_markOfGrown 14 = .ok (.bipush 24, 2) := dk_16 24 (dk_at dksX3_markOfGrown_0 14 rfl rfl)
theorem dX3_markOfGrown_16 : decode cX3_markOfGrown 16 = .ok (.invokevirtual 252, 3) := dk_182 0 252 (dk_at dksX3_markOfGrown_0 16 rfl rfl)
theorem dX3_markOfGrown_19 : decode cX3_markOfGrown 19 = .ok (.iconst 2, 1) := dk_5 (dk_at dksX3_markOfGrown_0 19 rfl rfl)
theorem dX3_markOfGrown_20 : decode cX3_markOfGrown 20 = .ok (.aload_n 0, 1) := dk_42 (dk_at dksX3_markOfGrown_0 20 rfl rfl)
theorem dX3_markOfGrown_21 : decode cX3_markOfGrown 21 = .ok (.iload_n 1, 1) := dk_27 (dk_at dksX3_markOfGrown_0 21 rfl rfl)
theorem dX3_markOfGrown_22 : decode cX3_markOfGrown 22 = .ok (.invokevirtual 259, 3) := dk_182 1 3 (dk_at dksX3_markOfGrown_1 0 rfl rfl)
theorem dX3_markOfGrown_25 : decode cX3_markOfGrown 25 = .ok (.imul, 1) := dk_104 (dk_at dksX3_markOfGrown_1 3 rfl rfl)
theorem dX3_markOfGrown_26 : decode cX3_markOfGrown 26 = .ok (.ireturn, 1) := dk_172 (dk_at dksX3_markOfGrown_1 4 rfl rfl)
theorem dX3_markOfGrown_27 : decode cX3_markOfGrown 27 = .ok (.aload_n 0, 1) := dk_42 (dk_at dksX3_markOfGrown_1 5 rfl rfl)
theorem dX3_markOfGrown_28 : decode cX3_markOfGrown 28 = .ok (.getfield 7, 3) := dk_180 0 7 (dk_at dksX3_markOfGrown_1 6 rfl rfl)
theorem dX3_markOfGrown_31 : decode cX3_markOfGrown 31 = .ok (.bipush 10, 2) := dk_16 10 (dk_at dksX3_markOfGrown_1 9 rfl rfl)
theorem dX3_markOfGrown_33 : decode cX3_markOfGrown 33 = .ok (.iload_n 1, 1) := dk_27 (dk_at dksX3_markOfGrown_1 11 rfl rfl)
theorem dX3_markOfGrown_34 : decode cX3_markOfGrown 34 = .ok (.iadd, 1) := dk_96 (dk_at dksX3_markOfGrown_1 12 rfl rfl)
theorem dX3_markOfGrown_35 : decode cX3_markOfGrown 35 = .ok (.iaload, 1) := dk_46 (dk_at dksX3_markOfGrown_1 13 rfl rfl)
theorem dX3_markOfGrown_36 : decode cX3_markOfGrown 36 = .ok (.iconst 3, 1) := dk_6 (dk_at dksX3_markOfGrown_1 14 rfl rfl)
theorem dX3_markOfGrown_37 : decode cX3_markOfGrown 37 = .ok (.if_icmp .ne 19, 3) := dk_160 0 19 (dk_at dksX3_markOfGrown_1 15 rfl rfl)
theorem dX3_markOfGrown_40 : decode cX3_markOfGrown 40 = .ok (.aload_n 0, 1) := dk_42 (dk_at dksX3_markOfGrown_1 18 rfl rfl)
theorem dX3_markOfGrown_41 : decode cX3_markOfGrown 41 = .ok (.bipush 22, 2) := dk_16 22 (dk_at dksX3_markOfGrown_1 19 rfl rfl)
theorem dX3_markOfGrown_43 : decode cX3_markOfGrown 43 = .ok (.invokevirtual 252, 3) := dk_182 0 252 (dk_at dksX3_markOfGrown_1 21 rfl rfl)
theorem dX3_markOfGrown_46 : decode cX3_markOfGrown 46 = .ok (.aload_n 0, 1) := dk_42 (dk_at dksX3_markOfGrown_2 0 rfl rfl)
theorem dX3_markOfGrown_47 : decode cX3_markOfGrown 47 = .ok (.iload_n 1, 1) := dk_27 (dk_at dksX3_markOfGrown_2 1 rfl rfl)
theorem dX3_markOfGrown_48 : decode cX3_markOfGrown 48 = .ok (.invokevirtual 259, 3) := dk_182 1 3 (dk_at dksX3_markOfGrown_2 2 rfl rfl)
theorem dX3_markOfGrown_51 : decode cX3_markOfGrown 51 = .ok (.sipush 1000, 3) := dk_17 3 232 (dk_at dksX3_markOfGrown_2 5 rfl rfl)
theorem dX3_markOfGrown_54 : decode cX3_markOfGrown 54 = .ok (.isub, 1) := dk_100 (dk_at dksX3_markOfGrown_2 8 rfl rfl)
theorem dX3_markOfGrown_55 : decode cX3_markOfGrown 55 = .ok (.ireturn, 1) := dk_172 (dk_at dksX3_markOfGrown_2 9 rfl rfl)
theorem dX3_markOfGrown_56 : decode cX3_markOfGrown 56 = .ok (.aload_n 0, 1) := dk_42 (dk_at dksX3_markOfGrown_2 10 rfl rfl)
theorem dX3_markOfGrown_57 : decode cX3_markOfGrown 57 = .ok (.iload_n 1, 1) := dk_27 (dk_at dksX3_markOfGrown_2 11 rfl rfl)
theorem dX3_markOfGrown_58 : decode cX3_markOfGrown 58 = .ok (.invokevirtual 259, 3) := dk_182 1 3 (dk_at dksX3_markOfGrown_2 12 rfl rfl)
theorem dX3_markOfGrown_61 : decode cX3_markOfGrown 61 = .ok (.ireturn, 1) := dk_172 (dk_at dksX3_markOfGrown_2 15 rfl rfl)
abbrev cX3_grownMark : ByteArray := prog_16_method_77_code
def yX3_grownMark : MethodName := ⟨RX3, "grownMark", "(I)I"⟩
def dkwX3_grownMark_0 : List UInt8 := [42, 16, 21, 182, 0, 252, 42, 27, 182, 1, 0, 42, 180, 0, 7, 16, 15, 27, 96, 46, 96, 172]
abbrev dktX3_grownMark_0 : List UInt8 := dkwX3_grownMark_0 ++ []
theorem dksX3_grownMark_0 : cX3_grownMark.data.toList.drop 0 = dktX3_grownMark_0 := by decide +kernel
theorem dX3_grownMark_0 : decode cX3_grownMark 0 = .ok (.aload_n 0, 1) := dk_42 (dk_at dksX3_grownMark_0 0 rfl rfl)
theorem dX3_grownMark_1 : decode cX3_grownMark 1 = .ok (.bipush 21, 2) := dk_16 21 (dk_at dksX3_grownMark_0 1 rfl rfl)
theorem dX3_grownMark_3 : decode cX3_grownMark 3 = .ok (.invokevirtual 252, 3) := dk_182 0 252 (dk_at dksX3_grownMark_0 3 rfl rfl)
theorem dX3_grownMark_6 : decode cX3_grownMark 6 = .ok (.aload_n 0, 1) := dk_42 (dk_at dksX3_grownMark_0 6 rfl rfl)
theorem dX3_grownMark_7 : decode cX3_grownMark 7 = .ok (.iload_n 1, 1) := dk_27 (dk_at dksX3_grownMark_0 7 rfl rfl)
theorem dX3_grownMark_8 : decode cX3_grownMark 8 = .ok (.invokevirtual 256, 3) := dk_182 1 0 (dk_at dksX3_grownMark_0 8 rfl rfl)
theorem dX3_grownMark_11 : decode cX3_grownMark 11 = .ok (.aload_n 0, 1) := dk_42 (dk_at dksX3_grownMark_0 11 rfl rfl)
theorem dX3_grownMark_12 : decode cX3_grownMark 12 = .ok (.getfield 7, 3) := dk_180 0 7 (dk_at dksX3_grownMark_0 12 rfl rfl)
theorem dX3_grownMark_15 : decode cX3_grownMark 15 = .ok (.bipush 15, 2) := dk_16 15 (dk_at dksX3_grownMark_0 15 rfl rfl)
theorem dX3_grownMark_17 : decode cX3_grownMark 17 = .ok (.iload_n 1, 1) := dk_27 (dk_at dksX3_grownMark_0 17 rfl rfl)
theorem dX3_grownMark_18 : decode cX3_grownMark 18 = .ok (.iadd, 1) := dk_96 (dk_at dksX3_grownMark_0 18 rfl rfl)
theorem dX3_grownMark_19 : decode cX3_grownMark 19 = .ok (.iaload, 1) := dk_46 (dk_at dksX3_grownMark_0 19 rfl rfl)
theorem dX3_grownMark_20 : decode cX3_grownMark 20 = .ok (.iadd, 1) := dk_96 (dk_at dksX3_grownMark_0 20 rfl rfl)
theorem dX3_grownMark_21 : decode cX3_grownMark 21 = .ok (.ireturn, 1) := dk_172 (dk_at dksX3_grownMark_0 21 rfl rfl)
abbrev cX3_bareMark : ByteArray := prog_16_method_76_code
def yX3_bareMark : MethodName := ⟨RX3, "bareMark", "(I)I"⟩
def dkwX3_bareMark_0 : List UInt8 := [42, 16, 20, 182, 0, 252, 27, 172]
abbrev dktX3_bareMark_0 : List UInt8 := dkwX3_bareMark_0 ++ []
theorem dksX3_bareMark_0 : cX3_bareMark.data.toList.drop 0 = dktX3_bareMark_0 := by decide +kernel
theorem dX3_bareMark_0 : decode cX3_bareMark 0 = .ok (.aload_n 0, 1) := dk_42 (dk_at dksX3_bareMark_0 0 rfl rfl)
theorem dX3_bareMark_1 : decode cX3_bareMark 1 = .ok (.bipush 20, 2) := dk_16 20 (dk_at dksX3_bareMark_0 1 rfl rfl)
theorem dX3_bareMark_3 : decode cX3_bareMark 3 = .ok (.invokevirtual 252, 3) := dk_182 0 252 (dk_at dksX3_bareMark_0 3 rfl rfl)
theorem dX3_bareMark_6 : decode cX3_bareMark 6 = .ok (.iload_n 1, 1) := dk_27 (dk_at dksX3_bareMark_0 6 rfl rfl)
theorem dX3_bareMark_7 : decode cX3_bareMark 7 = .ok (.ireturn, 1) := dk_172 (dk_at dksX3_bareMark_0 7 rfl rfl)
abbrev cX3_childSize : ByteArray := prog_16_method_80_code
def yX3_childSize : MethodName := ⟨RX3, "childSize", "(I)I"⟩
def dkwX3_childSize_0 : List UInt8 := [42, 16, 13, 182, 0, 252, 42, 27, 182, 1, 6, 16, 100, 100, 172]
abbrev dktX3_childSize_0 : List UInt8 := dkwX3_childSize_0 ++ []
theorem dksX3_childSize_0 : cX3_childSize.data.toList.drop 0 = dktX3_childSize_0 := by decide +kernel
theorem dX3_childSize_0 : decode cX3_childSize 0 = .ok (.aload_n 0, 1) := dk_42 (dk_at dksX3_childSize_0 0 rfl rfl)
theorem dX3_childSize_1 : decode cX3_childSize 1 = .ok (.bipush 13, 2) := dk_16 13 (dk_at dksX3_childSize_0 1 rfl rfl)
theorem dX3_childSize_3 : decode cX3_childSize 3 = .ok (.invokevirtual 252, 3) := dk_182 0 252 (dk_at dksX3_childSize_0 3 rfl rfl)
theorem dX3_childSize_6 : decode cX3_childSize 6 = .ok (.aload_n 0, 1) := dk_42 (dk_at dksX3_childSize_0 6 rfl rfl)
theorem dX3_childSize_7 : decode cX3_childSize 7 = .ok (.iload_n 1, 1) := dk_27 (dk_at dksX3_childSize_0 7 rfl rfl)
theorem dX3_childSize_8 : decode cX3_childSize 8 = .ok (.invokevirtual 262, 3) := dk_182 1 6 (dk_at dksX3_childSize_0 8 rfl rfl)
theorem dX3_childSize_11 : decode cX3_childSize 11 = .ok (.bipush 100, 2) := dk_16 100 (dk_at dksX3_childSize_0 11 rfl rfl)
theorem dX3_childSize_13 : decode cX3_childSize 13 = .ok (.isub, 1) := dk_100 (dk_at dksX3_childSize_0 13 rfl rfl)
theorem dX3_childSize_14 : decode cX3_childSize 14 = .ok (.ireturn, 1) := dk_172 (dk_at dksX3_childSize_0 14 rfl rfl)
abbrev cX3_markOf : ByteArray := prog_16_method_82_code
def yX3_markOf : MethodName := ⟨RX3, "markOf", "(I)I"⟩
def dkwX3_markOf_1 : List UInt8 := [182, 0, 252, 42, 27, 182, 1, 0, 61, 28, 42, 27, 182, 1, 18, 100, 172]
abbrev dktX3_markOf_1 : List UInt8 := dkwX3_markOf_1 ++ []
def dkwX3_markOf_0 : List UInt8 := [42, 180, 0, 7, 16, 10, 27, 96, 46, 7, 162, 0, 9, 42, 27, 182, 1, 9, 172, 42, 16, 23]
abbrev dktX3_markOf_0 : List UInt8 := dkwX3_markOf_0 ++ dktX3_markOf_1
theorem dksX3_markOf_0 : cX3_markOf.data.toList.drop 0 = dktX3_markOf_0 := by decide +kernel
theorem dksX3_markOf_1 : cX3_markOf.data.toList.drop 22 = dktX3_markOf_1 := dk_seg dksX3_markOf_0 22 rfl rfl
theorem dX3_markOf_0 : decode cX3_markOf 0 = .ok (.aload_n 0, 1) := dk_42 (dk_at dksX3_markOf_0 0 rfl rfl)
theorem dX3_markOf_1 : decode cX3_markOf 1 = .ok (.getfield 7, 3) := dk_180 0 7 (dk_at dksX3_markOf_0 1 rfl rfl)
theorem dX3_markOf_4 : decode cX3_markOf 4 = .ok (.bipush 10, 2) := dk_16 10 (dk_at dksX3_markOf_0 4 rfl rfl)
theorem dX3_markOf_6 : decode cX3_markOf 6 = .ok (.iload_n 1, 1) := dk_27 (dk_at dksX3_markOf_0 6 rfl rfl)
theorem dX3_markOf_7 : decode cX3_markOf 7 = .ok (.iadd, 1) := dk_96 (dk_at dksX3_markOf_0 7 rfl rfl)
theorem dX3_markOf_8 : decode cX3_markOf 8 = .ok (.iaload, 1) := dk_46 (dk_at dksX3_markOf_0 8 rfl rfl)
theorem dX3_markOf_9 : decode cX3_markOf 9 = .ok (.iconst 4, 1) := dk_7 (dk_at dksX3_markOf_0 9 rfl rfl)
theorem dX3_markOf_10 : decode cX3_markOf 10 = .ok (.if_icmp .ge 9, 3) := dk_162 0 9 (dk_at dksX3_markOf_0 10 rfl rfl)
theorem dX3_markOf_13 : decode cX3_markOf 13 = .ok (.aload_n 0, 1) := dk_42 (dk_at dksX3_markOf_0 13 rfl rfl)
theorem dX3_markOf_14 : decode cX3_markOf 14 = .ok (.iload_n 1, 1) := dk_27 (dk_at dksX3_markOf_0 14 rfl rfl)
theorem dX3_markOf_15 : decode cX3_markOf 15 = .ok (.invokevirtual 265, 3) := dk_182 1 9 (dk_at dksX3_markOf_0 15 rfl rfl)
theorem dX3_markOf_18 : decode cX3_markOf 18 = .ok (.ireturn, 1) := dk_172 (dk_at dksX3_markOf_0 18 rfl rfl)
theorem dX3_markOf_19 : decode cX3_markOf 19 = .ok (.aload_n 0, 1) := dk_42 (dk_at dksX3_markOf_0 19 rfl rfl)
theorem dX3_markOf_20 : decode cX3_markOf 20 = .ok (.bipush 23, 2) := dk_16 23 (dk_at dksX3_markOf_0 20 rfl rfl)
theorem dX3_markOf_22 : decode cX3_markOf 22 = .ok (.invokevirtual 252, 3) := dk_182 0 252 (dk_at dksX3_markOf_1 0 rfl rfl)
theorem dX3_markOf_25 : decode cX3_markOf 25 = .ok (.aload_n 0, 1) := dk_42 (dk_at dksX3_markOf_1 3 rfl rfl)
theorem dX3_markOf_26 : decode cX3_markOf 26 = .ok (.iload_n 1, 1) := dk_27 (dk_at dksX3_markOf_1 4 rfl rfl)
theorem dX3_markOf_27 : decode cX3_markOf 27 = .ok (.invokevirtual 256, 3) := dk_182 1 0 (dk_at dksX3_markOf_1 5 rfl rfl)
theorem dX3_markOf_30 : decode cX3_markOf 30 = .ok (.istore_n 2, 1) := dk_61 (dk_at dksX3_markOf_1 8 rfl rfl)
theorem dX3_markOf_31 : decode cX3_markOf 31 = .ok (.iload_n 2, 1) := dk_28 (dk_at dksX3_markOf_1 9 rfl rfl)
theorem dX3_markOf_32 : decode cX3_markOf 32 = .ok (.aload_n 0, 1) := dk_42 (dk_at dksX3_markOf_1 10 rfl rfl)
theorem dX3_markOf_33 : decode cX3_markOf 33 = .ok (.iload_n 1, 1) := dk_27 (dk_at dksX3_markOf_1 11 rfl rfl)
theorem dX3_markOf_34 : decode cX3_markOf 34 = .ok (.invokevirtual 274, 3) := dk_182 1 18 (dk_at dksX3_markOf_1 12 rfl rfl)
theorem dX3_markOf_37 : decode cX3_markOf 37 = .ok (.isub, 1) := dk_100 (dk_at dksX3_markOf_1 15 rfl rfl)
theorem dX3_markOf_38 : decode cX3_markOf 38 = .ok (.ireturn, 1) := dk_172 (dk_at dksX3_markOf_1 16 rfl rfl)
abbrev cX3_trace : ByteArray := prog_16_method_84_code
def yX3_trace : MethodName := ⟨RX3, "trace", "(I)I"⟩
def dkwX3_trace_1 : List UInt8 := [167, 0, 5, 18, 211, 172]
abbrev dktX3_trace_1 : List UInt8 := dkwX3_trace_1 ++ []
def dkwX3_trace_0 : List UInt8 := [27, 133, 9, 42, 180, 0, 246, 4, 100, 133, 184, 0, 63, 153, 0, 12, 42, 180, 0, 53, 27, 46]
abbrev dktX3_trace_0 : List UInt8 := dkwX3_trace_0 ++ dktX3_trace_1
theorem dksX3_trace_0 : cX3_trace.data.toList.drop 0 = dktX3_trace_0 := by decide +kernel
theorem dksX3_trace_1 : cX3_trace.data.toList.drop 22 = dktX3_trace_1 := dk_seg dksX3_trace_0 22 rfl rfl
theorem dX3_trace_0 : decode cX3_trace 0 = .ok (.iload_n 1, 1) := dk_27 (dk_at dksX3_trace_0 0 rfl rfl)
theorem dX3_trace_1 : decode cX3_trace 1 = .ok (.i2l, 1) := dk_133 (dk_at dksX3_trace_0 1 rfl rfl)
theorem dX3_trace_2 : decode cX3_trace 2 = .ok (.lconst 0, 1) := dk_9 (dk_at dksX3_trace_0 2 rfl rfl)
theorem dX3_trace_3 : decode cX3_trace 3 = .ok (.aload_n 0, 1) := dk_42 (dk_at dksX3_trace_0 3 rfl rfl)
theorem dX3_trace_4 : decode cX3_trace 4 = .ok (.getfield 246, 3) := dk_180 0 246 (dk_at dksX3_trace_0 4 rfl rfl)
theorem dX3_trace_7 : decode cX3_trace 7 = .ok (.iconst 1, 1) := dk_4 (dk_at dksX3_trace_0 7 rfl rfl)
theorem dX3_trace_8 : decode cX3_trace 8 = .ok (.isub, 1) := dk_100 (dk_at dksX3_trace_0 8 rfl rfl)
theorem dX3_trace_9 : decode cX3_trace 9 = .ok (.i2l, 1) := dk_133 (dk_at dksX3_trace_0 9 rfl rfl)
theorem dX3_trace_10 : decode cX3_trace 10 = .ok (.invokestatic 63, 3) := dk_184 0 63 (dk_at dksX3_trace_0 10 rfl rfl)
theorem dX3_trace_13 : decode cX3_trace 13 = .ok (.ifCond .eq 12, 3) := dk_153 0 12 (dk_at dksX3_trace_0 13 rfl rfl)
theorem dX3_trace_16 : decode cX3_trace 16 = .ok (.aload_n 0, 1) := dk_42 (dk_at dksX3_trace_0 16 rfl rfl)
theorem dX3_trace_17 : decode cX3_trace 17 = .ok (.getfield 53, 3) := dk_180 0 53 (dk_at dksX3_trace_0 17 rfl rfl)
theorem dX3_trace_20 : decode cX3_trace 20 = .ok (.iload_n 1, 1) := dk_27 (dk_at dksX3_trace_0 20 rfl rfl)
theorem dX3_trace_21 : decode cX3_trace 21 = .ok (.iaload, 1) := dk_46 (dk_at dksX3_trace_0 21 rfl rfl)
theorem dX3_trace_22 : decode cX3_trace 22 = .ok (.goto 5, 3) := dk_167 0 5 (dk_at dksX3_trace_1 0 rfl rfl)
theorem dX3_trace_25 : decode cX3_trace 25 = .ok (.ldc 211, 2) := dk_18 211 (dk_at dksX3_trace_1 3 rfl rfl)
theorem dX3_trace_27 : decode cX3_trace 27 = .ok (.ireturn, 1) := dk_172 (dk_at dksX3_trace_1 5 rfl rfl)
abbrev cX3_count : ByteArray := prog_16_method_87_code
def yX3_count : MethodName := ⟨RX3, "count", "(I)I"⟩
def dkwX3_count_4 : List UInt8 := [180, 0, 91, 172, 18, 73, 172]
abbrev dktX3_count_4 : List UInt8 := dkwX3_count_4 ++ []
def dkwX3_count_3 : List UInt8 := [182, 1, 27, 172, 42, 180, 0, 7, 16, 8, 46, 172, 42, 182, 0, 234, 172, 42, 180, 0, 151, 172, 42]
abbrev dktX3_count_3 : List UInt8 := dkwX3_count_3 ++ dktX3_count_4
def dkwX3_count_2 : List UInt8 := [42, 182, 1, 24, 172, 42, 180, 0, 7, 16, 6, 46, 172, 42, 180, 0, 7, 16, 7, 46, 172, 42]
abbrev dktX3_count_2 : List UInt8 := dkwX3_count_2 ++ dktX3_count_3
def dkwX3_count_1 : List UInt8 := [170, 0, 0, 0, 0, 0, 96, 0, 0, 0, 0, 0, 0, 0, 7, 0, 0, 0, 47, 0, 0, 0, 52, 0, 0, 0, 60, 0, 0, 0, 68, 0, 0, 0, 73, 0, 0, 0, 81, 0, 0, 0, 86, 0, 0, 0, 91]
abbrev dktX3_count_1 : List UInt8 := dkwX3_count_1 ++ dktX3_count_2
def dkwX3_count_0 : List UInt8 := [27]
abbrev dktX3_count_0 : List UInt8 := dkwX3_count_0 ++ dktX3_count_1
theorem dksX3_count_0 : cX3_count.data.toList.drop 0 = dktX3_count_0 := by decide +kernel
theorem dksX3_count_1 : cX3_count.data.toList.drop 1 = dktX3_count_1 := dk_seg dksX3_count_0 1 rfl rfl
theorem dksX3_count_2 : cX3_count.data.toList.drop 48 = dktX3_count_2 := dk_seg dksX3_count_1 47 rfl rfl
theorem dksX3_count_3 : cX3_count.data.toList.drop 70 = dktX3_count_3 := dk_seg dksX3_count_2 22 rfl rfl
theorem dksX3_count_4 : cX3_count.data.toList.drop 93 = dktX3_count_4 := dk_seg dksX3_count_3 23 rfl rfl
theorem dX3_count_0 : decode cX3_count 0 = .ok (.iload_n 1, 1) := dk_27 (dk_at dksX3_count_0 0 rfl rfl)
theorem dX3_count_1 : decode cX3_count 1 = .ok (.tableswitch 96 0 7 #[47, 52, 60, 68, 73, 81, 86, 91], 47) := by decide +kernel
theorem dX3_count_48 : decode cX3_count 48 = .ok (.aload_n 0, 1) := dk_42 (dk_at dksX3_count_2 0 rfl rfl)
theorem dX3_count_49 : decode cX3_count 49 = .ok (.invokevirtual 280, 3) := dk_182 1 24 (dk_at dksX3_count_2 1 rfl rfl)
theorem dX3_count_52 : decode cX3_count 52 = .ok (.ireturn, 1) := dk_172 (dk_at dksX3_count_2 4 rfl rfl)
theorem dX3_count_53 : decode cX3_count 53 = .ok (.aload_n 0, 1) := dk_42 (dk_at dksX3_count_2 5 rfl rfl)
theorem dX3_count_54 : decode cX3_count 54 = .ok (.getfield 7, 3) := dk_180 0 7 (dk_at dksX3_count_2 6 rfl rfl)
theorem dX3_count_57 : decode cX3_count 57 = .ok (.bipush 6, 2) := dk_16 6 (dk_at dksX3_count_2 9 rfl rfl)
theorem dX3_count_59 : decode cX3_count 59 = .ok (.iaload, 1) := dk_46 (dk_at dksX3_count_2 11 rfl rfl)
theorem dX3_count_60 : decode cX3_count 60 = .ok (.ireturn, 1) := dk_172 (dk_at dksX3_count_2 12 rfl rfl)
theorem dX3_count_61 : decode cX3_count 61 = .ok (.aload_n 0, 1) := dk_42 (dk_at dksX3_count_2 13 rfl rfl)
theorem dX3_count_62 : decode cX3_count 62 = .ok (.getfield 7, 3) := dk_180 0 7 (dk_at dksX3_count_2 14 rfl rfl)
theorem dX3_count_65 : decode cX3_count 65 = .ok (.bipush 7, 2) := dk_16 7 (dk_at dksX3_count_2 17 rfl rfl)
theorem dX3_count_67 : decode cX3_count 67 = .ok (.iaload, 1) := dk_46 (dk_at dksX3_count_2 19 rfl rfl)
theorem dX3_count_68 : decode cX3_count 68 = .ok (.ireturn, 1) := dk_172 (dk_at dksX3_count_2 20 rfl rfl)
theorem dX3_count_69 : decode cX3_count 69 = .ok (.aload_n 0, 1) := dk_42 (dk_at dksX3_count_2 21 rfl rfl)
theorem dX3_count_70 : decode cX3_count 70 = .ok (.invokevirtual 283, 3) := dk_182 1 27 (dk_at dksX3_count_3 0 rfl rfl)
theorem dX3_count_73 : decode cX3_count 73 = .ok (.ireturn, 1) := dk_172 (dk_at dksX3_count_3 3 rfl rfl)
theorem dX3_count_74 : decode cX3_count 74 = .ok (.aload_n 0, 1) := dk_42 (dk_at dksX3_count_3 4 rfl rfl)
theorem dX3_count_75 : decode cX3_count 75 = .ok (.getfield 7, 3) := dk_180 0 7 (dk_at dksX3_count_3 5 rfl rfl)
theorem dX3_count_78 : decode cX3_count 78 = .ok (.bipush 8, 2) := dk_16 8 (dk_at dksX3_count_3 8 rfl rfl)
theorem dX3_count_80 : decode cX3_count 80 = .ok (.iaload, 1) := dk_46 (dk_at dksX3_count_3 10 rfl rfl)
theorem dX3_count_81 : decode cX3_count 81 = .ok (.ireturn, 1) := dk_172 (dk_at dksX3_count_3 11 rfl rfl)
theorem dX3_count_82 : decode cX3_count 82 = .ok (.aload_n 0, 1) := dk_42 (dk_at dksX3_count_3 12 rfl rfl)
theorem dX3_count_83 : decode cX3_count 83 = .ok (.invokevirtual 234, 3) := dk_182 0 234 (dk_at dksX3_count_3 13 rfl rfl)
theorem dX3_count_86 : decode cX3_count 86 = .ok (.ireturn, 1) := dk_172 (dk_at dksX3_count_3 16 rfl rfl)
theorem dX3_count_87 : decode cX3_count 87 = .ok (.aload_n 0, 1) := dk_42 (dk_at dksX3_count_3 17 rfl rfl)
theorem dX3_count_88 : decode cX3_count 88 = .ok (.getfield 151, 3) := dk_180 0 151 (dk_at dksX3_count_3 18 rfl rfl)
theorem dX3_count_91 : decode cX3_count 91 = .ok (.ireturn, 1) := dk_172 (dk_at dksX3_count_3 21 rfl rfl)
theorem dX3_count_92 : decode cX3_count 92 = .ok (.aload_n 0, 1) := dk_42 (dk_at dksX3_count_3 22 rfl rfl)
theorem dX3_count_93 : decode cX3_count 93 = .ok (.getfield 91, 3) := dk_180 0 91 (dk_at dksX3_count_4 0 rfl rfl)
theorem dX3_count_96 : decode cX3_count 96 = .ok (.ireturn, 1) := dk_172 (dk_at dksX3_count_4 3 rfl rfl)
theorem dX3_count_97 : decode cX3_count 97 = .ok (.ldc 73, 2) := dk_18 73 (dk_at dksX3_count_4 4 rfl rfl)
theorem dX3_count_99 : decode cX3_count 99 = .ok (.ireturn, 1) := dk_172 (dk_at dksX3_count_4 6 rfl rfl)
abbrev cX3_rowsMany : ByteArray := prog_16_method_85_code
def yX3_rowsMany : MethodName := ⟨RX3, "rowsMany", "()I"⟩
def dkwX3_rowsMany_1 : List UInt8 := [4, 96, 60, 132, 2, 1, 167, 255, 230, 27, 172]
abbrev dktX3_rowsMany_1 : List UInt8 := dkwX3_rowsMany_1 ++ []
def dkwX3_rowsMany_0 : List UInt8 := [3, 60, 3, 61, 28, 16, 8, 162, 0, 26, 27, 42, 180, 0, 17, 28, 46, 156, 0, 7, 3, 167, 0, 4]
abbrev dktX3_rowsMany_0 : List UInt8 := dkwX3_rowsMany_0 ++ dktX3_rowsMany_1
theorem dksX3_rowsMany_0 : cX3_rowsMany.data.toList.drop 0 = dktX3_rowsMany_0 := by decide +kernel
theorem dksX3_rowsMany_1 : cX3_rowsMany.data.toList.drop 24 = dktX3_rowsMany_1 := dk_seg dksX3_rowsMany_0 24 rfl rfl
theorem dX3_rowsMany_0 : decode cX3_rowsMany 0 = .ok (.iconst 0, 1) := dk_3 (dk_at dksX3_rowsMany_0 0 rfl rfl)
theorem dX3_rowsMany_1 : decode cX3_rowsMany 1 = .ok (.istore_n 1, 1) := dk_60 (dk_at dksX3_rowsMany_0 1 rfl rfl)
theorem dX3_rowsMany_2 : decode cX3_rowsMany 2 = .ok (.iconst 0, 1) := dk_3 (dk_at dksX3_rowsMany_0 2 rfl rfl)
theorem dX3_rowsMany_3 : decode cX3_rowsMany 3 = .ok (.istore_n 2, 1) := dk_61 (dk_at dksX3_rowsMany_0 3 rfl rfl)
theorem dX3_rowsMany_4 : decode cX3_rowsMany 4 = .ok (.iload_n 2, 1) := dk_28 (dk_at dksX3_rowsMany_0 4 rfl rfl)
theorem dX3_rowsMany_5 : decode cX3_rowsMany 5 = .ok (.bipush 8, 2) := dk_16 8 (dk_at dksX3_rowsMany_0 5 rfl rfl)
theorem dX3_rowsMany_7 : decode cX3_rowsMany 7 = .ok (.if_icmp .ge 26, 3) := dk_162 0 26 (dk_at dksX3_rowsMany_0 7 rfl rfl)
theorem dX3_rowsMany_10 : decode cX3_rowsMany 10 = .ok (.iload_n 1, 1) := dk_27 (dk_at dksX3_rowsMany_0 10 rfl rfl)
theorem dX3_rowsMany_11 : decode cX3_rowsMany 11 = .ok (.aload_n 0, 1) := dk_42 (dk_at dksX3_rowsMany_0 11 rfl rfl)
theorem dX3_rowsMany_12 : decode cX3_rowsMany 12 = .ok (.getfield 17, 3) := dk_180 0 17 (dk_at dksX3_rowsMany_0 12 rfl rfl)
theorem dX3_rowsMany_15 : decode cX3_rowsMany 15 = .ok (.iload_n 2, 1) := dk_28 (dk_at dksX3_rowsMany_0 15 rfl rfl)
theorem dX3_rowsMany_16 : decode cX3_rowsMany 16 = .ok (.iaload, 1) := dk_46 (dk_at dksX3_rowsMany_0 16 rfl rfl)
theorem dX3_rowsMany_17 : decode cX3_rowsMany 17 = .ok (.ifCond .ge 7, 3) := dk_156 0 7 (dk_at dksX3_rowsMany_0 17 rfl rfl)
theorem dX3_rowsMany_20 : decode cX3_rowsMany 20 = .ok (.iconst 0, 1) := dk_3 (dk_at dksX3_rowsMany_0 20 rfl rfl)
theorem dX3_rowsMany_21 : decode cX3_rowsMany 21 = .ok (.goto 4, 3) := dk_167 0 4 (dk_at dksX3_rowsMany_0 21 rfl rfl)
theorem dX3_rowsMany_24 : decode cX3_rowsMany 24 = .ok (.iconst 1, 1) := dk_4 (dk_at dksX3_rowsMany_1 0 rfl rfl)
theorem dX3_rowsMany_25 : decode cX3_rowsMany 25 = .ok (.iadd, 1) := dk_96 (dk_at dksX3_rowsMany_1 1 rfl rfl)
theorem dX3_rowsMany_26 : decode cX3_rowsMany 26 = .ok (.istore_n 1, 1) := dk_60 (dk_at dksX3_rowsMany_1 2 rfl rfl)
theorem dX3_rowsMany_27 : decode cX3_rowsMany 27 = .ok (.iinc 2 1, 3) := dk_132 2 1 (dk_at dksX3_rowsMany_1 3 rfl rfl)
theorem dX3_rowsMany_30 : decode cX3_rowsMany 30 = .ok (.goto (-26), 3) := dk_167 255 230 (dk_at dksX3_rowsMany_1 6 rfl rfl)
theorem dX3_rowsMany_33 : decode cX3_rowsMany 33 = .ok (.iload_n 1, 1) := dk_27 (dk_at dksX3_rowsMany_1 9 rfl rfl)
theorem dX3_rowsMany_34 : decode cX3_rowsMany 34 = .ok (.ireturn, 1) := dk_172 (dk_at dksX3_rowsMany_1 10 rfl rfl)
abbrev cX3_keptMany : ByteArray := prog_16_method_86_code
def yX3_keptMany : MethodName := ⟨RX3, "keptMany", "()I"⟩
def dkwX3_keptMany_1 : List UInt8 := [46, 96, 60, 132, 2, 1, 167, 255, 230, 27, 172]
abbrev dktX3_keptMany_1 : List UInt8 := dkwX3_keptMany_1 ++ []
def dkwX3_keptMany_0 : List UInt8 := [3, 60, 3, 61, 28, 42, 180, 0, 7, 16, 7, 46, 162, 0, 21, 27, 42, 180, 0, 7, 16, 65, 28, 96]
abbrev dktX3_keptMany_0 : List UInt8 := dkwX3_keptMany_0 ++ dktX3_keptMany_1
theorem dksX3_keptMany_0 : cX3_keptMany.data.toList.drop 0 = dktX3_keptMany_0 := by decide +kernel
theorem dksX3_keptMany_1 : cX3_keptMany.data.toList.drop 24 = dktX3_keptMany_1 := dk_seg dksX3_keptMany_0 24 rfl rfl
theorem dX3_keptMany_0 : decode cX3_keptMany 0 = .ok (.iconst 0, 1) := dk_3 (dk_at dksX3_keptMany_0 0 rfl rfl)
theorem dX3_keptMany_1 : decode cX3_keptMany 1 = .ok (.istore_n 1, 1) := dk_60 (dk_at dksX3_keptMany_0 1 rfl rfl)
theorem dX3_keptMany_2 : decode cX3_keptMany 2 = .ok (.iconst 0, 1) := dk_3 (dk_at dksX3_keptMany_0 2 rfl rfl)
theorem dX3_keptMany_3 : decode cX3_keptMany 3 = .ok (.istore_n 2, 1) := dk_61 (dk_at dksX3_keptMany_0 3 rfl rfl)
theorem dX3_keptMany_4 : decode cX3_keptMany 4 = .ok (.iload_n 2, 1) := dk_28 (dk_at dksX3_keptMany_0 4 rfl rfl)
theorem dX3_keptMany_5 : decode cX3_keptMany 5 = .ok (.aload_n 0, 1) := dk_42 (dk_at dksX3_keptMany_0 5 rfl rfl)
theorem dX3_keptMany_6 : decode cX3_keptMany 6 = .ok (.getfield 7, 3) := dk_180 0 7 (dk_at dksX3_keptMany_0 6 rfl rfl)
theorem dX3_keptMany_9 : decode cX3_keptMany 9 = .ok (.bipush 7, 2) := dk_16 7 (dk_at dksX3_keptMany_0 9 rfl rfl)
theorem dX3_keptMany_11 : decode cX3_keptMany 11 = .ok (.iaload, 1) := dk_46 (dk_at dksX3_keptMany_0 11 rfl rfl)
theorem dX3_keptMany_12 : decode cX3_keptMany 12 = .ok (.if_icmp .ge 21, 3) := dk_162 0 21 (dk_at dksX3_keptMany_0 12 rfl rfl)
theorem dX3_keptMany_15 : decode cX3_keptMany 15 = .ok (.iload_n 1, 1) := dk_27 (dk_at dksX3_keptMany_0 15 rfl rfl)
theorem dX3_keptMany_16 : decode cX3_keptMany 16 = .ok (.aload_n 0, 1) := dk_42 (dk_at dksX3_keptMany_0 16 rfl rfl)
theorem dX3_keptMany_17 : decode cX3_keptMany 17 = .ok (.getfield 7, 3) := dk_180 0 7 (dk_at dksX3_keptMany_0 17 rfl rfl)
theorem dX3_keptMany_20 : decode cX3_keptMany 20 = .ok (.bipush 65, 2) := dk_16 65 (dk_at dksX3_keptMany_0 20 rfl rfl)
theorem dX3_keptMany_22 : decode cX3_keptMany 22 = .ok (.iload_n 2, 1) := dk_28 (dk_at dksX3_keptMany_0 22 rfl rfl)
theorem dX3_keptMany_23 : decode cX3_keptMany 23 = .ok (.iadd, 1) := dk_96 (dk_at dksX3_keptMany_0 23 rfl rfl)
theorem dX3_keptMany_24 : decode cX3_keptMany 24 = .ok (.iaload, 1) := dk_46 (dk_at dksX3_keptMany_1 0 rfl rfl)
theorem dX3_keptMany_25 : decode cX3_keptMany 25 = .ok (.iadd, 1) := dk_96 (dk_at dksX3_keptMany_1 1 rfl rfl)
theorem dX3_keptMany_26 : decode cX3_keptMany 26 = .ok (.istore_n 1, 1) := dk_60 (dk_at dksX3_keptMany_1 2 rfl rfl)
theorem dX3_keptMany_27 : decode cX3_keptMany 27 = .ok (.iinc 2 1, 3) := dk_132 2 1 (dk_at dksX3_keptMany_1 3 rfl rfl)
theorem dX3_keptMany_30 : decode cX3_keptMany 30 = .ok (.goto (-26), 3) := dk_167 255 230 (dk_at dksX3_keptMany_1 6 rfl rfl)
theorem dX3_keptMany_33 : decode cX3_keptMany 33 = .ok (.iload_n 1, 1) := dk_27 (dk_at dksX3_keptMany_1 9 rfl rfl)
theorem dX3_keptMany_34 : decode cX3_keptMany 34 = .ok (.ireturn, 1) := dk_172 (dk_at dksX3_keptMany_1 10 rfl rfl)
abbrev cX3_status : ByteArray := prog_16_method_88_code
def yX3_status : MethodName := ⟨RX3, "status", "()I"⟩
theorem dX3_status_0 : decode cX3_status 0 = .ok (.aload_n 0, 1) := by decide +kernel
theorem dX3_status_1 : decode cX3_status 1 = .ok (.getfield 56, 3) := by decide +kernel
theorem dX3_status_4 : decode cX3_status 4 = .ok (.ireturn, 1) := by decide +kernel
theorem q82 : (Jvm.Cond.initialized "PromisePoundsModel") ∈ lw_all := lw_g (lw_at lw_m1 7 rfl) rfl
theorem q716 : (Jvm.Cond.selects "PromisePoundsModel" ({ cls := "java/lang/Object", name := "getClass", desc := "()Ljava/lang/Class;" } : Jvm.MethodName) ({ cls := "java/lang/Object", name := "getClass", desc := "()Ljava/lang/Class;" } : Jvm.MethodName)) ∈ lw_all := lw_g (lw_at lw_m3 161 rfl) rfl
theorem q1207 : (Jvm.Cond.instantiable "PromisePoundsModel" (24 : Nat)) ∈ lw_all := lw_g (lw_at lw_m5 172 rfl) rfl
theorem q1209 : (Jvm.Cond.instanceMethod ({ cls := "PromisePoundsModel", name := "<init>", desc := "()V" } : Jvm.MethodName)) ∈ lw_all := lw_g (lw_at lw_m5 174 rfl) rfl
theorem q1210 : (Jvm.Cond.code ({ cls := "PromisePoundsModel", name := "<init>", desc := "()V" } : Jvm.MethodName) prog_16_method_1_code (2 : Nat) (Option.none : Option Jvm.ClassFile.FieldType)) ∈ lw_all := lw_g (lw_at lw_m5 175 rfl) rfl
theorem q1211 : (Jvm.Cond.methodLink "PromisePoundsModel" (1 : Nat) ({ cls := "java/lang/Object", name := "<init>", desc := "()V" } : Jvm.MethodName)) ∈ lw_all := lw_g (lw_at lw_m5 176 rfl) rfl
theorem q1212 : (Jvm.Cond.fieldLink "PromisePoundsModel" (7 : Nat) "PromisePoundsModel" "w" "[I") ∈ lw_all := lw_g (lw_at lw_m5 177 rfl) rfl
theorem q1213 : (Jvm.Cond.fieldLink "PromisePoundsModel" (151 : Nat) "PromisePoundsModel" "acts" "I") ∈ lw_all := lw_g (lw_at lw_m5 178 rfl) rfl
theorem q1214 : (Jvm.Cond.fieldLink "PromisePoundsModel" (13 : Nat) "PromisePoundsModel" "isKept" "[Z") ∈ lw_all := lw_g (lw_at lw_m5 179 rfl) rfl
theorem q1215 : (Jvm.Cond.fieldLink "PromisePoundsModel" (17 : Nat) "PromisePoundsModel" "lanes" "[I") ∈ lw_all := lw_g (lw_at lw_m5 180 rfl) rfl
theorem q1216 : (Jvm.Cond.fieldLink "PromisePoundsModel" (20 : Nat) "PromisePoundsModel" "sizes" "[I") ∈ lw_all := lw_g (lw_at lw_m5 181 rfl) rfl
theorem q1217 : (Jvm.Cond.fieldLink "PromisePoundsModel" (23 : Nat) "PromisePoundsModel" "items" "[I") ∈ lw_all := lw_g (lw_at lw_m5 182 rfl) rfl
theorem q1218 : (Jvm.Cond.fieldLink "PromisePoundsModel" (26 : Nat) "PromisePoundsModel" "held" "[I") ∈ lw_all := lw_g (lw_at lw_m5 183 rfl) rfl
theorem q1219 : (Jvm.Cond.fieldLink "PromisePoundsModel" (56 : Nat) "PromisePoundsModel" "status" "I") ∈ lw_all := lw_g (lw_at lw_m5 184 rfl) rfl
theorem q1220 : (Jvm.Cond.fieldLink "PromisePoundsModel" (29 : Nat) "PromisePoundsModel" "tape" "[I") ∈ lw_all := lw_g (lw_at lw_m5 185 rfl) rfl
theorem q1221 : (Jvm.Cond.fieldLink "PromisePoundsModel" (91 : Nat) "PromisePoundsModel" "taped" "I") ∈ lw_all := lw_g (lw_at lw_m5 186 rfl) rfl
theorem q1222 : (Jvm.Cond.fieldLink "PromisePoundsModel" (147 : Nat) "PromisePoundsModel" "latest" "I") ∈ lw_all := lw_g (lw_at lw_m5 187 rfl) rfl
theorem q1223 : (Jvm.Cond.fieldLink "PromisePoundsModel" (102 : Nat) "PromisePoundsModel" "at" "I") ∈ lw_all := lw_g (lw_at lw_m5 188 rfl) rfl
theorem q1224 : (Jvm.Cond.fieldLink "PromisePoundsModel" (105 : Nat) "PromisePoundsModel" "start" "I") ∈ lw_all := lw_g (lw_at lw_m5 189 rfl) rfl
theorem q1225 : (Jvm.Cond.fieldLink "PromisePoundsModel" (108 : Nat) "PromisePoundsModel" "fault" "I") ∈ lw_all := lw_g (lw_at lw_m5 190 rfl) rfl
theorem q1226 : (Jvm.Cond.fieldLink "PromisePoundsModel" (111 : Nat) "PromisePoundsModel" "value" "I") ∈ lw_all := lw_g (lw_at lw_m5 191 rfl) rfl
theorem q1227 : (Jvm.Cond.fieldLink "PromisePoundsModel" (32 : Nat) "PromisePoundsModel" "order" "[I") ∈ lw_all := lw_g (lw_at lw_m5 192 rfl) rfl
theorem q1228 : (Jvm.Cond.fieldLink "PromisePoundsModel" (35 : Nat) "PromisePoundsModel" "bestOrder" "[I") ∈ lw_all := lw_g (lw_at lw_m5 193 rfl) rfl
theorem q1229 : (Jvm.Cond.fieldLink "PromisePoundsModel" (38 : Nat) "PromisePoundsModel" "day" "[I") ∈ lw_all := lw_g (lw_at lw_m5 194 rfl) rfl
theorem q1230 : (Jvm.Cond.fieldLink "PromisePoundsModel" (41 : Nat) "PromisePoundsModel" "spot" "[I") ∈ lw_all := lw_g (lw_at lw_m5 195 rfl) rfl
theorem q1231 : (Jvm.Cond.fieldLink "PromisePoundsModel" (44 : Nat) "PromisePoundsModel" "timely" "[I") ∈ lw_all := lw_g (lw_at lw_m5 196 rfl) rfl
theorem q1232 : (Jvm.Cond.fieldLink "PromisePoundsModel" (47 : Nat) "PromisePoundsModel" "crossings" "[I") ∈ lw_all := lw_g (lw_at lw_m5 197 rfl) rfl
theorem q1233 : (Jvm.Cond.fieldLink "PromisePoundsModel" (50 : Nat) "PromisePoundsModel" "was" "[I") ∈ lw_all := lw_g (lw_at lw_m5 198 rfl) rfl
theorem q1234 : (Jvm.Cond.fieldLink "PromisePoundsModel" (53 : Nat) "PromisePoundsModel" "trace" "[I") ∈ lw_all := lw_g (lw_at lw_m5 199 rfl) rfl
theorem q1235 : (Jvm.Cond.fieldLink "PromisePoundsModel" (246 : Nat) "PromisePoundsModel" "traced" "I") ∈ lw_all := lw_g (lw_at lw_m5 200 rfl) rfl
theorem q1236 : (Jvm.Cond.laysFinal "PromisePoundsModel" "PromisePoundsModel" "w" "[I") ∈ lw_all := lw_g (lw_at lw_m5 201 rfl) rfl
theorem q1237 : (Jvm.Cond.soleField "PromisePoundsModel" "w") ∈ lw_all := lw_g (lw_at lw_m5 202 rfl) rfl
theorem q1238 : (Jvm.Cond.lays "PromisePoundsModel" "PromisePoundsModel" "acts" "I") ∈ lw_all := lw_g (lw_at lw_m5 203 rfl) rfl
theorem q1239 : (Jvm.Cond.soleField "PromisePoundsModel" "acts") ∈ lw_all := lw_g (lw_at lw_m5 204 rfl) rfl
theorem q1240 : (Jvm.Cond.laysFinal "PromisePoundsModel" "PromisePoundsModel" "isKept" "[Z") ∈ lw_all := lw_g (lw_at lw_m5 205 rfl) rfl
theorem q1241 : (Jvm.Cond.soleField "PromisePoundsModel" "isKept") ∈ lw_all := lw_g (lw_at lw_m5 206 rfl) rfl
theorem q1242 : (Jvm.Cond.laysFinal "PromisePoundsModel" "PromisePoundsModel" "lanes" "[I") ∈ lw_all := lw_g (lw_at lw_m5 207 rfl) rfl
theorem q1243 : (Jvm.Cond.soleField "PromisePoundsModel" "lanes") ∈ lw_all := lw_g (lw_at lw_m5 208 rfl) rfl
theorem q1244 : (Jvm.Cond.laysFinal "PromisePoundsModel" "PromisePoundsModel" "sizes" "[I") ∈ lw_all := lw_g (lw_at lw_m5 209 rfl) rfl
theorem q1245 : (Jvm.Cond.soleField "PromisePoundsModel" "sizes") ∈ lw_all := lw_g (lw_at lw_m5 210 rfl) rfl
theorem q1246 : (Jvm.Cond.laysFinal "PromisePoundsModel" "PromisePoundsModel" "items" "[I") ∈ lw_all := lw_g (lw_at lw_m5 211 rfl) rfl
theorem q1247 : (Jvm.Cond.soleField "PromisePoundsModel" "items") ∈ lw_all := lw_g (lw_at lw_m5 212 rfl) rfl
theorem q1248 : (Jvm.Cond.laysFinal "PromisePoundsModel" "PromisePoundsModel" "held" "[I") ∈ lw_all := lw_g (lw_at lw_m5 213 rfl) rfl
theorem q1249 : (Jvm.Cond.soleField "PromisePoundsModel" "held") ∈ lw_all := lw_g (lw_at lw_m5 214 rfl) rfl
theorem q1250 : (Jvm.Cond.lays "PromisePoundsModel" "PromisePoundsModel" "status" "I") ∈ lw_all := lw_g (lw_at lw_m5 215 rfl) rfl
theorem q1251 : (Jvm.Cond.soleField "PromisePoundsModel" "status") ∈ lw_all := lw_g (lw_at lw_m5 216 rfl) rfl
theorem q1252 : (Jvm.Cond.laysFinal "PromisePoundsModel" "PromisePoundsModel" "tape" "[I") ∈ lw_all := lw_g (lw_at lw_m5 217 rfl) rfl
theorem q1253 : (Jvm.Cond.soleField "PromisePoundsModel" "tape") ∈ lw_all := lw_g (lw_at lw_m5 218 rfl) rfl
theorem q1254 : (Jvm.Cond.lays "PromisePoundsModel" "PromisePoundsModel" "taped" "I") ∈ lw_all := lw_g (lw_at lw_m5 219 rfl) rfl
theorem q1255 : (Jvm.Cond.soleField "PromisePoundsModel" "taped") ∈ lw_all := lw_g (lw_at lw_m5 220 rfl) rfl
theorem q1256 : (Jvm.Cond.lays "PromisePoundsModel" "PromisePoundsModel" "latest" "I") ∈ lw_all := lw_g (lw_at lw_m5 221 rfl) rfl
theorem q1257 : (Jvm.Cond.soleField "PromisePoundsModel" "latest") ∈ lw_all := lw_g (lw_at lw_m5 222 rfl) rfl
theorem q1258 : (Jvm.Cond.lays "PromisePoundsModel" "PromisePoundsModel" "at" "I") ∈ lw_all := lw_g (lw_at lw_m5 223 rfl) rfl
theorem q1259 : (Jvm.Cond.soleField "PromisePoundsModel" "at") ∈ lw_all := lw_g (lw_at lw_m5 224 rfl) rfl
theorem q1260 : (Jvm.Cond.lays "PromisePoundsModel" "PromisePoundsModel" "start" "I") ∈ lw_all := lw_g (lw_at lw_m5 225 rfl) rfl
theorem q1261 : (Jvm.Cond.soleField "PromisePoundsModel" "start") ∈ lw_all := lw_g (lw_at lw_m5 226 rfl) rfl
theorem q1262 : (Jvm.Cond.lays "PromisePoundsModel" "PromisePoundsModel" "fault" "I") ∈ lw_all := lw_g (lw_at lw_m5 227 rfl) rfl
theorem q1263 : (Jvm.Cond.soleField "PromisePoundsModel" "fault") ∈ lw_all := lw_g (lw_at lw_m5 228 rfl) rfl
theorem q1264 : (Jvm.Cond.lays "PromisePoundsModel" "PromisePoundsModel" "value" "I") ∈ lw_all := lw_g (lw_at lw_m5 229 rfl) rfl
theorem q1265 : (Jvm.Cond.soleField "PromisePoundsModel" "value") ∈ lw_all := lw_g (lw_at lw_m5 230 rfl) rfl
theorem q1266 : (Jvm.Cond.laysFinal "PromisePoundsModel" "PromisePoundsModel" "order" "[I") ∈ lw_all := lw_g (lw_at lw_m5 231 rfl) rfl
theorem q1267 : (Jvm.Cond.soleField "PromisePoundsModel" "order") ∈ lw_all := lw_g (lw_at lw_m5 232 rfl) rfl
theorem q1268 : (Jvm.Cond.laysFinal "PromisePoundsModel" "PromisePoundsModel" "bestOrder" "[I") ∈ lw_all := lw_g (lw_at lw_m5 233 rfl) rfl
theorem q1269 : (Jvm.Cond.soleField "PromisePoundsModel" "bestOrder") ∈ lw_all := lw_g (lw_at lw_m5 234 rfl) rfl
theorem q1270 : (Jvm.Cond.laysFinal "PromisePoundsModel" "PromisePoundsModel" "day" "[I") ∈ lw_all := lw_g (lw_at lw_m5 235 rfl) rfl
theorem q1271 : (Jvm.Cond.soleField "PromisePoundsModel" "day") ∈ lw_all := lw_g (lw_at lw_m5 236 rfl) rfl
theorem q1272 : (Jvm.Cond.laysFinal "PromisePoundsModel" "PromisePoundsModel" "spot" "[I") ∈ lw_all := lw_g (lw_at lw_m5 237 rfl) rfl
theorem q1273 : (Jvm.Cond.soleField "PromisePoundsModel" "spot") ∈ lw_all := lw_g (lw_at lw_m5 238 rfl) rfl
theorem q1274 : (Jvm.Cond.laysFinal "PromisePoundsModel" "PromisePoundsModel" "timely" "[I") ∈ lw_all := lw_g (lw_at lw_m5 239 rfl) rfl
theorem q1275 : (Jvm.Cond.soleField "PromisePoundsModel" "timely") ∈ lw_all := lw_g (lw_at lw_m6 0 rfl) rfl
theorem q1276 : (Jvm.Cond.laysFinal "PromisePoundsModel" "PromisePoundsModel" "crossings" "[I") ∈ lw_all := lw_g (lw_at lw_m6 1 rfl) rfl
theorem q1277 : (Jvm.Cond.soleField "PromisePoundsModel" "crossings") ∈ lw_all := lw_g (lw_at lw_m6 2 rfl) rfl
theorem q1278 : (Jvm.Cond.laysFinal "PromisePoundsModel" "PromisePoundsModel" "was" "[I") ∈ lw_all := lw_g (lw_at lw_m6 3 rfl) rfl
theorem q1279 : (Jvm.Cond.soleField "PromisePoundsModel" "was") ∈ lw_all := lw_g (lw_at lw_m6 4 rfl) rfl
theorem q1280 : (Jvm.Cond.laysFinal "PromisePoundsModel" "PromisePoundsModel" "trace" "[I") ∈ lw_all := lw_g (lw_at lw_m6 5 rfl) rfl
theorem q1281 : (Jvm.Cond.soleField "PromisePoundsModel" "trace") ∈ lw_all := lw_g (lw_at lw_m6 6 rfl) rfl
theorem q1282 : (Jvm.Cond.lays "PromisePoundsModel" "PromisePoundsModel" "traced" "I") ∈ lw_all := lw_g (lw_at lw_m6 7 rfl) rfl
theorem q1283 : (Jvm.Cond.soleField "PromisePoundsModel" "traced") ∈ lw_all := lw_g (lw_at lw_m6 8 rfl) rfl
theorem q1284 : (Jvm.Cond.superclass "PromisePoundsModel" "java/lang/Object") ∈ lw_all := lw_g (lw_at lw_m6 9 rfl) rfl
theorem q1287 : (Jvm.Cond.instanceMethod ({ cls := "PromisePoundsModel", name := "row", desc := "(III)I" } : Jvm.MethodName)) ∈ lw_all := lw_g (lw_at lw_m6 12 rfl) rfl
theorem q1288 : (Jvm.Cond.selects "PromisePoundsModel" ({ cls := "PromisePoundsModel", name := "row", desc := "(III)I" } : Jvm.MethodName) ({ cls := "PromisePoundsModel", name := "row", desc := "(III)I" } : Jvm.MethodName)) ∈ lw_all := lw_g (lw_at lw_m6 13 rfl) rfl
theorem q1289 : (Jvm.Cond.code ({ cls := "PromisePoundsModel", name := "row", desc := "(III)I" } : Jvm.MethodName) prog_16_method_10_code (5 : Nat) (Option.some Jvm.ClassFile.FieldType.int)) ∈ lw_all := lw_g (lw_at lw_m6 14 rfl) rfl
theorem q1290 : (Jvm.Cond.methodLink "PromisePoundsModel" (67 : Nat) ({ cls := "PromisePoundsModel", name := "isRow", desc := "(I)Z" } : Jvm.MethodName)) ∈ lw_all := lw_g (lw_at lw_m6 15 rfl) rfl
theorem q1291 : (Jvm.Cond.static ({ cls := "PromisePoundsModel", name := "isRow", desc := "(I)Z" } : Jvm.MethodName)) ∈ lw_all := lw_g (lw_at lw_m6 16 rfl) rfl
theorem q1292 : (Jvm.Cond.code ({ cls := "PromisePoundsModel", name := "isRow", desc := "(I)Z" } : Jvm.MethodName) prog_16_method_9_code (1 : Nat) (Option.some Jvm.ClassFile.FieldType.boolean)) ∈ lw_all := lw_g (lw_at lw_m6 17 rfl) rfl
theorem q1293 : (Jvm.Cond.constantLong "PromisePoundsModel" (61 : Nat) (7 : Int64)) ∈ lw_all := lw_g (lw_at lw_m6 18 rfl) rfl
theorem q1294 : (Jvm.Cond.methodLink "PromisePoundsModel" (63 : Nat) ({ cls := "PromisePoundsModel", name := "in", desc := "(JJJ)Z" } : Jvm.MethodName)) ∈ lw_all := lw_g (lw_at lw_m6 19 rfl) rfl
theorem q1295 : (Jvm.Cond.static ({ cls := "PromisePoundsModel", name := "in", desc := "(JJJ)Z" } : Jvm.MethodName)) ∈ lw_all := lw_g (lw_at lw_m6 20 rfl) rfl
theorem q1296 : (Jvm.Cond.code ({ cls := "PromisePoundsModel", name := "in", desc := "(JJJ)Z" } : Jvm.MethodName) prog_16_method_3_code (6 : Nat) (Option.some Jvm.ClassFile.FieldType.boolean)) ∈ lw_all := lw_g (lw_at lw_m6 21 rfl) rfl
theorem q1297 : (Jvm.Cond.constantLong "PromisePoundsModel" (71 : Nat) (2 : Int64)) ∈ lw_all := lw_g (lw_at lw_m6 22 rfl) rfl
theorem q1298 : (Jvm.Cond.constant "PromisePoundsModel" (73 : Nat) (-1000001 : Int32)) ∈ lw_all := lw_g (lw_at lw_m6 23 rfl) rfl
theorem q1299 : (Jvm.Cond.methodLink "PromisePoundsModel" (74 : Nat) ({ cls := "PromisePoundsModel", name := "found", desc := "(I)I" } : Jvm.MethodName)) ∈ lw_all := lw_g (lw_at lw_m6 24 rfl) rfl
theorem q1300 : (Jvm.Cond.privateMethod ({ cls := "PromisePoundsModel", name := "found", desc := "(I)I" } : Jvm.MethodName)) ∈ lw_tbl := lw_at lw_m6 25 rfl
theorem q1301 : (Jvm.Cond.instanceMethod ({ cls := "PromisePoundsModel", name := "found", desc := "(I)I" } : Jvm.MethodName)) ∈ lw_all := lw_g (lw_at lw_m6 26 rfl) rfl
theorem q1302 : (Jvm.Cond.code ({ cls := "PromisePoundsModel", name := "found", desc := "(I)I" } : Jvm.MethodName) prog_16_method_7_code (2 : Nat) (Option.some Jvm.ClassFile.FieldType.int)) ∈ lw_all := lw_g (lw_at lw_m6 27 rfl) rfl
theorem q1303 : (Jvm.Cond.constant "PromisePoundsModel" (60 : Nat) (-1000010 : Int32)) ∈ lw_all := lw_g (lw_at lw_m6 28 rfl) rfl
theorem q1304 : (Jvm.Cond.methodLink "PromisePoundsModel" (78 : Nat) ({ cls := "PromisePoundsModel", name := "well", desc := "(I)I" } : Jvm.MethodName)) ∈ lw_all := lw_g (lw_at lw_m6 29 rfl) rfl
theorem q1305 : (Jvm.Cond.privateMethod ({ cls := "PromisePoundsModel", name := "well", desc := "(I)I" } : Jvm.MethodName)) ∈ lw_tbl := lw_at lw_m6 30 rfl
theorem q1306 : (Jvm.Cond.instanceMethod ({ cls := "PromisePoundsModel", name := "well", desc := "(I)I" } : Jvm.MethodName)) ∈ lw_all := lw_g (lw_at lw_m6 31 rfl) rfl
theorem q1307 : (Jvm.Cond.code ({ cls := "PromisePoundsModel", name := "well", desc := "(I)I" } : Jvm.MethodName) prog_16_method_8_code (2 : Nat) (Option.some Jvm.ClassFile.FieldType.int)) ∈ lw_all := lw_g (lw_at lw_m6 32 rfl) rfl
theorem q1309 : (Jvm.Cond.instanceMethod ({ cls := "PromisePoundsModel", name := "set", desc := "(III)I" } : Jvm.MethodName)) ∈ lw_all := lw_g (lw_at lw_m6 34 rfl) rfl
theorem q1310 : (Jvm.Cond.selects "PromisePoundsModel" ({ cls := "PromisePoundsModel", name := "set", desc := "(III)I" } : Jvm.MethodName) ({ cls := "PromisePoundsModel", name := "set", desc := "(III)I" } : Jvm.MethodName)) ∈ lw_all := lw_g (lw_at lw_m6 35 rfl) rfl
theorem q1311 : (Jvm.Cond.code ({ cls := "PromisePoundsModel", name := "set", desc := "(III)I" } : Jvm.MethodName) prog_16_method_13_code (5 : Nat) (Option.some Jvm.ClassFile.FieldType.int)) ∈ lw_all := lw_g (lw_at lw_m6 36 rfl) rfl
theorem q1312 : (Jvm.Cond.methodLink "PromisePoundsModel" (81 : Nat) ({ cls := "PromisePoundsModel", name := "against", desc := "(III)I" } : Jvm.MethodName)) ∈ lw_all := lw_g (lw_at lw_m6 37 rfl) rfl
theorem q1313 : (Jvm.Cond.privateMethod ({ cls := "PromisePoundsModel", name := "against", desc := "(III)I" } : Jvm.MethodName)) ∈ lw_tbl := lw_at lw_m6 38 rfl
theorem q1314 : (Jvm.Cond.instanceMethod ({ cls := "PromisePoundsModel", name := "against", desc := "(III)I" } : Jvm.MethodName)) ∈ lw_all := lw_g (lw_at lw_m6 39 rfl) rfl
theorem q1315 : (Jvm.Cond.code ({ cls := "PromisePoundsModel", name := "against", desc := "(III)I" } : Jvm.MethodName) prog_16_method_12_code (4 : Nat) (Option.some Jvm.ClassFile.FieldType.int)) ∈ lw_all := lw_g (lw_at lw_m6 40 rfl) rfl
theorem q1316 : (Jvm.Cond.methodLink "PromisePoundsModel" (85 : Nat) ({ cls := "PromisePoundsModel", name := "cutTo", desc := "(II)I" } : Jvm.MethodName)) ∈ lw_all := lw_g (lw_at lw_m6 41 rfl) rfl
theorem q1317 : (Jvm.Cond.static ({ cls := "PromisePoundsModel", name := "cutTo", desc := "(II)I" } : Jvm.MethodName)) ∈ lw_all := lw_g (lw_at lw_m6 42 rfl) rfl
theorem q1318 : (Jvm.Cond.code ({ cls := "PromisePoundsModel", name := "cutTo", desc := "(II)I" } : Jvm.MethodName) prog_16_method_11_code (2 : Nat) (Option.some Jvm.ClassFile.FieldType.int)) ∈ lw_all := lw_g (lw_at lw_m6 43 rfl) rfl
theorem q1320 : (Jvm.Cond.instanceMethod ({ cls := "PromisePoundsModel", name := "copy", desc := "(IIIII)I" } : Jvm.MethodName)) ∈ lw_all := lw_g (lw_at lw_m6 45 rfl) rfl
theorem q1321 : (Jvm.Cond.selects "PromisePoundsModel" ({ cls := "PromisePoundsModel", name := "copy", desc := "(IIIII)I" } : Jvm.MethodName) ({ cls := "PromisePoundsModel", name := "copy", desc := "(IIIII)I" } : Jvm.MethodName)) ∈ lw_all := lw_g (lw_at lw_m6 46 rfl) rfl
theorem q1322 : (Jvm.Cond.code ({ cls := "PromisePoundsModel", name := "copy", desc := "(IIIII)I" } : Jvm.MethodName) prog_16_method_14_code (7 : Nat) (Option.some Jvm.ClassFile.FieldType.int)) ∈ lw_all := lw_g (lw_at lw_m6 47 rfl) rfl
theorem q1324 : (Jvm.Cond.instanceMethod ({ cls := "PromisePoundsModel", name := "drop", desc := "(I)I" } : Jvm.MethodName)) ∈ lw_all := lw_g (lw_at lw_m6 49 rfl) rfl
theorem q1325 : (Jvm.Cond.selects "PromisePoundsModel" ({ cls := "PromisePoundsModel", name := "drop", desc := "(I)I" } : Jvm.MethodName) ({ cls := "PromisePoundsModel", name := "drop", desc := "(I)I" } : Jvm.MethodName)) ∈ lw_all := lw_g (lw_at lw_m6 50 rfl) rfl
theorem q1326 : (Jvm.Cond.code ({ cls := "PromisePoundsModel", name := "drop", desc := "(I)I" } : Jvm.MethodName) prog_16_method_15_code (2 : Nat) (Option.some Jvm.ClassFile.FieldType.int)) ∈ lw_all := lw_g (lw_at lw_m6 51 rfl) rfl
theorem q1328 : (Jvm.Cond.instanceMethod ({ cls := "PromisePoundsModel", name := "feed", desc := "(I)I" } : Jvm.MethodName)) ∈ lw_all := lw_g (lw_at lw_m6 53 rfl) rfl
theorem q1329 : (Jvm.Cond.selects "PromisePoundsModel" ({ cls := "PromisePoundsModel", name := "feed", desc := "(I)I" } : Jvm.MethodName) ({ cls := "PromisePoundsModel", name := "feed", desc := "(I)I" } : Jvm.MethodName)) ∈ lw_all := lw_g (lw_at lw_m6 54 rfl) rfl
theorem q1330 : (Jvm.Cond.code ({ cls := "PromisePoundsModel", name := "feed", desc := "(I)I" } : Jvm.MethodName) prog_16_method_16_code (2 : Nat) (Option.some Jvm.ClassFile.FieldType.int)) ∈ lw_all := lw_g (lw_at lw_m6 55 rfl) rfl
theorem q1331 : (Jvm.Cond.constantLong "PromisePoundsModel" (89 : Nat) (255 : Int64)) ∈ lw_all := lw_g (lw_at lw_m6 56 rfl) rfl
theorem q1332 : (Jvm.Cond.constant "PromisePoundsModel" (94 : Nat) (-1000003 : Int32)) ∈ lw_all := lw_g (lw_at lw_m6 57 rfl) rfl
theorem q1334 : (Jvm.Cond.instanceMethod ({ cls := "PromisePoundsModel", name := "parish", desc := "()I" } : Jvm.MethodName)) ∈ lw_all := lw_g (lw_at lw_m6 59 rfl) rfl
theorem q1335 : (Jvm.Cond.selects "PromisePoundsModel" ({ cls := "PromisePoundsModel", name := "parish", desc := "()I" } : Jvm.MethodName) ({ cls := "PromisePoundsModel", name := "parish", desc := "()I" } : Jvm.MethodName)) ∈ lw_all := lw_g (lw_at lw_m6 60 rfl) rfl
theorem q1336 : (Jvm.Cond.code ({ cls := "PromisePoundsModel", name := "parish", desc := "()I" } : Jvm.MethodName) prog_16_method_28_code (3 : Nat) (Option.some Jvm.ClassFile.FieldType.int)) ∈ lw_all := lw_g (lw_at lw_m6 61 rfl) rfl
theorem q1337 : (Jvm.Cond.methodLink "PromisePoundsModel" (144 : Nat) ({ cls := "PromisePoundsModel", name := "isParish", desc := "()Z" } : Jvm.MethodName)) ∈ lw_all := lw_g (lw_at lw_m6 62 rfl) rfl
theorem q1338 : (Jvm.Cond.privateMethod ({ cls := "PromisePoundsModel", name := "isParish", desc := "()Z" } : Jvm.MethodName)) ∈ lw_tbl := lw_at lw_m6 63 rfl
theorem q1339 : (Jvm.Cond.instanceMethod ({ cls := "PromisePoundsModel", name := "isParish", desc := "()Z" } : Jvm.MethodName)) ∈ lw_all := lw_g (lw_at lw_m6 64 rfl) rfl
theorem q1340 : (Jvm.Cond.code ({ cls := "PromisePoundsModel", name := "isParish", desc := "()Z" } : Jvm.MethodName) prog_16_method_27_code (2 : Nat) (Option.some Jvm.ClassFile.FieldType.boolean)) ∈ lw_all := lw_g (lw_at lw_m6 65 rfl) rfl
theorem q1341 : (Jvm.Cond.methodLink "PromisePoundsModel" (135 : Nat) ({ cls := "PromisePoundsModel", name := "takesLaw", desc := "()Z" } : Jvm.MethodName)) ∈ lw_all := lw_g (lw_at lw_m6 66 rfl) rfl
theorem q1342 : (Jvm.Cond.privateMethod ({ cls := "PromisePoundsModel", name := "takesLaw", desc := "()Z" } : Jvm.MethodName)) ∈ lw_tbl := lw_at lw_m6 67 rfl
theorem q1343 : (Jvm.Cond.instanceMethod ({ cls := "PromisePoundsModel", name := "takesLaw", desc := "()Z" } : Jvm.MethodName)) ∈ lw_all := lw_g (lw_at lw_m6 68 rfl) rfl
theorem q1344 : (Jvm.Cond.code ({ cls := "PromisePoundsModel", name := "takesLaw", desc := "()Z" } : Jvm.MethodName) prog_16_method_23_code (3 : Nat) (Option.some Jvm.ClassFile.FieldType.boolean)) ∈ lw_all := lw_g (lw_at lw_m6 69 rfl) rfl
theorem q1345 : (Jvm.Cond.methodLink "PromisePoundsModel" (121 : Nat) ({ cls := "PromisePoundsModel", name := "takes", desc := "(I)Z" } : Jvm.MethodName)) ∈ lw_all := lw_g (lw_at lw_m6 70 rfl) rfl
theorem q1346 : (Jvm.Cond.privateMethod ({ cls := "PromisePoundsModel", name := "takes", desc := "(I)Z" } : Jvm.MethodName)) ∈ lw_tbl := lw_at lw_m6 71 rfl
theorem q1347 : (Jvm.Cond.instanceMethod ({ cls := "PromisePoundsModel", name := "takes", desc := "(I)Z" } : Jvm.MethodName)) ∈ lw_all := lw_g (lw_at lw_m6 72 rfl) rfl
theorem q1348 : (Jvm.Cond.code ({ cls := "PromisePoundsModel", name := "takes", desc := "(I)Z" } : Jvm.MethodName) prog_16_method_19_code (3 : Nat) (Option.some Jvm.ClassFile.FieldType.boolean)) ∈ lw_all := lw_g (lw_at lw_m6 73 rfl) rfl
theorem q1349 : (Jvm.Cond.methodLink "PromisePoundsModel" (95 : Nat) ({ cls := "PromisePoundsModel", name := "byteAt", desc := "(I)I" } : Jvm.MethodName)) ∈ lw_all := lw_g (lw_at lw_m6 74 rfl) rfl
theorem q1350 : (Jvm.Cond.privateMethod ({ cls := "PromisePoundsModel", name := "byteAt", desc := "(I)I" } : Jvm.MethodName)) ∈ lw_tbl := lw_at lw_m6 75 rfl
theorem q1351 : (Jvm.Cond.instanceMethod ({ cls := "PromisePoundsModel", name := "byteAt", desc := "(I)I" } : Jvm.MethodName)) ∈ lw_all := lw_g (lw_at lw_m6 76 rfl) rfl
theorem q1352 : (Jvm.Cond.code ({ cls := "PromisePoundsModel", name := "byteAt", desc := "(I)I" } : Jvm.MethodName) prog_16_method_17_code (2 : Nat) (Option.some Jvm.ClassFile.FieldType.int)) ∈ lw_all := lw_g (lw_at lw_m6 77 rfl) rfl
theorem q1353 : (Jvm.Cond.methodLink "PromisePoundsModel" (124 : Nat) ({ cls := "PromisePoundsModel", name := "reads", desc := "(IIII)Z" } : Jvm.MethodName)) ∈ lw_all := lw_g (lw_at lw_m6 78 rfl) rfl
theorem q1354 : (Jvm.Cond.privateMethod ({ cls := "PromisePoundsModel", name := "reads", desc := "(IIII)Z" } : Jvm.MethodName)) ∈ lw_tbl := lw_at lw_m6 79 rfl
theorem q1355 : (Jvm.Cond.instanceMethod ({ cls := "PromisePoundsModel", name := "reads", desc := "(IIII)Z" } : Jvm.MethodName)) ∈ lw_all := lw_g (lw_at lw_m6 80 rfl) rfl
theorem q1356 : (Jvm.Cond.code ({ cls := "PromisePoundsModel", name := "reads", desc := "(IIII)Z" } : Jvm.MethodName) prog_16_method_22_code (5 : Nat) (Option.some Jvm.ClassFile.FieldType.boolean)) ∈ lw_all := lw_g (lw_at lw_m6 81 rfl) rfl
theorem q1357 : (Jvm.Cond.methodLink "PromisePoundsModel" (117 : Nat) ({ cls := "PromisePoundsModel", name := "takesNumber", desc := "(II)Z" } : Jvm.MethodName)) ∈ lw_all := lw_g (lw_at lw_m6 82 rfl) rfl
theorem q1358 : (Jvm.Cond.privateMethod ({ cls := "PromisePoundsModel", name := "takesNumber", desc := "(II)Z" } : Jvm.MethodName)) ∈ lw_tbl := lw_at lw_m6 83 rfl
theorem q1359 : (Jvm.Cond.instanceMethod ({ cls := "PromisePoundsModel", name := "takesNumber", desc := "(II)Z" } : Jvm.MethodName)) ∈ lw_all := lw_g (lw_at lw_m6 84 rfl) rfl
theorem q1360 : (Jvm.Cond.code ({ cls := "PromisePoundsModel", name := "takesNumber", desc := "(II)Z" } : Jvm.MethodName) prog_16_method_20_code (4 : Nat) (Option.some Jvm.ClassFile.FieldType.boolean)) ∈ lw_all := lw_g (lw_at lw_m6 85 rfl) rfl
theorem q1361 : (Jvm.Cond.methodLink "PromisePoundsModel" (114 : Nat) ({ cls := "PromisePoundsModel", name := "isFigure", desc := "(I)Z" } : Jvm.MethodName)) ∈ lw_all := lw_g (lw_at lw_m6 86 rfl) rfl
theorem q1362 : (Jvm.Cond.privateMethod ({ cls := "PromisePoundsModel", name := "isFigure", desc := "(I)Z" } : Jvm.MethodName)) ∈ lw_tbl := lw_at lw_m6 87 rfl
theorem q1363 : (Jvm.Cond.instanceMethod ({ cls := "PromisePoundsModel", name := "isFigure", desc := "(I)Z" } : Jvm.MethodName)) ∈ lw_all := lw_g (lw_at lw_m6 88 rfl) rfl
theorem q1364 : (Jvm.Cond.code ({ cls := "PromisePoundsModel", name := "isFigure", desc := "(I)Z" } : Jvm.MethodName) prog_16_method_18_code (2 : Nat) (Option.some Jvm.ClassFile.FieldType.boolean)) ∈ lw_all := lw_g (lw_at lw_m6 89 rfl) rfl
theorem q1365 : (Jvm.Cond.constantLong "PromisePoundsModel" (98 : Nat) (48 : Int64)) ∈ lw_all := lw_g (lw_at lw_m6 90 rfl) rfl
theorem q1366 : (Jvm.Cond.constantLong "PromisePoundsModel" (100 : Nat) (57 : Int64)) ∈ lw_all := lw_g (lw_at lw_m6 91 rfl) rfl
theorem q1367 : (Jvm.Cond.methodLink "PromisePoundsModel" (138 : Nat) ({ cls := "PromisePoundsModel", name := "takesPerson", desc := "()Z" } : Jvm.MethodName)) ∈ lw_all := lw_g (lw_at lw_m6 92 rfl) rfl
theorem q1368 : (Jvm.Cond.privateMethod ({ cls := "PromisePoundsModel", name := "takesPerson", desc := "()Z" } : Jvm.MethodName)) ∈ lw_tbl := lw_at lw_m6 93 rfl
theorem q1369 : (Jvm.Cond.instanceMethod ({ cls := "PromisePoundsModel", name := "takesPerson", desc := "()Z" } : Jvm.MethodName)) ∈ lw_all := lw_g (lw_at lw_m6 94 rfl) rfl
theorem q1370 : (Jvm.Cond.code ({ cls := "PromisePoundsModel", name := "takesPerson", desc := "()Z" } : Jvm.MethodName) prog_16_method_25_code (3 : Nat) (Option.some Jvm.ClassFile.FieldType.boolean)) ∈ lw_all := lw_g (lw_at lw_m6 95 rfl) rfl
theorem q1371 : (Jvm.Cond.methodLink "PromisePoundsModel" (128 : Nat) ({ cls := "PromisePoundsModel", name := "sortOf", desc := "(I)I" } : Jvm.MethodName)) ∈ lw_all := lw_g (lw_at lw_m6 96 rfl) rfl
theorem q1372 : (Jvm.Cond.static ({ cls := "PromisePoundsModel", name := "sortOf", desc := "(I)I" } : Jvm.MethodName)) ∈ lw_all := lw_g (lw_at lw_m6 97 rfl) rfl
theorem q1373 : (Jvm.Cond.code ({ cls := "PromisePoundsModel", name := "sortOf", desc := "(I)I" } : Jvm.MethodName) prog_16_method_24_code (1 : Nat) (Option.some Jvm.ClassFile.FieldType.int)) ∈ lw_all := lw_g (lw_at lw_m6 98 rfl) rfl
theorem q1374 : (Jvm.Cond.methodLink "PromisePoundsModel" (131 : Nat) ({ cls := "PromisePoundsModel", name := "isMore", desc := "()Z" } : Jvm.MethodName)) ∈ lw_all := lw_g (lw_at lw_m6 99 rfl) rfl
theorem q1375 : (Jvm.Cond.privateMethod ({ cls := "PromisePoundsModel", name := "isMore", desc := "()Z" } : Jvm.MethodName)) ∈ lw_tbl := lw_at lw_m6 100 rfl
theorem q1376 : (Jvm.Cond.instanceMethod ({ cls := "PromisePoundsModel", name := "isMore", desc := "()Z" } : Jvm.MethodName)) ∈ lw_all := lw_g (lw_at lw_m6 101 rfl) rfl
theorem q1377 : (Jvm.Cond.code ({ cls := "PromisePoundsModel", name := "isMore", desc := "()Z" } : Jvm.MethodName) prog_16_method_21_code (1 : Nat) (Option.some Jvm.ClassFile.FieldType.boolean)) ∈ lw_all := lw_g (lw_at lw_m6 102 rfl) rfl
theorem q1378 : (Jvm.Cond.methodLink "PromisePoundsModel" (141 : Nat) ({ cls := "PromisePoundsModel", name := "takesPromise", desc := "()Z" } : Jvm.MethodName)) ∈ lw_all := lw_g (lw_at lw_m6 103 rfl) rfl
theorem q1379 : (Jvm.Cond.privateMethod ({ cls := "PromisePoundsModel", name := "takesPromise", desc := "()Z" } : Jvm.MethodName)) ∈ lw_tbl := lw_at lw_m6 104 rfl
theorem q1380 : (Jvm.Cond.instanceMethod ({ cls := "PromisePoundsModel", name := "takesPromise", desc := "()Z" } : Jvm.MethodName)) ∈ lw_all := lw_g (lw_at lw_m6 105 rfl) rfl
theorem q1381 : (Jvm.Cond.code ({ cls := "PromisePoundsModel", name := "takesPromise", desc := "()Z" } : Jvm.MethodName) prog_16_method_26_code (3 : Nat) (Option.some Jvm.ClassFile.FieldType.boolean)) ∈ lw_all := lw_g (lw_at lw_m6 106 rfl) rfl
theorem q1382 : (Jvm.Cond.constant "PromisePoundsModel" (150 : Nat) (-1000100 : Int32)) ∈ lw_all := lw_g (lw_at lw_m6 107 rfl) rfl
theorem q1384 : (Jvm.Cond.instanceMethod ({ cls := "PromisePoundsModel", name := "fault", desc := "()I" } : Jvm.MethodName)) ∈ lw_all := lw_g (lw_at lw_m6 109 rfl) rfl
theorem q1385 : (Jvm.Cond.selects "PromisePoundsModel" ({ cls := "PromisePoundsModel", name := "fault", desc := "()I" } : Jvm.MethodName) ({ cls := "PromisePoundsModel", name := "fault", desc := "()I" } : Jvm.MethodName)) ∈ lw_all := lw_g (lw_at lw_m6 110 rfl) rfl
theorem q1386 : (Jvm.Cond.code ({ cls := "PromisePoundsModel", name := "fault", desc := "()I" } : Jvm.MethodName) prog_16_method_29_code (1 : Nat) (Option.some Jvm.ClassFile.FieldType.int)) ∈ lw_all := lw_g (lw_at lw_m6 111 rfl) rfl
theorem q1388 : (Jvm.Cond.instanceMethod ({ cls := "PromisePoundsModel", name := "undo", desc := "()I" } : Jvm.MethodName)) ∈ lw_all := lw_g (lw_at lw_m6 113 rfl) rfl
theorem q1389 : (Jvm.Cond.selects "PromisePoundsModel" ({ cls := "PromisePoundsModel", name := "undo", desc := "()I" } : Jvm.MethodName) ({ cls := "PromisePoundsModel", name := "undo", desc := "()I" } : Jvm.MethodName)) ∈ lw_all := lw_g (lw_at lw_m6 114 rfl) rfl
theorem q1390 : (Jvm.Cond.code ({ cls := "PromisePoundsModel", name := "undo", desc := "()I" } : Jvm.MethodName) prog_16_method_31_code (2 : Nat) (Option.some Jvm.ClassFile.FieldType.int)) ∈ lw_all := lw_g (lw_at lw_m6 115 rfl) rfl
theorem q1391 : (Jvm.Cond.constant "PromisePoundsModel" (154 : Nat) (-1000002 : Int32)) ∈ lw_all := lw_g (lw_at lw_m6 116 rfl) rfl
theorem q1393 : (Jvm.Cond.instanceMethod ({ cls := "PromisePoundsModel", name := "walk", desc := "(II)I" } : Jvm.MethodName)) ∈ lw_all := lw_g (lw_at lw_m6 118 rfl) rfl
theorem q1394 : (Jvm.Cond.selects "PromisePoundsModel" ({ cls := "PromisePoundsModel", name := "walk", desc := "(II)I" } : Jvm.MethodName) ({ cls := "PromisePoundsModel", name := "walk", desc := "(II)I" } : Jvm.MethodName)) ∈ lw_all := lw_g (lw_at lw_m6 119 rfl) rfl
theorem q1395 : (Jvm.Cond.code ({ cls := "PromisePoundsModel", name := "walk", desc := "(II)I" } : Jvm.MethodName) prog_16_method_40_code (3 : Nat) (Option.some Jvm.ClassFile.FieldType.int)) ∈ lw_all := lw_g (lw_at lw_m6 120 rfl) rfl
theorem q1396 : (Jvm.Cond.methodLink "PromisePoundsModel" (169 : Nat) ({ cls := "PromisePoundsModel", name := "isPerson", desc := "(I)Z" } : Jvm.MethodName)) ∈ lw_all := lw_g (lw_at lw_m6 121 rfl) rfl
theorem q1397 : (Jvm.Cond.privateMethod ({ cls := "PromisePoundsModel", name := "isPerson", desc := "(I)Z" } : Jvm.MethodName)) ∈ lw_tbl := lw_at lw_m6 122 rfl
theorem q1398 : (Jvm.Cond.instanceMethod ({ cls := "PromisePoundsModel", name := "isPerson", desc := "(I)Z" } : Jvm.MethodName)) ∈ lw_all := lw_g (lw_at lw_m6 123 rfl) rfl
theorem q1399 : (Jvm.Cond.code ({ cls := "PromisePoundsModel", name := "isPerson", desc := "(I)Z" } : Jvm.MethodName) prog_16_method_33_code (2 : Nat) (Option.some Jvm.ClassFile.FieldType.boolean)) ∈ lw_all := lw_g (lw_at lw_m6 124 rfl) rfl
theorem q1400 : (Jvm.Cond.methodLink "PromisePoundsModel" (172 : Nat) ({ cls := "PromisePoundsModel", name := "canWalk", desc := "(II)Z" } : Jvm.MethodName)) ∈ lw_all := lw_g (lw_at lw_m6 125 rfl) rfl
theorem q1401 : (Jvm.Cond.privateMethod ({ cls := "PromisePoundsModel", name := "canWalk", desc := "(II)Z" } : Jvm.MethodName)) ∈ lw_tbl := lw_at lw_m6 126 rfl
theorem q1402 : (Jvm.Cond.instanceMethod ({ cls := "PromisePoundsModel", name := "canWalk", desc := "(II)Z" } : Jvm.MethodName)) ∈ lw_all := lw_g (lw_at lw_m6 127 rfl) rfl
theorem q1403 : (Jvm.Cond.code ({ cls := "PromisePoundsModel", name := "canWalk", desc := "(II)Z" } : Jvm.MethodName) prog_16_method_39_code (4 : Nat) (Option.some Jvm.ClassFile.FieldType.boolean)) ∈ lw_all := lw_g (lw_at lw_m6 128 rfl) rfl
theorem q1404 : (Jvm.Cond.constantLong "PromisePoundsModel" (164 : Nat) (5 : Int64)) ∈ lw_all := lw_g (lw_at lw_m6 129 rfl) rfl
theorem q1405 : (Jvm.Cond.methodLink "PromisePoundsModel" (166 : Nat) ({ cls := "PromisePoundsModel", name := "wants", desc := "(III)I" } : Jvm.MethodName)) ∈ lw_all := lw_g (lw_at lw_m6 130 rfl) rfl
theorem q1406 : (Jvm.Cond.privateMethod ({ cls := "PromisePoundsModel", name := "wants", desc := "(III)I" } : Jvm.MethodName)) ∈ lw_tbl := lw_at lw_m6 131 rfl
theorem q1407 : (Jvm.Cond.instanceMethod ({ cls := "PromisePoundsModel", name := "wants", desc := "(III)I" } : Jvm.MethodName)) ∈ lw_all := lw_g (lw_at lw_m6 132 rfl) rfl
theorem q1408 : (Jvm.Cond.code ({ cls := "PromisePoundsModel", name := "wants", desc := "(III)I" } : Jvm.MethodName) prog_16_method_38_code (5 : Nat) (Option.some Jvm.ClassFile.FieldType.int)) ∈ lw_all := lw_g (lw_at lw_m6 133 rfl) rfl
theorem q1409 : (Jvm.Cond.methodLink "PromisePoundsModel" (161 : Nat) ({ cls := "PromisePoundsModel", name := "loadOf", desc := "(I)I" } : Jvm.MethodName)) ∈ lw_all := lw_g (lw_at lw_m6 134 rfl) rfl
theorem q1410 : (Jvm.Cond.privateMethod ({ cls := "PromisePoundsModel", name := "loadOf", desc := "(I)I" } : Jvm.MethodName)) ∈ lw_tbl := lw_at lw_m6 135 rfl
theorem q1411 : (Jvm.Cond.instanceMethod ({ cls := "PromisePoundsModel", name := "loadOf", desc := "(I)I" } : Jvm.MethodName)) ∈ lw_all := lw_g (lw_at lw_m6 136 rfl) rfl
theorem q1412 : (Jvm.Cond.code ({ cls := "PromisePoundsModel", name := "loadOf", desc := "(I)I" } : Jvm.MethodName) prog_16_method_36_code (4 : Nat) (Option.some Jvm.ClassFile.FieldType.int)) ∈ lw_all := lw_g (lw_at lw_m6 137 rfl) rfl
theorem q1413 : (Jvm.Cond.methodLink "PromisePoundsModel" (158 : Nat) ({ cls := "PromisePoundsModel", name := "poundsOf", desc := "(I)I" } : Jvm.MethodName)) ∈ lw_all := lw_g (lw_at lw_m6 138 rfl) rfl
theorem q1414 : (Jvm.Cond.privateMethod ({ cls := "PromisePoundsModel", name := "poundsOf", desc := "(I)I" } : Jvm.MethodName)) ∈ lw_tbl := lw_at lw_m6 139 rfl
theorem q1415 : (Jvm.Cond.instanceMethod ({ cls := "PromisePoundsModel", name := "poundsOf", desc := "(I)I" } : Jvm.MethodName)) ∈ lw_all := lw_g (lw_at lw_m6 140 rfl) rfl
theorem q1416 : (Jvm.Cond.code ({ cls := "PromisePoundsModel", name := "poundsOf", desc := "(I)I" } : Jvm.MethodName) prog_16_method_35_code (3 : Nat) (Option.some Jvm.ClassFile.FieldType.int)) ∈ lw_all := lw_g (lw_at lw_m6 141 rfl) rfl
theorem q1417 : (Jvm.Cond.methodLink "PromisePoundsModel" (155 : Nat) ({ cls := "PromisePoundsModel", name := "lesser", desc := "(II)I" } : Jvm.MethodName)) ∈ lw_all := lw_g (lw_at lw_m6 142 rfl) rfl
theorem q1418 : (Jvm.Cond.static ({ cls := "PromisePoundsModel", name := "lesser", desc := "(II)I" } : Jvm.MethodName)) ∈ lw_all := lw_g (lw_at lw_m6 143 rfl) rfl
theorem q1419 : (Jvm.Cond.code ({ cls := "PromisePoundsModel", name := "lesser", desc := "(II)I" } : Jvm.MethodName) prog_16_method_5_code (2 : Nat) (Option.some Jvm.ClassFile.FieldType.int)) ∈ lw_all := lw_g (lw_at lw_m6 144 rfl) rfl
theorem q1420 : (Jvm.Cond.methodLink "PromisePoundsModel" (175 : Nat) ({ cls := "PromisePoundsModel", name := "minds", desc := "()V" } : Jvm.MethodName)) ∈ lw_all := lw_g (lw_at lw_m6 145 rfl) rfl
theorem q1421 : (Jvm.Cond.privateMethod ({ cls := "PromisePoundsModel", name := "minds", desc := "()V" } : Jvm.MethodName)) ∈ lw_tbl := lw_at lw_m6 146 rfl
theorem q1422 : (Jvm.Cond.instanceMethod ({ cls := "PromisePoundsModel", name := "minds", desc := "()V" } : Jvm.MethodName)) ∈ lw_all := lw_g (lw_at lw_m6 147 rfl) rfl
theorem q1423 : (Jvm.Cond.code ({ cls := "PromisePoundsModel", name := "minds", desc := "()V" } : Jvm.MethodName) prog_16_method_30_code (2 : Nat) (Option.none : Option Jvm.ClassFile.FieldType)) ∈ lw_all := lw_g (lw_at lw_m6 148 rfl) rfl
theorem q1425 : (Jvm.Cond.instanceMethod ({ cls := "PromisePoundsModel", name := "give", desc := "(IIIII)I" } : Jvm.MethodName)) ∈ lw_all := lw_g (lw_at lw_m6 150 rfl) rfl
theorem q1426 : (Jvm.Cond.selects "PromisePoundsModel" ({ cls := "PromisePoundsModel", name := "give", desc := "(IIIII)I" } : Jvm.MethodName) ({ cls := "PromisePoundsModel", name := "give", desc := "(IIIII)I" } : Jvm.MethodName)) ∈ lw_all := lw_g (lw_at lw_m6 151 rfl) rfl
theorem q1427 : (Jvm.Cond.code ({ cls := "PromisePoundsModel", name := "give", desc := "(IIIII)I" } : Jvm.MethodName) prog_16_method_41_code (7 : Nat) (Option.some Jvm.ClassFile.FieldType.int)) ∈ lw_all := lw_g (lw_at lw_m6 152 rfl) rfl
theorem q1428 : (Jvm.Cond.constantLong "PromisePoundsModel" (178 : Nat) (20 : Int64)) ∈ lw_all := lw_g (lw_at lw_m6 153 rfl) rfl
theorem q1429 : (Jvm.Cond.constantLong "PromisePoundsModel" (180 : Nat) (99 : Int64)) ∈ lw_all := lw_g (lw_at lw_m6 154 rfl) rfl
theorem q1431 : (Jvm.Cond.instanceMethod ({ cls := "PromisePoundsModel", name := "redeem", desc := "(I)I" } : Jvm.MethodName)) ∈ lw_all := lw_g (lw_at lw_m6 156 rfl) rfl
theorem q1432 : (Jvm.Cond.selects "PromisePoundsModel" ({ cls := "PromisePoundsModel", name := "redeem", desc := "(I)I" } : Jvm.MethodName) ({ cls := "PromisePoundsModel", name := "redeem", desc := "(I)I" } : Jvm.MethodName)) ∈ lw_all := lw_g (lw_at lw_m6 157 rfl) rfl
theorem q1433 : (Jvm.Cond.code ({ cls := "PromisePoundsModel", name := "redeem", desc := "(I)I" } : Jvm.MethodName) prog_16_method_42_code (2 : Nat) (Option.some Jvm.ClassFile.FieldType.int)) ∈ lw_all := lw_g (lw_at lw_m6 158 rfl) rfl
theorem q1434 : (Jvm.Cond.methodLink "PromisePoundsModel" (182 : Nat) ({ cls := "PromisePoundsModel", name := "isPromise", desc := "(I)Z" } : Jvm.MethodName)) ∈ lw_all := lw_g (lw_at lw_m6 159 rfl) rfl
theorem q1435 : (Jvm.Cond.privateMethod ({ cls := "PromisePoundsModel", name := "isPromise", desc := "(I)Z" } : Jvm.MethodName)) ∈ lw_tbl := lw_at lw_m6 160 rfl
theorem q1436 : (Jvm.Cond.instanceMethod ({ cls := "PromisePoundsModel", name := "isPromise", desc := "(I)Z" } : Jvm.MethodName)) ∈ lw_all := lw_g (lw_at lw_m6 161 rfl) rfl
theorem q1437 : (Jvm.Cond.code ({ cls := "PromisePoundsModel", name := "isPromise", desc := "(I)Z" } : Jvm.MethodName) prog_16_method_34_code (2 : Nat) (Option.some Jvm.ClassFile.FieldType.boolean)) ∈ lw_all := lw_g (lw_at lw_m6 162 rfl) rfl
theorem q1439 : (Jvm.Cond.instanceMethod ({ cls := "PromisePoundsModel", name := "pass", desc := "(II)I" } : Jvm.MethodName)) ∈ lw_all := lw_g (lw_at lw_m6 164 rfl) rfl
theorem q1440 : (Jvm.Cond.selects "PromisePoundsModel" ({ cls := "PromisePoundsModel", name := "pass", desc := "(II)I" } : Jvm.MethodName) ({ cls := "PromisePoundsModel", name := "pass", desc := "(II)I" } : Jvm.MethodName)) ∈ lw_all := lw_g (lw_at lw_m6 165 rfl) rfl
theorem q1441 : (Jvm.Cond.code ({ cls := "PromisePoundsModel", name := "pass", desc := "(II)I" } : Jvm.MethodName) prog_16_method_43_code (3 : Nat) (Option.some Jvm.ClassFile.FieldType.int)) ∈ lw_all := lw_g (lw_at lw_m6 166 rfl) rfl
theorem q1443 : (Jvm.Cond.instanceMethod ({ cls := "PromisePoundsModel", name := "days", desc := "(I)I" } : Jvm.MethodName)) ∈ lw_all := lw_g (lw_at lw_m6 168 rfl) rfl
theorem q1444 : (Jvm.Cond.selects "PromisePoundsModel" ({ cls := "PromisePoundsModel", name := "days", desc := "(I)I" } : Jvm.MethodName) ({ cls := "PromisePoundsModel", name := "days", desc := "(I)I" } : Jvm.MethodName)) ∈ lw_all := lw_g (lw_at lw_m6 169 rfl) rfl
theorem q1445 : (Jvm.Cond.code ({ cls := "PromisePoundsModel", name := "days", desc := "(I)I" } : Jvm.MethodName) prog_16_method_45_code (3 : Nat) (Option.some Jvm.ClassFile.FieldType.int)) ∈ lw_all := lw_g (lw_at lw_m6 170 rfl) rfl
theorem q1446 : (Jvm.Cond.methodLink "PromisePoundsModel" (185 : Nat) ({ cls := "PromisePoundsModel", name := "isNone", desc := "()Z" } : Jvm.MethodName)) ∈ lw_all := lw_g (lw_at lw_m6 171 rfl) rfl
theorem q1447 : (Jvm.Cond.privateMethod ({ cls := "PromisePoundsModel", name := "isNone", desc := "()Z" } : Jvm.MethodName)) ∈ lw_tbl := lw_at lw_m6 172 rfl
theorem q1448 : (Jvm.Cond.instanceMethod ({ cls := "PromisePoundsModel", name := "isNone", desc := "()Z" } : Jvm.MethodName)) ∈ lw_all := lw_g (lw_at lw_m6 173 rfl) rfl
theorem q1449 : (Jvm.Cond.code ({ cls := "PromisePoundsModel", name := "isNone", desc := "()Z" } : Jvm.MethodName) prog_16_method_32_code (1 : Nat) (Option.some Jvm.ClassFile.FieldType.boolean)) ∈ lw_all := lw_g (lw_at lw_m6 174 rfl) rfl
theorem q1450 : (Jvm.Cond.constantLong "PromisePoundsModel" (188 : Nat) (24 : Int64)) ∈ lw_all := lw_g (lw_at lw_m6 175 rfl) rfl
theorem q1451 : (Jvm.Cond.methodLink "PromisePoundsModel" (190 : Nat) ({ cls := "PromisePoundsModel", name := "grows", desc := "()V" } : Jvm.MethodName)) ∈ lw_all := lw_g (lw_at lw_m6 176 rfl) rfl
theorem q1452 : (Jvm.Cond.privateMethod ({ cls := "PromisePoundsModel", name := "grows", desc := "()V" } : Jvm.MethodName)) ∈ lw_tbl := lw_at lw_m6 177 rfl
theorem q1453 : (Jvm.Cond.instanceMethod ({ cls := "PromisePoundsModel", name := "grows", desc := "()V" } : Jvm.MethodName)) ∈ lw_all := lw_g (lw_at lw_m6 178 rfl) rfl
theorem q1454 : (Jvm.Cond.code ({ cls := "PromisePoundsModel", name := "grows", desc := "()V" } : Jvm.MethodName) prog_16_method_44_code (2 : Nat) (Option.none : Option Jvm.ClassFile.FieldType)) ∈ lw_all := lw_g (lw_at lw_m6 179 rfl) rfl
theorem q1456 : (Jvm.Cond.instanceMethod ({ cls := "PromisePoundsModel", name := "person", desc := "(II)I" } : Jvm.MethodName)) ∈ lw_all := lw_g (lw_at lw_m6 181 rfl) rfl
theorem q1457 : (Jvm.Cond.selects "PromisePoundsModel" ({ cls := "PromisePoundsModel", name := "person", desc := "(II)I" } : Jvm.MethodName) ({ cls := "PromisePoundsModel", name := "person", desc := "(II)I" } : Jvm.MethodName)) ∈ lw_all := lw_g (lw_at lw_m6 182 rfl) rfl
theorem q1458 : (Jvm.Cond.code ({ cls := "PromisePoundsModel", name := "person", desc := "(II)I" } : Jvm.MethodName) prog_16_method_46_code (3 : Nat) (Option.some Jvm.ClassFile.FieldType.int)) ∈ lw_all := lw_g (lw_at lw_m6 183 rfl) rfl
theorem q1459 : (Jvm.Cond.constantLong "PromisePoundsModel" (193 : Nat) (3 : Int64)) ∈ lw_all := lw_g (lw_at lw_m6 184 rfl) rfl
theorem q1460 : (Jvm.Cond.methodLink "PromisePoundsModel" (195 : Nat) ({ cls := "PromisePoundsModel", name := "isCrushed", desc := "(I)Z" } : Jvm.MethodName)) ∈ lw_all := lw_g (lw_at lw_m6 185 rfl) rfl
theorem q1461 : (Jvm.Cond.privateMethod ({ cls := "PromisePoundsModel", name := "isCrushed", desc := "(I)Z" } : Jvm.MethodName)) ∈ lw_tbl := lw_at lw_m6 186 rfl
theorem q1462 : (Jvm.Cond.instanceMethod ({ cls := "PromisePoundsModel", name := "isCrushed", desc := "(I)Z" } : Jvm.MethodName)) ∈ lw_all := lw_g (lw_at lw_m6 187 rfl) rfl
theorem q1463 : (Jvm.Cond.code ({ cls := "PromisePoundsModel", name := "isCrushed", desc := "(I)Z" } : Jvm.MethodName) prog_16_method_37_code (2 : Nat) (Option.some Jvm.ClassFile.FieldType.boolean)) ∈ lw_all := lw_g (lw_at lw_m6 188 rfl) rfl
theorem q1465 : (Jvm.Cond.instanceMethod ({ cls := "PromisePoundsModel", name := "promise", desc := "(II)I" } : Jvm.MethodName)) ∈ lw_all := lw_g (lw_at lw_m6 190 rfl) rfl
theorem q1466 : (Jvm.Cond.selects "PromisePoundsModel" ({ cls := "PromisePoundsModel", name := "promise", desc := "(II)I" } : Jvm.MethodName) ({ cls := "PromisePoundsModel", name := "promise", desc := "(II)I" } : Jvm.MethodName)) ∈ lw_all := lw_g (lw_at lw_m6 191 rfl) rfl
theorem q1467 : (Jvm.Cond.code ({ cls := "PromisePoundsModel", name := "promise", desc := "(II)I" } : Jvm.MethodName) prog_16_method_47_code (3 : Nat) (Option.some Jvm.ClassFile.FieldType.int)) ∈ lw_all := lw_g (lw_at lw_m6 192 rfl) rfl
theorem q1468 : (Jvm.Cond.constantLong "PromisePoundsModel" (198 : Nat) (6 : Int64)) ∈ lw_all := lw_g (lw_at lw_m6 193 rfl) rfl
theorem q1470 : (Jvm.Cond.instanceMethod ({ cls := "PromisePoundsModel", name := "height", desc := "(I)I" } : Jvm.MethodName)) ∈ lw_all := lw_g (lw_at lw_m6 195 rfl) rfl
theorem q1471 : (Jvm.Cond.selects "PromisePoundsModel" ({ cls := "PromisePoundsModel", name := "height", desc := "(I)I" } : Jvm.MethodName) ({ cls := "PromisePoundsModel", name := "height", desc := "(I)I" } : Jvm.MethodName)) ∈ lw_all := lw_g (lw_at lw_m6 196 rfl) rfl
theorem q1472 : (Jvm.Cond.code ({ cls := "PromisePoundsModel", name := "height", desc := "(I)I" } : Jvm.MethodName) prog_16_method_48_code (2 : Nat) (Option.some Jvm.ClassFile.FieldType.int)) ∈ lw_all := lw_g (lw_at lw_m6 197 rfl) rfl
theorem q1474 : (Jvm.Cond.instanceMethod ({ cls := "PromisePoundsModel", name := "gets", desc := "(III)I" } : Jvm.MethodName)) ∈ lw_all := lw_g (lw_at lw_m6 199 rfl) rfl
theorem q1475 : (Jvm.Cond.selects "PromisePoundsModel" ({ cls := "PromisePoundsModel", name := "gets", desc := "(III)I" } : Jvm.MethodName) ({ cls := "PromisePoundsModel", name := "gets", desc := "(III)I" } : Jvm.MethodName)) ∈ lw_all := lw_g (lw_at lw_m6 200 rfl) rfl
theorem q1476 : (Jvm.Cond.code ({ cls := "PromisePoundsModel", name := "gets", desc := "(III)I" } : Jvm.MethodName) prog_16_method_49_code (8 : Nat) (Option.some Jvm.ClassFile.FieldType.int)) ∈ lw_all := lw_g (lw_at lw_m6 201 rfl) rfl
theorem q1478 : (Jvm.Cond.instanceMethod ({ cls := "PromisePoundsModel", name := "keeps", desc := "(II)I" } : Jvm.MethodName)) ∈ lw_all := lw_g (lw_at lw_m6 203 rfl) rfl
theorem q1479 : (Jvm.Cond.selects "PromisePoundsModel" ({ cls := "PromisePoundsModel", name := "keeps", desc := "(II)I" } : Jvm.MethodName) ({ cls := "PromisePoundsModel", name := "keeps", desc := "(II)I" } : Jvm.MethodName)) ∈ lw_all := lw_g (lw_at lw_m6 204 rfl) rfl
theorem q1480 : (Jvm.Cond.code ({ cls := "PromisePoundsModel", name := "keeps", desc := "(II)I" } : Jvm.MethodName) prog_16_method_51_code (7 : Nat) (Option.some Jvm.ClassFile.FieldType.int)) ∈ lw_all := lw_g (lw_at lw_m6 205 rfl) rfl
theorem q1481 : (Jvm.Cond.constantLong "PromisePoundsModel" (206 : Nat) (-1 : Int64)) ∈ lw_all := lw_g (lw_at lw_m6 206 rfl) rfl
theorem q1482 : (Jvm.Cond.methodLink "PromisePoundsModel" (208 : Nat) ({ cls := "PromisePoundsModel", name := "findOrder", desc := "(III)I" } : Jvm.MethodName)) ∈ lw_all := lw_g (lw_at lw_m6 207 rfl) rfl
theorem q1483 : (Jvm.Cond.privateMethod ({ cls := "PromisePoundsModel", name := "findOrder", desc := "(III)I" } : Jvm.MethodName)) ∈ lw_tbl := lw_at lw_m6 208 rfl
theorem q1484 : (Jvm.Cond.instanceMethod ({ cls := "PromisePoundsModel", name := "findOrder", desc := "(III)I" } : Jvm.MethodName)) ∈ lw_all := lw_g (lw_at lw_m6 209 rfl) rfl
theorem q1485 : (Jvm.Cond.code ({ cls := "PromisePoundsModel", name := "findOrder", desc := "(III)I" } : Jvm.MethodName) prog_16_method_50_code (9 : Nat) (Option.some Jvm.ClassFile.FieldType.int)) ∈ lw_all := lw_g (lw_at lw_m6 210 rfl) rfl
theorem q1486 : (Jvm.Cond.methodLink "PromisePoundsModel" (200 : Nat) ({ cls := "PromisePoundsModel", name := "has", desc := "(II)Z" } : Jvm.MethodName)) ∈ lw_all := lw_g (lw_at lw_m6 211 rfl) rfl
theorem q1487 : (Jvm.Cond.static ({ cls := "PromisePoundsModel", name := "has", desc := "(II)Z" } : Jvm.MethodName)) ∈ lw_all := lw_g (lw_at lw_m6 212 rfl) rfl
theorem q1488 : (Jvm.Cond.code ({ cls := "PromisePoundsModel", name := "has", desc := "(II)Z" } : Jvm.MethodName) prog_16_method_4_code (2 : Nat) (Option.some Jvm.ClassFile.FieldType.boolean)) ∈ lw_all := lw_g (lw_at lw_m6 213 rfl) rfl
theorem q1489 : (Jvm.Cond.methodLink "PromisePoundsModel" (203 : Nat) ({ cls := "PromisePoundsModel", name := "plain", desc := "(I)I" } : Jvm.MethodName)) ∈ lw_all := lw_g (lw_at lw_m6 214 rfl) rfl
theorem q1490 : (Jvm.Cond.static ({ cls := "PromisePoundsModel", name := "plain", desc := "(I)I" } : Jvm.MethodName)) ∈ lw_all := lw_g (lw_at lw_m6 215 rfl) rfl
theorem q1491 : (Jvm.Cond.code ({ cls := "PromisePoundsModel", name := "plain", desc := "(I)I" } : Jvm.MethodName) prog_16_method_6_code (1 : Nat) (Option.some Jvm.ClassFile.FieldType.int)) ∈ lw_all := lw_g (lw_at lw_m6 216 rfl) rfl
theorem q1492 : (Jvm.Cond.constant "PromisePoundsModel" (211 : Nat) (-1000000 : Int32)) ∈ lw_all := lw_g (lw_at lw_m6 217 rfl) rfl
theorem q1494 : (Jvm.Cond.instanceMethod ({ cls := "PromisePoundsModel", name := "frees", desc := "(I)I" } : Jvm.MethodName)) ∈ lw_all := lw_g (lw_at lw_m6 219 rfl) rfl
theorem q1495 : (Jvm.Cond.selects "PromisePoundsModel" ({ cls := "PromisePoundsModel", name := "frees", desc := "(I)I" } : Jvm.MethodName) ({ cls := "PromisePoundsModel", name := "frees", desc := "(I)I" } : Jvm.MethodName)) ∈ lw_all := lw_g (lw_at lw_m6 220 rfl) rfl
theorem q1496 : (Jvm.Cond.code ({ cls := "PromisePoundsModel", name := "frees", desc := "(I)I" } : Jvm.MethodName) prog_16_method_53_code (8 : Nat) (Option.some Jvm.ClassFile.FieldType.int)) ∈ lw_all := lw_g (lw_at lw_m6 221 rfl) rfl
theorem q1497 : (Jvm.Cond.methodLink "PromisePoundsModel" (213 : Nat) ({ cls := "PromisePoundsModel", name := "greatest", desc := "()I" } : Jvm.MethodName)) ∈ lw_all := lw_g (lw_at lw_m6 222 rfl) rfl
theorem q1498 : (Jvm.Cond.privateMethod ({ cls := "PromisePoundsModel", name := "greatest", desc := "()I" } : Jvm.MethodName)) ∈ lw_tbl := lw_at lw_m6 223 rfl
theorem q1499 : (Jvm.Cond.instanceMethod ({ cls := "PromisePoundsModel", name := "greatest", desc := "()I" } : Jvm.MethodName)) ∈ lw_all := lw_g (lw_at lw_m6 224 rfl) rfl
theorem q1500 : (Jvm.Cond.code ({ cls := "PromisePoundsModel", name := "greatest", desc := "()I" } : Jvm.MethodName) prog_16_method_52_code (4 : Nat) (Option.some Jvm.ClassFile.FieldType.int)) ∈ lw_all := lw_g (lw_at lw_m6 225 rfl) rfl
theorem q1501 : (Jvm.Cond.constant "PromisePoundsModel" (212 : Nat) (-1000000000 : Int32)) ∈ lw_all := lw_g (lw_at lw_m6 226 rfl) rfl
theorem q1503 : (Jvm.Cond.instanceMethod ({ cls := "PromisePoundsModel", name := "boat", desc := "(I)I" } : Jvm.MethodName)) ∈ lw_all := lw_g (lw_at lw_m6 228 rfl) rfl
theorem q1504 : (Jvm.Cond.selects "PromisePoundsModel" ({ cls := "PromisePoundsModel", name := "boat", desc := "(I)I" } : Jvm.MethodName) ({ cls := "PromisePoundsModel", name := "boat", desc := "(I)I" } : Jvm.MethodName)) ∈ lw_all := lw_g (lw_at lw_m6 229 rfl) rfl
theorem q1505 : (Jvm.Cond.code ({ cls := "PromisePoundsModel", name := "boat", desc := "(I)I" } : Jvm.MethodName) prog_16_method_54_code (7 : Nat) (Option.some Jvm.ClassFile.FieldType.int)) ∈ lw_all := lw_g (lw_at lw_m6 230 rfl) rfl
theorem q1506 : (Jvm.Cond.constant "PromisePoundsModel" (217 : Nat) (1000000000 : Int32)) ∈ lw_all := lw_g (lw_at lw_m6 231 rfl) rfl
theorem q1508 : (Jvm.Cond.instanceMethod ({ cls := "PromisePoundsModel", name := "votes", desc := "(I)I" } : Jvm.MethodName)) ∈ lw_all := lw_g (lw_at lw_m6 233 rfl) rfl
theorem q1509 : (Jvm.Cond.selects "PromisePoundsModel" ({ cls := "PromisePoundsModel", name := "votes", desc := "(I)I" } : Jvm.MethodName) ({ cls := "PromisePoundsModel", name := "votes", desc := "(I)I" } : Jvm.MethodName)) ∈ lw_all := lw_g (lw_at lw_m6 234 rfl) rfl
theorem q1510 : (Jvm.Cond.code ({ cls := "PromisePoundsModel", name := "votes", desc := "(I)I" } : Jvm.MethodName) prog_16_method_57_code (2 : Nat) (Option.some Jvm.ClassFile.FieldType.int)) ∈ lw_all := lw_g (lw_at lw_m6 235 rfl) rfl
theorem q1511 : (Jvm.Cond.methodLink "PromisePoundsModel" (221 : Nat) ({ cls := "PromisePoundsModel", name := "votesFor", desc := "(I)I" } : Jvm.MethodName)) ∈ lw_all := lw_g (lw_at lw_m6 236 rfl) rfl
theorem q1512 : (Jvm.Cond.privateMethod ({ cls := "PromisePoundsModel", name := "votesFor", desc := "(I)I" } : Jvm.MethodName)) ∈ lw_tbl := lw_at lw_m6 237 rfl
theorem q1513 : (Jvm.Cond.instanceMethod ({ cls := "PromisePoundsModel", name := "votesFor", desc := "(I)I" } : Jvm.MethodName)) ∈ lw_all := lw_g (lw_at lw_m6 238 rfl) rfl
theorem q1514 : (Jvm.Cond.code ({ cls := "PromisePoundsModel", name := "votesFor", desc := "(I)I" } : Jvm.MethodName) prog_16_method_56_code (4 : Nat) (Option.some Jvm.ClassFile.FieldType.int)) ∈ lw_all := lw_g (lw_at lw_m6 239 rfl) rfl
theorem q1515 : (Jvm.Cond.methodLink "PromisePoundsModel" (218 : Nat) ({ cls := "PromisePoundsModel", name := "voteOf", desc := "(I)I" } : Jvm.MethodName)) ∈ lw_all := lw_g (lw_at lw_m7 0 rfl) rfl
theorem q1516 : (Jvm.Cond.privateMethod ({ cls := "PromisePoundsModel", name := "voteOf", desc := "(I)I" } : Jvm.MethodName)) ∈ lw_tbl := lw_at lw_m7 1 rfl
theorem q1517 : (Jvm.Cond.instanceMethod ({ cls := "PromisePoundsModel", name := "voteOf", desc := "(I)I" } : Jvm.MethodName)) ∈ lw_all := lw_g (lw_at lw_m7 2 rfl) rfl
theorem q1518 : (Jvm.Cond.code ({ cls := "PromisePoundsModel", name := "voteOf", desc := "(I)I" } : Jvm.MethodName) prog_16_method_55_code (7 : Nat) (Option.some Jvm.ClassFile.FieldType.int)) ∈ lw_all := lw_g (lw_at lw_m7 3 rfl) rfl
theorem q1520 : (Jvm.Cond.instanceMethod ({ cls := "PromisePoundsModel", name := "wins", desc := "()I" } : Jvm.MethodName)) ∈ lw_all := lw_g (lw_at lw_m7 5 rfl) rfl
theorem q1521 : (Jvm.Cond.selects "PromisePoundsModel" ({ cls := "PromisePoundsModel", name := "wins", desc := "()I" } : Jvm.MethodName) ({ cls := "PromisePoundsModel", name := "wins", desc := "()I" } : Jvm.MethodName)) ∈ lw_all := lw_g (lw_at lw_m7 6 rfl) rfl
theorem q1522 : (Jvm.Cond.code ({ cls := "PromisePoundsModel", name := "wins", desc := "()I" } : Jvm.MethodName) prog_16_method_58_code (5 : Nat) (Option.some Jvm.ClassFile.FieldType.int)) ∈ lw_all := lw_g (lw_at lw_m7 7 rfl) rfl
theorem q1524 : (Jvm.Cond.instanceMethod ({ cls := "PromisePoundsModel", name := "law", desc := "()I" } : Jvm.MethodName)) ∈ lw_all := lw_g (lw_at lw_m7 9 rfl) rfl
theorem q1525 : (Jvm.Cond.selects "PromisePoundsModel" ({ cls := "PromisePoundsModel", name := "law", desc := "()I" } : Jvm.MethodName) ({ cls := "PromisePoundsModel", name := "law", desc := "()I" } : Jvm.MethodName)) ∈ lw_all := lw_g (lw_at lw_m7 10 rfl) rfl
theorem q1526 : (Jvm.Cond.code ({ cls := "PromisePoundsModel", name := "law", desc := "()I" } : Jvm.MethodName) prog_16_method_60_code (2 : Nat) (Option.some Jvm.ClassFile.FieldType.int)) ∈ lw_all := lw_g (lw_at lw_m7 11 rfl) rfl
theorem q1527 : (Jvm.Cond.methodLink "PromisePoundsModel" (224 : Nat) ({ cls := "PromisePoundsModel", name := "isBorne", desc := "(I)Z" } : Jvm.MethodName)) ∈ lw_all := lw_g (lw_at lw_m7 12 rfl) rfl
theorem q1528 : (Jvm.Cond.privateMethod ({ cls := "PromisePoundsModel", name := "isBorne", desc := "(I)Z" } : Jvm.MethodName)) ∈ lw_tbl := lw_at lw_m7 13 rfl
theorem q1529 : (Jvm.Cond.instanceMethod ({ cls := "PromisePoundsModel", name := "isBorne", desc := "(I)Z" } : Jvm.MethodName)) ∈ lw_all := lw_g (lw_at lw_m7 14 rfl) rfl
theorem q1530 : (Jvm.Cond.code ({ cls := "PromisePoundsModel", name := "isBorne", desc := "(I)Z" } : Jvm.MethodName) prog_16_method_59_code (6 : Nat) (Option.some Jvm.ClassFile.FieldType.boolean)) ∈ lw_all := lw_g (lw_at lw_m7 15 rfl) rfl
theorem q1532 : (Jvm.Cond.instanceMethod ({ cls := "PromisePoundsModel", name := "scale", desc := "(II)I" } : Jvm.MethodName)) ∈ lw_all := lw_g (lw_at lw_m7 17 rfl) rfl
theorem q1533 : (Jvm.Cond.selects "PromisePoundsModel" ({ cls := "PromisePoundsModel", name := "scale", desc := "(II)I" } : Jvm.MethodName) ({ cls := "PromisePoundsModel", name := "scale", desc := "(II)I" } : Jvm.MethodName)) ∈ lw_all := lw_g (lw_at lw_m7 18 rfl) rfl
theorem q1534 : (Jvm.Cond.code ({ cls := "PromisePoundsModel", name := "scale", desc := "(II)I" } : Jvm.MethodName) prog_16_method_61_code (8 : Nat) (Option.some Jvm.ClassFile.FieldType.int)) ∈ lw_all := lw_g (lw_at lw_m7 19 rfl) rfl
theorem q1535 : (Jvm.Cond.constantLong "PromisePoundsModel" (227 : Nat) (200 : Int64)) ∈ lw_all := lw_g (lw_at lw_m7 20 rfl) rfl
theorem q1537 : (Jvm.Cond.instanceMethod ({ cls := "PromisePoundsModel", name := "lies", desc := "(II)I" } : Jvm.MethodName)) ∈ lw_all := lw_g (lw_at lw_m7 22 rfl) rfl
theorem q1538 : (Jvm.Cond.selects "PromisePoundsModel" ({ cls := "PromisePoundsModel", name := "lies", desc := "(II)I" } : Jvm.MethodName) ({ cls := "PromisePoundsModel", name := "lies", desc := "(II)I" } : Jvm.MethodName)) ∈ lw_all := lw_g (lw_at lw_m7 23 rfl) rfl
theorem q1539 : (Jvm.Cond.code ({ cls := "PromisePoundsModel", name := "lies", desc := "(II)I" } : Jvm.MethodName) prog_16_method_62_code (6 : Nat) (Option.some Jvm.ClassFile.FieldType.int)) ∈ lw_all := lw_g (lw_at lw_m7 24 rfl) rfl
theorem q1541 : (Jvm.Cond.instanceMethod ({ cls := "PromisePoundsModel", name := "crushed", desc := "(I)I" } : Jvm.MethodName)) ∈ lw_all := lw_g (lw_at lw_m7 26 rfl) rfl
theorem q1542 : (Jvm.Cond.selects "PromisePoundsModel" ({ cls := "PromisePoundsModel", name := "crushed", desc := "(I)I" } : Jvm.MethodName) ({ cls := "PromisePoundsModel", name := "crushed", desc := "(I)I" } : Jvm.MethodName)) ∈ lw_all := lw_g (lw_at lw_m7 27 rfl) rfl
theorem q1543 : (Jvm.Cond.code ({ cls := "PromisePoundsModel", name := "crushed", desc := "(I)I" } : Jvm.MethodName) prog_16_method_66_code (4 : Nat) (Option.some Jvm.ClassFile.FieldType.int)) ∈ lw_all := lw_g (lw_at lw_m7 28 rfl) rfl
theorem q1544 : (Jvm.Cond.constantLong "PromisePoundsModel" (229 : Nat) (60 : Int64)) ∈ lw_all := lw_g (lw_at lw_m7 29 rfl) rfl
theorem q1545 : (Jvm.Cond.methodLink "PromisePoundsModel" (231 : Nat) ({ cls := "PromisePoundsModel", name := "lays", desc := "()V" } : Jvm.MethodName)) ∈ lw_all := lw_g (lw_at lw_m7 30 rfl) rfl
theorem q1546 : (Jvm.Cond.privateMethod ({ cls := "PromisePoundsModel", name := "lays", desc := "()V" } : Jvm.MethodName)) ∈ lw_tbl := lw_at lw_m7 31 rfl
theorem q1547 : (Jvm.Cond.instanceMethod ({ cls := "PromisePoundsModel", name := "lays", desc := "()V" } : Jvm.MethodName)) ∈ lw_all := lw_g (lw_at lw_m7 32 rfl) rfl
theorem q1548 : (Jvm.Cond.code ({ cls := "PromisePoundsModel", name := "lays", desc := "()V" } : Jvm.MethodName) prog_16_method_64_code (2 : Nat) (Option.none : Option Jvm.ClassFile.FieldType)) ∈ lw_all := lw_g (lw_at lw_m7 33 rfl) rfl
theorem q1549 : (Jvm.Cond.methodLink "PromisePoundsModel" (234 : Nat) ({ cls := "PromisePoundsModel", name := "crushedNow", desc := "()I" } : Jvm.MethodName)) ∈ lw_all := lw_g (lw_at lw_m7 34 rfl) rfl
theorem q1550 : (Jvm.Cond.privateMethod ({ cls := "PromisePoundsModel", name := "crushedNow", desc := "()I" } : Jvm.MethodName)) ∈ lw_tbl := lw_at lw_m7 35 rfl
theorem q1551 : (Jvm.Cond.instanceMethod ({ cls := "PromisePoundsModel", name := "crushedNow", desc := "()I" } : Jvm.MethodName)) ∈ lw_all := lw_g (lw_at lw_m7 36 rfl) rfl
theorem q1552 : (Jvm.Cond.code ({ cls := "PromisePoundsModel", name := "crushedNow", desc := "()I" } : Jvm.MethodName) prog_16_method_63_code (3 : Nat) (Option.some Jvm.ClassFile.FieldType.int)) ∈ lw_all := lw_g (lw_at lw_m7 37 rfl) rfl
theorem q1553 : (Jvm.Cond.methodLink "PromisePoundsModel" (237 : Nat) ({ cls := "PromisePoundsModel", name := "putsBack", desc := "()V" } : Jvm.MethodName)) ∈ lw_all := lw_g (lw_at lw_m7 38 rfl) rfl
theorem q1554 : (Jvm.Cond.privateMethod ({ cls := "PromisePoundsModel", name := "putsBack", desc := "()V" } : Jvm.MethodName)) ∈ lw_tbl := lw_at lw_m7 39 rfl
theorem q1555 : (Jvm.Cond.instanceMethod ({ cls := "PromisePoundsModel", name := "putsBack", desc := "()V" } : Jvm.MethodName)) ∈ lw_all := lw_g (lw_at lw_m7 40 rfl) rfl
theorem q1556 : (Jvm.Cond.code ({ cls := "PromisePoundsModel", name := "putsBack", desc := "()V" } : Jvm.MethodName) prog_16_method_65_code (2 : Nat) (Option.none : Option Jvm.ClassFile.FieldType)) ∈ lw_all := lw_g (lw_at lw_m7 41 rfl) rfl
theorem q1558 : (Jvm.Cond.instanceMethod ({ cls := "PromisePoundsModel", name := "late", desc := "()I" } : Jvm.MethodName)) ∈ lw_all := lw_g (lw_at lw_m7 43 rfl) rfl
theorem q1559 : (Jvm.Cond.selects "PromisePoundsModel" ({ cls := "PromisePoundsModel", name := "late", desc := "()I" } : Jvm.MethodName) ({ cls := "PromisePoundsModel", name := "late", desc := "()I" } : Jvm.MethodName)) ∈ lw_all := lw_g (lw_at lw_m7 44 rfl) rfl
theorem q1560 : (Jvm.Cond.code ({ cls := "PromisePoundsModel", name := "late", desc := "()I" } : Jvm.MethodName) prog_16_method_67_code (3 : Nat) (Option.some Jvm.ClassFile.FieldType.int)) ∈ lw_all := lw_g (lw_at lw_m7 45 rfl) rfl
theorem q1562 : (Jvm.Cond.instanceMethod ({ cls := "PromisePoundsModel", name := "year", desc := "(III)I" } : Jvm.MethodName)) ∈ lw_all := lw_g (lw_at lw_m7 47 rfl) rfl
theorem q1563 : (Jvm.Cond.selects "PromisePoundsModel" ({ cls := "PromisePoundsModel", name := "year", desc := "(III)I" } : Jvm.MethodName) ({ cls := "PromisePoundsModel", name := "year", desc := "(III)I" } : Jvm.MethodName)) ∈ lw_all := lw_g (lw_at lw_m7 48 rfl) rfl
theorem q1564 : (Jvm.Cond.code ({ cls := "PromisePoundsModel", name := "year", desc := "(III)I" } : Jvm.MethodName) prog_16_method_68_code (9 : Nat) (Option.some Jvm.ClassFile.FieldType.int)) ∈ lw_all := lw_g (lw_at lw_m7 49 rfl) rfl
theorem q1565 : (Jvm.Cond.constantLong "PromisePoundsModel" (240 : Nat) (999999 : Int64)) ∈ lw_all := lw_g (lw_at lw_m7 50 rfl) rfl
theorem q1566 : (Jvm.Cond.constantLong "PromisePoundsModel" (242 : Nat) (16807 : Int64)) ∈ lw_all := lw_g (lw_at lw_m7 51 rfl) rfl
theorem q1567 : (Jvm.Cond.constantLong "PromisePoundsModel" (244 : Nat) (2147483647 : Int64)) ∈ lw_all := lw_g (lw_at lw_m7 52 rfl) rfl
theorem q1569 : (Jvm.Cond.instanceMethod ({ cls := "PromisePoundsModel", name := "image", desc := "(I)I" } : Jvm.MethodName)) ∈ lw_all := lw_g (lw_at lw_m7 54 rfl) rfl
theorem q1570 : (Jvm.Cond.selects "PromisePoundsModel" ({ cls := "PromisePoundsModel", name := "image", desc := "(I)I" } : Jvm.MethodName) ({ cls := "PromisePoundsModel", name := "image", desc := "(I)I" } : Jvm.MethodName)) ∈ lw_all := lw_g (lw_at lw_m7 55 rfl) rfl
theorem q1571 : (Jvm.Cond.code ({ cls := "PromisePoundsModel", name := "image", desc := "(I)I" } : Jvm.MethodName) prog_16_method_69_code (3 : Nat) (Option.some Jvm.ClassFile.FieldType.int)) ∈ lw_all := lw_g (lw_at lw_m7 56 rfl) rfl
theorem q1573 : (Jvm.Cond.instanceMethod ({ cls := "PromisePoundsModel", name := "restore", desc := "(I)I" } : Jvm.MethodName)) ∈ lw_all := lw_g (lw_at lw_m7 58 rfl) rfl
theorem q1574 : (Jvm.Cond.selects "PromisePoundsModel" ({ cls := "PromisePoundsModel", name := "restore", desc := "(I)I" } : Jvm.MethodName) ({ cls := "PromisePoundsModel", name := "restore", desc := "(I)I" } : Jvm.MethodName)) ∈ lw_all := lw_g (lw_at lw_m7 59 rfl) rfl
theorem q1575 : (Jvm.Cond.code ({ cls := "PromisePoundsModel", name := "restore", desc := "(I)I" } : Jvm.MethodName) prog_16_method_70_code (3 : Nat) (Option.some Jvm.ClassFile.FieldType.int)) ∈ lw_all := lw_g (lw_at lw_m7 60 rfl) rfl
theorem q1577 : (Jvm.Cond.instanceMethod ({ cls := "PromisePoundsModel", name := "kind", desc := "(I)I" } : Jvm.MethodName)) ∈ lw_all := lw_g (lw_at lw_m7 62 rfl) rfl
theorem q1578 : (Jvm.Cond.selects "PromisePoundsModel" ({ cls := "PromisePoundsModel", name := "kind", desc := "(I)I" } : Jvm.MethodName) ({ cls := "PromisePoundsModel", name := "kind", desc := "(I)I" } : Jvm.MethodName)) ∈ lw_all := lw_g (lw_at lw_m7 63 rfl) rfl
theorem q1579 : (Jvm.Cond.code ({ cls := "PromisePoundsModel", name := "kind", desc := "(I)I" } : Jvm.MethodName) prog_16_method_72_code (2 : Nat) (Option.some Jvm.ClassFile.FieldType.int)) ∈ lw_all := lw_g (lw_at lw_m7 64 rfl) rfl
theorem q1581 : (Jvm.Cond.instanceMethod ({ cls := "PromisePoundsModel", name := "as", desc := "(II)I" } : Jvm.MethodName)) ∈ lw_all := lw_g (lw_at lw_m7 66 rfl) rfl
theorem q1582 : (Jvm.Cond.selects "PromisePoundsModel" ({ cls := "PromisePoundsModel", name := "as", desc := "(II)I" } : Jvm.MethodName) ({ cls := "PromisePoundsModel", name := "as", desc := "(II)I" } : Jvm.MethodName)) ∈ lw_all := lw_g (lw_at lw_m7 67 rfl) rfl
theorem q1583 : (Jvm.Cond.code ({ cls := "PromisePoundsModel", name := "as", desc := "(II)I" } : Jvm.MethodName) prog_16_method_74_code (3 : Nat) (Option.some Jvm.ClassFile.FieldType.int)) ∈ lw_all := lw_g (lw_at lw_m7 68 rfl) rfl
theorem q1584 : (Jvm.Cond.methodLink "PromisePoundsModel" (249 : Nat) ({ cls := "PromisePoundsModel", name := "isOf", desc := "(II)Z" } : Jvm.MethodName)) ∈ lw_all := lw_g (lw_at lw_m7 69 rfl) rfl
theorem q1585 : (Jvm.Cond.static ({ cls := "PromisePoundsModel", name := "isOf", desc := "(II)Z" } : Jvm.MethodName)) ∈ lw_all := lw_g (lw_at lw_m7 70 rfl) rfl
theorem q1586 : (Jvm.Cond.code ({ cls := "PromisePoundsModel", name := "isOf", desc := "(II)Z" } : Jvm.MethodName) prog_16_method_73_code (2 : Nat) (Option.some Jvm.ClassFile.FieldType.boolean)) ∈ lw_all := lw_g (lw_at lw_m7 71 rfl) rfl
theorem q1588 : (Jvm.Cond.instanceMethod ({ cls := "PromisePoundsModel", name := "ask", desc := "(II)I" } : Jvm.MethodName)) ∈ lw_all := lw_g (lw_at lw_m7 73 rfl) rfl
theorem q1589 : (Jvm.Cond.selects "PromisePoundsModel" ({ cls := "PromisePoundsModel", name := "ask", desc := "(II)I" } : Jvm.MethodName) ({ cls := "PromisePoundsModel", name := "ask", desc := "(II)I" } : Jvm.MethodName)) ∈ lw_all := lw_g (lw_at lw_m7 74 rfl) rfl
theorem q1590 : (Jvm.Cond.code ({ cls := "PromisePoundsModel", name := "ask", desc := "(II)I" } : Jvm.MethodName) prog_16_method_83_code (3 : Nat) (Option.some Jvm.ClassFile.FieldType.int)) ∈ lw_all := lw_g (lw_at lw_m7 75 rfl) rfl
theorem q1591 : (Jvm.Cond.methodLink "PromisePoundsModel" (274 : Nat) ({ cls := "PromisePoundsModel", name := "sizeOf", desc := "(I)I" } : Jvm.MethodName)) ∈ lw_all := lw_g (lw_at lw_m7 76 rfl) rfl
theorem q1592 : (Jvm.Cond.privateMethod ({ cls := "PromisePoundsModel", name := "sizeOf", desc := "(I)I" } : Jvm.MethodName)) ∈ lw_tbl := lw_at lw_m7 77 rfl
theorem q1593 : (Jvm.Cond.instanceMethod ({ cls := "PromisePoundsModel", name := "sizeOf", desc := "(I)I" } : Jvm.MethodName)) ∈ lw_all := lw_g (lw_at lw_m7 78 rfl) rfl
theorem q1594 : (Jvm.Cond.code ({ cls := "PromisePoundsModel", name := "sizeOf", desc := "(I)I" } : Jvm.MethodName) prog_16_method_81_code (2 : Nat) (Option.some Jvm.ClassFile.FieldType.int)) ∈ lw_all := lw_g (lw_at lw_m7 79 rfl) rfl
theorem q1595 : (Jvm.Cond.methodLink "PromisePoundsModel" (252 : Nat) ({ cls := "PromisePoundsModel", name := "leaves", desc := "(I)V" } : Jvm.MethodName)) ∈ lw_all := lw_g (lw_at lw_m7 80 rfl) rfl
theorem q1596 : (Jvm.Cond.privateMethod ({ cls := "PromisePoundsModel", name := "leaves", desc := "(I)V" } : Jvm.MethodName)) ∈ lw_tbl := lw_at lw_m7 81 rfl
theorem q1597 : (Jvm.Cond.instanceMethod ({ cls := "PromisePoundsModel", name := "leaves", desc := "(I)V" } : Jvm.MethodName)) ∈ lw_all := lw_g (lw_at lw_m7 82 rfl) rfl
theorem q1598 : (Jvm.Cond.code ({ cls := "PromisePoundsModel", name := "leaves", desc := "(I)V" } : Jvm.MethodName) prog_16_method_71_code (2 : Nat) (Option.none : Option Jvm.ClassFile.FieldType)) ∈ lw_all := lw_g (lw_at lw_m7 83 rfl) rfl
theorem q1599 : (Jvm.Cond.methodLink "PromisePoundsModel" (268 : Nat) ({ cls := "PromisePoundsModel", name := "grownSize", desc := "(I)I" } : Jvm.MethodName)) ∈ lw_all := lw_g (lw_at lw_m7 84 rfl) rfl
theorem q1600 : (Jvm.Cond.privateMethod ({ cls := "PromisePoundsModel", name := "grownSize", desc := "(I)I" } : Jvm.MethodName)) ∈ lw_tbl := lw_at lw_m7 85 rfl
theorem q1601 : (Jvm.Cond.instanceMethod ({ cls := "PromisePoundsModel", name := "grownSize", desc := "(I)I" } : Jvm.MethodName)) ∈ lw_all := lw_g (lw_at lw_m7 86 rfl) rfl
theorem q1602 : (Jvm.Cond.code ({ cls := "PromisePoundsModel", name := "grownSize", desc := "(I)I" } : Jvm.MethodName) prog_16_method_79_code (3 : Nat) (Option.some Jvm.ClassFile.FieldType.int)) ∈ lw_all := lw_g (lw_at lw_m7 87 rfl) rfl
theorem q1603 : (Jvm.Cond.methodLink "PromisePoundsModel" (262 : Nat) ({ cls := "PromisePoundsModel", name := "bareSize", desc := "(I)I" } : Jvm.MethodName)) ∈ lw_all := lw_g (lw_at lw_m7 88 rfl) rfl
theorem q1604 : (Jvm.Cond.privateMethod ({ cls := "PromisePoundsModel", name := "bareSize", desc := "(I)I" } : Jvm.MethodName)) ∈ lw_tbl := lw_at lw_m7 89 rfl
theorem q1605 : (Jvm.Cond.instanceMethod ({ cls := "PromisePoundsModel", name := "bareSize", desc := "(I)I" } : Jvm.MethodName)) ∈ lw_all := lw_g (lw_at lw_m7 90 rfl) rfl
theorem q1606 : (Jvm.Cond.code ({ cls := "PromisePoundsModel", name := "bareSize", desc := "(I)I" } : Jvm.MethodName) prog_16_method_75_code (2 : Nat) (Option.some Jvm.ClassFile.FieldType.int)) ∈ lw_all := lw_g (lw_at lw_m7 91 rfl) rfl
theorem q1607 : (Jvm.Cond.methodLink "PromisePoundsModel" (265 : Nat) ({ cls := "PromisePoundsModel", name := "markOfGrown", desc := "(I)I" } : Jvm.MethodName)) ∈ lw_all := lw_g (lw_at lw_m7 92 rfl) rfl
theorem q1608 : (Jvm.Cond.privateMethod ({ cls := "PromisePoundsModel", name := "markOfGrown", desc := "(I)I" } : Jvm.MethodName)) ∈ lw_tbl := lw_at lw_m7 93 rfl
theorem q1609 : (Jvm.Cond.instanceMethod ({ cls := "PromisePoundsModel", name := "markOfGrown", desc := "(I)I" } : Jvm.MethodName)) ∈ lw_all := lw_g (lw_at lw_m7 94 rfl) rfl
theorem q1610 : (Jvm.Cond.code ({ cls := "PromisePoundsModel", name := "markOfGrown", desc := "(I)I" } : Jvm.MethodName) prog_16_method_78_code (2 : Nat) (Option.some Jvm.ClassFile.FieldType.int)) ∈ lw_all := lw_g (lw_at lw_m7 95 rfl) rfl
theorem q1611 : (Jvm.Cond.methodLink "PromisePoundsModel" (259 : Nat) ({ cls := "PromisePoundsModel", name := "grownMark", desc := "(I)I" } : Jvm.MethodName)) ∈ lw_all := lw_g (lw_at lw_m7 96 rfl) rfl
theorem q1612 : (Jvm.Cond.privateMethod ({ cls := "PromisePoundsModel", name := "grownMark", desc := "(I)I" } : Jvm.MethodName)) ∈ lw_tbl := lw_at lw_m7 97 rfl
theorem q1613 : (Jvm.Cond.instanceMethod ({ cls := "PromisePoundsModel", name := "grownMark", desc := "(I)I" } : Jvm.MethodName)) ∈ lw_all := lw_g (lw_at lw_m7 98 rfl) rfl
theorem q1614 : (Jvm.Cond.code ({ cls := "PromisePoundsModel", name := "grownMark", desc := "(I)I" } : Jvm.MethodName) prog_16_method_77_code (2 : Nat) (Option.some Jvm.ClassFile.FieldType.int)) ∈ lw_all := lw_g (lw_at lw_m7 99 rfl) rfl
theorem q1615 : (Jvm.Cond.methodLink "PromisePoundsModel" (256 : Nat) ({ cls := "PromisePoundsModel", name := "bareMark", desc := "(I)I" } : Jvm.MethodName)) ∈ lw_all := lw_g (lw_at lw_m7 100 rfl) rfl
theorem q1616 : (Jvm.Cond.privateMethod ({ cls := "PromisePoundsModel", name := "bareMark", desc := "(I)I" } : Jvm.MethodName)) ∈ lw_tbl := lw_at lw_m7 101 rfl
theorem q1617 : (Jvm.Cond.instanceMethod ({ cls := "PromisePoundsModel", name := "bareMark", desc := "(I)I" } : Jvm.MethodName)) ∈ lw_all := lw_g (lw_at lw_m7 102 rfl) rfl
theorem q1618 : (Jvm.Cond.code ({ cls := "PromisePoundsModel", name := "bareMark", desc := "(I)I" } : Jvm.MethodName) prog_16_method_76_code (2 : Nat) (Option.some Jvm.ClassFile.FieldType.int)) ∈ lw_all := lw_g (lw_at lw_m7 103 rfl) rfl
theorem q1619 : (Jvm.Cond.methodLink "PromisePoundsModel" (271 : Nat) ({ cls := "PromisePoundsModel", name := "childSize", desc := "(I)I" } : Jvm.MethodName)) ∈ lw_all := lw_g (lw_at lw_m7 104 rfl) rfl
theorem q1620 : (Jvm.Cond.privateMethod ({ cls := "PromisePoundsModel", name := "childSize", desc := "(I)I" } : Jvm.MethodName)) ∈ lw_tbl := lw_at lw_m7 105 rfl
theorem q1621 : (Jvm.Cond.instanceMethod ({ cls := "PromisePoundsModel", name := "childSize", desc := "(I)I" } : Jvm.MethodName)) ∈ lw_all := lw_g (lw_at lw_m7 106 rfl) rfl
theorem q1622 : (Jvm.Cond.code ({ cls := "PromisePoundsModel", name := "childSize", desc := "(I)I" } : Jvm.MethodName) prog_16_method_80_code (2 : Nat) (Option.some Jvm.ClassFile.FieldType.int)) ∈ lw_all := lw_g (lw_at lw_m7 107 rfl) rfl
theorem q1623 : (Jvm.Cond.methodLink "PromisePoundsModel" (277 : Nat) ({ cls := "PromisePoundsModel", name := "markOf", desc := "(I)I" } : Jvm.MethodName)) ∈ lw_all := lw_g (lw_at lw_m7 108 rfl) rfl
theorem q1624 : (Jvm.Cond.privateMethod ({ cls := "PromisePoundsModel", name := "markOf", desc := "(I)I" } : Jvm.MethodName)) ∈ lw_tbl := lw_at lw_m7 109 rfl
theorem q1625 : (Jvm.Cond.instanceMethod ({ cls := "PromisePoundsModel", name := "markOf", desc := "(I)I" } : Jvm.MethodName)) ∈ lw_all := lw_g (lw_at lw_m7 110 rfl) rfl
theorem q1626 : (Jvm.Cond.code ({ cls := "PromisePoundsModel", name := "markOf", desc := "(I)I" } : Jvm.MethodName) prog_16_method_82_code (3 : Nat) (Option.some Jvm.ClassFile.FieldType.int)) ∈ lw_all := lw_g (lw_at lw_m7 111 rfl) rfl
theorem q1628 : (Jvm.Cond.instanceMethod ({ cls := "PromisePoundsModel", name := "trace", desc := "(I)I" } : Jvm.MethodName)) ∈ lw_all := lw_g (lw_at lw_m7 113 rfl) rfl
theorem q1629 : (Jvm.Cond.selects "PromisePoundsModel" ({ cls := "PromisePoundsModel", name := "trace", desc := "(I)I" } : Jvm.MethodName) ({ cls := "PromisePoundsModel", name := "trace", desc := "(I)I" } : Jvm.MethodName)) ∈ lw_all := lw_g (lw_at lw_m7 114 rfl) rfl
theorem q1630 : (Jvm.Cond.code ({ cls := "PromisePoundsModel", name := "trace", desc := "(I)I" } : Jvm.MethodName) prog_16_method_84_code (2 : Nat) (Option.some Jvm.ClassFile.FieldType.int)) ∈ lw_all := lw_g (lw_at lw_m7 115 rfl) rfl
theorem q1632 : (Jvm.Cond.instanceMethod ({ cls := "PromisePoundsModel", name := "count", desc := "(I)I" } : Jvm.MethodName)) ∈ lw_all := lw_g (lw_at lw_m7 117 rfl) rfl
theorem q1633 : (Jvm.Cond.selects "PromisePoundsModel" ({ cls := "PromisePoundsModel", name := "count", desc := "(I)I" } : Jvm.MethodName) ({ cls := "PromisePoundsModel", name := "count", desc := "(I)I" } : Jvm.MethodName)) ∈ lw_all := lw_g (lw_at lw_m7 118 rfl) rfl
theorem q1634 : (Jvm.Cond.code ({ cls := "PromisePoundsModel", name := "count", desc := "(I)I" } : Jvm.MethodName) prog_16_method_87_code (2 : Nat) (Option.some Jvm.ClassFile.FieldType.int)) ∈ lw_all := lw_g (lw_at lw_m7 119 rfl) rfl
theorem q1635 : (Jvm.Cond.methodLink "PromisePoundsModel" (280 : Nat) ({ cls := "PromisePoundsModel", name := "rowsMany", desc := "()I" } : Jvm.MethodName)) ∈ lw_all := lw_g (lw_at lw_m7 120 rfl) rfl
theorem q1636 : (Jvm.Cond.privateMethod ({ cls := "PromisePoundsModel", name := "rowsMany", desc := "()I" } : Jvm.MethodName)) ∈ lw_tbl := lw_at lw_m7 121 rfl
theorem q1637 : (Jvm.Cond.instanceMethod ({ cls := "PromisePoundsModel", name := "rowsMany", desc := "()I" } : Jvm.MethodName)) ∈ lw_all := lw_g (lw_at lw_m7 122 rfl) rfl
theorem q1638 : (Jvm.Cond.code ({ cls := "PromisePoundsModel", name := "rowsMany", desc := "()I" } : Jvm.MethodName) prog_16_method_85_code (3 : Nat) (Option.some Jvm.ClassFile.FieldType.int)) ∈ lw_all := lw_g (lw_at lw_m7 123 rfl) rfl
theorem q1639 : (Jvm.Cond.methodLink "PromisePoundsModel" (283 : Nat) ({ cls := "PromisePoundsModel", name := "keptMany", desc := "()I" } : Jvm.MethodName)) ∈ lw_all := lw_g (lw_at lw_m7 124 rfl) rfl
theorem q1640 : (Jvm.Cond.privateMethod ({ cls := "PromisePoundsModel", name := "keptMany", desc := "()I" } : Jvm.MethodName)) ∈ lw_tbl := lw_at lw_m7 125 rfl
theorem q1641 : (Jvm.Cond.instanceMethod ({ cls := "PromisePoundsModel", name := "keptMany", desc := "()I" } : Jvm.MethodName)) ∈ lw_all := lw_g (lw_at lw_m7 126 rfl) rfl
theorem q1642 : (Jvm.Cond.code ({ cls := "PromisePoundsModel", name := "keptMany", desc := "()I" } : Jvm.MethodName) prog_16_method_86_code (3 : Nat) (Option.some Jvm.ClassFile.FieldType.int)) ∈ lw_all := lw_g (lw_at lw_m7 127 rfl) rfl
theorem q1644 : (Jvm.Cond.instanceMethod ({ cls := "PromisePoundsModel", name := "status", desc := "()I" } : Jvm.MethodName)) ∈ lw_all := lw_g (lw_at lw_m7 129 rfl) rfl
theorem q1645 : (Jvm.Cond.selects "PromisePoundsModel" ({ cls := "PromisePoundsModel", name := "status", desc := "()I" } : Jvm.MethodName) ({ cls := "PromisePoundsModel", name := "status", desc := "()I" } : Jvm.MethodName)) ∈ lw_all := lw_g (lw_at lw_m7 130 rfl) rfl
theorem q1646 : (Jvm.Cond.code ({ cls := "PromisePoundsModel", name := "status", desc := "()I" } : Jvm.MethodName) prog_16_method_88_code (1 : Nat) (Option.some Jvm.ClassFile.FieldType.int)) ∈ lw_all := lw_g (lw_at lw_m7 131 rfl) rfl
theorem q1667 : (Jvm.Cond.castable "PromisePoundsModel" "java/lang/Object") ∈ lw_tbl := lw_at lw_m7 152 rfl
theorem in_X3 : ∀ w ∈ wsX30, w ∈ lw_all := lw_in wsX30 [1236, 1238, 1240, 1242, 1244, 1246, 1248, 1250, 1252, 1254, 1256, 1258, 1260, 1262, 1264, 1266, 1268, 1270, 1272, 1274, 1276, 1278, 1280, 1282] (by decide +kernel) (by decide +kernel)
