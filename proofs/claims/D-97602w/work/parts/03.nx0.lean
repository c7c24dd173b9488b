/-! PromisePounds -/
set_option maxRecDepth 100000
def RX0 : String := "PromisePounds"
def TX0 : u_T := fun k => match k with
  | 0 => ("PromisePounds", "rows", "[LPromisePounds$Row;", true)
  | 1 => ("PromisePounds", "tape", "[B", true)
  | 2 => ("PromisePounds", "taped", "I", false)
  | 3 => ("PromisePounds", "faultKind", "I", false)
  | 4 => ("PromisePounds", "parish", "LPromisePounds$Parish;", true)
  | 5 => ("PromisePounds", "trial", "LPromisePounds$Parish;", true)
  | 6 => ("PromisePounds", "past", "[LPromisePounds$Parish;", true)
  | 7 => ("PromisePounds", "acts", "I", false)
  | 8 => ("PromisePounds", "images", "[LPromisePounds$Parish;", true)
  | 9 => ("PromisePounds", "trail", "LPromisePounds$Trail;", false)
  | 10 => ("PromisePounds", "status", "I", false)
  | 11 => ("PromisePounds", "line", "[I", true)
  | 12 => ("PromisePounds", "bestLine", "[I", true)
  | 13 => ("PromisePounds", "most", "I", false)
  | 14 => ("PromisePounds", "sets", "I", false)
  | 15 => ("PromisePounds", "having", "[I", true)
  | _ => ("PromisePounds", "leastSet", "I", false)
def tyX0 : Nat → FieldType := fun k => match k with
  | 0 => .array (.object "PromisePounds$Row")
  | 1 => .array .byte
  | 2 => .int
  | 3 => .int
  | 4 => .object "PromisePounds$Parish"
  | 5 => .object "PromisePounds$Parish"
  | 6 => .array (.object "PromisePounds$Parish")
  | 7 => .int
  | 8 => .array (.object "PromisePounds$Parish")
  | 9 => .object "PromisePounds$Trail"
  | 10 => .int
  | 11 => .array .int
  | 12 => .array .int
  | 13 => .int
  | 14 => .int
  | 15 => .array .int
  | _ => .int
abbrev wsX00 : List Cond := u_ws RX0 TX0 17
set_option maxRecDepth 100000 in
theorem nmX0 : ∀ a, a < 17 → ∀ b, b < 17 → a ≠ b → (TX0 a).2.1 ≠ (TX0 b).2.1 := by decide +kernel
set_option maxRecDepth 100000 in
theorem tyX0_ok : ∀ k, k < 17 → parseFieldDescriptor (TX0 k).2.2.1 = some (tyX0 k) := by decide +kernel
abbrev cX0_init : ByteArray := prog_1_method_4_code
def yX0_init : MethodName := ⟨RX0, "<init>", "()V"⟩
def dkwX0_init_4 : List UInt8 := [181, 0, 67, 177]
abbrev dktX0_init_4 : List UInt8 := dkwX0_init_4 ++ []
def dkwX0_init_3 : List UInt8 := [181, 0, 56, 42, 16, 8, 188, 10, 181, 0, 60, 42, 16, 8, 188, 10, 181, 0, 64, 42, 16, 8, 188, 10]
abbrev dktX0_init_3 : List UInt8 := dkwX0_init_3 ++ dktX0_init_4
def dkwX0_init_2 : List UInt8 := [189, 0, 36, 181, 0, 46, 42, 5, 189, 0, 36, 181, 0, 50, 42, 187, 0, 53, 89, 183, 0, 55]
abbrev dktX0_init_2 : List UInt8 := dkwX0_init_2 ++ dktX0_init_3
def dkwX0_init_1 : List UInt8 := [187, 0, 36, 89, 183, 0, 38, 181, 0, 39, 42, 187, 0, 36, 89, 183, 0, 38, 181, 0, 43, 42, 16, 24]
abbrev dktX0_init_1 : List UInt8 := dkwX0_init_1 ++ dktX0_init_2
def dkwX0_init_0 : List UInt8 := [42, 183, 0, 19, 42, 16, 8, 189, 0, 26, 181, 0, 28, 42, 16, 120, 188, 8, 181, 0, 32, 42]
abbrev dktX0_init_0 : List UInt8 := dkwX0_init_0 ++ dktX0_init_1
theorem dksX0_init_0 : cX0_init.data.toList.drop 0 = dktX0_init_0 := by decide +kernel
theorem dksX0_init_1 : cX0_init.data.toList.drop 22 = dktX0_init_1 := dk_seg dksX0_init_0 22 rfl rfl
theorem dksX0_init_2 : cX0_init.data.toList.drop 46 = dktX0_init_2 := dk_seg dksX0_init_1 24 rfl rfl
theorem dksX0_init_3 : cX0_init.data.toList.drop 68 = dktX0_init_3 := dk_seg dksX0_init_2 22 rfl rfl
theorem dksX0_init_4 : cX0_init.data.toList.drop 92 = dktX0_init_4 := dk_seg dksX0_init_3 24 rfl rfl
theorem dX0_init_0 : decode cX0_init 0 = .ok (.aload_n 0, 1) := dk_42 (dk_at dksX0_init_0 0 rfl rfl)
theorem dX0_init_1 : decode cX0_init 1 = .ok (.invokespecial 19, 3) := dk_183 0 19 (dk_at dksX0_init_0 1 rfl rfl)
theorem dX0_init_4 : decode cX0_init 4 = .ok (.aload_n 0, 1) := dk_42 (dk_at dksX0_init_0 4 rfl rfl)
theorem dX0_init_5 : decode cX0_init 5 = .ok (.bipush 8, 2) := dk_16 8 (dk_at dksX0_init_0 5 rfl rfl)
theorem dX0_init_7 : decode cX0_init 7 = .ok (.anewarray 26, 3) := dk_189 0 26 (dk_at dksX0_init_0 7 rfl rfl)
theorem dX0_init_10 : decode cX0_init 10 = .ok (.putfield 28, 3) := dk_181 0 28 (dk_at dksX0_init_0 10 rfl rfl)
theorem dX0_init_13 : decode cX0_init 13 = .ok (.aload_n 0, 1) := dk_42 (dk_at dksX0_init_0 13 rfl rfl)
theorem dX0_init_14 : decode cX0_init 14 = .ok (.bipush 120, 2) := dk_16 120 (dk_at dksX0_init_0 14 rfl rfl)
theorem dX0_init_16 : decode cX0_init 16 = .ok (.newarray .byte, 2) := dk_188_8 (dk_at dksX0_init_0 16 rfl rfl)
theorem dX0_init_18 : decode cX0_init 18 = .ok (.putfield 32, 3) := dk_181 0 32 (dk_at dksX0_init_0 18 rfl rfl)
theorem dX0_init_21 : decode cX0_init 21 = .ok (.aload_n 0, 1) := dk_42 (dk_at dksX0_init_0 21 rfl rfl)
theorem dX0_init_22 : decode cX0_init 22 = .ok (.new 36, 3) := dk_187 0 36 (dk_at dksX0_init_1 0 rfl rfl)
theorem dX0_init_25 : decode cX0_init 25 = .ok (.dup, 1) := dk_89 (dk_at dksX0_init_1 3 rfl rfl)
theorem dX0_init_26 : decode cX0_init 26 = .ok (.invokespecial 38, 3) := dk_183 0 38 (dk_at dksX0_init_1 4 rfl rfl)
theorem dX0_init_29 : decode cX0_init 29 = .ok (.putfield 39, 3) := dk_181 0 39 (dk_at dksX0_init_1 7 rfl rfl)
theorem dX0_init_32 : decode cX0_init 32 = .ok (.aload_n 0, 1) := dk_42 (dk_at dksX0_init_1 10 rfl rfl)
theorem dX0_init_33 : decode cX0_init 33 = .ok (.new 36, 3) := dk_187 0 36 (dk_at dksX0_init_1 11 rfl rfl)
theorem dX0_init_36 : decode cX0_init 36 = .ok (.dup, 1) := dk_89 (dk_at dksX0_init_1 14 rfl rfl)
theorem dX0_init_37 : decode cX0_init 37 = .ok (.invokespecial 38, 3) := dk_183 0 38 (dk_at dksX0_init_1 15 rfl rfl)
theorem dX0_init_40 : decode cX0_init 40 = .ok (.putfield 43, 3) := dk_181 0 43 (dk_at dksX0_init_1 18 rfl rfl)
theorem dX0_init_43 : decode cX0_init 43 = .ok (.aload_n 0, 1) := dk_42 (dk_at dksX0_init_1 21 rfl rfl)
theorem dX0_init_44 : decode cX0_init 44 = .ok (.bipush 24, 2) := dk_16 24 (dk_at dksX0_init_1 22 rfl rfl)
theorem dX0_init_46 : decode cX0_init 46 = .ok (.anewarray 36, 3) := dk_189 0 36 (dk_at dksX0_init_2 0 rfl rfl)
theorem dX0_init_49 : decode cX0_init 49 = .ok (.putfield 46, 3) := dk_181 0 46 (dk_at dksX0_init_2 3 rfl rfl)
theorem dX0_init_52 : decode cX0_init 52 = .ok (.aload_n 0, 1) := dk_42 (dk_at dksX0_init_2 6 rfl rfl)
theorem dX0_init_53 : decode cX0_init 53 = .ok (.iconst 2, 1) := dk_5 (dk_at dksX0_init_2 7 rfl rfl)
theorem dX0_init_54 : decode cX0_init 54 = .ok (.anewarray 36, 3) := dk_189 0 36 (dk_at dksX0_init_2 8 rfl rfl)
theorem dX0_init_57 : decode cX0_init 57 = .ok (.putfield 50, 3) := dk_181 0 50 (dk_at dksX0_init_2 11 rfl rfl)
theorem dX0_init_60 : decode cX0_init 60 = .ok (.aload_n 0, 1) := dk_42 (dk_at dksX0_init_2 14 rfl rfl)
theorem dX0_init_61 : decode cX0_init 61 = .ok (.new 53, 3) := dk_187 0 53 (dk_at dksX0_init_2 15 rfl rfl)
theorem dX0_init_64 : decode cX0_init 64 = .ok (.dup, 1) := dk_89 (dk_at dksX0_init_2 18 rfl rfl)
theorem dX0_init_65 : decode cX0_init 65 = .ok (.invokespecial 55, 3) := dk_183 0 55 (dk_at dksX0_init_2 19 rfl rfl)
theorem dX0_init_68 : decode cX0_init 68 = .ok (.putfield 56, 3) := dk_181 0 56 (dk_at dksX0_init_3 0 rfl rfl)
theorem dX0_init_71 : decode cX0_init 71 = .ok (.aload_n 0, 1) := dk_42 (dk_at dksX0_init_3 3 rfl rfl)
theorem dX0_init_72 : decode cX0_init 72 = .ok (.bipush 8, 2) := dk_16 8 (dk_at dksX0_init_3 4 rfl rfl)
theorem dX0_init_74 : decode cX0_init 74 = .ok (.newarray .int, 2) := dk_188_10 (dk_at dksX0_init_3 6 rfl rfl)
theorem dX0_init_76 : decode cX0_init 76 = .ok (.putfield 60, 3) := dk_181 0 60 (dk_at dksX0_init_3 8 rfl rfl)
theorem dX0_init_79 : decode cX0_init 79 = .ok (.aload_n 0, 1) := dk_42 (dk_at dksX0_init_3 11 rfl rfl)
theorem dX0_init_80 : decode cX0_init 80 = .ok (.bipush 8, 2) := dk_16 8 (dk_at dksX0_init_3 12 rfl rfl)
theorem dX0_init_82 : decode cX0_init 82 = .ok (.newarray .int, 2) := dk_188_10 (dk_at dksX0_init_3 14 rfl rfl)
theorem dX0_init_84 : decode cX0_init 84 = .ok (.putfield 64, 3) := dk_181 0 64 (dk_at dksX0_init_3 16 rfl rfl)
theorem dX0_init_87 : decode cX0_init 87 = .ok (.aload_n 0, 1) := dk_42 (dk_at dksX0_init_3 19 rfl rfl)
theorem dX0_init_88 : decode cX0_init 88 = .ok (.bipush 8, 2) := dk_16 8 (dk_at dksX0_init_3 20 rfl rfl)
theorem dX0_init_90 : decode cX0_init 90 = .ok (.newarray .int, 2) := dk_188_10 (dk_at dksX0_init_3 22 rfl rfl)
theorem dX0_init_92 : decode cX0_init 92 = .ok (.putfield 67, 3) := dk_181 0 67 (dk_at dksX0_init_4 0 rfl rfl)
theorem dX0_init_95 : decode cX0_init 95 = .ok (.return_, 1) := dk_177 (dk_at dksX0_init_4 3 rfl rfl)
abbrev cX0_row : ByteArray := prog_1_method_10_code
def yX0_row : MethodName := ⟨RX0, "row", "(III)I"⟩
def dkwX0_row_3 : List UInt8 := [172]
abbrev dktX0_row_3 : List UInt8 := dkwX0_row_3 ++ []
def dkwX0_row_2 : List UInt8 := [187, 0, 26, 89, 28, 29, 183, 0, 98, 83, 42, 29, 182, 0, 101, 172, 58, 4, 42, 25, 4, 182, 0, 105]
abbrev dktX0_row_2 : List UInt8 := dkwX0_row_2 ++ dktX0_row_3
def dkwX0_row_1 : List UInt8 := [164, 0, 6, 18, 97, 172, 29, 155, 0, 7, 4, 167, 0, 4, 3, 7, 184, 0, 87, 42, 180, 0, 28, 27]
abbrev dktX0_row_1 : List UInt8 := dkwX0_row_1 ++ dktX0_row_2
def dkwX0_row_0 : List UInt8 := [27, 184, 0, 91, 153, 0, 21, 28, 133, 9, 20, 0, 95, 184, 0, 83, 153, 0, 9, 29, 16, 40]
abbrev dktX0_row_0 : List UInt8 := dkwX0_row_0 ++ dktX0_row_1
theorem dksX0_row_0 : cX0_row.data.toList.drop 0 = dktX0_row_0 := by decide +kernel
theorem dksX0_row_1 : cX0_row.data.toList.drop 22 = dktX0_row_1 := dk_seg dksX0_row_0 22 rfl rfl
theorem dksX0_row_2 : cX0_row.data.toList.drop 46 = dktX0_row_2 := dk_seg dksX0_row_1 24 rfl rfl
theorem dksX0_row_3 : cX0_row.data.toList.drop 70 = dktX0_row_3 := dk_seg dksX0_row_2 24 rfl rfl
theorem dX0_row_0 : decode cX0_row 0 = .ok (.iload_n 1, 1) := dk_27 (dk_at dksX0_row_0 0 rfl rfl)
theorem dX0_row_1 : decode cX0_row 1 = .ok (.invokestatic 91, 3) := dk_184 0 91 (dk_at dksX0_row_0 1 rfl rfl)
theorem dX0_row_4 : decode cX0_row 4 = .ok (.ifCond .eq 21, 3) := dk_153 0 21 (dk_at dksX0_row_0 4 rfl rfl)
theorem dX0_row_7 : decode cX0_row 7 = .ok (.iload_n 2, 1) := dk_28 (dk_at dksX0_row_0 7 rfl rfl)
theorem dX0_row_8 : decode cX0_row 8 = .ok (.i2l, 1) := dk_133 (dk_at dksX0_row_0 8 rfl rfl)
theorem dX0_row_9 : decode cX0_row 9 = .ok (.lconst 0, 1) := dk_9 (dk_at dksX0_row_0 9 rfl rfl)
theorem dX0_row_10 : decode cX0_row 10 = .ok (.ldc2_w 95, 3) := dk_20 0 95 (dk_at dksX0_row_0 10 rfl rfl)
theorem dX0_row_13 : decode cX0_row 13 = .ok (.invokestatic 83, 3) := dk_184 0 83 (dk_at dksX0_row_0 13 rfl rfl)
theorem dX0_row_16 : decode cX0_row 16 = .ok (.ifCond .eq 9, 3) := dk_153 0 9 (dk_at dksX0_row_0 16 rfl rfl)
theorem dX0_row_19 : decode cX0_row 19 = .ok (.iload_n 3, 1) := dk_29 (dk_at dksX0_row_0 19 rfl rfl)
theorem dX0_row_20 : decode cX0_row 20 = .ok (.bipush 40, 2) := dk_16 40 (dk_at dksX0_row_0 20 rfl rfl)
theorem dX0_row_22 : decode cX0_row 22 = .ok (.if_icmp .le 6, 3) := dk_164 0 6 (dk_at dksX0_row_1 0 rfl rfl)
theorem dX0_row_25 : decode cX0_row 25 = .ok (.ldc 97, 2) := dk_18 97 (dk_at dksX0_row_1 3 rfl rfl)
theorem dX0_row_27 : decode cX0_row 27 = .ok (.ireturn, 1) := dk_172 (dk_at dksX0_row_1 5 rfl rfl)
theorem dX0_row_28 : decode cX0_row 28 = .ok (.iload_n 3, 1) := dk_29 (dk_at dksX0_row_1 6 rfl rfl)
theorem dX0_row_29 : decode cX0_row 29 = .ok (.ifCond .lt 7, 3) := dk_155 0 7 (dk_at dksX0_row_1 7 rfl rfl)
theorem dX0_row_32 : decode cX0_row 32 = .ok (.iconst 1, 1) := dk_4 (dk_at dksX0_row_1 10 rfl rfl)
theorem dX0_row_33 : decode cX0_row 33 = .ok (.goto 4, 3) := dk_167 0 4 (dk_at dksX0_row_1 11 rfl rfl)
theorem dX0_row_36 : decode cX0_row 36 = .ok (.iconst 0, 1) := dk_3 (dk_at dksX0_row_1 14 rfl rfl)
theorem dX0_row_37 : decode cX0_row 37 = .ok (.iconst 4, 1) := dk_7 (dk_at dksX0_row_1 15 rfl rfl)
theorem dX0_row_38 : decode cX0_row 38 = .ok (.invokestatic 87, 3) := dk_184 0 87 (dk_at dksX0_row_1 16 rfl rfl)
theorem dX0_row_41 : decode cX0_row 41 = .ok (.aload_n 0, 1) := dk_42 (dk_at dksX0_row_1 19 rfl rfl)
theorem dX0_row_42 : decode cX0_row 42 = .ok (.getfield 28, 3) := dk_180 0 28 (dk_at dksX0_row_1 20 rfl rfl)
theorem dX0_row_45 : decode cX0_row 45 = .ok (.iload_n 1, 1) := dk_27 (dk_at dksX0_row_1 23 rfl rfl)
theorem dX0_row_46 : decode cX0_row 46 = .ok (.new 26, 3) := dk_187 0 26 (dk_at dksX0_row_2 0 rfl rfl)
theorem dX0_row_49 : decode cX0_row 49 = .ok (.dup, 1) := dk_89 (dk_at dksX0_row_2 3 rfl rfl)
theorem dX0_row_50 : decode cX0_row 50 = .ok (.iload_n 2, 1) := dk_28 (dk_at dksX0_row_2 4 rfl rfl)
theorem dX0_row_51 : decode cX0_row 51 = .ok (.iload_n 3, 1) := dk_29 (dk_at dksX0_row_2 5 rfl rfl)
theorem dX0_row_52 : decode cX0_row 52 = .ok (.invokespecial 98, 3) := dk_183 0 98 (dk_at dksX0_row_2 6 rfl rfl)
theorem dX0_row_55 : decode cX0_row 55 = .ok (.aastore, 1) := dk_83 (dk_at dksX0_row_2 9 rfl rfl)
theorem dX0_row_56 : decode cX0_row 56 = .ok (.aload_n 0, 1) := dk_42 (dk_at dksX0_row_2 10 rfl rfl)
theorem dX0_row_57 : decode cX0_row 57 = .ok (.iload_n 3, 1) := dk_29 (dk_at dksX0_row_2 11 rfl rfl)
theorem dX0_row_58 : decode cX0_row 58 = .ok (.invokevirtual 101, 3) := dk_182 0 101 (dk_at dksX0_row_2 12 rfl rfl)
theorem dX0_row_61 : decode cX0_row 61 = .ok (.ireturn, 1) := dk_172 (dk_at dksX0_row_2 15 rfl rfl)
theorem dX0_row_62 : decode cX0_row 62 = .ok (.astore 4, 2) := dk_58 4 (dk_at dksX0_row_2 16 rfl rfl)
theorem dX0_row_64 : decode cX0_row 64 = .ok (.aload_n 0, 1) := dk_42 (dk_at dksX0_row_2 18 rfl rfl)
theorem dX0_row_65 : decode cX0_row 65 = .ok (.aload 4, 2) := dk_25 4 (dk_at dksX0_row_2 19 rfl rfl)
theorem dX0_row_67 : decode cX0_row 67 = .ok (.invokevirtual 105, 3) := dk_182 0 105 (dk_at dksX0_row_2 21 rfl rfl)
theorem dX0_row_70 : decode cX0_row 70 = .ok (.ireturn, 1) := dk_172 (dk_at dksX0_row_3 0 rfl rfl)
abbrev cX0_isRow : ByteArray := prog_1_method_8_code
def yX0_isRow : MethodName := ⟨RX0, "isRow", "(I)Z"⟩
def dkwX0_isRow_0 : List UInt8 := [26, 133, 9, 20, 0, 81, 184, 0, 83, 172]
abbrev dktX0_isRow_0 : List UInt8 := dkwX0_isRow_0 ++ []
theorem dksX0_isRow_0 : cX0_isRow.data.toList.drop 0 = dktX0_isRow_0 := by decide +kernel
theorem dX0_isRow_0 : decode cX0_isRow 0 = .ok (.iload_n 0, 1) := dk_26 (dk_at dksX0_isRow_0 0 rfl rfl)
theorem dX0_isRow_1 : decode cX0_isRow 1 = .ok (.i2l, 1) := dk_133 (dk_at dksX0_isRow_0 1 rfl rfl)
theorem dX0_isRow_2 : decode cX0_isRow 2 = .ok (.lconst 0, 1) := dk_9 (dk_at dksX0_isRow_0 2 rfl rfl)
theorem dX0_isRow_3 : decode cX0_isRow 3 = .ok (.ldc2_w 81, 3) := dk_20 0 81 (dk_at dksX0_isRow_0 3 rfl rfl)
theorem dX0_isRow_6 : decode cX0_isRow 6 = .ok (.invokestatic 83, 3) := dk_184 0 83 (dk_at dksX0_isRow_0 6 rfl rfl)
theorem dX0_isRow_9 : decode cX0_isRow 9 = .ok (.ireturn, 1) := dk_172 (dk_at dksX0_isRow_0 9 rfl rfl)
abbrev cX0_isIn : ByteArray := prog_1_method_1_code
def yX0_isIn : MethodName := ⟨RX0, "isIn", "(JJJ)Z"⟩
def dkwX0_isIn_0 : List UInt8 := [30, 32, 148, 155, 0, 14, 30, 22, 4, 148, 157, 0, 7, 4, 167, 0, 4, 3, 172]
abbrev dktX0_isIn_0 : List UInt8 := dkwX0_isIn_0 ++ []
theorem dksX0_isIn_0 : cX0_isIn.data.toList.drop 0 = dktX0_isIn_0 := by decide +kernel
theorem dX0_isIn_0 : decode cX0_isIn 0 = .ok (.lload_n 0, 1) := dk_30 (dk_at dksX0_isIn_0 0 rfl rfl)
theorem dX0_isIn_1 : decode cX0_isIn 1 = .ok (.lload_n 2, 1) := dk_32 (dk_at dksX0_isIn_0 1 rfl rfl)
theorem dX0_isIn_2 : decode cX0_isIn 2 = .ok (.lcmp, 1) := dk_148 (dk_at dksX0_isIn_0 2 rfl rfl)
theorem dX0_isIn_3 : decode cX0_isIn 3 = .ok (.ifCond .lt 14, 3) := dk_155 0 14 (dk_at dksX0_isIn_0 3 rfl rfl)
theorem dX0_isIn_6 : decode cX0_isIn 6 = .ok (.lload_n 0, 1) := dk_30 (dk_at dksX0_isIn_0 6 rfl rfl)
theorem dX0_isIn_7 : decode cX0_isIn 7 = .ok (.lload 4, 2) := dk_22 4 (dk_at dksX0_isIn_0 7 rfl rfl)
theorem dX0_isIn_9 : decode cX0_isIn 9 = .ok (.lcmp, 1) := dk_148 (dk_at dksX0_isIn_0 9 rfl rfl)
theorem dX0_isIn_10 : decode cX0_isIn 10 = .ok (.ifCond .gt 7, 3) := dk_157 0 7 (dk_at dksX0_isIn_0 10 rfl rfl)
theorem dX0_isIn_13 : decode cX0_isIn 13 = .ok (.iconst 1, 1) := dk_4 (dk_at dksX0_isIn_0 13 rfl rfl)
theorem dX0_isIn_14 : decode cX0_isIn 14 = .ok (.goto 4, 3) := dk_167 0 4 (dk_at dksX0_isIn_0 14 rfl rfl)
theorem dX0_isIn_17 : decode cX0_isIn 17 = .ok (.iconst 0, 1) := dk_3 (dk_at dksX0_isIn_0 17 rfl rfl)
theorem dX0_isIn_18 : decode cX0_isIn 18 = .ok (.ireturn, 1) := dk_172 (dk_at dksX0_isIn_0 18 rfl rfl)
abbrev cX0_must : ByteArray := prog_1_method_7_code
def yX0_must : MethodName := ⟨RX0, "must", "(ZI)V"⟩
def dkwX0_must_0 : List UInt8 := [26, 154, 0, 12, 187, 0, 71, 89, 27, 183, 0, 80, 191, 177]
abbrev dktX0_must_0 : List UInt8 := dkwX0_must_0 ++ []
theorem dksX0_must_0 : cX0_must.data.toList.drop 0 = dktX0_must_0 := by decide +kernel
theorem dX0_must_0 : decode cX0_must 0 = .ok (.iload_n 0, 1) := dk_26 (dk_at dksX0_must_0 0 rfl rfl)
theorem dX0_must_1 : decode cX0_must 1 = .ok (.ifCond .ne 12, 3) := dk_154 0 12 (dk_at dksX0_must_0 1 rfl rfl)
theorem dX0_must_4 : decode cX0_must 4 = .ok (.new 71, 3) := dk_187 0 71 (dk_at dksX0_must_0 4 rfl rfl)
theorem dX0_must_7 : decode cX0_must 7 = .ok (.dup, 1) := dk_89 (dk_at dksX0_must_0 7 rfl rfl)
theorem dX0_must_8 : decode cX0_must 8 = .ok (.iload_n 1, 1) := dk_27 (dk_at dksX0_must_0 8 rfl rfl)
theorem dX0_must_9 : decode cX0_must 9 = .ok (.invokespecial 80, 3) := dk_183 0 80 (dk_at dksX0_must_0 9 rfl rfl)
theorem dX0_must_12 : decode cX0_must 12 = .ok (.athrow, 1) := dk_191 (dk_at dksX0_must_0 12 rfl rfl)
theorem dX0_must_13 : decode cX0_must 13 = .ok (.return_, 1) := dk_177 (dk_at dksX0_must_0 13 rfl rfl)
abbrev cX0_well : ByteArray := prog_1_method_6_code
def yX0_well : MethodName := ⟨RX0, "well", "(I)I"⟩
def dkwX0_well_0 : List UInt8 := [42, 3, 181, 0, 76, 27, 172]
abbrev dktX0_well_0 : List UInt8 := dkwX0_well_0 ++ []
theorem dksX0_well_0 : cX0_well.data.toList.drop 0 = dktX0_well_0 := by decide +kernel
theorem dX0_well_0 : decode cX0_well 0 = .ok (.aload_n 0, 1) := dk_42 (dk_at dksX0_well_0 0 rfl rfl)
theorem dX0_well_1 : decode cX0_well 1 = .ok (.iconst 0, 1) := dk_3 (dk_at dksX0_well_0 1 rfl rfl)
theorem dX0_well_2 : decode cX0_well 2 = .ok (.putfield 76, 3) := dk_181 0 76 (dk_at dksX0_well_0 2 rfl rfl)
theorem dX0_well_5 : decode cX0_well 5 = .ok (.iload_n 1, 1) := dk_27 (dk_at dksX0_well_0 5 rfl rfl)
theorem dX0_well_6 : decode cX0_well 6 = .ok (.ireturn, 1) := dk_172 (dk_at dksX0_well_0 6 rfl rfl)
abbrev cX0_found : ByteArray := prog_1_method_5_code
def yX0_found : MethodName := ⟨RX0, "found", "(LPromisePounds$Finding;)I"⟩
def dkwX0_found_0 : List UInt8 := [42, 43, 180, 0, 70, 181, 0, 76, 18, 79, 43, 180, 0, 70, 100, 172]
abbrev dktX0_found_0 : List UInt8 := dkwX0_found_0 ++ []
theorem dksX0_found_0 : cX0_found.data.toList.drop 0 = dktX0_found_0 := by decide +kernel
theorem dX0_found_0 : decode cX0_found 0 = .ok (.aload_n 0, 1) := dk_42 (dk_at dksX0_found_0 0 rfl rfl)
theorem dX0_found_1 : decode cX0_found 1 = .ok (.aload_n 1, 1) := dk_43 (dk_at dksX0_found_0 1 rfl rfl)
theorem dX0_found_2 : decode cX0_found 2 = .ok (.getfield 70, 3) := dk_180 0 70 (dk_at dksX0_found_0 2 rfl rfl)
theorem dX0_found_5 : decode cX0_found 5 = .ok (.putfield 76, 3) := dk_181 0 76 (dk_at dksX0_found_0 5 rfl rfl)
theorem dX0_found_8 : decode cX0_found 8 = .ok (.ldc 79, 2) := dk_18 79 (dk_at dksX0_found_0 8 rfl rfl)
theorem dX0_found_10 : decode cX0_found 10 = .ok (.aload_n 1, 1) := dk_43 (dk_at dksX0_found_0 10 rfl rfl)
theorem dX0_found_11 : decode cX0_found 11 = .ok (.getfield 70, 3) := dk_180 0 70 (dk_at dksX0_found_0 11 rfl rfl)
theorem dX0_found_14 : decode cX0_found 14 = .ok (.isub, 1) := dk_100 (dk_at dksX0_found_0 14 rfl rfl)
theorem dX0_found_15 : decode cX0_found 15 = .ok (.ireturn, 1) := dk_172 (dk_at dksX0_found_0 15 rfl rfl)
abbrev cX0_set : ByteArray := prog_1_method_11_code
def yX0_set : MethodName := ⟨RX0, "set", "(III)I"⟩
def dkwX0_set_3 : List UInt8 := [172]
abbrev dktX0_set_3 : List UInt8 := dkwX0_set_3 ++ []
def dkwX0_set_2 : List UInt8 := [182, 0, 116, 79, 42, 25, 4, 180, 0, 113, 28, 46, 182, 0, 101, 172, 58, 4, 42, 25, 4, 182, 0, 105]
abbrev dktX0_set_2 : List UInt8 := dkwX0_set_2 ++ dktX0_set_3
def dkwX0_set_1 : List UInt8 := [180, 0, 113, 190, 4, 100, 133, 184, 0, 83, 5, 184, 0, 87, 25, 4, 180, 0, 113, 28, 25, 4, 29]
abbrev dktX0_set_1 : List UInt8 := dkwX0_set_1 ++ dktX0_set_2
def dkwX0_set_0 : List UInt8 := [27, 184, 0, 91, 154, 0, 6, 18, 97, 172, 42, 27, 182, 0, 109, 58, 4, 28, 133, 9, 25, 4]
abbrev dktX0_set_0 : List UInt8 := dkwX0_set_0 ++ dktX0_set_1
theorem dksX0_set_0 : cX0_set.data.toList.drop 0 = dktX0_set_0 := by decide +kernel
theorem dksX0_set_1 : cX0_set.data.toList.drop 22 = dktX0_set_1 := dk_seg dksX0_set_0 22 rfl rfl
theorem dksX0_set_2 : cX0_set.data.toList.drop 45 = dktX0_set_2 := dk_seg dksX0_set_1 23 rfl rfl
theorem dksX0_set_3 : cX0_set.data.toList.drop 69 = dktX0_set_3 := dk_seg dksX0_set_2 24 rfl rfl
theorem dX0_set_0 : decode cX0_set 0 = .ok (.iload_n 1, 1) := dk_27 (dk_at dksX0_set_0 0 rfl rfl)
theorem dX0_set_1 : decode cX0_set 1 = .ok (.invokestatic 91, 3) := dk_184 0 91 (dk_at dksX0_set_0 1 rfl rfl)
theorem dX0_set_4 : decode cX0_set 4 = .ok (.ifCond .ne 6, 3) := dk_154 0 6 (dk_at dksX0_set_0 4 rfl rfl)
theorem dX0_set_7 : decode cX0_set 7 = .ok (.ldc 97, 2) := dk_18 97 (dk_at dksX0_set_0 7 rfl rfl)
theorem dX0_set_9 : decode cX0_set 9 = .ok (.ireturn, 1) := dk_172 (dk_at dksX0_set_0 9 rfl rfl)
theorem dX0_set_10 : decode cX0_set 10 = .ok (.aload_n 0, 1) := dk_42 (dk_at dksX0_set_0 10 rfl rfl)
theorem dX0_set_11 : decode cX0_set 11 = .ok (.iload_n 1, 1) := dk_27 (dk_at dksX0_set_0 11 rfl rfl)
theorem dX0_set_12 : decode cX0_set 12 = .ok (.invokevirtual 109, 3) := dk_182 0 109 (dk_at dksX0_set_0 12 rfl rfl)
theorem dX0_set_15 : decode cX0_set 15 = .ok (.astore 4, 2) := dk_58 4 (dk_at dksX0_set_0 15 rfl rfl)
theorem dX0_set_17 : decode cX0_set 17 = .ok (.iload_n 2, 1) := dk_28 (dk_at dksX0_set_0 17 rfl rfl)
theorem dX0_set_18 : decode cX0_set 18 = .ok (.i2l, 1) := dk_133 (dk_at dksX0_set_0 18 rfl rfl)
theorem dX0_set_19 : decode cX0_set 19 = .ok (.lconst 0, 1) := dk_9 (dk_at dksX0_set_0 19 rfl rfl)
theorem dX0_set_20 : decode cX0_set 20 = .ok (.aload 4, 2) := dk_25 4 (dk_at dksX0_set_0 20 rfl rfl)
theorem dX0_set_22 : decode cX0_set 22 = .ok (.getfield 113, 3) := dk_180 0 113 (dk_at dksX0_set_1 0 rfl rfl)
theorem dX0_set_25 : decode cX0_set 25 = .ok (.arraylength, 1) := dk_190 (dk_at dksX0_set_1 3 rfl rfl)
theorem dX0_set_26 : decode cX0_set 26 = .ok (.iconst 1, 1) := dk_4 (dk_at dksX0_set_1 4 rfl rfl)
theorem dX0_set_27 : decode cX0_set 27 = .ok (.isub, 1) := dk_100 (dk_at dksX0_set_1 5 rfl rfl)
theorem dX0_set_28 : decode cX0_set 28 = .ok (.i2l, 1) := dk_133 (dk_at dksX0_set_1 6 rfl rfl)
theorem dX0_set_29 : decode cX0_set 29 = .ok (.invokestatic 83, 3) := dk_184 0 83 (dk_at dksX0_set_1 7 rfl rfl)
theorem dX0_set_32 : decode cX0_set 32 = .ok (.iconst 2, 1) := dk_5 (dk_at dksX0_set_1 10 rfl rfl)
theorem dX0_set_33 : decode cX0_set 33 = .ok (.invokestatic 87, 3) := dk_184 0 87 (dk_at dksX0_set_1 11 rfl rfl)
theorem dX0_set_36 : decode cX0_set 36 = .ok (.aload 4, 2) := dk_25 4 (dk_at dksX0_set_1 14 rfl rfl)
theorem dX0_set_38 : decode cX0_set 38 = .ok (.getfield 113, 3) := dk_180 0 113 (dk_at dksX0_set_1 16 rfl rfl)
theorem dX0_set_41 : decode cX0_set 41 = .ok (.iload_n 2, 1) := dk_28 (dk_at dksX0_set_1 19 rfl rfl)
theorem dX0_set_42 : decode cX0_set 42 = .ok (.aload 4, 2) := dk_25 4 (dk_at dksX0_set_1 20 rfl rfl)
theorem dX0_set_44 : decode cX0_set 44 = .ok (.iload_n 3, 1) := dk_29 (dk_at dksX0_set_1 22 rfl rfl)
theorem dX0_set_45 : decode cX0_set 45 = .ok (.invokevirtual 116, 3) := dk_182 0 116 (dk_at dksX0_set_2 0 rfl rfl)
theorem dX0_set_48 : decode cX0_set 48 = .ok (.iastore, 1) := dk_79 (dk_at dksX0_set_2 3 rfl rfl)
theorem dX0_set_49 : decode cX0_set 49 = .ok (.aload_n 0, 1) := dk_42 (dk_at dksX0_set_2 4 rfl rfl)
theorem dX0_set_50 : decode cX0_set 50 = .ok (.aload 4, 2) := dk_25 4 (dk_at dksX0_set_2 5 rfl rfl)
theorem dX0_set_52 : decode cX0_set 52 = .ok (.getfield 113, 3) := dk_180 0 113 (dk_at dksX0_set_2 7 rfl rfl)
theorem dX0_set_55 : decode cX0_set 55 = .ok (.iload_n 2, 1) := dk_28 (dk_at dksX0_set_2 10 rfl rfl)
theorem dX0_set_56 : decode cX0_set 56 = .ok (.iaload, 1) := dk_46 (dk_at dksX0_set_2 11 rfl rfl)
theorem dX0_set_57 : decode cX0_set 57 = .ok (.invokevirtual 101, 3) := dk_182 0 101 (dk_at dksX0_set_2 12 rfl rfl)
theorem dX0_set_60 : decode cX0_set 60 = .ok (.ireturn, 1) := dk_172 (dk_at dksX0_set_2 15 rfl rfl)
theorem dX0_set_61 : decode cX0_set 61 = .ok (.astore 4, 2) := dk_58 4 (dk_at dksX0_set_2 16 rfl rfl)
theorem dX0_set_63 : decode cX0_set 63 = .ok (.aload_n 0, 1) := dk_42 (dk_at dksX0_set_2 18 rfl rfl)
theorem dX0_set_64 : decode cX0_set 64 = .ok (.aload 4, 2) := dk_25 4 (dk_at dksX0_set_2 19 rfl rfl)
theorem dX0_set_66 : decode cX0_set 66 = .ok (.invokevirtual 105, 3) := dk_182 0 105 (dk_at dksX0_set_2 21 rfl rfl)
theorem dX0_set_69 : decode cX0_set 69 = .ok (.ireturn, 1) := dk_172 (dk_at dksX0_set_3 0 rfl rfl)
abbrev cX0_rowAt : ByteArray := prog_1_method_9_code
def yX0_rowAt : MethodName := ⟨RX0, "rowAt", "(I)LPromisePounds$Row;"⟩
def dkwX0_rowAt_1 : List UInt8 := [176]
abbrev dktX0_rowAt_1 : List UInt8 := dkwX0_rowAt_1 ++ []
def dkwX0_rowAt_0 : List UInt8 := [42, 180, 0, 28, 27, 50, 198, 0, 7, 4, 167, 0, 4, 3, 4, 184, 0, 87, 42, 180, 0, 28, 27, 50]
abbrev dktX0_rowAt_0 : List UInt8 := dkwX0_rowAt_0 ++ dktX0_rowAt_1
theorem dksX0_rowAt_0 : cX0_rowAt.data.toList.drop 0 = dktX0_rowAt_0 := by decide +kernel
theorem dksX0_rowAt_1 : cX0_rowAt.data.toList.drop 24 = dktX0_rowAt_1 := dk_seg dksX0_rowAt_0 24 rfl rfl
theorem dX0_rowAt_0 : decode cX0_rowAt 0 = .ok (.aload_n 0, 1) := dk_42 (dk_at dksX0_rowAt_0 0 rfl rfl)
theorem dX0_rowAt_1 : decode cX0_rowAt 1 = .ok (.getfield 28, 3) := dk_180 0 28 (dk_at dksX0_rowAt_0 1 rfl rfl)
theorem dX0_rowAt_4 : decode cX0_rowAt 4 = .ok (.iload_n 1, 1) := dk_27 (dk_at dksX0_rowAt_0 4 rfl rfl)
theorem dX0_rowAt_5 : decode cX0_rowAt 5 = .ok (.aaload, 1) := dk_50 (dk_at dksX0_rowAt_0 5 rfl rfl)
theorem dX0_rowAt_6 : decode cX0_rowAt 6 = .ok (.ifnull 7, 3) := dk_198 0 7 (dk_at dksX0_rowAt_0 6 rfl rfl)
theorem dX0_rowAt_9 : decode cX0_rowAt 9 = .ok (.iconst 1, 1) := dk_4 (dk_at dksX0_rowAt_0 9 rfl rfl)
theorem dX0_rowAt_10 : decode cX0_rowAt 10 = .ok (.goto 4, 3) := dk_167 0 4 (dk_at dksX0_rowAt_0 10 rfl rfl)
theorem dX0_rowAt_13 : decode cX0_rowAt 13 = .ok (.iconst 0, 1) := dk_3 (dk_at dksX0_rowAt_0 13 rfl rfl)
theorem dX0_rowAt_14 : decode cX0_rowAt 14 = .ok (.iconst 1, 1) := dk_4 (dk_at dksX0_rowAt_0 14 rfl rfl)
theorem dX0_rowAt_15 : decode cX0_rowAt 15 = .ok (.invokestatic 87, 3) := dk_184 0 87 (dk_at dksX0_rowAt_0 15 rfl rfl)
theorem dX0_rowAt_18 : decode cX0_rowAt 18 = .ok (.aload_n 0, 1) := dk_42 (dk_at dksX0_rowAt_0 18 rfl rfl)
theorem dX0_rowAt_19 : decode cX0_rowAt 19 = .ok (.getfield 28, 3) := dk_180 0 28 (dk_at dksX0_rowAt_0 19 rfl rfl)
theorem dX0_rowAt_22 : decode cX0_rowAt 22 = .ok (.iload_n 1, 1) := dk_27 (dk_at dksX0_rowAt_0 22 rfl rfl)
theorem dX0_rowAt_23 : decode cX0_rowAt 23 = .ok (.aaload, 1) := dk_50 (dk_at dksX0_rowAt_0 23 rfl rfl)
theorem dX0_rowAt_24 : decode cX0_rowAt 24 = .ok (.areturn, 1) := dk_176 (dk_at dksX0_rowAt_1 0 rfl rfl)
abbrev cX0_copy : ByteArray := prog_1_method_12_code
def yX0_copy : MethodName := ⟨RX0, "copy", "(IIIII)I"⟩
def dkwX0_copy_4 : List UInt8 := [25, 6, 182, 0, 105, 172]
abbrev dktX0_copy_4 : List UInt8 := dkwX0_copy_4 ++ []
def dkwX0_copy_3 : List UInt8 := [167, 0, 14, 58, 8, 187, 0, 71, 89, 5, 183, 0, 80, 191, 42, 21, 5, 182, 0, 101, 172, 58, 6, 42]
abbrev dktX0_copy_3 : List UInt8 := dkwX0_copy_3 ++ dktX0_copy_4
def dkwX0_copy_2 : List UInt8 := [3, 8, 184, 0, 87, 25, 6, 180, 0, 113, 28, 25, 7, 180, 0, 113, 21, 4, 21, 5, 184, 0, 122]
abbrev dktX0_copy_2 : List UInt8 := dkwX0_copy_2 ++ dktX0_copy_3
def dkwX0_copy_1 : List UInt8 := [42, 29, 182, 0, 109, 58, 7, 25, 6, 180, 0, 119, 25, 7, 180, 0, 119, 160, 0, 7, 4, 167, 0, 4]
abbrev dktX0_copy_1 : List UInt8 := dkwX0_copy_1 ++ dktX0_copy_2
def dkwX0_copy_0 : List UInt8 := [27, 184, 0, 91, 153, 0, 10, 29, 184, 0, 91, 154, 0, 6, 18, 97, 172, 42, 27, 182, 0, 109, 58, 6]
abbrev dktX0_copy_0 : List UInt8 := dkwX0_copy_0 ++ dktX0_copy_1
theorem dksX0_copy_0 : cX0_copy.data.toList.drop 0 = dktX0_copy_0 := by decide +kernel
theorem dksX0_copy_1 : cX0_copy.data.toList.drop 24 = dktX0_copy_1 := dk_seg dksX0_copy_0 24 rfl rfl
theorem dksX0_copy_2 : cX0_copy.data.toList.drop 48 = dktX0_copy_2 := dk_seg dksX0_copy_1 24 rfl rfl
theorem dksX0_copy_3 : cX0_copy.data.toList.drop 71 = dktX0_copy_3 := dk_seg dksX0_copy_2 23 rfl rfl
theorem dksX0_copy_4 : cX0_copy.data.toList.drop 95 = dktX0_copy_4 := dk_seg dksX0_copy_3 24 rfl rfl
theorem dX0_copy_0 : decode cX0_copy 0 = .ok (.iload_n 1, 1) := dk_27 (dk_at dksX0_copy_0 0 rfl rfl)
theorem dX0_copy_1 : decode cX0_copy 1 = .ok (.invokestatic 91, 3) := dk_184 0 91 (dk_at dksX0_copy_0 1 rfl rfl)
theorem dX0_copy_4 : decode cX0_copy 4 = .ok (.ifCond .eq 10, 3) := dk_153 0 10 (dk_at dksX0_copy_0 4 rfl rfl)
theorem dX0_copy_7 : decode cX0_copy 7 = .ok (.iload_n 3, 1) := dk_29 (dk_at dksX0_copy_0 7 rfl rfl)
theorem dX0_copy_8 : decode cX0_copy 8 = .ok (.invokestatic 91, 3) := dk_184 0 91 (dk_at dksX0_copy_0 8 rfl rfl)
theorem dX0_copy_11 : decode cX0_copy 11 = .ok (.ifCond .ne 6, 3) := dk_154 0 6 (dk_at dksX0_copy_0 11 rfl rfl)
theorem dX0_copy_14 : decode cX0_copy 14 = .ok (.ldc 97, 2) := dk_18 97 (dk_at dksX0_copy_0 14 rfl rfl)
theorem dX0_copy_16 : decode cX0_copy 16 = .ok (.ireturn, 1) := dk_172 (dk_at dksX0_copy_0 16 rfl rfl)
theorem dX0_copy_17 : decode cX0_copy 17 = .ok (.aload_n 0, 1) := dk_42 (dk_at dksX0_copy_0 17 rfl rfl)
theorem dX0_copy_18 : decode cX0_copy 18 = .ok (.iload_n 1, 1) := dk_27 (dk_at dksX0_copy_0 18 rfl rfl)
theorem dX0_copy_19 : decode cX0_copy 19 = .ok (.invokevirtual 109, 3) := dk_182 0 109 (dk_at dksX0_copy_0 19 rfl rfl)
theorem dX0_copy_22 : decode cX0_copy 22 = .ok (.astore 6, 2) := dk_58 6 (dk_at dksX0_copy_0 22 rfl rfl)
theorem dX0_copy_24 : decode cX0_copy 24 = .ok (.aload_n 0, 1) := dk_42 (dk_at dksX0_copy_1 0 rfl rfl)
theorem dX0_copy_25 : decode cX0_copy 25 = .ok (.iload_n 3, 1) := dk_29 (dk_at dksX0_copy_1 1 rfl rfl)
theorem dX0_copy_26 : decode cX0_copy 26 = .ok (.invokevirtual 109, 3) := dk_182 0 109 (dk_at dksX0_copy_1 2 rfl rfl)
theorem dX0_copy_29 : decode cX0_copy 29 = .ok (.astore 7, 2) := dk_58 7 (dk_at dksX0_copy_1 5 rfl rfl)
theorem dX0_copy_31 : decode cX0_copy 31 = .ok (.aload 6, 2) := dk_25 6 (dk_at dksX0_copy_1 7 rfl rfl)
theorem dX0_copy_33 : decode cX0_copy 33 = .ok (.getfield 119, 3) := dk_180 0 119 (dk_at dksX0_copy_1 9 rfl rfl)
theorem dX0_copy_36 : decode cX0_copy 36 = .ok (.aload 7, 2) := dk_25 7 (dk_at dksX0_copy_1 12 rfl rfl)
theorem dX0_copy_38 : decode cX0_copy 38 = .ok (.getfield 119, 3) := dk_180 0 119 (dk_at dksX0_copy_1 14 rfl rfl)
theorem dX0_copy_41 : decode cX0_copy 41 = .ok (.if_icmp .ne 7, 3) := dk_160 0 7 (dk_at dksX0_copy_1 17 rfl rfl)
theorem dX0_copy_44 : decode cX0_copy 44 = .ok (.iconst 1, 1) := dk_4 (dk_at dksX0_copy_1 20 rfl rfl)
theorem dX0_copy_45 : decode cX0_copy 45 = .ok (.goto 4, 3) := dk_167 0 4 (dk_at dksX0_copy_1 21 rfl rfl)
theorem dX0_copy_48 : decode cX0_copy 48 = .ok (.iconst 0, 1) := dk_3 (dk_at dksX0_copy_2 0 rfl rfl)
theorem dX0_copy_49 : decode cX0_copy 49 = .ok (.iconst 5, 1) := dk_8 (dk_at dksX0_copy_2 1 rfl rfl)
theorem dX0_copy_50 : decode cX0_copy 50 = .ok (.invokestatic 87, 3) := dk_184 0 87 (dk_at dksX0_copy_2 2 rfl rfl)
theorem dX0_copy_53 : decode cX0_copy 53 = .ok (.aload 6, 2) := dk_25 6 (dk_at dksX0_copy_2 5 rfl rfl)
theorem dX0_copy_55 : decode cX0_copy 55 = .ok (.getfield 113, 3) := dk_180 0 113 (dk_at dksX0_copy_2 7 rfl rfl)
theorem dX0_copy_58 : decode cX0_copy 58 = .ok (.iload_n 2, 1) := dk_28 (dk_at dksX0_copy_2 10 rfl rfl)
theorem dX0_copy_59 : decode cX0_copy 59 = .ok (.aload 7, 2) := dk_25 7 (dk_at dksX0_copy_2 11 rfl rfl)
theorem dX0_copy_61 : decode cX0_copy 61 = .ok (.getfield 113, 3) := dk_180 0 113 (dk_at dksX0_copy_2 13 rfl rfl)
theorem dX0_copy_64 : decode cX0_copy 64 = .ok (.iload 4, 2) := dk_21 4 (dk_at dksX0_copy_2 16 rfl rfl)
theorem dX0_copy_66 : decode cX0_copy 66 = .ok (.iload 5, 2) := dk_21 5 (dk_at dksX0_copy_2 18 rfl rfl)
theorem dX0_copy_68 : decode cX0_copy 68 = .ok (.invokestatic 122, 3) := dk_184 0 122 (dk_at dksX0_copy_2 20 rfl rfl)
theorem dX0_copy_71 : decode cX0_copy 71 = .ok (.goto 14, 3) := dk_167 0 14 (dk_at dksX0_copy_3 0 rfl rfl)
theorem dX0_copy_74 : decode cX0_copy 74 = .ok (.astore 8, 2) := dk_58 8 (dk_at dksX0_copy_3 3 rfl rfl)
theorem dX0_copy_76 : decode cX0_copy 76 = .ok (.new 71, 3) := dk_187 0 71 (dk_at dksX0_copy_3 5 rfl rfl)
theorem dX0_copy_79 : decode cX0_copy 79 = .ok (.dup, 1) := dk_89 (dk_at dksX0_copy_3 8 rfl rfl)
theorem dX0_copy_80 : decode cX0_copy 80 = .ok (.iconst 2, 1) := dk_5 (dk_at dksX0_copy_3 9 rfl rfl)
theorem dX0_copy_81 : decode cX0_copy 81 = .ok (.invokespecial 80, 3) := dk_183 0 80 (dk_at dksX0_copy_3 10 rfl rfl)
theorem dX0_copy_84 : decode cX0_copy 84 = .ok (.athrow, 1) := dk_191 (dk_at dksX0_copy_3 13 rfl rfl)
theorem dX0_copy_85 : decode cX0_copy 85 = .ok (.aload_n 0, 1) := dk_42 (dk_at dksX0_copy_3 14 rfl rfl)
theorem dX0_copy_86 : decode cX0_copy 86 = .ok (.iload 5, 2) := dk_21 5 (dk_at dksX0_copy_3 15 rfl rfl)
theorem dX0_copy_88 : decode cX0_copy 88 = .ok (.invokevirtual 101, 3) := dk_182 0 101 (dk_at dksX0_copy_3 17 rfl rfl)
theorem dX0_copy_91 : decode cX0_copy 91 = .ok (.ireturn, 1) := dk_172 (dk_at dksX0_copy_3 20 rfl rfl)
theorem dX0_copy_92 : decode cX0_copy 92 = .ok (.astore 6, 2) := dk_58 6 (dk_at dksX0_copy_3 21 rfl rfl)
theorem dX0_copy_94 : decode cX0_copy 94 = .ok (.aload_n 0, 1) := dk_42 (dk_at dksX0_copy_3 23 rfl rfl)
theorem dX0_copy_95 : decode cX0_copy 95 = .ok (.aload 6, 2) := dk_25 6 (dk_at dksX0_copy_4 0 rfl rfl)
theorem dX0_copy_97 : decode cX0_copy 97 = .ok (.invokevirtual 105, 3) := dk_182 0 105 (dk_at dksX0_copy_4 2 rfl rfl)
theorem dX0_copy_100 : decode cX0_copy 100 = .ok (.ireturn, 1) := dk_172 (dk_at dksX0_copy_4 5 rfl rfl)
abbrev cX0_drop : ByteArray := prog_1_method_13_code
def yX0_drop : MethodName := ⟨RX0, "drop", "(I)I"⟩
def dkwX0_drop_1 : List UInt8 := [27, 1, 83, 42, 28, 182, 0, 101, 172, 77, 42, 44, 182, 0, 105, 172]
abbrev dktX0_drop_1 : List UInt8 := dkwX0_drop_1 ++ []
def dkwX0_drop_0 : List UInt8 := [27, 184, 0, 91, 154, 0, 6, 18, 97, 172, 42, 27, 182, 0, 109, 180, 0, 113, 190, 61, 42, 180, 0, 28]
abbrev dktX0_drop_0 : List UInt8 := dkwX0_drop_0 ++ dktX0_drop_1
theorem dksX0_drop_0 : cX0_drop.data.toList.drop 0 = dktX0_drop_0 := by decide +kernel
theorem dksX0_drop_1 : cX0_drop.data.toList.drop 24 = dktX0_drop_1 := dk_seg dksX0_drop_0 24 rfl rfl
theorem dX0_drop_0 : decode cX0_drop 0 = .ok (.iload_n 1, 1) := dk_27 (dk_at dksX0_drop_0 0 rfl rfl)
theorem dX0_drop_1 : decode cX0_drop 1 = .ok (.invokestatic 91, 3) := dk_184 0 91 (dk_at dksX0_drop_0 1 rfl rfl)
theorem dX0_drop_4 : decode cX0_drop 4 = .ok (.ifCond .ne 6, 3) := dk_154 0 6 (dk_at dksX0_drop_0 4 rfl rfl)
theorem dX0_drop_7 : decode cX0_drop 7 = .ok (.ldc 97, 2) := dk_18 97 (dk_at dksX0_drop_0 7 rfl rfl)
theorem dX0_drop_9 : decode cX0_drop 9 = .ok (.ireturn, 1) := dk_172 (dk_at dksX0_drop_0 9 rfl rfl)
theorem dX0_drop_10 : decode cX0_drop 10 = .ok (.aload_n 0, 1) := dk_42 (dk_at dksX0_drop_0 10 rfl rfl)
theorem dX0_drop_11 : decode cX0_drop 11 = .ok (.iload_n 1, 1) := dk_27 (dk_at dksX0_drop_0 11 rfl rfl)
theorem dX0_drop_12 : decode cX0_drop 12 = .ok (.invokevirtual 109, 3) := dk_182 0 109 (dk_at dksX0_drop_0 12 rfl rfl)
theorem dX0_drop_15 : decode cX0_drop 15 = .ok (.getfield 113, 3) := dk_180 0 113 (dk_at dksX0_drop_0 15 rfl rfl)
theorem dX0_drop_18 : decode cX0_drop 18 = .ok (.arraylength, 1) := dk_190 (dk_at dksX0_drop_0 18 rfl rfl)
theorem dX0_drop_19 : decode cX0_drop 19 = .ok (.istore_n 2, 1) := dk_61 (dk_at dksX0_drop_0 19 rfl rfl)
theorem dX0_drop_20 : decode cX0_drop 20 = .ok (.aload_n 0, 1) := dk_42 (dk_at dksX0_drop_0 20 rfl rfl)
theorem dX0_drop_21 : decode cX0_drop 21 = .ok (.getfield 28, 3) := dk_180 0 28 (dk_at dksX0_drop_0 21 rfl rfl)
theorem dX0_drop_24 : decode cX0_drop 24 = .ok (.iload_n 1, 1) := dk_27 (dk_at dksX0_drop_1 0 rfl rfl)
theorem dX0_drop_25 : decode cX0_drop 25 = .ok (.aconst_null, 1) := dk_1 (dk_at dksX0_drop_1 1 rfl rfl)
theorem dX0_drop_26 : decode cX0_drop 26 = .ok (.aastore, 1) := dk_83 (dk_at dksX0_drop_1 2 rfl rfl)
theorem dX0_drop_27 : decode cX0_drop 27 = .ok (.aload_n 0, 1) := dk_42 (dk_at dksX0_drop_1 3 rfl rfl)
theorem dX0_drop_28 : decode cX0_drop 28 = .ok (.iload_n 2, 1) := dk_28 (dk_at dksX0_drop_1 4 rfl rfl)
theorem dX0_drop_29 : decode cX0_drop 29 = .ok (.invokevirtual 101, 3) := dk_182 0 101 (dk_at dksX0_drop_1 5 rfl rfl)
theorem dX0_drop_32 : decode cX0_drop 32 = .ok (.ireturn, 1) := dk_172 (dk_at dksX0_drop_1 8 rfl rfl)
theorem dX0_drop_33 : decode cX0_drop 33 = .ok (.astore_n 2, 1) := dk_77 (dk_at dksX0_drop_1 9 rfl rfl)
theorem dX0_drop_34 : decode cX0_drop 34 = .ok (.aload_n 0, 1) := dk_42 (dk_at dksX0_drop_1 10 rfl rfl)
theorem dX0_drop_35 : decode cX0_drop 35 = .ok (.aload_n 2, 1) := dk_44 (dk_at dksX0_drop_1 11 rfl rfl)
theorem dX0_drop_36 : decode cX0_drop 36 = .ok (.invokevirtual 105, 3) := dk_182 0 105 (dk_at dksX0_drop_1 12 rfl rfl)
theorem dX0_drop_39 : decode cX0_drop 39 = .ok (.ireturn, 1) := dk_172 (dk_at dksX0_drop_1 15 rfl rfl)
abbrev cX0_feed : ByteArray := prog_1_method_14_code
def yX0_feed : MethodName := ⟨RX0, "feed", "(I)I"⟩
def dkwX0_feed_2 : List UInt8 := [180, 0, 132, 172]
abbrev dktX0_feed_2 : List UInt8 := dkwX0_feed_2 ++ []
def dkwX0_feed_1 : List UInt8 := [18, 135, 172, 42, 180, 0, 32, 42, 89, 180, 0, 132, 90, 4, 96, 181, 0, 132, 27, 145, 84, 42]
abbrev dktX0_feed_1 : List UInt8 := dkwX0_feed_1 ++ dktX0_feed_2
def dkwX0_feed_0 : List UInt8 := [27, 133, 9, 20, 0, 130, 184, 0, 83, 154, 0, 6, 18, 97, 172, 42, 180, 0, 132, 16, 120, 160, 0, 6]
abbrev dktX0_feed_0 : List UInt8 := dkwX0_feed_0 ++ dktX0_feed_1
theorem dksX0_feed_0 : cX0_feed.data.toList.drop 0 = dktX0_feed_0 := by decide +kernel
theorem dksX0_feed_1 : cX0_feed.data.toList.drop 24 = dktX0_feed_1 := dk_seg dksX0_feed_0 24 rfl rfl
theorem dksX0_feed_2 : cX0_feed.data.toList.drop 46 = dktX0_feed_2 := dk_seg dksX0_feed_1 22 rfl rfl
theorem dX0_feed_0 : decode cX0_feed 0 = .ok (.iload_n 1, 1) := dk_27 (dk_at dksX0_feed_0 0 rfl rfl)
theorem dX0_feed_1 : decode cX0_feed 1 = .ok (.i2l, 1) := dk_133 (dk_at dksX0_feed_0 1 rfl rfl)
theorem dX0_feed_2 : decode cX0_feed 2 = .ok (.lconst 0, 1) := dk_9 (dk_at dksX0_feed_0 2 rfl rfl)
theorem dX0_feed_3 : decode cX0_feed 3 = .ok (.ldc2_w 130, 3) := dk_20 0 130 (dk_at dksX0_feed_0 3 rfl rfl)
theorem dX0_feed_6 : decode cX0_feed 6 = .ok (.invokestatic 83, 3) := dk_184 0 83 (dk_at dksX0_feed_0 6 rfl rfl)
theorem dX0_feed_9 : decode cX0_feed 9 = .ok (.ifCond .ne 6, 3) := dk_154 0 6 (dk_at dksX0_feed_0 9 rfl rfl)
theorem dX0_feed_12 : decode cX0_feed 12 = .ok (.ldc 97, 2) := dk_18 97 (dk_at dksX0_feed_0 12 rfl rfl)
theorem dX0_feed_14 : decode cX0_feed 14 = .ok (.ireturn, 1) := dk_172 (dk_at dksX0_feed_0 14 rfl rfl)
theorem dX0_feed_15 : decode cX0_feed 15 = .ok (.aload_n 0, 1) := dk_42 (dk_at dksX0_feed_0 15 rfl rfl)
theorem dX0_feed_16 : decode cX0_feed 16 = .ok (.getfield 132, 3) := dk_180 0 132 (dk_at dksX0_feed_0 16 rfl rfl)
theorem dX0_feed_19 : decode cX0_feed 19 = .ok (.bipush 120, 2) := dk_16 120 (dk_at dksX0_feed_0 19 rfl rfl)
theorem dX0_feed_21 : decode cX0_feed 21 = .ok (.if_icmp .ne 6, 3) := dk_160 0 6 (dk_at dksX0_feed_0 21 rfl rfl)
theorem dX0_feed_24 : decode cX0_feed 24 = .ok (.ldc 135, 2) := dk_18 135 (dk_at dksX0_feed_1 0 rfl rfl)
theorem dX0_feed_26 : decode cX0_feed 26 = .ok (.ireturn, 1) := dk_172 (dk_at dksX0_feed_1 2 rfl rfl)
theorem dX0_feed_27 : decode cX0_feed 27 = .ok (.aload_n 0, 1) := dk_42 (dk_at dksX0_feed_1 3 rfl rfl)
theorem dX0_feed_28 : decode cX0_feed 28 = .ok (.getfield 32, 3) := dk_180 0 32 (dk_at dksX0_feed_1 4 rfl rfl)
theorem dX0_feed_31 : decode cX0_feed 31 = .ok (.aload_n 0, 1) := dk_42 (dk_at dksX0_feed_1 7 rfl rfl)
theorem dX0_feed_32 : decode cX0_feed 32 = .ok (.dup, 1) := dk_89 (dk_at dksX0_feed_1 8 rfl rfl)
theorem dX0_feed_33 : decode cX0_feed 33 = .ok (.getfield 132, 3) := dk_180 0 132 (dk_at dksX0_feed_1 9 rfl rfl)
theorem dX0_feed_36 : decode cX0_feed 36 = .ok (.dup_x1, 1) := dk_90 (dk_at dksX0_feed_1 12 rfl rfl)
theorem dX0_feed_37 : decode cX0_feed 37 = .ok (.iconst 1, 1) := dk_4 (dk_at dksX0_feed_1 13 rfl rfl)
theorem dX0_feed_38 : decode cX0_feed 38 = .ok (.iadd, 1) := dk_96 (dk_at dksX0_feed_1 14 rfl rfl)
theorem dX0_feed_39 : decode cX0_feed 39 = .ok (.putfield 132, 3) := dk_181 0 132 (dk_at dksX0_feed_1 15 rfl rfl)
theorem dX0_feed_42 : decode cX0_feed 42 = .ok (.iload_n 1, 1) := dk_27 (dk_at dksX0_feed_1 18 rfl rfl)
theorem dX0_feed_43 : decode cX0_feed 43 = .ok (.i2b, 1) := dk_145 (dk_at dksX0_feed_1 19 rfl rfl)
theorem dX0_feed_44 : decode cX0_feed 44 = .ok (.bastore, 1) := dk_84 (dk_at dksX0_feed_1 20 rfl rfl)
theorem dX0_feed_45 : decode cX0_feed 45 = .ok (.aload_n 0, 1) := dk_42 (dk_at dksX0_feed_1 21 rfl rfl)
theorem dX0_feed_46 : decode cX0_feed 46 = .ok (.getfield 132, 3) := dk_180 0 132 (dk_at dksX0_feed_2 0 rfl rfl)
theorem dX0_feed_49 : decode cX0_feed 49 = .ok (.ireturn, 1) := dk_172 (dk_at dksX0_feed_2 3 rfl rfl)
abbrev cX0_parish : ByteArray := prog_1_method_15_code
def yX0_parish : MethodName := ⟨RX0, "parish", "()I"⟩
def dkwX0_parish_2 : List UInt8 := [180, 0, 39, 43, 180, 0, 156, 182, 0, 159, 87, 42, 3, 181, 0, 163, 42, 180, 0, 39, 182, 0, 166, 172]
abbrev dktX0_parish_2 : List UInt8 := dkwX0_parish_2 ++ []
def dkwX0_parish_1 : List UInt8 := [182, 0, 141, 167, 0, 20, 77, 42, 44, 180, 0, 146, 181, 0, 149, 18, 152, 44, 180, 0, 153, 100, 172, 42]
abbrev dktX0_parish_1 : List UInt8 := dkwX0_parish_1 ++ dktX0_parish_2
def dkwX0_parish_0 : List UInt8 := [187, 0, 136, 89, 42, 180, 0, 32, 42, 180, 0, 132, 183, 0, 138, 76, 42, 3, 181, 0, 132, 43]
abbrev dktX0_parish_0 : List UInt8 := dkwX0_parish_0 ++ dktX0_parish_1
theorem dksX0_parish_0 : cX0_parish.data.toList.drop 0 = dktX0_parish_0 := by decide +kernel
theorem dksX0_parish_1 : cX0_parish.data.toList.drop 22 = dktX0_parish_1 := dk_seg dksX0_parish_0 22 rfl rfl
theorem dksX0_parish_2 : cX0_parish.data.toList.drop 46 = dktX0_parish_2 := dk_seg dksX0_parish_1 24 rfl rfl
theorem dX0_parish_0 : decode cX0_parish 0 = .ok (.new 136, 3) := dk_187 0 136 (dk_at dksX0_parish_0 0 rfl rfl)
theorem dX0_parish_3 : decode cX0_parish 3 = .ok (.dup, 1) := dk_89 (dk_at dksX0_parish_0 3 rfl rfl)
theorem dX0_parish_4 : decode cX0_parish 4 = .ok (.aload_n 0, 1) := dk_42 (dk_at dksX0_parish_0 4 rfl rfl)
theorem dX0_parish_5 : decode cX0_parish 5 = .ok (.getfield 32, 3) := dk_180 0 32 (dk_at dksX0_parish_0 5 rfl rfl)
theorem dX0_parish_8 : decode cX0_parish 8 = .ok (.aload_n 0, 1) := dk_42 (dk_at dksX0_parish_0 8 rfl rfl)
theorem dX0_parish_9 : decode cX0_parish 9 = .ok (.getfield 132, 3) := dk_180 0 132 (dk_at dksX0_parish_0 9 rfl rfl)
theorem dX0_parish_12 : decode cX0_parish 12 = .ok (.invokespecial 138, 3) := dk_183 0 138 (dk_at dksX0_parish_0 12 rfl rfl)
theorem dX0_parish_15 : decode cX0_parish 15 = .ok (.astore_n 1, 1) := dk_76 (dk_at dksX0_parish_0 15 rfl rfl)
theorem dX0_parish_16 : decode cX0_parish 16 = .ok (.aload_n 0, 1) := dk_42 (dk_at dksX0_parish_0 16 rfl rfl)
theorem dX0_parish_17 : decode cX0_parish 17 = .ok (.iconst 0, 1) := dk_3 (dk_at dksX0_parish_0 17 rfl rfl)
theorem dX0_parish_18 : decode cX0_parish 18 = .ok (.putfield 132, 3) := dk_181 0 132 (dk_at dksX0_parish_0 18 rfl rfl)
theorem dX0_parish_21 : decode cX0_parish 21 = .ok (.aload_n 1, 1) := dk_43 (dk_at dksX0_parish_0 21 rfl rfl)
theorem dX0_parish_22 : decode cX0_parish 22 = .ok (.invokevirtual 141, 3) := dk_182 0 141 (dk_at dksX0_parish_1 0 rfl rfl)
theorem dX0_parish_25 : decode cX0_parish 25 = .ok (.goto 20, 3) := dk_167 0 20 (dk_at dksX0_parish_1 3 rfl rfl)
theorem dX0_parish_28 : decode cX0_parish 28 = .ok (.astore_n 2, 1) := dk_77 (dk_at dksX0_parish_1 6 rfl rfl)
theorem dX0_parish_29 : decode cX0_parish 29 = .ok (.aload_n 0, 1) := dk_42 (dk_at dksX0_parish_1 7 rfl rfl)
theorem dX0_parish_30 : decode cX0_parish 30 = .ok (.aload_n 2, 1) := dk_44 (dk_at dksX0_parish_1 8 rfl rfl)
theorem dX0_parish_31 : decode cX0_parish 31 = .ok (.getfield 146, 3) := dk_180 0 146 (dk_at dksX0_parish_1 9 rfl rfl)
theorem dX0_parish_34 : decode cX0_parish 34 = .ok (.putfield 149, 3) := dk_181 0 149 (dk_at dksX0_parish_1 12 rfl rfl)
theorem dX0_parish_37 : decode cX0_parish 37 = .ok (.ldc 152, 2) := dk_18 152 (dk_at dksX0_parish_1 15 rfl rfl)
theorem dX0_parish_39 : decode cX0_parish 39 = .ok (.aload_n 2, 1) := dk_44 (dk_at dksX0_parish_1 17 rfl rfl)
theorem dX0_parish_40 : decode cX0_parish 40 = .ok (.getfield 153, 3) := dk_180 0 153 (dk_at dksX0_parish_1 18 rfl rfl)
theorem dX0_parish_43 : decode cX0_parish 43 = .ok (.isub, 1) := dk_100 (dk_at dksX0_parish_1 21 rfl rfl)
theorem dX0_parish_44 : decode cX0_parish 44 = .ok (.ireturn, 1) := dk_172 (dk_at dksX0_parish_1 22 rfl rfl)
theorem dX0_parish_45 : decode cX0_parish 45 = .ok (.aload_n 0, 1) := dk_42 (dk_at dksX0_parish_1 23 rfl rfl)
theorem dX0_parish_46 : decode cX0_parish 46 = .ok (.getfield 39, 3) := dk_180 0 39 (dk_at dksX0_parish_2 0 rfl rfl)
theorem dX0_parish_49 : decode cX0_parish 49 = .ok (.aload_n 1, 1) := dk_43 (dk_at dksX0_parish_2 3 rfl rfl)
theorem dX0_parish_50 : decode cX0_parish 50 = .ok (.getfield 156, 3) := dk_180 0 156 (dk_at dksX0_parish_2 4 rfl rfl)
theorem dX0_parish_53 : decode cX0_parish 53 = .ok (.invokevirtual 159, 3) := dk_182 0 159 (dk_at dksX0_parish_2 7 rfl rfl)
theorem dX0_parish_56 : decode cX0_parish 56 = .ok (.pop, 1) := dk_87 (dk_at dksX0_parish_2 10 rfl rfl)
theorem dX0_parish_57 : decode cX0_parish 57 = .ok (.aload_n 0, 1) := dk_42 (dk_at dksX0_parish_2 11 rfl rfl)
theorem dX0_parish_58 : decode cX0_parish 58 = .ok (.iconst 0, 1) := dk_3 (dk_at dksX0_parish_2 12 rfl rfl)
theorem dX0_parish_59 : decode cX0_parish 59 = .ok (.putfield 163, 3) := dk_181 0 163 (dk_at dksX0_parish_2 13 rfl rfl)
theorem dX0_parish_62 : decode cX0_parish 62 = .ok (.aload_n 0, 1) := dk_42 (dk_at dksX0_parish_2 16 rfl rfl)
theorem dX0_parish_63 : decode cX0_parish 63 = .ok (.getfield 39, 3) := dk_180 0 39 (dk_at dksX0_parish_2 17 rfl rfl)
theorem dX0_parish_66 : decode cX0_parish 66 = .ok (.invokevirtual 166, 3) := dk_182 0 166 (dk_at dksX0_parish_2 20 rfl rfl)
theorem dX0_parish_69 : decode cX0_parish 69 = .ok (.ireturn, 1) := dk_172 (dk_at dksX0_parish_2 23 rfl rfl)
abbrev cX0_personBy : ByteArray := prog_1_method_3_code
def yX0_personBy : MethodName := ⟨RX0, "personBy", "(II)LPromisePounds$Person;"⟩
def dkwX0_personBy_3 : List UInt8 := [183, 0, 12, 176, 187, 0, 13, 89, 27, 183, 0, 15, 176, 187, 0, 16, 89, 27, 183, 0, 18, 176]
abbrev dktX0_personBy_3 : List UInt8 := dkwX0_personBy_3 ++ []
def dkwX0_personBy_2 : List UInt8 := [187, 0, 1, 89, 27, 183, 0, 3, 176, 187, 0, 7, 89, 27, 183, 0, 9, 176, 187, 0, 10, 89, 27]
abbrev dktX0_personBy_2 : List UInt8 := dkwX0_personBy_2 ++ dktX0_personBy_3
def dkwX0_personBy_1 : List UInt8 := [170, 0, 0, 0, 0, 0, 67, 0, 0, 0, 0, 0, 0, 0, 3, 0, 0, 0, 31, 0, 0, 0, 40, 0, 0, 0, 49, 0, 0, 0, 58]
abbrev dktX0_personBy_1 : List UInt8 := dkwX0_personBy_1 ++ dktX0_personBy_2
def dkwX0_personBy_0 : List UInt8 := [26]
abbrev dktX0_personBy_0 : List UInt8 := dkwX0_personBy_0 ++ dktX0_personBy_1
theorem dksX0_personBy_0 : cX0_personBy.data.toList.drop 0 = dktX0_personBy_0 := by decide +kernel
theorem dksX0_personBy_1 : cX0_personBy.data.toList.drop 1 = dktX0_personBy_1 := dk_seg dksX0_personBy_0 1 rfl rfl
theorem dksX0_personBy_2 : cX0_personBy.data.toList.drop 32 = dktX0_personBy_2 := dk_seg dksX0_personBy_1 31 rfl rfl
theorem dksX0_personBy_3 : cX0_personBy.data.toList.drop 55 = dktX0_personBy_3 := dk_seg dksX0_personBy_2 23 rfl rfl
theorem dX0_personBy_0 : decode cX0_personBy 0 = .ok (.iload_n 0, 1) := dk_26 (dk_at dksX0_personBy_0 0 rfl rfl)
theorem dX0_personBy_1 : decode cX0_personBy 1 = .ok (.tableswitch 67 0 3 #[31, 40, 49, 58], 31) := by decide +kernel
theorem dX0_personBy_32 : decode cX0_personBy 32 = .ok (.new 1, 3) := dk_187 0 1 (dk_at dksX0_personBy_2 0 rfl rfl)
theorem dX0_personBy_35 : decode cX0_personBy 35 = .ok (.dup, 1) := dk_89 (dk_at dksX0_personBy_2 3 rfl rfl)
theorem dX0_personBy_36 : decode cX0_personBy 36 = .ok (.iload_n 1, 1) := dk_27 (dk_at dksX0_personBy_2 4 rfl rfl)
theorem dX0_personBy_37 : decode cX0_personBy 37 = .ok (.invokespecial 3, 3) := dk_183 0 3 (dk_at dksX0_personBy_2 5 rfl rfl)
theorem dX0_personBy_40 : decode cX0_personBy 40 = .ok (.areturn, 1) := dk_176 (dk_at dksX0_personBy_2 8 rfl rfl)
theorem dX0_personBy_41 : decode cX0_personBy 41 = .ok (.new 7, 3) := dk_187 0 7 (dk_at dksX0_personBy_2 9 rfl rfl)
theorem dX0_personBy_44 : decode cX0_personBy 44 = .ok (.dup, 1) := dk_89 (dk_at dksX0_personBy_2 12 rfl rfl)
theorem dX0_personBy_45 : decode cX0_personBy 45 = .ok (.iload_n 1, 1) := dk_27 (dk_at dksX0_personBy_2 13 rfl rfl)
theorem dX0_personBy_46 : decode cX0_personBy 46 = .ok (.invokespecial 9, 3) := dk_183 0 9 (dk_at dksX0_personBy_2 14 rfl rfl)
theorem dX0_personBy_49 : decode cX0_personBy 49 = .ok (.areturn, 1) := dk_176 (dk_at dksX0_personBy_2 17 rfl rfl)
theorem dX0_personBy_50 : decode cX0_personBy 50 = .ok (.new 10, 3) := dk_187 0 10 (dk_at dksX0_personBy_2 18 rfl rfl)
theorem dX0_personBy_53 : decode cX0_personBy 53 = .ok (.dup, 1) := dk_89 (dk_at dksX0_personBy_2 21 rfl rfl)
theorem dX0_personBy_54 : decode cX0_personBy 54 = .ok (.iload_n 1, 1) := dk_27 (dk_at dksX0_personBy_2 22 rfl rfl)
theorem dX0_personBy_55 : decode cX0_personBy 55 = .ok (.invokespecial 12, 3) := dk_183 0 12 (dk_at dksX0_personBy_3 0 rfl rfl)
theorem dX0_personBy_58 : decode cX0_personBy 58 = .ok (.areturn, 1) := dk_176 (dk_at dksX0_personBy_3 3 rfl rfl)
theorem dX0_personBy_59 : decode cX0_personBy 59 = .ok (.new 13, 3) := dk_187 0 13 (dk_at dksX0_personBy_3 4 rfl rfl)
theorem dX0_personBy_62 : decode cX0_personBy 62 = .ok (.dup, 1) := dk_89 (dk_at dksX0_personBy_3 7 rfl rfl)
theorem dX0_personBy_63 : decode cX0_personBy 63 = .ok (.iload_n 1, 1) := dk_27 (dk_at dksX0_personBy_3 8 rfl rfl)
theorem dX0_personBy_64 : decode cX0_personBy 64 = .ok (.invokespecial 15, 3) := dk_183 0 15 (dk_at dksX0_personBy_3 9 rfl rfl)
theorem dX0_personBy_67 : decode cX0_personBy 67 = .ok (.areturn, 1) := dk_176 (dk_at dksX0_personBy_3 12 rfl rfl)
theorem dX0_personBy_68 : decode cX0_personBy 68 = .ok (.new 16, 3) := dk_187 0 16 (dk_at dksX0_personBy_3 13 rfl rfl)
theorem dX0_personBy_71 : decode cX0_personBy 71 = .ok (.dup, 1) := dk_89 (dk_at dksX0_personBy_3 16 rfl rfl)
theorem dX0_personBy_72 : decode cX0_personBy 72 = .ok (.iload_n 1, 1) := dk_27 (dk_at dksX0_personBy_3 17 rfl rfl)
theorem dX0_personBy_73 : decode cX0_personBy 73 = .ok (.invokespecial 18, 3) := dk_183 0 18 (dk_at dksX0_personBy_3 18 rfl rfl)
theorem dX0_personBy_76 : decode cX0_personBy 76 = .ok (.areturn, 1) := dk_176 (dk_at dksX0_personBy_3 21 rfl rfl)
abbrev cX0_fault : ByteArray := prog_1_method_16_code
def yX0_fault : MethodName := ⟨RX0, "fault", "()I"⟩
theorem dX0_fault_0 : decode cX0_fault 0 = .ok (.aload_n 0, 1) := by decide +kernel
theorem dX0_fault_1 : decode cX0_fault 1 = .ok (.getfield 149, 3) := by decide +kernel
theorem dX0_fault_4 : decode cX0_fault 4 = .ok (.ireturn, 1) := by decide +kernel
abbrev cX0_undo : ByteArray := prog_1_method_19_code
def yX0_undo : MethodName := ⟨RX0, "undo", "()I"⟩
def dkwX0_undo_1 : List UInt8 := [42, 180, 0, 46, 42, 180, 0, 163, 50, 182, 0, 159, 87, 42, 180, 0, 163, 172]
abbrev dktX0_undo_1 : List UInt8 := dkwX0_undo_1 ++ []
def dkwX0_undo_0 : List UInt8 := [42, 180, 0, 163, 154, 0, 6, 18, 170, 172, 42, 89, 180, 0, 163, 4, 100, 181, 0, 163, 42, 180, 0, 39]
abbrev dktX0_undo_0 : List UInt8 := dkwX0_undo_0 ++ dktX0_undo_1
theorem dksX0_undo_0 : cX0_undo.data.toList.drop 0 = dktX0_undo_0 := by decide +kernel
theorem dksX0_undo_1 : cX0_undo.data.toList.drop 24 = dktX0_undo_1 := dk_seg dksX0_undo_0 24 rfl rfl
theorem dX0_undo_0 : decode cX0_undo 0 = .ok (.aload_n 0, 1) := dk_42 (dk_at dksX0_undo_0 0 rfl rfl)
theorem dX0_undo_1 : decode cX0_undo 1 = .ok (.getfield 163, 3) := dk_180 0 163 (dk_at dksX0_undo_0 1 rfl rfl)
theorem dX0_undo_4 : decode cX0_undo 4 = .ok (.ifCond .ne 6, 3) := dk_154 0 6 (dk_at dksX0_undo_0 4 rfl rfl)
theorem dX0_undo_7 : decode cX0_undo 7 = .ok (.ldc 170, 2) := dk_18 170 (dk_at dksX0_undo_0 7 rfl rfl)
theorem dX0_undo_9 : decode cX0_undo 9 = .ok (.ireturn, 1) := dk_172 (dk_at dksX0_undo_0 9 rfl rfl)
theorem dX0_undo_10 : decode cX0_undo 10 = .ok (.aload_n 0, 1) := dk_42 (dk_at dksX0_undo_0 10 rfl rfl)
theorem dX0_undo_11 : decode cX0_undo 11 = .ok (.dup, 1) := dk_89 (dk_at dksX0_undo_0 11 rfl rfl)
theorem dX0_undo_12 : decode cX0_undo 12 = .ok (.getfield 163, 3) := dk_180 0 163 (dk_at dksX0_undo_0 12 rfl rfl)
theorem dX0_undo_15 : decode cX0_undo 15 = .ok (.iconst 1, 1) := dk_4 (dk_at dksX0_undo_0 15 rfl rfl)
theorem dX0_undo_16 : decode cX0_undo 16 = .ok (.isub, 1) := dk_100 (dk_at dksX0_undo_0 16 rfl rfl)
theorem dX0_undo_17 : decode cX0_undo 17 = .ok (.putfield 163, 3) := dk_181 0 163 (dk_at dksX0_undo_0 17 rfl rfl)
theorem dX0_undo_20 : decode cX0_undo 20 = .ok (.aload_n 0, 1) := dk_42 (dk_at dksX0_undo_0 20 rfl rfl)
theorem dX0_undo_21 : decode cX0_undo 21 = .ok (.getfield 39, 3) := dk_180 0 39 (dk_at dksX0_undo_0 21 rfl rfl)
theorem dX0_undo_24 : decode cX0_undo 24 = .ok (.aload_n 0, 1) := dk_42 (dk_at dksX0_undo_1 0 rfl rfl)
theorem dX0_undo_25 : decode cX0_undo 25 = .ok (.getfield 46, 3) := dk_180 0 46 (dk_at dksX0_undo_1 1 rfl rfl)
theorem dX0_undo_28 : decode cX0_undo 28 = .ok (.aload_n 0, 1) := dk_42 (dk_at dksX0_undo_1 4 rfl rfl)
theorem dX0_undo_29 : decode cX0_undo 29 = .ok (.getfield 163, 3) := dk_180 0 163 (dk_at dksX0_undo_1 5 rfl rfl)
theorem dX0_undo_32 : decode cX0_undo 32 = .ok (.aaload, 1) := dk_50 (dk_at dksX0_undo_1 8 rfl rfl)
theorem dX0_undo_33 : decode cX0_undo 33 = .ok (.invokevirtual 159, 3) := dk_182 0 159 (dk_at dksX0_undo_1 9 rfl rfl)
theorem dX0_undo_36 : decode cX0_undo 36 = .ok (.pop, 1) := dk_87 (dk_at dksX0_undo_1 12 rfl rfl)
theorem dX0_undo_37 : decode cX0_undo 37 = .ok (.aload_n 0, 1) := dk_42 (dk_at dksX0_undo_1 13 rfl rfl)
theorem dX0_undo_38 : decode cX0_undo 38 = .ok (.getfield 163, 3) := dk_180 0 163 (dk_at dksX0_undo_1 14 rfl rfl)
theorem dX0_undo_41 : decode cX0_undo 41 = .ok (.ireturn, 1) := dk_172 (dk_at dksX0_undo_1 17 rfl rfl)
abbrev cX0_walk : ByteArray := prog_1_method_24_code
def yX0_walk : MethodName := ⟨RX0, "walk", "(II)I"⟩
def dkwX0_walk_2 : List UInt8 := [180, 0, 186, 27, 92, 46, 28, 96, 79, 42, 180, 0, 39, 180, 0, 186, 27, 46, 172]
abbrev dktX0_walk_2 : List UInt8 := dkwX0_walk_2 ++ []
def dkwX0_walk_1 : List UInt8 := [180, 0, 39, 27, 28, 182, 0, 179, 154, 0, 6, 18, 170, 172, 42, 182, 0, 183, 42, 180, 0, 39]
abbrev dktX0_walk_1 : List UInt8 := dkwX0_walk_1 ++ dktX0_walk_2
def dkwX0_walk_0 : List UInt8 := [42, 27, 182, 0, 176, 153, 0, 13, 28, 4, 159, 0, 11, 28, 2, 159, 0, 6, 18, 97, 172, 42]
abbrev dktX0_walk_0 : List UInt8 := dkwX0_walk_0 ++ dktX0_walk_1
theorem dksX0_walk_0 : cX0_walk.data.toList.drop 0 = dktX0_walk_0 := by decide +kernel
theorem dksX0_walk_1 : cX0_walk.data.toList.drop 22 = dktX0_walk_1 := dk_seg dksX0_walk_0 22 rfl rfl
theorem dksX0_walk_2 : cX0_walk.data.toList.drop 44 = dktX0_walk_2 := dk_seg dksX0_walk_1 22 rfl rfl
theorem dX0_walk_0 : decode cX0_walk 0 = .ok (.aload_n 0, 1) := dk_42 (dk_at dksX0_walk_0 0 rfl rfl)
theorem dX0_walk_1 : decode cX0_walk 1 = .ok (.iload_n 1, 1) := dk_27 (dk_at dksX0_walk_0 1 rfl rfl)
theorem dX0_walk_2 : decode cX0_walk 2 = .ok (.invokevirtual 176, 3) := dk_182 0 176 (dk_at dksX0_walk_0 2 rfl rfl)
theorem dX0_walk_5 : decode cX0_walk 5 = .ok (.ifCond .eq 13, 3) := dk_153 0 13 (dk_at dksX0_walk_0 5 rfl rfl)
theorem dX0_walk_8 : decode cX0_walk 8 = .ok (.iload_n 2, 1) := dk_28 (dk_at dksX0_walk_0 8 rfl rfl)
theorem dX0_walk_9 : decode cX0_walk 9 = .ok (.iconst 1, 1) := dk_4 (dk_at dksX0_walk_0 9 rfl rfl)
theorem dX0_walk_10 : decode cX0_walk 10 = .ok (.if_icmp .eq 11, 3) := dk_159 0 11 (dk_at dksX0_walk_0 10 rfl rfl)
theorem dX0_walk_13 : decode cX0_walk 13 = .ok (.iload_n 2, 1) := dk_28 (dk_at dksX0_walk_0 13 rfl rfl)
theorem dX0_walk_14 : decode cX0_walk 14 = .ok (.iconst (-1), 1) := dk_2 (dk_at dksX0_walk_0 14 rfl rfl)
theorem dX0_walk_15 : decode cX0_walk 15 = .ok (.if_icmp .eq 6, 3) := dk_159 0 6 (dk_at dksX0_walk_0 15 rfl rfl)
theorem dX0_walk_18 : decode cX0_walk 18 = .ok (.ldc 97, 2) := dk_18 97 (dk_at dksX0_walk_0 18 rfl rfl)
theorem dX0_walk_20 : decode cX0_walk 20 = .ok (.ireturn, 1) := dk_172 (dk_at dksX0_walk_0 20 rfl rfl)
theorem dX0_walk_21 : decode cX0_walk 21 = .ok (.aload_n 0, 1) := dk_42 (dk_at dksX0_walk_0 21 rfl rfl)
theorem dX0_walk_22 : decode cX0_walk 22 = .ok (.getfield 39, 3) := dk_180 0 39 (dk_at dksX0_walk_1 0 rfl rfl)
theorem dX0_walk_25 : decode cX0_walk 25 = .ok (.iload_n 1, 1) := dk_27 (dk_at dksX0_walk_1 3 rfl rfl)
theorem dX0_walk_26 : decode cX0_walk 26 = .ok (.iload_n 2, 1) := dk_28 (dk_at dksX0_walk_1 4 rfl rfl)
theorem dX0_walk_27 : decode cX0_walk 27 = .ok (.invokevirtual 179, 3) := dk_182 0 179 (dk_at dksX0_walk_1 5 rfl rfl)
theorem dX0_walk_30 : decode cX0_walk 30 = .ok (.ifCond .ne 6, 3) := dk_154 0 6 (dk_at dksX0_walk_1 8 rfl rfl)
theorem dX0_walk_33 : decode cX0_walk 33 = .ok (.ldc 170, 2) := dk_18 170 (dk_at dksX0_walk_1 11 rfl rfl)
theorem dX0_walk_35 : decode cX0_walk 35 = .ok (.ireturn, 1) := dk_172 (dk_at dksX0_walk_1 13 rfl rfl)
theorem dX0_walk_36 : decode cX0_walk 36 = .ok (.aload_n 0, 1) := dk_42 (dk_at dksX0_walk_1 14 rfl rfl)
theorem dX0_walk_37 : decode cX0_walk 37 = .ok (.invokevirtual 183, 3) := dk_182 0 183 (dk_at dksX0_walk_1 15 rfl rfl)
theorem dX0_walk_40 : decode cX0_walk 40 = .ok (.aload_n 0, 1) := dk_42 (dk_at dksX0_walk_1 18 rfl rfl)
theorem dX0_walk_41 : decode cX0_walk 41 = .ok (.getfield 39, 3) := dk_180 0 39 (dk_at dksX0_walk_1 19 rfl rfl)
theorem dX0_walk_44 : decode cX0_walk 44 = .ok (.getfield 186, 3) := dk_180 0 186 (dk_at dksX0_walk_2 0 rfl rfl)
theorem dX0_walk_47 : decode cX0_walk 47 = .ok (.iload_n 1, 1) := dk_27 (dk_at dksX0_walk_2 3 rfl rfl)
theorem dX0_walk_48 : decode cX0_walk 48 = .ok (.dup2, 1) := dk_92 (dk_at dksX0_walk_2 4 rfl rfl)
theorem dX0_walk_49 : decode cX0_walk 49 = .ok (.iaload, 1) := dk_46 (dk_at dksX0_walk_2 5 rfl rfl)
theorem dX0_walk_50 : decode cX0_walk 50 = .ok (.iload_n 2, 1) := dk_28 (dk_at dksX0_walk_2 6 rfl rfl)
theorem dX0_walk_51 : decode cX0_walk 51 = .ok (.iadd, 1) := dk_96 (dk_at dksX0_walk_2 7 rfl rfl)
theorem dX0_walk_52 : decode cX0_walk 52 = .ok (.iastore, 1) := dk_79 (dk_at dksX0_walk_2 8 rfl rfl)
theorem dX0_walk_53 : decode cX0_walk 53 = .ok (.aload_n 0, 1) := dk_42 (dk_at dksX0_walk_2 9 rfl rfl)
theorem dX0_walk_54 : decode cX0_walk 54 = .ok (.getfield 39, 3) := dk_180 0 39 (dk_at dksX0_walk_2 10 rfl rfl)
theorem dX0_walk_57 : decode cX0_walk 57 = .ok (.getfield 186, 3) := dk_180 0 186 (dk_at dksX0_walk_2 13 rfl rfl)
theorem dX0_walk_60 : decode cX0_walk 60 = .ok (.iload_n 1, 1) := dk_27 (dk_at dksX0_walk_2 16 rfl rfl)
theorem dX0_walk_61 : decode cX0_walk 61 = .ok (.iaload, 1) := dk_46 (dk_at dksX0_walk_2 17 rfl rfl)
theorem dX0_walk_62 : decode cX0_walk 62 = .ok (.ireturn, 1) := dk_172 (dk_at dksX0_walk_2 18 rfl rfl)
abbrev cX0_isPerson : ByteArray := prog_1_method_21_code
def yX0_isPerson : MethodName := ⟨RX0, "isPerson", "(I)Z"⟩
def dkwX0_isPerson_0 : List UInt8 := [27, 133, 9, 42, 180, 0, 39, 182, 0, 166, 4, 100, 133, 184, 0, 83, 172]
abbrev dktX0_isPerson_0 : List UInt8 := dkwX0_isPerson_0 ++ []
theorem dksX0_isPerson_0 : cX0_isPerson.data.toList.drop 0 = dktX0_isPerson_0 := by decide +kernel
theorem dX0_isPerson_0 : decode cX0_isPerson 0 = .ok (.iload_n 1, 1) := dk_27 (dk_at dksX0_isPerson_0 0 rfl rfl)
theorem dX0_isPerson_1 : decode cX0_isPerson 1 = .ok (.i2l, 1) := dk_133 (dk_at dksX0_isPerson_0 1 rfl rfl)
theorem dX0_isPerson_2 : decode cX0_isPerson 2 = .ok (.lconst 0, 1) := dk_9 (dk_at dksX0_isPerson_0 2 rfl rfl)
theorem dX0_isPerson_3 : decode cX0_isPerson 3 = .ok (.aload_n 0, 1) := dk_42 (dk_at dksX0_isPerson_0 3 rfl rfl)
theorem dX0_isPerson_4 : decode cX0_isPerson 4 = .ok (.getfield 39, 3) := dk_180 0 39 (dk_at dksX0_isPerson_0 4 rfl rfl)
theorem dX0_isPerson_7 : decode cX0_isPerson 7 = .ok (.invokevirtual 166, 3) := dk_182 0 166 (dk_at dksX0_isPerson_0 7 rfl rfl)
theorem dX0_isPerson_10 : decode cX0_isPerson 10 = .ok (.iconst 1, 1) := dk_4 (dk_at dksX0_isPerson_0 10 rfl rfl)
theorem dX0_isPerson_11 : decode cX0_isPerson 11 = .ok (.isub, 1) := dk_100 (dk_at dksX0_isPerson_0 11 rfl rfl)
theorem dX0_isPerson_12 : decode cX0_isPerson 12 = .ok (.i2l, 1) := dk_133 (dk_at dksX0_isPerson_0 12 rfl rfl)
theorem dX0_isPerson_13 : decode cX0_isPerson 13 = .ok (.invokestatic 83, 3) := dk_184 0 83 (dk_at dksX0_isPerson_0 13 rfl rfl)
theorem dX0_isPerson_16 : decode cX0_isPerson 16 = .ok (.ireturn, 1) := dk_172 (dk_at dksX0_isPerson_0 16 rfl rfl)
abbrev cX0_has : ByteArray := prog_1_method_2_code
def yX0_has : MethodName := ⟨RX0, "has", "(II)Z"⟩
def dkwX0_has_0 : List UInt8 := [26, 27, 122, 4, 126, 4, 160, 0, 7, 4, 167, 0, 4, 3, 172]
abbrev dktX0_has_0 : List UInt8 := dkwX0_has_0 ++ []
theorem dksX0_has_0 : cX0_has.data.toList.drop 0 = dktX0_has_0 := by decide +kernel
theorem dX0_has_0 : decode cX0_has 0 = .ok (.iload_n 0, 1) := dk_26 (dk_at dksX0_has_0 0 rfl rfl)
theorem dX0_has_1 : decode cX0_has 1 = .ok (.iload_n 1, 1) := dk_27 (dk_at dksX0_has_0 1 rfl rfl)
theorem dX0_has_2 : decode cX0_has 2 = .ok (.ishr, 1) := dk_122 (dk_at dksX0_has_0 2 rfl rfl)
theorem dX0_has_3 : decode cX0_has 3 = .ok (.iconst 1, 1) := dk_4 (dk_at dksX0_has_0 3 rfl rfl)
theorem dX0_has_4 : decode cX0_has 4 = .ok (.iand, 1) := dk_126 (dk_at dksX0_has_0 4 rfl rfl)
theorem dX0_has_5 : decode cX0_has 5 = .ok (.iconst 1, 1) := dk_4 (dk_at dksX0_has_0 5 rfl rfl)
theorem dX0_has_6 : decode cX0_has 6 = .ok (.if_icmp .ne 7, 3) := dk_160 0 7 (dk_at dksX0_has_0 6 rfl rfl)
theorem dX0_has_9 : decode cX0_has 9 = .ok (.iconst 1, 1) := dk_4 (dk_at dksX0_has_0 9 rfl rfl)
theorem dX0_has_10 : decode cX0_has 10 = .ok (.goto 4, 3) := dk_167 0 4 (dk_at dksX0_has_0 10 rfl rfl)
theorem dX0_has_13 : decode cX0_has 13 = .ok (.iconst 0, 1) := dk_3 (dk_at dksX0_has_0 13 rfl rfl)
theorem dX0_has_14 : decode cX0_has 14 = .ok (.ireturn, 1) := dk_172 (dk_at dksX0_has_0 14 rfl rfl)
abbrev cX0_keep : ByteArray := prog_1_method_18_code
def yX0_keep : MethodName := ⟨RX0, "keep", "()V"⟩
def dkwX0_keep_4 : List UInt8 := [180, 0, 163, 50, 42, 180, 0, 39, 182, 0, 159, 87, 42, 89, 180, 0, 163, 4, 96, 181, 0, 163, 177]
abbrev dktX0_keep_4 : List UInt8 := dkwX0_keep_4 ++ []
def dkwX0_keep_3 : List UInt8 := [199, 0, 19, 42, 180, 0, 46, 42, 180, 0, 163, 187, 0, 36, 89, 183, 0, 38, 83, 42, 180, 0, 46, 42]
abbrev dktX0_keep_3 : List UInt8 := dkwX0_keep_3 ++ dktX0_keep_4
def dkwX0_keep_2 : List UInt8 := [16, 23, 43, 83, 42, 89, 180, 0, 163, 4, 100, 181, 0, 163, 42, 180, 0, 46, 42, 180, 0, 163, 50]
abbrev dktX0_keep_2 : List UInt8 := dkwX0_keep_2 ++ dktX0_keep_3
def dkwX0_keep_1 : List UInt8 := [42, 180, 0, 46, 28, 4, 100, 42, 180, 0, 46, 28, 50, 83, 132, 2, 1, 167, 255, 233, 42, 180, 0, 46]
abbrev dktX0_keep_1 : List UInt8 := dkwX0_keep_1 ++ dktX0_keep_2
def dkwX0_keep_0 : List UInt8 := [42, 180, 0, 163, 16, 24, 160, 0, 56, 42, 180, 0, 46, 3, 50, 76, 4, 61, 28, 16, 24, 162, 0, 23]
abbrev dktX0_keep_0 : List UInt8 := dkwX0_keep_0 ++ dktX0_keep_1
theorem dksX0_keep_0 : cX0_keep.data.toList.drop 0 = dktX0_keep_0 := by decide +kernel
theorem dksX0_keep_1 : cX0_keep.data.toList.drop 24 = dktX0_keep_1 := dk_seg dksX0_keep_0 24 rfl rfl
theorem dksX0_keep_2 : cX0_keep.data.toList.drop 48 = dktX0_keep_2 := dk_seg dksX0_keep_1 24 rfl rfl
theorem dksX0_keep_3 : cX0_keep.data.toList.drop 71 = dktX0_keep_3 := dk_seg dksX0_keep_2 23 rfl rfl
theorem dksX0_keep_4 : cX0_keep.data.toList.drop 95 = dktX0_keep_4 := dk_seg dksX0_keep_3 24 rfl rfl
theorem dX0_keep_0 : decode cX0_keep 0 = .ok (.aload_n 0, 1) := dk_42 (dk_at dksX0_keep_0 0 rfl rfl)
theorem dX0_keep_1 : decode cX0_keep 1 = .ok (.getfield 163, 3) := dk_180 0 163 (dk_at dksX0_keep_0 1 rfl rfl)
theorem dX0_keep_4 : decode cX0_keep 4 = .ok (.bipush 24, 2) := dk_16 24 (dk_at dksX0_keep_0 4 rfl rfl)
theorem dX0_keep_6 : decode cX0_keep 6 = .ok (.if_icmp .ne 56, 3) := dk_160 0 56 (dk_at dksX0_keep_0 6 rfl rfl)
theorem dX0_keep_9 : decode cX0_keep 9 = .ok (.aload_n 0, 1) := dk_42 (dk_at dksX0_keep_0 9 rfl rfl)
theorem dX0_keep_10 : decode cX0_keep 10 = .ok (.getfield 46, 3) := dk_180 0 46 (dk_at dksX0_keep_0 10 rfl rfl)
theorem dX0_keep_13 : decode cX0_keep 13 = .ok (.iconst 0, 1) := dk_3 (dk_at dksX0_keep_0 13 rfl rfl)
theorem dX0_keep_14 : decode cX0_keep 14 = .ok (.aaload, 1) := dk_50 (dk_at dksX0_keep_0 14 rfl rfl)
theorem dX0_keep_15 : decode cX0_keep 15 = .ok (.astore_n 1, 1) := dk_76 (dk_at dksX0_keep_0 15 rfl rfl)
theorem dX0_keep_16 : decode cX0_keep 16 = .ok (.iconst 1, 1) := dk_4 (dk_at dksX0_keep_0 16 rfl rfl)
theorem dX0_keep_17 : decode cX0_keep 17 = .ok (.istore_n 2, 1) := dk_61 (dk_at dksX0_keep_0 17 rfl rfl)
theorem dX0_keep_18 : decode cX0_keep 18 = .ok (.iload_n 2, 1) := dk_28 (dk_at dksX0_keep_0 18 rfl rfl)
theorem dX0_keep_19 : decode cX0_keep 19 = .ok (.bipush 24, 2) := dk_16 24 (dk_at dksX0_keep_0 19 rfl rfl)
theorem dX0_keep_21 : decode cX0_keep 21 = .ok (.if_icmp .ge 23, 3) := dk_162 0 23 (dk_at dksX0_keep_0 21 rfl rfl)
theorem dX0_keep_24 : decode cX0_keep 24 = .ok (.aload_n 0, 1) := dk_42 (dk_at dksX0_keep_1 0 rfl rfl)
theorem dX0_keep_25 : decode cX0_keep 25 = .ok (.getfield 46, 3) := dk_180 0 46 (dk_at dksX0_keep_1 1 rfl rfl)
theorem dX0_keep_28 : decode cX0_keep 28 = .ok (.iload_n 2, 1) := dk_28 (dk_at dksX0_keep_1 4 rfl rfl)
theorem dX0_keep_29 : decode cX0_keep 29 = .ok (.iconst 1, 1) := dk_4 (dk_at dksX0_keep_1 5 rfl rfl)
theorem dX0_keep_30 : decode cX0_keep 30 = .ok (.isub, 1) := dk_100 (dk_at dksX0_keep_1 6 rfl rfl)
theorem dX0_keep_31 : decode cX0_keep 31 = .ok (.aload_n 0, 1) := dk_42 (dk_at dksX0_keep_1 7 rfl rfl)
theorem dX0_keep_32 : decode cX0_keep 32 = .ok (.getfield 46, 3) := dk_180 0 46 (dk_at dksX0_keep_1 8 rfl rfl)
theorem dX0_keep_35 : decode cX0_keep 35 = .ok (.iload_n 2, 1) := dk_28 (dk_at dksX0_keep_1 11 rfl rfl)
theorem dX0_keep_36 : decode cX0_keep 36 = .ok (.aaload, 1) := dk_50 (dk_at dksX0_keep_1 12 rfl rfl)
theorem dX0_keep_37 : decode cX0_keep 37 = .ok (.aastore, 1) := dk_83 (dk_at dksX0_keep_1 13 rfl rfl)
theorem dX0_keep_38 : decode cX0_keep 38 = .ok (.iinc 2 1, 3) := dk_132 2 1 (dk_at dksX0_keep_1 14 rfl rfl)
theorem dX0_keep_41 : decode cX0_keep 41 = .ok (.goto (-23), 3) := dk_167 255 233 (dk_at dksX0_keep_1 17 rfl rfl)
theorem dX0_keep_44 : decode cX0_keep 44 = .ok (.aload_n 0, 1) := dk_42 (dk_at dksX0_keep_1 20 rfl rfl)
theorem dX0_keep_45 : decode cX0_keep 45 = .ok (.getfield 46, 3) := dk_180 0 46 (dk_at dksX0_keep_1 21 rfl rfl)
theorem dX0_keep_48 : decode cX0_keep 48 = .ok (.bipush 23, 2) := dk_16 23 (dk_at dksX0_keep_2 0 rfl rfl)
theorem dX0_keep_50 : decode cX0_keep 50 = .ok (.aload_n 1, 1) := dk_43 (dk_at dksX0_keep_2 2 rfl rfl)
theorem dX0_keep_51 : decode cX0_keep 51 = .ok (.aastore, 1) := dk_83 (dk_at dksX0_keep_2 3 rfl rfl)
theorem dX0_keep_52 : decode cX0_keep 52 = .ok (.aload_n 0, 1) := dk_42 (dk_at dksX0_keep_2 4 rfl rfl)
theorem dX0_keep_53 : decode cX0_keep 53 = .ok (.dup, 1) := dk_89 (dk_at dksX0_keep_2 5 rfl rfl)
theorem dX0_keep_54 : decode cX0_keep 54 = .ok (.getfield 163, 3) := dk_180 0 163 (dk_at dksX0_keep_2 6 rfl rfl)
theorem dX0_keep_57 : decode cX0_keep 57 = .ok (.iconst 1, 1) := dk_4 (dk_at dksX0_keep_2 9 rfl rfl)
theorem dX0_keep_58 : decode cX0_keep 58 = .ok (.isub, 1) := dk_100 (dk_at dksX0_keep_2 10 rfl rfl)
theorem dX0_keep_59 : decode cX0_keep 59 = .ok (.putfield 163, 3) := dk_181 0 163 (dk_at dksX0_keep_2 11 rfl rfl)
theorem dX0_keep_62 : decode cX0_keep 62 = .ok (.aload_n 0, 1) := dk_42 (dk_at dksX0_keep_2 14 rfl rfl)
theorem dX0_keep_63 : decode cX0_keep 63 = .ok (.getfield 46, 3) := dk_180 0 46 (dk_at dksX0_keep_2 15 rfl rfl)
theorem dX0_keep_66 : decode cX0_keep 66 = .ok (.aload_n 0, 1) := dk_42 (dk_at dksX0_keep_2 18 rfl rfl)
theorem dX0_keep_67 : decode cX0_keep 67 = .ok (.getfield 163, 3) := dk_180 0 163 (dk_at dksX0_keep_2 19 rfl rfl)
theorem dX0_keep_70 : decode cX0_keep 70 = .ok (.aaload, 1) := dk_50 (dk_at dksX0_keep_2 22 rfl rfl)
theorem dX0_keep_71 : decode cX0_keep 71 = .ok (.ifnonnull 19, 3) := dk_199 0 19 (dk_at dksX0_keep_3 0 rfl rfl)
theorem dX0_keep_74 : decode cX0_keep 74 = .ok (.aload_n 0, 1) := dk_42 (dk_at dksX0_keep_3 3 rfl rfl)
theorem dX0_keep_75 : decode cX0_keep 75 = .ok (.getfield 46, 3) := dk_180 0 46 (dk_at dksX0_keep_3 4 rfl rfl)
theorem dX0_keep_78 : decode cX0_keep 78 = .ok (.aload_n 0, 1) := dk_42 (dk_at dksX0_keep_3 7 rfl rfl)
theorem dX0_keep_79 : decode cX0_keep 79 = .ok (.getfield 163, 3) := dk_180 0 163 (dk_at dksX0_keep_3 8 rfl rfl)
theorem dX0_keep_82 : decode cX0_keep 82 = .ok (.new 36, 3) := dk_187 0 36 (dk_at dksX0_keep_3 11 rfl rfl)
theorem dX0_keep_85 : decode cX0_keep 85 = .ok (.dup, 1) := dk_89 (dk_at dksX0_keep_3 14 rfl rfl)
theorem dX0_keep_86 : decode cX0_keep 86 = .ok (.invokespecial 38, 3) := dk_183 0 38 (dk_at dksX0_keep_3 15 rfl rfl)
theorem dX0_keep_89 : decode cX0_keep 89 = .ok (.aastore, 1) := dk_83 (dk_at dksX0_keep_3 18 rfl rfl)
theorem dX0_keep_90 : decode cX0_keep 90 = .ok (.aload_n 0, 1) := dk_42 (dk_at dksX0_keep_3 19 rfl rfl)
theorem dX0_keep_91 : decode cX0_keep 91 = .ok (.getfield 46, 3) := dk_180 0 46 (dk_at dksX0_keep_3 20 rfl rfl)
theorem dX0_keep_94 : decode cX0_keep 94 = .ok (.aload_n 0, 1) := dk_42 (dk_at dksX0_keep_3 23 rfl rfl)
theorem dX0_keep_95 : decode cX0_keep 95 = .ok (.getfield 163, 3) := dk_180 0 163 (dk_at dksX0_keep_4 0 rfl rfl)
theorem dX0_keep_98 : decode cX0_keep 98 = .ok (.aaload, 1) := dk_50 (dk_at dksX0_keep_4 3 rfl rfl)
theorem dX0_keep_99 : decode cX0_keep 99 = .ok (.aload_n 0, 1) := dk_42 (dk_at dksX0_keep_4 4 rfl rfl)
theorem dX0_keep_100 : decode cX0_keep 100 = .ok (.getfield 39, 3) := dk_180 0 39 (dk_at dksX0_keep_4 5 rfl rfl)
theorem dX0_keep_103 : decode cX0_keep 103 = .ok (.invokevirtual 159, 3) := dk_182 0 159 (dk_at dksX0_keep_4 8 rfl rfl)
theorem dX0_keep_106 : decode cX0_keep 106 = .ok (.pop, 1) := dk_87 (dk_at dksX0_keep_4 11 rfl rfl)
theorem dX0_keep_107 : decode cX0_keep 107 = .ok (.aload_n 0, 1) := dk_42 (dk_at dksX0_keep_4 12 rfl rfl)
theorem dX0_keep_108 : decode cX0_keep 108 = .ok (.dup, 1) := dk_89 (dk_at dksX0_keep_4 13 rfl rfl)
theorem dX0_keep_109 : decode cX0_keep 109 = .ok (.getfield 163, 3) := dk_180 0 163 (dk_at dksX0_keep_4 14 rfl rfl)
theorem dX0_keep_112 : decode cX0_keep 112 = .ok (.iconst 1, 1) := dk_4 (dk_at dksX0_keep_4 17 rfl rfl)
theorem dX0_keep_113 : decode cX0_keep 113 = .ok (.iadd, 1) := dk_96 (dk_at dksX0_keep_4 18 rfl rfl)
theorem dX0_keep_114 : decode cX0_keep 114 = .ok (.putfield 163, 3) := dk_181 0 163 (dk_at dksX0_keep_4 19 rfl rfl)
theorem dX0_keep_117 : decode cX0_keep 117 = .ok (.return_, 1) := dk_177 (dk_at dksX0_keep_4 22 rfl rfl)
abbrev cX0_give : ByteArray := prog_1_method_25_code
def yX0_give : MethodName := ⟨RX0, "give", "(IIIII)I"⟩
def dkwX0_give_4 : List UInt8 := [180, 0, 171, 4, 100, 172]
abbrev dktX0_give_4 : List UInt8 := dkwX0_give_4 ++ []
def dkwX0_give_3 : List UInt8 := [42, 182, 0, 183, 42, 180, 0, 39, 27, 28, 29, 21, 4, 21, 5, 182, 0, 195, 42, 180, 0, 39]
abbrev dktX0_give_3 : List UInt8 := dkwX0_give_3 ++ dktX0_give_4
def dkwX0_give_2 : List UInt8 := [184, 0, 192, 154, 0, 6, 18, 97, 172, 42, 180, 0, 39, 180, 0, 171, 16, 8, 160, 0, 6, 18, 135, 172]
abbrev dktX0_give_2 : List UInt8 := dkwX0_give_2 ++ dktX0_give_3
def dkwX0_give_1 : List UInt8 := [20, 0, 188, 184, 0, 83, 153, 0, 24, 21, 4, 133, 9, 20, 0, 190, 184, 0, 83, 153, 0, 11, 21, 5]
abbrev dktX0_give_1 : List UInt8 := dkwX0_give_1 ++ dktX0_give_2
def dkwX0_give_0 : List UInt8 := [42, 27, 182, 0, 176, 153, 0, 49, 42, 28, 182, 0, 176, 153, 0, 41, 27, 28, 159, 0, 36, 29, 133, 10]
abbrev dktX0_give_0 : List UInt8 := dkwX0_give_0 ++ dktX0_give_1
theorem dksX0_give_0 : cX0_give.data.toList.drop 0 = dktX0_give_0 := by decide +kernel
theorem dksX0_give_1 : cX0_give.data.toList.drop 24 = dktX0_give_1 := dk_seg dksX0_give_0 24 rfl rfl
theorem dksX0_give_2 : cX0_give.data.toList.drop 48 = dktX0_give_2 := dk_seg dksX0_give_1 24 rfl rfl
theorem dksX0_give_3 : cX0_give.data.toList.drop 72 = dktX0_give_3 := dk_seg dksX0_give_2 24 rfl rfl
theorem dksX0_give_4 : cX0_give.data.toList.drop 94 = dktX0_give_4 := dk_seg dksX0_give_3 22 rfl rfl
theorem dX0_give_0 : decode cX0_give 0 = .ok (.aload_n 0, 1) := dk_42 (dk_at dksX0_give_0 0 rfl rfl)
theorem dX0_give_1 : decode cX0_give 1 = .ok (.iload_n 1, 1) := dk_27 (dk_at dksX0_give_0 1 rfl rfl)
theorem dX0_give_2 : decode cX0_give 2 = .ok (.invokevirtual 176, 3) := dk_182 0 176 (dk_at dksX0_give_0 2 rfl rfl)
theorem dX0_give_5 : decode cX0_give 5 = .ok (.ifCond .eq 49, 3) := dk_153 0 49 (dk_at dksX0_give_0 5 rfl rfl)
theorem dX0_give_8 : decode cX0_give 8 = .ok (.aload_n 0, 1) := dk_42 (dk_at dksX0_give_0 8 rfl rfl)
theorem dX0_give_9 : decode cX0_give 9 = .ok (.iload_n 2, 1) := dk_28 (dk_at dksX0_give_0 9 rfl rfl)
theorem dX0_give_10 : decode cX0_give 10 = .ok (.invokevirtual 176, 3) := dk_182 0 176 (dk_at dksX0_give_0 10 rfl rfl)
theorem dX0_give_13 : decode cX0_give 13 = .ok (.ifCond .eq 41, 3) := dk_153 0 41 (dk_at dksX0_give_0 13 rfl rfl)
theorem dX0_give_16 : decode cX0_give 16 = .ok (.iload_n 1, 1) := dk_27 (dk_at dksX0_give_0 16 rfl rfl)
theorem dX0_give_17 : decode cX0_give 17 = .ok (.iload_n 2, 1) := dk_28 (dk_at dksX0_give_0 17 rfl rfl)
theorem dX0_give_18 : decode cX0_give 18 = .ok (.if_icmp .eq 36, 3) := dk_159 0 36 (dk_at dksX0_give_0 18 rfl rfl)
theorem dX0_give_21 : decode cX0_give 21 = .ok (.iload_n 3, 1) := dk_29 (dk_at dksX0_give_0 21 rfl rfl)
theorem dX0_give_22 : decode cX0_give 22 = .ok (.i2l, 1) := dk_133 (dk_at dksX0_give_0 22 rfl rfl)
theorem dX0_give_23 : decode cX0_give 23 = .ok (.lconst 1, 1) := dk_10 (dk_at dksX0_give_0 23 rfl rfl)
theorem dX0_give_24 : decode cX0_give 24 = .ok (.ldc2_w 188, 3) := dk_20 0 188 (dk_at dksX0_give_1 0 rfl rfl)
theorem dX0_give_27 : decode cX0_give 27 = .ok (.invokestatic 83, 3) := dk_184 0 83 (dk_at dksX0_give_1 3 rfl rfl)
theorem dX0_give_30 : decode cX0_give 30 = .ok (.ifCond .eq 24, 3) := dk_153 0 24 (dk_at dksX0_give_1 6 rfl rfl)
theorem dX0_give_33 : decode cX0_give 33 = .ok (.iload 4, 2) := dk_21 4 (dk_at dksX0_give_1 9 rfl rfl)
theorem dX0_give_35 : decode cX0_give 35 = .ok (.i2l, 1) := dk_133 (dk_at dksX0_give_1 11 rfl rfl)
theorem dX0_give_36 : decode cX0_give 36 = .ok (.lconst 0, 1) := dk_9 (dk_at dksX0_give_1 12 rfl rfl)
theorem dX0_give_37 : decode cX0_give 37 = .ok (.ldc2_w 190, 3) := dk_20 0 190 (dk_at dksX0_give_1 13 rfl rfl)
theorem dX0_give_40 : decode cX0_give 40 = .ok (.invokestatic 83, 3) := dk_184 0 83 (dk_at dksX0_give_1 16 rfl rfl)
theorem dX0_give_43 : decode cX0_give 43 = .ok (.ifCond .eq 11, 3) := dk_153 0 11 (dk_at dksX0_give_1 19 rfl rfl)
theorem dX0_give_46 : decode cX0_give 46 = .ok (.iload 5, 2) := dk_21 5 (dk_at dksX0_give_1 22 rfl rfl)
theorem dX0_give_48 : decode cX0_give 48 = .ok (.invokestatic 192, 3) := dk_184 0 192 (dk_at dksX0_give_2 0 rfl rfl)
theorem dX0_give_51 : decode cX0_give 51 = .ok (.ifCond .ne 6, 3) := dk_154 0 6 (dk_at dksX0_give_2 3 rfl rfl)
theorem dX0_give_54 : decode cX0_give 54 = .ok (.ldc 97, 2) := dk_18 97 (dk_at dksX0_give_2 6 rfl rfl)
theorem dX0_give_56 : decode cX0_give 56 = .ok (.ireturn, 1) := dk_172 (dk_at dksX0_give_2 8 rfl rfl)
theorem dX0_give_57 : decode cX0_give 57 = .ok (.aload_n 0, 1) := dk_42 (dk_at dksX0_give_2 9 rfl rfl)
theorem dX0_give_58 : decode cX0_give 58 = .ok (.getfield 39, 3) := dk_180 0 39 (dk_at dksX0_give_2 10 rfl rfl)
theorem dX0_give_61 : decode cX0_give 61 = .ok (.getfield 171, 3) := dk_180 0 171 (dk_at dksX0_give_2 13 rfl rfl)
theorem dX0_give_64 : decode cX0_give 64 = .ok (.bipush 8, 2) := dk_16 8 (dk_at dksX0_give_2 16 rfl rfl)
theorem dX0_give_66 : decode cX0_give 66 = .ok (.if_icmp .ne 6, 3) := dk_160 0 6 (dk_at dksX0_give_2 18 rfl rfl)
theorem dX0_give_69 : decode cX0_give 69 = .ok (.ldc 135, 2) := dk_18 135 (dk_at dksX0_give_2 21 rfl rfl)
theorem dX0_give_71 : decode cX0_give 71 = .ok (.ireturn, 1) := dk_172 (dk_at dksX0_give_2 23 rfl rfl)
theorem dX0_give_72 : decode cX0_give 72 = .ok (.aload_n 0, 1) := dk_42 (dk_at dksX0_give_3 0 rfl rfl)
theorem dX0_give_73 : decode cX0_give 73 = .ok (.invokevirtual 183, 3) := dk_182 0 183 (dk_at dksX0_give_3 1 rfl rfl)
theorem dX0_give_76 : decode cX0_give 76 = .ok (.aload_n 0, 1) := dk_42 (dk_at dksX0_give_3 4 rfl rfl)
theorem dX0_give_77 : decode cX0_give 77 = .ok (.getfield 39, 3) := dk_180 0 39 (dk_at dksX0_give_3 5 rfl rfl)
theorem dX0_give_80 : decode cX0_give 80 = .ok (.iload_n 1, 1) := dk_27 (dk_at dksX0_give_3 8 rfl rfl)
theorem dX0_give_81 : decode cX0_give 81 = .ok (.iload_n 2, 1) := dk_28 (dk_at dksX0_give_3 9 rfl rfl)
theorem dX0_give_82 : decode cX0_give 82 = .ok (.iload_n 3, 1) := dk_29 (dk_at dksX0_give_3 10 rfl rfl)
theorem dX0_give_83 : decode cX0_give 83 = .ok (.iload 4, 2) := dk_21 4 (dk_at dksX0_give_3 11 rfl rfl)
theorem dX0_give_85 : decode cX0_give 85 = .ok (.iload 5, 2) := dk_21 5 (dk_at dksX0_give_3 13 rfl rfl)
theorem dX0_give_87 : decode cX0_give 87 = .ok (.invokevirtual 195, 3) := dk_182 0 195 (dk_at dksX0_give_3 15 rfl rfl)
theorem dX0_give_90 : decode cX0_give 90 = .ok (.aload_n 0, 1) := dk_42 (dk_at dksX0_give_3 18 rfl rfl)
theorem dX0_give_91 : decode cX0_give 91 = .ok (.getfield 39, 3) := dk_180 0 39 (dk_at dksX0_give_3 19 rfl rfl)
theorem dX0_give_94 : decode cX0_give 94 = .ok (.getfield 171, 3) := dk_180 0 171 (dk_at dksX0_give_4 0 rfl rfl)
theorem dX0_give_97 : decode cX0_give 97 = .ok (.iconst 1, 1) := dk_4 (dk_at dksX0_give_4 3 rfl rfl)
theorem dX0_give_98 : decode cX0_give 98 = .ok (.isub, 1) := dk_100 (dk_at dksX0_give_4 4 rfl rfl)
theorem dX0_give_99 : decode cX0_give 99 = .ok (.ireturn, 1) := dk_172 (dk_at dksX0_give_4 5 rfl rfl)
abbrev cX0_isPlace : ByteArray := prog_1_method_23_code
def yX0_isPlace : MethodName := ⟨RX0, "isPlace", "(I)Z"⟩
def dkwX0_isPlace_0 : List UInt8 := [26, 133, 9, 20, 0, 174, 184, 0, 83, 172]
abbrev dktX0_isPlace_0 : List UInt8 := dkwX0_isPlace_0 ++ []
theorem dksX0_isPlace_0 : cX0_isPlace.data.toList.drop 0 = dktX0_isPlace_0 := by decide +kernel
theorem dX0_isPlace_0 : decode cX0_isPlace 0 = .ok (.iload_n 0, 1) := dk_26 (dk_at dksX0_isPlace_0 0 rfl rfl)
theorem dX0_isPlace_1 : decode cX0_isPlace 1 = .ok (.i2l, 1) := dk_133 (dk_at dksX0_isPlace_0 1 rfl rfl)
theorem dX0_isPlace_2 : decode cX0_isPlace 2 = .ok (.lconst 0, 1) := dk_9 (dk_at dksX0_isPlace_0 2 rfl rfl)
theorem dX0_isPlace_3 : decode cX0_isPlace 3 = .ok (.ldc2_w 174, 3) := dk_20 0 174 (dk_at dksX0_isPlace_0 3 rfl rfl)
theorem dX0_isPlace_6 : decode cX0_isPlace 6 = .ok (.invokestatic 83, 3) := dk_184 0 83 (dk_at dksX0_isPlace_0 6 rfl rfl)
theorem dX0_isPlace_9 : decode cX0_isPlace 9 = .ok (.ireturn, 1) := dk_172 (dk_at dksX0_isPlace_0 9 rfl rfl)
abbrev cX0_redeem : ByteArray := prog_1_method_26_code
def yX0_redeem : MethodName := ⟨RX0, "redeem", "(I)I"⟩
def dkwX0_redeem_4 : List UInt8 := [163, 0, 7, 4, 167, 0, 4, 3, 172]
abbrev dktX0_redeem_4 : List UInt8 := dkwX0_redeem_4 ++ []
def dkwX0_redeem_3 : List UInt8 := [27, 120, 128, 181, 0, 202, 42, 180, 0, 39, 180, 0, 214, 42, 180, 0, 39, 180, 0, 217, 27, 46]
abbrev dktX0_redeem_3 : List UInt8 := dkwX0_redeem_3 ++ dktX0_redeem_4
def dkwX0_redeem_2 : List UInt8 := [180, 0, 211, 27, 46, 159, 0, 6, 18, 170, 172, 42, 182, 0, 183, 42, 180, 0, 39, 89, 180, 0, 202, 4]
abbrev dktX0_redeem_2 : List UInt8 := dkwX0_redeem_2 ++ dktX0_redeem_3
def dkwX0_redeem_1 : List UInt8 := [154, 0, 32, 42, 180, 0, 39, 180, 0, 186, 42, 180, 0, 39, 180, 0, 208, 27, 46, 46, 42, 180, 0, 39]
abbrev dktX0_redeem_1 : List UInt8 := dkwX0_redeem_1 ++ dktX0_redeem_2
def dkwX0_redeem_0 : List UInt8 := [42, 27, 182, 0, 199, 154, 0, 6, 18, 97, 172, 42, 180, 0, 39, 180, 0, 202, 27, 184, 0, 205]
abbrev dktX0_redeem_0 : List UInt8 := dkwX0_redeem_0 ++ dktX0_redeem_1
theorem dksX0_redeem_0 : cX0_redeem.data.toList.drop 0 = dktX0_redeem_0 := by decide +kernel
theorem dksX0_redeem_1 : cX0_redeem.data.toList.drop 22 = dktX0_redeem_1 := dk_seg dksX0_redeem_0 22 rfl rfl
theorem dksX0_redeem_2 : cX0_redeem.data.toList.drop 46 = dktX0_redeem_2 := dk_seg dksX0_redeem_1 24 rfl rfl
theorem dksX0_redeem_3 : cX0_redeem.data.toList.drop 70 = dktX0_redeem_3 := dk_seg dksX0_redeem_2 24 rfl rfl
theorem dksX0_redeem_4 : cX0_redeem.data.toList.drop 92 = dktX0_redeem_4 := dk_seg dksX0_redeem_3 22 rfl rfl
theorem dX0_redeem_0 : decode cX0_redeem 0 = .ok (.aload_n 0, 1) := dk_42 (dk_at dksX0_redeem_0 0 rfl rfl)
theorem dX0_redeem_1 : decode cX0_redeem 1 = .ok (.iload_n 1, 1) := dk_27 (dk_at dksX0_redeem_0 1 rfl rfl)
theorem dX0_redeem_2 : decode cX0_redeem 2 = .ok (.invokevirtual 199, 3) := dk_182 0 199 (dk_at dksX0_redeem_0 2 rfl rfl)
theorem dX0_redeem_5 : decode cX0_redeem 5 = .ok (.ifCond .ne 6, 3) := dk_154 0 6 (dk_at dksX0_redeem_0 5 rfl rfl)
theorem dX0_redeem_8 : decode cX0_redeem 8 = .ok (.ldc 97, 2) := dk_18 97 (dk_at dksX0_redeem_0 8 rfl rfl)
theorem dX0_redeem_10 : decode cX0_redeem 10 = .ok (.ireturn, 1) := dk_172 (dk_at dksX0_redeem_0 10 rfl rfl)
theorem dX0_redeem_11 : decode cX0_redeem 11 = .ok (.aload_n 0, 1) := dk_42 (dk_at dksX0_redeem_0 11 rfl rfl)
theorem dX0_redeem_12 : decode cX0_redeem 12 = .ok (.getfield 39, 3) := dk_180 0 39 (dk_at dksX0_redeem_0 12 rfl rfl)
theorem dX0_redeem_15 : decode cX0_redeem 15 = .ok (.getfield 202, 3) := dk_180 0 202 (dk_at dksX0_redeem_0 15 rfl rfl)
theorem dX0_redeem_18 : decode cX0_redeem 18 = .ok (.iload_n 1, 1) := dk_27 (dk_at dksX0_redeem_0 18 rfl rfl)
theorem dX0_redeem_19 : decode cX0_redeem 19 = .ok (.invokestatic 205, 3) := dk_184 0 205 (dk_at dksX0_redeem_0 19 rfl rfl)
theorem dX0_redeem_22 : decode cX0_redeem 22 = .ok (.ifCond .ne 32, 3) := dk_154 0 32 (dk_at dksX0_redeem_1 0 rfl rfl)
theorem dX0_redeem_25 : decode cX0_redeem 25 = .ok (.aload_n 0, 1) := dk_42 (dk_at dksX0_redeem_1 3 rfl rfl)
theorem dX0_redeem_26 : decode cX0_redeem 26 = .ok (.getfield 39, 3) := dk_180 0 39 (dk_at dksX0_redeem_1 4 rfl rfl)
theorem dX0_redeem_29 : decode cX0_redeem 29 = .ok (.getfield 186, 3) := dk_180 0 186 (dk_at dksX0_redeem_1 7 rfl rfl)
theorem dX0_redeem_32 : decode cX0_redeem 32 = .ok (.aload_n 0, 1) := dk_42 (dk_at dksX0_redeem_1 10 rfl rfl)
theorem dX0_redeem_33 : decode cX0_redeem 33 = .ok (.getfield 39, 3) := dk_180 0 39 (dk_at dksX0_redeem_1 11 rfl rfl)
theorem dX0_redeem_36 : decode cX0_redeem 36 = .ok (.getfield 208, 3) := dk_180 0 208 (dk_at dksX0_redeem_1 14 rfl rfl)
theorem dX0_redeem_39 : decode cX0_redeem 39 = .ok (.iload_n 1, 1) := dk_27 (dk_at dksX0_redeem_1 17 rfl rfl)
theorem dX0_redeem_40 : decode cX0_redeem 40 = .ok (.iaload, 1) := dk_46 (dk_at dksX0_redeem_1 18 rfl rfl)
theorem dX0_redeem_41 : decode cX0_redeem 41 = .ok (.iaload, 1) := dk_46 (dk_at dksX0_redeem_1 19 rfl rfl)
theorem dX0_redeem_42 : decode cX0_redeem 42 = .ok (.aload_n 0, 1) := dk_42 (dk_at dksX0_redeem_1 20 rfl rfl)
theorem dX0_redeem_43 : decode cX0_redeem 43 = .ok (.getfield 39, 3) := dk_180 0 39 (dk_at dksX0_redeem_1 21 rfl rfl)
theorem dX0_redeem_46 : decode cX0_redeem 46 = .ok (.getfield 211, 3) := dk_180 0 211 (dk_at dksX0_redeem_2 0 rfl rfl)
theorem dX0_redeem_49 : decode cX0_redeem 49 = .ok (.iload_n 1, 1) := dk_27 (dk_at dksX0_redeem_2 3 rfl rfl)
theorem dX0_redeem_50 : decode cX0_redeem 50 = .ok (.iaload, 1) := dk_46 (dk_at dksX0_redeem_2 4 rfl rfl)
theorem dX0_redeem_51 : decode cX0_redeem 51 = .ok (.if_icmp .eq 6, 3) := dk_159 0 6 (dk_at dksX0_redeem_2 5 rfl rfl)
theorem dX0_redeem_54 : decode cX0_redeem 54 = .ok (.ldc 170, 2) := dk_18 170 (dk_at dksX0_redeem_2 8 rfl rfl)
theorem dX0_redeem_56 : decode cX0_redeem 56 = .ok (.ireturn, 1) := dk_172 (dk_at dksX0_redeem_2 10 rfl rfl)
theorem dX0_redeem_57 : decode cX0_redeem 57 = .ok (.aload_n 0, 1) := dk_42 (dk_at dksX0_redeem_2 11 rfl rfl)
theorem dX0_redeem_58 : decode cX0_redeem 58 = .ok (.invokevirtual 183, 3) := dk_182 0 183 (dk_at dksX0_redeem_2 12 rfl rfl)
theorem dX0_redeem_61 : decode cX0_redeem 61 = .ok (.aload_n 0, 1) := dk_42 (dk_at dksX0_redeem_2 15 rfl rfl)
theorem dX0_redeem_62 : decode cX0_redeem 62 = .ok (.getfield 39, 3) := dk_180 0 39 (dk_at dksX0_redeem_2 16 rfl rfl)
theorem dX0_redeem_65 : decode cX0_redeem 65 = .ok (.dup, 1) := dk_89 (dk_at dksX0_redeem_2 19 rfl rfl)
theorem dX0_redeem_66 : decode cX0_redeem 66 = .ok (.getfield 202, 3) := dk_180 0 202 (dk_at dksX0_redeem_2 20 rfl rfl)
theorem dX0_redeem_69 : decode cX0_redeem 69 = .ok (.iconst 1, 1) := dk_4 (dk_at dksX0_redeem_2 23 rfl rfl)
theorem dX0_redeem_70 : decode cX0_redeem 70 = .ok (.iload_n 1, 1) := dk_27 (dk_at dksX0_redeem_3 0 rfl rfl)
theorem dX0_redeem_71 : decode cX0_redeem 71 = .ok (.ishl, 1) := dk_120 (dk_at dksX0_redeem_3 1 rfl rfl)
theorem dX0_redeem_72 : decode cX0_redeem 72 = .ok (.ior, 1) := dk_128 (dk_at dksX0_redeem_3 2 rfl rfl)
theorem dX0_redeem_73 : decode cX0_redeem 73 = .ok (.putfield 202, 3) := dk_181 0 202 (dk_at dksX0_redeem_3 3 rfl rfl)
theorem dX0_redeem_76 : decode cX0_redeem 76 = .ok (.aload_n 0, 1) := dk_42 (dk_at dksX0_redeem_3 6 rfl rfl)
theorem dX0_redeem_77 : decode cX0_redeem 77 = .ok (.getfield 39, 3) := dk_180 0 39 (dk_at dksX0_redeem_3 7 rfl rfl)
theorem dX0_redeem_80 : decode cX0_redeem 80 = .ok (.getfield 214, 3) := dk_180 0 214 (dk_at dksX0_redeem_3 10 rfl rfl)
theorem dX0_redeem_83 : decode cX0_redeem 83 = .ok (.aload_n 0, 1) := dk_42 (dk_at dksX0_redeem_3 13 rfl rfl)
theorem dX0_redeem_84 : decode cX0_redeem 84 = .ok (.getfield 39, 3) := dk_180 0 39 (dk_at dksX0_redeem_3 14 rfl rfl)
theorem dX0_redeem_87 : decode cX0_redeem 87 = .ok (.getfield 217, 3) := dk_180 0 217 (dk_at dksX0_redeem_3 17 rfl rfl)
theorem dX0_redeem_90 : decode cX0_redeem 90 = .ok (.iload_n 1, 1) := dk_27 (dk_at dksX0_redeem_3 20 rfl rfl)
theorem dX0_redeem_91 : decode cX0_redeem 91 = .ok (.iaload, 1) := dk_46 (dk_at dksX0_redeem_3 21 rfl rfl)
theorem dX0_redeem_92 : decode cX0_redeem 92 = .ok (.if_icmp .gt 7, 3) := dk_163 0 7 (dk_at dksX0_redeem_4 0 rfl rfl)
theorem dX0_redeem_95 : decode cX0_redeem 95 = .ok (.iconst 1, 1) := dk_4 (dk_at dksX0_redeem_4 3 rfl rfl)
theorem dX0_redeem_96 : decode cX0_redeem 96 = .ok (.goto 4, 3) := dk_167 0 4 (dk_at dksX0_redeem_4 4 rfl rfl)
theorem dX0_redeem_99 : decode cX0_redeem 99 = .ok (.iconst 0, 1) := dk_3 (dk_at dksX0_redeem_4 7 rfl rfl)
theorem dX0_redeem_100 : decode cX0_redeem 100 = .ok (.ireturn, 1) := dk_172 (dk_at dksX0_redeem_4 8 rfl rfl)
abbrev cX0_isPromise : ByteArray := prog_1_method_22_code
def yX0_isPromise : MethodName := ⟨RX0, "isPromise", "(I)Z"⟩
def dkwX0_isPromise_0 : List UInt8 := [27, 133, 9, 42, 180, 0, 39, 180, 0, 171, 4, 100, 133, 184, 0, 83, 172]
abbrev dktX0_isPromise_0 : List UInt8 := dkwX0_isPromise_0 ++ []
theorem dksX0_isPromise_0 : cX0_isPromise.data.toList.drop 0 = dktX0_isPromise_0 := by decide +kernel
theorem dX0_isPromise_0 : decode cX0_isPromise 0 = .ok (.iload_n 1, 1) := dk_27 (dk_at dksX0_isPromise_0 0 rfl rfl)
theorem dX0_isPromise_1 : decode cX0_isPromise 1 = .ok (.i2l, 1) := dk_133 (dk_at dksX0_isPromise_0 1 rfl rfl)
theorem dX0_isPromise_2 : decode cX0_isPromise 2 = .ok (.lconst 0, 1) := dk_9 (dk_at dksX0_isPromise_0 2 rfl rfl)
theorem dX0_isPromise_3 : decode cX0_isPromise 3 = .ok (.aload_n 0, 1) := dk_42 (dk_at dksX0_isPromise_0 3 rfl rfl)
theorem dX0_isPromise_4 : decode cX0_isPromise 4 = .ok (.getfield 39, 3) := dk_180 0 39 (dk_at dksX0_isPromise_0 4 rfl rfl)
theorem dX0_isPromise_7 : decode cX0_isPromise 7 = .ok (.getfield 171, 3) := dk_180 0 171 (dk_at dksX0_isPromise_0 7 rfl rfl)
theorem dX0_isPromise_10 : decode cX0_isPromise 10 = .ok (.iconst 1, 1) := dk_4 (dk_at dksX0_isPromise_0 10 rfl rfl)
theorem dX0_isPromise_11 : decode cX0_isPromise 11 = .ok (.isub, 1) := dk_100 (dk_at dksX0_isPromise_0 11 rfl rfl)
theorem dX0_isPromise_12 : decode cX0_isPromise 12 = .ok (.i2l, 1) := dk_133 (dk_at dksX0_isPromise_0 12 rfl rfl)
theorem dX0_isPromise_13 : decode cX0_isPromise 13 = .ok (.invokestatic 83, 3) := dk_184 0 83 (dk_at dksX0_isPromise_0 13 rfl rfl)
theorem dX0_isPromise_16 : decode cX0_isPromise 16 = .ok (.ireturn, 1) := dk_172 (dk_at dksX0_isPromise_0 16 rfl rfl)
abbrev cX0_pass : ByteArray := prog_1_method_27_code
def yX0_pass : MethodName := ⟨RX0, "pass", "(II)I"⟩
def dkwX0_pass_3 : List UInt8 := [180, 0, 208, 27, 28, 79, 42, 180, 0, 39, 28, 182, 0, 223, 172]
abbrev dktX0_pass_3 : List UInt8 := dkwX0_pass_3 ++ []
def dkwX0_pass_2 : List UInt8 := [180, 0, 39, 180, 0, 208, 27, 46, 28, 160, 0, 6, 18, 170, 172, 42, 182, 0, 183, 42, 180, 0, 39]
abbrev dktX0_pass_2 : List UInt8 := dkwX0_pass_2 ++ dktX0_pass_3
def dkwX0_pass_1 : List UInt8 := [180, 0, 202, 27, 184, 0, 205, 154, 0, 29, 42, 180, 0, 39, 180, 0, 220, 27, 46, 28, 159, 0, 16, 42]
abbrev dktX0_pass_1 : List UInt8 := dkwX0_pass_1 ++ dktX0_pass_2
def dkwX0_pass_0 : List UInt8 := [42, 27, 182, 0, 199, 153, 0, 11, 42, 28, 182, 0, 176, 154, 0, 6, 18, 97, 172, 42, 180, 0, 39]
abbrev dktX0_pass_0 : List UInt8 := dkwX0_pass_0 ++ dktX0_pass_1
theorem dksX0_pass_0 : cX0_pass.data.toList.drop 0 = dktX0_pass_0 := by decide +kernel
theorem dksX0_pass_1 : cX0_pass.data.toList.drop 23 = dktX0_pass_1 := dk_seg dksX0_pass_0 23 rfl rfl
theorem dksX0_pass_2 : cX0_pass.data.toList.drop 47 = dktX0_pass_2 := dk_seg dksX0_pass_1 24 rfl rfl
theorem dksX0_pass_3 : cX0_pass.data.toList.drop 70 = dktX0_pass_3 := dk_seg dksX0_pass_2 23 rfl rfl
theorem dX0_pass_0 : decode cX0_pass 0 = .ok (.aload_n 0, 1) := dk_42 (dk_at dksX0_pass_0 0 rfl rfl)
theorem dX0_pass_1 : decode cX0_pass 1 = .ok (.iload_n 1, 1) := dk_27 (dk_at dksX0_pass_0 1 rfl rfl)
theorem dX0_pass_2 : decode cX0_pass 2 = .ok (.invokevirtual 199, 3) := dk_182 0 199 (dk_at dksX0_pass_0 2 rfl rfl)
theorem dX0_pass_5 : decode cX0_pass 5 = .ok (.ifCond .eq 11, 3) := dk_153 0 11 (dk_at dksX0_pass_0 5 rfl rfl)
theorem dX0_pass_8 : decode cX0_pass 8 = .ok (.aload_n 0, 1) := dk_42 (dk_at dksX0_pass_0 8 rfl rfl)
theorem dX0_pass_9 : decode cX0_pass 9 = .ok (.iload_n 2, 1) := dk_28 (dk_at dksX0_pass_0 9 rfl rfl)
theorem dX0_pass_10 : decode cX0_pass 10 = .ok (.invokevirtual 176, 3) := dk_182 0 176 (dk_at dksX0_pass_0 10 rfl rfl)
theorem dX0_pass_13 : decode cX0_pass 13 = .ok (.ifCond .ne 6, 3) := dk_154 0 6 (dk_at dksX0_pass_0 13 rfl rfl)
theorem dX0_pass_16 : decode cX0_pass 16 = .ok (.ldc 97, 2) := dk_18 97 (dk_at dksX0_pass_0 16 rfl rfl)
theorem dX0_pass_18 : decode cX0_pass 18 = .ok (.ireturn, 1) := dk_172 (dk_at dksX0_pass_0 18 rfl rfl)
theorem dX0_pass_19 : decode cX0_pass 19 = .ok (.aload_n 0, 1) := dk_42 (dk_at dksX0_pass_0 19 rfl rfl)
theorem dX0_pass_20 : decode cX0_pass 20 = .ok (.getfield 39, 3) := dk_180 0 39 (dk_at dksX0_pass_0 20 rfl rfl)
theorem dX0_pass_23 : decode cX0_pass 23 = .ok (.getfield 202, 3) := dk_180 0 202 (dk_at dksX0_pass_1 0 rfl rfl)
theorem dX0_pass_26 : decode cX0_pass 26 = .ok (.iload_n 1, 1) := dk_27 (dk_at dksX0_pass_1 3 rfl rfl)
theorem dX0_pass_27 : decode cX0_pass 27 = .ok (.invokestatic 205, 3) := dk_184 0 205 (dk_at dksX0_pass_1 4 rfl rfl)
theorem dX0_pass_30 : decode cX0_pass 30 = .ok (.ifCond .ne 29, 3) := dk_154 0 29 (dk_at dksX0_pass_1 7 rfl rfl)
theorem dX0_pass_33 : decode cX0_pass 33 = .ok (.aload_n 0, 1) := dk_42 (dk_at dksX0_pass_1 10 rfl rfl)
theorem dX0_pass_34 : decode cX0_pass 34 = .ok (.getfield 39, 3) := dk_180 0 39 (dk_at dksX0_pass_1 11 rfl rfl)
theorem dX0_pass_37 : decode cX0_pass 37 = .ok (.getfield 220, 3) := dk_180 0 220 (dk_at dksX0_pass_1 14 rfl rfl)
theorem dX0_pass_40 : decode cX0_pass 40 = .ok (.iload_n 1, 1) := dk_27 (dk_at dksX0_pass_1 17 rfl rfl)
theorem dX0_pass_41 : decode cX0_pass 41 = .ok (.iaload, 1) := dk_46 (dk_at dksX0_pass_1 18 rfl rfl)
theorem dX0_pass_42 : decode cX0_pass 42 = .ok (.iload_n 2, 1) := dk_28 (dk_at dksX0_pass_1 19 rfl rfl)
theorem dX0_pass_43 : decode cX0_pass 43 = .ok (.if_icmp .eq 16, 3) := dk_159 0 16 (dk_at dksX0_pass_1 20 rfl rfl)
theorem dX0_pass_46 : decode cX0_pass 46 = .ok (.aload_n 0, 1) := dk_42 (dk_at dksX0_pass_1 23 rfl rfl)
theorem dX0_pass_47 : decode cX0_pass 47 = .ok (.getfield 39, 3) := dk_180 0 39 (dk_at dksX0_pass_2 0 rfl rfl)
theorem dX0_pass_50 : decode cX0_pass 50 = .ok (.getfield 208, 3) := dk_180 0 208 (dk_at dksX0_pass_2 3 rfl rfl)
theorem dX0_pass_53 : decode cX0_pass 53 = .ok (.iload_n 1, 1) := dk_27 (dk_at dksX0_pass_2 6 rfl rfl)
theorem dX0_pass_54 : decode cX0_pass 54 = .ok (.iaload, 1) := dk_46 (dk_at dksX0_pass_2 7 rfl rfl)
theorem dX0_pass_55 : decode cX0_pass 55 = .ok (.iload_n 2, 1) := dk_28 (dk_at dksX0_pass_2 8 rfl rfl)
theorem dX0_pass_56 : decode cX0_pass 56 = .ok (.if_icmp .ne 6, 3) := dk_160 0 6 (dk_at dksX0_pass_2 9 rfl rfl)
theorem dX0_pass_59 : decode cX0_pass 59 = .ok (.ldc 170, 2) := dk_18 170 (dk_at dksX0_pass_2 12 rfl rfl)
theorem dX0_pass_61 : decode cX0_pass 61 = .ok (.ireturn, 1) := dk_172 (dk_at dksX0_pass_2 14 rfl rfl)
theorem dX0_pass_62 : decode cX0_pass 62 = .ok (.aload_n 0, 1) := dk_42 (dk_at dksX0_pass_2 15 rfl rfl)
theorem dX0_pass_63 : decode cX0_pass 63 = .ok (.invokevirtual 183, 3) := dk_182 0 183 (dk_at dksX0_pass_2 16 rfl rfl)
theorem dX0_pass_66 : decode cX0_pass 66 = .ok (.aload_n 0, 1) := dk_42 (dk_at dksX0_pass_2 19 rfl rfl)
theorem dX0_pass_67 : decode cX0_pass 67 = .ok (.getfield 39, 3) := dk_180 0 39 (dk_at dksX0_pass_2 20 rfl rfl)
theorem dX0_pass_70 : decode cX0_pass 70 = .ok (.getfield 208, 3) := dk_180 0 208 (dk_at dksX0_pass_3 0 rfl rfl)
theorem dX0_pass_73 : decode cX0_pass 73 = .ok (.iload_n 1, 1) := dk_27 (dk_at dksX0_pass_3 3 rfl rfl)
theorem dX0_pass_74 : decode cX0_pass 74 = .ok (.iload_n 2, 1) := dk_28 (dk_at dksX0_pass_3 4 rfl rfl)
theorem dX0_pass_75 : decode cX0_pass 75 = .ok (.iastore, 1) := dk_79 (dk_at dksX0_pass_3 5 rfl rfl)
theorem dX0_pass_76 : decode cX0_pass 76 = .ok (.aload_n 0, 1) := dk_42 (dk_at dksX0_pass_3 6 rfl rfl)
theorem dX0_pass_77 : decode cX0_pass 77 = .ok (.getfield 39, 3) := dk_180 0 39 (dk_at dksX0_pass_3 7 rfl rfl)
theorem dX0_pass_80 : decode cX0_pass 80 = .ok (.iload_n 2, 1) := dk_28 (dk_at dksX0_pass_3 10 rfl rfl)
theorem dX0_pass_81 : decode cX0_pass 81 = .ok (.invokevirtual 223, 3) := dk_182 0 223 (dk_at dksX0_pass_3 11 rfl rfl)
theorem dX0_pass_84 : decode cX0_pass 84 = .ok (.ireturn, 1) := dk_172 (dk_at dksX0_pass_3 14 rfl rfl)
abbrev cX0_days : ByteArray := prog_1_method_28_code
def yX0_days : MethodName := ⟨RX0, "days", "(I)I"⟩
def dkwX0_days_3 : List UInt8 := [180, 0, 214, 172]
abbrev dktX0_days_3 : List UInt8 := dkwX0_days_3 ++ []
def dkwX0_days_2 : List UInt8 := [162, 0, 20, 42, 182, 0, 183, 42, 180, 0, 39, 182, 0, 232, 132, 2, 1, 167, 255, 237, 42, 180, 0, 39]
abbrev dktX0_days_2 : List UInt8 := dkwX0_days_2 ++ dktX0_days_3
def dkwX0_days_1 : List UInt8 := [172, 42, 180, 0, 39, 180, 0, 214, 27, 96, 17, 3, 231, 164, 0, 6, 18, 135, 172, 3, 61, 28, 27]
abbrev dktX0_days_1 : List UInt8 := dkwX0_days_1 ++ dktX0_days_2
def dkwX0_days_0 : List UInt8 := [42, 182, 0, 226, 154, 0, 6, 18, 170, 172, 27, 133, 10, 20, 0, 230, 184, 0, 83, 154, 0, 6, 18, 97]
abbrev dktX0_days_0 : List UInt8 := dkwX0_days_0 ++ dktX0_days_1
theorem dksX0_days_0 : cX0_days.data.toList.drop 0 = dktX0_days_0 := by decide +kernel
theorem dksX0_days_1 : cX0_days.data.toList.drop 24 = dktX0_days_1 := dk_seg dksX0_days_0 24 rfl rfl
theorem dksX0_days_2 : cX0_days.data.toList.drop 47 = dktX0_days_2 := dk_seg dksX0_days_1 23 rfl rfl
theorem dksX0_days_3 : cX0_days.data.toList.drop 71 = dktX0_days_3 := dk_seg dksX0_days_2 24 rfl rfl
theorem dX0_days_0 : decode cX0_days 0 = .ok (.aload_n 0, 1) := dk_42 (dk_at dksX0_days_0 0 rfl rfl)
theorem dX0_days_1 : decode cX0_days 1 = .ok (.invokevirtual 226, 3) := dk_182 0 226 (dk_at dksX0_days_0 1 rfl rfl)
theorem dX0_days_4 : decode cX0_days 4 = .ok (.ifCond .ne 6, 3) := dk_154 0 6 (dk_at dksX0_days_0 4 rfl rfl)
theorem dX0_days_7 : decode cX0_days 7 = .ok (.ldc 170, 2) := dk_18 170 (dk_at dksX0_days_0 7 rfl rfl)
theorem dX0_days_9 : decode cX0_days 9 = .ok (.ireturn, 1) := dk_172 (dk_at dksX0_days_0 9 rfl rfl)
theorem dX0_days_10 : decode cX0_days 10 = .ok (.iload_n 1, 1) := dk_27 (dk_at dksX0_days_0 10 rfl rfl)
theorem dX0_days_11 : decode cX0_days 11 = .ok (.i2l, 1) := dk_133 (dk_at dksX0_days_0 11 rfl rfl)
theorem dX0_days_12 : decode cX0_days 12 = .ok (.lconst 1, 1) := dk_10 (dk_at dksX0_days_0 12 rfl rfl)
theorem dX0_days_13 : decode cX0_days 13 = .ok (.ldc2_w 230, 3) := dk_20 0 230 (dk_at dksX0_days_0 13 rfl rfl)
theorem dX0_days_16 : decode cX0_days 16 = .ok (.invokestatic 83, 3) := dk_184 0 83 (dk_at dksX0_days_0 16 rfl rfl)
theorem dX0_days_19 : decode cX0_days 19 = .ok (.ifCond .ne 6, 3) := dk_154 0 6 (dk_at dksX0_days_0 19 rfl rfl)
theorem dX0_days_22 : decode cX0_days 22 = .ok (.ldc 97, 2) := dk_18 97 (dk_at dksX0_days_0 22 rfl rfl)
theorem dX0_days_24 : decode cX0_days 24 = .ok (.ireturn, 1) := dk_172 (dk_at dksX0_days_1 0 rfl rfl)
theorem dX0_days_25 : decode cX0_days 25 = .ok (.aload_n 0, 1) := dk_42 (dk_at dksX0_days_1 1 rfl rfl)
theorem dX0_days_26 : decode cX0_days 26 = .ok (.getfield 39, 3) := dk_180 0 39 (dk_at dksX0_days_1 2 rfl rfl)
theorem dX0_days_29 : decode cX0_days 29 = .ok (.getfield 214, 3) := dk_180 0 214 (dk_at dksX0_days_1 5 rfl rfl)
theorem dX0_days_32 : decode cX0_days 32 = .ok (.iload_n 1, 1) := dk_27 (dk_at dksX0_days_1 8 rfl rfl)
theorem dX0_days_33 : decode cX0_days 33 = .ok (.iadd, 1) := dk_96 (dk_at dksX0_days_1 9 rfl rfl)
theorem dX0_days_34 : decode cX0_days 34 = .ok (.sipush 999, 3) := dk_17 3 231 (dk_at dksX0_days_1 10 rfl rfl)
theorem dX0_days_37 : decode cX0_days 37 = .ok (.if_icmp .le 6, 3) := dk_164 0 6 (dk_at dksX0_days_1 13 rfl rfl)
theorem dX0_days_40 : decode cX0_days 40 = .ok (.ldc 135, 2) := dk_18 135 (dk_at dksX0_days_1 16 rfl rfl)
theorem dX0_days_42 : decode cX0_days 42 = .ok (.ireturn, 1) := dk_172 (dk_at dksX0_days_1 18 rfl rfl)
theorem dX0_days_43 : decode cX0_days 43 = .ok (.iconst 0, 1) := dk_3 (dk_at dksX0_days_1 19 rfl rfl)
theorem dX0_days_44 : decode cX0_days 44 = .ok (.istore_n 2, 1) := dk_61 (dk_at dksX0_days_1 20 rfl rfl)
theorem dX0_days_45 : decode cX0_days 45 = .ok (.iload_n 2, 1) := dk_28 (dk_at dksX0_days_1 21 rfl rfl)
theorem dX0_days_46 : decode cX0_days 46 = .ok (.iload_n 1, 1) := dk_27 (dk_at dksX0_days_1 22 rfl rfl)
theorem dX0_days_47 : decode cX0_days 47 = .ok (.if_icmp .ge 20, 3) := dk_162 0 20 (dk_at dksX0_days_2 0 rfl rfl)
theorem dX0_days_50 : decode cX0_days 50 = .ok (.aload_n 0, 1) := dk_42 (dk_at dksX0_days_2 3 rfl rfl)
theorem dX0_days_51 : decode cX0_days 51 = .ok (.invokevirtual 183, 3) := dk_182 0 183 (dk_at dksX0_days_2 4 rfl rfl)
theorem dX0_days_54 : decode cX0_days 54 = .ok (.aload_n 0, 1) := dk_42 (dk_at dksX0_days_2 7 rfl rfl)
theorem dX0_days_55 : decode cX0_days 55 = .ok (.getfield 39, 3) := dk_180 0 39 (dk_at dksX0_days_2 8 rfl rfl)
theorem dX0_days_58 : decode cX0_days 58 = .ok (.invokevirtual 232, 3) := dk_182 0 232 (dk_at dksX0_days_2 11 rfl rfl)
theorem dX0_days_61 : decode cX0_days 61 = .ok (.iinc 2 1, 3) := dk_132 2 1 (dk_at dksX0_days_2 14 rfl rfl)
theorem dX0_days_64 : decode cX0_days 64 = .ok (.goto (-19), 3) := dk_167 255 237 (dk_at dksX0_days_2 17 rfl rfl)
theorem dX0_days_67 : decode cX0_days 67 = .ok (.aload_n 0, 1) := dk_42 (dk_at dksX0_days_2 20 rfl rfl)
theorem dX0_days_68 : decode cX0_days 68 = .ok (.getfield 39, 3) := dk_180 0 39 (dk_at dksX0_days_2 21 rfl rfl)
theorem dX0_days_71 : decode cX0_days 71 = .ok (.getfield 214, 3) := dk_180 0 214 (dk_at dksX0_days_3 0 rfl rfl)
theorem dX0_days_74 : decode cX0_days 74 = .ok (.ireturn, 1) := dk_172 (dk_at dksX0_days_3 3 rfl rfl)
abbrev cX0_isParish : ByteArray := prog_1_method_20_code
def yX0_isParish : MethodName := ⟨RX0, "isParish", "()Z"⟩
def dkwX0_isParish_0 : List UInt8 := [42, 180, 0, 39, 182, 0, 166, 158, 0, 7, 4, 167, 0, 4, 3, 172]
abbrev dktX0_isParish_0 : List UInt8 := dkwX0_isParish_0 ++ []
theorem dksX0_isParish_0 : cX0_isParish.data.toList.drop 0 = dktX0_isParish_0 := by decide +kernel
theorem dX0_isParish_0 : decode cX0_isParish 0 = .ok (.aload_n 0, 1) := dk_42 (dk_at dksX0_isParish_0 0 rfl rfl)
theorem dX0_isParish_1 : decode cX0_isParish 1 = .ok (.getfield 39, 3) := dk_180 0 39 (dk_at dksX0_isParish_0 1 rfl rfl)
theorem dX0_isParish_4 : decode cX0_isParish 4 = .ok (.invokevirtual 166, 3) := dk_182 0 166 (dk_at dksX0_isParish_0 4 rfl rfl)
theorem dX0_isParish_7 : decode cX0_isParish 7 = .ok (.ifCond .le 7, 3) := dk_158 0 7 (dk_at dksX0_isParish_0 7 rfl rfl)
theorem dX0_isParish_10 : decode cX0_isParish 10 = .ok (.iconst 1, 1) := dk_4 (dk_at dksX0_isParish_0 10 rfl rfl)
theorem dX0_isParish_11 : decode cX0_isParish 11 = .ok (.goto 4, 3) := dk_167 0 4 (dk_at dksX0_isParish_0 11 rfl rfl)
theorem dX0_isParish_14 : decode cX0_isParish 14 = .ok (.iconst 0, 1) := dk_3 (dk_at dksX0_isParish_0 14 rfl rfl)
theorem dX0_isParish_15 : decode cX0_isParish 15 = .ok (.ireturn, 1) := dk_172 (dk_at dksX0_isParish_0 15 rfl rfl)
abbrev cX0_person : ByteArray := prog_1_method_29_code
def yX0_person : MethodName := ⟨RX0, "person", "(II)I"⟩
def dkwX0_person_3 : List UInt8 := [27, 182, 0, 223, 172, 42, 180, 0, 39, 182, 0, 238, 27, 122, 4, 126, 172, 18, 97, 172]
abbrev dktX0_person_3 : List UInt8 := dkwX0_person_3 ++ []
def dkwX0_person_2 : List UInt8 := [42, 180, 0, 39, 180, 0, 235, 27, 46, 172, 42, 180, 0, 39, 180, 0, 186, 27, 46, 172, 42, 180, 0, 39]
abbrev dktX0_person_2 : List UInt8 := dkwX0_person_2 ++ dktX0_person_3
def dkwX0_person_1 : List UInt8 := [170, 0, 0, 0, 0, 0, 0, 73, 0, 0, 0, 0, 0, 0, 0, 3, 0, 0, 0, 32, 0, 0, 0, 42, 0, 0, 0, 52, 0, 0, 0, 61]
abbrev dktX0_person_1 : List UInt8 := dkwX0_person_1 ++ dktX0_person_2
def dkwX0_person_0 : List UInt8 := [42, 27, 182, 0, 176, 154, 0, 6, 18, 97, 172, 28]
abbrev dktX0_person_0 : List UInt8 := dkwX0_person_0 ++ dktX0_person_1
theorem dksX0_person_0 : cX0_person.data.toList.drop 0 = dktX0_person_0 := by decide +kernel
theorem dksX0_person_1 : cX0_person.data.toList.drop 12 = dktX0_person_1 := dk_seg dksX0_person_0 12 rfl rfl
theorem dksX0_person_2 : cX0_person.data.toList.drop 44 = dktX0_person_2 := dk_seg dksX0_person_1 32 rfl rfl
theorem dksX0_person_3 : cX0_person.data.toList.drop 68 = dktX0_person_3 := dk_seg dksX0_person_2 24 rfl rfl
theorem dX0_person_0 : decode cX0_person 0 = .ok (.aload_n 0, 1) := dk_42 (dk_at dksX0_person_0 0 rfl rfl)
theorem dX0_person_1 : decode cX0_person 1 = .ok (.iload_n 1, 1) := dk_27 (dk_at dksX0_person_0 1 rfl rfl)
theorem dX0_person_2 : decode cX0_person 2 = .ok (.invokevirtual 176, 3) := dk_182 0 176 (dk_at dksX0_person_0 2 rfl rfl)
theorem dX0_person_5 : decode cX0_person 5 = .ok (.ifCond .ne 6, 3) := dk_154 0 6 (dk_at dksX0_person_0 5 rfl rfl)
theorem dX0_person_8 : decode cX0_person 8 = .ok (.ldc 97, 2) := dk_18 97 (dk_at dksX0_person_0 8 rfl rfl)
theorem dX0_person_10 : decode cX0_person 10 = .ok (.ireturn, 1) := dk_172 (dk_at dksX0_person_0 10 rfl rfl)
theorem dX0_person_11 : decode cX0_person 11 = .ok (.iload_n 2, 1) := dk_28 (dk_at dksX0_person_0 11 rfl rfl)
theorem dX0_person_12 : decode cX0_person 12 = .ok (.tableswitch 73 0 3 #[32, 42, 52, 61], 32) := by decide +kernel
theorem dX0_person_44 : decode cX0_person 44 = .ok (.aload_n 0, 1) := dk_42 (dk_at dksX0_person_2 0 rfl rfl)
theorem dX0_person_45 : decode cX0_person 45 = .ok (.getfield 39, 3) := dk_180 0 39 (dk_at dksX0_person_2 1 rfl rfl)
theorem dX0_person_48 : decode cX0_person 48 = .ok (.getfield 235, 3) := dk_180 0 235 (dk_at dksX0_person_2 4 rfl rfl)
theorem dX0_person_51 : decode cX0_person 51 = .ok (.iload_n 1, 1) := dk_27 (dk_at dksX0_person_2 7 rfl rfl)
theorem dX0_person_52 : decode cX0_person 52 = .ok (.iaload, 1) := dk_46 (dk_at dksX0_person_2 8 rfl rfl)
theorem dX0_person_53 : decode cX0_person 53 = .ok (.ireturn, 1) := dk_172 (dk_at dksX0_person_2 9 rfl rfl)
theorem dX0_person_54 : decode cX0_person 54 = .ok (.aload_n 0, 1) := dk_42 (dk_at dksX0_person_2 10 rfl rfl)
theorem dX0_person_55 : decode cX0_person 55 = .ok (.getfield 39, 3) := dk_180 0 39 (dk_at dksX0_person_2 11 rfl rfl)
theorem dX0_person_58 : decode cX0_person 58 = .ok (.getfield 186, 3) := dk_180 0 186 (dk_at dksX0_person_2 14 rfl rfl)
theorem dX0_person_61 : decode cX0_person 61 = .ok (.iload_n 1, 1) := dk_27 (dk_at dksX0_person_2 17 rfl rfl)
theorem dX0_person_62 : decode cX0_person 62 = .ok (.iaload, 1) := dk_46 (dk_at dksX0_person_2 18 rfl rfl)
theorem dX0_person_63 : decode cX0_person 63 = .ok (.ireturn, 1) := dk_172 (dk_at dksX0_person_2 19 rfl rfl)
theorem dX0_person_64 : decode cX0_person 64 = .ok (.aload_n 0, 1) := dk_42 (dk_at dksX0_person_2 20 rfl rfl)
theorem dX0_person_65 : decode cX0_person 65 = .ok (.getfield 39, 3) := dk_180 0 39 (dk_at dksX0_person_2 21 rfl rfl)
theorem dX0_person_68 : decode cX0_person 68 = .ok (.iload_n 1, 1) := dk_27 (dk_at dksX0_person_3 0 rfl rfl)
theorem dX0_person_69 : decode cX0_person 69 = .ok (.invokevirtual 223, 3) := dk_182 0 223 (dk_at dksX0_person_3 1 rfl rfl)
theorem dX0_person_72 : decode cX0_person 72 = .ok (.ireturn, 1) := dk_172 (dk_at dksX0_person_3 4 rfl rfl)
theorem dX0_person_73 : decode cX0_person 73 = .ok (.aload_n 0, 1) := dk_42 (dk_at dksX0_person_3 5 rfl rfl)
theorem dX0_person_74 : decode cX0_person 74 = .ok (.getfield 39, 3) := dk_180 0 39 (dk_at dksX0_person_3 6 rfl rfl)
theorem dX0_person_77 : decode cX0_person 77 = .ok (.invokevirtual 238, 3) := dk_182 0 238 (dk_at dksX0_person_3 9 rfl rfl)
theorem dX0_person_80 : decode cX0_person 80 = .ok (.iload_n 1, 1) := dk_27 (dk_at dksX0_person_3 12 rfl rfl)
theorem dX0_person_81 : decode cX0_person 81 = .ok (.ishr, 1) := dk_122 (dk_at dksX0_person_3 13 rfl rfl)
theorem dX0_person_82 : decode cX0_person 82 = .ok (.iconst 1, 1) := dk_4 (dk_at dksX0_person_3 14 rfl rfl)
theorem dX0_person_83 : decode cX0_person 83 = .ok (.iand, 1) := dk_126 (dk_at dksX0_person_3 15 rfl rfl)
theorem dX0_person_84 : decode cX0_person 84 = .ok (.ireturn, 1) := dk_172 (dk_at dksX0_person_3 16 rfl rfl)
theorem dX0_person_85 : decode cX0_person 85 = .ok (.ldc 97, 2) := dk_18 97 (dk_at dksX0_person_3 17 rfl rfl)
theorem dX0_person_87 : decode cX0_person 87 = .ok (.ireturn, 1) := dk_172 (dk_at dksX0_person_3 19 rfl rfl)
abbrev cX0_promise : ByteArray := prog_1_method_30_code
def yX0_promise : MethodName := ⟨RX0, "promise", "(II)I"⟩
def dkwX0_promise_5 : List UInt8 := [18, 97, 172]
abbrev dktX0_promise_5 : List UInt8 := dkwX0_promise_5 ++ []
def dkwX0_promise_4 : List UInt8 := [46, 172, 42, 180, 0, 39, 180, 0, 202, 27, 122, 4, 126, 172, 42, 180, 0, 39, 27, 182, 0, 244, 172]
abbrev dktX0_promise_4 : List UInt8 := dkwX0_promise_4 ++ dktX0_promise_5
def dkwX0_promise_3 : List UInt8 := [180, 0, 241, 27, 46, 172, 42, 180, 0, 39, 180, 0, 217, 27, 46, 172, 42, 180, 0, 39, 180, 0, 211, 27]
abbrev dktX0_promise_3 : List UInt8 := dkwX0_promise_3 ++ dktX0_promise_4
def dkwX0_promise_2 : List UInt8 := [42, 180, 0, 39, 180, 0, 208, 27, 46, 172, 42, 180, 0, 39, 180, 0, 220, 27, 46, 172, 42, 180, 0, 39]
abbrev dktX0_promise_2 : List UInt8 := dkwX0_promise_2 ++ dktX0_promise_3
def dkwX0_promise_1 : List UInt8 := [170, 0, 0, 0, 0, 0, 0, 115, 0, 0, 0, 0, 0, 0, 0, 6, 0, 0, 0, 44, 0, 0, 0, 54, 0, 0, 0, 64, 0, 0, 0, 74, 0, 0, 0, 84, 0, 0, 0, 94, 0, 0, 0, 106]
abbrev dktX0_promise_1 : List UInt8 := dkwX0_promise_1 ++ dktX0_promise_2
def dkwX0_promise_0 : List UInt8 := [42, 27, 182, 0, 199, 154, 0, 6, 18, 97, 172, 28]
abbrev dktX0_promise_0 : List UInt8 := dkwX0_promise_0 ++ dktX0_promise_1
theorem dksX0_promise_0 : cX0_promise.data.toList.drop 0 = dktX0_promise_0 := by decide +kernel
theorem dksX0_promise_1 : cX0_promise.data.toList.drop 12 = dktX0_promise_1 := dk_seg dksX0_promise_0 12 rfl rfl
theorem dksX0_promise_2 : cX0_promise.data.toList.drop 56 = dktX0_promise_2 := dk_seg dksX0_promise_1 44 rfl rfl
theorem dksX0_promise_3 : cX0_promise.data.toList.drop 80 = dktX0_promise_3 := dk_seg dksX0_promise_2 24 rfl rfl
theorem dksX0_promise_4 : cX0_promise.data.toList.drop 104 = dktX0_promise_4 := dk_seg dksX0_promise_3 24 rfl rfl
theorem dksX0_promise_5 : cX0_promise.data.toList.drop 127 = dktX0_promise_5 := dk_seg dksX0_promise_4 23 rfl rfl
theorem dX0_promise_0 : decode cX0_promise 0 = .ok (.aload_n 0, 1) := dk_42 (dk_at dksX0_promise_0 0 rfl rfl)
theorem dX0_promise_1 : decode cX0_promise 1 = .ok (.iload_n 1, 1) := dk_27 (dk_at dksX0_promise_0 1 rfl rfl)
theorem dX0_promise_2 : decode cX0_promise 2 = .ok (.invokevirtual 199, 3) := dk_182 0 199 (dk_at dksX0_promise_0 2 rfl rfl)
theorem dX0_promise_5 : decode cX0_promise 5 = .ok (.ifCond .ne 6, 3) := dk_154 0 6 (dk_at dksX0_promise_0 5 rfl rfl)
theorem dX0_promise_8 : decode cX0_promise 8 = .ok (.ldc 97, 2) := dk_18 97 (dk_at dksX0_promise_0 8 rfl rfl)
theorem dX0_promise_10 : decode cX0_promise 10 = .ok (.ireturn, 1) := dk_172 (dk_at dksX0_promise_0 10 rfl rfl)
theorem dX0_promise_11 : decode cX0_promise 11 = .ok (.iload_n 2, 1) := dk_28 (dk_at dksX0_promise_0 11 rfl rfl)
theorem dX0_promise_12 : decode cX0_promise 12 = .ok (.tableswitch 115 0 6 #[44, 54, 64, 74, 84, 94, 106], 44) := by decide +kernel
theorem dX0_promise_56 : decode cX0_promise 56 = .ok (.aload_n 0, 1) := dk_42 (dk_at dksX0_promise_2 0 rfl rfl)
theorem dX0_promise_57 : decode cX0_promise 57 = .ok (.getfield 39, 3) := dk_180 0 39 (dk_at dksX0_promise_2 1 rfl rfl)
theorem dX0_promise_60 : decode cX0_promise 60 = .ok (.getfield 208, 3) := dk_180 0 208 (dk_at dksX0_promise_2 4 rfl rfl)
theorem dX0_promise_63 : decode cX0_promise 63 = .ok (.iload_n 1, 1) := dk_27 (dk_at dksX0_promise_2 7 rfl rfl)
theorem dX0_promise_64 : decode cX0_promise 64 = .ok (.iaload, 1) := dk_46 (dk_at dksX0_promise_2 8 rfl rfl)
theorem dX0_promise_65 : decode cX0_promise 65 = .ok (.ireturn, 1) := dk_172 (dk_at dksX0_promise_2 9 rfl rfl)
theorem dX0_promise_66 : decode cX0_promise 66 = .ok (.aload_n 0, 1) := dk_42 (dk_at dksX0_promise_2 10 rfl rfl)
theorem dX0_promise_67 : decode cX0_promise 67 = .ok (.getfield 39, 3) := dk_180 0 39 (dk_at dksX0_promise_2 11 rfl rfl)
theorem dX0_promise_70 : decode cX0_promise 70 = .ok (.getfield 220, 3) := dk_180 0 220 (dk_at dksX0_promise_2 14 rfl rfl)
theorem dX0_promise_73 : decode cX0_promise 73 = .ok (.iload_n 1, 1) := dk_27 (dk_at dksX0_promise_2 17 rfl rfl)
theorem dX0_promise_74 : decode cX0_promise 74 = .ok (.iaload, 1) := dk_46 (dk_at dksX0_promise_2 18 rfl rfl)
theorem dX0_promise_75 : decode cX0_promise 75 = .ok (.ireturn, 1) := dk_172 (dk_at dksX0_promise_2 19 rfl rfl)
theorem dX0_promise_76 : decode cX0_promise 76 = .ok (.aload_n 0, 1) := dk_42 (dk_at dksX0_promise_2 20 rfl rfl)
theorem dX0_promise_77 : decode cX0_promise 77 = .ok (.getfield 39, 3) := dk_180 0 39 (dk_at dksX0_promise_2 21 rfl rfl)
theorem dX0_promise_80 : decode cX0_promise 80 = .ok (.getfield 241, 3) := dk_180 0 241 (dk_at dksX0_promise_3 0 rfl rfl)
theorem dX0_promise_83 : decode cX0_promise 83 = .ok (.iload_n 1, 1) := dk_27 (dk_at dksX0_promise_3 3 rfl rfl)
theorem dX0_promise_84 : decode cX0_promise 84 = .ok (.iaload, 1) := dk_46 (dk_at dksX0_promise_3 4 rfl rfl)
theorem dX0_promise_85 : decode cX0_promise 85 = .ok (.ireturn, 1) := dk_172 (dk_at dksX0_promise_3 5 rfl rfl)
theorem dX0_promise_86 : decode cX0_promise 86 = .ok (.aload_n 0, 1) := dk_42 (dk_at dksX0_promise_3 6 rfl rfl)
theorem dX0_promise_87 : decode cX0_promise 87 = .ok (.getfield 39, 3) := dk_180 0 39 (dk_at dksX0_promise_3 7 rfl rfl)
theorem dX0_promise_90 : decode cX0_promise 90 = .ok (.getfield 217, 3) := dk_180 0 217 (dk_at dksX0_promise_3 10 rfl rfl)
theorem dX0_promise_93 : decode cX0_promise 93 = .ok (.iload_n 1, 1) := dk_27 (dk_at dksX0_promise_3 13 rfl rfl)
theorem dX0_promise_94 : decode cX0_promise 94 = .ok (.iaload, 1) := dk_46 (dk_at dksX0_promise_3 14 rfl rfl)
theorem dX0_promise_95 : decode cX0_promise 95 = .ok (.ireturn, 1) := dk_172 (dk_at dksX0_promise_3 15 rfl rfl)
theorem dX0_promise_96 : decode cX0_promise 96 = .ok (.aload_n 0, 1) := dk_42 (dk_at dksX0_promise_3 16 rfl rfl)
theorem dX0_promise_97 : decode cX0_promise 97 = .ok (.getfield 39, 3) := dk_180 0 39 (dk_at dksX0_promise_3 17 rfl rfl)
theorem dX0_promise_100 : decode cX0_promise 100 = .ok (.getfield 211, 3) := dk_180 0 211 (dk_at dksX0_promise_3 20 rfl rfl)
theorem dX0_promise_103 : decode cX0_promise 103 = .ok (.iload_n 1, 1) := dk_27 (dk_at dksX0_promise_3 23 rfl rfl)
theorem dX0_promise_104 : decode cX0_promise 104 = .ok (.iaload, 1) := dk_46 (dk_at dksX0_promise_4 0 rfl rfl)
theorem dX0_promise_105 : decode cX0_promise 105 = .ok (.ireturn, 1) := dk_172 (dk_at dksX0_promise_4 1 rfl rfl)
theorem dX0_promise_106 : decode cX0_promise 106 = .ok (.aload_n 0, 1) := dk_42 (dk_at dksX0_promise_4 2 rfl rfl)
theorem dX0_promise_107 : decode cX0_promise 107 = .ok (.getfield 39, 3) := dk_180 0 39 (dk_at dksX0_promise_4 3 rfl rfl)
theorem dX0_promise_110 : decode cX0_promise 110 = .ok (.getfield 202, 3) := dk_180 0 202 (dk_at dksX0_promise_4 6 rfl rfl)
theorem dX0_promise_113 : decode cX0_promise 113 = .ok (.iload_n 1, 1) := dk_27 (dk_at dksX0_promise_4 9 rfl rfl)
theorem dX0_promise_114 : decode cX0_promise 114 = .ok (.ishr, 1) := dk_122 (dk_at dksX0_promise_4 10 rfl rfl)
theorem dX0_promise_115 : decode cX0_promise 115 = .ok (.iconst 1, 1) := dk_4 (dk_at dksX0_promise_4 11 rfl rfl)
theorem dX0_promise_116 : decode cX0_promise 116 = .ok (.iand, 1) := dk_126 (dk_at dksX0_promise_4 12 rfl rfl)
theorem dX0_promise_117 : decode cX0_promise 117 = .ok (.ireturn, 1) := dk_172 (dk_at dksX0_promise_4 13 rfl rfl)
theorem dX0_promise_118 : decode cX0_promise 118 = .ok (.aload_n 0, 1) := dk_42 (dk_at dksX0_promise_4 14 rfl rfl)
theorem dX0_promise_119 : decode cX0_promise 119 = .ok (.getfield 39, 3) := dk_180 0 39 (dk_at dksX0_promise_4 15 rfl rfl)
theorem dX0_promise_122 : decode cX0_promise 122 = .ok (.iload_n 1, 1) := dk_27 (dk_at dksX0_promise_4 18 rfl rfl)
theorem dX0_promise_123 : decode cX0_promise 123 = .ok (.invokevirtual 244, 3) := dk_182 0 244 (dk_at dksX0_promise_4 19 rfl rfl)
theorem dX0_promise_126 : decode cX0_promise 126 = .ok (.ireturn, 1) := dk_172 (dk_at dksX0_promise_4 22 rfl rfl)
theorem dX0_promise_127 : decode cX0_promise 127 = .ok (.ldc 97, 2) := dk_18 97 (dk_at dksX0_promise_5 0 rfl rfl)
theorem dX0_promise_129 : decode cX0_promise 129 = .ok (.ireturn, 1) := dk_172 (dk_at dksX0_promise_5 2 rfl rfl)
abbrev cX0_height : ByteArray := prog_1_method_31_code
def yX0_height : MethodName := ⟨RX0, "height", "(I)I"⟩
def dkwX0_height_1 : List UInt8 := [27, 46, 167, 0, 5, 18, 97, 172]
abbrev dktX0_height_1 : List UInt8 := dkwX0_height_1 ++ []
def dkwX0_height_0 : List UInt8 := [42, 182, 0, 226, 154, 0, 6, 18, 170, 172, 27, 184, 0, 192, 153, 0, 15, 42, 180, 0, 39, 180, 0, 247]
abbrev dktX0_height_0 : List UInt8 := dkwX0_height_0 ++ dktX0_height_1
theorem dksX0_height_0 : cX0_height.data.toList.drop 0 = dktX0_height_0 := by decide +kernel
theorem dksX0_height_1 : cX0_height.data.toList.drop 24 = dktX0_height_1 := dk_seg dksX0_height_0 24 rfl rfl
theorem dX0_height_0 : decode cX0_height 0 = .ok (.aload_n 0, 1) := dk_42 (dk_at dksX0_height_0 0 rfl rfl)
theorem dX0_height_1 : decode cX0_height 1 = .ok (.invokevirtual 226, 3) := dk_182 0 226 (dk_at dksX0_height_0 1 rfl rfl)
theorem dX0_height_4 : decode cX0_height 4 = .ok (.ifCond .ne 6, 3) := dk_154 0 6 (dk_at dksX0_height_0 4 rfl rfl)
theorem dX0_height_7 : decode cX0_height 7 = .ok (.ldc 170, 2) := dk_18 170 (dk_at dksX0_height_0 7 rfl rfl)
theorem dX0_height_9 : decode cX0_height 9 = .ok (.ireturn, 1) := dk_172 (dk_at dksX0_height_0 9 rfl rfl)
theorem dX0_height_10 : decode cX0_height 10 = .ok (.iload_n 1, 1) := dk_27 (dk_at dksX0_height_0 10 rfl rfl)
theorem dX0_height_11 : decode cX0_height 11 = .ok (.invokestatic 192, 3) := dk_184 0 192 (dk_at dksX0_height_0 11 rfl rfl)
theorem dX0_height_14 : decode cX0_height 14 = .ok (.ifCond .eq 15, 3) := dk_153 0 15 (dk_at dksX0_height_0 14 rfl rfl)
theorem dX0_height_17 : decode cX0_height 17 = .ok (.aload_n 0, 1) := dk_42 (dk_at dksX0_height_0 17 rfl rfl)
theorem dX0_height_18 : decode cX0_height 18 = .ok (.getfield 39, 3) := dk_180 0 39 (dk_at dksX0_height_0 18 rfl rfl)
theorem dX0_height_21 : decode cX0_height 21 = .ok (.getfield 247, 3) := dk_180 0 247 (dk_at dksX0_height_0 21 rfl rfl)
theorem dX0_height_24 : decode cX0_height 24 = .ok (.iload_n 1, 1) := dk_27 (dk_at dksX0_height_1 0 rfl rfl)
theorem dX0_height_25 : decode cX0_height 25 = .ok (.iaload, 1) := dk_46 (dk_at dksX0_height_1 1 rfl rfl)
theorem dX0_height_26 : decode cX0_height 26 = .ok (.goto 5, 3) := dk_167 0 5 (dk_at dksX0_height_1 2 rfl rfl)
theorem dX0_height_29 : decode cX0_height 29 = .ok (.ldc 97, 2) := dk_18 97 (dk_at dksX0_height_1 5 rfl rfl)
theorem dX0_height_31 : decode cX0_height 31 = .ok (.ireturn, 1) := dk_172 (dk_at dksX0_height_1 7 rfl rfl)
abbrev cX0_gets : ByteArray := prog_1_method_33_code
def yX0_gets : MethodName := ⟨RX0, "gets", "(III)I"⟩
def dkwX0_gets_2 : List UInt8 := [4, 167, 0, 4, 3, 172]
abbrev dktX0_gets_2 : List UInt8 := dkwX0_gets_2 ++ []
def dkwX0_gets_1 : List UInt8 := [172, 42, 27, 28, 182, 1, 6, 54, 4, 29, 4, 160, 0, 8, 21, 4, 167, 0, 13, 21, 4, 154, 0, 7]
abbrev dktX0_gets_1 : List UInt8 := dkwX0_gets_1 ++ dktX0_gets_2
def dkwX0_gets_0 : List UInt8 := [42, 27, 182, 0, 176, 153, 0, 17, 28, 184, 0, 192, 153, 0, 10, 29, 184, 1, 3, 154, 0, 6, 18, 97]
abbrev dktX0_gets_0 : List UInt8 := dkwX0_gets_0 ++ dktX0_gets_1
theorem dksX0_gets_0 : cX0_gets.data.toList.drop 0 = dktX0_gets_0 := by decide +kernel
theorem dksX0_gets_1 : cX0_gets.data.toList.drop 24 = dktX0_gets_1 := dk_seg dksX0_gets_0 24 rfl rfl
theorem dksX0_gets_2 : cX0_gets.data.toList.drop 48 = dktX0_gets_2 := dk_seg dksX0_gets_1 24 rfl rfl
theorem dX0_gets_0 : decode cX0_gets 0 = .ok (.aload_n 0, 1) := dk_42 (dk_at dksX0_gets_0 0 rfl rfl)
theorem dX0_gets_1 : decode cX0_gets 1 = .ok (.iload_n 1, 1) := dk_27 (dk_at dksX0_gets_0 1 rfl rfl)
theorem dX0_gets_2 : decode cX0_gets 2 = .ok (.invokevirtual 176, 3) := dk_182 0 176 (dk_at dksX0_gets_0 2 rfl rfl)
theorem dX0_gets_5 : decode cX0_gets 5 = .ok (.ifCond .eq 17, 3) := dk_153 0 17 (dk_at dksX0_gets_0 5 rfl rfl)
theorem dX0_gets_8 : decode cX0_gets 8 = .ok (.iload_n 2, 1) := dk_28 (dk_at dksX0_gets_0 8 rfl rfl)
theorem dX0_gets_9 : decode cX0_gets 9 = .ok (.invokestatic 192, 3) := dk_184 0 192 (dk_at dksX0_gets_0 9 rfl rfl)
theorem dX0_gets_12 : decode cX0_gets 12 = .ok (.ifCond .eq 10, 3) := dk_153 0 10 (dk_at dksX0_gets_0 12 rfl rfl)
theorem dX0_gets_15 : decode cX0_gets 15 = .ok (.iload_n 3, 1) := dk_29 (dk_at dksX0_gets_0 15 rfl rfl)
theorem dX0_gets_16 : decode cX0_gets 16 = .ok (.invokestatic 259, 3) := dk_184 1 3 (dk_at dksX0_gets_0 16 rfl rfl)
theorem dX0_gets_19 : decode cX0_gets 19 = .ok (.ifCond .ne 6, 3) := dk_154 0 6 (dk_at dksX0_gets_0 19 rfl rfl)
theorem dX0_gets_22 : decode cX0_gets 22 = .ok (.ldc 97, 2) := dk_18 97 (dk_at dksX0_gets_0 22 rfl rfl)
theorem dX0_gets_24 : decode cX0_gets 24 = .ok (.ireturn, 1) := dk_172 (dk_at dksX0_gets_1 0 rfl rfl)
theorem dX0_gets_25 : decode cX0_gets 25 = .ok (.aload_n 0, 1) := dk_42 (dk_at dksX0_gets_1 1 rfl rfl)
theorem dX0_gets_26 : decode cX0_gets 26 = .ok (.iload_n 1, 1) := dk_27 (dk_at dksX0_gets_1 2 rfl rfl)
theorem dX0_gets_27 : decode cX0_gets 27 = .ok (.iload_n 2, 1) := dk_28 (dk_at dksX0_gets_1 3 rfl rfl)
theorem dX0_gets_28 : decode cX0_gets 28 = .ok (.invokevirtual 262, 3) := dk_182 1 6 (dk_at dksX0_gets_1 4 rfl rfl)
theorem dX0_gets_31 : decode cX0_gets 31 = .ok (.istore 4, 2) := dk_54 4 (dk_at dksX0_gets_1 7 rfl rfl)
theorem dX0_gets_33 : decode cX0_gets 33 = .ok (.iload_n 3, 1) := dk_29 (dk_at dksX0_gets_1 9 rfl rfl)
theorem dX0_gets_34 : decode cX0_gets 34 = .ok (.iconst 1, 1) := dk_4 (dk_at dksX0_gets_1 10 rfl rfl)
theorem dX0_gets_35 : decode cX0_gets 35 = .ok (.if_icmp .ne 8, 3) := dk_160 0 8 (dk_at dksX0_gets_1 11 rfl rfl)
theorem dX0_gets_38 : decode cX0_gets 38 = .ok (.iload 4, 2) := dk_21 4 (dk_at dksX0_gets_1 14 rfl rfl)
theorem dX0_gets_40 : decode cX0_gets 40 = .ok (.goto 13, 3) := dk_167 0 13 (dk_at dksX0_gets_1 16 rfl rfl)
theorem dX0_gets_43 : decode cX0_gets 43 = .ok (.iload 4, 2) := dk_21 4 (dk_at dksX0_gets_1 19 rfl rfl)
theorem dX0_gets_45 : decode cX0_gets 45 = .ok (.ifCond .ne 7, 3) := dk_154 0 7 (dk_at dksX0_gets_1 21 rfl rfl)
theorem dX0_gets_48 : decode cX0_gets 48 = .ok (.iconst 1, 1) := dk_4 (dk_at dksX0_gets_2 0 rfl rfl)
theorem dX0_gets_49 : decode cX0_gets 49 = .ok (.goto 4, 3) := dk_167 0 4 (dk_at dksX0_gets_2 1 rfl rfl)
theorem dX0_gets_52 : decode cX0_gets 52 = .ok (.iconst 0, 1) := dk_3 (dk_at dksX0_gets_2 4 rfl rfl)
theorem dX0_gets_53 : decode cX0_gets 53 = .ok (.ireturn, 1) := dk_172 (dk_at dksX0_gets_2 5 rfl rfl)
abbrev cX0_isHalf : ByteArray := prog_1_method_17_code
def yX0_isHalf : MethodName := ⟨RX0, "isHalf", "(I)Z"⟩
def dkwX0_isHalf_0 : List UInt8 := [26, 133, 9, 10, 184, 0, 83, 172]
abbrev dktX0_isHalf_0 : List UInt8 := dkwX0_isHalf_0 ++ []
theorem dksX0_isHalf_0 : cX0_isHalf.data.toList.drop 0 = dktX0_isHalf_0 := by decide +kernel
theorem dX0_isHalf_0 : decode cX0_isHalf 0 = .ok (.iload_n 0, 1) := dk_26 (dk_at dksX0_isHalf_0 0 rfl rfl)
theorem dX0_isHalf_1 : decode cX0_isHalf 1 = .ok (.i2l, 1) := dk_133 (dk_at dksX0_isHalf_0 1 rfl rfl)
theorem dX0_isHalf_2 : decode cX0_isHalf 2 = .ok (.lconst 0, 1) := dk_9 (dk_at dksX0_isHalf_0 2 rfl rfl)
theorem dX0_isHalf_3 : decode cX0_isHalf 3 = .ok (.lconst 1, 1) := dk_10 (dk_at dksX0_isHalf_0 3 rfl rfl)
theorem dX0_isHalf_4 : decode cX0_isHalf 4 = .ok (.invokestatic 83, 3) := dk_184 0 83 (dk_at dksX0_isHalf_0 4 rfl rfl)
theorem dX0_isHalf_7 : decode cX0_isHalf 7 = .ok (.ireturn, 1) := dk_172 (dk_at dksX0_isHalf_0 7 rfl rfl)
abbrev cX0_lacksTo : ByteArray := prog_1_method_32_code
def yX0_lacksTo : MethodName := ⟨RX0, "lacksTo", "(II)I"⟩
def dkwX0_lacksTo_3 : List UInt8 := [180, 0, 235, 27, 46, 100, 184, 0, 254, 62, 21, 5, 21, 4, 96, 54, 5, 167, 255, 205, 29, 172]
abbrev dktX0_lacksTo_3 : List UInt8 := dkwX0_lacksTo_3 ++ []
def dkwX0_lacksTo_2 : List UInt8 := [182, 0, 223, 42, 180, 0, 39, 21, 5, 21, 5, 21, 4, 96, 182, 0, 250, 96, 42, 180, 0, 39]
abbrev dktX0_lacksTo_2 : List UInt8 := dkwX0_lacksTo_2 ++ dktX0_lacksTo_3
def dkwX0_lacksTo_1 : List UInt8 := [180, 0, 39, 180, 0, 186, 27, 46, 54, 5, 21, 5, 28, 159, 0, 51, 29, 42, 180, 0, 39, 27]
abbrev dktX0_lacksTo_1 : List UInt8 := dkwX0_lacksTo_1 ++ dktX0_lacksTo_2
def dkwX0_lacksTo_0 : List UInt8 := [3, 62, 28, 42, 180, 0, 39, 180, 0, 186, 27, 46, 164, 0, 7, 4, 167, 0, 4, 2, 54, 4, 42]
abbrev dktX0_lacksTo_0 : List UInt8 := dkwX0_lacksTo_0 ++ dktX0_lacksTo_1
theorem dksX0_lacksTo_0 : cX0_lacksTo.data.toList.drop 0 = dktX0_lacksTo_0 := by decide +kernel
theorem dksX0_lacksTo_1 : cX0_lacksTo.data.toList.drop 23 = dktX0_lacksTo_1 := dk_seg dksX0_lacksTo_0 23 rfl rfl
theorem dksX0_lacksTo_2 : cX0_lacksTo.data.toList.drop 45 = dktX0_lacksTo_2 := dk_seg dksX0_lacksTo_1 22 rfl rfl
theorem dksX0_lacksTo_3 : cX0_lacksTo.data.toList.drop 67 = dktX0_lacksTo_3 := dk_seg dksX0_lacksTo_2 22 rfl rfl
theorem dX0_lacksTo_0 : decode cX0_lacksTo 0 = .ok (.iconst 0, 1) := dk_3 (dk_at dksX0_lacksTo_0 0 rfl rfl)
theorem dX0_lacksTo_1 : decode cX0_lacksTo 1 = .ok (.istore_n 3, 1) := dk_62 (dk_at dksX0_lacksTo_0 1 rfl rfl)
theorem dX0_lacksTo_2 : decode cX0_lacksTo 2 = .ok (.iload_n 2, 1) := dk_28 (dk_at dksX0_lacksTo_0 2 rfl rfl)
theorem dX0_lacksTo_3 : decode cX0_lacksTo 3 = .ok (.aload_n 0, 1) := dk_42 (dk_at dksX0_lacksTo_0 3 rfl rfl)
theorem dX0_lacksTo_4 : decode cX0_lacksTo 4 = .ok (.getfield 39, 3) := dk_180 0 39 (dk_at dksX0_lacksTo_0 4 rfl rfl)
theorem dX0_lacksTo_7 : decode cX0_lacksTo 7 = .ok (.getfield 186, 3) := dk_180 0 186 (dk_at dksX0_lacksTo_0 7 rfl rfl)
theorem dX0_lacksTo_10 : decode cX0_lacksTo 10 = .ok (.iload_n 1, 1) := dk_27 (dk_at dksX0_lacksTo_0 10 rfl rfl)
theorem dX0_lacksTo_11 : decode cX0_lacksTo 11 = .ok (.iaload, 1) := dk_46 (dk_at dksX0_lacksTo_0 11 rfl rfl)
theorem dX0_lacksTo_12 : decode cX0_lacksTo 12 = .ok (.if_icmp .le 7, 3) := dk_164 0 7 (dk_at dksX0_lacksTo_0 12 rfl rfl)
theorem dX0_lacksTo_15 : decode cX0_lacksTo 15 = .ok (.iconst 1, 1) := dk_4 (dk_at dksX0_lacksTo_0 15 rfl rfl)
theorem dX0_lacksTo_16 : decode cX0_lacksTo 16 = .ok (.goto 4, 3) := dk_167 0 4 (dk_at dksX0_lacksTo_0 16 rfl rfl)
theorem dX0_lacksTo_19 : decode cX0_lacksTo 19 = .ok (.iconst (-1), 1) := dk_2 (dk_at dksX0_lacksTo_0 19 rfl rfl)
theorem dX0_lacksTo_20 : decode cX0_lacksTo 20 = .ok (.istore 4, 2) := dk_54 4 (dk_at dksX0_lacksTo_0 20 rfl rfl)
theorem dX0_lacksTo_22 : decode cX0_lacksTo 22 = .ok (.aload_n 0, 1) := dk_42 (dk_at dksX0_lacksTo_0 22 rfl rfl)
theorem dX0_lacksTo_23 : decode cX0_lacksTo 23 = .ok (.getfield 39, 3) := dk_180 0 39 (dk_at dksX0_lacksTo_1 0 rfl rfl)
theorem dX0_lacksTo_26 : decode cX0_lacksTo 26 = .ok (.getfield 186, 3) := dk_180 0 186 (dk_at dksX0_lacksTo_1 3 rfl rfl)
theorem dX0_lacksTo_29 : decode cX0_lacksTo 29 = .ok (.iload_n 1, 1) := dk_27 (dk_at dksX0_lacksTo_1 6 rfl rfl)
theorem dX0_lacksTo_30 : decode cX0_lacksTo 30 = .ok (.iaload, 1) := dk_46 (dk_at dksX0_lacksTo_1 7 rfl rfl)
theorem dX0_lacksTo_31 : decode cX0_lacksTo 31 = .ok (.istore 5, 2) := dk_54 5 (dk_at dksX0_lacksTo_1 8 rfl rfl)
theorem dX0_lacksTo_33 : decode cX0_lacksTo 33 = .ok (.iload 5, 2) := dk_21 5 (dk_at dksX0_lacksTo_1 10 rfl rfl)
theorem dX0_lacksTo_35 : decode cX0_lacksTo 35 = .ok (.iload_n 2, 1) := dk_28 (dk_at dksX0_lacksTo_1 12 rfl rfl)
theorem dX0_lacksTo_36 : decode cX0_lacksTo 36 = .ok (.if_icmp .eq 51, 3) := dk_159 0 51 (dk_at dksX0_lacksTo_1 13 rfl rfl)
theorem dX0_lacksTo_39 : decode cX0_lacksTo 39 = .ok (.iload_n 3, 1) := dk_29 (dk_at dksX0_lacksTo_1 16 rfl rfl)
theorem dX0_lacksTo_40 : decode cX0_lacksTo 40 = .ok (.aload_n 0, 1) := dk_42 (dk_at dksX0_lacksTo_1 17 rfl rfl)
theorem dX0_lacksTo_41 : decode cX0_lacksTo 41 = .ok (.getfield 39, 3) := dk_180 0 39 (dk_at dksX0_lacksTo_1 18 rfl rfl)
theorem dX0_lacksTo_44 : decode cX0_lacksTo 44 = .ok (.iload_n 1, 1) := dk_27 (dk_at dksX0_lacksTo_1 21 rfl rfl)
theorem dX0_lacksTo_45 : decode cX0_lacksTo 45 = .ok (.invokevirtual 223, 3) := dk_182 0 223 (dk_at dksX0_lacksTo_2 0 rfl rfl)
theorem dX0_lacksTo_48 : decode cX0_lacksTo 48 = .ok (.aload_n 0, 1) := dk_42 (dk_at dksX0_lacksTo_2 3 rfl rfl)
theorem dX0_lacksTo_49 : decode cX0_lacksTo 49 = .ok (.getfield 39, 3) := dk_180 0 39 (dk_at dksX0_lacksTo_2 4 rfl rfl)
theorem dX0_lacksTo_52 : decode cX0_lacksTo 52 = .ok (.iload 5, 2) := dk_21 5 (dk_at dksX0_lacksTo_2 7 rfl rfl)
theorem dX0_lacksTo_54 : decode cX0_lacksTo 54 = .ok (.iload 5, 2) := dk_21 5 (dk_at dksX0_lacksTo_2 9 rfl rfl)
theorem dX0_lacksTo_56 : decode cX0_lacksTo 56 = .ok (.iload 4, 2) := dk_21 4 (dk_at dksX0_lacksTo_2 11 rfl rfl)
theorem dX0_lacksTo_58 : decode cX0_lacksTo 58 = .ok (.iadd, 1) := dk_96 (dk_at dksX0_lacksTo_2 13 rfl rfl)
theorem dX0_lacksTo_59 : decode cX0_lacksTo 59 = .ok (.invokevirtual 250, 3) := dk_182 0 250 (dk_at dksX0_lacksTo_2 14 rfl rfl)
theorem dX0_lacksTo_62 : decode cX0_lacksTo 62 = .ok (.iadd, 1) := dk_96 (dk_at dksX0_lacksTo_2 17 rfl rfl)
theorem dX0_lacksTo_63 : decode cX0_lacksTo 63 = .ok (.aload_n 0, 1) := dk_42 (dk_at dksX0_lacksTo_2 18 rfl rfl)
theorem dX0_lacksTo_64 : decode cX0_lacksTo 64 = .ok (.getfield 39, 3) := dk_180 0 39 (dk_at dksX0_lacksTo_2 19 rfl rfl)
theorem dX0_lacksTo_67 : decode cX0_lacksTo 67 = .ok (.getfield 235, 3) := dk_180 0 235 (dk_at dksX0_lacksTo_3 0 rfl rfl)
theorem dX0_lacksTo_70 : decode cX0_lacksTo 70 = .ok (.iload_n 1, 1) := dk_27 (dk_at dksX0_lacksTo_3 3 rfl rfl)
theorem dX0_lacksTo_71 : decode cX0_lacksTo 71 = .ok (.iaload, 1) := dk_46 (dk_at dksX0_lacksTo_3 4 rfl rfl)
theorem dX0_lacksTo_72 : decode cX0_lacksTo 72 = .ok (.isub, 1) := dk_100 (dk_at dksX0_lacksTo_3 5 rfl rfl)
theorem dX0_lacksTo_73 : decode cX0_lacksTo 73 = .ok (.invokestatic 254, 3) := dk_184 0 254 (dk_at dksX0_lacksTo_3 6 rfl rfl)
theorem dX0_lacksTo_76 : decode cX0_lacksTo 76 = .ok (.istore_n 3, 1) := dk_62 (dk_at dksX0_lacksTo_3 9 rfl rfl)
theorem dX0_lacksTo_77 : decode cX0_lacksTo 77 = .ok (.iload 5, 2) := dk_21 5 (dk_at dksX0_lacksTo_3 10 rfl rfl)
theorem dX0_lacksTo_79 : decode cX0_lacksTo 79 = .ok (.iload 4, 2) := dk_21 4 (dk_at dksX0_lacksTo_3 12 rfl rfl)
theorem dX0_lacksTo_81 : decode cX0_lacksTo 81 = .ok (.iadd, 1) := dk_96 (dk_at dksX0_lacksTo_3 14 rfl rfl)
theorem dX0_lacksTo_82 : decode cX0_lacksTo 82 = .ok (.istore 5, 2) := dk_54 5 (dk_at dksX0_lacksTo_3 15 rfl rfl)
theorem dX0_lacksTo_84 : decode cX0_lacksTo 84 = .ok (.goto (-51), 3) := dk_167 255 205 (dk_at dksX0_lacksTo_3 17 rfl rfl)
theorem dX0_lacksTo_87 : decode cX0_lacksTo 87 = .ok (.iload_n 3, 1) := dk_29 (dk_at dksX0_lacksTo_3 20 rfl rfl)
theorem dX0_lacksTo_88 : decode cX0_lacksTo 88 = .ok (.ireturn, 1) := dk_172 (dk_at dksX0_lacksTo_3 21 rfl rfl)
abbrev cX0_keeps : ByteArray := prog_1_method_36_code
def yX0_keeps : MethodName := ⟨RX0, "keeps", "(II)I"⟩
def dkwX0_keeps_3 : List UInt8 := [29, 184, 1, 9, 162, 0, 12, 42, 180, 0, 64, 28, 46, 167, 0, 6, 19, 1, 28, 172]
abbrev dktX0_keeps_3 : List UInt8 := dkwX0_keeps_3 ++ []
def dkwX0_keeps_2 : List UInt8 := [42, 180, 0, 39, 180, 0, 214, 3, 182, 1, 20, 28, 2, 160, 0, 10, 42, 180, 1, 14, 167, 0, 23, 28]
abbrev dktX0_keeps_2 : List UInt8 := dkwX0_keeps_2 ++ dktX0_keeps_3
def dkwX0_keeps_1 : List UInt8 := [172, 42, 27, 182, 1, 25, 62, 42, 2, 181, 1, 14, 42, 3, 29, 42, 180, 0, 39, 180, 0, 186, 27, 46]
abbrev dktX0_keeps_1 : List UInt8 := dkwX0_keeps_1 ++ dktX0_keeps_2
def dkwX0_keeps_0 : List UInt8 := [42, 27, 182, 0, 176, 153, 0, 17, 28, 133, 20, 1, 23, 20, 0, 81, 184, 0, 83, 154, 0, 6, 18, 97]
abbrev dktX0_keeps_0 : List UInt8 := dkwX0_keeps_0 ++ dktX0_keeps_1
theorem dksX0_keeps_0 : cX0_keeps.data.toList.drop 0 = dktX0_keeps_0 := by decide +kernel
theorem dksX0_keeps_1 : cX0_keeps.data.toList.drop 24 = dktX0_keeps_1 := dk_seg dksX0_keeps_0 24 rfl rfl
theorem dksX0_keeps_2 : cX0_keeps.data.toList.drop 48 = dktX0_keeps_2 := dk_seg dksX0_keeps_1 24 rfl rfl
theorem dksX0_keeps_3 : cX0_keeps.data.toList.drop 72 = dktX0_keeps_3 := dk_seg dksX0_keeps_2 24 rfl rfl
theorem dX0_keeps_0 : decode cX0_keeps 0 = .ok (.aload_n 0, 1) := dk_42 (dk_at dksX0_keeps_0 0 rfl rfl)
theorem dX0_keeps_1 : decode cX0_keeps 1 = .ok (.iload_n 1, 1) := dk_27 (dk_at dksX0_keeps_0 1 rfl rfl)
theorem dX0_keeps_2 : decode cX0_keeps 2 = .ok (.invokevirtual 176, 3) := dk_182 0 176 (dk_at dksX0_keeps_0 2 rfl rfl)
theorem dX0_keeps_5 : decode cX0_keeps 5 = .ok (.ifCond .eq 17, 3) := dk_153 0 17 (dk_at dksX0_keeps_0 5 rfl rfl)
theorem dX0_keeps_8 : decode cX0_keeps 8 = .ok (.iload_n 2, 1) := dk_28 (dk_at dksX0_keeps_0 8 rfl rfl)
theorem dX0_keeps_9 : decode cX0_keeps 9 = .ok (.i2l, 1) := dk_133 (dk_at dksX0_keeps_0 9 rfl rfl)
theorem dX0_keeps_10 : decode cX0_keeps 10 = .ok (.ldc2_w 279, 3) := dk_20 1 23 (dk_at dksX0_keeps_0 10 rfl rfl)
theorem dX0_keeps_13 : decode cX0_keeps 13 = .ok (.ldc2_w 81, 3) := dk_20 0 81 (dk_at dksX0_keeps_0 13 rfl rfl)
theorem dX0_keeps_16 : decode cX0_keeps 16 = .ok (.invokestatic 83, 3) := dk_184 0 83 (dk_at dksX0_keeps_0 16 rfl rfl)
theorem dX0_keeps_19 : decode cX0_keeps 19 = .ok (.ifCond .ne 6, 3) := dk_154 0 6 (dk_at dksX0_keeps_0 19 rfl rfl)
theorem dX0_keeps_22 : decode cX0_keeps 22 = .ok (.ldc 97, 2) := dk_18 97 (dk_at dksX0_keeps_0 22 rfl rfl)
theorem dX0_keeps_24 : decode cX0_keeps 24 = .ok (.ireturn, 1) := dk_172 (dk_at dksX0_keeps_1 0 rfl rfl)
theorem dX0_keeps_25 : decode cX0_keeps 25 = .ok (.aload_n 0, 1) := dk_42 (dk_at dksX0_keeps_1 1 rfl rfl)
theorem dX0_keeps_26 : decode cX0_keeps 26 = .ok (.iload_n 1, 1) := dk_27 (dk_at dksX0_keeps_1 2 rfl rfl)
theorem dX0_keeps_27 : decode cX0_keeps 27 = .ok (.invokevirtual 281, 3) := dk_182 1 25 (dk_at dksX0_keeps_1 3 rfl rfl)
theorem dX0_keeps_30 : decode cX0_keeps 30 = .ok (.istore_n 3, 1) := dk_62 (dk_at dksX0_keeps_1 6 rfl rfl)
theorem dX0_keeps_31 : decode cX0_keeps 31 = .ok (.aload_n 0, 1) := dk_42 (dk_at dksX0_keeps_1 7 rfl rfl)
theorem dX0_keeps_32 : decode cX0_keeps 32 = .ok (.iconst (-1), 1) := dk_2 (dk_at dksX0_keeps_1 8 rfl rfl)
theorem dX0_keeps_33 : decode cX0_keeps 33 = .ok (.putfield 270, 3) := dk_181 1 14 (dk_at dksX0_keeps_1 9 rfl rfl)
theorem dX0_keeps_36 : decode cX0_keeps 36 = .ok (.aload_n 0, 1) := dk_42 (dk_at dksX0_keeps_1 12 rfl rfl)
theorem dX0_keeps_37 : decode cX0_keeps 37 = .ok (.iconst 0, 1) := dk_3 (dk_at dksX0_keeps_1 13 rfl rfl)
theorem dX0_keeps_38 : decode cX0_keeps 38 = .ok (.iload_n 3, 1) := dk_29 (dk_at dksX0_keeps_1 14 rfl rfl)
theorem dX0_keeps_39 : decode cX0_keeps 39 = .ok (.aload_n 0, 1) := dk_42 (dk_at dksX0_keeps_1 15 rfl rfl)
theorem dX0_keeps_40 : decode cX0_keeps 40 = .ok (.getfield 39, 3) := dk_180 0 39 (dk_at dksX0_keeps_1 16 rfl rfl)
theorem dX0_keeps_43 : decode cX0_keeps 43 = .ok (.getfield 186, 3) := dk_180 0 186 (dk_at dksX0_keeps_1 19 rfl rfl)
theorem dX0_keeps_46 : decode cX0_keeps 46 = .ok (.iload_n 1, 1) := dk_27 (dk_at dksX0_keeps_1 22 rfl rfl)
theorem dX0_keeps_47 : decode cX0_keeps 47 = .ok (.iaload, 1) := dk_46 (dk_at dksX0_keeps_1 23 rfl rfl)
theorem dX0_keeps_48 : decode cX0_keeps 48 = .ok (.aload_n 0, 1) := dk_42 (dk_at dksX0_keeps_2 0 rfl rfl)
theorem dX0_keeps_49 : decode cX0_keeps 49 = .ok (.getfield 39, 3) := dk_180 0 39 (dk_at dksX0_keeps_2 1 rfl rfl)
theorem dX0_keeps_52 : decode cX0_keeps 52 = .ok (.getfield 214, 3) := dk_180 0 214 (dk_at dksX0_keeps_2 4 rfl rfl)
theorem dX0_keeps_55 : decode cX0_keeps 55 = .ok (.iconst 0, 1) := dk_3 (dk_at dksX0_keeps_2 7 rfl rfl)
theorem dX0_keeps_56 : decode cX0_keeps 56 = .ok (.invokevirtual 276, 3) := dk_182 1 20 (dk_at dksX0_keeps_2 8 rfl rfl)
theorem dX0_keeps_59 : decode cX0_keeps 59 = .ok (.iload_n 2, 1) := dk_28 (dk_at dksX0_keeps_2 11 rfl rfl)
theorem dX0_keeps_60 : decode cX0_keeps 60 = .ok (.iconst (-1), 1) := dk_2 (dk_at dksX0_keeps_2 12 rfl rfl)
theorem dX0_keeps_61 : decode cX0_keeps 61 = .ok (.if_icmp .ne 10, 3) := dk_160 0 10 (dk_at dksX0_keeps_2 13 rfl rfl)
theorem dX0_keeps_64 : decode cX0_keeps 64 = .ok (.aload_n 0, 1) := dk_42 (dk_at dksX0_keeps_2 16 rfl rfl)
theorem dX0_keeps_65 : decode cX0_keeps 65 = .ok (.getfield 270, 3) := dk_180 1 14 (dk_at dksX0_keeps_2 17 rfl rfl)
theorem dX0_keeps_68 : decode cX0_keeps 68 = .ok (.goto 23, 3) := dk_167 0 23 (dk_at dksX0_keeps_2 20 rfl rfl)
theorem dX0_keeps_71 : decode cX0_keeps 71 = .ok (.iload_n 2, 1) := dk_28 (dk_at dksX0_keeps_2 23 rfl rfl)
theorem dX0_keeps_72 : decode cX0_keeps 72 = .ok (.iload_n 3, 1) := dk_29 (dk_at dksX0_keeps_3 0 rfl rfl)
theorem dX0_keeps_73 : decode cX0_keeps 73 = .ok (.invokestatic 265, 3) := dk_184 1 9 (dk_at dksX0_keeps_3 1 rfl rfl)
theorem dX0_keeps_76 : decode cX0_keeps 76 = .ok (.if_icmp .ge 12, 3) := dk_162 0 12 (dk_at dksX0_keeps_3 4 rfl rfl)
theorem dX0_keeps_79 : decode cX0_keeps 79 = .ok (.aload_n 0, 1) := dk_42 (dk_at dksX0_keeps_3 7 rfl rfl)
theorem dX0_keeps_80 : decode cX0_keeps 80 = .ok (.getfield 64, 3) := dk_180 0 64 (dk_at dksX0_keeps_3 8 rfl rfl)
theorem dX0_keeps_83 : decode cX0_keeps 83 = .ok (.iload_n 2, 1) := dk_28 (dk_at dksX0_keeps_3 11 rfl rfl)
theorem dX0_keeps_84 : decode cX0_keeps 84 = .ok (.iaload, 1) := dk_46 (dk_at dksX0_keeps_3 12 rfl rfl)
theorem dX0_keeps_85 : decode cX0_keeps 85 = .ok (.goto 6, 3) := dk_167 0 6 (dk_at dksX0_keeps_3 13 rfl rfl)
theorem dX0_keeps_88 : decode cX0_keeps 88 = .ok (.ldc_w 284, 3) := dk_19 1 28 (dk_at dksX0_keeps_3 16 rfl rfl)
theorem dX0_keeps_91 : decode cX0_keeps 91 = .ok (.ireturn, 1) := dk_172 (dk_at dksX0_keeps_3 19 rfl rfl)
abbrev cX0_openOf : ByteArray := prog_1_method_35_code
def yX0_openOf : MethodName := ⟨RX0, "openOf", "(I)I"⟩
def dkwX0_openOf_2 : List UInt8 := [167, 0, 4, 3, 128, 61, 132, 3, 1, 167, 255, 205, 28, 172]
abbrev dktX0_openOf_2 : List UInt8 := dkwX0_openOf_2 ++ []
def dkwX0_openOf_1 : List UInt8 := [46, 27, 160, 0, 23, 42, 180, 0, 39, 180, 0, 202, 29, 184, 0, 205, 154, 0, 9, 4, 29, 120]
abbrev dktX0_openOf_1 : List UInt8 := dkwX0_openOf_1 ++ dktX0_openOf_2
def dkwX0_openOf_0 : List UInt8 := [3, 61, 3, 62, 29, 42, 180, 0, 39, 180, 0, 171, 162, 0, 46, 28, 42, 180, 0, 39, 180, 0, 208, 29]
abbrev dktX0_openOf_0 : List UInt8 := dkwX0_openOf_0 ++ dktX0_openOf_1
theorem dksX0_openOf_0 : cX0_openOf.data.toList.drop 0 = dktX0_openOf_0 := by decide +kernel
theorem dksX0_openOf_1 : cX0_openOf.data.toList.drop 24 = dktX0_openOf_1 := dk_seg dksX0_openOf_0 24 rfl rfl
theorem dksX0_openOf_2 : cX0_openOf.data.toList.drop 46 = dktX0_openOf_2 := dk_seg dksX0_openOf_1 22 rfl rfl
theorem dX0_openOf_0 : decode cX0_openOf 0 = .ok (.iconst 0, 1) := dk_3 (dk_at dksX0_openOf_0 0 rfl rfl)
theorem dX0_openOf_1 : decode cX0_openOf 1 = .ok (.istore_n 2, 1) := dk_61 (dk_at dksX0_openOf_0 1 rfl rfl)
theorem dX0_openOf_2 : decode cX0_openOf 2 = .ok (.iconst 0, 1) := dk_3 (dk_at dksX0_openOf_0 2 rfl rfl)
theorem dX0_openOf_3 : decode cX0_openOf 3 = .ok (.istore_n 3, 1) := dk_62 (dk_at dksX0_openOf_0 3 rfl rfl)
theorem dX0_openOf_4 : decode cX0_openOf 4 = .ok (.iload_n 3, 1) := dk_29 (dk_at dksX0_openOf_0 4 rfl rfl)
theorem dX0_openOf_5 : decode cX0_openOf 5 = .ok (.aload_n 0, 1) := dk_42 (dk_at dksX0_openOf_0 5 rfl rfl)
theorem dX0_openOf_6 : decode cX0_openOf 6 = .ok (.getfield 39, 3) := dk_180 0 39 (dk_at dksX0_openOf_0 6 rfl rfl)
theorem dX0_openOf_9 : decode cX0_openOf 9 = .ok (.getfield 171, 3) := dk_180 0 171 (dk_at dksX0_openOf_0 9 rfl rfl)
theorem dX0_openOf_12 : decode cX0_openOf 12 = .ok (.if_icmp .ge 46, 3) := dk_162 0 46 (dk_at dksX0_openOf_0 12 rfl rfl)
theorem dX0_openOf_15 : decode cX0_openOf 15 = .ok (.iload_n 2, 1) := dk_28 (dk_at dksX0_openOf_0 15 rfl rfl)
theorem dX0_openOf_16 : decode cX0_openOf 16 = .ok (.aload_n 0, 1) := dk_42 (dk_at dksX0_openOf_0 16 rfl rfl)
theorem dX0_openOf_17 : decode cX0_openOf 17 = .ok (.getfield 39, 3) := dk_180 0 39 (dk_at dksX0_openOf_0 17 rfl rfl)
theorem dX0_openOf_20 : decode cX0_openOf 20 = .ok (.getfield 208, 3) := dk_180 0 208 (dk_at dksX0_openOf_0 20 rfl rfl)
theorem dX0_openOf_23 : decode cX0_openOf 23 = .ok (.iload_n 3, 1) := dk_29 (dk_at dksX0_openOf_0 23 rfl rfl)
theorem dX0_openOf_24 : decode cX0_openOf 24 = .ok (.iaload, 1) := dk_46 (dk_at dksX0_openOf_1 0 rfl rfl)
theorem dX0_openOf_25 : decode cX0_openOf 25 = .ok (.iload_n 1, 1) := dk_27 (dk_at dksX0_openOf_1 1 rfl rfl)
theorem dX0_openOf_26 : decode cX0_openOf 26 = .ok (.if_icmp .ne 23, 3) := dk_160 0 23 (dk_at dksX0_openOf_1 2 rfl rfl)
theorem dX0_openOf_29 : decode cX0_openOf 29 = .ok (.aload_n 0, 1) := dk_42 (dk_at dksX0_openOf_1 5 rfl rfl)
theorem dX0_openOf_30 : decode cX0_openOf 30 = .ok (.getfield 39, 3) := dk_180 0 39 (dk_at dksX0_openOf_1 6 rfl rfl)
theorem dX0_openOf_33 : decode cX0_openOf 33 = .ok (.getfield 202, 3) := dk_180 0 202 (dk_at dksX0_openOf_1 9 rfl rfl)
theorem dX0_openOf_36 : decode cX0_openOf 36 = .ok (.iload_n 3, 1) := dk_29 (dk_at dksX0_openOf_1 12 rfl rfl)
theorem dX0_openOf_37 : decode cX0_openOf 37 = .ok (.invokestatic 205, 3) := dk_184 0 205 (dk_at dksX0_openOf_1 13 rfl rfl)
theorem dX0_openOf_40 : decode cX0_openOf 40 = .ok (.ifCond .ne 9, 3) := dk_154 0 9 (dk_at dksX0_openOf_1 16 rfl rfl)
theorem dX0_openOf_43 : decode cX0_openOf 43 = .ok (.iconst 1, 1) := dk_4 (dk_at dksX0_openOf_1 19 rfl rfl)
theorem dX0_openOf_44 : decode cX0_openOf 44 = .ok (.iload_n 3, 1) := dk_29 (dk_at dksX0_openOf_1 20 rfl rfl)
theorem dX0_openOf_45 : decode cX0_openOf 45 = .ok (.ishl, 1) := dk_120 (dk_at dksX0_openOf_1 21 rfl rfl)
theorem dX0_openOf_46 : decode cX0_openOf 46 = .ok (.goto 4, 3) := dk_167 0 4 (dk_at dksX0_openOf_2 0 rfl rfl)
theorem dX0_openOf_49 : decode cX0_openOf 49 = .ok (.iconst 0, 1) := dk_3 (dk_at dksX0_openOf_2 3 rfl rfl)
theorem dX0_openOf_50 : decode cX0_openOf 50 = .ok (.ior, 1) := dk_128 (dk_at dksX0_openOf_2 4 rfl rfl)
theorem dX0_openOf_51 : decode cX0_openOf 51 = .ok (.istore_n 2, 1) := dk_61 (dk_at dksX0_openOf_2 5 rfl rfl)
theorem dX0_openOf_52 : decode cX0_openOf 52 = .ok (.iinc 3 1, 3) := dk_132 3 1 (dk_at dksX0_openOf_2 6 rfl rfl)
theorem dX0_openOf_55 : decode cX0_openOf 55 = .ok (.goto (-51), 3) := dk_167 255 205 (dk_at dksX0_openOf_2 9 rfl rfl)
theorem dX0_openOf_58 : decode cX0_openOf 58 = .ok (.iload_n 2, 1) := dk_28 (dk_at dksX0_openOf_2 12 rfl rfl)
theorem dX0_openOf_59 : decode cX0_openOf 59 = .ok (.ireturn, 1) := dk_172 (dk_at dksX0_openOf_2 13 rfl rfl)
abbrev cX0_keepFrom : ByteArray := prog_1_method_34_code
def yX0_keepFrom : MethodName := ⟨RX0, "keepFrom", "(IIIII)V"⟩
def dkwX0_keepFrom_6 : List UInt8 := [96, 182, 1, 20, 132, 6, 1, 167, 255, 151, 177]
abbrev dktX0_keepFrom_6 : List UInt8 := dkwX0_keepFrom_6 ++ []
def dkwX0_keepFrom_5 : List UInt8 := [21, 7, 21, 5, 21, 7, 42, 180, 0, 39, 180, 0, 217, 21, 6, 46, 163, 0, 7, 4, 167, 0, 4, 3]
abbrev dktX0_keepFrom_5 : List UInt8 := dkwX0_keepFrom_5 ++ dktX0_keepFrom_6
def dkwX0_keepFrom_4 : List UInt8 := [79, 42, 27, 4, 96, 28, 4, 21, 6, 120, 2, 130, 126, 42, 180, 0, 39, 180, 0, 211, 21, 6, 46]
abbrev dktX0_keepFrom_4 : List UInt8 := dkwX0_keepFrom_4 ++ dktX0_keepFrom_5
def dkwX0_keepFrom_3 : List UInt8 := [180, 0, 39, 180, 0, 211, 21, 6, 46, 29, 100, 184, 1, 17, 96, 54, 7, 42, 180, 0, 60, 27, 21, 6]
abbrev dktX0_keepFrom_3 : List UInt8 := dkwX0_keepFrom_3 ++ dktX0_keepFrom_4
def dkwX0_keepFrom_2 : List UInt8 := [180, 0, 39, 180, 0, 171, 162, 0, 99, 28, 21, 6, 184, 0, 205, 154, 0, 6, 167, 0, 81, 21, 4, 42]
abbrev dktX0_keepFrom_2 : List UInt8 := dkwX0_keepFrom_2 ++ dktX0_keepFrom_3
def dkwX0_keepFrom_1 : List UInt8 := [181, 1, 14, 42, 180, 0, 60, 3, 42, 180, 0, 64, 3, 27, 184, 0, 122, 177, 3, 54, 6, 21, 6, 42]
abbrev dktX0_keepFrom_1 : List UInt8 := dkwX0_keepFrom_1 ++ dktX0_keepFrom_2
def dkwX0_keepFrom_0 : List UInt8 := [21, 5, 28, 184, 1, 9, 96, 42, 180, 1, 14, 163, 0, 4, 177, 28, 154, 0, 24, 42, 21, 5]
abbrev dktX0_keepFrom_0 : List UInt8 := dkwX0_keepFrom_0 ++ dktX0_keepFrom_1
theorem dksX0_keepFrom_0 : cX0_keepFrom.data.toList.drop 0 = dktX0_keepFrom_0 := by decide +kernel
theorem dksX0_keepFrom_1 : cX0_keepFrom.data.toList.drop 22 = dktX0_keepFrom_1 := dk_seg dksX0_keepFrom_0 22 rfl rfl
theorem dksX0_keepFrom_2 : cX0_keepFrom.data.toList.drop 46 = dktX0_keepFrom_2 := dk_seg dksX0_keepFrom_1 24 rfl rfl
theorem dksX0_keepFrom_3 : cX0_keepFrom.data.toList.drop 70 = dktX0_keepFrom_3 := dk_seg dksX0_keepFrom_2 24 rfl rfl
theorem dksX0_keepFrom_4 : cX0_keepFrom.data.toList.drop 94 = dktX0_keepFrom_4 := dk_seg dksX0_keepFrom_3 24 rfl rfl
theorem dksX0_keepFrom_5 : cX0_keepFrom.data.toList.drop 117 = dktX0_keepFrom_5 := dk_seg dksX0_keepFrom_4 23 rfl rfl
theorem dksX0_keepFrom_6 : cX0_keepFrom.data.toList.drop 141 = dktX0_keepFrom_6 := dk_seg dksX0_keepFrom_5 24 rfl rfl
theorem dX0_keepFrom_0 : decode cX0_keepFrom 0 = .ok (.iload 5, 2) := dk_21 5 (dk_at dksX0_keepFrom_0 0 rfl rfl)
theorem dX0_keepFrom_2 : decode cX0_keepFrom 2 = .ok (.iload_n 2, 1) := dk_28 (dk_at dksX0_keepFrom_0 2 rfl rfl)
theorem dX0_keepFrom_3 : decode cX0_keepFrom 3 = .ok (.invokestatic 265, 3) := dk_184 1 9 (dk_at dksX0_keepFrom_0 3 rfl rfl)
theorem dX0_keepFrom_6 : decode cX0_keepFrom 6 = .ok (.iadd, 1) := dk_96 (dk_at dksX0_keepFrom_0 6 rfl rfl)
theorem dX0_keepFrom_7 : decode cX0_keepFrom 7 = .ok (.aload_n 0, 1) := dk_42 (dk_at dksX0_keepFrom_0 7 rfl rfl)
theorem dX0_keepFrom_8 : decode cX0_keepFrom 8 = .ok (.getfield 270, 3) := dk_180 1 14 (dk_at dksX0_keepFrom_0 8 rfl rfl)
theorem dX0_keepFrom_11 : decode cX0_keepFrom 11 = .ok (.if_icmp .gt 4, 3) := dk_163 0 4 (dk_at dksX0_keepFrom_0 11 rfl rfl)
theorem dX0_keepFrom_14 : decode cX0_keepFrom 14 = .ok (.return_, 1) := dk_177 (dk_at dksX0_keepFrom_0 14 rfl rfl)
theorem dX0_keepFrom_15 : decode cX0_keepFrom 15 = .ok (.iload_n 2, 1) := dk_28 (dk_at dksX0_keepFrom_0 15 rfl rfl)
theorem dX0_keepFrom_16 : decode cX0_keepFrom 16 = .ok (.ifCond .ne 24, 3) := dk_154 0 24 (dk_at dksX0_keepFrom_0 16 rfl rfl)
theorem dX0_keepFrom_19 : decode cX0_keepFrom 19 = .ok (.aload_n 0, 1) := dk_42 (dk_at dksX0_keepFrom_0 19 rfl rfl)
theorem dX0_keepFrom_20 : decode cX0_keepFrom 20 = .ok (.iload 5, 2) := dk_21 5 (dk_at dksX0_keepFrom_0 20 rfl rfl)
theorem dX0_keepFrom_22 : decode cX0_keepFrom 22 = .ok (.putfield 270, 3) := dk_181 1 14 (dk_at dksX0_keepFrom_1 0 rfl rfl)
theorem dX0_keepFrom_25 : decode cX0_keepFrom 25 = .ok (.aload_n 0, 1) := dk_42 (dk_at dksX0_keepFrom_1 3 rfl rfl)
theorem dX0_keepFrom_26 : decode cX0_keepFrom 26 = .ok (.getfield 60, 3) := dk_180 0 60 (dk_at dksX0_keepFrom_1 4 rfl rfl)
theorem dX0_keepFrom_29 : decode cX0_keepFrom 29 = .ok (.iconst 0, 1) := dk_3 (dk_at dksX0_keepFrom_1 7 rfl rfl)
theorem dX0_keepFrom_30 : decode cX0_keepFrom 30 = .ok (.aload_n 0, 1) := dk_42 (dk_at dksX0_keepFrom_1 8 rfl rfl)
theorem dX0_keepFrom_31 : decode cX0_keepFrom 31 = .ok (.getfield 64, 3) := dk_180 0 64 (dk_at dksX0_keepFrom_1 9 rfl rfl)
theorem dX0_keepFrom_34 : decode cX0_keepFrom 34 = .ok (.iconst 0, 1) := dk_3 (dk_at dksX0_keepFrom_1 12 rfl rfl)
theorem dX0_keepFrom_35 : decode cX0_keepFrom 35 = .ok (.iload_n 1, 1) := dk_27 (dk_at dksX0_keepFrom_1 13 rfl rfl)
theorem dX0_keepFrom_36 : decode cX0_keepFrom 36 = .ok (.invokestatic 122, 3) := dk_184 0 122 (dk_at dksX0_keepFrom_1 14 rfl rfl)
theorem dX0_keepFrom_39 : decode cX0_keepFrom 39 = .ok (.return_, 1) := dk_177 (dk_at dksX0_keepFrom_1 17 rfl rfl)
theorem dX0_keepFrom_40 : decode cX0_keepFrom 40 = .ok (.iconst 0, 1) := dk_3 (dk_at dksX0_keepFrom_1 18 rfl rfl)
theorem dX0_keepFrom_41 : decode cX0_keepFrom 41 = .ok (.istore 6, 2) := dk_54 6 (dk_at dksX0_keepFrom_1 19 rfl rfl)
theorem dX0_keepFrom_43 : decode cX0_keepFrom 43 = .ok (.iload 6, 2) := dk_21 6 (dk_at dksX0_keepFrom_1 21 rfl rfl)
theorem dX0_keepFrom_45 : decode cX0_keepFrom 45 = .ok (.aload_n 0, 1) := dk_42 (dk_at dksX0_keepFrom_1 23 rfl rfl)
theorem dX0_keepFrom_46 : decode cX0_keepFrom 46 = .ok (.getfield 39, 3) := dk_180 0 39 (dk_at dksX0_keepFrom_2 0 rfl rfl)
theorem dX0_keepFrom_49 : decode cX0_keepFrom 49 = .ok (.getfield 171, 3) := dk_180 0 171 (dk_at dksX0_keepFrom_2 3 rfl rfl)
theorem dX0_keepFrom_52 : decode cX0_keepFrom 52 = .ok (.if_icmp .ge 99, 3) := dk_162 0 99 (dk_at dksX0_keepFrom_2 6 rfl rfl)
theorem dX0_keepFrom_55 : decode cX0_keepFrom 55 = .ok (.iload_n 2, 1) := dk_28 (dk_at dksX0_keepFrom_2 9 rfl rfl)
theorem dX0_keepFrom_56 : decode cX0_keepFrom 56 = .ok (.iload 6, 2) := dk_21 6 (dk_at dksX0_keepFrom_2 10 rfl rfl)
theorem dX0_keepFrom_58 : decode cX0_keepFrom 58 = .ok (.invokestatic 205, 3) := dk_184 0 205 (dk_at dksX0_keepFrom_2 12 rfl rfl)
theorem dX0_keepFrom_61 : decode cX0_keepFrom 61 = .ok (.ifCond .ne 6, 3) := dk_154 0 6 (dk_at dksX0_keepFrom_2 15 rfl rfl)
theorem dX0_keepFrom_64 : decode cX0_keepFrom 64 = .ok (.goto 81, 3) := dk_167 0 81 (dk_at dksX0_keepFrom_2 18 rfl rfl)
theorem dX0_keepFrom_67 : decode cX0_keepFrom 67 = .ok (.iload 4, 2) := dk_21 4 (dk_at dksX0_keepFrom_2 21 rfl rfl)
theorem dX0_keepFrom_69 : decode cX0_keepFrom 69 = .ok (.aload_n 0, 1) := dk_42 (dk_at dksX0_keepFrom_2 23 rfl rfl)
theorem dX0_keepFrom_70 : decode cX0_keepFrom 70 = .ok (.getfield 39, 3) := dk_180 0 39 (dk_at dksX0_keepFrom_3 0 rfl rfl)
theorem dX0_keepFrom_73 : decode cX0_keepFrom 73 = .ok (.getfield 211, 3) := dk_180 0 211 (dk_at dksX0_keepFrom_3 3 rfl rfl)
theorem dX0_keepFrom_76 : decode cX0_keepFrom 76 = .ok (.iload 6, 2) := dk_21 6 (dk_at dksX0_keepFrom_3 6 rfl rfl)
theorem dX0_keepFrom_78 : decode cX0_keepFrom 78 = .ok (.iaload, 1) := dk_46 (dk_at dksX0_keepFrom_3 8 rfl rfl)
theorem dX0_keepFrom_79 : decode cX0_keepFrom 79 = .ok (.iload_n 3, 1) := dk_29 (dk_at dksX0_keepFrom_3 9 rfl rfl)
theorem dX0_keepFrom_80 : decode cX0_keepFrom 80 = .ok (.isub, 1) := dk_100 (dk_at dksX0_keepFrom_3 10 rfl rfl)
theorem dX0_keepFrom_81 : decode cX0_keepFrom 81 = .ok (.invokestatic 273, 3) := dk_184 1 17 (dk_at dksX0_keepFrom_3 11 rfl rfl)
theorem dX0_keepFrom_84 : decode cX0_keepFrom 84 = .ok (.iadd, 1) := dk_96 (dk_at dksX0_keepFrom_3 14 rfl rfl)
theorem dX0_keepFrom_85 : decode cX0_keepFrom 85 = .ok (.istore 7, 2) := dk_54 7 (dk_at dksX0_keepFrom_3 15 rfl rfl)
theorem dX0_keepFrom_87 : decode cX0_keepFrom 87 = .ok (.aload_n 0, 1) := dk_42 (dk_at dksX0_keepFrom_3 17 rfl rfl)
theorem dX0_keepFrom_88 : decode cX0_keepFrom 88 = .ok (.getfield 60, 3) := dk_180 0 60 (dk_at dksX0_keepFrom_3 18 rfl rfl)
theorem dX0_keepFrom_91 : decode cX0_keepFrom 91 = .ok (.iload_n 1, 1) := dk_27 (dk_at dksX0_keepFrom_3 21 rfl rfl)
theorem dX0_keepFrom_92 : decode cX0_keepFrom 92 = .ok (.iload 6, 2) := dk_21 6 (dk_at dksX0_keepFrom_3 22 rfl rfl)
theorem dX0_keepFrom_94 : decode cX0_keepFrom 94 = .ok (.iastore, 1) := dk_79 (dk_at dksX0_keepFrom_4 0 rfl rfl)
theorem dX0_keepFrom_95 : decode cX0_keepFrom 95 = .ok (.aload_n 0, 1) := dk_42 (dk_at dksX0_keepFrom_4 1 rfl rfl)
theorem dX0_keepFrom_96 : decode cX0_keepFrom 96 = .ok (.iload_n 1, 1) := dk_27 (dk_at dksX0_keepFrom_4 2 rfl rfl)
theorem dX0_keepFrom_97 : decode cX0_keepFrom 97 = .ok (.iconst 1, 1) := dk_4 (dk_at dksX0_keepFrom_4 3 rfl rfl)
theorem dX0_keepFrom_98 : decode cX0_keepFrom 98 = .ok (.iadd, 1) := dk_96 (dk_at dksX0_keepFrom_4 4 rfl rfl)
theorem dX0_keepFrom_99 : decode cX0_keepFrom 99 = .ok (.iload_n 2, 1) := dk_28 (dk_at dksX0_keepFrom_4 5 rfl rfl)
theorem dX0_keepFrom_100 : decode cX0_keepFrom 100 = .ok (.iconst 1, 1) := dk_4 (dk_at dksX0_keepFrom_4 6 rfl rfl)
theorem dX0_keepFrom_101 : decode cX0_keepFrom 101 = .ok (.iload 6, 2) := dk_21 6 (dk_at dksX0_keepFrom_4 7 rfl rfl)
theorem dX0_keepFrom_103 : decode cX0_keepFrom 103 = .ok (.ishl, 1) := dk_120 (dk_at dksX0_keepFrom_4 9 rfl rfl)
theorem dX0_keepFrom_104 : decode cX0_keepFrom 104 = .ok (.iconst (-1), 1) := dk_2 (dk_at dksX0_keepFrom_4 10 rfl rfl)
theorem dX0_keepFrom_105 : decode cX0_keepFrom 105 = .ok (.ixor, 1) := dk_130 (dk_at dksX0_keepFrom_4 11 rfl rfl)
theorem dX0_keepFrom_106 : decode cX0_keepFrom 106 = .ok (.iand, 1) := dk_126 (dk_at dksX0_keepFrom_4 12 rfl rfl)
theorem dX0_keepFrom_107 : decode cX0_keepFrom 107 = .ok (.aload_n 0, 1) := dk_42 (dk_at dksX0_keepFrom_4 13 rfl rfl)
theorem dX0_keepFrom_108 : decode cX0_keepFrom 108 = .ok (.getfield 39, 3) := dk_180 0 39 (dk_at dksX0_keepFrom_4 14 rfl rfl)
theorem dX0_keepFrom_111 : decode cX0_keepFrom 111 = .ok (.getfield 211, 3) := dk_180 0 211 (dk_at dksX0_keepFrom_4 17 rfl rfl)
theorem dX0_keepFrom_114 : decode cX0_keepFrom 114 = .ok (.iload 6, 2) := dk_21 6 (dk_at dksX0_keepFrom_4 20 rfl rfl)
theorem dX0_keepFrom_116 : decode cX0_keepFrom 116 = .ok (.iaload, 1) := dk_46 (dk_at dksX0_keepFrom_4 22 rfl rfl)
theorem dX0_keepFrom_117 : decode cX0_keepFrom 117 = .ok (.iload 7, 2) := dk_21 7 (dk_at dksX0_keepFrom_5 0 rfl rfl)
theorem dX0_keepFrom_119 : decode cX0_keepFrom 119 = .ok (.iload 5, 2) := dk_21 5 (dk_at dksX0_keepFrom_5 2 rfl rfl)
theorem dX0_keepFrom_121 : decode cX0_keepFrom 121 = .ok (.iload 7, 2) := dk_21 7 (dk_at dksX0_keepFrom_5 4 rfl rfl)
theorem dX0_keepFrom_123 : decode cX0_keepFrom 123 = .ok (.aload_n 0, 1) := dk_42 (dk_at dksX0_keepFrom_5 6 rfl rfl)
theorem dX0_keepFrom_124 : decode cX0_keepFrom 124 = .ok (.getfield 39, 3) := dk_180 0 39 (dk_at dksX0_keepFrom_5 7 rfl rfl)
theorem dX0_keepFrom_127 : decode cX0_keepFrom 127 = .ok (.getfield 217, 3) := dk_180 0 217 (dk_at dksX0_keepFrom_5 10 rfl rfl)
theorem dX0_keepFrom_130 : decode cX0_keepFrom 130 = .ok (.iload 6, 2) := dk_21 6 (dk_at dksX0_keepFrom_5 13 rfl rfl)
theorem dX0_keepFrom_132 : decode cX0_keepFrom 132 = .ok (.iaload, 1) := dk_46 (dk_at dksX0_keepFrom_5 15 rfl rfl)
theorem dX0_keepFrom_133 : decode cX0_keepFrom 133 = .ok (.if_icmp .gt 7, 3) := dk_163 0 7 (dk_at dksX0_keepFrom_5 16 rfl rfl)
theorem dX0_keepFrom_136 : decode cX0_keepFrom 136 = .ok (.iconst 1, 1) := dk_4 (dk_at dksX0_keepFrom_5 19 rfl rfl)
theorem dX0_keepFrom_137 : decode cX0_keepFrom 137 = .ok (.goto 4, 3) := dk_167 0 4 (dk_at dksX0_keepFrom_5 20 rfl rfl)
theorem dX0_keepFrom_140 : decode cX0_keepFrom 140 = .ok (.iconst 0, 1) := dk_3 (dk_at dksX0_keepFrom_5 23 rfl rfl)
theorem dX0_keepFrom_141 : decode cX0_keepFrom 141 = .ok (.iadd, 1) := dk_96 (dk_at dksX0_keepFrom_6 0 rfl rfl)
theorem dX0_keepFrom_142 : decode cX0_keepFrom 142 = .ok (.invokevirtual 276, 3) := dk_182 1 20 (dk_at dksX0_keepFrom_6 1 rfl rfl)
theorem dX0_keepFrom_145 : decode cX0_keepFrom 145 = .ok (.iinc 6 1, 3) := dk_132 6 1 (dk_at dksX0_keepFrom_6 4 rfl rfl)
theorem dX0_keepFrom_148 : decode cX0_keepFrom 148 = .ok (.goto (-105), 3) := dk_167 255 151 (dk_at dksX0_keepFrom_6 7 rfl rfl)
theorem dX0_keepFrom_151 : decode cX0_keepFrom 151 = .ok (.return_, 1) := dk_177 (dk_at dksX0_keepFrom_6 10 rfl rfl)
abbrev cX0_frees : ByteArray := prog_1_method_37_code
def yX0_frees : MethodName := ⟨RX0, "frees", "(I)I"⟩
def dkwX0_frees_8 : List UInt8 := [29, 172]
abbrev dktX0_frees_8 : List UInt8 := dkwX0_frees_8 ++ []
def dkwX0_frees_7 : List UInt8 := [184, 1, 32, 62, 132, 5, 1, 167, 255, 139, 132, 4, 1, 167, 255, 118, 27, 154, 0, 7, 28, 167, 0, 4]
abbrev dktX0_frees_7 : List UInt8 := dkwX0_frees_7 ++ dktX0_frees_8
def dkwX0_frees_6 : List UInt8 := [21, 6, 29, 162, 0, 14, 16, 8, 21, 4, 104, 21, 5, 96, 167, 0, 4, 28, 61, 29, 21, 6]
abbrev dktX0_frees_6 : List UInt8 := dkwX0_frees_6 ++ dktX0_frees_7
def dkwX0_frees_5 : List UInt8 := [180, 0, 39, 182, 0, 159, 180, 0, 208, 21, 4, 21, 5, 79, 42, 180, 0, 43, 182, 1, 29, 54, 6]
abbrev dktX0_frees_5 : List UInt8 := dkwX0_frees_5 ++ dktX0_frees_6
def dkwX0_frees_4 : List UInt8 := [180, 0, 39, 180, 0, 220, 21, 4, 46, 21, 5, 160, 0, 6, 167, 0, 57, 42, 180, 0, 43, 42]
abbrev dktX0_frees_4 : List UInt8 := dkwX0_frees_4 ++ dktX0_frees_5
def dkwX0_frees_3 : List UInt8 := [184, 0, 205, 154, 0, 90, 42, 180, 0, 39, 180, 0, 208, 21, 4, 46, 21, 5, 159, 0, 75, 42]
abbrev dktX0_frees_3 : List UInt8 := dkwX0_frees_3 ++ dktX0_frees_4
def dkwX0_frees_2 : List UInt8 := [54, 5, 21, 5, 42, 180, 0, 39, 182, 0, 166, 162, 0, 111, 42, 180, 0, 39, 180, 0, 202, 21, 4]
abbrev dktX0_frees_2 : List UInt8 := dkwX0_frees_2 ++ dktX0_frees_3
def dkwX0_frees_1 : List UInt8 := [42, 180, 0, 39, 182, 1, 29, 62, 3, 54, 4, 21, 4, 42, 180, 0, 39, 180, 0, 171, 162, 0, 132, 3]
abbrev dktX0_frees_1 : List UInt8 := dkwX0_frees_1 ++ dktX0_frees_2
def dkwX0_frees_0 : List UInt8 := [42, 182, 0, 226, 154, 0, 6, 18, 170, 172, 27, 184, 1, 3, 154, 0, 6, 18, 97, 172, 19, 1, 28, 61]
abbrev dktX0_frees_0 : List UInt8 := dkwX0_frees_0 ++ dktX0_frees_1
theorem dksX0_frees_0 : cX0_frees.data.toList.drop 0 = dktX0_frees_0 := by decide +kernel
theorem dksX0_frees_1 : cX0_frees.data.toList.drop 24 = dktX0_frees_1 := dk_seg dksX0_frees_0 24 rfl rfl
theorem dksX0_frees_2 : cX0_frees.data.toList.drop 48 = dktX0_frees_2 := dk_seg dksX0_frees_1 24 rfl rfl
theorem dksX0_frees_3 : cX0_frees.data.toList.drop 71 = dktX0_frees_3 := dk_seg dksX0_frees_2 23 rfl rfl
theorem dksX0_frees_4 : cX0_frees.data.toList.drop 93 = dktX0_frees_4 := dk_seg dksX0_frees_3 22 rfl rfl
theorem dksX0_frees_5 : cX0_frees.data.toList.drop 115 = dktX0_frees_5 := dk_seg dksX0_frees_4 22 rfl rfl
theorem dksX0_frees_6 : cX0_frees.data.toList.drop 138 = dktX0_frees_6 := dk_seg dksX0_frees_5 23 rfl rfl
theorem dksX0_frees_7 : cX0_frees.data.toList.drop 160 = dktX0_frees_7 := dk_seg dksX0_frees_6 22 rfl rfl
theorem dksX0_frees_8 : cX0_frees.data.toList.drop 184 = dktX0_frees_8 := dk_seg dksX0_frees_7 24 rfl rfl
theorem dX0_frees_0 : decode cX0_frees 0 = .ok (.aload_n 0, 1) := dk_42 (dk_at dksX0_frees_0 0 rfl rfl)
theorem dX0_frees_1 : decode cX0_frees 1 = .ok (.invokevirtual 226, 3) := dk_182 0 226 (dk_at dksX0_frees_0 1 rfl rfl)
theorem dX0_frees_4 : decode cX0_frees 4 = .ok (.ifCond .ne 6, 3) := dk_154 0 6 (dk_at dksX0_frees_0 4 rfl rfl)
theorem dX0_frees_7 : decode cX0_frees 7 = .ok (.ldc 170, 2) := dk_18 170 (dk_at dksX0_frees_0 7 rfl rfl)
theorem dX0_frees_9 : decode cX0_frees 9 = .ok (.ireturn, 1) := dk_172 (dk_at dksX0_frees_0 9 rfl rfl)
theorem dX0_frees_10 : decode cX0_frees 10 = .ok (.iload_n 1, 1) := dk_27 (dk_at dksX0_frees_0 10 rfl rfl)
theorem dX0_frees_11 : decode cX0_frees 11 = .ok (.invokestatic 259, 3) := dk_184 1 3 (dk_at dksX0_frees_0 11 rfl rfl)
theorem dX0_frees_14 : decode cX0_frees 14 = .ok (.ifCond .ne 6, 3) := dk_154 0 6 (dk_at dksX0_frees_0 14 rfl rfl)
theorem dX0_frees_17 : decode cX0_frees 17 = .ok (.ldc 97, 2) := dk_18 97 (dk_at dksX0_frees_0 17 rfl rfl)
theorem dX0_frees_19 : decode cX0_frees 19 = .ok (.ireturn, 1) := dk_172 (dk_at dksX0_frees_0 19 rfl rfl)
theorem dX0_frees_20 : decode cX0_frees 20 = .ok (.ldc_w 284, 3) := dk_19 1 28 (dk_at dksX0_frees_0 20 rfl rfl)
theorem dX0_frees_23 : decode cX0_frees 23 = .ok (.istore_n 2, 1) := dk_61 (dk_at dksX0_frees_0 23 rfl rfl)
theorem dX0_frees_24 : decode cX0_frees 24 = .ok (.aload_n 0, 1) := dk_42 (dk_at dksX0_frees_1 0 rfl rfl)
theorem dX0_frees_25 : decode cX0_frees 25 = .ok (.getfield 39, 3) := dk_180 0 39 (dk_at dksX0_frees_1 1 rfl rfl)
theorem dX0_frees_28 : decode cX0_frees 28 = .ok (.invokevirtual 285, 3) := dk_182 1 29 (dk_at dksX0_frees_1 4 rfl rfl)
theorem dX0_frees_31 : decode cX0_frees 31 = .ok (.istore_n 3, 1) := dk_62 (dk_at dksX0_frees_1 7 rfl rfl)
theorem dX0_frees_32 : decode cX0_frees 32 = .ok (.iconst 0, 1) := dk_3 (dk_at dksX0_frees_1 8 rfl rfl)
theorem dX0_frees_33 : decode cX0_frees 33 = .ok (.istore 4, 2) := dk_54 4 (dk_at dksX0_frees_1 9 rfl rfl)
theorem dX0_frees_35 : decode cX0_frees 35 = .ok (.iload 4, 2) := dk_21 4 (dk_at dksX0_frees_1 11 rfl rfl)
theorem dX0_frees_37 : decode cX0_frees 37 = .ok (.aload_n 0, 1) := dk_42 (dk_at dksX0_frees_1 13 rfl rfl)
theorem dX0_frees_38 : decode cX0_frees 38 = .ok (.getfield 39, 3) := dk_180 0 39 (dk_at dksX0_frees_1 14 rfl rfl)
theorem dX0_frees_41 : decode cX0_frees 41 = .ok (.getfield 171, 3) := dk_180 0 171 (dk_at dksX0_frees_1 17 rfl rfl)
theorem dX0_frees_44 : decode cX0_frees 44 = .ok (.if_icmp .ge 132, 3) := dk_162 0 132 (dk_at dksX0_frees_1 20 rfl rfl)
theorem dX0_frees_47 : decode cX0_frees 47 = .ok (.iconst 0, 1) := dk_3 (dk_at dksX0_frees_1 23 rfl rfl)
theorem dX0_frees_48 : decode cX0_frees 48 = .ok (.istore 5, 2) := dk_54 5 (dk_at dksX0_frees_2 0 rfl rfl)
theorem dX0_frees_50 : decode cX0_frees 50 = .ok (.iload 5, 2) := dk_21 5 (dk_at dksX0_frees_2 2 rfl rfl)
theorem dX0_frees_52 : decode cX0_frees 52 = .ok (.aload_n 0, 1) := dk_42 (dk_at dksX0_frees_2 4 rfl rfl)
theorem dX0_frees_53 : decode cX0_frees 53 = .ok (.getfield 39, 3) := dk_180 0 39 (dk_at dksX0_frees_2 5 rfl rfl)
theorem dX0_frees_56 : decode cX0_frees 56 = .ok (.invokevirtual 166, 3) := dk_182 0 166 (dk_at dksX0_frees_2 8 rfl rfl)
theorem dX0_frees_59 : decode cX0_frees 59 = .ok (.if_icmp .ge 111, 3) := dk_162 0 111 (dk_at dksX0_frees_2 11 rfl rfl)
theorem dX0_frees_62 : decode cX0_frees 62 = .ok (.aload_n 0, 1) := dk_42 (dk_at dksX0_frees_2 14 rfl rfl)
theorem dX0_frees_63 : decode cX0_frees 63 = .ok (.getfield 39, 3) := dk_180 0 39 (dk_at dksX0_frees_2 15 rfl rfl)
theorem dX0_frees_66 : decode cX0_frees 66 = .ok (.getfield 202, 3) := dk_180 0 202 (dk_at dksX0_frees_2 18 rfl rfl)
theorem dX0_frees_69 : decode cX0_frees 69 = .ok (.iload 4, 2) := dk_21 4 (dk_at dksX0_frees_2 21 rfl rfl)
theorem dX0_frees_71 : decode cX0_frees 71 = .ok (.invokestatic 205, 3) := dk_184 0 205 (dk_at dksX0_frees_3 0 rfl rfl)
theorem dX0_frees_74 : decode cX0_frees 74 = .ok (.ifCond .ne 90, 3) := dk_154 0 90 (dk_at dksX0_frees_3 3 rfl rfl)
theorem dX0_frees_77 : decode cX0_frees 77 = .ok (.aload_n 0, 1) := dk_42 (dk_at dksX0_frees_3 6 rfl rfl)
theorem dX0_frees_78 : decode cX0_frees 78 = .ok (.getfield 39, 3) := dk_180 0 39 (dk_at dksX0_frees_3 7 rfl rfl)
theorem dX0_frees_81 : decode cX0_frees 81 = .ok (.getfield 208, 3) := dk_180 0 208 (dk_at dksX0_frees_3 10 rfl rfl)
theorem dX0_frees_84 : decode cX0_frees 84 = .ok (.iload 4, 2) := dk_21 4 (dk_at dksX0_frees_3 13 rfl rfl)
theorem dX0_frees_86 : decode cX0_frees 86 = .ok (.iaload, 1) := dk_46 (dk_at dksX0_frees_3 15 rfl rfl)
theorem dX0_frees_87 : decode cX0_frees 87 = .ok (.iload 5, 2) := dk_21 5 (dk_at dksX0_frees_3 16 rfl rfl)
theorem dX0_frees_89 : decode cX0_frees 89 = .ok (.if_icmp .eq 75, 3) := dk_159 0 75 (dk_at dksX0_frees_3 18 rfl rfl)
theorem dX0_frees_92 : decode cX0_frees 92 = .ok (.aload_n 0, 1) := dk_42 (dk_at dksX0_frees_3 21 rfl rfl)
theorem dX0_frees_93 : decode cX0_frees 93 = .ok (.getfield 39, 3) := dk_180 0 39 (dk_at dksX0_frees_4 0 rfl rfl)
theorem dX0_frees_96 : decode cX0_frees 96 = .ok (.getfield 220, 3) := dk_180 0 220 (dk_at dksX0_frees_4 3 rfl rfl)
theorem dX0_frees_99 : decode cX0_frees 99 = .ok (.iload 4, 2) := dk_21 4 (dk_at dksX0_frees_4 6 rfl rfl)
theorem dX0_frees_101 : decode cX0_frees 101 = .ok (.iaload, 1) := dk_46 (dk_at dksX0_frees_4 8 rfl rfl)
theorem dX0_frees_102 : decode cX0_frees 102 = .ok (.iload 5, 2) := dk_21 5 (dk_at dksX0_frees_4 9 rfl rfl)
theorem dX0_frees_104 : decode cX0_frees 104 = .ok (.if_icmp .ne 6, 3) := dk_160 0 6 (dk_at dksX0_frees_4 11 rfl rfl)
theorem dX0_frees_107 : decode cX0_frees 107 = .ok (.goto 57, 3) := dk_167 0 57 (dk_at dksX0_frees_4 14 rfl rfl)
theorem dX0_frees_110 : decode cX0_frees 110 = .ok (.aload_n 0, 1) := dk_42 (dk_at dksX0_frees_4 17 rfl rfl)
theorem dX0_frees_111 : decode cX0_frees 111 = .ok (.getfield 43, 3) := dk_180 0 43 (dk_at dksX0_frees_4 18 rfl rfl)
theorem dX0_frees_114 : decode cX0_frees 114 = .ok (.aload_n 0, 1) := dk_42 (dk_at dksX0_frees_4 21 rfl rfl)
theorem dX0_frees_115 : decode cX0_frees 115 = .ok (.getfield 39, 3) := dk_180 0 39 (dk_at dksX0_frees_5 0 rfl rfl)
theorem dX0_frees_118 : decode cX0_frees 118 = .ok (.invokevirtual 159, 3) := dk_182 0 159 (dk_at dksX0_frees_5 3 rfl rfl)
theorem dX0_frees_121 : decode cX0_frees 121 = .ok (.getfield 208, 3) := dk_180 0 208 (dk_at dksX0_frees_5 6 rfl rfl)
theorem dX0_frees_124 : decode cX0_frees 124 = .ok (.iload 4, 2) := dk_21 4 (dk_at dksX0_frees_5 9 rfl rfl)
theorem dX0_frees_126 : decode cX0_frees 126 = .ok (.iload 5, 2) := dk_21 5 (dk_at dksX0_frees_5 11 rfl rfl)
theorem dX0_frees_128 : decode cX0_frees 128 = .ok (.iastore, 1) := dk_79 (dk_at dksX0_frees_5 13 rfl rfl)
theorem dX0_frees_129 : decode cX0_frees 129 = .ok (.aload_n 0, 1) := dk_42 (dk_at dksX0_frees_5 14 rfl rfl)
theorem dX0_frees_130 : decode cX0_frees 130 = .ok (.getfield 43, 3) := dk_180 0 43 (dk_at dksX0_frees_5 15 rfl rfl)
theorem dX0_frees_133 : decode cX0_frees 133 = .ok (.invokevirtual 285, 3) := dk_182 1 29 (dk_at dksX0_frees_5 18 rfl rfl)
theorem dX0_frees_136 : decode cX0_frees 136 = .ok (.istore 6, 2) := dk_54 6 (dk_at dksX0_frees_5 21 rfl rfl)
theorem dX0_frees_138 : decode cX0_frees 138 = .ok (.iload 6, 2) := dk_21 6 (dk_at dksX0_frees_6 0 rfl rfl)
theorem dX0_frees_140 : decode cX0_frees 140 = .ok (.iload_n 3, 1) := dk_29 (dk_at dksX0_frees_6 2 rfl rfl)
theorem dX0_frees_141 : decode cX0_frees 141 = .ok (.if_icmp .ge 14, 3) := dk_162 0 14 (dk_at dksX0_frees_6 3 rfl rfl)
theorem dX0_frees_144 : decode cX0_frees 144 = .ok (.bipush 8, 2) := dk_16 8 (dk_at dksX0_frees_6 6 rfl rfl)
theorem dX0_frees_146 : decode cX0_frees 146 = .ok (.iload 4, 2) := dk_21 4 (dk_at dksX0_frees_6 8 rfl rfl)
theorem dX0_frees_148 : decode cX0_frees 148 = .ok (.imul, 1) := dk_104 (dk_at dksX0_frees_6 10 rfl rfl)
theorem dX0_frees_149 : decode cX0_frees 149 = .ok (.iload 5, 2) := dk_21 5 (dk_at dksX0_frees_6 11 rfl rfl)
theorem dX0_frees_151 : decode cX0_frees 151 = .ok (.iadd, 1) := dk_96 (dk_at dksX0_frees_6 13 rfl rfl)
theorem dX0_frees_152 : decode cX0_frees 152 = .ok (.goto 4, 3) := dk_167 0 4 (dk_at dksX0_frees_6 14 rfl rfl)
theorem dX0_frees_155 : decode cX0_frees 155 = .ok (.iload_n 2, 1) := dk_28 (dk_at dksX0_frees_6 17 rfl rfl)
theorem dX0_frees_156 : decode cX0_frees 156 = .ok (.istore_n 2, 1) := dk_61 (dk_at dksX0_frees_6 18 rfl rfl)
theorem dX0_frees_157 : decode cX0_frees 157 = .ok (.iload_n 3, 1) := dk_29 (dk_at dksX0_frees_6 19 rfl rfl)
theorem dX0_frees_158 : decode cX0_frees 158 = .ok (.iload 6, 2) := dk_21 6 (dk_at dksX0_frees_6 20 rfl rfl)
theorem dX0_frees_160 : decode cX0_frees 160 = .ok (.invokestatic 288, 3) := dk_184 1 32 (dk_at dksX0_frees_7 0 rfl rfl)
theorem dX0_frees_163 : decode cX0_frees 163 = .ok (.istore_n 3, 1) := dk_62 (dk_at dksX0_frees_7 3 rfl rfl)
theorem dX0_frees_164 : decode cX0_frees 164 = .ok (.iinc 5 1, 3) := dk_132 5 1 (dk_at dksX0_frees_7 4 rfl rfl)
theorem dX0_frees_167 : decode cX0_frees 167 = .ok (.goto (-117), 3) := dk_167 255 139 (dk_at dksX0_frees_7 7 rfl rfl)
theorem dX0_frees_170 : decode cX0_frees 170 = .ok (.iinc 4 1, 3) := dk_132 4 1 (dk_at dksX0_frees_7 10 rfl rfl)
theorem dX0_frees_173 : decode cX0_frees 173 = .ok (.goto (-138), 3) := dk_167 255 118 (dk_at dksX0_frees_7 13 rfl rfl)
theorem dX0_frees_176 : decode cX0_frees 176 = .ok (.iload_n 1, 1) := dk_27 (dk_at dksX0_frees_7 16 rfl rfl)
theorem dX0_frees_177 : decode cX0_frees 177 = .ok (.ifCond .ne 7, 3) := dk_154 0 7 (dk_at dksX0_frees_7 17 rfl rfl)
theorem dX0_frees_180 : decode cX0_frees 180 = .ok (.iload_n 2, 1) := dk_28 (dk_at dksX0_frees_7 20 rfl rfl)
theorem dX0_frees_181 : decode cX0_frees 181 = .ok (.goto 4, 3) := dk_167 0 4 (dk_at dksX0_frees_7 21 rfl rfl)
theorem dX0_frees_184 : decode cX0_frees 184 = .ok (.iload_n 3, 1) := dk_29 (dk_at dksX0_frees_8 0 rfl rfl)
theorem dX0_frees_185 : decode cX0_frees 185 = .ok (.ireturn, 1) := dk_172 (dk_at dksX0_frees_8 1 rfl rfl)
abbrev cX0_boat : ByteArray := prog_1_method_40_code
def yX0_boat : MethodName := ⟨RX0, "boat", "(I)I"⟩
def dkwX0_boat_1 : List UInt8 := [42, 4, 42, 180, 0, 39, 182, 0, 166, 120, 4, 100, 27, 182, 1, 41, 167, 0, 5, 18, 97, 172]
abbrev dktX0_boat_1 : List UInt8 := dkwX0_boat_1 ++ []
def dkwX0_boat_0 : List UInt8 := [42, 182, 0, 226, 154, 0, 6, 18, 170, 172, 27, 133, 20, 0, 188, 20, 0, 190, 184, 0, 83, 153, 0, 22]
abbrev dktX0_boat_0 : List UInt8 := dkwX0_boat_0 ++ dktX0_boat_1
theorem dksX0_boat_0 : cX0_boat.data.toList.drop 0 = dktX0_boat_0 := by decide +kernel
theorem dksX0_boat_1 : cX0_boat.data.toList.drop 24 = dktX0_boat_1 := dk_seg dksX0_boat_0 24 rfl rfl
theorem dX0_boat_0 : decode cX0_boat 0 = .ok (.aload_n 0, 1) := dk_42 (dk_at dksX0_boat_0 0 rfl rfl)
theorem dX0_boat_1 : decode cX0_boat 1 = .ok (.invokevirtual 226, 3) := dk_182 0 226 (dk_at dksX0_boat_0 1 rfl rfl)
theorem dX0_boat_4 : decode cX0_boat 4 = .ok (.ifCond .ne 6, 3) := dk_154 0 6 (dk_at dksX0_boat_0 4 rfl rfl)
theorem dX0_boat_7 : decode cX0_boat 7 = .ok (.ldc 170, 2) := dk_18 170 (dk_at dksX0_boat_0 7 rfl rfl)
theorem dX0_boat_9 : decode cX0_boat 9 = .ok (.ireturn, 1) := dk_172 (dk_at dksX0_boat_0 9 rfl rfl)
theorem dX0_boat_10 : decode cX0_boat 10 = .ok (.iload_n 1, 1) := dk_27 (dk_at dksX0_boat_0 10 rfl rfl)
theorem dX0_boat_11 : decode cX0_boat 11 = .ok (.i2l, 1) := dk_133 (dk_at dksX0_boat_0 11 rfl rfl)
theorem dX0_boat_12 : decode cX0_boat 12 = .ok (.ldc2_w 188, 3) := dk_20 0 188 (dk_at dksX0_boat_0 12 rfl rfl)
theorem dX0_boat_15 : decode cX0_boat 15 = .ok (.ldc2_w 190, 3) := dk_20 0 190 (dk_at dksX0_boat_0 15 rfl rfl)
theorem dX0_boat_18 : decode cX0_boat 18 = .ok (.invokestatic 83, 3) := dk_184 0 83 (dk_at dksX0_boat_0 18 rfl rfl)
theorem dX0_boat_21 : decode cX0_boat 21 = .ok (.ifCond .eq 22, 3) := dk_153 0 22 (dk_at dksX0_boat_0 21 rfl rfl)
theorem dX0_boat_24 : decode cX0_boat 24 = .ok (.aload_n 0, 1) := dk_42 (dk_at dksX0_boat_1 0 rfl rfl)
theorem dX0_boat_25 : decode cX0_boat 25 = .ok (.iconst 1, 1) := dk_4 (dk_at dksX0_boat_1 1 rfl rfl)
theorem dX0_boat_26 : decode cX0_boat 26 = .ok (.aload_n 0, 1) := dk_42 (dk_at dksX0_boat_1 2 rfl rfl)
theorem dX0_boat_27 : decode cX0_boat 27 = .ok (.getfield 39, 3) := dk_180 0 39 (dk_at dksX0_boat_1 3 rfl rfl)
theorem dX0_boat_30 : decode cX0_boat 30 = .ok (.invokevirtual 166, 3) := dk_182 0 166 (dk_at dksX0_boat_1 6 rfl rfl)
theorem dX0_boat_33 : decode cX0_boat 33 = .ok (.ishl, 1) := dk_120 (dk_at dksX0_boat_1 9 rfl rfl)
theorem dX0_boat_34 : decode cX0_boat 34 = .ok (.iconst 1, 1) := dk_4 (dk_at dksX0_boat_1 10 rfl rfl)
theorem dX0_boat_35 : decode cX0_boat 35 = .ok (.isub, 1) := dk_100 (dk_at dksX0_boat_1 11 rfl rfl)
theorem dX0_boat_36 : decode cX0_boat 36 = .ok (.iload_n 1, 1) := dk_27 (dk_at dksX0_boat_1 12 rfl rfl)
theorem dX0_boat_37 : decode cX0_boat 37 = .ok (.invokevirtual 297, 3) := dk_182 1 41 (dk_at dksX0_boat_1 13 rfl rfl)
theorem dX0_boat_40 : decode cX0_boat 40 = .ok (.goto 5, 3) := dk_167 0 5 (dk_at dksX0_boat_1 16 rfl rfl)
theorem dX0_boat_43 : decode cX0_boat 43 = .ok (.ldc 97, 2) := dk_18 97 (dk_at dksX0_boat_1 19 rfl rfl)
theorem dX0_boat_45 : decode cX0_boat 45 = .ok (.ireturn, 1) := dk_172 (dk_at dksX0_boat_1 21 rfl rfl)
abbrev cX0_crossings : ByteArray := prog_1_method_39_code
def yX0_crossings : MethodName := ⟨RX0, "crossings", "(II)I"⟩
def dkwX0_crossings_4 : List UInt8 := [54, 4, 167, 255, 173, 29, 172]
abbrev dktX0_crossings_4 : List UInt8 := dkwX0_crossings_4 ++ []
def dkwX0_crossings_3 : List UInt8 := [21, 5, 4, 96, 29, 162, 0, 10, 21, 5, 4, 96, 167, 0, 4, 29, 62, 21, 4, 4, 100, 27, 126]
abbrev dktX0_crossings_3 : List UInt8 := dkwX0_crossings_3 ++ dktX0_crossings_4
def dkwX0_crossings_2 : List UInt8 := [130, 126, 28, 182, 1, 41, 54, 5, 21, 5, 19, 1, 28, 159, 0, 25, 29, 19, 1, 28, 159, 0, 11]
abbrev dktX0_crossings_2 : List UInt8 := dkwX0_crossings_2 ++ dktX0_crossings_3
def dkwX0_crossings_1 : List UInt8 := [184, 0, 205, 153, 0, 61, 42, 21, 4, 182, 1, 38, 28, 164, 0, 6, 167, 0, 48, 42, 27, 21, 4, 2]
abbrev dktX0_crossings_1 : List UInt8 := dkwX0_crossings_1 ++ dktX0_crossings_2
def dkwX0_crossings_0 : List UInt8 := [27, 154, 0, 5, 3, 172, 19, 1, 28, 62, 27, 54, 4, 21, 4, 158, 0, 84, 21, 4, 27, 184, 1, 35]
abbrev dktX0_crossings_0 : List UInt8 := dkwX0_crossings_0 ++ dktX0_crossings_1
theorem dksX0_crossings_0 : cX0_crossings.data.toList.drop 0 = dktX0_crossings_0 := by decide +kernel
theorem dksX0_crossings_1 : cX0_crossings.data.toList.drop 24 = dktX0_crossings_1 := dk_seg dksX0_crossings_0 24 rfl rfl
theorem dksX0_crossings_2 : cX0_crossings.data.toList.drop 48 = dktX0_crossings_2 := dk_seg dksX0_crossings_1 24 rfl rfl
theorem dksX0_crossings_3 : cX0_crossings.data.toList.drop 71 = dktX0_crossings_3 := dk_seg dksX0_crossings_2 23 rfl rfl
theorem dksX0_crossings_4 : cX0_crossings.data.toList.drop 94 = dktX0_crossings_4 := dk_seg dksX0_crossings_3 23 rfl rfl
theorem dX0_crossings_0 : decode cX0_crossings 0 = .ok (.iload_n 1, 1) := dk_27 (dk_at dksX0_crossings_0 0 rfl rfl)
theorem dX0_crossings_1 : decode cX0_crossings 1 = .ok (.ifCond .ne 5, 3) := dk_154 0 5 (dk_at dksX0_crossings_0 1 rfl rfl)
theorem dX0_crossings_4 : decode cX0_crossings 4 = .ok (.iconst 0, 1) := dk_3 (dk_at dksX0_crossings_0 4 rfl rfl)
theorem dX0_crossings_5 : decode cX0_crossings 5 = .ok (.ireturn, 1) := dk_172 (dk_at dksX0_crossings_0 5 rfl rfl)
theorem dX0_crossings_6 : decode cX0_crossings 6 = .ok (.ldc_w 284, 3) := dk_19 1 28 (dk_at dksX0_crossings_0 6 rfl rfl)
theorem dX0_crossings_9 : decode cX0_crossings 9 = .ok (.istore_n 3, 1) := dk_62 (dk_at dksX0_crossings_0 9 rfl rfl)
theorem dX0_crossings_10 : decode cX0_crossings 10 = .ok (.iload_n 1, 1) := dk_27 (dk_at dksX0_crossings_0 10 rfl rfl)
theorem dX0_crossings_11 : decode cX0_crossings 11 = .ok (.istore 4, 2) := dk_54 4 (dk_at dksX0_crossings_0 11 rfl rfl)
theorem dX0_crossings_13 : decode cX0_crossings 13 = .ok (.iload 4, 2) := dk_21 4 (dk_at dksX0_crossings_0 13 rfl rfl)
theorem dX0_crossings_15 : decode cX0_crossings 15 = .ok (.ifCond .le 84, 3) := dk_158 0 84 (dk_at dksX0_crossings_0 15 rfl rfl)
theorem dX0_crossings_18 : decode cX0_crossings 18 = .ok (.iload 4, 2) := dk_21 4 (dk_at dksX0_crossings_0 18 rfl rfl)
theorem dX0_crossings_20 : decode cX0_crossings 20 = .ok (.iload_n 1, 1) := dk_27 (dk_at dksX0_crossings_0 20 rfl rfl)
theorem dX0_crossings_21 : decode cX0_crossings 21 = .ok (.invokestatic 291, 3) := dk_184 1 35 (dk_at dksX0_crossings_0 21 rfl rfl)
theorem dX0_crossings_24 : decode cX0_crossings 24 = .ok (.invokestatic 205, 3) := dk_184 0 205 (dk_at dksX0_crossings_1 0 rfl rfl)
theorem dX0_crossings_27 : decode cX0_crossings 27 = .ok (.ifCond .eq 61, 3) := dk_153 0 61 (dk_at dksX0_crossings_1 3 rfl rfl)
theorem dX0_crossings_30 : decode cX0_crossings 30 = .ok (.aload_n 0, 1) := dk_42 (dk_at dksX0_crossings_1 6 rfl rfl)
theorem dX0_crossings_31 : decode cX0_crossings 31 = .ok (.iload 4, 2) := dk_21 4 (dk_at dksX0_crossings_1 7 rfl rfl)
theorem dX0_crossings_33 : decode cX0_crossings 33 = .ok (.invokevirtual 294, 3) := dk_182 1 38 (dk_at dksX0_crossings_1 9 rfl rfl)
theorem dX0_crossings_36 : decode cX0_crossings 36 = .ok (.iload_n 2, 1) := dk_28 (dk_at dksX0_crossings_1 12 rfl rfl)
theorem dX0_crossings_37 : decode cX0_crossings 37 = .ok (.if_icmp .le 6, 3) := dk_164 0 6 (dk_at dksX0_crossings_1 13 rfl rfl)
theorem dX0_crossings_40 : decode cX0_crossings 40 = .ok (.goto 48, 3) := dk_167 0 48 (dk_at dksX0_crossings_1 16 rfl rfl)
theorem dX0_crossings_43 : decode cX0_crossings 43 = .ok (.aload_n 0, 1) := dk_42 (dk_at dksX0_crossings_1 19 rfl rfl)
theorem dX0_crossings_44 : decode cX0_crossings 44 = .ok (.iload_n 1, 1) := dk_27 (dk_at dksX0_crossings_1 20 rfl rfl)
theorem dX0_crossings_45 : decode cX0_crossings 45 = .ok (.iload 4, 2) := dk_21 4 (dk_at dksX0_crossings_1 21 rfl rfl)
theorem dX0_crossings_47 : decode cX0_crossings 47 = .ok (.iconst (-1), 1) := dk_2 (dk_at dksX0_crossings_1 23 rfl rfl)
theorem dX0_crossings_48 : decode cX0_crossings 48 = .ok (.ixor, 1) := dk_130 (dk_at dksX0_crossings_2 0 rfl rfl)
theorem dX0_crossings_49 : decode cX0_crossings 49 = .ok (.iand, 1) := dk_126 (dk_at dksX0_crossings_2 1 rfl rfl)
theorem dX0_crossings_50 : decode cX0_crossings 50 = .ok (.iload_n 2, 1) := dk_28 (dk_at dksX0_crossings_2 2 rfl rfl)
theorem dX0_crossings_51 : decode cX0_crossings 51 = .ok (.invokevirtual 297, 3) := dk_182 1 41 (dk_at dksX0_crossings_2 3 rfl rfl)
theorem dX0_crossings_54 : decode cX0_crossings 54 = .ok (.istore 5, 2) := dk_54 5 (dk_at dksX0_crossings_2 6 rfl rfl)
theorem dX0_crossings_56 : decode cX0_crossings 56 = .ok (.iload 5, 2) := dk_21 5 (dk_at dksX0_crossings_2 8 rfl rfl)
theorem dX0_crossings_58 : decode cX0_crossings 58 = .ok (.ldc_w 284, 3) := dk_19 1 28 (dk_at dksX0_crossings_2 10 rfl rfl)
theorem dX0_crossings_61 : decode cX0_crossings 61 = .ok (.if_icmp .eq 25, 3) := dk_159 0 25 (dk_at dksX0_crossings_2 13 rfl rfl)
theorem dX0_crossings_64 : decode cX0_crossings 64 = .ok (.iload_n 3, 1) := dk_29 (dk_at dksX0_crossings_2 16 rfl rfl)
theorem dX0_crossings_65 : decode cX0_crossings 65 = .ok (.ldc_w 284, 3) := dk_19 1 28 (dk_at dksX0_crossings_2 17 rfl rfl)
theorem dX0_crossings_68 : decode cX0_crossings 68 = .ok (.if_icmp .eq 11, 3) := dk_159 0 11 (dk_at dksX0_crossings_2 20 rfl rfl)
theorem dX0_crossings_71 : decode cX0_crossings 71 = .ok (.iload 5, 2) := dk_21 5 (dk_at dksX0_crossings_3 0 rfl rfl)
theorem dX0_crossings_73 : decode cX0_crossings 73 = .ok (.iconst 1, 1) := dk_4 (dk_at dksX0_crossings_3 2 rfl rfl)
theorem dX0_crossings_74 : decode cX0_crossings 74 = .ok (.iadd, 1) := dk_96 (dk_at dksX0_crossings_3 3 rfl rfl)
theorem dX0_crossings_75 : decode cX0_crossings 75 = .ok (.iload_n 3, 1) := dk_29 (dk_at dksX0_crossings_3 4 rfl rfl)
theorem dX0_crossings_76 : decode cX0_crossings 76 = .ok (.if_icmp .ge 10, 3) := dk_162 0 10 (dk_at dksX0_crossings_3 5 rfl rfl)
theorem dX0_crossings_79 : decode cX0_crossings 79 = .ok (.iload 5, 2) := dk_21 5 (dk_at dksX0_crossings_3 8 rfl rfl)
theorem dX0_crossings_81 : decode cX0_crossings 81 = .ok (.iconst 1, 1) := dk_4 (dk_at dksX0_crossings_3 10 rfl rfl)
theorem dX0_crossings_82 : decode cX0_crossings 82 = .ok (.iadd, 1) := dk_96 (dk_at dksX0_crossings_3 11 rfl rfl)
theorem dX0_crossings_83 : decode cX0_crossings 83 = .ok (.goto 4, 3) := dk_167 0 4 (dk_at dksX0_crossings_3 12 rfl rfl)
theorem dX0_crossings_86 : decode cX0_crossings 86 = .ok (.iload_n 3, 1) := dk_29 (dk_at dksX0_crossings_3 15 rfl rfl)
theorem dX0_crossings_87 : decode cX0_crossings 87 = .ok (.istore_n 3, 1) := dk_62 (dk_at dksX0_crossings_3 16 rfl rfl)
theorem dX0_crossings_88 : decode cX0_crossings 88 = .ok (.iload 4, 2) := dk_21 4 (dk_at dksX0_crossings_3 17 rfl rfl)
theorem dX0_crossings_90 : decode cX0_crossings 90 = .ok (.iconst 1, 1) := dk_4 (dk_at dksX0_crossings_3 19 rfl rfl)
theorem dX0_crossings_91 : decode cX0_crossings 91 = .ok (.isub, 1) := dk_100 (dk_at dksX0_crossings_3 20 rfl rfl)
theorem dX0_crossings_92 : decode cX0_crossings 92 = .ok (.iload_n 1, 1) := dk_27 (dk_at dksX0_crossings_3 21 rfl rfl)
theorem dX0_crossings_93 : decode cX0_crossings 93 = .ok (.iand, 1) := dk_126 (dk_at dksX0_crossings_3 22 rfl rfl)
theorem dX0_crossings_94 : decode cX0_crossings 94 = .ok (.istore 4, 2) := dk_54 4 (dk_at dksX0_crossings_4 0 rfl rfl)
theorem dX0_crossings_96 : decode cX0_crossings 96 = .ok (.goto (-83), 3) := dk_167 255 173 (dk_at dksX0_crossings_4 2 rfl rfl)
theorem dX0_crossings_99 : decode cX0_crossings 99 = .ok (.iload_n 3, 1) := dk_29 (dk_at dksX0_crossings_4 5 rfl rfl)
theorem dX0_crossings_100 : decode cX0_crossings 100 = .ok (.ireturn, 1) := dk_172 (dk_at dksX0_crossings_4 6 rfl rfl)
abbrev cX0_weightOf : ByteArray := prog_1_method_38_code
def yX0_weightOf : MethodName := ⟨RX0, "weightOf", "(I)I"⟩
def dkwX0_weightOf_2 : List UInt8 := [172]
abbrev dktX0_weightOf_2 : List UInt8 := dkwX0_weightOf_2 ++ []
def dkwX0_weightOf_1 : List UInt8 := [42, 180, 0, 39, 29, 182, 0, 223, 16, 10, 96, 167, 0, 4, 3, 96, 61, 132, 3, 1, 167, 255, 216, 28]
abbrev dktX0_weightOf_1 : List UInt8 := dkwX0_weightOf_1 ++ dktX0_weightOf_2
def dkwX0_weightOf_0 : List UInt8 := [3, 61, 3, 62, 29, 42, 180, 0, 39, 182, 0, 166, 162, 0, 35, 28, 27, 29, 184, 0, 205, 153, 0, 17]
abbrev dktX0_weightOf_0 : List UInt8 := dkwX0_weightOf_0 ++ dktX0_weightOf_1
theorem dksX0_weightOf_0 : cX0_weightOf.data.toList.drop 0 = dktX0_weightOf_0 := by decide +kernel
theorem dksX0_weightOf_1 : cX0_weightOf.data.toList.drop 24 = dktX0_weightOf_1 := dk_seg dksX0_weightOf_0 24 rfl rfl
theorem dksX0_weightOf_2 : cX0_weightOf.data.toList.drop 48 = dktX0_weightOf_2 := dk_seg dksX0_weightOf_1 24 rfl rfl
theorem dX0_weightOf_0 : decode cX0_weightOf 0 = .ok (.iconst 0, 1) := dk_3 (dk_at dksX0_weightOf_0 0 rfl rfl)
theorem dX0_weightOf_1 : decode cX0_weightOf 1 = .ok (.istore_n 2, 1) := dk_61 (dk_at dksX0_weightOf_0 1 rfl rfl)
theorem dX0_weightOf_2 : decode cX0_weightOf 2 = .ok (.iconst 0, 1) := dk_3 (dk_at dksX0_weightOf_0 2 rfl rfl)
theorem dX0_weightOf_3 : decode cX0_weightOf 3 = .ok (.istore_n 3, 1) := dk_62 (dk_at dksX0_weightOf_0 3 rfl rfl)
theorem dX0_weightOf_4 : decode cX0_weightOf 4 = .ok (.iload_n 3, 1) := dk_29 (dk_at dksX0_weightOf_0 4 rfl rfl)
theorem dX0_weightOf_5 : decode cX0_weightOf 5 = .ok (.aload_n 0, 1) := dk_42 (dk_at dksX0_weightOf_0 5 rfl rfl)
theorem dX0_weightOf_6 : decode cX0_weightOf 6 = .ok (.getfield 39, 3) := dk_180 0 39 (dk_at dksX0_weightOf_0 6 rfl rfl)
theorem dX0_weightOf_9 : decode cX0_weightOf 9 = .ok (.invokevirtual 166, 3) := dk_182 0 166 (dk_at dksX0_weightOf_0 9 rfl rfl)
theorem dX0_weightOf_12 : decode cX0_weightOf 12 = .ok (.if_icmp .ge 35, 3) := dk_162 0 35 (dk_at dksX0_weightOf_0 12 rfl rfl)
theorem dX0_weightOf_15 : decode cX0_weightOf 15 = .ok (.iload_n 2, 1) := dk_28 (dk_at dksX0_weightOf_0 15 rfl rfl)
theorem dX0_weightOf_16 : decode cX0_weightOf 16 = .ok (.iload_n 1, 1) := dk_27 (dk_at dksX0_weightOf_0 16 rfl rfl)
theorem dX0_weightOf_17 : decode cX0_weightOf 17 = .ok (.iload_n 3, 1) := dk_29 (dk_at dksX0_weightOf_0 17 rfl rfl)
theorem dX0_weightOf_18 : decode cX0_weightOf 18 = .ok (.invokestatic 205, 3) := dk_184 0 205 (dk_at dksX0_weightOf_0 18 rfl rfl)
theorem dX0_weightOf_21 : decode cX0_weightOf 21 = .ok (.ifCond .eq 17, 3) := dk_153 0 17 (dk_at dksX0_weightOf_0 21 rfl rfl)
theorem dX0_weightOf_24 : decode cX0_weightOf 24 = .ok (.aload_n 0, 1) := dk_42 (dk_at dksX0_weightOf_1 0 rfl rfl)
theorem dX0_weightOf_25 : decode cX0_weightOf 25 = .ok (.getfield 39, 3) := dk_180 0 39 (dk_at dksX0_weightOf_1 1 rfl rfl)
theorem dX0_weightOf_28 : decode cX0_weightOf 28 = .ok (.iload_n 3, 1) := dk_29 (dk_at dksX0_weightOf_1 4 rfl rfl)
theorem dX0_weightOf_29 : decode cX0_weightOf 29 = .ok (.invokevirtual 223, 3) := dk_182 0 223 (dk_at dksX0_weightOf_1 5 rfl rfl)
theorem dX0_weightOf_32 : decode cX0_weightOf 32 = .ok (.bipush 10, 2) := dk_16 10 (dk_at dksX0_weightOf_1 8 rfl rfl)
theorem dX0_weightOf_34 : decode cX0_weightOf 34 = .ok (.iadd, 1) := dk_96 (dk_at dksX0_weightOf_1 10 rfl rfl)
theorem dX0_weightOf_35 : decode cX0_weightOf 35 = .ok (.goto 4, 3) := dk_167 0 4 (dk_at dksX0_weightOf_1 11 rfl rfl)
theorem dX0_weightOf_38 : decode cX0_weightOf 38 = .ok (.iconst 0, 1) := dk_3 (dk_at dksX0_weightOf_1 14 rfl rfl)
theorem dX0_weightOf_39 : decode cX0_weightOf 39 = .ok (.iadd, 1) := dk_96 (dk_at dksX0_weightOf_1 15 rfl rfl)
theorem dX0_weightOf_40 : decode cX0_weightOf 40 = .ok (.istore_n 2, 1) := dk_61 (dk_at dksX0_weightOf_1 16 rfl rfl)
theorem dX0_weightOf_41 : decode cX0_weightOf 41 = .ok (.iinc 3 1, 3) := dk_132 3 1 (dk_at dksX0_weightOf_1 17 rfl rfl)
theorem dX0_weightOf_44 : decode cX0_weightOf 44 = .ok (.goto (-40), 3) := dk_167 255 216 (dk_at dksX0_weightOf_1 20 rfl rfl)
theorem dX0_weightOf_47 : decode cX0_weightOf 47 = .ok (.iload_n 2, 1) := dk_28 (dk_at dksX0_weightOf_1 23 rfl rfl)
theorem dX0_weightOf_48 : decode cX0_weightOf 48 = .ok (.ireturn, 1) := dk_172 (dk_at dksX0_weightOf_2 0 rfl rfl)
abbrev cX0_votes : ByteArray := prog_1_method_45_code
def yX0_votes : MethodName := ⟨RX0, "votes", "(I)I"⟩
def dkwX0_votes_1 : List UInt8 := [18, 97, 172]
abbrev dktX0_votes_1 : List UInt8 := dkwX0_votes_1 ++ []
def dkwX0_votes_0 : List UInt8 := [42, 27, 182, 0, 176, 153, 0, 19, 42, 27, 182, 1, 59, 153, 0, 11, 42, 27, 182, 1, 68, 167, 0, 5]
abbrev dktX0_votes_0 : List UInt8 := dkwX0_votes_0 ++ dktX0_votes_1
theorem dksX0_votes_0 : cX0_votes.data.toList.drop 0 = dktX0_votes_0 := by decide +kernel
theorem dksX0_votes_1 : cX0_votes.data.toList.drop 24 = dktX0_votes_1 := dk_seg dksX0_votes_0 24 rfl rfl
theorem dX0_votes_0 : decode cX0_votes 0 = .ok (.aload_n 0, 1) := dk_42 (dk_at dksX0_votes_0 0 rfl rfl)
theorem dX0_votes_1 : decode cX0_votes 1 = .ok (.iload_n 1, 1) := dk_27 (dk_at dksX0_votes_0 1 rfl rfl)
theorem dX0_votes_2 : decode cX0_votes 2 = .ok (.invokevirtual 176, 3) := dk_182 0 176 (dk_at dksX0_votes_0 2 rfl rfl)
theorem dX0_votes_5 : decode cX0_votes 5 = .ok (.ifCond .eq 19, 3) := dk_153 0 19 (dk_at dksX0_votes_0 5 rfl rfl)
theorem dX0_votes_8 : decode cX0_votes 8 = .ok (.aload_n 0, 1) := dk_42 (dk_at dksX0_votes_0 8 rfl rfl)
theorem dX0_votes_9 : decode cX0_votes 9 = .ok (.iload_n 1, 1) := dk_27 (dk_at dksX0_votes_0 9 rfl rfl)
theorem dX0_votes_10 : decode cX0_votes 10 = .ok (.invokevirtual 315, 3) := dk_182 1 59 (dk_at dksX0_votes_0 10 rfl rfl)
theorem dX0_votes_13 : decode cX0_votes 13 = .ok (.ifCond .eq 11, 3) := dk_153 0 11 (dk_at dksX0_votes_0 13 rfl rfl)
theorem dX0_votes_16 : decode cX0_votes 16 = .ok (.aload_n 0, 1) := dk_42 (dk_at dksX0_votes_0 16 rfl rfl)
theorem dX0_votes_17 : decode cX0_votes 17 = .ok (.iload_n 1, 1) := dk_27 (dk_at dksX0_votes_0 17 rfl rfl)
theorem dX0_votes_18 : decode cX0_votes 18 = .ok (.invokevirtual 324, 3) := dk_182 1 68 (dk_at dksX0_votes_0 18 rfl rfl)
theorem dX0_votes_21 : decode cX0_votes 21 = .ok (.goto 5, 3) := dk_167 0 5 (dk_at dksX0_votes_0 21 rfl rfl)
theorem dX0_votes_24 : decode cX0_votes 24 = .ok (.ldc 97, 2) := dk_18 97 (dk_at dksX0_votes_1 0 rfl rfl)
theorem dX0_votes_26 : decode cX0_votes 26 = .ok (.ireturn, 1) := dk_172 (dk_at dksX0_votes_1 2 rfl rfl)
abbrev cX0_isCandidate : ByteArray := prog_1_method_42_code
def yX0_isCandidate : MethodName := ⟨RX0, "isCandidate", "(I)Z"⟩
def dkwX0_isCandidate_0 : List UInt8 := [42, 180, 0, 39, 180, 1, 44, 27, 185, 1, 48, 2, 0, 192, 1, 54, 182, 1, 56, 172]
abbrev dktX0_isCandidate_0 : List UInt8 := dkwX0_isCandidate_0 ++ []
theorem dksX0_isCandidate_0 : cX0_isCandidate.data.toList.drop 0 = dktX0_isCandidate_0 := by decide +kernel
theorem dX0_isCandidate_0 : decode cX0_isCandidate 0 = .ok (.aload_n 0, 1) := dk_42 (dk_at dksX0_isCandidate_0 0 rfl rfl)
theorem dX0_isCandidate_1 : decode cX0_isCandidate 1 = .ok (.getfield 39, 3) := dk_180 0 39 (dk_at dksX0_isCandidate_0 1 rfl rfl)
theorem dX0_isCandidate_4 : decode cX0_isCandidate 4 = .ok (.getfield 300, 3) := dk_180 1 44 (dk_at dksX0_isCandidate_0 4 rfl rfl)
theorem dX0_isCandidate_7 : decode cX0_isCandidate 7 = .ok (.iload_n 1, 1) := dk_27 (dk_at dksX0_isCandidate_0 7 rfl rfl)
theorem dX0_isCandidate_8 : decode cX0_isCandidate 8 = .ok (.invokeinterface 304 2, 5) := by decide +kernel
theorem dX0_isCandidate_13 : decode cX0_isCandidate 13 = .ok (.checkcast 310, 3) := dk_192 1 54 (dk_at dksX0_isCandidate_0 13 rfl rfl)
theorem dX0_isCandidate_16 : decode cX0_isCandidate 16 = .ok (.invokevirtual 312, 3) := dk_182 1 56 (dk_at dksX0_isCandidate_0 16 rfl rfl)
theorem dX0_isCandidate_19 : decode cX0_isCandidate 19 = .ok (.ireturn, 1) := dk_172 (dk_at dksX0_isCandidate_0 19 rfl rfl)
abbrev cX0_votesFor : ByteArray := prog_1_method_44_code
def yX0_votesFor : MethodName := ⟨RX0, "votesFor", "(I)I"⟩
def dkwX0_votesFor_1 : List UInt8 := [42, 29, 182, 1, 65, 27, 160, 0, 7, 4, 167, 0, 4, 3, 96, 61, 132, 3, 1, 167, 255, 217, 28, 172]
abbrev dktX0_votesFor_1 : List UInt8 := dkwX0_votesFor_1 ++ []
def dkwX0_votesFor_0 : List UInt8 := [3, 61, 3, 62, 29, 42, 180, 0, 39, 182, 0, 166, 162, 0, 34, 28, 42, 29, 182, 1, 59, 154, 0, 16]
abbrev dktX0_votesFor_0 : List UInt8 := dkwX0_votesFor_0 ++ dktX0_votesFor_1
theorem dksX0_votesFor_0 : cX0_votesFor.data.toList.drop 0 = dktX0_votesFor_0 := by decide +kernel
theorem dksX0_votesFor_1 : cX0_votesFor.data.toList.drop 24 = dktX0_votesFor_1 := dk_seg dksX0_votesFor_0 24 rfl rfl
theorem dX0_votesFor_0 : decode cX0_votesFor 0 = .ok (.iconst 0, 1) := dk_3 (dk_at dksX0_votesFor_0 0 rfl rfl)
theorem dX0_votesFor_1 : decode cX0_votesFor 1 = .ok (.istore_n 2, 1) := dk_61 (dk_at dksX0_votesFor_0 1 rfl rfl)
theorem dX0_votesFor_2 : decode cX0_votesFor 2 = .ok (.iconst 0, 1) := dk_3 (dk_at dksX0_votesFor_0 2 rfl rfl)
theorem dX0_votesFor_3 : decode cX0_votesFor 3 = .ok (.istore_n 3, 1) := dk_62 (dk_at dksX0_votesFor_0 3 rfl rfl)
theorem dX0_votesFor_4 : decode cX0_votesFor 4 = .ok (.iload_n 3, 1) := dk_29 (dk_at dksX0_votesFor_0 4 rfl rfl)
theorem dX0_votesFor_5 : decode cX0_votesFor 5 = .ok (.aload_n 0, 1) := dk_42 (dk_at dksX0_votesFor_0 5 rfl rfl)
theorem dX0_votesFor_6 : decode cX0_votesFor 6 = .ok (.getfield 39, 3) := dk_180 0 39 (dk_at dksX0_votesFor_0 6 rfl rfl)
theorem dX0_votesFor_9 : decode cX0_votesFor 9 = .ok (.invokevirtual 166, 3) := dk_182 0 166 (dk_at dksX0_votesFor_0 9 rfl rfl)
theorem dX0_votesFor_12 : decode cX0_votesFor 12 = .ok (.if_icmp .ge 34, 3) := dk_162 0 34 (dk_at dksX0_votesFor_0 12 rfl rfl)
theorem dX0_votesFor_15 : decode cX0_votesFor 15 = .ok (.iload_n 2, 1) := dk_28 (dk_at dksX0_votesFor_0 15 rfl rfl)
theorem dX0_votesFor_16 : decode cX0_votesFor 16 = .ok (.aload_n 0, 1) := dk_42 (dk_at dksX0_votesFor_0 16 rfl rfl)
theorem dX0_votesFor_17 : decode cX0_votesFor 17 = .ok (.iload_n 3, 1) := dk_29 (dk_at dksX0_votesFor_0 17 rfl rfl)
theorem dX0_votesFor_18 : decode cX0_votesFor 18 = .ok (.invokevirtual 315, 3) := dk_182 1 59 (dk_at dksX0_votesFor_0 18 rfl rfl)
theorem dX0_votesFor_21 : decode cX0_votesFor 21 = .ok (.ifCond .ne 16, 3) := dk_154 0 16 (dk_at dksX0_votesFor_0 21 rfl rfl)
theorem dX0_votesFor_24 : decode cX0_votesFor 24 = .ok (.aload_n 0, 1) := dk_42 (dk_at dksX0_votesFor_1 0 rfl rfl)
theorem dX0_votesFor_25 : decode cX0_votesFor 25 = .ok (.iload_n 3, 1) := dk_29 (dk_at dksX0_votesFor_1 1 rfl rfl)
theorem dX0_votesFor_26 : decode cX0_votesFor 26 = .ok (.invokevirtual 321, 3) := dk_182 1 65 (dk_at dksX0_votesFor_1 2 rfl rfl)
theorem dX0_votesFor_29 : decode cX0_votesFor 29 = .ok (.iload_n 1, 1) := dk_27 (dk_at dksX0_votesFor_1 5 rfl rfl)
theorem dX0_votesFor_30 : decode cX0_votesFor 30 = .ok (.if_icmp .ne 7, 3) := dk_160 0 7 (dk_at dksX0_votesFor_1 6 rfl rfl)
theorem dX0_votesFor_33 : decode cX0_votesFor 33 = .ok (.iconst 1, 1) := dk_4 (dk_at dksX0_votesFor_1 9 rfl rfl)
theorem dX0_votesFor_34 : decode cX0_votesFor 34 = .ok (.goto 4, 3) := dk_167 0 4 (dk_at dksX0_votesFor_1 10 rfl rfl)
theorem dX0_votesFor_37 : decode cX0_votesFor 37 = .ok (.iconst 0, 1) := dk_3 (dk_at dksX0_votesFor_1 13 rfl rfl)
theorem dX0_votesFor_38 : decode cX0_votesFor 38 = .ok (.iadd, 1) := dk_96 (dk_at dksX0_votesFor_1 14 rfl rfl)
theorem dX0_votesFor_39 : decode cX0_votesFor 39 = .ok (.istore_n 2, 1) := dk_61 (dk_at dksX0_votesFor_1 15 rfl rfl)
theorem dX0_votesFor_40 : decode cX0_votesFor 40 = .ok (.iinc 3 1, 3) := dk_132 3 1 (dk_at dksX0_votesFor_1 16 rfl rfl)
theorem dX0_votesFor_43 : decode cX0_votesFor 43 = .ok (.goto (-39), 3) := dk_167 255 217 (dk_at dksX0_votesFor_1 19 rfl rfl)
theorem dX0_votesFor_46 : decode cX0_votesFor 46 = .ok (.iload_n 2, 1) := dk_28 (dk_at dksX0_votesFor_1 22 rfl rfl)
theorem dX0_votesFor_47 : decode cX0_votesFor 47 = .ok (.ireturn, 1) := dk_172 (dk_at dksX0_votesFor_1 23 rfl rfl)
abbrev cX0_voteOf : ByteArray := prog_1_method_43_code
def yX0_voteOf : MethodName := ⟨RX0, "voteOf", "(I)I"⟩
def dkwX0_voteOf_3 : List UInt8 := [172]
abbrev dktX0_voteOf_3 : List UInt8 := dkwX0_voteOf_3 ++ []
def dkwX0_voteOf_2 : List UInt8 := [164, 0, 8, 21, 4, 167, 0, 4, 28, 61, 29, 21, 5, 184, 0, 254, 62, 132, 4, 1, 167, 255, 199, 28]
abbrev dktX0_voteOf_2 : List UInt8 := dkwX0_voteOf_2 ++ dktX0_voteOf_3
def dkwX0_voteOf_1 : List UInt8 := [182, 1, 59, 153, 0, 13, 42, 21, 4, 27, 182, 1, 62, 167, 0, 4, 3, 54, 5, 21, 5, 29]
abbrev dktX0_voteOf_1 : List UInt8 := dkwX0_voteOf_1 ++ dktX0_voteOf_2
def dkwX0_voteOf_0 : List UInt8 := [19, 1, 28, 61, 3, 62, 3, 54, 4, 21, 4, 42, 180, 0, 39, 182, 0, 166, 162, 0, 51, 42, 21, 4]
abbrev dktX0_voteOf_0 : List UInt8 := dkwX0_voteOf_0 ++ dktX0_voteOf_1
theorem dksX0_voteOf_0 : cX0_voteOf.data.toList.drop 0 = dktX0_voteOf_0 := by decide +kernel
theorem dksX0_voteOf_1 : cX0_voteOf.data.toList.drop 24 = dktX0_voteOf_1 := dk_seg dksX0_voteOf_0 24 rfl rfl
theorem dksX0_voteOf_2 : cX0_voteOf.data.toList.drop 46 = dktX0_voteOf_2 := dk_seg dksX0_voteOf_1 22 rfl rfl
theorem dksX0_voteOf_3 : cX0_voteOf.data.toList.drop 70 = dktX0_voteOf_3 := dk_seg dksX0_voteOf_2 24 rfl rfl
theorem dX0_voteOf_0 : decode cX0_voteOf 0 = .ok (.ldc_w 284, 3) := dk_19 1 28 (dk_at dksX0_voteOf_0 0 rfl rfl)
theorem dX0_voteOf_3 : decode cX0_voteOf 3 = .ok (.istore_n 2, 1) := dk_61 (dk_at dksX0_voteOf_0 3 rfl rfl)
theorem dX0_voteOf_4 : decode cX0_voteOf 4 = .ok (.iconst 0, 1) := dk_3 (dk_at dksX0_voteOf_0 4 rfl rfl)
theorem dX0_voteOf_5 : decode cX0_voteOf 5 = .ok (.istore_n 3, 1) := dk_62 (dk_at dksX0_voteOf_0 5 rfl rfl)
theorem dX0_voteOf_6 : decode cX0_voteOf 6 = .ok (.iconst 0, 1) := dk_3 (dk_at dksX0_voteOf_0 6 rfl rfl)
theorem dX0_voteOf_7 : decode cX0_voteOf 7 = .ok (.istore 4, 2) := dk_54 4 (dk_at dksX0_voteOf_0 7 rfl rfl)
theorem dX0_voteOf_9 : decode cX0_voteOf 9 = .ok (.iload 4, 2) := dk_21 4 (dk_at dksX0_voteOf_0 9 rfl rfl)
theorem dX0_voteOf_11 : decode cX0_voteOf 11 = .ok (.aload_n 0, 1) := dk_42 (dk_at dksX0_voteOf_0 11 rfl rfl)
theorem dX0_voteOf_12 : decode cX0_voteOf 12 = .ok (.getfield 39, 3) := dk_180 0 39 (dk_at dksX0_voteOf_0 12 rfl rfl)
theorem dX0_voteOf_15 : decode cX0_voteOf 15 = .ok (.invokevirtual 166, 3) := dk_182 0 166 (dk_at dksX0_voteOf_0 15 rfl rfl)
theorem dX0_voteOf_18 : decode cX0_voteOf 18 = .ok (.if_icmp .ge 51, 3) := dk_162 0 51 (dk_at dksX0_voteOf_0 18 rfl rfl)
theorem dX0_voteOf_21 : decode cX0_voteOf 21 = .ok (.aload_n 0, 1) := dk_42 (dk_at dksX0_voteOf_0 21 rfl rfl)
theorem dX0_voteOf_22 : decode cX0_voteOf 22 = .ok (.iload 4, 2) := dk_21 4 (dk_at dksX0_voteOf_0 22 rfl rfl)
theorem dX0_voteOf_24 : decode cX0_voteOf 24 = .ok (.invokevirtual 315, 3) := dk_182 1 59 (dk_at dksX0_voteOf_1 0 rfl rfl)
theorem dX0_voteOf_27 : decode cX0_voteOf 27 = .ok (.ifCond .eq 13, 3) := dk_153 0 13 (dk_at dksX0_voteOf_1 3 rfl rfl)
theorem dX0_voteOf_30 : decode cX0_voteOf 30 = .ok (.aload_n 0, 1) := dk_42 (dk_at dksX0_voteOf_1 6 rfl rfl)
theorem dX0_voteOf_31 : decode cX0_voteOf 31 = .ok (.iload 4, 2) := dk_21 4 (dk_at dksX0_voteOf_1 7 rfl rfl)
theorem dX0_voteOf_33 : decode cX0_voteOf 33 = .ok (.iload_n 1, 1) := dk_27 (dk_at dksX0_voteOf_1 9 rfl rfl)
theorem dX0_voteOf_34 : decode cX0_voteOf 34 = .ok (.invokevirtual 318, 3) := dk_182 1 62 (dk_at dksX0_voteOf_1 10 rfl rfl)
theorem dX0_voteOf_37 : decode cX0_voteOf 37 = .ok (.goto 4, 3) := dk_167 0 4 (dk_at dksX0_voteOf_1 13 rfl rfl)
theorem dX0_voteOf_40 : decode cX0_voteOf 40 = .ok (.iconst 0, 1) := dk_3 (dk_at dksX0_voteOf_1 16 rfl rfl)
theorem dX0_voteOf_41 : decode cX0_voteOf 41 = .ok (.istore 5, 2) := dk_54 5 (dk_at dksX0_voteOf_1 17 rfl rfl)
theorem dX0_voteOf_43 : decode cX0_voteOf 43 = .ok (.iload 5, 2) := dk_21 5 (dk_at dksX0_voteOf_1 19 rfl rfl)
theorem dX0_voteOf_45 : decode cX0_voteOf 45 = .ok (.iload_n 3, 1) := dk_29 (dk_at dksX0_voteOf_1 21 rfl rfl)
theorem dX0_voteOf_46 : decode cX0_voteOf 46 = .ok (.if_icmp .le 8, 3) := dk_164 0 8 (dk_at dksX0_voteOf_2 0 rfl rfl)
theorem dX0_voteOf_49 : decode cX0_voteOf 49 = .ok (.iload 4, 2) := dk_21 4 (dk_at dksX0_voteOf_2 3 rfl rfl)
theorem dX0_voteOf_51 : decode cX0_voteOf 51 = .ok (.goto 4, 3) := dk_167 0 4 (dk_at dksX0_voteOf_2 5 rfl rfl)
theorem dX0_voteOf_54 : decode cX0_voteOf 54 = .ok (.iload_n 2, 1) := dk_28 (dk_at dksX0_voteOf_2 8 rfl rfl)
theorem dX0_voteOf_55 : decode cX0_voteOf 55 = .ok (.istore_n 2, 1) := dk_61 (dk_at dksX0_voteOf_2 9 rfl rfl)
theorem dX0_voteOf_56 : decode cX0_voteOf 56 = .ok (.iload_n 3, 1) := dk_29 (dk_at dksX0_voteOf_2 10 rfl rfl)
theorem dX0_voteOf_57 : decode cX0_voteOf 57 = .ok (.iload 5, 2) := dk_21 5 (dk_at dksX0_voteOf_2 11 rfl rfl)
theorem dX0_voteOf_59 : decode cX0_voteOf 59 = .ok (.invokestatic 254, 3) := dk_184 0 254 (dk_at dksX0_voteOf_2 13 rfl rfl)
theorem dX0_voteOf_62 : decode cX0_voteOf 62 = .ok (.istore_n 3, 1) := dk_62 (dk_at dksX0_voteOf_2 16 rfl rfl)
theorem dX0_voteOf_63 : decode cX0_voteOf 63 = .ok (.iinc 4 1, 3) := dk_132 4 1 (dk_at dksX0_voteOf_2 17 rfl rfl)
theorem dX0_voteOf_66 : decode cX0_voteOf 66 = .ok (.goto (-57), 3) := dk_167 255 199 (dk_at dksX0_voteOf_2 20 rfl rfl)
theorem dX0_voteOf_69 : decode cX0_voteOf 69 = .ok (.iload_n 2, 1) := dk_28 (dk_at dksX0_voteOf_2 23 rfl rfl)
theorem dX0_voteOf_70 : decode cX0_voteOf 70 = .ok (.ireturn, 1) := dk_172 (dk_at dksX0_voteOf_3 0 rfl rfl)
abbrev cX0_promised : ByteArray := prog_1_method_41_code
def yX0_promised : MethodName := ⟨RX0, "promised", "(II)I"⟩
def dkwX0_promised_2 : List UInt8 := [42, 180, 0, 39, 21, 4, 182, 0, 244, 167, 0, 4, 3, 96, 62, 132, 4, 1, 167, 255, 197, 29, 172]
abbrev dktX0_promised_2 : List UInt8 := dkwX0_promised_2 ++ []
def dkwX0_promised_1 : List UInt8 := [180, 0, 208, 21, 4, 46, 27, 160, 0, 29, 42, 180, 0, 39, 180, 0, 220, 21, 4, 46, 28, 160, 0, 15]
abbrev dktX0_promised_1 : List UInt8 := dkwX0_promised_1 ++ dktX0_promised_2
def dkwX0_promised_0 : List UInt8 := [3, 62, 3, 54, 4, 21, 4, 42, 180, 0, 39, 180, 0, 171, 162, 0, 53, 29, 42, 180, 0, 39]
abbrev dktX0_promised_0 : List UInt8 := dkwX0_promised_0 ++ dktX0_promised_1
theorem dksX0_promised_0 : cX0_promised.data.toList.drop 0 = dktX0_promised_0 := by decide +kernel
theorem dksX0_promised_1 : cX0_promised.data.toList.drop 22 = dktX0_promised_1 := dk_seg dksX0_promised_0 22 rfl rfl
theorem dksX0_promised_2 : cX0_promised.data.toList.drop 46 = dktX0_promised_2 := dk_seg dksX0_promised_1 24 rfl rfl
theorem dX0_promised_0 : decode cX0_promised 0 = .ok (.iconst 0, 1) := dk_3 (dk_at dksX0_promised_0 0 rfl rfl)
theorem dX0_promised_1 : decode cX0_promised 1 = .ok (.istore_n 3, 1) := dk_62 (dk_at dksX0_promised_0 1 rfl rfl)
theorem dX0_promised_2 : decode cX0_promised 2 = .ok (.iconst 0, 1) := dk_3 (dk_at dksX0_promised_0 2 rfl rfl)
theorem dX0_promised_3 : decode cX0_promised 3 = .ok (.istore 4, 2) := dk_54 4 (dk_at dksX0_promised_0 3 rfl rfl)
theorem dX0_promised_5 : decode cX0_promised 5 = .ok (.iload 4, 2) := dk_21 4 (dk_at dksX0_promised_0 5 rfl rfl)
theorem dX0_promised_7 : decode cX0_promised 7 = .ok (.aload_n 0, 1) := dk_42 (dk_at dksX0_promised_0 7 rfl rfl)
theorem dX0_promised_8 : decode cX0_promised 8 = .ok (.getfield 39, 3) := dk_180 0 39 (dk_at dksX0_promised_0 8 rfl rfl)
theorem dX0_promised_11 : decode cX0_promised 11 = .ok (.getfield 171, 3) := dk_180 0 171 (dk_at dksX0_promised_0 11 rfl rfl)
theorem dX0_promised_14 : decode cX0_promised 14 = .ok (.if_icmp .ge 53, 3) := dk_162 0 53 (dk_at dksX0_promised_0 14 rfl rfl)
theorem dX0_promised_17 : decode cX0_promised 17 = .ok (.iload_n 3, 1) := dk_29 (dk_at dksX0_promised_0 17 rfl rfl)
theorem dX0_promised_18 : decode cX0_promised 18 = .ok (.aload_n 0, 1) := dk_42 (dk_at dksX0_promised_0 18 rfl rfl)
theorem dX0_promised_19 : decode cX0_promised 19 = .ok (.getfield 39, 3) := dk_180 0 39 (dk_at dksX0_promised_0 19 rfl rfl)
theorem dX0_promised_22 : decode cX0_promised 22 = .ok (.getfield 208, 3) := dk_180 0 208 (dk_at dksX0_promised_1 0 rfl rfl)
theorem dX0_promised_25 : decode cX0_promised 25 = .ok (.iload 4, 2) := dk_21 4 (dk_at dksX0_promised_1 3 rfl rfl)
theorem dX0_promised_27 : decode cX0_promised 27 = .ok (.iaload, 1) := dk_46 (dk_at dksX0_promised_1 5 rfl rfl)
theorem dX0_promised_28 : decode cX0_promised 28 = .ok (.iload_n 1, 1) := dk_27 (dk_at dksX0_promised_1 6 rfl rfl)
theorem dX0_promised_29 : decode cX0_promised 29 = .ok (.if_icmp .ne 29, 3) := dk_160 0 29 (dk_at dksX0_promised_1 7 rfl rfl)
theorem dX0_promised_32 : decode cX0_promised 32 = .ok (.aload_n 0, 1) := dk_42 (dk_at dksX0_promised_1 10 rfl rfl)
theorem dX0_promised_33 : decode cX0_promised 33 = .ok (.getfield 39, 3) := dk_180 0 39 (dk_at dksX0_promised_1 11 rfl rfl)
theorem dX0_promised_36 : decode cX0_promised 36 = .ok (.getfield 220, 3) := dk_180 0 220 (dk_at dksX0_promised_1 14 rfl rfl)
theorem dX0_promised_39 : decode cX0_promised 39 = .ok (.iload 4, 2) := dk_21 4 (dk_at dksX0_promised_1 17 rfl rfl)
theorem dX0_promised_41 : decode cX0_promised 41 = .ok (.iaload, 1) := dk_46 (dk_at dksX0_promised_1 19 rfl rfl)
theorem dX0_promised_42 : decode cX0_promised 42 = .ok (.iload_n 2, 1) := dk_28 (dk_at dksX0_promised_1 20 rfl rfl)
theorem dX0_promised_43 : decode cX0_promised 43 = .ok (.if_icmp .ne 15, 3) := dk_160 0 15 (dk_at dksX0_promised_1 21 rfl rfl)
theorem dX0_promised_46 : decode cX0_promised 46 = .ok (.aload_n 0, 1) := dk_42 (dk_at dksX0_promised_2 0 rfl rfl)
theorem dX0_promised_47 : decode cX0_promised 47 = .ok (.getfield 39, 3) := dk_180 0 39 (dk_at dksX0_promised_2 1 rfl rfl)
theorem dX0_promised_50 : decode cX0_promised 50 = .ok (.iload 4, 2) := dk_21 4 (dk_at dksX0_promised_2 4 rfl rfl)
theorem dX0_promised_52 : decode cX0_promised 52 = .ok (.invokevirtual 244, 3) := dk_182 0 244 (dk_at dksX0_promised_2 6 rfl rfl)
theorem dX0_promised_55 : decode cX0_promised 55 = .ok (.goto 4, 3) := dk_167 0 4 (dk_at dksX0_promised_2 9 rfl rfl)
theorem dX0_promised_58 : decode cX0_promised 58 = .ok (.iconst 0, 1) := dk_3 (dk_at dksX0_promised_2 12 rfl rfl)
theorem dX0_promised_59 : decode cX0_promised 59 = .ok (.iadd, 1) := dk_96 (dk_at dksX0_promised_2 13 rfl rfl)
theorem dX0_promised_60 : decode cX0_promised 60 = .ok (.istore_n 3, 1) := dk_62 (dk_at dksX0_promised_2 14 rfl rfl)
theorem dX0_promised_61 : decode cX0_promised 61 = .ok (.iinc 4 1, 3) := dk_132 4 1 (dk_at dksX0_promised_2 15 rfl rfl)
theorem dX0_promised_64 : decode cX0_promised 64 = .ok (.goto (-59), 3) := dk_167 255 197 (dk_at dksX0_promised_2 18 rfl rfl)
theorem dX0_promised_67 : decode cX0_promised 67 = .ok (.iload_n 3, 1) := dk_29 (dk_at dksX0_promised_2 21 rfl rfl)
theorem dX0_promised_68 : decode cX0_promised 68 = .ok (.ireturn, 1) := dk_172 (dk_at dksX0_promised_2 22 rfl rfl)
abbrev cX0_wins : ByteArray := prog_1_method_46_code
def yX0_wins : MethodName := ⟨RX0, "wins", "()I"⟩
def dkwX0_wins_3 : List UInt8 := [164, 0, 7, 28, 167, 0, 4, 27, 60, 132, 2, 1, 167, 255, 191, 27, 172]
abbrev dktX0_wins_3 : List UInt8 := dkwX0_wins_3 ++ []
def dkwX0_wins_2 : List UInt8 := [153, 0, 6, 167, 0, 29, 27, 19, 1, 28, 159, 0, 16, 42, 28, 182, 1, 68, 42, 27, 182, 1, 68]
abbrev dktX0_wins_2 : List UInt8 := dkwX0_wins_2 ++ dktX0_wins_3
def dkwX0_wins_1 : List UInt8 := [162, 0, 60, 42, 28, 182, 1, 59, 153, 0, 46, 42, 180, 0, 39, 182, 0, 238, 28, 184, 0, 205]
abbrev dktX0_wins_1 : List UInt8 := dkwX0_wins_1 ++ dktX0_wins_2
def dkwX0_wins_0 : List UInt8 := [42, 182, 0, 226, 154, 0, 6, 18, 170, 172, 19, 1, 28, 60, 3, 61, 28, 42, 180, 0, 39, 182, 0, 166]
abbrev dktX0_wins_0 : List UInt8 := dkwX0_wins_0 ++ dktX0_wins_1
theorem dksX0_wins_0 : cX0_wins.data.toList.drop 0 = dktX0_wins_0 := by decide +kernel
theorem dksX0_wins_1 : cX0_wins.data.toList.drop 24 = dktX0_wins_1 := dk_seg dksX0_wins_0 24 rfl rfl
theorem dksX0_wins_2 : cX0_wins.data.toList.drop 46 = dktX0_wins_2 := dk_seg dksX0_wins_1 22 rfl rfl
theorem dksX0_wins_3 : cX0_wins.data.toList.drop 69 = dktX0_wins_3 := dk_seg dksX0_wins_2 23 rfl rfl
theorem dX0_wins_0 : decode cX0_wins 0 = .ok (.aload_n 0, 1) := dk_42 (dk_at dksX0_wins_0 0 rfl rfl)
theorem dX0_wins_1 : decode cX0_wins 1 = .ok (.invokevirtual 226, 3) := dk_182 0 226 (dk_at dksX0_wins_0 1 rfl rfl)
theorem dX0_wins_4 : decode cX0_wins 4 = .ok (.ifCond .ne 6, 3) := dk_154 0 6 (dk_at dksX0_wins_0 4 rfl rfl)
theorem dX0_wins_7 : decode cX0_wins 7 = .ok (.ldc 170, 2) := dk_18 170 (dk_at dksX0_wins_0 7 rfl rfl)
theorem dX0_wins_9 : decode cX0_wins 9 = .ok (.ireturn, 1) := dk_172 (dk_at dksX0_wins_0 9 rfl rfl)
theorem dX0_wins_10 : decode cX0_wins 10 = .ok (.ldc_w 284, 3) := dk_19 1 28 (dk_at dksX0_wins_0 10 rfl rfl)
theorem dX0_wins_13 : decode cX0_wins 13 = .ok (.istore_n 1, 1) := dk_60 (dk_at dksX0_wins_0 13 rfl rfl)
theorem dX0_wins_14 : decode cX0_wins 14 = .ok (.iconst 0, 1) := dk_3 (dk_at dksX0_wins_0 14 rfl rfl)
theorem dX0_wins_15 : decode cX0_wins 15 = .ok (.istore_n 2, 1) := dk_61 (dk_at dksX0_wins_0 15 rfl rfl)
theorem dX0_wins_16 : decode cX0_wins 16 = .ok (.iload_n 2, 1) := dk_28 (dk_at dksX0_wins_0 16 rfl rfl)
theorem dX0_wins_17 : decode cX0_wins 17 = .ok (.aload_n 0, 1) := dk_42 (dk_at dksX0_wins_0 17 rfl rfl)
theorem dX0_wins_18 : decode cX0_wins 18 = .ok (.getfield 39, 3) := dk_180 0 39 (dk_at dksX0_wins_0 18 rfl rfl)
theorem dX0_wins_21 : decode cX0_wins 21 = .ok (.invokevirtual 166, 3) := dk_182 0 166 (dk_at dksX0_wins_0 21 rfl rfl)
theorem dX0_wins_24 : decode cX0_wins 24 = .ok (.if_icmp .ge 60, 3) := dk_162 0 60 (dk_at dksX0_wins_1 0 rfl rfl)
theorem dX0_wins_27 : decode cX0_wins 27 = .ok (.aload_n 0, 1) := dk_42 (dk_at dksX0_wins_1 3 rfl rfl)
theorem dX0_wins_28 : decode cX0_wins 28 = .ok (.iload_n 2, 1) := dk_28 (dk_at dksX0_wins_1 4 rfl rfl)
theorem dX0_wins_29 : decode cX0_wins 29 = .ok (.invokevirtual 315, 3) := dk_182 1 59 (dk_at dksX0_wins_1 5 rfl rfl)
theorem dX0_wins_32 : decode cX0_wins 32 = .ok (.ifCond .eq 46, 3) := dk_153 0 46 (dk_at dksX0_wins_1 8 rfl rfl)
theorem dX0_wins_35 : decode cX0_wins 35 = .ok (.aload_n 0, 1) := dk_42 (dk_at dksX0_wins_1 11 rfl rfl)
theorem dX0_wins_36 : decode cX0_wins 36 = .ok (.getfield 39, 3) := dk_180 0 39 (dk_at dksX0_wins_1 12 rfl rfl)
theorem dX0_wins_39 : decode cX0_wins 39 = .ok (.invokevirtual 238, 3) := dk_182 0 238 (dk_at dksX0_wins_1 15 rfl rfl)
theorem dX0_wins_42 : decode cX0_wins 42 = .ok (.iload_n 2, 1) := dk_28 (dk_at dksX0_wins_1 18 rfl rfl)
theorem dX0_wins_43 : decode cX0_wins 43 = .ok (.invokestatic 205, 3) := dk_184 0 205 (dk_at dksX0_wins_1 19 rfl rfl)
theorem dX0_wins_46 : decode cX0_wins 46 = .ok (.ifCond .eq 6, 3) := dk_153 0 6 (dk_at dksX0_wins_2 0 rfl rfl)
theorem dX0_wins_49 : decode cX0_wins 49 = .ok (.goto 29, 3) := dk_167 0 29 (dk_at dksX0_wins_2 3 rfl rfl)
theorem dX0_wins_52 : decode cX0_wins 52 = .ok (.iload_n 1, 1) := dk_27 (dk_at dksX0_wins_2 6 rfl rfl)
theorem dX0_wins_53 : decode cX0_wins 53 = .ok (.ldc_w 284, 3) := dk_19 1 28 (dk_at dksX0_wins_2 7 rfl rfl)
theorem dX0_wins_56 : decode cX0_wins 56 = .ok (.if_icmp .eq 16, 3) := dk_159 0 16 (dk_at dksX0_wins_2 10 rfl rfl)
theorem dX0_wins_59 : decode cX0_wins 59 = .ok (.aload_n 0, 1) := dk_42 (dk_at dksX0_wins_2 13 rfl rfl)
theorem dX0_wins_60 : decode cX0_wins 60 = .ok (.iload_n 2, 1) := dk_28 (dk_at dksX0_wins_2 14 rfl rfl)
theorem dX0_wins_61 : decode cX0_wins 61 = .ok (.invokevirtual 324, 3) := dk_182 1 68 (dk_at dksX0_wins_2 15 rfl rfl)
theorem dX0_wins_64 : decode cX0_wins 64 = .ok (.aload_n 0, 1) := dk_42 (dk_at dksX0_wins_2 18 rfl rfl)
theorem dX0_wins_65 : decode cX0_wins 65 = .ok (.iload_n 1, 1) := dk_27 (dk_at dksX0_wins_2 19 rfl rfl)
theorem dX0_wins_66 : decode cX0_wins 66 = .ok (.invokevirtual 324, 3) := dk_182 1 68 (dk_at dksX0_wins_2 20 rfl rfl)
theorem dX0_wins_69 : decode cX0_wins 69 = .ok (.if_icmp .le 7, 3) := dk_164 0 7 (dk_at dksX0_wins_3 0 rfl rfl)
theorem dX0_wins_72 : decode cX0_wins 72 = .ok (.iload_n 2, 1) := dk_28 (dk_at dksX0_wins_3 3 rfl rfl)
theorem dX0_wins_73 : decode cX0_wins 73 = .ok (.goto 4, 3) := dk_167 0 4 (dk_at dksX0_wins_3 4 rfl rfl)
theorem dX0_wins_76 : decode cX0_wins 76 = .ok (.iload_n 1, 1) := dk_27 (dk_at dksX0_wins_3 7 rfl rfl)
theorem dX0_wins_77 : decode cX0_wins 77 = .ok (.istore_n 1, 1) := dk_60 (dk_at dksX0_wins_3 8 rfl rfl)
theorem dX0_wins_78 : decode cX0_wins 78 = .ok (.iinc 2 1, 3) := dk_132 2 1 (dk_at dksX0_wins_3 9 rfl rfl)
theorem dX0_wins_81 : decode cX0_wins 81 = .ok (.goto (-65), 3) := dk_167 255 191 (dk_at dksX0_wins_3 12 rfl rfl)
theorem dX0_wins_84 : decode cX0_wins 84 = .ok (.iload_n 1, 1) := dk_27 (dk_at dksX0_wins_3 15 rfl rfl)
theorem dX0_wins_85 : decode cX0_wins 85 = .ok (.ireturn, 1) := dk_172 (dk_at dksX0_wins_3 16 rfl rfl)
abbrev cX0_law : ByteArray := prog_1_method_47_code
def yX0_law : MethodName := ⟨RX0, "law", "()I"⟩
def dkwX0_law_1 : List UInt8 := [28, 182, 1, 71, 154, 0, 7, 28, 167, 0, 4, 27, 60, 132, 2, 1, 167, 255, 230, 27, 172]
abbrev dktX0_law_1 : List UInt8 := dkwX0_law_1 ++ []
def dkwX0_law_0 : List UInt8 := [42, 182, 0, 226, 154, 0, 6, 18, 170, 172, 3, 60, 4, 61, 28, 16, 40, 163, 0, 26, 42, 180, 0, 39]
abbrev dktX0_law_0 : List UInt8 := dkwX0_law_0 ++ dktX0_law_1
theorem dksX0_law_0 : cX0_law.data.toList.drop 0 = dktX0_law_0 := by decide +kernel
theorem dksX0_law_1 : cX0_law.data.toList.drop 24 = dktX0_law_1 := dk_seg dksX0_law_0 24 rfl rfl
theorem dX0_law_0 : decode cX0_law 0 = .ok (.aload_n 0, 1) := dk_42 (dk_at dksX0_law_0 0 rfl rfl)
theorem dX0_law_1 : decode cX0_law 1 = .ok (.invokevirtual 226, 3) := dk_182 0 226 (dk_at dksX0_law_0 1 rfl rfl)
theorem dX0_law_4 : decode cX0_law 4 = .ok (.ifCond .ne 6, 3) := dk_154 0 6 (dk_at dksX0_law_0 4 rfl rfl)
theorem dX0_law_7 : decode cX0_law 7 = .ok (.ldc 170, 2) := dk_18 170 (dk_at dksX0_law_0 7 rfl rfl)
theorem dX0_law_9 : decode cX0_law 9 = .ok (.ireturn, 1) := dk_172 (dk_at dksX0_law_0 9 rfl rfl)
theorem dX0_law_10 : decode cX0_law 10 = .ok (.iconst 0, 1) := dk_3 (dk_at dksX0_law_0 10 rfl rfl)
theorem dX0_law_11 : decode cX0_law 11 = .ok (.istore_n 1, 1) := dk_60 (dk_at dksX0_law_0 11 rfl rfl)
theorem dX0_law_12 : decode cX0_law 12 = .ok (.iconst 1, 1) := dk_4 (dk_at dksX0_law_0 12 rfl rfl)
theorem dX0_law_13 : decode cX0_law 13 = .ok (.istore_n 2, 1) := dk_61 (dk_at dksX0_law_0 13 rfl rfl)
theorem dX0_law_14 : decode cX0_law 14 = .ok (.iload_n 2, 1) := dk_28 (dk_at dksX0_law_0 14 rfl rfl)
theorem dX0_law_15 : decode cX0_law 15 = .ok (.bipush 40, 2) := dk_16 40 (dk_at dksX0_law_0 15 rfl rfl)
theorem dX0_law_17 : decode cX0_law 17 = .ok (.if_icmp .gt 26, 3) := dk_163 0 26 (dk_at dksX0_law_0 17 rfl rfl)
theorem dX0_law_20 : decode cX0_law 20 = .ok (.aload_n 0, 1) := dk_42 (dk_at dksX0_law_0 20 rfl rfl)
theorem dX0_law_21 : decode cX0_law 21 = .ok (.getfield 39, 3) := dk_180 0 39 (dk_at dksX0_law_0 21 rfl rfl)
theorem dX0_law_24 : decode cX0_law 24 = .ok (.iload_n 2, 1) := dk_28 (dk_at dksX0_law_1 0 rfl rfl)
theorem dX0_law_25 : decode cX0_law 25 = .ok (.invokevirtual 327, 3) := dk_182 1 71 (dk_at dksX0_law_1 1 rfl rfl)
theorem dX0_law_28 : decode cX0_law 28 = .ok (.ifCond .ne 7, 3) := dk_154 0 7 (dk_at dksX0_law_1 4 rfl rfl)
theorem dX0_law_31 : decode cX0_law 31 = .ok (.iload_n 2, 1) := dk_28 (dk_at dksX0_law_1 7 rfl rfl)
theorem dX0_law_32 : decode cX0_law 32 = .ok (.goto 4, 3) := dk_167 0 4 (dk_at dksX0_law_1 8 rfl rfl)
theorem dX0_law_35 : decode cX0_law 35 = .ok (.iload_n 1, 1) := dk_27 (dk_at dksX0_law_1 11 rfl rfl)
theorem dX0_law_36 : decode cX0_law 36 = .ok (.istore_n 1, 1) := dk_60 (dk_at dksX0_law_1 12 rfl rfl)
theorem dX0_law_37 : decode cX0_law 37 = .ok (.iinc 2 1, 3) := dk_132 2 1 (dk_at dksX0_law_1 13 rfl rfl)
theorem dX0_law_40 : decode cX0_law 40 = .ok (.goto (-26), 3) := dk_167 255 230 (dk_at dksX0_law_1 16 rfl rfl)
theorem dX0_law_43 : decode cX0_law 43 = .ok (.iload_n 1, 1) := dk_27 (dk_at dksX0_law_1 19 rfl rfl)
theorem dX0_law_44 : decode cX0_law 44 = .ok (.ireturn, 1) := dk_172 (dk_at dksX0_law_1 20 rfl rfl)
abbrev cX0_scale : ByteArray := prog_1_method_50_code
def yX0_scale : MethodName := ⟨RX0, "scale", "(II)I"⟩
def dkwX0_scale_2 : List UInt8 := [180, 1, 74, 167, 0, 19, 28, 4, 160, 0, 10, 42, 180, 1, 77, 167, 0, 7, 42, 182, 1, 85, 172]
abbrev dktX0_scale_2 : List UInt8 := dkwX0_scale_2 ++ []
def dkwX0_scale_1 : List UInt8 := [9, 20, 0, 95, 184, 0, 83, 154, 0, 6, 18, 97, 172, 42, 27, 182, 1, 82, 28, 154, 0, 10, 42]
abbrev dktX0_scale_1 : List UInt8 := dkwX0_scale_1 ++ dktX0_scale_2
def dkwX0_scale_0 : List UInt8 := [42, 182, 0, 226, 154, 0, 6, 18, 170, 172, 27, 133, 9, 20, 1, 80, 184, 0, 83, 153, 0, 15, 28, 133]
abbrev dktX0_scale_0 : List UInt8 := dkwX0_scale_0 ++ dktX0_scale_1
theorem dksX0_scale_0 : cX0_scale.data.toList.drop 0 = dktX0_scale_0 := by decide +kernel
theorem dksX0_scale_1 : cX0_scale.data.toList.drop 24 = dktX0_scale_1 := dk_seg dksX0_scale_0 24 rfl rfl
theorem dksX0_scale_2 : cX0_scale.data.toList.drop 47 = dktX0_scale_2 := dk_seg dksX0_scale_1 23 rfl rfl
theorem dX0_scale_0 : decode cX0_scale 0 = .ok (.aload_n 0, 1) := dk_42 (dk_at dksX0_scale_0 0 rfl rfl)
theorem dX0_scale_1 : decode cX0_scale 1 = .ok (.invokevirtual 226, 3) := dk_182 0 226 (dk_at dksX0_scale_0 1 rfl rfl)
theorem dX0_scale_4 : decode cX0_scale 4 = .ok (.ifCond .ne 6, 3) := dk_154 0 6 (dk_at dksX0_scale_0 4 rfl rfl)
theorem dX0_scale_7 : decode cX0_scale 7 = .ok (.ldc 170, 2) := dk_18 170 (dk_at dksX0_scale_0 7 rfl rfl)
theorem dX0_scale_9 : decode cX0_scale 9 = .ok (.ireturn, 1) := dk_172 (dk_at dksX0_scale_0 9 rfl rfl)
theorem dX0_scale_10 : decode cX0_scale 10 = .ok (.iload_n 1, 1) := dk_27 (dk_at dksX0_scale_0 10 rfl rfl)
theorem dX0_scale_11 : decode cX0_scale 11 = .ok (.i2l, 1) := dk_133 (dk_at dksX0_scale_0 11 rfl rfl)
theorem dX0_scale_12 : decode cX0_scale 12 = .ok (.lconst 0, 1) := dk_9 (dk_at dksX0_scale_0 12 rfl rfl)
theorem dX0_scale_13 : decode cX0_scale 13 = .ok (.ldc2_w 336, 3) := dk_20 1 80 (dk_at dksX0_scale_0 13 rfl rfl)
theorem dX0_scale_16 : decode cX0_scale 16 = .ok (.invokestatic 83, 3) := dk_184 0 83 (dk_at dksX0_scale_0 16 rfl rfl)
theorem dX0_scale_19 : decode cX0_scale 19 = .ok (.ifCond .eq 15, 3) := dk_153 0 15 (dk_at dksX0_scale_0 19 rfl rfl)
theorem dX0_scale_22 : decode cX0_scale 22 = .ok (.iload_n 2, 1) := dk_28 (dk_at dksX0_scale_0 22 rfl rfl)
theorem dX0_scale_23 : decode cX0_scale 23 = .ok (.i2l, 1) := dk_133 (dk_at dksX0_scale_0 23 rfl rfl)
theorem dX0_scale_24 : decode cX0_scale 24 = .ok (.lconst 0, 1) := dk_9 (dk_at dksX0_scale_1 0 rfl rfl)
theorem dX0_scale_25 : decode cX0_scale 25 = .ok (.ldc2_w 95, 3) := dk_20 0 95 (dk_at dksX0_scale_1 1 rfl rfl)
theorem dX0_scale_28 : decode cX0_scale 28 = .ok (.invokestatic 83, 3) := dk_184 0 83 (dk_at dksX0_scale_1 4 rfl rfl)
theorem dX0_scale_31 : decode cX0_scale 31 = .ok (.ifCond .ne 6, 3) := dk_154 0 6 (dk_at dksX0_scale_1 7 rfl rfl)
theorem dX0_scale_34 : decode cX0_scale 34 = .ok (.ldc 97, 2) := dk_18 97 (dk_at dksX0_scale_1 10 rfl rfl)
theorem dX0_scale_36 : decode cX0_scale 36 = .ok (.ireturn, 1) := dk_172 (dk_at dksX0_scale_1 12 rfl rfl)
theorem dX0_scale_37 : decode cX0_scale 37 = .ok (.aload_n 0, 1) := dk_42 (dk_at dksX0_scale_1 13 rfl rfl)
theorem dX0_scale_38 : decode cX0_scale 38 = .ok (.iload_n 1, 1) := dk_27 (dk_at dksX0_scale_1 14 rfl rfl)
theorem dX0_scale_39 : decode cX0_scale 39 = .ok (.invokevirtual 338, 3) := dk_182 1 82 (dk_at dksX0_scale_1 15 rfl rfl)
theorem dX0_scale_42 : decode cX0_scale 42 = .ok (.iload_n 2, 1) := dk_28 (dk_at dksX0_scale_1 18 rfl rfl)
theorem dX0_scale_43 : decode cX0_scale 43 = .ok (.ifCond .ne 10, 3) := dk_154 0 10 (dk_at dksX0_scale_1 19 rfl rfl)
theorem dX0_scale_46 : decode cX0_scale 46 = .ok (.aload_n 0, 1) := dk_42 (dk_at dksX0_scale_1 22 rfl rfl)
theorem dX0_scale_47 : decode cX0_scale 47 = .ok (.getfield 330, 3) := dk_180 1 74 (dk_at dksX0_scale_2 0 rfl rfl)
theorem dX0_scale_50 : decode cX0_scale 50 = .ok (.goto 19, 3) := dk_167 0 19 (dk_at dksX0_scale_2 3 rfl rfl)
theorem dX0_scale_53 : decode cX0_scale 53 = .ok (.iload_n 2, 1) := dk_28 (dk_at dksX0_scale_2 6 rfl rfl)
theorem dX0_scale_54 : decode cX0_scale 54 = .ok (.iconst 1, 1) := dk_4 (dk_at dksX0_scale_2 7 rfl rfl)
theorem dX0_scale_55 : decode cX0_scale 55 = .ok (.if_icmp .ne 10, 3) := dk_160 0 10 (dk_at dksX0_scale_2 8 rfl rfl)
theorem dX0_scale_58 : decode cX0_scale 58 = .ok (.aload_n 0, 1) := dk_42 (dk_at dksX0_scale_2 11 rfl rfl)
theorem dX0_scale_59 : decode cX0_scale 59 = .ok (.getfield 333, 3) := dk_180 1 77 (dk_at dksX0_scale_2 12 rfl rfl)
theorem dX0_scale_62 : decode cX0_scale 62 = .ok (.goto 7, 3) := dk_167 0 7 (dk_at dksX0_scale_2 15 rfl rfl)
theorem dX0_scale_65 : decode cX0_scale 65 = .ok (.aload_n 0, 1) := dk_42 (dk_at dksX0_scale_2 18 rfl rfl)
theorem dX0_scale_66 : decode cX0_scale 66 = .ok (.invokevirtual 341, 3) := dk_182 1 85 (dk_at dksX0_scale_2 19 rfl rfl)
theorem dX0_scale_69 : decode cX0_scale 69 = .ok (.ireturn, 1) := dk_172 (dk_at dksX0_scale_2 22 rfl rfl)
abbrev cX0_laySets : ByteArray := prog_1_method_48_code
def yX0_laySets : MethodName := ⟨RX0, "laySets", "(I)V"⟩
def dkwX0_laySets_7 : List UInt8 := [153, 0, 7, 4, 167, 0, 4, 3, 96, 79, 132, 4, 1, 167, 255, 217, 132, 2, 1, 167, 255, 109, 177]
abbrev dktX0_laySets_7 : List UInt8 := dkwX0_laySets_7 ++ []
def dkwX0_laySets_6 : List UInt8 := [180, 0, 39, 180, 0, 171, 162, 0, 33, 42, 180, 0, 67, 21, 4, 92, 46, 28, 21, 4, 184, 0, 205]
abbrev dktX0_laySets_6 : List UInt8 := dkwX0_laySets_6 ++ dktX0_laySets_7
def dkwX0_laySets_5 : List UInt8 := [180, 1, 77, 181, 1, 77, 42, 89, 180, 1, 74, 4, 96, 181, 1, 74, 3, 54, 4, 21, 4, 42]
abbrev dktX0_laySets_5 : List UInt8 := dkwX0_laySets_5 ++ dktX0_laySets_6
def dkwX0_laySets_4 : List UInt8 := [167, 255, 215, 29, 27, 159, 0, 6, 167, 0, 77, 42, 42, 180, 1, 74, 154, 0, 7, 28, 167, 0, 7, 42]
abbrev dktX0_laySets_4 : List UInt8 := dkwX0_laySets_4 ++ dktX0_laySets_5
def dkwX0_laySets_3 : List UInt8 := [153, 0, 16, 42, 180, 0, 39, 180, 0, 241, 21, 4, 46, 167, 0, 4, 3, 96, 62, 132, 4, 1]
abbrev dktX0_laySets_3 : List UInt8 := dkwX0_laySets_3 ++ dktX0_laySets_4
def dkwX0_laySets_2 : List UInt8 := [3, 62, 3, 54, 4, 21, 4, 42, 180, 0, 39, 180, 0, 171, 162, 0, 35, 29, 28, 21, 4, 184, 0, 205]
abbrev dktX0_laySets_2 : List UInt8 := dkwX0_laySets_2 ++ dktX0_laySets_3
def dkwX0_laySets_1 : List UInt8 := [28, 3, 79, 132, 2, 1, 167, 255, 240, 3, 61, 28, 4, 42, 180, 0, 39, 180, 0, 171, 120, 162, 0, 140]
abbrev dktX0_laySets_1 : List UInt8 := dkwX0_laySets_1 ++ dktX0_laySets_2
def dkwX0_laySets_0 : List UInt8 := [42, 3, 181, 1, 74, 42, 19, 1, 28, 181, 1, 77, 3, 61, 28, 16, 8, 162, 0, 16, 42, 180, 0, 67]
abbrev dktX0_laySets_0 : List UInt8 := dkwX0_laySets_0 ++ dktX0_laySets_1
theorem dksX0_laySets_0 : cX0_laySets.data.toList.drop 0 = dktX0_laySets_0 := by decide +kernel
theorem dksX0_laySets_1 : cX0_laySets.data.toList.drop 24 = dktX0_laySets_1 := dk_seg dksX0_laySets_0 24 rfl rfl
theorem dksX0_laySets_2 : cX0_laySets.data.toList.drop 48 = dktX0_laySets_2 := dk_seg dksX0_laySets_1 24 rfl rfl
theorem dksX0_laySets_3 : cX0_laySets.data.toList.drop 72 = dktX0_laySets_3 := dk_seg dksX0_laySets_2 24 rfl rfl
theorem dksX0_laySets_4 : cX0_laySets.data.toList.drop 94 = dktX0_laySets_4 := dk_seg dksX0_laySets_3 22 rfl rfl
theorem dksX0_laySets_5 : cX0_laySets.data.toList.drop 118 = dktX0_laySets_5 := dk_seg dksX0_laySets_4 24 rfl rfl
theorem dksX0_laySets_6 : cX0_laySets.data.toList.drop 140 = dktX0_laySets_6 := dk_seg dksX0_laySets_5 22 rfl rfl
theorem dksX0_laySets_7 : cX0_laySets.data.toList.drop 163 = dktX0_laySets_7 := dk_seg dksX0_laySets_6 23 rfl rfl
theorem dX0_laySets_0 : decode cX0_laySets 0 = .ok (.aload_n 0, 1) := dk_42 (dk_at dksX0_laySets_0 0 rfl rfl)
theorem dX0_laySets_1 : decode cX0_laySets 1 = .ok (.iconst 0, 1) := dk_3 (dk_at dksX0_laySets_0 1 rfl rfl)
theorem dX0_laySets_2 : decode cX0_laySets 2 = .ok (.putfield 330, 3) := dk_181 1 74 (dk_at dksX0_laySets_0 2 rfl rfl)
theorem dX0_laySets_5 : decode cX0_laySets 5 = .ok (.aload_n 0, 1) := dk_42 (dk_at dksX0_laySets_0 5 rfl rfl)
theorem dX0_laySets_6 : decode cX0_laySets 6 = .ok (.ldc_w 284, 3) := dk_19 1 28 (dk_at dksX0_laySets_0 6 rfl rfl)
theorem dX0_laySets_9 : decode cX0_laySets 9 = .ok (.putfield 333, 3) := dk_181 1 77 (dk_at dksX0_laySets_0 9 rfl rfl)
theorem dX0_laySets_12 : decode cX0_laySets 12 = .ok (.iconst 0, 1) := dk_3 (dk_at dksX0_laySets_0 12 rfl rfl)
theorem dX0_laySets_13 : decode cX0_laySets 13 = .ok (.istore_n 2, 1) := dk_61 (dk_at dksX0_laySets_0 13 rfl rfl)
theorem dX0_laySets_14 : decode cX0_laySets 14 = .ok (.iload_n 2, 1) := dk_28 (dk_at dksX0_laySets_0 14 rfl rfl)
theorem dX0_laySets_15 : decode cX0_laySets 15 = .ok (.bipush 8, 2) := dk_16 8 (dk_at dksX0_laySets_0 15 rfl rfl)
theorem dX0_laySets_17 : decode cX0_laySets 17 = .ok (.if_icmp .ge 16, 3) := dk_162 0 16 (dk_at dksX0_laySets_0 17 rfl rfl)
theorem dX0_laySets_20 : decode cX0_laySets 20 = .ok (.aload_n 0, 1) := dk_42 (dk_at dksX0_laySets_0 20 rfl rfl)
theorem dX0_laySets_21 : decode cX0_laySets 21 = .ok (.getfield 67, 3) := dk_180 0 67 (dk_at dksX0_laySets_0 21 rfl rfl)
theorem dX0_laySets_24 : decode cX0_laySets 24 = .ok (.iload_n 2, 1) := dk_28 (dk_at dksX0_laySets_1 0 rfl rfl)
theorem dX0_laySets_25 : decode cX0_laySets 25 = .ok (.iconst 0, 1) := dk_3 (dk_at dksX0_laySets_1 1 rfl rfl)
theorem dX0_laySets_26 : decode cX0_laySets 26 = .ok (.iastore, 1) := dk_79 (dk_at dksX0_laySets_1 2 rfl rfl)
theorem dX0_laySets_27 : decode cX0_laySets 27 = .ok (.iinc 2 1, 3) := dk_132 2 1 (dk_at dksX0_laySets_1 3 rfl rfl)
theorem dX0_laySets_30 : decode cX0_laySets 30 = .ok (.goto (-16), 3) := dk_167 255 240 (dk_at dksX0_laySets_1 6 rfl rfl)
theorem dX0_laySets_33 : decode cX0_laySets 33 = .ok (.iconst 0, 1) := dk_3 (dk_at dksX0_laySets_1 9 rfl rfl)
theorem dX0_laySets_34 : decode cX0_laySets 34 = .ok (.istore_n 2, 1) := dk_61 (dk_at dksX0_laySets_1 10 rfl rfl)
theorem dX0_laySets_35 : decode cX0_laySets 35 = .ok (.iload_n 2, 1) := dk_28 (dk_at dksX0_laySets_1 11 rfl rfl)
theorem dX0_laySets_36 : decode cX0_laySets 36 = .ok (.iconst 1, 1) := dk_4 (dk_at dksX0_laySets_1 12 rfl rfl)
theorem dX0_laySets_37 : decode cX0_laySets 37 = .ok (.aload_n 0, 1) := dk_42 (dk_at dksX0_laySets_1 13 rfl rfl)
theorem dX0_laySets_38 : decode cX0_laySets 38 = .ok (.getfield 39, 3) := dk_180 0 39 (dk_at dksX0_laySets_1 14 rfl rfl)
theorem dX0_laySets_41 : decode cX0_laySets 41 = .ok (.getfield 171, 3) := dk_180 0 171 (dk_at dksX0_laySets_1 17 rfl rfl)
theorem dX0_laySets_44 : decode cX0_laySets 44 = .ok (.ishl, 1) := dk_120 (dk_at dksX0_laySets_1 20 rfl rfl)
theorem dX0_laySets_45 : decode cX0_laySets 45 = .ok (.if_icmp .ge 140, 3) := dk_162 0 140 (dk_at dksX0_laySets_1 21 rfl rfl)
theorem dX0_laySets_48 : decode cX0_laySets 48 = .ok (.iconst 0, 1) := dk_3 (dk_at dksX0_laySets_2 0 rfl rfl)
theorem dX0_laySets_49 : decode cX0_laySets 49 = .ok (.istore_n 3, 1) := dk_62 (dk_at dksX0_laySets_2 1 rfl rfl)
theorem dX0_laySets_50 : decode cX0_laySets 50 = .ok (.iconst 0, 1) := dk_3 (dk_at dksX0_laySets_2 2 rfl rfl)
theorem dX0_laySets_51 : decode cX0_laySets 51 = .ok (.istore 4, 2) := dk_54 4 (dk_at dksX0_laySets_2 3 rfl rfl)
theorem dX0_laySets_53 : decode cX0_laySets 53 = .ok (.iload 4, 2) := dk_21 4 (dk_at dksX0_laySets_2 5 rfl rfl)
theorem dX0_laySets_55 : decode cX0_laySets 55 = .ok (.aload_n 0, 1) := dk_42 (dk_at dksX0_laySets_2 7 rfl rfl)
theorem dX0_laySets_56 : decode cX0_laySets 56 = .ok (.getfield 39, 3) := dk_180 0 39 (dk_at dksX0_laySets_2 8 rfl rfl)
theorem dX0_laySets_59 : decode cX0_laySets 59 = .ok (.getfield 171, 3) := dk_180 0 171 (dk_at dksX0_laySets_2 11 rfl rfl)
theorem dX0_laySets_62 : decode cX0_laySets 62 = .ok (.if_icmp .ge 35, 3) := dk_162 0 35 (dk_at dksX0_laySets_2 14 rfl rfl)
theorem dX0_laySets_65 : decode cX0_laySets 65 = .ok (.iload_n 3, 1) := dk_29 (dk_at dksX0_laySets_2 17 rfl rfl)
theorem dX0_laySets_66 : decode cX0_laySets 66 = .ok (.iload_n 2, 1) := dk_28 (dk_at dksX0_laySets_2 18 rfl rfl)
theorem dX0_laySets_67 : decode cX0_laySets 67 = .ok (.iload 4, 2) := dk_21 4 (dk_at dksX0_laySets_2 19 rfl rfl)
theorem dX0_laySets_69 : decode cX0_laySets 69 = .ok (.invokestatic 205, 3) := dk_184 0 205 (dk_at dksX0_laySets_2 21 rfl rfl)
theorem dX0_laySets_72 : decode cX0_laySets 72 = .ok (.ifCond .eq 16, 3) := dk_153 0 16 (dk_at dksX0_laySets_3 0 rfl rfl)
theorem dX0_laySets_75 : decode cX0_laySets 75 = .ok (.aload_n 0, 1) := dk_42 (dk_at dksX0_laySets_3 3 rfl rfl)
theorem dX0_laySets_76 : decode cX0_laySets 76 = .ok (.getfield 39, 3) := dk_180 0 39 (dk_at dksX0_laySets_3 4 rfl rfl)
theorem dX0_laySets_79 : decode cX0_laySets 79 = .ok (.getfield 241, 3) := dk_180 0 241 (dk_at dksX0_laySets_3 7 rfl rfl)
theorem dX0_laySets_82 : decode cX0_laySets 82 = .ok (.iload 4, 2) := dk_21 4 (dk_at dksX0_laySets_3 10 rfl rfl)
theorem dX0_laySets_84 : decode cX0_laySets 84 = .ok (.iaload, 1) := dk_46 (dk_at dksX0_laySets_3 12 rfl rfl)
theorem dX0_laySets_85 : decode cX0_laySets 85 = .ok (.goto 4, 3) := dk_167 0 4 (dk_at dksX0_laySets_3 13 rfl rfl)
theorem dX0_laySets_88 : decode cX0_laySets 88 = .ok (.iconst 0, 1) := dk_3 (dk_at dksX0_laySets_3 16 rfl rfl)
theorem dX0_laySets_89 : decode cX0_laySets 89 = .ok (.iadd, 1) := dk_96 (dk_at dksX0_laySets_3 17 rfl rfl)
theorem dX0_laySets_90 : decode cX0_laySets 90 = .ok (.istore_n 3, 1) := dk_62 (dk_at dksX0_laySets_3 18 rfl rfl)
theorem dX0_laySets_91 : decode cX0_laySets 91 = .ok (.iinc 4 1, 3) := dk_132 4 1 (dk_at dksX0_laySets_3 19 rfl rfl)
theorem dX0_laySets_94 : decode cX0_laySets 94 = .ok (.goto (-41), 3) := dk_167 255 215 (dk_at dksX0_laySets_4 0 rfl rfl)
theorem dX0_laySets_97 : decode cX0_laySets 97 = .ok (.iload_n 3, 1) := dk_29 (dk_at dksX0_laySets_4 3 rfl rfl)
theorem dX0_laySets_98 : decode cX0_laySets 98 = .ok (.iload_n 1, 1) := dk_27 (dk_at dksX0_laySets_4 4 rfl rfl)
theorem dX0_laySets_99 : decode cX0_laySets 99 = .ok (.if_icmp .eq 6, 3) := dk_159 0 6 (dk_at dksX0_laySets_4 5 rfl rfl)
theorem dX0_laySets_102 : decode cX0_laySets 102 = .ok (.goto 77, 3) := dk_167 0 77 (dk_at dksX0_laySets_4 8 rfl rfl)
theorem dX0_laySets_105 : decode cX0_laySets 105 = .ok (.aload_n 0, 1) := dk_42 (dk_at dksX0_laySets_4 11 rfl rfl)
theorem dX0_laySets_106 : decode cX0_laySets 106 = .ok (.aload_n 0, 1) := dk_42 (dk_at dksX0_laySets_4 12 rfl rfl)
theorem dX0_laySets_107 : decode cX0_laySets 107 = .ok (.getfield 330, 3) := dk_180 1 74 (dk_at dksX0_laySets_4 13 rfl rfl)
theorem dX0_laySets_110 : decode cX0_laySets 110 = .ok (.ifCond .ne 7, 3) := dk_154 0 7 (dk_at dksX0_laySets_4 16 rfl rfl)
theorem dX0_laySets_113 : decode cX0_laySets 113 = .ok (.iload_n 2, 1) := dk_28 (dk_at dksX0_laySets_4 19 rfl rfl)
theorem dX0_laySets_114 : decode cX0_laySets 114 = .ok (.goto 7, 3) := dk_167 0 7 (dk_at dksX0_laySets_4 20 rfl rfl)
theorem dX0_laySets_117 : decode cX0_laySets 117 = .ok (.aload_n 0, 1) := dk_42 (dk_at dksX0_laySets_4 23 rfl rfl)
theorem dX0_laySets_118 : decode cX0_laySets 118 = .ok (.getfield 333, 3) := dk_180 1 77 (dk_at dksX0_laySets_5 0 rfl rfl)
theorem dX0_laySets_121 : decode cX0_laySets 121 = .ok (.putfield 333, 3) := dk_181 1 77 (dk_at dksX0_laySets_5 3 rfl rfl)
theorem dX0_laySets_124 : decode cX0_laySets 124 = .ok (.aload_n 0, 1) := dk_42 (dk_at dksX0_laySets_5 6 rfl rfl)
theorem dX0_laySets_125 : decode cX0_laySets 125 = .ok (.dup, 1) := dk_89 (dk_at dksX0_laySets_5 7 rfl rfl)
theorem dX0_laySets_126 : decode cX0_laySets 126 = .ok (.getfield 330, 3) := dk_180 1 74 (dk_at dksX0_laySets_5 8 rfl rfl)
theorem dX0_laySets_129 : decode cX0_laySets 129 = .ok (.iconst 1, 1) := dk_4 (dk_at dksX0_laySets_5 11 rfl rfl)
theorem dX0_laySets_130 : decode cX0_laySets 130 = .ok (.iadd, 1) := dk_96 (dk_at dksX0_laySets_5 12 rfl rfl)
theorem dX0_laySets_131 : decode cX0_laySets 131 = .ok (.putfield 330, 3) := dk_181 1 74 (dk_at dksX0_laySets_5 13 rfl rfl)
theorem dX0_laySets_134 : decode cX0_laySets 134 = .ok (.iconst 0, 1) := dk_3 (dk_at dksX0_laySets_5 16 rfl rfl)
theorem dX0_laySets_135 : decode cX0_laySets 135 = .ok (.istore 4, 2) := dk_54 4 (dk_at dksX0_laySets_5 17 rfl rfl)
theorem dX0_laySets_137 : decode cX0_laySets 137 = .ok (.iload 4, 2) := dk_21 4 (dk_at dksX0_laySets_5 19 rfl rfl)
theorem dX0_laySets_139 : decode cX0_laySets 139 = .ok (.aload_n 0, 1) := dk_42 (dk_at dksX0_laySets_5 21 rfl rfl)
theorem dX0_laySets_140 : decode cX0_laySets 140 = .ok (.getfield 39, 3) := dk_180 0 39 (dk_at dksX0_laySets_6 0 rfl rfl)
theorem dX0_laySets_143 : decode cX0_laySets 143 = .ok (.getfield 171, 3) := dk_180 0 171 (dk_at dksX0_laySets_6 3 rfl rfl)
theorem dX0_laySets_146 : decode cX0_laySets 146 = .ok (.if_icmp .ge 33, 3) := dk_162 0 33 (dk_at dksX0_laySets_6 6 rfl rfl)
theorem dX0_laySets_149 : decode cX0_laySets 149 = .ok (.aload_n 0, 1) := dk_42 (dk_at dksX0_laySets_6 9 rfl rfl)
theorem dX0_laySets_150 : decode cX0_laySets 150 = .ok (.getfield 67, 3) := dk_180 0 67 (dk_at dksX0_laySets_6 10 rfl rfl)
theorem dX0_laySets_153 : decode cX0_laySets 153 = .ok (.iload 4, 2) := dk_21 4 (dk_at dksX0_laySets_6 13 rfl rfl)
theorem dX0_laySets_155 : decode cX0_laySets 155 = .ok (.dup2, 1) := dk_92 (dk_at dksX0_laySets_6 15 rfl rfl)
theorem dX0_laySets_156 : decode cX0_laySets 156 = .ok (.iaload, 1) := dk_46 (dk_at dksX0_laySets_6 16 rfl rfl)
theorem dX0_laySets_157 : decode cX0_laySets 157 = .ok (.iload_n 2, 1) := dk_28 (dk_at dksX0_laySets_6 17 rfl rfl)
theorem dX0_laySets_158 : decode cX0_laySets 158 = .ok (.iload 4, 2) := dk_21 4 (dk_at dksX0_laySets_6 18 rfl rfl)
theorem dX0_laySets_160 : decode cX0_laySets 160 = .ok (.invokestatic 205, 3) := dk_184 0 205 (dk_at dksX0_laySets_6 20 rfl rfl)
theorem dX0_laySets_163 : decode cX0_laySets 163 = .ok (.ifCond .eq 7, 3) := dk_153 0 7 (dk_at dksX0_laySets_7 0 rfl rfl)
theorem dX0_laySets_166 : decode cX0_laySets 166 = .ok (.iconst 1, 1) := dk_4 (dk_at dksX0_laySets_7 3 rfl rfl)
theorem dX0_laySets_167 : decode cX0_laySets 167 = .ok (.goto 4, 3) := dk_167 0 4 (dk_at dksX0_laySets_7 4 rfl rfl)
theorem dX0_laySets_170 : decode cX0_laySets 170 = .ok (.iconst 0, 1) := dk_3 (dk_at dksX0_laySets_7 7 rfl rfl)
theorem dX0_laySets_171 : decode cX0_laySets 171 = .ok (.iadd, 1) := dk_96 (dk_at dksX0_laySets_7 8 rfl rfl)
theorem dX0_laySets_172 : decode cX0_laySets 172 = .ok (.iastore, 1) := dk_79 (dk_at dksX0_laySets_7 9 rfl rfl)
theorem dX0_laySets_173 : decode cX0_laySets 173 = .ok (.iinc 4 1, 3) := dk_132 4 1 (dk_at dksX0_laySets_7 10 rfl rfl)
theorem dX0_laySets_176 : decode cX0_laySets 176 = .ok (.goto (-39), 3) := dk_167 255 217 (dk_at dksX0_laySets_7 13 rfl rfl)
theorem dX0_laySets_179 : decode cX0_laySets 179 = .ok (.iinc 2 1, 3) := dk_132 2 1 (dk_at dksX0_laySets_7 16 rfl rfl)
theorem dX0_laySets_182 : decode cX0_laySets 182 = .ok (.goto (-147), 3) := dk_167 255 109 (dk_at dksX0_laySets_7 19 rfl rfl)
theorem dX0_laySets_185 : decode cX0_laySets 185 = .ok (.return_, 1) := dk_177 (dk_at dksX0_laySets_7 22 rfl rfl)
abbrev cX0_nextOf : ByteArray := prog_1_method_49_code
def yX0_nextOf : MethodName := ⟨RX0, "nextOf", "()I"⟩
def dkwX0_nextOf_3 : List UInt8 := [180, 0, 39, 180, 0, 171, 154, 0, 9, 19, 1, 28, 167, 0, 4, 27, 172]
abbrev dktX0_nextOf_3 : List UInt8 := dkwX0_nextOf_3 ++ []
def dkwX0_nextOf_2 : List UInt8 := [162, 0, 7, 28, 167, 0, 4, 27, 60, 132, 2, 1, 167, 255, 201, 42, 180, 1, 74, 153, 0, 13, 42]
abbrev dktX0_nextOf_2 : List UInt8 := dkwX0_nextOf_2 ++ dktX0_nextOf_3
def dkwX0_nextOf_1 : List UInt8 := [180, 1, 74, 100, 184, 1, 17, 5, 42, 180, 0, 67, 27, 46, 104, 42, 180, 1, 74, 100, 184, 1, 17]
abbrev dktX0_nextOf_1 : List UInt8 := dkwX0_nextOf_1 ++ dktX0_nextOf_2
def dkwX0_nextOf_0 : List UInt8 := [3, 60, 4, 61, 28, 42, 180, 0, 39, 180, 0, 171, 162, 0, 50, 5, 42, 180, 0, 67, 28, 46, 104, 42]
abbrev dktX0_nextOf_0 : List UInt8 := dkwX0_nextOf_0 ++ dktX0_nextOf_1
theorem dksX0_nextOf_0 : cX0_nextOf.data.toList.drop 0 = dktX0_nextOf_0 := by decide +kernel
theorem dksX0_nextOf_1 : cX0_nextOf.data.toList.drop 24 = dktX0_nextOf_1 := dk_seg dksX0_nextOf_0 24 rfl rfl
theorem dksX0_nextOf_2 : cX0_nextOf.data.toList.drop 47 = dktX0_nextOf_2 := dk_seg dksX0_nextOf_1 23 rfl rfl
theorem dksX0_nextOf_3 : cX0_nextOf.data.toList.drop 70 = dktX0_nextOf_3 := dk_seg dksX0_nextOf_2 23 rfl rfl
theorem dX0_nextOf_0 : decode cX0_nextOf 0 = .ok (.iconst 0, 1) := dk_3 (dk_at dksX0_nextOf_0 0 rfl rfl)
theorem dX0_nextOf_1 : decode cX0_nextOf 1 = .ok (.istore_n 1, 1) := dk_60 (dk_at dksX0_nextOf_0 1 rfl rfl)
theorem dX0_nextOf_2 : decode cX0_nextOf 2 = .ok (.iconst 1, 1) := dk_4 (dk_at dksX0_nextOf_0 2 rfl rfl)
theorem dX0_nextOf_3 : decode cX0_nextOf 3 = .ok (.istore_n 2, 1) := dk_61 (dk_at dksX0_nextOf_0 3 rfl rfl)
theorem dX0_nextOf_4 : decode cX0_nextOf 4 = .ok (.iload_n 2, 1) := dk_28 (dk_at dksX0_nextOf_0 4 rfl rfl)
theorem dX0_nextOf_5 : decode cX0_nextOf 5 = .ok (.aload_n 0, 1) := dk_42 (dk_at dksX0_nextOf_0 5 rfl rfl)
theorem dX0_nextOf_6 : decode cX0_nextOf 6 = .ok (.getfield 39, 3) := dk_180 0 39 (dk_at dksX0_nextOf_0 6 rfl rfl)
theorem dX0_nextOf_9 : decode cX0_nextOf 9 = .ok (.getfield 171, 3) := dk_180 0 171 (dk_at dksX0_nextOf_0 9 rfl rfl)
theorem dX0_nextOf_12 : decode cX0_nextOf 12 = .ok (.if_icmp .ge 50, 3) := dk_162 0 50 (dk_at dksX0_nextOf_0 12 rfl rfl)
theorem dX0_nextOf_15 : decode cX0_nextOf 15 = .ok (.iconst 2, 1) := dk_5 (dk_at dksX0_nextOf_0 15 rfl rfl)
theorem dX0_nextOf_16 : decode cX0_nextOf 16 = .ok (.aload_n 0, 1) := dk_42 (dk_at dksX0_nextOf_0 16 rfl rfl)
theorem dX0_nextOf_17 : decode cX0_nextOf 17 = .ok (.getfield 67, 3) := dk_180 0 67 (dk_at dksX0_nextOf_0 17 rfl rfl)
theorem dX0_nextOf_20 : decode cX0_nextOf 20 = .ok (.iload_n 2, 1) := dk_28 (dk_at dksX0_nextOf_0 20 rfl rfl)
theorem dX0_nextOf_21 : decode cX0_nextOf 21 = .ok (.iaload, 1) := dk_46 (dk_at dksX0_nextOf_0 21 rfl rfl)
theorem dX0_nextOf_22 : decode cX0_nextOf 22 = .ok (.imul, 1) := dk_104 (dk_at dksX0_nextOf_0 22 rfl rfl)
theorem dX0_nextOf_23 : decode cX0_nextOf 23 = .ok (.aload_n 0, 1) := dk_42 (dk_at dksX0_nextOf_0 23 rfl rfl)
theorem dX0_nextOf_24 : decode cX0_nextOf 24 = .ok (.getfield 330, 3) := dk_180 1 74 (dk_at dksX0_nextOf_1 0 rfl rfl)
theorem dX0_nextOf_27 : decode cX0_nextOf 27 = .ok (.isub, 1) := dk_100 (dk_at dksX0_nextOf_1 3 rfl rfl)
theorem dX0_nextOf_28 : decode cX0_nextOf 28 = .ok (.invokestatic 273, 3) := dk_184 1 17 (dk_at dksX0_nextOf_1 4 rfl rfl)
theorem dX0_nextOf_31 : decode cX0_nextOf 31 = .ok (.iconst 2, 1) := dk_5 (dk_at dksX0_nextOf_1 7 rfl rfl)
theorem dX0_nextOf_32 : decode cX0_nextOf 32 = .ok (.aload_n 0, 1) := dk_42 (dk_at dksX0_nextOf_1 8 rfl rfl)
theorem dX0_nextOf_33 : decode cX0_nextOf 33 = .ok (.getfield 67, 3) := dk_180 0 67 (dk_at dksX0_nextOf_1 9 rfl rfl)
theorem dX0_nextOf_36 : decode cX0_nextOf 36 = .ok (.iload_n 1, 1) := dk_27 (dk_at dksX0_nextOf_1 12 rfl rfl)
theorem dX0_nextOf_37 : decode cX0_nextOf 37 = .ok (.iaload, 1) := dk_46 (dk_at dksX0_nextOf_1 13 rfl rfl)
theorem dX0_nextOf_38 : decode cX0_nextOf 38 = .ok (.imul, 1) := dk_104 (dk_at dksX0_nextOf_1 14 rfl rfl)
theorem dX0_nextOf_39 : decode cX0_nextOf 39 = .ok (.aload_n 0, 1) := dk_42 (dk_at dksX0_nextOf_1 15 rfl rfl)
theorem dX0_nextOf_40 : decode cX0_nextOf 40 = .ok (.getfield 330, 3) := dk_180 1 74 (dk_at dksX0_nextOf_1 16 rfl rfl)
theorem dX0_nextOf_43 : decode cX0_nextOf 43 = .ok (.isub, 1) := dk_100 (dk_at dksX0_nextOf_1 19 rfl rfl)
theorem dX0_nextOf_44 : decode cX0_nextOf 44 = .ok (.invokestatic 273, 3) := dk_184 1 17 (dk_at dksX0_nextOf_1 20 rfl rfl)
theorem dX0_nextOf_47 : decode cX0_nextOf 47 = .ok (.if_icmp .ge 7, 3) := dk_162 0 7 (dk_at dksX0_nextOf_2 0 rfl rfl)
theorem dX0_nextOf_50 : decode cX0_nextOf 50 = .ok (.iload_n 2, 1) := dk_28 (dk_at dksX0_nextOf_2 3 rfl rfl)
theorem dX0_nextOf_51 : decode cX0_nextOf 51 = .ok (.goto 4, 3) := dk_167 0 4 (dk_at dksX0_nextOf_2 4 rfl rfl)
theorem dX0_nextOf_54 : decode cX0_nextOf 54 = .ok (.iload_n 1, 1) := dk_27 (dk_at dksX0_nextOf_2 7 rfl rfl)
theorem dX0_nextOf_55 : decode cX0_nextOf 55 = .ok (.istore_n 1, 1) := dk_60 (dk_at dksX0_nextOf_2 8 rfl rfl)
theorem dX0_nextOf_56 : decode cX0_nextOf 56 = .ok (.iinc 2 1, 3) := dk_132 2 1 (dk_at dksX0_nextOf_2 9 rfl rfl)
theorem dX0_nextOf_59 : decode cX0_nextOf 59 = .ok (.goto (-55), 3) := dk_167 255 201 (dk_at dksX0_nextOf_2 12 rfl rfl)
theorem dX0_nextOf_62 : decode cX0_nextOf 62 = .ok (.aload_n 0, 1) := dk_42 (dk_at dksX0_nextOf_2 15 rfl rfl)
theorem dX0_nextOf_63 : decode cX0_nextOf 63 = .ok (.getfield 330, 3) := dk_180 1 74 (dk_at dksX0_nextOf_2 16 rfl rfl)
theorem dX0_nextOf_66 : decode cX0_nextOf 66 = .ok (.ifCond .eq 13, 3) := dk_153 0 13 (dk_at dksX0_nextOf_2 19 rfl rfl)
theorem dX0_nextOf_69 : decode cX0_nextOf 69 = .ok (.aload_n 0, 1) := dk_42 (dk_at dksX0_nextOf_2 22 rfl rfl)
theorem dX0_nextOf_70 : decode cX0_nextOf 70 = .ok (.getfield 39, 3) := dk_180 0 39 (dk_at dksX0_nextOf_3 0 rfl rfl)
theorem dX0_nextOf_73 : decode cX0_nextOf 73 = .ok (.getfield 171, 3) := dk_180 0 171 (dk_at dksX0_nextOf_3 3 rfl rfl)
theorem dX0_nextOf_76 : decode cX0_nextOf 76 = .ok (.ifCond .ne 9, 3) := dk_154 0 9 (dk_at dksX0_nextOf_3 6 rfl rfl)
theorem dX0_nextOf_79 : decode cX0_nextOf 79 = .ok (.ldc_w 284, 3) := dk_19 1 28 (dk_at dksX0_nextOf_3 9 rfl rfl)
theorem dX0_nextOf_82 : decode cX0_nextOf 82 = .ok (.goto 4, 3) := dk_167 0 4 (dk_at dksX0_nextOf_3 12 rfl rfl)
theorem dX0_nextOf_85 : decode cX0_nextOf 85 = .ok (.iload_n 1, 1) := dk_27 (dk_at dksX0_nextOf_3 15 rfl rfl)
theorem dX0_nextOf_86 : decode cX0_nextOf 86 = .ok (.ireturn, 1) := dk_172 (dk_at dksX0_nextOf_3 16 rfl rfl)
abbrev cX0_lies : ByteArray := prog_1_method_51_code
def yX0_lies : MethodName := ⟨RX0, "lies", "(II)I"⟩
def dkwX0_lies_4 : List UInt8 := [42, 45, 182, 0, 105, 172]
abbrev dktX0_lies_4 : List UInt8 := dkwX0_lies_4 ++ []
def dkwX0_lies_3 : List UInt8 := [21, 5, 120, 167, 0, 4, 3, 128, 54, 4, 132, 5, 1, 167, 255, 217, 42, 21, 4, 182, 0, 101, 172, 78]
abbrev dktX0_lies_3 : List UInt8 := dkwX0_lies_3 ++ dktX0_lies_4
def dkwX0_lies_2 : List UInt8 := [190, 162, 0, 38, 21, 4, 42, 180, 0, 39, 21, 5, 182, 0, 223, 45, 21, 5, 46, 162, 0, 10, 4]
abbrev dktX0_lies_2 : List UInt8 := dkwX0_lies_2 ++ dktX0_lies_3
def dkwX0_lies_1 : List UInt8 := [182, 0, 109, 28, 42, 180, 0, 39, 182, 0, 166, 182, 1, 88, 78, 3, 54, 4, 3, 54, 5, 21, 5, 45]
abbrev dktX0_lies_1 : List UInt8 := dkwX0_lies_1 ++ dktX0_lies_2
def dkwX0_lies_0 : List UInt8 := [42, 182, 0, 226, 154, 0, 6, 18, 170, 172, 27, 184, 0, 91, 154, 0, 6, 18, 97, 172, 42, 27]
abbrev dktX0_lies_0 : List UInt8 := dkwX0_lies_0 ++ dktX0_lies_1
theorem dksX0_lies_0 : cX0_lies.data.toList.drop 0 = dktX0_lies_0 := by decide +kernel
theorem dksX0_lies_1 : cX0_lies.data.toList.drop 22 = dktX0_lies_1 := dk_seg dksX0_lies_0 22 rfl rfl
theorem dksX0_lies_2 : cX0_lies.data.toList.drop 46 = dktX0_lies_2 := dk_seg dksX0_lies_1 24 rfl rfl
theorem dksX0_lies_3 : cX0_lies.data.toList.drop 69 = dktX0_lies_3 := dk_seg dksX0_lies_2 23 rfl rfl
theorem dksX0_lies_4 : cX0_lies.data.toList.drop 93 = dktX0_lies_4 := dk_seg dksX0_lies_3 24 rfl rfl
theorem dX0_lies_0 : decode cX0_lies 0 = .ok (.aload_n 0, 1) := dk_42 (dk_at dksX0_lies_0 0 rfl rfl)
theorem dX0_lies_1 : decode cX0_lies 1 = .ok (.invokevirtual 226, 3) := dk_182 0 226 (dk_at dksX0_lies_0 1 rfl rfl)
theorem dX0_lies_4 : decode cX0_lies 4 = .ok (.ifCond .ne 6, 3) := dk_154 0 6 (dk_at dksX0_lies_0 4 rfl rfl)
theorem dX0_lies_7 : decode cX0_lies 7 = .ok (.ldc 170, 2) := dk_18 170 (dk_at dksX0_lies_0 7 rfl rfl)
theorem dX0_lies_9 : decode cX0_lies 9 = .ok (.ireturn, 1) := dk_172 (dk_at dksX0_lies_0 9 rfl rfl)
theorem dX0_lies_10 : decode cX0_lies 10 = .ok (.iload_n 1, 1) := dk_27 (dk_at dksX0_lies_0 10 rfl rfl)
theorem dX0_lies_11 : decode cX0_lies 11 = .ok (.invokestatic 91, 3) := dk_184 0 91 (dk_at dksX0_lies_0 11 rfl rfl)
theorem dX0_lies_14 : decode cX0_lies 14 = .ok (.ifCond .ne 6, 3) := dk_154 0 6 (dk_at dksX0_lies_0 14 rfl rfl)
theorem dX0_lies_17 : decode cX0_lies 17 = .ok (.ldc 97, 2) := dk_18 97 (dk_at dksX0_lies_0 17 rfl rfl)
theorem dX0_lies_19 : decode cX0_lies 19 = .ok (.ireturn, 1) := dk_172 (dk_at dksX0_lies_0 19 rfl rfl)
theorem dX0_lies_20 : decode cX0_lies 20 = .ok (.aload_n 0, 1) := dk_42 (dk_at dksX0_lies_0 20 rfl rfl)
theorem dX0_lies_21 : decode cX0_lies 21 = .ok (.iload_n 1, 1) := dk_27 (dk_at dksX0_lies_0 21 rfl rfl)
theorem dX0_lies_22 : decode cX0_lies 22 = .ok (.invokevirtual 109, 3) := dk_182 0 109 (dk_at dksX0_lies_1 0 rfl rfl)
theorem dX0_lies_25 : decode cX0_lies 25 = .ok (.iload_n 2, 1) := dk_28 (dk_at dksX0_lies_1 3 rfl rfl)
theorem dX0_lies_26 : decode cX0_lies 26 = .ok (.aload_n 0, 1) := dk_42 (dk_at dksX0_lies_1 4 rfl rfl)
theorem dX0_lies_27 : decode cX0_lies 27 = .ok (.getfield 39, 3) := dk_180 0 39 (dk_at dksX0_lies_1 5 rfl rfl)
theorem dX0_lies_30 : decode cX0_lies 30 = .ok (.invokevirtual 166, 3) := dk_182 0 166 (dk_at dksX0_lies_1 8 rfl rfl)
theorem dX0_lies_33 : decode cX0_lies 33 = .ok (.invokevirtual 344, 3) := dk_182 1 88 (dk_at dksX0_lies_1 11 rfl rfl)
theorem dX0_lies_36 : decode cX0_lies 36 = .ok (.astore_n 3, 1) := dk_78 (dk_at dksX0_lies_1 14 rfl rfl)
theorem dX0_lies_37 : decode cX0_lies 37 = .ok (.iconst 0, 1) := dk_3 (dk_at dksX0_lies_1 15 rfl rfl)
theorem dX0_lies_38 : decode cX0_lies 38 = .ok (.istore 4, 2) := dk_54 4 (dk_at dksX0_lies_1 16 rfl rfl)
theorem dX0_lies_40 : decode cX0_lies 40 = .ok (.iconst 0, 1) := dk_3 (dk_at dksX0_lies_1 18 rfl rfl)
theorem dX0_lies_41 : decode cX0_lies 41 = .ok (.istore 5, 2) := dk_54 5 (dk_at dksX0_lies_1 19 rfl rfl)
theorem dX0_lies_43 : decode cX0_lies 43 = .ok (.iload 5, 2) := dk_21 5 (dk_at dksX0_lies_1 21 rfl rfl)
theorem dX0_lies_45 : decode cX0_lies 45 = .ok (.aload_n 3, 1) := dk_45 (dk_at dksX0_lies_1 23 rfl rfl)
theorem dX0_lies_46 : decode cX0_lies 46 = .ok (.arraylength, 1) := dk_190 (dk_at dksX0_lies_2 0 rfl rfl)
theorem dX0_lies_47 : decode cX0_lies 47 = .ok (.if_icmp .ge 38, 3) := dk_162 0 38 (dk_at dksX0_lies_2 1 rfl rfl)
theorem dX0_lies_50 : decode cX0_lies 50 = .ok (.iload 4, 2) := dk_21 4 (dk_at dksX0_lies_2 4 rfl rfl)
theorem dX0_lies_52 : decode cX0_lies 52 = .ok (.aload_n 0, 1) := dk_42 (dk_at dksX0_lies_2 6 rfl rfl)
theorem dX0_lies_53 : decode cX0_lies 53 = .ok (.getfield 39, 3) := dk_180 0 39 (dk_at dksX0_lies_2 7 rfl rfl)
theorem dX0_lies_56 : decode cX0_lies 56 = .ok (.iload 5, 2) := dk_21 5 (dk_at dksX0_lies_2 10 rfl rfl)
theorem dX0_lies_58 : decode cX0_lies 58 = .ok (.invokevirtual 223, 3) := dk_182 0 223 (dk_at dksX0_lies_2 12 rfl rfl)
theorem dX0_lies_61 : decode cX0_lies 61 = .ok (.aload_n 3, 1) := dk_45 (dk_at dksX0_lies_2 15 rfl rfl)
theorem dX0_lies_62 : decode cX0_lies 62 = .ok (.iload 5, 2) := dk_21 5 (dk_at dksX0_lies_2 16 rfl rfl)
theorem dX0_lies_64 : decode cX0_lies 64 = .ok (.iaload, 1) := dk_46 (dk_at dksX0_lies_2 18 rfl rfl)
theorem dX0_lies_65 : decode cX0_lies 65 = .ok (.if_icmp .ge 10, 3) := dk_162 0 10 (dk_at dksX0_lies_2 19 rfl rfl)
theorem dX0_lies_68 : decode cX0_lies 68 = .ok (.iconst 1, 1) := dk_4 (dk_at dksX0_lies_2 22 rfl rfl)
theorem dX0_lies_69 : decode cX0_lies 69 = .ok (.iload 5, 2) := dk_21 5 (dk_at dksX0_lies_3 0 rfl rfl)
theorem dX0_lies_71 : decode cX0_lies 71 = .ok (.ishl, 1) := dk_120 (dk_at dksX0_lies_3 2 rfl rfl)
theorem dX0_lies_72 : decode cX0_lies 72 = .ok (.goto 4, 3) := dk_167 0 4 (dk_at dksX0_lies_3 3 rfl rfl)
theorem dX0_lies_75 : decode cX0_lies 75 = .ok (.iconst 0, 1) := dk_3 (dk_at dksX0_lies_3 6 rfl rfl)
theorem dX0_lies_76 : decode cX0_lies 76 = .ok (.ior, 1) := dk_128 (dk_at dksX0_lies_3 7 rfl rfl)
theorem dX0_lies_77 : decode cX0_lies 77 = .ok (.istore 4, 2) := dk_54 4 (dk_at dksX0_lies_3 8 rfl rfl)
theorem dX0_lies_79 : decode cX0_lies 79 = .ok (.iinc 5 1, 3) := dk_132 5 1 (dk_at dksX0_lies_3 10 rfl rfl)
theorem dX0_lies_82 : decode cX0_lies 82 = .ok (.goto (-39), 3) := dk_167 255 217 (dk_at dksX0_lies_3 13 rfl rfl)
theorem dX0_lies_85 : decode cX0_lies 85 = .ok (.aload_n 0, 1) := dk_42 (dk_at dksX0_lies_3 16 rfl rfl)
theorem dX0_lies_86 : decode cX0_lies 86 = .ok (.iload 4, 2) := dk_21 4 (dk_at dksX0_lies_3 17 rfl rfl)
theorem dX0_lies_88 : decode cX0_lies 88 = .ok (.invokevirtual 101, 3) := dk_182 0 101 (dk_at dksX0_lies_3 19 rfl rfl)
theorem dX0_lies_91 : decode cX0_lies 91 = .ok (.ireturn, 1) := dk_172 (dk_at dksX0_lies_3 22 rfl rfl)
theorem dX0_lies_92 : decode cX0_lies 92 = .ok (.astore_n 3, 1) := dk_78 (dk_at dksX0_lies_3 23 rfl rfl)
theorem dX0_lies_93 : decode cX0_lies 93 = .ok (.aload_n 0, 1) := dk_42 (dk_at dksX0_lies_4 0 rfl rfl)
theorem dX0_lies_94 : decode cX0_lies 94 = .ok (.aload_n 3, 1) := dk_45 (dk_at dksX0_lies_4 1 rfl rfl)
theorem dX0_lies_95 : decode cX0_lies 95 = .ok (.invokevirtual 105, 3) := dk_182 0 105 (dk_at dksX0_lies_4 2 rfl rfl)
theorem dX0_lies_98 : decode cX0_lies 98 = .ok (.ireturn, 1) := dk_172 (dk_at dksX0_lies_4 5 rfl rfl)
abbrev cX0_crushed : ByteArray := prog_1_method_52_code
def yX0_crushed : MethodName := ⟨RX0, "crushed", "(I)I"⟩
def dkwX0_crushed_3 : List UInt8 := [172]
abbrev dktX0_crushed_3 : List UInt8 := dkwX0_crushed_3 ++ []
def dkwX0_crushed_2 : List UInt8 := [182, 0, 232, 42, 180, 0, 43, 182, 0, 238, 154, 0, 5, 28, 172, 132, 2, 1, 167, 255, 229, 19, 1, 28]
abbrev dktX0_crushed_2 : List UInt8 := dkwX0_crushed_2 ++ dktX0_crushed_3
def dkwX0_crushed_1 : List UInt8 := [172, 42, 180, 0, 43, 42, 180, 0, 39, 182, 0, 159, 87, 3, 61, 28, 27, 162, 0, 28, 42, 180, 0, 43]
abbrev dktX0_crushed_1 : List UInt8 := dkwX0_crushed_1 ++ dktX0_crushed_2
def dkwX0_crushed_0 : List UInt8 := [42, 182, 0, 226, 154, 0, 6, 18, 170, 172, 27, 133, 10, 20, 1, 92, 184, 0, 83, 154, 0, 6, 18, 97]
abbrev dktX0_crushed_0 : List UInt8 := dkwX0_crushed_0 ++ dktX0_crushed_1
theorem dksX0_crushed_0 : cX0_crushed.data.toList.drop 0 = dktX0_crushed_0 := by decide +kernel
theorem dksX0_crushed_1 : cX0_crushed.data.toList.drop 24 = dktX0_crushed_1 := dk_seg dksX0_crushed_0 24 rfl rfl
theorem dksX0_crushed_2 : cX0_crushed.data.toList.drop 48 = dktX0_crushed_2 := dk_seg dksX0_crushed_1 24 rfl rfl
theorem dksX0_crushed_3 : cX0_crushed.data.toList.drop 72 = dktX0_crushed_3 := dk_seg dksX0_crushed_2 24 rfl rfl
theorem dX0_crushed_0 : decode cX0_crushed 0 = .ok (.aload_n 0, 1) := dk_42 (dk_at dksX0_crushed_0 0 rfl rfl)
theorem dX0_crushed_1 : decode cX0_crushed 1 = .ok (.invokevirtual 226, 3) := dk_182 0 226 (dk_at dksX0_crushed_0 1 rfl rfl)
theorem dX0_crushed_4 : decode cX0_crushed 4 = .ok (.ifCond .ne 6, 3) := dk_154 0 6 (dk_at dksX0_crushed_0 4 rfl rfl)
theorem dX0_crushed_7 : decode cX0_crushed 7 = .ok (.ldc 170, 2) := dk_18 170 (dk_at dksX0_crushed_0 7 rfl rfl)
theorem dX0_crushed_9 : decode cX0_crushed 9 = .ok (.ireturn, 1) := dk_172 (dk_at dksX0_crushed_0 9 rfl rfl)
theorem dX0_crushed_10 : decode cX0_crushed 10 = .ok (.iload_n 1, 1) := dk_27 (dk_at dksX0_crushed_0 10 rfl rfl)
theorem dX0_crushed_11 : decode cX0_crushed 11 = .ok (.i2l, 1) := dk_133 (dk_at dksX0_crushed_0 11 rfl rfl)
theorem dX0_crushed_12 : decode cX0_crushed 12 = .ok (.lconst 1, 1) := dk_10 (dk_at dksX0_crushed_0 12 rfl rfl)
theorem dX0_crushed_13 : decode cX0_crushed 13 = .ok (.ldc2_w 348, 3) := dk_20 1 92 (dk_at dksX0_crushed_0 13 rfl rfl)
theorem dX0_crushed_16 : decode cX0_crushed 16 = .ok (.invokestatic 83, 3) := dk_184 0 83 (dk_at dksX0_crushed_0 16 rfl rfl)
theorem dX0_crushed_19 : decode cX0_crushed 19 = .ok (.ifCond .ne 6, 3) := dk_154 0 6 (dk_at dksX0_crushed_0 19 rfl rfl)
theorem dX0_crushed_22 : decode cX0_crushed 22 = .ok (.ldc 97, 2) := dk_18 97 (dk_at dksX0_crushed_0 22 rfl rfl)
theorem dX0_crushed_24 : decode cX0_crushed 24 = .ok (.ireturn, 1) := dk_172 (dk_at dksX0_crushed_1 0 rfl rfl)
theorem dX0_crushed_25 : decode cX0_crushed 25 = .ok (.aload_n 0, 1) := dk_42 (dk_at dksX0_crushed_1 1 rfl rfl)
theorem dX0_crushed_26 : decode cX0_crushed 26 = .ok (.getfield 43, 3) := dk_180 0 43 (dk_at dksX0_crushed_1 2 rfl rfl)
theorem dX0_crushed_29 : decode cX0_crushed 29 = .ok (.aload_n 0, 1) := dk_42 (dk_at dksX0_crushed_1 5 rfl rfl)
theorem dX0_crushed_30 : decode cX0_crushed 30 = .ok (.getfield 39, 3) := dk_180 0 39 (dk_at dksX0_crushed_1 6 rfl rfl)
theorem dX0_crushed_33 : decode cX0_crushed 33 = .ok (.invokevirtual 159, 3) := dk_182 0 159 (dk_at dksX0_crushed_1 9 rfl rfl)
theorem dX0_crushed_36 : decode cX0_crushed 36 = .ok (.pop, 1) := dk_87 (dk_at dksX0_crushed_1 12 rfl rfl)
theorem dX0_crushed_37 : decode cX0_crushed 37 = .ok (.iconst 0, 1) := dk_3 (dk_at dksX0_crushed_1 13 rfl rfl)
theorem dX0_crushed_38 : decode cX0_crushed 38 = .ok (.istore_n 2, 1) := dk_61 (dk_at dksX0_crushed_1 14 rfl rfl)
theorem dX0_crushed_39 : decode cX0_crushed 39 = .ok (.iload_n 2, 1) := dk_28 (dk_at dksX0_crushed_1 15 rfl rfl)
theorem dX0_crushed_40 : decode cX0_crushed 40 = .ok (.iload_n 1, 1) := dk_27 (dk_at dksX0_crushed_1 16 rfl rfl)
theorem dX0_crushed_41 : decode cX0_crushed 41 = .ok (.if_icmp .ge 28, 3) := dk_162 0 28 (dk_at dksX0_crushed_1 17 rfl rfl)
theorem dX0_crushed_44 : decode cX0_crushed 44 = .ok (.aload_n 0, 1) := dk_42 (dk_at dksX0_crushed_1 20 rfl rfl)
theorem dX0_crushed_45 : decode cX0_crushed 45 = .ok (.getfield 43, 3) := dk_180 0 43 (dk_at dksX0_crushed_1 21 rfl rfl)
theorem dX0_crushed_48 : decode cX0_crushed 48 = .ok (.invokevirtual 232, 3) := dk_182 0 232 (dk_at dksX0_crushed_2 0 rfl rfl)
theorem dX0_crushed_51 : decode cX0_crushed 51 = .ok (.aload_n 0, 1) := dk_42 (dk_at dksX0_crushed_2 3 rfl rfl)
theorem dX0_crushed_52 : decode cX0_crushed 52 = .ok (.getfield 43, 3) := dk_180 0 43 (dk_at dksX0_crushed_2 4 rfl rfl)
theorem dX0_crushed_55 : decode cX0_crushed 55 = .ok (.invokevirtual 238, 3) := dk_182 0 238 (dk_at dksX0_crushed_2 7 rfl rfl)
theorem dX0_crushed_58 : decode cX0_crushed 58 = .ok (.ifCond .ne 5, 3) := dk_154 0 5 (dk_at dksX0_crushed_2 10 rfl rfl)
theorem dX0_crushed_61 : decode cX0_crushed 61 = .ok (.iload_n 2, 1) := dk_28 (dk_at dksX0_crushed_2 13 rfl rfl)
theorem dX0_crushed_62 : decode cX0_crushed 62 = .ok (.ireturn, 1) := dk_172 (dk_at dksX0_crushed_2 14 rfl rfl)
theorem dX0_crushed_63 : decode cX0_crushed 63 = .ok (.iinc 2 1, 3) := dk_132 2 1 (dk_at dksX0_crushed_2 15 rfl rfl)
theorem dX0_crushed_66 : decode cX0_crushed 66 = .ok (.goto (-27), 3) := dk_167 255 229 (dk_at dksX0_crushed_2 18 rfl rfl)
theorem dX0_crushed_69 : decode cX0_crushed 69 = .ok (.ldc_w 284, 3) := dk_19 1 28 (dk_at dksX0_crushed_2 21 rfl rfl)
theorem dX0_crushed_72 : decode cX0_crushed 72 = .ok (.ireturn, 1) := dk_172 (dk_at dksX0_crushed_3 0 rfl rfl)
abbrev cX0_late : ByteArray := prog_1_method_53_code
def yX0_late : MethodName := ⟨RX0, "late", "()I"⟩
def dkwX0_late_3 : List UInt8 := [132, 2, 1, 167, 255, 199, 27, 172]
abbrev dktX0_late_3 : List UInt8 := dkwX0_late_3 ++ []
def dkwX0_late_2 : List UInt8 := [180, 0, 214, 42, 180, 0, 39, 180, 0, 217, 28, 46, 164, 0, 9, 4, 28, 120, 167, 0, 4, 3, 128, 60]
abbrev dktX0_late_2 : List UInt8 := dkwX0_late_2 ++ dktX0_late_3
def dkwX0_late_1 : List UInt8 := [162, 0, 52, 27, 42, 180, 0, 39, 180, 0, 202, 28, 184, 0, 205, 154, 0, 28, 42, 180, 0, 39]
abbrev dktX0_late_1 : List UInt8 := dkwX0_late_1 ++ dktX0_late_2
def dkwX0_late_0 : List UInt8 := [42, 182, 0, 226, 154, 0, 6, 18, 170, 172, 3, 60, 3, 61, 28, 42, 180, 0, 39, 180, 0, 171]
abbrev dktX0_late_0 : List UInt8 := dkwX0_late_0 ++ dktX0_late_1
theorem dksX0_late_0 : cX0_late.data.toList.drop 0 = dktX0_late_0 := by decide +kernel
theorem dksX0_late_1 : cX0_late.data.toList.drop 22 = dktX0_late_1 := dk_seg dksX0_late_0 22 rfl rfl
theorem dksX0_late_2 : cX0_late.data.toList.drop 44 = dktX0_late_2 := dk_seg dksX0_late_1 22 rfl rfl
theorem dksX0_late_3 : cX0_late.data.toList.drop 68 = dktX0_late_3 := dk_seg dksX0_late_2 24 rfl rfl
theorem dX0_late_0 : decode cX0_late 0 = .ok (.aload_n 0, 1) := dk_42 (dk_at dksX0_late_0 0 rfl rfl)
theorem dX0_late_1 : decode cX0_late 1 = .ok (.invokevirtual 226, 3) := dk_182 0 226 (dk_at dksX0_late_0 1 rfl rfl)
theorem dX0_late_4 : decode cX0_late 4 = .ok (.ifCond .ne 6, 3) := dk_154 0 6 (dk_at dksX0_late_0 4 rfl rfl)
theorem dX0_late_7 : decode cX0_late 7 = .ok (.ldc 170, 2) := dk_18 170 (dk_at dksX0_late_0 7 rfl rfl)
theorem dX0_late_9 : decode cX0_late 9 = .ok (.ireturn, 1) := dk_172 (dk_at dksX0_late_0 9 rfl rfl)
theorem dX0_late_10 : decode cX0_late 10 = .ok (.iconst 0, 1) := dk_3 (dk_at dksX0_late_0 10 rfl rfl)
theorem dX0_late_11 : decode cX0_late 11 = .ok (.istore_n 1, 1) := dk_60 (dk_at dksX0_late_0 11 rfl rfl)
theorem dX0_late_12 : decode cX0_late 12 = .ok (.iconst 0, 1) := dk_3 (dk_at dksX0_late_0 12 rfl rfl)
theorem dX0_late_13 : decode cX0_late 13 = .ok (.istore_n 2, 1) := dk_61 (dk_at dksX0_late_0 13 rfl rfl)
theorem dX0_late_14 : decode cX0_late 14 = .ok (.iload_n 2, 1) := dk_28 (dk_at dksX0_late_0 14 rfl rfl)
theorem dX0_late_15 : decode cX0_late 15 = .ok (.aload_n 0, 1) := dk_42 (dk_at dksX0_late_0 15 rfl rfl)
theorem dX0_late_16 : decode cX0_late 16 = .ok (.getfield 39, 3) := dk_180 0 39 (dk_at dksX0_late_0 16 rfl rfl)
theorem dX0_late_19 : decode cX0_late 19 = .ok (.getfield 171, 3) := dk_180 0 171 (dk_at dksX0_late_0 19 rfl rfl)
theorem dX0_late_22 : decode cX0_late 22 = .ok (.if_icmp .ge 52, 3) := dk_162 0 52 (dk_at dksX0_late_1 0 rfl rfl)
theorem dX0_late_25 : decode cX0_late 25 = .ok (.iload_n 1, 1) := dk_27 (dk_at dksX0_late_1 3 rfl rfl)
theorem dX0_late_26 : decode cX0_late 26 = .ok (.aload_n 0, 1) := dk_42 (dk_at dksX0_late_1 4 rfl rfl)
theorem dX0_late_27 : decode cX0_late 27 = .ok (.getfield 39, 3) := dk_180 0 39 (dk_at dksX0_late_1 5 rfl rfl)
theorem dX0_late_30 : decode cX0_late 30 = .ok (.getfield 202, 3) := dk_180 0 202 (dk_at dksX0_late_1 8 rfl rfl)
theorem dX0_late_33 : decode cX0_late 33 = .ok (.iload_n 2, 1) := dk_28 (dk_at dksX0_late_1 11 rfl rfl)
theorem dX0_late_34 : decode cX0_late 34 = .ok (.invokestatic 205, 3) := dk_184 0 205 (dk_at dksX0_late_1 12 rfl rfl)
theorem dX0_late_37 : decode cX0_late 37 = .ok (.ifCond .ne 28, 3) := dk_154 0 28 (dk_at dksX0_late_1 15 rfl rfl)
theorem dX0_late_40 : decode cX0_late 40 = .ok (.aload_n 0, 1) := dk_42 (dk_at dksX0_late_1 18 rfl rfl)
theorem dX0_late_41 : decode cX0_late 41 = .ok (.getfield 39, 3) := dk_180 0 39 (dk_at dksX0_late_1 19 rfl rfl)
theorem dX0_late_44 : decode cX0_late 44 = .ok (.getfield 214, 3) := dk_180 0 214 (dk_at dksX0_late_2 0 rfl rfl)
theorem dX0_late_47 : decode cX0_late 47 = .ok (.aload_n 0, 1) := dk_42 (dk_at dksX0_late_2 3 rfl rfl)
theorem dX0_late_48 : decode cX0_late 48 = .ok (.getfield 39, 3) := dk_180 0 39 (dk_at dksX0_late_2 4 rfl rfl)
theorem dX0_late_51 : decode cX0_late 51 = .ok (.getfield 217, 3) := dk_180 0 217 (dk_at dksX0_late_2 7 rfl rfl)
theorem dX0_late_54 : decode cX0_late 54 = .ok (.iload_n 2, 1) := dk_28 (dk_at dksX0_late_2 10 rfl rfl)
theorem dX0_late_55 : decode cX0_late 55 = .ok (.iaload, 1) := dk_46 (dk_at dksX0_late_2 11 rfl rfl)
theorem dX0_late_56 : decode cX0_late 56 = .ok (.if_icmp .le 9, 3) := dk_164 0 9 (dk_at dksX0_late_2 12 rfl rfl)
theorem dX0_late_59 : decode cX0_late 59 = .ok (.iconst 1, 1) := dk_4 (dk_at dksX0_late_2 15 rfl rfl)
theorem dX0_late_60 : decode cX0_late 60 = .ok (.iload_n 2, 1) := dk_28 (dk_at dksX0_late_2 16 rfl rfl)
theorem dX0_late_61 : decode cX0_late 61 = .ok (.ishl, 1) := dk_120 (dk_at dksX0_late_2 17 rfl rfl)
theorem dX0_late_62 : decode cX0_late 62 = .ok (.goto 4, 3) := dk_167 0 4 (dk_at dksX0_late_2 18 rfl rfl)
theorem dX0_late_65 : decode cX0_late 65 = .ok (.iconst 0, 1) := dk_3 (dk_at dksX0_late_2 21 rfl rfl)
theorem dX0_late_66 : decode cX0_late 66 = .ok (.ior, 1) := dk_128 (dk_at dksX0_late_2 22 rfl rfl)
theorem dX0_late_67 : decode cX0_late 67 = .ok (.istore_n 1, 1) := dk_60 (dk_at dksX0_late_2 23 rfl rfl)
theorem dX0_late_68 : decode cX0_late 68 = .ok (.iinc 2 1, 3) := dk_132 2 1 (dk_at dksX0_late_3 0 rfl rfl)
theorem dX0_late_71 : decode cX0_late 71 = .ok (.goto (-57), 3) := dk_167 255 199 (dk_at dksX0_late_3 3 rfl rfl)
theorem dX0_late_74 : decode cX0_late 74 = .ok (.iload_n 1, 1) := dk_27 (dk_at dksX0_late_3 6 rfl rfl)
theorem dX0_late_75 : decode cX0_late 75 = .ok (.ireturn, 1) := dk_172 (dk_at dksX0_late_3 7 rfl rfl)
abbrev cX0_year : ByteArray := prog_1_method_54_code
def yX0_year : MethodName := ⟨RX0, "year", "(III)I"⟩
def dkwX0_year_11 : List UInt8 := [167, 0, 5, 21, 7, 172]
abbrev dktX0_year_11 : List UInt8 := dkwX0_year_11 ++ []
def dkwX0_year_10 : List UInt8 := [180, 0, 43, 180, 0, 186, 21, 8, 46, 96, 54, 7, 132, 8, 1, 167, 255, 178, 29, 154, 0, 8, 21, 6]
abbrev dktX0_year_10 : List UInt8 := dkwX0_year_10 ++ dktX0_year_11
def dkwX0_year_9 : List UInt8 := [180, 0, 186, 21, 6, 46, 46, 164, 0, 8, 21, 8, 167, 0, 5, 21, 6, 54, 6, 21, 7, 42]
abbrev dktX0_year_9 : List UInt8 := dkwX0_year_9 ++ dktX0_year_10
def dkwX0_year_8 : List UInt8 := [42, 180, 0, 43, 180, 0, 186, 21, 8, 46, 46, 42, 180, 0, 43, 180, 0, 247, 42, 180, 0, 43]
abbrev dktX0_year_8 : List UInt8 := dkwX0_year_8 ++ dktX0_year_9
def dkwX0_year_7 : List UInt8 := [54, 7, 3, 54, 8, 21, 8, 42, 180, 0, 39, 182, 0, 166, 162, 0, 72, 42, 180, 0, 43, 180, 0, 247]
abbrev dktX0_year_7 : List UInt8 := dkwX0_year_7 ++ dktX0_year_8
def dkwX0_year_6 : List UInt8 := [167, 0, 4, 3, 96, 79, 42, 180, 0, 43, 182, 0, 232, 132, 6, 1, 167, 255, 163, 3, 54, 6, 3]
abbrev dktX0_year_6 : List UInt8 := dkwX0_year_6 ++ dktX0_year_7
def dkwX0_year_5 : List UInt8 := [180, 0, 186, 21, 7, 92, 46, 42, 180, 0, 43, 21, 7, 21, 8, 182, 0, 179, 153, 0, 8, 21, 8]
abbrev dktX0_year_5 : List UInt8 := dkwX0_year_5 ++ dktX0_year_6
def dkwX0_year_4 : List UInt8 := [22, 4, 20, 0, 95, 113, 9, 148, 154, 0, 7, 4, 167, 0, 4, 2, 54, 8, 42, 180, 0, 43]
abbrev dktX0_year_4 : List UInt8 := dkwX0_year_4 ++ dktX0_year_5
def dkwX0_year_3 : List UInt8 := [20, 1, 96, 105, 20, 1, 98, 113, 55, 4, 22, 4, 42, 180, 0, 39, 182, 0, 166, 133, 113, 136, 54, 7]
abbrev dktX0_year_3 : List UInt8 := dkwX0_year_3 ++ dktX0_year_4
def dkwX0_year_2 : List UInt8 := [42, 180, 0, 39, 182, 0, 159, 87, 28, 133, 55, 4, 3, 54, 6, 21, 6, 27, 162, 0, 93, 22, 4]
abbrev dktX0_year_2 : List UInt8 := dkwX0_year_2 ++ dktX0_year_3
def dkwX0_year_1 : List UInt8 := [10, 20, 1, 94, 184, 0, 83, 153, 0, 10, 29, 184, 1, 3, 154, 0, 6, 18, 97, 172, 42, 180, 0, 43]
abbrev dktX0_year_1 : List UInt8 := dkwX0_year_1 ++ dktX0_year_2
def dkwX0_year_0 : List UInt8 := [42, 182, 0, 226, 154, 0, 6, 18, 170, 172, 27, 133, 9, 20, 1, 92, 184, 0, 83, 153, 0, 22, 28, 133]
abbrev dktX0_year_0 : List UInt8 := dkwX0_year_0 ++ dktX0_year_1
theorem dksX0_year_0 : cX0_year.data.toList.drop 0 = dktX0_year_0 := by decide +kernel
theorem dksX0_year_1 : cX0_year.data.toList.drop 24 = dktX0_year_1 := dk_seg dksX0_year_0 24 rfl rfl
theorem dksX0_year_2 : cX0_year.data.toList.drop 48 = dktX0_year_2 := dk_seg dksX0_year_1 24 rfl rfl
theorem dksX0_year_3 : cX0_year.data.toList.drop 71 = dktX0_year_3 := dk_seg dksX0_year_2 23 rfl rfl
theorem dksX0_year_4 : cX0_year.data.toList.drop 95 = dktX0_year_4 := dk_seg dksX0_year_3 24 rfl rfl
theorem dksX0_year_5 : cX0_year.data.toList.drop 117 = dktX0_year_5 := dk_seg dksX0_year_4 22 rfl rfl
theorem dksX0_year_6 : cX0_year.data.toList.drop 140 = dktX0_year_6 := dk_seg dksX0_year_5 23 rfl rfl
theorem dksX0_year_7 : cX0_year.data.toList.drop 163 = dktX0_year_7 := dk_seg dksX0_year_6 23 rfl rfl
theorem dksX0_year_8 : cX0_year.data.toList.drop 187 = dktX0_year_8 := dk_seg dksX0_year_7 24 rfl rfl
theorem dksX0_year_9 : cX0_year.data.toList.drop 209 = dktX0_year_9 := dk_seg dksX0_year_8 22 rfl rfl
theorem dksX0_year_10 : cX0_year.data.toList.drop 231 = dktX0_year_10 := dk_seg dksX0_year_9 22 rfl rfl
theorem dksX0_year_11 : cX0_year.data.toList.drop 255 = dktX0_year_11 := dk_seg dksX0_year_10 24 rfl rfl
theorem dX0_year_0 : decode cX0_year 0 = .ok (.aload_n 0, 1) := dk_42 (dk_at dksX0_year_0 0 rfl rfl)
theorem dX0_year_1 : decode cX0_year 1 = .ok (.invokevirtual 226, 3) := dk_182 0 226 (dk_at dksX0_year_0 1 rfl rfl)
theorem dX0_year_4 : decode cX0_year 4 = .ok (.ifCond .ne 6, 3) := dk_154 0 6 (dk_at dksX0_year_0 4 rfl rfl)
theorem dX0_year_7 : decode cX0_year 7 = .ok (.ldc 170, 2) := dk_18 170 (dk_at dksX0_year_0 7 rfl rfl)
theorem dX0_year_9 : decode cX0_year 9 = .ok (.ireturn, 1) := dk_172 (dk_at dksX0_year_0 9 rfl rfl)
theorem dX0_year_10 : decode cX0_year 10 = .ok (.iload_n 1, 1) := dk_27 (dk_at dksX0_year_0 10 rfl rfl)
theorem dX0_year_11 : decode cX0_year 11 = .ok (.i2l, 1) := dk_133 (dk_at dksX0_year_0 11 rfl rfl)
theorem dX0_year_12 : decode cX0_year 12 = .ok (.lconst 0, 1) := dk_9 (dk_at dksX0_year_0 12 rfl rfl)
theorem dX0_year_13 : decode cX0_year 13 = .ok (.ldc2_w 348, 3) := dk_20 1 92 (dk_at dksX0_year_0 13 rfl rfl)
theorem dX0_year_16 : decode cX0_year 16 = .ok (.invokestatic 83, 3) := dk_184 0 83 (dk_at dksX0_year_0 16 rfl rfl)
theorem dX0_year_19 : decode cX0_year 19 = .ok (.ifCond .eq 22, 3) := dk_153 0 22 (dk_at dksX0_year_0 19 rfl rfl)
theorem dX0_year_22 : decode cX0_year 22 = .ok (.iload_n 2, 1) := dk_28 (dk_at dksX0_year_0 22 rfl rfl)
theorem dX0_year_23 : decode cX0_year 23 = .ok (.i2l, 1) := dk_133 (dk_at dksX0_year_0 23 rfl rfl)
theorem dX0_year_24 : decode cX0_year 24 = .ok (.lconst 1, 1) := dk_10 (dk_at dksX0_year_1 0 rfl rfl)
theorem dX0_year_25 : decode cX0_year 25 = .ok (.ldc2_w 350, 3) := dk_20 1 94 (dk_at dksX0_year_1 1 rfl rfl)
theorem dX0_year_28 : decode cX0_year 28 = .ok (.invokestatic 83, 3) := dk_184 0 83 (dk_at dksX0_year_1 4 rfl rfl)
theorem dX0_year_31 : decode cX0_year 31 = .ok (.ifCond .eq 10, 3) := dk_153 0 10 (dk_at dksX0_year_1 7 rfl rfl)
theorem dX0_year_34 : decode cX0_year 34 = .ok (.iload_n 3, 1) := dk_29 (dk_at dksX0_year_1 10 rfl rfl)
theorem dX0_year_35 : decode cX0_year 35 = .ok (.invokestatic 259, 3) := dk_184 1 3 (dk_at dksX0_year_1 11 rfl rfl)
theorem dX0_year_38 : decode cX0_year 38 = .ok (.ifCond .ne 6, 3) := dk_154 0 6 (dk_at dksX0_year_1 14 rfl rfl)
theorem dX0_year_41 : decode cX0_year 41 = .ok (.ldc 97, 2) := dk_18 97 (dk_at dksX0_year_1 17 rfl rfl)
theorem dX0_year_43 : decode cX0_year 43 = .ok (.ireturn, 1) := dk_172 (dk_at dksX0_year_1 19 rfl rfl)
theorem dX0_year_44 : decode cX0_year 44 = .ok (.aload_n 0, 1) := dk_42 (dk_at dksX0_year_1 20 rfl rfl)
theorem dX0_year_45 : decode cX0_year 45 = .ok (.getfield 43, 3) := dk_180 0 43 (dk_at dksX0_year_1 21 rfl rfl)
theorem dX0_year_48 : decode cX0_year 48 = .ok (.aload_n 0, 1) := dk_42 (dk_at dksX0_year_2 0 rfl rfl)
theorem dX0_year_49 : decode cX0_year 49 = .ok (.getfield 39, 3) := dk_180 0 39 (dk_at dksX0_year_2 1 rfl rfl)
theorem dX0_year_52 : decode cX0_year 52 = .ok (.invokevirtual 159, 3) := dk_182 0 159 (dk_at dksX0_year_2 4 rfl rfl)
theorem dX0_year_55 : decode cX0_year 55 = .ok (.pop, 1) := dk_87 (dk_at dksX0_year_2 7 rfl rfl)
theorem dX0_year_56 : decode cX0_year 56 = .ok (.iload_n 2, 1) := dk_28 (dk_at dksX0_year_2 8 rfl rfl)
theorem dX0_year_57 : decode cX0_year 57 = .ok (.i2l, 1) := dk_133 (dk_at dksX0_year_2 9 rfl rfl)
theorem dX0_year_58 : decode cX0_year 58 = .ok (.lstore 4, 2) := dk_55 4 (dk_at dksX0_year_2 10 rfl rfl)
theorem dX0_year_60 : decode cX0_year 60 = .ok (.iconst 0, 1) := dk_3 (dk_at dksX0_year_2 12 rfl rfl)
theorem dX0_year_61 : decode cX0_year 61 = .ok (.istore 6, 2) := dk_54 6 (dk_at dksX0_year_2 13 rfl rfl)
theorem dX0_year_63 : decode cX0_year 63 = .ok (.iload 6, 2) := dk_21 6 (dk_at dksX0_year_2 15 rfl rfl)
theorem dX0_year_65 : decode cX0_year 65 = .ok (.iload_n 1, 1) := dk_27 (dk_at dksX0_year_2 17 rfl rfl)
theorem dX0_year_66 : decode cX0_year 66 = .ok (.if_icmp .ge 93, 3) := dk_162 0 93 (dk_at dksX0_year_2 18 rfl rfl)
theorem dX0_year_69 : decode cX0_year 69 = .ok (.lload 4, 2) := dk_22 4 (dk_at dksX0_year_2 21 rfl rfl)
theorem dX0_year_71 : decode cX0_year 71 = .ok (.ldc2_w 352, 3) := dk_20 1 96 (dk_at dksX0_year_3 0 rfl rfl)
theorem dX0_year_74 : decode cX0_year 74 = .ok (.lmul, 1) := dk_105 (dk_at dksX0_year_3 3 rfl rfl)
theorem dX0_year_75 : decode cX0_year 75 = .ok (.ldc2_w 354, 3) := dk_20 1 98 (dk_at dksX0_year_3 4 rfl rfl)
theorem dX0_year_78 : decode cX0_year 78 = .ok (.lrem, 1) := dk_113 (dk_at dksX0_year_3 7 rfl rfl)
theorem dX0_year_79 : decode cX0_year 79 = .ok (.lstore 4, 2) := dk_55 4 (dk_at dksX0_year_3 8 rfl rfl)
theorem dX0_year_81 : decode cX0_year 81 = .ok (.lload 4, 2) := dk_22 4 (dk_at dksX0_year_3 10 rfl rfl)
theorem dX0_year_83 : decode cX0_year 83 = .ok (.aload_n 0, 1) := dk_42 (dk_at dksX0_year_3 12 rfl rfl)
theorem dX0_year_84 : decode cX0_year 84 = .ok (.getfield 39, 3) := dk_180 0 39 (dk_at dksX0_year_3 13 rfl rfl)
theorem dX0_year_87 : decode cX0_year 87 = .ok (.invokevirtual 166, 3) := dk_182 0 166 (dk_at dksX0_year_3 16 rfl rfl)
theorem dX0_year_90 : decode cX0_year 90 = .ok (.i2l, 1) := dk_133 (dk_at dksX0_year_3 19 rfl rfl)
theorem dX0_year_91 : decode cX0_year 91 = .ok (.lrem, 1) := dk_113 (dk_at dksX0_year_3 20 rfl rfl)
theorem dX0_year_92 : decode cX0_year 92 = .ok (.l2i, 1) := dk_136 (dk_at dksX0_year_3 21 rfl rfl)
theorem dX0_year_93 : decode cX0_year 93 = .ok (.istore 7, 2) := dk_54 7 (dk_at dksX0_year_3 22 rfl rfl)
theorem dX0_year_95 : decode cX0_year 95 = .ok (.lload 4, 2) := dk_22 4 (dk_at dksX0_year_4 0 rfl rfl)
theorem dX0_year_97 : decode cX0_year 97 = .ok (.ldc2_w 95, 3) := dk_20 0 95 (dk_at dksX0_year_4 2 rfl rfl)
theorem dX0_year_100 : decode cX0_year 100 = .ok (.lrem, 1) := dk_113 (dk_at dksX0_year_4 5 rfl rfl)
theorem dX0_year_101 : decode cX0_year 101 = .ok (.lconst 0, 1) := dk_9 (dk_at dksX0_year_4 6 rfl rfl)
theorem dX0_year_102 : decode cX0_year 102 = .ok (.lcmp, 1) := dk_148 (dk_at dksX0_year_4 7 rfl rfl)
theorem dX0_year_103 : decode cX0_year 103 = .ok (.ifCond .ne 7, 3) := dk_154 0 7 (dk_at dksX0_year_4 8 rfl rfl)
theorem dX0_year_106 : decode cX0_year 106 = .ok (.iconst 1, 1) := dk_4 (dk_at dksX0_year_4 11 rfl rfl)
theorem dX0_year_107 : decode cX0_year 107 = .ok (.goto 4, 3) := dk_167 0 4 (dk_at dksX0_year_4 12 rfl rfl)
theorem dX0_year_110 : decode cX0_year 110 = .ok (.iconst (-1), 1) := dk_2 (dk_at dksX0_year_4 15 rfl rfl)
theorem dX0_year_111 : decode cX0_year 111 = .ok (.istore 8, 2) := dk_54 8 (dk_at dksX0_year_4 16 rfl rfl)
theorem dX0_year_113 : decode cX0_year 113 = .ok (.aload_n 0, 1) := dk_42 (dk_at dksX0_year_4 18 rfl rfl)
theorem dX0_year_114 : decode cX0_year 114 = .ok (.getfield 43, 3) := dk_180 0 43 (dk_at dksX0_year_4 19 rfl rfl)
theorem dX0_year_117 : decode cX0_year 117 = .ok (.getfield 186, 3) := dk_180 0 186 (dk_at dksX0_year_5 0 rfl rfl)
theorem dX0_year_120 : decode cX0_year 120 = .ok (.iload 7, 2) := dk_21 7 (dk_at dksX0_year_5 3 rfl rfl)
theorem dX0_year_122 : decode cX0_year 122 = .ok (.dup2, 1) := dk_92 (dk_at dksX0_year_5 5 rfl rfl)
theorem dX0_year_123 : decode cX0_year 123 = .ok (.iaload, 1) := dk_46 (dk_at dksX0_year_5 6 rfl rfl)
theorem dX0_year_124 : decode cX0_year 124 = .ok (.aload_n 0, 1) := dk_42 (dk_at dksX0_year_5 7 rfl rfl)
theorem dX0_year_125 : decode cX0_year 125 = .ok (.getfield 43, 3) := dk_180 0 43 (dk_at dksX0_year_5 8 rfl rfl)
theorem dX0_year_128 : decode cX0_year 128 = .ok (.iload 7, 2) := dk_21 7 (dk_at dksX0_year_5 11 rfl rfl)
theorem dX0_year_130 : decode cX0_year 130 = .ok (.iload 8, 2) := dk_21 8 (dk_at dksX0_year_5 13 rfl rfl)
theorem dX0_year_132 : decode cX0_year 132 = .ok (.invokevirtual 179, 3) := dk_182 0 179 (dk_at dksX0_year_5 15 rfl rfl)
theorem dX0_year_135 : decode cX0_year 135 = .ok (.ifCond .eq 8, 3) := dk_153 0 8 (dk_at dksX0_year_5 18 rfl rfl)
theorem dX0_year_138 : decode cX0_year 138 = .ok (.iload 8, 2) := dk_21 8 (dk_at dksX0_year_5 21 rfl rfl)
theorem dX0_year_140 : decode cX0_year 140 = .ok (.goto 4, 3) := dk_167 0 4 (dk_at dksX0_year_6 0 rfl rfl)
theorem dX0_year_143 : decode cX0_year 143 = .ok (.iconst 0, 1) := dk_3 (dk_at dksX0_year_6 3 rfl rfl)
theorem dX0_year_144 : decode cX0_year 144 = .ok (.iadd, 1) := dk_96 (dk_at dksX0_year_6 4 rfl rfl)
theorem dX0_year_145 : decode cX0_year 145 = .ok (.iastore, 1) := dk_79 (dk_at dksX0_year_6 5 rfl rfl)
theorem dX0_year_146 : decode cX0_year 146 = .ok (.aload_n 0, 1) := dk_42 (dk_at dksX0_year_6 6 rfl rfl)
theorem dX0_year_147 : decode cX0_year 147 = .ok (.getfield 43, 3) := dk_180 0 43 (dk_at dksX0_year_6 7 rfl rfl)
theorem dX0_year_150 : decode cX0_year 150 = .ok (.invokevirtual 232, 3) := dk_182 0 232 (dk_at dksX0_year_6 10 rfl rfl)
theorem dX0_year_153 : decode cX0_year 153 = .ok (.iinc 6 1, 3) := dk_132 6 1 (dk_at dksX0_year_6 13 rfl rfl)
theorem dX0_year_156 : decode cX0_year 156 = .ok (.goto (-93), 3) := dk_167 255 163 (dk_at dksX0_year_6 16 rfl rfl)
theorem dX0_year_159 : decode cX0_year 159 = .ok (.iconst 0, 1) := dk_3 (dk_at dksX0_year_6 19 rfl rfl)
theorem dX0_year_160 : decode cX0_year 160 = .ok (.istore 6, 2) := dk_54 6 (dk_at dksX0_year_6 20 rfl rfl)
theorem dX0_year_162 : decode cX0_year 162 = .ok (.iconst 0, 1) := dk_3 (dk_at dksX0_year_6 22 rfl rfl)
theorem dX0_year_163 : decode cX0_year 163 = .ok (.istore 7, 2) := dk_54 7 (dk_at dksX0_year_7 0 rfl rfl)
theorem dX0_year_165 : decode cX0_year 165 = .ok (.iconst 0, 1) := dk_3 (dk_at dksX0_year_7 2 rfl rfl)
theorem dX0_year_166 : decode cX0_year 166 = .ok (.istore 8, 2) := dk_54 8 (dk_at dksX0_year_7 3 rfl rfl)
theorem dX0_year_168 : decode cX0_year 168 = .ok (.iload 8, 2) := dk_21 8 (dk_at dksX0_year_7 5 rfl rfl)
theorem dX0_year_170 : decode cX0_year 170 = .ok (.aload_n 0, 1) := dk_42 (dk_at dksX0_year_7 7 rfl rfl)
theorem dX0_year_171 : decode cX0_year 171 = .ok (.getfield 39, 3) := dk_180 0 39 (dk_at dksX0_year_7 8 rfl rfl)
theorem dX0_year_174 : decode cX0_year 174 = .ok (.invokevirtual 166, 3) := dk_182 0 166 (dk_at dksX0_year_7 11 rfl rfl)
theorem dX0_year_177 : decode cX0_year 177 = .ok (.if_icmp .ge 72, 3) := dk_162 0 72 (dk_at dksX0_year_7 14 rfl rfl)
theorem dX0_year_180 : decode cX0_year 180 = .ok (.aload_n 0, 1) := dk_42 (dk_at dksX0_year_7 17 rfl rfl)
theorem dX0_year_181 : decode cX0_year 181 = .ok (.getfield 43, 3) := dk_180 0 43 (dk_at dksX0_year_7 18 rfl rfl)
theorem dX0_year_184 : decode cX0_year 184 = .ok (.getfield 247, 3) := dk_180 0 247 (dk_at dksX0_year_7 21 rfl rfl)
theorem dX0_year_187 : decode cX0_year 187 = .ok (.aload_n 0, 1) := dk_42 (dk_at dksX0_year_8 0 rfl rfl)
theorem dX0_year_188 : decode cX0_year 188 = .ok (.getfield 43, 3) := dk_180 0 43 (dk_at dksX0_year_8 1 rfl rfl)
theorem dX0_year_191 : decode cX0_year 191 = .ok (.getfield 186, 3) := dk_180 0 186 (dk_at dksX0_year_8 4 rfl rfl)
theorem dX0_year_194 : decode cX0_year 194 = .ok (.iload 8, 2) := dk_21 8 (dk_at dksX0_year_8 7 rfl rfl)
theorem dX0_year_196 : decode cX0_year 196 = .ok (.iaload, 1) := dk_46 (dk_at dksX0_year_8 9 rfl rfl)
theorem dX0_year_197 : decode cX0_year 197 = .ok (.iaload, 1) := dk_46 (dk_at dksX0_year_8 10 rfl rfl)
theorem dX0_year_198 : decode cX0_year 198 = .ok (.aload_n 0, 1) := dk_42 (dk_at dksX0_year_8 11 rfl rfl)
theorem dX0_year_199 : decode cX0_year 199 = .ok (.getfield 43, 3) := dk_180 0 43 (dk_at dksX0_year_8 12 rfl rfl)
theorem dX0_year_202 : decode cX0_year 202 = .ok (.getfield 247, 3) := dk_180 0 247 (dk_at dksX0_year_8 15 rfl rfl)
theorem dX0_year_205 : decode cX0_year 205 = .ok (.aload_n 0, 1) := dk_42 (dk_at dksX0_year_8 18 rfl rfl)
theorem dX0_year_206 : decode cX0_year 206 = .ok (.getfield 43, 3) := dk_180 0 43 (dk_at dksX0_year_8 19 rfl rfl)
theorem dX0_year_209 : decode cX0_year 209 = .ok (.getfield 186, 3) := dk_180 0 186 (dk_at dksX0_year_9 0 rfl rfl)
theorem dX0_year_212 : decode cX0_year 212 = .ok (.iload 6, 2) := dk_21 6 (dk_at dksX0_year_9 3 rfl rfl)
theorem dX0_year_214 : decode cX0_year 214 = .ok (.iaload, 1) := dk_46 (dk_at dksX0_year_9 5 rfl rfl)
theorem dX0_year_215 : decode cX0_year 215 = .ok (.iaload, 1) := dk_46 (dk_at dksX0_year_9 6 rfl rfl)
theorem dX0_year_216 : decode cX0_year 216 = .ok (.if_icmp .le 8, 3) := dk_164 0 8 (dk_at dksX0_year_9 7 rfl rfl)
theorem dX0_year_219 : decode cX0_year 219 = .ok (.iload 8, 2) := dk_21 8 (dk_at dksX0_year_9 10 rfl rfl)
theorem dX0_year_221 : decode cX0_year 221 = .ok (.goto 5, 3) := dk_167 0 5 (dk_at dksX0_year_9 12 rfl rfl)
theorem dX0_year_224 : decode cX0_year 224 = .ok (.iload 6, 2) := dk_21 6 (dk_at dksX0_year_9 15 rfl rfl)
theorem dX0_year_226 : decode cX0_year 226 = .ok (.istore 6, 2) := dk_54 6 (dk_at dksX0_year_9 17 rfl rfl)
theorem dX0_year_228 : decode cX0_year 228 = .ok (.iload 7, 2) := dk_21 7 (dk_at dksX0_year_9 19 rfl rfl)
theorem dX0_year_230 : decode cX0_year 230 = .ok (.aload_n 0, 1) := dk_42 (dk_at dksX0_year_9 21 rfl rfl)
theorem dX0_year_231 : decode cX0_year 231 = .ok (.getfield 43, 3) := dk_180 0 43 (dk_at dksX0_year_10 0 rfl rfl)
theorem dX0_year_234 : decode cX0_year 234 = .ok (.getfield 186, 3) := dk_180 0 186 (dk_at dksX0_year_10 3 rfl rfl)
theorem dX0_year_237 : decode cX0_year 237 = .ok (.iload 8, 2) := dk_21 8 (dk_at dksX0_year_10 6 rfl rfl)
theorem dX0_year_239 : decode cX0_year 239 = .ok (.iaload, 1) := dk_46 (dk_at dksX0_year_10 8 rfl rfl)
theorem dX0_year_240 : decode cX0_year 240 = .ok (.iadd, 1) := dk_96 (dk_at dksX0_year_10 9 rfl rfl)
theorem dX0_year_241 : decode cX0_year 241 = .ok (.istore 7, 2) := dk_54 7 (dk_at dksX0_year_10 10 rfl rfl)
theorem dX0_year_243 : decode cX0_year 243 = .ok (.iinc 8 1, 3) := dk_132 8 1 (dk_at dksX0_year_10 12 rfl rfl)
theorem dX0_year_246 : decode cX0_year 246 = .ok (.goto (-78), 3) := dk_167 255 178 (dk_at dksX0_year_10 15 rfl rfl)
theorem dX0_year_249 : decode cX0_year 249 = .ok (.iload_n 3, 1) := dk_29 (dk_at dksX0_year_10 18 rfl rfl)
theorem dX0_year_250 : decode cX0_year 250 = .ok (.ifCond .ne 8, 3) := dk_154 0 8 (dk_at dksX0_year_10 19 rfl rfl)
theorem dX0_year_253 : decode cX0_year 253 = .ok (.iload 6, 2) := dk_21 6 (dk_at dksX0_year_10 22 rfl rfl)
theorem dX0_year_255 : decode cX0_year 255 = .ok (.goto 5, 3) := dk_167 0 5 (dk_at dksX0_year_11 0 rfl rfl)
theorem dX0_year_258 : decode cX0_year 258 = .ok (.iload 7, 2) := dk_21 7 (dk_at dksX0_year_11 3 rfl rfl)
theorem dX0_year_260 : decode cX0_year 260 = .ok (.ireturn, 1) := dk_172 (dk_at dksX0_year_11 5 rfl rfl)
abbrev cX0_image : ByteArray := prog_1_method_55_code
def yX0_image : MethodName := ⟨RX0, "image", "(I)I"⟩
def dkwX0_image_2 : List UInt8 := [180, 0, 50, 27, 50, 42, 180, 0, 39, 182, 0, 159, 87, 4, 172]
abbrev dktX0_image_2 : List UInt8 := dkwX0_image_2 ++ []
def dkwX0_image_1 : List UInt8 := [180, 0, 50, 27, 50, 199, 0, 16, 42, 180, 0, 50, 27, 187, 0, 36, 89, 183, 0, 38, 83, 42]
abbrev dktX0_image_1 : List UInt8 := dkwX0_image_1 ++ dktX0_image_2
def dkwX0_image_0 : List UInt8 := [27, 133, 9, 10, 184, 0, 83, 154, 0, 6, 18, 97, 172, 42, 182, 0, 226, 154, 0, 6, 18, 170, 172, 42]
abbrev dktX0_image_0 : List UInt8 := dkwX0_image_0 ++ dktX0_image_1
theorem dksX0_image_0 : cX0_image.data.toList.drop 0 = dktX0_image_0 := by decide +kernel
theorem dksX0_image_1 : cX0_image.data.toList.drop 24 = dktX0_image_1 := dk_seg dksX0_image_0 24 rfl rfl
theorem dksX0_image_2 : cX0_image.data.toList.drop 46 = dktX0_image_2 := dk_seg dksX0_image_1 22 rfl rfl
theorem dX0_image_0 : decode cX0_image 0 = .ok (.iload_n 1, 1) := dk_27 (dk_at dksX0_image_0 0 rfl rfl)
theorem dX0_image_1 : decode cX0_image 1 = .ok (.i2l, 1) := dk_133 (dk_at dksX0_image_0 1 rfl rfl)
theorem dX0_image_2 : decode cX0_image 2 = .ok (.lconst 0, 1) := dk_9 (dk_at dksX0_image_0 2 rfl rfl)
theorem dX0_image_3 : decode cX0_image 3 = .ok (.lconst 1, 1) := dk_10 (dk_at dksX0_image_0 3 rfl rfl)
theorem dX0_image_4 : decode cX0_image 4 = .ok (.invokestatic 83, 3) := dk_184 0 83 (dk_at dksX0_image_0 4 rfl rfl)
theorem dX0_image_7 : decode cX0_image 7 = .ok (.ifCond .ne 6, 3) := dk_154 0 6 (dk_at dksX0_image_0 7 rfl rfl)
theorem dX0_image_10 : decode cX0_image 10 = .ok (.ldc 97, 2) := dk_18 97 (dk_at dksX0_image_0 10 rfl rfl)
theorem dX0_image_12 : decode cX0_image 12 = .ok (.ireturn, 1) := dk_172 (dk_at dksX0_image_0 12 rfl rfl)
theorem dX0_image_13 : decode cX0_image 13 = .ok (.aload_n 0, 1) := dk_42 (dk_at dksX0_image_0 13 rfl rfl)
theorem dX0_image_14 : decode cX0_image 14 = .ok (.invokevirtual 226, 3) := dk_182 0 226 (dk_at dksX0_image_0 14 rfl rfl)
theorem dX0_image_17 : decode cX0_image 17 = .ok (.ifCond .ne 6, 3) := dk_154 0 6 (dk_at dksX0_image_0 17 rfl rfl)
theorem dX0_image_20 : decode cX0_image 20 = .ok (.ldc 170, 2) := dk_18 170 (dk_at dksX0_image_0 20 rfl rfl)
theorem dX0_image_22 : decode cX0_image 22 = .ok (.ireturn, 1) := dk_172 (dk_at dksX0_image_0 22 rfl rfl)
theorem dX0_image_23 : decode cX0_image 23 = .ok (.aload_n 0, 1) := dk_42 (dk_at dksX0_image_0 23 rfl rfl)
theorem dX0_image_24 : decode cX0_image 24 = .ok (.getfield 50, 3) := dk_180 0 50 (dk_at dksX0_image_1 0 rfl rfl)
theorem dX0_image_27 : decode cX0_image 27 = .ok (.iload_n 1, 1) := dk_27 (dk_at dksX0_image_1 3 rfl rfl)
theorem dX0_image_28 : decode cX0_image 28 = .ok (.aaload, 1) := dk_50 (dk_at dksX0_image_1 4 rfl rfl)
theorem dX0_image_29 : decode cX0_image 29 = .ok (.ifnonnull 16, 3) := dk_199 0 16 (dk_at dksX0_image_1 5 rfl rfl)
theorem dX0_image_32 : decode cX0_image 32 = .ok (.aload_n 0, 1) := dk_42 (dk_at dksX0_image_1 8 rfl rfl)
theorem dX0_image_33 : decode cX0_image 33 = .ok (.getfield 50, 3) := dk_180 0 50 (dk_at dksX0_image_1 9 rfl rfl)
theorem dX0_image_36 : decode cX0_image 36 = .ok (.iload_n 1, 1) := dk_27 (dk_at dksX0_image_1 12 rfl rfl)
theorem dX0_image_37 : decode cX0_image 37 = .ok (.new 36, 3) := dk_187 0 36 (dk_at dksX0_image_1 13 rfl rfl)
theorem dX0_image_40 : decode cX0_image 40 = .ok (.dup, 1) := dk_89 (dk_at dksX0_image_1 16 rfl rfl)
theorem dX0_image_41 : decode cX0_image 41 = .ok (.invokespecial 38, 3) := dk_183 0 38 (dk_at dksX0_image_1 17 rfl rfl)
theorem dX0_image_44 : decode cX0_image 44 = .ok (.aastore, 1) := dk_83 (dk_at dksX0_image_1 20 rfl rfl)
theorem dX0_image_45 : decode cX0_image 45 = .ok (.aload_n 0, 1) := dk_42 (dk_at dksX0_image_1 21 rfl rfl)
theorem dX0_image_46 : decode cX0_image 46 = .ok (.getfield 50, 3) := dk_180 0 50 (dk_at dksX0_image_2 0 rfl rfl)
theorem dX0_image_49 : decode cX0_image 49 = .ok (.iload_n 1, 1) := dk_27 (dk_at dksX0_image_2 3 rfl rfl)
theorem dX0_image_50 : decode cX0_image 50 = .ok (.aaload, 1) := dk_50 (dk_at dksX0_image_2 4 rfl rfl)
theorem dX0_image_51 : decode cX0_image 51 = .ok (.aload_n 0, 1) := dk_42 (dk_at dksX0_image_2 5 rfl rfl)
theorem dX0_image_52 : decode cX0_image 52 = .ok (.getfield 39, 3) := dk_180 0 39 (dk_at dksX0_image_2 6 rfl rfl)
theorem dX0_image_55 : decode cX0_image 55 = .ok (.invokevirtual 159, 3) := dk_182 0 159 (dk_at dksX0_image_2 9 rfl rfl)
theorem dX0_image_58 : decode cX0_image 58 = .ok (.pop, 1) := dk_87 (dk_at dksX0_image_2 12 rfl rfl)
theorem dX0_image_59 : decode cX0_image 59 = .ok (.iconst 1, 1) := dk_4 (dk_at dksX0_image_2 13 rfl rfl)
theorem dX0_image_60 : decode cX0_image 60 = .ok (.ireturn, 1) := dk_172 (dk_at dksX0_image_2 14 rfl rfl)
abbrev cX0_restore : ByteArray := prog_1_method_56_code
def yX0_restore : MethodName := ⟨RX0, "restore", "(I)I"⟩
def dkwX0_restore_1 : List UInt8 := [172, 42, 180, 0, 39, 42, 180, 0, 50, 27, 50, 182, 0, 159, 87, 42, 3, 181, 0, 163, 4, 172]
abbrev dktX0_restore_1 : List UInt8 := dkwX0_restore_1 ++ []
def dkwX0_restore_0 : List UInt8 := [27, 133, 9, 10, 184, 0, 83, 154, 0, 6, 18, 97, 172, 42, 180, 0, 50, 27, 50, 199, 0, 6, 18, 170]
abbrev dktX0_restore_0 : List UInt8 := dkwX0_restore_0 ++ dktX0_restore_1
theorem dksX0_restore_0 : cX0_restore.data.toList.drop 0 = dktX0_restore_0 := by decide +kernel
theorem dksX0_restore_1 : cX0_restore.data.toList.drop 24 = dktX0_restore_1 := dk_seg dksX0_restore_0 24 rfl rfl
theorem dX0_restore_0 : decode cX0_restore 0 = .ok (.iload_n 1, 1) := dk_27 (dk_at dksX0_restore_0 0 rfl rfl)
theorem dX0_restore_1 : decode cX0_restore 1 = .ok (.i2l, 1) := dk_133 (dk_at dksX0_restore_0 1 rfl rfl)
theorem dX0_restore_2 : decode cX0_restore 2 = .ok (.lconst 0, 1) := dk_9 (dk_at dksX0_restore_0 2 rfl rfl)
theorem dX0_restore_3 : decode cX0_restore 3 = .ok (.lconst 1, 1) := dk_10 (dk_at dksX0_restore_0 3 rfl rfl)
theorem dX0_restore_4 : decode cX0_restore 4 = .ok (.invokestatic 83, 3) := dk_184 0 83 (dk_at dksX0_restore_0 4 rfl rfl)
theorem dX0_restore_7 : decode cX0_restore 7 = .ok (.ifCond .ne 6, 3) := dk_154 0 6 (dk_at dksX0_restore_0 7 rfl rfl)
theorem dX0_restore_10 : decode cX0_restore 10 = .ok (.ldc 97, 2) := dk_18 97 (dk_at dksX0_restore_0 10 rfl rfl)
theorem dX0_restore_12 : decode cX0_restore 12 = .ok (.ireturn, 1) := dk_172 (dk_at dksX0_restore_0 12 rfl rfl)
theorem dX0_restore_13 : decode cX0_restore 13 = .ok (.aload_n 0, 1) := dk_42 (dk_at dksX0_restore_0 13 rfl rfl)
theorem dX0_restore_14 : decode cX0_restore 14 = .ok (.getfield 50, 3) := dk_180 0 50 (dk_at dksX0_restore_0 14 rfl rfl)
theorem dX0_restore_17 : decode cX0_restore 17 = .ok (.iload_n 1, 1) := dk_27 (dk_at dksX0_restore_0 17 rfl rfl)
theorem dX0_restore_18 : decode cX0_restore 18 = .ok (.aaload, 1) := dk_50 (dk_at dksX0_restore_0 18 rfl rfl)
theorem dX0_restore_19 : decode cX0_restore 19 = .ok (.ifnonnull 6, 3) := dk_199 0 6 (dk_at dksX0_restore_0 19 rfl rfl)
theorem dX0_restore_22 : decode cX0_restore 22 = .ok (.ldc 170, 2) := dk_18 170 (dk_at dksX0_restore_0 22 rfl rfl)
theorem dX0_restore_24 : decode cX0_restore 24 = .ok (.ireturn, 1) := dk_172 (dk_at dksX0_restore_1 0 rfl rfl)
theorem dX0_restore_25 : decode cX0_restore 25 = .ok (.aload_n 0, 1) := dk_42 (dk_at dksX0_restore_1 1 rfl rfl)
theorem dX0_restore_26 : decode cX0_restore 26 = .ok (.getfield 39, 3) := dk_180 0 39 (dk_at dksX0_restore_1 2 rfl rfl)
theorem dX0_restore_29 : decode cX0_restore 29 = .ok (.aload_n 0, 1) := dk_42 (dk_at dksX0_restore_1 5 rfl rfl)
theorem dX0_restore_30 : decode cX0_restore 30 = .ok (.getfield 50, 3) := dk_180 0 50 (dk_at dksX0_restore_1 6 rfl rfl)
theorem dX0_restore_33 : decode cX0_restore 33 = .ok (.iload_n 1, 1) := dk_27 (dk_at dksX0_restore_1 9 rfl rfl)
theorem dX0_restore_34 : decode cX0_restore 34 = .ok (.aaload, 1) := dk_50 (dk_at dksX0_restore_1 10 rfl rfl)
theorem dX0_restore_35 : decode cX0_restore 35 = .ok (.invokevirtual 159, 3) := dk_182 0 159 (dk_at dksX0_restore_1 11 rfl rfl)
theorem dX0_restore_38 : decode cX0_restore 38 = .ok (.pop, 1) := dk_87 (dk_at dksX0_restore_1 14 rfl rfl)
theorem dX0_restore_39 : decode cX0_restore 39 = .ok (.aload_n 0, 1) := dk_42 (dk_at dksX0_restore_1 15 rfl rfl)
theorem dX0_restore_40 : decode cX0_restore 40 = .ok (.iconst 0, 1) := dk_3 (dk_at dksX0_restore_1 16 rfl rfl)
theorem dX0_restore_41 : decode cX0_restore 41 = .ok (.putfield 163, 3) := dk_181 0 163 (dk_at dksX0_restore_1 17 rfl rfl)
theorem dX0_restore_44 : decode cX0_restore 44 = .ok (.iconst 1, 1) := dk_4 (dk_at dksX0_restore_1 20 rfl rfl)
theorem dX0_restore_45 : decode cX0_restore 45 = .ok (.ireturn, 1) := dk_172 (dk_at dksX0_restore_1 21 rfl rfl)
abbrev cX0_kind : ByteArray := prog_1_method_57_code
def yX0_kind : MethodName := ⟨RX0, "kind", "(I)I"⟩
def dkwX0_kind_1 : List UInt8 := [182, 1, 100, 167, 0, 5, 18, 97, 172]
abbrev dktX0_kind_1 : List UInt8 := dkwX0_kind_1 ++ []
def dkwX0_kind_0 : List UInt8 := [42, 27, 182, 0, 176, 153, 0, 25, 42, 180, 0, 39, 180, 1, 44, 27, 185, 1, 48, 2, 0, 192, 1, 54]
abbrev dktX0_kind_0 : List UInt8 := dkwX0_kind_0 ++ dktX0_kind_1
theorem dksX0_kind_0 : cX0_kind.data.toList.drop 0 = dktX0_kind_0 := by decide +kernel
theorem dksX0_kind_1 : cX0_kind.data.toList.drop 24 = dktX0_kind_1 := dk_seg dksX0_kind_0 24 rfl rfl
theorem dX0_kind_0 : decode cX0_kind 0 = .ok (.aload_n 0, 1) := dk_42 (dk_at dksX0_kind_0 0 rfl rfl)
theorem dX0_kind_1 : decode cX0_kind 1 = .ok (.iload_n 1, 1) := dk_27 (dk_at dksX0_kind_0 1 rfl rfl)
theorem dX0_kind_2 : decode cX0_kind 2 = .ok (.invokevirtual 176, 3) := dk_182 0 176 (dk_at dksX0_kind_0 2 rfl rfl)
theorem dX0_kind_5 : decode cX0_kind 5 = .ok (.ifCond .eq 25, 3) := dk_153 0 25 (dk_at dksX0_kind_0 5 rfl rfl)
theorem dX0_kind_8 : decode cX0_kind 8 = .ok (.aload_n 0, 1) := dk_42 (dk_at dksX0_kind_0 8 rfl rfl)
theorem dX0_kind_9 : decode cX0_kind 9 = .ok (.getfield 39, 3) := dk_180 0 39 (dk_at dksX0_kind_0 9 rfl rfl)
theorem dX0_kind_12 : decode cX0_kind 12 = .ok (.getfield 300, 3) := dk_180 1 44 (dk_at dksX0_kind_0 12 rfl rfl)
theorem dX0_kind_15 : decode cX0_kind 15 = .ok (.iload_n 1, 1) := dk_27 (dk_at dksX0_kind_0 15 rfl rfl)
theorem dX0_kind_16 : decode cX0_kind 16 = .ok (.invokeinterface 304 2, 5) := by decide +kernel
theorem dX0_kind_21 : decode cX0_kind 21 = .ok (.checkcast 310, 3) := dk_192 1 54 (dk_at dksX0_kind_0 21 rfl rfl)
theorem dX0_kind_24 : decode cX0_kind 24 = .ok (.invokevirtual 356, 3) := dk_182 1 100 (dk_at dksX0_kind_1 0 rfl rfl)
theorem dX0_kind_27 : decode cX0_kind 27 = .ok (.goto 5, 3) := dk_167 0 5 (dk_at dksX0_kind_1 3 rfl rfl)
theorem dX0_kind_30 : decode cX0_kind 30 = .ok (.ldc 97, 2) := dk_18 97 (dk_at dksX0_kind_1 6 rfl rfl)
theorem dX0_kind_32 : decode cX0_kind 32 = .ok (.ireturn, 1) := dk_172 (dk_at dksX0_kind_1 8 rfl rfl)
abbrev cX0_as : ByteArray := prog_1_method_58_code
def yX0_as : MethodName := ⟨RX0, "as", "(II)I"⟩
def dkwX0_as_5 : List UInt8 := [183, 0, 80, 191, 78, 42, 45, 182, 0, 105, 172]
abbrev dktX0_as_5 : List UInt8 := dkwX0_as_5 ++ []
def dkwX0_as_4 : List UInt8 := [45, 192, 0, 16, 58, 4, 42, 25, 4, 182, 1, 102, 182, 0, 101, 172, 58, 4, 187, 0, 71, 89, 6]
abbrev dktX0_as_4 : List UInt8 := dkwX0_as_4 ++ dktX0_as_5
def dkwX0_as_3 : List UInt8 := [28, 6, 160, 0, 10, 45, 192, 0, 10, 167, 0, 19, 28, 7, 160, 0, 10, 45, 192, 0, 13, 167, 0, 7]
abbrev dktX0_as_3 : List UInt8 := dkwX0_as_3 ++ dktX0_as_4
def dkwX0_as_2 : List UInt8 := [28, 4, 160, 0, 10, 45, 192, 0, 1, 167, 0, 43, 28, 5, 160, 0, 10, 45, 192, 0, 7, 167, 0, 31]
abbrev dktX0_as_2 : List UInt8 := dkwX0_as_2 ++ dktX0_as_3
def dkwX0_as_1 : List UInt8 := [180, 0, 39, 180, 1, 44, 27, 185, 1, 48, 2, 0, 192, 1, 54, 78, 28, 154, 0, 7, 45, 167, 0, 55]
abbrev dktX0_as_1 : List UInt8 := dkwX0_as_1 ++ dktX0_as_2
def dkwX0_as_0 : List UInt8 := [42, 27, 182, 0, 176, 153, 0, 15, 28, 133, 9, 20, 0, 174, 184, 0, 83, 154, 0, 6, 18, 97, 172, 42]
abbrev dktX0_as_0 : List UInt8 := dkwX0_as_0 ++ dktX0_as_1
theorem dksX0_as_0 : cX0_as.data.toList.drop 0 = dktX0_as_0 := by decide +kernel
theorem dksX0_as_1 : cX0_as.data.toList.drop 24 = dktX0_as_1 := dk_seg dksX0_as_0 24 rfl rfl
theorem dksX0_as_2 : cX0_as.data.toList.drop 48 = dktX0_as_2 := dk_seg dksX0_as_1 24 rfl rfl
theorem dksX0_as_3 : cX0_as.data.toList.drop 72 = dktX0_as_3 := dk_seg dksX0_as_2 24 rfl rfl
theorem dksX0_as_4 : cX0_as.data.toList.drop 96 = dktX0_as_4 := dk_seg dksX0_as_3 24 rfl rfl
theorem dksX0_as_5 : cX0_as.data.toList.drop 119 = dktX0_as_5 := dk_seg dksX0_as_4 23 rfl rfl
theorem dX0_as_0 : decode cX0_as 0 = .ok (.aload_n 0, 1) := dk_42 (dk_at dksX0_as_0 0 rfl rfl)
theorem dX0_as_1 : decode cX0_as 1 = .ok (.iload_n 1, 1) := dk_27 (dk_at dksX0_as_0 1 rfl rfl)
theorem dX0_as_2 : decode cX0_as 2 = .ok (.invokevirtual 176, 3) := dk_182 0 176 (dk_at dksX0_as_0 2 rfl rfl)
theorem dX0_as_5 : decode cX0_as 5 = .ok (.ifCond .eq 15, 3) := dk_153 0 15 (dk_at dksX0_as_0 5 rfl rfl)
theorem dX0_as_8 : decode cX0_as 8 = .ok (.iload_n 2, 1) := dk_28 (dk_at dksX0_as_0 8 rfl rfl)
theorem dX0_as_9 : decode cX0_as 9 = .ok (.i2l, 1) := dk_133 (dk_at dksX0_as_0 9 rfl rfl)
theorem dX0_as_10 : decode cX0_as 10 = .ok (.lconst 0, 1) := dk_9 (dk_at dksX0_as_0 10 rfl rfl)
theorem dX0_as_11 : decode cX0_as 11 = .ok (.ldc2_w 174, 3) := dk_20 0 174 (dk_at dksX0_as_0 11 rfl rfl)
theorem dX0_as_14 : decode cX0_as 14 = .ok (.invokestatic 83, 3) := dk_184 0 83 (dk_at dksX0_as_0 14 rfl rfl)
theorem dX0_as_17 : decode cX0_as 17 = .ok (.ifCond .ne 6, 3) := dk_154 0 6 (dk_at dksX0_as_0 17 rfl rfl)
theorem dX0_as_20 : decode cX0_as 20 = .ok (.ldc 97, 2) := dk_18 97 (dk_at dksX0_as_0 20 rfl rfl)
theorem dX0_as_22 : decode cX0_as 22 = .ok (.ireturn, 1) := dk_172 (dk_at dksX0_as_0 22 rfl rfl)
theorem dX0_as_23 : decode cX0_as 23 = .ok (.aload_n 0, 1) := dk_42 (dk_at dksX0_as_0 23 rfl rfl)
theorem dX0_as_24 : decode cX0_as 24 = .ok (.getfield 39, 3) := dk_180 0 39 (dk_at dksX0_as_1 0 rfl rfl)
theorem dX0_as_27 : decode cX0_as 27 = .ok (.getfield 300, 3) := dk_180 1 44 (dk_at dksX0_as_1 3 rfl rfl)
theorem dX0_as_30 : decode cX0_as 30 = .ok (.iload_n 1, 1) := dk_27 (dk_at dksX0_as_1 6 rfl rfl)
theorem dX0_as_31 : decode cX0_as 31 = .ok (.invokeinterface 304 2, 5) := by decide +kernel
theorem dX0_as_36 : decode cX0_as 36 = .ok (.checkcast 310, 3) := dk_192 1 54 (dk_at dksX0_as_1 12 rfl rfl)
theorem dX0_as_39 : decode cX0_as 39 = .ok (.astore_n 3, 1) := dk_78 (dk_at dksX0_as_1 15 rfl rfl)
theorem dX0_as_40 : decode cX0_as 40 = .ok (.iload_n 2, 1) := dk_28 (dk_at dksX0_as_1 16 rfl rfl)
theorem dX0_as_41 : decode cX0_as 41 = .ok (.ifCond .ne 7, 3) := dk_154 0 7 (dk_at dksX0_as_1 17 rfl rfl)
theorem dX0_as_44 : decode cX0_as 44 = .ok (.aload_n 3, 1) := dk_45 (dk_at dksX0_as_1 20 rfl rfl)
theorem dX0_as_45 : decode cX0_as 45 = .ok (.goto 55, 3) := dk_167 0 55 (dk_at dksX0_as_1 21 rfl rfl)
theorem dX0_as_48 : decode cX0_as 48 = .ok (.iload_n 2, 1) := dk_28 (dk_at dksX0_as_2 0 rfl rfl)
theorem dX0_as_49 : decode cX0_as 49 = .ok (.iconst 1, 1) := dk_4 (dk_at dksX0_as_2 1 rfl rfl)
theorem dX0_as_50 : decode cX0_as 50 = .ok (.if_icmp .ne 10, 3) := dk_160 0 10 (dk_at dksX0_as_2 2 rfl rfl)
theorem dX0_as_53 : decode cX0_as 53 = .ok (.aload_n 3, 1) := dk_45 (dk_at dksX0_as_2 5 rfl rfl)
theorem dX0_as_54 : decode cX0_as 54 = .ok (.checkcast 1, 3) := dk_192 0 1 (dk_at dksX0_as_2 6 rfl rfl)
theorem dX0_as_57 : decode cX0_as 57 = .ok (.goto 43, 3) := dk_167 0 43 (dk_at dksX0_as_2 9 rfl rfl)
theorem dX0_as_60 : decode cX0_as 60 = .ok (.iload_n 2, 1) := dk_28 (dk_at dksX0_as_2 12 rfl rfl)
theorem dX0_as_61 : decode cX0_as 61 = .ok (.iconst 2, 1) := dk_5 (dk_at dksX0_as_2 13 rfl rfl)
theorem dX0_as_62 : decode cX0_as 62 = .ok (.if_icmp .ne 10, 3) := dk_160 0 10 (dk_at dksX0_as_2 14 rfl rfl)
theorem dX0_as_65 : decode cX0_as 65 = .ok (.aload_n 3, 1) := dk_45 (dk_at dksX0_as_2 17 rfl rfl)
theorem dX0_as_66 : decode cX0_as 66 = .ok (.checkcast 7, 3) := dk_192 0 7 (dk_at dksX0_as_2 18 rfl rfl)
theorem dX0_as_69 : decode cX0_as 69 = .ok (.goto 31, 3) := dk_167 0 31 (dk_at dksX0_as_2 21 rfl rfl)
theorem dX0_as_72 : decode cX0_as 72 = .ok (.iload_n 2, 1) := dk_28 (dk_at dksX0_as_3 0 rfl rfl)
theorem dX0_as_73 : decode cX0_as 73 = .ok (.iconst 3, 1) := dk_6 (dk_at dksX0_as_3 1 rfl rfl)
theorem dX0_as_74 : decode cX0_as 74 = .ok (.if_icmp .ne 10, 3) := dk_160 0 10 (dk_at dksX0_as_3 2 rfl rfl)
theorem dX0_as_77 : decode cX0_as 77 = .ok (.aload_n 3, 1) := dk_45 (dk_at dksX0_as_3 5 rfl rfl)
theorem dX0_as_78 : decode cX0_as 78 = .ok (.checkcast 10, 3) := dk_192 0 10 (dk_at dksX0_as_3 6 rfl rfl)
theorem dX0_as_81 : decode cX0_as 81 = .ok (.goto 19, 3) := dk_167 0 19 (dk_at dksX0_as_3 9 rfl rfl)
theorem dX0_as_84 : decode cX0_as 84 = .ok (.iload_n 2, 1) := dk_28 (dk_at dksX0_as_3 12 rfl rfl)
theorem dX0_as_85 : decode cX0_as 85 = .ok (.iconst 4, 1) := dk_7 (dk_at dksX0_as_3 13 rfl rfl)
theorem dX0_as_86 : decode cX0_as 86 = .ok (.if_icmp .ne 10, 3) := dk_160 0 10 (dk_at dksX0_as_3 14 rfl rfl)
theorem dX0_as_89 : decode cX0_as 89 = .ok (.aload_n 3, 1) := dk_45 (dk_at dksX0_as_3 17 rfl rfl)
theorem dX0_as_90 : decode cX0_as 90 = .ok (.checkcast 13, 3) := dk_192 0 13 (dk_at dksX0_as_3 18 rfl rfl)
theorem dX0_as_93 : decode cX0_as 93 = .ok (.goto 7, 3) := dk_167 0 7 (dk_at dksX0_as_3 21 rfl rfl)
theorem dX0_as_96 : decode cX0_as 96 = .ok (.aload_n 3, 1) := dk_45 (dk_at dksX0_as_4 0 rfl rfl)
theorem dX0_as_97 : decode cX0_as 97 = .ok (.checkcast 16, 3) := dk_192 0 16 (dk_at dksX0_as_4 1 rfl rfl)
theorem dX0_as_100 : decode cX0_as 100 = .ok (.astore 4, 2) := dk_58 4 (dk_at dksX0_as_4 4 rfl rfl)
theorem dX0_as_102 : decode cX0_as 102 = .ok (.aload_n 0, 1) := dk_42 (dk_at dksX0_as_4 6 rfl rfl)
theorem dX0_as_103 : decode cX0_as 103 = .ok (.aload 4, 2) := dk_25 4 (dk_at dksX0_as_4 7 rfl rfl)
theorem dX0_as_105 : decode cX0_as 105 = .ok (.invokevirtual 358, 3) := dk_182 1 102 (dk_at dksX0_as_4 9 rfl rfl)
theorem dX0_as_108 : decode cX0_as 108 = .ok (.invokevirtual 101, 3) := dk_182 0 101 (dk_at dksX0_as_4 12 rfl rfl)
theorem dX0_as_111 : decode cX0_as 111 = .ok (.ireturn, 1) := dk_172 (dk_at dksX0_as_4 15 rfl rfl)
theorem dX0_as_112 : decode cX0_as 112 = .ok (.astore 4, 2) := dk_58 4 (dk_at dksX0_as_4 16 rfl rfl)
theorem dX0_as_114 : decode cX0_as 114 = .ok (.new 71, 3) := dk_187 0 71 (dk_at dksX0_as_4 18 rfl rfl)
theorem dX0_as_117 : decode cX0_as 117 = .ok (.dup, 1) := dk_89 (dk_at dksX0_as_4 21 rfl rfl)
theorem dX0_as_118 : decode cX0_as 118 = .ok (.iconst 3, 1) := dk_6 (dk_at dksX0_as_4 22 rfl rfl)
theorem dX0_as_119 : decode cX0_as 119 = .ok (.invokespecial 80, 3) := dk_183 0 80 (dk_at dksX0_as_5 0 rfl rfl)
theorem dX0_as_122 : decode cX0_as 122 = .ok (.athrow, 1) := dk_191 (dk_at dksX0_as_5 3 rfl rfl)
theorem dX0_as_123 : decode cX0_as 123 = .ok (.astore_n 3, 1) := dk_78 (dk_at dksX0_as_5 4 rfl rfl)
theorem dX0_as_124 : decode cX0_as 124 = .ok (.aload_n 0, 1) := dk_42 (dk_at dksX0_as_5 5 rfl rfl)
theorem dX0_as_125 : decode cX0_as 125 = .ok (.aload_n 3, 1) := dk_45 (dk_at dksX0_as_5 6 rfl rfl)
theorem dX0_as_126 : decode cX0_as 126 = .ok (.invokevirtual 105, 3) := dk_182 0 105 (dk_at dksX0_as_5 7 rfl rfl)
theorem dX0_as_129 : decode cX0_as 129 = .ok (.ireturn, 1) := dk_172 (dk_at dksX0_as_5 10 rfl rfl)
abbrev cX0_ask : ByteArray := prog_1_method_59_code
def yX0_ask : MethodName := ⟨RX0, "ask", "(II)I"⟩
def dkwX0_ask_3 : List UInt8 := [180, 0, 39, 182, 1, 110, 172]
abbrev dktX0_ask_3 : List UInt8 := dkwX0_ask_3 ++ []
def dkwX0_ask_2 : List UInt8 := [154, 0, 18, 45, 42, 180, 0, 56, 42, 180, 0, 39, 182, 1, 106, 167, 0, 15, 45, 42, 180, 0, 56, 42]
abbrev dktX0_ask_2 : List UInt8 := dkwX0_ask_2 ++ dktX0_ask_3
def dkwX0_ask_1 : List UInt8 := [183, 0, 55, 181, 0, 56, 42, 180, 0, 39, 180, 1, 44, 27, 185, 1, 48, 2, 0, 192, 1, 54, 78, 28]
abbrev dktX0_ask_1 : List UInt8 := dkwX0_ask_1 ++ dktX0_ask_2
def dkwX0_ask_0 : List UInt8 := [42, 27, 182, 0, 176, 153, 0, 10, 28, 184, 1, 3, 154, 0, 6, 18, 97, 172, 42, 187, 0, 53, 89]
abbrev dktX0_ask_0 : List UInt8 := dkwX0_ask_0 ++ dktX0_ask_1
theorem dksX0_ask_0 : cX0_ask.data.toList.drop 0 = dktX0_ask_0 := by decide +kernel
theorem dksX0_ask_1 : cX0_ask.data.toList.drop 23 = dktX0_ask_1 := dk_seg dksX0_ask_0 23 rfl rfl
theorem dksX0_ask_2 : cX0_ask.data.toList.drop 47 = dktX0_ask_2 := dk_seg dksX0_ask_1 24 rfl rfl
theorem dksX0_ask_3 : cX0_ask.data.toList.drop 71 = dktX0_ask_3 := dk_seg dksX0_ask_2 24 rfl rfl
theorem dX0_ask_0 : decode cX0_ask 0 = .ok (.aload_n 0, 1) := dk_42 (dk_at dksX0_ask_0 0 rfl rfl)
theorem dX0_ask_1 : decode cX0_ask 1 = .ok (.iload_n 1, 1) := dk_27 (dk_at dksX0_ask_0 1 rfl rfl)
theorem dX0_ask_2 : decode cX0_ask 2 = .ok (.invokevirtual 176, 3) := dk_182 0 176 (dk_at dksX0_ask_0 2 rfl rfl)
theorem dX0_ask_5 : decode cX0_ask 5 = .ok (.ifCond .eq 10, 3) := dk_153 0 10 (dk_at dksX0_ask_0 5 rfl rfl)
theorem dX0_ask_8 : decode cX0_ask 8 = .ok (.iload_n 2, 1) := dk_28 (dk_at dksX0_ask_0 8 rfl rfl)
theorem dX0_ask_9 : decode cX0_ask 9 = .ok (.invokestatic 259, 3) := dk_184 1 3 (dk_at dksX0_ask_0 9 rfl rfl)
theorem dX0_ask_12 : decode cX0_ask 12 = .ok (.ifCond .ne 6, 3) := dk_154 0 6 (dk_at dksX0_ask_0 12 rfl rfl)
theorem dX0_ask_15 : decode cX0_ask 15 = .ok (.ldc 97, 2) := dk_18 97 (dk_at dksX0_ask_0 15 rfl rfl)
theorem dX0_ask_17 : decode cX0_ask 17 = .ok (.ireturn, 1) := dk_172 (dk_at dksX0_ask_0 17 rfl rfl)
theorem dX0_ask_18 : decode cX0_ask 18 = .ok (.aload_n 0, 1) := dk_42 (dk_at dksX0_ask_0 18 rfl rfl)
theorem dX0_ask_19 : decode cX0_ask 19 = .ok (.new 53, 3) := dk_187 0 53 (dk_at dksX0_ask_0 19 rfl rfl)
theorem dX0_ask_22 : decode cX0_ask 22 = .ok (.dup, 1) := dk_89 (dk_at dksX0_ask_0 22 rfl rfl)
theorem dX0_ask_23 : decode cX0_ask 23 = .ok (.invokespecial 55, 3) := dk_183 0 55 (dk_at dksX0_ask_1 0 rfl rfl)
theorem dX0_ask_26 : decode cX0_ask 26 = .ok (.putfield 56, 3) := dk_181 0 56 (dk_at dksX0_ask_1 3 rfl rfl)
theorem dX0_ask_29 : decode cX0_ask 29 = .ok (.aload_n 0, 1) := dk_42 (dk_at dksX0_ask_1 6 rfl rfl)
theorem dX0_ask_30 : decode cX0_ask 30 = .ok (.getfield 39, 3) := dk_180 0 39 (dk_at dksX0_ask_1 7 rfl rfl)
theorem dX0_ask_33 : decode cX0_ask 33 = .ok (.getfield 300, 3) := dk_180 1 44 (dk_at dksX0_ask_1 10 rfl rfl)
theorem dX0_ask_36 : decode cX0_ask 36 = .ok (.iload_n 1, 1) := dk_27 (dk_at dksX0_ask_1 13 rfl rfl)
theorem dX0_ask_37 : decode cX0_ask 37 = .ok (.invokeinterface 304 2, 5) := by decide +kernel
theorem dX0_ask_42 : decode cX0_ask 42 = .ok (.checkcast 310, 3) := dk_192 1 54 (dk_at dksX0_ask_1 19 rfl rfl)
theorem dX0_ask_45 : decode cX0_ask 45 = .ok (.astore_n 3, 1) := dk_78 (dk_at dksX0_ask_1 22 rfl rfl)
theorem dX0_ask_46 : decode cX0_ask 46 = .ok (.iload_n 2, 1) := dk_28 (dk_at dksX0_ask_1 23 rfl rfl)
theorem dX0_ask_47 : decode cX0_ask 47 = .ok (.ifCond .ne 18, 3) := dk_154 0 18 (dk_at dksX0_ask_2 0 rfl rfl)
theorem dX0_ask_50 : decode cX0_ask 50 = .ok (.aload_n 3, 1) := dk_45 (dk_at dksX0_ask_2 3 rfl rfl)
theorem dX0_ask_51 : decode cX0_ask 51 = .ok (.aload_n 0, 1) := dk_42 (dk_at dksX0_ask_2 4 rfl rfl)
theorem dX0_ask_52 : decode cX0_ask 52 = .ok (.getfield 56, 3) := dk_180 0 56 (dk_at dksX0_ask_2 5 rfl rfl)
theorem dX0_ask_55 : decode cX0_ask 55 = .ok (.aload_n 0, 1) := dk_42 (dk_at dksX0_ask_2 8 rfl rfl)
theorem dX0_ask_56 : decode cX0_ask 56 = .ok (.getfield 39, 3) := dk_180 0 39 (dk_at dksX0_ask_2 9 rfl rfl)
theorem dX0_ask_59 : decode cX0_ask 59 = .ok (.invokevirtual 362, 3) := dk_182 1 106 (dk_at dksX0_ask_2 12 rfl rfl)
theorem dX0_ask_62 : decode cX0_ask 62 = .ok (.goto 15, 3) := dk_167 0 15 (dk_at dksX0_ask_2 15 rfl rfl)
theorem dX0_ask_65 : decode cX0_ask 65 = .ok (.aload_n 3, 1) := dk_45 (dk_at dksX0_ask_2 18 rfl rfl)
theorem dX0_ask_66 : decode cX0_ask 66 = .ok (.aload_n 0, 1) := dk_42 (dk_at dksX0_ask_2 19 rfl rfl)
theorem dX0_ask_67 : decode cX0_ask 67 = .ok (.getfield 56, 3) := dk_180 0 56 (dk_at dksX0_ask_2 20 rfl rfl)
theorem dX0_ask_70 : decode cX0_ask 70 = .ok (.aload_n 0, 1) := dk_42 (dk_at dksX0_ask_2 23 rfl rfl)
theorem dX0_ask_71 : decode cX0_ask 71 = .ok (.getfield 39, 3) := dk_180 0 39 (dk_at dksX0_ask_3 0 rfl rfl)
theorem dX0_ask_74 : decode cX0_ask 74 = .ok (.invokevirtual 366, 3) := dk_182 1 110 (dk_at dksX0_ask_3 3 rfl rfl)
theorem dX0_ask_77 : decode cX0_ask 77 = .ok (.ireturn, 1) := dk_172 (dk_at dksX0_ask_3 6 rfl rfl)
abbrev cX0_trace : ByteArray := prog_1_method_60_code
def yX0_trace : MethodName := ⟨RX0, "trace", "(I)I"⟩
def dkwX0_trace_1 : List UInt8 := [180, 1, 115, 27, 46, 167, 0, 6, 19, 1, 28, 172]
abbrev dktX0_trace_1 : List UInt8 := dkwX0_trace_1 ++ []
def dkwX0_trace_0 : List UInt8 := [27, 133, 9, 42, 180, 0, 56, 180, 1, 113, 4, 100, 133, 184, 0, 83, 153, 0, 15, 42, 180, 0, 56]
abbrev dktX0_trace_0 : List UInt8 := dkwX0_trace_0 ++ dktX0_trace_1
theorem dksX0_trace_0 : cX0_trace.data.toList.drop 0 = dktX0_trace_0 := by decide +kernel
theorem dksX0_trace_1 : cX0_trace.data.toList.drop 23 = dktX0_trace_1 := dk_seg dksX0_trace_0 23 rfl rfl
theorem dX0_trace_0 : decode cX0_trace 0 = .ok (.iload_n 1, 1) := dk_27 (dk_at dksX0_trace_0 0 rfl rfl)
theorem dX0_trace_1 : decode cX0_trace 1 = .ok (.i2l, 1) := dk_133 (dk_at dksX0_trace_0 1 rfl rfl)
theorem dX0_trace_2 : decode cX0_trace 2 = .ok (.lconst 0, 1) := dk_9 (dk_at dksX0_trace_0 2 rfl rfl)
theorem dX0_trace_3 : decode cX0_trace 3 = .ok (.aload_n 0, 1) := dk_42 (dk_at dksX0_trace_0 3 rfl rfl)
theorem dX0_trace_4 : decode cX0_trace 4 = .ok (.getfield 56, 3) := dk_180 0 56 (dk_at dksX0_trace_0 4 rfl rfl)
theorem dX0_trace_7 : decode cX0_trace 7 = .ok (.getfield 369, 3) := dk_180 1 113 (dk_at dksX0_trace_0 7 rfl rfl)
theorem dX0_trace_10 : decode cX0_trace 10 = .ok (.iconst 1, 1) := dk_4 (dk_at dksX0_trace_0 10 rfl rfl)
theorem dX0_trace_11 : decode cX0_trace 11 = .ok (.isub, 1) := dk_100 (dk_at dksX0_trace_0 11 rfl rfl)
theorem dX0_trace_12 : decode cX0_trace 12 = .ok (.i2l, 1) := dk_133 (dk_at dksX0_trace_0 12 rfl rfl)
theorem dX0_trace_13 : decode cX0_trace 13 = .ok (.invokestatic 83, 3) := dk_184 0 83 (dk_at dksX0_trace_0 13 rfl rfl)
theorem dX0_trace_16 : decode cX0_trace 16 = .ok (.ifCond .eq 15, 3) := dk_153 0 15 (dk_at dksX0_trace_0 16 rfl rfl)
theorem dX0_trace_19 : decode cX0_trace 19 = .ok (.aload_n 0, 1) := dk_42 (dk_at dksX0_trace_0 19 rfl rfl)
theorem dX0_trace_20 : decode cX0_trace 20 = .ok (.getfield 56, 3) := dk_180 0 56 (dk_at dksX0_trace_0 20 rfl rfl)
theorem dX0_trace_23 : decode cX0_trace 23 = .ok (.getfield 371, 3) := dk_180 1 115 (dk_at dksX0_trace_1 0 rfl rfl)
theorem dX0_trace_26 : decode cX0_trace 26 = .ok (.iload_n 1, 1) := dk_27 (dk_at dksX0_trace_1 3 rfl rfl)
theorem dX0_trace_27 : decode cX0_trace 27 = .ok (.iaload, 1) := dk_46 (dk_at dksX0_trace_1 4 rfl rfl)
theorem dX0_trace_28 : decode cX0_trace 28 = .ok (.goto 6, 3) := dk_167 0 6 (dk_at dksX0_trace_1 5 rfl rfl)
theorem dX0_trace_31 : decode cX0_trace 31 = .ok (.ldc_w 284, 3) := dk_19 1 28 (dk_at dksX0_trace_1 8 rfl rfl)
theorem dX0_trace_34 : decode cX0_trace 34 = .ok (.ireturn, 1) := dk_172 (dk_at dksX0_trace_1 11 rfl rfl)
abbrev cX0_count : ByteArray := prog_1_method_61_code
def yX0_count : MethodName := ⟨RX0, "count", "(I)I"⟩
def dkwX0_count_5 : List UInt8 := [182, 0, 238, 172, 42, 180, 0, 163, 172, 42, 180, 0, 132, 172, 18, 97, 172]
abbrev dktX0_count_5 : List UInt8 := dkwX0_count_5 ++ []
def dkwX0_count_4 : List UInt8 := [172, 42, 180, 0, 39, 180, 0, 202, 184, 1, 9, 172, 42, 180, 0, 39, 180, 0, 214, 172, 42, 180, 0, 39]
abbrev dktX0_count_4 : List UInt8 := dkwX0_count_4 ++ dktX0_count_5
def dkwX0_count_3 : List UInt8 := [61, 132, 3, 1, 167, 255, 230, 28, 172, 42, 180, 0, 39, 182, 0, 166, 172, 42, 180, 0, 39, 180, 0, 171]
abbrev dktX0_count_3 : List UInt8 := dkwX0_count_3 ++ dktX0_count_4
def dkwX0_count_2 : List UInt8 := [3, 62, 29, 16, 8, 162, 0, 26, 28, 42, 180, 0, 28, 29, 50, 199, 0, 7, 3, 167, 0, 4, 4, 96]
abbrev dktX0_count_2 : List UInt8 := dkwX0_count_2 ++ dktX0_count_3
def dkwX0_count_1 : List UInt8 := [170, 0, 0, 0, 131, 0, 0, 0, 0, 0, 0, 0, 7, 0, 0, 0, 45, 0, 0, 0, 78, 0, 0, 0, 86, 0, 0, 0, 94, 0, 0, 0, 105, 0, 0, 0, 113, 0, 0, 0, 121, 0, 0, 0, 126]
abbrev dktX0_count_1 : List UInt8 := dkwX0_count_1 ++ dktX0_count_2
def dkwX0_count_0 : List UInt8 := [3, 61, 27]
abbrev dktX0_count_0 : List UInt8 := dkwX0_count_0 ++ dktX0_count_1
theorem dksX0_count_0 : cX0_count.data.toList.drop 0 = dktX0_count_0 := by decide +kernel
theorem dksX0_count_1 : cX0_count.data.toList.drop 3 = dktX0_count_1 := dk_seg dksX0_count_0 3 rfl rfl
theorem dksX0_count_2 : cX0_count.data.toList.drop 48 = dktX0_count_2 := dk_seg dksX0_count_1 45 rfl rfl
theorem dksX0_count_3 : cX0_count.data.toList.drop 72 = dktX0_count_3 := dk_seg dksX0_count_2 24 rfl rfl
theorem dksX0_count_4 : cX0_count.data.toList.drop 96 = dktX0_count_4 := dk_seg dksX0_count_3 24 rfl rfl
theorem dksX0_count_5 : cX0_count.data.toList.drop 120 = dktX0_count_5 := dk_seg dksX0_count_4 24 rfl rfl
theorem dX0_count_0 : decode cX0_count 0 = .ok (.iconst 0, 1) := dk_3 (dk_at dksX0_count_0 0 rfl rfl)
theorem dX0_count_1 : decode cX0_count 1 = .ok (.istore_n 2, 1) := dk_61 (dk_at dksX0_count_0 1 rfl rfl)
theorem dX0_count_2 : decode cX0_count 2 = .ok (.iload_n 1, 1) := dk_27 (dk_at dksX0_count_0 2 rfl rfl)
theorem dX0_count_3 : decode cX0_count 3 = .ok (.tableswitch 131 0 7 #[45, 78, 86, 94, 105, 113, 121, 126], 45) := by decide +kernel
theorem dX0_count_48 : decode cX0_count 48 = .ok (.iconst 0, 1) := dk_3 (dk_at dksX0_count_2 0 rfl rfl)
theorem dX0_count_49 : decode cX0_count 49 = .ok (.istore_n 3, 1) := dk_62 (dk_at dksX0_count_2 1 rfl rfl)
theorem dX0_count_50 : decode cX0_count 50 = .ok (.iload_n 3, 1) := dk_29 (dk_at dksX0_count_2 2 rfl rfl)
theorem dX0_count_51 : decode cX0_count 51 = .ok (.bipush 8, 2) := dk_16 8 (dk_at dksX0_count_2 3 rfl rfl)
theorem dX0_count_53 : decode cX0_count 53 = .ok (.if_icmp .ge 26, 3) := dk_162 0 26 (dk_at dksX0_count_2 5 rfl rfl)
theorem dX0_count_56 : decode cX0_count 56 = .ok (.iload_n 2, 1) := dk_28 (dk_at dksX0_count_2 8 rfl rfl)
theorem dX0_count_57 : decode cX0_count 57 = .ok (.aload_n 0, 1) := dk_42 (dk_at dksX0_count_2 9 rfl rfl)
theorem dX0_count_58 : decode cX0_count 58 = .ok (.getfield 28, 3) := dk_180 0 28 (dk_at dksX0_count_2 10 rfl rfl)
theorem dX0_count_61 : decode cX0_count 61 = .ok (.iload_n 3, 1) := dk_29 (dk_at dksX0_count_2 13 rfl rfl)
theorem dX0_count_62 : decode cX0_count 62 = .ok (.aaload, 1) := dk_50 (dk_at dksX0_count_2 14 rfl rfl)
theorem dX0_count_63 : decode cX0_count 63 = .ok (.ifnonnull 7, 3) := dk_199 0 7 (dk_at dksX0_count_2 15 rfl rfl)
theorem dX0_count_66 : decode cX0_count 66 = .ok (.iconst 0, 1) := dk_3 (dk_at dksX0_count_2 18 rfl rfl)
theorem dX0_count_67 : decode cX0_count 67 = .ok (.goto 4, 3) := dk_167 0 4 (dk_at dksX0_count_2 19 rfl rfl)
theorem dX0_count_70 : decode cX0_count 70 = .ok (.iconst 1, 1) := dk_4 (dk_at dksX0_count_2 22 rfl rfl)
theorem dX0_count_71 : decode cX0_count 71 = .ok (.iadd, 1) := dk_96 (dk_at dksX0_count_2 23 rfl rfl)
theorem dX0_count_72 : decode cX0_count 72 = .ok (.istore_n 2, 1) := dk_61 (dk_at dksX0_count_3 0 rfl rfl)
theorem dX0_count_73 : decode cX0_count 73 = .ok (.iinc 3 1, 3) := dk_132 3 1 (dk_at dksX0_count_3 1 rfl rfl)
theorem dX0_count_76 : decode cX0_count 76 = .ok (.goto (-26), 3) := dk_167 255 230 (dk_at dksX0_count_3 4 rfl rfl)
theorem dX0_count_79 : decode cX0_count 79 = .ok (.iload_n 2, 1) := dk_28 (dk_at dksX0_count_3 7 rfl rfl)
theorem dX0_count_80 : decode cX0_count 80 = .ok (.ireturn, 1) := dk_172 (dk_at dksX0_count_3 8 rfl rfl)
theorem dX0_count_81 : decode cX0_count 81 = .ok (.aload_n 0, 1) := dk_42 (dk_at dksX0_count_3 9 rfl rfl)
theorem dX0_count_82 : decode cX0_count 82 = .ok (.getfield 39, 3) := dk_180 0 39 (dk_at dksX0_count_3 10 rfl rfl)
theorem dX0_count_85 : decode cX0_count 85 = .ok (.invokevirtual 166, 3) := dk_182 0 166 (dk_at dksX0_count_3 13 rfl rfl)
theorem dX0_count_88 : decode cX0_count 88 = .ok (.ireturn, 1) := dk_172 (dk_at dksX0_count_3 16 rfl rfl)
theorem dX0_count_89 : decode cX0_count 89 = .ok (.aload_n 0, 1) := dk_42 (dk_at dksX0_count_3 17 rfl rfl)
theorem dX0_count_90 : decode cX0_count 90 = .ok (.getfield 39, 3) := dk_180 0 39 (dk_at dksX0_count_3 18 rfl rfl)
theorem dX0_count_93 : decode cX0_count 93 = .ok (.getfield 171, 3) := dk_180 0 171 (dk_at dksX0_count_3 21 rfl rfl)
theorem dX0_count_96 : decode cX0_count 96 = .ok (.ireturn, 1) := dk_172 (dk_at dksX0_count_4 0 rfl rfl)
theorem dX0_count_97 : decode cX0_count 97 = .ok (.aload_n 0, 1) := dk_42 (dk_at dksX0_count_4 1 rfl rfl)
theorem dX0_count_98 : decode cX0_count 98 = .ok (.getfield 39, 3) := dk_180 0 39 (dk_at dksX0_count_4 2 rfl rfl)
theorem dX0_count_101 : decode cX0_count 101 = .ok (.getfield 202, 3) := dk_180 0 202 (dk_at dksX0_count_4 5 rfl rfl)
theorem dX0_count_104 : decode cX0_count 104 = .ok (.invokestatic 265, 3) := dk_184 1 9 (dk_at dksX0_count_4 8 rfl rfl)
theorem dX0_count_107 : decode cX0_count 107 = .ok (.ireturn, 1) := dk_172 (dk_at dksX0_count_4 11 rfl rfl)
theorem dX0_count_108 : decode cX0_count 108 = .ok (.aload_n 0, 1) := dk_42 (dk_at dksX0_count_4 12 rfl rfl)
theorem dX0_count_109 : decode cX0_count 109 = .ok (.getfield 39, 3) := dk_180 0 39 (dk_at dksX0_count_4 13 rfl rfl)
theorem dX0_count_112 : decode cX0_count 112 = .ok (.getfield 214, 3) := dk_180 0 214 (dk_at dksX0_count_4 16 rfl rfl)
theorem dX0_count_115 : decode cX0_count 115 = .ok (.ireturn, 1) := dk_172 (dk_at dksX0_count_4 19 rfl rfl)
theorem dX0_count_116 : decode cX0_count 116 = .ok (.aload_n 0, 1) := dk_42 (dk_at dksX0_count_4 20 rfl rfl)
theorem dX0_count_117 : decode cX0_count 117 = .ok (.getfield 39, 3) := dk_180 0 39 (dk_at dksX0_count_4 21 rfl rfl)
theorem dX0_count_120 : decode cX0_count 120 = .ok (.invokevirtual 238, 3) := dk_182 0 238 (dk_at dksX0_count_5 0 rfl rfl)
theorem dX0_count_123 : decode cX0_count 123 = .ok (.ireturn, 1) := dk_172 (dk_at dksX0_count_5 3 rfl rfl)
theorem dX0_count_124 : decode cX0_count 124 = .ok (.aload_n 0, 1) := dk_42 (dk_at dksX0_count_5 4 rfl rfl)
theorem dX0_count_125 : decode cX0_count 125 = .ok (.getfield 163, 3) := dk_180 0 163 (dk_at dksX0_count_5 5 rfl rfl)
theorem dX0_count_128 : decode cX0_count 128 = .ok (.ireturn, 1) := dk_172 (dk_at dksX0_count_5 8 rfl rfl)
theorem dX0_count_129 : decode cX0_count 129 = .ok (.aload_n 0, 1) := dk_42 (dk_at dksX0_count_5 9 rfl rfl)
theorem dX0_count_130 : decode cX0_count 130 = .ok (.getfield 132, 3) := dk_180 0 132 (dk_at dksX0_count_5 10 rfl rfl)
theorem dX0_count_133 : decode cX0_count 133 = .ok (.ireturn, 1) := dk_172 (dk_at dksX0_count_5 13 rfl rfl)
theorem dX0_count_134 : decode cX0_count 134 = .ok (.ldc 97, 2) := dk_18 97 (dk_at dksX0_count_5 14 rfl rfl)
theorem dX0_count_136 : decode cX0_count 136 = .ok (.ireturn, 1) := dk_172 (dk_at dksX0_count_5 16 rfl rfl)
abbrev cX0_status : ByteArray := prog_1_method_62_code
def yX0_status : MethodName := ⟨RX0, "status", "()I"⟩
theorem dX0_status_0 : decode cX0_status 0 = .ok (.aload_n 0, 1) := by decide +kernel
theorem dX0_status_1 : decode cX0_status 1 = .ok (.getfield 76, 3) := by decide +kernel
theorem dX0_status_4 : decode cX0_status 4 = .ok (.ireturn, 1) := by decide +kernel
theorem q76 : (Jvm.Cond.initialized "PromisePounds") ∈ lw_all := lw_g (lw_at lw_m1 1 rfl) rfl
theorem q110 : (Jvm.Cond.instantiable "PromisePounds" (17 : Nat)) ∈ lw_all := lw_g (lw_at lw_m1 35 rfl) rfl
theorem q112 : (Jvm.Cond.instanceMethod ({ cls := "PromisePounds", name := "<init>", desc := "()V" } : Jvm.MethodName)) ∈ lw_all := lw_g (lw_at lw_m1 37 rfl) rfl
theorem q113 : (Jvm.Cond.code ({ cls := "PromisePounds", name := "<init>", desc := "()V" } : Jvm.MethodName) prog_1_method_4_code (1 : Nat) (Option.none : Option Jvm.ClassFile.FieldType)) ∈ lw_all := lw_g (lw_at lw_m1 38 rfl) rfl
theorem q114 : (Jvm.Cond.methodLink "PromisePounds" (19 : Nat) ({ cls := "java/lang/Object", name := "<init>", desc := "()V" } : Jvm.MethodName)) ∈ lw_all := lw_g (lw_at lw_m1 39 rfl) rfl
theorem q117 : (Jvm.Cond.classLink "PromisePounds" (26 : Nat) "PromisePounds$Row") ∈ lw_all := lw_g (lw_at lw_m1 42 rfl) rfl
theorem q119 : (Jvm.Cond.classLink "PromisePounds" (36 : Nat) "PromisePounds$Parish") ∈ lw_all := lw_g (lw_at lw_m1 44 rfl) rfl
theorem q121 : (Jvm.Cond.methodLinkNest "PromisePounds" (38 : Nat) ({ cls := "PromisePounds$Parish", name := "<init>", desc := "()V" } : Jvm.MethodName) "PromisePounds") ∈ lw_tbl := lw_at lw_m1 46 rfl
theorem q155 : (Jvm.Cond.fieldLink "PromisePounds" (247 : Nat) "PromisePounds$Parish" "height" "[I") ∈ lw_all := lw_g (lw_at lw_m1 80 rfl) rfl
theorem q158 : (Jvm.Cond.fieldLink "PromisePounds" (300 : Nat) "PromisePounds$Parish" "people" "Ljava/util/List;") ∈ lw_all := lw_g (lw_at lw_m1 83 rfl) rfl
theorem q162 : (Jvm.Cond.fieldLink "PromisePounds" (235 : Nat) "PromisePounds$Parish" "strength" "[I") ∈ lw_all := lw_g (lw_at lw_m1 87 rfl) rfl
theorem q165 : (Jvm.Cond.fieldLink "PromisePounds" (186 : Nat) "PromisePounds$Parish" "place" "[I") ∈ lw_all := lw_g (lw_at lw_m1 90 rfl) rfl
theorem q168 : (Jvm.Cond.fieldLink "PromisePounds" (171 : Nat) "PromisePounds$Parish" "promises" "I") ∈ lw_all := lw_g (lw_at lw_m1 93 rfl) rfl
theorem q170 : (Jvm.Cond.fieldLink "PromisePounds" (208 : Nat) "PromisePounds$Parish" "from" "[I") ∈ lw_all := lw_g (lw_at lw_m1 95 rfl) rfl
theorem q172 : (Jvm.Cond.fieldLink "PromisePounds" (220 : Nat) "PromisePounds$Parish" "to" "[I") ∈ lw_all := lw_g (lw_at lw_m1 97 rfl) rfl
theorem q174 : (Jvm.Cond.fieldLink "PromisePounds" (241 : Nat) "PromisePounds$Parish" "weight" "[I") ∈ lw_all := lw_g (lw_at lw_m1 99 rfl) rfl
theorem q176 : (Jvm.Cond.fieldLink "PromisePounds" (217 : Nat) "PromisePounds$Parish" "due" "[I") ∈ lw_all := lw_g (lw_at lw_m1 101 rfl) rfl
theorem q178 : (Jvm.Cond.fieldLink "PromisePounds" (211 : Nat) "PromisePounds$Parish" "at" "[I") ∈ lw_all := lw_g (lw_at lw_m1 103 rfl) rfl
theorem q180 : (Jvm.Cond.fieldLink "PromisePounds" (202 : Nat) "PromisePounds$Parish" "kept" "I") ∈ lw_all := lw_g (lw_at lw_m1 105 rfl) rfl
theorem q182 : (Jvm.Cond.fieldLink "PromisePounds" (214 : Nat) "PromisePounds$Parish" "day" "I") ∈ lw_all := lw_g (lw_at lw_m1 107 rfl) rfl
theorem q209 : (Jvm.Cond.classLink "PromisePounds" (53 : Nat) "PromisePounds$Trail") ∈ lw_all := lw_g (lw_at lw_m1 134 rfl) rfl
theorem q211 : (Jvm.Cond.methodLinkNest "PromisePounds" (55 : Nat) ({ cls := "PromisePounds$Trail", name := "<init>", desc := "()V" } : Jvm.MethodName) "PromisePounds") ∈ lw_tbl := lw_at lw_m1 136 rfl
theorem q216 : (Jvm.Cond.fieldLinkNest "PromisePounds" (371 : Nat) "PromisePounds$Trail" "body" "[I" "PromisePounds") ∈ lw_tbl := lw_at lw_m1 141 rfl
theorem q218 : (Jvm.Cond.fieldLinkNest "PromisePounds" (369 : Nat) "PromisePounds$Trail" "many" "I" "PromisePounds") ∈ lw_tbl := lw_at lw_m1 143 rfl
theorem q224 : (Jvm.Cond.fieldLink "PromisePounds" (28 : Nat) "PromisePounds" "rows" "[LPromisePounds$Row;") ∈ lw_all := lw_g (lw_at lw_m1 149 rfl) rfl
theorem q225 : (Jvm.Cond.fieldLink "PromisePounds" (32 : Nat) "PromisePounds" "tape" "[B") ∈ lw_all := lw_g (lw_at lw_m1 150 rfl) rfl
theorem q226 : (Jvm.Cond.fieldLink "PromisePounds" (132 : Nat) "PromisePounds" "taped" "I") ∈ lw_all := lw_g (lw_at lw_m1 151 rfl) rfl
theorem q227 : (Jvm.Cond.fieldLink "PromisePounds" (149 : Nat) "PromisePounds" "faultKind" "I") ∈ lw_all := lw_g (lw_at lw_m1 152 rfl) rfl
theorem q228 : (Jvm.Cond.fieldLink "PromisePounds" (39 : Nat) "PromisePounds" "parish" "LPromisePounds$Parish;") ∈ lw_all := lw_g (lw_at lw_m1 153 rfl) rfl
theorem q229 : (Jvm.Cond.fieldLink "PromisePounds" (43 : Nat) "PromisePounds" "trial" "LPromisePounds$Parish;") ∈ lw_all := lw_g (lw_at lw_m1 154 rfl) rfl
theorem q230 : (Jvm.Cond.fieldLink "PromisePounds" (46 : Nat) "PromisePounds" "past" "[LPromisePounds$Parish;") ∈ lw_all := lw_g (lw_at lw_m1 155 rfl) rfl
theorem q231 : (Jvm.Cond.fieldLink "PromisePounds" (163 : Nat) "PromisePounds" "acts" "I") ∈ lw_all := lw_g (lw_at lw_m1 156 rfl) rfl
theorem q232 : (Jvm.Cond.fieldLink "PromisePounds" (50 : Nat) "PromisePounds" "images" "[LPromisePounds$Parish;") ∈ lw_all := lw_g (lw_at lw_m1 157 rfl) rfl
theorem q233 : (Jvm.Cond.fieldLink "PromisePounds" (56 : Nat) "PromisePounds" "trail" "LPromisePounds$Trail;") ∈ lw_all := lw_g (lw_at lw_m1 158 rfl) rfl
theorem q234 : (Jvm.Cond.fieldLink "PromisePounds" (76 : Nat) "PromisePounds" "status" "I") ∈ lw_all := lw_g (lw_at lw_m1 159 rfl) rfl
theorem q235 : (Jvm.Cond.fieldLink "PromisePounds" (60 : Nat) "PromisePounds" "line" "[I") ∈ lw_all := lw_g (lw_at lw_m1 160 rfl) rfl
theorem q236 : (Jvm.Cond.fieldLink "PromisePounds" (64 : Nat) "PromisePounds" "bestLine" "[I") ∈ lw_all := lw_g (lw_at lw_m1 161 rfl) rfl
theorem q237 : (Jvm.Cond.fieldLink "PromisePounds" (270 : Nat) "PromisePounds" "most" "I") ∈ lw_all := lw_g (lw_at lw_m1 162 rfl) rfl
theorem q238 : (Jvm.Cond.fieldLink "PromisePounds" (330 : Nat) "PromisePounds" "sets" "I") ∈ lw_all := lw_g (lw_at lw_m1 163 rfl) rfl
theorem q239 : (Jvm.Cond.fieldLink "PromisePounds" (67 : Nat) "PromisePounds" "having" "[I") ∈ lw_all := lw_g (lw_at lw_m1 164 rfl) rfl
theorem q240 : (Jvm.Cond.fieldLink "PromisePounds" (333 : Nat) "PromisePounds" "leastSet" "I") ∈ lw_all := lw_g (lw_at lw_m1 165 rfl) rfl
theorem q241 : (Jvm.Cond.laysFinal "PromisePounds" "PromisePounds" "rows" "[LPromisePounds$Row;") ∈ lw_all := lw_g (lw_at lw_m1 166 rfl) rfl
theorem q242 : (Jvm.Cond.soleField "PromisePounds" "rows") ∈ lw_all := lw_g (lw_at lw_m1 167 rfl) rfl
theorem q243 : (Jvm.Cond.laysFinal "PromisePounds" "PromisePounds" "tape" "[B") ∈ lw_all := lw_g (lw_at lw_m1 168 rfl) rfl
theorem q244 : (Jvm.Cond.soleField "PromisePounds" "tape") ∈ lw_all := lw_g (lw_at lw_m1 169 rfl) rfl
theorem q245 : (Jvm.Cond.lays "PromisePounds" "PromisePounds" "taped" "I") ∈ lw_all := lw_g (lw_at lw_m1 170 rfl) rfl
theorem q246 : (Jvm.Cond.soleField "PromisePounds" "taped") ∈ lw_all := lw_g (lw_at lw_m1 171 rfl) rfl
theorem q247 : (Jvm.Cond.lays "PromisePounds" "PromisePounds" "faultKind" "I") ∈ lw_all := lw_g (lw_at lw_m1 172 rfl) rfl
theorem q248 : (Jvm.Cond.soleField "PromisePounds" "faultKind") ∈ lw_all := lw_g (lw_at lw_m1 173 rfl) rfl
theorem q249 : (Jvm.Cond.laysFinal "PromisePounds" "PromisePounds" "parish" "LPromisePounds$Parish;") ∈ lw_all := lw_g (lw_at lw_m1 174 rfl) rfl
theorem q250 : (Jvm.Cond.soleField "PromisePounds" "parish") ∈ lw_all := lw_g (lw_at lw_m1 175 rfl) rfl
theorem q251 : (Jvm.Cond.laysFinal "PromisePounds" "PromisePounds" "trial" "LPromisePounds$Parish;") ∈ lw_all := lw_g (lw_at lw_m1 176 rfl) rfl
theorem q252 : (Jvm.Cond.soleField "PromisePounds" "trial") ∈ lw_all := lw_g (lw_at lw_m1 177 rfl) rfl
theorem q253 : (Jvm.Cond.laysFinal "PromisePounds" "PromisePounds" "past" "[LPromisePounds$Parish;") ∈ lw_all := lw_g (lw_at lw_m1 178 rfl) rfl
theorem q254 : (Jvm.Cond.soleField "PromisePounds" "past") ∈ lw_all := lw_g (lw_at lw_m1 179 rfl) rfl
theorem q255 : (Jvm.Cond.lays "PromisePounds" "PromisePounds" "acts" "I") ∈ lw_all := lw_g (lw_at lw_m1 180 rfl) rfl
theorem q256 : (Jvm.Cond.soleField "PromisePounds" "acts") ∈ lw_all := lw_g (lw_at lw_m1 181 rfl) rfl
theorem q257 : (Jvm.Cond.laysFinal "PromisePounds" "PromisePounds" "images" "[LPromisePounds$Parish;") ∈ lw_all := lw_g (lw_at lw_m1 182 rfl) rfl
theorem q258 : (Jvm.Cond.soleField "PromisePounds" "images") ∈ lw_all := lw_g (lw_at lw_m1 183 rfl) rfl
theorem q259 : (Jvm.Cond.lays "PromisePounds" "PromisePounds" "trail" "LPromisePounds$Trail;") ∈ lw_all := lw_g (lw_at lw_m1 184 rfl) rfl
theorem q260 : (Jvm.Cond.soleField "PromisePounds" "trail") ∈ lw_all := lw_g (lw_at lw_m1 185 rfl) rfl
theorem q261 : (Jvm.Cond.lays "PromisePounds" "PromisePounds" "status" "I") ∈ lw_all := lw_g (lw_at lw_m1 186 rfl) rfl
theorem q262 : (Jvm.Cond.soleField "PromisePounds" "status") ∈ lw_all := lw_g (lw_at lw_m1 187 rfl) rfl
theorem q263 : (Jvm.Cond.laysFinal "PromisePounds" "PromisePounds" "line" "[I") ∈ lw_all := lw_g (lw_at lw_m1 188 rfl) rfl
theorem q264 : (Jvm.Cond.soleField "PromisePounds" "line") ∈ lw_all := lw_g (lw_at lw_m1 189 rfl) rfl
theorem q265 : (Jvm.Cond.laysFinal "PromisePounds" "PromisePounds" "bestLine" "[I") ∈ lw_all := lw_g (lw_at lw_m1 190 rfl) rfl
theorem q266 : (Jvm.Cond.soleField "PromisePounds" "bestLine") ∈ lw_all := lw_g (lw_at lw_m1 191 rfl) rfl
theorem q267 : (Jvm.Cond.lays "PromisePounds" "PromisePounds" "most" "I") ∈ lw_all := lw_g (lw_at lw_m1 192 rfl) rfl
theorem q268 : (Jvm.Cond.soleField "PromisePounds" "most") ∈ lw_all := lw_g (lw_at lw_m1 193 rfl) rfl
theorem q269 : (Jvm.Cond.lays "PromisePounds" "PromisePounds" "sets" "I") ∈ lw_all := lw_g (lw_at lw_m1 194 rfl) rfl
theorem q270 : (Jvm.Cond.soleField "PromisePounds" "sets") ∈ lw_all := lw_g (lw_at lw_m1 195 rfl) rfl
theorem q271 : (Jvm.Cond.laysFinal "PromisePounds" "PromisePounds" "having" "[I") ∈ lw_all := lw_g (lw_at lw_m1 196 rfl) rfl
theorem q272 : (Jvm.Cond.soleField "PromisePounds" "having") ∈ lw_all := lw_g (lw_at lw_m1 197 rfl) rfl
theorem q273 : (Jvm.Cond.lays "PromisePounds" "PromisePounds" "leastSet" "I") ∈ lw_all := lw_g (lw_at lw_m1 198 rfl) rfl
theorem q274 : (Jvm.Cond.soleField "PromisePounds" "leastSet") ∈ lw_all := lw_g (lw_at lw_m1 199 rfl) rfl
theorem q275 : (Jvm.Cond.superclass "PromisePounds" "java/lang/Object") ∈ lw_all := lw_g (lw_at lw_m1 200 rfl) rfl
theorem q277 : (Jvm.Cond.instanceMethod ({ cls := "PromisePounds", name := "row", desc := "(III)I" } : Jvm.MethodName)) ∈ lw_all := lw_g (lw_at lw_m1 202 rfl) rfl
theorem q278 : (Jvm.Cond.selects "PromisePounds" ({ cls := "PromisePounds", name := "row", desc := "(III)I" } : Jvm.MethodName) ({ cls := "PromisePounds", name := "row", desc := "(III)I" } : Jvm.MethodName)) ∈ lw_all := lw_g (lw_at lw_m1 203 rfl) rfl
theorem q279 : (Jvm.Cond.codeWith ({ cls := "PromisePounds", name := "row", desc := "(III)I" } : Jvm.MethodName) prog_1_method_10_code (5 : Nat) (Option.some Jvm.ClassFile.FieldType.int) [((28 : Nat), (61 : Nat), (62 : Nat), (71 : Nat))]) ∈ lw_all := lw_g (lw_at lw_m1 204 rfl) rfl
theorem q280 : (Jvm.Cond.classLink "PromisePounds" (71 : Nat) "PromisePounds$Finding") ∈ lw_all := lw_g (lw_at lw_m1 205 rfl) rfl
theorem q281 : (Jvm.Cond.methodLink "PromisePounds" (91 : Nat) ({ cls := "PromisePounds", name := "isRow", desc := "(I)Z" } : Jvm.MethodName)) ∈ lw_all := lw_g (lw_at lw_m1 206 rfl) rfl
theorem q282 : (Jvm.Cond.static ({ cls := "PromisePounds", name := "isRow", desc := "(I)Z" } : Jvm.MethodName)) ∈ lw_all := lw_g (lw_at lw_m1 207 rfl) rfl
theorem q283 : (Jvm.Cond.code ({ cls := "PromisePounds", name := "isRow", desc := "(I)Z" } : Jvm.MethodName) prog_1_method_8_code (1 : Nat) (Option.some Jvm.ClassFile.FieldType.boolean)) ∈ lw_all := lw_g (lw_at lw_m1 208 rfl) rfl
theorem q284 : (Jvm.Cond.constantLong "PromisePounds" (81 : Nat) (7 : Int64)) ∈ lw_all := lw_g (lw_at lw_m1 209 rfl) rfl
theorem q285 : (Jvm.Cond.methodLink "PromisePounds" (83 : Nat) ({ cls := "PromisePounds", name := "isIn", desc := "(JJJ)Z" } : Jvm.MethodName)) ∈ lw_all := lw_g (lw_at lw_m1 210 rfl) rfl
theorem q286 : (Jvm.Cond.static ({ cls := "PromisePounds", name := "isIn", desc := "(JJJ)Z" } : Jvm.MethodName)) ∈ lw_all := lw_g (lw_at lw_m1 211 rfl) rfl
theorem q287 : (Jvm.Cond.code ({ cls := "PromisePounds", name := "isIn", desc := "(JJJ)Z" } : Jvm.MethodName) prog_1_method_1_code (6 : Nat) (Option.some Jvm.ClassFile.FieldType.boolean)) ∈ lw_all := lw_g (lw_at lw_m1 212 rfl) rfl
theorem q288 : (Jvm.Cond.constantLong "PromisePounds" (95 : Nat) (2 : Int64)) ∈ lw_all := lw_g (lw_at lw_m1 213 rfl) rfl
theorem q289 : (Jvm.Cond.constant "PromisePounds" (97 : Nat) (-1000001 : Int32)) ∈ lw_all := lw_g (lw_at lw_m1 214 rfl) rfl
theorem q290 : (Jvm.Cond.methodLink "PromisePounds" (87 : Nat) ({ cls := "PromisePounds", name := "must", desc := "(ZI)V" } : Jvm.MethodName)) ∈ lw_all := lw_g (lw_at lw_m1 215 rfl) rfl
theorem q291 : (Jvm.Cond.static ({ cls := "PromisePounds", name := "must", desc := "(ZI)V" } : Jvm.MethodName)) ∈ lw_all := lw_g (lw_at lw_m1 216 rfl) rfl
theorem q292 : (Jvm.Cond.code ({ cls := "PromisePounds", name := "must", desc := "(ZI)V" } : Jvm.MethodName) prog_1_method_7_code (2 : Nat) (Option.none : Option Jvm.ClassFile.FieldType)) ∈ lw_all := lw_g (lw_at lw_m1 217 rfl) rfl
theorem q332 : (Jvm.Cond.methodLink "PromisePounds" (80 : Nat) ({ cls := "PromisePounds$Finding", name := "<init>", desc := "(I)V" } : Jvm.MethodName)) ∈ lw_all := lw_g (lw_at lw_m2 17 rfl) rfl
theorem q342 : (Jvm.Cond.fieldLink "PromisePounds" (70 : Nat) "PromisePounds$Finding" "number" "I") ∈ lw_all := lw_g (lw_at lw_m2 27 rfl) rfl
theorem q359 : (Jvm.Cond.methodLink "PromisePounds" (98 : Nat) ({ cls := "PromisePounds$Row", name := "<init>", desc := "(II)V" } : Jvm.MethodName)) ∈ lw_all := lw_g (lw_at lw_m2 44 rfl) rfl
theorem q364 : (Jvm.Cond.fieldLink "PromisePounds" (119 : Nat) "PromisePounds$Row" "lane" "I") ∈ lw_all := lw_g (lw_at lw_m2 49 rfl) rfl
theorem q366 : (Jvm.Cond.fieldLink "PromisePounds" (113 : Nat) "PromisePounds$Row" "items" "[I") ∈ lw_all := lw_g (lw_at lw_m2 51 rfl) rfl
theorem q372 : (Jvm.Cond.methodLink "PromisePounds" (101 : Nat) ({ cls := "PromisePounds", name := "well", desc := "(I)I" } : Jvm.MethodName)) ∈ lw_all := lw_g (lw_at lw_m2 57 rfl) rfl
theorem q373 : (Jvm.Cond.privateMethod ({ cls := "PromisePounds", name := "well", desc := "(I)I" } : Jvm.MethodName)) ∈ lw_tbl := lw_at lw_m2 58 rfl
theorem q374 : (Jvm.Cond.instanceMethod ({ cls := "PromisePounds", name := "well", desc := "(I)I" } : Jvm.MethodName)) ∈ lw_all := lw_g (lw_at lw_m2 59 rfl) rfl
theorem q375 : (Jvm.Cond.code ({ cls := "PromisePounds", name := "well", desc := "(I)I" } : Jvm.MethodName) prog_1_method_6_code (2 : Nat) (Option.some Jvm.ClassFile.FieldType.int)) ∈ lw_all := lw_g (lw_at lw_m2 60 rfl) rfl
theorem q376 : (Jvm.Cond.methodLink "PromisePounds" (105 : Nat) ({ cls := "PromisePounds", name := "found", desc := "(LPromisePounds$Finding;)I" } : Jvm.MethodName)) ∈ lw_all := lw_g (lw_at lw_m2 61 rfl) rfl
theorem q377 : (Jvm.Cond.privateMethod ({ cls := "PromisePounds", name := "found", desc := "(LPromisePounds$Finding;)I" } : Jvm.MethodName)) ∈ lw_tbl := lw_at lw_m2 62 rfl
theorem q378 : (Jvm.Cond.instanceMethod ({ cls := "PromisePounds", name := "found", desc := "(LPromisePounds$Finding;)I" } : Jvm.MethodName)) ∈ lw_all := lw_g (lw_at lw_m2 63 rfl) rfl
theorem q379 : (Jvm.Cond.code ({ cls := "PromisePounds", name := "found", desc := "(LPromisePounds$Finding;)I" } : Jvm.MethodName) prog_1_method_5_code (2 : Nat) (Option.some Jvm.ClassFile.FieldType.int)) ∈ lw_all := lw_g (lw_at lw_m2 64 rfl) rfl
theorem q380 : (Jvm.Cond.constant "PromisePounds" (79 : Nat) (-1000010 : Int32)) ∈ lw_all := lw_g (lw_at lw_m2 65 rfl) rfl
theorem q382 : (Jvm.Cond.instanceMethod ({ cls := "PromisePounds", name := "set", desc := "(III)I" } : Jvm.MethodName)) ∈ lw_all := lw_g (lw_at lw_m2 67 rfl) rfl
theorem q383 : (Jvm.Cond.selects "PromisePounds" ({ cls := "PromisePounds", name := "set", desc := "(III)I" } : Jvm.MethodName) ({ cls := "PromisePounds", name := "set", desc := "(III)I" } : Jvm.MethodName)) ∈ lw_all := lw_g (lw_at lw_m2 68 rfl) rfl
theorem q384 : (Jvm.Cond.codeWith ({ cls := "PromisePounds", name := "set", desc := "(III)I" } : Jvm.MethodName) prog_1_method_11_code (5 : Nat) (Option.some Jvm.ClassFile.FieldType.int) [((10 : Nat), (60 : Nat), (61 : Nat), (71 : Nat))]) ∈ lw_all := lw_g (lw_at lw_m2 69 rfl) rfl
theorem q385 : (Jvm.Cond.methodLink "PromisePounds" (109 : Nat) ({ cls := "PromisePounds", name := "rowAt", desc := "(I)LPromisePounds$Row;" } : Jvm.MethodName)) ∈ lw_all := lw_g (lw_at lw_m2 70 rfl) rfl
theorem q386 : (Jvm.Cond.privateMethod ({ cls := "PromisePounds", name := "rowAt", desc := "(I)LPromisePounds$Row;" } : Jvm.MethodName)) ∈ lw_tbl := lw_at lw_m2 71 rfl
theorem q387 : (Jvm.Cond.instanceMethod ({ cls := "PromisePounds", name := "rowAt", desc := "(I)LPromisePounds$Row;" } : Jvm.MethodName)) ∈ lw_all := lw_g (lw_at lw_m2 72 rfl) rfl
theorem q388 : (Jvm.Cond.code ({ cls := "PromisePounds", name := "rowAt", desc := "(I)LPromisePounds$Row;" } : Jvm.MethodName) prog_1_method_9_code (2 : Nat) (Option.some (Jvm.ClassFile.FieldType.object "PromisePounds$Row"))) ∈ lw_all := lw_g (lw_at lw_m2 73 rfl) rfl
theorem q389 : (Jvm.Cond.methodLink "PromisePounds" (116 : Nat) ({ cls := "PromisePounds$Row", name := "cut", desc := "(I)I" } : Jvm.MethodName)) ∈ lw_all := lw_g (lw_at lw_m2 74 rfl) rfl
theorem q394 : (Jvm.Cond.instanceMethod ({ cls := "PromisePounds", name := "copy", desc := "(IIIII)I" } : Jvm.MethodName)) ∈ lw_all := lw_g (lw_at lw_m2 79 rfl) rfl
theorem q395 : (Jvm.Cond.selects "PromisePounds" ({ cls := "PromisePounds", name := "copy", desc := "(IIIII)I" } : Jvm.MethodName) ({ cls := "PromisePounds", name := "copy", desc := "(IIIII)I" } : Jvm.MethodName)) ∈ lw_all := lw_g (lw_at lw_m2 80 rfl) rfl
theorem q396 : (Jvm.Cond.codeWith ({ cls := "PromisePounds", name := "copy", desc := "(IIIII)I" } : Jvm.MethodName) prog_1_method_12_code (9 : Nat) (Option.some Jvm.ClassFile.FieldType.int) [((53 : Nat), (71 : Nat), (74 : Nat), (128 : Nat)), ((17 : Nat), (91 : Nat), (92 : Nat), (71 : Nat))]) ∈ lw_all := lw_g (lw_at lw_m2 81 rfl) rfl
theorem q397 : (Jvm.Cond.classLink "PromisePounds" (128 : Nat) "java/lang/IndexOutOfBoundsException") ∈ lw_all := lw_g (lw_at lw_m2 82 rfl) rfl
theorem q431 : (Jvm.Cond.methodLink "PromisePounds" (122 : Nat) ({ cls := "java/lang/System", name := "arraycopy", desc := "(Ljava/lang/Object;ILjava/lang/Object;II)V" } : Jvm.MethodName)) ∈ lw_all := lw_g (lw_at lw_m2 116 rfl) rfl
theorem q435 : (Jvm.Cond.instanceMethod ({ cls := "PromisePounds", name := "drop", desc := "(I)I" } : Jvm.MethodName)) ∈ lw_all := lw_g (lw_at lw_m2 120 rfl) rfl
theorem q436 : (Jvm.Cond.selects "PromisePounds" ({ cls := "PromisePounds", name := "drop", desc := "(I)I" } : Jvm.MethodName) ({ cls := "PromisePounds", name := "drop", desc := "(I)I" } : Jvm.MethodName)) ∈ lw_all := lw_g (lw_at lw_m2 121 rfl) rfl
theorem q437 : (Jvm.Cond.codeWith ({ cls := "PromisePounds", name := "drop", desc := "(I)I" } : Jvm.MethodName) prog_1_method_13_code (3 : Nat) (Option.some Jvm.ClassFile.FieldType.int) [((10 : Nat), (32 : Nat), (33 : Nat), (71 : Nat))]) ∈ lw_all := lw_g (lw_at lw_m2 122 rfl) rfl
theorem q439 : (Jvm.Cond.instanceMethod ({ cls := "PromisePounds", name := "feed", desc := "(I)I" } : Jvm.MethodName)) ∈ lw_all := lw_g (lw_at lw_m2 124 rfl) rfl
theorem q440 : (Jvm.Cond.selects "PromisePounds" ({ cls := "PromisePounds", name := "feed", desc := "(I)I" } : Jvm.MethodName) ({ cls := "PromisePounds", name := "feed", desc := "(I)I" } : Jvm.MethodName)) ∈ lw_all := lw_g (lw_at lw_m2 125 rfl) rfl
theorem q441 : (Jvm.Cond.code ({ cls := "PromisePounds", name := "feed", desc := "(I)I" } : Jvm.MethodName) prog_1_method_14_code (2 : Nat) (Option.some Jvm.ClassFile.FieldType.int)) ∈ lw_all := lw_g (lw_at lw_m2 126 rfl) rfl
theorem q442 : (Jvm.Cond.constantLong "PromisePounds" (130 : Nat) (255 : Int64)) ∈ lw_all := lw_g (lw_at lw_m2 127 rfl) rfl
theorem q443 : (Jvm.Cond.constant "PromisePounds" (135 : Nat) (-1000003 : Int32)) ∈ lw_all := lw_g (lw_at lw_m2 128 rfl) rfl
theorem q445 : (Jvm.Cond.instanceMethod ({ cls := "PromisePounds", name := "parish", desc := "()I" } : Jvm.MethodName)) ∈ lw_all := lw_g (lw_at lw_m2 130 rfl) rfl
theorem q446 : (Jvm.Cond.selects "PromisePounds" ({ cls := "PromisePounds", name := "parish", desc := "()I" } : Jvm.MethodName) ({ cls := "PromisePounds", name := "parish", desc := "()I" } : Jvm.MethodName)) ∈ lw_all := lw_g (lw_at lw_m2 131 rfl) rfl
theorem q447 : (Jvm.Cond.codeWith ({ cls := "PromisePounds", name := "parish", desc := "()I" } : Jvm.MethodName) prog_1_method_15_code (3 : Nat) (Option.some Jvm.ClassFile.FieldType.int) [((21 : Nat), (25 : Nat), (28 : Nat), (144 : Nat))]) ∈ lw_all := lw_g (lw_at lw_m2 132 rfl) rfl
theorem q448 : (Jvm.Cond.classLink "PromisePounds" (144 : Nat) "PromisePounds$Fault") ∈ lw_all := lw_g (lw_at lw_m2 133 rfl) rfl
theorem q449 : (Jvm.Cond.classLink "PromisePounds" (136 : Nat) "PromisePounds$Reader") ∈ lw_all := lw_g (lw_at lw_m2 134 rfl) rfl
theorem q451 : (Jvm.Cond.methodLink "PromisePounds" (138 : Nat) ({ cls := "PromisePounds$Reader", name := "<init>", desc := "([BI)V" } : Jvm.MethodName)) ∈ lw_all := lw_g (lw_at lw_m2 136 rfl) rfl
theorem q464 : (Jvm.Cond.fieldLink "PromisePounds" (156 : Nat) "PromisePounds$Reader" "made" "LPromisePounds$Parish;") ∈ lw_all := lw_g (lw_at lw_m2 149 rfl) rfl
theorem q480 : (Jvm.Cond.methodLink "PromisePounds" (141 : Nat) ({ cls := "PromisePounds$Reader", name := "all", desc := "()V" } : Jvm.MethodName)) ∈ lw_all := lw_g (lw_at lw_m2 165 rfl) rfl
theorem q520 : (Jvm.Cond.fieldLink "PromisePounds" (146 : Nat) "PromisePounds$Fault" "kind" "I") ∈ lw_all := lw_g (lw_at lw_m2 205 rfl) rfl
theorem q522 : (Jvm.Cond.fieldLink "PromisePounds" (153 : Nat) "PromisePounds$Fault" "place" "I") ∈ lw_all := lw_g (lw_at lw_m2 207 rfl) rfl
theorem q620 : (Jvm.Cond.static ({ cls := "PromisePounds", name := "personBy", desc := "(II)LPromisePounds$Person;" } : Jvm.MethodName)) ∈ lw_all := lw_g (lw_at lw_m3 65 rfl) rfl
theorem q621 : (Jvm.Cond.code ({ cls := "PromisePounds", name := "personBy", desc := "(II)LPromisePounds$Person;" } : Jvm.MethodName) prog_1_method_3_code (2 : Nat) (Option.some (Jvm.ClassFile.FieldType.object "PromisePounds$Person"))) ∈ lw_all := lw_g (lw_at lw_m3 66 rfl) rfl
theorem q622 : (Jvm.Cond.classLink "PromisePounds" (1 : Nat) "PromisePounds$Grown") ∈ lw_all := lw_g (lw_at lw_m3 67 rfl) rfl
theorem q624 : (Jvm.Cond.methodLink "PromisePounds" (3 : Nat) ({ cls := "PromisePounds$Grown", name := "<init>", desc := "(I)V" } : Jvm.MethodName)) ∈ lw_all := lw_g (lw_at lw_m3 69 rfl) rfl
theorem q635 : (Jvm.Cond.classLink "PromisePounds" (7 : Nat) "PromisePounds$Candidate") ∈ lw_all := lw_g (lw_at lw_m3 80 rfl) rfl
theorem q637 : (Jvm.Cond.methodLink "PromisePounds" (9 : Nat) ({ cls := "PromisePounds$Candidate", name := "<init>", desc := "(I)V" } : Jvm.MethodName)) ∈ lw_all := lw_g (lw_at lw_m3 82 rfl) rfl
theorem q643 : (Jvm.Cond.classLink "PromisePounds" (10 : Nat) "PromisePounds$Lover") ∈ lw_all := lw_g (lw_at lw_m3 88 rfl) rfl
theorem q645 : (Jvm.Cond.methodLink "PromisePounds" (12 : Nat) ({ cls := "PromisePounds$Lover", name := "<init>", desc := "(I)V" } : Jvm.MethodName)) ∈ lw_all := lw_g (lw_at lw_m3 90 rfl) rfl
theorem q651 : (Jvm.Cond.classLink "PromisePounds" (13 : Nat) "PromisePounds$Child") ∈ lw_all := lw_g (lw_at lw_m3 96 rfl) rfl
theorem q653 : (Jvm.Cond.methodLink "PromisePounds" (15 : Nat) ({ cls := "PromisePounds$Child", name := "<init>", desc := "(I)V" } : Jvm.MethodName)) ∈ lw_all := lw_g (lw_at lw_m3 98 rfl) rfl
theorem q659 : (Jvm.Cond.classLink "PromisePounds" (16 : Nat) "PromisePounds$Liar") ∈ lw_all := lw_g (lw_at lw_m3 104 rfl) rfl
theorem q661 : (Jvm.Cond.methodLink "PromisePounds" (18 : Nat) ({ cls := "PromisePounds$Liar", name := "<init>", desc := "(I)V" } : Jvm.MethodName)) ∈ lw_all := lw_g (lw_at lw_m3 106 rfl) rfl
theorem q704 : (Jvm.Cond.selects "PromisePounds" ({ cls := "java/lang/Object", name := "getClass", desc := "()Ljava/lang/Class;" } : Jvm.MethodName) ({ cls := "java/lang/Object", name := "getClass", desc := "()Ljava/lang/Class;" } : Jvm.MethodName)) ∈ lw_all := lw_g (lw_at lw_m3 149 rfl) rfl
theorem q741 : (Jvm.Cond.constant "PromisePounds" (152 : Nat) (-1000100 : Int32)) ∈ lw_all := lw_g (lw_at lw_m3 186 rfl) rfl
theorem q742 : (Jvm.Cond.methodLink "PromisePounds" (159 : Nat) ({ cls := "PromisePounds$Parish", name := "become", desc := "(LPromisePounds$Parish;)LPromisePounds$Parish;" } : Jvm.MethodName)) ∈ lw_all := lw_g (lw_at lw_m3 187 rfl) rfl
theorem q747 : (Jvm.Cond.methodLink "PromisePounds" (166 : Nat) ({ cls := "PromisePounds$Parish", name := "many", desc := "()I" } : Jvm.MethodName)) ∈ lw_all := lw_g (lw_at lw_m3 192 rfl) rfl
theorem q749 : (Jvm.Cond.instanceMethod ({ cls := "PromisePounds", name := "fault", desc := "()I" } : Jvm.MethodName)) ∈ lw_all := lw_g (lw_at lw_m3 194 rfl) rfl
theorem q750 : (Jvm.Cond.selects "PromisePounds" ({ cls := "PromisePounds", name := "fault", desc := "()I" } : Jvm.MethodName) ({ cls := "PromisePounds", name := "fault", desc := "()I" } : Jvm.MethodName)) ∈ lw_all := lw_g (lw_at lw_m3 195 rfl) rfl
theorem q751 : (Jvm.Cond.code ({ cls := "PromisePounds", name := "fault", desc := "()I" } : Jvm.MethodName) prog_1_method_16_code (1 : Nat) (Option.some Jvm.ClassFile.FieldType.int)) ∈ lw_all := lw_g (lw_at lw_m3 196 rfl) rfl
theorem q753 : (Jvm.Cond.instanceMethod ({ cls := "PromisePounds", name := "undo", desc := "()I" } : Jvm.MethodName)) ∈ lw_all := lw_g (lw_at lw_m3 198 rfl) rfl
theorem q754 : (Jvm.Cond.selects "PromisePounds" ({ cls := "PromisePounds", name := "undo", desc := "()I" } : Jvm.MethodName) ({ cls := "PromisePounds", name := "undo", desc := "()I" } : Jvm.MethodName)) ∈ lw_all := lw_g (lw_at lw_m3 199 rfl) rfl
theorem q755 : (Jvm.Cond.code ({ cls := "PromisePounds", name := "undo", desc := "()I" } : Jvm.MethodName) prog_1_method_19_code (1 : Nat) (Option.some Jvm.ClassFile.FieldType.int)) ∈ lw_all := lw_g (lw_at lw_m3 200 rfl) rfl
theorem q756 : (Jvm.Cond.constant "PromisePounds" (170 : Nat) (-1000002 : Int32)) ∈ lw_all := lw_g (lw_at lw_m3 201 rfl) rfl
theorem q758 : (Jvm.Cond.instanceMethod ({ cls := "PromisePounds", name := "walk", desc := "(II)I" } : Jvm.MethodName)) ∈ lw_all := lw_g (lw_at lw_m3 203 rfl) rfl
theorem q759 : (Jvm.Cond.selects "PromisePounds" ({ cls := "PromisePounds", name := "walk", desc := "(II)I" } : Jvm.MethodName) ({ cls := "PromisePounds", name := "walk", desc := "(II)I" } : Jvm.MethodName)) ∈ lw_all := lw_g (lw_at lw_m3 204 rfl) rfl
theorem q760 : (Jvm.Cond.code ({ cls := "PromisePounds", name := "walk", desc := "(II)I" } : Jvm.MethodName) prog_1_method_24_code (3 : Nat) (Option.some Jvm.ClassFile.FieldType.int)) ∈ lw_all := lw_g (lw_at lw_m3 205 rfl) rfl
theorem q761 : (Jvm.Cond.methodLink "PromisePounds" (176 : Nat) ({ cls := "PromisePounds", name := "isPerson", desc := "(I)Z" } : Jvm.MethodName)) ∈ lw_all := lw_g (lw_at lw_m3 206 rfl) rfl
theorem q762 : (Jvm.Cond.privateMethod ({ cls := "PromisePounds", name := "isPerson", desc := "(I)Z" } : Jvm.MethodName)) ∈ lw_tbl := lw_at lw_m3 207 rfl
theorem q763 : (Jvm.Cond.instanceMethod ({ cls := "PromisePounds", name := "isPerson", desc := "(I)Z" } : Jvm.MethodName)) ∈ lw_all := lw_g (lw_at lw_m3 208 rfl) rfl
theorem q764 : (Jvm.Cond.code ({ cls := "PromisePounds", name := "isPerson", desc := "(I)Z" } : Jvm.MethodName) prog_1_method_21_code (2 : Nat) (Option.some Jvm.ClassFile.FieldType.boolean)) ∈ lw_all := lw_g (lw_at lw_m3 209 rfl) rfl
theorem q765 : (Jvm.Cond.methodLink "PromisePounds" (179 : Nat) ({ cls := "PromisePounds$Parish", name := "mayWalk", desc := "(II)Z" } : Jvm.MethodName)) ∈ lw_all := lw_g (lw_at lw_m3 210 rfl) rfl
theorem q784 : (Jvm.Cond.static ({ cls := "PromisePounds", name := "has", desc := "(II)Z" } : Jvm.MethodName)) ∈ lw_all := lw_g (lw_at lw_m3 229 rfl) rfl
theorem q785 : (Jvm.Cond.code ({ cls := "PromisePounds", name := "has", desc := "(II)Z" } : Jvm.MethodName) prog_1_method_2_code (2 : Nat) (Option.some Jvm.ClassFile.FieldType.boolean)) ∈ lw_all := lw_g (lw_at lw_m3 230 rfl) rfl
theorem q830 : (Jvm.Cond.methodLink "PromisePounds" (183 : Nat) ({ cls := "PromisePounds", name := "keep", desc := "()V" } : Jvm.MethodName)) ∈ lw_all := lw_g (lw_at lw_m4 35 rfl) rfl
theorem q831 : (Jvm.Cond.privateMethod ({ cls := "PromisePounds", name := "keep", desc := "()V" } : Jvm.MethodName)) ∈ lw_tbl := lw_at lw_m4 36 rfl
theorem q832 : (Jvm.Cond.instanceMethod ({ cls := "PromisePounds", name := "keep", desc := "()V" } : Jvm.MethodName)) ∈ lw_all := lw_g (lw_at lw_m4 37 rfl) rfl
theorem q833 : (Jvm.Cond.code ({ cls := "PromisePounds", name := "keep", desc := "()V" } : Jvm.MethodName) prog_1_method_18_code (3 : Nat) (Option.none : Option Jvm.ClassFile.FieldType)) ∈ lw_all := lw_g (lw_at lw_m4 38 rfl) rfl
theorem q835 : (Jvm.Cond.instanceMethod ({ cls := "PromisePounds", name := "give", desc := "(IIIII)I" } : Jvm.MethodName)) ∈ lw_all := lw_g (lw_at lw_m4 40 rfl) rfl
theorem q836 : (Jvm.Cond.selects "PromisePounds" ({ cls := "PromisePounds", name := "give", desc := "(IIIII)I" } : Jvm.MethodName) ({ cls := "PromisePounds", name := "give", desc := "(IIIII)I" } : Jvm.MethodName)) ∈ lw_all := lw_g (lw_at lw_m4 41 rfl) rfl
theorem q837 : (Jvm.Cond.code ({ cls := "PromisePounds", name := "give", desc := "(IIIII)I" } : Jvm.MethodName) prog_1_method_25_code (6 : Nat) (Option.some Jvm.ClassFile.FieldType.int)) ∈ lw_all := lw_g (lw_at lw_m4 42 rfl) rfl
theorem q838 : (Jvm.Cond.constantLong "PromisePounds" (188 : Nat) (20 : Int64)) ∈ lw_all := lw_g (lw_at lw_m4 43 rfl) rfl
theorem q839 : (Jvm.Cond.constantLong "PromisePounds" (190 : Nat) (99 : Int64)) ∈ lw_all := lw_g (lw_at lw_m4 44 rfl) rfl
theorem q840 : (Jvm.Cond.methodLink "PromisePounds" (192 : Nat) ({ cls := "PromisePounds", name := "isPlace", desc := "(I)Z" } : Jvm.MethodName)) ∈ lw_all := lw_g (lw_at lw_m4 45 rfl) rfl
theorem q841 : (Jvm.Cond.static ({ cls := "PromisePounds", name := "isPlace", desc := "(I)Z" } : Jvm.MethodName)) ∈ lw_all := lw_g (lw_at lw_m4 46 rfl) rfl
theorem q842 : (Jvm.Cond.code ({ cls := "PromisePounds", name := "isPlace", desc := "(I)Z" } : Jvm.MethodName) prog_1_method_23_code (1 : Nat) (Option.some Jvm.ClassFile.FieldType.boolean)) ∈ lw_all := lw_g (lw_at lw_m4 47 rfl) rfl
theorem q843 : (Jvm.Cond.constantLong "PromisePounds" (174 : Nat) (5 : Int64)) ∈ lw_all := lw_g (lw_at lw_m4 48 rfl) rfl
theorem q844 : (Jvm.Cond.methodLink "PromisePounds" (195 : Nat) ({ cls := "PromisePounds$Parish", name := "give", desc := "(IIIII)V" } : Jvm.MethodName)) ∈ lw_all := lw_g (lw_at lw_m4 49 rfl) rfl
theorem q846 : (Jvm.Cond.instanceMethod ({ cls := "PromisePounds", name := "redeem", desc := "(I)I" } : Jvm.MethodName)) ∈ lw_all := lw_g (lw_at lw_m4 51 rfl) rfl
theorem q847 : (Jvm.Cond.selects "PromisePounds" ({ cls := "PromisePounds", name := "redeem", desc := "(I)I" } : Jvm.MethodName) ({ cls := "PromisePounds", name := "redeem", desc := "(I)I" } : Jvm.MethodName)) ∈ lw_all := lw_g (lw_at lw_m4 52 rfl) rfl
theorem q848 : (Jvm.Cond.code ({ cls := "PromisePounds", name := "redeem", desc := "(I)I" } : Jvm.MethodName) prog_1_method_26_code (2 : Nat) (Option.some Jvm.ClassFile.FieldType.int)) ∈ lw_all := lw_g (lw_at lw_m4 53 rfl) rfl
theorem q849 : (Jvm.Cond.methodLink "PromisePounds" (199 : Nat) ({ cls := "PromisePounds", name := "isPromise", desc := "(I)Z" } : Jvm.MethodName)) ∈ lw_all := lw_g (lw_at lw_m4 54 rfl) rfl
theorem q850 : (Jvm.Cond.privateMethod ({ cls := "PromisePounds", name := "isPromise", desc := "(I)Z" } : Jvm.MethodName)) ∈ lw_tbl := lw_at lw_m4 55 rfl
theorem q851 : (Jvm.Cond.instanceMethod ({ cls := "PromisePounds", name := "isPromise", desc := "(I)Z" } : Jvm.MethodName)) ∈ lw_all := lw_g (lw_at lw_m4 56 rfl) rfl
theorem q852 : (Jvm.Cond.code ({ cls := "PromisePounds", name := "isPromise", desc := "(I)Z" } : Jvm.MethodName) prog_1_method_22_code (2 : Nat) (Option.some Jvm.ClassFile.FieldType.boolean)) ∈ lw_all := lw_g (lw_at lw_m4 57 rfl) rfl
theorem q853 : (Jvm.Cond.methodLink "PromisePounds" (205 : Nat) ({ cls := "PromisePounds", name := "has", desc := "(II)Z" } : Jvm.MethodName)) ∈ lw_all := lw_g (lw_at lw_m4 58 rfl) rfl
theorem q855 : (Jvm.Cond.instanceMethod ({ cls := "PromisePounds", name := "pass", desc := "(II)I" } : Jvm.MethodName)) ∈ lw_all := lw_g (lw_at lw_m4 60 rfl) rfl
theorem q856 : (Jvm.Cond.selects "PromisePounds" ({ cls := "PromisePounds", name := "pass", desc := "(II)I" } : Jvm.MethodName) ({ cls := "PromisePounds", name := "pass", desc := "(II)I" } : Jvm.MethodName)) ∈ lw_all := lw_g (lw_at lw_m4 61 rfl) rfl
theorem q857 : (Jvm.Cond.code ({ cls := "PromisePounds", name := "pass", desc := "(II)I" } : Jvm.MethodName) prog_1_method_27_code (3 : Nat) (Option.some Jvm.ClassFile.FieldType.int)) ∈ lw_all := lw_g (lw_at lw_m4 62 rfl) rfl
theorem q858 : (Jvm.Cond.methodLink "PromisePounds" (223 : Nat) ({ cls := "PromisePounds$Parish", name := "load", desc := "(I)I" } : Jvm.MethodName)) ∈ lw_all := lw_g (lw_at lw_m4 63 rfl) rfl
theorem q860 : (Jvm.Cond.instanceMethod ({ cls := "PromisePounds", name := "days", desc := "(I)I" } : Jvm.MethodName)) ∈ lw_all := lw_g (lw_at lw_m4 65 rfl) rfl
theorem q861 : (Jvm.Cond.selects "PromisePounds" ({ cls := "PromisePounds", name := "days", desc := "(I)I" } : Jvm.MethodName) ({ cls := "PromisePounds", name := "days", desc := "(I)I" } : Jvm.MethodName)) ∈ lw_all := lw_g (lw_at lw_m4 66 rfl) rfl
theorem q862 : (Jvm.Cond.code ({ cls := "PromisePounds", name := "days", desc := "(I)I" } : Jvm.MethodName) prog_1_method_28_code (3 : Nat) (Option.some Jvm.ClassFile.FieldType.int)) ∈ lw_all := lw_g (lw_at lw_m4 67 rfl) rfl
theorem q863 : (Jvm.Cond.methodLink "PromisePounds" (226 : Nat) ({ cls := "PromisePounds", name := "isParish", desc := "()Z" } : Jvm.MethodName)) ∈ lw_all := lw_g (lw_at lw_m4 68 rfl) rfl
theorem q864 : (Jvm.Cond.privateMethod ({ cls := "PromisePounds", name := "isParish", desc := "()Z" } : Jvm.MethodName)) ∈ lw_tbl := lw_at lw_m4 69 rfl
theorem q865 : (Jvm.Cond.instanceMethod ({ cls := "PromisePounds", name := "isParish", desc := "()Z" } : Jvm.MethodName)) ∈ lw_all := lw_g (lw_at lw_m4 70 rfl) rfl
theorem q866 : (Jvm.Cond.code ({ cls := "PromisePounds", name := "isParish", desc := "()Z" } : Jvm.MethodName) prog_1_method_20_code (1 : Nat) (Option.some Jvm.ClassFile.FieldType.boolean)) ∈ lw_all := lw_g (lw_at lw_m4 71 rfl) rfl
theorem q867 : (Jvm.Cond.constantLong "PromisePounds" (230 : Nat) (24 : Int64)) ∈ lw_all := lw_g (lw_at lw_m4 72 rfl) rfl
theorem q868 : (Jvm.Cond.methodLink "PromisePounds" (232 : Nat) ({ cls := "PromisePounds$Parish", name := "pass", desc := "()V" } : Jvm.MethodName)) ∈ lw_all := lw_g (lw_at lw_m4 73 rfl) rfl
theorem q886 : (Jvm.Cond.instanceMethod ({ cls := "PromisePounds", name := "person", desc := "(II)I" } : Jvm.MethodName)) ∈ lw_all := lw_g (lw_at lw_m4 91 rfl) rfl
theorem q887 : (Jvm.Cond.selects "PromisePounds" ({ cls := "PromisePounds", name := "person", desc := "(II)I" } : Jvm.MethodName) ({ cls := "PromisePounds", name := "person", desc := "(II)I" } : Jvm.MethodName)) ∈ lw_all := lw_g (lw_at lw_m4 92 rfl) rfl
theorem q888 : (Jvm.Cond.code ({ cls := "PromisePounds", name := "person", desc := "(II)I" } : Jvm.MethodName) prog_1_method_29_code (3 : Nat) (Option.some Jvm.ClassFile.FieldType.int)) ∈ lw_all := lw_g (lw_at lw_m4 93 rfl) rfl
theorem q889 : (Jvm.Cond.methodLink "PromisePounds" (238 : Nat) ({ cls := "PromisePounds$Parish", name := "crushed", desc := "()I" } : Jvm.MethodName)) ∈ lw_all := lw_g (lw_at lw_m4 94 rfl) rfl
theorem q898 : (Jvm.Cond.instanceMethod ({ cls := "PromisePounds", name := "promise", desc := "(II)I" } : Jvm.MethodName)) ∈ lw_all := lw_g (lw_at lw_m4 103 rfl) rfl
theorem q899 : (Jvm.Cond.selects "PromisePounds" ({ cls := "PromisePounds", name := "promise", desc := "(II)I" } : Jvm.MethodName) ({ cls := "PromisePounds", name := "promise", desc := "(II)I" } : Jvm.MethodName)) ∈ lw_all := lw_g (lw_at lw_m4 104 rfl) rfl
theorem q900 : (Jvm.Cond.code ({ cls := "PromisePounds", name := "promise", desc := "(II)I" } : Jvm.MethodName) prog_1_method_30_code (3 : Nat) (Option.some Jvm.ClassFile.FieldType.int)) ∈ lw_all := lw_g (lw_at lw_m4 105 rfl) rfl
theorem q901 : (Jvm.Cond.methodLink "PromisePounds" (244 : Nat) ({ cls := "PromisePounds$Parish", name := "pounds", desc := "(I)I" } : Jvm.MethodName)) ∈ lw_all := lw_g (lw_at lw_m4 106 rfl) rfl
theorem q903 : (Jvm.Cond.instanceMethod ({ cls := "PromisePounds", name := "height", desc := "(I)I" } : Jvm.MethodName)) ∈ lw_all := lw_g (lw_at lw_m4 108 rfl) rfl
theorem q904 : (Jvm.Cond.selects "PromisePounds" ({ cls := "PromisePounds", name := "height", desc := "(I)I" } : Jvm.MethodName) ({ cls := "PromisePounds", name := "height", desc := "(I)I" } : Jvm.MethodName)) ∈ lw_all := lw_g (lw_at lw_m4 109 rfl) rfl
theorem q905 : (Jvm.Cond.code ({ cls := "PromisePounds", name := "height", desc := "(I)I" } : Jvm.MethodName) prog_1_method_31_code (2 : Nat) (Option.some Jvm.ClassFile.FieldType.int)) ∈ lw_all := lw_g (lw_at lw_m4 110 rfl) rfl
theorem q907 : (Jvm.Cond.instanceMethod ({ cls := "PromisePounds", name := "gets", desc := "(III)I" } : Jvm.MethodName)) ∈ lw_all := lw_g (lw_at lw_m4 112 rfl) rfl
theorem q908 : (Jvm.Cond.selects "PromisePounds" ({ cls := "PromisePounds", name := "gets", desc := "(III)I" } : Jvm.MethodName) ({ cls := "PromisePounds", name := "gets", desc := "(III)I" } : Jvm.MethodName)) ∈ lw_all := lw_g (lw_at lw_m4 113 rfl) rfl
theorem q909 : (Jvm.Cond.code ({ cls := "PromisePounds", name := "gets", desc := "(III)I" } : Jvm.MethodName) prog_1_method_33_code (5 : Nat) (Option.some Jvm.ClassFile.FieldType.int)) ∈ lw_all := lw_g (lw_at lw_m4 114 rfl) rfl
theorem q910 : (Jvm.Cond.methodLink "PromisePounds" (259 : Nat) ({ cls := "PromisePounds", name := "isHalf", desc := "(I)Z" } : Jvm.MethodName)) ∈ lw_all := lw_g (lw_at lw_m4 115 rfl) rfl
theorem q911 : (Jvm.Cond.static ({ cls := "PromisePounds", name := "isHalf", desc := "(I)Z" } : Jvm.MethodName)) ∈ lw_all := lw_g (lw_at lw_m4 116 rfl) rfl
theorem q912 : (Jvm.Cond.code ({ cls := "PromisePounds", name := "isHalf", desc := "(I)Z" } : Jvm.MethodName) prog_1_method_17_code (1 : Nat) (Option.some Jvm.ClassFile.FieldType.boolean)) ∈ lw_all := lw_g (lw_at lw_m4 117 rfl) rfl
theorem q913 : (Jvm.Cond.methodLink "PromisePounds" (262 : Nat) ({ cls := "PromisePounds", name := "lacksTo", desc := "(II)I" } : Jvm.MethodName)) ∈ lw_all := lw_g (lw_at lw_m4 118 rfl) rfl
theorem q914 : (Jvm.Cond.privateMethod ({ cls := "PromisePounds", name := "lacksTo", desc := "(II)I" } : Jvm.MethodName)) ∈ lw_tbl := lw_at lw_m4 119 rfl
theorem q915 : (Jvm.Cond.instanceMethod ({ cls := "PromisePounds", name := "lacksTo", desc := "(II)I" } : Jvm.MethodName)) ∈ lw_all := lw_g (lw_at lw_m4 120 rfl) rfl
theorem q916 : (Jvm.Cond.code ({ cls := "PromisePounds", name := "lacksTo", desc := "(II)I" } : Jvm.MethodName) prog_1_method_32_code (6 : Nat) (Option.some Jvm.ClassFile.FieldType.int)) ∈ lw_all := lw_g (lw_at lw_m4 121 rfl) rfl
theorem q917 : (Jvm.Cond.methodLink "PromisePounds" (250 : Nat) ({ cls := "PromisePounds$Parish", name := "rise", desc := "(II)I" } : Jvm.MethodName)) ∈ lw_all := lw_g (lw_at lw_m4 122 rfl) rfl
theorem q918 : (Jvm.Cond.methodLink "PromisePounds" (254 : Nat) ({ cls := "java/lang/Math", name := "max", desc := "(II)I" } : Jvm.MethodName)) ∈ lw_all := lw_g (lw_at lw_m4 123 rfl) rfl
theorem q920 : (Jvm.Cond.instanceMethod ({ cls := "PromisePounds", name := "keeps", desc := "(II)I" } : Jvm.MethodName)) ∈ lw_all := lw_g (lw_at lw_m4 125 rfl) rfl
theorem q921 : (Jvm.Cond.selects "PromisePounds" ({ cls := "PromisePounds", name := "keeps", desc := "(II)I" } : Jvm.MethodName) ({ cls := "PromisePounds", name := "keeps", desc := "(II)I" } : Jvm.MethodName)) ∈ lw_all := lw_g (lw_at lw_m4 126 rfl) rfl
theorem q922 : (Jvm.Cond.code ({ cls := "PromisePounds", name := "keeps", desc := "(II)I" } : Jvm.MethodName) prog_1_method_36_code (4 : Nat) (Option.some Jvm.ClassFile.FieldType.int)) ∈ lw_all := lw_g (lw_at lw_m4 127 rfl) rfl
theorem q923 : (Jvm.Cond.constantLong "PromisePounds" (279 : Nat) (-1 : Int64)) ∈ lw_all := lw_g (lw_at lw_m4 128 rfl) rfl
theorem q924 : (Jvm.Cond.methodLink "PromisePounds" (281 : Nat) ({ cls := "PromisePounds", name := "openOf", desc := "(I)I" } : Jvm.MethodName)) ∈ lw_all := lw_g (lw_at lw_m4 129 rfl) rfl
theorem q925 : (Jvm.Cond.privateMethod ({ cls := "PromisePounds", name := "openOf", desc := "(I)I" } : Jvm.MethodName)) ∈ lw_tbl := lw_at lw_m4 130 rfl
theorem q926 : (Jvm.Cond.instanceMethod ({ cls := "PromisePounds", name := "openOf", desc := "(I)I" } : Jvm.MethodName)) ∈ lw_all := lw_g (lw_at lw_m4 131 rfl) rfl
theorem q927 : (Jvm.Cond.code ({ cls := "PromisePounds", name := "openOf", desc := "(I)I" } : Jvm.MethodName) prog_1_method_35_code (4 : Nat) (Option.some Jvm.ClassFile.FieldType.int)) ∈ lw_all := lw_g (lw_at lw_m4 132 rfl) rfl
theorem q928 : (Jvm.Cond.methodLink "PromisePounds" (276 : Nat) ({ cls := "PromisePounds", name := "keepFrom", desc := "(IIIII)V" } : Jvm.MethodName)) ∈ lw_all := lw_g (lw_at lw_m4 133 rfl) rfl
theorem q929 : (Jvm.Cond.privateMethod ({ cls := "PromisePounds", name := "keepFrom", desc := "(IIIII)V" } : Jvm.MethodName)) ∈ lw_tbl := lw_at lw_m4 134 rfl
theorem q930 : (Jvm.Cond.instanceMethod ({ cls := "PromisePounds", name := "keepFrom", desc := "(IIIII)V" } : Jvm.MethodName)) ∈ lw_all := lw_g (lw_at lw_m4 135 rfl) rfl
theorem q931 : (Jvm.Cond.code ({ cls := "PromisePounds", name := "keepFrom", desc := "(IIIII)V" } : Jvm.MethodName) prog_1_method_34_code (8 : Nat) (Option.none : Option Jvm.ClassFile.FieldType)) ∈ lw_all := lw_g (lw_at lw_m4 136 rfl) rfl
theorem q932 : (Jvm.Cond.methodLink "PromisePounds" (265 : Nat) ({ cls := "java/lang/Integer", name := "bitCount", desc := "(I)I" } : Jvm.MethodName)) ∈ lw_all := lw_g (lw_at lw_m4 137 rfl) rfl
theorem q938 : (Jvm.Cond.methodLink "PromisePounds" (273 : Nat) ({ cls := "java/lang/Math", name := "abs", desc := "(I)I" } : Jvm.MethodName)) ∈ lw_all := lw_g (lw_at lw_m4 143 rfl) rfl
theorem q941 : (Jvm.Cond.constant "PromisePounds" (284 : Nat) (-1000000 : Int32)) ∈ lw_all := lw_g (lw_at lw_m4 146 rfl) rfl
theorem q943 : (Jvm.Cond.instanceMethod ({ cls := "PromisePounds", name := "frees", desc := "(I)I" } : Jvm.MethodName)) ∈ lw_all := lw_g (lw_at lw_m4 148 rfl) rfl
theorem q944 : (Jvm.Cond.selects "PromisePounds" ({ cls := "PromisePounds", name := "frees", desc := "(I)I" } : Jvm.MethodName) ({ cls := "PromisePounds", name := "frees", desc := "(I)I" } : Jvm.MethodName)) ∈ lw_all := lw_g (lw_at lw_m4 149 rfl) rfl
theorem q945 : (Jvm.Cond.code ({ cls := "PromisePounds", name := "frees", desc := "(I)I" } : Jvm.MethodName) prog_1_method_37_code (7 : Nat) (Option.some Jvm.ClassFile.FieldType.int)) ∈ lw_all := lw_g (lw_at lw_m4 150 rfl) rfl
theorem q946 : (Jvm.Cond.methodLink "PromisePounds" (285 : Nat) ({ cls := "PromisePounds$Parish", name := "worst", desc := "()I" } : Jvm.MethodName)) ∈ lw_all := lw_g (lw_at lw_m4 151 rfl) rfl
theorem q951 : (Jvm.Cond.methodLink "PromisePounds" (288 : Nat) ({ cls := "java/lang/Math", name := "min", desc := "(II)I" } : Jvm.MethodName)) ∈ lw_all := lw_g (lw_at lw_m4 156 rfl) rfl
theorem q953 : (Jvm.Cond.instanceMethod ({ cls := "PromisePounds", name := "boat", desc := "(I)I" } : Jvm.MethodName)) ∈ lw_all := lw_g (lw_at lw_m4 158 rfl) rfl
theorem q954 : (Jvm.Cond.selects "PromisePounds" ({ cls := "PromisePounds", name := "boat", desc := "(I)I" } : Jvm.MethodName) ({ cls := "PromisePounds", name := "boat", desc := "(I)I" } : Jvm.MethodName)) ∈ lw_all := lw_g (lw_at lw_m4 159 rfl) rfl
theorem q955 : (Jvm.Cond.code ({ cls := "PromisePounds", name := "boat", desc := "(I)I" } : Jvm.MethodName) prog_1_method_40_code (2 : Nat) (Option.some Jvm.ClassFile.FieldType.int)) ∈ lw_all := lw_g (lw_at lw_m4 160 rfl) rfl
theorem q956 : (Jvm.Cond.methodLink "PromisePounds" (297 : Nat) ({ cls := "PromisePounds", name := "crossings", desc := "(II)I" } : Jvm.MethodName)) ∈ lw_all := lw_g (lw_at lw_m4 161 rfl) rfl
theorem q957 : (Jvm.Cond.privateMethod ({ cls := "PromisePounds", name := "crossings", desc := "(II)I" } : Jvm.MethodName)) ∈ lw_tbl := lw_at lw_m4 162 rfl
theorem q958 : (Jvm.Cond.instanceMethod ({ cls := "PromisePounds", name := "crossings", desc := "(II)I" } : Jvm.MethodName)) ∈ lw_all := lw_g (lw_at lw_m4 163 rfl) rfl
theorem q959 : (Jvm.Cond.code ({ cls := "PromisePounds", name := "crossings", desc := "(II)I" } : Jvm.MethodName) prog_1_method_39_code (6 : Nat) (Option.some Jvm.ClassFile.FieldType.int)) ∈ lw_all := lw_g (lw_at lw_m4 164 rfl) rfl
theorem q960 : (Jvm.Cond.methodLink "PromisePounds" (291 : Nat) ({ cls := "java/lang/Integer", name := "numberOfTrailingZeros", desc := "(I)I" } : Jvm.MethodName)) ∈ lw_all := lw_g (lw_at lw_m4 165 rfl) rfl
theorem q964 : (Jvm.Cond.methodLink "PromisePounds" (294 : Nat) ({ cls := "PromisePounds", name := "weightOf", desc := "(I)I" } : Jvm.MethodName)) ∈ lw_all := lw_g (lw_at lw_m4 169 rfl) rfl
theorem q965 : (Jvm.Cond.privateMethod ({ cls := "PromisePounds", name := "weightOf", desc := "(I)I" } : Jvm.MethodName)) ∈ lw_tbl := lw_at lw_m4 170 rfl
theorem q966 : (Jvm.Cond.instanceMethod ({ cls := "PromisePounds", name := "weightOf", desc := "(I)I" } : Jvm.MethodName)) ∈ lw_all := lw_g (lw_at lw_m4 171 rfl) rfl
theorem q967 : (Jvm.Cond.code ({ cls := "PromisePounds", name := "weightOf", desc := "(I)I" } : Jvm.MethodName) prog_1_method_38_code (4 : Nat) (Option.some Jvm.ClassFile.FieldType.int)) ∈ lw_all := lw_g (lw_at lw_m4 172 rfl) rfl
theorem q969 : (Jvm.Cond.instanceMethod ({ cls := "PromisePounds", name := "votes", desc := "(I)I" } : Jvm.MethodName)) ∈ lw_all := lw_g (lw_at lw_m4 174 rfl) rfl
theorem q970 : (Jvm.Cond.selects "PromisePounds" ({ cls := "PromisePounds", name := "votes", desc := "(I)I" } : Jvm.MethodName) ({ cls := "PromisePounds", name := "votes", desc := "(I)I" } : Jvm.MethodName)) ∈ lw_all := lw_g (lw_at lw_m4 175 rfl) rfl
theorem q971 : (Jvm.Cond.code ({ cls := "PromisePounds", name := "votes", desc := "(I)I" } : Jvm.MethodName) prog_1_method_45_code (2 : Nat) (Option.some Jvm.ClassFile.FieldType.int)) ∈ lw_all := lw_g (lw_at lw_m4 176 rfl) rfl
theorem q972 : (Jvm.Cond.methodLink "PromisePounds" (315 : Nat) ({ cls := "PromisePounds", name := "isCandidate", desc := "(I)Z" } : Jvm.MethodName)) ∈ lw_all := lw_g (lw_at lw_m4 177 rfl) rfl
theorem q973 : (Jvm.Cond.privateMethod ({ cls := "PromisePounds", name := "isCandidate", desc := "(I)Z" } : Jvm.MethodName)) ∈ lw_tbl := lw_at lw_m4 178 rfl
theorem q974 : (Jvm.Cond.instanceMethod ({ cls := "PromisePounds", name := "isCandidate", desc := "(I)Z" } : Jvm.MethodName)) ∈ lw_all := lw_g (lw_at lw_m4 179 rfl) rfl
theorem q975 : (Jvm.Cond.code ({ cls := "PromisePounds", name := "isCandidate", desc := "(I)Z" } : Jvm.MethodName) prog_1_method_42_code (2 : Nat) (Option.some Jvm.ClassFile.FieldType.boolean)) ∈ lw_all := lw_g (lw_at lw_m4 180 rfl) rfl
theorem q976 : (Jvm.Cond.interfaceEntry "PromisePounds" (304 : Nat)) ∈ lw_tbl := lw_at lw_m4 181 rfl
theorem q977 : (Jvm.Cond.methodLink "PromisePounds" (304 : Nat) ({ cls := "java/util/List", name := "get", desc := "(I)Ljava/lang/Object;" } : Jvm.MethodName)) ∈ lw_all := lw_g (lw_at lw_m4 182 rfl) rfl
theorem q978 : (Jvm.Cond.classLink "PromisePounds" (310 : Nat) "PromisePounds$Person") ∈ lw_all := lw_g (lw_at lw_m4 183 rfl) rfl
theorem q979 : (Jvm.Cond.methodLink "PromisePounds" (312 : Nat) ({ cls := "PromisePounds$Person", name := "isVotedFor", desc := "()Z" } : Jvm.MethodName)) ∈ lw_all := lw_g (lw_at lw_m4 184 rfl) rfl
theorem q990 : (Jvm.Cond.methodLink "PromisePounds" (324 : Nat) ({ cls := "PromisePounds", name := "votesFor", desc := "(I)I" } : Jvm.MethodName)) ∈ lw_all := lw_g (lw_at lw_m4 195 rfl) rfl
theorem q991 : (Jvm.Cond.privateMethod ({ cls := "PromisePounds", name := "votesFor", desc := "(I)I" } : Jvm.MethodName)) ∈ lw_tbl := lw_at lw_m4 196 rfl
theorem q992 : (Jvm.Cond.instanceMethod ({ cls := "PromisePounds", name := "votesFor", desc := "(I)I" } : Jvm.MethodName)) ∈ lw_all := lw_g (lw_at lw_m4 197 rfl) rfl
theorem q993 : (Jvm.Cond.code ({ cls := "PromisePounds", name := "votesFor", desc := "(I)I" } : Jvm.MethodName) prog_1_method_44_code (4 : Nat) (Option.some Jvm.ClassFile.FieldType.int)) ∈ lw_all := lw_g (lw_at lw_m4 198 rfl) rfl
theorem q994 : (Jvm.Cond.methodLink "PromisePounds" (321 : Nat) ({ cls := "PromisePounds", name := "voteOf", desc := "(I)I" } : Jvm.MethodName)) ∈ lw_all := lw_g (lw_at lw_m4 199 rfl) rfl
theorem q995 : (Jvm.Cond.privateMethod ({ cls := "PromisePounds", name := "voteOf", desc := "(I)I" } : Jvm.MethodName)) ∈ lw_tbl := lw_at lw_m4 200 rfl
theorem q996 : (Jvm.Cond.instanceMethod ({ cls := "PromisePounds", name := "voteOf", desc := "(I)I" } : Jvm.MethodName)) ∈ lw_all := lw_g (lw_at lw_m4 201 rfl) rfl
theorem q997 : (Jvm.Cond.code ({ cls := "PromisePounds", name := "voteOf", desc := "(I)I" } : Jvm.MethodName) prog_1_method_43_code (6 : Nat) (Option.some Jvm.ClassFile.FieldType.int)) ∈ lw_all := lw_g (lw_at lw_m4 202 rfl) rfl
theorem q998 : (Jvm.Cond.methodLink "PromisePounds" (318 : Nat) ({ cls := "PromisePounds", name := "promised", desc := "(II)I" } : Jvm.MethodName)) ∈ lw_all := lw_g (lw_at lw_m4 203 rfl) rfl
theorem q999 : (Jvm.Cond.privateMethod ({ cls := "PromisePounds", name := "promised", desc := "(II)I" } : Jvm.MethodName)) ∈ lw_tbl := lw_at lw_m4 204 rfl
theorem q1000 : (Jvm.Cond.instanceMethod ({ cls := "PromisePounds", name := "promised", desc := "(II)I" } : Jvm.MethodName)) ∈ lw_all := lw_g (lw_at lw_m4 205 rfl) rfl
theorem q1001 : (Jvm.Cond.code ({ cls := "PromisePounds", name := "promised", desc := "(II)I" } : Jvm.MethodName) prog_1_method_41_code (5 : Nat) (Option.some Jvm.ClassFile.FieldType.int)) ∈ lw_all := lw_g (lw_at lw_m4 206 rfl) rfl
theorem q1003 : (Jvm.Cond.instanceMethod ({ cls := "PromisePounds", name := "wins", desc := "()I" } : Jvm.MethodName)) ∈ lw_all := lw_g (lw_at lw_m4 208 rfl) rfl
theorem q1004 : (Jvm.Cond.selects "PromisePounds" ({ cls := "PromisePounds", name := "wins", desc := "()I" } : Jvm.MethodName) ({ cls := "PromisePounds", name := "wins", desc := "()I" } : Jvm.MethodName)) ∈ lw_all := lw_g (lw_at lw_m4 209 rfl) rfl
theorem q1005 : (Jvm.Cond.code ({ cls := "PromisePounds", name := "wins", desc := "()I" } : Jvm.MethodName) prog_1_method_46_code (3 : Nat) (Option.some Jvm.ClassFile.FieldType.int)) ∈ lw_all := lw_g (lw_at lw_m4 210 rfl) rfl
theorem q1007 : (Jvm.Cond.instanceMethod ({ cls := "PromisePounds", name := "law", desc := "()I" } : Jvm.MethodName)) ∈ lw_all := lw_g (lw_at lw_m4 212 rfl) rfl
theorem q1008 : (Jvm.Cond.selects "PromisePounds" ({ cls := "PromisePounds", name := "law", desc := "()I" } : Jvm.MethodName) ({ cls := "PromisePounds", name := "law", desc := "()I" } : Jvm.MethodName)) ∈ lw_all := lw_g (lw_at lw_m4 213 rfl) rfl
theorem q1009 : (Jvm.Cond.code ({ cls := "PromisePounds", name := "law", desc := "()I" } : Jvm.MethodName) prog_1_method_47_code (3 : Nat) (Option.some Jvm.ClassFile.FieldType.int)) ∈ lw_all := lw_g (lw_at lw_m4 214 rfl) rfl
theorem q1010 : (Jvm.Cond.methodLink "PromisePounds" (327 : Nat) ({ cls := "PromisePounds$Parish", name := "crushedBy", desc := "(I)I" } : Jvm.MethodName)) ∈ lw_all := lw_g (lw_at lw_m4 215 rfl) rfl
theorem q1012 : (Jvm.Cond.instanceMethod ({ cls := "PromisePounds", name := "scale", desc := "(II)I" } : Jvm.MethodName)) ∈ lw_all := lw_g (lw_at lw_m4 217 rfl) rfl
theorem q1013 : (Jvm.Cond.selects "PromisePounds" ({ cls := "PromisePounds", name := "scale", desc := "(II)I" } : Jvm.MethodName) ({ cls := "PromisePounds", name := "scale", desc := "(II)I" } : Jvm.MethodName)) ∈ lw_all := lw_g (lw_at lw_m4 218 rfl) rfl
theorem q1014 : (Jvm.Cond.code ({ cls := "PromisePounds", name := "scale", desc := "(II)I" } : Jvm.MethodName) prog_1_method_50_code (3 : Nat) (Option.some Jvm.ClassFile.FieldType.int)) ∈ lw_all := lw_g (lw_at lw_m4 219 rfl) rfl
theorem q1015 : (Jvm.Cond.constantLong "PromisePounds" (336 : Nat) (200 : Int64)) ∈ lw_all := lw_g (lw_at lw_m4 220 rfl) rfl
theorem q1016 : (Jvm.Cond.methodLink "PromisePounds" (338 : Nat) ({ cls := "PromisePounds", name := "laySets", desc := "(I)V" } : Jvm.MethodName)) ∈ lw_all := lw_g (lw_at lw_m4 221 rfl) rfl
theorem q1017 : (Jvm.Cond.privateMethod ({ cls := "PromisePounds", name := "laySets", desc := "(I)V" } : Jvm.MethodName)) ∈ lw_tbl := lw_at lw_m4 222 rfl
theorem q1018 : (Jvm.Cond.instanceMethod ({ cls := "PromisePounds", name := "laySets", desc := "(I)V" } : Jvm.MethodName)) ∈ lw_all := lw_g (lw_at lw_m4 223 rfl) rfl
theorem q1019 : (Jvm.Cond.code ({ cls := "PromisePounds", name := "laySets", desc := "(I)V" } : Jvm.MethodName) prog_1_method_48_code (5 : Nat) (Option.none : Option Jvm.ClassFile.FieldType)) ∈ lw_all := lw_g (lw_at lw_m4 224 rfl) rfl
theorem q1020 : (Jvm.Cond.methodLink "PromisePounds" (341 : Nat) ({ cls := "PromisePounds", name := "nextOf", desc := "()I" } : Jvm.MethodName)) ∈ lw_all := lw_g (lw_at lw_m4 225 rfl) rfl
theorem q1021 : (Jvm.Cond.privateMethod ({ cls := "PromisePounds", name := "nextOf", desc := "()I" } : Jvm.MethodName)) ∈ lw_tbl := lw_at lw_m4 226 rfl
theorem q1022 : (Jvm.Cond.instanceMethod ({ cls := "PromisePounds", name := "nextOf", desc := "()I" } : Jvm.MethodName)) ∈ lw_all := lw_g (lw_at lw_m4 227 rfl) rfl
theorem q1023 : (Jvm.Cond.code ({ cls := "PromisePounds", name := "nextOf", desc := "()I" } : Jvm.MethodName) prog_1_method_49_code (3 : Nat) (Option.some Jvm.ClassFile.FieldType.int)) ∈ lw_all := lw_g (lw_at lw_m4 228 rfl) rfl
theorem q1025 : (Jvm.Cond.instanceMethod ({ cls := "PromisePounds", name := "lies", desc := "(II)I" } : Jvm.MethodName)) ∈ lw_all := lw_g (lw_at lw_m4 230 rfl) rfl
theorem q1026 : (Jvm.Cond.selects "PromisePounds" ({ cls := "PromisePounds", name := "lies", desc := "(II)I" } : Jvm.MethodName) ({ cls := "PromisePounds", name := "lies", desc := "(II)I" } : Jvm.MethodName)) ∈ lw_all := lw_g (lw_at lw_m4 231 rfl) rfl
theorem q1027 : (Jvm.Cond.codeWith ({ cls := "PromisePounds", name := "lies", desc := "(II)I" } : Jvm.MethodName) prog_1_method_51_code (6 : Nat) (Option.some Jvm.ClassFile.FieldType.int) [((20 : Nat), (91 : Nat), (92 : Nat), (71 : Nat))]) ∈ lw_all := lw_g (lw_at lw_m4 232 rfl) rfl
theorem q1028 : (Jvm.Cond.methodLink "PromisePounds" (344 : Nat) ({ cls := "PromisePounds$Row", name := "row", desc := "(II)[I" } : Jvm.MethodName)) ∈ lw_all := lw_g (lw_at lw_m4 233 rfl) rfl
theorem q1035 : (Jvm.Cond.instanceMethod ({ cls := "PromisePounds", name := "crushed", desc := "(I)I" } : Jvm.MethodName)) ∈ lw_all := lw_g (lw_at lw_m5 0 rfl) rfl
theorem q1036 : (Jvm.Cond.selects "PromisePounds" ({ cls := "PromisePounds", name := "crushed", desc := "(I)I" } : Jvm.MethodName) ({ cls := "PromisePounds", name := "crushed", desc := "(I)I" } : Jvm.MethodName)) ∈ lw_all := lw_g (lw_at lw_m5 1 rfl) rfl
theorem q1037 : (Jvm.Cond.code ({ cls := "PromisePounds", name := "crushed", desc := "(I)I" } : Jvm.MethodName) prog_1_method_52_code (3 : Nat) (Option.some Jvm.ClassFile.FieldType.int)) ∈ lw_all := lw_g (lw_at lw_m5 2 rfl) rfl
theorem q1038 : (Jvm.Cond.constantLong "PromisePounds" (348 : Nat) (60 : Int64)) ∈ lw_all := lw_g (lw_at lw_m5 3 rfl) rfl
theorem q1040 : (Jvm.Cond.instanceMethod ({ cls := "PromisePounds", name := "late", desc := "()I" } : Jvm.MethodName)) ∈ lw_all := lw_g (lw_at lw_m5 5 rfl) rfl
theorem q1041 : (Jvm.Cond.selects "PromisePounds" ({ cls := "PromisePounds", name := "late", desc := "()I" } : Jvm.MethodName) ({ cls := "PromisePounds", name := "late", desc := "()I" } : Jvm.MethodName)) ∈ lw_all := lw_g (lw_at lw_m5 6 rfl) rfl
theorem q1042 : (Jvm.Cond.code ({ cls := "PromisePounds", name := "late", desc := "()I" } : Jvm.MethodName) prog_1_method_53_code (3 : Nat) (Option.some Jvm.ClassFile.FieldType.int)) ∈ lw_all := lw_g (lw_at lw_m5 7 rfl) rfl
theorem q1044 : (Jvm.Cond.instanceMethod ({ cls := "PromisePounds", name := "year", desc := "(III)I" } : Jvm.MethodName)) ∈ lw_all := lw_g (lw_at lw_m5 9 rfl) rfl
theorem q1045 : (Jvm.Cond.selects "PromisePounds" ({ cls := "PromisePounds", name := "year", desc := "(III)I" } : Jvm.MethodName) ({ cls := "PromisePounds", name := "year", desc := "(III)I" } : Jvm.MethodName)) ∈ lw_all := lw_g (lw_at lw_m5 10 rfl) rfl
theorem q1046 : (Jvm.Cond.code ({ cls := "PromisePounds", name := "year", desc := "(III)I" } : Jvm.MethodName) prog_1_method_54_code (9 : Nat) (Option.some Jvm.ClassFile.FieldType.int)) ∈ lw_all := lw_g (lw_at lw_m5 11 rfl) rfl
theorem q1047 : (Jvm.Cond.constantLong "PromisePounds" (350 : Nat) (999999 : Int64)) ∈ lw_all := lw_g (lw_at lw_m5 12 rfl) rfl
theorem q1048 : (Jvm.Cond.constantLong "PromisePounds" (352 : Nat) (16807 : Int64)) ∈ lw_all := lw_g (lw_at lw_m5 13 rfl) rfl
theorem q1049 : (Jvm.Cond.constantLong "PromisePounds" (354 : Nat) (2147483647 : Int64)) ∈ lw_all := lw_g (lw_at lw_m5 14 rfl) rfl
theorem q1051 : (Jvm.Cond.instanceMethod ({ cls := "PromisePounds", name := "image", desc := "(I)I" } : Jvm.MethodName)) ∈ lw_all := lw_g (lw_at lw_m5 16 rfl) rfl
theorem q1052 : (Jvm.Cond.selects "PromisePounds" ({ cls := "PromisePounds", name := "image", desc := "(I)I" } : Jvm.MethodName) ({ cls := "PromisePounds", name := "image", desc := "(I)I" } : Jvm.MethodName)) ∈ lw_all := lw_g (lw_at lw_m5 17 rfl) rfl
theorem q1053 : (Jvm.Cond.code ({ cls := "PromisePounds", name := "image", desc := "(I)I" } : Jvm.MethodName) prog_1_method_55_code (2 : Nat) (Option.some Jvm.ClassFile.FieldType.int)) ∈ lw_all := lw_g (lw_at lw_m5 18 rfl) rfl
theorem q1055 : (Jvm.Cond.instanceMethod ({ cls := "PromisePounds", name := "restore", desc := "(I)I" } : Jvm.MethodName)) ∈ lw_all := lw_g (lw_at lw_m5 20 rfl) rfl
theorem q1056 : (Jvm.Cond.selects "PromisePounds" ({ cls := "PromisePounds", name := "restore", desc := "(I)I" } : Jvm.MethodName) ({ cls := "PromisePounds", name := "restore", desc := "(I)I" } : Jvm.MethodName)) ∈ lw_all := lw_g (lw_at lw_m5 21 rfl) rfl
theorem q1057 : (Jvm.Cond.code ({ cls := "PromisePounds", name := "restore", desc := "(I)I" } : Jvm.MethodName) prog_1_method_56_code (2 : Nat) (Option.some Jvm.ClassFile.FieldType.int)) ∈ lw_all := lw_g (lw_at lw_m5 22 rfl) rfl
theorem q1059 : (Jvm.Cond.instanceMethod ({ cls := "PromisePounds", name := "kind", desc := "(I)I" } : Jvm.MethodName)) ∈ lw_all := lw_g (lw_at lw_m5 24 rfl) rfl
theorem q1060 : (Jvm.Cond.selects "PromisePounds" ({ cls := "PromisePounds", name := "kind", desc := "(I)I" } : Jvm.MethodName) ({ cls := "PromisePounds", name := "kind", desc := "(I)I" } : Jvm.MethodName)) ∈ lw_all := lw_g (lw_at lw_m5 25 rfl) rfl
theorem q1061 : (Jvm.Cond.code ({ cls := "PromisePounds", name := "kind", desc := "(I)I" } : Jvm.MethodName) prog_1_method_57_code (2 : Nat) (Option.some Jvm.ClassFile.FieldType.int)) ∈ lw_all := lw_g (lw_at lw_m5 26 rfl) rfl
theorem q1062 : (Jvm.Cond.methodLink "PromisePounds" (356 : Nat) ({ cls := "PromisePounds$Person", name := "kind", desc := "()I" } : Jvm.MethodName)) ∈ lw_all := lw_g (lw_at lw_m5 27 rfl) rfl
theorem q1081 : (Jvm.Cond.instanceMethod ({ cls := "PromisePounds", name := "as", desc := "(II)I" } : Jvm.MethodName)) ∈ lw_all := lw_g (lw_at lw_m5 46 rfl) rfl
theorem q1082 : (Jvm.Cond.selects "PromisePounds" ({ cls := "PromisePounds", name := "as", desc := "(II)I" } : Jvm.MethodName) ({ cls := "PromisePounds", name := "as", desc := "(II)I" } : Jvm.MethodName)) ∈ lw_all := lw_g (lw_at lw_m5 47 rfl) rfl
theorem q1083 : (Jvm.Cond.codeWith ({ cls := "PromisePounds", name := "as", desc := "(II)I" } : Jvm.MethodName) prog_1_method_58_code (5 : Nat) (Option.some Jvm.ClassFile.FieldType.int) [((40 : Nat), (111 : Nat), (112 : Nat), (360 : Nat)), ((23 : Nat), (111 : Nat), (123 : Nat), (71 : Nat)), ((112 : Nat), (123 : Nat), (123 : Nat), (71 : Nat))]) ∈ lw_all := lw_g (lw_at lw_m5 48 rfl) rfl
theorem q1084 : (Jvm.Cond.classLink "PromisePounds" (360 : Nat) "java/lang/ClassCastException") ∈ lw_all := lw_g (lw_at lw_m5 49 rfl) rfl
theorem q1098 : (Jvm.Cond.methodLink "PromisePounds" (358 : Nat) ({ cls := "PromisePounds$Person", name := "number", desc := "()I" } : Jvm.MethodName)) ∈ lw_all := lw_g (lw_at lw_m5 63 rfl) rfl
theorem q1108 : (Jvm.Cond.instanceMethod ({ cls := "PromisePounds", name := "ask", desc := "(II)I" } : Jvm.MethodName)) ∈ lw_all := lw_g (lw_at lw_m5 73 rfl) rfl
theorem q1109 : (Jvm.Cond.selects "PromisePounds" ({ cls := "PromisePounds", name := "ask", desc := "(II)I" } : Jvm.MethodName) ({ cls := "PromisePounds", name := "ask", desc := "(II)I" } : Jvm.MethodName)) ∈ lw_all := lw_g (lw_at lw_m5 74 rfl) rfl
theorem q1110 : (Jvm.Cond.code ({ cls := "PromisePounds", name := "ask", desc := "(II)I" } : Jvm.MethodName) prog_1_method_59_code (4 : Nat) (Option.some Jvm.ClassFile.FieldType.int)) ∈ lw_all := lw_g (lw_at lw_m5 75 rfl) rfl
theorem q1111 : (Jvm.Cond.methodLink "PromisePounds" (362 : Nat) ({ cls := "PromisePounds$Person", name := "size", desc := "(LPromisePounds$Trail;LPromisePounds$Parish;)I" } : Jvm.MethodName)) ∈ lw_all := lw_g (lw_at lw_m5 76 rfl) rfl
theorem q1195 : (Jvm.Cond.instanceMethod ({ cls := "PromisePounds", name := "trace", desc := "(I)I" } : Jvm.MethodName)) ∈ lw_all := lw_g (lw_at lw_m5 160 rfl) rfl
theorem q1196 : (Jvm.Cond.selects "PromisePounds" ({ cls := "PromisePounds", name := "trace", desc := "(I)I" } : Jvm.MethodName) ({ cls := "PromisePounds", name := "trace", desc := "(I)I" } : Jvm.MethodName)) ∈ lw_all := lw_g (lw_at lw_m5 161 rfl) rfl
theorem q1197 : (Jvm.Cond.code ({ cls := "PromisePounds", name := "trace", desc := "(I)I" } : Jvm.MethodName) prog_1_method_60_code (2 : Nat) (Option.some Jvm.ClassFile.FieldType.int)) ∈ lw_all := lw_g (lw_at lw_m5 162 rfl) rfl
theorem q1199 : (Jvm.Cond.instanceMethod ({ cls := "PromisePounds", name := "count", desc := "(I)I" } : Jvm.MethodName)) ∈ lw_all := lw_g (lw_at lw_m5 164 rfl) rfl
theorem q1200 : (Jvm.Cond.selects "PromisePounds" ({ cls := "PromisePounds", name := "count", desc := "(I)I" } : Jvm.MethodName) ({ cls := "PromisePounds", name := "count", desc := "(I)I" } : Jvm.MethodName)) ∈ lw_all := lw_g (lw_at lw_m5 165 rfl) rfl
theorem q1201 : (Jvm.Cond.code ({ cls := "PromisePounds", name := "count", desc := "(I)I" } : Jvm.MethodName) prog_1_method_61_code (4 : Nat) (Option.some Jvm.ClassFile.FieldType.int)) ∈ lw_all := lw_g (lw_at lw_m5 166 rfl) rfl
theorem q1203 : (Jvm.Cond.instanceMethod ({ cls := "PromisePounds", name := "status", desc := "()I" } : Jvm.MethodName)) ∈ lw_all := lw_g (lw_at lw_m5 168 rfl) rfl
theorem q1204 : (Jvm.Cond.selects "PromisePounds" ({ cls := "PromisePounds", name := "status", desc := "()I" } : Jvm.MethodName) ({ cls := "PromisePounds", name := "status", desc := "()I" } : Jvm.MethodName)) ∈ lw_all := lw_g (lw_at lw_m5 169 rfl) rfl
theorem q1205 : (Jvm.Cond.code ({ cls := "PromisePounds", name := "status", desc := "()I" } : Jvm.MethodName) prog_1_method_62_code (1 : Nat) (Option.some Jvm.ClassFile.FieldType.int)) ∈ lw_all := lw_g (lw_at lw_m5 170 rfl) rfl
theorem q1664 : (Jvm.Cond.castable "PromisePounds" "java/lang/Object") ∈ lw_tbl := lw_at lw_m7 149 rfl
theorem in_X0 : ∀ w ∈ wsX00, w ∈ lw_all := lw_in wsX00 [241, 243, 245, 247, 249, 251, 253, 255, 257, 259, 261, 263, 265, 267, 269, 271, 273] (by decide +kernel) (by decide +kernel)
