/-! java/util/AbstractCollection -/
set_option maxRecDepth 100000
def RJ0 : String := "java/util/AbstractCollection"
abbrev cJ0_init : ByteArray := prog_32_method_1_code
def yJ0_init : MethodName := ⟨RJ0, "<init>", "()V"⟩
theorem dJ0_init_0 : decode cJ0_init 0 = .ok (.aload_n 0, 1) := by decide +kernel
theorem dJ0_init_1 : decode cJ0_init 1 = .ok (.invokespecial 1, 3) := by decide +kernel
theorem dJ0_init_4 : decode cJ0_init 4 = .ok (.return_, 1) := by decide +kernel
theorem q78 : (Jvm.Cond.initialized "java/util/AbstractCollection") ∈ lw_all := lw_g (lw_at lw_m1 3 rfl) rfl
theorem q134 : (Jvm.Cond.instanceMethod ({ cls := "java/util/AbstractCollection", name := "<init>", desc := "()V" } : Jvm.MethodName)) ∈ lw_all := lw_g (lw_at lw_m1 59 rfl) rfl
theorem q135 : (Jvm.Cond.code ({ cls := "java/util/AbstractCollection", name := "<init>", desc := "()V" } : Jvm.MethodName) prog_32_method_1_code (1 : Nat) (Option.none : Option Jvm.ClassFile.FieldType)) ∈ lw_all := lw_g (lw_at lw_m1 60 rfl) rfl
theorem q136 : (Jvm.Cond.methodLink "java/util/AbstractCollection" (1 : Nat) ({ cls := "java/lang/Object", name := "<init>", desc := "()V" } : Jvm.MethodName)) ∈ lw_all := lw_g (lw_at lw_m1 61 rfl) rfl
/-! java/util/AbstractList -/
set_option maxRecDepth 100000
def RJ1 : String := "java/util/AbstractList"
abbrev cJ1_init : ByteArray := prog_33_method_1_code
def yJ1_init : MethodName := ⟨RJ1, "<init>", "()V"⟩
def dkwJ1_init_0 : List UInt8 := [42, 183, 0, 1, 42, 3, 181, 0, 7, 177]
abbrev dktJ1_init_0 : List UInt8 := dkwJ1_init_0 ++ []
theorem dksJ1_init_0 : cJ1_init.data.toList.drop 0 = dktJ1_init_0 := by decide +kernel
theorem dJ1_init_0 : decode cJ1_init 0 = .ok (.aload_n 0, 1) := dk_42 (dk_at dksJ1_init_0 0 rfl rfl)
theorem dJ1_init_1 : decode cJ1_init 1 = .ok (.invokespecial 1, 3) := dk_183 0 1 (dk_at dksJ1_init_0 1 rfl rfl)
theorem dJ1_init_4 : decode cJ1_init 4 = .ok (.aload_n 0, 1) := dk_42 (dk_at dksJ1_init_0 4 rfl rfl)
theorem dJ1_init_5 : decode cJ1_init 5 = .ok (.iconst 0, 1) := dk_3 (dk_at dksJ1_init_0 5 rfl rfl)
theorem dJ1_init_6 : decode cJ1_init 6 = .ok (.putfield 7, 3) := dk_181 0 7 (dk_at dksJ1_init_0 6 rfl rfl)
theorem dJ1_init_9 : decode cJ1_init 9 = .ok (.return_, 1) := dk_177 (dk_at dksJ1_init_0 9 rfl rfl)
theorem q79 : (Jvm.Cond.initialized "java/util/AbstractList") ∈ lw_all := lw_g (lw_at lw_m1 4 rfl) rfl
theorem q131 : (Jvm.Cond.instanceMethod ({ cls := "java/util/AbstractList", name := "<init>", desc := "()V" } : Jvm.MethodName)) ∈ lw_all := lw_g (lw_at lw_m1 56 rfl) rfl
theorem q132 : (Jvm.Cond.code ({ cls := "java/util/AbstractList", name := "<init>", desc := "()V" } : Jvm.MethodName) prog_33_method_1_code (1 : Nat) (Option.none : Option Jvm.ClassFile.FieldType)) ∈ lw_all := lw_g (lw_at lw_m1 57 rfl) rfl
theorem q133 : (Jvm.Cond.methodLink "java/util/AbstractList" (1 : Nat) ({ cls := "java/util/AbstractCollection", name := "<init>", desc := "()V" } : Jvm.MethodName)) ∈ lw_all := lw_g (lw_at lw_m1 58 rfl) rfl
theorem q141 : (Jvm.Cond.fieldLink "java/util/AbstractList" (7 : Nat) "java/util/AbstractList" "modCount" "I") ∈ lw_all := lw_g (lw_at lw_m1 66 rfl) rfl
theorem q149 : (Jvm.Cond.soleField "java/util/AbstractList" "modCount") ∈ lw_all := lw_g (lw_at lw_m1 74 rfl) rfl
/-! jdk/internal/util/Preconditions -/
set_option maxRecDepth 100000
def RJ10 : String := "jdk/internal/util/Preconditions"
abbrev cJ10_checkIndex : ByteArray := prog_42_method_11_code
def yJ10_checkIndex : MethodName := ⟨RJ10, "checkIndex", "(IILjava/util/function/BiFunction;)I"⟩
def dkwJ10_checkIndex_0 : List UInt8 := [26, 155, 0, 8, 26, 27, 161, 0, 10, 44, 26, 27, 184, 0, 95, 191, 26, 172]
abbrev dktJ10_checkIndex_0 : List UInt8 := dkwJ10_checkIndex_0 ++ []
theorem dksJ10_checkIndex_0 : cJ10_checkIndex.data.toList.drop 0 = dktJ10_checkIndex_0 := by decide +kernel
theorem dJ10_checkIndex_0 : decode cJ10_checkIndex 0 = .ok (.iload_n 0, 1) := dk_26 (dk_at dksJ10_checkIndex_0 0 rfl rfl)
theorem dJ10_checkIndex_1 : decode cJ10_checkIndex 1 = .ok (.ifCond .lt 8, 3) := dk_155 0 8 (dk_at dksJ10_checkIndex_0 1 rfl rfl)
theorem dJ10_checkIndex_4 : decode cJ10_checkIndex 4 = .ok (.iload_n 0, 1) := dk_26 (dk_at dksJ10_checkIndex_0 4 rfl rfl)
theorem dJ10_checkIndex_5 : decode cJ10_checkIndex 5 = .ok (.iload_n 1, 1) := dk_27 (dk_at dksJ10_checkIndex_0 5 rfl rfl)
theorem dJ10_checkIndex_6 : decode cJ10_checkIndex 6 = .ok (.if_icmp .lt 10, 3) := dk_161 0 10 (dk_at dksJ10_checkIndex_0 6 rfl rfl)
theorem dJ10_checkIndex_9 : decode cJ10_checkIndex 9 = .ok (.aload_n 2, 1) := dk_44 (dk_at dksJ10_checkIndex_0 9 rfl rfl)
theorem dJ10_checkIndex_10 : decode cJ10_checkIndex 10 = .ok (.iload_n 0, 1) := dk_26 (dk_at dksJ10_checkIndex_0 10 rfl rfl)
theorem dJ10_checkIndex_11 : decode cJ10_checkIndex 11 = .ok (.iload_n 1, 1) := dk_27 (dk_at dksJ10_checkIndex_0 11 rfl rfl)
theorem dJ10_checkIndex_12 : decode cJ10_checkIndex 12 = .ok (.invokestatic 95, 3) := dk_184 0 95 (dk_at dksJ10_checkIndex_0 12 rfl rfl)
theorem dJ10_checkIndex_15 : decode cJ10_checkIndex 15 = .ok (.athrow, 1) := dk_191 (dk_at dksJ10_checkIndex_0 15 rfl rfl)
theorem dJ10_checkIndex_16 : decode cJ10_checkIndex 16 = .ok (.iload_n 0, 1) := dk_26 (dk_at dksJ10_checkIndex_0 16 rfl rfl)
theorem dJ10_checkIndex_17 : decode cJ10_checkIndex 17 = .ok (.ireturn, 1) := dk_172 (dk_at dksJ10_checkIndex_0 17 rfl rfl)
theorem q95 : (Jvm.Cond.initialized "jdk/internal/util/Preconditions") ∈ lw_all := lw_g (lw_at lw_m1 20 rfl) rfl
theorem q574 : (Jvm.Cond.laysStatic "jdk/internal/util/Preconditions" "SIOOBE_FORMATTER" "Ljava/util/function/BiFunction;") ∈ lw_tbl := lw_at lw_m3 19 rfl
theorem q576 : (Jvm.Cond.static ({ cls := "jdk/internal/util/Preconditions", name := "checkIndex", desc := "(IILjava/util/function/BiFunction;)I" } : Jvm.MethodName)) ∈ lw_all := lw_g (lw_at lw_m3 21 rfl) rfl
theorem q577 : (Jvm.Cond.code ({ cls := "jdk/internal/util/Preconditions", name := "checkIndex", desc := "(IILjava/util/function/BiFunction;)I" } : Jvm.MethodName) prog_42_method_11_code (3 : Nat) (Option.some Jvm.ClassFile.FieldType.int)) ∈ lw_all := lw_g (lw_at lw_m3 22 rfl) rfl
/-! java/lang/StringUTF16 -/
set_option maxRecDepth 100000
def RJ11 : String := "java/lang/StringUTF16"
abbrev cJ11_charAt : ByteArray := prog_29_method_83_code
def yJ11_charAt : MethodName := ⟨RJ11, "charAt", "([BI)C"⟩
def dkwJ11_charAt_0 : List UInt8 := [27, 42, 184, 0, 67, 42, 27, 184, 0, 71, 172]
abbrev dktJ11_charAt_0 : List UInt8 := dkwJ11_charAt_0 ++ []
theorem dksJ11_charAt_0 : cJ11_charAt.data.toList.drop 0 = dktJ11_charAt_0 := by decide +kernel
theorem dJ11_charAt_0 : decode cJ11_charAt 0 = .ok (.iload_n 1, 1) := dk_27 (dk_at dksJ11_charAt_0 0 rfl rfl)
theorem dJ11_charAt_1 : decode cJ11_charAt 1 = .ok (.aload_n 0, 1) := dk_42 (dk_at dksJ11_charAt_0 1 rfl rfl)
theorem dJ11_charAt_2 : decode cJ11_charAt 2 = .ok (.invokestatic 67, 3) := dk_184 0 67 (dk_at dksJ11_charAt_0 2 rfl rfl)
theorem dJ11_charAt_5 : decode cJ11_charAt 5 = .ok (.aload_n 0, 1) := dk_42 (dk_at dksJ11_charAt_0 5 rfl rfl)
theorem dJ11_charAt_6 : decode cJ11_charAt 6 = .ok (.iload_n 1, 1) := dk_27 (dk_at dksJ11_charAt_0 6 rfl rfl)
theorem dJ11_charAt_7 : decode cJ11_charAt 7 = .ok (.invokestatic 71, 3) := dk_184 0 71 (dk_at dksJ11_charAt_0 7 rfl rfl)
theorem dJ11_charAt_10 : decode cJ11_charAt 10 = .ok (.ireturn, 1) := dk_172 (dk_at dksJ11_charAt_0 10 rfl rfl)
abbrev cJ11_checkIndex : ByteArray := prog_29_method_91_code
def yJ11_checkIndex : MethodName := ⟨RJ11, "checkIndex", "(I[B)V"⟩
def dkwJ11_checkIndex_0 : List UInt8 := [26, 43, 184, 0, 48, 184, 1, 158, 177]
abbrev dktJ11_checkIndex_0 : List UInt8 := dkwJ11_checkIndex_0 ++ []
theorem dksJ11_checkIndex_0 : cJ11_checkIndex.data.toList.drop 0 = dktJ11_checkIndex_0 := by decide +kernel
theorem dJ11_checkIndex_0 : decode cJ11_checkIndex 0 = .ok (.iload_n 0, 1) := dk_26 (dk_at dksJ11_checkIndex_0 0 rfl rfl)
theorem dJ11_checkIndex_1 : decode cJ11_checkIndex 1 = .ok (.aload_n 1, 1) := dk_43 (dk_at dksJ11_checkIndex_0 1 rfl rfl)
theorem dJ11_checkIndex_2 : decode cJ11_checkIndex 2 = .ok (.invokestatic 48, 3) := dk_184 0 48 (dk_at dksJ11_checkIndex_0 2 rfl rfl)
theorem dJ11_checkIndex_5 : decode cJ11_checkIndex 5 = .ok (.invokestatic 414, 3) := dk_184 1 158 (dk_at dksJ11_checkIndex_0 5 rfl rfl)
theorem dJ11_checkIndex_8 : decode cJ11_checkIndex 8 = .ok (.return_, 1) := dk_177 (dk_at dksJ11_checkIndex_0 8 rfl rfl)
abbrev cJ11_length : ByteArray := prog_29_method_6_code
def yJ11_length : MethodName := ⟨RJ11, "length", "([B)I"⟩
def dkwJ11_length_0 : List UInt8 := [42, 190, 4, 122, 172]
abbrev dktJ11_length_0 : List UInt8 := dkwJ11_length_0 ++ []
theorem dksJ11_length_0 : cJ11_length.data.toList.drop 0 = dktJ11_length_0 := by decide +kernel
theorem dJ11_length_0 : decode cJ11_length 0 = .ok (.aload_n 0, 1) := dk_42 (dk_at dksJ11_length_0 0 rfl rfl)
theorem dJ11_length_1 : decode cJ11_length 1 = .ok (.arraylength, 1) := dk_190 (dk_at dksJ11_length_0 1 rfl rfl)
theorem dJ11_length_2 : decode cJ11_length 2 = .ok (.iconst 1, 1) := dk_4 (dk_at dksJ11_length_0 2 rfl rfl)
theorem dJ11_length_3 : decode cJ11_length 3 = .ok (.ishr, 1) := dk_122 (dk_at dksJ11_length_0 3 rfl rfl)
theorem dJ11_length_4 : decode cJ11_length 4 = .ok (.ireturn, 1) := dk_172 (dk_at dksJ11_length_0 4 rfl rfl)
abbrev cJ11_getChar : ByteArray := prog_29_method_5_code
def yJ11_getChar : MethodName := ⟨RJ11, "getChar", "([BI)C"⟩
def dkwJ11_getChar_2 : List UInt8 := [51, 17, 0, 255, 126, 178, 0, 63, 120, 128, 146, 172]
abbrev dktJ11_getChar_2 : List UInt8 := dkwJ11_getChar_2 ++ []
def dkwJ11_getChar_1 : List UInt8 := [183, 0, 56, 191, 27, 4, 120, 60, 42, 27, 132, 1, 1, 51, 17, 0, 255, 126, 178, 0, 59, 120, 42, 27]
abbrev dktJ11_getChar_1 : List UInt8 := dkwJ11_getChar_1 ++ dktJ11_getChar_2
def dkwJ11_getChar_0 : List UInt8 := [178, 0, 44, 154, 0, 25, 27, 155, 0, 11, 27, 42, 184, 0, 48, 161, 0, 13, 187, 0, 52, 89, 18, 54]
abbrev dktJ11_getChar_0 : List UInt8 := dkwJ11_getChar_0 ++ dktJ11_getChar_1
theorem dksJ11_getChar_0 : cJ11_getChar.data.toList.drop 0 = dktJ11_getChar_0 := by decide +kernel
theorem dksJ11_getChar_1 : cJ11_getChar.data.toList.drop 24 = dktJ11_getChar_1 := dk_seg dksJ11_getChar_0 24 rfl rfl
theorem dksJ11_getChar_2 : cJ11_getChar.data.toList.drop 48 = dktJ11_getChar_2 := dk_seg dksJ11_getChar_1 24 rfl rfl
theorem dJ11_getChar_0 : decode cJ11_getChar 0 = .ok (.getstatic 44, 3) := dk_178 0 44 (dk_at dksJ11_getChar_0 0 rfl rfl)
theorem dJ11_getChar_3 : decode cJ11_getChar 3 = .ok (.ifCond .ne 25, 3) := dk_154 0 25 (dk_at dksJ11_getChar_0 3 rfl rfl)
theorem dJ11_getChar_6 : decode cJ11_getChar 6 = .ok (.iload_n 1, 1) := dk_27 (dk_at dksJ11_getChar_0 6 rfl rfl)
theorem dJ11_getChar_7 : decode cJ11_getChar 7 = .ok (.ifCond .lt 11, 3) := dk_155 0 11 (dk_at dksJ11_getChar_0 7 rfl rfl)
theorem dJ11_getChar_10 : decode cJ11_getChar 10 = .ok (.iload_n 1, 1) := dk_27 (dk_at dksJ11_getChar_0 10 rfl rfl)
theorem dJ11_getChar_11 : decode cJ11_getChar 11 = .ok (.aload_n 0, 1) := dk_42 (dk_at dksJ11_getChar_0 11 rfl rfl)
theorem dJ11_getChar_12 : decode cJ11_getChar 12 = .ok (.invokestatic 48, 3) := dk_184 0 48 (dk_at dksJ11_getChar_0 12 rfl rfl)
theorem dJ11_getChar_15 : decode cJ11_getChar 15 = .ok (.if_icmp .lt 13, 3) := dk_161 0 13 (dk_at dksJ11_getChar_0 15 rfl rfl)
theorem dJ11_getChar_18 : decode cJ11_getChar 18 = .ok (.new 52, 3) := dk_187 0 52 (dk_at dksJ11_getChar_0 18 rfl rfl)
theorem dJ11_getChar_21 : decode cJ11_getChar 21 = .ok (.dup, 1) := dk_89 (dk_at dksJ11_getChar_0 21 rfl rfl)
theorem dJ11_getChar_22 : decode cJ11_getChar 22 = .ok (.ldc 54, 2) := dk_18 54 (dk_at dksJ11_getChar_0 22 rfl rfl)
theorem dJ11_getChar_24 : decode cJ11_getChar 24 = .ok (.invokespecial 56, 3) := dk_183 0 56 (dk_at dksJ11_getChar_1 0 rfl rfl)
theorem dJ11_getChar_27 : decode cJ11_getChar 27 = .ok (.athrow, 1) := dk_191 (dk_at dksJ11_getChar_1 3 rfl rfl)
theorem dJ11_getChar_28 : decode cJ11_getChar 28 = .ok (.iload_n 1, 1) := dk_27 (dk_at dksJ11_getChar_1 4 rfl rfl)
theorem dJ11_getChar_29 : decode cJ11_getChar 29 = .ok (.iconst 1, 1) := dk_4 (dk_at dksJ11_getChar_1 5 rfl rfl)
theorem dJ11_getChar_30 : decode cJ11_getChar 30 = .ok (.ishl, 1) := dk_120 (dk_at dksJ11_getChar_1 6 rfl rfl)
theorem dJ11_getChar_31 : decode cJ11_getChar 31 = .ok (.istore_n 1, 1) := dk_60 (dk_at dksJ11_getChar_1 7 rfl rfl)
theorem dJ11_getChar_32 : decode cJ11_getChar 32 = .ok (.aload_n 0, 1) := dk_42 (dk_at dksJ11_getChar_1 8 rfl rfl)
theorem dJ11_getChar_33 : decode cJ11_getChar 33 = .ok (.iload_n 1, 1) := dk_27 (dk_at dksJ11_getChar_1 9 rfl rfl)
theorem dJ11_getChar_34 : decode cJ11_getChar 34 = .ok (.iinc 1 1, 3) := dk_132 1 1 (dk_at dksJ11_getChar_1 10 rfl rfl)
theorem dJ11_getChar_37 : decode cJ11_getChar 37 = .ok (.baload, 1) := dk_51 (dk_at dksJ11_getChar_1 13 rfl rfl)
theorem dJ11_getChar_38 : decode cJ11_getChar 38 = .ok (.sipush 255, 3) := dk_17 0 255 (dk_at dksJ11_getChar_1 14 rfl rfl)
theorem dJ11_getChar_41 : decode cJ11_getChar 41 = .ok (.iand, 1) := dk_126 (dk_at dksJ11_getChar_1 17 rfl rfl)
theorem dJ11_getChar_42 : decode cJ11_getChar 42 = .ok (.getstatic 59, 3) := dk_178 0 59 (dk_at dksJ11_getChar_1 18 rfl rfl)
theorem dJ11_getChar_45 : decode cJ11_getChar 45 = .ok (.ishl, 1) := dk_120 (dk_at dksJ11_getChar_1 21 rfl rfl)
theorem dJ11_getChar_46 : decode cJ11_getChar 46 = .ok (.aload_n 0, 1) := dk_42 (dk_at dksJ11_getChar_1 22 rfl rfl)
theorem dJ11_getChar_47 : decode cJ11_getChar 47 = .ok (.iload_n 1, 1) := dk_27 (dk_at dksJ11_getChar_1 23 rfl rfl)
theorem dJ11_getChar_48 : decode cJ11_getChar 48 = .ok (.baload, 1) := dk_51 (dk_at dksJ11_getChar_2 0 rfl rfl)
theorem dJ11_getChar_49 : decode cJ11_getChar 49 = .ok (.sipush 255, 3) := dk_17 0 255 (dk_at dksJ11_getChar_2 1 rfl rfl)
theorem dJ11_getChar_52 : decode cJ11_getChar 52 = .ok (.iand, 1) := dk_126 (dk_at dksJ11_getChar_2 4 rfl rfl)
theorem dJ11_getChar_53 : decode cJ11_getChar 53 = .ok (.getstatic 63, 3) := dk_178 0 63 (dk_at dksJ11_getChar_2 5 rfl rfl)
theorem dJ11_getChar_56 : decode cJ11_getChar 56 = .ok (.ishl, 1) := dk_120 (dk_at dksJ11_getChar_2 8 rfl rfl)
theorem dJ11_getChar_57 : decode cJ11_getChar 57 = .ok (.ior, 1) := dk_128 (dk_at dksJ11_getChar_2 9 rfl rfl)
theorem dJ11_getChar_58 : decode cJ11_getChar 58 = .ok (.i2c, 1) := dk_146 (dk_at dksJ11_getChar_2 10 rfl rfl)
theorem dJ11_getChar_59 : decode cJ11_getChar 59 = .ok (.ireturn, 1) := dk_172 (dk_at dksJ11_getChar_2 11 rfl rfl)
theorem q96 : (Jvm.Cond.initialized "java/lang/StringUTF16") ∈ lw_all := lw_g (lw_at lw_m1 21 rfl) rfl
theorem q579 : (Jvm.Cond.static ({ cls := "java/lang/StringUTF16", name := "charAt", desc := "([BI)C" } : Jvm.MethodName)) ∈ lw_all := lw_g (lw_at lw_m3 24 rfl) rfl
theorem q580 : (Jvm.Cond.code ({ cls := "java/lang/StringUTF16", name := "charAt", desc := "([BI)C" } : Jvm.MethodName) prog_29_method_83_code (2 : Nat) (Option.some Jvm.ClassFile.FieldType.char)) ∈ lw_all := lw_g (lw_at lw_m3 25 rfl) rfl
theorem q581 : (Jvm.Cond.methodLink "java/lang/StringUTF16" (67 : Nat) ({ cls := "java/lang/StringUTF16", name := "checkIndex", desc := "(I[B)V" } : Jvm.MethodName)) ∈ lw_all := lw_g (lw_at lw_m3 26 rfl) rfl
theorem q582 : (Jvm.Cond.static ({ cls := "java/lang/StringUTF16", name := "checkIndex", desc := "(I[B)V" } : Jvm.MethodName)) ∈ lw_all := lw_g (lw_at lw_m3 27 rfl) rfl
theorem q583 : (Jvm.Cond.code ({ cls := "java/lang/StringUTF16", name := "checkIndex", desc := "(I[B)V" } : Jvm.MethodName) prog_29_method_91_code (2 : Nat) (Option.none : Option Jvm.ClassFile.FieldType)) ∈ lw_all := lw_g (lw_at lw_m3 28 rfl) rfl
theorem q584 : (Jvm.Cond.methodLink "java/lang/StringUTF16" (48 : Nat) ({ cls := "java/lang/StringUTF16", name := "length", desc := "([B)I" } : Jvm.MethodName)) ∈ lw_all := lw_g (lw_at lw_m3 29 rfl) rfl
theorem q585 : (Jvm.Cond.static ({ cls := "java/lang/StringUTF16", name := "length", desc := "([B)I" } : Jvm.MethodName)) ∈ lw_all := lw_g (lw_at lw_m3 30 rfl) rfl
theorem q586 : (Jvm.Cond.code ({ cls := "java/lang/StringUTF16", name := "length", desc := "([B)I" } : Jvm.MethodName) prog_29_method_6_code (1 : Nat) (Option.some Jvm.ClassFile.FieldType.int)) ∈ lw_all := lw_g (lw_at lw_m3 31 rfl) rfl
theorem q587 : (Jvm.Cond.methodLink "java/lang/StringUTF16" (414 : Nat) ({ cls := "java/lang/String", name := "checkIndex", desc := "(II)V" } : Jvm.MethodName)) ∈ lw_all := lw_g (lw_at lw_m3 32 rfl) rfl
theorem q588 : (Jvm.Cond.methodLink "java/lang/StringUTF16" (71 : Nat) ({ cls := "java/lang/StringUTF16", name := "getChar", desc := "([BI)C" } : Jvm.MethodName)) ∈ lw_all := lw_g (lw_at lw_m3 33 rfl) rfl
theorem q589 : (Jvm.Cond.static ({ cls := "java/lang/StringUTF16", name := "getChar", desc := "([BI)C" } : Jvm.MethodName)) ∈ lw_all := lw_g (lw_at lw_m3 34 rfl) rfl
theorem q590 : (Jvm.Cond.code ({ cls := "java/lang/StringUTF16", name := "getChar", desc := "([BI)C" } : Jvm.MethodName) prog_29_method_5_code (2 : Nat) (Option.some Jvm.ClassFile.FieldType.char)) ∈ lw_all := lw_g (lw_at lw_m3 35 rfl) rfl
theorem q591 : (Jvm.Cond.fieldLink "java/lang/StringUTF16" (44 : Nat) "java/lang/StringUTF16" "$assertionsDisabled" "Z") ∈ lw_all := lw_g (lw_at lw_m3 36 rfl) rfl
theorem q592 : (Jvm.Cond.laysStatic "java/lang/StringUTF16" "$assertionsDisabled" "Z") ∈ lw_tbl := lw_at lw_m3 37 rfl
theorem q593 : (Jvm.Cond.fieldLink "java/lang/StringUTF16" (59 : Nat) "java/lang/StringUTF16" "HI_BYTE_SHIFT" "I") ∈ lw_all := lw_g (lw_at lw_m3 38 rfl) rfl
theorem q594 : (Jvm.Cond.laysStatic "java/lang/StringUTF16" "HI_BYTE_SHIFT" "I") ∈ lw_tbl := lw_at lw_m3 39 rfl
theorem q595 : (Jvm.Cond.fieldLink "java/lang/StringUTF16" (63 : Nat) "java/lang/StringUTF16" "LO_BYTE_SHIFT" "I") ∈ lw_all := lw_g (lw_at lw_m3 40 rfl) rfl
theorem q596 : (Jvm.Cond.laysStatic "java/lang/StringUTF16" "LO_BYTE_SHIFT" "I") ∈ lw_tbl := lw_at lw_m3 41 rfl
/-! jdk/internal/util/ArraysSupport -/
set_option maxRecDepth 100000
def RJ12 : String := "jdk/internal/util/ArraysSupport"
abbrev cJ12_newLength : ByteArray := prog_41_method_27_code
def yJ12_newLength : MethodName := ⟨RJ12, "newLength", "(III)I"⟩
def dkwJ12_newLength_1 : List UInt8 := [184, 0, 201, 172]
abbrev dktJ12_newLength_1 : List UInt8 := dkwJ12_newLength_1 ++ []
def dkwJ12_newLength_0 : List UInt8 := [26, 27, 28, 184, 0, 194, 96, 62, 3, 29, 162, 0, 11, 29, 18, 200, 163, 0, 5, 29, 172, 26, 27]
abbrev dktJ12_newLength_0 : List UInt8 := dkwJ12_newLength_0 ++ dktJ12_newLength_1
theorem dksJ12_newLength_0 : cJ12_newLength.data.toList.drop 0 = dktJ12_newLength_0 := by decide +kernel
theorem dksJ12_newLength_1 : cJ12_newLength.data.toList.drop 23 = dktJ12_newLength_1 := dk_seg dksJ12_newLength_0 23 rfl rfl
theorem dJ12_newLength_0 : decode cJ12_newLength 0 = .ok (.iload_n 0, 1) := dk_26 (dk_at dksJ12_newLength_0 0 rfl rfl)
theorem dJ12_newLength_1 : decode cJ12_newLength 1 = .ok (.iload_n 1, 1) := dk_27 (dk_at dksJ12_newLength_0 1 rfl rfl)
theorem dJ12_newLength_2 : decode cJ12_newLength 2 = .ok (.iload_n 2, 1) := dk_28 (dk_at dksJ12_newLength_0 2 rfl rfl)
theorem dJ12_newLength_3 : decode cJ12_newLength 3 = .ok (.invokestatic 194, 3) := dk_184 0 194 (dk_at dksJ12_newLength_0 3 rfl rfl)
theorem dJ12_newLength_6 : decode cJ12_newLength 6 = .ok (.iadd, 1) := dk_96 (dk_at dksJ12_newLength_0 6 rfl rfl)
theorem dJ12_newLength_7 : decode cJ12_newLength 7 = .ok (.istore_n 3, 1) := dk_62 (dk_at dksJ12_newLength_0 7 rfl rfl)
theorem dJ12_newLength_8 : decode cJ12_newLength 8 = .ok (.iconst 0, 1) := dk_3 (dk_at dksJ12_newLength_0 8 rfl rfl)
theorem dJ12_newLength_9 : decode cJ12_newLength 9 = .ok (.iload_n 3, 1) := dk_29 (dk_at dksJ12_newLength_0 9 rfl rfl)
theorem dJ12_newLength_10 : decode cJ12_newLength 10 = .ok (.if_icmp .ge 11, 3) := dk_162 0 11 (dk_at dksJ12_newLength_0 10 rfl rfl)
theorem dJ12_newLength_13 : decode cJ12_newLength 13 = .ok (.iload_n 3, 1) := dk_29 (dk_at dksJ12_newLength_0 13 rfl rfl)
theorem dJ12_newLength_14 : decode cJ12_newLength 14 = .ok (.ldc 200, 2) := dk_18 200 (dk_at dksJ12_newLength_0 14 rfl rfl)
theorem dJ12_newLength_16 : decode cJ12_newLength 16 = .ok (.if_icmp .gt 5, 3) := dk_163 0 5 (dk_at dksJ12_newLength_0 16 rfl rfl)
theorem dJ12_newLength_19 : decode cJ12_newLength 19 = .ok (.iload_n 3, 1) := dk_29 (dk_at dksJ12_newLength_0 19 rfl rfl)
theorem dJ12_newLength_20 : decode cJ12_newLength 20 = .ok (.ireturn, 1) := dk_172 (dk_at dksJ12_newLength_0 20 rfl rfl)
theorem dJ12_newLength_21 : decode cJ12_newLength 21 = .ok (.iload_n 0, 1) := dk_26 (dk_at dksJ12_newLength_0 21 rfl rfl)
theorem dJ12_newLength_22 : decode cJ12_newLength 22 = .ok (.iload_n 1, 1) := dk_27 (dk_at dksJ12_newLength_0 22 rfl rfl)
theorem dJ12_newLength_23 : decode cJ12_newLength 23 = .ok (.invokestatic 201, 3) := dk_184 0 201 (dk_at dksJ12_newLength_1 0 rfl rfl)
theorem dJ12_newLength_26 : decode cJ12_newLength 26 = .ok (.ireturn, 1) := dk_172 (dk_at dksJ12_newLength_1 3 rfl rfl)
abbrev cJ12_hugeLength : ByteArray := prog_41_method_28_code
def yJ12_hugeLength : MethodName := ⟨RJ12, "hugeLength", "(II)I"⟩
def dkwJ12_hugeLength_2 : List UInt8 := [191, 28, 18, 200, 163, 0, 6, 18, 200, 172, 28, 172]
abbrev dktJ12_hugeLength_2 : List UInt8 := dkwJ12_hugeLength_2 ++ []
def dkwJ12_hugeLength_1 : List UInt8 := [26, 182, 0, 98, 18, 208, 182, 0, 94, 27, 182, 0, 98, 18, 210, 182, 0, 94, 182, 0, 101, 183, 0, 212]
abbrev dktJ12_hugeLength_1 : List UInt8 := dkwJ12_hugeLength_1 ++ dktJ12_hugeLength_2
def dkwJ12_hugeLength_0 : List UInt8 := [26, 27, 96, 61, 28, 156, 0, 44, 187, 0, 204, 89, 187, 0, 89, 89, 183, 0, 91, 18, 206, 182, 0, 94]
abbrev dktJ12_hugeLength_0 : List UInt8 := dkwJ12_hugeLength_0 ++ dktJ12_hugeLength_1
theorem dksJ12_hugeLength_0 : cJ12_hugeLength.data.toList.drop 0 = dktJ12_hugeLength_0 := by decide +kernel
theorem dksJ12_hugeLength_1 : cJ12_hugeLength.data.toList.drop 24 = dktJ12_hugeLength_1 := dk_seg dksJ12_hugeLength_0 24 rfl rfl
theorem dksJ12_hugeLength_2 : cJ12_hugeLength.data.toList.drop 48 = dktJ12_hugeLength_2 := dk_seg dksJ12_hugeLength_1 24 rfl rfl
theorem dJ12_hugeLength_0 : decode cJ12_hugeLength 0 = .ok (.iload_n 0, 1) := dk_26 (dk_at dksJ12_hugeLength_0 0 rfl rfl)
theorem dJ12_hugeLength_1 : decode cJ12_hugeLength 1 = .ok (.iload_n 1, 1) := dk_27 (dk_at dksJ12_hugeLength_0 1 rfl rfl)
theorem dJ12_hugeLength_2 : decode cJ12_hugeLength 2 = .ok (.iadd, 1) := dk_96 (dk_at dksJ12_hugeLength_0 2 rfl rfl)
theorem dJ12_hugeLength_3 : decode cJ12_hugeLength 3 = .ok (.istore_n 2, 1) := dk_61 (dk_at dksJ12_hugeLength_0 3 rfl rfl)
theorem dJ12_hugeLength_4 : decode cJ12_hugeLength 4 = .ok (.iload_n 2, 1) := dk_28 (dk_at dksJ12_hugeLength_0 4 rfl rfl)
theorem dJ12_hugeLength_5 : decode cJ12_hugeLength 5 = .ok (.ifCond .ge 44, 3) := dk_156 0 44 (dk_at dksJ12_hugeLength_0 5 rfl rfl)
theorem dJ12_hugeLength_8 : decode cJ12_hugeLength 8 = .ok (.new 204, 3) := dk_187 0 204 (dk_at dksJ12_hugeLength_0 8 rfl rfl)
theorem dJ12_hugeLength_11 : decode cJ12_hugeLength 11 = .ok (.dup, 1) := dk_89 (dk_at dksJ12_hugeLength_0 11 rfl rfl)
theorem dJ12_hugeLength_12 : decode cJ12_hugeLength 12 = .ok (.new 89, 3) := dk_187 0 89 (dk_at dksJ12_hugeLength_0 12 rfl rfl)
theorem dJ12_hugeLength_15 : decode cJ12_hugeLength 15 = .ok (.dup, 1) := dk_89 (dk_at dksJ12_hugeLength_0 15 rfl rfl)
theorem dJ12_hugeLength_16 : decode cJ12_hugeLength 16 = .ok (.invokespecial 91, 3) := dk_183 0 91 (dk_at dksJ12_hugeLength_0 16 rfl rfl)
theorem dJ12_hugeLength_19 : decode cJ12_hugeLength 19 = .ok (.ldc 206, 2) := dk_18 206 (dk_at dksJ12_hugeLength_0 19 rfl rfl)
theorem dJ12_hugeLength_21 : decode cJ12_hugeLength 21 = .ok (.invokevirtual 94, 3) := dk_182 0 94 (dk_at dksJ12_hugeLength_0 21 rfl rfl)
theorem dJ12_hugeLength_24 : decode cJ12_hugeLength 24 = .ok (.iload_n 0, 1) := dk_26 (dk_at dksJ12_hugeLength_1 0 rfl rfl)
theorem dJ12_hugeLength_25 : decode cJ12_hugeLength 25 = .ok (.invokevirtual 98, 3) := dk_182 0 98 (dk_at dksJ12_hugeLength_1 1 rfl rfl)
theorem dJ12_hugeLength_28 : decode cJ12_hugeLength 28 = .ok (.ldc 208, 2) := dk_18 208 (dk_at dksJ12_hugeLength_1 4 rfl rfl)
theorem dJ12_hugeLength_30 : decode cJ12_hugeLength 30 = .ok (.invokevirtual 94, 3) := dk_182 0 94 (dk_at dksJ12_hugeLength_1 6 rfl rfl)
theorem dJ12_hugeLength_33 : decode cJ12_hugeLength 33 = .ok (.iload_n 1, 1) := dk_27 (dk_at dksJ12_hugeLength_1 9 rfl rfl)
theorem dJ12_hugeLength_34 : decode cJ12_hugeLength 34 = .ok (.invokevirtual 98, 3) := dk_182 0 98 (dk_at dksJ12_hugeLength_1 10 rfl rfl)
theorem dJ12_hugeLength_37 : decode cJ12_hugeLength 37 = .ok (.ldc 210, 2) := dk_18 210 (dk_at dksJ12_hugeLength_1 13 rfl rfl)
theorem dJ12_hugeLength_39 : decode cJ12_hugeLength 39 = .ok (.invokevirtual 94, 3) := dk_182 0 94 (dk_at dksJ12_hugeLength_1 15 rfl rfl)
theorem dJ12_hugeLength_42 : decode cJ12_hugeLength 42 = .ok (.invokevirtual 101, 3) := dk_182 0 101 (dk_at dksJ12_hugeLength_1 18 rfl rfl)
theorem dJ12_hugeLength_45 : decode cJ12_hugeLength 45 = .ok (.invokespecial 212, 3) := dk_183 0 212 (dk_at dksJ12_hugeLength_1 21 rfl rfl)
theorem dJ12_hugeLength_48 : decode cJ12_hugeLength 48 = .ok (.athrow, 1) := dk_191 (dk_at dksJ12_hugeLength_2 0 rfl rfl)
theorem dJ12_hugeLength_49 : decode cJ12_hugeLength 49 = .ok (.iload_n 2, 1) := dk_28 (dk_at dksJ12_hugeLength_2 1 rfl rfl)
theorem dJ12_hugeLength_50 : decode cJ12_hugeLength 50 = .ok (.ldc 200, 2) := dk_18 200 (dk_at dksJ12_hugeLength_2 2 rfl rfl)
theorem dJ12_hugeLength_52 : decode cJ12_hugeLength 52 = .ok (.if_icmp .gt 6, 3) := dk_163 0 6 (dk_at dksJ12_hugeLength_2 4 rfl rfl)
theorem dJ12_hugeLength_55 : decode cJ12_hugeLength 55 = .ok (.ldc 200, 2) := dk_18 200 (dk_at dksJ12_hugeLength_2 7 rfl rfl)
theorem dJ12_hugeLength_57 : decode cJ12_hugeLength 57 = .ok (.ireturn, 1) := dk_172 (dk_at dksJ12_hugeLength_2 9 rfl rfl)
theorem dJ12_hugeLength_58 : decode cJ12_hugeLength 58 = .ok (.iload_n 2, 1) := dk_28 (dk_at dksJ12_hugeLength_2 10 rfl rfl)
theorem dJ12_hugeLength_59 : decode cJ12_hugeLength 59 = .ok (.ireturn, 1) := dk_172 (dk_at dksJ12_hugeLength_2 11 rfl rfl)
theorem q103 : (Jvm.Cond.initialized "jdk/internal/util/ArraysSupport") ∈ lw_all := lw_g (lw_at lw_m1 28 rfl) rfl
theorem q689 : (Jvm.Cond.static ({ cls := "jdk/internal/util/ArraysSupport", name := "newLength", desc := "(III)I" } : Jvm.MethodName)) ∈ lw_all := lw_g (lw_at lw_m3 134 rfl) rfl
theorem q690 : (Jvm.Cond.code ({ cls := "jdk/internal/util/ArraysSupport", name := "newLength", desc := "(III)I" } : Jvm.MethodName) prog_41_method_27_code (4 : Nat) (Option.some Jvm.ClassFile.FieldType.int)) ∈ lw_all := lw_g (lw_at lw_m3 135 rfl) rfl
theorem q691 : (Jvm.Cond.methodLink "jdk/internal/util/ArraysSupport" (194 : Nat) ({ cls := "java/lang/Math", name := "max", desc := "(II)I" } : Jvm.MethodName)) ∈ lw_all := lw_g (lw_at lw_m3 136 rfl) rfl
theorem q694 : (Jvm.Cond.constant "jdk/internal/util/ArraysSupport" (200 : Nat) (2147483639 : Int32)) ∈ lw_all := lw_g (lw_at lw_m3 139 rfl) rfl
theorem q695 : (Jvm.Cond.methodLink "jdk/internal/util/ArraysSupport" (201 : Nat) ({ cls := "jdk/internal/util/ArraysSupport", name := "hugeLength", desc := "(II)I" } : Jvm.MethodName)) ∈ lw_all := lw_g (lw_at lw_m3 140 rfl) rfl
theorem q696 : (Jvm.Cond.static ({ cls := "jdk/internal/util/ArraysSupport", name := "hugeLength", desc := "(II)I" } : Jvm.MethodName)) ∈ lw_all := lw_g (lw_at lw_m3 141 rfl) rfl
theorem q697 : (Jvm.Cond.code ({ cls := "jdk/internal/util/ArraysSupport", name := "hugeLength", desc := "(II)I" } : Jvm.MethodName) prog_41_method_28_code (3 : Nat) (Option.some Jvm.ClassFile.FieldType.int)) ∈ lw_all := lw_g (lw_at lw_m3 142 rfl) rfl
/-! java/lang/Math -/
set_option maxRecDepth 100000
def RJ13 : String := "java/lang/Math"
abbrev cJ13_max : ByteArray := prog_25_method_65_code
def yJ13_max : MethodName := ⟨RJ13, "max", "(II)I"⟩
def dkwJ13_max_0 : List UInt8 := [26, 27, 161, 0, 7, 26, 167, 0, 4, 27, 172]
abbrev dktJ13_max_0 : List UInt8 := dkwJ13_max_0 ++ []
theorem dksJ13_max_0 : cJ13_max.data.toList.drop 0 = dktJ13_max_0 := by decide +kernel
theorem dJ13_max_0 : decode cJ13_max 0 = .ok (.iload_n 0, 1) := dk_26 (dk_at dksJ13_max_0 0 rfl rfl)
theorem dJ13_max_1 : decode cJ13_max 1 = .ok (.iload_n 1, 1) := dk_27 (dk_at dksJ13_max_0 1 rfl rfl)
theorem dJ13_max_2 : decode cJ13_max 2 = .ok (.if_icmp .lt 7, 3) := dk_161 0 7 (dk_at dksJ13_max_0 2 rfl rfl)
theorem dJ13_max_5 : decode cJ13_max 5 = .ok (.iload_n 0, 1) := dk_26 (dk_at dksJ13_max_0 5 rfl rfl)
theorem dJ13_max_6 : decode cJ13_max 6 = .ok (.goto 4, 3) := dk_167 0 4 (dk_at dksJ13_max_0 6 rfl rfl)
theorem dJ13_max_9 : decode cJ13_max 9 = .ok (.iload_n 1, 1) := dk_27 (dk_at dksJ13_max_0 9 rfl rfl)
theorem dJ13_max_10 : decode cJ13_max 10 = .ok (.ireturn, 1) := dk_172 (dk_at dksJ13_max_0 10 rfl rfl)
abbrev cJ13_min : ByteArray := prog_25_method_69_code
def yJ13_min : MethodName := ⟨RJ13, "min", "(II)I"⟩
def dkwJ13_min_0 : List UInt8 := [26, 27, 163, 0, 7, 26, 167, 0, 4, 27, 172]
abbrev dktJ13_min_0 : List UInt8 := dkwJ13_min_0 ++ []
theorem dksJ13_min_0 : cJ13_min.data.toList.drop 0 = dktJ13_min_0 := by decide +kernel
theorem dJ13_min_0 : decode cJ13_min 0 = .ok (.iload_n 0, 1) := dk_26 (dk_at dksJ13_min_0 0 rfl rfl)
theorem dJ13_min_1 : decode cJ13_min 1 = .ok (.iload_n 1, 1) := dk_27 (dk_at dksJ13_min_0 1 rfl rfl)
theorem dJ13_min_2 : decode cJ13_min 2 = .ok (.if_icmp .gt 7, 3) := dk_163 0 7 (dk_at dksJ13_min_0 2 rfl rfl)
theorem dJ13_min_5 : decode cJ13_min 5 = .ok (.iload_n 0, 1) := dk_26 (dk_at dksJ13_min_0 5 rfl rfl)
theorem dJ13_min_6 : decode cJ13_min 6 = .ok (.goto 4, 3) := dk_167 0 4 (dk_at dksJ13_min_0 6 rfl rfl)
theorem dJ13_min_9 : decode cJ13_min 9 = .ok (.iload_n 1, 1) := dk_27 (dk_at dksJ13_min_0 9 rfl rfl)
theorem dJ13_min_10 : decode cJ13_min 10 = .ok (.ireturn, 1) := dk_172 (dk_at dksJ13_min_0 10 rfl rfl)
abbrev cJ13_abs : ByteArray := prog_25_method_59_code
def yJ13_abs : MethodName := ⟨RJ13, "abs", "(I)I"⟩
def dkwJ13_abs_0 : List UInt8 := [26, 156, 0, 8, 26, 116, 167, 0, 4, 26, 172]
abbrev dktJ13_abs_0 : List UInt8 := dkwJ13_abs_0 ++ []
theorem dksJ13_abs_0 : cJ13_abs.data.toList.drop 0 = dktJ13_abs_0 := by decide +kernel
theorem dJ13_abs_0 : decode cJ13_abs 0 = .ok (.iload_n 0, 1) := dk_26 (dk_at dksJ13_abs_0 0 rfl rfl)
theorem dJ13_abs_1 : decode cJ13_abs 1 = .ok (.ifCond .ge 8, 3) := dk_156 0 8 (dk_at dksJ13_abs_0 1 rfl rfl)
theorem dJ13_abs_4 : decode cJ13_abs 4 = .ok (.iload_n 0, 1) := dk_26 (dk_at dksJ13_abs_0 4 rfl rfl)
theorem dJ13_abs_5 : decode cJ13_abs 5 = .ok (.ineg, 1) := dk_116 (dk_at dksJ13_abs_0 5 rfl rfl)
theorem dJ13_abs_6 : decode cJ13_abs 6 = .ok (.goto 4, 3) := dk_167 0 4 (dk_at dksJ13_abs_0 6 rfl rfl)
theorem dJ13_abs_9 : decode cJ13_abs 9 = .ok (.iload_n 0, 1) := dk_26 (dk_at dksJ13_abs_0 9 rfl rfl)
theorem dJ13_abs_10 : decode cJ13_abs 10 = .ok (.ireturn, 1) := dk_172 (dk_at dksJ13_abs_0 10 rfl rfl)
theorem q104 : (Jvm.Cond.initialized "java/lang/Math") ∈ lw_all := lw_g (lw_at lw_m1 29 rfl) rfl
theorem q692 : (Jvm.Cond.static ({ cls := "java/lang/Math", name := "max", desc := "(II)I" } : Jvm.MethodName)) ∈ lw_all := lw_g (lw_at lw_m3 137 rfl) rfl
theorem q693 : (Jvm.Cond.code ({ cls := "java/lang/Math", name := "max", desc := "(II)I" } : Jvm.MethodName) prog_25_method_65_code (2 : Nat) (Option.some Jvm.ClassFile.FieldType.int)) ∈ lw_all := lw_g (lw_at lw_m3 138 rfl) rfl
theorem q728 : (Jvm.Cond.static ({ cls := "java/lang/Math", name := "min", desc := "(II)I" } : Jvm.MethodName)) ∈ lw_all := lw_g (lw_at lw_m3 173 rfl) rfl
theorem q729 : (Jvm.Cond.code ({ cls := "java/lang/Math", name := "min", desc := "(II)I" } : Jvm.MethodName) prog_25_method_69_code (2 : Nat) (Option.some Jvm.ClassFile.FieldType.int)) ∈ lw_all := lw_g (lw_at lw_m3 174 rfl) rfl
theorem q939 : (Jvm.Cond.static ({ cls := "java/lang/Math", name := "abs", desc := "(I)I" } : Jvm.MethodName)) ∈ lw_all := lw_g (lw_at lw_m4 144 rfl) rfl
theorem q940 : (Jvm.Cond.code ({ cls := "java/lang/Math", name := "abs", desc := "(I)I" } : Jvm.MethodName) prog_25_method_59_code (1 : Nat) (Option.some Jvm.ClassFile.FieldType.int)) ∈ lw_all := lw_g (lw_at lw_m4 145 rfl) rfl
/-! java/util/Arrays -/
set_option maxRecDepth 100000
def RJ14 : String := "java/util/Arrays"
abbrev cJ14_copyOf : ByteArray := prog_35_method_119_code
def yJ14_copyOf : MethodName := ⟨RJ14, "copyOf", "([Ljava/lang/Object;I)[Ljava/lang/Object;"⟩
def dkwJ14_copyOf_0 : List UInt8 := [42, 27, 42, 182, 0, 86, 184, 1, 44, 176]
abbrev dktJ14_copyOf_0 : List UInt8 := dkwJ14_copyOf_0 ++ []
theorem dksJ14_copyOf_0 : cJ14_copyOf.data.toList.drop 0 = dktJ14_copyOf_0 := by decide +kernel
theorem dJ14_copyOf_0 : decode cJ14_copyOf 0 = .ok (.aload_n 0, 1) := dk_42 (dk_at dksJ14_copyOf_0 0 rfl rfl)
theorem dJ14_copyOf_1 : decode cJ14_copyOf 1 = .ok (.iload_n 1, 1) := dk_27 (dk_at dksJ14_copyOf_0 1 rfl rfl)
theorem dJ14_copyOf_2 : decode cJ14_copyOf 2 = .ok (.aload_n 0, 1) := dk_42 (dk_at dksJ14_copyOf_0 2 rfl rfl)
theorem dJ14_copyOf_3 : decode cJ14_copyOf 3 = .ok (.invokevirtual 86, 3) := dk_182 0 86 (dk_at dksJ14_copyOf_0 3 rfl rfl)
theorem dJ14_copyOf_6 : decode cJ14_copyOf 6 = .ok (.invokestatic 300, 3) := dk_184 1 44 (dk_at dksJ14_copyOf_0 6 rfl rfl)
theorem dJ14_copyOf_9 : decode cJ14_copyOf 9 = .ok (.areturn, 1) := dk_176 (dk_at dksJ14_copyOf_0 9 rfl rfl)
abbrev cJ14_copyOf_2 : ByteArray := prog_35_method_120_code
def yJ14_copyOf_2 : MethodName := ⟨RJ14, "copyOf", "([Ljava/lang/Object;ILjava/lang/Class;)[Ljava/lang/Object;"⟩
def dkwJ14_copyOf_2_1 : List UInt8 := [78, 42, 3, 45, 3, 42, 190, 27, 184, 1, 48, 184, 0, 150, 45, 176]
abbrev dktJ14_copyOf_2_1 : List UInt8 := dkwJ14_copyOf_2_1 ++ []
def dkwJ14_copyOf_2_0 : List UInt8 := [44, 18, 110, 166, 0, 10, 27, 189, 0, 2, 167, 0, 14, 44, 182, 0, 90, 27, 184, 0, 95, 192, 0, 110]
abbrev dktJ14_copyOf_2_0 : List UInt8 := dkwJ14_copyOf_2_0 ++ dktJ14_copyOf_2_1
theorem dksJ14_copyOf_2_0 : cJ14_copyOf_2.data.toList.drop 0 = dktJ14_copyOf_2_0 := by decide +kernel
theorem dksJ14_copyOf_2_1 : cJ14_copyOf_2.data.toList.drop 24 = dktJ14_copyOf_2_1 := dk_seg dksJ14_copyOf_2_0 24 rfl rfl
theorem dJ14_copyOf_2_0 : decode cJ14_copyOf_2 0 = .ok (.aload_n 2, 1) := dk_44 (dk_at dksJ14_copyOf_2_0 0 rfl rfl)
theorem dJ14_copyOf_2_1 : decode cJ14_copyOf_2 1 = .ok (.ldc 110, 2) := dk_18 110 (dk_at dksJ14_copyOf_2_0 1 rfl rfl)
theorem dJ14_copyOf_2_3 : decode cJ14_copyOf_2 3 = .ok (.if_acmp .ne 10, 3) := dk_166 0 10 (dk_at dksJ14_copyOf_2_0 3 rfl rfl)
theorem dJ14_copyOf_2_6 : decode cJ14_copyOf_2 6 = .ok (.iload_n 1, 1) := dk_27 (dk_at dksJ14_copyOf_2_0 6 rfl rfl)
theorem dJ14_copyOf_2_7 : decode cJ14_copyOf_2 7 = .ok (.anewarray 2, 3) := dk_189 0 2 (dk_at dksJ14_copyOf_2_0 7 rfl rfl)
theorem dJ14_copyOf_2_10 : decode cJ14_copyOf_2 10 = .ok (.goto 14, 3) := dk_167 0 14 (dk_at dksJ14_copyOf_2_0 10 rfl rfl)
theorem dJ14_copyOf_2_13 : decode cJ14_copyOf_2 13 = .ok (.aload_n 2, 1) := dk_44 (dk_at dksJ14_copyOf_2_0 13 rfl rfl)
theorem dJ14_copyOf_2_14 : decode cJ14_copyOf_2 14 = .ok (.invokevirtual 90, 3) := dk_182 0 90 (dk_at dksJ14_copyOf_2_0 14 rfl rfl)
theorem dJ14_copyOf_2_17 : decode cJ14_copyOf_2 17 = .ok (.iload_n 1, 1) := dk_27 (dk_at dksJ14_copyOf_2_0 17 rfl rfl)
theorem dJ14_copyOf_2_18 : decode cJ14_copyOf_2 18 = .ok (.invokestatic 95, 3) := dk_184 0 95 (dk_at dksJ14_copyOf_2_0 18 rfl rfl)
theorem dJ14_copyOf_2_21 : decode cJ14_copyOf_2 21 = .ok (.checkcast 110, 3) := dk_192 0 110 (dk_at dksJ14_copyOf_2_0 21 rfl rfl)
theorem dJ14_copyOf_2_24 : decode cJ14_copyOf_2 24 = .ok (.astore_n 3, 1) := dk_78 (dk_at dksJ14_copyOf_2_1 0 rfl rfl)
theorem dJ14_copyOf_2_25 : decode cJ14_copyOf_2 25 = .ok (.aload_n 0, 1) := dk_42 (dk_at dksJ14_copyOf_2_1 1 rfl rfl)
theorem dJ14_copyOf_2_26 : decode cJ14_copyOf_2 26 = .ok (.iconst 0, 1) := dk_3 (dk_at dksJ14_copyOf_2_1 2 rfl rfl)
theorem dJ14_copyOf_2_27 : decode cJ14_copyOf_2 27 = .ok (.aload_n 3, 1) := dk_45 (dk_at dksJ14_copyOf_2_1 3 rfl rfl)
theorem dJ14_copyOf_2_28 : decode cJ14_copyOf_2 28 = .ok (.iconst 0, 1) := dk_3 (dk_at dksJ14_copyOf_2_1 4 rfl rfl)
theorem dJ14_copyOf_2_29 : decode cJ14_copyOf_2 29 = .ok (.aload_n 0, 1) := dk_42 (dk_at dksJ14_copyOf_2_1 5 rfl rfl)
theorem dJ14_copyOf_2_30 : decode cJ14_copyOf_2 30 = .ok (.arraylength, 1) := dk_190 (dk_at dksJ14_copyOf_2_1 6 rfl rfl)
theorem dJ14_copyOf_2_31 : decode cJ14_copyOf_2 31 = .ok (.iload_n 1, 1) := dk_27 (dk_at dksJ14_copyOf_2_1 7 rfl rfl)
theorem dJ14_copyOf_2_32 : decode cJ14_copyOf_2 32 = .ok (.invokestatic 304, 3) := dk_184 1 48 (dk_at dksJ14_copyOf_2_1 8 rfl rfl)
theorem dJ14_copyOf_2_35 : decode cJ14_copyOf_2 35 = .ok (.invokestatic 150, 3) := dk_184 0 150 (dk_at dksJ14_copyOf_2_1 11 rfl rfl)
theorem dJ14_copyOf_2_38 : decode cJ14_copyOf_2 38 = .ok (.aload_n 3, 1) := dk_45 (dk_at dksJ14_copyOf_2_1 14 rfl rfl)
theorem dJ14_copyOf_2_39 : decode cJ14_copyOf_2 39 = .ok (.areturn, 1) := dk_176 (dk_at dksJ14_copyOf_2_1 15 rfl rfl)
theorem q105 : (Jvm.Cond.initialized "java/util/Arrays") ∈ lw_all := lw_g (lw_at lw_m1 30 rfl) rfl
theorem q699 : (Jvm.Cond.static ({ cls := "java/util/Arrays", name := "copyOf", desc := "([Ljava/lang/Object;I)[Ljava/lang/Object;" } : Jvm.MethodName)) ∈ lw_all := lw_g (lw_at lw_m3 144 rfl) rfl
theorem q700 : (Jvm.Cond.code ({ cls := "java/util/Arrays", name := "copyOf", desc := "([Ljava/lang/Object;I)[Ljava/lang/Object;" } : Jvm.MethodName) prog_35_method_119_code (2 : Nat) (Option.some (Jvm.ClassFile.FieldType.array (Jvm.ClassFile.FieldType.object "java/lang/Object")))) ∈ lw_all := lw_g (lw_at lw_m3 145 rfl) rfl
theorem q701 : (Jvm.Cond.methodLink "java/util/Arrays" (86 : Nat) ({ cls := "java/lang/Object", name := "getClass", desc := "()Ljava/lang/Class;" } : Jvm.MethodName)) ∈ lw_all := lw_g (lw_at lw_m3 146 rfl) rfl
theorem q721 : (Jvm.Cond.methodLink "java/util/Arrays" (300 : Nat) ({ cls := "java/util/Arrays", name := "copyOf", desc := "([Ljava/lang/Object;ILjava/lang/Class;)[Ljava/lang/Object;" } : Jvm.MethodName)) ∈ lw_all := lw_g (lw_at lw_m3 166 rfl) rfl
theorem q722 : (Jvm.Cond.static ({ cls := "java/util/Arrays", name := "copyOf", desc := "([Ljava/lang/Object;ILjava/lang/Class;)[Ljava/lang/Object;" } : Jvm.MethodName)) ∈ lw_all := lw_g (lw_at lw_m3 167 rfl) rfl
theorem q723 : (Jvm.Cond.code ({ cls := "java/util/Arrays", name := "copyOf", desc := "([Ljava/lang/Object;ILjava/lang/Class;)[Ljava/lang/Object;" } : Jvm.MethodName) prog_35_method_120_code (4 : Nat) (Option.some (Jvm.ClassFile.FieldType.array (Jvm.ClassFile.FieldType.object "java/lang/Object")))) ∈ lw_all := lw_g (lw_at lw_m3 168 rfl) rfl
theorem q724 : (Jvm.Cond.classLink "java/util/Arrays" (110 : Nat) "[Ljava/lang/Object;") ∈ lw_all := lw_g (lw_at lw_m3 169 rfl) rfl
theorem q726 : (Jvm.Cond.classLink "java/util/Arrays" (2 : Nat) "java/lang/Object") ∈ lw_all := lw_g (lw_at lw_m3 171 rfl) rfl
theorem q727 : (Jvm.Cond.methodLink "java/util/Arrays" (304 : Nat) ({ cls := "java/lang/Math", name := "min", desc := "(II)I" } : Jvm.MethodName)) ∈ lw_all := lw_g (lw_at lw_m3 172 rfl) rfl
theorem q730 : (Jvm.Cond.methodLink "java/util/Arrays" (150 : Nat) ({ cls := "java/lang/System", name := "arraycopy", desc := "(Ljava/lang/Object;ILjava/lang/Object;II)V" } : Jvm.MethodName)) ∈ lw_all := lw_g (lw_at lw_m3 175 rfl) rfl
/-! java/util/Objects -/
set_option maxRecDepth 100000
def RJ15 : String := "java/util/Objects"
abbrev cJ15_checkIndex : ByteArray := prog_38_method_17_code
def yJ15_checkIndex : MethodName := ⟨RJ15, "checkIndex", "(II)I"⟩
def dkwJ15_checkIndex_0 : List UInt8 := [26, 27, 1, 184, 0, 105, 172]
abbrev dktJ15_checkIndex_0 : List UInt8 := dkwJ15_checkIndex_0 ++ []
theorem dksJ15_checkIndex_0 : cJ15_checkIndex.data.toList.drop 0 = dktJ15_checkIndex_0 := by decide +kernel
theorem dJ15_checkIndex_0 : decode cJ15_checkIndex 0 = .ok (.iload_n 0, 1) := dk_26 (dk_at dksJ15_checkIndex_0 0 rfl rfl)
theorem dJ15_checkIndex_1 : decode cJ15_checkIndex 1 = .ok (.iload_n 1, 1) := dk_27 (dk_at dksJ15_checkIndex_0 1 rfl rfl)
theorem dJ15_checkIndex_2 : decode cJ15_checkIndex 2 = .ok (.aconst_null, 1) := dk_1 (dk_at dksJ15_checkIndex_0 2 rfl rfl)
theorem dJ15_checkIndex_3 : decode cJ15_checkIndex 3 = .ok (.invokestatic 105, 3) := dk_184 0 105 (dk_at dksJ15_checkIndex_0 3 rfl rfl)
theorem dJ15_checkIndex_6 : decode cJ15_checkIndex 6 = .ok (.ireturn, 1) := dk_172 (dk_at dksJ15_checkIndex_0 6 rfl rfl)
theorem q106 : (Jvm.Cond.initialized "java/util/Objects") ∈ lw_all := lw_g (lw_at lw_m1 31 rfl) rfl
theorem q796 : (Jvm.Cond.static ({ cls := "java/util/Objects", name := "checkIndex", desc := "(II)I" } : Jvm.MethodName)) ∈ lw_all := lw_g (lw_at lw_m4 1 rfl) rfl
theorem q797 : (Jvm.Cond.code ({ cls := "java/util/Objects", name := "checkIndex", desc := "(II)I" } : Jvm.MethodName) prog_38_method_17_code (2 : Nat) (Option.some Jvm.ClassFile.FieldType.int)) ∈ lw_all := lw_g (lw_at lw_m4 2 rfl) rfl
theorem q798 : (Jvm.Cond.methodLink "java/util/Objects" (105 : Nat) ({ cls := "jdk/internal/util/Preconditions", name := "checkIndex", desc := "(IILjava/util/function/BiFunction;)I" } : Jvm.MethodName)) ∈ lw_all := lw_g (lw_at lw_m4 3 rfl) rfl
/-! java/lang/Integer -/
set_option maxRecDepth 100000
def RJ16 : String := "java/lang/Integer"
abbrev cJ16_bitCount : ByteArray := prog_23_method_49_code
def yJ16_bitCount : MethodName := ⟨RJ16, "bitCount", "(I)I"⟩
def dkwJ16_bitCount_2 : List UInt8 := [26, 16, 63, 126, 172]
abbrev dktJ16_bitCount_2 : List UInt8 := dkwJ16_bitCount_2 ++ []
def dkwJ16_bitCount_1 : List UInt8 := [26, 26, 7, 124, 96, 19, 1, 11, 126, 59, 26, 26, 16, 8, 124, 96, 59, 26, 26, 16, 16, 124, 96, 59]
abbrev dktJ16_bitCount_1 : List UInt8 := dkwJ16_bitCount_1 ++ dktJ16_bitCount_2
def dkwJ16_bitCount_0 : List UInt8 := [26, 26, 4, 124, 19, 1, 9, 126, 100, 59, 26, 19, 1, 10, 126, 26, 5, 124, 19, 1, 10, 126, 96, 59]
abbrev dktJ16_bitCount_0 : List UInt8 := dkwJ16_bitCount_0 ++ dktJ16_bitCount_1
theorem dksJ16_bitCount_0 : cJ16_bitCount.data.toList.drop 0 = dktJ16_bitCount_0 := by decide +kernel
theorem dksJ16_bitCount_1 : cJ16_bitCount.data.toList.drop 24 = dktJ16_bitCount_1 := dk_seg dksJ16_bitCount_0 24 rfl rfl
theorem dksJ16_bitCount_2 : cJ16_bitCount.data.toList.drop 48 = dktJ16_bitCount_2 := dk_seg dksJ16_bitCount_1 24 rfl rfl
theorem dJ16_bitCount_0 : decode cJ16_bitCount 0 = .ok (.iload_n 0, 1) := dk_26 (dk_at dksJ16_bitCount_0 0 rfl rfl)
theorem dJ16_bitCount_1 : decode cJ16_bitCount 1 = .ok (.iload_n 0, 1) := dk_26 (dk_at dksJ16_bitCount_0 1 rfl rfl)
theorem dJ16_bitCount_2 : decode cJ16_bitCount 2 = .ok (.iconst 1, 1) := dk_4 (dk_at dksJ16_bitCount_0 2 rfl rfl)
theorem dJ16_bitCount_3 : decode cJ16_bitCount 3 = .ok (.iushr, 1) := dk_124 (dk_at dksJ16_bitCount_0 3 rfl rfl)
theorem dJ16_bitCount_4 : decode cJ16_bitCount 4 = .ok (.ldc_w 265, 3) := dk_19 1 9 (dk_at dksJ16_bitCount_0 4 rfl rfl)
theorem dJ16_bitCount_7 : decode cJ16_bitCount 7 = .ok (.iand, 1) := dk_126 (dk_at dksJ16_bitCount_0 7 rfl rfl)
theorem dJ16_bitCount_8 : decode cJ16_bitCount 8 = .ok (.isub, 1) := dk_100 (dk_at dksJ16_bitCount_0 8 rfl rfl)
theorem dJ16_bitCount_9 : decode cJ16_bitCount 9 = .ok (.istore_n 0, 1) := dk_59 (dk_at dksJ16_bitCount_0 9 rfl rfl)
theorem dJ16_bitCount_10 : decode cJ16_bitCount 10 = .ok (.iload_n 0, 1) := dk_26 (dk_at dksJ16_bitCount_0 10 rfl rfl)
theorem dJ16_bitCount_11 : decode cJ16_bitCount 11 = .ok (.ldc_w 266, 3) := dk_19 1 10 (dk_at dksJ16_bitCount_0 11 rfl rfl)
theorem dJ16_bitCount_14 : decode cJ16_bitCount 14 = .ok (.iand, 1) := dk_126 (dk_at dksJ16_bitCount_0 14 rfl rfl)
theorem dJ16_bitCount_15 : decode cJ16_bitCount 15 = .ok (.iload_n 0, 1) := dk_26 (dk_at dksJ16_bitCount_0 15 rfl rfl)
theorem dJ16_bitCount_16 : decode cJ16_bitCount 16 = .ok (.iconst 2, 1) := dk_5 (dk_at dksJ16_bitCount_0 16 rfl rfl)
theorem dJ16_bitCount_17 : decode cJ16_bitCount 17 = .ok (.iushr, 1) := dk_124 (dk_at dksJ16_bitCount_0 17 rfl rfl)
theorem dJ16_bitCount_18 : decode cJ16_bitCount 18 = .ok (.ldc_w 266, 3) := dk_19 1 10 (dk_at dksJ16_bitCount_0 18 rfl rfl)
theorem dJ16_bitCount_21 : decode cJ16_bitCount 21 = .ok (.iand, 1) := dk_126 (dk_at dksJ16_bitCount_0 21 rfl rfl)
theorem dJ16_bitCount_22 : decode cJ16_bitCount 22 = .ok (.iadd, 1) := dk_96 (dk_at dksJ16_bitCount_0 22 rfl rfl)
theorem dJ16_bitCount_23 : decode cJ16_bitCount 23 = .ok (.istore_n 0, 1) := dk_59 (dk_at dksJ16_bitCount_0 23 rfl rfl)
theorem dJ16_bitCount_24 : decode cJ16_bitCount 24 = .ok (.iload_n 0, 1) := dk_26 (dk_at dksJ16_bitCount_1 0 rfl rfl)
theorem dJ16_bitCount_25 : decode cJ16_bitCount 25 = .ok (.iload_n 0, 1) := dk_26 (dk_at dksJ16_bitCount_1 1 rfl rfl)
theorem dJ16_bitCount_26 : decode cJ16_bitCount 26 = .ok (.iconst 4, 1) := dk_7 (dk_at dksJ16_bitCount_1 2 rfl rfl)
theorem dJ16_bitCount_27 : decode cJ16_bitCount 27 = .ok (.iushr, 1) := dk_124 (dk_at dksJ16_bitCount_1 3 rfl rfl)
theorem dJ16_bitCount_28 : decode cJ16_bitCount 28 = .ok (.iadd, 1) := dk_96 (dk_at dksJ16_bitCount_1 4 rfl rfl)
theorem dJ16_bitCount_29 : decode cJ16_bitCount 29 = .ok (.ldc_w 267, 3) := dk_19 1 11 (dk_at dksJ16_bitCount_1 5 rfl rfl)
theorem dJ16_bitCount_32 : decode cJ16_bitCount 32 = .ok (.iand, 1) := dk_126 (dk_at dksJ16_bitCount_1 8 rfl rfl)
theorem dJ16_bitCount_33 : decode cJ16_bitCount 33 = .ok (.istore_n 0, 1) := dk_59 (dk_at dksJ16_bitCount_1 9 rfl rfl)
theorem dJ16_bitCount_34 : decode cJ16_bitCount 34 = .ok (.iload_n 0, 1) := dk_26 (dk_at dksJ16_bitCount_1 10 rfl rfl)
theorem dJ16_bitCount_35 : decode cJ16_bitCount 35 = .ok (.iload_n 0, 1) := dk_26 (dk_at dksJ16_bitCount_1 11 rfl rfl)
theorem dJ16_bitCount_36 : decode cJ16_bitCount 36 = .ok (.bipush 8, 2) := dk_16 8 (dk_at dksJ16_bitCount_1 12 rfl rfl)
theorem dJ16_bitCount_38 : decode cJ16_bitCount 38 = .ok (.iushr, 1) := dk_124 (dk_at dksJ16_bitCount_1 14 rfl rfl)
theorem dJ16_bitCount_39 : decode cJ16_bitCount 39 = .ok (.iadd, 1) := dk_96 (dk_at dksJ16_bitCount_1 15 rfl rfl)
theorem dJ16_bitCount_40 : decode cJ16_bitCount 40 = .ok (.istore_n 0, 1) := dk_59 (dk_at dksJ16_bitCount_1 16 rfl rfl)
theorem dJ16_bitCount_41 : decode cJ16_bitCount 41 = .ok (.iload_n 0, 1) := dk_26 (dk_at dksJ16_bitCount_1 17 rfl rfl)
theorem dJ16_bitCount_42 : decode cJ16_bitCount 42 = .ok (.iload_n 0, 1) := dk_26 (dk_at dksJ16_bitCount_1 18 rfl rfl)
theorem dJ16_bitCount_43 : decode cJ16_bitCount 43 = .ok (.bipush 16, 2) := dk_16 16 (dk_at dksJ16_bitCount_1 19 rfl rfl)
theorem dJ16_bitCount_45 : decode cJ16_bitCount 45 = .ok (.iushr, 1) := dk_124 (dk_at dksJ16_bitCount_1 21 rfl rfl)
theorem dJ16_bitCount_46 : decode cJ16_bitCount 46 = .ok (.iadd, 1) := dk_96 (dk_at dksJ16_bitCount_1 22 rfl rfl)
theorem dJ16_bitCount_47 : decode cJ16_bitCount 47 = .ok (.istore_n 0, 1) := dk_59 (dk_at dksJ16_bitCount_1 23 rfl rfl)
theorem dJ16_bitCount_48 : decode cJ16_bitCount 48 = .ok (.iload_n 0, 1) := dk_26 (dk_at dksJ16_bitCount_2 0 rfl rfl)
theorem dJ16_bitCount_49 : decode cJ16_bitCount 49 = .ok (.bipush 63, 2) := dk_16 63 (dk_at dksJ16_bitCount_2 1 rfl rfl)
theorem dJ16_bitCount_51 : decode cJ16_bitCount 51 = .ok (.iand, 1) := dk_126 (dk_at dksJ16_bitCount_2 3 rfl rfl)
theorem dJ16_bitCount_52 : decode cJ16_bitCount 52 = .ok (.ireturn, 1) := dk_172 (dk_at dksJ16_bitCount_2 4 rfl rfl)
abbrev cJ16_numberOfTrailingZeros : ByteArray := prog_23_method_48_code
def yJ16_numberOfTrailingZeros : MethodName := ⟨RJ16, "numberOfTrailingZeros", "(I)I"⟩
def dkwJ16_numberOfTrailingZeros_3 : List UInt8 := [5, 124, 59, 27, 26, 4, 124, 96, 172]
abbrev dktJ16_numberOfTrailingZeros_3 : List UInt8 := dkwJ16_numberOfTrailingZeros_3 ++ []
def dkwJ16_numberOfTrailingZeros_2 : List UInt8 := [124, 59, 26, 16, 16, 164, 0, 10, 132, 1, 4, 26, 7, 124, 59, 26, 7, 164, 0, 10, 132, 1, 2, 26]
abbrev dktJ16_numberOfTrailingZeros_2 : List UInt8 := dkwJ16_numberOfTrailingZeros_2 ++ dktJ16_numberOfTrailingZeros_3
def dkwJ16_numberOfTrailingZeros_1 : List UInt8 := [164, 0, 11, 132, 1, 16, 26, 16, 16, 124, 59, 26, 17, 1, 0, 164, 0, 11, 132, 1, 8, 26, 16, 8]
abbrev dktJ16_numberOfTrailingZeros_1 : List UInt8 := dkwJ16_numberOfTrailingZeros_1 ++ dktJ16_numberOfTrailingZeros_2
def dkwJ16_numberOfTrailingZeros_0 : List UInt8 := [26, 2, 130, 26, 4, 100, 126, 59, 26, 157, 0, 8, 26, 16, 32, 126, 172, 4, 60, 26, 19, 1, 8]
abbrev dktJ16_numberOfTrailingZeros_0 : List UInt8 := dkwJ16_numberOfTrailingZeros_0 ++ dktJ16_numberOfTrailingZeros_1
theorem dksJ16_numberOfTrailingZeros_0 : cJ16_numberOfTrailingZeros.data.toList.drop 0 = dktJ16_numberOfTrailingZeros_0 := by decide +kernel
theorem dksJ16_numberOfTrailingZeros_1 : cJ16_numberOfTrailingZeros.data.toList.drop 23 = dktJ16_numberOfTrailingZeros_1 := dk_seg dksJ16_numberOfTrailingZeros_0 23 rfl rfl
theorem dksJ16_numberOfTrailingZeros_2 : cJ16_numberOfTrailingZeros.data.toList.drop 47 = dktJ16_numberOfTrailingZeros_2 := dk_seg dksJ16_numberOfTrailingZeros_1 24 rfl rfl
theorem dksJ16_numberOfTrailingZeros_3 : cJ16_numberOfTrailingZeros.data.toList.drop 71 = dktJ16_numberOfTrailingZeros_3 := dk_seg dksJ16_numberOfTrailingZeros_2 24 rfl rfl
theorem dJ16_numberOfTrailingZeros_0 : decode cJ16_numberOfTrailingZeros 0 = .ok (.iload_n 0, 1) := dk_26 (dk_at dksJ16_numberOfTrailingZeros_0 0 rfl rfl)
theorem dJ16_numberOfTrailingZeros_1 : decode cJ16_numberOfTrailingZeros 1 = .ok (.iconst (-1), 1) := dk_2 (dk_at dksJ16_numberOfTrailingZeros_0 1 rfl rfl)
theorem dJ16_numberOfTrailingZeros_2 : decode cJ16_numberOfTrailingZeros 2 = .ok (.ixor, 1) := dk_130 (dk_at dksJ16_numberOfTrailingZeros_0 2 rfl rfl)
theorem dJ16_numberOfTrailingZeros_3 : decode cJ16_numberOfTrailingZeros 3 = .ok (.iload_n 0, 1) := dk_26 (dk_at dksJ16_numberOfTrailingZeros_0 3 rfl rfl)
theorem dJ16_numberOfTrailingZeros_4 : decode cJ16_numberOfTrailingZeros 4 = .ok (.iconst 1, 1) := dk_4 (dk_at dksJ16_numberOfTrailingZeros_0 4 rfl rfl)
theorem dJ16_numberOfTrailingZeros_5 : decode cJ16_numberOfTrailingZeros 5 = .ok (.isub, 1) := dk_100 (dk_at dksJ16_numberOfTrailingZeros_0 5 rfl rfl)
theorem dJ16_numberOfTrailingZeros_6 : decode cJ16_numberOfTrailingZeros 6 = .ok (.iand, 1) := dk_126 (dk_at dksJ16_numberOfTrailingZeros_0 6 rfl rfl)
theorem dJ16_numberOfTrailingZeros_7 : decode cJ16_numberOfTrailingZeros 7 = .ok (.istore_n 0, 1) := dk_59 (dk_at dksJ16_numberOfTrailingZeros_0 7 rfl rfl)
theorem dJ16_numberOfTrailingZeros_8 : decode cJ16_numberOfTrailingZeros 8 = .ok (.iload_n 0, 1) := dk_26 (dk_at dksJ16_numberOfTrailingZeros_0 8 rfl rfl)
theorem dJ16_numberOfTrailingZeros_9 : decode cJ16_numberOfTrailingZeros 9 = .ok (.ifCond .gt 8, 3) := dk_157 0 8 (dk_at dksJ16_numberOfTrailingZeros_0 9 rfl rfl)
theorem dJ16_numberOfTrailingZeros_12 : decode cJ16_numberOfTrailingZeros 12 = .ok (.iload_n 0, 1) := dk_26 (dk_at dksJ16_numberOfTrailingZeros_0 12 rfl rfl)
theorem dJ16_numberOfTrailingZeros_13 : decode cJ16_numberOfTrailingZeros 13 = .ok (.bipush 32, 2) := dk_16 32 (dk_at dksJ16_numberOfTrailingZeros_0 13 rfl rfl)
theorem dJ16_numberOfTrailingZeros_15 : decode cJ16_numberOfTrailingZeros 15 = .ok (.iand, 1) := dk_126 (dk_at dksJ16_numberOfTrailingZeros_0 15 rfl rfl)
theorem dJ16_numberOfTrailingZeros_16 : decode cJ16_numberOfTrailingZeros 16 = .ok (.ireturn, 1) := dk_172 (dk_at dksJ16_numberOfTrailingZeros_0 16 rfl rfl)
theorem dJ16_numberOfTrailingZeros_17 : decode cJ16_numberOfTrailingZeros 17 = .ok (.iconst 1, 1) := dk_4 (dk_at dksJ16_numberOfTrailingZeros_0 17 rfl rfl)
theorem dJ16_numberOfTrailingZeros_18 : decode cJ16_numberOfTrailingZeros 18 = .ok (.istore_n 1, 1) := dk_60 (dk_at dksJ16_numberOfTrailingZeros_0 18 rfl rfl)
theorem dJ16_numberOfTrailingZeros_19 : decode cJ16_numberOfTrailingZeros 19 = .ok (.iload_n 0, 1) := dk_26 (dk_at dksJ16_numberOfTrailingZeros_0 19 rfl rfl)
theorem dJ16_numberOfTrailingZeros_20 : decode cJ16_numberOfTrailingZeros 20 = .ok (.ldc_w 264, 3) := dk_19 1 8 (dk_at dksJ16_numberOfTrailingZeros_0 20 rfl rfl)
theorem dJ16_numberOfTrailingZeros_23 : decode cJ16_numberOfTrailingZeros 23 = .ok (.if_icmp .le 11, 3) := dk_164 0 11 (dk_at dksJ16_numberOfTrailingZeros_1 0 rfl rfl)
theorem dJ16_numberOfTrailingZeros_26 : decode cJ16_numberOfTrailingZeros 26 = .ok (.iinc 1 16, 3) := dk_132 1 16 (dk_at dksJ16_numberOfTrailingZeros_1 3 rfl rfl)
theorem dJ16_numberOfTrailingZeros_29 : decode cJ16_numberOfTrailingZeros 29 = .ok (.iload_n 0, 1) := dk_26 (dk_at dksJ16_numberOfTrailingZeros_1 6 rfl rfl)
theorem dJ16_numberOfTrailingZeros_30 : decode cJ16_numberOfTrailingZeros 30 = .ok (.bipush 16, 2) := dk_16 16 (dk_at dksJ16_numberOfTrailingZeros_1 7 rfl rfl)
theorem dJ16_numberOfTrailingZeros_32 : decode cJ16_numberOfTrailingZeros 32 = .ok (.iushr, 1) := dk_124 (dk_at dksJ16_numberOfTrailingZeros_1 9 rfl rfl)
theorem dJ16_numberOfTrailingZeros_33 : decode cJ16_numberOfTrailingZeros 33 = .ok (.istore_n 0, 1) := dk_59 (dk_at dksJ16_numberOfTrailingZeros_1 10 rfl rfl)
theorem dJ16_numberOfTrailingZeros_34 : decode cJ16_numberOfTrailingZeros 34 = .ok (.iload_n 0, 1) := dk_26 (dk_at dksJ16_numberOfTrailingZeros_1 11 rfl rfl)
theorem dJ16_numberOfTrailingZeros_35 : decode cJ16_numberOfTrailingZeros 35 = .ok (.sipush 256, 3) := dk_17 1 0 (dk_at dksJ16_numberOfTrailingZeros_1 12 rfl rfl)
theorem dJ16_numberOfTrailingZeros_38 : decode cJ16_numberOfTrailingZeros 38 = .ok (.if_icmp .le 11, 3) := dk_164 0 11 (dk_at dksJ16_numberOfTrailingZeros_1 15 rfl rfl)
theorem dJ16_numberOfTrailingZeros_41 : decode cJ16_numberOfTrailingZeros 41 = .ok (.iinc 1 8, 3) := dk_132 1 8 (dk_at dksJ16_numberOfTrailingZeros_1 18 rfl rfl)
theorem dJ16_numberOfTrailingZeros_44 : decode cJ16_numberOfTrailingZeros 44 = .ok (.iload_n 0, 1) := dk_26 (dk_at dksJ16_numberOfTrailingZeros_1 21 rfl rfl)
theorem dJ16_numberOfTrailingZeros_45 : decode cJ16_numberOfTrailingZeros 45 = .ok (.bipush 8, 2) := dk_16 8 (dk_at dksJ16_numberOfTrailingZeros_1 22 rfl rfl)
theorem dJ16_numberOfTrailingZeros_47 : decode cJ16_numberOfTrailingZeros 47 = .ok (.iushr, 1) := dk_124 (dk_at dksJ16_numberOfTrailingZeros_2 0 rfl rfl)
theorem dJ16_numberOfTrailingZeros_48 : decode cJ16_numberOfTrailingZeros 48 = .ok (.istore_n 0, 1) := dk_59 (dk_at dksJ16_numberOfTrailingZeros_2 1 rfl rfl)
theorem dJ16_numberOfTrailingZeros_49 : decode cJ16_numberOfTrailingZeros 49 = .ok (.iload_n 0, 1) := dk_26 (dk_at dksJ16_numberOfTrailingZeros_2 2 rfl rfl)
theorem dJ16_numberOfTrailingZeros_50 : decode cJ16_numberOfTrailingZeros 50 = .ok (.bipush 16, 2) := dk_16 16 (dk_at dksJ16_numberOfTrailingZeros_2 3 rfl rfl)
theorem dJ16_numberOfTrailingZeros_52 : decode cJ16_numberOfTrailingZeros 52 = .ok (.if_icmp .le 10, 3) := dk_164 0 10 (dk_at dksJ16_numberOfTrailingZeros_2 5 rfl rfl)
theorem dJ16_numberOfTrailingZeros_55 : decode cJ16_numberOfTrailingZeros 55 = .ok (.iinc 1 4, 3) := dk_132 1 4 (dk_at dksJ16_numberOfTrailingZeros_2 8 rfl rfl)
theorem dJ16_numberOfTrailingZeros_58 : decode cJ16_numberOfTrailingZeros 58 = .ok (.iload_n 0, 1) := dk_26 (dk_at dksJ16_numberOfTrailingZeros_2 11 rfl rfl)
theorem dJ16_numberOfTrailingZeros_59 : decode cJ16_numberOfTrailingZeros 59 = .ok (.iconst 4, 1) := dk_7 (dk_at dksJ16_numberOfTrailingZeros_2 12 rfl rfl)
theorem dJ16_numberOfTrailingZeros_60 : decode cJ16_numberOfTrailingZeros 60 = .ok (.iushr, 1) := dk_124 (dk_at dksJ16_numberOfTrailingZeros_2 13 rfl rfl)
theorem dJ16_numberOfTrailingZeros_61 : decode cJ16_numberOfTrailingZeros 61 = .ok (.istore_n 0, 1) := dk_59 (dk_at dksJ16_numberOfTrailingZeros_2 14 rfl rfl)
theorem dJ16_numberOfTrailingZeros_62 : decode cJ16_numberOfTrailingZeros 62 = .ok (.iload_n 0, 1) := dk_26 (dk_at dksJ16_numberOfTrailingZeros_2 15 rfl rfl)
theorem dJ16_numberOfTrailingZeros_63 : decode cJ16_numberOfTrailingZeros 63 = .ok (.iconst 4, 1) := dk_7 (dk_at dksJ16_numberOfTrailingZeros_2 16 rfl rfl)
theorem dJ16_numberOfTrailingZeros_64 : decode cJ16_numberOfTrailingZeros 64 = .ok (.if_icmp .le 10, 3) := dk_164 0 10 (dk_at dksJ16_numberOfTrailingZeros_2 17 rfl rfl)
theorem dJ16_numberOfTrailingZeros_67 : decode cJ16_numberOfTrailingZeros 67 = .ok (.iinc 1 2, 3) := dk_132 1 2 (dk_at dksJ16_numberOfTrailingZeros_2 20 rfl rfl)
theorem dJ16_numberOfTrailingZeros_70 : decode cJ16_numberOfTrailingZeros 70 = .ok (.iload_n 0, 1) := dk_26 (dk_at dksJ16_numberOfTrailingZeros_2 23 rfl rfl)
theorem dJ16_numberOfTrailingZeros_71 : decode cJ16_numberOfTrailingZeros 71 = .ok (.iconst 2, 1) := dk_5 (dk_at dksJ16_numberOfTrailingZeros_3 0 rfl rfl)
theorem dJ16_numberOfTrailingZeros_72 : decode cJ16_numberOfTrailingZeros 72 = .ok (.iushr, 1) := dk_124 (dk_at dksJ16_numberOfTrailingZeros_3 1 rfl rfl)
theorem dJ16_numberOfTrailingZeros_73 : decode cJ16_numberOfTrailingZeros 73 = .ok (.istore_n 0, 1) := dk_59 (dk_at dksJ16_numberOfTrailingZeros_3 2 rfl rfl)
theorem dJ16_numberOfTrailingZeros_74 : decode cJ16_numberOfTrailingZeros 74 = .ok (.iload_n 1, 1) := dk_27 (dk_at dksJ16_numberOfTrailingZeros_3 3 rfl rfl)
theorem dJ16_numberOfTrailingZeros_75 : decode cJ16_numberOfTrailingZeros 75 = .ok (.iload_n 0, 1) := dk_26 (dk_at dksJ16_numberOfTrailingZeros_3 4 rfl rfl)
theorem dJ16_numberOfTrailingZeros_76 : decode cJ16_numberOfTrailingZeros 76 = .ok (.iconst 1, 1) := dk_4 (dk_at dksJ16_numberOfTrailingZeros_3 5 rfl rfl)
theorem dJ16_numberOfTrailingZeros_77 : decode cJ16_numberOfTrailingZeros 77 = .ok (.iushr, 1) := dk_124 (dk_at dksJ16_numberOfTrailingZeros_3 6 rfl rfl)
theorem dJ16_numberOfTrailingZeros_78 : decode cJ16_numberOfTrailingZeros 78 = .ok (.iadd, 1) := dk_96 (dk_at dksJ16_numberOfTrailingZeros_3 7 rfl rfl)
theorem dJ16_numberOfTrailingZeros_79 : decode cJ16_numberOfTrailingZeros 79 = .ok (.ireturn, 1) := dk_172 (dk_at dksJ16_numberOfTrailingZeros_3 8 rfl rfl)
theorem q107 : (Jvm.Cond.initialized "java/lang/Integer") ∈ lw_all := lw_g (lw_at lw_m1 32 rfl) rfl
theorem q933 : (Jvm.Cond.static ({ cls := "java/lang/Integer", name := "bitCount", desc := "(I)I" } : Jvm.MethodName)) ∈ lw_all := lw_g (lw_at lw_m4 138 rfl) rfl
theorem q934 : (Jvm.Cond.code ({ cls := "java/lang/Integer", name := "bitCount", desc := "(I)I" } : Jvm.MethodName) prog_23_method_49_code (1 : Nat) (Option.some Jvm.ClassFile.FieldType.int)) ∈ lw_all := lw_g (lw_at lw_m4 139 rfl) rfl
theorem q935 : (Jvm.Cond.constant "java/lang/Integer" (265 : Nat) (1431655765 : Int32)) ∈ lw_all := lw_g (lw_at lw_m4 140 rfl) rfl
theorem q936 : (Jvm.Cond.constant "java/lang/Integer" (266 : Nat) (858993459 : Int32)) ∈ lw_all := lw_g (lw_at lw_m4 141 rfl) rfl
theorem q937 : (Jvm.Cond.constant "java/lang/Integer" (267 : Nat) (252645135 : Int32)) ∈ lw_all := lw_g (lw_at lw_m4 142 rfl) rfl
theorem q961 : (Jvm.Cond.static ({ cls := "java/lang/Integer", name := "numberOfTrailingZeros", desc := "(I)I" } : Jvm.MethodName)) ∈ lw_all := lw_g (lw_at lw_m4 166 rfl) rfl
theorem q962 : (Jvm.Cond.code ({ cls := "java/lang/Integer", name := "numberOfTrailingZeros", desc := "(I)I" } : Jvm.MethodName) prog_23_method_48_code (2 : Nat) (Option.some Jvm.ClassFile.FieldType.int)) ∈ lw_all := lw_g (lw_at lw_m4 167 rfl) rfl
theorem q963 : (Jvm.Cond.constant "java/lang/Integer" (264 : Nat) (65536 : Int32)) ∈ lw_all := lw_g (lw_at lw_m4 168 rfl) rfl
/-! java/lang/ClassCastException -/
set_option maxRecDepth 100000
def RJ17 : String := "java/lang/ClassCastException"
def TJ17 : u_T := fun k => match k with
  | 0 => ("java/lang/Throwable", "backtrace", "Ljava/lang/Object;", false)
  | 1 => ("java/lang/Throwable", "detailMessage", "Ljava/lang/String;", false)
  | 2 => ("java/lang/Throwable", "cause", "Ljava/lang/Throwable;", false)
  | 3 => ("java/lang/Throwable", "stackTrace", "[Ljava/lang/StackTraceElement;", false)
  | 4 => ("java/lang/Throwable", "depth", "I", false)
  | _ => ("java/lang/Throwable", "suppressedExceptions", "Ljava/util/List;", false)
def tyJ17 : Nat → FieldType := fun k => match k with
  | 0 => .object "java/lang/Object"
  | 1 => .object "java/lang/String"
  | 2 => .object "java/lang/Throwable"
  | 3 => .array (.object "java/lang/StackTraceElement")
  | 4 => .int
  | _ => .object "java/util/List"
abbrev wsJ170 : List Cond := u_ws RJ17 TJ17 6
theorem nmJ17 : ∀ a, a < 6 → ∀ b, b < 6 → a ≠ b → (TJ17 a).2.1 ≠ (TJ17 b).2.1 := by decide +kernel
theorem tyJ17_ok : ∀ k, k < 6 → parseFieldDescriptor (TJ17 k).2.2.1 = some (tyJ17 k) := by decide +kernel
abbrev cJ17_init : ByteArray := prog_19_method_2_code
def yJ17_init : MethodName := ⟨RJ17, "<init>", "(Ljava/lang/String;)V"⟩
def dkwJ17_init_0 : List UInt8 := [42, 43, 183, 0, 7, 177]
abbrev dktJ17_init_0 : List UInt8 := dkwJ17_init_0 ++ []
theorem dksJ17_init_0 : cJ17_init.data.toList.drop 0 = dktJ17_init_0 := by decide +kernel
theorem dJ17_init_0 : decode cJ17_init 0 = .ok (.aload_n 0, 1) := dk_42 (dk_at dksJ17_init_0 0 rfl rfl)
theorem dJ17_init_1 : decode cJ17_init 1 = .ok (.aload_n 1, 1) := dk_43 (dk_at dksJ17_init_0 1 rfl rfl)
theorem dJ17_init_2 : decode cJ17_init 2 = .ok (.invokespecial 7, 3) := dk_183 0 7 (dk_at dksJ17_init_0 2 rfl rfl)
theorem dJ17_init_5 : decode cJ17_init 5 = .ok (.return_, 1) := dk_177 (dk_at dksJ17_init_0 5 rfl rfl)
theorem q108 : (Jvm.Cond.initialized "java/lang/ClassCastException") ∈ lw_all := lw_g (lw_at lw_m1 33 rfl) rfl
theorem q325 : (Jvm.Cond.selects "java/lang/ClassCastException" ({ cls := "java/lang/Throwable", name := "fillInStackTrace", desc := "()Ljava/lang/Throwable;" } : Jvm.MethodName) ({ cls := "java/lang/Throwable", name := "fillInStackTrace", desc := "()Ljava/lang/Throwable;" } : Jvm.MethodName)) ∈ lw_all := lw_g (lw_at lw_m2 10 rfl) rfl
theorem q718 : (Jvm.Cond.selects "java/lang/ClassCastException" ({ cls := "java/lang/Object", name := "getClass", desc := "()Ljava/lang/Class;" } : Jvm.MethodName) ({ cls := "java/lang/Object", name := "getClass", desc := "()Ljava/lang/Class;" } : Jvm.MethodName)) ∈ lw_all := lw_g (lw_at lw_m3 163 rfl) rfl
theorem q1085 : (Jvm.Cond.instantiable "java/lang/ClassCastException" (6 : Nat)) ∈ lw_all := lw_g (lw_at lw_m5 50 rfl) rfl
theorem q1086 : (Jvm.Cond.instanceMethod ({ cls := "java/lang/ClassCastException", name := "<init>", desc := "(Ljava/lang/String;)V" } : Jvm.MethodName)) ∈ lw_all := lw_g (lw_at lw_m5 51 rfl) rfl
theorem q1087 : (Jvm.Cond.code ({ cls := "java/lang/ClassCastException", name := "<init>", desc := "(Ljava/lang/String;)V" } : Jvm.MethodName) prog_19_method_2_code (2 : Nat) (Option.none : Option Jvm.ClassFile.FieldType)) ∈ lw_all := lw_g (lw_at lw_m5 52 rfl) rfl
theorem q1088 : (Jvm.Cond.methodLink "java/lang/ClassCastException" (7 : Nat) ({ cls := "java/lang/RuntimeException", name := "<init>", desc := "(Ljava/lang/String;)V" } : Jvm.MethodName)) ∈ lw_all := lw_g (lw_at lw_m5 53 rfl) rfl
theorem q1089 : (Jvm.Cond.lays "java/lang/ClassCastException" "java/lang/Throwable" "backtrace" "Ljava/lang/Object;") ∈ lw_all := lw_g (lw_at lw_m5 54 rfl) rfl
theorem q1090 : (Jvm.Cond.lays "java/lang/ClassCastException" "java/lang/Throwable" "detailMessage" "Ljava/lang/String;") ∈ lw_all := lw_g (lw_at lw_m5 55 rfl) rfl
theorem q1091 : (Jvm.Cond.lays "java/lang/ClassCastException" "java/lang/Throwable" "cause" "Ljava/lang/Throwable;") ∈ lw_all := lw_g (lw_at lw_m5 56 rfl) rfl
theorem q1092 : (Jvm.Cond.lays "java/lang/ClassCastException" "java/lang/Throwable" "stackTrace" "[Ljava/lang/StackTraceElement;") ∈ lw_all := lw_g (lw_at lw_m5 57 rfl) rfl
theorem q1093 : (Jvm.Cond.lays "java/lang/ClassCastException" "java/lang/Throwable" "depth" "I") ∈ lw_all := lw_g (lw_at lw_m5 58 rfl) rfl
theorem q1094 : (Jvm.Cond.lays "java/lang/ClassCastException" "java/lang/Throwable" "suppressedExceptions" "Ljava/util/List;") ∈ lw_all := lw_g (lw_at lw_m5 59 rfl) rfl
theorem q1095 : (Jvm.Cond.superclass "java/lang/ClassCastException" "java/lang/RuntimeException") ∈ lw_all := lw_g (lw_at lw_m5 60 rfl) rfl
theorem q1096 : (Jvm.Cond.castable "java/lang/ClassCastException" "java/lang/ClassCastException") ∈ lw_tbl := lw_at lw_m5 61 rfl
theorem q1097 : (Jvm.Cond.selects "java/lang/ClassCastException" ({ cls := "java/lang/Throwable", name := "fillInStackTrace", desc := "(I)Ljava/lang/Throwable;" } : Jvm.MethodName) ({ cls := "java/lang/Throwable", name := "fillInStackTrace", desc := "(I)Ljava/lang/Throwable;" } : Jvm.MethodName)) ∈ lw_all := lw_g (lw_at lw_m5 62 rfl) rfl
theorem q1677 : (Jvm.Cond.castable "java/lang/ClassCastException" "java/lang/Object") ∈ lw_tbl := lw_at lw_m7 162 rfl
theorem in_J17 : ∀ w ∈ wsJ170, w ∈ lw_all := lw_in wsJ170 [1089, 1090, 1091, 1092, 1093, 1094] (by decide +kernel) (by decide +kernel)
/-! java/lang/Object -/
set_option maxRecDepth 100000
def RJ18 : String := "java/lang/Object"
abbrev cJ18_init : ByteArray := object_method_1_code
def yJ18_init : MethodName := ⟨RJ18, "<init>", "()V"⟩
theorem dJ18_init_0 : decode cJ18_init 0 = .ok (.return_, 1) := by decide +kernel
theorem q115 : (Jvm.Cond.instanceMethod ({ cls := "java/lang/Object", name := "<init>", desc := "()V" } : Jvm.MethodName)) ∈ lw_all := lw_g (lw_at lw_m1 40 rfl) rfl
theorem q116 : (Jvm.Cond.code ({ cls := "java/lang/Object", name := "<init>", desc := "()V" } : Jvm.MethodName) object_method_1_code (1 : Nat) (Option.none : Option Jvm.ClassFile.FieldType)) ∈ lw_all := lw_g (lw_at lw_m1 41 rfl) rfl
theorem q702 : (Jvm.Cond.instanceMethod ({ cls := "java/lang/Object", name := "getClass", desc := "()Ljava/lang/Class;" } : Jvm.MethodName)) ∈ lw_all := lw_g (lw_at lw_m3 147 rfl) rfl
theorem q703 : (Jvm.Cond.sameMethod "java/lang/Object" "java/lang/Object" "getClass" "()Ljava/lang/Class;") ∈ lw_all := lw_g (lw_at lw_m3 148 rfl) rfl
theorem q720 : (Jvm.Cond.native ({ cls := "java/lang/Object", name := "getClass", desc := "()Ljava/lang/Class;" } : Jvm.MethodName)) ∈ lw_all := lw_g (lw_at lw_m3 165 rfl) rfl
theorem q1682 : (Jvm.Cond.declares ({ cls := "java/lang/Object", name := "getClass", desc := "()Ljava/lang/Class;" } : Jvm.MethodName)) ∈ lw_tbl := lw_at lw_m7 167 rfl
/-! java/util/ArrayList -/
set_option maxRecDepth 100000
def RJ2 : String := "java/util/ArrayList"
def TJ2 : u_T := fun k => match k with
  | 0 => ("java/util/AbstractList", "modCount", "I", false)
  | 1 => ("java/util/ArrayList", "elementData", "[Ljava/lang/Object;", false)
  | _ => ("java/util/ArrayList", "size", "I", false)
def tyJ2 : Nat → FieldType := fun k => match k with
  | 0 => .int
  | 1 => .array (.object "java/lang/Object")
  | _ => .int
abbrev wsJ20 : List Cond := u_ws RJ2 TJ2 3
theorem nmJ2 : ∀ a, a < 3 → ∀ b, b < 3 → a ≠ b → (TJ2 a).2.1 ≠ (TJ2 b).2.1 := by decide +kernel
theorem tyJ2_ok : ∀ k, k < 3 → parseFieldDescriptor (TJ2 k).2.2.1 = some (tyJ2 k) := by decide +kernel
abbrev cJ2_init : ByteArray := prog_34_method_2_code
def yJ2_init : MethodName := ⟨RJ2, "<init>", "()V"⟩
def dkwJ2_init_0 : List UInt8 := [42, 183, 0, 1, 42, 178, 0, 39, 181, 0, 9, 177]
abbrev dktJ2_init_0 : List UInt8 := dkwJ2_init_0 ++ []
theorem dksJ2_init_0 : cJ2_init.data.toList.drop 0 = dktJ2_init_0 := by decide +kernel
theorem dJ2_init_0 : decode cJ2_init 0 = .ok (.aload_n 0, 1) := dk_42 (dk_at dksJ2_init_0 0 rfl rfl)
theorem dJ2_init_1 : decode cJ2_init 1 = .ok (.invokespecial 1, 3) := dk_183 0 1 (dk_at dksJ2_init_0 1 rfl rfl)
theorem dJ2_init_4 : decode cJ2_init 4 = .ok (.aload_n 0, 1) := dk_42 (dk_at dksJ2_init_0 4 rfl rfl)
theorem dJ2_init_5 : decode cJ2_init 5 = .ok (.getstatic 39, 3) := dk_178 0 39 (dk_at dksJ2_init_0 5 rfl rfl)
theorem dJ2_init_8 : decode cJ2_init 8 = .ok (.putfield 9, 3) := dk_181 0 9 (dk_at dksJ2_init_0 8 rfl rfl)
theorem dJ2_init_11 : decode cJ2_init 11 = .ok (.return_, 1) := dk_177 (dk_at dksJ2_init_0 11 rfl rfl)
abbrev cJ2_size : ByteArray := prog_34_method_8_code
def yJ2_size : MethodName := ⟨RJ2, "size", "()I"⟩
theorem dJ2_size_0 : decode cJ2_size 0 = .ok (.aload_n 0, 1) := by decide +kernel
theorem dJ2_size_1 : decode cJ2_size 1 = .ok (.getfield 48, 3) := by decide +kernel
theorem dJ2_size_4 : decode cJ2_size 4 = .ok (.ireturn, 1) := by decide +kernel
abbrev cJ2_add : ByteArray := prog_34_method_25_code
def yJ2_add : MethodName := ⟨RJ2, "add", "(Ljava/lang/Object;)Z"⟩
def dkwJ2_add_1 : List UInt8 := [172]
abbrev dktJ2_add_1 : List UInt8 := dkwJ2_add_1 ++ []
def dkwJ2_add_0 : List UInt8 := [42, 89, 180, 0, 63, 4, 96, 181, 0, 63, 42, 43, 42, 180, 0, 9, 42, 180, 0, 48, 182, 0, 131, 4]
abbrev dktJ2_add_0 : List UInt8 := dkwJ2_add_0 ++ dktJ2_add_1
theorem dksJ2_add_0 : cJ2_add.data.toList.drop 0 = dktJ2_add_0 := by decide +kernel
theorem dksJ2_add_1 : cJ2_add.data.toList.drop 24 = dktJ2_add_1 := dk_seg dksJ2_add_0 24 rfl rfl
theorem dJ2_add_0 : decode cJ2_add 0 = .ok (.aload_n 0, 1) := dk_42 (dk_at dksJ2_add_0 0 rfl rfl)
theorem dJ2_add_1 : decode cJ2_add 1 = .ok (.dup, 1) := dk_89 (dk_at dksJ2_add_0 1 rfl rfl)
theorem dJ2_add_2 : decode cJ2_add 2 = .ok (.getfield 63, 3) := dk_180 0 63 (dk_at dksJ2_add_0 2 rfl rfl)
theorem dJ2_add_5 : decode cJ2_add 5 = .ok (.iconst 1, 1) := dk_4 (dk_at dksJ2_add_0 5 rfl rfl)
theorem dJ2_add_6 : decode cJ2_add 6 = .ok (.iadd, 1) := dk_96 (dk_at dksJ2_add_0 6 rfl rfl)
theorem dJ2_add_7 : decode cJ2_add 7 = .ok (.putfield 63, 3) := dk_181 0 63 (dk_at dksJ2_add_0 7 rfl rfl)
theorem dJ2_add_10 : decode cJ2_add 10 = .ok (.aload_n 0, 1) := dk_42 (dk_at dksJ2_add_0 10 rfl rfl)
theorem dJ2_add_11 : decode cJ2_add 11 = .ok (.aload_n 1, 1) := dk_43 (dk_at dksJ2_add_0 11 rfl rfl)
theorem dJ2_add_12 : decode cJ2_add 12 = .ok (.aload_n 0, 1) := dk_42 (dk_at dksJ2_add_0 12 rfl rfl)
theorem dJ2_add_13 : decode cJ2_add 13 = .ok (.getfield 9, 3) := dk_180 0 9 (dk_at dksJ2_add_0 13 rfl rfl)
theorem dJ2_add_16 : decode cJ2_add 16 = .ok (.aload_n 0, 1) := dk_42 (dk_at dksJ2_add_0 16 rfl rfl)
theorem dJ2_add_17 : decode cJ2_add 17 = .ok (.getfield 48, 3) := dk_180 0 48 (dk_at dksJ2_add_0 17 rfl rfl)
theorem dJ2_add_20 : decode cJ2_add 20 = .ok (.invokevirtual 131, 3) := dk_182 0 131 (dk_at dksJ2_add_0 20 rfl rfl)
theorem dJ2_add_23 : decode cJ2_add 23 = .ok (.iconst 1, 1) := dk_4 (dk_at dksJ2_add_0 23 rfl rfl)
theorem dJ2_add_24 : decode cJ2_add 24 = .ok (.ireturn, 1) := dk_172 (dk_at dksJ2_add_1 0 rfl rfl)
abbrev cJ2_add_2 : ByteArray := prog_34_method_24_code
def yJ2_add_2 : MethodName := ⟨RJ2, "add", "(Ljava/lang/Object;[Ljava/lang/Object;I)V"⟩
def dkwJ2_add_2_0 : List UInt8 := [29, 44, 190, 160, 0, 8, 42, 182, 0, 129, 77, 44, 29, 43, 83, 42, 29, 4, 96, 181, 0, 48, 177]
abbrev dktJ2_add_2_0 : List UInt8 := dkwJ2_add_2_0 ++ []
theorem dksJ2_add_2_0 : cJ2_add_2.data.toList.drop 0 = dktJ2_add_2_0 := by decide +kernel
theorem dJ2_add_2_0 : decode cJ2_add_2 0 = .ok (.iload_n 3, 1) := dk_29 (dk_at dksJ2_add_2_0 0 rfl rfl)
theorem dJ2_add_2_1 : decode cJ2_add_2 1 = .ok (.aload_n 2, 1) := dk_44 (dk_at dksJ2_add_2_0 1 rfl rfl)
theorem dJ2_add_2_2 : decode cJ2_add_2 2 = .ok (.arraylength, 1) := dk_190 (dk_at dksJ2_add_2_0 2 rfl rfl)
theorem dJ2_add_2_3 : decode cJ2_add_2 3 = .ok (.if_icmp .ne 8, 3) := dk_160 0 8 (dk_at dksJ2_add_2_0 3 rfl rfl)
theorem dJ2_add_2_6 : decode cJ2_add_2 6 = .ok (.aload_n 0, 1) := dk_42 (dk_at dksJ2_add_2_0 6 rfl rfl)
theorem dJ2_add_2_7 : decode cJ2_add_2 7 = .ok (.invokevirtual 129, 3) := dk_182 0 129 (dk_at dksJ2_add_2_0 7 rfl rfl)
theorem dJ2_add_2_10 : decode cJ2_add_2 10 = .ok (.astore_n 2, 1) := dk_77 (dk_at dksJ2_add_2_0 10 rfl rfl)
theorem dJ2_add_2_11 : decode cJ2_add_2 11 = .ok (.aload_n 2, 1) := dk_44 (dk_at dksJ2_add_2_0 11 rfl rfl)
theorem dJ2_add_2_12 : decode cJ2_add_2 12 = .ok (.iload_n 3, 1) := dk_29 (dk_at dksJ2_add_2_0 12 rfl rfl)
theorem dJ2_add_2_13 : decode cJ2_add_2 13 = .ok (.aload_n 1, 1) := dk_43 (dk_at dksJ2_add_2_0 13 rfl rfl)
theorem dJ2_add_2_14 : decode cJ2_add_2 14 = .ok (.aastore, 1) := dk_83 (dk_at dksJ2_add_2_0 14 rfl rfl)
theorem dJ2_add_2_15 : decode cJ2_add_2 15 = .ok (.aload_n 0, 1) := dk_42 (dk_at dksJ2_add_2_0 15 rfl rfl)
theorem dJ2_add_2_16 : decode cJ2_add_2 16 = .ok (.iload_n 3, 1) := dk_29 (dk_at dksJ2_add_2_0 16 rfl rfl)
theorem dJ2_add_2_17 : decode cJ2_add_2 17 = .ok (.iconst 1, 1) := dk_4 (dk_at dksJ2_add_2_0 17 rfl rfl)
theorem dJ2_add_2_18 : decode cJ2_add_2 18 = .ok (.iadd, 1) := dk_96 (dk_at dksJ2_add_2_0 18 rfl rfl)
theorem dJ2_add_2_19 : decode cJ2_add_2 19 = .ok (.putfield 48, 3) := dk_181 0 48 (dk_at dksJ2_add_2_0 19 rfl rfl)
theorem dJ2_add_2_22 : decode cJ2_add_2 22 = .ok (.return_, 1) := dk_177 (dk_at dksJ2_add_2_0 22 rfl rfl)
abbrev cJ2_grow : ByteArray := prog_34_method_7_code
def yJ2_grow : MethodName := ⟨RJ2, "grow", "()[Ljava/lang/Object;"⟩
def dkwJ2_grow_0 : List UInt8 := [42, 42, 180, 0, 48, 4, 96, 182, 0, 69, 176]
abbrev dktJ2_grow_0 : List UInt8 := dkwJ2_grow_0 ++ []
theorem dksJ2_grow_0 : cJ2_grow.data.toList.drop 0 = dktJ2_grow_0 := by decide +kernel
theorem dJ2_grow_0 : decode cJ2_grow 0 = .ok (.aload_n 0, 1) := dk_42 (dk_at dksJ2_grow_0 0 rfl rfl)
theorem dJ2_grow_1 : decode cJ2_grow 1 = .ok (.aload_n 0, 1) := dk_42 (dk_at dksJ2_grow_0 1 rfl rfl)
theorem dJ2_grow_2 : decode cJ2_grow 2 = .ok (.getfield 48, 3) := dk_180 0 48 (dk_at dksJ2_grow_0 2 rfl rfl)
theorem dJ2_grow_5 : decode cJ2_grow 5 = .ok (.iconst 1, 1) := dk_4 (dk_at dksJ2_grow_0 5 rfl rfl)
theorem dJ2_grow_6 : decode cJ2_grow 6 = .ok (.iadd, 1) := dk_96 (dk_at dksJ2_grow_0 6 rfl rfl)
theorem dJ2_grow_7 : decode cJ2_grow 7 = .ok (.invokevirtual 69, 3) := dk_182 0 69 (dk_at dksJ2_grow_0 7 rfl rfl)
theorem dJ2_grow_10 : decode cJ2_grow 10 = .ok (.areturn, 1) := dk_176 (dk_at dksJ2_grow_0 10 rfl rfl)
abbrev cJ2_grow_2 : ByteArray := prog_34_method_6_code
def yJ2_grow_2 : MethodName := ⟨RJ2, "grow", "(I)[Ljava/lang/Object;"⟩
def dkwJ2_grow_2_2 : List UInt8 := [27, 184, 0, 79, 189, 0, 7, 90, 181, 0, 9, 176]
abbrev dktJ2_grow_2_2 : List UInt8 := dkwJ2_grow_2_2 ++ []
def dkwJ2_grow_2_1 : List UInt8 := [28, 4, 122, 184, 0, 73, 62, 42, 42, 180, 0, 9, 29, 184, 0, 66, 90, 181, 0, 9, 176, 42, 16, 10]
abbrev dktJ2_grow_2_1 : List UInt8 := dkwJ2_grow_2_1 ++ dktJ2_grow_2_2
def dkwJ2_grow_2_0 : List UInt8 := [42, 180, 0, 9, 190, 61, 28, 157, 0, 13, 42, 180, 0, 9, 178, 0, 39, 165, 0, 28, 28, 27, 28, 100]
abbrev dktJ2_grow_2_0 : List UInt8 := dkwJ2_grow_2_0 ++ dktJ2_grow_2_1
theorem dksJ2_grow_2_0 : cJ2_grow_2.data.toList.drop 0 = dktJ2_grow_2_0 := by decide +kernel
theorem dksJ2_grow_2_1 : cJ2_grow_2.data.toList.drop 24 = dktJ2_grow_2_1 := dk_seg dksJ2_grow_2_0 24 rfl rfl
theorem dksJ2_grow_2_2 : cJ2_grow_2.data.toList.drop 48 = dktJ2_grow_2_2 := dk_seg dksJ2_grow_2_1 24 rfl rfl
theorem dJ2_grow_2_0 : decode cJ2_grow_2 0 = .ok (.aload_n 0, 1) := dk_42 (dk_at dksJ2_grow_2_0 0 rfl rfl)
theorem dJ2_grow_2_1 : decode cJ2_grow_2 1 = .ok (.getfield 9, 3) := dk_180 0 9 (dk_at dksJ2_grow_2_0 1 rfl rfl)
theorem dJ2_grow_2_4 : decode cJ2_grow_2 4 = .ok (.arraylength, 1) := dk_190 (dk_at dksJ2_grow_2_0 4 rfl rfl)
theorem dJ2_grow_2_5 : decode cJ2_grow_2 5 = .ok (.istore_n 2, 1) := dk_61 (dk_at dksJ2_grow_2_0 5 rfl rfl)
theorem dJ2_grow_2_6 : decode cJ2_grow_2 6 = .ok (.iload_n 2, 1) := dk_28 (dk_at dksJ2_grow_2_0 6 rfl rfl)
theorem dJ2_grow_2_7 : decode cJ2_grow_2 7 = .ok (.ifCond .gt 13, 3) := dk_157 0 13 (dk_at dksJ2_grow_2_0 7 rfl rfl)
theorem dJ2_grow_2_10 : decode cJ2_grow_2 10 = .ok (.aload_n 0, 1) := dk_42 (dk_at dksJ2_grow_2_0 10 rfl rfl)
theorem dJ2_grow_2_11 : decode cJ2_grow_2 11 = .ok (.getfield 9, 3) := dk_180 0 9 (dk_at dksJ2_grow_2_0 11 rfl rfl)
theorem dJ2_grow_2_14 : decode cJ2_grow_2 14 = .ok (.getstatic 39, 3) := dk_178 0 39 (dk_at dksJ2_grow_2_0 14 rfl rfl)
theorem dJ2_grow_2_17 : decode cJ2_grow_2 17 = .ok (.if_acmp .eq 28, 3) := dk_165 0 28 (dk_at dksJ2_grow_2_0 17 rfl rfl)
theorem dJ2_grow_2_20 : decode cJ2_grow_2 20 = .ok (.iload_n 2, 1) := dk_28 (dk_at dksJ2_grow_2_0 20 rfl rfl)
theorem dJ2_grow_2_21 : decode cJ2_grow_2 21 = .ok (.iload_n 1, 1) := dk_27 (dk_at dksJ2_grow_2_0 21 rfl rfl)
theorem dJ2_grow_2_22 : decode cJ2_grow_2 22 = .ok (.iload_n 2, 1) := dk_28 (dk_at dksJ2_grow_2_0 22 rfl rfl)
theorem dJ2_grow_2_23 : decode cJ2_grow_2 23 = .ok (.isub, 1) := dk_100 (dk_at dksJ2_grow_2_0 23 rfl rfl)
theorem dJ2_grow_2_24 : decode cJ2_grow_2 24 = .ok (.iload_n 2, 1) := dk_28 (dk_at dksJ2_grow_2_1 0 rfl rfl)
theorem dJ2_grow_2_25 : decode cJ2_grow_2 25 = .ok (.iconst 1, 1) := dk_4 (dk_at dksJ2_grow_2_1 1 rfl rfl)
theorem dJ2_grow_2_26 : decode cJ2_grow_2 26 = .ok (.ishr, 1) := dk_122 (dk_at dksJ2_grow_2_1 2 rfl rfl)
theorem dJ2_grow_2_27 : decode cJ2_grow_2 27 = .ok (.invokestatic 73, 3) := dk_184 0 73 (dk_at dksJ2_grow_2_1 3 rfl rfl)
theorem dJ2_grow_2_30 : decode cJ2_grow_2 30 = .ok (.istore_n 3, 1) := dk_62 (dk_at dksJ2_grow_2_1 6 rfl rfl)
theorem dJ2_grow_2_31 : decode cJ2_grow_2 31 = .ok (.aload_n 0, 1) := dk_42 (dk_at dksJ2_grow_2_1 7 rfl rfl)
theorem dJ2_grow_2_32 : decode cJ2_grow_2 32 = .ok (.aload_n 0, 1) := dk_42 (dk_at dksJ2_grow_2_1 8 rfl rfl)
theorem dJ2_grow_2_33 : decode cJ2_grow_2 33 = .ok (.getfield 9, 3) := dk_180 0 9 (dk_at dksJ2_grow_2_1 9 rfl rfl)
theorem dJ2_grow_2_36 : decode cJ2_grow_2 36 = .ok (.iload_n 3, 1) := dk_29 (dk_at dksJ2_grow_2_1 12 rfl rfl)
theorem dJ2_grow_2_37 : decode cJ2_grow_2 37 = .ok (.invokestatic 66, 3) := dk_184 0 66 (dk_at dksJ2_grow_2_1 13 rfl rfl)
theorem dJ2_grow_2_40 : decode cJ2_grow_2 40 = .ok (.dup_x1, 1) := dk_90 (dk_at dksJ2_grow_2_1 16 rfl rfl)
theorem dJ2_grow_2_41 : decode cJ2_grow_2 41 = .ok (.putfield 9, 3) := dk_181 0 9 (dk_at dksJ2_grow_2_1 17 rfl rfl)
theorem dJ2_grow_2_44 : decode cJ2_grow_2 44 = .ok (.areturn, 1) := dk_176 (dk_at dksJ2_grow_2_1 20 rfl rfl)
theorem dJ2_grow_2_45 : decode cJ2_grow_2 45 = .ok (.aload_n 0, 1) := dk_42 (dk_at dksJ2_grow_2_1 21 rfl rfl)
theorem dJ2_grow_2_46 : decode cJ2_grow_2 46 = .ok (.bipush 10, 2) := dk_16 10 (dk_at dksJ2_grow_2_1 22 rfl rfl)
theorem dJ2_grow_2_48 : decode cJ2_grow_2 48 = .ok (.iload_n 1, 1) := dk_27 (dk_at dksJ2_grow_2_2 0 rfl rfl)
theorem dJ2_grow_2_49 : decode cJ2_grow_2 49 = .ok (.invokestatic 79, 3) := dk_184 0 79 (dk_at dksJ2_grow_2_2 1 rfl rfl)
theorem dJ2_grow_2_52 : decode cJ2_grow_2 52 = .ok (.anewarray 7, 3) := dk_189 0 7 (dk_at dksJ2_grow_2_2 4 rfl rfl)
theorem dJ2_grow_2_55 : decode cJ2_grow_2 55 = .ok (.dup_x1, 1) := dk_90 (dk_at dksJ2_grow_2_2 7 rfl rfl)
theorem dJ2_grow_2_56 : decode cJ2_grow_2 56 = .ok (.putfield 9, 3) := dk_181 0 9 (dk_at dksJ2_grow_2_2 8 rfl rfl)
theorem dJ2_grow_2_59 : decode cJ2_grow_2 59 = .ok (.areturn, 1) := dk_176 (dk_at dksJ2_grow_2_2 11 rfl rfl)
abbrev cJ2_get : ByteArray := prog_34_method_20_code
def yJ2_get : MethodName := ⟨RJ2, "get", "(I)Ljava/lang/Object;"⟩
def dkwJ2_get_0 : List UInt8 := [27, 42, 180, 0, 48, 184, 0, 118, 87, 42, 27, 182, 0, 123, 176]
abbrev dktJ2_get_0 : List UInt8 := dkwJ2_get_0 ++ []
theorem dksJ2_get_0 : cJ2_get.data.toList.drop 0 = dktJ2_get_0 := by decide +kernel
theorem dJ2_get_0 : decode cJ2_get 0 = .ok (.iload_n 1, 1) := dk_27 (dk_at dksJ2_get_0 0 rfl rfl)
theorem dJ2_get_1 : decode cJ2_get 1 = .ok (.aload_n 0, 1) := dk_42 (dk_at dksJ2_get_0 1 rfl rfl)
theorem dJ2_get_2 : decode cJ2_get 2 = .ok (.getfield 48, 3) := dk_180 0 48 (dk_at dksJ2_get_0 2 rfl rfl)
theorem dJ2_get_5 : decode cJ2_get 5 = .ok (.invokestatic 118, 3) := dk_184 0 118 (dk_at dksJ2_get_0 5 rfl rfl)
theorem dJ2_get_8 : decode cJ2_get 8 = .ok (.pop, 1) := dk_87 (dk_at dksJ2_get_0 8 rfl rfl)
theorem dJ2_get_9 : decode cJ2_get 9 = .ok (.aload_n 0, 1) := dk_42 (dk_at dksJ2_get_0 9 rfl rfl)
theorem dJ2_get_10 : decode cJ2_get 10 = .ok (.iload_n 1, 1) := dk_27 (dk_at dksJ2_get_0 10 rfl rfl)
theorem dJ2_get_11 : decode cJ2_get 11 = .ok (.invokevirtual 123, 3) := dk_182 0 123 (dk_at dksJ2_get_0 11 rfl rfl)
theorem dJ2_get_14 : decode cJ2_get 14 = .ok (.areturn, 1) := dk_176 (dk_at dksJ2_get_0 14 rfl rfl)
abbrev cJ2_elementData : ByteArray := prog_34_method_18_code
def yJ2_elementData : MethodName := ⟨RJ2, "elementData", "(I)Ljava/lang/Object;"⟩
def dkwJ2_elementData_0 : List UInt8 := [42, 180, 0, 9, 27, 50, 176]
abbrev dktJ2_elementData_0 : List UInt8 := dkwJ2_elementData_0 ++ []
theorem dksJ2_elementData_0 : cJ2_elementData.data.toList.drop 0 = dktJ2_elementData_0 := by decide +kernel
theorem dJ2_elementData_0 : decode cJ2_elementData 0 = .ok (.aload_n 0, 1) := dk_42 (dk_at dksJ2_elementData_0 0 rfl rfl)
theorem dJ2_elementData_1 : decode cJ2_elementData 1 = .ok (.getfield 9, 3) := dk_180 0 9 (dk_at dksJ2_elementData_0 1 rfl rfl)
theorem dJ2_elementData_4 : decode cJ2_elementData 4 = .ok (.iload_n 1, 1) := dk_27 (dk_at dksJ2_elementData_0 4 rfl rfl)
theorem dJ2_elementData_5 : decode cJ2_elementData 5 = .ok (.aaload, 1) := dk_50 (dk_at dksJ2_elementData_0 5 rfl rfl)
theorem dJ2_elementData_6 : decode cJ2_elementData 6 = .ok (.areturn, 1) := dk_176 (dk_at dksJ2_elementData_0 6 rfl rfl)
theorem q80 : (Jvm.Cond.initialized "java/util/ArrayList") ∈ lw_all := lw_g (lw_at lw_m1 5 rfl) rfl
theorem q126 : (Jvm.Cond.instantiable "java/util/ArrayList" (3 : Nat)) ∈ lw_all := lw_g (lw_at lw_m1 51 rfl) rfl
theorem q128 : (Jvm.Cond.instanceMethod ({ cls := "java/util/ArrayList", name := "<init>", desc := "()V" } : Jvm.MethodName)) ∈ lw_all := lw_g (lw_at lw_m1 53 rfl) rfl
theorem q129 : (Jvm.Cond.code ({ cls := "java/util/ArrayList", name := "<init>", desc := "()V" } : Jvm.MethodName) prog_34_method_2_code (1 : Nat) (Option.none : Option Jvm.ClassFile.FieldType)) ∈ lw_all := lw_g (lw_at lw_m1 54 rfl) rfl
theorem q130 : (Jvm.Cond.methodLink "java/util/ArrayList" (1 : Nat) ({ cls := "java/util/AbstractList", name := "<init>", desc := "()V" } : Jvm.MethodName)) ∈ lw_all := lw_g (lw_at lw_m1 55 rfl) rfl
theorem q137 : (Jvm.Cond.fieldLink "java/util/ArrayList" (39 : Nat) "java/util/ArrayList" "DEFAULTCAPACITY_EMPTY_ELEMENTDATA" "[Ljava/lang/Object;") ∈ lw_all := lw_g (lw_at lw_m1 62 rfl) rfl
theorem q138 : (Jvm.Cond.laysStatic "java/util/ArrayList" "DEFAULTCAPACITY_EMPTY_ELEMENTDATA" "[Ljava/lang/Object;") ∈ lw_tbl := lw_at lw_m1 63 rfl
theorem q139 : (Jvm.Cond.fieldLink "java/util/ArrayList" (9 : Nat) "java/util/ArrayList" "elementData" "[Ljava/lang/Object;") ∈ lw_all := lw_g (lw_at lw_m1 64 rfl) rfl
theorem q140 : (Jvm.Cond.fieldLink "java/util/ArrayList" (48 : Nat) "java/util/ArrayList" "size" "I") ∈ lw_all := lw_g (lw_at lw_m1 65 rfl) rfl
theorem q142 : (Jvm.Cond.fieldLink "java/util/ArrayList" (63 : Nat) "java/util/ArrayList" "modCount" "I") ∈ lw_all := lw_g (lw_at lw_m1 67 rfl) rfl
theorem q143 : (Jvm.Cond.sameField "java/util/ArrayList" "java/util/AbstractList" "modCount" "I") ∈ lw_all := lw_g (lw_at lw_m1 68 rfl) rfl
theorem q144 : (Jvm.Cond.lays "java/util/ArrayList" "java/util/ArrayList" "elementData" "[Ljava/lang/Object;") ∈ lw_all := lw_g (lw_at lw_m1 69 rfl) rfl
theorem q145 : (Jvm.Cond.soleField "java/util/ArrayList" "elementData") ∈ lw_all := lw_g (lw_at lw_m1 70 rfl) rfl
theorem q146 : (Jvm.Cond.lays "java/util/ArrayList" "java/util/ArrayList" "size" "I") ∈ lw_all := lw_g (lw_at lw_m1 71 rfl) rfl
theorem q147 : (Jvm.Cond.soleField "java/util/ArrayList" "size") ∈ lw_all := lw_g (lw_at lw_m1 72 rfl) rfl
theorem q148 : (Jvm.Cond.lays "java/util/ArrayList" "java/util/AbstractList" "modCount" "I") ∈ lw_all := lw_g (lw_at lw_m1 73 rfl) rfl
theorem q150 : (Jvm.Cond.superclass "java/util/ArrayList" "java/util/AbstractList") ∈ lw_all := lw_g (lw_at lw_m1 75 rfl) rfl
theorem q609 : (Jvm.Cond.castable "java/util/ArrayList" "java/util/List") ∈ lw_tbl := lw_at lw_m3 54 rfl
theorem q610 : (Jvm.Cond.selects "java/util/ArrayList" ({ cls := "java/util/List", name := "size", desc := "()I" } : Jvm.MethodName) ({ cls := "java/util/ArrayList", name := "size", desc := "()I" } : Jvm.MethodName)) ∈ lw_all := lw_g (lw_at lw_m3 55 rfl) rfl
theorem q611 : (Jvm.Cond.unhidden "java/util/ArrayList" "size" "()I") ∈ lw_tbl := lw_at lw_m3 56 rfl
theorem q612 : (Jvm.Cond.instanceMethod ({ cls := "java/util/ArrayList", name := "size", desc := "()I" } : Jvm.MethodName)) ∈ lw_all := lw_g (lw_at lw_m3 57 rfl) rfl
theorem q613 : (Jvm.Cond.publicMethod ({ cls := "java/util/ArrayList", name := "size", desc := "()I" } : Jvm.MethodName)) ∈ lw_tbl := lw_at lw_m3 58 rfl
theorem q614 : (Jvm.Cond.code ({ cls := "java/util/ArrayList", name := "size", desc := "()I" } : Jvm.MethodName) prog_34_method_8_code (1 : Nat) (Option.some Jvm.ClassFile.FieldType.int)) ∈ lw_all := lw_g (lw_at lw_m3 59 rfl) rfl
theorem q671 : (Jvm.Cond.selects "java/util/ArrayList" ({ cls := "java/util/List", name := "add", desc := "(Ljava/lang/Object;)Z" } : Jvm.MethodName) ({ cls := "java/util/ArrayList", name := "add", desc := "(Ljava/lang/Object;)Z" } : Jvm.MethodName)) ∈ lw_all := lw_g (lw_at lw_m3 116 rfl) rfl
theorem q672 : (Jvm.Cond.unhidden "java/util/ArrayList" "add" "(Ljava/lang/Object;)Z") ∈ lw_tbl := lw_at lw_m3 117 rfl
theorem q673 : (Jvm.Cond.instanceMethod ({ cls := "java/util/ArrayList", name := "add", desc := "(Ljava/lang/Object;)Z" } : Jvm.MethodName)) ∈ lw_all := lw_g (lw_at lw_m3 118 rfl) rfl
theorem q674 : (Jvm.Cond.publicMethod ({ cls := "java/util/ArrayList", name := "add", desc := "(Ljava/lang/Object;)Z" } : Jvm.MethodName)) ∈ lw_tbl := lw_at lw_m3 119 rfl
theorem q675 : (Jvm.Cond.code ({ cls := "java/util/ArrayList", name := "add", desc := "(Ljava/lang/Object;)Z" } : Jvm.MethodName) prog_34_method_25_code (2 : Nat) (Option.some Jvm.ClassFile.FieldType.boolean)) ∈ lw_all := lw_g (lw_at lw_m3 120 rfl) rfl
theorem q676 : (Jvm.Cond.methodLink "java/util/ArrayList" (131 : Nat) ({ cls := "java/util/ArrayList", name := "add", desc := "(Ljava/lang/Object;[Ljava/lang/Object;I)V" } : Jvm.MethodName)) ∈ lw_all := lw_g (lw_at lw_m3 121 rfl) rfl
theorem q677 : (Jvm.Cond.privateMethod ({ cls := "java/util/ArrayList", name := "add", desc := "(Ljava/lang/Object;[Ljava/lang/Object;I)V" } : Jvm.MethodName)) ∈ lw_tbl := lw_at lw_m3 122 rfl
theorem q678 : (Jvm.Cond.instanceMethod ({ cls := "java/util/ArrayList", name := "add", desc := "(Ljava/lang/Object;[Ljava/lang/Object;I)V" } : Jvm.MethodName)) ∈ lw_all := lw_g (lw_at lw_m3 123 rfl) rfl
theorem q679 : (Jvm.Cond.code ({ cls := "java/util/ArrayList", name := "add", desc := "(Ljava/lang/Object;[Ljava/lang/Object;I)V" } : Jvm.MethodName) prog_34_method_24_code (4 : Nat) (Option.none : Option Jvm.ClassFile.FieldType)) ∈ lw_all := lw_g (lw_at lw_m3 124 rfl) rfl
theorem q680 : (Jvm.Cond.methodLink "java/util/ArrayList" (129 : Nat) ({ cls := "java/util/ArrayList", name := "grow", desc := "()[Ljava/lang/Object;" } : Jvm.MethodName)) ∈ lw_all := lw_g (lw_at lw_m3 125 rfl) rfl
theorem q681 : (Jvm.Cond.privateMethod ({ cls := "java/util/ArrayList", name := "grow", desc := "()[Ljava/lang/Object;" } : Jvm.MethodName)) ∈ lw_tbl := lw_at lw_m3 126 rfl
theorem q682 : (Jvm.Cond.instanceMethod ({ cls := "java/util/ArrayList", name := "grow", desc := "()[Ljava/lang/Object;" } : Jvm.MethodName)) ∈ lw_all := lw_g (lw_at lw_m3 127 rfl) rfl
theorem q683 : (Jvm.Cond.code ({ cls := "java/util/ArrayList", name := "grow", desc := "()[Ljava/lang/Object;" } : Jvm.MethodName) prog_34_method_7_code (1 : Nat) (Option.some (Jvm.ClassFile.FieldType.array (Jvm.ClassFile.FieldType.object "java/lang/Object")))) ∈ lw_all := lw_g (lw_at lw_m3 128 rfl) rfl
theorem q684 : (Jvm.Cond.methodLink "java/util/ArrayList" (69 : Nat) ({ cls := "java/util/ArrayList", name := "grow", desc := "(I)[Ljava/lang/Object;" } : Jvm.MethodName)) ∈ lw_all := lw_g (lw_at lw_m3 129 rfl) rfl
theorem q685 : (Jvm.Cond.privateMethod ({ cls := "java/util/ArrayList", name := "grow", desc := "(I)[Ljava/lang/Object;" } : Jvm.MethodName)) ∈ lw_tbl := lw_at lw_m3 130 rfl
theorem q686 : (Jvm.Cond.instanceMethod ({ cls := "java/util/ArrayList", name := "grow", desc := "(I)[Ljava/lang/Object;" } : Jvm.MethodName)) ∈ lw_all := lw_g (lw_at lw_m3 131 rfl) rfl
theorem q687 : (Jvm.Cond.code ({ cls := "java/util/ArrayList", name := "grow", desc := "(I)[Ljava/lang/Object;" } : Jvm.MethodName) prog_34_method_6_code (4 : Nat) (Option.some (Jvm.ClassFile.FieldType.array (Jvm.ClassFile.FieldType.object "java/lang/Object")))) ∈ lw_all := lw_g (lw_at lw_m3 132 rfl) rfl
theorem q688 : (Jvm.Cond.methodLink "java/util/ArrayList" (73 : Nat) ({ cls := "jdk/internal/util/ArraysSupport", name := "newLength", desc := "(III)I" } : Jvm.MethodName)) ∈ lw_all := lw_g (lw_at lw_m3 133 rfl) rfl
theorem q698 : (Jvm.Cond.methodLink "java/util/ArrayList" (66 : Nat) ({ cls := "java/util/Arrays", name := "copyOf", desc := "([Ljava/lang/Object;I)[Ljava/lang/Object;" } : Jvm.MethodName)) ∈ lw_all := lw_g (lw_at lw_m3 143 rfl) rfl
theorem q719 : (Jvm.Cond.selects "java/util/ArrayList" ({ cls := "java/lang/Object", name := "getClass", desc := "()Ljava/lang/Class;" } : Jvm.MethodName) ({ cls := "java/lang/Object", name := "getClass", desc := "()Ljava/lang/Class;" } : Jvm.MethodName)) ∈ lw_all := lw_g (lw_at lw_m3 164 rfl) rfl
theorem q731 : (Jvm.Cond.methodLink "java/util/ArrayList" (79 : Nat) ({ cls := "java/lang/Math", name := "max", desc := "(II)I" } : Jvm.MethodName)) ∈ lw_all := lw_g (lw_at lw_m3 176 rfl) rfl
theorem q732 : (Jvm.Cond.classLink "java/util/ArrayList" (7 : Nat) "java/lang/Object") ∈ lw_all := lw_g (lw_at lw_m3 177 rfl) rfl
theorem q790 : (Jvm.Cond.selects "java/util/ArrayList" ({ cls := "java/util/List", name := "get", desc := "(I)Ljava/lang/Object;" } : Jvm.MethodName) ({ cls := "java/util/ArrayList", name := "get", desc := "(I)Ljava/lang/Object;" } : Jvm.MethodName)) ∈ lw_all := lw_g (lw_at lw_m3 235 rfl) rfl
theorem q791 : (Jvm.Cond.unhidden "java/util/ArrayList" "get" "(I)Ljava/lang/Object;") ∈ lw_tbl := lw_at lw_m3 236 rfl
theorem q792 : (Jvm.Cond.instanceMethod ({ cls := "java/util/ArrayList", name := "get", desc := "(I)Ljava/lang/Object;" } : Jvm.MethodName)) ∈ lw_all := lw_g (lw_at lw_m3 237 rfl) rfl
theorem q793 : (Jvm.Cond.publicMethod ({ cls := "java/util/ArrayList", name := "get", desc := "(I)Ljava/lang/Object;" } : Jvm.MethodName)) ∈ lw_tbl := lw_at lw_m3 238 rfl
theorem q794 : (Jvm.Cond.code ({ cls := "java/util/ArrayList", name := "get", desc := "(I)Ljava/lang/Object;" } : Jvm.MethodName) prog_34_method_20_code (2 : Nat) (Option.some (Jvm.ClassFile.FieldType.object "java/lang/Object"))) ∈ lw_all := lw_g (lw_at lw_m3 239 rfl) rfl
theorem q795 : (Jvm.Cond.methodLink "java/util/ArrayList" (118 : Nat) ({ cls := "java/util/Objects", name := "checkIndex", desc := "(II)I" } : Jvm.MethodName)) ∈ lw_all := lw_g (lw_at lw_m4 0 rfl) rfl
theorem q799 : (Jvm.Cond.methodLink "java/util/ArrayList" (123 : Nat) ({ cls := "java/util/ArrayList", name := "elementData", desc := "(I)Ljava/lang/Object;" } : Jvm.MethodName)) ∈ lw_all := lw_g (lw_at lw_m4 4 rfl) rfl
theorem q800 : (Jvm.Cond.instanceMethod ({ cls := "java/util/ArrayList", name := "elementData", desc := "(I)Ljava/lang/Object;" } : Jvm.MethodName)) ∈ lw_all := lw_g (lw_at lw_m4 5 rfl) rfl
theorem q801 : (Jvm.Cond.selects "java/util/ArrayList" ({ cls := "java/util/ArrayList", name := "elementData", desc := "(I)Ljava/lang/Object;" } : Jvm.MethodName) ({ cls := "java/util/ArrayList", name := "elementData", desc := "(I)Ljava/lang/Object;" } : Jvm.MethodName)) ∈ lw_all := lw_g (lw_at lw_m4 6 rfl) rfl
theorem q802 : (Jvm.Cond.code ({ cls := "java/util/ArrayList", name := "elementData", desc := "(I)Ljava/lang/Object;" } : Jvm.MethodName) prog_34_method_18_code (2 : Nat) (Option.some (Jvm.ClassFile.FieldType.object "java/lang/Object"))) ∈ lw_all := lw_g (lw_at lw_m4 7 rfl) rfl
theorem q1665 : (Jvm.Cond.castable "java/util/ArrayList" "java/lang/Object") ∈ lw_tbl := lw_at lw_m7 150 rfl
theorem in_J2 : ∀ w ∈ wsJ20, w ∈ lw_all := lw_in wsJ20 [148, 144, 146] (by decide +kernel) (by decide +kernel)
/-! java/lang/Throwable -/
set_option maxRecDepth 100000
def RJ3 : String := "java/lang/Throwable"
def TJ3 : u_T := fun k => match k with
  | 0 => ("java/lang/Throwable", "cause", "Ljava/lang/Throwable;", false)
  | 1 => ("java/lang/Throwable", "stackTrace", "[Ljava/lang/StackTraceElement;", false)
  | 2 => ("java/lang/Throwable", "suppressedExceptions", "Ljava/util/List;", false)
  | 3 => ("java/lang/Throwable", "detailMessage", "Ljava/lang/String;", false)
  | _ => ("java/lang/Throwable", "backtrace", "Ljava/lang/Object;", false)
def tyJ3 : Nat → FieldType := fun k => match k with
  | 0 => .object "java/lang/Throwable"
  | 1 => .array (.object "java/lang/StackTraceElement")
  | 2 => .object "java/util/List"
  | 3 => .object "java/lang/String"
  | _ => .object "java/lang/Object"
abbrev wsJ30 : List Cond := u_ws RJ3 TJ3 5
theorem nmJ3 : ∀ a, a < 5 → ∀ b, b < 5 → a ≠ b → (TJ3 a).2.1 ≠ (TJ3 b).2.1 := by decide +kernel
theorem tyJ3_ok : ∀ k, k < 5 → parseFieldDescriptor (TJ3 k).2.2.1 = some (tyJ3 k) := by decide +kernel
abbrev cJ3_init : ByteArray := prog_31_method_1_code
def yJ3_init : MethodName := ⟨RJ3, "<init>", "()V"⟩
def dkwJ3_init_1 : List UInt8 := [182, 0, 27, 87, 177]
abbrev dktJ3_init_1 : List UInt8 := dkwJ3_init_1 ++ []
def dkwJ3_init_0 : List UInt8 := [42, 183, 0, 1, 42, 42, 181, 0, 7, 42, 178, 0, 13, 181, 0, 17, 42, 178, 0, 20, 181, 0, 24, 42]
abbrev dktJ3_init_0 : List UInt8 := dkwJ3_init_0 ++ dktJ3_init_1
theorem dksJ3_init_0 : cJ3_init.data.toList.drop 0 = dktJ3_init_0 := by decide +kernel
theorem dksJ3_init_1 : cJ3_init.data.toList.drop 24 = dktJ3_init_1 := dk_seg dksJ3_init_0 24 rfl rfl
theorem dJ3_init_0 : decode cJ3_init 0 = .ok (.aload_n 0, 1) := dk_42 (dk_at dksJ3_init_0 0 rfl rfl)
theorem dJ3_init_1 : decode cJ3_init 1 = .ok (.invokespecial 1, 3) := dk_183 0 1 (dk_at dksJ3_init_0 1 rfl rfl)
theorem dJ3_init_4 : decode cJ3_init 4 = .ok (.aload_n 0, 1) := dk_42 (dk_at dksJ3_init_0 4 rfl rfl)
theorem dJ3_init_5 : decode cJ3_init 5 = .ok (.aload_n 0, 1) := dk_42 (dk_at dksJ3_init_0 5 rfl rfl)
theorem dJ3_init_6 : decode cJ3_init 6 = .ok (.putfield 7, 3) := dk_181 0 7 (dk_at dksJ3_init_0 6 rfl rfl)
theorem dJ3_init_9 : decode cJ3_init 9 = .ok (.aload_n 0, 1) := dk_42 (dk_at dksJ3_init_0 9 rfl rfl)
theorem dJ3_init_10 : decode cJ3_init 10 = .ok (.getstatic 13, 3) := dk_178 0 13 (dk_at dksJ3_init_0 10 rfl rfl)
theorem dJ3_init_13 : decode cJ3_init 13 = .ok (.putfield 17, 3) := dk_181 0 17 (dk_at dksJ3_init_0 13 rfl rfl)
theorem dJ3_init_16 : decode cJ3_init 16 = .ok (.aload_n 0, 1) := dk_42 (dk_at dksJ3_init_0 16 rfl rfl)
theorem dJ3_init_17 : decode cJ3_init 17 = .ok (.getstatic 20, 3) := dk_178 0 20 (dk_at dksJ3_init_0 17 rfl rfl)
theorem dJ3_init_20 : decode cJ3_init 20 = .ok (.putfield 24, 3) := dk_181 0 24 (dk_at dksJ3_init_0 20 rfl rfl)
theorem dJ3_init_23 : decode cJ3_init 23 = .ok (.aload_n 0, 1) := dk_42 (dk_at dksJ3_init_0 23 rfl rfl)
theorem dJ3_init_24 : decode cJ3_init 24 = .ok (.invokevirtual 27, 3) := dk_182 0 27 (dk_at dksJ3_init_1 0 rfl rfl)
theorem dJ3_init_27 : decode cJ3_init 27 = .ok (.pop, 1) := dk_87 (dk_at dksJ3_init_1 3 rfl rfl)
theorem dJ3_init_28 : decode cJ3_init 28 = .ok (.return_, 1) := dk_177 (dk_at dksJ3_init_1 4 rfl rfl)
abbrev cJ3_init_2 : ByteArray := prog_31_method_5_code
def yJ3_init_2 : MethodName := ⟨RJ3, "<init>", "(Ljava/lang/String;Ljava/lang/Throwable;ZZ)V"⟩
def dkwJ3_init_2_2 : List UInt8 := [44, 181, 0, 7, 29, 154, 0, 8, 42, 1, 181, 0, 24, 177]
abbrev dktJ3_init_2_2 : List UInt8 := dkwJ3_init_2_2 ++ []
def dkwJ3_init_2_1 : List UInt8 := [21, 4, 153, 0, 11, 42, 182, 0, 27, 87, 167, 0, 8, 42, 1, 181, 0, 17, 42, 43, 181, 0, 31, 42]
abbrev dktJ3_init_2_1 : List UInt8 := dkwJ3_init_2_1 ++ dktJ3_init_2_2
def dkwJ3_init_2_0 : List UInt8 := [42, 183, 0, 1, 42, 42, 181, 0, 7, 42, 178, 0, 13, 181, 0, 17, 42, 178, 0, 20, 181, 0, 24]
abbrev dktJ3_init_2_0 : List UInt8 := dkwJ3_init_2_0 ++ dktJ3_init_2_1
theorem dksJ3_init_2_0 : cJ3_init_2.data.toList.drop 0 = dktJ3_init_2_0 := by decide +kernel
theorem dksJ3_init_2_1 : cJ3_init_2.data.toList.drop 23 = dktJ3_init_2_1 := dk_seg dksJ3_init_2_0 23 rfl rfl
theorem dksJ3_init_2_2 : cJ3_init_2.data.toList.drop 47 = dktJ3_init_2_2 := dk_seg dksJ3_init_2_1 24 rfl rfl
theorem dJ3_init_2_0 : decode cJ3_init_2 0 = .ok (.aload_n 0, 1) := dk_42 (dk_at dksJ3_init_2_0 0 rfl rfl)
theorem dJ3_init_2_1 : decode cJ3_init_2 1 = .ok (.invokespecial 1, 3) := dk_183 0 1 (dk_at dksJ3_init_2_0 1 rfl rfl)
theorem dJ3_init_2_4 : decode cJ3_init_2 4 = .ok (.aload_n 0, 1) := dk_42 (dk_at dksJ3_init_2_0 4 rfl rfl)
theorem dJ3_init_2_5 : decode cJ3_init_2 5 = .ok (.aload_n 0, 1) := dk_42 (dk_at dksJ3_init_2_0 5 rfl rfl)
theorem dJ3_init_2_6 : decode cJ3_init_2 6 = .ok (.putfield 7, 3) := dk_181 0 7 (dk_at dksJ3_init_2_0 6 rfl rfl)
theorem dJ3_init_2_9 : decode cJ3_init_2 9 = .ok (.aload_n 0, 1) := dk_42 (dk_at dksJ3_init_2_0 9 rfl rfl)
theorem dJ3_init_2_10 : decode cJ3_init_2 10 = .ok (.getstatic 13, 3) := dk_178 0 13 (dk_at dksJ3_init_2_0 10 rfl rfl)
theorem dJ3_init_2_13 : decode cJ3_init_2 13 = .ok (.putfield 17, 3) := dk_181 0 17 (dk_at dksJ3_init_2_0 13 rfl rfl)
theorem dJ3_init_2_16 : decode cJ3_init_2 16 = .ok (.aload_n 0, 1) := dk_42 (dk_at dksJ3_init_2_0 16 rfl rfl)
theorem dJ3_init_2_17 : decode cJ3_init_2 17 = .ok (.getstatic 20, 3) := dk_178 0 20 (dk_at dksJ3_init_2_0 17 rfl rfl)
theorem dJ3_init_2_20 : decode cJ3_init_2 20 = .ok (.putfield 24, 3) := dk_181 0 24 (dk_at dksJ3_init_2_0 20 rfl rfl)
theorem dJ3_init_2_23 : decode cJ3_init_2 23 = .ok (.iload 4, 2) := dk_21 4 (dk_at dksJ3_init_2_1 0 rfl rfl)
theorem dJ3_init_2_25 : decode cJ3_init_2 25 = .ok (.ifCond .eq 11, 3) := dk_153 0 11 (dk_at dksJ3_init_2_1 2 rfl rfl)
theorem dJ3_init_2_28 : decode cJ3_init_2 28 = .ok (.aload_n 0, 1) := dk_42 (dk_at dksJ3_init_2_1 5 rfl rfl)
theorem dJ3_init_2_29 : decode cJ3_init_2 29 = .ok (.invokevirtual 27, 3) := dk_182 0 27 (dk_at dksJ3_init_2_1 6 rfl rfl)
theorem dJ3_init_2_32 : decode cJ3_init_2 32 = .ok (.pop, 1) := dk_87 (dk_at dksJ3_init_2_1 9 rfl rfl)
theorem dJ3_init_2_33 : decode cJ3_init_2 33 = .ok (.goto 8, 3) := dk_167 0 8 (dk_at dksJ3_init_2_1 10 rfl rfl)
theorem dJ3_init_2_36 : decode cJ3_init_2 36 = .ok (.aload_n 0, 1) := dk_42 (dk_at dksJ3_init_2_1 13 rfl rfl)
theorem dJ3_init_2_37 : decode cJ3_init_2 37 = .ok (.aconst_null, 1) := dk_1 (dk_at dksJ3_init_2_1 14 rfl rfl)
theorem dJ3_init_2_38 : decode cJ3_init_2 38 = .ok (.putfield 17, 3) := dk_181 0 17 (dk_at dksJ3_init_2_1 15 rfl rfl)
theorem dJ3_init_2_41 : decode cJ3_init_2 41 = .ok (.aload_n 0, 1) := dk_42 (dk_at dksJ3_init_2_1 18 rfl rfl)
theorem dJ3_init_2_42 : decode cJ3_init_2 42 = .ok (.aload_n 1, 1) := dk_43 (dk_at dksJ3_init_2_1 19 rfl rfl)
theorem dJ3_init_2_43 : decode cJ3_init_2 43 = .ok (.putfield 31, 3) := dk_181 0 31 (dk_at dksJ3_init_2_1 20 rfl rfl)
theorem dJ3_init_2_46 : decode cJ3_init_2 46 = .ok (.aload_n 0, 1) := dk_42 (dk_at dksJ3_init_2_1 23 rfl rfl)
theorem dJ3_init_2_47 : decode cJ3_init_2 47 = .ok (.aload_n 2, 1) := dk_44 (dk_at dksJ3_init_2_2 0 rfl rfl)
theorem dJ3_init_2_48 : decode cJ3_init_2 48 = .ok (.putfield 7, 3) := dk_181 0 7 (dk_at dksJ3_init_2_2 1 rfl rfl)
theorem dJ3_init_2_51 : decode cJ3_init_2 51 = .ok (.iload_n 3, 1) := dk_29 (dk_at dksJ3_init_2_2 4 rfl rfl)
theorem dJ3_init_2_52 : decode cJ3_init_2 52 = .ok (.ifCond .ne 8, 3) := dk_154 0 8 (dk_at dksJ3_init_2_2 5 rfl rfl)
theorem dJ3_init_2_55 : decode cJ3_init_2 55 = .ok (.aload_n 0, 1) := dk_42 (dk_at dksJ3_init_2_2 8 rfl rfl)
theorem dJ3_init_2_56 : decode cJ3_init_2 56 = .ok (.aconst_null, 1) := dk_1 (dk_at dksJ3_init_2_2 9 rfl rfl)
theorem dJ3_init_2_57 : decode cJ3_init_2 57 = .ok (.putfield 24, 3) := dk_181 0 24 (dk_at dksJ3_init_2_2 10 rfl rfl)
theorem dJ3_init_2_60 : decode cJ3_init_2 60 = .ok (.return_, 1) := dk_177 (dk_at dksJ3_init_2_2 13 rfl rfl)
abbrev cJ3_init_3 : ByteArray := prog_31_method_2_code
def yJ3_init_3 : MethodName := ⟨RJ3, "<init>", "(Ljava/lang/String;)V"⟩
def dkwJ3_init_3_1 : List UInt8 := [182, 0, 27, 87, 42, 43, 181, 0, 31, 177]
abbrev dktJ3_init_3_1 : List UInt8 := dkwJ3_init_3_1 ++ []
def dkwJ3_init_3_0 : List UInt8 := [42, 183, 0, 1, 42, 42, 181, 0, 7, 42, 178, 0, 13, 181, 0, 17, 42, 178, 0, 20, 181, 0, 24, 42]
abbrev dktJ3_init_3_0 : List UInt8 := dkwJ3_init_3_0 ++ dktJ3_init_3_1
theorem dksJ3_init_3_0 : cJ3_init_3.data.toList.drop 0 = dktJ3_init_3_0 := by decide +kernel
theorem dksJ3_init_3_1 : cJ3_init_3.data.toList.drop 24 = dktJ3_init_3_1 := dk_seg dksJ3_init_3_0 24 rfl rfl
theorem dJ3_init_3_0 : decode cJ3_init_3 0 = .ok (.aload_n 0, 1) := dk_42 (dk_at dksJ3_init_3_0 0 rfl rfl)
theorem dJ3_init_3_1 : decode cJ3_init_3 1 = .ok (.invokespecial 1, 3) := dk_183 0 1 (dk_at dksJ3_init_3_0 1 rfl rfl)
theorem dJ3_init_3_4 : decode cJ3_init_3 4 = .ok (.aload_n 0, 1) := dk_42 (dk_at dksJ3_init_3_0 4 rfl rfl)
theorem dJ3_init_3_5 : decode cJ3_init_3 5 = .ok (.aload_n 0, 1) := dk_42 (dk_at dksJ3_init_3_0 5 rfl rfl)
theorem dJ3_init_3_6 : decode cJ3_init_3 6 = .ok (.putfield 7, 3) := dk_181 0 7 (dk_at dksJ3_init_3_0 6 rfl rfl)
theorem dJ3_init_3_9 : decode cJ3_init_3 9 = .ok (.aload_n 0, 1) := dk_42 (dk_at dksJ3_init_3_0 9 rfl rfl)
theorem dJ3_init_3_10 : decode cJ3_init_3 10 = .ok (.getstatic 13, 3) := dk_178 0 13 (dk_at dksJ3_init_3_0 10 rfl rfl)
theorem dJ3_init_3_13 : decode cJ3_init_3 13 = .ok (.putfield 17, 3) := dk_181 0 17 (dk_at dksJ3_init_3_0 13 rfl rfl)
theorem dJ3_init_3_16 : decode cJ3_init_3 16 = .ok (.aload_n 0, 1) := dk_42 (dk_at dksJ3_init_3_0 16 rfl rfl)
theorem dJ3_init_3_17 : decode cJ3_init_3 17 = .ok (.getstatic 20, 3) := dk_178 0 20 (dk_at dksJ3_init_3_0 17 rfl rfl)
theorem dJ3_init_3_20 : decode cJ3_init_3 20 = .ok (.putfield 24, 3) := dk_181 0 24 (dk_at dksJ3_init_3_0 20 rfl rfl)
theorem dJ3_init_3_23 : decode cJ3_init_3 23 = .ok (.aload_n 0, 1) := dk_42 (dk_at dksJ3_init_3_0 23 rfl rfl)
theorem dJ3_init_3_24 : decode cJ3_init_3 24 = .ok (.invokevirtual 27, 3) := dk_182 0 27 (dk_at dksJ3_init_3_1 0 rfl rfl)
theorem dJ3_init_3_27 : decode cJ3_init_3 27 = .ok (.pop, 1) := dk_87 (dk_at dksJ3_init_3_1 3 rfl rfl)
theorem dJ3_init_3_28 : decode cJ3_init_3 28 = .ok (.aload_n 0, 1) := dk_42 (dk_at dksJ3_init_3_1 4 rfl rfl)
theorem dJ3_init_3_29 : decode cJ3_init_3 29 = .ok (.aload_n 1, 1) := dk_43 (dk_at dksJ3_init_3_1 5 rfl rfl)
theorem dJ3_init_3_30 : decode cJ3_init_3 30 = .ok (.putfield 31, 3) := dk_181 0 31 (dk_at dksJ3_init_3_1 6 rfl rfl)
theorem dJ3_init_3_33 : decode cJ3_init_3 33 = .ok (.return_, 1) := dk_177 (dk_at dksJ3_init_3_1 9 rfl rfl)
theorem q83 : (Jvm.Cond.initialized "java/lang/Throwable") ∈ lw_all := lw_g (lw_at lw_m1 8 rfl) rfl
theorem q297 : (Jvm.Cond.declares ({ cls := "java/lang/Throwable", name := "<init>", desc := "()V" } : Jvm.MethodName)) ∈ lw_tbl := lw_at lw_m1 222 rfl
theorem q298 : (Jvm.Cond.declares ({ cls := "java/lang/Throwable", name := "<init>", desc := "(Ljava/lang/String;)V" } : Jvm.MethodName)) ∈ lw_tbl := lw_at lw_m1 223 rfl
theorem q302 : (Jvm.Cond.lays "java/lang/Throwable" "java/lang/Throwable" "cause" "Ljava/lang/Throwable;") ∈ lw_all := lw_g (lw_at lw_m1 227 rfl) rfl
theorem q304 : (Jvm.Cond.lays "java/lang/Throwable" "java/lang/Throwable" "stackTrace" "[Ljava/lang/StackTraceElement;") ∈ lw_all := lw_g (lw_at lw_m1 229 rfl) rfl
theorem q306 : (Jvm.Cond.lays "java/lang/Throwable" "java/lang/Throwable" "suppressedExceptions" "Ljava/util/List;") ∈ lw_all := lw_g (lw_at lw_m1 231 rfl) rfl
theorem q308 : (Jvm.Cond.lays "java/lang/Throwable" "java/lang/Throwable" "detailMessage" "Ljava/lang/String;") ∈ lw_all := lw_g (lw_at lw_m1 233 rfl) rfl
theorem q310 : (Jvm.Cond.lays "java/lang/Throwable" "java/lang/Throwable" "backtrace" "Ljava/lang/Object;") ∈ lw_all := lw_g (lw_at lw_m1 235 rfl) rfl
theorem q311 : (Jvm.Cond.fieldLink "java/lang/Throwable" (198 : Nat) "java/lang/Throwable" "backtrace" "Ljava/lang/Object;") ∈ lw_all := lw_g (lw_at lw_m1 236 rfl) rfl
theorem q312 : (Jvm.Cond.superclass "java/lang/Throwable" "java/lang/Object") ∈ lw_all := lw_g (lw_at lw_m1 237 rfl) rfl
theorem q313 : (Jvm.Cond.instanceMethod ({ cls := "java/lang/Throwable", name := "<init>", desc := "()V" } : Jvm.MethodName)) ∈ lw_all := lw_g (lw_at lw_m1 238 rfl) rfl
theorem q314 : (Jvm.Cond.code ({ cls := "java/lang/Throwable", name := "<init>", desc := "()V" } : Jvm.MethodName) prog_31_method_1_code (1 : Nat) (Option.none : Option Jvm.ClassFile.FieldType)) ∈ lw_all := lw_g (lw_at lw_m1 239 rfl) rfl
theorem q315 : (Jvm.Cond.methodLink "java/lang/Throwable" (1 : Nat) ({ cls := "java/lang/Object", name := "<init>", desc := "()V" } : Jvm.MethodName)) ∈ lw_all := lw_g (lw_at lw_m2 0 rfl) rfl
theorem q316 : (Jvm.Cond.fieldLink "java/lang/Throwable" (13 : Nat) "java/lang/Throwable" "UNASSIGNED_STACK" "[Ljava/lang/StackTraceElement;") ∈ lw_all := lw_g (lw_at lw_m2 1 rfl) rfl
theorem q317 : (Jvm.Cond.laysStatic "java/lang/Throwable" "UNASSIGNED_STACK" "[Ljava/lang/StackTraceElement;") ∈ lw_tbl := lw_at lw_m2 2 rfl
theorem q318 : (Jvm.Cond.fieldLink "java/lang/Throwable" (20 : Nat) "java/lang/Throwable" "SUPPRESSED_SENTINEL" "Ljava/util/List;") ∈ lw_all := lw_g (lw_at lw_m2 3 rfl) rfl
theorem q319 : (Jvm.Cond.laysStatic "java/lang/Throwable" "SUPPRESSED_SENTINEL" "Ljava/util/List;") ∈ lw_tbl := lw_at lw_m2 4 rfl
theorem q320 : (Jvm.Cond.methodLink "java/lang/Throwable" (27 : Nat) ({ cls := "java/lang/Throwable", name := "fillInStackTrace", desc := "()Ljava/lang/Throwable;" } : Jvm.MethodName)) ∈ lw_all := lw_g (lw_at lw_m2 5 rfl) rfl
theorem q321 : (Jvm.Cond.instanceMethod ({ cls := "java/lang/Throwable", name := "fillInStackTrace", desc := "()Ljava/lang/Throwable;" } : Jvm.MethodName)) ∈ lw_all := lw_g (lw_at lw_m2 6 rfl) rfl
theorem q322 : (Jvm.Cond.sameMethod "java/lang/Throwable" "java/lang/Throwable" "fillInStackTrace" "()Ljava/lang/Throwable;") ∈ lw_all := lw_g (lw_at lw_m2 7 rfl) rfl
theorem q326 : (Jvm.Cond.codeSync ({ cls := "java/lang/Throwable", name := "fillInStackTrace", desc := "()Ljava/lang/Throwable;" } : Jvm.MethodName) prog_31_method_18_code (1 : Nat) (Option.some (Jvm.ClassFile.FieldType.object "java/lang/Throwable"))) ∈ lw_all := lw_g (lw_at lw_m2 11 rfl) rfl
theorem q327 : (Jvm.Cond.methodLink "java/lang/Throwable" (202 : Nat) ({ cls := "java/lang/Throwable", name := "fillInStackTrace", desc := "(I)Ljava/lang/Throwable;" } : Jvm.MethodName)) ∈ lw_all := lw_g (lw_at lw_m2 12 rfl) rfl
theorem q328 : (Jvm.Cond.privateMethod ({ cls := "java/lang/Throwable", name := "fillInStackTrace", desc := "(I)Ljava/lang/Throwable;" } : Jvm.MethodName)) ∈ lw_tbl := lw_at lw_m2 13 rfl
theorem q329 : (Jvm.Cond.instanceMethod ({ cls := "java/lang/Throwable", name := "fillInStackTrace", desc := "(I)Ljava/lang/Throwable;" } : Jvm.MethodName)) ∈ lw_all := lw_g (lw_at lw_m2 14 rfl) rfl
theorem q330 : (Jvm.Cond.instantiable "java/lang/Throwable" (6 : Nat)) ∈ lw_all := lw_g (lw_at lw_m2 15 rfl) rfl
theorem q331 : (Jvm.Cond.native ({ cls := "java/lang/Throwable", name := "fillInStackTrace", desc := "(I)Ljava/lang/Throwable;" } : Jvm.MethodName)) ∈ lw_all := lw_g (lw_at lw_m2 16 rfl) rfl
theorem q339 : (Jvm.Cond.instanceMethod ({ cls := "java/lang/Throwable", name := "<init>", desc := "(Ljava/lang/String;Ljava/lang/Throwable;ZZ)V" } : Jvm.MethodName)) ∈ lw_all := lw_g (lw_at lw_m2 24 rfl) rfl
theorem q340 : (Jvm.Cond.code ({ cls := "java/lang/Throwable", name := "<init>", desc := "(Ljava/lang/String;Ljava/lang/Throwable;ZZ)V" } : Jvm.MethodName) prog_31_method_5_code (5 : Nat) (Option.none : Option Jvm.ClassFile.FieldType)) ∈ lw_all := lw_g (lw_at lw_m2 25 rfl) rfl
theorem q343 : (Jvm.Cond.fieldLink "java/lang/Throwable" (198 : Nat) "java/lang/Throwable" "backtrace" "Ljava/lang/Object;") ∈ lw_all := lw_g (lw_at lw_m2 28 rfl) rfl
theorem q344 : (Jvm.Cond.fieldLink "java/lang/Throwable" (31 : Nat) "java/lang/Throwable" "detailMessage" "Ljava/lang/String;") ∈ lw_all := lw_g (lw_at lw_m2 29 rfl) rfl
theorem q345 : (Jvm.Cond.fieldLink "java/lang/Throwable" (7 : Nat) "java/lang/Throwable" "cause" "Ljava/lang/Throwable;") ∈ lw_all := lw_g (lw_at lw_m2 30 rfl) rfl
theorem q346 : (Jvm.Cond.fieldLink "java/lang/Throwable" (17 : Nat) "java/lang/Throwable" "stackTrace" "[Ljava/lang/StackTraceElement;") ∈ lw_all := lw_g (lw_at lw_m2 31 rfl) rfl
theorem q347 : (Jvm.Cond.fieldLink "java/lang/Throwable" (24 : Nat) "java/lang/Throwable" "suppressedExceptions" "Ljava/util/List;") ∈ lw_all := lw_g (lw_at lw_m2 32 rfl) rfl
theorem q350 : (Jvm.Cond.soleField "java/lang/Throwable" "backtrace") ∈ lw_all := lw_g (lw_at lw_m2 35 rfl) rfl
theorem q351 : (Jvm.Cond.soleField "java/lang/Throwable" "detailMessage") ∈ lw_all := lw_g (lw_at lw_m2 36 rfl) rfl
theorem q352 : (Jvm.Cond.soleField "java/lang/Throwable" "cause") ∈ lw_all := lw_g (lw_at lw_m2 37 rfl) rfl
theorem q353 : (Jvm.Cond.soleField "java/lang/Throwable" "stackTrace") ∈ lw_all := lw_g (lw_at lw_m2 38 rfl) rfl
theorem q355 : (Jvm.Cond.soleField "java/lang/Throwable" "depth") ∈ lw_all := lw_g (lw_at lw_m2 40 rfl) rfl
theorem q356 : (Jvm.Cond.soleField "java/lang/Throwable" "suppressedExceptions") ∈ lw_all := lw_g (lw_at lw_m2 41 rfl) rfl
theorem q411 : (Jvm.Cond.instanceMethod ({ cls := "java/lang/Throwable", name := "<init>", desc := "(Ljava/lang/String;)V" } : Jvm.MethodName)) ∈ lw_all := lw_g (lw_at lw_m2 96 rfl) rfl
theorem q412 : (Jvm.Cond.code ({ cls := "java/lang/Throwable", name := "<init>", desc := "(Ljava/lang/String;)V" } : Jvm.MethodName) prog_31_method_2_code (2 : Nat) (Option.none : Option Jvm.ClassFile.FieldType)) ∈ lw_all := lw_g (lw_at lw_m2 97 rfl) rfl
theorem q1647 : (Jvm.Cond.sameMethod "java/lang/Throwable" "java/lang/Throwable" "fillInStackTrace" "(I)Ljava/lang/Throwable;") ∈ lw_all := lw_g (lw_at lw_m7 132 rfl) rfl
theorem q1678 : (Jvm.Cond.castable "java/lang/Throwable" "java/lang/Object") ∈ lw_tbl := lw_at lw_m7 163 rfl
theorem in_J3 : ∀ w ∈ wsJ30, w ∈ lw_all := lw_in wsJ30 [302, 304, 306, 308, 310] (by decide +kernel) (by decide +kernel)
/-! java/lang/Exception -/
set_option maxRecDepth 100000
def RJ4 : String := "java/lang/Exception"
abbrev cJ4_init : ByteArray := prog_21_method_5_code
def yJ4_init : MethodName := ⟨RJ4, "<init>", "(Ljava/lang/String;Ljava/lang/Throwable;ZZ)V"⟩
def dkwJ4_init_0 : List UInt8 := [42, 43, 44, 29, 21, 4, 183, 0, 16, 177]
abbrev dktJ4_init_0 : List UInt8 := dkwJ4_init_0 ++ []
theorem dksJ4_init_0 : cJ4_init.data.toList.drop 0 = dktJ4_init_0 := by decide +kernel
theorem dJ4_init_0 : decode cJ4_init 0 = .ok (.aload_n 0, 1) := dk_42 (dk_at dksJ4_init_0 0 rfl rfl)
theorem dJ4_init_1 : decode cJ4_init 1 = .ok (.aload_n 1, 1) := dk_43 (dk_at dksJ4_init_0 1 rfl rfl)
theorem dJ4_init_2 : decode cJ4_init 2 = .ok (.aload_n 2, 1) := dk_44 (dk_at dksJ4_init_0 2 rfl rfl)
theorem dJ4_init_3 : decode cJ4_init 3 = .ok (.iload_n 3, 1) := dk_29 (dk_at dksJ4_init_0 3 rfl rfl)
theorem dJ4_init_4 : decode cJ4_init 4 = .ok (.iload 4, 2) := dk_21 4 (dk_at dksJ4_init_0 4 rfl rfl)
theorem dJ4_init_6 : decode cJ4_init 6 = .ok (.invokespecial 16, 3) := dk_183 0 16 (dk_at dksJ4_init_0 6 rfl rfl)
theorem dJ4_init_9 : decode cJ4_init 9 = .ok (.return_, 1) := dk_177 (dk_at dksJ4_init_0 9 rfl rfl)
abbrev cJ4_init_2 : ByteArray := prog_21_method_2_code
def yJ4_init_2 : MethodName := ⟨RJ4, "<init>", "(Ljava/lang/String;)V"⟩
def dkwJ4_init_2_0 : List UInt8 := [42, 43, 183, 0, 7, 177]
abbrev dktJ4_init_2_0 : List UInt8 := dkwJ4_init_2_0 ++ []
theorem dksJ4_init_2_0 : cJ4_init_2.data.toList.drop 0 = dktJ4_init_2_0 := by decide +kernel
theorem dJ4_init_2_0 : decode cJ4_init_2 0 = .ok (.aload_n 0, 1) := dk_42 (dk_at dksJ4_init_2_0 0 rfl rfl)
theorem dJ4_init_2_1 : decode cJ4_init_2 1 = .ok (.aload_n 1, 1) := dk_43 (dk_at dksJ4_init_2_0 1 rfl rfl)
theorem dJ4_init_2_2 : decode cJ4_init_2 2 = .ok (.invokespecial 7, 3) := dk_183 0 7 (dk_at dksJ4_init_2_0 2 rfl rfl)
theorem dJ4_init_2_5 : decode cJ4_init_2 5 = .ok (.return_, 1) := dk_177 (dk_at dksJ4_init_2_0 5 rfl rfl)
theorem q84 : (Jvm.Cond.initialized "java/lang/Exception") ∈ lw_all := lw_g (lw_at lw_m1 9 rfl) rfl
theorem q295 : (Jvm.Cond.declares ({ cls := "java/lang/Exception", name := "<init>", desc := "()V" } : Jvm.MethodName)) ∈ lw_tbl := lw_at lw_m1 220 rfl
theorem q296 : (Jvm.Cond.declares ({ cls := "java/lang/Exception", name := "<init>", desc := "(Ljava/lang/String;)V" } : Jvm.MethodName)) ∈ lw_tbl := lw_at lw_m1 221 rfl
theorem q336 : (Jvm.Cond.instanceMethod ({ cls := "java/lang/Exception", name := "<init>", desc := "(Ljava/lang/String;Ljava/lang/Throwable;ZZ)V" } : Jvm.MethodName)) ∈ lw_all := lw_g (lw_at lw_m2 21 rfl) rfl
theorem q337 : (Jvm.Cond.code ({ cls := "java/lang/Exception", name := "<init>", desc := "(Ljava/lang/String;Ljava/lang/Throwable;ZZ)V" } : Jvm.MethodName) prog_21_method_5_code (5 : Nat) (Option.none : Option Jvm.ClassFile.FieldType)) ∈ lw_all := lw_g (lw_at lw_m2 22 rfl) rfl
theorem q338 : (Jvm.Cond.methodLink "java/lang/Exception" (16 : Nat) ({ cls := "java/lang/Throwable", name := "<init>", desc := "(Ljava/lang/String;Ljava/lang/Throwable;ZZ)V" } : Jvm.MethodName)) ∈ lw_all := lw_g (lw_at lw_m2 23 rfl) rfl
theorem q408 : (Jvm.Cond.instanceMethod ({ cls := "java/lang/Exception", name := "<init>", desc := "(Ljava/lang/String;)V" } : Jvm.MethodName)) ∈ lw_all := lw_g (lw_at lw_m2 93 rfl) rfl
theorem q409 : (Jvm.Cond.code ({ cls := "java/lang/Exception", name := "<init>", desc := "(Ljava/lang/String;)V" } : Jvm.MethodName) prog_21_method_2_code (2 : Nat) (Option.none : Option Jvm.ClassFile.FieldType)) ∈ lw_all := lw_g (lw_at lw_m2 94 rfl) rfl
theorem q410 : (Jvm.Cond.methodLink "java/lang/Exception" (7 : Nat) ({ cls := "java/lang/Throwable", name := "<init>", desc := "(Ljava/lang/String;)V" } : Jvm.MethodName)) ∈ lw_all := lw_g (lw_at lw_m2 95 rfl) rfl
/-! java/lang/RuntimeException -/
set_option maxRecDepth 100000
def RJ5 : String := "java/lang/RuntimeException"
abbrev cJ5_init : ByteArray := prog_26_method_2_code
def yJ5_init : MethodName := ⟨RJ5, "<init>", "(Ljava/lang/String;)V"⟩
def dkwJ5_init_0 : List UInt8 := [42, 43, 183, 0, 7, 177]
abbrev dktJ5_init_0 : List UInt8 := dkwJ5_init_0 ++ []
theorem dksJ5_init_0 : cJ5_init.data.toList.drop 0 = dktJ5_init_0 := by decide +kernel
theorem dJ5_init_0 : decode cJ5_init 0 = .ok (.aload_n 0, 1) := dk_42 (dk_at dksJ5_init_0 0 rfl rfl)
theorem dJ5_init_1 : decode cJ5_init 1 = .ok (.aload_n 1, 1) := dk_43 (dk_at dksJ5_init_0 1 rfl rfl)
theorem dJ5_init_2 : decode cJ5_init 2 = .ok (.invokespecial 7, 3) := dk_183 0 7 (dk_at dksJ5_init_0 2 rfl rfl)
theorem dJ5_init_5 : decode cJ5_init 5 = .ok (.return_, 1) := dk_177 (dk_at dksJ5_init_0 5 rfl rfl)
theorem q87 : (Jvm.Cond.initialized "java/lang/RuntimeException") ∈ lw_all := lw_g (lw_at lw_m1 12 rfl) rfl
theorem q405 : (Jvm.Cond.instanceMethod ({ cls := "java/lang/RuntimeException", name := "<init>", desc := "(Ljava/lang/String;)V" } : Jvm.MethodName)) ∈ lw_all := lw_g (lw_at lw_m2 90 rfl) rfl
theorem q406 : (Jvm.Cond.code ({ cls := "java/lang/RuntimeException", name := "<init>", desc := "(Ljava/lang/String;)V" } : Jvm.MethodName) prog_26_method_2_code (2 : Nat) (Option.none : Option Jvm.ClassFile.FieldType)) ∈ lw_all := lw_g (lw_at lw_m2 91 rfl) rfl
theorem q407 : (Jvm.Cond.methodLink "java/lang/RuntimeException" (7 : Nat) ({ cls := "java/lang/Exception", name := "<init>", desc := "(Ljava/lang/String;)V" } : Jvm.MethodName)) ∈ lw_all := lw_g (lw_at lw_m2 92 rfl) rfl
theorem q423 : (Jvm.Cond.declares ({ cls := "java/lang/RuntimeException", name := "<init>", desc := "()V" } : Jvm.MethodName)) ∈ lw_tbl := lw_at lw_m2 108 rfl
theorem q424 : (Jvm.Cond.declares ({ cls := "java/lang/RuntimeException", name := "<init>", desc := "(Ljava/lang/String;)V" } : Jvm.MethodName)) ∈ lw_tbl := lw_at lw_m2 109 rfl
/-! java/lang/IndexOutOfBoundsException -/
set_option maxRecDepth 100000
def RJ6 : String := "java/lang/IndexOutOfBoundsException"
abbrev cJ6_init : ByteArray := prog_22_method_2_code
def yJ6_init : MethodName := ⟨RJ6, "<init>", "(Ljava/lang/String;)V"⟩
def dkwJ6_init_0 : List UInt8 := [42, 43, 183, 0, 7, 177]
abbrev dktJ6_init_0 : List UInt8 := dkwJ6_init_0 ++ []
theorem dksJ6_init_0 : cJ6_init.data.toList.drop 0 = dktJ6_init_0 := by decide +kernel
theorem dJ6_init_0 : decode cJ6_init 0 = .ok (.aload_n 0, 1) := dk_42 (dk_at dksJ6_init_0 0 rfl rfl)
theorem dJ6_init_1 : decode cJ6_init 1 = .ok (.aload_n 1, 1) := dk_43 (dk_at dksJ6_init_0 1 rfl rfl)
theorem dJ6_init_2 : decode cJ6_init 2 = .ok (.invokespecial 7, 3) := dk_183 0 7 (dk_at dksJ6_init_0 2 rfl rfl)
theorem dJ6_init_5 : decode cJ6_init 5 = .ok (.return_, 1) := dk_177 (dk_at dksJ6_init_0 5 rfl rfl)
theorem q88 : (Jvm.Cond.initialized "java/lang/IndexOutOfBoundsException") ∈ lw_all := lw_g (lw_at lw_m1 13 rfl) rfl
theorem q402 : (Jvm.Cond.instanceMethod ({ cls := "java/lang/IndexOutOfBoundsException", name := "<init>", desc := "(Ljava/lang/String;)V" } : Jvm.MethodName)) ∈ lw_all := lw_g (lw_at lw_m2 87 rfl) rfl
theorem q403 : (Jvm.Cond.code ({ cls := "java/lang/IndexOutOfBoundsException", name := "<init>", desc := "(Ljava/lang/String;)V" } : Jvm.MethodName) prog_22_method_2_code (2 : Nat) (Option.none : Option Jvm.ClassFile.FieldType)) ∈ lw_all := lw_g (lw_at lw_m2 88 rfl) rfl
theorem q404 : (Jvm.Cond.methodLink "java/lang/IndexOutOfBoundsException" (7 : Nat) ({ cls := "java/lang/RuntimeException", name := "<init>", desc := "(Ljava/lang/String;)V" } : Jvm.MethodName)) ∈ lw_all := lw_g (lw_at lw_m2 89 rfl) rfl
theorem q421 : (Jvm.Cond.declares ({ cls := "java/lang/IndexOutOfBoundsException", name := "<init>", desc := "()V" } : Jvm.MethodName)) ∈ lw_tbl := lw_at lw_m2 106 rfl
theorem q422 : (Jvm.Cond.declares ({ cls := "java/lang/IndexOutOfBoundsException", name := "<init>", desc := "(Ljava/lang/String;)V" } : Jvm.MethodName)) ∈ lw_tbl := lw_at lw_m2 107 rfl
/-! java/lang/ArrayIndexOutOfBoundsException -/
set_option maxRecDepth 100000
def RJ7 : String := "java/lang/ArrayIndexOutOfBoundsException"
def TJ7 : u_T := fun k => match k with
  | 0 => ("java/lang/Throwable", "backtrace", "Ljava/lang/Object;", false)
  | 1 => ("java/lang/Throwable", "detailMessage", "Ljava/lang/String;", false)
  | 2 => ("java/lang/Throwable", "cause", "Ljava/lang/Throwable;", false)
  | 3 => ("java/lang/Throwable", "stackTrace", "[Ljava/lang/StackTraceElement;", false)
  | 4 => ("java/lang/Throwable", "depth", "I", false)
  | _ => ("java/lang/Throwable", "suppressedExceptions", "Ljava/util/List;", false)
def tyJ7 : Nat → FieldType := fun k => match k with
  | 0 => .object "java/lang/Object"
  | 1 => .object "java/lang/String"
  | 2 => .object "java/lang/Throwable"
  | 3 => .array (.object "java/lang/StackTraceElement")
  | 4 => .int
  | _ => .object "java/util/List"
abbrev wsJ70 : List Cond := u_ws RJ7 TJ7 6
theorem nmJ7 : ∀ a, a < 6 → ∀ b, b < 6 → a ≠ b → (TJ7 a).2.1 ≠ (TJ7 b).2.1 := by decide +kernel
theorem tyJ7_ok : ∀ k, k < 6 → parseFieldDescriptor (TJ7 k).2.2.1 = some (tyJ7 k) := by decide +kernel
abbrev cJ7_init : ByteArray := prog_18_method_2_code
def yJ7_init : MethodName := ⟨RJ7, "<init>", "(Ljava/lang/String;)V"⟩
def dkwJ7_init_0 : List UInt8 := [42, 43, 183, 0, 7, 177]
abbrev dktJ7_init_0 : List UInt8 := dkwJ7_init_0 ++ []
theorem dksJ7_init_0 : cJ7_init.data.toList.drop 0 = dktJ7_init_0 := by decide +kernel
theorem dJ7_init_0 : decode cJ7_init 0 = .ok (.aload_n 0, 1) := dk_42 (dk_at dksJ7_init_0 0 rfl rfl)
theorem dJ7_init_1 : decode cJ7_init 1 = .ok (.aload_n 1, 1) := dk_43 (dk_at dksJ7_init_0 1 rfl rfl)
theorem dJ7_init_2 : decode cJ7_init 2 = .ok (.invokespecial 7, 3) := dk_183 0 7 (dk_at dksJ7_init_0 2 rfl rfl)
theorem dJ7_init_5 : decode cJ7_init 5 = .ok (.return_, 1) := dk_177 (dk_at dksJ7_init_0 5 rfl rfl)
theorem q89 : (Jvm.Cond.initialized "java/lang/ArrayIndexOutOfBoundsException") ∈ lw_all := lw_g (lw_at lw_m1 14 rfl) rfl
theorem q324 : (Jvm.Cond.selects "java/lang/ArrayIndexOutOfBoundsException" ({ cls := "java/lang/Throwable", name := "fillInStackTrace", desc := "()Ljava/lang/Throwable;" } : Jvm.MethodName) ({ cls := "java/lang/Throwable", name := "fillInStackTrace", desc := "()Ljava/lang/Throwable;" } : Jvm.MethodName)) ∈ lw_all := lw_g (lw_at lw_m2 9 rfl) rfl
theorem q398 : (Jvm.Cond.instantiable "java/lang/ArrayIndexOutOfBoundsException" (6 : Nat)) ∈ lw_all := lw_g (lw_at lw_m2 83 rfl) rfl
theorem q399 : (Jvm.Cond.instanceMethod ({ cls := "java/lang/ArrayIndexOutOfBoundsException", name := "<init>", desc := "(Ljava/lang/String;)V" } : Jvm.MethodName)) ∈ lw_all := lw_g (lw_at lw_m2 84 rfl) rfl
theorem q400 : (Jvm.Cond.code ({ cls := "java/lang/ArrayIndexOutOfBoundsException", name := "<init>", desc := "(Ljava/lang/String;)V" } : Jvm.MethodName) prog_18_method_2_code (2 : Nat) (Option.none : Option Jvm.ClassFile.FieldType)) ∈ lw_all := lw_g (lw_at lw_m2 85 rfl) rfl
theorem q401 : (Jvm.Cond.methodLink "java/lang/ArrayIndexOutOfBoundsException" (7 : Nat) ({ cls := "java/lang/IndexOutOfBoundsException", name := "<init>", desc := "(Ljava/lang/String;)V" } : Jvm.MethodName)) ∈ lw_all := lw_g (lw_at lw_m2 86 rfl) rfl
theorem q413 : (Jvm.Cond.lays "java/lang/ArrayIndexOutOfBoundsException" "java/lang/Throwable" "backtrace" "Ljava/lang/Object;") ∈ lw_all := lw_g (lw_at lw_m2 98 rfl) rfl
theorem q414 : (Jvm.Cond.lays "java/lang/ArrayIndexOutOfBoundsException" "java/lang/Throwable" "detailMessage" "Ljava/lang/String;") ∈ lw_all := lw_g (lw_at lw_m2 99 rfl) rfl
theorem q415 : (Jvm.Cond.lays "java/lang/ArrayIndexOutOfBoundsException" "java/lang/Throwable" "cause" "Ljava/lang/Throwable;") ∈ lw_all := lw_g (lw_at lw_m2 100 rfl) rfl
theorem q416 : (Jvm.Cond.lays "java/lang/ArrayIndexOutOfBoundsException" "java/lang/Throwable" "stackTrace" "[Ljava/lang/StackTraceElement;") ∈ lw_all := lw_g (lw_at lw_m2 101 rfl) rfl
theorem q417 : (Jvm.Cond.lays "java/lang/ArrayIndexOutOfBoundsException" "java/lang/Throwable" "depth" "I") ∈ lw_all := lw_g (lw_at lw_m2 102 rfl) rfl
theorem q418 : (Jvm.Cond.lays "java/lang/ArrayIndexOutOfBoundsException" "java/lang/Throwable" "suppressedExceptions" "Ljava/util/List;") ∈ lw_all := lw_g (lw_at lw_m2 103 rfl) rfl
theorem q419 : (Jvm.Cond.superclass "java/lang/ArrayIndexOutOfBoundsException" "java/lang/IndexOutOfBoundsException") ∈ lw_all := lw_g (lw_at lw_m2 104 rfl) rfl
theorem q420 : (Jvm.Cond.castable "java/lang/ArrayIndexOutOfBoundsException" "java/lang/ArrayIndexOutOfBoundsException") ∈ lw_tbl := lw_at lw_m2 105 rfl
theorem q425 : (Jvm.Cond.selects "java/lang/ArrayIndexOutOfBoundsException" ({ cls := "java/lang/Throwable", name := "fillInStackTrace", desc := "(I)Ljava/lang/Throwable;" } : Jvm.MethodName) ({ cls := "java/lang/Throwable", name := "fillInStackTrace", desc := "(I)Ljava/lang/Throwable;" } : Jvm.MethodName)) ∈ lw_all := lw_g (lw_at lw_m2 110 rfl) rfl
theorem q717 : (Jvm.Cond.selects "java/lang/ArrayIndexOutOfBoundsException" ({ cls := "java/lang/Object", name := "getClass", desc := "()Ljava/lang/Class;" } : Jvm.MethodName) ({ cls := "java/lang/Object", name := "getClass", desc := "()Ljava/lang/Class;" } : Jvm.MethodName)) ∈ lw_all := lw_g (lw_at lw_m3 162 rfl) rfl
theorem q1653 : (Jvm.Cond.castable "java/lang/ArrayIndexOutOfBoundsException" "java/lang/IndexOutOfBoundsException") ∈ lw_tbl := lw_at lw_m7 138 rfl
theorem q1669 : (Jvm.Cond.castable "java/lang/ArrayIndexOutOfBoundsException" "java/lang/Object") ∈ lw_tbl := lw_at lw_m7 154 rfl
theorem in_J7 : ∀ w ∈ wsJ70, w ∈ lw_all := lw_in wsJ70 [413, 414, 415, 416, 417, 418] (by decide +kernel) (by decide +kernel)
/-! java/lang/String -/
set_option maxRecDepth 100000
def RJ8 : String := "java/lang/String"
def TJ8 : u_T := fun k => match k with
  | 0 => ("java/lang/String", "value", "[B", true)
  | _ => ("java/lang/String", "coder", "B", true)
def tyJ8 : Nat → FieldType := fun k => match k with
  | 0 => .array .byte
  | _ => .byte
abbrev wsJ80 : List Cond := u_ws RJ8 TJ8 2
theorem nmJ8 : ∀ a, a < 2 → ∀ b, b < 2 → a ≠ b → (TJ8 a).2.1 ≠ (TJ8 b).2.1 := by decide +kernel
theorem tyJ8_ok : ∀ k, k < 2 → parseFieldDescriptor (TJ8 k).2.2.1 = some (tyJ8 k) := by decide +kernel
abbrev cJ8_length : ByteArray := prog_27_method_54_code
def yJ8_length : MethodName := ⟨RJ8, "length", "()I"⟩
def dkwJ8_length_0 : List UInt8 := [42, 180, 0, 9, 190, 42, 182, 1, 79, 122, 172]
abbrev dktJ8_length_0 : List UInt8 := dkwJ8_length_0 ++ []
theorem dksJ8_length_0 : cJ8_length.data.toList.drop 0 = dktJ8_length_0 := by decide +kernel
theorem dJ8_length_0 : decode cJ8_length 0 = .ok (.aload_n 0, 1) := dk_42 (dk_at dksJ8_length_0 0 rfl rfl)
theorem dJ8_length_1 : decode cJ8_length 1 = .ok (.getfield 9, 3) := dk_180 0 9 (dk_at dksJ8_length_0 1 rfl rfl)
theorem dJ8_length_4 : decode cJ8_length 4 = .ok (.arraylength, 1) := dk_190 (dk_at dksJ8_length_0 4 rfl rfl)
theorem dJ8_length_5 : decode cJ8_length 5 = .ok (.aload_n 0, 1) := dk_42 (dk_at dksJ8_length_0 5 rfl rfl)
theorem dJ8_length_6 : decode cJ8_length 6 = .ok (.invokevirtual 335, 3) := dk_182 1 79 (dk_at dksJ8_length_0 6 rfl rfl)
theorem dJ8_length_9 : decode cJ8_length 9 = .ok (.ishr, 1) := dk_122 (dk_at dksJ8_length_0 9 rfl rfl)
theorem dJ8_length_10 : decode cJ8_length 10 = .ok (.ireturn, 1) := dk_172 (dk_at dksJ8_length_0 10 rfl rfl)
abbrev cJ8_coder : ByteArray := prog_27_method_152_code
def yJ8_coder : MethodName := ⟨RJ8, "coder", "()B"⟩
def dkwJ8_coder_0 : List UInt8 := [178, 0, 38, 153, 0, 10, 42, 180, 0, 15, 167, 0, 4, 4, 172]
abbrev dktJ8_coder_0 : List UInt8 := dkwJ8_coder_0 ++ []
theorem dksJ8_coder_0 : cJ8_coder.data.toList.drop 0 = dktJ8_coder_0 := by decide +kernel
theorem dJ8_coder_0 : decode cJ8_coder 0 = .ok (.getstatic 38, 3) := dk_178 0 38 (dk_at dksJ8_coder_0 0 rfl rfl)
theorem dJ8_coder_3 : decode cJ8_coder 3 = .ok (.ifCond .eq 10, 3) := dk_153 0 10 (dk_at dksJ8_coder_0 3 rfl rfl)
theorem dJ8_coder_6 : decode cJ8_coder 6 = .ok (.aload_n 0, 1) := dk_42 (dk_at dksJ8_coder_0 6 rfl rfl)
theorem dJ8_coder_7 : decode cJ8_coder 7 = .ok (.getfield 15, 3) := dk_180 0 15 (dk_at dksJ8_coder_0 7 rfl rfl)
theorem dJ8_coder_10 : decode cJ8_coder 10 = .ok (.goto 4, 3) := dk_167 0 4 (dk_at dksJ8_coder_0 10 rfl rfl)
theorem dJ8_coder_13 : decode cJ8_coder 13 = .ok (.iconst 1, 1) := dk_4 (dk_at dksJ8_coder_0 13 rfl rfl)
theorem dJ8_coder_14 : decode cJ8_coder 14 = .ok (.ireturn, 1) := dk_172 (dk_at dksJ8_coder_0 14 rfl rfl)
abbrev cJ8_charAt : ByteArray := prog_27_method_56_code
def yJ8_charAt : MethodName := ⟨RJ8, "charAt", "(I)C"⟩
def dkwJ8_charAt_1 : List UInt8 := [172]
abbrev dktJ8_charAt_1 : List UInt8 := dkwJ8_charAt_1 ++ []
def dkwJ8_charAt_0 : List UInt8 := [42, 182, 1, 236, 153, 0, 12, 42, 180, 0, 9, 27, 184, 1, 239, 172, 42, 180, 0, 9, 27, 184, 1, 242]
abbrev dktJ8_charAt_0 : List UInt8 := dkwJ8_charAt_0 ++ dktJ8_charAt_1
theorem dksJ8_charAt_0 : cJ8_charAt.data.toList.drop 0 = dktJ8_charAt_0 := by decide +kernel
theorem dksJ8_charAt_1 : cJ8_charAt.data.toList.drop 24 = dktJ8_charAt_1 := dk_seg dksJ8_charAt_0 24 rfl rfl
theorem dJ8_charAt_0 : decode cJ8_charAt 0 = .ok (.aload_n 0, 1) := dk_42 (dk_at dksJ8_charAt_0 0 rfl rfl)
theorem dJ8_charAt_1 : decode cJ8_charAt 1 = .ok (.invokevirtual 492, 3) := dk_182 1 236 (dk_at dksJ8_charAt_0 1 rfl rfl)
theorem dJ8_charAt_4 : decode cJ8_charAt 4 = .ok (.ifCond .eq 12, 3) := dk_153 0 12 (dk_at dksJ8_charAt_0 4 rfl rfl)
theorem dJ8_charAt_7 : decode cJ8_charAt 7 = .ok (.aload_n 0, 1) := dk_42 (dk_at dksJ8_charAt_0 7 rfl rfl)
theorem dJ8_charAt_8 : decode cJ8_charAt 8 = .ok (.getfield 9, 3) := dk_180 0 9 (dk_at dksJ8_charAt_0 8 rfl rfl)
theorem dJ8_charAt_11 : decode cJ8_charAt 11 = .ok (.iload_n 1, 1) := dk_27 (dk_at dksJ8_charAt_0 11 rfl rfl)
theorem dJ8_charAt_12 : decode cJ8_charAt 12 = .ok (.invokestatic 495, 3) := dk_184 1 239 (dk_at dksJ8_charAt_0 12 rfl rfl)
theorem dJ8_charAt_15 : decode cJ8_charAt 15 = .ok (.ireturn, 1) := dk_172 (dk_at dksJ8_charAt_0 15 rfl rfl)
theorem dJ8_charAt_16 : decode cJ8_charAt 16 = .ok (.aload_n 0, 1) := dk_42 (dk_at dksJ8_charAt_0 16 rfl rfl)
theorem dJ8_charAt_17 : decode cJ8_charAt 17 = .ok (.getfield 9, 3) := dk_180 0 9 (dk_at dksJ8_charAt_0 17 rfl rfl)
theorem dJ8_charAt_20 : decode cJ8_charAt 20 = .ok (.iload_n 1, 1) := dk_27 (dk_at dksJ8_charAt_0 20 rfl rfl)
theorem dJ8_charAt_21 : decode cJ8_charAt 21 = .ok (.invokestatic 498, 3) := dk_184 1 242 (dk_at dksJ8_charAt_0 21 rfl rfl)
theorem dJ8_charAt_24 : decode cJ8_charAt 24 = .ok (.ireturn, 1) := dk_172 (dk_at dksJ8_charAt_1 0 rfl rfl)
abbrev cJ8_isLatin1 : ByteArray := prog_27_method_154_code
def yJ8_isLatin1 : MethodName := ⟨RJ8, "isLatin1", "()Z"⟩
def dkwJ8_isLatin1_0 : List UInt8 := [178, 0, 38, 153, 0, 14, 42, 180, 0, 15, 154, 0, 7, 4, 167, 0, 4, 3, 172]
abbrev dktJ8_isLatin1_0 : List UInt8 := dkwJ8_isLatin1_0 ++ []
theorem dksJ8_isLatin1_0 : cJ8_isLatin1.data.toList.drop 0 = dktJ8_isLatin1_0 := by decide +kernel
theorem dJ8_isLatin1_0 : decode cJ8_isLatin1 0 = .ok (.getstatic 38, 3) := dk_178 0 38 (dk_at dksJ8_isLatin1_0 0 rfl rfl)
theorem dJ8_isLatin1_3 : decode cJ8_isLatin1 3 = .ok (.ifCond .eq 14, 3) := dk_153 0 14 (dk_at dksJ8_isLatin1_0 3 rfl rfl)
theorem dJ8_isLatin1_6 : decode cJ8_isLatin1 6 = .ok (.aload_n 0, 1) := dk_42 (dk_at dksJ8_isLatin1_0 6 rfl rfl)
theorem dJ8_isLatin1_7 : decode cJ8_isLatin1 7 = .ok (.getfield 15, 3) := dk_180 0 15 (dk_at dksJ8_isLatin1_0 7 rfl rfl)
theorem dJ8_isLatin1_10 : decode cJ8_isLatin1 10 = .ok (.ifCond .ne 7, 3) := dk_154 0 7 (dk_at dksJ8_isLatin1_0 10 rfl rfl)
theorem dJ8_isLatin1_13 : decode cJ8_isLatin1 13 = .ok (.iconst 1, 1) := dk_4 (dk_at dksJ8_isLatin1_0 13 rfl rfl)
theorem dJ8_isLatin1_14 : decode cJ8_isLatin1 14 = .ok (.goto 4, 3) := dk_167 0 4 (dk_at dksJ8_isLatin1_0 14 rfl rfl)
theorem dJ8_isLatin1_17 : decode cJ8_isLatin1 17 = .ok (.iconst 0, 1) := dk_3 (dk_at dksJ8_isLatin1_0 17 rfl rfl)
theorem dJ8_isLatin1_18 : decode cJ8_isLatin1 18 = .ok (.ireturn, 1) := dk_172 (dk_at dksJ8_isLatin1_0 18 rfl rfl)
abbrev cJ8_checkIndex : ByteArray := prog_27_method_155_code
def yJ8_checkIndex : MethodName := ⟨RJ8, "checkIndex", "(II)V"⟩
def dkwJ8_checkIndex_0 : List UInt8 := [26, 27, 178, 4, 29, 184, 4, 35, 87, 177]
abbrev dktJ8_checkIndex_0 : List UInt8 := dkwJ8_checkIndex_0 ++ []
theorem dksJ8_checkIndex_0 : cJ8_checkIndex.data.toList.drop 0 = dktJ8_checkIndex_0 := by decide +kernel
theorem dJ8_checkIndex_0 : decode cJ8_checkIndex 0 = .ok (.iload_n 0, 1) := dk_26 (dk_at dksJ8_checkIndex_0 0 rfl rfl)
theorem dJ8_checkIndex_1 : decode cJ8_checkIndex 1 = .ok (.iload_n 1, 1) := dk_27 (dk_at dksJ8_checkIndex_0 1 rfl rfl)
theorem dJ8_checkIndex_2 : decode cJ8_checkIndex 2 = .ok (.getstatic 1053, 3) := dk_178 4 29 (dk_at dksJ8_checkIndex_0 2 rfl rfl)
theorem dJ8_checkIndex_5 : decode cJ8_checkIndex 5 = .ok (.invokestatic 1059, 3) := dk_184 4 35 (dk_at dksJ8_checkIndex_0 5 rfl rfl)
theorem dJ8_checkIndex_8 : decode cJ8_checkIndex 8 = .ok (.pop, 1) := dk_87 (dk_at dksJ8_checkIndex_0 8 rfl rfl)
theorem dJ8_checkIndex_9 : decode cJ8_checkIndex 9 = .ok (.return_, 1) := dk_177 (dk_at dksJ8_checkIndex_0 9 rfl rfl)
theorem q90 : (Jvm.Cond.initialized "java/lang/String") ∈ lw_all := lw_g (lw_at lw_m1 15 rfl) rfl
theorem q426 : (Jvm.Cond.instantiable "java/lang/String" (4 : Nat)) ∈ lw_all := lw_g (lw_at lw_m2 111 rfl) rfl
theorem q427 : (Jvm.Cond.laysFinal "java/lang/String" "java/lang/String" "value" "[B") ∈ lw_all := lw_g (lw_at lw_m2 112 rfl) rfl
theorem q428 : (Jvm.Cond.soleField "java/lang/String" "value") ∈ lw_all := lw_g (lw_at lw_m2 113 rfl) rfl
theorem q429 : (Jvm.Cond.laysFinal "java/lang/String" "java/lang/String" "coder" "B") ∈ lw_all := lw_g (lw_at lw_m2 114 rfl) rfl
theorem q430 : (Jvm.Cond.soleField "java/lang/String" "coder") ∈ lw_all := lw_g (lw_at lw_m2 115 rfl) rfl
theorem q550 : (Jvm.Cond.instanceMethod ({ cls := "java/lang/String", name := "length", desc := "()I" } : Jvm.MethodName)) ∈ lw_all := lw_g (lw_at lw_m2 235 rfl) rfl
theorem q551 : (Jvm.Cond.selects "java/lang/String" ({ cls := "java/lang/String", name := "length", desc := "()I" } : Jvm.MethodName) ({ cls := "java/lang/String", name := "length", desc := "()I" } : Jvm.MethodName)) ∈ lw_all := lw_g (lw_at lw_m2 236 rfl) rfl
theorem q552 : (Jvm.Cond.code ({ cls := "java/lang/String", name := "length", desc := "()I" } : Jvm.MethodName) prog_27_method_54_code (1 : Nat) (Option.some Jvm.ClassFile.FieldType.int)) ∈ lw_all := lw_g (lw_at lw_m2 237 rfl) rfl
theorem q553 : (Jvm.Cond.methodLink "java/lang/String" (335 : Nat) ({ cls := "java/lang/String", name := "coder", desc := "()B" } : Jvm.MethodName)) ∈ lw_all := lw_g (lw_at lw_m2 238 rfl) rfl
theorem q554 : (Jvm.Cond.instanceMethod ({ cls := "java/lang/String", name := "coder", desc := "()B" } : Jvm.MethodName)) ∈ lw_all := lw_g (lw_at lw_m2 239 rfl) rfl
theorem q555 : (Jvm.Cond.selects "java/lang/String" ({ cls := "java/lang/String", name := "coder", desc := "()B" } : Jvm.MethodName) ({ cls := "java/lang/String", name := "coder", desc := "()B" } : Jvm.MethodName)) ∈ lw_all := lw_g (lw_at lw_m3 0 rfl) rfl
theorem q556 : (Jvm.Cond.code ({ cls := "java/lang/String", name := "coder", desc := "()B" } : Jvm.MethodName) prog_27_method_152_code (1 : Nat) (Option.some Jvm.ClassFile.FieldType.byte)) ∈ lw_all := lw_g (lw_at lw_m3 1 rfl) rfl
theorem q557 : (Jvm.Cond.fieldLink "java/lang/String" (38 : Nat) "java/lang/String" "COMPACT_STRINGS" "Z") ∈ lw_all := lw_g (lw_at lw_m3 2 rfl) rfl
theorem q558 : (Jvm.Cond.laysStatic "java/lang/String" "COMPACT_STRINGS" "Z") ∈ lw_tbl := lw_at lw_m3 3 rfl
theorem q560 : (Jvm.Cond.instanceMethod ({ cls := "java/lang/String", name := "charAt", desc := "(I)C" } : Jvm.MethodName)) ∈ lw_all := lw_g (lw_at lw_m3 5 rfl) rfl
theorem q561 : (Jvm.Cond.selects "java/lang/String" ({ cls := "java/lang/String", name := "charAt", desc := "(I)C" } : Jvm.MethodName) ({ cls := "java/lang/String", name := "charAt", desc := "(I)C" } : Jvm.MethodName)) ∈ lw_all := lw_g (lw_at lw_m3 6 rfl) rfl
theorem q562 : (Jvm.Cond.code ({ cls := "java/lang/String", name := "charAt", desc := "(I)C" } : Jvm.MethodName) prog_27_method_56_code (2 : Nat) (Option.some Jvm.ClassFile.FieldType.char)) ∈ lw_all := lw_g (lw_at lw_m3 7 rfl) rfl
theorem q563 : (Jvm.Cond.methodLink "java/lang/String" (492 : Nat) ({ cls := "java/lang/String", name := "isLatin1", desc := "()Z" } : Jvm.MethodName)) ∈ lw_all := lw_g (lw_at lw_m3 8 rfl) rfl
theorem q564 : (Jvm.Cond.instanceMethod ({ cls := "java/lang/String", name := "isLatin1", desc := "()Z" } : Jvm.MethodName)) ∈ lw_all := lw_g (lw_at lw_m3 9 rfl) rfl
theorem q565 : (Jvm.Cond.selects "java/lang/String" ({ cls := "java/lang/String", name := "isLatin1", desc := "()Z" } : Jvm.MethodName) ({ cls := "java/lang/String", name := "isLatin1", desc := "()Z" } : Jvm.MethodName)) ∈ lw_all := lw_g (lw_at lw_m3 10 rfl) rfl
theorem q566 : (Jvm.Cond.code ({ cls := "java/lang/String", name := "isLatin1", desc := "()Z" } : Jvm.MethodName) prog_27_method_154_code (1 : Nat) (Option.some Jvm.ClassFile.FieldType.boolean)) ∈ lw_all := lw_g (lw_at lw_m3 11 rfl) rfl
theorem q567 : (Jvm.Cond.methodLink "java/lang/String" (495 : Nat) ({ cls := "java/lang/StringLatin1", name := "charAt", desc := "([BI)C" } : Jvm.MethodName)) ∈ lw_all := lw_g (lw_at lw_m3 12 rfl) rfl
theorem q571 : (Jvm.Cond.static ({ cls := "java/lang/String", name := "checkIndex", desc := "(II)V" } : Jvm.MethodName)) ∈ lw_all := lw_g (lw_at lw_m3 16 rfl) rfl
theorem q572 : (Jvm.Cond.code ({ cls := "java/lang/String", name := "checkIndex", desc := "(II)V" } : Jvm.MethodName) prog_27_method_155_code (2 : Nat) (Option.none : Option Jvm.ClassFile.FieldType)) ∈ lw_all := lw_g (lw_at lw_m3 17 rfl) rfl
theorem q573 : (Jvm.Cond.fieldLink "java/lang/String" (1053 : Nat) "jdk/internal/util/Preconditions" "SIOOBE_FORMATTER" "Ljava/util/function/BiFunction;") ∈ lw_all := lw_g (lw_at lw_m3 18 rfl) rfl
theorem q575 : (Jvm.Cond.methodLink "java/lang/String" (1059 : Nat) ({ cls := "jdk/internal/util/Preconditions", name := "checkIndex", desc := "(IILjava/util/function/BiFunction;)I" } : Jvm.MethodName)) ∈ lw_all := lw_g (lw_at lw_m3 20 rfl) rfl
theorem q578 : (Jvm.Cond.methodLink "java/lang/String" (498 : Nat) ({ cls := "java/lang/StringUTF16", name := "charAt", desc := "([BI)C" } : Jvm.MethodName)) ∈ lw_all := lw_g (lw_at lw_m3 23 rfl) rfl
theorem q1679 : (Jvm.Cond.castable "java/lang/String" "java/lang/Object") ∈ lw_tbl := lw_at lw_m7 164 rfl
theorem q1689 : (Jvm.Cond.fieldLink "java/lang/String" (9 : Nat) "java/lang/String" "value" "[B") ∈ lw_all := lw_g (lw_at lw_m7 174 rfl) rfl
theorem q1690 : (Jvm.Cond.fieldLink "java/lang/String" (15 : Nat) "java/lang/String" "coder" "B") ∈ lw_all := lw_g (lw_at lw_m7 175 rfl) rfl
theorem in_J8 : ∀ w ∈ wsJ80, w ∈ lw_all := lw_in wsJ80 [427, 429] (by decide +kernel) (by decide +kernel)
/-! java/lang/StringLatin1 -/
set_option maxRecDepth 100000
def RJ9 : String := "java/lang/StringLatin1"
abbrev cJ9_charAt : ByteArray := prog_28_method_2_code
def yJ9_charAt : MethodName := ⟨RJ9, "charAt", "([BI)C"⟩
def dkwJ9_charAt_0 : List UInt8 := [27, 42, 190, 184, 0, 9, 42, 27, 51, 17, 0, 255, 126, 146, 172]
abbrev dktJ9_charAt_0 : List UInt8 := dkwJ9_charAt_0 ++ []
theorem dksJ9_charAt_0 : cJ9_charAt.data.toList.drop 0 = dktJ9_charAt_0 := by decide +kernel
theorem dJ9_charAt_0 : decode cJ9_charAt 0 = .ok (.iload_n 1, 1) := dk_27 (dk_at dksJ9_charAt_0 0 rfl rfl)
theorem dJ9_charAt_1 : decode cJ9_charAt 1 = .ok (.aload_n 0, 1) := dk_42 (dk_at dksJ9_charAt_0 1 rfl rfl)
theorem dJ9_charAt_2 : decode cJ9_charAt 2 = .ok (.arraylength, 1) := dk_190 (dk_at dksJ9_charAt_0 2 rfl rfl)
theorem dJ9_charAt_3 : decode cJ9_charAt 3 = .ok (.invokestatic 9, 3) := dk_184 0 9 (dk_at dksJ9_charAt_0 3 rfl rfl)
theorem dJ9_charAt_6 : decode cJ9_charAt 6 = .ok (.aload_n 0, 1) := dk_42 (dk_at dksJ9_charAt_0 6 rfl rfl)
theorem dJ9_charAt_7 : decode cJ9_charAt 7 = .ok (.iload_n 1, 1) := dk_27 (dk_at dksJ9_charAt_0 7 rfl rfl)
theorem dJ9_charAt_8 : decode cJ9_charAt 8 = .ok (.baload, 1) := dk_51 (dk_at dksJ9_charAt_0 8 rfl rfl)
theorem dJ9_charAt_9 : decode cJ9_charAt 9 = .ok (.sipush 255, 3) := dk_17 0 255 (dk_at dksJ9_charAt_0 9 rfl rfl)
theorem dJ9_charAt_12 : decode cJ9_charAt 12 = .ok (.iand, 1) := dk_126 (dk_at dksJ9_charAt_0 12 rfl rfl)
theorem dJ9_charAt_13 : decode cJ9_charAt 13 = .ok (.i2c, 1) := dk_146 (dk_at dksJ9_charAt_0 13 rfl rfl)
theorem dJ9_charAt_14 : decode cJ9_charAt 14 = .ok (.ireturn, 1) := dk_172 (dk_at dksJ9_charAt_0 14 rfl rfl)
theorem q94 : (Jvm.Cond.initialized "java/lang/StringLatin1") ∈ lw_all := lw_g (lw_at lw_m1 19 rfl) rfl
theorem q568 : (Jvm.Cond.static ({ cls := "java/lang/StringLatin1", name := "charAt", desc := "([BI)C" } : Jvm.MethodName)) ∈ lw_all := lw_g (lw_at lw_m3 13 rfl) rfl
theorem q569 : (Jvm.Cond.code ({ cls := "java/lang/StringLatin1", name := "charAt", desc := "([BI)C" } : Jvm.MethodName) prog_28_method_2_code (2 : Nat) (Option.some Jvm.ClassFile.FieldType.char)) ∈ lw_all := lw_g (lw_at lw_m3 14 rfl) rfl
theorem q570 : (Jvm.Cond.methodLink "java/lang/StringLatin1" (9 : Nat) ({ cls := "java/lang/String", name := "checkIndex", desc := "(II)V" } : Jvm.MethodName)) ∈ lw_all := lw_g (lw_at lw_m3 15 rfl) rfl
theorem q75 : (Jvm.Cond.initialized "PromisePoundsLaw") ∈ lw_all := lw_g (lw_at lw_m1 0 rfl) rfl
set_option maxRecDepth 100000
theorem q109 : (Jvm.Cond.classLink "PromisePoundsLaw" (7 : Nat) "PromisePounds") ∈ lw_all := lw_g (lw_at lw_m1 34 rfl) rfl
theorem q111 : (Jvm.Cond.methodLink "PromisePoundsLaw" (9 : Nat) ({ cls := "PromisePounds", name := "<init>", desc := "()V" } : Jvm.MethodName)) ∈ lw_all := lw_g (lw_at lw_m1 36 rfl) rfl
theorem q276 : (Jvm.Cond.methodLink "PromisePoundsLaw" (13 : Nat) ({ cls := "PromisePounds", name := "row", desc := "(III)I" } : Jvm.MethodName)) ∈ lw_all := lw_g (lw_at lw_m1 201 rfl) rfl
theorem q381 : (Jvm.Cond.methodLink "PromisePoundsLaw" (18 : Nat) ({ cls := "PromisePounds", name := "set", desc := "(III)I" } : Jvm.MethodName)) ∈ lw_all := lw_g (lw_at lw_m2 66 rfl) rfl
theorem q393 : (Jvm.Cond.methodLink "PromisePoundsLaw" (22 : Nat) ({ cls := "PromisePounds", name := "copy", desc := "(IIIII)I" } : Jvm.MethodName)) ∈ lw_all := lw_g (lw_at lw_m2 78 rfl) rfl
theorem q434 : (Jvm.Cond.methodLink "PromisePoundsLaw" (27 : Nat) ({ cls := "PromisePounds", name := "drop", desc := "(I)I" } : Jvm.MethodName)) ∈ lw_all := lw_g (lw_at lw_m2 119 rfl) rfl
theorem q438 : (Jvm.Cond.methodLink "PromisePoundsLaw" (32 : Nat) ({ cls := "PromisePounds", name := "feed", desc := "(I)I" } : Jvm.MethodName)) ∈ lw_all := lw_g (lw_at lw_m2 123 rfl) rfl
theorem q444 : (Jvm.Cond.methodLink "PromisePoundsLaw" (36 : Nat) ({ cls := "PromisePounds", name := "parish", desc := "()I" } : Jvm.MethodName)) ∈ lw_all := lw_g (lw_at lw_m2 129 rfl) rfl
theorem q748 : (Jvm.Cond.methodLink "PromisePoundsLaw" (41 : Nat) ({ cls := "PromisePounds", name := "fault", desc := "()I" } : Jvm.MethodName)) ∈ lw_all := lw_g (lw_at lw_m3 193 rfl) rfl
theorem q752 : (Jvm.Cond.methodLink "PromisePoundsLaw" (45 : Nat) ({ cls := "PromisePounds", name := "undo", desc := "()I" } : Jvm.MethodName)) ∈ lw_all := lw_g (lw_at lw_m3 197 rfl) rfl
theorem q757 : (Jvm.Cond.methodLink "PromisePoundsLaw" (49 : Nat) ({ cls := "PromisePounds", name := "walk", desc := "(II)I" } : Jvm.MethodName)) ∈ lw_all := lw_g (lw_at lw_m3 202 rfl) rfl
theorem q834 : (Jvm.Cond.methodLink "PromisePoundsLaw" (54 : Nat) ({ cls := "PromisePounds", name := "give", desc := "(IIIII)I" } : Jvm.MethodName)) ∈ lw_all := lw_g (lw_at lw_m4 39 rfl) rfl
theorem q845 : (Jvm.Cond.methodLink "PromisePoundsLaw" (58 : Nat) ({ cls := "PromisePounds", name := "redeem", desc := "(I)I" } : Jvm.MethodName)) ∈ lw_all := lw_g (lw_at lw_m4 50 rfl) rfl
theorem q854 : (Jvm.Cond.methodLink "PromisePoundsLaw" (62 : Nat) ({ cls := "PromisePounds", name := "pass", desc := "(II)I" } : Jvm.MethodName)) ∈ lw_all := lw_g (lw_at lw_m4 59 rfl) rfl
theorem q859 : (Jvm.Cond.methodLink "PromisePoundsLaw" (66 : Nat) ({ cls := "PromisePounds", name := "days", desc := "(I)I" } : Jvm.MethodName)) ∈ lw_all := lw_g (lw_at lw_m4 64 rfl) rfl
theorem q885 : (Jvm.Cond.methodLink "PromisePoundsLaw" (70 : Nat) ({ cls := "PromisePounds", name := "person", desc := "(II)I" } : Jvm.MethodName)) ∈ lw_all := lw_g (lw_at lw_m4 90 rfl) rfl
theorem q897 : (Jvm.Cond.methodLink "PromisePoundsLaw" (74 : Nat) ({ cls := "PromisePounds", name := "promise", desc := "(II)I" } : Jvm.MethodName)) ∈ lw_all := lw_g (lw_at lw_m4 102 rfl) rfl
theorem q902 : (Jvm.Cond.methodLink "PromisePoundsLaw" (78 : Nat) ({ cls := "PromisePounds", name := "height", desc := "(I)I" } : Jvm.MethodName)) ∈ lw_all := lw_g (lw_at lw_m4 107 rfl) rfl
theorem q906 : (Jvm.Cond.methodLink "PromisePoundsLaw" (82 : Nat) ({ cls := "PromisePounds", name := "gets", desc := "(III)I" } : Jvm.MethodName)) ∈ lw_all := lw_g (lw_at lw_m4 111 rfl) rfl
theorem q919 : (Jvm.Cond.methodLink "PromisePoundsLaw" (86 : Nat) ({ cls := "PromisePounds", name := "keeps", desc := "(II)I" } : Jvm.MethodName)) ∈ lw_all := lw_g (lw_at lw_m4 124 rfl) rfl
theorem q942 : (Jvm.Cond.methodLink "PromisePoundsLaw" (90 : Nat) ({ cls := "PromisePounds", name := "frees", desc := "(I)I" } : Jvm.MethodName)) ∈ lw_all := lw_g (lw_at lw_m4 147 rfl) rfl
theorem q952 : (Jvm.Cond.methodLink "PromisePoundsLaw" (94 : Nat) ({ cls := "PromisePounds", name := "boat", desc := "(I)I" } : Jvm.MethodName)) ∈ lw_all := lw_g (lw_at lw_m4 157 rfl) rfl
theorem q968 : (Jvm.Cond.methodLink "PromisePoundsLaw" (98 : Nat) ({ cls := "PromisePounds", name := "votes", desc := "(I)I" } : Jvm.MethodName)) ∈ lw_all := lw_g (lw_at lw_m4 173 rfl) rfl
theorem q1002 : (Jvm.Cond.methodLink "PromisePoundsLaw" (102 : Nat) ({ cls := "PromisePounds", name := "wins", desc := "()I" } : Jvm.MethodName)) ∈ lw_all := lw_g (lw_at lw_m4 207 rfl) rfl
theorem q1006 : (Jvm.Cond.methodLink "PromisePoundsLaw" (106 : Nat) ({ cls := "PromisePounds", name := "law", desc := "()I" } : Jvm.MethodName)) ∈ lw_all := lw_g (lw_at lw_m4 211 rfl) rfl
theorem q1011 : (Jvm.Cond.methodLink "PromisePoundsLaw" (110 : Nat) ({ cls := "PromisePounds", name := "scale", desc := "(II)I" } : Jvm.MethodName)) ∈ lw_all := lw_g (lw_at lw_m4 216 rfl) rfl
theorem q1024 : (Jvm.Cond.methodLink "PromisePoundsLaw" (114 : Nat) ({ cls := "PromisePounds", name := "lies", desc := "(II)I" } : Jvm.MethodName)) ∈ lw_all := lw_g (lw_at lw_m4 229 rfl) rfl
theorem q1034 : (Jvm.Cond.methodLink "PromisePoundsLaw" (118 : Nat) ({ cls := "PromisePounds", name := "crushed", desc := "(I)I" } : Jvm.MethodName)) ∈ lw_all := lw_g (lw_at lw_m4 239 rfl) rfl
theorem q1039 : (Jvm.Cond.methodLink "PromisePoundsLaw" (122 : Nat) ({ cls := "PromisePounds", name := "late", desc := "()I" } : Jvm.MethodName)) ∈ lw_all := lw_g (lw_at lw_m5 4 rfl) rfl
theorem q1043 : (Jvm.Cond.methodLink "PromisePoundsLaw" (126 : Nat) ({ cls := "PromisePounds", name := "year", desc := "(III)I" } : Jvm.MethodName)) ∈ lw_all := lw_g (lw_at lw_m5 8 rfl) rfl
theorem q1050 : (Jvm.Cond.methodLink "PromisePoundsLaw" (130 : Nat) ({ cls := "PromisePounds", name := "image", desc := "(I)I" } : Jvm.MethodName)) ∈ lw_all := lw_g (lw_at lw_m5 15 rfl) rfl
theorem q1054 : (Jvm.Cond.methodLink "PromisePoundsLaw" (134 : Nat) ({ cls := "PromisePounds", name := "restore", desc := "(I)I" } : Jvm.MethodName)) ∈ lw_all := lw_g (lw_at lw_m5 19 rfl) rfl
theorem q1058 : (Jvm.Cond.methodLink "PromisePoundsLaw" (138 : Nat) ({ cls := "PromisePounds", name := "kind", desc := "(I)I" } : Jvm.MethodName)) ∈ lw_all := lw_g (lw_at lw_m5 23 rfl) rfl
theorem q1080 : (Jvm.Cond.methodLink "PromisePoundsLaw" (142 : Nat) ({ cls := "PromisePounds", name := "as", desc := "(II)I" } : Jvm.MethodName)) ∈ lw_all := lw_g (lw_at lw_m5 45 rfl) rfl
theorem q1107 : (Jvm.Cond.methodLink "PromisePoundsLaw" (146 : Nat) ({ cls := "PromisePounds", name := "ask", desc := "(II)I" } : Jvm.MethodName)) ∈ lw_all := lw_g (lw_at lw_m5 72 rfl) rfl
theorem q1194 : (Jvm.Cond.methodLink "PromisePoundsLaw" (150 : Nat) ({ cls := "PromisePounds", name := "trace", desc := "(I)I" } : Jvm.MethodName)) ∈ lw_all := lw_g (lw_at lw_m5 159 rfl) rfl
theorem q1198 : (Jvm.Cond.methodLink "PromisePoundsLaw" (154 : Nat) ({ cls := "PromisePounds", name := "count", desc := "(I)I" } : Jvm.MethodName)) ∈ lw_all := lw_g (lw_at lw_m5 163 rfl) rfl
theorem q1202 : (Jvm.Cond.methodLink "PromisePoundsLaw" (158 : Nat) ({ cls := "PromisePounds", name := "status", desc := "()I" } : Jvm.MethodName)) ∈ lw_all := lw_g (lw_at lw_m5 167 rfl) rfl
theorem q1206 : (Jvm.Cond.classLink "PromisePoundsLaw" (10 : Nat) "PromisePoundsModel") ∈ lw_all := lw_g (lw_at lw_m5 171 rfl) rfl
theorem q1208 : (Jvm.Cond.methodLink "PromisePoundsLaw" (12 : Nat) ({ cls := "PromisePoundsModel", name := "<init>", desc := "()V" } : Jvm.MethodName)) ∈ lw_all := lw_g (lw_at lw_m5 173 rfl) rfl
theorem q1286 : (Jvm.Cond.methodLink "PromisePoundsLaw" (17 : Nat) ({ cls := "PromisePoundsModel", name := "row", desc := "(III)I" } : Jvm.MethodName)) ∈ lw_all := lw_g (lw_at lw_m6 11 rfl) rfl
theorem q1308 : (Jvm.Cond.methodLink "PromisePoundsLaw" (21 : Nat) ({ cls := "PromisePoundsModel", name := "set", desc := "(III)I" } : Jvm.MethodName)) ∈ lw_all := lw_g (lw_at lw_m6 33 rfl) rfl
theorem q1319 : (Jvm.Cond.methodLink "PromisePoundsLaw" (26 : Nat) ({ cls := "PromisePoundsModel", name := "copy", desc := "(IIIII)I" } : Jvm.MethodName)) ∈ lw_all := lw_g (lw_at lw_m6 44 rfl) rfl
theorem q1323 : (Jvm.Cond.methodLink "PromisePoundsLaw" (31 : Nat) ({ cls := "PromisePoundsModel", name := "drop", desc := "(I)I" } : Jvm.MethodName)) ∈ lw_all := lw_g (lw_at lw_m6 48 rfl) rfl
theorem q1327 : (Jvm.Cond.methodLink "PromisePoundsLaw" (35 : Nat) ({ cls := "PromisePoundsModel", name := "feed", desc := "(I)I" } : Jvm.MethodName)) ∈ lw_all := lw_g (lw_at lw_m6 52 rfl) rfl
theorem q1333 : (Jvm.Cond.methodLink "PromisePoundsLaw" (40 : Nat) ({ cls := "PromisePoundsModel", name := "parish", desc := "()I" } : Jvm.MethodName)) ∈ lw_all := lw_g (lw_at lw_m6 58 rfl) rfl
theorem q1383 : (Jvm.Cond.methodLink "PromisePoundsLaw" (44 : Nat) ({ cls := "PromisePoundsModel", name := "fault", desc := "()I" } : Jvm.MethodName)) ∈ lw_all := lw_g (lw_at lw_m6 108 rfl) rfl
theorem q1387 : (Jvm.Cond.methodLink "PromisePoundsLaw" (48 : Nat) ({ cls := "PromisePoundsModel", name := "undo", desc := "()I" } : Jvm.MethodName)) ∈ lw_all := lw_g (lw_at lw_m6 112 rfl) rfl
theorem q1392 : (Jvm.Cond.methodLink "PromisePoundsLaw" (53 : Nat) ({ cls := "PromisePoundsModel", name := "walk", desc := "(II)I" } : Jvm.MethodName)) ∈ lw_all := lw_g (lw_at lw_m6 117 rfl) rfl
theorem q1424 : (Jvm.Cond.methodLink "PromisePoundsLaw" (57 : Nat) ({ cls := "PromisePoundsModel", name := "give", desc := "(IIIII)I" } : Jvm.MethodName)) ∈ lw_all := lw_g (lw_at lw_m6 149 rfl) rfl
theorem q1430 : (Jvm.Cond.methodLink "PromisePoundsLaw" (61 : Nat) ({ cls := "PromisePoundsModel", name := "redeem", desc := "(I)I" } : Jvm.MethodName)) ∈ lw_all := lw_g (lw_at lw_m6 155 rfl) rfl
theorem q1438 : (Jvm.Cond.methodLink "PromisePoundsLaw" (65 : Nat) ({ cls := "PromisePoundsModel", name := "pass", desc := "(II)I" } : Jvm.MethodName)) ∈ lw_all := lw_g (lw_at lw_m6 163 rfl) rfl
theorem q1442 : (Jvm.Cond.methodLink "PromisePoundsLaw" (69 : Nat) ({ cls := "PromisePoundsModel", name := "days", desc := "(I)I" } : Jvm.MethodName)) ∈ lw_all := lw_g (lw_at lw_m6 167 rfl) rfl
theorem q1455 : (Jvm.Cond.methodLink "PromisePoundsLaw" (73 : Nat) ({ cls := "PromisePoundsModel", name := "person", desc := "(II)I" } : Jvm.MethodName)) ∈ lw_all := lw_g (lw_at lw_m6 180 rfl) rfl
theorem q1464 : (Jvm.Cond.methodLink "PromisePoundsLaw" (77 : Nat) ({ cls := "PromisePoundsModel", name := "promise", desc := "(II)I" } : Jvm.MethodName)) ∈ lw_all := lw_g (lw_at lw_m6 189 rfl) rfl
theorem q1469 : (Jvm.Cond.methodLink "PromisePoundsLaw" (81 : Nat) ({ cls := "PromisePoundsModel", name := "height", desc := "(I)I" } : Jvm.MethodName)) ∈ lw_all := lw_g (lw_at lw_m6 194 rfl) rfl
theorem q1473 : (Jvm.Cond.methodLink "PromisePoundsLaw" (85 : Nat) ({ cls := "PromisePoundsModel", name := "gets", desc := "(III)I" } : Jvm.MethodName)) ∈ lw_all := lw_g (lw_at lw_m6 198 rfl) rfl
theorem q1477 : (Jvm.Cond.methodLink "PromisePoundsLaw" (89 : Nat) ({ cls := "PromisePoundsModel", name := "keeps", desc := "(II)I" } : Jvm.MethodName)) ∈ lw_all := lw_g (lw_at lw_m6 202 rfl) rfl
theorem q1493 : (Jvm.Cond.methodLink "PromisePoundsLaw" (93 : Nat) ({ cls := "PromisePoundsModel", name := "frees", desc := "(I)I" } : Jvm.MethodName)) ∈ lw_all := lw_g (lw_at lw_m6 218 rfl) rfl
theorem q1502 : (Jvm.Cond.methodLink "PromisePoundsLaw" (97 : Nat) ({ cls := "PromisePoundsModel", name := "boat", desc := "(I)I" } : Jvm.MethodName)) ∈ lw_all := lw_g (lw_at lw_m6 227 rfl) rfl
theorem q1507 : (Jvm.Cond.methodLink "PromisePoundsLaw" (101 : Nat) ({ cls := "PromisePoundsModel", name := "votes", desc := "(I)I" } : Jvm.MethodName)) ∈ lw_all := lw_g (lw_at lw_m6 232 rfl) rfl
theorem q1519 : (Jvm.Cond.methodLink "PromisePoundsLaw" (105 : Nat) ({ cls := "PromisePoundsModel", name := "wins", desc := "()I" } : Jvm.MethodName)) ∈ lw_all := lw_g (lw_at lw_m7 4 rfl) rfl
theorem q1523 : (Jvm.Cond.methodLink "PromisePoundsLaw" (109 : Nat) ({ cls := "PromisePoundsModel", name := "law", desc := "()I" } : Jvm.MethodName)) ∈ lw_all := lw_g (lw_at lw_m7 8 rfl) rfl
theorem q1531 : (Jvm.Cond.methodLink "PromisePoundsLaw" (113 : Nat) ({ cls := "PromisePoundsModel", name := "scale", desc := "(II)I" } : Jvm.MethodName)) ∈ lw_all := lw_g (lw_at lw_m7 16 rfl) rfl
theorem q1536 : (Jvm.Cond.methodLink "PromisePoundsLaw" (117 : Nat) ({ cls := "PromisePoundsModel", name := "lies", desc := "(II)I" } : Jvm.MethodName)) ∈ lw_all := lw_g (lw_at lw_m7 21 rfl) rfl
theorem q1540 : (Jvm.Cond.methodLink "PromisePoundsLaw" (121 : Nat) ({ cls := "PromisePoundsModel", name := "crushed", desc := "(I)I" } : Jvm.MethodName)) ∈ lw_all := lw_g (lw_at lw_m7 25 rfl) rfl
theorem q1557 : (Jvm.Cond.methodLink "PromisePoundsLaw" (125 : Nat) ({ cls := "PromisePoundsModel", name := "late", desc := "()I" } : Jvm.MethodName)) ∈ lw_all := lw_g (lw_at lw_m7 42 rfl) rfl
theorem q1561 : (Jvm.Cond.methodLink "PromisePoundsLaw" (129 : Nat) ({ cls := "PromisePoundsModel", name := "year", desc := "(III)I" } : Jvm.MethodName)) ∈ lw_all := lw_g (lw_at lw_m7 46 rfl) rfl
theorem q1568 : (Jvm.Cond.methodLink "PromisePoundsLaw" (133 : Nat) ({ cls := "PromisePoundsModel", name := "image", desc := "(I)I" } : Jvm.MethodName)) ∈ lw_all := lw_g (lw_at lw_m7 53 rfl) rfl
theorem q1572 : (Jvm.Cond.methodLink "PromisePoundsLaw" (137 : Nat) ({ cls := "PromisePoundsModel", name := "restore", desc := "(I)I" } : Jvm.MethodName)) ∈ lw_all := lw_g (lw_at lw_m7 57 rfl) rfl
theorem q1576 : (Jvm.Cond.methodLink "PromisePoundsLaw" (141 : Nat) ({ cls := "PromisePoundsModel", name := "kind", desc := "(I)I" } : Jvm.MethodName)) ∈ lw_all := lw_g (lw_at lw_m7 61 rfl) rfl
theorem q1580 : (Jvm.Cond.methodLink "PromisePoundsLaw" (145 : Nat) ({ cls := "PromisePoundsModel", name := "as", desc := "(II)I" } : Jvm.MethodName)) ∈ lw_all := lw_g (lw_at lw_m7 65 rfl) rfl
theorem q1587 : (Jvm.Cond.methodLink "PromisePoundsLaw" (149 : Nat) ({ cls := "PromisePoundsModel", name := "ask", desc := "(II)I" } : Jvm.MethodName)) ∈ lw_all := lw_g (lw_at lw_m7 72 rfl) rfl
theorem q1627 : (Jvm.Cond.methodLink "PromisePoundsLaw" (153 : Nat) ({ cls := "PromisePoundsModel", name := "trace", desc := "(I)I" } : Jvm.MethodName)) ∈ lw_all := lw_g (lw_at lw_m7 112 rfl) rfl
theorem q1631 : (Jvm.Cond.methodLink "PromisePoundsLaw" (157 : Nat) ({ cls := "PromisePoundsModel", name := "count", desc := "(I)I" } : Jvm.MethodName)) ∈ lw_all := lw_g (lw_at lw_m7 116 rfl) rfl
theorem q1643 : (Jvm.Cond.methodLink "PromisePoundsLaw" (161 : Nat) ({ cls := "PromisePoundsModel", name := "status", desc := "()I" } : Jvm.MethodName)) ∈ lw_all := lw_g (lw_at lw_m7 128 rfl) rfl
theorem q1684 : (Jvm.Cond.castable "[B" "java/lang/Object") ∈ lw_tbl := lw_at lw_m7 169 rfl
set_option maxRecDepth 100000
theorem q1685 : (Jvm.Cond.castable "[I" "java/lang/Object") ∈ lw_tbl := lw_at lw_m7 170 rfl
set_option maxRecDepth 100000
theorem q1686 : (Jvm.Cond.castable "[LPromisePounds$Parish;" "java/lang/Object") ∈ lw_tbl := lw_at lw_m7 171 rfl
set_option maxRecDepth 100000
theorem q1683 : (Jvm.Cond.castable "[LPromisePounds$Row;" "java/lang/Object") ∈ lw_tbl := lw_at lw_m7 168 rfl
set_option maxRecDepth 100000
theorem q1680 : (Jvm.Cond.sameMethod "[Ljava/lang/Object;" "java/lang/Object" "getClass" "()Ljava/lang/Class;") ∈ lw_all := lw_g (lw_at lw_m7 165 rfl) rfl
set_option maxRecDepth 100000
theorem q1681 : (Jvm.Cond.selects "[Ljava/lang/Object;" ({ cls := "java/lang/Object", name := "getClass", desc := "()Ljava/lang/Class;" } : Jvm.MethodName) ({ cls := "java/lang/Object", name := "getClass", desc := "()Ljava/lang/Class;" } : Jvm.MethodName)) ∈ lw_all := lw_g (lw_at lw_m7 166 rfl) rfl
theorem q1687 : (Jvm.Cond.castable "[Ljava/lang/Object;" "java/lang/Object") ∈ lw_tbl := lw_at lw_m7 172 rfl
theorem q1688 : (Jvm.Cond.castable "[Z" "java/lang/Object") ∈ lw_tbl := lw_at lw_m7 173 rfl
set_option maxRecDepth 100000
theorem q91 : (Jvm.Cond.initialized "java/lang/System") ∈ lw_all := lw_g (lw_at lw_m1 16 rfl) rfl
set_option maxRecDepth 100000
theorem q432 : (Jvm.Cond.static ({ cls := "java/lang/System", name := "arraycopy", desc := "(Ljava/lang/Object;ILjava/lang/Object;II)V" } : Jvm.MethodName)) ∈ lw_all := lw_g (lw_at lw_m2 117 rfl) rfl
theorem q433 : (Jvm.Cond.native ({ cls := "java/lang/System", name := "arraycopy", desc := "(Ljava/lang/Object;ILjava/lang/Object;II)V" } : Jvm.MethodName)) ∈ lw_all := lw_g (lw_at lw_m2 118 rfl) rfl
theorem q607 : (Jvm.Cond.interfaceMethod "java/util/List" "java/util/List" "size" "()I") ∈ lw_tbl := lw_at lw_m3 52 rfl
set_option maxRecDepth 100000
theorem q608 : (Jvm.Cond.declares ({ cls := "java/util/List", name := "size", desc := "()I" } : Jvm.MethodName)) ∈ lw_tbl := lw_at lw_m3 53 rfl
theorem q669 : (Jvm.Cond.interfaceMethod "java/util/List" "java/util/List" "add" "(Ljava/lang/Object;)Z") ∈ lw_tbl := lw_at lw_m3 114 rfl
theorem q670 : (Jvm.Cond.declares ({ cls := "java/util/List", name := "add", desc := "(Ljava/lang/Object;)Z" } : Jvm.MethodName)) ∈ lw_tbl := lw_at lw_m3 115 rfl
theorem q788 : (Jvm.Cond.interfaceMethod "java/util/List" "java/util/List" "get" "(I)Ljava/lang/Object;") ∈ lw_tbl := lw_at lw_m3 233 rfl
theorem q789 : (Jvm.Cond.declares ({ cls := "java/util/List", name := "get", desc := "(I)Ljava/lang/Object;" } : Jvm.MethodName)) ∈ lw_tbl := lw_at lw_m3 234 rfl
theorem q118 : (Jvm.Cond.arrayOver (Jvm.ClassFile.FieldType.object "PromisePounds$Row")) ∈ lw_tbl := lw_at lw_m1 43 rfl
set_option maxRecDepth 100000
theorem q151 : (Jvm.Cond.arrayClass Jvm.ClassFile.FieldType.byte) ∈ lw_all := lw_g (lw_at lw_m1 76 rfl) rfl
theorem q152 : (Jvm.Cond.arrayClass Jvm.ClassFile.FieldType.int) ∈ lw_all := lw_g (lw_at lw_m1 77 rfl) rfl
theorem q208 : (Jvm.Cond.arrayOver (Jvm.ClassFile.FieldType.object "PromisePounds$Parish")) ∈ lw_tbl := lw_at lw_m1 133 rfl
theorem q725 : (Jvm.Cond.arrayOver (Jvm.ClassFile.FieldType.object "java/lang/Object")) ∈ lw_tbl := lw_at lw_m3 170 rfl
theorem q1285 : (Jvm.Cond.arrayClass Jvm.ClassFile.FieldType.boolean) ∈ lw_all := lw_g (lw_at lw_m6 10 rfl) rfl
/-! the law's own entry -/
set_option maxRecDepth 100000
abbrev cL_law : ByteArray := code
def dkwL_law_45 : List UInt8 := [43, 182, 0, 158, 44, 182, 0, 161, 159, 0, 5, 3, 172, 132, 3, 6, 167, 251, 95, 4, 172]
abbrev dktL_law_45 : List UInt8 := dkwL_law_45 ++ []
def dkwL_law_44 : List UInt8 := [172, 43, 42, 29, 4, 96, 46, 182, 0, 154, 44, 42, 29, 4, 96, 46, 182, 0, 157, 159, 0, 18, 3, 172]
abbrev dktL_law_44 : List UInt8 := dkwL_law_44 ++ dktL_law_45
def dkwL_law_43 : List UInt8 := [3, 172, 43, 42, 29, 4, 96, 46, 182, 0, 150, 44, 42, 29, 4, 96, 46, 182, 0, 153, 159, 0, 41, 3]
abbrev dktL_law_43 : List UInt8 := dkwL_law_43 ++ dktL_law_44
def dkwL_law_42 : List UInt8 := [29, 5, 96, 46, 182, 0, 146, 44, 42, 29, 4, 96, 46, 42, 29, 5, 96, 46, 182, 0, 149, 159, 0, 64]
abbrev dktL_law_42 : List UInt8 := dkwL_law_42 ++ dktL_law_43
def dkwL_law_41 : List UInt8 := [29, 4, 96, 46, 42, 29, 5, 96, 46, 182, 0, 145, 159, 0, 97, 3, 172, 43, 42, 29, 4, 96, 46, 42]
abbrev dktL_law_41 : List UInt8 := dkwL_law_41 ++ dktL_law_42
def dkwL_law_40 : List UInt8 := [182, 0, 141, 159, 0, 130, 3, 172, 43, 42, 29, 4, 96, 46, 42, 29, 5, 96, 46, 182, 0, 142, 44, 42]
abbrev dktL_law_40 : List UInt8 := dkwL_law_40 ++ dktL_law_41
def dkwL_law_39 : List UInt8 := [182, 0, 137, 159, 0, 153, 3, 172, 43, 42, 29, 4, 96, 46, 182, 0, 138, 44, 42, 29, 4, 96, 46]
abbrev dktL_law_39 : List UInt8 := dkwL_law_39 ++ dktL_law_40
def dkwL_law_38 : List UInt8 := [182, 0, 133, 159, 0, 176, 3, 172, 43, 42, 29, 4, 96, 46, 182, 0, 134, 44, 42, 29, 4, 96, 46]
abbrev dktL_law_38 : List UInt8 := dkwL_law_38 ++ dktL_law_39
def dkwL_law_37 : List UInt8 := [46, 182, 0, 129, 159, 0, 199, 3, 172, 43, 42, 29, 4, 96, 46, 182, 0, 130, 44, 42, 29, 4, 96, 46]
abbrev dktL_law_37 : List UInt8 := dkwL_law_37 ++ dktL_law_38
def dkwL_law_36 : List UInt8 := [46, 42, 29, 6, 96, 46, 182, 0, 126, 44, 42, 29, 4, 96, 46, 42, 29, 5, 96, 46, 42, 29, 6, 96]
abbrev dktL_law_36 : List UInt8 := dkwL_law_36 ++ dktL_law_37
def dkwL_law_35 : List UInt8 := [172, 43, 182, 0, 122, 44, 182, 0, 125, 159, 0, 242, 3, 172, 43, 42, 29, 4, 96, 46, 42, 29, 5, 96]
abbrev dktL_law_35 : List UInt8 := dkwL_law_35 ++ dktL_law_36
def dkwL_law_34 : List UInt8 := [3, 172, 43, 42, 29, 4, 96, 46, 182, 0, 118, 44, 42, 29, 4, 96, 46, 182, 0, 121, 159, 0, 255, 3]
abbrev dktL_law_34 : List UInt8 := dkwL_law_34 ++ dktL_law_35
def dkwL_law_33 : List UInt8 := [29, 5, 96, 46, 182, 0, 114, 44, 42, 29, 4, 96, 46, 42, 29, 5, 96, 46, 182, 0, 117, 159, 1, 22]
abbrev dktL_law_33 : List UInt8 := dkwL_law_33 ++ dktL_law_34
def dkwL_law_32 : List UInt8 := [29, 4, 96, 46, 42, 29, 5, 96, 46, 182, 0, 113, 159, 1, 55, 3, 172, 43, 42, 29, 4, 96, 46, 42]
abbrev dktL_law_32 : List UInt8 := dkwL_law_32 ++ dktL_law_33
def dkwL_law_31 : List UInt8 := [182, 0, 109, 159, 1, 88, 3, 172, 43, 42, 29, 4, 96, 46, 42, 29, 5, 96, 46, 182, 0, 110, 44, 42]
abbrev dktL_law_31 : List UInt8 := dkwL_law_31 ++ dktL_law_32
def dkwL_law_30 : List UInt8 := [159, 1, 114, 3, 172, 43, 182, 0, 102, 44, 182, 0, 105, 159, 1, 101, 3, 172, 43, 182, 0, 106, 44]
abbrev dktL_law_30 : List UInt8 := dkwL_law_30 ++ dktL_law_31
def dkwL_law_29 : List UInt8 := [159, 1, 137, 3, 172, 43, 42, 29, 4, 96, 46, 182, 0, 98, 44, 42, 29, 4, 96, 46, 182, 0, 101]
abbrev dktL_law_29 : List UInt8 := dkwL_law_29 ++ dktL_law_30
def dkwL_law_28 : List UInt8 := [159, 1, 160, 3, 172, 43, 42, 29, 4, 96, 46, 182, 0, 94, 44, 42, 29, 4, 96, 46, 182, 0, 97]
abbrev dktL_law_28 : List UInt8 := dkwL_law_28 ++ dktL_law_29
def dkwL_law_27 : List UInt8 := [159, 1, 183, 3, 172, 43, 42, 29, 4, 96, 46, 182, 0, 90, 44, 42, 29, 4, 96, 46, 182, 0, 93]
abbrev dktL_law_27 : List UInt8 := dkwL_law_27 ++ dktL_law_28
def dkwL_law_26 : List UInt8 := [96, 46, 42, 29, 5, 96, 46, 182, 0, 86, 44, 42, 29, 4, 96, 46, 42, 29, 5, 96, 46, 182, 0, 89]
abbrev dktL_law_26 : List UInt8 := dkwL_law_26 ++ dktL_law_27
def dkwL_law_25 : List UInt8 := [96, 46, 42, 29, 5, 96, 46, 42, 29, 6, 96, 46, 182, 0, 85, 159, 1, 216, 3, 172, 43, 42, 29, 4]
abbrev dktL_law_25 : List UInt8 := dkwL_law_25 ++ dktL_law_26
def dkwL_law_24 : List UInt8 := [172, 43, 42, 29, 4, 96, 46, 42, 29, 5, 96, 46, 42, 29, 6, 96, 46, 182, 0, 82, 44, 42, 29, 4]
abbrev dktL_law_24 : List UInt8 := dkwL_law_24 ++ dktL_law_25
def dkwL_law_23 : List UInt8 := [3, 172, 43, 42, 29, 4, 96, 46, 182, 0, 78, 44, 42, 29, 4, 96, 46, 182, 0, 81, 159, 2, 3, 3]
abbrev dktL_law_23 : List UInt8 := dkwL_law_23 ++ dktL_law_24
def dkwL_law_22 : List UInt8 := [29, 5, 96, 46, 182, 0, 74, 44, 42, 29, 4, 96, 46, 42, 29, 5, 96, 46, 182, 0, 77, 159, 2, 26]
abbrev dktL_law_22 : List UInt8 := dkwL_law_22 ++ dktL_law_23
def dkwL_law_21 : List UInt8 := [29, 4, 96, 46, 42, 29, 5, 96, 46, 182, 0, 73, 159, 2, 59, 3, 172, 43, 42, 29, 4, 96, 46, 42]
abbrev dktL_law_21 : List UInt8 := dkwL_law_21 ++ dktL_law_22
def dkwL_law_20 : List UInt8 := [182, 0, 69, 159, 2, 92, 3, 172, 43, 42, 29, 4, 96, 46, 42, 29, 5, 96, 46, 182, 0, 70, 44, 42]
abbrev dktL_law_20 : List UInt8 := dkwL_law_20 ++ dktL_law_21
def dkwL_law_19 : List UInt8 := [182, 0, 65, 159, 2, 115, 3, 172, 43, 42, 29, 4, 96, 46, 182, 0, 66, 44, 42, 29, 4, 96, 46]
abbrev dktL_law_19 : List UInt8 := dkwL_law_19 ++ dktL_law_20
def dkwL_law_18 : List UInt8 := [29, 4, 96, 46, 42, 29, 5, 96, 46, 182, 0, 62, 44, 42, 29, 4, 96, 46, 42, 29, 5, 96, 46]
abbrev dktL_law_18 : List UInt8 := dkwL_law_18 ++ dktL_law_19
def dkwL_law_17 : List UInt8 := [42, 29, 4, 96, 46, 182, 0, 58, 44, 42, 29, 4, 96, 46, 182, 0, 61, 159, 2, 148, 3, 172, 43, 42]
abbrev dktL_law_17 : List UInt8 := dkwL_law_17 ++ dktL_law_18
def dkwL_law_16 : List UInt8 := [42, 29, 6, 96, 46, 42, 29, 7, 96, 46, 42, 29, 8, 96, 46, 182, 0, 57, 159, 2, 171, 3, 172, 43]
abbrev dktL_law_16 : List UInt8 := dkwL_law_16 ++ dktL_law_17
def dkwL_law_15 : List UInt8 := [42, 29, 7, 96, 46, 42, 29, 8, 96, 46, 182, 0, 54, 44, 42, 29, 4, 96, 46, 42, 29, 5, 96, 46]
abbrev dktL_law_15 : List UInt8 := dkwL_law_15 ++ dktL_law_16
def dkwL_law_14 : List UInt8 := [182, 0, 53, 159, 2, 234, 3, 172, 43, 42, 29, 4, 96, 46, 42, 29, 5, 96, 46, 42, 29, 6, 96, 46]
abbrev dktL_law_14 : List UInt8 := dkwL_law_14 ++ dktL_law_15
def dkwL_law_13 : List UInt8 := [4, 96, 46, 42, 29, 5, 96, 46, 182, 0, 49, 44, 42, 29, 4, 96, 46, 42, 29, 5, 96, 46]
abbrev dktL_law_13 : List UInt8 := dkwL_law_13 ++ dktL_law_14
def dkwL_law_12 : List UInt8 := [182, 0, 44, 159, 3, 24, 3, 172, 43, 182, 0, 45, 44, 182, 0, 48, 159, 3, 11, 3, 172, 43, 42, 29]
abbrev dktL_law_12 : List UInt8 := dkwL_law_12 ++ dktL_law_13
def dkwL_law_11 : List UInt8 := [159, 3, 50, 3, 172, 43, 182, 0, 36, 44, 182, 0, 40, 159, 3, 37, 3, 172, 43, 182, 0, 41, 44]
abbrev dktL_law_11 : List UInt8 := dkwL_law_11 ++ dktL_law_12
def dkwL_law_10 : List UInt8 := [159, 3, 73, 3, 172, 43, 42, 29, 4, 96, 46, 182, 0, 32, 44, 42, 29, 4, 96, 46, 182, 0, 35]
abbrev dktL_law_10 : List UInt8 := dkwL_law_10 ++ dktL_law_11
def dkwL_law_9 : List UInt8 := [159, 3, 96, 3, 172, 43, 42, 29, 4, 96, 46, 182, 0, 27, 44, 42, 29, 4, 96, 46, 182, 0, 31]
abbrev dktL_law_9 : List UInt8 := dkwL_law_9 ++ dktL_law_10
def dkwL_law_8 : List UInt8 := [46, 42, 29, 5, 96, 46, 42, 29, 6, 96, 46, 42, 29, 7, 96, 46, 42, 29, 8, 96, 46, 182, 0, 26]
abbrev dktL_law_8 : List UInt8 := dkwL_law_8 ++ dktL_law_9
def dkwL_law_7 : List UInt8 := [46, 42, 29, 6, 96, 46, 42, 29, 7, 96, 46, 42, 29, 8, 96, 46, 182, 0, 22, 44, 42, 29, 4, 96]
abbrev dktL_law_7 : List UInt8 := dkwL_law_7 ++ dktL_law_8
def dkwL_law_6 : List UInt8 := [46, 42, 29, 6, 96, 46, 182, 0, 21, 159, 3, 159, 3, 172, 43, 42, 29, 4, 96, 46, 42, 29, 5, 96]
abbrev dktL_law_6 : List UInt8 := dkwL_law_6 ++ dktL_law_7
def dkwL_law_5 : List UInt8 := [46, 42, 29, 5, 96, 46, 42, 29, 6, 96, 46, 182, 0, 18, 44, 42, 29, 4, 96, 46, 42, 29, 5, 96]
abbrev dktL_law_5 : List UInt8 := dkwL_law_5 ++ dktL_law_6
def dkwL_law_4 : List UInt8 := [46, 42, 29, 5, 96, 46, 42, 29, 6, 96, 46, 182, 0, 17, 159, 3, 202, 3, 172, 43, 42, 29, 4, 96]
abbrev dktL_law_4 : List UInt8 := dkwL_law_4 ++ dktL_law_5
def dkwL_law_3 : List UInt8 := [43, 42, 29, 4, 96, 46, 42, 29, 5, 96, 46, 42, 29, 6, 96, 46, 182, 0, 13, 44, 42, 29, 4, 96]
abbrev dktL_law_3 : List UInt8 := dkwL_law_3 ++ dktL_law_4
def dkwL_law_2 : List UInt8 := [170, 0, 0, 0, 0, 4, 143, 0, 0, 0, 0, 0, 0, 0, 35, 0, 0, 0, 159, 0, 0, 0, 202, 0, 0, 0, 245, 0, 0, 1, 52, 0, 0, 1, 75, 0, 0, 1, 98, 0, 0, 1, 111, 0, 0, 1, 124, 0, 0, 1, 137, 0, 0, 1, 170, 0, 0, 1, 233, 0, 0, 2, 0, 0, 0, 2, 33, 0, 0, 2, 56, 0, 0, 2, 89, 0, 0, 2, 122, 0, 0, 2, 145, 0, 0, 2, 188, 0, 0, 2, 221, 0, 0, 2, 244, 0, 0, 3, 11, 0, 0, 3, 34, 0, 0, 3, 47, 0, 0, 3, 60, 0, 0, 3, 93, 0, 0, 3, 126, 0, 0, 3, 149, 0, 0, 3, 162, 0, 0, 3, 205, 0, 0, 3, 228, 0, 0, 3, 251, 0, 0, 4, 18, 0, 0, 4, 51, 0, 0, 4, 84, 0, 0, 4, 107, 0, 0, 4, 130]
abbrev dktL_law_2 : List UInt8 := dkwL_law_2 ++ dktL_law_3
def dkwL_law_1 : List UInt8 := [163, 4, 158, 42, 29, 46, 16, 63, 126]
abbrev dktL_law_1 : List UInt8 := dkwL_law_1 ++ dktL_law_2
def dkwL_law_0 : List UInt8 := [187, 0, 7, 89, 183, 0, 9, 76, 187, 0, 10, 89, 183, 0, 12, 77, 3, 62, 29, 42, 190, 16, 6, 100]
abbrev dktL_law_0 : List UInt8 := dkwL_law_0 ++ dktL_law_1
theorem dksL_law_0 : cL_law.data.toList.drop 0 = dktL_law_0 := by decide +kernel
theorem dksL_law_1 : cL_law.data.toList.drop 24 = dktL_law_1 := dk_seg dksL_law_0 24 rfl rfl
theorem dksL_law_2 : cL_law.data.toList.drop 33 = dktL_law_2 := dk_seg dksL_law_1 9 rfl rfl
theorem dksL_law_3 : cL_law.data.toList.drop 192 = dktL_law_3 := dk_seg dksL_law_2 159 rfl rfl
theorem dksL_law_4 : cL_law.data.toList.drop 216 = dktL_law_4 := dk_seg dksL_law_3 24 rfl rfl
theorem dksL_law_5 : cL_law.data.toList.drop 240 = dktL_law_5 := dk_seg dksL_law_4 24 rfl rfl
theorem dksL_law_6 : cL_law.data.toList.drop 264 = dktL_law_6 := dk_seg dksL_law_5 24 rfl rfl
theorem dksL_law_7 : cL_law.data.toList.drop 288 = dktL_law_7 := dk_seg dksL_law_6 24 rfl rfl
theorem dksL_law_8 : cL_law.data.toList.drop 312 = dktL_law_8 := dk_seg dksL_law_7 24 rfl rfl
theorem dksL_law_9 : cL_law.data.toList.drop 336 = dktL_law_9 := dk_seg dksL_law_8 24 rfl rfl
theorem dksL_law_10 : cL_law.data.toList.drop 359 = dktL_law_10 := dk_seg dksL_law_9 23 rfl rfl
theorem dksL_law_11 : cL_law.data.toList.drop 382 = dktL_law_11 := dk_seg dksL_law_10 23 rfl rfl
theorem dksL_law_12 : cL_law.data.toList.drop 405 = dktL_law_12 := dk_seg dksL_law_11 23 rfl rfl
theorem dksL_law_13 : cL_law.data.toList.drop 429 = dktL_law_13 := dk_seg dksL_law_12 24 rfl rfl
theorem dksL_law_14 : cL_law.data.toList.drop 451 = dktL_law_14 := dk_seg dksL_law_13 22 rfl rfl
theorem dksL_law_15 : cL_law.data.toList.drop 475 = dktL_law_15 := dk_seg dksL_law_14 24 rfl rfl
theorem dksL_law_16 : cL_law.data.toList.drop 499 = dktL_law_16 := dk_seg dksL_law_15 24 rfl rfl
theorem dksL_law_17 : cL_law.data.toList.drop 523 = dktL_law_17 := dk_seg dksL_law_16 24 rfl rfl
theorem dksL_law_18 : cL_law.data.toList.drop 547 = dktL_law_18 := dk_seg dksL_law_17 24 rfl rfl
theorem dksL_law_19 : cL_law.data.toList.drop 570 = dktL_law_19 := dk_seg dksL_law_18 23 rfl rfl
theorem dksL_law_20 : cL_law.data.toList.drop 593 = dktL_law_20 := dk_seg dksL_law_19 23 rfl rfl
theorem dksL_law_21 : cL_law.data.toList.drop 617 = dktL_law_21 := dk_seg dksL_law_20 24 rfl rfl
theorem dksL_law_22 : cL_law.data.toList.drop 641 = dktL_law_22 := dk_seg dksL_law_21 24 rfl rfl
theorem dksL_law_23 : cL_law.data.toList.drop 665 = dktL_law_23 := dk_seg dksL_law_22 24 rfl rfl
theorem dksL_law_24 : cL_law.data.toList.drop 689 = dktL_law_24 := dk_seg dksL_law_23 24 rfl rfl
theorem dksL_law_25 : cL_law.data.toList.drop 713 = dktL_law_25 := dk_seg dksL_law_24 24 rfl rfl
theorem dksL_law_26 : cL_law.data.toList.drop 737 = dktL_law_26 := dk_seg dksL_law_25 24 rfl rfl
theorem dksL_law_27 : cL_law.data.toList.drop 761 = dktL_law_27 := dk_seg dksL_law_26 24 rfl rfl
theorem dksL_law_28 : cL_law.data.toList.drop 784 = dktL_law_28 := dk_seg dksL_law_27 23 rfl rfl
theorem dksL_law_29 : cL_law.data.toList.drop 807 = dktL_law_29 := dk_seg dksL_law_28 23 rfl rfl
theorem dksL_law_30 : cL_law.data.toList.drop 830 = dktL_law_30 := dk_seg dksL_law_29 23 rfl rfl
theorem dksL_law_31 : cL_law.data.toList.drop 853 = dktL_law_31 := dk_seg dksL_law_30 23 rfl rfl
theorem dksL_law_32 : cL_law.data.toList.drop 877 = dktL_law_32 := dk_seg dksL_law_31 24 rfl rfl
theorem dksL_law_33 : cL_law.data.toList.drop 901 = dktL_law_33 := dk_seg dksL_law_32 24 rfl rfl
theorem dksL_law_34 : cL_law.data.toList.drop 925 = dktL_law_34 := dk_seg dksL_law_33 24 rfl rfl
theorem dksL_law_35 : cL_law.data.toList.drop 949 = dktL_law_35 := dk_seg dksL_law_34 24 rfl rfl
theorem dksL_law_36 : cL_law.data.toList.drop 973 = dktL_law_36 := dk_seg dksL_law_35 24 rfl rfl
theorem dksL_law_37 : cL_law.data.toList.drop 997 = dktL_law_37 := dk_seg dksL_law_36 24 rfl rfl
theorem dksL_law_38 : cL_law.data.toList.drop 1021 = dktL_law_38 := dk_seg dksL_law_37 24 rfl rfl
theorem dksL_law_39 : cL_law.data.toList.drop 1044 = dktL_law_39 := dk_seg dksL_law_38 23 rfl rfl
theorem dksL_law_40 : cL_law.data.toList.drop 1067 = dktL_law_40 := dk_seg dksL_law_39 23 rfl rfl
theorem dksL_law_41 : cL_law.data.toList.drop 1091 = dktL_law_41 := dk_seg dksL_law_40 24 rfl rfl
theorem dksL_law_42 : cL_law.data.toList.drop 1115 = dktL_law_42 := dk_seg dksL_law_41 24 rfl rfl
theorem dksL_law_43 : cL_law.data.toList.drop 1139 = dktL_law_43 := dk_seg dksL_law_42 24 rfl rfl
theorem dksL_law_44 : cL_law.data.toList.drop 1163 = dktL_law_44 := dk_seg dksL_law_43 24 rfl rfl
theorem dksL_law_45 : cL_law.data.toList.drop 1187 = dktL_law_45 := dk_seg dksL_law_44 24 rfl rfl
theorem dL_law_0 : decode cL_law 0 = .ok (.new 7, 3) := dk_187 0 7 (dk_at dksL_law_0 0 rfl rfl)
theorem dL_law_3 : decode cL_law 3 = .ok (.dup, 1) := dk_89 (dk_at dksL_law_0 3 rfl rfl)
theorem dL_law_4 : decode cL_law 4 = .ok (.invokespecial 9, 3) := dk_183 0 9 (dk_at dksL_law_0 4 rfl rfl)
theorem dL_law_7 : decode cL_law 7 = .ok (.astore_n 1, 1) := dk_76 (dk_at dksL_law_0 7 rfl rfl)
theorem dL_law_8 : decode cL_law 8 = .ok (.new 10, 3) := dk_187 0 10 (dk_at dksL_law_0 8 rfl rfl)
theorem dL_law_11 : decode cL_law 11 = .ok (.dup, 1) := dk_89 (dk_at dksL_law_0 11 rfl rfl)
theorem dL_law_12 : decode cL_law 12 = .ok (.invokespecial 12, 3) := dk_183 0 12 (dk_at dksL_law_0 12 rfl rfl)
theorem dL_law_15 : decode cL_law 15 = .ok (.astore_n 2, 1) := dk_77 (dk_at dksL_law_0 15 rfl rfl)
theorem dL_law_16 : decode cL_law 16 = .ok (.iconst 0, 1) := dk_3 (dk_at dksL_law_0 16 rfl rfl)
theorem dL_law_17 : decode cL_law 17 = .ok (.istore_n 3, 1) := dk_62 (dk_at dksL_law_0 17 rfl rfl)
theorem dL_law_18 : decode cL_law 18 = .ok (.iload_n 3, 1) := dk_29 (dk_at dksL_law_0 18 rfl rfl)
theorem dL_law_19 : decode cL_law 19 = .ok (.aload_n 0, 1) := dk_42 (dk_at dksL_law_0 19 rfl rfl)
theorem dL_law_20 : decode cL_law 20 = .ok (.arraylength, 1) := dk_190 (dk_at dksL_law_0 20 rfl rfl)
theorem dL_law_21 : decode cL_law 21 = .ok (.bipush 6, 2) := dk_16 6 (dk_at dksL_law_0 21 rfl rfl)
theorem dL_law_23 : decode cL_law 23 = .ok (.isub, 1) := dk_100 (dk_at dksL_law_0 23 rfl rfl)
theorem dL_law_24 : decode cL_law 24 = .ok (.if_icmp .gt 1182, 3) := dk_163 4 158 (dk_at dksL_law_1 0 rfl rfl)
theorem dL_law_27 : decode cL_law 27 = .ok (.aload_n 0, 1) := dk_42 (dk_at dksL_law_1 3 rfl rfl)
theorem dL_law_28 : decode cL_law 28 = .ok (.iload_n 3, 1) := dk_29 (dk_at dksL_law_1 4 rfl rfl)
theorem dL_law_29 : decode cL_law 29 = .ok (.iaload, 1) := dk_46 (dk_at dksL_law_1 5 rfl rfl)
theorem dL_law_30 : decode cL_law 30 = .ok (.bipush 63, 2) := dk_16 63 (dk_at dksL_law_1 6 rfl rfl)
theorem dL_law_32 : decode cL_law 32 = .ok (.iand, 1) := dk_126 (dk_at dksL_law_1 8 rfl rfl)
theorem dL_law_33 : decode cL_law 33 = .ok (.tableswitch 1167 0 35 #[159, 202, 245, 308, 331, 354, 367, 380, 393, 426, 489, 512, 545, 568, 601, 634, 657, 700, 733, 756, 779, 802, 815, 828, 861, 894, 917, 930, 973, 996, 1019, 1042, 1075, 1108, 1131, 1154], 159) := by decide +kernel
theorem dL_law_192 : decode cL_law 192 = .ok (.aload_n 1, 1) := dk_43 (dk_at dksL_law_3 0 rfl rfl)
theorem dL_law_193 : decode cL_law 193 = .ok (.aload_n 0, 1) := dk_42 (dk_at dksL_law_3 1 rfl rfl)
theorem dL_law_194 : decode cL_law 194 = .ok (.iload_n 3, 1) := dk_29 (dk_at dksL_law_3 2 rfl rfl)
theorem dL_law_195 : decode cL_law 195 = .ok (.iconst 1, 1) := dk_4 (dk_at dksL_law_3 3 rfl rfl)
theorem dL_law_196 : decode cL_law 196 = .ok (.iadd, 1) := dk_96 (dk_at dksL_law_3 4 rfl rfl)
theorem dL_law_197 : decode cL_law 197 = .ok (.iaload, 1) := dk_46 (dk_at dksL_law_3 5 rfl rfl)
theorem dL_law_198 : decode cL_law 198 = .ok (.aload_n 0, 1) := dk_42 (dk_at dksL_law_3 6 rfl rfl)
theorem dL_law_199 : decode cL_law 199 = .ok (.iload_n 3, 1) := dk_29 (dk_at dksL_law_3 7 rfl rfl)
theorem dL_law_200 : decode cL_law 200 = .ok (.iconst 2, 1) := dk_5 (dk_at dksL_law_3 8 rfl rfl)
theorem dL_law_201 : decode cL_law 201 = .ok (.iadd, 1) := dk_96 (dk_at dksL_law_3 9 rfl rfl)
theorem dL_law_202 : decode cL_law 202 = .ok (.iaload, 1) := dk_46 (dk_at dksL_law_3 10 rfl rfl)
theorem dL_law_203 : decode cL_law 203 = .ok (.aload_n 0, 1) := dk_42 (dk_at dksL_law_3 11 rfl rfl)
theorem dL_law_204 : decode cL_law 204 = .ok (.iload_n 3, 1) := dk_29 (dk_at dksL_law_3 12 rfl rfl)
theorem dL_law_205 : decode cL_law 205 = .ok (.iconst 3, 1) := dk_6 (dk_at dksL_law_3 13 rfl rfl)
theorem dL_law_206 : decode cL_law 206 = .ok (.iadd, 1) := dk_96 (dk_at dksL_law_3 14 rfl rfl)
theorem dL_law_207 : decode cL_law 207 = .ok (.iaload, 1) := dk_46 (dk_at dksL_law_3 15 rfl rfl)
theorem dL_law_208 : decode cL_law 208 = .ok (.invokevirtual 13, 3) := dk_182 0 13 (dk_at dksL_law_3 16 rfl rfl)
theorem dL_law_211 : decode cL_law 211 = .ok (.aload_n 2, 1) := dk_44 (dk_at dksL_law_3 19 rfl rfl)
theorem dL_law_212 : decode cL_law 212 = .ok (.aload_n 0, 1) := dk_42 (dk_at dksL_law_3 20 rfl rfl)
theorem dL_law_213 : decode cL_law 213 = .ok (.iload_n 3, 1) := dk_29 (dk_at dksL_law_3 21 rfl rfl)
theorem dL_law_214 : decode cL_law 214 = .ok (.iconst 1, 1) := dk_4 (dk_at dksL_law_3 22 rfl rfl)
theorem dL_law_215 : decode cL_law 215 = .ok (.iadd, 1) := dk_96 (dk_at dksL_law_3 23 rfl rfl)
theorem dL_law_216 : decode cL_law 216 = .ok (.iaload, 1) := dk_46 (dk_at dksL_law_4 0 rfl rfl)
theorem dL_law_217 : decode cL_law 217 = .ok (.aload_n 0, 1) := dk_42 (dk_at dksL_law_4 1 rfl rfl)
theorem dL_law_218 : decode cL_law 218 = .ok (.iload_n 3, 1) := dk_29 (dk_at dksL_law_4 2 rfl rfl)
theorem dL_law_219 : decode cL_law 219 = .ok (.iconst 2, 1) := dk_5 (dk_at dksL_law_4 3 rfl rfl)
theorem dL_law_220 : decode cL_law 220 = .ok (.iadd, 1) := dk_96 (dk_at dksL_law_4 4 rfl rfl)
theorem dL_law_221 : decode cL_law 221 = .ok (.iaload, 1) := dk_46 (dk_at dksL_law_4 5 rfl rfl)
theorem dL_law_222 : decode cL_law 222 = .ok (.aload_n 0, 1) := dk_42 (dk_at dksL_law_4 6 rfl rfl)
theorem dL_law_223 : decode cL_law 223 = .ok (.iload_n 3, 1) := dk_29 (dk_at dksL_law_4 7 rfl rfl)
theorem dL_law_224 : decode cL_law 224 = .ok (.iconst 3, 1) := dk_6 (dk_at dksL_law_4 8 rfl rfl)
theorem dL_law_225 : decode cL_law 225 = .ok (.iadd, 1) := dk_96 (dk_at dksL_law_4 9 rfl rfl)
theorem dL_law_226 : decode cL_law 226 = .ok (.iaload, 1) := dk_46 (dk_at dksL_law_4 10 rfl rfl)
theorem dL_law_227 : decode cL_law 227 = .ok (.invokevirtual 17, 3) := dk_182 0 17 (dk_at dksL_law_4 11 rfl rfl)
theorem dL_law_230 : decode cL_law 230 = .ok (.if_icmp .eq 970, 3) := dk_159 3 202 (dk_at dksL_law_4 14 rfl rfl)
theorem dL_law_233 : decode cL_law 233 = .ok (.iconst 0, 1) := dk_3 (dk_at dksL_law_4 17 rfl rfl)
theorem dL_law_234 : decode cL_law 234 = .ok (.ireturn, 1) := dk_172 (dk_at dksL_law_4 18 rfl rfl)
theorem dL_law_235 : decode cL_law 235 = .ok (.aload_n 1, 1) := dk_43 (dk_at dksL_law_4 19 rfl rfl)
theorem dL_law_236 : decode cL_law 236 = .ok (.aload_n 0, 1) := dk_42 (dk_at dksL_law_4 20 rfl rfl)
theorem dL_law_237 : decode cL_law 237 = .ok (.iload_n 3, 1) := dk_29 (dk_at dksL_law_4 21 rfl rfl)
theorem dL_law_238 : decode cL_law 238 = .ok (.iconst 1, 1) := dk_4 (dk_at dksL_law_4 22 rfl rfl)
theorem dL_law_239 : decode cL_law 239 = .ok (.iadd, 1) := dk_96 (dk_at dksL_law_4 23 rfl rfl)
theorem dL_law_240 : decode cL_law 240 = .ok (.iaload, 1) := dk_46 (dk_at dksL_law_5 0 rfl rfl)
theorem dL_law_241 : decode cL_law 241 = .ok (.aload_n 0, 1) := dk_42 (dk_at dksL_law_5 1 rfl rfl)
theorem dL_law_242 : decode cL_law 242 = .ok (.iload_n 3, 1) := dk_29 (dk_at dksL_law_5 2 rfl rfl)
theorem dL_law_243 : decode cL_law 243 = .ok (.iconst 2, 1) := dk_5 (dk_at dksL_law_5 3 rfl rfl)
theorem dL_law_244 : decode cL_law 244 = .ok (.iadd, 1) := dk_96 (dk_at dksL_law_5 4 rfl rfl)
theorem dL_law_245 : decode cL_law 245 = .ok (.iaload, 1) := dk_46 (dk_at dksL_law_5 5 rfl rfl)
theorem dL_law_246 : decode cL_law 246 = .ok (.aload_n 0, 1) := dk_42 (dk_at dksL_law_5 6 rfl rfl)
theorem dL_law_247 : decode cL_law 247 = .ok (.iload_n 3, 1) := dk_29 (dk_at dksL_law_5 7 rfl rfl)
theorem dL_law_248 : decode cL_law 248 = .ok (.iconst 3, 1) := dk_6 (dk_at dksL_law_5 8 rfl rfl)
theorem dL_law_249 : decode cL_law 249 = .ok (.iadd, 1) := dk_96 (dk_at dksL_law_5 9 rfl rfl)
theorem dL_law_250 : decode cL_law 250 = .ok (.iaload, 1) := dk_46 (dk_at dksL_law_5 10 rfl rfl)
theorem dL_law_251 : decode cL_law 251 = .ok (.invokevirtual 18, 3) := dk_182 0 18 (dk_at dksL_law_5 11 rfl rfl)
theorem dL_law_254 : decode cL_law 254 = .ok (.aload_n 2, 1) := dk_44 (dk_at dksL_law_5 14 rfl rfl)
theorem dL_law_255 : decode cL_law 255 = .ok (.aload_n 0, 1) := dk_42 (dk_at dksL_law_5 15 rfl rfl)
theorem dL_law_256 : decode cL_law 256 = .ok (.iload_n 3, 1) := dk_29 (dk_at dksL_law_5 16 rfl rfl)
theorem dL_law_257 : decode cL_law 257 = .ok (.iconst 1, 1) := dk_4 (dk_at dksL_law_5 17 rfl rfl)
theorem dL_law_258 : decode cL_law 258 = .ok (.iadd, 1) := dk_96 (dk_at dksL_law_5 18 rfl rfl)
theorem dL_law_259 : decode cL_law 259 = .ok (.iaload, 1) := dk_46 (dk_at dksL_law_5 19 rfl rfl)
theorem dL_law_260 : decode cL_law 260 = .ok (.aload_n 0, 1) := dk_42 (dk_at dksL_law_5 20 rfl rfl)
theorem dL_law_261 : decode cL_law 261 = .ok (.iload_n 3, 1) := dk_29 (dk_at dksL_law_5 21 rfl rfl)
theorem dL_law_262 : decode cL_law 262 = .ok (.iconst 2, 1) := dk_5 (dk_at dksL_law_5 22 rfl rfl)
theorem dL_law_263 : decode cL_law 263 = .ok (.iadd, 1) := dk_96 (dk_at dksL_law_5 23 rfl rfl)
theorem dL_law_264 : decode cL_law 264 = .ok (.iaload, 1) := dk_46 (dk_at dksL_law_6 0 rfl rfl)
theorem dL_law_265 : decode cL_law 265 = .ok (.aload_n 0, 1) := dk_42 (dk_at dksL_law_6 1 rfl rfl)
theorem dL_law_266 : decode cL_law 266 = .ok (.iload_n 3, 1) := dk_29 (dk_at dksL_law_6 2 rfl rfl)
theorem dL_law_267 : decode cL_law 267 = .ok (.iconst 3, 1) := dk_6 (dk_at dksL_law_6 3 rfl rfl)
theorem dL_law_268 : decode cL_law 268 = .ok (.iadd, 1) := dk_96 (dk_at dksL_law_6 4 rfl rfl)
theorem dL_law_269 : decode cL_law 269 = .ok (.iaload, 1) := dk_46 (dk_at dksL_law_6 5 rfl rfl)
theorem dL_law_270 : decode cL_law 270 = .ok (.invokevirtual 21, 3) := dk_182 0 21 (dk_at dksL_law_6 6 rfl rfl)
theorem dL_law_273 : decode cL_law 273 = .ok (.if_icmp .eq 927, 3) := dk_159 3 159 (dk_at dksL_law_6 9 rfl rfl)
theorem dL_law_276 : decode cL_law 276 = .ok (.iconst 0, 1) := dk_3 (dk_at dksL_law_6 12 rfl rfl)
theorem dL_law_277 : decode cL_law 277 = .ok (.ireturn, 1) := dk_172 (dk_at dksL_law_6 13 rfl rfl)
theorem dL_law_278 : decode cL_law 278 = .ok (.aload_n 1, 1) := dk_43 (dk_at dksL_law_6 14 rfl rfl)
theorem dL_law_279 : decode cL_law 279 = .ok (.aload_n 0, 1) := dk_42 (dk_at dksL_law_6 15 rfl rfl)
theorem dL_law_280 : decode cL_law 280 = .ok (.iload_n 3, 1) := dk_29 (dk_at dksL_law_6 16 rfl rfl)
theorem dL_law_281 : decode cL_law 281 = .ok (.iconst 1, 1) := dk_4 (dk_at dksL_law_6 17 rfl rfl)
theorem dL_law_282 : decode cL_law 282 = .ok (.iadd, 1) := dk_96 (dk_at dksL_law_6 18 rfl rfl)
theorem dL_law_283 : decode cL_law 283 = .ok (.iaload, 1) := dk_46 (dk_at dksL_law_6 19 rfl rfl)
theorem dL_law_284 : decode cL_law 284 = .ok (.aload_n 0, 1) := dk_42 (dk_at dksL_law_6 20 rfl rfl)
theorem dL_law_285 : decode cL_law 285 = .ok (.iload_n 3, 1) := dk_29 (dk_at dksL_law_6 21 rfl rfl)
theorem dL_law_286 : decode cL_law 286 = .ok (.iconst 2, 1) := dk_5 (dk_at dksL_law_6 22 rfl rfl)
theorem dL_law_287 : decode cL_law 287 = .ok (.iadd, 1) := dk_96 (dk_at dksL_law_6 23 rfl rfl)
theorem dL_law_288 : decode cL_law 288 = .ok (.iaload, 1) := dk_46 (dk_at dksL_law_7 0 rfl rfl)
theorem dL_law_289 : decode cL_law 289 = .ok (.aload_n 0, 1) := dk_42 (dk_at dksL_law_7 1 rfl rfl)
theorem dL_law_290 : decode cL_law 290 = .ok (.iload_n 3, 1) := dk_29 (dk_at dksL_law_7 2 rfl rfl)
theorem dL_law_291 : decode cL_law 291 = .ok (.iconst 3, 1) := dk_6 (dk_at dksL_law_7 3 rfl rfl)
theorem dL_law_292 : decode cL_law 292 = .ok (.iadd, 1) := dk_96 (dk_at dksL_law_7 4 rfl rfl)
theorem dL_law_293 : decode cL_law 293 = .ok (.iaload, 1) := dk_46 (dk_at dksL_law_7 5 rfl rfl)
theorem dL_law_294 : decode cL_law 294 = .ok (.aload_n 0, 1) := dk_42 (dk_at dksL_law_7 6 rfl rfl)
theorem dL_law_295 : decode cL_law 295 = .ok (.iload_n 3, 1) := dk_29 (dk_at dksL_law_7 7 rfl rfl)
theorem dL_law_296 : decode cL_law 296 = .ok (.iconst 4, 1) := dk_7 (dk_at dksL_law_7 8 rfl rfl)
theorem dL_law_297 : decode cL_law 297 = .ok (.iadd, 1) := dk_96 (dk_at dksL_law_7 9 rfl rfl)
theorem dL_law_298 : decode cL_law 298 = .ok (.iaload, 1) := dk_46 (dk_at dksL_law_7 10 rfl rfl)
theorem dL_law_299 : decode cL_law 299 = .ok (.aload_n 0, 1) := dk_42 (dk_at dksL_law_7 11 rfl rfl)
theorem dL_law_300 : decode cL_law 300 = .ok (.iload_n 3, 1) := dk_29 (dk_at dksL_law_7 12 rfl rfl)
theorem dL_law_301 : decode cL_law 301 = .ok (.iconst 5, 1) := dk_8 (dk_at dksL_law_7 13 rfl rfl)
theorem dL_law_302 : decode cL_law 302 = .ok (.iadd, 1) := dk_96 (dk_at dksL_law_7 14 rfl rfl)
theorem dL_law_303 : decode cL_law 303 = .ok (.iaload, 1) := dk_46 (dk_at dksL_law_7 15 rfl rfl)
theorem dL_law_304 : decode cL_law 304 = .ok (.invokevirtual 22, 3) := dk_182 0 22 (dk_at dksL_law_7 16 rfl rfl)
theorem dL_law_307 : decode cL_law 307 = .ok (.aload_n 2, 1) := dk_44 (dk_at dksL_law_7 19 rfl rfl)
theorem dL_law_308 : decode cL_law 308 = .ok (.aload_n 0, 1) := dk_42 (dk_at dksL_law_7 20 rfl rfl)
theorem dL_law_309 : decode cL_law 309 = .ok (.iload_n 3, 1) := dk_29 (dk_at dksL_law_7 21 rfl rfl)
theorem dL_law_310 : decode cL_law 310 = .ok (.iconst 1, 1) := dk_4 (dk_at dksL_law_7 22 rfl rfl)
theorem dL_law_311 : decode cL_law 311 = .ok (.iadd, 1) := dk_96 (dk_at dksL_law_7 23 rfl rfl)
theorem dL_law_312 : decode cL_law 312 = .ok (.iaload, 1) := dk_46 (dk_at dksL_law_8 0 rfl rfl)
theorem dL_law_313 : decode cL_law 313 = .ok (.aload_n 0, 1) := dk_42 (dk_at dksL_law_8 1 rfl rfl)
theorem dL_law_314 : decode cL_law 314 = .ok (.iload_n 3, 1) := dk_29 (dk_at dksL_law_8 2 rfl rfl)
theorem dL_law_315 : decode cL_law 315 = .ok (.iconst 2, 1) := dk_5 (dk_at dksL_law_8 3 rfl rfl)
theorem dL_law_316 : decode cL_law 316 = .ok (.iadd, 1) := dk_96 (dk_at dksL_law_8 4 rfl rfl)
theorem dL_law_317 : decode cL_law 317 = .ok (.iaload, 1) := dk_46 (dk_at dksL_law_8 5 rfl rfl)
theorem dL_law_318 : decode cL_law 318 = .ok (.aload_n 0, 1) := dk_42 (dk_at dksL_law_8 6 rfl rfl)
theorem dL_law_319 : decode cL_law 319 = .ok (.iload_n 3, 1) := dk_29 (dk_at dksL_law_8 7 rfl rfl)
theorem dL_law_320 : decode cL_law 320 = .ok (.iconst 3, 1) := dk_6 (dk_at dksL_law_8 8 rfl rfl)
theorem dL_law_321 : decode cL_law 321 = .ok (.iadd, 1) := dk_96 (dk_at dksL_law_8 9 rfl rfl)
theorem dL_law_322 : decode cL_law 322 = .ok (.iaload, 1) := dk_46 (dk_at dksL_law_8 10 rfl rfl)
theorem dL_law_323 : decode cL_law 323 = .ok (.aload_n 0, 1) := dk_42 (dk_at dksL_law_8 11 rfl rfl)
theorem dL_law_324 : decode cL_law 324 = .ok (.iload_n 3, 1) := dk_29 (dk_at dksL_law_8 12 rfl rfl)
theorem dL_law_325 : decode cL_law 325 = .ok (.iconst 4, 1) := dk_7 (dk_at dksL_law_8 13 rfl rfl)
theorem dL_law_326 : decode cL_law 326 = .ok (.iadd, 1) := dk_96 (dk_at dksL_law_8 14 rfl rfl)
theorem dL_law_327 : decode cL_law 327 = .ok (.iaload, 1) := dk_46 (dk_at dksL_law_8 15 rfl rfl)
theorem dL_law_328 : decode cL_law 328 = .ok (.aload_n 0, 1) := dk_42 (dk_at dksL_law_8 16 rfl rfl)
theorem dL_law_329 : decode cL_law 329 = .ok (.iload_n 3, 1) := dk_29 (dk_at dksL_law_8 17 rfl rfl)
theorem dL_law_330 : decode cL_law 330 = .ok (.iconst 5, 1) := dk_8 (dk_at dksL_law_8 18 rfl rfl)
theorem dL_law_331 : decode cL_law 331 = .ok (.iadd, 1) := dk_96 (dk_at dksL_law_8 19 rfl rfl)
theorem dL_law_332 : decode cL_law 332 = .ok (.iaload, 1) := dk_46 (dk_at dksL_law_8 20 rfl rfl)
theorem dL_law_333 : decode cL_law 333 = .ok (.invokevirtual 26, 3) := dk_182 0 26 (dk_at dksL_law_8 21 rfl rfl)
theorem dL_law_336 : decode cL_law 336 = .ok (.if_icmp .eq 864, 3) := dk_159 3 96 (dk_at dksL_law_9 0 rfl rfl)
theorem dL_law_339 : decode cL_law 339 = .ok (.iconst 0, 1) := dk_3 (dk_at dksL_law_9 3 rfl rfl)
theorem dL_law_340 : decode cL_law 340 = .ok (.ireturn, 1) := dk_172 (dk_at dksL_law_9 4 rfl rfl)
theorem dL_law_341 : decode cL_law 341 = .ok (.aload_n 1, 1) := dk_43 (dk_at dksL_law_9 5 rfl rfl)
theorem dL_law_342 : decode cL_law 342 = .ok (.aload_n 0, 1) := dk_42 (dk_at dksL_law_9 6 rfl rfl)
theorem dL_law_343 : decode cL_law 343 = .ok (.iload_n 3, 1) := dk_29 (dk_at dksL_law_9 7 rfl rfl)
theorem dL_law_344 : decode cL_law 344 = .ok (.iconst 1, 1) := dk_4 (dk_at dksL_law_9 8 rfl rfl)
theorem dL_law_345 : decode cL_law 345 = .ok (.iadd, 1) := dk_96 (dk_at dksL_law_9 9 rfl rfl)
theorem dL_law_346 : decode cL_law 346 = .ok (.iaload, 1) := dk_46 (dk_at dksL_law_9 10 rfl rfl)
theorem dL_law_347 : decode cL_law 347 = .ok (.invokevirtual 27, 3) := dk_182 0 27 (dk_at dksL_law_9 11 rfl rfl)
theorem dL_law_350 : decode cL_law 350 = .ok (.aload_n 2, 1) := dk_44 (dk_at dksL_law_9 14 rfl rfl)
theorem dL_law_351 : decode cL_law 351 = .ok (.aload_n 0, 1) := dk_42 (dk_at dksL_law_9 15 rfl rfl)
theorem dL_law_352 : decode cL_law 352 = .ok (.iload_n 3, 1) := dk_29 (dk_at dksL_law_9 16 rfl rfl)
theorem dL_law_353 : decode cL_law 353 = .ok (.iconst 1, 1) := dk_4 (dk_at dksL_law_9 17 rfl rfl)
theorem dL_law_354 : decode cL_law 354 = .ok (.iadd, 1) := dk_96 (dk_at dksL_law_9 18 rfl rfl)
theorem dL_law_355 : decode cL_law 355 = .ok (.iaload, 1) := dk_46 (dk_at dksL_law_9 19 rfl rfl)
theorem dL_law_356 : decode cL_law 356 = .ok (.invokevirtual 31, 3) := dk_182 0 31 (dk_at dksL_law_9 20 rfl rfl)
theorem dL_law_359 : decode cL_law 359 = .ok (.if_icmp .eq 841, 3) := dk_159 3 73 (dk_at dksL_law_10 0 rfl rfl)
theorem dL_law_362 : decode cL_law 362 = .ok (.iconst 0, 1) := dk_3 (dk_at dksL_law_10 3 rfl rfl)
theorem dL_law_363 : decode cL_law 363 = .ok (.ireturn, 1) := dk_172 (dk_at dksL_law_10 4 rfl rfl)
theorem dL_law_364 : decode cL_law 364 = .ok (.aload_n 1, 1) := dk_43 (dk_at dksL_law_10 5 rfl rfl)
theorem dL_law_365 : decode cL_law 365 = .ok (.aload_n 0, 1) := dk_42 (dk_at dksL_law_10 6 rfl rfl)
theorem dL_law_366 : decode cL_law 366 = .ok (.iload_n 3, 1) := dk_29 (dk_at dksL_law_10 7 rfl rfl)
theorem dL_law_367 : decode cL_law 367 = .ok (.iconst 1, 1) := dk_4 (dk_at dksL_law_10 8 rfl rfl)
theorem dL_law_368 : decode cL_law 368 = .ok (.iadd, 1) := dk_96 (dk_at dksL_law_10 9 rfl rfl)
theorem dL_law_369 : decode cL_law 369 = .ok (.iaload, 1) := dk_46 (dk_at dksL_law_10 10 rfl rfl)
theorem dL_law_370 : decode cL_law 370 = .ok (.invokevirtual 32, 3) := dk_182 0 32 (dk_at dksL_law_10 11 rfl rfl)
theorem dL_law_373 : decode cL_law 373 = .ok (.aload_n 2, 1) := dk_44 (dk_at dksL_law_10 14 rfl rfl)
theorem dL_law_374 : decode cL_law 374 = .ok (.aload_n 0, 1) := dk_42 (dk_at dksL_law_10 15 rfl rfl)
theorem dL_law_375 : decode cL_law 375 = .ok (.iload_n 3, 1) := dk_29 (dk_at dksL_law_10 16 rfl rfl)
theorem dL_law_376 : decode cL_law 376 = .ok (.iconst 1, 1) := dk_4 (dk_at dksL_law_10 17 rfl rfl)
theorem dL_law_377 : decode cL_law 377 = .ok (.iadd, 1) := dk_96 (dk_at dksL_law_10 18 rfl rfl)
theorem dL_law_378 : decode cL_law 378 = .ok (.iaload, 1) := dk_46 (dk_at dksL_law_10 19 rfl rfl)
theorem dL_law_379 : decode cL_law 379 = .ok (.invokevirtual 35, 3) := dk_182 0 35 (dk_at dksL_law_10 20 rfl rfl)
theorem dL_law_382 : decode cL_law 382 = .ok (.if_icmp .eq 818, 3) := dk_159 3 50 (dk_at dksL_law_11 0 rfl rfl)
theorem dL_law_385 : decode cL_law 385 = .ok (.iconst 0, 1) := dk_3 (dk_at dksL_law_11 3 rfl rfl)
theorem dL_law_386 : decode cL_law 386 = .ok (.ireturn, 1) := dk_172 (dk_at dksL_law_11 4 rfl rfl)
theorem dL_law_387 : decode cL_law 387 = .ok (.aload_n 1, 1) := dk_43 (dk_at dksL_law_11 5 rfl rfl)
theorem dL_law_388 : decode cL_law 388 = .ok (.invokevirtual 36, 3) := dk_182 0 36 (dk_at dksL_law_11 6 rfl rfl)
theorem dL_law_391 : decode cL_law 391 = .ok (.aload_n 2, 1) := dk_44 (dk_at dksL_law_11 9 rfl rfl)
theorem dL_law_392 : decode cL_law 392 = .ok (.invokevirtual 40, 3) := dk_182 0 40 (dk_at dksL_law_11 10 rfl rfl)
theorem dL_law_395 : decode cL_law 395 = .ok (.if_icmp .eq 805, 3) := dk_159 3 37 (dk_at dksL_law_11 13 rfl rfl)
theorem dL_law_398 : decode cL_law 398 = .ok (.iconst 0, 1) := dk_3 (dk_at dksL_law_11 16 rfl rfl)
theorem dL_law_399 : decode cL_law 399 = .ok (.ireturn, 1) := dk_172 (dk_at dksL_law_11 17 rfl rfl)
theorem dL_law_400 : decode cL_law 400 = .ok (.aload_n 1, 1) := dk_43 (dk_at dksL_law_11 18 rfl rfl)
theorem dL_law_401 : decode cL_law 401 = .ok (.invokevirtual 41, 3) := dk_182 0 41 (dk_at dksL_law_11 19 rfl rfl)
theorem dL_law_404 : decode cL_law 404 = .ok (.aload_n 2, 1) := dk_44 (dk_at dksL_law_11 22 rfl rfl)
theorem dL_law_405 : decode cL_law 405 = .ok (.invokevirtual 44, 3) := dk_182 0 44 (dk_at dksL_law_12 0 rfl rfl)
theorem dL_law_408 : decode cL_law 408 = .ok (.if_icmp .eq 792, 3) := dk_159 3 24 (dk_at dksL_law_12 3 rfl rfl)
theorem dL_law_411 : decode cL_law 411 = .ok (.iconst 0, 1) := dk_3 (dk_at dksL_law_12 6 rfl rfl)
theorem dL_law_412 : decode cL_law 412 = .ok (.ireturn, 1) := dk_172 (dk_at dksL_law_12 7 rfl rfl)
theorem dL_law_413 : decode cL_law 413 = .ok (.aload_n 1, 1) := dk_43 (dk_at dksL_law_12 8 rfl rfl)
theorem dL_law_414 : decode cL_law 414 = .ok (.invokevirtual 45, 3) := dk_182 0 45 (dk_at dksL_law_12 9 rfl rfl)
theorem dL_law_417 : decode cL_law 417 = .ok (.aload_n 2, 1) := dk_44 (dk_at dksL_law_12 12 rfl rfl)
theorem dL_law_418 : decode cL_law 418 = .ok (.invokevirtual 48, 3) := dk_182 0 48 (dk_at dksL_law_12 13 rfl rfl)
theorem dL_law_421 : decode cL_law 421 = .ok (.if_icmp .eq 779, 3) := dk_159 3 11 (dk_at dksL_law_12 16 rfl rfl)
theorem dL_law_424 : decode cL_law 424 = .ok (.iconst 0, 1) := dk_3 (dk_at dksL_law_12 19 rfl rfl)
theorem dL_law_425 : decode cL_law 425 = .ok (.ireturn, 1) := dk_172 (dk_at dksL_law_12 20 rfl rfl)
theorem dL_law_426 : decode cL_law 426 = .ok (.aload_n 1, 1) := dk_43 (dk_at dksL_law_12 21 rfl rfl)
theorem dL_law_427 : decode cL_law 427 = .ok (.aload_n 0, 1) := dk_42 (dk_at dksL_law_12 22 rfl rfl)
theorem dL_law_428 : decode cL_law 428 = .ok (.iload_n 3, 1) := dk_29 (dk_at dksL_law_12 23 rfl rfl)
theorem dL_law_429 : decode cL_law 429 = .ok (.iconst 1, 1) := dk_4 (dk_at dksL_law_13 0 rfl rfl)
theorem dL_law_430 : decode cL_law 430 = .ok (.iadd, 1) := dk_96 (dk_at dksL_law_13 1 rfl rfl)
theorem dL_law_431 : decode cL_law 431 = .ok (.iaload, 1) := dk_46 (dk_at dksL_law_13 2 rfl rfl)
theorem dL_law_432 : decode cL_law 432 = .ok (.aload_n 0, 1) := dk_42 (dk_at dksL_law_13 3 rfl rfl)
theorem dL_law_433 : decode cL_law 433 = .ok (.iload_n 3, 1) := dk_29 (dk_at dksL_law_13 4 rfl rfl)
theorem dL_law_434 : decode cL_law 434 = .ok (.iconst 2, 1) := dk_5 (dk_at dksL_law_13 5 rfl rfl)
theorem dL_law_435 : decode cL_law 435 = .ok (.iadd, 1) := dk_96 (dk_at dksL_law_13 6 rfl rfl)
theorem dL_law_436 : decode cL_law 436 = .ok (.iaload, 1) := dk_46 (dk_at dksL_law_13 7 rfl rfl)
theorem dL_law_437 : decode cL_law 437 = .ok (.invokevirtual 49, 3) := dk_182 0 49 (dk_at dksL_law_13 8 rfl rfl)
theorem dL_law_440 : decode cL_law 440 = .ok (.aload_n 2, 1) := dk_44 (dk_at dksL_law_13 11 rfl rfl)
theorem dL_law_441 : decode cL_law 441 = .ok (.aload_n 0, 1) := dk_42 (dk_at dksL_law_13 12 rfl rfl)
theorem dL_law_442 : decode cL_law 442 = .ok (.iload_n 3, 1) := dk_29 (dk_at dksL_law_13 13 rfl rfl)
theorem dL_law_443 : decode cL_law 443 = .ok (.iconst 1, 1) := dk_4 (dk_at dksL_law_13 14 rfl rfl)
theorem dL_law_444 : decode cL_law 444 = .ok (.iadd, 1) := dk_96 (dk_at dksL_law_13 15 rfl rfl)
theorem dL_law_445 : decode cL_law 445 = .ok (.iaload, 1) := dk_46 (dk_at dksL_law_13 16 rfl rfl)
theorem dL_law_446 : decode cL_law 446 = .ok (.aload_n 0, 1) := dk_42 (dk_at dksL_law_13 17 rfl rfl)
theorem dL_law_447 : decode cL_law 447 = .ok (.iload_n 3, 1) := dk_29 (dk_at dksL_law_13 18 rfl rfl)
theorem dL_law_448 : decode cL_law 448 = .ok (.iconst 2, 1) := dk_5 (dk_at dksL_law_13 19 rfl rfl)
theorem dL_law_449 : decode cL_law 449 = .ok (.iadd, 1) := dk_96 (dk_at dksL_law_13 20 rfl rfl)
theorem dL_law_450 : decode cL_law 450 = .ok (.iaload, 1) := dk_46 (dk_at dksL_law_13 21 rfl rfl)
theorem dL_law_451 : decode cL_law 451 = .ok (.invokevirtual 53, 3) := dk_182 0 53 (dk_at dksL_law_14 0 rfl rfl)
theorem dL_law_454 : decode cL_law 454 = .ok (.if_icmp .eq 746, 3) := dk_159 2 234 (dk_at dksL_law_14 3 rfl rfl)
theorem dL_law_457 : decode cL_law 457 = .ok (.iconst 0, 1) := dk_3 (dk_at dksL_law_14 6 rfl rfl)
theorem dL_law_458 : decode cL_law 458 = .ok (.ireturn, 1) := dk_172 (dk_at dksL_law_14 7 rfl rfl)
theorem dL_law_459 : decode cL_law 459 = .ok (.aload_n 1, 1) := dk_43 (dk_at dksL_law_14 8 rfl rfl)
theorem dL_law_460 : decode cL_law 460 = .ok (.aload_n 0, 1) := dk_42 (dk_at dksL_law_14 9 rfl rfl)
theorem dL_law_461 : decode cL_law 461 = .ok (.iload_n 3, 1) := dk_29 (dk_at dksL_law_14 10 rfl rfl)
theorem dL_law_462 : decode cL_law 462 = .ok (.iconst 1, 1) := dk_4 (dk_at dksL_law_14 11 rfl rfl)
theorem dL_law_463 : decode cL_law 463 = .ok (.iadd, 1) := dk_96 (dk_at dksL_law_14 12 rfl rfl)
theorem dL_law_464 : decode cL_law 464 = .ok (.iaload, 1) := dk_46 (dk_at dksL_law_14 13 rfl rfl)
theorem dL_law_465 : decode cL_law 465 = .ok (.aload_n 0, 1) := dk_42 (dk_at dksL_law_14 14 rfl rfl)
theorem dL_law_466 : decode cL_law 466 = .ok (.iload_n 3, 1) := dk_29 (dk_at dksL_law_14 15 rfl rfl)
theorem dL_law_467 : decode cL_law 467 = .ok (.iconst 2, 1) := dk_5 (dk_at dksL_law_14 16 rfl rfl)
theorem dL_law_468 : decode cL_law 468 = .ok (.iadd, 1) := dk_96 (dk_at dksL_law_14 17 rfl rfl)
theorem dL_law_469 : decode cL_law 469 = .ok (.iaload, 1) := dk_46 (dk_at dksL_law_14 18 rfl rfl)
theorem dL_law_470 : decode cL_law 470 = .ok (.aload_n 0, 1) := dk_42 (dk_at dksL_law_14 19 rfl rfl)
theorem dL_law_471 : decode cL_law 471 = .ok (.iload_n 3, 1) := dk_29 (dk_at dksL_law_14 20 rfl rfl)
theorem dL_law_472 : decode cL_law 472 = .ok (.iconst 3, 1) := dk_6 (dk_at dksL_law_14 21 rfl rfl)
theorem dL_law_473 : decode cL_law 473 = .ok (.iadd, 1) := dk_96 (dk_at dksL_law_14 22 rfl rfl)
theorem dL_law_474 : decode cL_law 474 = .ok (.iaload, 1) := dk_46 (dk_at dksL_law_14 23 rfl rfl)
theorem dL_law_475 : decode cL_law 475 = .ok (.aload_n 0, 1) := dk_42 (dk_at dksL_law_15 0 rfl rfl)
theorem dL_law_476 : decode cL_law 476 = .ok (.iload_n 3, 1) := dk_29 (dk_at dksL_law_15 1 rfl rfl)
theorem dL_law_477 : decode cL_law 477 = .ok (.iconst 4, 1) := dk_7 (dk_at dksL_law_15 2 rfl rfl)
theorem dL_law_478 : decode cL_law 478 = .ok (.iadd, 1) := dk_96 (dk_at dksL_law_15 3 rfl rfl)
theorem dL_law_479 : decode cL_law 479 = .ok (.iaload, 1) := dk_46 (dk_at dksL_law_15 4 rfl rfl)
theorem dL_law_480 : decode cL_law 480 = .ok (.aload_n 0, 1) := dk_42 (dk_at dksL_law_15 5 rfl rfl)
theorem dL_law_481 : decode cL_law 481 = .ok (.iload_n 3, 1) := dk_29 (dk_at dksL_law_15 6 rfl rfl)
theorem dL_law_482 : decode cL_law 482 = .ok (.iconst 5, 1) := dk_8 (dk_at dksL_law_15 7 rfl rfl)
theorem dL_law_483 : decode cL_law 483 = .ok (.iadd, 1) := dk_96 (dk_at dksL_law_15 8 rfl rfl)
theorem dL_law_484 : decode cL_law 484 = .ok (.iaload, 1) := dk_46 (dk_at dksL_law_15 9 rfl rfl)
theorem dL_law_485 : decode cL_law 485 = .ok (.invokevirtual 54, 3) := dk_182 0 54 (dk_at dksL_law_15 10 rfl rfl)
theorem dL_law_488 : decode cL_law 488 = .ok (.aload_n 2, 1) := dk_44 (dk_at dksL_law_15 13 rfl rfl)
theorem dL_law_489 : decode cL_law 489 = .ok (.aload_n 0, 1) := dk_42 (dk_at dksL_law_15 14 rfl rfl)
theorem dL_law_490 : decode cL_law 490 = .ok (.iload_n 3, 1) := dk_29 (dk_at dksL_law_15 15 rfl rfl)
theorem dL_law_491 : decode cL_law 491 = .ok (.iconst 1, 1) := dk_4 (dk_at dksL_law_15 16 rfl rfl)
theorem dL_law_492 : decode cL_law 492 = .ok (.iadd, 1) := dk_96 (dk_at dksL_law_15 17 rfl rfl)
theorem dL_law_493 : decode cL_law 493 = .ok (.iaload, 1) := dk_46 (dk_at dksL_law_15 18 rfl rfl)
theorem dL_law_494 : decode cL_law 494 = .ok (.aload_n 0, 1) := dk_42 (dk_at dksL_law_15 19 rfl rfl)
theorem dL_law_495 : decode cL_law 495 = .ok (.iload_n 3, 1) := dk_29 (dk_at dksL_law_15 20 rfl rfl)
theorem dL_law_496 : decode cL_law 496 = .ok (.iconst 2, 1) := dk_5 (dk_at dksL_law_15 21 rfl rfl)
theorem dL_law_497 : decode cL_law 497 = .ok (.iadd, 1) := dk_96 (dk_at dksL_law_15 22 rfl rfl)
theorem dL_law_498 : decode cL_law 498 = .ok (.iaload, 1) := dk_46 (dk_at dksL_law_15 23 rfl rfl)
theorem dL_law_499 : decode cL_law 499 = .ok (.aload_n 0, 1) := dk_42 (dk_at dksL_law_16 0 rfl rfl)
theorem dL_law_500 : decode cL_law 500 = .ok (.iload_n 3, 1) := dk_29 (dk_at dksL_law_16 1 rfl rfl)
theorem dL_law_501 : decode cL_law 501 = .ok (.iconst 3, 1) := dk_6 (dk_at dksL_law_16 2 rfl rfl)
theorem dL_law_502 : decode cL_law 502 = .ok (.iadd, 1) := dk_96 (dk_at dksL_law_16 3 rfl rfl)
theorem dL_law_503 : decode cL_law 503 = .ok (.iaload, 1) := dk_46 (dk_at dksL_law_16 4 rfl rfl)
theorem dL_law_504 : decode cL_law 504 = .ok (.aload_n 0, 1) := dk_42 (dk_at dksL_law_16 5 rfl rfl)
theorem dL_law_505 : decode cL_law 505 = .ok (.iload_n 3, 1) := dk_29 (dk_at dksL_law_16 6 rfl rfl)
theorem dL_law_506 : decode cL_law 506 = .ok (.iconst 4, 1) := dk_7 (dk_at dksL_law_16 7 rfl rfl)
theorem dL_law_507 : decode cL_law 507 = .ok (.iadd, 1) := dk_96 (dk_at dksL_law_16 8 rfl rfl)
theorem dL_law_508 : decode cL_law 508 = .ok (.iaload, 1) := dk_46 (dk_at dksL_law_16 9 rfl rfl)
theorem dL_law_509 : decode cL_law 509 = .ok (.aload_n 0, 1) := dk_42 (dk_at dksL_law_16 10 rfl rfl)
theorem dL_law_510 : decode cL_law 510 = .ok (.iload_n 3, 1) := dk_29 (dk_at dksL_law_16 11 rfl rfl)
theorem dL_law_511 : decode cL_law 511 = .ok (.iconst 5, 1) := dk_8 (dk_at dksL_law_16 12 rfl rfl)
theorem dL_law_512 : decode cL_law 512 = .ok (.iadd, 1) := dk_96 (dk_at dksL_law_16 13 rfl rfl)
theorem dL_law_513 : decode cL_law 513 = .ok (.iaload, 1) := dk_46 (dk_at dksL_law_16 14 rfl rfl)
theorem dL_law_514 : decode cL_law 514 = .ok (.invokevirtual 57, 3) := dk_182 0 57 (dk_at dksL_law_16 15 rfl rfl)
theorem dL_law_517 : decode cL_law 517 = .ok (.if_icmp .eq 683, 3) := dk_159 2 171 (dk_at dksL_law_16 18 rfl rfl)
theorem dL_law_520 : decode cL_law 520 = .ok (.iconst 0, 1) := dk_3 (dk_at dksL_law_16 21 rfl rfl)
theorem dL_law_521 : decode cL_law 521 = .ok (.ireturn, 1) := dk_172 (dk_at dksL_law_16 22 rfl rfl)
theorem dL_law_522 : decode cL_law 522 = .ok (.aload_n 1, 1) := dk_43 (dk_at dksL_law_16 23 rfl rfl)
theorem dL_law_523 : decode cL_law 523 = .ok (.aload_n 0, 1) := dk_42 (dk_at dksL_law_17 0 rfl rfl)
theorem dL_law_524 : decode cL_law 524 = .ok (.iload_n 3, 1) := dk_29 (dk_at dksL_law_17 1 rfl rfl)
theorem dL_law_525 : decode cL_law 525 = .ok (.iconst 1, 1) := dk_4 (dk_at dksL_law_17 2 rfl rfl)
theorem dL_law_526 : decode cL_law 526 = .ok (.iadd, 1) := dk_96 (dk_at dksL_law_17 3 rfl rfl)
theorem dL_law_527 : decode cL_law 527 = .ok (.iaload, 1) := dk_46 (dk_at dksL_law_17 4 rfl rfl)
theorem dL_law_528 : decode cL_law 528 = .ok (.invokevirtual 58, 3) := dk_182 0 58 (dk_at dksL_law_17 5 rfl rfl)
theorem dL_law_531 : decode cL_law 531 = .ok (.aload_n 2, 1) := dk_44 (dk_at dksL_law_17 8 rfl rfl)
theorem dL_law_532 : decode cL_law 532 = .ok (.aload_n 0, 1) := dk_42 (dk_at dksL_law_17 9 rfl rfl)
theorem dL_law_533 : decode cL_law 533 = .ok (.iload_n 3, 1) := dk_29 (dk_at dksL_law_17 10 rfl rfl)
theorem dL_law_534 : decode cL_law 534 = .ok (.iconst 1, 1) := dk_4 (dk_at dksL_law_17 11 rfl rfl)
theorem dL_law_535 : decode cL_law 535 = .ok (.iadd, 1) := dk_96 (dk_at dksL_law_17 12 rfl rfl)
theorem dL_law_536 : decode cL_law 536 = .ok (.iaload, 1) := dk_46 (dk_at dksL_law_17 13 rfl rfl)
theorem dL_law_537 : decode cL_law 537 = .ok (.invokevirtual 61, 3) := dk_182 0 61 (dk_at dksL_law_17 14 rfl rfl)
theorem dL_law_540 : decode cL_law 540 = .ok (.if_icmp .eq 660, 3) := dk_159 2 148 (dk_at dksL_law_17 17 rfl rfl)
theorem dL_law_543 : decode cL_law 543 = .ok (.iconst 0, 1) := dk_3 (dk_at dksL_law_17 20 rfl rfl)
theorem dL_law_544 : decode cL_law 544 = .ok (.ireturn, 1) := dk_172 (dk_at dksL_law_17 21 rfl rfl)
theorem dL_law_545 : decode cL_law 545 = .ok (.aload_n 1, 1) := dk_43 (dk_at dksL_law_17 22 rfl rfl)
theorem dL_law_546 : decode cL_law 546 = .ok (.aload_n 0, 1) := dk_42 (dk_at dksL_law_17 23 rfl rfl)
theorem dL_law_547 : decode cL_law 547 = .ok (.iload_n 3, 1) := dk_29 (dk_at dksL_law_18 0 rfl rfl)
theorem dL_law_548 : decode cL_law 548 = .ok (.iconst 1, 1) := dk_4 (dk_at dksL_law_18 1 rfl rfl)
theorem dL_law_549 : decode cL_law 549 = .ok (.iadd, 1) := dk_96 (dk_at dksL_law_18 2 rfl rfl)
theorem dL_law_550 : decode cL_law 550 = .ok (.iaload, 1) := dk_46 (dk_at dksL_law_18 3 rfl rfl)
theorem dL_law_551 : decode cL_law 551 = .ok (.aload_n 0, 1) := dk_42 (dk_at dksL_law_18 4 rfl rfl)
theorem dL_law_552 : decode cL_law 552 = .ok (.iload_n 3, 1) := dk_29 (dk_at dksL_law_18 5 rfl rfl)
theorem dL_law_553 : decode cL_law 553 = .ok (.iconst 2, 1) := dk_5 (dk_at dksL_law_18 6 rfl rfl)
theorem dL_law_554 : decode cL_law 554 = .ok (.iadd, 1) := dk_96 (dk_at dksL_law_18 7 rfl rfl)
theorem dL_law_555 : decode cL_law 555 = .ok (.iaload, 1) := dk_46 (dk_at dksL_law_18 8 rfl rfl)
theorem dL_law_556 : decode cL_law 556 = .ok (.invokevirtual 62, 3) := dk_182 0 62 (dk_at dksL_law_18 9 rfl rfl)
theorem dL_law_559 : decode cL_law 559 = .ok (.aload_n 2, 1) := dk_44 (dk_at dksL_law_18 12 rfl rfl)
theorem dL_law_560 : decode cL_law 560 = .ok (.aload_n 0, 1) := dk_42 (dk_at dksL_law_18 13 rfl rfl)
theorem dL_law_561 : decode cL_law 561 = .ok (.iload_n 3, 1) := dk_29 (dk_at dksL_law_18 14 rfl rfl)
theorem dL_law_562 : decode cL_law 562 = .ok (.iconst 1, 1) := dk_4 (dk_at dksL_law_18 15 rfl rfl)
theorem dL_law_563 : decode cL_law 563 = .ok (.iadd, 1) := dk_96 (dk_at dksL_law_18 16 rfl rfl)
theorem dL_law_564 : decode cL_law 564 = .ok (.iaload, 1) := dk_46 (dk_at dksL_law_18 17 rfl rfl)
theorem dL_law_565 : decode cL_law 565 = .ok (.aload_n 0, 1) := dk_42 (dk_at dksL_law_18 18 rfl rfl)
theorem dL_law_566 : decode cL_law 566 = .ok (.iload_n 3, 1) := dk_29 (dk_at dksL_law_18 19 rfl rfl)
theorem dL_law_567 : decode cL_law 567 = .ok (.iconst 2, 1) := dk_5 (dk_at dksL_law_18 20 rfl rfl)
theorem dL_law_568 : decode cL_law 568 = .ok (.iadd, 1) := dk_96 (dk_at dksL_law_18 21 rfl rfl)
theorem dL_law_569 : decode cL_law 569 = .ok (.iaload, 1) := dk_46 (dk_at dksL_law_18 22 rfl rfl)
theorem dL_law_570 : decode cL_law 570 = .ok (.invokevirtual 65, 3) := dk_182 0 65 (dk_at dksL_law_19 0 rfl rfl)
theorem dL_law_573 : decode cL_law 573 = .ok (.if_icmp .eq 627, 3) := dk_159 2 115 (dk_at dksL_law_19 3 rfl rfl)
theorem dL_law_576 : decode cL_law 576 = .ok (.iconst 0, 1) := dk_3 (dk_at dksL_law_19 6 rfl rfl)
theorem dL_law_577 : decode cL_law 577 = .ok (.ireturn, 1) := dk_172 (dk_at dksL_law_19 7 rfl rfl)
theorem dL_law_578 : decode cL_law 578 = .ok (.aload_n 1, 1) := dk_43 (dk_at dksL_law_19 8 rfl rfl)
theorem dL_law_579 : decode cL_law 579 = .ok (.aload_n 0, 1) := dk_42 (dk_at dksL_law_19 9 rfl rfl)
theorem dL_law_580 : decode cL_law 580 = .ok (.iload_n 3, 1) := dk_29 (dk_at dksL_law_19 10 rfl rfl)
theorem dL_law_581 : decode cL_law 581 = .ok (.iconst 1, 1) := dk_4 (dk_at dksL_law_19 11 rfl rfl)
theorem dL_law_582 : decode cL_law 582 = .ok (.iadd, 1) := dk_96 (dk_at dksL_law_19 12 rfl rfl)
theorem dL_law_583 : decode cL_law 583 = .ok (.iaload, 1) := dk_46 (dk_at dksL_law_19 13 rfl rfl)
theorem dL_law_584 : decode cL_law 584 = .ok (.invokevirtual 66, 3) := dk_182 0 66 (dk_at dksL_law_19 14 rfl rfl)
theorem dL_law_587 : decode cL_law 587 = .ok (.aload_n 2, 1) := dk_44 (dk_at dksL_law_19 17 rfl rfl)
theorem dL_law_588 : decode cL_law 588 = .ok (.aload_n 0, 1) := dk_42 (dk_at dksL_law_19 18 rfl rfl)
theorem dL_law_589 : decode cL_law 589 = .ok (.iload_n 3, 1) := dk_29 (dk_at dksL_law_19 19 rfl rfl)
theorem dL_law_590 : decode cL_law 590 = .ok (.iconst 1, 1) := dk_4 (dk_at dksL_law_19 20 rfl rfl)
theorem dL_law_591 : decode cL_law 591 = .ok (.iadd, 1) := dk_96 (dk_at dksL_law_19 21 rfl rfl)
theorem dL_law_592 : decode cL_law 592 = .ok (.iaload, 1) := dk_46 (dk_at dksL_law_19 22 rfl rfl)
theorem dL_law_593 : decode cL_law 593 = .ok (.invokevirtual 69, 3) := dk_182 0 69 (dk_at dksL_law_20 0 rfl rfl)
theorem dL_law_596 : decode cL_law 596 = .ok (.if_icmp .eq 604, 3) := dk_159 2 92 (dk_at dksL_law_20 3 rfl rfl)
theorem dL_law_599 : decode cL_law 599 = .ok (.iconst 0, 1) := dk_3 (dk_at dksL_law_20 6 rfl rfl)
theorem dL_law_600 : decode cL_law 600 = .ok (.ireturn, 1) := dk_172 (dk_at dksL_law_20 7 rfl rfl)
theorem dL_law_601 : decode cL_law 601 = .ok (.aload_n 1, 1) := dk_43 (dk_at dksL_law_20 8 rfl rfl)
theorem dL_law_602 : decode cL_law 602 = .ok (.aload_n 0, 1) := dk_42 (dk_at dksL_law_20 9 rfl rfl)
theorem dL_law_603 : decode cL_law 603 = .ok (.iload_n 3, 1) := dk_29 (dk_at dksL_law_20 10 rfl rfl)
theorem dL_law_604 : decode cL_law 604 = .ok (.iconst 1, 1) := dk_4 (dk_at dksL_law_20 11 rfl rfl)
theorem dL_law_605 : decode cL_law 605 = .ok (.iadd, 1) := dk_96 (dk_at dksL_law_20 12 rfl rfl)
theorem dL_law_606 : decode cL_law 606 = .ok (.iaload, 1) := dk_46 (dk_at dksL_law_20 13 rfl rfl)
theorem dL_law_607 : decode cL_law 607 = .ok (.aload_n 0, 1) := dk_42 (dk_at dksL_law_20 14 rfl rfl)
theorem dL_law_608 : decode cL_law 608 = .ok (.iload_n 3, 1) := dk_29 (dk_at dksL_law_20 15 rfl rfl)
theorem dL_law_609 : decode cL_law 609 = .ok (.iconst 2, 1) := dk_5 (dk_at dksL_law_20 16 rfl rfl)
theorem dL_law_610 : decode cL_law 610 = .ok (.iadd, 1) := dk_96 (dk_at dksL_law_20 17 rfl rfl)
theorem dL_law_611 : decode cL_law 611 = .ok (.iaload, 1) := dk_46 (dk_at dksL_law_20 18 rfl rfl)
theorem dL_law_612 : decode cL_law 612 = .ok (.invokevirtual 70, 3) := dk_182 0 70 (dk_at dksL_law_20 19 rfl rfl)
theorem dL_law_615 : decode cL_law 615 = .ok (.aload_n 2, 1) := dk_44 (dk_at dksL_law_20 22 rfl rfl)
theorem dL_law_616 : decode cL_law 616 = .ok (.aload_n 0, 1) := dk_42 (dk_at dksL_law_20 23 rfl rfl)
theorem dL_law_617 : decode cL_law 617 = .ok (.iload_n 3, 1) := dk_29 (dk_at dksL_law_21 0 rfl rfl)
theorem dL_law_618 : decode cL_law 618 = .ok (.iconst 1, 1) := dk_4 (dk_at dksL_law_21 1 rfl rfl)
theorem dL_law_619 : decode cL_law 619 = .ok (.iadd, 1) := dk_96 (dk_at dksL_law_21 2 rfl rfl)
theorem dL_law_620 : decode cL_law 620 = .ok (.iaload, 1) := dk_46 (dk_at dksL_law_21 3 rfl rfl)
theorem dL_law_621 : decode cL_law 621 = .ok (.aload_n 0, 1) := dk_42 (dk_at dksL_law_21 4 rfl rfl)
theorem dL_law_622 : decode cL_law 622 = .ok (.iload_n 3, 1) := dk_29 (dk_at dksL_law_21 5 rfl rfl)
theorem dL_law_623 : decode cL_law 623 = .ok (.iconst 2, 1) := dk_5 (dk_at dksL_law_21 6 rfl rfl)
theorem dL_law_624 : decode cL_law 624 = .ok (.iadd, 1) := dk_96 (dk_at dksL_law_21 7 rfl rfl)
theorem dL_law_625 : decode cL_law 625 = .ok (.iaload, 1) := dk_46 (dk_at dksL_law_21 8 rfl rfl)
theorem dL_law_626 : decode cL_law 626 = .ok (.invokevirtual 73, 3) := dk_182 0 73 (dk_at dksL_law_21 9 rfl rfl)
theorem dL_law_629 : decode cL_law 629 = .ok (.if_icmp .eq 571, 3) := dk_159 2 59 (dk_at dksL_law_21 12 rfl rfl)
theorem dL_law_632 : decode cL_law 632 = .ok (.iconst 0, 1) := dk_3 (dk_at dksL_law_21 15 rfl rfl)
theorem dL_law_633 : decode cL_law 633 = .ok (.ireturn, 1) := dk_172 (dk_at dksL_law_21 16 rfl rfl)
theorem dL_law_634 : decode cL_law 634 = .ok (.aload_n 1, 1) := dk_43 (dk_at dksL_law_21 17 rfl rfl)
theorem dL_law_635 : decode cL_law 635 = .ok (.aload_n 0, 1) := dk_42 (dk_at dksL_law_21 18 rfl rfl)
theorem dL_law_636 : decode cL_law 636 = .ok (.iload_n 3, 1) := dk_29 (dk_at dksL_law_21 19 rfl rfl)
theorem dL_law_637 : decode cL_law 637 = .ok (.iconst 1, 1) := dk_4 (dk_at dksL_law_21 20 rfl rfl)
theorem dL_law_638 : decode cL_law 638 = .ok (.iadd, 1) := dk_96 (dk_at dksL_law_21 21 rfl rfl)
theorem dL_law_639 : decode cL_law 639 = .ok (.iaload, 1) := dk_46 (dk_at dksL_law_21 22 rfl rfl)
theorem dL_law_640 : decode cL_law 640 = .ok (.aload_n 0, 1) := dk_42 (dk_at dksL_law_21 23 rfl rfl)
theorem dL_law_641 : decode cL_law 641 = .ok (.iload_n 3, 1) := dk_29 (dk_at dksL_law_22 0 rfl rfl)
theorem dL_law_642 : decode cL_law 642 = .ok (.iconst 2, 1) := dk_5 (dk_at dksL_law_22 1 rfl rfl)
theorem dL_law_643 : decode cL_law 643 = .ok (.iadd, 1) := dk_96 (dk_at dksL_law_22 2 rfl rfl)
theorem dL_law_644 : decode cL_law 644 = .ok (.iaload, 1) := dk_46 (dk_at dksL_law_22 3 rfl rfl)
theorem dL_law_645 : decode cL_law 645 = .ok (.invokevirtual 74, 3) := dk_182 0 74 (dk_at dksL_law_22 4 rfl rfl)
theorem dL_law_648 : decode cL_law 648 = .ok (.aload_n 2, 1) := dk_44 (dk_at dksL_law_22 7 rfl rfl)
theorem dL_law_649 : decode cL_law 649 = .ok (.aload_n 0, 1) := dk_42 (dk_at dksL_law_22 8 rfl rfl)
theorem dL_law_650 : decode cL_law 650 = .ok (.iload_n 3, 1) := dk_29 (dk_at dksL_law_22 9 rfl rfl)
theorem dL_law_651 : decode cL_law 651 = .ok (.iconst 1, 1) := dk_4 (dk_at dksL_law_22 10 rfl rfl)
theorem dL_law_652 : decode cL_law 652 = .ok (.iadd, 1) := dk_96 (dk_at dksL_law_22 11 rfl rfl)
theorem dL_law_653 : decode cL_law 653 = .ok (.iaload, 1) := dk_46 (dk_at dksL_law_22 12 rfl rfl)
theorem dL_law_654 : decode cL_law 654 = .ok (.aload_n 0, 1) := dk_42 (dk_at dksL_law_22 13 rfl rfl)
theorem dL_law_655 : decode cL_law 655 = .ok (.iload_n 3, 1) := dk_29 (dk_at dksL_law_22 14 rfl rfl)
theorem dL_law_656 : decode cL_law 656 = .ok (.iconst 2, 1) := dk_5 (dk_at dksL_law_22 15 rfl rfl)
theorem dL_law_657 : decode cL_law 657 = .ok (.iadd, 1) := dk_96 (dk_at dksL_law_22 16 rfl rfl)
theorem dL_law_658 : decode cL_law 658 = .ok (.iaload, 1) := dk_46 (dk_at dksL_law_22 17 rfl rfl)
theorem dL_law_659 : decode cL_law 659 = .ok (.invokevirtual 77, 3) := dk_182 0 77 (dk_at dksL_law_22 18 rfl rfl)
theorem dL_law_662 : decode cL_law 662 = .ok (.if_icmp .eq 538, 3) := dk_159 2 26 (dk_at dksL_law_22 21 rfl rfl)
theorem dL_law_665 : decode cL_law 665 = .ok (.iconst 0, 1) := dk_3 (dk_at dksL_law_23 0 rfl rfl)
theorem dL_law_666 : decode cL_law 666 = .ok (.ireturn, 1) := dk_172 (dk_at dksL_law_23 1 rfl rfl)
theorem dL_law_667 : decode cL_law 667 = .ok (.aload_n 1, 1) := dk_43 (dk_at dksL_law_23 2 rfl rfl)
theorem dL_law_668 : decode cL_law 668 = .ok (.aload_n 0, 1) := dk_42 (dk_at dksL_law_23 3 rfl rfl)
theorem dL_law_669 : decode cL_law 669 = .ok (.iload_n 3, 1) := dk_29 (dk_at dksL_law_23 4 rfl rfl)
theorem dL_law_670 : decode cL_law 670 = .ok (.iconst 1, 1) := dk_4 (dk_at dksL_law_23 5 rfl rfl)
theorem dL_law_671 : decode cL_law 671 = .ok (.iadd, 1) := dk_96 (dk_at dksL_law_23 6 rfl rfl)
theorem dL_law_672 : decode cL_law 672 = .ok (.iaload, 1) := dk_46 (dk_at dksL_law_23 7 rfl rfl)
theorem dL_law_673 : decode cL_law 673 = .ok (.invokevirtual 78, 3) := dk_182 0 78 (dk_at dksL_law_23 8 rfl rfl)
theorem dL_law_676 : decode cL_law 676 = .ok (.aload_n 2, 1) := dk_44 (dk_at dksL_law_23 11 rfl rfl)
theorem dL_law_677 : decode cL_law 677 = .ok (.aload_n 0, 1) := dk_42 (dk_at dksL_law_23 12 rfl rfl)
theorem dL_law_678 : decode cL_law 678 = .ok (.iload_n 3, 1) := dk_29 (dk_at dksL_law_23 13 rfl rfl)
theorem dL_law_679 : decode cL_law 679 = .ok (.iconst 1, 1) := dk_4 (dk_at dksL_law_23 14 rfl rfl)
theorem dL_law_680 : decode cL_law 680 = .ok (.iadd, 1) := dk_96 (dk_at dksL_law_23 15 rfl rfl)
theorem dL_law_681 : decode cL_law 681 = .ok (.iaload, 1) := dk_46 (dk_at dksL_law_23 16 rfl rfl)
theorem dL_law_682 : decode cL_law 682 = .ok (.invokevirtual 81, 3) := dk_182 0 81 (dk_at dksL_law_23 17 rfl rfl)
theorem dL_law_685 : decode cL_law 685 = .ok (.if_icmp .eq 515, 3) := dk_159 2 3 (dk_at dksL_law_23 20 rfl rfl)
theorem dL_law_688 : decode cL_law 688 = .ok (.iconst 0, 1) := dk_3 (dk_at dksL_law_23 23 rfl rfl)
theorem dL_law_689 : decode cL_law 689 = .ok (.ireturn, 1) := dk_172 (dk_at dksL_law_24 0 rfl rfl)
theorem dL_law_690 : decode cL_law 690 = .ok (.aload_n 1, 1) := dk_43 (dk_at dksL_law_24 1 rfl rfl)
theorem dL_law_691 : decode cL_law 691 = .ok (.aload_n 0, 1) := dk_42 (dk_at dksL_law_24 2 rfl rfl)
theorem dL_law_692 : decode cL_law 692 = .ok (.iload_n 3, 1) := dk_29 (dk_at dksL_law_24 3 rfl rfl)
theorem dL_law_693 : decode cL_law 693 = .ok (.iconst 1, 1) := dk_4 (dk_at dksL_law_24 4 rfl rfl)
theorem dL_law_694 : decode cL_law 694 = .ok (.iadd, 1) := dk_96 (dk_at dksL_law_24 5 rfl rfl)
theorem dL_law_695 : decode cL_law 695 = .ok (.iaload, 1) := dk_46 (dk_at dksL_law_24 6 rfl rfl)
theorem dL_law_696 : decode cL_law 696 = .ok (.aload_n 0, 1) := dk_42 (dk_at dksL_law_24 7 rfl rfl)
theorem dL_law_697 : decode cL_law 697 = .ok (.iload_n 3, 1) := dk_29 (dk_at dksL_law_24 8 rfl rfl)
theorem dL_law_698 : decode cL_law 698 = .ok (.iconst 2, 1) := dk_5 (dk_at dksL_law_24 9 rfl rfl)
theorem dL_law_699 : decode cL_law 699 = .ok (.iadd, 1) := dk_96 (dk_at dksL_law_24 10 rfl rfl)
theorem dL_law_700 : decode cL_law 700 = .ok (.iaload, 1) := dk_46 (dk_at dksL_law_24 11 rfl rfl)
theorem dL_law_701 : decode cL_law 701 = .ok (.aload_n 0, 1) := dk_42 (dk_at dksL_law_24 12 rfl rfl)
theorem dL_law_702 : decode cL_law 702 = .ok (.iload_n 3, 1) := dk_29 (dk_at dksL_law_24 13 rfl rfl)
theorem dL_law_703 : decode cL_law 703 = .ok (.iconst 3, 1) := dk_6 (dk_at dksL_law_24 14 rfl rfl)
theorem dL_law_704 : decode cL_law 704 = .ok (.iadd, 1) := dk_96 (dk_at dksL_law_24 15 rfl rfl)
theorem dL_law_705 : decode cL_law 705 = .ok (.iaload, 1) := dk_46 (dk_at dksL_law_24 16 rfl rfl)
theorem dL_law_706 : decode cL_law 706 = .ok (.invokevirtual 82, 3) := dk_182 0 82 (dk_at dksL_law_24 17 rfl rfl)
theorem dL_law_709 : decode cL_law 709 = .ok (.aload_n 2, 1) := dk_44 (dk_at dksL_law_24 20 rfl rfl)
theorem dL_law_710 : decode cL_law 710 = .ok (.aload_n 0, 1) := dk_42 (dk_at dksL_law_24 21 rfl rfl)
theorem dL_law_711 : decode cL_law 711 = .ok (.iload_n 3, 1) := dk_29 (dk_at dksL_law_24 22 rfl rfl)
theorem dL_law_712 : decode cL_law 712 = .ok (.iconst 1, 1) := dk_4 (dk_at dksL_law_24 23 rfl rfl)
theorem dL_law_713 : decode cL_law 713 = .ok (.iadd, 1) := dk_96 (dk_at dksL_law_25 0 rfl rfl)
theorem dL_law_714 : decode cL_law 714 = .ok (.iaload, 1) := dk_46 (dk_at dksL_law_25 1 rfl rfl)
theorem dL_law_715 : decode cL_law 715 = .ok (.aload_n 0, 1) := dk_42 (dk_at dksL_law_25 2 rfl rfl)
theorem dL_law_716 : decode cL_law 716 = .ok (.iload_n 3, 1) := dk_29 (dk_at dksL_law_25 3 rfl rfl)
theorem dL_law_717 : decode cL_law 717 = .ok (.iconst 2, 1) := dk_5 (dk_at dksL_law_25 4 rfl rfl)
theorem dL_law_718 : decode cL_law 718 = .ok (.iadd, 1) := dk_96 (dk_at dksL_law_25 5 rfl rfl)
theorem dL_law_719 : decode cL_law 719 = .ok (.iaload, 1) := dk_46 (dk_at dksL_law_25 6 rfl rfl)
theorem dL_law_720 : decode cL_law 720 = .ok (.aload_n 0, 1) := dk_42 (dk_at dksL_law_25 7 rfl rfl)
theorem dL_law_721 : decode cL_law 721 = .ok (.iload_n 3, 1) := dk_29 (dk_at dksL_law_25 8 rfl rfl)
theorem dL_law_722 : decode cL_law 722 = .ok (.iconst 3, 1) := dk_6 (dk_at dksL_law_25 9 rfl rfl)
theorem dL_law_723 : decode cL_law 723 = .ok (.iadd, 1) := dk_96 (dk_at dksL_law_25 10 rfl rfl)
theorem dL_law_724 : decode cL_law 724 = .ok (.iaload, 1) := dk_46 (dk_at dksL_law_25 11 rfl rfl)
theorem dL_law_725 : decode cL_law 725 = .ok (.invokevirtual 85, 3) := dk_182 0 85 (dk_at dksL_law_25 12 rfl rfl)
theorem dL_law_728 : decode cL_law 728 = .ok (.if_icmp .eq 472, 3) := dk_159 1 216 (dk_at dksL_law_25 15 rfl rfl)
theorem dL_law_731 : decode cL_law 731 = .ok (.iconst 0, 1) := dk_3 (dk_at dksL_law_25 18 rfl rfl)
theorem dL_law_732 : decode cL_law 732 = .ok (.ireturn, 1) := dk_172 (dk_at dksL_law_25 19 rfl rfl)
theorem dL_law_733 : decode cL_law 733 = .ok (.aload_n 1, 1) := dk_43 (dk_at dksL_law_25 20 rfl rfl)
theorem dL_law_734 : decode cL_law 734 = .ok (.aload_n 0, 1) := dk_42 (dk_at dksL_law_25 21 rfl rfl)
theorem dL_law_735 : decode cL_law 735 = .ok (.iload_n 3, 1) := dk_29 (dk_at dksL_law_25 22 rfl rfl)
theorem dL_law_736 : decode cL_law 736 = .ok (.iconst 1, 1) := dk_4 (dk_at dksL_law_25 23 rfl rfl)
theorem dL_law_737 : decode cL_law 737 = .ok (.iadd, 1) := dk_96 (dk_at dksL_law_26 0 rfl rfl)
theorem dL_law_738 : decode cL_law 738 = .ok (.iaload, 1) := dk_46 (dk_at dksL_law_26 1 rfl rfl)
theorem dL_law_739 : decode cL_law 739 = .ok (.aload_n 0, 1) := dk_42 (dk_at dksL_law_26 2 rfl rfl)
theorem dL_law_740 : decode cL_law 740 = .ok (.iload_n 3, 1) := dk_29 (dk_at dksL_law_26 3 rfl rfl)
theorem dL_law_741 : decode cL_law 741 = .ok (.iconst 2, 1) := dk_5 (dk_at dksL_law_26 4 rfl rfl)
theorem dL_law_742 : decode cL_law 742 = .ok (.iadd, 1) := dk_96 (dk_at dksL_law_26 5 rfl rfl)
theorem dL_law_743 : decode cL_law 743 = .ok (.iaload, 1) := dk_46 (dk_at dksL_law_26 6 rfl rfl)
theorem dL_law_744 : decode cL_law 744 = .ok (.invokevirtual 86, 3) := dk_182 0 86 (dk_at dksL_law_26 7 rfl rfl)
theorem dL_law_747 : decode cL_law 747 = .ok (.aload_n 2, 1) := dk_44 (dk_at dksL_law_26 10 rfl rfl)
theorem dL_law_748 : decode cL_law 748 = .ok (.aload_n 0, 1) := dk_42 (dk_at dksL_law_26 11 rfl rfl)
theorem dL_law_749 : decode cL_law 749 = .ok (.iload_n 3, 1) := dk_29 (dk_at dksL_law_26 12 rfl rfl)
theorem dL_law_750 : decode cL_law 750 = .ok (.iconst 1, 1) := dk_4 (dk_at dksL_law_26 13 rfl rfl)
theorem dL_law_751 : decode cL_law 751 = .ok (.iadd, 1) := dk_96 (dk_at dksL_law_26 14 rfl rfl)
theorem dL_law_752 : decode cL_law 752 = .ok (.iaload, 1) := dk_46 (dk_at dksL_law_26 15 rfl rfl)
theorem dL_law_753 : decode cL_law 753 = .ok (.aload_n 0, 1) := dk_42 (dk_at dksL_law_26 16 rfl rfl)
theorem dL_law_754 : decode cL_law 754 = .ok (.iload_n 3, 1) := dk_29 (dk_at dksL_law_26 17 rfl rfl)
theorem dL_law_755 : decode cL_law 755 = .ok (.iconst 2, 1) := dk_5 (dk_at dksL_law_26 18 rfl rfl)
theorem dL_law_756 : decode cL_law 756 = .ok (.iadd, 1) := dk_96 (dk_at dksL_law_26 19 rfl rfl)
theorem dL_law_757 : decode cL_law 757 = .ok (.iaload, 1) := dk_46 (dk_at dksL_law_26 20 rfl rfl)
theorem dL_law_758 : decode cL_law 758 = .ok (.invokevirtual 89, 3) := dk_182 0 89 (dk_at dksL_law_26 21 rfl rfl)
theorem dL_law_761 : decode cL_law 761 = .ok (.if_icmp .eq 439, 3) := dk_159 1 183 (dk_at dksL_law_27 0 rfl rfl)
theorem dL_law_764 : decode cL_law 764 = .ok (.iconst 0, 1) := dk_3 (dk_at dksL_law_27 3 rfl rfl)
theorem dL_law_765 : decode cL_law 765 = .ok (.ireturn, 1) := dk_172 (dk_at dksL_law_27 4 rfl rfl)
theorem dL_law_766 : decode cL_law 766 = .ok (.aload_n 1, 1) := dk_43 (dk_at dksL_law_27 5 rfl rfl)
theorem dL_law_767 : decode cL_law 767 = .ok (.aload_n 0, 1) := dk_42 (dk_at dksL_law_27 6 rfl rfl)
theorem dL_law_768 : decode cL_law 768 = .ok (.iload_n 3, 1) := dk_29 (dk_at dksL_law_27 7 rfl rfl)
theorem dL_law_769 : decode cL_law 769 = .ok (.iconst 1, 1) := dk_4 (dk_at dksL_law_27 8 rfl rfl)
theorem dL_law_770 : decode cL_law 770 = .ok (.iadd, 1) := dk_96 (dk_at dksL_law_27 9 rfl rfl)
theorem dL_law_771 : decode cL_law 771 = .ok (.iaload, 1) := dk_46 (dk_at dksL_law_27 10 rfl rfl)
theorem dL_law_772 : decode cL_law 772 = .ok (.invokevirtual 90, 3) := dk_182 0 90 (dk_at dksL_law_27 11 rfl rfl)
theorem dL_law_775 : decode cL_law 775 = .ok (.aload_n 2, 1) := dk_44 (dk_at dksL_law_27 14 rfl rfl)
theorem dL_law_776 : decode cL_law 776 = .ok (.aload_n 0, 1) := dk_42 (dk_at dksL_law_27 15 rfl rfl)
theorem dL_law_777 : decode cL_law 777 = .ok (.iload_n 3, 1) := dk_29 (dk_at dksL_law_27 16 rfl rfl)
theorem dL_law_778 : decode cL_law 778 = .ok (.iconst 1, 1) := dk_4 (dk_at dksL_law_27 17 rfl rfl)
theorem dL_law_779 : decode cL_law 779 = .ok (.iadd, 1) := dk_96 (dk_at dksL_law_27 18 rfl rfl)
theorem dL_law_780 : decode cL_law 780 = .ok (.iaload, 1) := dk_46 (dk_at dksL_law_27 19 rfl rfl)
theorem dL_law_781 : decode cL_law 781 = .ok (.invokevirtual 93, 3) := dk_182 0 93 (dk_at dksL_law_27 20 rfl rfl)
theorem dL_law_784 : decode cL_law 784 = .ok (.if_icmp .eq 416, 3) := dk_159 1 160 (dk_at dksL_law_28 0 rfl rfl)
theorem dL_law_787 : decode cL_law 787 = .ok (.iconst 0, 1) := dk_3 (dk_at dksL_law_28 3 rfl rfl)
theorem dL_law_788 : decode cL_law 788 = .ok (.ireturn, 1) := dk_172 (dk_at dksL_law_28 4 rfl rfl)
theorem dL_law_789 : decode cL_law 789 = .ok (.aload_n 1, 1) := dk_43 (dk_at dksL_law_28 5 rfl rfl)
theorem dL_law_790 : decode cL_law 790 = .ok (.aload_n 0, 1) := dk_42 (dk_at dksL_law_28 6 rfl rfl)
theorem dL_law_791 : decode cL_law 791 = .ok (.iload_n 3, 1) := dk_29 (dk_at dksL_law_28 7 rfl rfl)
theorem dL_law_792 : decode cL_law 792 = .ok (.iconst 1, 1) := dk_4 (dk_at dksL_law_28 8 rfl rfl)
theorem dL_law_793 : decode cL_law 793 = .ok (.iadd, 1) := dk_96 (dk_at dksL_law_28 9 rfl rfl)
theorem dL_law_794 : decode cL_law 794 = .ok (.iaload, 1) := dk_46 (dk_at dksL_law_28 10 rfl rfl)
theorem dL_law_795 : decode cL_law 795 = .ok (.invokevirtual 94, 3) := dk_182 0 94 (dk_at dksL_law_28 11 rfl rfl)
theorem dL_law_798 : decode cL_law 798 = .ok (.aload_n 2, 1) := dk_44 (dk_at dksL_law_28 14 rfl rfl)
theorem dL_law_799 : decode cL_law 799 = .ok (.aload_n 0, 1) := dk_42 (dk_at dksL_law_28 15 rfl rfl)
theorem dL_law_800 : decode cL_law 800 = .ok (.iload_n 3, 1) := dk_29 (dk_at dksL_law_28 16 rfl rfl)
theorem dL_law_801 : decode cL_law 801 = .ok (.iconst 1, 1) := dk_4 (dk_at dksL_law_28 17 rfl rfl)
theorem dL_law_802 : decode cL_law 802 = .ok (.iadd, 1) := dk_96 (dk_at dksL_law_28 18 rfl rfl)
theorem dL_law_803 : decode cL_law 803 = .ok (.iaload, 1) := dk_46 (dk_at dksL_law_28 19 rfl rfl)
theorem dL_law_804 : decode cL_law 804 = .ok (.invokevirtual 97, 3) := dk_182 0 97 (dk_at dksL_law_28 20 rfl rfl)
theorem dL_law_807 : decode cL_law 807 = .ok (.if_icmp .eq 393, 3) := dk_159 1 137 (dk_at dksL_law_29 0 rfl rfl)
theorem dL_law_810 : decode cL_law 810 = .ok (.iconst 0, 1) := dk_3 (dk_at dksL_law_29 3 rfl rfl)
theorem dL_law_811 : decode cL_law 811 = .ok (.ireturn, 1) := dk_172 (dk_at dksL_law_29 4 rfl rfl)
theorem dL_law_812 : decode cL_law 812 = .ok (.aload_n 1, 1) := dk_43 (dk_at dksL_law_29 5 rfl rfl)
theorem dL_law_813 : decode cL_law 813 = .ok (.aload_n 0, 1) := dk_42 (dk_at dksL_law_29 6 rfl rfl)
theorem dL_law_814 : decode cL_law 814 = .ok (.iload_n 3, 1) := dk_29 (dk_at dksL_law_29 7 rfl rfl)
theorem dL_law_815 : decode cL_law 815 = .ok (.iconst 1, 1) := dk_4 (dk_at dksL_law_29 8 rfl rfl)
theorem dL_law_816 : decode cL_law 816 = .ok (.iadd, 1) := dk_96 (dk_at dksL_law_29 9 rfl rfl)
theorem dL_law_817 : decode cL_law 817 = .ok (.iaload, 1) := dk_46 (dk_at dksL_law_29 10 rfl rfl)
theorem dL_law_818 : decode cL_law 818 = .ok (.invokevirtual 98, 3) := dk_182 0 98 (dk_at dksL_law_29 11 rfl rfl)
theorem dL_law_821 : decode cL_law 821 = .ok (.aload_n 2, 1) := dk_44 (dk_at dksL_law_29 14 rfl rfl)
theorem dL_law_822 : decode cL_law 822 = .ok (.aload_n 0, 1) := dk_42 (dk_at dksL_law_29 15 rfl rfl)
theorem dL_law_823 : decode cL_law 823 = .ok (.iload_n 3, 1) := dk_29 (dk_at dksL_law_29 16 rfl rfl)
theorem dL_law_824 : decode cL_law 824 = .ok (.iconst 1, 1) := dk_4 (dk_at dksL_law_29 17 rfl rfl)
theorem dL_law_825 : decode cL_law 825 = .ok (.iadd, 1) := dk_96 (dk_at dksL_law_29 18 rfl rfl)
theorem dL_law_826 : decode cL_law 826 = .ok (.iaload, 1) := dk_46 (dk_at dksL_law_29 19 rfl rfl)
theorem dL_law_827 : decode cL_law 827 = .ok (.invokevirtual 101, 3) := dk_182 0 101 (dk_at dksL_law_29 20 rfl rfl)
theorem dL_law_830 : decode cL_law 830 = .ok (.if_icmp .eq 370, 3) := dk_159 1 114 (dk_at dksL_law_30 0 rfl rfl)
theorem dL_law_833 : decode cL_law 833 = .ok (.iconst 0, 1) := dk_3 (dk_at dksL_law_30 3 rfl rfl)
theorem dL_law_834 : decode cL_law 834 = .ok (.ireturn, 1) := dk_172 (dk_at dksL_law_30 4 rfl rfl)
theorem dL_law_835 : decode cL_law 835 = .ok (.aload_n 1, 1) := dk_43 (dk_at dksL_law_30 5 rfl rfl)
theorem dL_law_836 : decode cL_law 836 = .ok (.invokevirtual 102, 3) := dk_182 0 102 (dk_at dksL_law_30 6 rfl rfl)
theorem dL_law_839 : decode cL_law 839 = .ok (.aload_n 2, 1) := dk_44 (dk_at dksL_law_30 9 rfl rfl)
theorem dL_law_840 : decode cL_law 840 = .ok (.invokevirtual 105, 3) := dk_182 0 105 (dk_at dksL_law_30 10 rfl rfl)
theorem dL_law_843 : decode cL_law 843 = .ok (.if_icmp .eq 357, 3) := dk_159 1 101 (dk_at dksL_law_30 13 rfl rfl)
theorem dL_law_846 : decode cL_law 846 = .ok (.iconst 0, 1) := dk_3 (dk_at dksL_law_30 16 rfl rfl)
theorem dL_law_847 : decode cL_law 847 = .ok (.ireturn, 1) := dk_172 (dk_at dksL_law_30 17 rfl rfl)
theorem dL_law_848 : decode cL_law 848 = .ok (.aload_n 1, 1) := dk_43 (dk_at dksL_law_30 18 rfl rfl)
theorem dL_law_849 : decode cL_law 849 = .ok (.invokevirtual 106, 3) := dk_182 0 106 (dk_at dksL_law_30 19 rfl rfl)
theorem dL_law_852 : decode cL_law 852 = .ok (.aload_n 2, 1) := dk_44 (dk_at dksL_law_30 22 rfl rfl)
theorem dL_law_853 : decode cL_law 853 = .ok (.invokevirtual 109, 3) := dk_182 0 109 (dk_at dksL_law_31 0 rfl rfl)
theorem dL_law_856 : decode cL_law 856 = .ok (.if_icmp .eq 344, 3) := dk_159 1 88 (dk_at dksL_law_31 3 rfl rfl)
theorem dL_law_859 : decode cL_law 859 = .ok (.iconst 0, 1) := dk_3 (dk_at dksL_law_31 6 rfl rfl)
theorem dL_law_860 : decode cL_law 860 = .ok (.ireturn, 1) := dk_172 (dk_at dksL_law_31 7 rfl rfl)
theorem dL_law_861 : decode cL_law 861 = .ok (.aload_n 1, 1) := dk_43 (dk_at dksL_law_31 8 rfl rfl)
theorem dL_law_862 : decode cL_law 862 = .ok (.aload_n 0, 1) := dk_42 (dk_at dksL_law_31 9 rfl rfl)
theorem dL_law_863 : decode cL_law 863 = .ok (.iload_n 3, 1) := dk_29 (dk_at dksL_law_31 10 rfl rfl)
theorem dL_law_864 : decode cL_law 864 = .ok (.iconst 1, 1) := dk_4 (dk_at dksL_law_31 11 rfl rfl)
theorem dL_law_865 : decode cL_law 865 = .ok (.iadd, 1) := dk_96 (dk_at dksL_law_31 12 rfl rfl)
theorem dL_law_866 : decode cL_law 866 = .ok (.iaload, 1) := dk_46 (dk_at dksL_law_31 13 rfl rfl)
theorem dL_law_867 : decode cL_law 867 = .ok (.aload_n 0, 1) := dk_42 (dk_at dksL_law_31 14 rfl rfl)
theorem dL_law_868 : decode cL_law 868 = .ok (.iload_n 3, 1) := dk_29 (dk_at dksL_law_31 15 rfl rfl)
theorem dL_law_869 : decode cL_law 869 = .ok (.iconst 2, 1) := dk_5 (dk_at dksL_law_31 16 rfl rfl)
theorem dL_law_870 : decode cL_law 870 = .ok (.iadd, 1) := dk_96 (dk_at dksL_law_31 17 rfl rfl)
theorem dL_law_871 : decode cL_law 871 = .ok (.iaload, 1) := dk_46 (dk_at dksL_law_31 18 rfl rfl)
theorem dL_law_872 : decode cL_law 872 = .ok (.invokevirtual 110, 3) := dk_182 0 110 (dk_at dksL_law_31 19 rfl rfl)
theorem dL_law_875 : decode cL_law 875 = .ok (.aload_n 2, 1) := dk_44 (dk_at dksL_law_31 22 rfl rfl)
theorem dL_law_876 : decode cL_law 876 = .ok (.aload_n 0, 1) := dk_42 (dk_at dksL_law_31 23 rfl rfl)
theorem dL_law_877 : decode cL_law 877 = .ok (.iload_n 3, 1) := dk_29 (dk_at dksL_law_32 0 rfl rfl)
theorem dL_law_878 : decode cL_law 878 = .ok (.iconst 1, 1) := dk_4 (dk_at dksL_law_32 1 rfl rfl)
theorem dL_law_879 : decode cL_law 879 = .ok (.iadd, 1) := dk_96 (dk_at dksL_law_32 2 rfl rfl)
theorem dL_law_880 : decode cL_law 880 = .ok (.iaload, 1) := dk_46 (dk_at dksL_law_32 3 rfl rfl)
theorem dL_law_881 : decode cL_law 881 = .ok (.aload_n 0, 1) := dk_42 (dk_at dksL_law_32 4 rfl rfl)
theorem dL_law_882 : decode cL_law 882 = .ok (.iload_n 3, 1) := dk_29 (dk_at dksL_law_32 5 rfl rfl)
theorem dL_law_883 : decode cL_law 883 = .ok (.iconst 2, 1) := dk_5 (dk_at dksL_law_32 6 rfl rfl)
theorem dL_law_884 : decode cL_law 884 = .ok (.iadd, 1) := dk_96 (dk_at dksL_law_32 7 rfl rfl)
theorem dL_law_885 : decode cL_law 885 = .ok (.iaload, 1) := dk_46 (dk_at dksL_law_32 8 rfl rfl)
theorem dL_law_886 : decode cL_law 886 = .ok (.invokevirtual 113, 3) := dk_182 0 113 (dk_at dksL_law_32 9 rfl rfl)
theorem dL_law_889 : decode cL_law 889 = .ok (.if_icmp .eq 311, 3) := dk_159 1 55 (dk_at dksL_law_32 12 rfl rfl)
theorem dL_law_892 : decode cL_law 892 = .ok (.iconst 0, 1) := dk_3 (dk_at dksL_law_32 15 rfl rfl)
theorem dL_law_893 : decode cL_law 893 = .ok (.ireturn, 1) := dk_172 (dk_at dksL_law_32 16 rfl rfl)
theorem dL_law_894 : decode cL_law 894 = .ok (.aload_n 1, 1) := dk_43 (dk_at dksL_law_32 17 rfl rfl)
theorem dL_law_895 : decode cL_law 895 = .ok (.aload_n 0, 1) := dk_42 (dk_at dksL_law_32 18 rfl rfl)
theorem dL_law_896 : decode cL_law 896 = .ok (.iload_n 3, 1) := dk_29 (dk_at dksL_law_32 19 rfl rfl)
theorem dL_law_897 : decode cL_law 897 = .ok (.iconst 1, 1) := dk_4 (dk_at dksL_law_32 20 rfl rfl)
theorem dL_law_898 : decode cL_law 898 = .ok (.iadd, 1) := dk_96 (dk_at dksL_law_32 21 rfl rfl)
theorem dL_law_899 : decode cL_law 899 = .ok (.iaload, 1) := dk_46 (dk_at dksL_law_32 22 rfl rfl)
theorem dL_law_900 : decode cL_law 900 = .ok (.aload_n 0, 1) := dk_42 (dk_at dksL_law_32 23 rfl rfl)
theorem dL_law_901 : decode cL_law 901 = .ok (.iload_n 3, 1) := dk_29 (dk_at dksL_law_33 0 rfl rfl)
theorem dL_law_902 : decode cL_law 902 = .ok (.iconst 2, 1) := dk_5 (dk_at dksL_law_33 1 rfl rfl)
theorem dL_law_903 : decode cL_law 903 = .ok (.iadd, 1) := dk_96 (dk_at dksL_law_33 2 rfl rfl)
theorem dL_law_904 : decode cL_law 904 = .ok (.iaload, 1) := dk_46 (dk_at dksL_law_33 3 rfl rfl)
theorem dL_law_905 : decode cL_law 905 = .ok (.invokevirtual 114, 3) := dk_182 0 114 (dk_at dksL_law_33 4 rfl rfl)
theorem dL_law_908 : decode cL_law 908 = .ok (.aload_n 2, 1) := dk_44 (dk_at dksL_law_33 7 rfl rfl)
theorem dL_law_909 : decode cL_law 909 = .ok (.aload_n 0, 1) := dk_42 (dk_at dksL_law_33 8 rfl rfl)
theorem dL_law_910 : decode cL_law 910 = .ok (.iload_n 3, 1) := dk_29 (dk_at dksL_law_33 9 rfl rfl)
theorem dL_law_911 : decode cL_law 911 = .ok (.iconst 1, 1) := dk_4 (dk_at dksL_law_33 10 rfl rfl)
theorem dL_law_912 : decode cL_law 912 = .ok (.iadd, 1) := dk_96 (dk_at dksL_law_33 11 rfl rfl)
theorem dL_law_913 : decode cL_law 913 = .ok (.iaload, 1) := dk_46 (dk_at dksL_law_33 12 rfl rfl)
theorem dL_law_914 : decode cL_law 914 = .ok (.aload_n 0, 1) := dk_42 (dk_at dksL_law_33 13 rfl rfl)
theorem dL_law_915 : decode cL_law 915 = .ok (.iload_n 3, 1) := dk_29 (dk_at dksL_law_33 14 rfl rfl)
theorem dL_law_916 : decode cL_law 916 = .ok (.iconst 2, 1) := dk_5 (dk_at dksL_law_33 15 rfl rfl)
theorem dL_law_917 : decode cL_law 917 = .ok (.iadd, 1) := dk_96 (dk_at dksL_law_33 16 rfl rfl)
theorem dL_law_918 : decode cL_law 918 = .ok (.iaload, 1) := dk_46 (dk_at dksL_law_33 17 rfl rfl)
theorem dL_law_919 : decode cL_law 919 = .ok (.invokevirtual 117, 3) := dk_182 0 117 (dk_at dksL_law_33 18 rfl rfl)
theorem dL_law_922 : decode cL_law 922 = .ok (.if_icmp .eq 278, 3) := dk_159 1 22 (dk_at dksL_law_33 21 rfl rfl)
theorem dL_law_925 : decode cL_law 925 = .ok (.iconst 0, 1) := dk_3 (dk_at dksL_law_34 0 rfl rfl)
theorem dL_law_926 : decode cL_law 926 = .ok (.ireturn, 1) := dk_172 (dk_at dksL_law_34 1 rfl rfl)
theorem dL_law_927 : decode cL_law 927 = .ok (.aload_n 1, 1) := dk_43 (dk_at dksL_law_34 2 rfl rfl)
theorem dL_law_928 : decode cL_law 928 = .ok (.aload_n 0, 1) := dk_42 (dk_at dksL_law_34 3 rfl rfl)
theorem dL_law_929 : decode cL_law 929 = .ok (.iload_n 3, 1) := dk_29 (dk_at dksL_law_34 4 rfl rfl)
theorem dL_law_930 : decode cL_law 930 = .ok (.iconst 1, 1) := dk_4 (dk_at dksL_law_34 5 rfl rfl)
theorem dL_law_931 : decode cL_law 931 = .ok (.iadd, 1) := dk_96 (dk_at dksL_law_34 6 rfl rfl)
theorem dL_law_932 : decode cL_law 932 = .ok (.iaload, 1) := dk_46 (dk_at dksL_law_34 7 rfl rfl)
theorem dL_law_933 : decode cL_law 933 = .ok (.invokevirtual 118, 3) := dk_182 0 118 (dk_at dksL_law_34 8 rfl rfl)
theorem dL_law_936 : decode cL_law 936 = .ok (.aload_n 2, 1) := dk_44 (dk_at dksL_law_34 11 rfl rfl)
theorem dL_law_937 : decode cL_law 937 = .ok (.aload_n 0, 1) := dk_42 (dk_at dksL_law_34 12 rfl rfl)
theorem dL_law_938 : decode cL_law 938 = .ok (.iload_n 3, 1) := dk_29 (dk_at dksL_law_34 13 rfl rfl)
theorem dL_law_939 : decode cL_law 939 = .ok (.iconst 1, 1) := dk_4 (dk_at dksL_law_34 14 rfl rfl)
theorem dL_law_940 : decode cL_law 940 = .ok (.iadd, 1) := dk_96 (dk_at dksL_law_34 15 rfl rfl)
theorem dL_law_941 : decode cL_law 941 = .ok (.iaload, 1) := dk_46 (dk_at dksL_law_34 16 rfl rfl)
theorem dL_law_942 : decode cL_law 942 = .ok (.invokevirtual 121, 3) := dk_182 0 121 (dk_at dksL_law_34 17 rfl rfl)
theorem dL_law_945 : decode cL_law 945 = .ok (.if_icmp .eq 255, 3) := dk_159 0 255 (dk_at dksL_law_34 20 rfl rfl)
theorem dL_law_948 : decode cL_law 948 = .ok (.iconst 0, 1) := dk_3 (dk_at dksL_law_34 23 rfl rfl)
theorem dL_law_949 : decode cL_law 949 = .ok (.ireturn, 1) := dk_172 (dk_at dksL_law_35 0 rfl rfl)
theorem dL_law_950 : decode cL_law 950 = .ok (.aload_n 1, 1) := dk_43 (dk_at dksL_law_35 1 rfl rfl)
theorem dL_law_951 : decode cL_law 951 = .ok (.invokevirtual 122, 3) := dk_182 0 122 (dk_at dksL_law_35 2 rfl rfl)
theorem dL_law_954 : decode cL_law 954 = .ok (.aload_n 2, 1) := dk_44 (dk_at dksL_law_35 5 rfl rfl)
theorem dL_law_955 : decode cL_law 955 = .ok (.invokevirtual 125, 3) := dk_182 0 125 (dk_at dksL_law_35 6 rfl rfl)
theorem dL_law_958 : decode cL_law 958 = .ok (.if_icmp .eq 242, 3) := dk_159 0 242 (dk_at dksL_law_35 9 rfl rfl)
theorem dL_law_961 : decode cL_law 961 = .ok (.iconst 0, 1) := dk_3 (dk_at dksL_law_35 12 rfl rfl)
theorem dL_law_962 : decode cL_law 962 = .ok (.ireturn, 1) := dk_172 (dk_at dksL_law_35 13 rfl rfl)
theorem dL_law_963 : decode cL_law 963 = .ok (.aload_n 1, 1) := dk_43 (dk_at dksL_law_35 14 rfl rfl)
theorem dL_law_964 : decode cL_law 964 = .ok (.aload_n 0, 1) := dk_42 (dk_at dksL_law_35 15 rfl rfl)
theorem dL_law_965 : decode cL_law 965 = .ok (.iload_n 3, 1) := dk_29 (dk_at dksL_law_35 16 rfl rfl)
theorem dL_law_966 : decode cL_law 966 = .ok (.iconst 1, 1) := dk_4 (dk_at dksL_law_35 17 rfl rfl)
theorem dL_law_967 : decode cL_law 967 = .ok (.iadd, 1) := dk_96 (dk_at dksL_law_35 18 rfl rfl)
theorem dL_law_968 : decode cL_law 968 = .ok (.iaload, 1) := dk_46 (dk_at dksL_law_35 19 rfl rfl)
theorem dL_law_969 : decode cL_law 969 = .ok (.aload_n 0, 1) := dk_42 (dk_at dksL_law_35 20 rfl rfl)
theorem dL_law_970 : decode cL_law 970 = .ok (.iload_n 3, 1) := dk_29 (dk_at dksL_law_35 21 rfl rfl)
theorem dL_law_971 : decode cL_law 971 = .ok (.iconst 2, 1) := dk_5 (dk_at dksL_law_35 22 rfl rfl)
theorem dL_law_972 : decode cL_law 972 = .ok (.iadd, 1) := dk_96 (dk_at dksL_law_35 23 rfl rfl)
theorem dL_law_973 : decode cL_law 973 = .ok (.iaload, 1) := dk_46 (dk_at dksL_law_36 0 rfl rfl)
theorem dL_law_974 : decode cL_law 974 = .ok (.aload_n 0, 1) := dk_42 (dk_at dksL_law_36 1 rfl rfl)
theorem dL_law_975 : decode cL_law 975 = .ok (.iload_n 3, 1) := dk_29 (dk_at dksL_law_36 2 rfl rfl)
theorem dL_law_976 : decode cL_law 976 = .ok (.iconst 3, 1) := dk_6 (dk_at dksL_law_36 3 rfl rfl)
theorem dL_law_977 : decode cL_law 977 = .ok (.iadd, 1) := dk_96 (dk_at dksL_law_36 4 rfl rfl)
theorem dL_law_978 : decode cL_law 978 = .ok (.iaload, 1) := dk_46 (dk_at dksL_law_36 5 rfl rfl)
theorem dL_law_979 : decode cL_law 979 = .ok (.invokevirtual 126, 3) := dk_182 0 126 (dk_at dksL_law_36 6 rfl rfl)
theorem dL_law_982 : decode cL_law 982 = .ok (.aload_n 2, 1) := dk_44 (dk_at dksL_law_36 9 rfl rfl)
theorem dL_law_983 : decode cL_law 983 = .ok (.aload_n 0, 1) := dk_42 (dk_at dksL_law_36 10 rfl rfl)
theorem dL_law_984 : decode cL_law 984 = .ok (.iload_n 3, 1) := dk_29 (dk_at dksL_law_36 11 rfl rfl)
theorem dL_law_985 : decode cL_law 985 = .ok (.iconst 1, 1) := dk_4 (dk_at dksL_law_36 12 rfl rfl)
theorem dL_law_986 : decode cL_law 986 = .ok (.iadd, 1) := dk_96 (dk_at dksL_law_36 13 rfl rfl)
theorem dL_law_987 : decode cL_law 987 = .ok (.iaload, 1) := dk_46 (dk_at dksL_law_36 14 rfl rfl)
theorem dL_law_988 : decode cL_law 988 = .ok (.aload_n 0, 1) := dk_42 (dk_at dksL_law_36 15 rfl rfl)
theorem dL_law_989 : decode cL_law 989 = .ok (.iload_n 3, 1) := dk_29 (dk_at dksL_law_36 16 rfl rfl)
theorem dL_law_990 : decode cL_law 990 = .ok (.iconst 2, 1) := dk_5 (dk_at dksL_law_36 17 rfl rfl)
theorem dL_law_991 : decode cL_law 991 = .ok (.iadd, 1) := dk_96 (dk_at dksL_law_36 18 rfl rfl)
theorem dL_law_992 : decode cL_law 992 = .ok (.iaload, 1) := dk_46 (dk_at dksL_law_36 19 rfl rfl)
theorem dL_law_993 : decode cL_law 993 = .ok (.aload_n 0, 1) := dk_42 (dk_at dksL_law_36 20 rfl rfl)
theorem dL_law_994 : decode cL_law 994 = .ok (.iload_n 3, 1) := dk_29 (dk_at dksL_law_36 21 rfl rfl)
theorem dL_law_995 : decode cL_law 995 = .ok (.iconst 3, 1) := dk_6 (dk_at dksL_law_36 22 rfl rfl)
theorem dL_law_996 : decode cL_law 996 = .ok (.iadd, 1) := dk_96 (dk_at dksL_law_36 23 rfl rfl)
theorem dL_law_997 : decode cL_law 997 = .ok (.iaload, 1) := dk_46 (dk_at dksL_law_37 0 rfl rfl)
theorem dL_law_998 : decode cL_law 998 = .ok (.invokevirtual 129, 3) := dk_182 0 129 (dk_at dksL_law_37 1 rfl rfl)
theorem dL_law_1001 : decode cL_law 1001 = .ok (.if_icmp .eq 199, 3) := dk_159 0 199 (dk_at dksL_law_37 4 rfl rfl)
theorem dL_law_1004 : decode cL_law 1004 = .ok (.iconst 0, 1) := dk_3 (dk_at dksL_law_37 7 rfl rfl)
theorem dL_law_1005 : decode cL_law 1005 = .ok (.ireturn, 1) := dk_172 (dk_at dksL_law_37 8 rfl rfl)
theorem dL_law_1006 : decode cL_law 1006 = .ok (.aload_n 1, 1) := dk_43 (dk_at dksL_law_37 9 rfl rfl)
theorem dL_law_1007 : decode cL_law 1007 = .ok (.aload_n 0, 1) := dk_42 (dk_at dksL_law_37 10 rfl rfl)
theorem dL_law_1008 : decode cL_law 1008 = .ok (.iload_n 3, 1) := dk_29 (dk_at dksL_law_37 11 rfl rfl)
theorem dL_law_1009 : decode cL_law 1009 = .ok (.iconst 1, 1) := dk_4 (dk_at dksL_law_37 12 rfl rfl)
theorem dL_law_1010 : decode cL_law 1010 = .ok (.iadd, 1) := dk_96 (dk_at dksL_law_37 13 rfl rfl)
theorem dL_law_1011 : decode cL_law 1011 = .ok (.iaload, 1) := dk_46 (dk_at dksL_law_37 14 rfl rfl)
theorem dL_law_1012 : decode cL_law 1012 = .ok (.invokevirtual 130, 3) := dk_182 0 130 (dk_at dksL_law_37 15 rfl rfl)
theorem dL_law_1015 : decode cL_law 1015 = .ok (.aload_n 2, 1) := dk_44 (dk_at dksL_law_37 18 rfl rfl)
theorem dL_law_1016 : decode cL_law 1016 = .ok (.aload_n 0, 1) := dk_42 (dk_at dksL_law_37 19 rfl rfl)
theorem dL_law_1017 : decode cL_law 1017 = .ok (.iload_n 3, 1) := dk_29 (dk_at dksL_law_37 20 rfl rfl)
theorem dL_law_1018 : decode cL_law 1018 = .ok (.iconst 1, 1) := dk_4 (dk_at dksL_law_37 21 rfl rfl)
theorem dL_law_1019 : decode cL_law 1019 = .ok (.iadd, 1) := dk_96 (dk_at dksL_law_37 22 rfl rfl)
theorem dL_law_1020 : decode cL_law 1020 = .ok (.iaload, 1) := dk_46 (dk_at dksL_law_37 23 rfl rfl)
theorem dL_law_1021 : decode cL_law 1021 = .ok (.invokevirtual 133, 3) := dk_182 0 133 (dk_at dksL_law_38 0 rfl rfl)
theorem dL_law_1024 : decode cL_law 1024 = .ok (.if_icmp .eq 176, 3) := dk_159 0 176 (dk_at dksL_law_38 3 rfl rfl)
theorem dL_law_1027 : decode cL_law 1027 = .ok (.iconst 0, 1) := dk_3 (dk_at dksL_law_38 6 rfl rfl)
theorem dL_law_1028 : decode cL_law 1028 = .ok (.ireturn, 1) := dk_172 (dk_at dksL_law_38 7 rfl rfl)
theorem dL_law_1029 : decode cL_law 1029 = .ok (.aload_n 1, 1) := dk_43 (dk_at dksL_law_38 8 rfl rfl)
theorem dL_law_1030 : decode cL_law 1030 = .ok (.aload_n 0, 1) := dk_42 (dk_at dksL_law_38 9 rfl rfl)
theorem dL_law_1031 : decode cL_law 1031 = .ok (.iload_n 3, 1) := dk_29 (dk_at dksL_law_38 10 rfl rfl)
theorem dL_law_1032 : decode cL_law 1032 = .ok (.iconst 1, 1) := dk_4 (dk_at dksL_law_38 11 rfl rfl)
theorem dL_law_1033 : decode cL_law 1033 = .ok (.iadd, 1) := dk_96 (dk_at dksL_law_38 12 rfl rfl)
theorem dL_law_1034 : decode cL_law 1034 = .ok (.iaload, 1) := dk_46 (dk_at dksL_law_38 13 rfl rfl)
theorem dL_law_1035 : decode cL_law 1035 = .ok (.invokevirtual 134, 3) := dk_182 0 134 (dk_at dksL_law_38 14 rfl rfl)
theorem dL_law_1038 : decode cL_law 1038 = .ok (.aload_n 2, 1) := dk_44 (dk_at dksL_law_38 17 rfl rfl)
theorem dL_law_1039 : decode cL_law 1039 = .ok (.aload_n 0, 1) := dk_42 (dk_at dksL_law_38 18 rfl rfl)
theorem dL_law_1040 : decode cL_law 1040 = .ok (.iload_n 3, 1) := dk_29 (dk_at dksL_law_38 19 rfl rfl)
theorem dL_law_1041 : decode cL_law 1041 = .ok (.iconst 1, 1) := dk_4 (dk_at dksL_law_38 20 rfl rfl)
theorem dL_law_1042 : decode cL_law 1042 = .ok (.iadd, 1) := dk_96 (dk_at dksL_law_38 21 rfl rfl)
theorem dL_law_1043 : decode cL_law 1043 = .ok (.iaload, 1) := dk_46 (dk_at dksL_law_38 22 rfl rfl)
theorem dL_law_1044 : decode cL_law 1044 = .ok (.invokevirtual 137, 3) := dk_182 0 137 (dk_at dksL_law_39 0 rfl rfl)
theorem dL_law_1047 : decode cL_law 1047 = .ok (.if_icmp .eq 153, 3) := dk_159 0 153 (dk_at dksL_law_39 3 rfl rfl)
theorem dL_law_1050 : decode cL_law 1050 = .ok (.iconst 0, 1) := dk_3 (dk_at dksL_law_39 6 rfl rfl)
theorem dL_law_1051 : decode cL_law 1051 = .ok (.ireturn, 1) := dk_172 (dk_at dksL_law_39 7 rfl rfl)
theorem dL_law_1052 : decode cL_law 1052 = .ok (.aload_n 1, 1) := dk_43 (dk_at dksL_law_39 8 rfl rfl)
theorem dL_law_1053 : decode cL_law 1053 = .ok (.aload_n 0, 1) := dk_42 (dk_at dksL_law_39 9 rfl rfl)
theorem dL_law_1054 : decode cL_law 1054 = .ok (.iload_n 3, 1) := dk_29 (dk_at dksL_law_39 10 rfl rfl)
theorem dL_law_1055 : decode cL_law 1055 = .ok (.iconst 1, 1) := dk_4 (dk_at dksL_law_39 11 rfl rfl)
theorem dL_law_1056 : decode cL_law 1056 = .ok (.iadd, 1) := dk_96 (dk_at dksL_law_39 12 rfl rfl)
theorem dL_law_1057 : decode cL_law 1057 = .ok (.iaload, 1) := dk_46 (dk_at dksL_law_39 13 rfl rfl)
theorem dL_law_1058 : decode cL_law 1058 = .ok (.invokevirtual 138, 3) := dk_182 0 138 (dk_at dksL_law_39 14 rfl rfl)
theorem dL_law_1061 : decode cL_law 1061 = .ok (.aload_n 2, 1) := dk_44 (dk_at dksL_law_39 17 rfl rfl)
theorem dL_law_1062 : decode cL_law 1062 = .ok (.aload_n 0, 1) := dk_42 (dk_at dksL_law_39 18 rfl rfl)
theorem dL_law_1063 : decode cL_law 1063 = .ok (.iload_n 3, 1) := dk_29 (dk_at dksL_law_39 19 rfl rfl)
theorem dL_law_1064 : decode cL_law 1064 = .ok (.iconst 1, 1) := dk_4 (dk_at dksL_law_39 20 rfl rfl)
theorem dL_law_1065 : decode cL_law 1065 = .ok (.iadd, 1) := dk_96 (dk_at dksL_law_39 21 rfl rfl)
theorem dL_law_1066 : decode cL_law 1066 = .ok (.iaload, 1) := dk_46 (dk_at dksL_law_39 22 rfl rfl)
theorem dL_law_1067 : decode cL_law 1067 = .ok (.invokevirtual 141, 3) := dk_182 0 141 (dk_at dksL_law_40 0 rfl rfl)
theorem dL_law_1070 : decode cL_law 1070 = .ok (.if_icmp .eq 130, 3) := dk_159 0 130 (dk_at dksL_law_40 3 rfl rfl)
theorem dL_law_1073 : decode cL_law 1073 = .ok (.iconst 0, 1) := dk_3 (dk_at dksL_law_40 6 rfl rfl)
theorem dL_law_1074 : decode cL_law 1074 = .ok (.ireturn, 1) := dk_172 (dk_at dksL_law_40 7 rfl rfl)
theorem dL_law_1075 : decode cL_law 1075 = .ok (.aload_n 1, 1) := dk_43 (dk_at dksL_law_40 8 rfl rfl)
theorem dL_law_1076 : decode cL_law 1076 = .ok (.aload_n 0, 1) := dk_42 (dk_at dksL_law_40 9 rfl rfl)
theorem dL_law_1077 : decode cL_law 1077 = .ok (.iload_n 3, 1) := dk_29 (dk_at dksL_law_40 10 rfl rfl)
theorem dL_law_1078 : decode cL_law 1078 = .ok (.iconst 1, 1) := dk_4 (dk_at dksL_law_40 11 rfl rfl)
theorem dL_law_1079 : decode cL_law 1079 = .ok (.iadd, 1) := dk_96 (dk_at dksL_law_40 12 rfl rfl)
theorem dL_law_1080 : decode cL_law 1080 = .ok (.iaload, 1) := dk_46 (dk_at dksL_law_40 13 rfl rfl)
theorem dL_law_1081 : decode cL_law 1081 = .ok (.aload_n 0, 1) := dk_42 (dk_at dksL_law_40 14 rfl rfl)
theorem dL_law_1082 : decode cL_law 1082 = .ok (.iload_n 3, 1) := dk_29 (dk_at dksL_law_40 15 rfl rfl)
theorem dL_law_1083 : decode cL_law 1083 = .ok (.iconst 2, 1) := dk_5 (dk_at dksL_law_40 16 rfl rfl)
theorem dL_law_1084 : decode cL_law 1084 = .ok (.iadd, 1) := dk_96 (dk_at dksL_law_40 17 rfl rfl)
theorem dL_law_1085 : decode cL_law 1085 = .ok (.iaload, 1) := dk_46 (dk_at dksL_law_40 18 rfl rfl)
theorem dL_law_1086 : decode cL_law 1086 = .ok (.invokevirtual 142, 3) := dk_182 0 142 (dk_at dksL_law_40 19 rfl rfl)
theorem dL_law_1089 : decode cL_law 1089 = .ok (.aload_n 2, 1) := dk_44 (dk_at dksL_law_40 22 rfl rfl)
theorem dL_law_1090 : decode cL_law 1090 = .ok (.aload_n 0, 1) := dk_42 (dk_at dksL_law_40 23 rfl rfl)
theorem dL_law_1091 : decode cL_law 1091 = .ok (.iload_n 3, 1) := dk_29 (dk_at dksL_law_41 0 rfl rfl)
theorem dL_law_1092 : decode cL_law 1092 = .ok (.iconst 1, 1) := dk_4 (dk_at dksL_law_41 1 rfl rfl)
theorem dL_law_1093 : decode cL_law 1093 = .ok (.iadd, 1) := dk_96 (dk_at dksL_law_41 2 rfl rfl)
theorem dL_law_1094 : decode cL_law 1094 = .ok (.iaload, 1) := dk_46 (dk_at dksL_law_41 3 rfl rfl)
theorem dL_law_1095 : decode cL_law 1095 = .ok (.aload_n 0, 1) := dk_42 (dk_at dksL_law_41 4 rfl rfl)
theorem dL_law_1096 : decode cL_law 1096 = .ok (.iload_n 3, 1) := dk_29 (dk_at dksL_law_41 5 rfl rfl)
theorem dL_law_1097 : decode cL_law 1097 = .ok (.iconst 2, 1) := dk_5 (dk_at dksL_law_41 6 rfl rfl)
theorem dL_law_1098 : decode cL_law 1098 = .ok (.iadd, 1) := dk_96 (dk_at dksL_law_41 7 rfl rfl)
theorem dL_law_1099 : decode cL_law 1099 = .ok (.iaload, 1) := dk_46 (dk_at dksL_law_41 8 rfl rfl)
theorem dL_law_1100 : decode cL_law 1100 = .ok (.invokevirtual 145, 3) := dk_182 0 145 (dk_at dksL_law_41 9 rfl rfl)
theorem dL_law_1103 : decode cL_law 1103 = .ok (.if_icmp .eq 97, 3) := dk_159 0 97 (dk_at dksL_law_41 12 rfl rfl)
theorem dL_law_1106 : decode cL_law 1106 = .ok (.iconst 0, 1) := dk_3 (dk_at dksL_law_41 15 rfl rfl)
theorem dL_law_1107 : decode cL_law 1107 = .ok (.ireturn, 1) := dk_172 (dk_at dksL_law_41 16 rfl rfl)
theorem dL_law_1108 : decode cL_law 1108 = .ok (.aload_n 1, 1) := dk_43 (dk_at dksL_law_41 17 rfl rfl)
theorem dL_law_1109 : decode cL_law 1109 = .ok (.aload_n 0, 1) := dk_42 (dk_at dksL_law_41 18 rfl rfl)
theorem dL_law_1110 : decode cL_law 1110 = .ok (.iload_n 3, 1) := dk_29 (dk_at dksL_law_41 19 rfl rfl)
theorem dL_law_1111 : decode cL_law 1111 = .ok (.iconst 1, 1) := dk_4 (dk_at dksL_law_41 20 rfl rfl)
theorem dL_law_1112 : decode cL_law 1112 = .ok (.iadd, 1) := dk_96 (dk_at dksL_law_41 21 rfl rfl)
theorem dL_law_1113 : decode cL_law 1113 = .ok (.iaload, 1) := dk_46 (dk_at dksL_law_41 22 rfl rfl)
theorem dL_law_1114 : decode cL_law 1114 = .ok (.aload_n 0, 1) := dk_42 (dk_at dksL_law_41 23 rfl rfl)
theorem dL_law_1115 : decode cL_law 1115 = .ok (.iload_n 3, 1) := dk_29 (dk_at dksL_law_42 0 rfl rfl)
theorem dL_law_1116 : decode cL_law 1116 = .ok (.iconst 2, 1) := dk_5 (dk_at dksL_law_42 1 rfl rfl)
theorem dL_law_1117 : decode cL_law 1117 = .ok (.iadd, 1) := dk_96 (dk_at dksL_law_42 2 rfl rfl)
theorem dL_law_1118 : decode cL_law 1118 = .ok (.iaload, 1) := dk_46 (dk_at dksL_law_42 3 rfl rfl)
theorem dL_law_1119 : decode cL_law 1119 = .ok (.invokevirtual 146, 3) := dk_182 0 146 (dk_at dksL_law_42 4 rfl rfl)
theorem dL_law_1122 : decode cL_law 1122 = .ok (.aload_n 2, 1) := dk_44 (dk_at dksL_law_42 7 rfl rfl)
theorem dL_law_1123 : decode cL_law 1123 = .ok (.aload_n 0, 1) := dk_42 (dk_at dksL_law_42 8 rfl rfl)
theorem dL_law_1124 : decode cL_law 1124 = .ok (.iload_n 3, 1) := dk_29 (dk_at dksL_law_42 9 rfl rfl)
theorem dL_law_1125 : decode cL_law 1125 = .ok (.iconst 1, 1) := dk_4 (dk_at dksL_law_42 10 rfl rfl)
theorem dL_law_1126 : decode cL_law 1126 = .ok (.iadd, 1) := dk_96 (dk_at dksL_law_42 11 rfl rfl)
theorem dL_law_1127 : decode cL_law 1127 = .ok (.iaload, 1) := dk_46 (dk_at dksL_law_42 12 rfl rfl)
theorem dL_law_1128 : decode cL_law 1128 = .ok (.aload_n 0, 1) := dk_42 (dk_at dksL_law_42 13 rfl rfl)
theorem dL_law_1129 : decode cL_law 1129 = .ok (.iload_n 3, 1) := dk_29 (dk_at dksL_law_42 14 rfl rfl)
theorem dL_law_1130 : decode cL_law 1130 = .ok (.iconst 2, 1) := dk_5 (dk_at dksL_law_42 15 rfl rfl)
theorem dL_law_1131 : decode cL_law 1131 = .ok (.iadd, 1) := dk_96 (dk_at dksL_law_42 16 rfl rfl)
theorem dL_law_1132 : decode cL_law 1132 = .ok (.iaload, 1) := dk_46 (dk_at dksL_law_42 17 rfl rfl)
theorem dL_law_1133 : decode cL_law 1133 = .ok (.invokevirtual 149, 3) := dk_182 0 149 (dk_at dksL_law_42 18 rfl rfl)
theorem dL_law_1136 : decode cL_law 1136 = .ok (.if_icmp .eq 64, 3) := dk_159 0 64 (dk_at dksL_law_42 21 rfl rfl)
theorem dL_law_1139 : decode cL_law 1139 = .ok (.iconst 0, 1) := dk_3 (dk_at dksL_law_43 0 rfl rfl)
theorem dL_law_1140 : decode cL_law 1140 = .ok (.ireturn, 1) := dk_172 (dk_at dksL_law_43 1 rfl rfl)
theorem dL_law_1141 : decode cL_law 1141 = .ok (.aload_n 1, 1) := dk_43 (dk_at dksL_law_43 2 rfl rfl)
theorem dL_law_1142 : decode cL_law 1142 = .ok (.aload_n 0, 1) := dk_42 (dk_at dksL_law_43 3 rfl rfl)
theorem dL_law_1143 : decode cL_law 1143 = .ok (.iload_n 3, 1) := dk_29 (dk_at dksL_law_43 4 rfl rfl)
theorem dL_law_1144 : decode cL_law 1144 = .ok (.iconst 1, 1) := dk_4 (dk_at dksL_law_43 5 rfl rfl)
theorem dL_law_1145 : decode cL_law 1145 = .ok (.iadd, 1) := dk_96 (dk_at dksL_law_43 6 rfl rfl)
theorem dL_law_1146 : decode cL_law 1146 = .ok (.iaload, 1) := dk_46 (dk_at dksL_law_43 7 rfl rfl)
theorem dL_law_1147 : decode cL_law 1147 = .ok (.invokevirtual 150, 3) := dk_182 0 150 (dk_at dksL_law_43 8 rfl rfl)
theorem dL_law_1150 : decode cL_law 1150 = .ok (.aload_n 2, 1) := dk_44 (dk_at dksL_law_43 11 rfl rfl)
theorem dL_law_1151 : decode cL_law 1151 = .ok (.aload_n 0, 1) := dk_42 (dk_at dksL_law_43 12 rfl rfl)
theorem dL_law_1152 : decode cL_law 1152 = .ok (.iload_n 3, 1) := dk_29 (dk_at dksL_law_43 13 rfl rfl)
theorem dL_law_1153 : decode cL_law 1153 = .ok (.iconst 1, 1) := dk_4 (dk_at dksL_law_43 14 rfl rfl)
theorem dL_law_1154 : decode cL_law 1154 = .ok (.iadd, 1) := dk_96 (dk_at dksL_law_43 15 rfl rfl)
theorem dL_law_1155 : decode cL_law 1155 = .ok (.iaload, 1) := dk_46 (dk_at dksL_law_43 16 rfl rfl)
theorem dL_law_1156 : decode cL_law 1156 = .ok (.invokevirtual 153, 3) := dk_182 0 153 (dk_at dksL_law_43 17 rfl rfl)
theorem dL_law_1159 : decode cL_law 1159 = .ok (.if_icmp .eq 41, 3) := dk_159 0 41 (dk_at dksL_law_43 20 rfl rfl)
theorem dL_law_1162 : decode cL_law 1162 = .ok (.iconst 0, 1) := dk_3 (dk_at dksL_law_43 23 rfl rfl)
theorem dL_law_1163 : decode cL_law 1163 = .ok (.ireturn, 1) := dk_172 (dk_at dksL_law_44 0 rfl rfl)
theorem dL_law_1164 : decode cL_law 1164 = .ok (.aload_n 1, 1) := dk_43 (dk_at dksL_law_44 1 rfl rfl)
theorem dL_law_1165 : decode cL_law 1165 = .ok (.aload_n 0, 1) := dk_42 (dk_at dksL_law_44 2 rfl rfl)
theorem dL_law_1166 : decode cL_law 1166 = .ok (.iload_n 3, 1) := dk_29 (dk_at dksL_law_44 3 rfl rfl)
theorem dL_law_1167 : decode cL_law 1167 = .ok (.iconst 1, 1) := dk_4 (dk_at dksL_law_44 4 rfl rfl)
theorem dL_law_1168 : decode cL_law 1168 = .ok (.iadd, 1) := dk_96 (dk_at dksL_law_44 5 rfl rfl)
theorem dL_law_1169 : decode cL_law 1169 = .ok (.iaload, 1) := dk_46 (dk_at dksL_law_44 6 rfl rfl)
theorem dL_law_1170 : decode cL_law 1170 = .ok (.invokevirtual 154, 3) := dk_182 0 154 (dk_at dksL_law_44 7 rfl rfl)
theorem dL_law_1173 : decode cL_law 1173 = .ok (.aload_n 2, 1) := dk_44 (dk_at dksL_law_44 10 rfl rfl)
theorem dL_law_1174 : decode cL_law 1174 = .ok (.aload_n 0, 1) := dk_42 (dk_at dksL_law_44 11 rfl rfl)
theorem dL_law_1175 : decode cL_law 1175 = .ok (.iload_n 3, 1) := dk_29 (dk_at dksL_law_44 12 rfl rfl)
theorem dL_law_1176 : decode cL_law 1176 = .ok (.iconst 1, 1) := dk_4 (dk_at dksL_law_44 13 rfl rfl)
theorem dL_law_1177 : decode cL_law 1177 = .ok (.iadd, 1) := dk_96 (dk_at dksL_law_44 14 rfl rfl)
theorem dL_law_1178 : decode cL_law 1178 = .ok (.iaload, 1) := dk_46 (dk_at dksL_law_44 15 rfl rfl)
theorem dL_law_1179 : decode cL_law 1179 = .ok (.invokevirtual 157, 3) := dk_182 0 157 (dk_at dksL_law_44 16 rfl rfl)
theorem dL_law_1182 : decode cL_law 1182 = .ok (.if_icmp .eq 18, 3) := dk_159 0 18 (dk_at dksL_law_44 19 rfl rfl)
theorem dL_law_1185 : decode cL_law 1185 = .ok (.iconst 0, 1) := dk_3 (dk_at dksL_law_44 22 rfl rfl)
theorem dL_law_1186 : decode cL_law 1186 = .ok (.ireturn, 1) := dk_172 (dk_at dksL_law_44 23 rfl rfl)
theorem dL_law_1187 : decode cL_law 1187 = .ok (.aload_n 1, 1) := dk_43 (dk_at dksL_law_45 0 rfl rfl)
theorem dL_law_1188 : decode cL_law 1188 = .ok (.invokevirtual 158, 3) := dk_182 0 158 (dk_at dksL_law_45 1 rfl rfl)
theorem dL_law_1191 : decode cL_law 1191 = .ok (.aload_n 2, 1) := dk_44 (dk_at dksL_law_45 4 rfl rfl)
theorem dL_law_1192 : decode cL_law 1192 = .ok (.invokevirtual 161, 3) := dk_182 0 161 (dk_at dksL_law_45 5 rfl rfl)
theorem dL_law_1195 : decode cL_law 1195 = .ok (.if_icmp .eq 5, 3) := dk_159 0 5 (dk_at dksL_law_45 8 rfl rfl)
theorem dL_law_1198 : decode cL_law 1198 = .ok (.iconst 0, 1) := dk_3 (dk_at dksL_law_45 11 rfl rfl)
theorem dL_law_1199 : decode cL_law 1199 = .ok (.ireturn, 1) := dk_172 (dk_at dksL_law_45 12 rfl rfl)
theorem dL_law_1200 : decode cL_law 1200 = .ok (.iinc 3 6, 3) := dk_132 3 6 (dk_at dksL_law_45 13 rfl rfl)
theorem dL_law_1203 : decode cL_law 1203 = .ok (.goto (-1185), 3) := dk_167 251 95 (dk_at dksL_law_45 16 rfl rfl)
theorem dL_law_1206 : decode cL_law 1206 = .ok (.iconst 1, 1) := dk_4 (dk_at dksL_law_45 19 rfl rfl)
theorem dL_law_1207 : decode cL_law 1207 = .ok (.ireturn, 1) := dk_172 (dk_at dksL_law_45 20 rfl rfl)
