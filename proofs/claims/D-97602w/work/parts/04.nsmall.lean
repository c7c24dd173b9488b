/-! PromisePounds$Parish -/
set_option maxRecDepth 100000
def RX1 : String := "PromisePounds$Parish"
def TX1 : u_T := fun k => match k with
  | 0 => ("PromisePounds$Parish", "height", "[I", true)
  | 1 => ("PromisePounds$Parish", "people", "Ljava/util/List;", false)
  | 2 => ("PromisePounds$Parish", "strength", "[I", true)
  | 3 => ("PromisePounds$Parish", "place", "[I", true)
  | 4 => ("PromisePounds$Parish", "promises", "I", false)
  | 5 => ("PromisePounds$Parish", "from", "[I", true)
  | 6 => ("PromisePounds$Parish", "to", "[I", true)
  | 7 => ("PromisePounds$Parish", "weight", "[I", true)
  | 8 => ("PromisePounds$Parish", "due", "[I", true)
  | 9 => ("PromisePounds$Parish", "at", "[I", true)
  | 10 => ("PromisePounds$Parish", "kept", "I", false)
  | _ => ("PromisePounds$Parish", "day", "I", false)
def tyX1 : Nat → FieldType := fun k => match k with
  | 0 => .array .int
  | 1 => .object "java/util/List"
  | 2 => .array .int
  | 3 => .array .int
  | 4 => .int
  | 5 => .array .int
  | 6 => .array .int
  | 7 => .array .int
  | 8 => .array .int
  | 9 => .array .int
  | 10 => .int
  | _ => .int
abbrev wsX10 : List Cond := u_ws RX1 TX1 12
theorem nmX1 : ∀ a, a < 12 → ∀ b, b < 12 → a ≠ b → (TX1 a).2.1 ≠ (TX1 b).2.1 := by decide +kernel
theorem tyX1_ok : ∀ k, k < 12 → parseFieldDescriptor (TX1 k).2.2.1 = some (tyX1 k) := by decide +kernel
abbrev cX1_init : ByteArray := prog_10_method_1_code
def yX1_init : MethodName := ⟨RX1, "<init>", "()V"⟩
def dkwX1_init_3 : List UInt8 := [188, 10, 181, 0, 40, 177]
abbrev dktX1_init_3 : List UInt8 := dkwX1_init_3 ++ []
def dkwX1_init_2 : List UInt8 := [188, 10, 181, 0, 31, 42, 16, 8, 188, 10, 181, 0, 34, 42, 16, 8, 188, 10, 181, 0, 37, 42, 16, 8]
abbrev dktX1_init_2 : List UInt8 := dkwX1_init_2 ++ dktX1_init_3
def dkwX1_init_1 : List UInt8 := [8, 188, 10, 181, 0, 22, 42, 8, 188, 10, 181, 0, 25, 42, 16, 8, 188, 10, 181, 0, 28, 42, 16, 8]
abbrev dktX1_init_1 : List UInt8 := dkwX1_init_1 ++ dktX1_init_2
def dkwX1_init_0 : List UInt8 := [42, 183, 0, 3, 42, 16, 6, 188, 10, 181, 0, 9, 42, 187, 0, 15, 89, 183, 0, 17, 181, 0, 18, 42]
abbrev dktX1_init_0 : List UInt8 := dkwX1_init_0 ++ dktX1_init_1
theorem dksX1_init_0 : cX1_init.data.toList.drop 0 = dktX1_init_0 := by decide +kernel
theorem dksX1_init_1 : cX1_init.data.toList.drop 24 = dktX1_init_1 := dk_seg dksX1_init_0 24 rfl rfl
theorem dksX1_init_2 : cX1_init.data.toList.drop 48 = dktX1_init_2 := dk_seg dksX1_init_1 24 rfl rfl
theorem dksX1_init_3 : cX1_init.data.toList.drop 72 = dktX1_init_3 := dk_seg dksX1_init_2 24 rfl rfl
theorem dX1_init_0 : decode cX1_init 0 = .ok (.aload_n 0, 1) := dk_42 (dk_at dksX1_init_0 0 rfl rfl)
theorem dX1_init_1 : decode cX1_init 1 = .ok (.invokespecial 3, 3) := dk_183 0 3 (dk_at dksX1_init_0 1 rfl rfl)
theorem dX1_init_4 : decode cX1_init 4 = .ok (.aload_n 0, 1) := dk_42 (dk_at dksX1_init_0 4 rfl rfl)
theorem dX1_init_5 : decode cX1_init 5 = .ok (.bipush 6, 2) := dk_16 6 (dk_at dksX1_init_0 5 rfl rfl)
theorem dX1_init_7 : decode cX1_init 7 = .ok (.newarray .int, 2) := dk_188_10 (dk_at dksX1_init_0 7 rfl rfl)
theorem dX1_init_9 : decode cX1_init 9 = .ok (.putfield 9, 3) := dk_181 0 9 (dk_at dksX1_init_0 9 rfl rfl)
theorem dX1_init_12 : decode cX1_init 12 = .ok (.aload_n 0, 1) := dk_42 (dk_at dksX1_init_0 12 rfl rfl)
theorem dX1_init_13 : decode cX1_init 13 = .ok (.new 15, 3) := dk_187 0 15 (dk_at dksX1_init_0 13 rfl rfl)
theorem dX1_init_16 : decode cX1_init 16 = .ok (.dup, 1) := dk_89 (dk_at dksX1_init_0 16 rfl rfl)
theorem dX1_init_17 : decode cX1_init 17 = .ok (.invokespecial 17, 3) := dk_183 0 17 (dk_at dksX1_init_0 17 rfl rfl)
theorem dX1_init_20 : decode cX1_init 20 = .ok (.putfield 18, 3) := dk_181 0 18 (dk_at dksX1_init_0 20 rfl rfl)
theorem dX1_init_23 : decode cX1_init 23 = .ok (.aload_n 0, 1) := dk_42 (dk_at dksX1_init_0 23 rfl rfl)
theorem dX1_init_24 : decode cX1_init 24 = .ok (.iconst 5, 1) := dk_8 (dk_at dksX1_init_1 0 rfl rfl)
theorem dX1_init_25 : decode cX1_init 25 = .ok (.newarray .int, 2) := dk_188_10 (dk_at dksX1_init_1 1 rfl rfl)
theorem dX1_init_27 : decode cX1_init 27 = .ok (.putfield 22, 3) := dk_181 0 22 (dk_at dksX1_init_1 3 rfl rfl)
theorem dX1_init_30 : decode cX1_init 30 = .ok (.aload_n 0, 1) := dk_42 (dk_at dksX1_init_1 6 rfl rfl)
theorem dX1_init_31 : decode cX1_init 31 = .ok (.iconst 5, 1) := dk_8 (dk_at dksX1_init_1 7 rfl rfl)
theorem dX1_init_32 : decode cX1_init 32 = .ok (.newarray .int, 2) := dk_188_10 (dk_at dksX1_init_1 8 rfl rfl)
theorem dX1_init_34 : decode cX1_init 34 = .ok (.putfield 25, 3) := dk_181 0 25 (dk_at dksX1_init_1 10 rfl rfl)
theorem dX1_init_37 : decode cX1_init 37 = .ok (.aload_n 0, 1) := dk_42 (dk_at dksX1_init_1 13 rfl rfl)
theorem dX1_init_38 : decode cX1_init 38 = .ok (.bipush 8, 2) := dk_16 8 (dk_at dksX1_init_1 14 rfl rfl)
theorem dX1_init_40 : decode cX1_init 40 = .ok (.newarray .int, 2) := dk_188_10 (dk_at dksX1_init_1 16 rfl rfl)
theorem dX1_init_42 : decode cX1_init 42 = .ok (.putfield 28, 3) := dk_181 0 28 (dk_at dksX1_init_1 18 rfl rfl)
theorem dX1_init_45 : decode cX1_init 45 = .ok (.aload_n 0, 1) := dk_42 (dk_at dksX1_init_1 21 rfl rfl)
theorem dX1_init_46 : decode cX1_init 46 = .ok (.bipush 8, 2) := dk_16 8 (dk_at dksX1_init_1 22 rfl rfl)
theorem dX1_init_48 : decode cX1_init 48 = .ok (.newarray .int, 2) := dk_188_10 (dk_at dksX1_init_2 0 rfl rfl)
theorem dX1_init_50 : decode cX1_init 50 = .ok (.putfield 31, 3) := dk_181 0 31 (dk_at dksX1_init_2 2 rfl rfl)
theorem dX1_init_53 : decode cX1_init 53 = .ok (.aload_n 0, 1) := dk_42 (dk_at dksX1_init_2 5 rfl rfl)
theorem dX1_init_54 : decode cX1_init 54 = .ok (.bipush 8, 2) := dk_16 8 (dk_at dksX1_init_2 6 rfl rfl)
theorem dX1_init_56 : decode cX1_init 56 = .ok (.newarray .int, 2) := dk_188_10 (dk_at dksX1_init_2 8 rfl rfl)
theorem dX1_init_58 : decode cX1_init 58 = .ok (.putfield 34, 3) := dk_181 0 34 (dk_at dksX1_init_2 10 rfl rfl)
theorem dX1_init_61 : decode cX1_init 61 = .ok (.aload_n 0, 1) := dk_42 (dk_at dksX1_init_2 13 rfl rfl)
theorem dX1_init_62 : decode cX1_init 62 = .ok (.bipush 8, 2) := dk_16 8 (dk_at dksX1_init_2 14 rfl rfl)
theorem dX1_init_64 : decode cX1_init 64 = .ok (.newarray .int, 2) := dk_188_10 (dk_at dksX1_init_2 16 rfl rfl)
theorem dX1_init_66 : decode cX1_init 66 = .ok (.putfield 37, 3) := dk_181 0 37 (dk_at dksX1_init_2 18 rfl rfl)
theorem dX1_init_69 : decode cX1_init 69 = .ok (.aload_n 0, 1) := dk_42 (dk_at dksX1_init_2 21 rfl rfl)
theorem dX1_init_70 : decode cX1_init 70 = .ok (.bipush 8, 2) := dk_16 8 (dk_at dksX1_init_2 22 rfl rfl)
theorem dX1_init_72 : decode cX1_init 72 = .ok (.newarray .int, 2) := dk_188_10 (dk_at dksX1_init_3 0 rfl rfl)
theorem dX1_init_74 : decode cX1_init 74 = .ok (.putfield 40, 3) := dk_181 0 40 (dk_at dksX1_init_3 2 rfl rfl)
theorem dX1_init_77 : decode cX1_init 77 = .ok (.return_, 1) := dk_177 (dk_at dksX1_init_3 5 rfl rfl)
abbrev cX1_many : ByteArray := prog_10_method_3_code
def yX1_many : MethodName := ⟨RX1, "many", "()I"⟩
def dkwX1_many_0 : List UInt8 := [42, 180, 0, 18, 185, 0, 59, 1, 0, 172]
abbrev dktX1_many_0 : List UInt8 := dkwX1_many_0 ++ []
theorem dksX1_many_0 : cX1_many.data.toList.drop 0 = dktX1_many_0 := by decide +kernel
theorem dX1_many_0 : decode cX1_many 0 = .ok (.aload_n 0, 1) := dk_42 (dk_at dksX1_many_0 0 rfl rfl)
theorem dX1_many_1 : decode cX1_many 1 = .ok (.getfield 18, 3) := dk_180 0 18 (dk_at dksX1_many_0 1 rfl rfl)
theorem dX1_many_4 : decode cX1_many 4 = .ok (.invokeinterface 59 1, 5) := by decide +kernel
theorem dX1_many_9 : decode cX1_many 9 = .ok (.ireturn, 1) := dk_172 (dk_at dksX1_many_0 9 rfl rfl)
abbrev cX1_give : ByteArray := prog_10_method_4_code
def yX1_give : MethodName := ⟨RX1, "give", "(IIIII)V"⟩
def dkwX1_give_2 : List UInt8 := [180, 0, 43, 21, 5, 79, 42, 89, 180, 0, 43, 4, 96, 181, 0, 43, 177]
abbrev dktX1_give_2 : List UInt8 := dkwX1_give_2 ++ []
def dkwX1_give_1 : List UInt8 := [42, 180, 0, 43, 29, 79, 42, 180, 0, 37, 42, 180, 0, 43, 21, 4, 79, 42, 180, 0, 40, 42]
abbrev dktX1_give_1 : List UInt8 := dkwX1_give_1 ++ dktX1_give_2
def dkwX1_give_0 : List UInt8 := [42, 180, 0, 28, 42, 180, 0, 43, 27, 79, 42, 180, 0, 31, 42, 180, 0, 43, 28, 79, 42, 180, 0, 34]
abbrev dktX1_give_0 : List UInt8 := dkwX1_give_0 ++ dktX1_give_1
theorem dksX1_give_0 : cX1_give.data.toList.drop 0 = dktX1_give_0 := by decide +kernel
theorem dksX1_give_1 : cX1_give.data.toList.drop 24 = dktX1_give_1 := dk_seg dksX1_give_0 24 rfl rfl
theorem dksX1_give_2 : cX1_give.data.toList.drop 46 = dktX1_give_2 := dk_seg dksX1_give_1 22 rfl rfl
theorem dX1_give_0 : decode cX1_give 0 = .ok (.aload_n 0, 1) := dk_42 (dk_at dksX1_give_0 0 rfl rfl)
theorem dX1_give_1 : decode cX1_give 1 = .ok (.getfield 28, 3) := dk_180 0 28 (dk_at dksX1_give_0 1 rfl rfl)
theorem dX1_give_4 : decode cX1_give 4 = .ok (.aload_n 0, 1) := dk_42 (dk_at dksX1_give_0 4 rfl rfl)
theorem dX1_give_5 : decode cX1_give 5 = .ok (.getfield 43, 3) := dk_180 0 43 (dk_at dksX1_give_0 5 rfl rfl)
theorem dX1_give_8 : decode cX1_give 8 = .ok (.iload_n 1, 1) := dk_27 (dk_at dksX1_give_0 8 rfl rfl)
theorem dX1_give_9 : decode cX1_give 9 = .ok (.iastore, 1) := dk_79 (dk_at dksX1_give_0 9 rfl rfl)
theorem dX1_give_10 : decode cX1_give 10 = .ok (.aload_n 0, 1) := dk_42 (dk_at dksX1_give_0 10 rfl rfl)
theorem dX1_give_11 : decode cX1_give 11 = .ok (.getfield 31, 3) := dk_180 0 31 (dk_at dksX1_give_0 11 rfl rfl)
theorem dX1_give_14 : decode cX1_give 14 = .ok (.aload_n 0, 1) := dk_42 (dk_at dksX1_give_0 14 rfl rfl)
theorem dX1_give_15 : decode cX1_give 15 = .ok (.getfield 43, 3) := dk_180 0 43 (dk_at dksX1_give_0 15 rfl rfl)
theorem dX1_give_18 : decode cX1_give 18 = .ok (.iload_n 2, 1) := dk_28 (dk_at dksX1_give_0 18 rfl rfl)
theorem dX1_give_19 : decode cX1_give 19 = .ok (.iastore, 1) := dk_79 (dk_at dksX1_give_0 19 rfl rfl)
theorem dX1_give_20 : decode cX1_give 20 = .ok (.aload_n 0, 1) := dk_42 (dk_at dksX1_give_0 20 rfl rfl)
theorem dX1_give_21 : decode cX1_give 21 = .ok (.getfield 34, 3) := dk_180 0 34 (dk_at dksX1_give_0 21 rfl rfl)
theorem dX1_give_24 : decode cX1_give 24 = .ok (.aload_n 0, 1) := dk_42 (dk_at dksX1_give_1 0 rfl rfl)
theorem dX1_give_25 : decode cX1_give 25 = .ok (.getfield 43, 3) := dk_180 0 43 (dk_at dksX1_give_1 1 rfl rfl)
theorem dX1_give_28 : decode cX1_give 28 = .ok (.iload_n 3, 1) := dk_29 (dk_at dksX1_give_1 4 rfl rfl)
theorem dX1_give_29 : decode cX1_give 29 = .ok (.iastore, 1) := dk_79 (dk_at dksX1_give_1 5 rfl rfl)
theorem dX1_give_30 : decode cX1_give 30 = .ok (.aload_n 0, 1) := dk_42 (dk_at dksX1_give_1 6 rfl rfl)
theorem dX1_give_31 : decode cX1_give 31 = .ok (.getfield 37, 3) := dk_180 0 37 (dk_at dksX1_give_1 7 rfl rfl)
theorem dX1_give_34 : decode cX1_give 34 = .ok (.aload_n 0, 1) := dk_42 (dk_at dksX1_give_1 10 rfl rfl)
theorem dX1_give_35 : decode cX1_give 35 = .ok (.getfield 43, 3) := dk_180 0 43 (dk_at dksX1_give_1 11 rfl rfl)
theorem dX1_give_38 : decode cX1_give 38 = .ok (.iload 4, 2) := dk_21 4 (dk_at dksX1_give_1 14 rfl rfl)
theorem dX1_give_40 : decode cX1_give 40 = .ok (.iastore, 1) := dk_79 (dk_at dksX1_give_1 16 rfl rfl)
theorem dX1_give_41 : decode cX1_give 41 = .ok (.aload_n 0, 1) := dk_42 (dk_at dksX1_give_1 17 rfl rfl)
theorem dX1_give_42 : decode cX1_give 42 = .ok (.getfield 40, 3) := dk_180 0 40 (dk_at dksX1_give_1 18 rfl rfl)
theorem dX1_give_45 : decode cX1_give 45 = .ok (.aload_n 0, 1) := dk_42 (dk_at dksX1_give_1 21 rfl rfl)
theorem dX1_give_46 : decode cX1_give 46 = .ok (.getfield 43, 3) := dk_180 0 43 (dk_at dksX1_give_2 0 rfl rfl)
theorem dX1_give_49 : decode cX1_give 49 = .ok (.iload 5, 2) := dk_21 5 (dk_at dksX1_give_2 3 rfl rfl)
theorem dX1_give_51 : decode cX1_give 51 = .ok (.iastore, 1) := dk_79 (dk_at dksX1_give_2 5 rfl rfl)
theorem dX1_give_52 : decode cX1_give 52 = .ok (.aload_n 0, 1) := dk_42 (dk_at dksX1_give_2 6 rfl rfl)
theorem dX1_give_53 : decode cX1_give 53 = .ok (.dup, 1) := dk_89 (dk_at dksX1_give_2 7 rfl rfl)
theorem dX1_give_54 : decode cX1_give 54 = .ok (.getfield 43, 3) := dk_180 0 43 (dk_at dksX1_give_2 8 rfl rfl)
theorem dX1_give_57 : decode cX1_give 57 = .ok (.iconst 1, 1) := dk_4 (dk_at dksX1_give_2 11 rfl rfl)
theorem dX1_give_58 : decode cX1_give 58 = .ok (.iadd, 1) := dk_96 (dk_at dksX1_give_2 12 rfl rfl)
theorem dX1_give_59 : decode cX1_give 59 = .ok (.putfield 43, 3) := dk_181 0 43 (dk_at dksX1_give_2 13 rfl rfl)
theorem dX1_give_62 : decode cX1_give 62 = .ok (.return_, 1) := dk_177 (dk_at dksX1_give_2 16 rfl rfl)
abbrev cX1_become : ByteArray := prog_10_method_2_code
def yX1_become : MethodName := ⟨RX1, "become", "(LPromisePounds$Parish;)LPromisePounds$Parish;"⟩
def dkwX1_become_6 : List UInt8 := [3, 16, 8, 184, 0, 53, 42, 176]
abbrev dktX1_become_6 : List UInt8 := dkwX1_become_6 ++ []
def dkwX1_become_5 : List UInt8 := [43, 180, 0, 37, 3, 42, 180, 0, 37, 3, 16, 8, 184, 0, 53, 43, 180, 0, 40, 3, 42, 180, 0, 40]
abbrev dktX1_become_5 : List UInt8 := dkwX1_become_5 ++ dktX1_become_6
def dkwX1_become_4 : List UInt8 := [180, 0, 31, 3, 16, 8, 184, 0, 53, 43, 180, 0, 34, 3, 42, 180, 0, 34, 3, 16, 8, 184, 0, 53]
abbrev dktX1_become_4 : List UInt8 := dkwX1_become_4 ++ dktX1_become_5
def dkwX1_become_3 : List UInt8 := [184, 0, 53, 43, 180, 0, 28, 3, 42, 180, 0, 28, 3, 16, 8, 184, 0, 53, 43, 180, 0, 31, 3, 42]
abbrev dktX1_become_3 : List UInt8 := dkwX1_become_3 ++ dktX1_become_4
def dkwX1_become_2 : List UInt8 := [180, 0, 22, 3, 42, 180, 0, 22, 3, 8, 184, 0, 53, 43, 180, 0, 25, 3, 42, 180, 0, 25, 3, 8]
abbrev dktX1_become_2 : List UInt8 := dkwX1_become_2 ++ dktX1_become_3
def dkwX1_become_1 : List UInt8 := [42, 43, 180, 0, 50, 181, 0, 50, 43, 180, 0, 9, 3, 42, 180, 0, 9, 3, 16, 6, 184, 0, 53, 43]
abbrev dktX1_become_1 : List UInt8 := dkwX1_become_1 ++ dktX1_become_2
def dkwX1_become_0 : List UInt8 := [42, 43, 180, 0, 18, 181, 0, 18, 42, 43, 180, 0, 43, 181, 0, 43, 42, 43, 180, 0, 47, 181, 0, 47]
abbrev dktX1_become_0 : List UInt8 := dkwX1_become_0 ++ dktX1_become_1
theorem dksX1_become_0 : cX1_become.data.toList.drop 0 = dktX1_become_0 := by decide +kernel
theorem dksX1_become_1 : cX1_become.data.toList.drop 24 = dktX1_become_1 := dk_seg dksX1_become_0 24 rfl rfl
theorem dksX1_become_2 : cX1_become.data.toList.drop 48 = dktX1_become_2 := dk_seg dksX1_become_1 24 rfl rfl
theorem dksX1_become_3 : cX1_become.data.toList.drop 72 = dktX1_become_3 := dk_seg dksX1_become_2 24 rfl rfl
theorem dksX1_become_4 : cX1_become.data.toList.drop 96 = dktX1_become_4 := dk_seg dksX1_become_3 24 rfl rfl
theorem dksX1_become_5 : cX1_become.data.toList.drop 120 = dktX1_become_5 := dk_seg dksX1_become_4 24 rfl rfl
theorem dksX1_become_6 : cX1_become.data.toList.drop 144 = dktX1_become_6 := dk_seg dksX1_become_5 24 rfl rfl
theorem dX1_become_0 : decode cX1_become 0 = .ok (.aload_n 0, 1) := dk_42 (dk_at dksX1_become_0 0 rfl rfl)
theorem dX1_become_1 : decode cX1_become 1 = .ok (.aload_n 1, 1) := dk_43 (dk_at dksX1_become_0 1 rfl rfl)
theorem dX1_become_2 : decode cX1_become 2 = .ok (.getfield 18, 3) := dk_180 0 18 (dk_at dksX1_become_0 2 rfl rfl)
theorem dX1_become_5 : decode cX1_become 5 = .ok (.putfield 18, 3) := dk_181 0 18 (dk_at dksX1_become_0 5 rfl rfl)
theorem dX1_become_8 : decode cX1_become 8 = .ok (.aload_n 0, 1) := dk_42 (dk_at dksX1_become_0 8 rfl rfl)
theorem dX1_become_9 : decode cX1_become 9 = .ok (.aload_n 1, 1) := dk_43 (dk_at dksX1_become_0 9 rfl rfl)
theorem dX1_become_10 : decode cX1_become 10 = .ok (.getfield 43, 3) := dk_180 0 43 (dk_at dksX1_become_0 10 rfl rfl)
theorem dX1_become_13 : decode cX1_become 13 = .ok (.putfield 43, 3) := dk_181 0 43 (dk_at dksX1_become_0 13 rfl rfl)
theorem dX1_become_16 : decode cX1_become 16 = .ok (.aload_n 0, 1) := dk_42 (dk_at dksX1_become_0 16 rfl rfl)
theorem dX1_become_17 : decode cX1_become 17 = .ok (.aload_n 1, 1) := dk_43 (dk_at dksX1_become_0 17 rfl rfl)
theorem dX1_become_18 : decode cX1_become 18 = .ok (.getfield 47, 3) := dk_180 0 47 (dk_at dksX1_become_0 18 rfl rfl)
theorem dX1_become_21 : decode cX1_become 21 = .ok (.putfield 47, 3) := dk_181 0 47 (dk_at dksX1_become_0 21 rfl rfl)
theorem dX1_become_24 : decode cX1_become 24 = .ok (.aload_n 0, 1) := dk_42 (dk_at dksX1_become_1 0 rfl rfl)
theorem dX1_become_25 : decode cX1_become 25 = .ok (.aload_n 1, 1) := dk_43 (dk_at dksX1_become_1 1 rfl rfl)
theorem dX1_become_26 : decode cX1_become 26 = .ok (.getfield 50, 3) := dk_180 0 50 (dk_at dksX1_become_1 2 rfl rfl)
theorem dX1_become_29 : decode cX1_become 29 = .ok (.putfield 50, 3) := dk_181 0 50 (dk_at dksX1_become_1 5 rfl rfl)
theorem dX1_become_32 : decode cX1_become 32 = .ok (.aload_n 1, 1) := dk_43 (dk_at dksX1_become_1 8 rfl rfl)
theorem dX1_become_33 : decode cX1_become 33 = .ok (.getfield 9, 3) := dk_180 0 9 (dk_at dksX1_become_1 9 rfl rfl)
theorem dX1_become_36 : decode cX1_become 36 = .ok (.iconst 0, 1) := dk_3 (dk_at dksX1_become_1 12 rfl rfl)
theorem dX1_become_37 : decode cX1_become 37 = .ok (.aload_n 0, 1) := dk_42 (dk_at dksX1_become_1 13 rfl rfl)
theorem dX1_become_38 : decode cX1_become 38 = .ok (.getfield 9, 3) := dk_180 0 9 (dk_at dksX1_become_1 14 rfl rfl)
theorem dX1_become_41 : decode cX1_become 41 = .ok (.iconst 0, 1) := dk_3 (dk_at dksX1_become_1 17 rfl rfl)
theorem dX1_become_42 : decode cX1_become 42 = .ok (.bipush 6, 2) := dk_16 6 (dk_at dksX1_become_1 18 rfl rfl)
theorem dX1_become_44 : decode cX1_become 44 = .ok (.invokestatic 53, 3) := dk_184 0 53 (dk_at dksX1_become_1 20 rfl rfl)
theorem dX1_become_47 : decode cX1_become 47 = .ok (.aload_n 1, 1) := dk_43 (dk_at dksX1_become_1 23 rfl rfl)
theorem dX1_become_48 : decode cX1_become 48 = .ok (.getfield 22, 3) := dk_180 0 22 (dk_at dksX1_become_2 0 rfl rfl)
theorem dX1_become_51 : decode cX1_become 51 = .ok (.iconst 0, 1) := dk_3 (dk_at dksX1_become_2 3 rfl rfl)
theorem dX1_become_52 : decode cX1_become 52 = .ok (.aload_n 0, 1) := dk_42 (dk_at dksX1_become_2 4 rfl rfl)
theorem dX1_become_53 : decode cX1_become 53 = .ok (.getfield 22, 3) := dk_180 0 22 (dk_at dksX1_become_2 5 rfl rfl)
theorem dX1_become_56 : decode cX1_become 56 = .ok (.iconst 0, 1) := dk_3 (dk_at dksX1_become_2 8 rfl rfl)
theorem dX1_become_57 : decode cX1_become 57 = .ok (.iconst 5, 1) := dk_8 (dk_at dksX1_become_2 9 rfl rfl)
theorem dX1_become_58 : decode cX1_become 58 = .ok (.invokestatic 53, 3) := dk_184 0 53 (dk_at dksX1_become_2 10 rfl rfl)
theorem dX1_become_61 : decode cX1_become 61 = .ok (.aload_n 1, 1) := dk_43 (dk_at dksX1_become_2 13 rfl rfl)
theorem dX1_become_62 : decode cX1_become 62 = .ok (.getfield 25, 3) := dk_180 0 25 (dk_at dksX1_become_2 14 rfl rfl)
theorem dX1_become_65 : decode cX1_become 65 = .ok (.iconst 0, 1) := dk_3 (dk_at dksX1_become_2 17 rfl rfl)
theorem dX1_become_66 : decode cX1_become 66 = .ok (.aload_n 0, 1) := dk_42 (dk_at dksX1_become_2 18 rfl rfl)
theorem dX1_become_67 : decode cX1_become 67 = .ok (.getfield 25, 3) := dk_180 0 25 (dk_at dksX1_become_2 19 rfl rfl)
theorem dX1_become_70 : decode cX1_become 70 = .ok (.iconst 0, 1) := dk_3 (dk_at dksX1_become_2 22 rfl rfl)
theorem dX1_become_71 : decode cX1_become 71 = .ok (.iconst 5, 1) := dk_8 (dk_at dksX1_become_2 23 rfl rfl)
theorem dX1_become_72 : decode cX1_become 72 = .ok (.invokestatic 53, 3) := dk_184 0 53 (dk_at dksX1_become_3 0 rfl rfl)
theorem dX1_become_75 : decode cX1_become 75 = .ok (.aload_n 1, 1) := dk_43 (dk_at dksX1_become_3 3 rfl rfl)
theorem dX1_become_76 : decode cX1_become 76 = .ok (.getfield 28, 3) := dk_180 0 28 (dk_at dksX1_become_3 4 rfl rfl)
theorem dX1_become_79 : decode cX1_become 79 = .ok (.iconst 0, 1) := dk_3 (dk_at dksX1_become_3 7 rfl rfl)
theorem dX1_become_80 : decode cX1_become 80 = .ok (.aload_n 0, 1) := dk_42 (dk_at dksX1_become_3 8 rfl rfl)
theorem dX1_become_81 : decode cX1_become 81 = .ok (.getfield 28, 3) := dk_180 0 28 (dk_at dksX1_become_3 9 rfl rfl)
theorem dX1_become_84 : decode cX1_become 84 = .ok (.iconst 0, 1) := dk_3 (dk_at dksX1_become_3 12 rfl rfl)
theorem dX1_become_85 : decode cX1_become 85 = .ok (.bipush 8, 2) := dk_16 8 (dk_at dksX1_become_3 13 rfl rfl)
theorem dX1_become_87 : decode cX1_become 87 = .ok (.invokestatic 53, 3) := dk_184 0 53 (dk_at dksX1_become_3 15 rfl rfl)
theorem dX1_become_90 : decode cX1_become 90 = .ok (.aload_n 1, 1) := dk_43 (dk_at dksX1_become_3 18 rfl rfl)
theorem dX1_become_91 : decode cX1_become 91 = .ok (.getfield 31, 3) := dk_180 0 31 (dk_at dksX1_become_3 19 rfl rfl)
theorem dX1_become_94 : decode cX1_become 94 = .ok (.iconst 0, 1) := dk_3 (dk_at dksX1_become_3 22 rfl rfl)
theorem dX1_become_95 : decode cX1_become 95 = .ok (.aload_n 0, 1) := dk_42 (dk_at dksX1_become_3 23 rfl rfl)
theorem dX1_become_96 : decode cX1_become 96 = .ok (.getfield 31, 3) := dk_180 0 31 (dk_at dksX1_become_4 0 rfl rfl)
theorem dX1_become_99 : decode cX1_become 99 = .ok (.iconst 0, 1) := dk_3 (dk_at dksX1_become_4 3 rfl rfl)
theorem dX1_become_100 : decode cX1_become 100 = .ok (.bipush 8, 2) := dk_16 8 (dk_at dksX1_become_4 4 rfl rfl)
theorem dX1_become_102 : decode cX1_become 102 = .ok (.invokestatic 53, 3) := dk_184 0 53 (dk_at dksX1_become_4 6 rfl rfl)
theorem dX1_become_105 : decode cX1_become 105 = .ok (.aload_n 1, 1) := dk_43 (dk_at dksX1_become_4 9 rfl rfl)
theorem dX1_become_106 : decode cX1_become 106 = .ok (.getfield 34, 3) := dk_180 0 34 (dk_at dksX1_become_4 10 rfl rfl)
theorem dX1_become_109 : decode cX1_become 109 = .ok (.iconst 0, 1) := dk_3 (dk_at dksX1_become_4 13 rfl rfl)
theorem dX1_become_110 : decode cX1_become 110 = .ok (.aload_n 0, 1) := dk_42 (dk_at dksX1_become_4 14 rfl rfl)
theorem dX1_become_111 : decode cX1_become 111 = .ok (.getfield 34, 3) := dk_180 0 34 (dk_at dksX1_become_4 15 rfl rfl)
theorem dX1_become_114 : decode cX1_become 114 = .ok (.iconst 0, 1) := dk_3 (dk_at dksX1_become_4 18 rfl rfl)
theorem dX1_become_115 : decode cX1_become 115 = .ok (.bipush 8, 2) := dk_16 8 (dk_at dksX1_become_4 19 rfl rfl)
theorem dX1_become_117 : decode cX1_become 117 = .ok (.invokestatic 53, 3) := dk_184 0 53 (dk_at dksX1_become_4 21 rfl rfl)
theorem dX1_become_120 : decode cX1_become 120 = .ok (.aload_n 1, 1) := dk_43 (dk_at dksX1_become_5 0 rfl rfl)
theorem dX1_become_121 : decode cX1_become 121 = .ok (.getfield 37, 3) := dk_180 0 37 (dk_at dksX1_become_5 1 rfl rfl)
theorem dX1_become_124 : decode cX1_become 124 = .ok (.iconst 0, 1) := dk_3 (dk_at dksX1_become_5 4 rfl rfl)
theorem dX1_become_125 : decode cX1_become 125 = .ok (.aload_n 0, 1) := dk_42 (dk_at dksX1_become_5 5 rfl rfl)
theorem dX1_become_126 : decode cX1_become 126 = .ok (.getfield 37, 3) := dk_180 0 37 (dk_at dksX1_become_5 6 rfl rfl)
theorem dX1_become_129 : decode cX1_become 129 = .ok (.iconst 0, 1) := dk_3 (dk_at dksX1_become_5 9 rfl rfl)
theorem dX1_become_130 : decode cX1_become 130 = .ok (.bipush 8, 2) := dk_16 8 (dk_at dksX1_become_5 10 rfl rfl)
theorem dX1_become_132 : decode cX1_become 132 = .ok (.invokestatic 53, 3) := dk_184 0 53 (dk_at dksX1_become_5 12 rfl rfl)
theorem dX1_become_135 : decode cX1_become 135 = .ok (.aload_n 1, 1) := dk_43 (dk_at dksX1_become_5 15 rfl rfl)
theorem dX1_become_136 : decode cX1_become 136 = .ok (.getfield 40, 3) := dk_180 0 40 (dk_at dksX1_become_5 16 rfl rfl)
theorem dX1_become_139 : decode cX1_become 139 = .ok (.iconst 0, 1) := dk_3 (dk_at dksX1_become_5 19 rfl rfl)
theorem dX1_become_140 : decode cX1_become 140 = .ok (.aload_n 0, 1) := dk_42 (dk_at dksX1_become_5 20 rfl rfl)
theorem dX1_become_141 : decode cX1_become 141 = .ok (.getfield 40, 3) := dk_180 0 40 (dk_at dksX1_become_5 21 rfl rfl)
theorem dX1_become_144 : decode cX1_become 144 = .ok (.iconst 0, 1) := dk_3 (dk_at dksX1_become_6 0 rfl rfl)
theorem dX1_become_145 : decode cX1_become 145 = .ok (.bipush 8, 2) := dk_16 8 (dk_at dksX1_become_6 1 rfl rfl)
theorem dX1_become_147 : decode cX1_become 147 = .ok (.invokestatic 53, 3) := dk_184 0 53 (dk_at dksX1_become_6 3 rfl rfl)
theorem dX1_become_150 : decode cX1_become 150 = .ok (.aload_n 0, 1) := dk_42 (dk_at dksX1_become_6 6 rfl rfl)
theorem dX1_become_151 : decode cX1_become 151 = .ok (.areturn, 1) := dk_176 (dk_at dksX1_become_6 7 rfl rfl)
abbrev cX1_mayWalk : ByteArray := prog_10_method_11_code
def yX1_mayWalk : MethodName := ⟨RX1, "mayWalk", "(II)Z"⟩
def dkwX1_mayWalk_2 : List UInt8 := [161, 0, 7, 4, 167, 0, 4, 3, 172]
abbrev dktX1_mayWalk_2 : List UInt8 := dkwX1_mayWalk_2 ++ []
def dkwX1_mayWalk_1 : List UInt8 := [180, 0, 22, 27, 46, 42, 27, 182, 0, 103, 42, 42, 180, 0, 25, 27, 46, 29, 182, 0, 106, 96]
abbrev dktX1_mayWalk_1 : List UInt8 := dkwX1_mayWalk_1 ++ dktX1_mayWalk_2
def dkwX1_mayWalk_0 : List UInt8 := [42, 180, 0, 25, 27, 46, 28, 96, 62, 29, 133, 9, 20, 0, 97, 184, 0, 99, 153, 0, 33, 42]
abbrev dktX1_mayWalk_0 : List UInt8 := dkwX1_mayWalk_0 ++ dktX1_mayWalk_1
theorem dksX1_mayWalk_0 : cX1_mayWalk.data.toList.drop 0 = dktX1_mayWalk_0 := by decide +kernel
theorem dksX1_mayWalk_1 : cX1_mayWalk.data.toList.drop 22 = dktX1_mayWalk_1 := dk_seg dksX1_mayWalk_0 22 rfl rfl
theorem dksX1_mayWalk_2 : cX1_mayWalk.data.toList.drop 44 = dktX1_mayWalk_2 := dk_seg dksX1_mayWalk_1 22 rfl rfl
theorem dX1_mayWalk_0 : decode cX1_mayWalk 0 = .ok (.aload_n 0, 1) := dk_42 (dk_at dksX1_mayWalk_0 0 rfl rfl)
theorem dX1_mayWalk_1 : decode cX1_mayWalk 1 = .ok (.getfield 25, 3) := dk_180 0 25 (dk_at dksX1_mayWalk_0 1 rfl rfl)
theorem dX1_mayWalk_4 : decode cX1_mayWalk 4 = .ok (.iload_n 1, 1) := dk_27 (dk_at dksX1_mayWalk_0 4 rfl rfl)
theorem dX1_mayWalk_5 : decode cX1_mayWalk 5 = .ok (.iaload, 1) := dk_46 (dk_at dksX1_mayWalk_0 5 rfl rfl)
theorem dX1_mayWalk_6 : decode cX1_mayWalk 6 = .ok (.iload_n 2, 1) := dk_28 (dk_at dksX1_mayWalk_0 6 rfl rfl)
theorem dX1_mayWalk_7 : decode cX1_mayWalk 7 = .ok (.iadd, 1) := dk_96 (dk_at dksX1_mayWalk_0 7 rfl rfl)
theorem dX1_mayWalk_8 : decode cX1_mayWalk 8 = .ok (.istore_n 3, 1) := dk_62 (dk_at dksX1_mayWalk_0 8 rfl rfl)
theorem dX1_mayWalk_9 : decode cX1_mayWalk 9 = .ok (.iload_n 3, 1) := dk_29 (dk_at dksX1_mayWalk_0 9 rfl rfl)
theorem dX1_mayWalk_10 : decode cX1_mayWalk 10 = .ok (.i2l, 1) := dk_133 (dk_at dksX1_mayWalk_0 10 rfl rfl)
theorem dX1_mayWalk_11 : decode cX1_mayWalk 11 = .ok (.lconst 0, 1) := dk_9 (dk_at dksX1_mayWalk_0 11 rfl rfl)
theorem dX1_mayWalk_12 : decode cX1_mayWalk 12 = .ok (.ldc2_w 97, 3) := dk_20 0 97 (dk_at dksX1_mayWalk_0 12 rfl rfl)
theorem dX1_mayWalk_15 : decode cX1_mayWalk 15 = .ok (.invokestatic 99, 3) := dk_184 0 99 (dk_at dksX1_mayWalk_0 15 rfl rfl)
theorem dX1_mayWalk_18 : decode cX1_mayWalk 18 = .ok (.ifCond .eq 33, 3) := dk_153 0 33 (dk_at dksX1_mayWalk_0 18 rfl rfl)
theorem dX1_mayWalk_21 : decode cX1_mayWalk 21 = .ok (.aload_n 0, 1) := dk_42 (dk_at dksX1_mayWalk_0 21 rfl rfl)
theorem dX1_mayWalk_22 : decode cX1_mayWalk 22 = .ok (.getfield 22, 3) := dk_180 0 22 (dk_at dksX1_mayWalk_1 0 rfl rfl)
theorem dX1_mayWalk_25 : decode cX1_mayWalk 25 = .ok (.iload_n 1, 1) := dk_27 (dk_at dksX1_mayWalk_1 3 rfl rfl)
theorem dX1_mayWalk_26 : decode cX1_mayWalk 26 = .ok (.iaload, 1) := dk_46 (dk_at dksX1_mayWalk_1 4 rfl rfl)
theorem dX1_mayWalk_27 : decode cX1_mayWalk 27 = .ok (.aload_n 0, 1) := dk_42 (dk_at dksX1_mayWalk_1 5 rfl rfl)
theorem dX1_mayWalk_28 : decode cX1_mayWalk 28 = .ok (.iload_n 1, 1) := dk_27 (dk_at dksX1_mayWalk_1 6 rfl rfl)
theorem dX1_mayWalk_29 : decode cX1_mayWalk 29 = .ok (.invokevirtual 103, 3) := dk_182 0 103 (dk_at dksX1_mayWalk_1 7 rfl rfl)
theorem dX1_mayWalk_32 : decode cX1_mayWalk 32 = .ok (.aload_n 0, 1) := dk_42 (dk_at dksX1_mayWalk_1 10 rfl rfl)
theorem dX1_mayWalk_33 : decode cX1_mayWalk 33 = .ok (.aload_n 0, 1) := dk_42 (dk_at dksX1_mayWalk_1 11 rfl rfl)
theorem dX1_mayWalk_34 : decode cX1_mayWalk 34 = .ok (.getfield 25, 3) := dk_180 0 25 (dk_at dksX1_mayWalk_1 12 rfl rfl)
theorem dX1_mayWalk_37 : decode cX1_mayWalk 37 = .ok (.iload_n 1, 1) := dk_27 (dk_at dksX1_mayWalk_1 15 rfl rfl)
theorem dX1_mayWalk_38 : decode cX1_mayWalk 38 = .ok (.iaload, 1) := dk_46 (dk_at dksX1_mayWalk_1 16 rfl rfl)
theorem dX1_mayWalk_39 : decode cX1_mayWalk 39 = .ok (.iload_n 3, 1) := dk_29 (dk_at dksX1_mayWalk_1 17 rfl rfl)
theorem dX1_mayWalk_40 : decode cX1_mayWalk 40 = .ok (.invokevirtual 106, 3) := dk_182 0 106 (dk_at dksX1_mayWalk_1 18 rfl rfl)
theorem dX1_mayWalk_43 : decode cX1_mayWalk 43 = .ok (.iadd, 1) := dk_96 (dk_at dksX1_mayWalk_1 21 rfl rfl)
theorem dX1_mayWalk_44 : decode cX1_mayWalk 44 = .ok (.if_icmp .lt 7, 3) := dk_161 0 7 (dk_at dksX1_mayWalk_2 0 rfl rfl)
theorem dX1_mayWalk_47 : decode cX1_mayWalk 47 = .ok (.iconst 1, 1) := dk_4 (dk_at dksX1_mayWalk_2 3 rfl rfl)
theorem dX1_mayWalk_48 : decode cX1_mayWalk 48 = .ok (.goto 4, 3) := dk_167 0 4 (dk_at dksX1_mayWalk_2 4 rfl rfl)
theorem dX1_mayWalk_51 : decode cX1_mayWalk 51 = .ok (.iconst 0, 1) := dk_3 (dk_at dksX1_mayWalk_2 7 rfl rfl)
theorem dX1_mayWalk_52 : decode cX1_mayWalk 52 = .ok (.ireturn, 1) := dk_172 (dk_at dksX1_mayWalk_2 8 rfl rfl)
abbrev cX1_load : ByteArray := prog_10_method_7_code
def yX1_load : MethodName := ⟨RX1, "load", "(I)I"⟩
def dkwX1_load_0 : List UInt8 := [42, 27, 16, 10, 182, 0, 82, 172]
abbrev dktX1_load_0 : List UInt8 := dkwX1_load_0 ++ []
theorem dksX1_load_0 : cX1_load.data.toList.drop 0 = dktX1_load_0 := by decide +kernel
theorem dX1_load_0 : decode cX1_load 0 = .ok (.aload_n 0, 1) := dk_42 (dk_at dksX1_load_0 0 rfl rfl)
theorem dX1_load_1 : decode cX1_load 1 = .ok (.iload_n 1, 1) := dk_27 (dk_at dksX1_load_0 1 rfl rfl)
theorem dX1_load_2 : decode cX1_load 2 = .ok (.bipush 10, 2) := dk_16 10 (dk_at dksX1_load_0 2 rfl rfl)
theorem dX1_load_4 : decode cX1_load 4 = .ok (.invokevirtual 82, 3) := dk_182 0 82 (dk_at dksX1_load_0 4 rfl rfl)
theorem dX1_load_7 : decode cX1_load 7 = .ok (.ireturn, 1) := dk_172 (dk_at dksX1_load_0 7 rfl rfl)
abbrev cX1_loadBy : ByteArray := prog_10_method_6_code
def yX1_loadBy : MethodName := ⟨RX1, "loadBy", "(II)I"⟩
def dkwX1_loadBy_2 : List UInt8 := [167, 255, 215, 29, 172]
abbrev dktX1_loadBy_2 : List UInt8 := dkwX1_loadBy_2 ++ []
def dkwX1_loadBy_1 : List UInt8 := [160, 0, 17, 42, 21, 4, 182, 0, 79, 28, 104, 16, 10, 108, 167, 0, 4, 3, 96, 62, 132, 4, 1]
abbrev dktX1_loadBy_1 : List UInt8 := dkwX1_loadBy_1 ++ dktX1_loadBy_2
def dkwX1_loadBy_0 : List UInt8 := [3, 62, 3, 54, 4, 21, 4, 42, 180, 0, 43, 162, 0, 38, 29, 42, 180, 0, 28, 21, 4, 46, 27]
abbrev dktX1_loadBy_0 : List UInt8 := dkwX1_loadBy_0 ++ dktX1_loadBy_1
theorem dksX1_loadBy_0 : cX1_loadBy.data.toList.drop 0 = dktX1_loadBy_0 := by decide +kernel
theorem dksX1_loadBy_1 : cX1_loadBy.data.toList.drop 23 = dktX1_loadBy_1 := dk_seg dksX1_loadBy_0 23 rfl rfl
theorem dksX1_loadBy_2 : cX1_loadBy.data.toList.drop 46 = dktX1_loadBy_2 := dk_seg dksX1_loadBy_1 23 rfl rfl
theorem dX1_loadBy_0 : decode cX1_loadBy 0 = .ok (.iconst 0, 1) := dk_3 (dk_at dksX1_loadBy_0 0 rfl rfl)
theorem dX1_loadBy_1 : decode cX1_loadBy 1 = .ok (.istore_n 3, 1) := dk_62 (dk_at dksX1_loadBy_0 1 rfl rfl)
theorem dX1_loadBy_2 : decode cX1_loadBy 2 = .ok (.iconst 0, 1) := dk_3 (dk_at dksX1_loadBy_0 2 rfl rfl)
theorem dX1_loadBy_3 : decode cX1_loadBy 3 = .ok (.istore 4, 2) := dk_54 4 (dk_at dksX1_loadBy_0 3 rfl rfl)
theorem dX1_loadBy_5 : decode cX1_loadBy 5 = .ok (.iload 4, 2) := dk_21 4 (dk_at dksX1_loadBy_0 5 rfl rfl)
theorem dX1_loadBy_7 : decode cX1_loadBy 7 = .ok (.aload_n 0, 1) := dk_42 (dk_at dksX1_loadBy_0 7 rfl rfl)
theorem dX1_loadBy_8 : decode cX1_loadBy 8 = .ok (.getfield 43, 3) := dk_180 0 43 (dk_at dksX1_loadBy_0 8 rfl rfl)
theorem dX1_loadBy_11 : decode cX1_loadBy 11 = .ok (.if_icmp .ge 38, 3) := dk_162 0 38 (dk_at dksX1_loadBy_0 11 rfl rfl)
theorem dX1_loadBy_14 : decode cX1_loadBy 14 = .ok (.iload_n 3, 1) := dk_29 (dk_at dksX1_loadBy_0 14 rfl rfl)
theorem dX1_loadBy_15 : decode cX1_loadBy 15 = .ok (.aload_n 0, 1) := dk_42 (dk_at dksX1_loadBy_0 15 rfl rfl)
theorem dX1_loadBy_16 : decode cX1_loadBy 16 = .ok (.getfield 28, 3) := dk_180 0 28 (dk_at dksX1_loadBy_0 16 rfl rfl)
theorem dX1_loadBy_19 : decode cX1_loadBy 19 = .ok (.iload 4, 2) := dk_21 4 (dk_at dksX1_loadBy_0 19 rfl rfl)
theorem dX1_loadBy_21 : decode cX1_loadBy 21 = .ok (.iaload, 1) := dk_46 (dk_at dksX1_loadBy_0 21 rfl rfl)
theorem dX1_loadBy_22 : decode cX1_loadBy 22 = .ok (.iload_n 1, 1) := dk_27 (dk_at dksX1_loadBy_0 22 rfl rfl)
theorem dX1_loadBy_23 : decode cX1_loadBy 23 = .ok (.if_icmp .ne 17, 3) := dk_160 0 17 (dk_at dksX1_loadBy_1 0 rfl rfl)
theorem dX1_loadBy_26 : decode cX1_loadBy 26 = .ok (.aload_n 0, 1) := dk_42 (dk_at dksX1_loadBy_1 3 rfl rfl)
theorem dX1_loadBy_27 : decode cX1_loadBy 27 = .ok (.iload 4, 2) := dk_21 4 (dk_at dksX1_loadBy_1 4 rfl rfl)
theorem dX1_loadBy_29 : decode cX1_loadBy 29 = .ok (.invokevirtual 79, 3) := dk_182 0 79 (dk_at dksX1_loadBy_1 6 rfl rfl)
theorem dX1_loadBy_32 : decode cX1_loadBy 32 = .ok (.iload_n 2, 1) := dk_28 (dk_at dksX1_loadBy_1 9 rfl rfl)
theorem dX1_loadBy_33 : decode cX1_loadBy 33 = .ok (.imul, 1) := dk_104 (dk_at dksX1_loadBy_1 10 rfl rfl)
theorem dX1_loadBy_34 : decode cX1_loadBy 34 = .ok (.bipush 10, 2) := dk_16 10 (dk_at dksX1_loadBy_1 11 rfl rfl)
theorem dX1_loadBy_36 : decode cX1_loadBy 36 = .ok (.idiv, 1) := dk_108 (dk_at dksX1_loadBy_1 13 rfl rfl)
theorem dX1_loadBy_37 : decode cX1_loadBy 37 = .ok (.goto 4, 3) := dk_167 0 4 (dk_at dksX1_loadBy_1 14 rfl rfl)
theorem dX1_loadBy_40 : decode cX1_loadBy 40 = .ok (.iconst 0, 1) := dk_3 (dk_at dksX1_loadBy_1 17 rfl rfl)
theorem dX1_loadBy_41 : decode cX1_loadBy 41 = .ok (.iadd, 1) := dk_96 (dk_at dksX1_loadBy_1 18 rfl rfl)
theorem dX1_loadBy_42 : decode cX1_loadBy 42 = .ok (.istore_n 3, 1) := dk_62 (dk_at dksX1_loadBy_1 19 rfl rfl)
theorem dX1_loadBy_43 : decode cX1_loadBy 43 = .ok (.iinc 4 1, 3) := dk_132 4 1 (dk_at dksX1_loadBy_1 20 rfl rfl)
theorem dX1_loadBy_46 : decode cX1_loadBy 46 = .ok (.goto (-41), 3) := dk_167 255 215 (dk_at dksX1_loadBy_2 0 rfl rfl)
theorem dX1_loadBy_49 : decode cX1_loadBy 49 = .ok (.iload_n 3, 1) := dk_29 (dk_at dksX1_loadBy_2 3 rfl rfl)
theorem dX1_loadBy_50 : decode cX1_loadBy 50 = .ok (.ireturn, 1) := dk_172 (dk_at dksX1_loadBy_2 4 rfl rfl)
abbrev cX1_pounds : ByteArray := prog_10_method_5_code
def yX1_pounds : MethodName := ⟨RX1, "pounds", "(I)I"⟩
def dkwX1_pounds_2 : List UInt8 := [180, 0, 25, 42, 180, 0, 31, 27, 46, 46, 160, 0, 7, 4, 167, 0, 4, 3, 182, 0, 75, 172]
abbrev dktX1_pounds_2 : List UInt8 := dkwX1_pounds_2 ++ []
def dkwX1_pounds_1 : List UInt8 := [46, 185, 0, 69, 2, 0, 192, 0, 73, 42, 180, 0, 34, 27, 46, 42, 180, 0, 40, 27, 46, 42]
abbrev dktX1_pounds_1 : List UInt8 := dkwX1_pounds_1 ++ dktX1_pounds_2
def dkwX1_pounds_0 : List UInt8 := [42, 180, 0, 47, 27, 184, 0, 65, 153, 0, 7, 3, 167, 0, 55, 42, 180, 0, 18, 42, 180, 0, 28, 27]
abbrev dktX1_pounds_0 : List UInt8 := dkwX1_pounds_0 ++ dktX1_pounds_1
theorem dksX1_pounds_0 : cX1_pounds.data.toList.drop 0 = dktX1_pounds_0 := by decide +kernel
theorem dksX1_pounds_1 : cX1_pounds.data.toList.drop 24 = dktX1_pounds_1 := dk_seg dksX1_pounds_0 24 rfl rfl
theorem dksX1_pounds_2 : cX1_pounds.data.toList.drop 46 = dktX1_pounds_2 := dk_seg dksX1_pounds_1 22 rfl rfl
theorem dX1_pounds_0 : decode cX1_pounds 0 = .ok (.aload_n 0, 1) := dk_42 (dk_at dksX1_pounds_0 0 rfl rfl)
theorem dX1_pounds_1 : decode cX1_pounds 1 = .ok (.getfield 47, 3) := dk_180 0 47 (dk_at dksX1_pounds_0 1 rfl rfl)
theorem dX1_pounds_4 : decode cX1_pounds 4 = .ok (.iload_n 1, 1) := dk_27 (dk_at dksX1_pounds_0 4 rfl rfl)
theorem dX1_pounds_5 : decode cX1_pounds 5 = .ok (.invokestatic 65, 3) := dk_184 0 65 (dk_at dksX1_pounds_0 5 rfl rfl)
theorem dX1_pounds_8 : decode cX1_pounds 8 = .ok (.ifCond .eq 7, 3) := dk_153 0 7 (dk_at dksX1_pounds_0 8 rfl rfl)
theorem dX1_pounds_11 : decode cX1_pounds 11 = .ok (.iconst 0, 1) := dk_3 (dk_at dksX1_pounds_0 11 rfl rfl)
theorem dX1_pounds_12 : decode cX1_pounds 12 = .ok (.goto 55, 3) := dk_167 0 55 (dk_at dksX1_pounds_0 12 rfl rfl)
theorem dX1_pounds_15 : decode cX1_pounds 15 = .ok (.aload_n 0, 1) := dk_42 (dk_at dksX1_pounds_0 15 rfl rfl)
theorem dX1_pounds_16 : decode cX1_pounds 16 = .ok (.getfield 18, 3) := dk_180 0 18 (dk_at dksX1_pounds_0 16 rfl rfl)
theorem dX1_pounds_19 : decode cX1_pounds 19 = .ok (.aload_n 0, 1) := dk_42 (dk_at dksX1_pounds_0 19 rfl rfl)
theorem dX1_pounds_20 : decode cX1_pounds 20 = .ok (.getfield 28, 3) := dk_180 0 28 (dk_at dksX1_pounds_0 20 rfl rfl)
theorem dX1_pounds_23 : decode cX1_pounds 23 = .ok (.iload_n 1, 1) := dk_27 (dk_at dksX1_pounds_0 23 rfl rfl)
theorem dX1_pounds_24 : decode cX1_pounds 24 = .ok (.iaload, 1) := dk_46 (dk_at dksX1_pounds_1 0 rfl rfl)
theorem dX1_pounds_25 : decode cX1_pounds 25 = .ok (.invokeinterface 69 2, 5) := by decide +kernel
theorem dX1_pounds_30 : decode cX1_pounds 30 = .ok (.checkcast 73, 3) := dk_192 0 73 (dk_at dksX1_pounds_1 6 rfl rfl)
theorem dX1_pounds_33 : decode cX1_pounds 33 = .ok (.aload_n 0, 1) := dk_42 (dk_at dksX1_pounds_1 9 rfl rfl)
theorem dX1_pounds_34 : decode cX1_pounds 34 = .ok (.getfield 34, 3) := dk_180 0 34 (dk_at dksX1_pounds_1 10 rfl rfl)
theorem dX1_pounds_37 : decode cX1_pounds 37 = .ok (.iload_n 1, 1) := dk_27 (dk_at dksX1_pounds_1 13 rfl rfl)
theorem dX1_pounds_38 : decode cX1_pounds 38 = .ok (.iaload, 1) := dk_46 (dk_at dksX1_pounds_1 14 rfl rfl)
theorem dX1_pounds_39 : decode cX1_pounds 39 = .ok (.aload_n 0, 1) := dk_42 (dk_at dksX1_pounds_1 15 rfl rfl)
theorem dX1_pounds_40 : decode cX1_pounds 40 = .ok (.getfield 40, 3) := dk_180 0 40 (dk_at dksX1_pounds_1 16 rfl rfl)
theorem dX1_pounds_43 : decode cX1_pounds 43 = .ok (.iload_n 1, 1) := dk_27 (dk_at dksX1_pounds_1 19 rfl rfl)
theorem dX1_pounds_44 : decode cX1_pounds 44 = .ok (.iaload, 1) := dk_46 (dk_at dksX1_pounds_1 20 rfl rfl)
theorem dX1_pounds_45 : decode cX1_pounds 45 = .ok (.aload_n 0, 1) := dk_42 (dk_at dksX1_pounds_1 21 rfl rfl)
theorem dX1_pounds_46 : decode cX1_pounds 46 = .ok (.getfield 25, 3) := dk_180 0 25 (dk_at dksX1_pounds_2 0 rfl rfl)
theorem dX1_pounds_49 : decode cX1_pounds 49 = .ok (.aload_n 0, 1) := dk_42 (dk_at dksX1_pounds_2 3 rfl rfl)
theorem dX1_pounds_50 : decode cX1_pounds 50 = .ok (.getfield 31, 3) := dk_180 0 31 (dk_at dksX1_pounds_2 4 rfl rfl)
theorem dX1_pounds_53 : decode cX1_pounds 53 = .ok (.iload_n 1, 1) := dk_27 (dk_at dksX1_pounds_2 7 rfl rfl)
theorem dX1_pounds_54 : decode cX1_pounds 54 = .ok (.iaload, 1) := dk_46 (dk_at dksX1_pounds_2 8 rfl rfl)
theorem dX1_pounds_55 : decode cX1_pounds 55 = .ok (.iaload, 1) := dk_46 (dk_at dksX1_pounds_2 9 rfl rfl)
theorem dX1_pounds_56 : decode cX1_pounds 56 = .ok (.if_icmp .ne 7, 3) := dk_160 0 7 (dk_at dksX1_pounds_2 10 rfl rfl)
theorem dX1_pounds_59 : decode cX1_pounds 59 = .ok (.iconst 1, 1) := dk_4 (dk_at dksX1_pounds_2 13 rfl rfl)
theorem dX1_pounds_60 : decode cX1_pounds 60 = .ok (.goto 4, 3) := dk_167 0 4 (dk_at dksX1_pounds_2 14 rfl rfl)
theorem dX1_pounds_63 : decode cX1_pounds 63 = .ok (.iconst 0, 1) := dk_3 (dk_at dksX1_pounds_2 17 rfl rfl)
theorem dX1_pounds_64 : decode cX1_pounds 64 = .ok (.invokevirtual 75, 3) := dk_182 0 75 (dk_at dksX1_pounds_2 18 rfl rfl)
theorem dX1_pounds_67 : decode cX1_pounds 67 = .ok (.ireturn, 1) := dk_172 (dk_at dksX1_pounds_2 21 rfl rfl)
abbrev cX1_rise : ByteArray := prog_10_method_10_code
def yX1_rise : MethodName := ⟨RX1, "rise", "(II)I"⟩
def dkwX1_rise_0 : List UInt8 := [3, 42, 180, 0, 9, 28, 46, 42, 180, 0, 9, 27, 46, 100, 184, 0, 92, 172]
abbrev dktX1_rise_0 : List UInt8 := dkwX1_rise_0 ++ []
theorem dksX1_rise_0 : cX1_rise.data.toList.drop 0 = dktX1_rise_0 := by decide +kernel
theorem dX1_rise_0 : decode cX1_rise 0 = .ok (.iconst 0, 1) := dk_3 (dk_at dksX1_rise_0 0 rfl rfl)
theorem dX1_rise_1 : decode cX1_rise 1 = .ok (.aload_n 0, 1) := dk_42 (dk_at dksX1_rise_0 1 rfl rfl)
theorem dX1_rise_2 : decode cX1_rise 2 = .ok (.getfield 9, 3) := dk_180 0 9 (dk_at dksX1_rise_0 2 rfl rfl)
theorem dX1_rise_5 : decode cX1_rise 5 = .ok (.iload_n 2, 1) := dk_28 (dk_at dksX1_rise_0 5 rfl rfl)
theorem dX1_rise_6 : decode cX1_rise 6 = .ok (.iaload, 1) := dk_46 (dk_at dksX1_rise_0 6 rfl rfl)
theorem dX1_rise_7 : decode cX1_rise 7 = .ok (.aload_n 0, 1) := dk_42 (dk_at dksX1_rise_0 7 rfl rfl)
theorem dX1_rise_8 : decode cX1_rise 8 = .ok (.getfield 9, 3) := dk_180 0 9 (dk_at dksX1_rise_0 8 rfl rfl)
theorem dX1_rise_11 : decode cX1_rise 11 = .ok (.iload_n 1, 1) := dk_27 (dk_at dksX1_rise_0 11 rfl rfl)
theorem dX1_rise_12 : decode cX1_rise 12 = .ok (.iaload, 1) := dk_46 (dk_at dksX1_rise_0 12 rfl rfl)
theorem dX1_rise_13 : decode cX1_rise 13 = .ok (.isub, 1) := dk_100 (dk_at dksX1_rise_0 13 rfl rfl)
theorem dX1_rise_14 : decode cX1_rise 14 = .ok (.invokestatic 92, 3) := dk_184 0 92 (dk_at dksX1_rise_0 14 rfl rfl)
theorem dX1_rise_17 : decode cX1_rise 17 = .ok (.ireturn, 1) := dk_172 (dk_at dksX1_rise_0 17 rfl rfl)
abbrev cX1_pass : ByteArray := prog_10_method_13_code
def yX1_pass : MethodName := ⟨RX1, "pass", "()V"⟩
def dkwX1_pass_3 : List UInt8 := [4, 96, 181, 0, 50, 177]
abbrev dktX1_pass_3 : List UInt8 := dkwX1_pass_3 ++ []
def dkwX1_pass_2 : List UInt8 := [184, 0, 114, 167, 0, 9, 42, 180, 0, 22, 27, 46, 79, 132, 1, 1, 167, 255, 198, 42, 89, 180, 0, 50]
abbrev dktX1_pass_2 : List UInt8 := dkwX1_pass_2 ++ dktX1_pass_3
def dkwX1_pass_1 : List UInt8 := [185, 0, 69, 2, 0, 192, 0, 73, 182, 0, 110, 153, 0, 19, 16, 99, 42, 180, 0, 22, 27, 46, 4, 96]
abbrev dktX1_pass_1 : List UInt8 := dkwX1_pass_1 ++ dktX1_pass_2
def dkwX1_pass_0 : List UInt8 := [3, 60, 27, 42, 182, 0, 86, 162, 0, 56, 42, 180, 0, 22, 27, 42, 180, 0, 18, 27]
abbrev dktX1_pass_0 : List UInt8 := dkwX1_pass_0 ++ dktX1_pass_1
theorem dksX1_pass_0 : cX1_pass.data.toList.drop 0 = dktX1_pass_0 := by decide +kernel
theorem dksX1_pass_1 : cX1_pass.data.toList.drop 20 = dktX1_pass_1 := dk_seg dksX1_pass_0 20 rfl rfl
theorem dksX1_pass_2 : cX1_pass.data.toList.drop 44 = dktX1_pass_2 := dk_seg dksX1_pass_1 24 rfl rfl
theorem dksX1_pass_3 : cX1_pass.data.toList.drop 68 = dktX1_pass_3 := dk_seg dksX1_pass_2 24 rfl rfl
theorem dX1_pass_0 : decode cX1_pass 0 = .ok (.iconst 0, 1) := dk_3 (dk_at dksX1_pass_0 0 rfl rfl)
theorem dX1_pass_1 : decode cX1_pass 1 = .ok (.istore_n 1, 1) := dk_60 (dk_at dksX1_pass_0 1 rfl rfl)
theorem dX1_pass_2 : decode cX1_pass 2 = .ok (.iload_n 1, 1) := dk_27 (dk_at dksX1_pass_0 2 rfl rfl)
theorem dX1_pass_3 : decode cX1_pass 3 = .ok (.aload_n 0, 1) := dk_42 (dk_at dksX1_pass_0 3 rfl rfl)
theorem dX1_pass_4 : decode cX1_pass 4 = .ok (.invokevirtual 86, 3) := dk_182 0 86 (dk_at dksX1_pass_0 4 rfl rfl)
theorem dX1_pass_7 : decode cX1_pass 7 = .ok (.if_icmp .ge 56, 3) := dk_162 0 56 (dk_at dksX1_pass_0 7 rfl rfl)
theorem dX1_pass_10 : decode cX1_pass 10 = .ok (.aload_n 0, 1) := dk_42 (dk_at dksX1_pass_0 10 rfl rfl)
theorem dX1_pass_11 : decode cX1_pass 11 = .ok (.getfield 22, 3) := dk_180 0 22 (dk_at dksX1_pass_0 11 rfl rfl)
theorem dX1_pass_14 : decode cX1_pass 14 = .ok (.iload_n 1, 1) := dk_27 (dk_at dksX1_pass_0 14 rfl rfl)
theorem dX1_pass_15 : decode cX1_pass 15 = .ok (.aload_n 0, 1) := dk_42 (dk_at dksX1_pass_0 15 rfl rfl)
theorem dX1_pass_16 : decode cX1_pass 16 = .ok (.getfield 18, 3) := dk_180 0 18 (dk_at dksX1_pass_0 16 rfl rfl)
theorem dX1_pass_19 : decode cX1_pass 19 = .ok (.iload_n 1, 1) := dk_27 (dk_at dksX1_pass_0 19 rfl rfl)
theorem dX1_pass_20 : decode cX1_pass 20 = .ok (.invokeinterface 69 2, 5) := by decide +kernel
theorem dX1_pass_25 : decode cX1_pass 25 = .ok (.checkcast 73, 3) := dk_192 0 73 (dk_at dksX1_pass_1 5 rfl rfl)
theorem dX1_pass_28 : decode cX1_pass 28 = .ok (.invokevirtual 110, 3) := dk_182 0 110 (dk_at dksX1_pass_1 8 rfl rfl)
theorem dX1_pass_31 : decode cX1_pass 31 = .ok (.ifCond .eq 19, 3) := dk_153 0 19 (dk_at dksX1_pass_1 11 rfl rfl)
theorem dX1_pass_34 : decode cX1_pass 34 = .ok (.bipush 99, 2) := dk_16 99 (dk_at dksX1_pass_1 14 rfl rfl)
theorem dX1_pass_36 : decode cX1_pass 36 = .ok (.aload_n 0, 1) := dk_42 (dk_at dksX1_pass_1 16 rfl rfl)
theorem dX1_pass_37 : decode cX1_pass 37 = .ok (.getfield 22, 3) := dk_180 0 22 (dk_at dksX1_pass_1 17 rfl rfl)
theorem dX1_pass_40 : decode cX1_pass 40 = .ok (.iload_n 1, 1) := dk_27 (dk_at dksX1_pass_1 20 rfl rfl)
theorem dX1_pass_41 : decode cX1_pass 41 = .ok (.iaload, 1) := dk_46 (dk_at dksX1_pass_1 21 rfl rfl)
theorem dX1_pass_42 : decode cX1_pass 42 = .ok (.iconst 1, 1) := dk_4 (dk_at dksX1_pass_1 22 rfl rfl)
theorem dX1_pass_43 : decode cX1_pass 43 = .ok (.iadd, 1) := dk_96 (dk_at dksX1_pass_1 23 rfl rfl)
theorem dX1_pass_44 : decode cX1_pass 44 = .ok (.invokestatic 114, 3) := dk_184 0 114 (dk_at dksX1_pass_2 0 rfl rfl)
theorem dX1_pass_47 : decode cX1_pass 47 = .ok (.goto 9, 3) := dk_167 0 9 (dk_at dksX1_pass_2 3 rfl rfl)
theorem dX1_pass_50 : decode cX1_pass 50 = .ok (.aload_n 0, 1) := dk_42 (dk_at dksX1_pass_2 6 rfl rfl)
theorem dX1_pass_51 : decode cX1_pass 51 = .ok (.getfield 22, 3) := dk_180 0 22 (dk_at dksX1_pass_2 7 rfl rfl)
theorem dX1_pass_54 : decode cX1_pass 54 = .ok (.iload_n 1, 1) := dk_27 (dk_at dksX1_pass_2 10 rfl rfl)
theorem dX1_pass_55 : decode cX1_pass 55 = .ok (.iaload, 1) := dk_46 (dk_at dksX1_pass_2 11 rfl rfl)
theorem dX1_pass_56 : decode cX1_pass 56 = .ok (.iastore, 1) := dk_79 (dk_at dksX1_pass_2 12 rfl rfl)
theorem dX1_pass_57 : decode cX1_pass 57 = .ok (.iinc 1 1, 3) := dk_132 1 1 (dk_at dksX1_pass_2 13 rfl rfl)
theorem dX1_pass_60 : decode cX1_pass 60 = .ok (.goto (-58), 3) := dk_167 255 198 (dk_at dksX1_pass_2 16 rfl rfl)
theorem dX1_pass_63 : decode cX1_pass 63 = .ok (.aload_n 0, 1) := dk_42 (dk_at dksX1_pass_2 19 rfl rfl)
theorem dX1_pass_64 : decode cX1_pass 64 = .ok (.dup, 1) := dk_89 (dk_at dksX1_pass_2 20 rfl rfl)
theorem dX1_pass_65 : decode cX1_pass 65 = .ok (.getfield 50, 3) := dk_180 0 50 (dk_at dksX1_pass_2 21 rfl rfl)
theorem dX1_pass_68 : decode cX1_pass 68 = .ok (.iconst 1, 1) := dk_4 (dk_at dksX1_pass_3 0 rfl rfl)
theorem dX1_pass_69 : decode cX1_pass 69 = .ok (.iadd, 1) := dk_96 (dk_at dksX1_pass_3 1 rfl rfl)
theorem dX1_pass_70 : decode cX1_pass 70 = .ok (.putfield 50, 3) := dk_181 0 50 (dk_at dksX1_pass_3 2 rfl rfl)
theorem dX1_pass_73 : decode cX1_pass 73 = .ok (.return_, 1) := dk_177 (dk_at dksX1_pass_3 5 rfl rfl)
abbrev cX1_crushed : ByteArray := prog_10_method_9_code
def yX1_crushed : MethodName := ⟨RX1, "crushed", "()I"⟩
def dkwX1_crushed_0 : List UInt8 := [42, 16, 10, 182, 0, 89, 172]
abbrev dktX1_crushed_0 : List UInt8 := dkwX1_crushed_0 ++ []
theorem dksX1_crushed_0 : cX1_crushed.data.toList.drop 0 = dktX1_crushed_0 := by decide +kernel
theorem dX1_crushed_0 : decode cX1_crushed 0 = .ok (.aload_n 0, 1) := dk_42 (dk_at dksX1_crushed_0 0 rfl rfl)
theorem dX1_crushed_1 : decode cX1_crushed 1 = .ok (.bipush 10, 2) := dk_16 10 (dk_at dksX1_crushed_0 1 rfl rfl)
theorem dX1_crushed_3 : decode cX1_crushed 3 = .ok (.invokevirtual 89, 3) := dk_182 0 89 (dk_at dksX1_crushed_0 3 rfl rfl)
theorem dX1_crushed_6 : decode cX1_crushed 6 = .ok (.ireturn, 1) := dk_172 (dk_at dksX1_crushed_0 6 rfl rfl)
abbrev cX1_crushedBy : ByteArray := prog_10_method_8_code
def yX1_crushedBy : MethodName := ⟨RX1, "crushedBy", "(I)I"⟩
def dkwX1_crushedBy_1 : List UInt8 := [46, 164, 0, 9, 4, 29, 120, 167, 0, 4, 3, 128, 61, 132, 3, 1, 167, 255, 220, 28, 172]
abbrev dktX1_crushedBy_1 : List UInt8 := dkwX1_crushedBy_1 ++ []
def dkwX1_crushedBy_0 : List UInt8 := [3, 61, 3, 62, 29, 42, 182, 0, 86, 162, 0, 34, 28, 42, 29, 27, 182, 0, 82, 42, 180, 0, 22, 29]
abbrev dktX1_crushedBy_0 : List UInt8 := dkwX1_crushedBy_0 ++ dktX1_crushedBy_1
theorem dksX1_crushedBy_0 : cX1_crushedBy.data.toList.drop 0 = dktX1_crushedBy_0 := by decide +kernel
theorem dksX1_crushedBy_1 : cX1_crushedBy.data.toList.drop 24 = dktX1_crushedBy_1 := dk_seg dksX1_crushedBy_0 24 rfl rfl
theorem dX1_crushedBy_0 : decode cX1_crushedBy 0 = .ok (.iconst 0, 1) := dk_3 (dk_at dksX1_crushedBy_0 0 rfl rfl)
theorem dX1_crushedBy_1 : decode cX1_crushedBy 1 = .ok (.istore_n 2, 1) := dk_61 (dk_at dksX1_crushedBy_0 1 rfl rfl)
theorem dX1_crushedBy_2 : decode cX1_crushedBy 2 = .ok (.iconst 0, 1) := dk_3 (dk_at dksX1_crushedBy_0 2 rfl rfl)
theorem dX1_crushedBy_3 : decode cX1_crushedBy 3 = .ok (.istore_n 3, 1) := dk_62 (dk_at dksX1_crushedBy_0 3 rfl rfl)
theorem dX1_crushedBy_4 : decode cX1_crushedBy 4 = .ok (.iload_n 3, 1) := dk_29 (dk_at dksX1_crushedBy_0 4 rfl rfl)
theorem dX1_crushedBy_5 : decode cX1_crushedBy 5 = .ok (.aload_n 0, 1) := dk_42 (dk_at dksX1_crushedBy_0 5 rfl rfl)
theorem dX1_crushedBy_6 : decode cX1_crushedBy 6 = .ok (.invokevirtual 86, 3) := dk_182 0 86 (dk_at dksX1_crushedBy_0 6 rfl rfl)
theorem dX1_crushedBy_9 : decode cX1_crushedBy 9 = .ok (.if_icmp .ge 34, 3) := dk_162 0 34 (dk_at dksX1_crushedBy_0 9 rfl rfl)
theorem dX1_crushedBy_12 : decode cX1_crushedBy 12 = .ok (.iload_n 2, 1) := dk_28 (dk_at dksX1_crushedBy_0 12 rfl rfl)
theorem dX1_crushedBy_13 : decode cX1_crushedBy 13 = .ok (.aload_n 0, 1) := dk_42 (dk_at dksX1_crushedBy_0 13 rfl rfl)
theorem dX1_crushedBy_14 : decode cX1_crushedBy 14 = .ok (.iload_n 3, 1) := dk_29 (dk_at dksX1_crushedBy_0 14 rfl rfl)
theorem dX1_crushedBy_15 : decode cX1_crushedBy 15 = .ok (.iload_n 1, 1) := dk_27 (dk_at dksX1_crushedBy_0 15 rfl rfl)
theorem dX1_crushedBy_16 : decode cX1_crushedBy 16 = .ok (.invokevirtual 82, 3) := dk_182 0 82 (dk_at dksX1_crushedBy_0 16 rfl rfl)
theorem dX1_crushedBy_19 : decode cX1_crushedBy 19 = .ok (.aload_n 0, 1) := dk_42 (dk_at dksX1_crushedBy_0 19 rfl rfl)
theorem dX1_crushedBy_20 : decode cX1_crushedBy 20 = .ok (.getfield 22, 3) := dk_180 0 22 (dk_at dksX1_crushedBy_0 20 rfl rfl)
theorem dX1_crushedBy_23 : decode cX1_crushedBy 23 = .ok (.iload_n 3, 1) := dk_29 (dk_at dksX1_crushedBy_0 23 rfl rfl)
theorem dX1_crushedBy_24 : decode cX1_crushedBy 24 = .ok (.iaload, 1) := dk_46 (dk_at dksX1_crushedBy_1 0 rfl rfl)
theorem dX1_crushedBy_25 : decode cX1_crushedBy 25 = .ok (.if_icmp .le 9, 3) := dk_164 0 9 (dk_at dksX1_crushedBy_1 1 rfl rfl)
theorem dX1_crushedBy_28 : decode cX1_crushedBy 28 = .ok (.iconst 1, 1) := dk_4 (dk_at dksX1_crushedBy_1 4 rfl rfl)
theorem dX1_crushedBy_29 : decode cX1_crushedBy 29 = .ok (.iload_n 3, 1) := dk_29 (dk_at dksX1_crushedBy_1 5 rfl rfl)
theorem dX1_crushedBy_30 : decode cX1_crushedBy 30 = .ok (.ishl, 1) := dk_120 (dk_at dksX1_crushedBy_1 6 rfl rfl)
theorem dX1_crushedBy_31 : decode cX1_crushedBy 31 = .ok (.goto 4, 3) := dk_167 0 4 (dk_at dksX1_crushedBy_1 7 rfl rfl)
theorem dX1_crushedBy_34 : decode cX1_crushedBy 34 = .ok (.iconst 0, 1) := dk_3 (dk_at dksX1_crushedBy_1 10 rfl rfl)
theorem dX1_crushedBy_35 : decode cX1_crushedBy 35 = .ok (.ior, 1) := dk_128 (dk_at dksX1_crushedBy_1 11 rfl rfl)
theorem dX1_crushedBy_36 : decode cX1_crushedBy 36 = .ok (.istore_n 2, 1) := dk_61 (dk_at dksX1_crushedBy_1 12 rfl rfl)
theorem dX1_crushedBy_37 : decode cX1_crushedBy 37 = .ok (.iinc 3 1, 3) := dk_132 3 1 (dk_at dksX1_crushedBy_1 13 rfl rfl)
theorem dX1_crushedBy_40 : decode cX1_crushedBy 40 = .ok (.goto (-36), 3) := dk_167 255 220 (dk_at dksX1_crushedBy_1 16 rfl rfl)
theorem dX1_crushedBy_43 : decode cX1_crushedBy 43 = .ok (.iload_n 2, 1) := dk_28 (dk_at dksX1_crushedBy_1 19 rfl rfl)
theorem dX1_crushedBy_44 : decode cX1_crushedBy 44 = .ok (.ireturn, 1) := dk_172 (dk_at dksX1_crushedBy_1 20 rfl rfl)
abbrev cX1_worst : ByteArray := prog_10_method_12_code
def yX1_worst : MethodName := ⟨RX1, "worst", "()I"⟩
def dkwX1_worst_1 : List UInt8 := [46, 100, 184, 0, 92, 60, 132, 2, 1, 167, 255, 228, 27, 172]
abbrev dktX1_worst_1 : List UInt8 := dkwX1_worst_1 ++ []
def dkwX1_worst_0 : List UInt8 := [18, 109, 60, 3, 61, 28, 42, 182, 0, 86, 162, 0, 26, 27, 42, 28, 182, 0, 103, 42, 180, 0, 22, 28]
abbrev dktX1_worst_0 : List UInt8 := dkwX1_worst_0 ++ dktX1_worst_1
theorem dksX1_worst_0 : cX1_worst.data.toList.drop 0 = dktX1_worst_0 := by decide +kernel
theorem dksX1_worst_1 : cX1_worst.data.toList.drop 24 = dktX1_worst_1 := dk_seg dksX1_worst_0 24 rfl rfl
theorem dX1_worst_0 : decode cX1_worst 0 = .ok (.ldc 109, 2) := dk_18 109 (dk_at dksX1_worst_0 0 rfl rfl)
theorem dX1_worst_2 : decode cX1_worst 2 = .ok (.istore_n 1, 1) := dk_60 (dk_at dksX1_worst_0 2 rfl rfl)
theorem dX1_worst_3 : decode cX1_worst 3 = .ok (.iconst 0, 1) := dk_3 (dk_at dksX1_worst_0 3 rfl rfl)
theorem dX1_worst_4 : decode cX1_worst 4 = .ok (.istore_n 2, 1) := dk_61 (dk_at dksX1_worst_0 4 rfl rfl)
theorem dX1_worst_5 : decode cX1_worst 5 = .ok (.iload_n 2, 1) := dk_28 (dk_at dksX1_worst_0 5 rfl rfl)
theorem dX1_worst_6 : decode cX1_worst 6 = .ok (.aload_n 0, 1) := dk_42 (dk_at dksX1_worst_0 6 rfl rfl)
theorem dX1_worst_7 : decode cX1_worst 7 = .ok (.invokevirtual 86, 3) := dk_182 0 86 (dk_at dksX1_worst_0 7 rfl rfl)
theorem dX1_worst_10 : decode cX1_worst 10 = .ok (.if_icmp .ge 26, 3) := dk_162 0 26 (dk_at dksX1_worst_0 10 rfl rfl)
theorem dX1_worst_13 : decode cX1_worst 13 = .ok (.iload_n 1, 1) := dk_27 (dk_at dksX1_worst_0 13 rfl rfl)
theorem dX1_worst_14 : decode cX1_worst 14 = .ok (.aload_n 0, 1) := dk_42 (dk_at dksX1_worst_0 14 rfl rfl)
theorem dX1_worst_15 : decode cX1_worst 15 = .ok (.iload_n 2, 1) := dk_28 (dk_at dksX1_worst_0 15 rfl rfl)
theorem dX1_worst_16 : decode cX1_worst 16 = .ok (.invokevirtual 103, 3) := dk_182 0 103 (dk_at dksX1_worst_0 16 rfl rfl)
theorem dX1_worst_19 : decode cX1_worst 19 = .ok (.aload_n 0, 1) := dk_42 (dk_at dksX1_worst_0 19 rfl rfl)
theorem dX1_worst_20 : decode cX1_worst 20 = .ok (.getfield 22, 3) := dk_180 0 22 (dk_at dksX1_worst_0 20 rfl rfl)
theorem dX1_worst_23 : decode cX1_worst 23 = .ok (.iload_n 2, 1) := dk_28 (dk_at dksX1_worst_0 23 rfl rfl)
theorem dX1_worst_24 : decode cX1_worst 24 = .ok (.iaload, 1) := dk_46 (dk_at dksX1_worst_1 0 rfl rfl)
theorem dX1_worst_25 : decode cX1_worst 25 = .ok (.isub, 1) := dk_100 (dk_at dksX1_worst_1 1 rfl rfl)
theorem dX1_worst_26 : decode cX1_worst 26 = .ok (.invokestatic 92, 3) := dk_184 0 92 (dk_at dksX1_worst_1 2 rfl rfl)
theorem dX1_worst_29 : decode cX1_worst 29 = .ok (.istore_n 1, 1) := dk_60 (dk_at dksX1_worst_1 5 rfl rfl)
theorem dX1_worst_30 : decode cX1_worst 30 = .ok (.iinc 2 1, 3) := dk_132 2 1 (dk_at dksX1_worst_1 6 rfl rfl)
theorem dX1_worst_33 : decode cX1_worst 33 = .ok (.goto (-28), 3) := dk_167 255 228 (dk_at dksX1_worst_1 9 rfl rfl)
theorem dX1_worst_36 : decode cX1_worst 36 = .ok (.iload_n 1, 1) := dk_27 (dk_at dksX1_worst_1 12 rfl rfl)
theorem dX1_worst_37 : decode cX1_worst 37 = .ok (.ireturn, 1) := dk_172 (dk_at dksX1_worst_1 13 rfl rfl)
theorem q77 : (Jvm.Cond.initialized "PromisePounds$Parish") ∈ lw_all := lw_g (lw_at lw_m1 2 rfl) rfl
theorem q120 : (Jvm.Cond.instantiable "PromisePounds$Parish" (12 : Nat)) ∈ lw_all := lw_g (lw_at lw_m1 45 rfl) rfl
theorem q122 : (Jvm.Cond.instanceMethod ({ cls := "PromisePounds$Parish", name := "<init>", desc := "()V" } : Jvm.MethodName)) ∈ lw_all := lw_g (lw_at lw_m1 47 rfl) rfl
theorem q123 : (Jvm.Cond.code ({ cls := "PromisePounds$Parish", name := "<init>", desc := "()V" } : Jvm.MethodName) prog_10_method_1_code (1 : Nat) (Option.none : Option Jvm.ClassFile.FieldType)) ∈ lw_all := lw_g (lw_at lw_m1 48 rfl) rfl
theorem q124 : (Jvm.Cond.methodLink "PromisePounds$Parish" (3 : Nat) ({ cls := "java/lang/Object", name := "<init>", desc := "()V" } : Jvm.MethodName)) ∈ lw_all := lw_g (lw_at lw_m1 49 rfl) rfl
theorem q125 : (Jvm.Cond.classLink "PromisePounds$Parish" (15 : Nat) "java/util/ArrayList") ∈ lw_all := lw_g (lw_at lw_m1 50 rfl) rfl
theorem q127 : (Jvm.Cond.methodLink "PromisePounds$Parish" (17 : Nat) ({ cls := "java/util/ArrayList", name := "<init>", desc := "()V" } : Jvm.MethodName)) ∈ lw_all := lw_g (lw_at lw_m1 52 rfl) rfl
theorem q153 : (Jvm.Cond.fieldLink "PromisePounds$Parish" (9 : Nat) "PromisePounds$Parish" "height" "[I") ∈ lw_all := lw_g (lw_at lw_m1 78 rfl) rfl
theorem q156 : (Jvm.Cond.fieldLink "PromisePounds$Parish" (18 : Nat) "PromisePounds$Parish" "people" "Ljava/util/List;") ∈ lw_all := lw_g (lw_at lw_m1 81 rfl) rfl
theorem q159 : (Jvm.Cond.fieldLink "PromisePounds$Parish" (22 : Nat) "PromisePounds$Parish" "strength" "[I") ∈ lw_all := lw_g (lw_at lw_m1 84 rfl) rfl
theorem q163 : (Jvm.Cond.fieldLink "PromisePounds$Parish" (25 : Nat) "PromisePounds$Parish" "place" "[I") ∈ lw_all := lw_g (lw_at lw_m1 88 rfl) rfl
theorem q166 : (Jvm.Cond.fieldLink "PromisePounds$Parish" (43 : Nat) "PromisePounds$Parish" "promises" "I") ∈ lw_all := lw_g (lw_at lw_m1 91 rfl) rfl
theorem q169 : (Jvm.Cond.fieldLink "PromisePounds$Parish" (28 : Nat) "PromisePounds$Parish" "from" "[I") ∈ lw_all := lw_g (lw_at lw_m1 94 rfl) rfl
theorem q171 : (Jvm.Cond.fieldLink "PromisePounds$Parish" (31 : Nat) "PromisePounds$Parish" "to" "[I") ∈ lw_all := lw_g (lw_at lw_m1 96 rfl) rfl
theorem q173 : (Jvm.Cond.fieldLink "PromisePounds$Parish" (34 : Nat) "PromisePounds$Parish" "weight" "[I") ∈ lw_all := lw_g (lw_at lw_m1 98 rfl) rfl
theorem q175 : (Jvm.Cond.fieldLink "PromisePounds$Parish" (37 : Nat) "PromisePounds$Parish" "due" "[I") ∈ lw_all := lw_g (lw_at lw_m1 100 rfl) rfl
theorem q177 : (Jvm.Cond.fieldLink "PromisePounds$Parish" (40 : Nat) "PromisePounds$Parish" "at" "[I") ∈ lw_all := lw_g (lw_at lw_m1 102 rfl) rfl
theorem q179 : (Jvm.Cond.fieldLink "PromisePounds$Parish" (47 : Nat) "PromisePounds$Parish" "kept" "I") ∈ lw_all := lw_g (lw_at lw_m1 104 rfl) rfl
theorem q181 : (Jvm.Cond.fieldLink "PromisePounds$Parish" (50 : Nat) "PromisePounds$Parish" "day" "I") ∈ lw_all := lw_g (lw_at lw_m1 106 rfl) rfl
theorem q183 : (Jvm.Cond.laysFinal "PromisePounds$Parish" "PromisePounds$Parish" "height" "[I") ∈ lw_all := lw_g (lw_at lw_m1 108 rfl) rfl
theorem q184 : (Jvm.Cond.soleField "PromisePounds$Parish" "height") ∈ lw_all := lw_g (lw_at lw_m1 109 rfl) rfl
theorem q185 : (Jvm.Cond.lays "PromisePounds$Parish" "PromisePounds$Parish" "people" "Ljava/util/List;") ∈ lw_all := lw_g (lw_at lw_m1 110 rfl) rfl
theorem q186 : (Jvm.Cond.soleField "PromisePounds$Parish" "people") ∈ lw_all := lw_g (lw_at lw_m1 111 rfl) rfl
theorem q187 : (Jvm.Cond.laysFinal "PromisePounds$Parish" "PromisePounds$Parish" "strength" "[I") ∈ lw_all := lw_g (lw_at lw_m1 112 rfl) rfl
theorem q188 : (Jvm.Cond.soleField "PromisePounds$Parish" "strength") ∈ lw_all := lw_g (lw_at lw_m1 113 rfl) rfl
theorem q189 : (Jvm.Cond.laysFinal "PromisePounds$Parish" "PromisePounds$Parish" "place" "[I") ∈ lw_all := lw_g (lw_at lw_m1 114 rfl) rfl
theorem q190 : (Jvm.Cond.soleField "PromisePounds$Parish" "place") ∈ lw_all := lw_g (lw_at lw_m1 115 rfl) rfl
theorem q191 : (Jvm.Cond.lays "PromisePounds$Parish" "PromisePounds$Parish" "promises" "I") ∈ lw_all := lw_g (lw_at lw_m1 116 rfl) rfl
theorem q192 : (Jvm.Cond.soleField "PromisePounds$Parish" "promises") ∈ lw_all := lw_g (lw_at lw_m1 117 rfl) rfl
theorem q193 : (Jvm.Cond.laysFinal "PromisePounds$Parish" "PromisePounds$Parish" "from" "[I") ∈ lw_all := lw_g (lw_at lw_m1 118 rfl) rfl
theorem q194 : (Jvm.Cond.soleField "PromisePounds$Parish" "from") ∈ lw_all := lw_g (lw_at lw_m1 119 rfl) rfl
theorem q195 : (Jvm.Cond.laysFinal "PromisePounds$Parish" "PromisePounds$Parish" "to" "[I") ∈ lw_all := lw_g (lw_at lw_m1 120 rfl) rfl
theorem q196 : (Jvm.Cond.soleField "PromisePounds$Parish" "to") ∈ lw_all := lw_g (lw_at lw_m1 121 rfl) rfl
theorem q197 : (Jvm.Cond.laysFinal "PromisePounds$Parish" "PromisePounds$Parish" "weight" "[I") ∈ lw_all := lw_g (lw_at lw_m1 122 rfl) rfl
theorem q198 : (Jvm.Cond.soleField "PromisePounds$Parish" "weight") ∈ lw_all := lw_g (lw_at lw_m1 123 rfl) rfl
theorem q199 : (Jvm.Cond.laysFinal "PromisePounds$Parish" "PromisePounds$Parish" "due" "[I") ∈ lw_all := lw_g (lw_at lw_m1 124 rfl) rfl
theorem q200 : (Jvm.Cond.soleField "PromisePounds$Parish" "due") ∈ lw_all := lw_g (lw_at lw_m1 125 rfl) rfl
theorem q201 : (Jvm.Cond.laysFinal "PromisePounds$Parish" "PromisePounds$Parish" "at" "[I") ∈ lw_all := lw_g (lw_at lw_m1 126 rfl) rfl
theorem q202 : (Jvm.Cond.soleField "PromisePounds$Parish" "at") ∈ lw_all := lw_g (lw_at lw_m1 127 rfl) rfl
theorem q203 : (Jvm.Cond.lays "PromisePounds$Parish" "PromisePounds$Parish" "kept" "I") ∈ lw_all := lw_g (lw_at lw_m1 128 rfl) rfl
theorem q204 : (Jvm.Cond.soleField "PromisePounds$Parish" "kept") ∈ lw_all := lw_g (lw_at lw_m1 129 rfl) rfl
theorem q205 : (Jvm.Cond.lays "PromisePounds$Parish" "PromisePounds$Parish" "day" "I") ∈ lw_all := lw_g (lw_at lw_m1 130 rfl) rfl
theorem q206 : (Jvm.Cond.soleField "PromisePounds$Parish" "day") ∈ lw_all := lw_g (lw_at lw_m1 131 rfl) rfl
theorem q207 : (Jvm.Cond.superclass "PromisePounds$Parish" "java/lang/Object") ∈ lw_all := lw_g (lw_at lw_m1 132 rfl) rfl
theorem q602 : (Jvm.Cond.instanceMethod ({ cls := "PromisePounds$Parish", name := "many", desc := "()I" } : Jvm.MethodName)) ∈ lw_all := lw_g (lw_at lw_m3 47 rfl) rfl
theorem q603 : (Jvm.Cond.selects "PromisePounds$Parish" ({ cls := "PromisePounds$Parish", name := "many", desc := "()I" } : Jvm.MethodName) ({ cls := "PromisePounds$Parish", name := "many", desc := "()I" } : Jvm.MethodName)) ∈ lw_all := lw_g (lw_at lw_m3 48 rfl) rfl
theorem q604 : (Jvm.Cond.code ({ cls := "PromisePounds$Parish", name := "many", desc := "()I" } : Jvm.MethodName) prog_10_method_3_code (1 : Nat) (Option.some Jvm.ClassFile.FieldType.int)) ∈ lw_all := lw_g (lw_at lw_m3 49 rfl) rfl
theorem q605 : (Jvm.Cond.interfaceEntry "PromisePounds$Parish" (59 : Nat)) ∈ lw_tbl := lw_at lw_m3 50 rfl
theorem q606 : (Jvm.Cond.methodLink "PromisePounds$Parish" (59 : Nat) ({ cls := "java/util/List", name := "size", desc := "()I" } : Jvm.MethodName)) ∈ lw_all := lw_g (lw_at lw_m3 51 rfl) rfl
theorem q712 : (Jvm.Cond.selects "PromisePounds$Parish" ({ cls := "java/lang/Object", name := "getClass", desc := "()Ljava/lang/Class;" } : Jvm.MethodName) ({ cls := "java/lang/Object", name := "getClass", desc := "()Ljava/lang/Class;" } : Jvm.MethodName)) ∈ lw_all := lw_g (lw_at lw_m3 157 rfl) rfl
theorem q738 : (Jvm.Cond.instanceMethod ({ cls := "PromisePounds$Parish", name := "give", desc := "(IIIII)V" } : Jvm.MethodName)) ∈ lw_all := lw_g (lw_at lw_m3 183 rfl) rfl
theorem q739 : (Jvm.Cond.selects "PromisePounds$Parish" ({ cls := "PromisePounds$Parish", name := "give", desc := "(IIIII)V" } : Jvm.MethodName) ({ cls := "PromisePounds$Parish", name := "give", desc := "(IIIII)V" } : Jvm.MethodName)) ∈ lw_all := lw_g (lw_at lw_m3 184 rfl) rfl
theorem q740 : (Jvm.Cond.code ({ cls := "PromisePounds$Parish", name := "give", desc := "(IIIII)V" } : Jvm.MethodName) prog_10_method_4_code (6 : Nat) (Option.none : Option Jvm.ClassFile.FieldType)) ∈ lw_all := lw_g (lw_at lw_m3 185 rfl) rfl
theorem q743 : (Jvm.Cond.instanceMethod ({ cls := "PromisePounds$Parish", name := "become", desc := "(LPromisePounds$Parish;)LPromisePounds$Parish;" } : Jvm.MethodName)) ∈ lw_all := lw_g (lw_at lw_m3 188 rfl) rfl
theorem q744 : (Jvm.Cond.selects "PromisePounds$Parish" ({ cls := "PromisePounds$Parish", name := "become", desc := "(LPromisePounds$Parish;)LPromisePounds$Parish;" } : Jvm.MethodName) ({ cls := "PromisePounds$Parish", name := "become", desc := "(LPromisePounds$Parish;)LPromisePounds$Parish;" } : Jvm.MethodName)) ∈ lw_all := lw_g (lw_at lw_m3 189 rfl) rfl
theorem q745 : (Jvm.Cond.code ({ cls := "PromisePounds$Parish", name := "become", desc := "(LPromisePounds$Parish;)LPromisePounds$Parish;" } : Jvm.MethodName) prog_10_method_2_code (2 : Nat) (Option.some (Jvm.ClassFile.FieldType.object "PromisePounds$Parish"))) ∈ lw_all := lw_g (lw_at lw_m3 190 rfl) rfl
theorem q746 : (Jvm.Cond.methodLink "PromisePounds$Parish" (53 : Nat) ({ cls := "java/lang/System", name := "arraycopy", desc := "(Ljava/lang/Object;ILjava/lang/Object;II)V" } : Jvm.MethodName)) ∈ lw_all := lw_g (lw_at lw_m3 191 rfl) rfl
theorem q766 : (Jvm.Cond.instanceMethod ({ cls := "PromisePounds$Parish", name := "mayWalk", desc := "(II)Z" } : Jvm.MethodName)) ∈ lw_all := lw_g (lw_at lw_m3 211 rfl) rfl
theorem q767 : (Jvm.Cond.selects "PromisePounds$Parish" ({ cls := "PromisePounds$Parish", name := "mayWalk", desc := "(II)Z" } : Jvm.MethodName) ({ cls := "PromisePounds$Parish", name := "mayWalk", desc := "(II)Z" } : Jvm.MethodName)) ∈ lw_all := lw_g (lw_at lw_m3 212 rfl) rfl
theorem q768 : (Jvm.Cond.code ({ cls := "PromisePounds$Parish", name := "mayWalk", desc := "(II)Z" } : Jvm.MethodName) prog_10_method_11_code (4 : Nat) (Option.some Jvm.ClassFile.FieldType.boolean)) ∈ lw_all := lw_g (lw_at lw_m3 213 rfl) rfl
theorem q769 : (Jvm.Cond.constantLong "PromisePounds$Parish" (97 : Nat) (5 : Int64)) ∈ lw_all := lw_g (lw_at lw_m3 214 rfl) rfl
theorem q770 : (Jvm.Cond.methodLinkNest "PromisePounds$Parish" (99 : Nat) ({ cls := "PromisePounds", name := "isIn", desc := "(JJJ)Z" } : Jvm.MethodName) "PromisePounds") ∈ lw_tbl := lw_at lw_m3 215 rfl
theorem q771 : (Jvm.Cond.methodLink "PromisePounds$Parish" (103 : Nat) ({ cls := "PromisePounds$Parish", name := "load", desc := "(I)I" } : Jvm.MethodName)) ∈ lw_all := lw_g (lw_at lw_m3 216 rfl) rfl
theorem q772 : (Jvm.Cond.instanceMethod ({ cls := "PromisePounds$Parish", name := "load", desc := "(I)I" } : Jvm.MethodName)) ∈ lw_all := lw_g (lw_at lw_m3 217 rfl) rfl
theorem q773 : (Jvm.Cond.selects "PromisePounds$Parish" ({ cls := "PromisePounds$Parish", name := "load", desc := "(I)I" } : Jvm.MethodName) ({ cls := "PromisePounds$Parish", name := "load", desc := "(I)I" } : Jvm.MethodName)) ∈ lw_all := lw_g (lw_at lw_m3 218 rfl) rfl
theorem q774 : (Jvm.Cond.code ({ cls := "PromisePounds$Parish", name := "load", desc := "(I)I" } : Jvm.MethodName) prog_10_method_7_code (2 : Nat) (Option.some Jvm.ClassFile.FieldType.int)) ∈ lw_all := lw_g (lw_at lw_m3 219 rfl) rfl
theorem q775 : (Jvm.Cond.methodLink "PromisePounds$Parish" (82 : Nat) ({ cls := "PromisePounds$Parish", name := "loadBy", desc := "(II)I" } : Jvm.MethodName)) ∈ lw_all := lw_g (lw_at lw_m3 220 rfl) rfl
theorem q776 : (Jvm.Cond.instanceMethod ({ cls := "PromisePounds$Parish", name := "loadBy", desc := "(II)I" } : Jvm.MethodName)) ∈ lw_all := lw_g (lw_at lw_m3 221 rfl) rfl
theorem q777 : (Jvm.Cond.selects "PromisePounds$Parish" ({ cls := "PromisePounds$Parish", name := "loadBy", desc := "(II)I" } : Jvm.MethodName) ({ cls := "PromisePounds$Parish", name := "loadBy", desc := "(II)I" } : Jvm.MethodName)) ∈ lw_all := lw_g (lw_at lw_m3 222 rfl) rfl
theorem q778 : (Jvm.Cond.code ({ cls := "PromisePounds$Parish", name := "loadBy", desc := "(II)I" } : Jvm.MethodName) prog_10_method_6_code (5 : Nat) (Option.some Jvm.ClassFile.FieldType.int)) ∈ lw_all := lw_g (lw_at lw_m3 223 rfl) rfl
theorem q779 : (Jvm.Cond.methodLink "PromisePounds$Parish" (79 : Nat) ({ cls := "PromisePounds$Parish", name := "pounds", desc := "(I)I" } : Jvm.MethodName)) ∈ lw_all := lw_g (lw_at lw_m3 224 rfl) rfl
theorem q780 : (Jvm.Cond.instanceMethod ({ cls := "PromisePounds$Parish", name := "pounds", desc := "(I)I" } : Jvm.MethodName)) ∈ lw_all := lw_g (lw_at lw_m3 225 rfl) rfl
theorem q781 : (Jvm.Cond.selects "PromisePounds$Parish" ({ cls := "PromisePounds$Parish", name := "pounds", desc := "(I)I" } : Jvm.MethodName) ({ cls := "PromisePounds$Parish", name := "pounds", desc := "(I)I" } : Jvm.MethodName)) ∈ lw_all := lw_g (lw_at lw_m3 226 rfl) rfl
theorem q782 : (Jvm.Cond.code ({ cls := "PromisePounds$Parish", name := "pounds", desc := "(I)I" } : Jvm.MethodName) prog_10_method_5_code (2 : Nat) (Option.some Jvm.ClassFile.FieldType.int)) ∈ lw_all := lw_g (lw_at lw_m3 227 rfl) rfl
theorem q783 : (Jvm.Cond.methodLinkNest "PromisePounds$Parish" (65 : Nat) ({ cls := "PromisePounds", name := "has", desc := "(II)Z" } : Jvm.MethodName) "PromisePounds") ∈ lw_tbl := lw_at lw_m3 228 rfl
theorem q786 : (Jvm.Cond.interfaceEntry "PromisePounds$Parish" (69 : Nat)) ∈ lw_tbl := lw_at lw_m3 231 rfl
theorem q787 : (Jvm.Cond.methodLink "PromisePounds$Parish" (69 : Nat) ({ cls := "java/util/List", name := "get", desc := "(I)Ljava/lang/Object;" } : Jvm.MethodName)) ∈ lw_all := lw_g (lw_at lw_m3 232 rfl) rfl
theorem q803 : (Jvm.Cond.classLink "PromisePounds$Parish" (73 : Nat) "PromisePounds$Person") ∈ lw_all := lw_g (lw_at lw_m4 8 rfl) rfl
theorem q804 : (Jvm.Cond.methodLink "PromisePounds$Parish" (75 : Nat) ({ cls := "PromisePounds$Person", name := "pounds", desc := "(IZ)I" } : Jvm.MethodName)) ∈ lw_all := lw_g (lw_at lw_m4 9 rfl) rfl
theorem q825 : (Jvm.Cond.methodLink "PromisePounds$Parish" (106 : Nat) ({ cls := "PromisePounds$Parish", name := "rise", desc := "(II)I" } : Jvm.MethodName)) ∈ lw_all := lw_g (lw_at lw_m4 30 rfl) rfl
theorem q826 : (Jvm.Cond.instanceMethod ({ cls := "PromisePounds$Parish", name := "rise", desc := "(II)I" } : Jvm.MethodName)) ∈ lw_all := lw_g (lw_at lw_m4 31 rfl) rfl
theorem q827 : (Jvm.Cond.selects "PromisePounds$Parish" ({ cls := "PromisePounds$Parish", name := "rise", desc := "(II)I" } : Jvm.MethodName) ({ cls := "PromisePounds$Parish", name := "rise", desc := "(II)I" } : Jvm.MethodName)) ∈ lw_all := lw_g (lw_at lw_m4 32 rfl) rfl
theorem q828 : (Jvm.Cond.code ({ cls := "PromisePounds$Parish", name := "rise", desc := "(II)I" } : Jvm.MethodName) prog_10_method_10_code (3 : Nat) (Option.some Jvm.ClassFile.FieldType.int)) ∈ lw_all := lw_g (lw_at lw_m4 33 rfl) rfl
theorem q829 : (Jvm.Cond.methodLink "PromisePounds$Parish" (92 : Nat) ({ cls := "java/lang/Math", name := "max", desc := "(II)I" } : Jvm.MethodName)) ∈ lw_all := lw_g (lw_at lw_m4 34 rfl) rfl
theorem q869 : (Jvm.Cond.instanceMethod ({ cls := "PromisePounds$Parish", name := "pass", desc := "()V" } : Jvm.MethodName)) ∈ lw_all := lw_g (lw_at lw_m4 74 rfl) rfl
theorem q870 : (Jvm.Cond.selects "PromisePounds$Parish" ({ cls := "PromisePounds$Parish", name := "pass", desc := "()V" } : Jvm.MethodName) ({ cls := "PromisePounds$Parish", name := "pass", desc := "()V" } : Jvm.MethodName)) ∈ lw_all := lw_g (lw_at lw_m4 75 rfl) rfl
theorem q871 : (Jvm.Cond.code ({ cls := "PromisePounds$Parish", name := "pass", desc := "()V" } : Jvm.MethodName) prog_10_method_13_code (2 : Nat) (Option.none : Option Jvm.ClassFile.FieldType)) ∈ lw_all := lw_g (lw_at lw_m4 76 rfl) rfl
theorem q872 : (Jvm.Cond.methodLink "PromisePounds$Parish" (86 : Nat) ({ cls := "PromisePounds$Parish", name := "many", desc := "()I" } : Jvm.MethodName)) ∈ lw_all := lw_g (lw_at lw_m4 77 rfl) rfl
theorem q873 : (Jvm.Cond.methodLink "PromisePounds$Parish" (110 : Nat) ({ cls := "PromisePounds$Person", name := "grows", desc := "()Z" } : Jvm.MethodName)) ∈ lw_all := lw_g (lw_at lw_m4 78 rfl) rfl
theorem q884 : (Jvm.Cond.methodLink "PromisePounds$Parish" (114 : Nat) ({ cls := "java/lang/Math", name := "min", desc := "(II)I" } : Jvm.MethodName)) ∈ lw_all := lw_g (lw_at lw_m4 89 rfl) rfl
theorem q890 : (Jvm.Cond.instanceMethod ({ cls := "PromisePounds$Parish", name := "crushed", desc := "()I" } : Jvm.MethodName)) ∈ lw_all := lw_g (lw_at lw_m4 95 rfl) rfl
theorem q891 : (Jvm.Cond.selects "PromisePounds$Parish" ({ cls := "PromisePounds$Parish", name := "crushed", desc := "()I" } : Jvm.MethodName) ({ cls := "PromisePounds$Parish", name := "crushed", desc := "()I" } : Jvm.MethodName)) ∈ lw_all := lw_g (lw_at lw_m4 96 rfl) rfl
theorem q892 : (Jvm.Cond.code ({ cls := "PromisePounds$Parish", name := "crushed", desc := "()I" } : Jvm.MethodName) prog_10_method_9_code (1 : Nat) (Option.some Jvm.ClassFile.FieldType.int)) ∈ lw_all := lw_g (lw_at lw_m4 97 rfl) rfl
theorem q893 : (Jvm.Cond.methodLink "PromisePounds$Parish" (89 : Nat) ({ cls := "PromisePounds$Parish", name := "crushedBy", desc := "(I)I" } : Jvm.MethodName)) ∈ lw_all := lw_g (lw_at lw_m4 98 rfl) rfl
theorem q894 : (Jvm.Cond.instanceMethod ({ cls := "PromisePounds$Parish", name := "crushedBy", desc := "(I)I" } : Jvm.MethodName)) ∈ lw_all := lw_g (lw_at lw_m4 99 rfl) rfl
theorem q895 : (Jvm.Cond.selects "PromisePounds$Parish" ({ cls := "PromisePounds$Parish", name := "crushedBy", desc := "(I)I" } : Jvm.MethodName) ({ cls := "PromisePounds$Parish", name := "crushedBy", desc := "(I)I" } : Jvm.MethodName)) ∈ lw_all := lw_g (lw_at lw_m4 100 rfl) rfl
theorem q896 : (Jvm.Cond.code ({ cls := "PromisePounds$Parish", name := "crushedBy", desc := "(I)I" } : Jvm.MethodName) prog_10_method_8_code (4 : Nat) (Option.some Jvm.ClassFile.FieldType.int)) ∈ lw_all := lw_g (lw_at lw_m4 101 rfl) rfl
theorem q947 : (Jvm.Cond.instanceMethod ({ cls := "PromisePounds$Parish", name := "worst", desc := "()I" } : Jvm.MethodName)) ∈ lw_all := lw_g (lw_at lw_m4 152 rfl) rfl
theorem q948 : (Jvm.Cond.selects "PromisePounds$Parish" ({ cls := "PromisePounds$Parish", name := "worst", desc := "()I" } : Jvm.MethodName) ({ cls := "PromisePounds$Parish", name := "worst", desc := "()I" } : Jvm.MethodName)) ∈ lw_all := lw_g (lw_at lw_m4 153 rfl) rfl
theorem q949 : (Jvm.Cond.code ({ cls := "PromisePounds$Parish", name := "worst", desc := "()I" } : Jvm.MethodName) prog_10_method_12_code (3 : Nat) (Option.some Jvm.ClassFile.FieldType.int)) ∈ lw_all := lw_g (lw_at lw_m4 154 rfl) rfl
theorem q950 : (Jvm.Cond.constant "PromisePounds$Parish" (109 : Nat) (-1000000 : Int32)) ∈ lw_all := lw_g (lw_at lw_m4 155 rfl) rfl
theorem q1663 : (Jvm.Cond.castable "PromisePounds$Parish" "java/lang/Object") ∈ lw_tbl := lw_at lw_m7 148 rfl
theorem in_X1 : ∀ w ∈ wsX10, w ∈ lw_all := lw_in wsX10 [183, 185, 187, 189, 191, 193, 195, 197, 199, 201, 203, 205] (by decide +kernel) (by decide +kernel)
/-! PromisePounds$Trail -/
set_option maxRecDepth 100000
def RX2 : String := "PromisePounds$Trail"
def TX2 : u_T := fun k => match k with
  | 0 => ("PromisePounds$Trail", "body", "[I", true)
  | _ => ("PromisePounds$Trail", "many", "I", false)
def tyX2 : Nat → FieldType := fun k => match k with
  | 0 => .array .int
  | _ => .int
abbrev wsX20 : List Cond := u_ws RX2 TX2 2
theorem nmX2 : ∀ a, a < 2 → ∀ b, b < 2 → a ≠ b → (TX2 a).2.1 ≠ (TX2 b).2.1 := by decide +kernel
theorem tyX2_ok : ∀ k, k < 2 → parseFieldDescriptor (TX2 k).2.2.1 = some (tyX2 k) := by decide +kernel
abbrev cX2_init : ByteArray := prog_14_method_1_code
def yX2_init : MethodName := ⟨RX2, "<init>", "()V"⟩
def dkwX2_init_0 : List UInt8 := [42, 183, 0, 3, 42, 16, 16, 188, 10, 181, 0, 9, 177]
abbrev dktX2_init_0 : List UInt8 := dkwX2_init_0 ++ []
theorem dksX2_init_0 : cX2_init.data.toList.drop 0 = dktX2_init_0 := by decide +kernel
theorem dX2_init_0 : decode cX2_init 0 = .ok (.aload_n 0, 1) := dk_42 (dk_at dksX2_init_0 0 rfl rfl)
theorem dX2_init_1 : decode cX2_init 1 = .ok (.invokespecial 3, 3) := dk_183 0 3 (dk_at dksX2_init_0 1 rfl rfl)
theorem dX2_init_4 : decode cX2_init 4 = .ok (.aload_n 0, 1) := dk_42 (dk_at dksX2_init_0 4 rfl rfl)
theorem dX2_init_5 : decode cX2_init 5 = .ok (.bipush 16, 2) := dk_16 16 (dk_at dksX2_init_0 5 rfl rfl)
theorem dX2_init_7 : decode cX2_init 7 = .ok (.newarray .int, 2) := dk_188_10 (dk_at dksX2_init_0 7 rfl rfl)
theorem dX2_init_9 : decode cX2_init 9 = .ok (.putfield 9, 3) := dk_181 0 9 (dk_at dksX2_init_0 9 rfl rfl)
theorem dX2_init_12 : decode cX2_init 12 = .ok (.return_, 1) := dk_177 (dk_at dksX2_init_0 12 rfl rfl)
abbrev cX2_begins : ByteArray := prog_14_method_2_code
def yX2_begins : MethodName := ⟨RX2, "begins", "(I)V"⟩
def dkwX2_begins_1 : List UInt8 := [27, 79, 177]
abbrev dktX2_begins_1 : List UInt8 := dkwX2_begins_1 ++ []
def dkwX2_begins_0 : List UInt8 := [42, 180, 0, 15, 16, 16, 162, 0, 20, 42, 180, 0, 9, 42, 89, 180, 0, 15, 90, 4, 96, 181, 0, 15]
abbrev dktX2_begins_0 : List UInt8 := dkwX2_begins_0 ++ dktX2_begins_1
theorem dksX2_begins_0 : cX2_begins.data.toList.drop 0 = dktX2_begins_0 := by decide +kernel
theorem dksX2_begins_1 : cX2_begins.data.toList.drop 24 = dktX2_begins_1 := dk_seg dksX2_begins_0 24 rfl rfl
theorem dX2_begins_0 : decode cX2_begins 0 = .ok (.aload_n 0, 1) := dk_42 (dk_at dksX2_begins_0 0 rfl rfl)
theorem dX2_begins_1 : decode cX2_begins 1 = .ok (.getfield 15, 3) := dk_180 0 15 (dk_at dksX2_begins_0 1 rfl rfl)
theorem dX2_begins_4 : decode cX2_begins 4 = .ok (.bipush 16, 2) := dk_16 16 (dk_at dksX2_begins_0 4 rfl rfl)
theorem dX2_begins_6 : decode cX2_begins 6 = .ok (.if_icmp .ge 20, 3) := dk_162 0 20 (dk_at dksX2_begins_0 6 rfl rfl)
theorem dX2_begins_9 : decode cX2_begins 9 = .ok (.aload_n 0, 1) := dk_42 (dk_at dksX2_begins_0 9 rfl rfl)
theorem dX2_begins_10 : decode cX2_begins 10 = .ok (.getfield 9, 3) := dk_180 0 9 (dk_at dksX2_begins_0 10 rfl rfl)
theorem dX2_begins_13 : decode cX2_begins 13 = .ok (.aload_n 0, 1) := dk_42 (dk_at dksX2_begins_0 13 rfl rfl)
theorem dX2_begins_14 : decode cX2_begins 14 = .ok (.dup, 1) := dk_89 (dk_at dksX2_begins_0 14 rfl rfl)
theorem dX2_begins_15 : decode cX2_begins 15 = .ok (.getfield 15, 3) := dk_180 0 15 (dk_at dksX2_begins_0 15 rfl rfl)
theorem dX2_begins_18 : decode cX2_begins 18 = .ok (.dup_x1, 1) := dk_90 (dk_at dksX2_begins_0 18 rfl rfl)
theorem dX2_begins_19 : decode cX2_begins 19 = .ok (.iconst 1, 1) := dk_4 (dk_at dksX2_begins_0 19 rfl rfl)
theorem dX2_begins_20 : decode cX2_begins 20 = .ok (.iadd, 1) := dk_96 (dk_at dksX2_begins_0 20 rfl rfl)
theorem dX2_begins_21 : decode cX2_begins 21 = .ok (.putfield 15, 3) := dk_181 0 15 (dk_at dksX2_begins_0 21 rfl rfl)
theorem dX2_begins_24 : decode cX2_begins 24 = .ok (.iload_n 1, 1) := dk_27 (dk_at dksX2_begins_1 0 rfl rfl)
theorem dX2_begins_25 : decode cX2_begins 25 = .ok (.iastore, 1) := dk_79 (dk_at dksX2_begins_1 1 rfl rfl)
theorem dX2_begins_26 : decode cX2_begins 26 = .ok (.return_, 1) := dk_177 (dk_at dksX2_begins_1 2 rfl rfl)
theorem q81 : (Jvm.Cond.initialized "PromisePounds$Trail") ∈ lw_all := lw_g (lw_at lw_m1 6 rfl) rfl
theorem q210 : (Jvm.Cond.instantiable "PromisePounds$Trail" (2 : Nat)) ∈ lw_all := lw_g (lw_at lw_m1 135 rfl) rfl
theorem q212 : (Jvm.Cond.instanceMethod ({ cls := "PromisePounds$Trail", name := "<init>", desc := "()V" } : Jvm.MethodName)) ∈ lw_all := lw_g (lw_at lw_m1 137 rfl) rfl
theorem q213 : (Jvm.Cond.code ({ cls := "PromisePounds$Trail", name := "<init>", desc := "()V" } : Jvm.MethodName) prog_14_method_1_code (1 : Nat) (Option.none : Option Jvm.ClassFile.FieldType)) ∈ lw_all := lw_g (lw_at lw_m1 138 rfl) rfl
theorem q214 : (Jvm.Cond.methodLink "PromisePounds$Trail" (3 : Nat) ({ cls := "java/lang/Object", name := "<init>", desc := "()V" } : Jvm.MethodName)) ∈ lw_all := lw_g (lw_at lw_m1 139 rfl) rfl
theorem q215 : (Jvm.Cond.fieldLink "PromisePounds$Trail" (9 : Nat) "PromisePounds$Trail" "body" "[I") ∈ lw_all := lw_g (lw_at lw_m1 140 rfl) rfl
theorem q217 : (Jvm.Cond.fieldLink "PromisePounds$Trail" (15 : Nat) "PromisePounds$Trail" "many" "I") ∈ lw_all := lw_g (lw_at lw_m1 142 rfl) rfl
theorem q219 : (Jvm.Cond.laysFinal "PromisePounds$Trail" "PromisePounds$Trail" "body" "[I") ∈ lw_all := lw_g (lw_at lw_m1 144 rfl) rfl
theorem q220 : (Jvm.Cond.soleField "PromisePounds$Trail" "body") ∈ lw_all := lw_g (lw_at lw_m1 145 rfl) rfl
theorem q221 : (Jvm.Cond.lays "PromisePounds$Trail" "PromisePounds$Trail" "many" "I") ∈ lw_all := lw_g (lw_at lw_m1 146 rfl) rfl
theorem q222 : (Jvm.Cond.soleField "PromisePounds$Trail" "many") ∈ lw_all := lw_g (lw_at lw_m1 147 rfl) rfl
theorem q223 : (Jvm.Cond.superclass "PromisePounds$Trail" "java/lang/Object") ∈ lw_all := lw_g (lw_at lw_m1 148 rfl) rfl
theorem q715 : (Jvm.Cond.selects "PromisePounds$Trail" ({ cls := "java/lang/Object", name := "getClass", desc := "()Ljava/lang/Class;" } : Jvm.MethodName) ({ cls := "java/lang/Object", name := "getClass", desc := "()Ljava/lang/Class;" } : Jvm.MethodName)) ∈ lw_all := lw_g (lw_at lw_m3 160 rfl) rfl
theorem q1118 : (Jvm.Cond.instanceMethod ({ cls := "PromisePounds$Trail", name := "begins", desc := "(I)V" } : Jvm.MethodName)) ∈ lw_all := lw_g (lw_at lw_m5 83 rfl) rfl
theorem q1119 : (Jvm.Cond.selects "PromisePounds$Trail" ({ cls := "PromisePounds$Trail", name := "begins", desc := "(I)V" } : Jvm.MethodName) ({ cls := "PromisePounds$Trail", name := "begins", desc := "(I)V" } : Jvm.MethodName)) ∈ lw_all := lw_g (lw_at lw_m5 84 rfl) rfl
theorem q1120 : (Jvm.Cond.code ({ cls := "PromisePounds$Trail", name := "begins", desc := "(I)V" } : Jvm.MethodName) prog_14_method_2_code (2 : Nat) (Option.none : Option Jvm.ClassFile.FieldType)) ∈ lw_all := lw_g (lw_at lw_m5 85 rfl) rfl
theorem q1666 : (Jvm.Cond.castable "PromisePounds$Trail" "java/lang/Object") ∈ lw_tbl := lw_at lw_m7 151 rfl
theorem in_X2 : ∀ w ∈ wsX20, w ∈ lw_all := lw_in wsX20 [219, 221] (by decide +kernel) (by decide +kernel)
/-! PromisePounds$Finding -/
set_option maxRecDepth 100000
def RX4 : String := "PromisePounds$Finding"
def TX4 : u_T := fun k => match k with
  | 0 => ("java/lang/Throwable", "cause", "Ljava/lang/Throwable;", false)
  | 1 => ("java/lang/Throwable", "stackTrace", "[Ljava/lang/StackTraceElement;", false)
  | 2 => ("java/lang/Throwable", "suppressedExceptions", "Ljava/util/List;", false)
  | 3 => ("java/lang/Throwable", "detailMessage", "Ljava/lang/String;", false)
  | 4 => ("java/lang/Throwable", "backtrace", "Ljava/lang/Object;", false)
  | 5 => ("java/lang/Throwable", "depth", "I", false)
  | _ => ("PromisePounds$Finding", "number", "I", true)
def tyX4 : Nat → FieldType := fun k => match k with
  | 0 => .object "java/lang/Throwable"
  | 1 => .array (.object "java/lang/StackTraceElement")
  | 2 => .object "java/util/List"
  | 3 => .object "java/lang/String"
  | 4 => .object "java/lang/Object"
  | 5 => .int
  | _ => .int
abbrev wsX40 : List Cond := u_ws RX4 TX4 7
theorem nmX4 : ∀ a, a < 7 → ∀ b, b < 7 → a ≠ b → (TX4 a).2.1 ≠ (TX4 b).2.1 := by decide +kernel
theorem tyX4_ok : ∀ k, k < 7 → parseFieldDescriptor (TX4 k).2.2.1 = some (tyX4 k) := by decide +kernel
abbrev cX4_init : ByteArray := prog_5_method_1_code
def yX4_init : MethodName := ⟨RX4, "<init>", "(I)V"⟩
def dkwX4_init_0 : List UInt8 := [42, 1, 1, 3, 3, 183, 0, 1, 42, 27, 181, 0, 7, 177]
abbrev dktX4_init_0 : List UInt8 := dkwX4_init_0 ++ []
theorem dksX4_init_0 : cX4_init.data.toList.drop 0 = dktX4_init_0 := by decide +kernel
theorem dX4_init_0 : decode cX4_init 0 = .ok (.aload_n 0, 1) := dk_42 (dk_at dksX4_init_0 0 rfl rfl)
theorem dX4_init_1 : decode cX4_init 1 = .ok (.aconst_null, 1) := dk_1 (dk_at dksX4_init_0 1 rfl rfl)
theorem dX4_init_2 : decode cX4_init 2 = .ok (.aconst_null, 1) := dk_1 (dk_at dksX4_init_0 2 rfl rfl)
theorem dX4_init_3 : decode cX4_init 3 = .ok (.iconst 0, 1) := dk_3 (dk_at dksX4_init_0 3 rfl rfl)
theorem dX4_init_4 : decode cX4_init 4 = .ok (.iconst 0, 1) := dk_3 (dk_at dksX4_init_0 4 rfl rfl)
theorem dX4_init_5 : decode cX4_init 5 = .ok (.invokespecial 1, 3) := dk_183 0 1 (dk_at dksX4_init_0 5 rfl rfl)
theorem dX4_init_8 : decode cX4_init 8 = .ok (.aload_n 0, 1) := dk_42 (dk_at dksX4_init_0 8 rfl rfl)
theorem dX4_init_9 : decode cX4_init 9 = .ok (.iload_n 1, 1) := dk_27 (dk_at dksX4_init_0 9 rfl rfl)
theorem dX4_init_10 : decode cX4_init 10 = .ok (.putfield 7, 3) := dk_181 0 7 (dk_at dksX4_init_0 10 rfl rfl)
theorem dX4_init_13 : decode cX4_init 13 = .ok (.return_, 1) := dk_177 (dk_at dksX4_init_0 13 rfl rfl)
theorem q85 : (Jvm.Cond.initialized "PromisePounds$Finding") ∈ lw_all := lw_g (lw_at lw_m1 10 rfl) rfl
theorem q293 : (Jvm.Cond.instantiable "PromisePounds$Finding" (7 : Nat)) ∈ lw_all := lw_g (lw_at lw_m1 218 rfl) rfl
theorem q294 : (Jvm.Cond.castable "PromisePounds$Finding" "PromisePounds$Finding") ∈ lw_tbl := lw_at lw_m1 219 rfl
theorem q299 : (Jvm.Cond.selects "PromisePounds$Finding" ({ cls := "java/lang/Throwable", name := "fillInStackTrace", desc := "(I)Ljava/lang/Throwable;" } : Jvm.MethodName) ({ cls := "java/lang/Throwable", name := "fillInStackTrace", desc := "(I)Ljava/lang/Throwable;" } : Jvm.MethodName)) ∈ lw_all := lw_g (lw_at lw_m1 224 rfl) rfl
theorem q300 : (Jvm.Cond.selects "PromisePounds$Finding" ({ cls := "java/lang/Throwable", name := "fillInStackTrace", desc := "()Ljava/lang/Throwable;" } : Jvm.MethodName) ({ cls := "java/lang/Throwable", name := "fillInStackTrace", desc := "()Ljava/lang/Throwable;" } : Jvm.MethodName)) ∈ lw_all := lw_g (lw_at lw_m1 225 rfl) rfl
theorem q301 : (Jvm.Cond.lays "PromisePounds$Finding" "java/lang/Throwable" "cause" "Ljava/lang/Throwable;") ∈ lw_all := lw_g (lw_at lw_m1 226 rfl) rfl
theorem q303 : (Jvm.Cond.lays "PromisePounds$Finding" "java/lang/Throwable" "stackTrace" "[Ljava/lang/StackTraceElement;") ∈ lw_all := lw_g (lw_at lw_m1 228 rfl) rfl
theorem q305 : (Jvm.Cond.lays "PromisePounds$Finding" "java/lang/Throwable" "suppressedExceptions" "Ljava/util/List;") ∈ lw_all := lw_g (lw_at lw_m1 230 rfl) rfl
theorem q307 : (Jvm.Cond.lays "PromisePounds$Finding" "java/lang/Throwable" "detailMessage" "Ljava/lang/String;") ∈ lw_all := lw_g (lw_at lw_m1 232 rfl) rfl
theorem q309 : (Jvm.Cond.lays "PromisePounds$Finding" "java/lang/Throwable" "backtrace" "Ljava/lang/Object;") ∈ lw_all := lw_g (lw_at lw_m1 234 rfl) rfl
theorem q333 : (Jvm.Cond.instanceMethod ({ cls := "PromisePounds$Finding", name := "<init>", desc := "(I)V" } : Jvm.MethodName)) ∈ lw_all := lw_g (lw_at lw_m2 18 rfl) rfl
theorem q334 : (Jvm.Cond.code ({ cls := "PromisePounds$Finding", name := "<init>", desc := "(I)V" } : Jvm.MethodName) prog_5_method_1_code (2 : Nat) (Option.none : Option Jvm.ClassFile.FieldType)) ∈ lw_all := lw_g (lw_at lw_m2 19 rfl) rfl
theorem q335 : (Jvm.Cond.methodLink "PromisePounds$Finding" (1 : Nat) ({ cls := "java/lang/Exception", name := "<init>", desc := "(Ljava/lang/String;Ljava/lang/Throwable;ZZ)V" } : Jvm.MethodName)) ∈ lw_all := lw_g (lw_at lw_m2 20 rfl) rfl
theorem q341 : (Jvm.Cond.fieldLink "PromisePounds$Finding" (7 : Nat) "PromisePounds$Finding" "number" "I") ∈ lw_all := lw_g (lw_at lw_m2 26 rfl) rfl
theorem q348 : (Jvm.Cond.laysFinal "PromisePounds$Finding" "PromisePounds$Finding" "number" "I") ∈ lw_all := lw_g (lw_at lw_m2 33 rfl) rfl
theorem q349 : (Jvm.Cond.soleField "PromisePounds$Finding" "number") ∈ lw_all := lw_g (lw_at lw_m2 34 rfl) rfl
theorem q354 : (Jvm.Cond.lays "PromisePounds$Finding" "java/lang/Throwable" "depth" "I") ∈ lw_all := lw_g (lw_at lw_m2 39 rfl) rfl
theorem q357 : (Jvm.Cond.superclass "PromisePounds$Finding" "java/lang/Exception") ∈ lw_all := lw_g (lw_at lw_m2 42 rfl) rfl
theorem q708 : (Jvm.Cond.selects "PromisePounds$Finding" ({ cls := "java/lang/Object", name := "getClass", desc := "()Ljava/lang/Class;" } : Jvm.MethodName) ({ cls := "java/lang/Object", name := "getClass", desc := "()Ljava/lang/Class;" } : Jvm.MethodName)) ∈ lw_all := lw_g (lw_at lw_m3 153 rfl) rfl
theorem q1668 : (Jvm.Cond.castable "PromisePounds$Finding" "java/lang/Object") ∈ lw_tbl := lw_at lw_m7 153 rfl
theorem in_X4 : ∀ w ∈ wsX40, w ∈ lw_all := lw_in wsX40 [301, 303, 305, 307, 309, 354, 348] (by decide +kernel) (by decide +kernel)
/-! PromisePounds$Row -/
set_option maxRecDepth 100000
def RX5 : String := "PromisePounds$Row"
def TX5 : u_T := fun k => match k with
  | 0 => ("PromisePounds$Row", "lane", "I", true)
  | _ => ("PromisePounds$Row", "items", "[I", true)
def tyX5 : Nat → FieldType := fun k => match k with
  | 0 => .int
  | _ => .array .int
abbrev wsX50 : List Cond := u_ws RX5 TX5 2
theorem nmX5 : ∀ a, a < 2 → ∀ b, b < 2 → a ≠ b → (TX5 a).2.1 ≠ (TX5 b).2.1 := by decide +kernel
theorem tyX5_ok : ∀ k, k < 2 → parseFieldDescriptor (TX5 k).2.2.1 = some (tyX5 k) := by decide +kernel
abbrev cX5_init : ByteArray := prog_13_method_1_code
def yX5_init : MethodName := ⟨RX5, "<init>", "(II)V"⟩
def dkwX5_init_0 : List UInt8 := [42, 183, 0, 3, 42, 27, 181, 0, 9, 42, 28, 188, 10, 181, 0, 15, 177]
abbrev dktX5_init_0 : List UInt8 := dkwX5_init_0 ++ []
theorem dksX5_init_0 : cX5_init.data.toList.drop 0 = dktX5_init_0 := by decide +kernel
theorem dX5_init_0 : decode cX5_init 0 = .ok (.aload_n 0, 1) := dk_42 (dk_at dksX5_init_0 0 rfl rfl)
theorem dX5_init_1 : decode cX5_init 1 = .ok (.invokespecial 3, 3) := dk_183 0 3 (dk_at dksX5_init_0 1 rfl rfl)
theorem dX5_init_4 : decode cX5_init 4 = .ok (.aload_n 0, 1) := dk_42 (dk_at dksX5_init_0 4 rfl rfl)
theorem dX5_init_5 : decode cX5_init 5 = .ok (.iload_n 1, 1) := dk_27 (dk_at dksX5_init_0 5 rfl rfl)
theorem dX5_init_6 : decode cX5_init 6 = .ok (.putfield 9, 3) := dk_181 0 9 (dk_at dksX5_init_0 6 rfl rfl)
theorem dX5_init_9 : decode cX5_init 9 = .ok (.aload_n 0, 1) := dk_42 (dk_at dksX5_init_0 9 rfl rfl)
theorem dX5_init_10 : decode cX5_init 10 = .ok (.iload_n 2, 1) := dk_28 (dk_at dksX5_init_0 10 rfl rfl)
theorem dX5_init_11 : decode cX5_init 11 = .ok (.newarray .int, 2) := dk_188_10 (dk_at dksX5_init_0 11 rfl rfl)
theorem dX5_init_13 : decode cX5_init 13 = .ok (.putfield 15, 3) := dk_181 0 15 (dk_at dksX5_init_0 13 rfl rfl)
theorem dX5_init_16 : decode cX5_init 16 = .ok (.return_, 1) := dk_177 (dk_at dksX5_init_0 16 rfl rfl)
abbrev cX5_cut : ByteArray := prog_13_method_2_code
def yX5_cut : MethodName := ⟨RX5, "cut", "(I)I"⟩
def dkwX5_cut_1 : List UInt8 := [167, 0, 4, 27, 172]
abbrev dktX5_cut_1 : List UInt8 := dkwX5_cut_1 ++ []
def dkwX5_cut_0 : List UInt8 := [42, 180, 0, 9, 154, 0, 8, 27, 145, 167, 0, 17, 42, 180, 0, 9, 4, 160, 0, 8, 27, 147]
abbrev dktX5_cut_0 : List UInt8 := dkwX5_cut_0 ++ dktX5_cut_1
theorem dksX5_cut_0 : cX5_cut.data.toList.drop 0 = dktX5_cut_0 := by decide +kernel
theorem dksX5_cut_1 : cX5_cut.data.toList.drop 22 = dktX5_cut_1 := dk_seg dksX5_cut_0 22 rfl rfl
theorem dX5_cut_0 : decode cX5_cut 0 = .ok (.aload_n 0, 1) := dk_42 (dk_at dksX5_cut_0 0 rfl rfl)
theorem dX5_cut_1 : decode cX5_cut 1 = .ok (.getfield 9, 3) := dk_180 0 9 (dk_at dksX5_cut_0 1 rfl rfl)
theorem dX5_cut_4 : decode cX5_cut 4 = .ok (.ifCond .ne 8, 3) := dk_154 0 8 (dk_at dksX5_cut_0 4 rfl rfl)
theorem dX5_cut_7 : decode cX5_cut 7 = .ok (.iload_n 1, 1) := dk_27 (dk_at dksX5_cut_0 7 rfl rfl)
theorem dX5_cut_8 : decode cX5_cut 8 = .ok (.i2b, 1) := dk_145 (dk_at dksX5_cut_0 8 rfl rfl)
theorem dX5_cut_9 : decode cX5_cut 9 = .ok (.goto 17, 3) := dk_167 0 17 (dk_at dksX5_cut_0 9 rfl rfl)
theorem dX5_cut_12 : decode cX5_cut 12 = .ok (.aload_n 0, 1) := dk_42 (dk_at dksX5_cut_0 12 rfl rfl)
theorem dX5_cut_13 : decode cX5_cut 13 = .ok (.getfield 9, 3) := dk_180 0 9 (dk_at dksX5_cut_0 13 rfl rfl)
theorem dX5_cut_16 : decode cX5_cut 16 = .ok (.iconst 1, 1) := dk_4 (dk_at dksX5_cut_0 16 rfl rfl)
theorem dX5_cut_17 : decode cX5_cut 17 = .ok (.if_icmp .ne 8, 3) := dk_160 0 8 (dk_at dksX5_cut_0 17 rfl rfl)
theorem dX5_cut_20 : decode cX5_cut 20 = .ok (.iload_n 1, 1) := dk_27 (dk_at dksX5_cut_0 20 rfl rfl)
theorem dX5_cut_21 : decode cX5_cut 21 = .ok (.i2s, 1) := dk_147 (dk_at dksX5_cut_0 21 rfl rfl)
theorem dX5_cut_22 : decode cX5_cut 22 = .ok (.goto 4, 3) := dk_167 0 4 (dk_at dksX5_cut_1 0 rfl rfl)
theorem dX5_cut_25 : decode cX5_cut 25 = .ok (.iload_n 1, 1) := dk_27 (dk_at dksX5_cut_1 3 rfl rfl)
theorem dX5_cut_26 : decode cX5_cut 26 = .ok (.ireturn, 1) := dk_172 (dk_at dksX5_cut_1 4 rfl rfl)
abbrev cX5_row : ByteArray := prog_13_method_3_code
def yX5_row : MethodName := ⟨RX5, "row", "(II)[I"⟩
def dkwX5_row_1 : List UInt8 := [5, 184, 0, 19, 28, 188, 10, 78, 42, 180, 0, 15, 27, 45, 3, 28, 184, 0, 23, 45, 176]
abbrev dktX5_row_1 : List UInt8 := dkwX5_row_1 ++ []
def dkwX5_row_0 : List UInt8 := [27, 155, 0, 22, 27, 133, 28, 133, 97, 42, 180, 0, 15, 190, 133, 148, 157, 0, 7, 4, 167, 0, 4, 3]
abbrev dktX5_row_0 : List UInt8 := dkwX5_row_0 ++ dktX5_row_1
theorem dksX5_row_0 : cX5_row.data.toList.drop 0 = dktX5_row_0 := by decide +kernel
theorem dksX5_row_1 : cX5_row.data.toList.drop 24 = dktX5_row_1 := dk_seg dksX5_row_0 24 rfl rfl
theorem dX5_row_0 : decode cX5_row 0 = .ok (.iload_n 1, 1) := dk_27 (dk_at dksX5_row_0 0 rfl rfl)
theorem dX5_row_1 : decode cX5_row 1 = .ok (.ifCond .lt 22, 3) := dk_155 0 22 (dk_at dksX5_row_0 1 rfl rfl)
theorem dX5_row_4 : decode cX5_row 4 = .ok (.iload_n 1, 1) := dk_27 (dk_at dksX5_row_0 4 rfl rfl)
theorem dX5_row_5 : decode cX5_row 5 = .ok (.i2l, 1) := dk_133 (dk_at dksX5_row_0 5 rfl rfl)
theorem dX5_row_6 : decode cX5_row 6 = .ok (.iload_n 2, 1) := dk_28 (dk_at dksX5_row_0 6 rfl rfl)
theorem dX5_row_7 : decode cX5_row 7 = .ok (.i2l, 1) := dk_133 (dk_at dksX5_row_0 7 rfl rfl)
theorem dX5_row_8 : decode cX5_row 8 = .ok (.ladd, 1) := dk_97 (dk_at dksX5_row_0 8 rfl rfl)
theorem dX5_row_9 : decode cX5_row 9 = .ok (.aload_n 0, 1) := dk_42 (dk_at dksX5_row_0 9 rfl rfl)
theorem dX5_row_10 : decode cX5_row 10 = .ok (.getfield 15, 3) := dk_180 0 15 (dk_at dksX5_row_0 10 rfl rfl)
theorem dX5_row_13 : decode cX5_row 13 = .ok (.arraylength, 1) := dk_190 (dk_at dksX5_row_0 13 rfl rfl)
theorem dX5_row_14 : decode cX5_row 14 = .ok (.i2l, 1) := dk_133 (dk_at dksX5_row_0 14 rfl rfl)
theorem dX5_row_15 : decode cX5_row 15 = .ok (.lcmp, 1) := dk_148 (dk_at dksX5_row_0 15 rfl rfl)
theorem dX5_row_16 : decode cX5_row 16 = .ok (.ifCond .gt 7, 3) := dk_157 0 7 (dk_at dksX5_row_0 16 rfl rfl)
theorem dX5_row_19 : decode cX5_row 19 = .ok (.iconst 1, 1) := dk_4 (dk_at dksX5_row_0 19 rfl rfl)
theorem dX5_row_20 : decode cX5_row 20 = .ok (.goto 4, 3) := dk_167 0 4 (dk_at dksX5_row_0 20 rfl rfl)
theorem dX5_row_23 : decode cX5_row 23 = .ok (.iconst 0, 1) := dk_3 (dk_at dksX5_row_0 23 rfl rfl)
theorem dX5_row_24 : decode cX5_row 24 = .ok (.iconst 2, 1) := dk_5 (dk_at dksX5_row_1 0 rfl rfl)
theorem dX5_row_25 : decode cX5_row 25 = .ok (.invokestatic 19, 3) := dk_184 0 19 (dk_at dksX5_row_1 1 rfl rfl)
theorem dX5_row_28 : decode cX5_row 28 = .ok (.iload_n 2, 1) := dk_28 (dk_at dksX5_row_1 4 rfl rfl)
theorem dX5_row_29 : decode cX5_row 29 = .ok (.newarray .int, 2) := dk_188_10 (dk_at dksX5_row_1 5 rfl rfl)
theorem dX5_row_31 : decode cX5_row 31 = .ok (.astore_n 3, 1) := dk_78 (dk_at dksX5_row_1 7 rfl rfl)
theorem dX5_row_32 : decode cX5_row 32 = .ok (.aload_n 0, 1) := dk_42 (dk_at dksX5_row_1 8 rfl rfl)
theorem dX5_row_33 : decode cX5_row 33 = .ok (.getfield 15, 3) := dk_180 0 15 (dk_at dksX5_row_1 9 rfl rfl)
theorem dX5_row_36 : decode cX5_row 36 = .ok (.iload_n 1, 1) := dk_27 (dk_at dksX5_row_1 12 rfl rfl)
theorem dX5_row_37 : decode cX5_row 37 = .ok (.aload_n 3, 1) := dk_45 (dk_at dksX5_row_1 13 rfl rfl)
theorem dX5_row_38 : decode cX5_row 38 = .ok (.iconst 0, 1) := dk_3 (dk_at dksX5_row_1 14 rfl rfl)
theorem dX5_row_39 : decode cX5_row 39 = .ok (.iload_n 2, 1) := dk_28 (dk_at dksX5_row_1 15 rfl rfl)
theorem dX5_row_40 : decode cX5_row 40 = .ok (.invokestatic 23, 3) := dk_184 0 23 (dk_at dksX5_row_1 16 rfl rfl)
theorem dX5_row_43 : decode cX5_row 43 = .ok (.aload_n 3, 1) := dk_45 (dk_at dksX5_row_1 19 rfl rfl)
theorem dX5_row_44 : decode cX5_row 44 = .ok (.areturn, 1) := dk_176 (dk_at dksX5_row_1 20 rfl rfl)
theorem q86 : (Jvm.Cond.initialized "PromisePounds$Row") ∈ lw_all := lw_g (lw_at lw_m1 11 rfl) rfl
theorem q358 : (Jvm.Cond.instantiable "PromisePounds$Row" (2 : Nat)) ∈ lw_all := lw_g (lw_at lw_m2 43 rfl) rfl
theorem q360 : (Jvm.Cond.instanceMethod ({ cls := "PromisePounds$Row", name := "<init>", desc := "(II)V" } : Jvm.MethodName)) ∈ lw_all := lw_g (lw_at lw_m2 45 rfl) rfl
theorem q361 : (Jvm.Cond.code ({ cls := "PromisePounds$Row", name := "<init>", desc := "(II)V" } : Jvm.MethodName) prog_13_method_1_code (3 : Nat) (Option.none : Option Jvm.ClassFile.FieldType)) ∈ lw_all := lw_g (lw_at lw_m2 46 rfl) rfl
theorem q362 : (Jvm.Cond.methodLink "PromisePounds$Row" (3 : Nat) ({ cls := "java/lang/Object", name := "<init>", desc := "()V" } : Jvm.MethodName)) ∈ lw_all := lw_g (lw_at lw_m2 47 rfl) rfl
theorem q363 : (Jvm.Cond.fieldLink "PromisePounds$Row" (9 : Nat) "PromisePounds$Row" "lane" "I") ∈ lw_all := lw_g (lw_at lw_m2 48 rfl) rfl
theorem q365 : (Jvm.Cond.fieldLink "PromisePounds$Row" (15 : Nat) "PromisePounds$Row" "items" "[I") ∈ lw_all := lw_g (lw_at lw_m2 50 rfl) rfl
theorem q367 : (Jvm.Cond.laysFinal "PromisePounds$Row" "PromisePounds$Row" "lane" "I") ∈ lw_all := lw_g (lw_at lw_m2 52 rfl) rfl
theorem q368 : (Jvm.Cond.soleField "PromisePounds$Row" "lane") ∈ lw_all := lw_g (lw_at lw_m2 53 rfl) rfl
theorem q369 : (Jvm.Cond.laysFinal "PromisePounds$Row" "PromisePounds$Row" "items" "[I") ∈ lw_all := lw_g (lw_at lw_m2 54 rfl) rfl
theorem q370 : (Jvm.Cond.soleField "PromisePounds$Row" "items") ∈ lw_all := lw_g (lw_at lw_m2 55 rfl) rfl
theorem q371 : (Jvm.Cond.superclass "PromisePounds$Row" "java/lang/Object") ∈ lw_all := lw_g (lw_at lw_m2 56 rfl) rfl
theorem q390 : (Jvm.Cond.instanceMethod ({ cls := "PromisePounds$Row", name := "cut", desc := "(I)I" } : Jvm.MethodName)) ∈ lw_all := lw_g (lw_at lw_m2 75 rfl) rfl
theorem q391 : (Jvm.Cond.selects "PromisePounds$Row" ({ cls := "PromisePounds$Row", name := "cut", desc := "(I)I" } : Jvm.MethodName) ({ cls := "PromisePounds$Row", name := "cut", desc := "(I)I" } : Jvm.MethodName)) ∈ lw_all := lw_g (lw_at lw_m2 76 rfl) rfl
theorem q392 : (Jvm.Cond.code ({ cls := "PromisePounds$Row", name := "cut", desc := "(I)I" } : Jvm.MethodName) prog_13_method_2_code (2 : Nat) (Option.some Jvm.ClassFile.FieldType.int)) ∈ lw_all := lw_g (lw_at lw_m2 77 rfl) rfl
theorem q714 : (Jvm.Cond.selects "PromisePounds$Row" ({ cls := "java/lang/Object", name := "getClass", desc := "()Ljava/lang/Class;" } : Jvm.MethodName) ({ cls := "java/lang/Object", name := "getClass", desc := "()Ljava/lang/Class;" } : Jvm.MethodName)) ∈ lw_all := lw_g (lw_at lw_m3 159 rfl) rfl
theorem q1029 : (Jvm.Cond.instanceMethod ({ cls := "PromisePounds$Row", name := "row", desc := "(II)[I" } : Jvm.MethodName)) ∈ lw_all := lw_g (lw_at lw_m4 234 rfl) rfl
theorem q1030 : (Jvm.Cond.selects "PromisePounds$Row" ({ cls := "PromisePounds$Row", name := "row", desc := "(II)[I" } : Jvm.MethodName) ({ cls := "PromisePounds$Row", name := "row", desc := "(II)[I" } : Jvm.MethodName)) ∈ lw_all := lw_g (lw_at lw_m4 235 rfl) rfl
theorem q1031 : (Jvm.Cond.code ({ cls := "PromisePounds$Row", name := "row", desc := "(II)[I" } : Jvm.MethodName) prog_13_method_3_code (4 : Nat) (Option.some (Jvm.ClassFile.FieldType.array Jvm.ClassFile.FieldType.int))) ∈ lw_all := lw_g (lw_at lw_m4 236 rfl) rfl
theorem q1032 : (Jvm.Cond.methodLinkNest "PromisePounds$Row" (19 : Nat) ({ cls := "PromisePounds", name := "must", desc := "(ZI)V" } : Jvm.MethodName) "PromisePounds") ∈ lw_tbl := lw_at lw_m4 237 rfl
theorem q1033 : (Jvm.Cond.methodLink "PromisePounds$Row" (23 : Nat) ({ cls := "java/lang/System", name := "arraycopy", desc := "(Ljava/lang/Object;ILjava/lang/Object;II)V" } : Jvm.MethodName)) ∈ lw_all := lw_g (lw_at lw_m4 238 rfl) rfl
theorem q1662 : (Jvm.Cond.castable "PromisePounds$Row" "java/lang/Object") ∈ lw_tbl := lw_at lw_m7 147 rfl
theorem in_X5 : ∀ w ∈ wsX50, w ∈ lw_all := lw_in wsX50 [367, 369] (by decide +kernel) (by decide +kernel)
/-! PromisePounds$Reader -/
set_option maxRecDepth 100000
def RX6 : String := "PromisePounds$Reader"
def TX6 : u_T := fun k => match k with
  | 0 => ("PromisePounds$Reader", "text", "[B", true)
  | 1 => ("PromisePounds$Reader", "size", "I", true)
  | 2 => ("PromisePounds$Reader", "at", "I", false)
  | 3 => ("PromisePounds$Reader", "token", "I", false)
  | 4 => ("PromisePounds$Reader", "from", "I", false)
  | 5 => ("PromisePounds$Reader", "value", "I", false)
  | _ => ("PromisePounds$Reader", "made", "LPromisePounds$Parish;", true)
def tyX6 : Nat → FieldType := fun k => match k with
  | 0 => .array .byte
  | 1 => .int
  | 2 => .int
  | 3 => .int
  | 4 => .int
  | 5 => .int
  | _ => .object "PromisePounds$Parish"
abbrev wsX60 : List Cond := u_ws RX6 TX6 7
theorem nmX6 : ∀ a, a < 7 → ∀ b, b < 7 → a ≠ b → (TX6 a).2.1 ≠ (TX6 b).2.1 := by decide +kernel
theorem tyX6_ok : ∀ k, k < 7 → parseFieldDescriptor (TX6 k).2.2.1 = some (tyX6 k) := by decide +kernel
abbrev cX6_init : ByteArray := prog_12_method_1_code
def yX6_init : MethodName := ⟨RX6, "<init>", "([BI)V"⟩
def dkwX6_init_1 : List UInt8 := [181, 0, 22, 177]
abbrev dktX6_init_1 : List UInt8 := dkwX6_init_1 ++ []
def dkwX6_init_0 : List UInt8 := [42, 183, 0, 3, 42, 187, 0, 9, 89, 183, 0, 11, 181, 0, 12, 42, 43, 181, 0, 18, 42, 28]
abbrev dktX6_init_0 : List UInt8 := dkwX6_init_0 ++ dktX6_init_1
theorem dksX6_init_0 : cX6_init.data.toList.drop 0 = dktX6_init_0 := by decide +kernel
theorem dksX6_init_1 : cX6_init.data.toList.drop 22 = dktX6_init_1 := dk_seg dksX6_init_0 22 rfl rfl
theorem dX6_init_0 : decode cX6_init 0 = .ok (.aload_n 0, 1) := dk_42 (dk_at dksX6_init_0 0 rfl rfl)
theorem dX6_init_1 : decode cX6_init 1 = .ok (.invokespecial 3, 3) := dk_183 0 3 (dk_at dksX6_init_0 1 rfl rfl)
theorem dX6_init_4 : decode cX6_init 4 = .ok (.aload_n 0, 1) := dk_42 (dk_at dksX6_init_0 4 rfl rfl)
theorem dX6_init_5 : decode cX6_init 5 = .ok (.new 9, 3) := dk_187 0 9 (dk_at dksX6_init_0 5 rfl rfl)
theorem dX6_init_8 : decode cX6_init 8 = .ok (.dup, 1) := dk_89 (dk_at dksX6_init_0 8 rfl rfl)
theorem dX6_init_9 : decode cX6_init 9 = .ok (.invokespecial 11, 3) := dk_183 0 11 (dk_at dksX6_init_0 9 rfl rfl)
theorem dX6_init_12 : decode cX6_init 12 = .ok (.putfield 12, 3) := dk_181 0 12 (dk_at dksX6_init_0 12 rfl rfl)
theorem dX6_init_15 : decode cX6_init 15 = .ok (.aload_n 0, 1) := dk_42 (dk_at dksX6_init_0 15 rfl rfl)
theorem dX6_init_16 : decode cX6_init 16 = .ok (.aload_n 1, 1) := dk_43 (dk_at dksX6_init_0 16 rfl rfl)
theorem dX6_init_17 : decode cX6_init 17 = .ok (.putfield 18, 3) := dk_181 0 18 (dk_at dksX6_init_0 17 rfl rfl)
theorem dX6_init_20 : decode cX6_init 20 = .ok (.aload_n 0, 1) := dk_42 (dk_at dksX6_init_0 20 rfl rfl)
theorem dX6_init_21 : decode cX6_init 21 = .ok (.iload_n 2, 1) := dk_28 (dk_at dksX6_init_0 21 rfl rfl)
theorem dX6_init_22 : decode cX6_init 22 = .ok (.putfield 22, 3) := dk_181 0 22 (dk_at dksX6_init_1 0 rfl rfl)
theorem dX6_init_25 : decode cX6_init 25 = .ok (.return_, 1) := dk_177 (dk_at dksX6_init_1 3 rfl rfl)
abbrev cX6_all : ByteArray := prog_12_method_12_code
def yX6_all : MethodName := ⟨RX6, "all", "()V"⟩
def dkwX6_all_6 : List UInt8 := [177]
abbrev dktX6_all_6 : List UInt8 := dkwX6_all_6 ++ []
def dkwX6_all_5 : List UInt8 := [42, 182, 0, 108, 167, 255, 243, 42, 42, 180, 0, 40, 154, 0, 7, 4, 167, 0, 4, 3, 4, 182, 0, 60]
abbrev dktX6_all_5 : List UInt8 := dkwX6_all_5 ++ dktX6_all_6
def dkwX6_all_4 : List UInt8 := [182, 0, 101, 18, 29, 159, 0, 10, 42, 182, 0, 105, 167, 255, 241, 42, 16, 109, 182, 0, 88, 153, 0, 10]
abbrev dktX6_all_4 : List UInt8 := dkwX6_all_4 ++ dktX6_all_5
def dkwX6_all_3 : List UInt8 := [18, 99, 182, 0, 101, 18, 29, 159, 0, 7, 4, 167, 0, 4, 3, 4, 182, 0, 60, 42, 18, 99]
abbrev dktX6_all_3 : List UInt8 := dkwX6_all_3 ++ dktX6_all_4
def dkwX6_all_2 : List UInt8 := [167, 0, 10, 42, 3, 16, 20, 182, 0, 96, 79, 132, 1, 1, 167, 255, 217, 42, 7, 182, 0, 67, 42, 42]
abbrev dktX6_all_2 : List UInt8 := dkwX6_all_2 ++ dktX6_all_3
def dkwX6_all_1 : List UInt8 := [162, 0, 39, 42, 180, 0, 12, 180, 0, 92, 27, 27, 154, 0, 13, 42, 3, 16, 20, 182, 0, 71]
abbrev dktX6_all_1 : List UInt8 := dkwX6_all_1 ++ dktX6_all_2
def dkwX6_all_0 : List UInt8 := [42, 182, 0, 64, 42, 42, 16, 104, 182, 0, 88, 4, 182, 0, 60, 42, 182, 0, 64, 3, 60, 27, 16, 6]
abbrev dktX6_all_0 : List UInt8 := dkwX6_all_0 ++ dktX6_all_1
theorem dksX6_all_0 : cX6_all.data.toList.drop 0 = dktX6_all_0 := by decide +kernel
theorem dksX6_all_1 : cX6_all.data.toList.drop 24 = dktX6_all_1 := dk_seg dksX6_all_0 24 rfl rfl
theorem dksX6_all_2 : cX6_all.data.toList.drop 46 = dktX6_all_2 := dk_seg dksX6_all_1 22 rfl rfl
theorem dksX6_all_3 : cX6_all.data.toList.drop 70 = dktX6_all_3 := dk_seg dksX6_all_2 24 rfl rfl
theorem dksX6_all_4 : cX6_all.data.toList.drop 92 = dktX6_all_4 := dk_seg dksX6_all_3 22 rfl rfl
theorem dksX6_all_5 : cX6_all.data.toList.drop 116 = dktX6_all_5 := dk_seg dksX6_all_4 24 rfl rfl
theorem dksX6_all_6 : cX6_all.data.toList.drop 140 = dktX6_all_6 := dk_seg dksX6_all_5 24 rfl rfl
theorem dX6_all_0 : decode cX6_all 0 = .ok (.aload_n 0, 1) := dk_42 (dk_at dksX6_all_0 0 rfl rfl)
theorem dX6_all_1 : decode cX6_all 1 = .ok (.invokevirtual 64, 3) := dk_182 0 64 (dk_at dksX6_all_0 1 rfl rfl)
theorem dX6_all_4 : decode cX6_all 4 = .ok (.aload_n 0, 1) := dk_42 (dk_at dksX6_all_0 4 rfl rfl)
theorem dX6_all_5 : decode cX6_all 5 = .ok (.aload_n 0, 1) := dk_42 (dk_at dksX6_all_0 5 rfl rfl)
theorem dX6_all_6 : decode cX6_all 6 = .ok (.bipush 104, 2) := dk_16 104 (dk_at dksX6_all_0 6 rfl rfl)
theorem dX6_all_8 : decode cX6_all 8 = .ok (.invokevirtual 88, 3) := dk_182 0 88 (dk_at dksX6_all_0 8 rfl rfl)
theorem dX6_all_11 : decode cX6_all 11 = .ok (.iconst 1, 1) := dk_4 (dk_at dksX6_all_0 11 rfl rfl)
theorem dX6_all_12 : decode cX6_all 12 = .ok (.invokevirtual 60, 3) := dk_182 0 60 (dk_at dksX6_all_0 12 rfl rfl)
theorem dX6_all_15 : decode cX6_all 15 = .ok (.aload_n 0, 1) := dk_42 (dk_at dksX6_all_0 15 rfl rfl)
theorem dX6_all_16 : decode cX6_all 16 = .ok (.invokevirtual 64, 3) := dk_182 0 64 (dk_at dksX6_all_0 16 rfl rfl)
theorem dX6_all_19 : decode cX6_all 19 = .ok (.iconst 0, 1) := dk_3 (dk_at dksX6_all_0 19 rfl rfl)
theorem dX6_all_20 : decode cX6_all 20 = .ok (.istore_n 1, 1) := dk_60 (dk_at dksX6_all_0 20 rfl rfl)
theorem dX6_all_21 : decode cX6_all 21 = .ok (.iload_n 1, 1) := dk_27 (dk_at dksX6_all_0 21 rfl rfl)
theorem dX6_all_22 : decode cX6_all 22 = .ok (.bipush 6, 2) := dk_16 6 (dk_at dksX6_all_0 22 rfl rfl)
theorem dX6_all_24 : decode cX6_all 24 = .ok (.if_icmp .ge 39, 3) := dk_162 0 39 (dk_at dksX6_all_1 0 rfl rfl)
theorem dX6_all_27 : decode cX6_all 27 = .ok (.aload_n 0, 1) := dk_42 (dk_at dksX6_all_1 3 rfl rfl)
theorem dX6_all_28 : decode cX6_all 28 = .ok (.getfield 12, 3) := dk_180 0 12 (dk_at dksX6_all_1 4 rfl rfl)
theorem dX6_all_31 : decode cX6_all 31 = .ok (.getfield 92, 3) := dk_180 0 92 (dk_at dksX6_all_1 7 rfl rfl)
theorem dX6_all_34 : decode cX6_all 34 = .ok (.iload_n 1, 1) := dk_27 (dk_at dksX6_all_1 10 rfl rfl)
theorem dX6_all_35 : decode cX6_all 35 = .ok (.iload_n 1, 1) := dk_27 (dk_at dksX6_all_1 11 rfl rfl)
theorem dX6_all_36 : decode cX6_all 36 = .ok (.ifCond .ne 13, 3) := dk_154 0 13 (dk_at dksX6_all_1 12 rfl rfl)
theorem dX6_all_39 : decode cX6_all 39 = .ok (.aload_n 0, 1) := dk_42 (dk_at dksX6_all_1 15 rfl rfl)
theorem dX6_all_40 : decode cX6_all 40 = .ok (.iconst 0, 1) := dk_3 (dk_at dksX6_all_1 16 rfl rfl)
theorem dX6_all_41 : decode cX6_all 41 = .ok (.bipush 20, 2) := dk_16 20 (dk_at dksX6_all_1 17 rfl rfl)
theorem dX6_all_43 : decode cX6_all 43 = .ok (.invokevirtual 71, 3) := dk_182 0 71 (dk_at dksX6_all_1 19 rfl rfl)
theorem dX6_all_46 : decode cX6_all 46 = .ok (.goto 10, 3) := dk_167 0 10 (dk_at dksX6_all_2 0 rfl rfl)
theorem dX6_all_49 : decode cX6_all 49 = .ok (.aload_n 0, 1) := dk_42 (dk_at dksX6_all_2 3 rfl rfl)
theorem dX6_all_50 : decode cX6_all 50 = .ok (.iconst 0, 1) := dk_3 (dk_at dksX6_all_2 4 rfl rfl)
theorem dX6_all_51 : decode cX6_all 51 = .ok (.bipush 20, 2) := dk_16 20 (dk_at dksX6_all_2 5 rfl rfl)
theorem dX6_all_53 : decode cX6_all 53 = .ok (.invokevirtual 96, 3) := dk_182 0 96 (dk_at dksX6_all_2 7 rfl rfl)
theorem dX6_all_56 : decode cX6_all 56 = .ok (.iastore, 1) := dk_79 (dk_at dksX6_all_2 10 rfl rfl)
theorem dX6_all_57 : decode cX6_all 57 = .ok (.iinc 1 1, 3) := dk_132 1 1 (dk_at dksX6_all_2 11 rfl rfl)
theorem dX6_all_60 : decode cX6_all 60 = .ok (.goto (-39), 3) := dk_167 255 217 (dk_at dksX6_all_2 14 rfl rfl)
theorem dX6_all_63 : decode cX6_all 63 = .ok (.aload_n 0, 1) := dk_42 (dk_at dksX6_all_2 17 rfl rfl)
theorem dX6_all_64 : decode cX6_all 64 = .ok (.iconst 4, 1) := dk_7 (dk_at dksX6_all_2 18 rfl rfl)
theorem dX6_all_65 : decode cX6_all 65 = .ok (.invokevirtual 67, 3) := dk_182 0 67 (dk_at dksX6_all_2 19 rfl rfl)
theorem dX6_all_68 : decode cX6_all 68 = .ok (.aload_n 0, 1) := dk_42 (dk_at dksX6_all_2 22 rfl rfl)
theorem dX6_all_69 : decode cX6_all 69 = .ok (.aload_n 0, 1) := dk_42 (dk_at dksX6_all_2 23 rfl rfl)
theorem dX6_all_70 : decode cX6_all 70 = .ok (.ldc 99, 2) := dk_18 99 (dk_at dksX6_all_3 0 rfl rfl)
theorem dX6_all_72 : decode cX6_all 72 = .ok (.invokevirtual 101, 3) := dk_182 0 101 (dk_at dksX6_all_3 2 rfl rfl)
theorem dX6_all_75 : decode cX6_all 75 = .ok (.ldc 29, 2) := dk_18 29 (dk_at dksX6_all_3 5 rfl rfl)
theorem dX6_all_77 : decode cX6_all 77 = .ok (.if_icmp .eq 7, 3) := dk_159 0 7 (dk_at dksX6_all_3 7 rfl rfl)
theorem dX6_all_80 : decode cX6_all 80 = .ok (.iconst 1, 1) := dk_4 (dk_at dksX6_all_3 10 rfl rfl)
theorem dX6_all_81 : decode cX6_all 81 = .ok (.goto 4, 3) := dk_167 0 4 (dk_at dksX6_all_3 11 rfl rfl)
theorem dX6_all_84 : decode cX6_all 84 = .ok (.iconst 0, 1) := dk_3 (dk_at dksX6_all_3 14 rfl rfl)
theorem dX6_all_85 : decode cX6_all 85 = .ok (.iconst 1, 1) := dk_4 (dk_at dksX6_all_3 15 rfl rfl)
theorem dX6_all_86 : decode cX6_all 86 = .ok (.invokevirtual 60, 3) := dk_182 0 60 (dk_at dksX6_all_3 16 rfl rfl)
theorem dX6_all_89 : decode cX6_all 89 = .ok (.aload_n 0, 1) := dk_42 (dk_at dksX6_all_3 19 rfl rfl)
theorem dX6_all_90 : decode cX6_all 90 = .ok (.ldc 99, 2) := dk_18 99 (dk_at dksX6_all_3 20 rfl rfl)
theorem dX6_all_92 : decode cX6_all 92 = .ok (.invokevirtual 101, 3) := dk_182 0 101 (dk_at dksX6_all_4 0 rfl rfl)
theorem dX6_all_95 : decode cX6_all 95 = .ok (.ldc 29, 2) := dk_18 29 (dk_at dksX6_all_4 3 rfl rfl)
theorem dX6_all_97 : decode cX6_all 97 = .ok (.if_icmp .eq 10, 3) := dk_159 0 10 (dk_at dksX6_all_4 5 rfl rfl)
theorem dX6_all_100 : decode cX6_all 100 = .ok (.aload_n 0, 1) := dk_42 (dk_at dksX6_all_4 8 rfl rfl)
theorem dX6_all_101 : decode cX6_all 101 = .ok (.invokevirtual 105, 3) := dk_182 0 105 (dk_at dksX6_all_4 9 rfl rfl)
theorem dX6_all_104 : decode cX6_all 104 = .ok (.goto (-15), 3) := dk_167 255 241 (dk_at dksX6_all_4 12 rfl rfl)
theorem dX6_all_107 : decode cX6_all 107 = .ok (.aload_n 0, 1) := dk_42 (dk_at dksX6_all_4 15 rfl rfl)
theorem dX6_all_108 : decode cX6_all 108 = .ok (.bipush 109, 2) := dk_16 109 (dk_at dksX6_all_4 16 rfl rfl)
theorem dX6_all_110 : decode cX6_all 110 = .ok (.invokevirtual 88, 3) := dk_182 0 88 (dk_at dksX6_all_4 18 rfl rfl)
theorem dX6_all_113 : decode cX6_all 113 = .ok (.ifCond .eq 10, 3) := dk_153 0 10 (dk_at dksX6_all_4 21 rfl rfl)
theorem dX6_all_116 : decode cX6_all 116 = .ok (.aload_n 0, 1) := dk_42 (dk_at dksX6_all_5 0 rfl rfl)
theorem dX6_all_117 : decode cX6_all 117 = .ok (.invokevirtual 108, 3) := dk_182 0 108 (dk_at dksX6_all_5 1 rfl rfl)
theorem dX6_all_120 : decode cX6_all 120 = .ok (.goto (-13), 3) := dk_167 255 243 (dk_at dksX6_all_5 4 rfl rfl)
theorem dX6_all_123 : decode cX6_all 123 = .ok (.aload_n 0, 1) := dk_42 (dk_at dksX6_all_5 7 rfl rfl)
theorem dX6_all_124 : decode cX6_all 124 = .ok (.aload_n 0, 1) := dk_42 (dk_at dksX6_all_5 8 rfl rfl)
theorem dX6_all_125 : decode cX6_all 125 = .ok (.getfield 40, 3) := dk_180 0 40 (dk_at dksX6_all_5 9 rfl rfl)
theorem dX6_all_128 : decode cX6_all 128 = .ok (.ifCond .ne 7, 3) := dk_154 0 7 (dk_at dksX6_all_5 12 rfl rfl)
theorem dX6_all_131 : decode cX6_all 131 = .ok (.iconst 1, 1) := dk_4 (dk_at dksX6_all_5 15 rfl rfl)
theorem dX6_all_132 : decode cX6_all 132 = .ok (.goto 4, 3) := dk_167 0 4 (dk_at dksX6_all_5 16 rfl rfl)
theorem dX6_all_135 : decode cX6_all 135 = .ok (.iconst 0, 1) := dk_3 (dk_at dksX6_all_5 19 rfl rfl)
theorem dX6_all_136 : decode cX6_all 136 = .ok (.iconst 1, 1) := dk_4 (dk_at dksX6_all_5 20 rfl rfl)
theorem dX6_all_137 : decode cX6_all 137 = .ok (.invokevirtual 60, 3) := dk_182 0 60 (dk_at dksX6_all_5 21 rfl rfl)
theorem dX6_all_140 : decode cX6_all 140 = .ok (.return_, 1) := dk_177 (dk_at dksX6_all_6 0 rfl rfl)
abbrev cX6_next : ByteArray := prog_12_method_3_code
def yX6_next : MethodName := ⟨RX6, "next", "()V"⟩
def dkwX6_next_8 : List UInt8 := [16, 59, 160, 0, 7, 7, 167, 0, 4, 8, 181, 0, 40, 177]
abbrev dktX6_next_8 : List UInt8 := dkwX6_next_8 ++ []
def dkwX6_next_7 : List UInt8 := [20, 0, 53, 184, 0, 47, 153, 0, 7, 4, 167, 0, 24, 27, 16, 44, 160, 0, 7, 6, 167, 0, 14, 27]
abbrev dktX6_next_7 : List UInt8 := dkwX6_next_7 ++ dktX6_next_8
def dkwX6_next_6 : List UInt8 := [181, 0, 40, 167, 0, 56, 42, 89, 180, 0, 26, 4, 96, 181, 0, 26, 42, 27, 133, 20, 0, 51]
abbrev dktX6_next_6 : List UInt8 := dkwX6_next_6 ++ dktX6_next_7
def dkwX6_next_5 : List UInt8 := [167, 255, 190, 42, 42, 180, 0, 26, 42, 180, 0, 30, 100, 5, 163, 0, 7, 5, 167, 0, 4, 8]
abbrev dktX6_next_5 : List UInt8 := dkwX6_next_5 ++ dktX6_next_6
def dkwX6_next_4 : List UInt8 := [16, 48, 100, 167, 0, 7, 42, 180, 0, 37, 181, 0, 37, 42, 89, 180, 0, 26, 4, 96, 181, 0, 26]
abbrev dktX6_next_4 : List UInt8 := dkwX6_next_4 ++ dktX6_next_5
def dkwX6_next_3 : List UInt8 := [180, 0, 26, 42, 180, 0, 30, 100, 5, 162, 0, 21, 16, 10, 42, 180, 0, 37, 104, 42, 182, 0, 33, 96]
abbrev dktX6_next_3 : List UInt8 := dkwX6_next_3 ++ dktX6_next_4
def dkwX6_next_2 : List UInt8 := [181, 0, 37, 42, 182, 0, 33, 133, 20, 0, 43, 20, 0, 45, 184, 0, 47, 153, 0, 55, 42, 42]
abbrev dktX6_next_2 : List UInt8 := dkwX6_next_2 ++ dktX6_next_3
def dkwX6_next_1 : List UInt8 := [42, 3, 181, 0, 40, 167, 0, 169, 27, 133, 20, 0, 43, 20, 0, 45, 184, 0, 47, 153, 0, 102, 42, 3]
abbrev dktX6_next_1 : List UInt8 := dkwX6_next_1 ++ dktX6_next_2
def dkwX6_next_0 : List UInt8 := [42, 42, 180, 0, 26, 181, 0, 30, 42, 182, 0, 33, 60, 42, 27, 181, 0, 37, 27, 18, 29, 160, 0, 11]
abbrev dktX6_next_0 : List UInt8 := dkwX6_next_0 ++ dktX6_next_1
theorem dksX6_next_0 : cX6_next.data.toList.drop 0 = dktX6_next_0 := by decide +kernel
theorem dksX6_next_1 : cX6_next.data.toList.drop 24 = dktX6_next_1 := dk_seg dksX6_next_0 24 rfl rfl
theorem dksX6_next_2 : cX6_next.data.toList.drop 48 = dktX6_next_2 := dk_seg dksX6_next_1 24 rfl rfl
theorem dksX6_next_3 : cX6_next.data.toList.drop 70 = dktX6_next_3 := dk_seg dksX6_next_2 22 rfl rfl
theorem dksX6_next_4 : cX6_next.data.toList.drop 94 = dktX6_next_4 := dk_seg dksX6_next_3 24 rfl rfl
theorem dksX6_next_5 : cX6_next.data.toList.drop 117 = dktX6_next_5 := dk_seg dksX6_next_4 23 rfl rfl
theorem dksX6_next_6 : cX6_next.data.toList.drop 139 = dktX6_next_6 := dk_seg dksX6_next_5 22 rfl rfl
theorem dksX6_next_7 : cX6_next.data.toList.drop 161 = dktX6_next_7 := dk_seg dksX6_next_6 22 rfl rfl
theorem dksX6_next_8 : cX6_next.data.toList.drop 185 = dktX6_next_8 := dk_seg dksX6_next_7 24 rfl rfl
theorem dX6_next_0 : decode cX6_next 0 = .ok (.aload_n 0, 1) := dk_42 (dk_at dksX6_next_0 0 rfl rfl)
theorem dX6_next_1 : decode cX6_next 1 = .ok (.aload_n 0, 1) := dk_42 (dk_at dksX6_next_0 1 rfl rfl)
theorem dX6_next_2 : decode cX6_next 2 = .ok (.getfield 26, 3) := dk_180 0 26 (dk_at dksX6_next_0 2 rfl rfl)
theorem dX6_next_5 : decode cX6_next 5 = .ok (.putfield 30, 3) := dk_181 0 30 (dk_at dksX6_next_0 5 rfl rfl)
theorem dX6_next_8 : decode cX6_next 8 = .ok (.aload_n 0, 1) := dk_42 (dk_at dksX6_next_0 8 rfl rfl)
theorem dX6_next_9 : decode cX6_next 9 = .ok (.invokevirtual 33, 3) := dk_182 0 33 (dk_at dksX6_next_0 9 rfl rfl)
theorem dX6_next_12 : decode cX6_next 12 = .ok (.istore_n 1, 1) := dk_60 (dk_at dksX6_next_0 12 rfl rfl)
theorem dX6_next_13 : decode cX6_next 13 = .ok (.aload_n 0, 1) := dk_42 (dk_at dksX6_next_0 13 rfl rfl)
theorem dX6_next_14 : decode cX6_next 14 = .ok (.iload_n 1, 1) := dk_27 (dk_at dksX6_next_0 14 rfl rfl)
theorem dX6_next_15 : decode cX6_next 15 = .ok (.putfield 37, 3) := dk_181 0 37 (dk_at dksX6_next_0 15 rfl rfl)
theorem dX6_next_18 : decode cX6_next 18 = .ok (.iload_n 1, 1) := dk_27 (dk_at dksX6_next_0 18 rfl rfl)
theorem dX6_next_19 : decode cX6_next 19 = .ok (.ldc 29, 2) := dk_18 29 (dk_at dksX6_next_0 19 rfl rfl)
theorem dX6_next_21 : decode cX6_next 21 = .ok (.if_icmp .ne 11, 3) := dk_160 0 11 (dk_at dksX6_next_0 21 rfl rfl)
theorem dX6_next_24 : decode cX6_next 24 = .ok (.aload_n 0, 1) := dk_42 (dk_at dksX6_next_1 0 rfl rfl)
theorem dX6_next_25 : decode cX6_next 25 = .ok (.iconst 0, 1) := dk_3 (dk_at dksX6_next_1 1 rfl rfl)
theorem dX6_next_26 : decode cX6_next 26 = .ok (.putfield 40, 3) := dk_181 0 40 (dk_at dksX6_next_1 2 rfl rfl)
theorem dX6_next_29 : decode cX6_next 29 = .ok (.goto 169, 3) := dk_167 0 169 (dk_at dksX6_next_1 5 rfl rfl)
theorem dX6_next_32 : decode cX6_next 32 = .ok (.iload_n 1, 1) := dk_27 (dk_at dksX6_next_1 8 rfl rfl)
theorem dX6_next_33 : decode cX6_next 33 = .ok (.i2l, 1) := dk_133 (dk_at dksX6_next_1 9 rfl rfl)
theorem dX6_next_34 : decode cX6_next 34 = .ok (.ldc2_w 43, 3) := dk_20 0 43 (dk_at dksX6_next_1 10 rfl rfl)
theorem dX6_next_37 : decode cX6_next 37 = .ok (.ldc2_w 45, 3) := dk_20 0 45 (dk_at dksX6_next_1 13 rfl rfl)
theorem dX6_next_40 : decode cX6_next 40 = .ok (.invokestatic 47, 3) := dk_184 0 47 (dk_at dksX6_next_1 16 rfl rfl)
theorem dX6_next_43 : decode cX6_next 43 = .ok (.ifCond .eq 102, 3) := dk_153 0 102 (dk_at dksX6_next_1 19 rfl rfl)
theorem dX6_next_46 : decode cX6_next 46 = .ok (.aload_n 0, 1) := dk_42 (dk_at dksX6_next_1 22 rfl rfl)
theorem dX6_next_47 : decode cX6_next 47 = .ok (.iconst 0, 1) := dk_3 (dk_at dksX6_next_1 23 rfl rfl)
theorem dX6_next_48 : decode cX6_next 48 = .ok (.putfield 37, 3) := dk_181 0 37 (dk_at dksX6_next_2 0 rfl rfl)
theorem dX6_next_51 : decode cX6_next 51 = .ok (.aload_n 0, 1) := dk_42 (dk_at dksX6_next_2 3 rfl rfl)
theorem dX6_next_52 : decode cX6_next 52 = .ok (.invokevirtual 33, 3) := dk_182 0 33 (dk_at dksX6_next_2 4 rfl rfl)
theorem dX6_next_55 : decode cX6_next 55 = .ok (.i2l, 1) := dk_133 (dk_at dksX6_next_2 7 rfl rfl)
theorem dX6_next_56 : decode cX6_next 56 = .ok (.ldc2_w 43, 3) := dk_20 0 43 (dk_at dksX6_next_2 8 rfl rfl)
theorem dX6_next_59 : decode cX6_next 59 = .ok (.ldc2_w 45, 3) := dk_20 0 45 (dk_at dksX6_next_2 11 rfl rfl)
theorem dX6_next_62 : decode cX6_next 62 = .ok (.invokestatic 47, 3) := dk_184 0 47 (dk_at dksX6_next_2 14 rfl rfl)
theorem dX6_next_65 : decode cX6_next 65 = .ok (.ifCond .eq 55, 3) := dk_153 0 55 (dk_at dksX6_next_2 17 rfl rfl)
theorem dX6_next_68 : decode cX6_next 68 = .ok (.aload_n 0, 1) := dk_42 (dk_at dksX6_next_2 20 rfl rfl)
theorem dX6_next_69 : decode cX6_next 69 = .ok (.aload_n 0, 1) := dk_42 (dk_at dksX6_next_2 21 rfl rfl)
theorem dX6_next_70 : decode cX6_next 70 = .ok (.getfield 26, 3) := dk_180 0 26 (dk_at dksX6_next_3 0 rfl rfl)
theorem dX6_next_73 : decode cX6_next 73 = .ok (.aload_n 0, 1) := dk_42 (dk_at dksX6_next_3 3 rfl rfl)
theorem dX6_next_74 : decode cX6_next 74 = .ok (.getfield 30, 3) := dk_180 0 30 (dk_at dksX6_next_3 4 rfl rfl)
theorem dX6_next_77 : decode cX6_next 77 = .ok (.isub, 1) := dk_100 (dk_at dksX6_next_3 7 rfl rfl)
theorem dX6_next_78 : decode cX6_next 78 = .ok (.iconst 2, 1) := dk_5 (dk_at dksX6_next_3 8 rfl rfl)
theorem dX6_next_79 : decode cX6_next 79 = .ok (.if_icmp .ge 21, 3) := dk_162 0 21 (dk_at dksX6_next_3 9 rfl rfl)
theorem dX6_next_82 : decode cX6_next 82 = .ok (.bipush 10, 2) := dk_16 10 (dk_at dksX6_next_3 12 rfl rfl)
theorem dX6_next_84 : decode cX6_next 84 = .ok (.aload_n 0, 1) := dk_42 (dk_at dksX6_next_3 14 rfl rfl)
theorem dX6_next_85 : decode cX6_next 85 = .ok (.getfield 37, 3) := dk_180 0 37 (dk_at dksX6_next_3 15 rfl rfl)
theorem dX6_next_88 : decode cX6_next 88 = .ok (.imul, 1) := dk_104 (dk_at dksX6_next_3 18 rfl rfl)
theorem dX6_next_89 : decode cX6_next 89 = .ok (.aload_n 0, 1) := dk_42 (dk_at dksX6_next_3 19 rfl rfl)
theorem dX6_next_90 : decode cX6_next 90 = .ok (.invokevirtual 33, 3) := dk_182 0 33 (dk_at dksX6_next_3 20 rfl rfl)
theorem dX6_next_93 : decode cX6_next 93 = .ok (.iadd, 1) := dk_96 (dk_at dksX6_next_3 23 rfl rfl)
theorem dX6_next_94 : decode cX6_next 94 = .ok (.bipush 48, 2) := dk_16 48 (dk_at dksX6_next_4 0 rfl rfl)
theorem dX6_next_96 : decode cX6_next 96 = .ok (.isub, 1) := dk_100 (dk_at dksX6_next_4 2 rfl rfl)
theorem dX6_next_97 : decode cX6_next 97 = .ok (.goto 7, 3) := dk_167 0 7 (dk_at dksX6_next_4 3 rfl rfl)
theorem dX6_next_100 : decode cX6_next 100 = .ok (.aload_n 0, 1) := dk_42 (dk_at dksX6_next_4 6 rfl rfl)
theorem dX6_next_101 : decode cX6_next 101 = .ok (.getfield 37, 3) := dk_180 0 37 (dk_at dksX6_next_4 7 rfl rfl)
theorem dX6_next_104 : decode cX6_next 104 = .ok (.putfield 37, 3) := dk_181 0 37 (dk_at dksX6_next_4 10 rfl rfl)
theorem dX6_next_107 : decode cX6_next 107 = .ok (.aload_n 0, 1) := dk_42 (dk_at dksX6_next_4 13 rfl rfl)
theorem dX6_next_108 : decode cX6_next 108 = .ok (.dup, 1) := dk_89 (dk_at dksX6_next_4 14 rfl rfl)
theorem dX6_next_109 : decode cX6_next 109 = .ok (.getfield 26, 3) := dk_180 0 26 (dk_at dksX6_next_4 15 rfl rfl)
theorem dX6_next_112 : decode cX6_next 112 = .ok (.iconst 1, 1) := dk_4 (dk_at dksX6_next_4 18 rfl rfl)
theorem dX6_next_113 : decode cX6_next 113 = .ok (.iadd, 1) := dk_96 (dk_at dksX6_next_4 19 rfl rfl)
theorem dX6_next_114 : decode cX6_next 114 = .ok (.putfield 26, 3) := dk_181 0 26 (dk_at dksX6_next_4 20 rfl rfl)
theorem dX6_next_117 : decode cX6_next 117 = .ok (.goto (-66), 3) := dk_167 255 190 (dk_at dksX6_next_5 0 rfl rfl)
theorem dX6_next_120 : decode cX6_next 120 = .ok (.aload_n 0, 1) := dk_42 (dk_at dksX6_next_5 3 rfl rfl)
theorem dX6_next_121 : decode cX6_next 121 = .ok (.aload_n 0, 1) := dk_42 (dk_at dksX6_next_5 4 rfl rfl)
theorem dX6_next_122 : decode cX6_next 122 = .ok (.getfield 26, 3) := dk_180 0 26 (dk_at dksX6_next_5 5 rfl rfl)
theorem dX6_next_125 : decode cX6_next 125 = .ok (.aload_n 0, 1) := dk_42 (dk_at dksX6_next_5 8 rfl rfl)
theorem dX6_next_126 : decode cX6_next 126 = .ok (.getfield 30, 3) := dk_180 0 30 (dk_at dksX6_next_5 9 rfl rfl)
theorem dX6_next_129 : decode cX6_next 129 = .ok (.isub, 1) := dk_100 (dk_at dksX6_next_5 12 rfl rfl)
theorem dX6_next_130 : decode cX6_next 130 = .ok (.iconst 2, 1) := dk_5 (dk_at dksX6_next_5 13 rfl rfl)
theorem dX6_next_131 : decode cX6_next 131 = .ok (.if_icmp .gt 7, 3) := dk_163 0 7 (dk_at dksX6_next_5 14 rfl rfl)
theorem dX6_next_134 : decode cX6_next 134 = .ok (.iconst 2, 1) := dk_5 (dk_at dksX6_next_5 17 rfl rfl)
theorem dX6_next_135 : decode cX6_next 135 = .ok (.goto 4, 3) := dk_167 0 4 (dk_at dksX6_next_5 18 rfl rfl)
theorem dX6_next_138 : decode cX6_next 138 = .ok (.iconst 5, 1) := dk_8 (dk_at dksX6_next_5 21 rfl rfl)
theorem dX6_next_139 : decode cX6_next 139 = .ok (.putfield 40, 3) := dk_181 0 40 (dk_at dksX6_next_6 0 rfl rfl)
theorem dX6_next_142 : decode cX6_next 142 = .ok (.goto 56, 3) := dk_167 0 56 (dk_at dksX6_next_6 3 rfl rfl)
theorem dX6_next_145 : decode cX6_next 145 = .ok (.aload_n 0, 1) := dk_42 (dk_at dksX6_next_6 6 rfl rfl)
theorem dX6_next_146 : decode cX6_next 146 = .ok (.dup, 1) := dk_89 (dk_at dksX6_next_6 7 rfl rfl)
theorem dX6_next_147 : decode cX6_next 147 = .ok (.getfield 26, 3) := dk_180 0 26 (dk_at dksX6_next_6 8 rfl rfl)
theorem dX6_next_150 : decode cX6_next 150 = .ok (.iconst 1, 1) := dk_4 (dk_at dksX6_next_6 11 rfl rfl)
theorem dX6_next_151 : decode cX6_next 151 = .ok (.iadd, 1) := dk_96 (dk_at dksX6_next_6 12 rfl rfl)
theorem dX6_next_152 : decode cX6_next 152 = .ok (.putfield 26, 3) := dk_181 0 26 (dk_at dksX6_next_6 13 rfl rfl)
theorem dX6_next_155 : decode cX6_next 155 = .ok (.aload_n 0, 1) := dk_42 (dk_at dksX6_next_6 16 rfl rfl)
theorem dX6_next_156 : decode cX6_next 156 = .ok (.iload_n 1, 1) := dk_27 (dk_at dksX6_next_6 17 rfl rfl)
theorem dX6_next_157 : decode cX6_next 157 = .ok (.i2l, 1) := dk_133 (dk_at dksX6_next_6 18 rfl rfl)
theorem dX6_next_158 : decode cX6_next 158 = .ok (.ldc2_w 51, 3) := dk_20 0 51 (dk_at dksX6_next_6 19 rfl rfl)
theorem dX6_next_161 : decode cX6_next 161 = .ok (.ldc2_w 53, 3) := dk_20 0 53 (dk_at dksX6_next_7 0 rfl rfl)
theorem dX6_next_164 : decode cX6_next 164 = .ok (.invokestatic 47, 3) := dk_184 0 47 (dk_at dksX6_next_7 3 rfl rfl)
theorem dX6_next_167 : decode cX6_next 167 = .ok (.ifCond .eq 7, 3) := dk_153 0 7 (dk_at dksX6_next_7 6 rfl rfl)
theorem dX6_next_170 : decode cX6_next 170 = .ok (.iconst 1, 1) := dk_4 (dk_at dksX6_next_7 9 rfl rfl)
theorem dX6_next_171 : decode cX6_next 171 = .ok (.goto 24, 3) := dk_167 0 24 (dk_at dksX6_next_7 10 rfl rfl)
theorem dX6_next_174 : decode cX6_next 174 = .ok (.iload_n 1, 1) := dk_27 (dk_at dksX6_next_7 13 rfl rfl)
theorem dX6_next_175 : decode cX6_next 175 = .ok (.bipush 44, 2) := dk_16 44 (dk_at dksX6_next_7 14 rfl rfl)
theorem dX6_next_177 : decode cX6_next 177 = .ok (.if_icmp .ne 7, 3) := dk_160 0 7 (dk_at dksX6_next_7 16 rfl rfl)
theorem dX6_next_180 : decode cX6_next 180 = .ok (.iconst 3, 1) := dk_6 (dk_at dksX6_next_7 19 rfl rfl)
theorem dX6_next_181 : decode cX6_next 181 = .ok (.goto 14, 3) := dk_167 0 14 (dk_at dksX6_next_7 20 rfl rfl)
theorem dX6_next_184 : decode cX6_next 184 = .ok (.iload_n 1, 1) := dk_27 (dk_at dksX6_next_7 23 rfl rfl)
theorem dX6_next_185 : decode cX6_next 185 = .ok (.bipush 59, 2) := dk_16 59 (dk_at dksX6_next_8 0 rfl rfl)
theorem dX6_next_187 : decode cX6_next 187 = .ok (.if_icmp .ne 7, 3) := dk_160 0 7 (dk_at dksX6_next_8 2 rfl rfl)
theorem dX6_next_190 : decode cX6_next 190 = .ok (.iconst 4, 1) := dk_7 (dk_at dksX6_next_8 5 rfl rfl)
theorem dX6_next_191 : decode cX6_next 191 = .ok (.goto 4, 3) := dk_167 0 4 (dk_at dksX6_next_8 6 rfl rfl)
theorem dX6_next_194 : decode cX6_next 194 = .ok (.iconst 5, 1) := dk_8 (dk_at dksX6_next_8 9 rfl rfl)
theorem dX6_next_195 : decode cX6_next 195 = .ok (.putfield 40, 3) := dk_181 0 40 (dk_at dksX6_next_8 10 rfl rfl)
theorem dX6_next_198 : decode cX6_next 198 = .ok (.return_, 1) := dk_177 (dk_at dksX6_next_8 13 rfl rfl)
abbrev cX6_look : ByteArray := prog_12_method_2_code
def yX6_look : MethodName := ⟨RX6, "look", "()I"⟩
def dkwX6_look_1 : List UInt8 := [167, 0, 5, 18, 29, 172]
abbrev dktX6_look_1 : List UInt8 := dkwX6_look_1 ++ []
def dkwX6_look_0 : List UInt8 := [42, 180, 0, 26, 42, 180, 0, 22, 162, 0, 19, 42, 180, 0, 18, 42, 180, 0, 26, 51, 17, 0, 255, 126]
abbrev dktX6_look_0 : List UInt8 := dkwX6_look_0 ++ dktX6_look_1
theorem dksX6_look_0 : cX6_look.data.toList.drop 0 = dktX6_look_0 := by decide +kernel
theorem dksX6_look_1 : cX6_look.data.toList.drop 24 = dktX6_look_1 := dk_seg dksX6_look_0 24 rfl rfl
theorem dX6_look_0 : decode cX6_look 0 = .ok (.aload_n 0, 1) := dk_42 (dk_at dksX6_look_0 0 rfl rfl)
theorem dX6_look_1 : decode cX6_look 1 = .ok (.getfield 26, 3) := dk_180 0 26 (dk_at dksX6_look_0 1 rfl rfl)
theorem dX6_look_4 : decode cX6_look 4 = .ok (.aload_n 0, 1) := dk_42 (dk_at dksX6_look_0 4 rfl rfl)
theorem dX6_look_5 : decode cX6_look 5 = .ok (.getfield 22, 3) := dk_180 0 22 (dk_at dksX6_look_0 5 rfl rfl)
theorem dX6_look_8 : decode cX6_look 8 = .ok (.if_icmp .ge 19, 3) := dk_162 0 19 (dk_at dksX6_look_0 8 rfl rfl)
theorem dX6_look_11 : decode cX6_look 11 = .ok (.aload_n 0, 1) := dk_42 (dk_at dksX6_look_0 11 rfl rfl)
theorem dX6_look_12 : decode cX6_look 12 = .ok (.getfield 18, 3) := dk_180 0 18 (dk_at dksX6_look_0 12 rfl rfl)
theorem dX6_look_15 : decode cX6_look 15 = .ok (.aload_n 0, 1) := dk_42 (dk_at dksX6_look_0 15 rfl rfl)
theorem dX6_look_16 : decode cX6_look 16 = .ok (.getfield 26, 3) := dk_180 0 26 (dk_at dksX6_look_0 16 rfl rfl)
theorem dX6_look_19 : decode cX6_look 19 = .ok (.baload, 1) := dk_51 (dk_at dksX6_look_0 19 rfl rfl)
theorem dX6_look_20 : decode cX6_look 20 = .ok (.sipush 255, 3) := dk_17 0 255 (dk_at dksX6_look_0 20 rfl rfl)
theorem dX6_look_23 : decode cX6_look 23 = .ok (.iand, 1) := dk_126 (dk_at dksX6_look_0 23 rfl rfl)
theorem dX6_look_24 : decode cX6_look 24 = .ok (.goto 5, 3) := dk_167 0 5 (dk_at dksX6_look_1 0 rfl rfl)
theorem dX6_look_27 : decode cX6_look 27 = .ok (.ldc 29, 2) := dk_18 29 (dk_at dksX6_look_1 3 rfl rfl)
theorem dX6_look_29 : decode cX6_look 29 = .ok (.ireturn, 1) := dk_172 (dk_at dksX6_look_1 5 rfl rfl)
abbrev cX6_isLetter : ByteArray := prog_12_method_5_code
def yX6_isLetter : MethodName := ⟨RX6, "isLetter", "(I)Z"⟩
def dkwX6_isLetter_0 : List UInt8 := [42, 180, 0, 40, 4, 160, 0, 15, 42, 180, 0, 37, 27, 160, 0, 7, 4, 167, 0, 4, 3, 172]
abbrev dktX6_isLetter_0 : List UInt8 := dkwX6_isLetter_0 ++ []
theorem dksX6_isLetter_0 : cX6_isLetter.data.toList.drop 0 = dktX6_isLetter_0 := by decide +kernel
theorem dX6_isLetter_0 : decode cX6_isLetter 0 = .ok (.aload_n 0, 1) := dk_42 (dk_at dksX6_isLetter_0 0 rfl rfl)
theorem dX6_isLetter_1 : decode cX6_isLetter 1 = .ok (.getfield 40, 3) := dk_180 0 40 (dk_at dksX6_isLetter_0 1 rfl rfl)
theorem dX6_isLetter_4 : decode cX6_isLetter 4 = .ok (.iconst 1, 1) := dk_4 (dk_at dksX6_isLetter_0 4 rfl rfl)
theorem dX6_isLetter_5 : decode cX6_isLetter 5 = .ok (.if_icmp .ne 15, 3) := dk_160 0 15 (dk_at dksX6_isLetter_0 5 rfl rfl)
theorem dX6_isLetter_8 : decode cX6_isLetter 8 = .ok (.aload_n 0, 1) := dk_42 (dk_at dksX6_isLetter_0 8 rfl rfl)
theorem dX6_isLetter_9 : decode cX6_isLetter 9 = .ok (.getfield 37, 3) := dk_180 0 37 (dk_at dksX6_isLetter_0 9 rfl rfl)
theorem dX6_isLetter_12 : decode cX6_isLetter 12 = .ok (.iload_n 1, 1) := dk_27 (dk_at dksX6_isLetter_0 12 rfl rfl)
theorem dX6_isLetter_13 : decode cX6_isLetter 13 = .ok (.if_icmp .ne 7, 3) := dk_160 0 7 (dk_at dksX6_isLetter_0 13 rfl rfl)
theorem dX6_isLetter_16 : decode cX6_isLetter 16 = .ok (.iconst 1, 1) := dk_4 (dk_at dksX6_isLetter_0 16 rfl rfl)
theorem dX6_isLetter_17 : decode cX6_isLetter 17 = .ok (.goto 4, 3) := dk_167 0 4 (dk_at dksX6_isLetter_0 17 rfl rfl)
theorem dX6_isLetter_20 : decode cX6_isLetter 20 = .ok (.iconst 0, 1) := dk_3 (dk_at dksX6_isLetter_0 20 rfl rfl)
theorem dX6_isLetter_21 : decode cX6_isLetter 21 = .ok (.ireturn, 1) := dk_172 (dk_at dksX6_isLetter_0 21 rfl rfl)
abbrev cX6_must : ByteArray := prog_12_method_4_code
def yX6_must : MethodName := ⟨RX6, "must", "(ZI)V"⟩
def dkwX6_must_0 : List UInt8 := [27, 154, 0, 16, 187, 0, 55, 89, 28, 42, 180, 0, 30, 183, 0, 57, 191, 177]
abbrev dktX6_must_0 : List UInt8 := dkwX6_must_0 ++ []
theorem dksX6_must_0 : cX6_must.data.toList.drop 0 = dktX6_must_0 := by decide +kernel
theorem dX6_must_0 : decode cX6_must 0 = .ok (.iload_n 1, 1) := dk_27 (dk_at dksX6_must_0 0 rfl rfl)
theorem dX6_must_1 : decode cX6_must 1 = .ok (.ifCond .ne 16, 3) := dk_154 0 16 (dk_at dksX6_must_0 1 rfl rfl)
theorem dX6_must_4 : decode cX6_must 4 = .ok (.new 55, 3) := dk_187 0 55 (dk_at dksX6_must_0 4 rfl rfl)
theorem dX6_must_7 : decode cX6_must 7 = .ok (.dup, 1) := dk_89 (dk_at dksX6_must_0 7 rfl rfl)
theorem dX6_must_8 : decode cX6_must 8 = .ok (.iload_n 2, 1) := dk_28 (dk_at dksX6_must_0 8 rfl rfl)
theorem dX6_must_9 : decode cX6_must 9 = .ok (.aload_n 0, 1) := dk_42 (dk_at dksX6_must_0 9 rfl rfl)
theorem dX6_must_10 : decode cX6_must 10 = .ok (.getfield 30, 3) := dk_180 0 30 (dk_at dksX6_must_0 10 rfl rfl)
theorem dX6_must_13 : decode cX6_must 13 = .ok (.invokespecial 57, 3) := dk_183 0 57 (dk_at dksX6_must_0 13 rfl rfl)
theorem dX6_must_16 : decode cX6_must 16 = .ok (.athrow, 1) := dk_191 (dk_at dksX6_must_0 16 rfl rfl)
theorem dX6_must_17 : decode cX6_must 17 = .ok (.return_, 1) := dk_177 (dk_at dksX6_must_0 17 rfl rfl)
abbrev cX6_figure : ByteArray := prog_12_method_6_code
def yX6_figure : MethodName := ⟨RX6, "figure", "(II)I"⟩
def dkwX6_figure_1 : List UInt8 := [27, 133, 28, 133, 184, 0, 47, 5, 182, 0, 60, 42, 180, 0, 37, 62, 42, 182, 0, 64, 29, 172]
abbrev dktX6_figure_1 : List UInt8 := dkwX6_figure_1 ++ []
def dkwX6_figure_0 : List UInt8 := [42, 42, 180, 0, 40, 5, 160, 0, 7, 4, 167, 0, 4, 3, 4, 182, 0, 60, 42, 42, 180, 0, 37, 133]
abbrev dktX6_figure_0 : List UInt8 := dkwX6_figure_0 ++ dktX6_figure_1
theorem dksX6_figure_0 : cX6_figure.data.toList.drop 0 = dktX6_figure_0 := by decide +kernel
theorem dksX6_figure_1 : cX6_figure.data.toList.drop 24 = dktX6_figure_1 := dk_seg dksX6_figure_0 24 rfl rfl
theorem dX6_figure_0 : decode cX6_figure 0 = .ok (.aload_n 0, 1) := dk_42 (dk_at dksX6_figure_0 0 rfl rfl)
theorem dX6_figure_1 : decode cX6_figure 1 = .ok (.aload_n 0, 1) := dk_42 (dk_at dksX6_figure_0 1 rfl rfl)
theorem dX6_figure_2 : decode cX6_figure 2 = .ok (.getfield 40, 3) := dk_180 0 40 (dk_at dksX6_figure_0 2 rfl rfl)
theorem dX6_figure_5 : decode cX6_figure 5 = .ok (.iconst 2, 1) := dk_5 (dk_at dksX6_figure_0 5 rfl rfl)
theorem dX6_figure_6 : decode cX6_figure 6 = .ok (.if_icmp .ne 7, 3) := dk_160 0 7 (dk_at dksX6_figure_0 6 rfl rfl)
theorem dX6_figure_9 : decode cX6_figure 9 = .ok (.iconst 1, 1) := dk_4 (dk_at dksX6_figure_0 9 rfl rfl)
theorem dX6_figure_10 : decode cX6_figure 10 = .ok (.goto 4, 3) := dk_167 0 4 (dk_at dksX6_figure_0 10 rfl rfl)
theorem dX6_figure_13 : decode cX6_figure 13 = .ok (.iconst 0, 1) := dk_3 (dk_at dksX6_figure_0 13 rfl rfl)
theorem dX6_figure_14 : decode cX6_figure 14 = .ok (.iconst 1, 1) := dk_4 (dk_at dksX6_figure_0 14 rfl rfl)
theorem dX6_figure_15 : decode cX6_figure 15 = .ok (.invokevirtual 60, 3) := dk_182 0 60 (dk_at dksX6_figure_0 15 rfl rfl)
theorem dX6_figure_18 : decode cX6_figure 18 = .ok (.aload_n 0, 1) := dk_42 (dk_at dksX6_figure_0 18 rfl rfl)
theorem dX6_figure_19 : decode cX6_figure 19 = .ok (.aload_n 0, 1) := dk_42 (dk_at dksX6_figure_0 19 rfl rfl)
theorem dX6_figure_20 : decode cX6_figure 20 = .ok (.getfield 37, 3) := dk_180 0 37 (dk_at dksX6_figure_0 20 rfl rfl)
theorem dX6_figure_23 : decode cX6_figure 23 = .ok (.i2l, 1) := dk_133 (dk_at dksX6_figure_0 23 rfl rfl)
theorem dX6_figure_24 : decode cX6_figure 24 = .ok (.iload_n 1, 1) := dk_27 (dk_at dksX6_figure_1 0 rfl rfl)
theorem dX6_figure_25 : decode cX6_figure 25 = .ok (.i2l, 1) := dk_133 (dk_at dksX6_figure_1 1 rfl rfl)
theorem dX6_figure_26 : decode cX6_figure 26 = .ok (.iload_n 2, 1) := dk_28 (dk_at dksX6_figure_1 2 rfl rfl)
theorem dX6_figure_27 : decode cX6_figure 27 = .ok (.i2l, 1) := dk_133 (dk_at dksX6_figure_1 3 rfl rfl)
theorem dX6_figure_28 : decode cX6_figure 28 = .ok (.invokestatic 47, 3) := dk_184 0 47 (dk_at dksX6_figure_1 4 rfl rfl)
theorem dX6_figure_31 : decode cX6_figure 31 = .ok (.iconst 2, 1) := dk_5 (dk_at dksX6_figure_1 7 rfl rfl)
theorem dX6_figure_32 : decode cX6_figure 32 = .ok (.invokevirtual 60, 3) := dk_182 0 60 (dk_at dksX6_figure_1 8 rfl rfl)
theorem dX6_figure_35 : decode cX6_figure 35 = .ok (.aload_n 0, 1) := dk_42 (dk_at dksX6_figure_1 11 rfl rfl)
theorem dX6_figure_36 : decode cX6_figure 36 = .ok (.getfield 37, 3) := dk_180 0 37 (dk_at dksX6_figure_1 12 rfl rfl)
theorem dX6_figure_39 : decode cX6_figure 39 = .ok (.istore_n 3, 1) := dk_62 (dk_at dksX6_figure_1 15 rfl rfl)
theorem dX6_figure_40 : decode cX6_figure 40 = .ok (.aload_n 0, 1) := dk_42 (dk_at dksX6_figure_1 16 rfl rfl)
theorem dX6_figure_41 : decode cX6_figure 41 = .ok (.invokevirtual 64, 3) := dk_182 0 64 (dk_at dksX6_figure_1 17 rfl rfl)
theorem dX6_figure_44 : decode cX6_figure 44 = .ok (.iload_n 3, 1) := dk_29 (dk_at dksX6_figure_1 20 rfl rfl)
theorem dX6_figure_45 : decode cX6_figure 45 = .ok (.ireturn, 1) := dk_172 (dk_at dksX6_figure_1 21 rfl rfl)
abbrev cX6_more : ByteArray := prog_12_method_7_code
def yX6_more : MethodName := ⟨RX6, "more", "(II)I"⟩
def dkwX6_more_0 : List UInt8 := [42, 6, 182, 0, 67, 42, 27, 28, 182, 0, 71, 172]
abbrev dktX6_more_0 : List UInt8 := dkwX6_more_0 ++ []
theorem dksX6_more_0 : cX6_more.data.toList.drop 0 = dktX6_more_0 := by decide +kernel
theorem dX6_more_0 : decode cX6_more 0 = .ok (.aload_n 0, 1) := dk_42 (dk_at dksX6_more_0 0 rfl rfl)
theorem dX6_more_1 : decode cX6_more 1 = .ok (.iconst 3, 1) := dk_6 (dk_at dksX6_more_0 1 rfl rfl)
theorem dX6_more_2 : decode cX6_more 2 = .ok (.invokevirtual 67, 3) := dk_182 0 67 (dk_at dksX6_more_0 2 rfl rfl)
theorem dX6_more_5 : decode cX6_more 5 = .ok (.aload_n 0, 1) := dk_42 (dk_at dksX6_more_0 5 rfl rfl)
theorem dX6_more_6 : decode cX6_more 6 = .ok (.iload_n 1, 1) := dk_27 (dk_at dksX6_more_0 6 rfl rfl)
theorem dX6_more_7 : decode cX6_more 7 = .ok (.iload_n 2, 1) := dk_28 (dk_at dksX6_more_0 7 rfl rfl)
theorem dX6_more_8 : decode cX6_more 8 = .ok (.invokevirtual 71, 3) := dk_182 0 71 (dk_at dksX6_more_0 8 rfl rfl)
theorem dX6_more_11 : decode cX6_more 11 = .ok (.ireturn, 1) := dk_172 (dk_at dksX6_more_0 11 rfl rfl)
abbrev cX6_sign : ByteArray := prog_12_method_8_code
def yX6_sign : MethodName := ⟨RX6, "sign", "(I)V"⟩
def dkwX6_sign_0 : List UInt8 := [42, 42, 180, 0, 40, 27, 160, 0, 7, 4, 167, 0, 4, 3, 4, 182, 0, 60, 42, 182, 0, 64, 177]
abbrev dktX6_sign_0 : List UInt8 := dkwX6_sign_0 ++ []
theorem dksX6_sign_0 : cX6_sign.data.toList.drop 0 = dktX6_sign_0 := by decide +kernel
theorem dX6_sign_0 : decode cX6_sign 0 = .ok (.aload_n 0, 1) := dk_42 (dk_at dksX6_sign_0 0 rfl rfl)
theorem dX6_sign_1 : decode cX6_sign 1 = .ok (.aload_n 0, 1) := dk_42 (dk_at dksX6_sign_0 1 rfl rfl)
theorem dX6_sign_2 : decode cX6_sign 2 = .ok (.getfield 40, 3) := dk_180 0 40 (dk_at dksX6_sign_0 2 rfl rfl)
theorem dX6_sign_5 : decode cX6_sign 5 = .ok (.iload_n 1, 1) := dk_27 (dk_at dksX6_sign_0 5 rfl rfl)
theorem dX6_sign_6 : decode cX6_sign 6 = .ok (.if_icmp .ne 7, 3) := dk_160 0 7 (dk_at dksX6_sign_0 6 rfl rfl)
theorem dX6_sign_9 : decode cX6_sign 9 = .ok (.iconst 1, 1) := dk_4 (dk_at dksX6_sign_0 9 rfl rfl)
theorem dX6_sign_10 : decode cX6_sign 10 = .ok (.goto 4, 3) := dk_167 0 4 (dk_at dksX6_sign_0 10 rfl rfl)
theorem dX6_sign_13 : decode cX6_sign 13 = .ok (.iconst 0, 1) := dk_3 (dk_at dksX6_sign_0 13 rfl rfl)
theorem dX6_sign_14 : decode cX6_sign 14 = .ok (.iconst 1, 1) := dk_4 (dk_at dksX6_sign_0 14 rfl rfl)
theorem dX6_sign_15 : decode cX6_sign 15 = .ok (.invokevirtual 60, 3) := dk_182 0 60 (dk_at dksX6_sign_0 15 rfl rfl)
theorem dX6_sign_18 : decode cX6_sign 18 = .ok (.aload_n 0, 1) := dk_42 (dk_at dksX6_sign_0 18 rfl rfl)
theorem dX6_sign_19 : decode cX6_sign 19 = .ok (.invokevirtual 64, 3) := dk_182 0 64 (dk_at dksX6_sign_0 19 rfl rfl)
theorem dX6_sign_22 : decode cX6_sign 22 = .ok (.return_, 1) := dk_177 (dk_at dksX6_sign_0 22 rfl rfl)
abbrev cX6_sortOf : ByteArray := prog_12_method_11_code
def yX6_sortOf : MethodName := ⟨RX6, "sortOf", "(Ljava/lang/String;)I"⟩
def dkwX6_sortOf_0 : List UInt8 := [43, 42, 180, 0, 40, 42, 180, 0, 37, 184, 0, 84, 172]
abbrev dktX6_sortOf_0 : List UInt8 := dkwX6_sortOf_0 ++ []
theorem dksX6_sortOf_0 : cX6_sortOf.data.toList.drop 0 = dktX6_sortOf_0 := by decide +kernel
theorem dX6_sortOf_0 : decode cX6_sortOf 0 = .ok (.aload_n 1, 1) := dk_43 (dk_at dksX6_sortOf_0 0 rfl rfl)
theorem dX6_sortOf_1 : decode cX6_sortOf 1 = .ok (.aload_n 0, 1) := dk_42 (dk_at dksX6_sortOf_0 1 rfl rfl)
theorem dX6_sortOf_2 : decode cX6_sortOf 2 = .ok (.getfield 40, 3) := dk_180 0 40 (dk_at dksX6_sortOf_0 2 rfl rfl)
theorem dX6_sortOf_5 : decode cX6_sortOf 5 = .ok (.aload_n 0, 1) := dk_42 (dk_at dksX6_sortOf_0 5 rfl rfl)
theorem dX6_sortOf_6 : decode cX6_sortOf 6 = .ok (.getfield 37, 3) := dk_180 0 37 (dk_at dksX6_sortOf_0 6 rfl rfl)
theorem dX6_sortOf_9 : decode cX6_sortOf 9 = .ok (.invokestatic 84, 3) := dk_184 0 84 (dk_at dksX6_sortOf_0 9 rfl rfl)
theorem dX6_sortOf_12 : decode cX6_sortOf 12 = .ok (.ireturn, 1) := dk_172 (dk_at dksX6_sortOf_0 12 rfl rfl)
abbrev cX6_sortIn : ByteArray := prog_12_method_10_code
def yX6_sortIn : MethodName := ⟨RX6, "sortIn", "(Ljava/lang/String;II)I"⟩
def dkwX6_sortIn_1 : List UInt8 := [132, 3, 1, 167, 255, 231, 29, 42, 182, 0, 75, 162, 0, 7, 29, 167, 0, 5, 18, 29, 172]
abbrev dktX6_sortIn_1 : List UInt8 := dkwX6_sortIn_1 ++ []
def dkwX6_sortIn_0 : List UInt8 := [3, 62, 29, 42, 182, 0, 75, 162, 0, 23, 27, 4, 160, 0, 12, 42, 29, 182, 0, 80, 28, 159, 0, 9]
abbrev dktX6_sortIn_0 : List UInt8 := dkwX6_sortIn_0 ++ dktX6_sortIn_1
theorem dksX6_sortIn_0 : cX6_sortIn.data.toList.drop 0 = dktX6_sortIn_0 := by decide +kernel
theorem dksX6_sortIn_1 : cX6_sortIn.data.toList.drop 24 = dktX6_sortIn_1 := dk_seg dksX6_sortIn_0 24 rfl rfl
theorem dX6_sortIn_0 : decode cX6_sortIn 0 = .ok (.iconst 0, 1) := dk_3 (dk_at dksX6_sortIn_0 0 rfl rfl)
theorem dX6_sortIn_1 : decode cX6_sortIn 1 = .ok (.istore_n 3, 1) := dk_62 (dk_at dksX6_sortIn_0 1 rfl rfl)
theorem dX6_sortIn_2 : decode cX6_sortIn 2 = .ok (.iload_n 3, 1) := dk_29 (dk_at dksX6_sortIn_0 2 rfl rfl)
theorem dX6_sortIn_3 : decode cX6_sortIn 3 = .ok (.aload_n 0, 1) := dk_42 (dk_at dksX6_sortIn_0 3 rfl rfl)
theorem dX6_sortIn_4 : decode cX6_sortIn 4 = .ok (.invokevirtual 75, 3) := dk_182 0 75 (dk_at dksX6_sortIn_0 4 rfl rfl)
theorem dX6_sortIn_7 : decode cX6_sortIn 7 = .ok (.if_icmp .ge 23, 3) := dk_162 0 23 (dk_at dksX6_sortIn_0 7 rfl rfl)
theorem dX6_sortIn_10 : decode cX6_sortIn 10 = .ok (.iload_n 1, 1) := dk_27 (dk_at dksX6_sortIn_0 10 rfl rfl)
theorem dX6_sortIn_11 : decode cX6_sortIn 11 = .ok (.iconst 1, 1) := dk_4 (dk_at dksX6_sortIn_0 11 rfl rfl)
theorem dX6_sortIn_12 : decode cX6_sortIn 12 = .ok (.if_icmp .ne 12, 3) := dk_160 0 12 (dk_at dksX6_sortIn_0 12 rfl rfl)
theorem dX6_sortIn_15 : decode cX6_sortIn 15 = .ok (.aload_n 0, 1) := dk_42 (dk_at dksX6_sortIn_0 15 rfl rfl)
theorem dX6_sortIn_16 : decode cX6_sortIn 16 = .ok (.iload_n 3, 1) := dk_29 (dk_at dksX6_sortIn_0 16 rfl rfl)
theorem dX6_sortIn_17 : decode cX6_sortIn 17 = .ok (.invokevirtual 80, 3) := dk_182 0 80 (dk_at dksX6_sortIn_0 17 rfl rfl)
theorem dX6_sortIn_20 : decode cX6_sortIn 20 = .ok (.iload_n 2, 1) := dk_28 (dk_at dksX6_sortIn_0 20 rfl rfl)
theorem dX6_sortIn_21 : decode cX6_sortIn 21 = .ok (.if_icmp .eq 9, 3) := dk_159 0 9 (dk_at dksX6_sortIn_0 21 rfl rfl)
theorem dX6_sortIn_24 : decode cX6_sortIn 24 = .ok (.iinc 3 1, 3) := dk_132 3 1 (dk_at dksX6_sortIn_1 0 rfl rfl)
theorem dX6_sortIn_27 : decode cX6_sortIn 27 = .ok (.goto (-25), 3) := dk_167 255 231 (dk_at dksX6_sortIn_1 3 rfl rfl)
theorem dX6_sortIn_30 : decode cX6_sortIn 30 = .ok (.iload_n 3, 1) := dk_29 (dk_at dksX6_sortIn_1 6 rfl rfl)
theorem dX6_sortIn_31 : decode cX6_sortIn 31 = .ok (.aload_n 0, 1) := dk_42 (dk_at dksX6_sortIn_1 7 rfl rfl)
theorem dX6_sortIn_32 : decode cX6_sortIn 32 = .ok (.invokevirtual 75, 3) := dk_182 0 75 (dk_at dksX6_sortIn_1 8 rfl rfl)
theorem dX6_sortIn_35 : decode cX6_sortIn 35 = .ok (.if_icmp .ge 7, 3) := dk_162 0 7 (dk_at dksX6_sortIn_1 11 rfl rfl)
theorem dX6_sortIn_38 : decode cX6_sortIn 38 = .ok (.iload_n 3, 1) := dk_29 (dk_at dksX6_sortIn_1 14 rfl rfl)
theorem dX6_sortIn_39 : decode cX6_sortIn 39 = .ok (.goto 5, 3) := dk_167 0 5 (dk_at dksX6_sortIn_1 15 rfl rfl)
theorem dX6_sortIn_42 : decode cX6_sortIn 42 = .ok (.ldc 29, 2) := dk_18 29 (dk_at dksX6_sortIn_1 18 rfl rfl)
theorem dX6_sortIn_44 : decode cX6_sortIn 44 = .ok (.ireturn, 1) := dk_172 (dk_at dksX6_sortIn_1 20 rfl rfl)
abbrev cX6_person : ByteArray := prog_12_method_13_code
def yX6_person : MethodName := ⟨RX6, "person", "()V"⟩
def dkwX6_person_3 : List UInt8 := [42, 7, 182, 0, 67, 177]
abbrev dktX6_person_3 : List UInt8 := dkwX6_person_3 ++ []
def dkwX6_person_2 : List UInt8 := [3, 8, 182, 0, 96, 79, 42, 180, 0, 12, 180, 0, 123, 27, 28, 184, 0, 127, 185, 0, 131, 2, 0, 87]
abbrev dktX6_person_2 : List UInt8 := dkwX6_person_2 ++ dktX6_person_3
def dkwX6_person_1 : List UInt8 := [180, 0, 12, 180, 0, 117, 28, 42, 4, 16, 60, 182, 0, 71, 79, 42, 180, 0, 12, 180, 0, 120, 28, 42]
abbrev dktX6_person_1 : List UInt8 := dkwX6_person_1 ++ dktX6_person_2
def dkwX6_person_0 : List UInt8 := [42, 18, 99, 182, 0, 101, 60, 42, 180, 0, 12, 182, 0, 111, 61, 42, 28, 8, 182, 0, 114, 42]
abbrev dktX6_person_0 : List UInt8 := dkwX6_person_0 ++ dktX6_person_1
theorem dksX6_person_0 : cX6_person.data.toList.drop 0 = dktX6_person_0 := by decide +kernel
theorem dksX6_person_1 : cX6_person.data.toList.drop 22 = dktX6_person_1 := dk_seg dksX6_person_0 22 rfl rfl
theorem dksX6_person_2 : cX6_person.data.toList.drop 46 = dktX6_person_2 := dk_seg dksX6_person_1 24 rfl rfl
theorem dksX6_person_3 : cX6_person.data.toList.drop 70 = dktX6_person_3 := dk_seg dksX6_person_2 24 rfl rfl
theorem dX6_person_0 : decode cX6_person 0 = .ok (.aload_n 0, 1) := dk_42 (dk_at dksX6_person_0 0 rfl rfl)
theorem dX6_person_1 : decode cX6_person 1 = .ok (.ldc 99, 2) := dk_18 99 (dk_at dksX6_person_0 1 rfl rfl)
theorem dX6_person_3 : decode cX6_person 3 = .ok (.invokevirtual 101, 3) := dk_182 0 101 (dk_at dksX6_person_0 3 rfl rfl)
theorem dX6_person_6 : decode cX6_person 6 = .ok (.istore_n 1, 1) := dk_60 (dk_at dksX6_person_0 6 rfl rfl)
theorem dX6_person_7 : decode cX6_person 7 = .ok (.aload_n 0, 1) := dk_42 (dk_at dksX6_person_0 7 rfl rfl)
theorem dX6_person_8 : decode cX6_person 8 = .ok (.getfield 12, 3) := dk_180 0 12 (dk_at dksX6_person_0 8 rfl rfl)
theorem dX6_person_11 : decode cX6_person 11 = .ok (.invokevirtual 111, 3) := dk_182 0 111 (dk_at dksX6_person_0 11 rfl rfl)
theorem dX6_person_14 : decode cX6_person 14 = .ok (.istore_n 2, 1) := dk_61 (dk_at dksX6_person_0 14 rfl rfl)
theorem dX6_person_15 : decode cX6_person 15 = .ok (.aload_n 0, 1) := dk_42 (dk_at dksX6_person_0 15 rfl rfl)
theorem dX6_person_16 : decode cX6_person 16 = .ok (.iload_n 2, 1) := dk_28 (dk_at dksX6_person_0 16 rfl rfl)
theorem dX6_person_17 : decode cX6_person 17 = .ok (.iconst 5, 1) := dk_8 (dk_at dksX6_person_0 17 rfl rfl)
theorem dX6_person_18 : decode cX6_person 18 = .ok (.invokevirtual 114, 3) := dk_182 0 114 (dk_at dksX6_person_0 18 rfl rfl)
theorem dX6_person_21 : decode cX6_person 21 = .ok (.aload_n 0, 1) := dk_42 (dk_at dksX6_person_0 21 rfl rfl)
theorem dX6_person_22 : decode cX6_person 22 = .ok (.getfield 12, 3) := dk_180 0 12 (dk_at dksX6_person_1 0 rfl rfl)
theorem dX6_person_25 : decode cX6_person 25 = .ok (.getfield 117, 3) := dk_180 0 117 (dk_at dksX6_person_1 3 rfl rfl)
theorem dX6_person_28 : decode cX6_person 28 = .ok (.iload_n 2, 1) := dk_28 (dk_at dksX6_person_1 6 rfl rfl)
theorem dX6_person_29 : decode cX6_person 29 = .ok (.aload_n 0, 1) := dk_42 (dk_at dksX6_person_1 7 rfl rfl)
theorem dX6_person_30 : decode cX6_person 30 = .ok (.iconst 1, 1) := dk_4 (dk_at dksX6_person_1 8 rfl rfl)
theorem dX6_person_31 : decode cX6_person 31 = .ok (.bipush 60, 2) := dk_16 60 (dk_at dksX6_person_1 9 rfl rfl)
theorem dX6_person_33 : decode cX6_person 33 = .ok (.invokevirtual 71, 3) := dk_182 0 71 (dk_at dksX6_person_1 11 rfl rfl)
theorem dX6_person_36 : decode cX6_person 36 = .ok (.iastore, 1) := dk_79 (dk_at dksX6_person_1 14 rfl rfl)
theorem dX6_person_37 : decode cX6_person 37 = .ok (.aload_n 0, 1) := dk_42 (dk_at dksX6_person_1 15 rfl rfl)
theorem dX6_person_38 : decode cX6_person 38 = .ok (.getfield 12, 3) := dk_180 0 12 (dk_at dksX6_person_1 16 rfl rfl)
theorem dX6_person_41 : decode cX6_person 41 = .ok (.getfield 120, 3) := dk_180 0 120 (dk_at dksX6_person_1 19 rfl rfl)
theorem dX6_person_44 : decode cX6_person 44 = .ok (.iload_n 2, 1) := dk_28 (dk_at dksX6_person_1 22 rfl rfl)
theorem dX6_person_45 : decode cX6_person 45 = .ok (.aload_n 0, 1) := dk_42 (dk_at dksX6_person_1 23 rfl rfl)
theorem dX6_person_46 : decode cX6_person 46 = .ok (.iconst 0, 1) := dk_3 (dk_at dksX6_person_2 0 rfl rfl)
theorem dX6_person_47 : decode cX6_person 47 = .ok (.iconst 5, 1) := dk_8 (dk_at dksX6_person_2 1 rfl rfl)
theorem dX6_person_48 : decode cX6_person 48 = .ok (.invokevirtual 96, 3) := dk_182 0 96 (dk_at dksX6_person_2 2 rfl rfl)
theorem dX6_person_51 : decode cX6_person 51 = .ok (.iastore, 1) := dk_79 (dk_at dksX6_person_2 5 rfl rfl)
theorem dX6_person_52 : decode cX6_person 52 = .ok (.aload_n 0, 1) := dk_42 (dk_at dksX6_person_2 6 rfl rfl)
theorem dX6_person_53 : decode cX6_person 53 = .ok (.getfield 12, 3) := dk_180 0 12 (dk_at dksX6_person_2 7 rfl rfl)
theorem dX6_person_56 : decode cX6_person 56 = .ok (.getfield 123, 3) := dk_180 0 123 (dk_at dksX6_person_2 10 rfl rfl)
theorem dX6_person_59 : decode cX6_person 59 = .ok (.iload_n 1, 1) := dk_27 (dk_at dksX6_person_2 13 rfl rfl)
theorem dX6_person_60 : decode cX6_person 60 = .ok (.iload_n 2, 1) := dk_28 (dk_at dksX6_person_2 14 rfl rfl)
theorem dX6_person_61 : decode cX6_person 61 = .ok (.invokestatic 127, 3) := dk_184 0 127 (dk_at dksX6_person_2 15 rfl rfl)
theorem dX6_person_64 : decode cX6_person 64 = .ok (.invokeinterface 131 2, 5) := by decide +kernel
theorem dX6_person_69 : decode cX6_person 69 = .ok (.pop, 1) := dk_87 (dk_at dksX6_person_2 23 rfl rfl)
theorem dX6_person_70 : decode cX6_person 70 = .ok (.aload_n 0, 1) := dk_42 (dk_at dksX6_person_3 0 rfl rfl)
theorem dX6_person_71 : decode cX6_person 71 = .ok (.iconst 4, 1) := dk_7 (dk_at dksX6_person_3 1 rfl rfl)
theorem dX6_person_72 : decode cX6_person 72 = .ok (.invokevirtual 67, 3) := dk_182 0 67 (dk_at dksX6_person_3 2 rfl rfl)
theorem dX6_person_75 : decode cX6_person 75 = .ok (.return_, 1) := dk_177 (dk_at dksX6_person_3 5 rfl rfl)
abbrev cX6_begin : ByteArray := prog_12_method_9_code
def yX6_begin : MethodName := ⟨RX6, "begin", "(II)V"⟩
def dkwX6_begin_0 : List UInt8 := [42, 27, 28, 162, 0, 7, 4, 167, 0, 4, 3, 6, 182, 0, 60, 42, 182, 0, 64, 177]
abbrev dktX6_begin_0 : List UInt8 := dkwX6_begin_0 ++ []
theorem dksX6_begin_0 : cX6_begin.data.toList.drop 0 = dktX6_begin_0 := by decide +kernel
theorem dX6_begin_0 : decode cX6_begin 0 = .ok (.aload_n 0, 1) := dk_42 (dk_at dksX6_begin_0 0 rfl rfl)
theorem dX6_begin_1 : decode cX6_begin 1 = .ok (.iload_n 1, 1) := dk_27 (dk_at dksX6_begin_0 1 rfl rfl)
theorem dX6_begin_2 : decode cX6_begin 2 = .ok (.iload_n 2, 1) := dk_28 (dk_at dksX6_begin_0 2 rfl rfl)
theorem dX6_begin_3 : decode cX6_begin 3 = .ok (.if_icmp .ge 7, 3) := dk_162 0 7 (dk_at dksX6_begin_0 3 rfl rfl)
theorem dX6_begin_6 : decode cX6_begin 6 = .ok (.iconst 1, 1) := dk_4 (dk_at dksX6_begin_0 6 rfl rfl)
theorem dX6_begin_7 : decode cX6_begin 7 = .ok (.goto 4, 3) := dk_167 0 4 (dk_at dksX6_begin_0 7 rfl rfl)
theorem dX6_begin_10 : decode cX6_begin 10 = .ok (.iconst 0, 1) := dk_3 (dk_at dksX6_begin_0 10 rfl rfl)
theorem dX6_begin_11 : decode cX6_begin 11 = .ok (.iconst 3, 1) := dk_6 (dk_at dksX6_begin_0 11 rfl rfl)
theorem dX6_begin_12 : decode cX6_begin 12 = .ok (.invokevirtual 60, 3) := dk_182 0 60 (dk_at dksX6_begin_0 12 rfl rfl)
theorem dX6_begin_15 : decode cX6_begin 15 = .ok (.aload_n 0, 1) := dk_42 (dk_at dksX6_begin_0 15 rfl rfl)
theorem dX6_begin_16 : decode cX6_begin 16 = .ok (.invokevirtual 64, 3) := dk_182 0 64 (dk_at dksX6_begin_0 16 rfl rfl)
theorem dX6_begin_19 : decode cX6_begin 19 = .ok (.return_, 1) := dk_177 (dk_at dksX6_begin_0 19 rfl rfl)
abbrev cX6_promise : ByteArray := prog_12_method_14_code
def yX6_promise : MethodName := ⟨RX6, "promise", "()V"⟩
def dkwX6_promise_5 : List UInt8 := [42, 3, 8, 182, 0, 96, 182, 0, 140, 42, 7, 182, 0, 67, 177]
abbrev dktX6_promise_5 : List UInt8 := dkwX6_promise_5 ++ []
def dkwX6_promise_4 : List UInt8 := [16, 20, 182, 0, 96, 62, 42, 3, 16, 99, 182, 0, 96, 54, 4, 42, 180, 0, 12, 27, 28, 29, 21, 4]
abbrev dktX6_promise_4 : List UInt8 := dkwX6_promise_4 ++ dktX6_promise_5
def dkwX6_promise_3 : List UInt8 := [159, 0, 7, 4, 167, 0, 4, 3, 5, 182, 0, 60, 42, 180, 0, 37, 61, 42, 182, 0, 64, 42, 4]
abbrev dktX6_promise_3 : List UInt8 := dkwX6_promise_3 ++ dktX6_promise_4
def dkwX6_promise_2 : List UInt8 := [182, 0, 60, 42, 42, 180, 0, 37, 42, 180, 0, 12, 182, 0, 111, 162, 0, 15, 42, 180, 0, 37, 27]
abbrev dktX6_promise_2 : List UInt8 := dkwX6_promise_2 ++ dktX6_promise_3
def dkwX6_promise_1 : List UInt8 := [182, 0, 71, 60, 42, 6, 182, 0, 67, 42, 42, 180, 0, 40, 5, 160, 0, 7, 4, 167, 0, 4, 3, 4]
abbrev dktX6_promise_1 : List UInt8 := dkwX6_promise_1 ++ dktX6_promise_2
def dkwX6_promise_0 : List UInt8 := [42, 42, 180, 0, 12, 180, 0, 137, 16, 8, 182, 0, 114, 42, 3, 42, 180, 0, 12, 182, 0, 111, 4, 100]
abbrev dktX6_promise_0 : List UInt8 := dkwX6_promise_0 ++ dktX6_promise_1
theorem dksX6_promise_0 : cX6_promise.data.toList.drop 0 = dktX6_promise_0 := by decide +kernel
theorem dksX6_promise_1 : cX6_promise.data.toList.drop 24 = dktX6_promise_1 := dk_seg dksX6_promise_0 24 rfl rfl
theorem dksX6_promise_2 : cX6_promise.data.toList.drop 48 = dktX6_promise_2 := dk_seg dksX6_promise_1 24 rfl rfl
theorem dksX6_promise_3 : cX6_promise.data.toList.drop 71 = dktX6_promise_3 := dk_seg dksX6_promise_2 23 rfl rfl
theorem dksX6_promise_4 : cX6_promise.data.toList.drop 94 = dktX6_promise_4 := dk_seg dksX6_promise_3 23 rfl rfl
theorem dksX6_promise_5 : cX6_promise.data.toList.drop 118 = dktX6_promise_5 := dk_seg dksX6_promise_4 24 rfl rfl
theorem dX6_promise_0 : decode cX6_promise 0 = .ok (.aload_n 0, 1) := dk_42 (dk_at dksX6_promise_0 0 rfl rfl)
theorem dX6_promise_1 : decode cX6_promise 1 = .ok (.aload_n 0, 1) := dk_42 (dk_at dksX6_promise_0 1 rfl rfl)
theorem dX6_promise_2 : decode cX6_promise 2 = .ok (.getfield 12, 3) := dk_180 0 12 (dk_at dksX6_promise_0 2 rfl rfl)
theorem dX6_promise_5 : decode cX6_promise 5 = .ok (.getfield 137, 3) := dk_180 0 137 (dk_at dksX6_promise_0 5 rfl rfl)
theorem dX6_promise_8 : decode cX6_promise 8 = .ok (.bipush 8, 2) := dk_16 8 (dk_at dksX6_promise_0 8 rfl rfl)
theorem dX6_promise_10 : decode cX6_promise 10 = .ok (.invokevirtual 114, 3) := dk_182 0 114 (dk_at dksX6_promise_0 10 rfl rfl)
theorem dX6_promise_13 : decode cX6_promise 13 = .ok (.aload_n 0, 1) := dk_42 (dk_at dksX6_promise_0 13 rfl rfl)
theorem dX6_promise_14 : decode cX6_promise 14 = .ok (.iconst 0, 1) := dk_3 (dk_at dksX6_promise_0 14 rfl rfl)
theorem dX6_promise_15 : decode cX6_promise 15 = .ok (.aload_n 0, 1) := dk_42 (dk_at dksX6_promise_0 15 rfl rfl)
theorem dX6_promise_16 : decode cX6_promise 16 = .ok (.getfield 12, 3) := dk_180 0 12 (dk_at dksX6_promise_0 16 rfl rfl)
theorem dX6_promise_19 : decode cX6_promise 19 = .ok (.invokevirtual 111, 3) := dk_182 0 111 (dk_at dksX6_promise_0 19 rfl rfl)
theorem dX6_promise_22 : decode cX6_promise 22 = .ok (.iconst 1, 1) := dk_4 (dk_at dksX6_promise_0 22 rfl rfl)
theorem dX6_promise_23 : decode cX6_promise 23 = .ok (.isub, 1) := dk_100 (dk_at dksX6_promise_0 23 rfl rfl)
theorem dX6_promise_24 : decode cX6_promise 24 = .ok (.invokevirtual 71, 3) := dk_182 0 71 (dk_at dksX6_promise_1 0 rfl rfl)
theorem dX6_promise_27 : decode cX6_promise 27 = .ok (.istore_n 1, 1) := dk_60 (dk_at dksX6_promise_1 3 rfl rfl)
theorem dX6_promise_28 : decode cX6_promise 28 = .ok (.aload_n 0, 1) := dk_42 (dk_at dksX6_promise_1 4 rfl rfl)
theorem dX6_promise_29 : decode cX6_promise 29 = .ok (.iconst 3, 1) := dk_6 (dk_at dksX6_promise_1 5 rfl rfl)
theorem dX6_promise_30 : decode cX6_promise 30 = .ok (.invokevirtual 67, 3) := dk_182 0 67 (dk_at dksX6_promise_1 6 rfl rfl)
theorem dX6_promise_33 : decode cX6_promise 33 = .ok (.aload_n 0, 1) := dk_42 (dk_at dksX6_promise_1 9 rfl rfl)
theorem dX6_promise_34 : decode cX6_promise 34 = .ok (.aload_n 0, 1) := dk_42 (dk_at dksX6_promise_1 10 rfl rfl)
theorem dX6_promise_35 : decode cX6_promise 35 = .ok (.getfield 40, 3) := dk_180 0 40 (dk_at dksX6_promise_1 11 rfl rfl)
theorem dX6_promise_38 : decode cX6_promise 38 = .ok (.iconst 2, 1) := dk_5 (dk_at dksX6_promise_1 14 rfl rfl)
theorem dX6_promise_39 : decode cX6_promise 39 = .ok (.if_icmp .ne 7, 3) := dk_160 0 7 (dk_at dksX6_promise_1 15 rfl rfl)
theorem dX6_promise_42 : decode cX6_promise 42 = .ok (.iconst 1, 1) := dk_4 (dk_at dksX6_promise_1 18 rfl rfl)
theorem dX6_promise_43 : decode cX6_promise 43 = .ok (.goto 4, 3) := dk_167 0 4 (dk_at dksX6_promise_1 19 rfl rfl)
theorem dX6_promise_46 : decode cX6_promise 46 = .ok (.iconst 0, 1) := dk_3 (dk_at dksX6_promise_1 22 rfl rfl)
theorem dX6_promise_47 : decode cX6_promise 47 = .ok (.iconst 1, 1) := dk_4 (dk_at dksX6_promise_1 23 rfl rfl)
theorem dX6_promise_48 : decode cX6_promise 48 = .ok (.invokevirtual 60, 3) := dk_182 0 60 (dk_at dksX6_promise_2 0 rfl rfl)
theorem dX6_promise_51 : decode cX6_promise 51 = .ok (.aload_n 0, 1) := dk_42 (dk_at dksX6_promise_2 3 rfl rfl)
theorem dX6_promise_52 : decode cX6_promise 52 = .ok (.aload_n 0, 1) := dk_42 (dk_at dksX6_promise_2 4 rfl rfl)
theorem dX6_promise_53 : decode cX6_promise 53 = .ok (.getfield 37, 3) := dk_180 0 37 (dk_at dksX6_promise_2 5 rfl rfl)
theorem dX6_promise_56 : decode cX6_promise 56 = .ok (.aload_n 0, 1) := dk_42 (dk_at dksX6_promise_2 8 rfl rfl)
theorem dX6_promise_57 : decode cX6_promise 57 = .ok (.getfield 12, 3) := dk_180 0 12 (dk_at dksX6_promise_2 9 rfl rfl)
theorem dX6_promise_60 : decode cX6_promise 60 = .ok (.invokevirtual 111, 3) := dk_182 0 111 (dk_at dksX6_promise_2 12 rfl rfl)
theorem dX6_promise_63 : decode cX6_promise 63 = .ok (.if_icmp .ge 15, 3) := dk_162 0 15 (dk_at dksX6_promise_2 15 rfl rfl)
theorem dX6_promise_66 : decode cX6_promise 66 = .ok (.aload_n 0, 1) := dk_42 (dk_at dksX6_promise_2 18 rfl rfl)
theorem dX6_promise_67 : decode cX6_promise 67 = .ok (.getfield 37, 3) := dk_180 0 37 (dk_at dksX6_promise_2 19 rfl rfl)
theorem dX6_promise_70 : decode cX6_promise 70 = .ok (.iload_n 1, 1) := dk_27 (dk_at dksX6_promise_2 22 rfl rfl)
theorem dX6_promise_71 : decode cX6_promise 71 = .ok (.if_icmp .eq 7, 3) := dk_159 0 7 (dk_at dksX6_promise_3 0 rfl rfl)
theorem dX6_promise_74 : decode cX6_promise 74 = .ok (.iconst 1, 1) := dk_4 (dk_at dksX6_promise_3 3 rfl rfl)
theorem dX6_promise_75 : decode cX6_promise 75 = .ok (.goto 4, 3) := dk_167 0 4 (dk_at dksX6_promise_3 4 rfl rfl)
theorem dX6_promise_78 : decode cX6_promise 78 = .ok (.iconst 0, 1) := dk_3 (dk_at dksX6_promise_3 7 rfl rfl)
theorem dX6_promise_79 : decode cX6_promise 79 = .ok (.iconst 2, 1) := dk_5 (dk_at dksX6_promise_3 8 rfl rfl)
theorem dX6_promise_80 : decode cX6_promise 80 = .ok (.invokevirtual 60, 3) := dk_182 0 60 (dk_at dksX6_promise_3 9 rfl rfl)
theorem dX6_promise_83 : decode cX6_promise 83 = .ok (.aload_n 0, 1) := dk_42 (dk_at dksX6_promise_3 12 rfl rfl)
theorem dX6_promise_84 : decode cX6_promise 84 = .ok (.getfield 37, 3) := dk_180 0 37 (dk_at dksX6_promise_3 13 rfl rfl)
theorem dX6_promise_87 : decode cX6_promise 87 = .ok (.istore_n 2, 1) := dk_61 (dk_at dksX6_promise_3 16 rfl rfl)
theorem dX6_promise_88 : decode cX6_promise 88 = .ok (.aload_n 0, 1) := dk_42 (dk_at dksX6_promise_3 17 rfl rfl)
theorem dX6_promise_89 : decode cX6_promise 89 = .ok (.invokevirtual 64, 3) := dk_182 0 64 (dk_at dksX6_promise_3 18 rfl rfl)
theorem dX6_promise_92 : decode cX6_promise 92 = .ok (.aload_n 0, 1) := dk_42 (dk_at dksX6_promise_3 21 rfl rfl)
theorem dX6_promise_93 : decode cX6_promise 93 = .ok (.iconst 1, 1) := dk_4 (dk_at dksX6_promise_3 22 rfl rfl)
theorem dX6_promise_94 : decode cX6_promise 94 = .ok (.bipush 20, 2) := dk_16 20 (dk_at dksX6_promise_4 0 rfl rfl)
theorem dX6_promise_96 : decode cX6_promise 96 = .ok (.invokevirtual 96, 3) := dk_182 0 96 (dk_at dksX6_promise_4 2 rfl rfl)
theorem dX6_promise_99 : decode cX6_promise 99 = .ok (.istore_n 3, 1) := dk_62 (dk_at dksX6_promise_4 5 rfl rfl)
theorem dX6_promise_100 : decode cX6_promise 100 = .ok (.aload_n 0, 1) := dk_42 (dk_at dksX6_promise_4 6 rfl rfl)
theorem dX6_promise_101 : decode cX6_promise 101 = .ok (.iconst 0, 1) := dk_3 (dk_at dksX6_promise_4 7 rfl rfl)
theorem dX6_promise_102 : decode cX6_promise 102 = .ok (.bipush 99, 2) := dk_16 99 (dk_at dksX6_promise_4 8 rfl rfl)
theorem dX6_promise_104 : decode cX6_promise 104 = .ok (.invokevirtual 96, 3) := dk_182 0 96 (dk_at dksX6_promise_4 10 rfl rfl)
theorem dX6_promise_107 : decode cX6_promise 107 = .ok (.istore 4, 2) := dk_54 4 (dk_at dksX6_promise_4 13 rfl rfl)
theorem dX6_promise_109 : decode cX6_promise 109 = .ok (.aload_n 0, 1) := dk_42 (dk_at dksX6_promise_4 15 rfl rfl)
theorem dX6_promise_110 : decode cX6_promise 110 = .ok (.getfield 12, 3) := dk_180 0 12 (dk_at dksX6_promise_4 16 rfl rfl)
theorem dX6_promise_113 : decode cX6_promise 113 = .ok (.iload_n 1, 1) := dk_27 (dk_at dksX6_promise_4 19 rfl rfl)
theorem dX6_promise_114 : decode cX6_promise 114 = .ok (.iload_n 2, 1) := dk_28 (dk_at dksX6_promise_4 20 rfl rfl)
theorem dX6_promise_115 : decode cX6_promise 115 = .ok (.iload_n 3, 1) := dk_29 (dk_at dksX6_promise_4 21 rfl rfl)
theorem dX6_promise_116 : decode cX6_promise 116 = .ok (.iload 4, 2) := dk_21 4 (dk_at dksX6_promise_4 22 rfl rfl)
theorem dX6_promise_118 : decode cX6_promise 118 = .ok (.aload_n 0, 1) := dk_42 (dk_at dksX6_promise_5 0 rfl rfl)
theorem dX6_promise_119 : decode cX6_promise 119 = .ok (.iconst 0, 1) := dk_3 (dk_at dksX6_promise_5 1 rfl rfl)
theorem dX6_promise_120 : decode cX6_promise 120 = .ok (.iconst 5, 1) := dk_8 (dk_at dksX6_promise_5 2 rfl rfl)
theorem dX6_promise_121 : decode cX6_promise 121 = .ok (.invokevirtual 96, 3) := dk_182 0 96 (dk_at dksX6_promise_5 3 rfl rfl)
theorem dX6_promise_124 : decode cX6_promise 124 = .ok (.invokevirtual 140, 3) := dk_182 0 140 (dk_at dksX6_promise_5 6 rfl rfl)
theorem dX6_promise_127 : decode cX6_promise 127 = .ok (.aload_n 0, 1) := dk_42 (dk_at dksX6_promise_5 9 rfl rfl)
theorem dX6_promise_128 : decode cX6_promise 128 = .ok (.iconst 4, 1) := dk_7 (dk_at dksX6_promise_5 10 rfl rfl)
theorem dX6_promise_129 : decode cX6_promise 129 = .ok (.invokevirtual 67, 3) := dk_182 0 67 (dk_at dksX6_promise_5 11 rfl rfl)
theorem dX6_promise_132 : decode cX6_promise 132 = .ok (.return_, 1) := dk_177 (dk_at dksX6_promise_5 14 rfl rfl)
theorem q92 : (Jvm.Cond.initialized "PromisePounds$Reader") ∈ lw_all := lw_g (lw_at lw_m1 17 rfl) rfl
theorem q154 : (Jvm.Cond.fieldLink "PromisePounds$Reader" (92 : Nat) "PromisePounds$Parish" "height" "[I") ∈ lw_all := lw_g (lw_at lw_m1 79 rfl) rfl
theorem q157 : (Jvm.Cond.fieldLink "PromisePounds$Reader" (123 : Nat) "PromisePounds$Parish" "people" "Ljava/util/List;") ∈ lw_all := lw_g (lw_at lw_m1 82 rfl) rfl
theorem q161 : (Jvm.Cond.fieldLink "PromisePounds$Reader" (117 : Nat) "PromisePounds$Parish" "strength" "[I") ∈ lw_all := lw_g (lw_at lw_m1 86 rfl) rfl
theorem q164 : (Jvm.Cond.fieldLink "PromisePounds$Reader" (120 : Nat) "PromisePounds$Parish" "place" "[I") ∈ lw_all := lw_g (lw_at lw_m1 89 rfl) rfl
theorem q167 : (Jvm.Cond.fieldLink "PromisePounds$Reader" (137 : Nat) "PromisePounds$Parish" "promises" "I") ∈ lw_all := lw_g (lw_at lw_m1 92 rfl) rfl
theorem q450 : (Jvm.Cond.instantiable "PromisePounds$Reader" (7 : Nat)) ∈ lw_all := lw_g (lw_at lw_m2 135 rfl) rfl
theorem q452 : (Jvm.Cond.instanceMethod ({ cls := "PromisePounds$Reader", name := "<init>", desc := "([BI)V" } : Jvm.MethodName)) ∈ lw_all := lw_g (lw_at lw_m2 137 rfl) rfl
theorem q453 : (Jvm.Cond.code ({ cls := "PromisePounds$Reader", name := "<init>", desc := "([BI)V" } : Jvm.MethodName) prog_12_method_1_code (3 : Nat) (Option.none : Option Jvm.ClassFile.FieldType)) ∈ lw_all := lw_g (lw_at lw_m2 138 rfl) rfl
theorem q454 : (Jvm.Cond.methodLink "PromisePounds$Reader" (3 : Nat) ({ cls := "java/lang/Object", name := "<init>", desc := "()V" } : Jvm.MethodName)) ∈ lw_all := lw_g (lw_at lw_m2 139 rfl) rfl
theorem q455 : (Jvm.Cond.classLink "PromisePounds$Reader" (9 : Nat) "PromisePounds$Parish") ∈ lw_all := lw_g (lw_at lw_m2 140 rfl) rfl
theorem q456 : (Jvm.Cond.methodLinkNest "PromisePounds$Reader" (11 : Nat) ({ cls := "PromisePounds$Parish", name := "<init>", desc := "()V" } : Jvm.MethodName) "PromisePounds") ∈ lw_tbl := lw_at lw_m2 141 rfl
theorem q457 : (Jvm.Cond.fieldLink "PromisePounds$Reader" (18 : Nat) "PromisePounds$Reader" "text" "[B") ∈ lw_all := lw_g (lw_at lw_m2 142 rfl) rfl
theorem q458 : (Jvm.Cond.fieldLink "PromisePounds$Reader" (22 : Nat) "PromisePounds$Reader" "size" "I") ∈ lw_all := lw_g (lw_at lw_m2 143 rfl) rfl
theorem q459 : (Jvm.Cond.fieldLink "PromisePounds$Reader" (26 : Nat) "PromisePounds$Reader" "at" "I") ∈ lw_all := lw_g (lw_at lw_m2 144 rfl) rfl
theorem q460 : (Jvm.Cond.fieldLink "PromisePounds$Reader" (40 : Nat) "PromisePounds$Reader" "token" "I") ∈ lw_all := lw_g (lw_at lw_m2 145 rfl) rfl
theorem q461 : (Jvm.Cond.fieldLink "PromisePounds$Reader" (30 : Nat) "PromisePounds$Reader" "from" "I") ∈ lw_all := lw_g (lw_at lw_m2 146 rfl) rfl
theorem q462 : (Jvm.Cond.fieldLink "PromisePounds$Reader" (37 : Nat) "PromisePounds$Reader" "value" "I") ∈ lw_all := lw_g (lw_at lw_m2 147 rfl) rfl
theorem q463 : (Jvm.Cond.fieldLink "PromisePounds$Reader" (12 : Nat) "PromisePounds$Reader" "made" "LPromisePounds$Parish;") ∈ lw_all := lw_g (lw_at lw_m2 148 rfl) rfl
theorem q465 : (Jvm.Cond.laysFinal "PromisePounds$Reader" "PromisePounds$Reader" "text" "[B") ∈ lw_all := lw_g (lw_at lw_m2 150 rfl) rfl
theorem q466 : (Jvm.Cond.soleField "PromisePounds$Reader" "text") ∈ lw_all := lw_g (lw_at lw_m2 151 rfl) rfl
theorem q467 : (Jvm.Cond.laysFinal "PromisePounds$Reader" "PromisePounds$Reader" "size" "I") ∈ lw_all := lw_g (lw_at lw_m2 152 rfl) rfl
theorem q468 : (Jvm.Cond.soleField "PromisePounds$Reader" "size") ∈ lw_all := lw_g (lw_at lw_m2 153 rfl) rfl
theorem q469 : (Jvm.Cond.lays "PromisePounds$Reader" "PromisePounds$Reader" "at" "I") ∈ lw_all := lw_g (lw_at lw_m2 154 rfl) rfl
theorem q470 : (Jvm.Cond.soleField "PromisePounds$Reader" "at") ∈ lw_all := lw_g (lw_at lw_m2 155 rfl) rfl
theorem q471 : (Jvm.Cond.lays "PromisePounds$Reader" "PromisePounds$Reader" "token" "I") ∈ lw_all := lw_g (lw_at lw_m2 156 rfl) rfl
theorem q472 : (Jvm.Cond.soleField "PromisePounds$Reader" "token") ∈ lw_all := lw_g (lw_at lw_m2 157 rfl) rfl
theorem q473 : (Jvm.Cond.lays "PromisePounds$Reader" "PromisePounds$Reader" "from" "I") ∈ lw_all := lw_g (lw_at lw_m2 158 rfl) rfl
theorem q474 : (Jvm.Cond.soleField "PromisePounds$Reader" "from") ∈ lw_all := lw_g (lw_at lw_m2 159 rfl) rfl
theorem q475 : (Jvm.Cond.lays "PromisePounds$Reader" "PromisePounds$Reader" "value" "I") ∈ lw_all := lw_g (lw_at lw_m2 160 rfl) rfl
theorem q476 : (Jvm.Cond.soleField "PromisePounds$Reader" "value") ∈ lw_all := lw_g (lw_at lw_m2 161 rfl) rfl
theorem q477 : (Jvm.Cond.laysFinal "PromisePounds$Reader" "PromisePounds$Reader" "made" "LPromisePounds$Parish;") ∈ lw_all := lw_g (lw_at lw_m2 162 rfl) rfl
theorem q478 : (Jvm.Cond.soleField "PromisePounds$Reader" "made") ∈ lw_all := lw_g (lw_at lw_m2 163 rfl) rfl
theorem q479 : (Jvm.Cond.superclass "PromisePounds$Reader" "java/lang/Object") ∈ lw_all := lw_g (lw_at lw_m2 164 rfl) rfl
theorem q481 : (Jvm.Cond.instanceMethod ({ cls := "PromisePounds$Reader", name := "all", desc := "()V" } : Jvm.MethodName)) ∈ lw_all := lw_g (lw_at lw_m2 166 rfl) rfl
theorem q482 : (Jvm.Cond.selects "PromisePounds$Reader" ({ cls := "PromisePounds$Reader", name := "all", desc := "()V" } : Jvm.MethodName) ({ cls := "PromisePounds$Reader", name := "all", desc := "()V" } : Jvm.MethodName)) ∈ lw_all := lw_g (lw_at lw_m2 167 rfl) rfl
theorem q483 : (Jvm.Cond.code ({ cls := "PromisePounds$Reader", name := "all", desc := "()V" } : Jvm.MethodName) prog_12_method_12_code (2 : Nat) (Option.none : Option Jvm.ClassFile.FieldType)) ∈ lw_all := lw_g (lw_at lw_m2 168 rfl) rfl
theorem q484 : (Jvm.Cond.methodLink "PromisePounds$Reader" (64 : Nat) ({ cls := "PromisePounds$Reader", name := "next", desc := "()V" } : Jvm.MethodName)) ∈ lw_all := lw_g (lw_at lw_m2 169 rfl) rfl
theorem q485 : (Jvm.Cond.privateMethod ({ cls := "PromisePounds$Reader", name := "next", desc := "()V" } : Jvm.MethodName)) ∈ lw_tbl := lw_at lw_m2 170 rfl
theorem q486 : (Jvm.Cond.instanceMethod ({ cls := "PromisePounds$Reader", name := "next", desc := "()V" } : Jvm.MethodName)) ∈ lw_all := lw_g (lw_at lw_m2 171 rfl) rfl
theorem q487 : (Jvm.Cond.code ({ cls := "PromisePounds$Reader", name := "next", desc := "()V" } : Jvm.MethodName) prog_12_method_3_code (2 : Nat) (Option.none : Option Jvm.ClassFile.FieldType)) ∈ lw_all := lw_g (lw_at lw_m2 172 rfl) rfl
theorem q488 : (Jvm.Cond.methodLink "PromisePounds$Reader" (33 : Nat) ({ cls := "PromisePounds$Reader", name := "look", desc := "()I" } : Jvm.MethodName)) ∈ lw_all := lw_g (lw_at lw_m2 173 rfl) rfl
theorem q489 : (Jvm.Cond.privateMethod ({ cls := "PromisePounds$Reader", name := "look", desc := "()I" } : Jvm.MethodName)) ∈ lw_tbl := lw_at lw_m2 174 rfl
theorem q490 : (Jvm.Cond.instanceMethod ({ cls := "PromisePounds$Reader", name := "look", desc := "()I" } : Jvm.MethodName)) ∈ lw_all := lw_g (lw_at lw_m2 175 rfl) rfl
theorem q491 : (Jvm.Cond.code ({ cls := "PromisePounds$Reader", name := "look", desc := "()I" } : Jvm.MethodName) prog_12_method_2_code (1 : Nat) (Option.some Jvm.ClassFile.FieldType.int)) ∈ lw_all := lw_g (lw_at lw_m2 176 rfl) rfl
theorem q492 : (Jvm.Cond.constant "PromisePounds$Reader" (29 : Nat) (-1000000 : Int32)) ∈ lw_all := lw_g (lw_at lw_m2 177 rfl) rfl
theorem q493 : (Jvm.Cond.constantLong "PromisePounds$Reader" (43 : Nat) (48 : Int64)) ∈ lw_all := lw_g (lw_at lw_m2 178 rfl) rfl
theorem q494 : (Jvm.Cond.constantLong "PromisePounds$Reader" (45 : Nat) (57 : Int64)) ∈ lw_all := lw_g (lw_at lw_m2 179 rfl) rfl
theorem q495 : (Jvm.Cond.methodLinkNest "PromisePounds$Reader" (47 : Nat) ({ cls := "PromisePounds", name := "isIn", desc := "(JJJ)Z" } : Jvm.MethodName) "PromisePounds") ∈ lw_tbl := lw_at lw_m2 180 rfl
theorem q496 : (Jvm.Cond.constantLong "PromisePounds$Reader" (51 : Nat) (97 : Int64)) ∈ lw_all := lw_g (lw_at lw_m2 181 rfl) rfl
theorem q497 : (Jvm.Cond.constantLong "PromisePounds$Reader" (53 : Nat) (122 : Int64)) ∈ lw_all := lw_g (lw_at lw_m2 182 rfl) rfl
theorem q498 : (Jvm.Cond.methodLink "PromisePounds$Reader" (88 : Nat) ({ cls := "PromisePounds$Reader", name := "isLetter", desc := "(I)Z" } : Jvm.MethodName)) ∈ lw_all := lw_g (lw_at lw_m2 183 rfl) rfl
theorem q499 : (Jvm.Cond.privateMethod ({ cls := "PromisePounds$Reader", name := "isLetter", desc := "(I)Z" } : Jvm.MethodName)) ∈ lw_tbl := lw_at lw_m2 184 rfl
theorem q500 : (Jvm.Cond.instanceMethod ({ cls := "PromisePounds$Reader", name := "isLetter", desc := "(I)Z" } : Jvm.MethodName)) ∈ lw_all := lw_g (lw_at lw_m2 185 rfl) rfl
theorem q501 : (Jvm.Cond.code ({ cls := "PromisePounds$Reader", name := "isLetter", desc := "(I)Z" } : Jvm.MethodName) prog_12_method_5_code (2 : Nat) (Option.some Jvm.ClassFile.FieldType.boolean)) ∈ lw_all := lw_g (lw_at lw_m2 186 rfl) rfl
theorem q502 : (Jvm.Cond.methodLink "PromisePounds$Reader" (60 : Nat) ({ cls := "PromisePounds$Reader", name := "must", desc := "(ZI)V" } : Jvm.MethodName)) ∈ lw_all := lw_g (lw_at lw_m2 187 rfl) rfl
theorem q503 : (Jvm.Cond.privateMethod ({ cls := "PromisePounds$Reader", name := "must", desc := "(ZI)V" } : Jvm.MethodName)) ∈ lw_tbl := lw_at lw_m2 188 rfl
theorem q504 : (Jvm.Cond.instanceMethod ({ cls := "PromisePounds$Reader", name := "must", desc := "(ZI)V" } : Jvm.MethodName)) ∈ lw_all := lw_g (lw_at lw_m2 189 rfl) rfl
theorem q505 : (Jvm.Cond.code ({ cls := "PromisePounds$Reader", name := "must", desc := "(ZI)V" } : Jvm.MethodName) prog_12_method_4_code (3 : Nat) (Option.none : Option Jvm.ClassFile.FieldType)) ∈ lw_all := lw_g (lw_at lw_m2 190 rfl) rfl
theorem q506 : (Jvm.Cond.classLink "PromisePounds$Reader" (55 : Nat) "PromisePounds$Fault") ∈ lw_all := lw_g (lw_at lw_m2 191 rfl) rfl
theorem q515 : (Jvm.Cond.methodLink "PromisePounds$Reader" (57 : Nat) ({ cls := "PromisePounds$Fault", name := "<init>", desc := "(II)V" } : Jvm.MethodName)) ∈ lw_all := lw_g (lw_at lw_m2 200 rfl) rfl
theorem q529 : (Jvm.Cond.methodLink "PromisePounds$Reader" (71 : Nat) ({ cls := "PromisePounds$Reader", name := "figure", desc := "(II)I" } : Jvm.MethodName)) ∈ lw_all := lw_g (lw_at lw_m2 214 rfl) rfl
theorem q530 : (Jvm.Cond.privateMethod ({ cls := "PromisePounds$Reader", name := "figure", desc := "(II)I" } : Jvm.MethodName)) ∈ lw_tbl := lw_at lw_m2 215 rfl
theorem q531 : (Jvm.Cond.instanceMethod ({ cls := "PromisePounds$Reader", name := "figure", desc := "(II)I" } : Jvm.MethodName)) ∈ lw_all := lw_g (lw_at lw_m2 216 rfl) rfl
theorem q532 : (Jvm.Cond.code ({ cls := "PromisePounds$Reader", name := "figure", desc := "(II)I" } : Jvm.MethodName) prog_12_method_6_code (4 : Nat) (Option.some Jvm.ClassFile.FieldType.int)) ∈ lw_all := lw_g (lw_at lw_m2 217 rfl) rfl
theorem q533 : (Jvm.Cond.methodLink "PromisePounds$Reader" (96 : Nat) ({ cls := "PromisePounds$Reader", name := "more", desc := "(II)I" } : Jvm.MethodName)) ∈ lw_all := lw_g (lw_at lw_m2 218 rfl) rfl
theorem q534 : (Jvm.Cond.privateMethod ({ cls := "PromisePounds$Reader", name := "more", desc := "(II)I" } : Jvm.MethodName)) ∈ lw_tbl := lw_at lw_m2 219 rfl
theorem q535 : (Jvm.Cond.instanceMethod ({ cls := "PromisePounds$Reader", name := "more", desc := "(II)I" } : Jvm.MethodName)) ∈ lw_all := lw_g (lw_at lw_m2 220 rfl) rfl
theorem q536 : (Jvm.Cond.code ({ cls := "PromisePounds$Reader", name := "more", desc := "(II)I" } : Jvm.MethodName) prog_12_method_7_code (3 : Nat) (Option.some Jvm.ClassFile.FieldType.int)) ∈ lw_all := lw_g (lw_at lw_m2 221 rfl) rfl
theorem q537 : (Jvm.Cond.methodLink "PromisePounds$Reader" (67 : Nat) ({ cls := "PromisePounds$Reader", name := "sign", desc := "(I)V" } : Jvm.MethodName)) ∈ lw_all := lw_g (lw_at lw_m2 222 rfl) rfl
theorem q538 : (Jvm.Cond.privateMethod ({ cls := "PromisePounds$Reader", name := "sign", desc := "(I)V" } : Jvm.MethodName)) ∈ lw_tbl := lw_at lw_m2 223 rfl
theorem q539 : (Jvm.Cond.instanceMethod ({ cls := "PromisePounds$Reader", name := "sign", desc := "(I)V" } : Jvm.MethodName)) ∈ lw_all := lw_g (lw_at lw_m2 224 rfl) rfl
theorem q540 : (Jvm.Cond.code ({ cls := "PromisePounds$Reader", name := "sign", desc := "(I)V" } : Jvm.MethodName) prog_12_method_8_code (2 : Nat) (Option.none : Option Jvm.ClassFile.FieldType)) ∈ lw_all := lw_g (lw_at lw_m2 225 rfl) rfl
theorem q541 : (Jvm.Cond.stringRef "PromisePounds$Reader" (99 : Nat) "gcvkl") ∈ lw_tbl := lw_at lw_m2 226 rfl
theorem q542 : (Jvm.Cond.methodLink "PromisePounds$Reader" (101 : Nat) ({ cls := "PromisePounds$Reader", name := "sortOf", desc := "(Ljava/lang/String;)I" } : Jvm.MethodName)) ∈ lw_all := lw_g (lw_at lw_m2 227 rfl) rfl
theorem q543 : (Jvm.Cond.privateMethod ({ cls := "PromisePounds$Reader", name := "sortOf", desc := "(Ljava/lang/String;)I" } : Jvm.MethodName)) ∈ lw_tbl := lw_at lw_m2 228 rfl
theorem q544 : (Jvm.Cond.instanceMethod ({ cls := "PromisePounds$Reader", name := "sortOf", desc := "(Ljava/lang/String;)I" } : Jvm.MethodName)) ∈ lw_all := lw_g (lw_at lw_m2 229 rfl) rfl
theorem q545 : (Jvm.Cond.code ({ cls := "PromisePounds$Reader", name := "sortOf", desc := "(Ljava/lang/String;)I" } : Jvm.MethodName) prog_12_method_11_code (2 : Nat) (Option.some Jvm.ClassFile.FieldType.int)) ∈ lw_all := lw_g (lw_at lw_m2 230 rfl) rfl
theorem q546 : (Jvm.Cond.methodLink "PromisePounds$Reader" (84 : Nat) ({ cls := "PromisePounds$Reader", name := "sortIn", desc := "(Ljava/lang/String;II)I" } : Jvm.MethodName)) ∈ lw_all := lw_g (lw_at lw_m2 231 rfl) rfl
theorem q547 : (Jvm.Cond.static ({ cls := "PromisePounds$Reader", name := "sortIn", desc := "(Ljava/lang/String;II)I" } : Jvm.MethodName)) ∈ lw_all := lw_g (lw_at lw_m2 232 rfl) rfl
theorem q548 : (Jvm.Cond.code ({ cls := "PromisePounds$Reader", name := "sortIn", desc := "(Ljava/lang/String;II)I" } : Jvm.MethodName) prog_12_method_10_code (4 : Nat) (Option.some Jvm.ClassFile.FieldType.int)) ∈ lw_all := lw_g (lw_at lw_m2 233 rfl) rfl
theorem q549 : (Jvm.Cond.methodLink "PromisePounds$Reader" (75 : Nat) ({ cls := "java/lang/String", name := "length", desc := "()I" } : Jvm.MethodName)) ∈ lw_all := lw_g (lw_at lw_m2 234 rfl) rfl
theorem q559 : (Jvm.Cond.methodLink "PromisePounds$Reader" (80 : Nat) ({ cls := "java/lang/String", name := "charAt", desc := "(I)C" } : Jvm.MethodName)) ∈ lw_all := lw_g (lw_at lw_m3 4 rfl) rfl
theorem q597 : (Jvm.Cond.methodLink "PromisePounds$Reader" (105 : Nat) ({ cls := "PromisePounds$Reader", name := "person", desc := "()V" } : Jvm.MethodName)) ∈ lw_all := lw_g (lw_at lw_m3 42 rfl) rfl
theorem q598 : (Jvm.Cond.privateMethod ({ cls := "PromisePounds$Reader", name := "person", desc := "()V" } : Jvm.MethodName)) ∈ lw_tbl := lw_at lw_m3 43 rfl
theorem q599 : (Jvm.Cond.instanceMethod ({ cls := "PromisePounds$Reader", name := "person", desc := "()V" } : Jvm.MethodName)) ∈ lw_all := lw_g (lw_at lw_m3 44 rfl) rfl
theorem q600 : (Jvm.Cond.code ({ cls := "PromisePounds$Reader", name := "person", desc := "()V" } : Jvm.MethodName) prog_12_method_13_code (3 : Nat) (Option.none : Option Jvm.ClassFile.FieldType)) ∈ lw_all := lw_g (lw_at lw_m3 45 rfl) rfl
theorem q601 : (Jvm.Cond.methodLink "PromisePounds$Reader" (111 : Nat) ({ cls := "PromisePounds$Parish", name := "many", desc := "()I" } : Jvm.MethodName)) ∈ lw_all := lw_g (lw_at lw_m3 46 rfl) rfl
theorem q615 : (Jvm.Cond.methodLink "PromisePounds$Reader" (114 : Nat) ({ cls := "PromisePounds$Reader", name := "begin", desc := "(II)V" } : Jvm.MethodName)) ∈ lw_all := lw_g (lw_at lw_m3 60 rfl) rfl
theorem q616 : (Jvm.Cond.privateMethod ({ cls := "PromisePounds$Reader", name := "begin", desc := "(II)V" } : Jvm.MethodName)) ∈ lw_tbl := lw_at lw_m3 61 rfl
theorem q617 : (Jvm.Cond.instanceMethod ({ cls := "PromisePounds$Reader", name := "begin", desc := "(II)V" } : Jvm.MethodName)) ∈ lw_all := lw_g (lw_at lw_m3 62 rfl) rfl
theorem q618 : (Jvm.Cond.code ({ cls := "PromisePounds$Reader", name := "begin", desc := "(II)V" } : Jvm.MethodName) prog_12_method_9_code (3 : Nat) (Option.none : Option Jvm.ClassFile.FieldType)) ∈ lw_all := lw_g (lw_at lw_m3 63 rfl) rfl
theorem q619 : (Jvm.Cond.methodLinkNest "PromisePounds$Reader" (127 : Nat) ({ cls := "PromisePounds", name := "personBy", desc := "(II)LPromisePounds$Person;" } : Jvm.MethodName) "PromisePounds") ∈ lw_tbl := lw_at lw_m3 64 rfl
theorem q667 : (Jvm.Cond.interfaceEntry "PromisePounds$Reader" (131 : Nat)) ∈ lw_tbl := lw_at lw_m3 112 rfl
theorem q668 : (Jvm.Cond.methodLink "PromisePounds$Reader" (131 : Nat) ({ cls := "java/util/List", name := "add", desc := "(Ljava/lang/Object;)Z" } : Jvm.MethodName)) ∈ lw_all := lw_g (lw_at lw_m3 113 rfl) rfl
theorem q713 : (Jvm.Cond.selects "PromisePounds$Reader" ({ cls := "java/lang/Object", name := "getClass", desc := "()Ljava/lang/Class;" } : Jvm.MethodName) ({ cls := "java/lang/Object", name := "getClass", desc := "()Ljava/lang/Class;" } : Jvm.MethodName)) ∈ lw_all := lw_g (lw_at lw_m3 158 rfl) rfl
theorem q733 : (Jvm.Cond.methodLink "PromisePounds$Reader" (108 : Nat) ({ cls := "PromisePounds$Reader", name := "promise", desc := "()V" } : Jvm.MethodName)) ∈ lw_all := lw_g (lw_at lw_m3 178 rfl) rfl
theorem q734 : (Jvm.Cond.privateMethod ({ cls := "PromisePounds$Reader", name := "promise", desc := "()V" } : Jvm.MethodName)) ∈ lw_tbl := lw_at lw_m3 179 rfl
theorem q735 : (Jvm.Cond.instanceMethod ({ cls := "PromisePounds$Reader", name := "promise", desc := "()V" } : Jvm.MethodName)) ∈ lw_all := lw_g (lw_at lw_m3 180 rfl) rfl
theorem q736 : (Jvm.Cond.code ({ cls := "PromisePounds$Reader", name := "promise", desc := "()V" } : Jvm.MethodName) prog_12_method_14_code (5 : Nat) (Option.none : Option Jvm.ClassFile.FieldType)) ∈ lw_all := lw_g (lw_at lw_m3 181 rfl) rfl
theorem q737 : (Jvm.Cond.methodLink "PromisePounds$Reader" (140 : Nat) ({ cls := "PromisePounds$Parish", name := "give", desc := "(IIIII)V" } : Jvm.MethodName)) ∈ lw_all := lw_g (lw_at lw_m3 182 rfl) rfl
theorem q1670 : (Jvm.Cond.castable "PromisePounds$Reader" "java/lang/Object") ∈ lw_tbl := lw_at lw_m7 155 rfl
theorem in_X6 : ∀ w ∈ wsX60, w ∈ lw_all := lw_in wsX60 [465, 467, 469, 471, 473, 475, 477] (by decide +kernel) (by decide +kernel)
/-! PromisePounds$Fault -/
set_option maxRecDepth 100000
def RX7 : String := "PromisePounds$Fault"
def TX7 : u_T := fun k => match k with
  | 0 => ("java/lang/Throwable", "cause", "Ljava/lang/Throwable;", false)
  | 1 => ("java/lang/Throwable", "stackTrace", "[Ljava/lang/StackTraceElement;", false)
  | 2 => ("java/lang/Throwable", "suppressedExceptions", "Ljava/util/List;", false)
  | 3 => ("java/lang/Throwable", "detailMessage", "Ljava/lang/String;", false)
  | 4 => ("java/lang/Throwable", "backtrace", "Ljava/lang/Object;", false)
  | 5 => ("java/lang/Throwable", "depth", "I", false)
  | 6 => ("PromisePounds$Fault", "kind", "I", true)
  | _ => ("PromisePounds$Fault", "place", "I", true)
def tyX7 : Nat → FieldType := fun k => match k with
  | 0 => .object "java/lang/Throwable"
  | 1 => .array (.object "java/lang/StackTraceElement")
  | 2 => .object "java/util/List"
  | 3 => .object "java/lang/String"
  | 4 => .object "java/lang/Object"
  | 5 => .int
  | 6 => .int
  | _ => .int
abbrev wsX70 : List Cond := u_ws RX7 TX7 8
theorem nmX7 : ∀ a, a < 8 → ∀ b, b < 8 → a ≠ b → (TX7 a).2.1 ≠ (TX7 b).2.1 := by decide +kernel
theorem tyX7_ok : ∀ k, k < 8 → parseFieldDescriptor (TX7 k).2.2.1 = some (tyX7 k) := by decide +kernel
abbrev cX7_init : ByteArray := prog_4_method_1_code
def yX7_init : MethodName := ⟨RX7, "<init>", "(II)V"⟩
def dkwX7_init_0 : List UInt8 := [42, 1, 1, 3, 3, 183, 0, 1, 42, 27, 181, 0, 7, 42, 28, 181, 0, 13, 177]
abbrev dktX7_init_0 : List UInt8 := dkwX7_init_0 ++ []
theorem dksX7_init_0 : cX7_init.data.toList.drop 0 = dktX7_init_0 := by decide +kernel
theorem dX7_init_0 : decode cX7_init 0 = .ok (.aload_n 0, 1) := dk_42 (dk_at dksX7_init_0 0 rfl rfl)
theorem dX7_init_1 : decode cX7_init 1 = .ok (.aconst_null, 1) := dk_1 (dk_at dksX7_init_0 1 rfl rfl)
theorem dX7_init_2 : decode cX7_init 2 = .ok (.aconst_null, 1) := dk_1 (dk_at dksX7_init_0 2 rfl rfl)
theorem dX7_init_3 : decode cX7_init 3 = .ok (.iconst 0, 1) := dk_3 (dk_at dksX7_init_0 3 rfl rfl)
theorem dX7_init_4 : decode cX7_init 4 = .ok (.iconst 0, 1) := dk_3 (dk_at dksX7_init_0 4 rfl rfl)
theorem dX7_init_5 : decode cX7_init 5 = .ok (.invokespecial 1, 3) := dk_183 0 1 (dk_at dksX7_init_0 5 rfl rfl)
theorem dX7_init_8 : decode cX7_init 8 = .ok (.aload_n 0, 1) := dk_42 (dk_at dksX7_init_0 8 rfl rfl)
theorem dX7_init_9 : decode cX7_init 9 = .ok (.iload_n 1, 1) := dk_27 (dk_at dksX7_init_0 9 rfl rfl)
theorem dX7_init_10 : decode cX7_init 10 = .ok (.putfield 7, 3) := dk_181 0 7 (dk_at dksX7_init_0 10 rfl rfl)
theorem dX7_init_13 : decode cX7_init 13 = .ok (.aload_n 0, 1) := dk_42 (dk_at dksX7_init_0 13 rfl rfl)
theorem dX7_init_14 : decode cX7_init 14 = .ok (.iload_n 2, 1) := dk_28 (dk_at dksX7_init_0 14 rfl rfl)
theorem dX7_init_15 : decode cX7_init 15 = .ok (.putfield 13, 3) := dk_181 0 13 (dk_at dksX7_init_0 15 rfl rfl)
theorem dX7_init_18 : decode cX7_init 18 = .ok (.return_, 1) := dk_177 (dk_at dksX7_init_0 18 rfl rfl)
theorem q93 : (Jvm.Cond.initialized "PromisePounds$Fault") ∈ lw_all := lw_g (lw_at lw_m1 18 rfl) rfl
theorem q323 : (Jvm.Cond.selects "PromisePounds$Fault" ({ cls := "java/lang/Throwable", name := "fillInStackTrace", desc := "()Ljava/lang/Throwable;" } : Jvm.MethodName) ({ cls := "java/lang/Throwable", name := "fillInStackTrace", desc := "()Ljava/lang/Throwable;" } : Jvm.MethodName)) ∈ lw_all := lw_g (lw_at lw_m2 8 rfl) rfl
theorem q507 : (Jvm.Cond.instantiable "PromisePounds$Fault" (8 : Nat)) ∈ lw_all := lw_g (lw_at lw_m2 192 rfl) rfl
theorem q508 : (Jvm.Cond.castable "PromisePounds$Fault" "PromisePounds$Fault") ∈ lw_tbl := lw_at lw_m2 193 rfl
theorem q509 : (Jvm.Cond.selects "PromisePounds$Fault" ({ cls := "java/lang/Throwable", name := "fillInStackTrace", desc := "(I)Ljava/lang/Throwable;" } : Jvm.MethodName) ({ cls := "java/lang/Throwable", name := "fillInStackTrace", desc := "(I)Ljava/lang/Throwable;" } : Jvm.MethodName)) ∈ lw_all := lw_g (lw_at lw_m2 194 rfl) rfl
theorem q510 : (Jvm.Cond.lays "PromisePounds$Fault" "java/lang/Throwable" "cause" "Ljava/lang/Throwable;") ∈ lw_all := lw_g (lw_at lw_m2 195 rfl) rfl
theorem q511 : (Jvm.Cond.lays "PromisePounds$Fault" "java/lang/Throwable" "stackTrace" "[Ljava/lang/StackTraceElement;") ∈ lw_all := lw_g (lw_at lw_m2 196 rfl) rfl
theorem q512 : (Jvm.Cond.lays "PromisePounds$Fault" "java/lang/Throwable" "suppressedExceptions" "Ljava/util/List;") ∈ lw_all := lw_g (lw_at lw_m2 197 rfl) rfl
theorem q513 : (Jvm.Cond.lays "PromisePounds$Fault" "java/lang/Throwable" "detailMessage" "Ljava/lang/String;") ∈ lw_all := lw_g (lw_at lw_m2 198 rfl) rfl
theorem q514 : (Jvm.Cond.lays "PromisePounds$Fault" "java/lang/Throwable" "backtrace" "Ljava/lang/Object;") ∈ lw_all := lw_g (lw_at lw_m2 199 rfl) rfl
theorem q516 : (Jvm.Cond.instanceMethod ({ cls := "PromisePounds$Fault", name := "<init>", desc := "(II)V" } : Jvm.MethodName)) ∈ lw_all := lw_g (lw_at lw_m2 201 rfl) rfl
theorem q517 : (Jvm.Cond.code ({ cls := "PromisePounds$Fault", name := "<init>", desc := "(II)V" } : Jvm.MethodName) prog_4_method_1_code (3 : Nat) (Option.none : Option Jvm.ClassFile.FieldType)) ∈ lw_all := lw_g (lw_at lw_m2 202 rfl) rfl
theorem q518 : (Jvm.Cond.methodLink "PromisePounds$Fault" (1 : Nat) ({ cls := "java/lang/Exception", name := "<init>", desc := "(Ljava/lang/String;Ljava/lang/Throwable;ZZ)V" } : Jvm.MethodName)) ∈ lw_all := lw_g (lw_at lw_m2 203 rfl) rfl
theorem q519 : (Jvm.Cond.fieldLink "PromisePounds$Fault" (7 : Nat) "PromisePounds$Fault" "kind" "I") ∈ lw_all := lw_g (lw_at lw_m2 204 rfl) rfl
theorem q521 : (Jvm.Cond.fieldLink "PromisePounds$Fault" (13 : Nat) "PromisePounds$Fault" "place" "I") ∈ lw_all := lw_g (lw_at lw_m2 206 rfl) rfl
theorem q523 : (Jvm.Cond.laysFinal "PromisePounds$Fault" "PromisePounds$Fault" "kind" "I") ∈ lw_all := lw_g (lw_at lw_m2 208 rfl) rfl
theorem q524 : (Jvm.Cond.soleField "PromisePounds$Fault" "kind") ∈ lw_all := lw_g (lw_at lw_m2 209 rfl) rfl
theorem q525 : (Jvm.Cond.laysFinal "PromisePounds$Fault" "PromisePounds$Fault" "place" "I") ∈ lw_all := lw_g (lw_at lw_m2 210 rfl) rfl
theorem q526 : (Jvm.Cond.soleField "PromisePounds$Fault" "place") ∈ lw_all := lw_g (lw_at lw_m2 211 rfl) rfl
theorem q527 : (Jvm.Cond.lays "PromisePounds$Fault" "java/lang/Throwable" "depth" "I") ∈ lw_all := lw_g (lw_at lw_m2 212 rfl) rfl
theorem q528 : (Jvm.Cond.superclass "PromisePounds$Fault" "java/lang/Exception") ∈ lw_all := lw_g (lw_at lw_m2 213 rfl) rfl
theorem q707 : (Jvm.Cond.selects "PromisePounds$Fault" ({ cls := "java/lang/Object", name := "getClass", desc := "()Ljava/lang/Class;" } : Jvm.MethodName) ({ cls := "java/lang/Object", name := "getClass", desc := "()Ljava/lang/Class;" } : Jvm.MethodName)) ∈ lw_all := lw_g (lw_at lw_m3 152 rfl) rfl
theorem q1671 : (Jvm.Cond.castable "PromisePounds$Fault" "java/lang/Object") ∈ lw_tbl := lw_at lw_m7 156 rfl
theorem in_X7 : ∀ w ∈ wsX70, w ∈ lw_all := lw_in wsX70 [510, 511, 512, 513, 514, 527, 523, 525] (by decide +kernel) (by decide +kernel)
/-! PromisePounds$Person -/
set_option maxRecDepth 100000
def RX8 : String := "PromisePounds$Person"
abbrev cX8_init : ByteArray := prog_11_method_1_code
def yX8_init : MethodName := ⟨RX8, "<init>", "(I)V"⟩
def dkwX8_init_0 : List UInt8 := [42, 183, 0, 1, 42, 27, 181, 0, 7, 177]
abbrev dktX8_init_0 : List UInt8 := dkwX8_init_0 ++ []
theorem dksX8_init_0 : cX8_init.data.toList.drop 0 = dktX8_init_0 := by decide +kernel
theorem dX8_init_0 : decode cX8_init 0 = .ok (.aload_n 0, 1) := dk_42 (dk_at dksX8_init_0 0 rfl rfl)
theorem dX8_init_1 : decode cX8_init 1 = .ok (.invokespecial 1, 3) := dk_183 0 1 (dk_at dksX8_init_0 1 rfl rfl)
theorem dX8_init_4 : decode cX8_init 4 = .ok (.aload_n 0, 1) := dk_42 (dk_at dksX8_init_0 4 rfl rfl)
theorem dX8_init_5 : decode cX8_init 5 = .ok (.iload_n 1, 1) := dk_27 (dk_at dksX8_init_0 5 rfl rfl)
theorem dX8_init_6 : decode cX8_init 6 = .ok (.putfield 7, 3) := dk_181 0 7 (dk_at dksX8_init_0 6 rfl rfl)
theorem dX8_init_9 : decode cX8_init 9 = .ok (.return_, 1) := dk_177 (dk_at dksX8_init_0 9 rfl rfl)
abbrev cX8_grows : ByteArray := prog_11_method_4_code
def yX8_grows : MethodName := ⟨RX8, "grows", "()Z"⟩
theorem dX8_grows_0 : decode cX8_grows 0 = .ok (.iconst 0, 1) := by decide +kernel
theorem dX8_grows_1 : decode cX8_grows 1 = .ok (.ireturn, 1) := by decide +kernel
abbrev cX8_isVotedFor : ByteArray := prog_11_method_5_code
def yX8_isVotedFor : MethodName := ⟨RX8, "isVotedFor", "()Z"⟩
theorem dX8_isVotedFor_0 : decode cX8_isVotedFor 0 = .ok (.iconst 0, 1) := by decide +kernel
theorem dX8_isVotedFor_1 : decode cX8_isVotedFor 1 = .ok (.ireturn, 1) := by decide +kernel
abbrev cX8_number : ByteArray := prog_11_method_6_code
def yX8_number : MethodName := ⟨RX8, "number", "()I"⟩
theorem dX8_number_0 : decode cX8_number 0 = .ok (.aload_n 0, 1) := by decide +kernel
theorem dX8_number_1 : decode cX8_number 1 = .ok (.getfield 7, 3) := by decide +kernel
theorem dX8_number_4 : decode cX8_number 4 = .ok (.ireturn, 1) := by decide +kernel
abbrev cX8_size : ByteArray := prog_11_method_7_code
def yX8_size : MethodName := ⟨RX8, "size", "(LPromisePounds$Trail;LPromisePounds$Parish;)I"⟩
def dkwX8_size_0 : List UInt8 := [43, 16, 10, 182, 0, 13, 44, 42, 180, 0, 7, 182, 0, 19, 172]
abbrev dktX8_size_0 : List UInt8 := dkwX8_size_0 ++ []
theorem dksX8_size_0 : cX8_size.data.toList.drop 0 = dktX8_size_0 := by decide +kernel
theorem dX8_size_0 : decode cX8_size 0 = .ok (.aload_n 1, 1) := dk_43 (dk_at dksX8_size_0 0 rfl rfl)
theorem dX8_size_1 : decode cX8_size 1 = .ok (.bipush 10, 2) := dk_16 10 (dk_at dksX8_size_0 1 rfl rfl)
theorem dX8_size_3 : decode cX8_size 3 = .ok (.invokevirtual 13, 3) := dk_182 0 13 (dk_at dksX8_size_0 3 rfl rfl)
theorem dX8_size_6 : decode cX8_size 6 = .ok (.aload_n 2, 1) := dk_44 (dk_at dksX8_size_0 6 rfl rfl)
theorem dX8_size_7 : decode cX8_size 7 = .ok (.aload_n 0, 1) := dk_42 (dk_at dksX8_size_0 7 rfl rfl)
theorem dX8_size_8 : decode cX8_size 8 = .ok (.getfield 7, 3) := dk_180 0 7 (dk_at dksX8_size_0 8 rfl rfl)
theorem dX8_size_11 : decode cX8_size 11 = .ok (.invokevirtual 19, 3) := dk_182 0 19 (dk_at dksX8_size_0 11 rfl rfl)
theorem dX8_size_14 : decode cX8_size 14 = .ok (.ireturn, 1) := dk_172 (dk_at dksX8_size_0 14 rfl rfl)
theorem q97 : (Jvm.Cond.initialized "PromisePounds$Person") ∈ lw_all := lw_g (lw_at lw_m1 22 rfl) rfl
theorem q628 : (Jvm.Cond.instanceMethod ({ cls := "PromisePounds$Person", name := "<init>", desc := "(I)V" } : Jvm.MethodName)) ∈ lw_all := lw_g (lw_at lw_m3 73 rfl) rfl
theorem q629 : (Jvm.Cond.code ({ cls := "PromisePounds$Person", name := "<init>", desc := "(I)V" } : Jvm.MethodName) prog_11_method_1_code (2 : Nat) (Option.none : Option Jvm.ClassFile.FieldType)) ∈ lw_all := lw_g (lw_at lw_m3 74 rfl) rfl
theorem q630 : (Jvm.Cond.methodLink "PromisePounds$Person" (1 : Nat) ({ cls := "java/lang/Object", name := "<init>", desc := "()V" } : Jvm.MethodName)) ∈ lw_all := lw_g (lw_at lw_m3 75 rfl) rfl
theorem q631 : (Jvm.Cond.fieldLink "PromisePounds$Person" (7 : Nat) "PromisePounds$Person" "number" "I") ∈ lw_all := lw_g (lw_at lw_m3 76 rfl) rfl
theorem q633 : (Jvm.Cond.soleField "PromisePounds$Person" "number") ∈ lw_all := lw_g (lw_at lw_m3 78 rfl) rfl
theorem q805 : (Jvm.Cond.declares ({ cls := "PromisePounds$Person", name := "pounds", desc := "(IZ)I" } : Jvm.MethodName)) ∈ lw_tbl := lw_at lw_m4 10 rfl
theorem q806 : (Jvm.Cond.sameMethod "PromisePounds$Person" "PromisePounds$Person" "pounds" "(IZ)I") ∈ lw_all := lw_g (lw_at lw_m4 11 rfl) rfl
theorem q874 : (Jvm.Cond.instanceMethod ({ cls := "PromisePounds$Person", name := "grows", desc := "()Z" } : Jvm.MethodName)) ∈ lw_all := lw_g (lw_at lw_m4 79 rfl) rfl
theorem q875 : (Jvm.Cond.sameMethod "PromisePounds$Person" "PromisePounds$Person" "grows" "()Z") ∈ lw_all := lw_g (lw_at lw_m4 80 rfl) rfl
theorem q883 : (Jvm.Cond.code ({ cls := "PromisePounds$Person", name := "grows", desc := "()Z" } : Jvm.MethodName) prog_11_method_4_code (1 : Nat) (Option.some Jvm.ClassFile.FieldType.boolean)) ∈ lw_all := lw_g (lw_at lw_m4 88 rfl) rfl
theorem q980 : (Jvm.Cond.instanceMethod ({ cls := "PromisePounds$Person", name := "isVotedFor", desc := "()Z" } : Jvm.MethodName)) ∈ lw_all := lw_g (lw_at lw_m4 185 rfl) rfl
theorem q981 : (Jvm.Cond.sameMethod "PromisePounds$Person" "PromisePounds$Person" "isVotedFor" "()Z") ∈ lw_all := lw_g (lw_at lw_m4 186 rfl) rfl
theorem q989 : (Jvm.Cond.code ({ cls := "PromisePounds$Person", name := "isVotedFor", desc := "()Z" } : Jvm.MethodName) prog_11_method_5_code (1 : Nat) (Option.some Jvm.ClassFile.FieldType.boolean)) ∈ lw_all := lw_g (lw_at lw_m4 194 rfl) rfl
theorem q1063 : (Jvm.Cond.declares ({ cls := "PromisePounds$Person", name := "kind", desc := "()I" } : Jvm.MethodName)) ∈ lw_tbl := lw_at lw_m5 28 rfl
theorem q1064 : (Jvm.Cond.sameMethod "PromisePounds$Person" "PromisePounds$Person" "kind" "()I") ∈ lw_all := lw_g (lw_at lw_m5 29 rfl) rfl
theorem q1099 : (Jvm.Cond.instanceMethod ({ cls := "PromisePounds$Person", name := "number", desc := "()I" } : Jvm.MethodName)) ∈ lw_all := lw_g (lw_at lw_m5 64 rfl) rfl
theorem q1100 : (Jvm.Cond.sameMethod "PromisePounds$Person" "PromisePounds$Person" "number" "()I") ∈ lw_all := lw_g (lw_at lw_m5 65 rfl) rfl
theorem q1106 : (Jvm.Cond.code ({ cls := "PromisePounds$Person", name := "number", desc := "()I" } : Jvm.MethodName) prog_11_method_6_code (1 : Nat) (Option.some Jvm.ClassFile.FieldType.int)) ∈ lw_all := lw_g (lw_at lw_m5 71 rfl) rfl
theorem q1112 : (Jvm.Cond.instanceMethod ({ cls := "PromisePounds$Person", name := "size", desc := "(LPromisePounds$Trail;LPromisePounds$Parish;)I" } : Jvm.MethodName)) ∈ lw_all := lw_g (lw_at lw_m5 77 rfl) rfl
theorem q1113 : (Jvm.Cond.sameMethod "PromisePounds$Person" "PromisePounds$Person" "size" "(LPromisePounds$Trail;LPromisePounds$Parish;)I") ∈ lw_all := lw_g (lw_at lw_m5 78 rfl) rfl
theorem q1140 : (Jvm.Cond.superclass "PromisePounds$Person" "java/lang/Object") ∈ lw_all := lw_g (lw_at lw_m5 105 rfl) rfl
theorem q1152 : (Jvm.Cond.publicMethod ({ cls := "PromisePounds$Person", name := "number", desc := "()I" } : Jvm.MethodName)) ∈ lw_tbl := lw_at lw_m5 117 rfl
theorem q1167 : (Jvm.Cond.declares ({ cls := "PromisePounds$Person", name := "number", desc := "()I" } : Jvm.MethodName)) ∈ lw_tbl := lw_at lw_m5 132 rfl
theorem q1183 : (Jvm.Cond.code ({ cls := "PromisePounds$Person", name := "size", desc := "(LPromisePounds$Trail;LPromisePounds$Parish;)I" } : Jvm.MethodName) prog_11_method_7_code (3 : Nat) (Option.some Jvm.ClassFile.FieldType.int)) ∈ lw_all := lw_g (lw_at lw_m5 148 rfl) rfl
theorem q1184 : (Jvm.Cond.methodLink "PromisePounds$Person" (13 : Nat) ({ cls := "PromisePounds$Trail", name := "begins", desc := "(I)V" } : Jvm.MethodName)) ∈ lw_all := lw_g (lw_at lw_m5 149 rfl) rfl
theorem q1185 : (Jvm.Cond.methodLink "PromisePounds$Person" (19 : Nat) ({ cls := "PromisePounds$Parish", name := "load", desc := "(I)I" } : Jvm.MethodName)) ∈ lw_all := lw_g (lw_at lw_m5 150 rfl) rfl
/-! PromisePounds$Grown -/
set_option maxRecDepth 100000
def RX9 : String := "PromisePounds$Grown"
def TX9 : u_T := fun k => match k with
  | _ => ("PromisePounds$Person", "number", "I", true)
def tyX9 : Nat → FieldType := fun k => match k with
  | _ => .int
abbrev wsX90 : List Cond := u_ws RX9 TX9 1
theorem nmX9 : ∀ a, a < 1 → ∀ b, b < 1 → a ≠ b → (TX9 a).2.1 ≠ (TX9 b).2.1 := by decide +kernel
theorem tyX9_ok : ∀ k, k < 1 → parseFieldDescriptor (TX9 k).2.2.1 = some (tyX9 k) := by decide +kernel
abbrev cX9_init : ByteArray := prog_6_method_1_code
def yX9_init : MethodName := ⟨RX9, "<init>", "(I)V"⟩
def dkwX9_init_0 : List UInt8 := [42, 27, 183, 0, 3, 177]
abbrev dktX9_init_0 : List UInt8 := dkwX9_init_0 ++ []
theorem dksX9_init_0 : cX9_init.data.toList.drop 0 = dktX9_init_0 := by decide +kernel
theorem dX9_init_0 : decode cX9_init 0 = .ok (.aload_n 0, 1) := dk_42 (dk_at dksX9_init_0 0 rfl rfl)
theorem dX9_init_1 : decode cX9_init 1 = .ok (.iload_n 1, 1) := dk_27 (dk_at dksX9_init_0 1 rfl rfl)
theorem dX9_init_2 : decode cX9_init 2 = .ok (.invokespecial 3, 3) := dk_183 0 3 (dk_at dksX9_init_0 2 rfl rfl)
theorem dX9_init_5 : decode cX9_init 5 = .ok (.return_, 1) := dk_177 (dk_at dksX9_init_0 5 rfl rfl)
abbrev cX9_pounds : ByteArray := prog_6_method_3_code
def yX9_pounds : MethodName := ⟨RX9, "pounds", "(IZ)I"⟩
theorem dX9_pounds_0 : decode cX9_pounds 0 = .ok (.iload_n 1, 1) := by decide +kernel
theorem dX9_pounds_1 : decode cX9_pounds 1 = .ok (.ireturn, 1) := by decide +kernel
abbrev cX9_kind : ByteArray := prog_6_method_2_code
def yX9_kind : MethodName := ⟨RX9, "kind", "()I"⟩
theorem dX9_kind_0 : decode cX9_kind 0 = .ok (.iconst 1, 1) := by decide +kernel
theorem dX9_kind_1 : decode cX9_kind 1 = .ok (.ireturn, 1) := by decide +kernel
abbrev cX9_size : ByteArray := prog_6_method_4_code
def yX9_size : MethodName := ⟨RX9, "size", "(LPromisePounds$Trail;LPromisePounds$Parish;)I"⟩
def dkwX9_size_0 : List UInt8 := [43, 16, 11, 182, 0, 9, 42, 43, 44, 183, 0, 14, 42, 43, 44, 182, 0, 18, 96, 172]
abbrev dktX9_size_0 : List UInt8 := dkwX9_size_0 ++ []
theorem dksX9_size_0 : cX9_size.data.toList.drop 0 = dktX9_size_0 := by decide +kernel
theorem dX9_size_0 : decode cX9_size 0 = .ok (.aload_n 1, 1) := dk_43 (dk_at dksX9_size_0 0 rfl rfl)
theorem dX9_size_1 : decode cX9_size 1 = .ok (.bipush 11, 2) := dk_16 11 (dk_at dksX9_size_0 1 rfl rfl)
theorem dX9_size_3 : decode cX9_size 3 = .ok (.invokevirtual 9, 3) := dk_182 0 9 (dk_at dksX9_size_0 3 rfl rfl)
theorem dX9_size_6 : decode cX9_size 6 = .ok (.aload_n 0, 1) := dk_42 (dk_at dksX9_size_0 6 rfl rfl)
theorem dX9_size_7 : decode cX9_size 7 = .ok (.aload_n 1, 1) := dk_43 (dk_at dksX9_size_0 7 rfl rfl)
theorem dX9_size_8 : decode cX9_size 8 = .ok (.aload_n 2, 1) := dk_44 (dk_at dksX9_size_0 8 rfl rfl)
theorem dX9_size_9 : decode cX9_size 9 = .ok (.invokespecial 14, 3) := dk_183 0 14 (dk_at dksX9_size_0 9 rfl rfl)
theorem dX9_size_12 : decode cX9_size 12 = .ok (.aload_n 0, 1) := dk_42 (dk_at dksX9_size_0 12 rfl rfl)
theorem dX9_size_13 : decode cX9_size 13 = .ok (.aload_n 1, 1) := dk_43 (dk_at dksX9_size_0 13 rfl rfl)
theorem dX9_size_14 : decode cX9_size 14 = .ok (.aload_n 2, 1) := dk_44 (dk_at dksX9_size_0 14 rfl rfl)
theorem dX9_size_15 : decode cX9_size 15 = .ok (.invokevirtual 18, 3) := dk_182 0 18 (dk_at dksX9_size_0 15 rfl rfl)
theorem dX9_size_18 : decode cX9_size 18 = .ok (.iadd, 1) := dk_96 (dk_at dksX9_size_0 18 rfl rfl)
theorem dX9_size_19 : decode cX9_size 19 = .ok (.ireturn, 1) := dk_172 (dk_at dksX9_size_0 19 rfl rfl)
abbrev cX9_mark : ByteArray := prog_6_method_5_code
def yX9_mark : MethodName := ⟨RX9, "mark", "(LPromisePounds$Trail;LPromisePounds$Parish;)I"⟩
def dkwX9_mark_0 : List UInt8 := [43, 16, 21, 182, 0, 9, 42, 43, 44, 183, 0, 23, 44, 180, 0, 24, 42, 182, 0, 30, 46, 96, 172]
abbrev dktX9_mark_0 : List UInt8 := dkwX9_mark_0 ++ []
theorem dksX9_mark_0 : cX9_mark.data.toList.drop 0 = dktX9_mark_0 := by decide +kernel
theorem dX9_mark_0 : decode cX9_mark 0 = .ok (.aload_n 1, 1) := dk_43 (dk_at dksX9_mark_0 0 rfl rfl)
theorem dX9_mark_1 : decode cX9_mark 1 = .ok (.bipush 21, 2) := dk_16 21 (dk_at dksX9_mark_0 1 rfl rfl)
theorem dX9_mark_3 : decode cX9_mark 3 = .ok (.invokevirtual 9, 3) := dk_182 0 9 (dk_at dksX9_mark_0 3 rfl rfl)
theorem dX9_mark_6 : decode cX9_mark 6 = .ok (.aload_n 0, 1) := dk_42 (dk_at dksX9_mark_0 6 rfl rfl)
theorem dX9_mark_7 : decode cX9_mark 7 = .ok (.aload_n 1, 1) := dk_43 (dk_at dksX9_mark_0 7 rfl rfl)
theorem dX9_mark_8 : decode cX9_mark 8 = .ok (.aload_n 2, 1) := dk_44 (dk_at dksX9_mark_0 8 rfl rfl)
theorem dX9_mark_9 : decode cX9_mark 9 = .ok (.invokespecial 23, 3) := dk_183 0 23 (dk_at dksX9_mark_0 9 rfl rfl)
theorem dX9_mark_12 : decode cX9_mark 12 = .ok (.aload_n 2, 1) := dk_44 (dk_at dksX9_mark_0 12 rfl rfl)
theorem dX9_mark_13 : decode cX9_mark 13 = .ok (.getfield 24, 3) := dk_180 0 24 (dk_at dksX9_mark_0 13 rfl rfl)
theorem dX9_mark_16 : decode cX9_mark 16 = .ok (.aload_n 0, 1) := dk_42 (dk_at dksX9_mark_0 16 rfl rfl)
theorem dX9_mark_17 : decode cX9_mark 17 = .ok (.invokevirtual 30, 3) := dk_182 0 30 (dk_at dksX9_mark_0 17 rfl rfl)
theorem dX9_mark_20 : decode cX9_mark 20 = .ok (.iaload, 1) := dk_46 (dk_at dksX9_mark_0 20 rfl rfl)
theorem dX9_mark_21 : decode cX9_mark 21 = .ok (.iadd, 1) := dk_96 (dk_at dksX9_mark_0 21 rfl rfl)
theorem dX9_mark_22 : decode cX9_mark 22 = .ok (.ireturn, 1) := dk_172 (dk_at dksX9_mark_0 22 rfl rfl)
theorem q98 : (Jvm.Cond.initialized "PromisePounds$Grown") ∈ lw_all := lw_g (lw_at lw_m1 23 rfl) rfl
theorem q160 : (Jvm.Cond.fieldLink "PromisePounds$Grown" (24 : Nat) "PromisePounds$Parish" "strength" "[I") ∈ lw_all := lw_g (lw_at lw_m1 85 rfl) rfl
theorem q623 : (Jvm.Cond.instantiable "PromisePounds$Grown" (1 : Nat)) ∈ lw_all := lw_g (lw_at lw_m3 68 rfl) rfl
theorem q625 : (Jvm.Cond.instanceMethod ({ cls := "PromisePounds$Grown", name := "<init>", desc := "(I)V" } : Jvm.MethodName)) ∈ lw_all := lw_g (lw_at lw_m3 70 rfl) rfl
theorem q626 : (Jvm.Cond.code ({ cls := "PromisePounds$Grown", name := "<init>", desc := "(I)V" } : Jvm.MethodName) prog_6_method_1_code (2 : Nat) (Option.none : Option Jvm.ClassFile.FieldType)) ∈ lw_all := lw_g (lw_at lw_m3 71 rfl) rfl
theorem q627 : (Jvm.Cond.methodLink "PromisePounds$Grown" (3 : Nat) ({ cls := "PromisePounds$Person", name := "<init>", desc := "(I)V" } : Jvm.MethodName)) ∈ lw_all := lw_g (lw_at lw_m3 72 rfl) rfl
theorem q632 : (Jvm.Cond.laysFinal "PromisePounds$Grown" "PromisePounds$Person" "number" "I") ∈ lw_all := lw_g (lw_at lw_m3 77 rfl) rfl
theorem q634 : (Jvm.Cond.superclass "PromisePounds$Grown" "PromisePounds$Person") ∈ lw_all := lw_g (lw_at lw_m3 79 rfl) rfl
theorem q709 : (Jvm.Cond.selects "PromisePounds$Grown" ({ cls := "java/lang/Object", name := "getClass", desc := "()Ljava/lang/Class;" } : Jvm.MethodName) ({ cls := "java/lang/Object", name := "getClass", desc := "()Ljava/lang/Class;" } : Jvm.MethodName)) ∈ lw_all := lw_g (lw_at lw_m3 154 rfl) rfl
theorem q811 : (Jvm.Cond.instanceMethod ({ cls := "PromisePounds$Grown", name := "pounds", desc := "(IZ)I" } : Jvm.MethodName)) ∈ lw_all := lw_g (lw_at lw_m4 16 rfl) rfl
theorem q812 : (Jvm.Cond.code ({ cls := "PromisePounds$Grown", name := "pounds", desc := "(IZ)I" } : Jvm.MethodName) prog_6_method_3_code (3 : Nat) (Option.some Jvm.ClassFile.FieldType.int)) ∈ lw_all := lw_g (lw_at lw_m4 17 rfl) rfl
theorem q817 : (Jvm.Cond.selects "PromisePounds$Grown" ({ cls := "PromisePounds$Person", name := "pounds", desc := "(IZ)I" } : Jvm.MethodName) ({ cls := "PromisePounds$Grown", name := "pounds", desc := "(IZ)I" } : Jvm.MethodName)) ∈ lw_all := lw_g (lw_at lw_m4 22 rfl) rfl
theorem q880 : (Jvm.Cond.selects "PromisePounds$Grown" ({ cls := "PromisePounds$Person", name := "grows", desc := "()Z" } : Jvm.MethodName) ({ cls := "PromisePounds$Person", name := "grows", desc := "()Z" } : Jvm.MethodName)) ∈ lw_all := lw_g (lw_at lw_m4 85 rfl) rfl
theorem q986 : (Jvm.Cond.selects "PromisePounds$Grown" ({ cls := "PromisePounds$Person", name := "isVotedFor", desc := "()Z" } : Jvm.MethodName) ({ cls := "PromisePounds$Person", name := "isVotedFor", desc := "()Z" } : Jvm.MethodName)) ∈ lw_all := lw_g (lw_at lw_m4 191 rfl) rfl
theorem q1071 : (Jvm.Cond.selects "PromisePounds$Grown" ({ cls := "PromisePounds$Person", name := "kind", desc := "()I" } : Jvm.MethodName) ({ cls := "PromisePounds$Grown", name := "kind", desc := "()I" } : Jvm.MethodName)) ∈ lw_all := lw_g (lw_at lw_m5 36 rfl) rfl
theorem q1072 : (Jvm.Cond.instanceMethod ({ cls := "PromisePounds$Grown", name := "kind", desc := "()I" } : Jvm.MethodName)) ∈ lw_all := lw_g (lw_at lw_m5 37 rfl) rfl
theorem q1073 : (Jvm.Cond.code ({ cls := "PromisePounds$Grown", name := "kind", desc := "()I" } : Jvm.MethodName) prog_6_method_2_code (1 : Nat) (Option.some Jvm.ClassFile.FieldType.int)) ∈ lw_all := lw_g (lw_at lw_m5 38 rfl) rfl
theorem q1103 : (Jvm.Cond.selects "PromisePounds$Grown" ({ cls := "PromisePounds$Person", name := "number", desc := "()I" } : Jvm.MethodName) ({ cls := "PromisePounds$Person", name := "number", desc := "()I" } : Jvm.MethodName)) ∈ lw_all := lw_g (lw_at lw_m5 68 rfl) rfl
theorem q1122 : (Jvm.Cond.instanceMethod ({ cls := "PromisePounds$Grown", name := "size", desc := "(LPromisePounds$Trail;LPromisePounds$Parish;)I" } : Jvm.MethodName)) ∈ lw_all := lw_g (lw_at lw_m5 87 rfl) rfl
theorem q1123 : (Jvm.Cond.code ({ cls := "PromisePounds$Grown", name := "size", desc := "(LPromisePounds$Trail;LPromisePounds$Parish;)I" } : Jvm.MethodName) prog_6_method_4_code (3 : Nat) (Option.some Jvm.ClassFile.FieldType.int)) ∈ lw_all := lw_g (lw_at lw_m5 88 rfl) rfl
theorem q1124 : (Jvm.Cond.methodLink "PromisePounds$Grown" (9 : Nat) ({ cls := "PromisePounds$Trail", name := "begins", desc := "(I)V" } : Jvm.MethodName)) ∈ lw_all := lw_g (lw_at lw_m5 89 rfl) rfl
theorem q1125 : (Jvm.Cond.methodLink "PromisePounds$Grown" (14 : Nat) ({ cls := "PromisePounds$Person", name := "size", desc := "(LPromisePounds$Trail;LPromisePounds$Parish;)I" } : Jvm.MethodName)) ∈ lw_all := lw_g (lw_at lw_m5 90 rfl) rfl
theorem q1126 : (Jvm.Cond.methodLink "PromisePounds$Grown" (18 : Nat) ({ cls := "PromisePounds$Grown", name := "mark", desc := "(LPromisePounds$Trail;LPromisePounds$Parish;)I" } : Jvm.MethodName)) ∈ lw_all := lw_g (lw_at lw_m5 91 rfl) rfl
theorem q1127 : (Jvm.Cond.instanceMethod ({ cls := "PromisePounds$Grown", name := "mark", desc := "(LPromisePounds$Trail;LPromisePounds$Parish;)I" } : Jvm.MethodName)) ∈ lw_all := lw_g (lw_at lw_m5 92 rfl) rfl
theorem q1128 : (Jvm.Cond.selects "PromisePounds$Grown" ({ cls := "PromisePounds$Grown", name := "mark", desc := "(LPromisePounds$Trail;LPromisePounds$Parish;)I" } : Jvm.MethodName) ({ cls := "PromisePounds$Grown", name := "mark", desc := "(LPromisePounds$Trail;LPromisePounds$Parish;)I" } : Jvm.MethodName)) ∈ lw_all := lw_g (lw_at lw_m5 93 rfl) rfl
theorem q1129 : (Jvm.Cond.sameMethod "PromisePounds$Grown" "PromisePounds$Grown" "mark" "(LPromisePounds$Trail;LPromisePounds$Parish;)I") ∈ lw_all := lw_g (lw_at lw_m5 94 rfl) rfl
theorem q1139 : (Jvm.Cond.code ({ cls := "PromisePounds$Grown", name := "mark", desc := "(LPromisePounds$Trail;LPromisePounds$Parish;)I" } : Jvm.MethodName) prog_6_method_5_code (3 : Nat) (Option.some Jvm.ClassFile.FieldType.int)) ∈ lw_all := lw_g (lw_at lw_m5 104 rfl) rfl
theorem q1156 : (Jvm.Cond.castable "PromisePounds$Grown" "PromisePounds$Marked") ∈ lw_tbl := lw_at lw_m5 121 rfl
theorem q1157 : (Jvm.Cond.selects "PromisePounds$Grown" ({ cls := "PromisePounds$Marked", name := "number", desc := "()I" } : Jvm.MethodName) ({ cls := "PromisePounds$Person", name := "number", desc := "()I" } : Jvm.MethodName)) ∈ lw_all := lw_g (lw_at lw_m5 122 rfl) rfl
theorem q1158 : (Jvm.Cond.unhidden "PromisePounds$Grown" "number" "()I") ∈ lw_tbl := lw_at lw_m5 123 rfl
theorem q1165 : (Jvm.Cond.methodLink "PromisePounds$Grown" (30 : Nat) ({ cls := "PromisePounds$Grown", name := "number", desc := "()I" } : Jvm.MethodName)) ∈ lw_all := lw_g (lw_at lw_m5 130 rfl) rfl
theorem q1166 : (Jvm.Cond.sameMethod "PromisePounds$Grown" "PromisePounds$Person" "number" "()I") ∈ lw_all := lw_g (lw_at lw_m5 131 rfl) rfl
theorem q1169 : (Jvm.Cond.selects "PromisePounds$Grown" ({ cls := "PromisePounds$Grown", name := "number", desc := "()I" } : Jvm.MethodName) ({ cls := "PromisePounds$Person", name := "number", desc := "()I" } : Jvm.MethodName)) ∈ lw_all := lw_g (lw_at lw_m5 134 rfl) rfl
theorem q1176 : (Jvm.Cond.selects "PromisePounds$Grown" ({ cls := "PromisePounds$Person", name := "size", desc := "(LPromisePounds$Trail;LPromisePounds$Parish;)I" } : Jvm.MethodName) ({ cls := "PromisePounds$Grown", name := "size", desc := "(LPromisePounds$Trail;LPromisePounds$Parish;)I" } : Jvm.MethodName)) ∈ lw_all := lw_g (lw_at lw_m5 141 rfl) rfl
theorem q1191 : (Jvm.Cond.selects "PromisePounds$Grown" ({ cls := "PromisePounds$Marked", name := "mark", desc := "(LPromisePounds$Trail;LPromisePounds$Parish;)I" } : Jvm.MethodName) ({ cls := "PromisePounds$Grown", name := "mark", desc := "(LPromisePounds$Trail;LPromisePounds$Parish;)I" } : Jvm.MethodName)) ∈ lw_all := lw_g (lw_at lw_m5 156 rfl) rfl
theorem q1648 : (Jvm.Cond.sameMethod "PromisePounds$Grown" "PromisePounds$Grown" "pounds" "(IZ)I") ∈ lw_all := lw_g (lw_at lw_m7 133 rfl) rfl
theorem q1649 : (Jvm.Cond.sameMethod "PromisePounds$Grown" "PromisePounds$Grown" "size" "(LPromisePounds$Trail;LPromisePounds$Parish;)I") ∈ lw_all := lw_g (lw_at lw_m7 134 rfl) rfl
theorem q1656 : (Jvm.Cond.castable "PromisePounds$Grown" "PromisePounds$Person") ∈ lw_tbl := lw_at lw_m7 141 rfl
theorem q1672 : (Jvm.Cond.castable "PromisePounds$Grown" "java/lang/Object") ∈ lw_tbl := lw_at lw_m7 157 rfl
theorem in_X9 : ∀ w ∈ wsX90, w ∈ lw_all := lw_in wsX90 [632] (by decide +kernel) (by decide +kernel)
/-! PromisePounds$Candidate -/
set_option maxRecDepth 100000
def RX10 : String := "PromisePounds$Candidate"
def TX10 : u_T := fun k => match k with
  | _ => ("PromisePounds$Person", "number", "I", true)
def tyX10 : Nat → FieldType := fun k => match k with
  | _ => .int
abbrev wsX100 : List Cond := u_ws RX10 TX10 1
theorem nmX10 : ∀ a, a < 1 → ∀ b, b < 1 → a ≠ b → (TX10 a).2.1 ≠ (TX10 b).2.1 := by decide +kernel
theorem tyX10_ok : ∀ k, k < 1 → parseFieldDescriptor (TX10 k).2.2.1 = some (tyX10 k) := by decide +kernel
abbrev cX10_init : ByteArray := prog_2_method_1_code
def yX10_init : MethodName := ⟨RX10, "<init>", "(I)V"⟩
def dkwX10_init_0 : List UInt8 := [42, 27, 183, 0, 3, 177]
abbrev dktX10_init_0 : List UInt8 := dkwX10_init_0 ++ []
theorem dksX10_init_0 : cX10_init.data.toList.drop 0 = dktX10_init_0 := by decide +kernel
theorem dX10_init_0 : decode cX10_init 0 = .ok (.aload_n 0, 1) := dk_42 (dk_at dksX10_init_0 0 rfl rfl)
theorem dX10_init_1 : decode cX10_init 1 = .ok (.iload_n 1, 1) := dk_27 (dk_at dksX10_init_0 1 rfl rfl)
theorem dX10_init_2 : decode cX10_init 2 = .ok (.invokespecial 3, 3) := dk_183 0 3 (dk_at dksX10_init_0 2 rfl rfl)
theorem dX10_init_5 : decode cX10_init 5 = .ok (.return_, 1) := dk_177 (dk_at dksX10_init_0 5 rfl rfl)
abbrev cX10_pounds : ByteArray := prog_2_method_3_code
def yX10_pounds : MethodName := ⟨RX10, "pounds", "(IZ)I"⟩
def dkwX10_pounds_0 : List UInt8 := [42, 27, 28, 183, 0, 9, 5, 108, 172]
abbrev dktX10_pounds_0 : List UInt8 := dkwX10_pounds_0 ++ []
theorem dksX10_pounds_0 : cX10_pounds.data.toList.drop 0 = dktX10_pounds_0 := by decide +kernel
theorem dX10_pounds_0 : decode cX10_pounds 0 = .ok (.aload_n 0, 1) := dk_42 (dk_at dksX10_pounds_0 0 rfl rfl)
theorem dX10_pounds_1 : decode cX10_pounds 1 = .ok (.iload_n 1, 1) := dk_27 (dk_at dksX10_pounds_0 1 rfl rfl)
theorem dX10_pounds_2 : decode cX10_pounds 2 = .ok (.iload_n 2, 1) := dk_28 (dk_at dksX10_pounds_0 2 rfl rfl)
theorem dX10_pounds_3 : decode cX10_pounds 3 = .ok (.invokespecial 9, 3) := dk_183 0 9 (dk_at dksX10_pounds_0 3 rfl rfl)
theorem dX10_pounds_6 : decode cX10_pounds 6 = .ok (.iconst 2, 1) := dk_5 (dk_at dksX10_pounds_0 6 rfl rfl)
theorem dX10_pounds_7 : decode cX10_pounds 7 = .ok (.idiv, 1) := dk_108 (dk_at dksX10_pounds_0 7 rfl rfl)
theorem dX10_pounds_8 : decode cX10_pounds 8 = .ok (.ireturn, 1) := dk_172 (dk_at dksX10_pounds_0 8 rfl rfl)
abbrev cX10_isVotedFor : ByteArray := prog_2_method_4_code
def yX10_isVotedFor : MethodName := ⟨RX10, "isVotedFor", "()Z"⟩
theorem dX10_isVotedFor_0 : decode cX10_isVotedFor 0 = .ok (.iconst 1, 1) := by decide +kernel
theorem dX10_isVotedFor_1 : decode cX10_isVotedFor 1 = .ok (.ireturn, 1) := by decide +kernel
abbrev cX10_kind : ByteArray := prog_2_method_2_code
def yX10_kind : MethodName := ⟨RX10, "kind", "()I"⟩
theorem dX10_kind_0 : decode cX10_kind 0 = .ok (.iconst 2, 1) := by decide +kernel
theorem dX10_kind_1 : decode cX10_kind 1 = .ok (.ireturn, 1) := by decide +kernel
abbrev cX10_size : ByteArray := prog_2_method_5_code
def yX10_size : MethodName := ⟨RX10, "size", "(LPromisePounds$Trail;LPromisePounds$Parish;)I"⟩
def dkwX10_size_0 : List UInt8 := [43, 16, 12, 182, 0, 13, 42, 43, 44, 183, 0, 18, 116, 172]
abbrev dktX10_size_0 : List UInt8 := dkwX10_size_0 ++ []
theorem dksX10_size_0 : cX10_size.data.toList.drop 0 = dktX10_size_0 := by decide +kernel
theorem dX10_size_0 : decode cX10_size 0 = .ok (.aload_n 1, 1) := dk_43 (dk_at dksX10_size_0 0 rfl rfl)
theorem dX10_size_1 : decode cX10_size 1 = .ok (.bipush 12, 2) := dk_16 12 (dk_at dksX10_size_0 1 rfl rfl)
theorem dX10_size_3 : decode cX10_size 3 = .ok (.invokevirtual 13, 3) := dk_182 0 13 (dk_at dksX10_size_0 3 rfl rfl)
theorem dX10_size_6 : decode cX10_size 6 = .ok (.aload_n 0, 1) := dk_42 (dk_at dksX10_size_0 6 rfl rfl)
theorem dX10_size_7 : decode cX10_size 7 = .ok (.aload_n 1, 1) := dk_43 (dk_at dksX10_size_0 7 rfl rfl)
theorem dX10_size_8 : decode cX10_size 8 = .ok (.aload_n 2, 1) := dk_44 (dk_at dksX10_size_0 8 rfl rfl)
theorem dX10_size_9 : decode cX10_size 9 = .ok (.invokespecial 18, 3) := dk_183 0 18 (dk_at dksX10_size_0 9 rfl rfl)
theorem dX10_size_12 : decode cX10_size 12 = .ok (.ineg, 1) := dk_116 (dk_at dksX10_size_0 12 rfl rfl)
theorem dX10_size_13 : decode cX10_size 13 = .ok (.ireturn, 1) := dk_172 (dk_at dksX10_size_0 13 rfl rfl)
abbrev cX10_mark : ByteArray := prog_2_method_6_code
def yX10_mark : MethodName := ⟨RX10, "mark", "(LPromisePounds$Trail;LPromisePounds$Parish;)I"⟩
def dkwX10_mark_0 : List UInt8 := [43, 16, 24, 182, 0, 13, 5, 42, 43, 44, 183, 0, 22, 104, 172]
abbrev dktX10_mark_0 : List UInt8 := dkwX10_mark_0 ++ []
theorem dksX10_mark_0 : cX10_mark.data.toList.drop 0 = dktX10_mark_0 := by decide +kernel
theorem dX10_mark_0 : decode cX10_mark 0 = .ok (.aload_n 1, 1) := dk_43 (dk_at dksX10_mark_0 0 rfl rfl)
theorem dX10_mark_1 : decode cX10_mark 1 = .ok (.bipush 24, 2) := dk_16 24 (dk_at dksX10_mark_0 1 rfl rfl)
theorem dX10_mark_3 : decode cX10_mark 3 = .ok (.invokevirtual 13, 3) := dk_182 0 13 (dk_at dksX10_mark_0 3 rfl rfl)
theorem dX10_mark_6 : decode cX10_mark 6 = .ok (.iconst 2, 1) := dk_5 (dk_at dksX10_mark_0 6 rfl rfl)
theorem dX10_mark_7 : decode cX10_mark 7 = .ok (.aload_n 0, 1) := dk_42 (dk_at dksX10_mark_0 7 rfl rfl)
theorem dX10_mark_8 : decode cX10_mark 8 = .ok (.aload_n 1, 1) := dk_43 (dk_at dksX10_mark_0 8 rfl rfl)
theorem dX10_mark_9 : decode cX10_mark 9 = .ok (.aload_n 2, 1) := dk_44 (dk_at dksX10_mark_0 9 rfl rfl)
theorem dX10_mark_10 : decode cX10_mark 10 = .ok (.invokespecial 22, 3) := dk_183 0 22 (dk_at dksX10_mark_0 10 rfl rfl)
theorem dX10_mark_13 : decode cX10_mark 13 = .ok (.imul, 1) := dk_104 (dk_at dksX10_mark_0 13 rfl rfl)
theorem dX10_mark_14 : decode cX10_mark 14 = .ok (.ireturn, 1) := dk_172 (dk_at dksX10_mark_0 14 rfl rfl)
theorem q99 : (Jvm.Cond.initialized "PromisePounds$Candidate") ∈ lw_all := lw_g (lw_at lw_m1 24 rfl) rfl
theorem q636 : (Jvm.Cond.instantiable "PromisePounds$Candidate" (1 : Nat)) ∈ lw_all := lw_g (lw_at lw_m3 81 rfl) rfl
theorem q638 : (Jvm.Cond.instanceMethod ({ cls := "PromisePounds$Candidate", name := "<init>", desc := "(I)V" } : Jvm.MethodName)) ∈ lw_all := lw_g (lw_at lw_m3 83 rfl) rfl
theorem q639 : (Jvm.Cond.code ({ cls := "PromisePounds$Candidate", name := "<init>", desc := "(I)V" } : Jvm.MethodName) prog_2_method_1_code (2 : Nat) (Option.none : Option Jvm.ClassFile.FieldType)) ∈ lw_all := lw_g (lw_at lw_m3 84 rfl) rfl
theorem q640 : (Jvm.Cond.methodLink "PromisePounds$Candidate" (3 : Nat) ({ cls := "PromisePounds$Grown", name := "<init>", desc := "(I)V" } : Jvm.MethodName)) ∈ lw_all := lw_g (lw_at lw_m3 85 rfl) rfl
theorem q641 : (Jvm.Cond.laysFinal "PromisePounds$Candidate" "PromisePounds$Person" "number" "I") ∈ lw_all := lw_g (lw_at lw_m3 86 rfl) rfl
theorem q642 : (Jvm.Cond.superclass "PromisePounds$Candidate" "PromisePounds$Grown") ∈ lw_all := lw_g (lw_at lw_m3 87 rfl) rfl
theorem q705 : (Jvm.Cond.selects "PromisePounds$Candidate" ({ cls := "java/lang/Object", name := "getClass", desc := "()Ljava/lang/Class;" } : Jvm.MethodName) ({ cls := "java/lang/Object", name := "getClass", desc := "()Ljava/lang/Class;" } : Jvm.MethodName)) ∈ lw_all := lw_g (lw_at lw_m3 150 rfl) rfl
theorem q807 : (Jvm.Cond.selects "PromisePounds$Candidate" ({ cls := "PromisePounds$Person", name := "pounds", desc := "(IZ)I" } : Jvm.MethodName) ({ cls := "PromisePounds$Candidate", name := "pounds", desc := "(IZ)I" } : Jvm.MethodName)) ∈ lw_all := lw_g (lw_at lw_m4 12 rfl) rfl
theorem q808 : (Jvm.Cond.instanceMethod ({ cls := "PromisePounds$Candidate", name := "pounds", desc := "(IZ)I" } : Jvm.MethodName)) ∈ lw_all := lw_g (lw_at lw_m4 13 rfl) rfl
theorem q809 : (Jvm.Cond.code ({ cls := "PromisePounds$Candidate", name := "pounds", desc := "(IZ)I" } : Jvm.MethodName) prog_2_method_3_code (3 : Nat) (Option.some Jvm.ClassFile.FieldType.int)) ∈ lw_all := lw_g (lw_at lw_m4 14 rfl) rfl
theorem q810 : (Jvm.Cond.methodLink "PromisePounds$Candidate" (9 : Nat) ({ cls := "PromisePounds$Grown", name := "pounds", desc := "(IZ)I" } : Jvm.MethodName)) ∈ lw_all := lw_g (lw_at lw_m4 15 rfl) rfl
theorem q876 : (Jvm.Cond.selects "PromisePounds$Candidate" ({ cls := "PromisePounds$Person", name := "grows", desc := "()Z" } : Jvm.MethodName) ({ cls := "PromisePounds$Person", name := "grows", desc := "()Z" } : Jvm.MethodName)) ∈ lw_all := lw_g (lw_at lw_m4 81 rfl) rfl
theorem q982 : (Jvm.Cond.selects "PromisePounds$Candidate" ({ cls := "PromisePounds$Person", name := "isVotedFor", desc := "()Z" } : Jvm.MethodName) ({ cls := "PromisePounds$Candidate", name := "isVotedFor", desc := "()Z" } : Jvm.MethodName)) ∈ lw_all := lw_g (lw_at lw_m4 187 rfl) rfl
theorem q983 : (Jvm.Cond.instanceMethod ({ cls := "PromisePounds$Candidate", name := "isVotedFor", desc := "()Z" } : Jvm.MethodName)) ∈ lw_all := lw_g (lw_at lw_m4 188 rfl) rfl
theorem q984 : (Jvm.Cond.code ({ cls := "PromisePounds$Candidate", name := "isVotedFor", desc := "()Z" } : Jvm.MethodName) prog_2_method_4_code (1 : Nat) (Option.some Jvm.ClassFile.FieldType.boolean)) ∈ lw_all := lw_g (lw_at lw_m4 189 rfl) rfl
theorem q1065 : (Jvm.Cond.selects "PromisePounds$Candidate" ({ cls := "PromisePounds$Person", name := "kind", desc := "()I" } : Jvm.MethodName) ({ cls := "PromisePounds$Candidate", name := "kind", desc := "()I" } : Jvm.MethodName)) ∈ lw_all := lw_g (lw_at lw_m5 30 rfl) rfl
theorem q1066 : (Jvm.Cond.instanceMethod ({ cls := "PromisePounds$Candidate", name := "kind", desc := "()I" } : Jvm.MethodName)) ∈ lw_all := lw_g (lw_at lw_m5 31 rfl) rfl
theorem q1067 : (Jvm.Cond.code ({ cls := "PromisePounds$Candidate", name := "kind", desc := "()I" } : Jvm.MethodName) prog_2_method_2_code (1 : Nat) (Option.some Jvm.ClassFile.FieldType.int)) ∈ lw_all := lw_g (lw_at lw_m5 32 rfl) rfl
theorem q1101 : (Jvm.Cond.selects "PromisePounds$Candidate" ({ cls := "PromisePounds$Person", name := "number", desc := "()I" } : Jvm.MethodName) ({ cls := "PromisePounds$Person", name := "number", desc := "()I" } : Jvm.MethodName)) ∈ lw_all := lw_g (lw_at lw_m5 66 rfl) rfl
theorem q1114 : (Jvm.Cond.selects "PromisePounds$Candidate" ({ cls := "PromisePounds$Person", name := "size", desc := "(LPromisePounds$Trail;LPromisePounds$Parish;)I" } : Jvm.MethodName) ({ cls := "PromisePounds$Candidate", name := "size", desc := "(LPromisePounds$Trail;LPromisePounds$Parish;)I" } : Jvm.MethodName)) ∈ lw_all := lw_g (lw_at lw_m5 79 rfl) rfl
theorem q1115 : (Jvm.Cond.instanceMethod ({ cls := "PromisePounds$Candidate", name := "size", desc := "(LPromisePounds$Trail;LPromisePounds$Parish;)I" } : Jvm.MethodName)) ∈ lw_all := lw_g (lw_at lw_m5 80 rfl) rfl
theorem q1116 : (Jvm.Cond.code ({ cls := "PromisePounds$Candidate", name := "size", desc := "(LPromisePounds$Trail;LPromisePounds$Parish;)I" } : Jvm.MethodName) prog_2_method_5_code (3 : Nat) (Option.some Jvm.ClassFile.FieldType.int)) ∈ lw_all := lw_g (lw_at lw_m5 81 rfl) rfl
theorem q1117 : (Jvm.Cond.methodLink "PromisePounds$Candidate" (13 : Nat) ({ cls := "PromisePounds$Trail", name := "begins", desc := "(I)V" } : Jvm.MethodName)) ∈ lw_all := lw_g (lw_at lw_m5 82 rfl) rfl
theorem q1121 : (Jvm.Cond.methodLink "PromisePounds$Candidate" (18 : Nat) ({ cls := "PromisePounds$Grown", name := "size", desc := "(LPromisePounds$Trail;LPromisePounds$Parish;)I" } : Jvm.MethodName)) ∈ lw_all := lw_g (lw_at lw_m5 86 rfl) rfl
theorem q1130 : (Jvm.Cond.selects "PromisePounds$Candidate" ({ cls := "PromisePounds$Grown", name := "mark", desc := "(LPromisePounds$Trail;LPromisePounds$Parish;)I" } : Jvm.MethodName) ({ cls := "PromisePounds$Candidate", name := "mark", desc := "(LPromisePounds$Trail;LPromisePounds$Parish;)I" } : Jvm.MethodName)) ∈ lw_all := lw_g (lw_at lw_m5 95 rfl) rfl
theorem q1131 : (Jvm.Cond.instanceMethod ({ cls := "PromisePounds$Candidate", name := "mark", desc := "(LPromisePounds$Trail;LPromisePounds$Parish;)I" } : Jvm.MethodName)) ∈ lw_all := lw_g (lw_at lw_m5 96 rfl) rfl
theorem q1132 : (Jvm.Cond.code ({ cls := "PromisePounds$Candidate", name := "mark", desc := "(LPromisePounds$Trail;LPromisePounds$Parish;)I" } : Jvm.MethodName) prog_2_method_6_code (3 : Nat) (Option.some Jvm.ClassFile.FieldType.int)) ∈ lw_all := lw_g (lw_at lw_m5 97 rfl) rfl
theorem q1133 : (Jvm.Cond.methodLink "PromisePounds$Candidate" (22 : Nat) ({ cls := "PromisePounds$Grown", name := "mark", desc := "(LPromisePounds$Trail;LPromisePounds$Parish;)I" } : Jvm.MethodName)) ∈ lw_all := lw_g (lw_at lw_m5 98 rfl) rfl
theorem q1149 : (Jvm.Cond.castable "PromisePounds$Candidate" "PromisePounds$Marked") ∈ lw_tbl := lw_at lw_m5 114 rfl
theorem q1150 : (Jvm.Cond.selects "PromisePounds$Candidate" ({ cls := "PromisePounds$Marked", name := "number", desc := "()I" } : Jvm.MethodName) ({ cls := "PromisePounds$Person", name := "number", desc := "()I" } : Jvm.MethodName)) ∈ lw_all := lw_g (lw_at lw_m5 115 rfl) rfl
theorem q1151 : (Jvm.Cond.unhidden "PromisePounds$Candidate" "number" "()I") ∈ lw_tbl := lw_at lw_m5 116 rfl
theorem q1168 : (Jvm.Cond.selects "PromisePounds$Candidate" ({ cls := "PromisePounds$Grown", name := "number", desc := "()I" } : Jvm.MethodName) ({ cls := "PromisePounds$Person", name := "number", desc := "()I" } : Jvm.MethodName)) ∈ lw_all := lw_g (lw_at lw_m5 133 rfl) rfl
theorem q1186 : (Jvm.Cond.selects "PromisePounds$Candidate" ({ cls := "PromisePounds$Marked", name := "mark", desc := "(LPromisePounds$Trail;LPromisePounds$Parish;)I" } : Jvm.MethodName) ({ cls := "PromisePounds$Candidate", name := "mark", desc := "(LPromisePounds$Trail;LPromisePounds$Parish;)I" } : Jvm.MethodName)) ∈ lw_all := lw_g (lw_at lw_m5 151 rfl) rfl
theorem q1654 : (Jvm.Cond.castable "PromisePounds$Candidate" "PromisePounds$Person") ∈ lw_tbl := lw_at lw_m7 139 rfl
theorem q1659 : (Jvm.Cond.castable "PromisePounds$Candidate" "PromisePounds$Grown") ∈ lw_tbl := lw_at lw_m7 144 rfl
theorem q1673 : (Jvm.Cond.castable "PromisePounds$Candidate" "java/lang/Object") ∈ lw_tbl := lw_at lw_m7 158 rfl
theorem in_X10 : ∀ w ∈ wsX100, w ∈ lw_all := lw_in wsX100 [641] (by decide +kernel) (by decide +kernel)
/-! PromisePounds$Lover -/
set_option maxRecDepth 100000
def RX11 : String := "PromisePounds$Lover"
def TX11 : u_T := fun k => match k with
  | _ => ("PromisePounds$Person", "number", "I", true)
def tyX11 : Nat → FieldType := fun k => match k with
  | _ => .int
abbrev wsX110 : List Cond := u_ws RX11 TX11 1
theorem nmX11 : ∀ a, a < 1 → ∀ b, b < 1 → a ≠ b → (TX11 a).2.1 ≠ (TX11 b).2.1 := by decide +kernel
theorem tyX11_ok : ∀ k, k < 1 → parseFieldDescriptor (TX11 k).2.2.1 = some (tyX11 k) := by decide +kernel
abbrev cX11_init : ByteArray := prog_8_method_1_code
def yX11_init : MethodName := ⟨RX11, "<init>", "(I)V"⟩
def dkwX11_init_0 : List UInt8 := [42, 27, 183, 0, 3, 177]
abbrev dktX11_init_0 : List UInt8 := dkwX11_init_0 ++ []
theorem dksX11_init_0 : cX11_init.data.toList.drop 0 = dktX11_init_0 := by decide +kernel
theorem dX11_init_0 : decode cX11_init 0 = .ok (.aload_n 0, 1) := dk_42 (dk_at dksX11_init_0 0 rfl rfl)
theorem dX11_init_1 : decode cX11_init 1 = .ok (.iload_n 1, 1) := dk_27 (dk_at dksX11_init_0 1 rfl rfl)
theorem dX11_init_2 : decode cX11_init 2 = .ok (.invokespecial 3, 3) := dk_183 0 3 (dk_at dksX11_init_0 2 rfl rfl)
theorem dX11_init_5 : decode cX11_init 5 = .ok (.return_, 1) := dk_177 (dk_at dksX11_init_0 5 rfl rfl)
abbrev cX11_pounds : ByteArray := prog_8_method_3_code
def yX11_pounds : MethodName := ⟨RX11, "pounds", "(IZ)I"⟩
def dkwX11_pounds_0 : List UInt8 := [28, 153, 0, 14, 5, 42, 27, 28, 183, 0, 9, 104, 167, 0, 9, 42, 27, 28, 183, 0, 9, 172]
abbrev dktX11_pounds_0 : List UInt8 := dkwX11_pounds_0 ++ []
theorem dksX11_pounds_0 : cX11_pounds.data.toList.drop 0 = dktX11_pounds_0 := by decide +kernel
theorem dX11_pounds_0 : decode cX11_pounds 0 = .ok (.iload_n 2, 1) := dk_28 (dk_at dksX11_pounds_0 0 rfl rfl)
theorem dX11_pounds_1 : decode cX11_pounds 1 = .ok (.ifCond .eq 14, 3) := dk_153 0 14 (dk_at dksX11_pounds_0 1 rfl rfl)
theorem dX11_pounds_4 : decode cX11_pounds 4 = .ok (.iconst 2, 1) := dk_5 (dk_at dksX11_pounds_0 4 rfl rfl)
theorem dX11_pounds_5 : decode cX11_pounds 5 = .ok (.aload_n 0, 1) := dk_42 (dk_at dksX11_pounds_0 5 rfl rfl)
theorem dX11_pounds_6 : decode cX11_pounds 6 = .ok (.iload_n 1, 1) := dk_27 (dk_at dksX11_pounds_0 6 rfl rfl)
theorem dX11_pounds_7 : decode cX11_pounds 7 = .ok (.iload_n 2, 1) := dk_28 (dk_at dksX11_pounds_0 7 rfl rfl)
theorem dX11_pounds_8 : decode cX11_pounds 8 = .ok (.invokespecial 9, 3) := dk_183 0 9 (dk_at dksX11_pounds_0 8 rfl rfl)
theorem dX11_pounds_11 : decode cX11_pounds 11 = .ok (.imul, 1) := dk_104 (dk_at dksX11_pounds_0 11 rfl rfl)
theorem dX11_pounds_12 : decode cX11_pounds 12 = .ok (.goto 9, 3) := dk_167 0 9 (dk_at dksX11_pounds_0 12 rfl rfl)
theorem dX11_pounds_15 : decode cX11_pounds 15 = .ok (.aload_n 0, 1) := dk_42 (dk_at dksX11_pounds_0 15 rfl rfl)
theorem dX11_pounds_16 : decode cX11_pounds 16 = .ok (.iload_n 1, 1) := dk_27 (dk_at dksX11_pounds_0 16 rfl rfl)
theorem dX11_pounds_17 : decode cX11_pounds 17 = .ok (.iload_n 2, 1) := dk_28 (dk_at dksX11_pounds_0 17 rfl rfl)
theorem dX11_pounds_18 : decode cX11_pounds 18 = .ok (.invokespecial 9, 3) := dk_183 0 9 (dk_at dksX11_pounds_0 18 rfl rfl)
theorem dX11_pounds_21 : decode cX11_pounds 21 = .ok (.ireturn, 1) := dk_172 (dk_at dksX11_pounds_0 21 rfl rfl)
abbrev cX11_kind : ByteArray := prog_8_method_2_code
def yX11_kind : MethodName := ⟨RX11, "kind", "()I"⟩
theorem dX11_kind_0 : decode cX11_kind 0 = .ok (.iconst 3, 1) := by decide +kernel
theorem dX11_kind_1 : decode cX11_kind 1 = .ok (.ireturn, 1) := by decide +kernel
abbrev cX11_mark : ByteArray := prog_8_method_4_code
def yX11_mark : MethodName := ⟨RX11, "mark", "(LPromisePounds$Trail;LPromisePounds$Parish;)I"⟩
def dkwX11_mark_0 : List UInt8 := [43, 16, 22, 182, 0, 13, 42, 43, 44, 183, 0, 18, 17, 3, 232, 100, 172]
abbrev dktX11_mark_0 : List UInt8 := dkwX11_mark_0 ++ []
theorem dksX11_mark_0 : cX11_mark.data.toList.drop 0 = dktX11_mark_0 := by decide +kernel
theorem dX11_mark_0 : decode cX11_mark 0 = .ok (.aload_n 1, 1) := dk_43 (dk_at dksX11_mark_0 0 rfl rfl)
theorem dX11_mark_1 : decode cX11_mark 1 = .ok (.bipush 22, 2) := dk_16 22 (dk_at dksX11_mark_0 1 rfl rfl)
theorem dX11_mark_3 : decode cX11_mark 3 = .ok (.invokevirtual 13, 3) := dk_182 0 13 (dk_at dksX11_mark_0 3 rfl rfl)
theorem dX11_mark_6 : decode cX11_mark 6 = .ok (.aload_n 0, 1) := dk_42 (dk_at dksX11_mark_0 6 rfl rfl)
theorem dX11_mark_7 : decode cX11_mark 7 = .ok (.aload_n 1, 1) := dk_43 (dk_at dksX11_mark_0 7 rfl rfl)
theorem dX11_mark_8 : decode cX11_mark 8 = .ok (.aload_n 2, 1) := dk_44 (dk_at dksX11_mark_0 8 rfl rfl)
theorem dX11_mark_9 : decode cX11_mark 9 = .ok (.invokespecial 18, 3) := dk_183 0 18 (dk_at dksX11_mark_0 9 rfl rfl)
theorem dX11_mark_12 : decode cX11_mark 12 = .ok (.sipush 1000, 3) := dk_17 3 232 (dk_at dksX11_mark_0 12 rfl rfl)
theorem dX11_mark_15 : decode cX11_mark 15 = .ok (.isub, 1) := dk_100 (dk_at dksX11_mark_0 15 rfl rfl)
theorem dX11_mark_16 : decode cX11_mark 16 = .ok (.ireturn, 1) := dk_172 (dk_at dksX11_mark_0 16 rfl rfl)
theorem q100 : (Jvm.Cond.initialized "PromisePounds$Lover") ∈ lw_all := lw_g (lw_at lw_m1 25 rfl) rfl
theorem q644 : (Jvm.Cond.instantiable "PromisePounds$Lover" (1 : Nat)) ∈ lw_all := lw_g (lw_at lw_m3 89 rfl) rfl
theorem q646 : (Jvm.Cond.instanceMethod ({ cls := "PromisePounds$Lover", name := "<init>", desc := "(I)V" } : Jvm.MethodName)) ∈ lw_all := lw_g (lw_at lw_m3 91 rfl) rfl
theorem q647 : (Jvm.Cond.code ({ cls := "PromisePounds$Lover", name := "<init>", desc := "(I)V" } : Jvm.MethodName) prog_8_method_1_code (2 : Nat) (Option.none : Option Jvm.ClassFile.FieldType)) ∈ lw_all := lw_g (lw_at lw_m3 92 rfl) rfl
theorem q648 : (Jvm.Cond.methodLink "PromisePounds$Lover" (3 : Nat) ({ cls := "PromisePounds$Grown", name := "<init>", desc := "(I)V" } : Jvm.MethodName)) ∈ lw_all := lw_g (lw_at lw_m3 93 rfl) rfl
theorem q649 : (Jvm.Cond.laysFinal "PromisePounds$Lover" "PromisePounds$Person" "number" "I") ∈ lw_all := lw_g (lw_at lw_m3 94 rfl) rfl
theorem q650 : (Jvm.Cond.superclass "PromisePounds$Lover" "PromisePounds$Grown") ∈ lw_all := lw_g (lw_at lw_m3 95 rfl) rfl
theorem q711 : (Jvm.Cond.selects "PromisePounds$Lover" ({ cls := "java/lang/Object", name := "getClass", desc := "()Ljava/lang/Class;" } : Jvm.MethodName) ({ cls := "java/lang/Object", name := "getClass", desc := "()Ljava/lang/Class;" } : Jvm.MethodName)) ∈ lw_all := lw_g (lw_at lw_m3 156 rfl) rfl
theorem q821 : (Jvm.Cond.selects "PromisePounds$Lover" ({ cls := "PromisePounds$Person", name := "pounds", desc := "(IZ)I" } : Jvm.MethodName) ({ cls := "PromisePounds$Lover", name := "pounds", desc := "(IZ)I" } : Jvm.MethodName)) ∈ lw_all := lw_g (lw_at lw_m4 26 rfl) rfl
theorem q822 : (Jvm.Cond.instanceMethod ({ cls := "PromisePounds$Lover", name := "pounds", desc := "(IZ)I" } : Jvm.MethodName)) ∈ lw_all := lw_g (lw_at lw_m4 27 rfl) rfl
theorem q823 : (Jvm.Cond.code ({ cls := "PromisePounds$Lover", name := "pounds", desc := "(IZ)I" } : Jvm.MethodName) prog_8_method_3_code (3 : Nat) (Option.some Jvm.ClassFile.FieldType.int)) ∈ lw_all := lw_g (lw_at lw_m4 28 rfl) rfl
theorem q824 : (Jvm.Cond.methodLink "PromisePounds$Lover" (9 : Nat) ({ cls := "PromisePounds$Grown", name := "pounds", desc := "(IZ)I" } : Jvm.MethodName)) ∈ lw_all := lw_g (lw_at lw_m4 29 rfl) rfl
theorem q882 : (Jvm.Cond.selects "PromisePounds$Lover" ({ cls := "PromisePounds$Person", name := "grows", desc := "()Z" } : Jvm.MethodName) ({ cls := "PromisePounds$Person", name := "grows", desc := "()Z" } : Jvm.MethodName)) ∈ lw_all := lw_g (lw_at lw_m4 87 rfl) rfl
theorem q988 : (Jvm.Cond.selects "PromisePounds$Lover" ({ cls := "PromisePounds$Person", name := "isVotedFor", desc := "()Z" } : Jvm.MethodName) ({ cls := "PromisePounds$Person", name := "isVotedFor", desc := "()Z" } : Jvm.MethodName)) ∈ lw_all := lw_g (lw_at lw_m4 193 rfl) rfl
theorem q1077 : (Jvm.Cond.selects "PromisePounds$Lover" ({ cls := "PromisePounds$Person", name := "kind", desc := "()I" } : Jvm.MethodName) ({ cls := "PromisePounds$Lover", name := "kind", desc := "()I" } : Jvm.MethodName)) ∈ lw_all := lw_g (lw_at lw_m5 42 rfl) rfl
theorem q1078 : (Jvm.Cond.instanceMethod ({ cls := "PromisePounds$Lover", name := "kind", desc := "()I" } : Jvm.MethodName)) ∈ lw_all := lw_g (lw_at lw_m5 43 rfl) rfl
theorem q1079 : (Jvm.Cond.code ({ cls := "PromisePounds$Lover", name := "kind", desc := "()I" } : Jvm.MethodName) prog_8_method_2_code (1 : Nat) (Option.some Jvm.ClassFile.FieldType.int)) ∈ lw_all := lw_g (lw_at lw_m5 44 rfl) rfl
theorem q1105 : (Jvm.Cond.selects "PromisePounds$Lover" ({ cls := "PromisePounds$Person", name := "number", desc := "()I" } : Jvm.MethodName) ({ cls := "PromisePounds$Person", name := "number", desc := "()I" } : Jvm.MethodName)) ∈ lw_all := lw_g (lw_at lw_m5 70 rfl) rfl
theorem q1134 : (Jvm.Cond.selects "PromisePounds$Lover" ({ cls := "PromisePounds$Grown", name := "mark", desc := "(LPromisePounds$Trail;LPromisePounds$Parish;)I" } : Jvm.MethodName) ({ cls := "PromisePounds$Lover", name := "mark", desc := "(LPromisePounds$Trail;LPromisePounds$Parish;)I" } : Jvm.MethodName)) ∈ lw_all := lw_g (lw_at lw_m5 99 rfl) rfl
theorem q1135 : (Jvm.Cond.instanceMethod ({ cls := "PromisePounds$Lover", name := "mark", desc := "(LPromisePounds$Trail;LPromisePounds$Parish;)I" } : Jvm.MethodName)) ∈ lw_all := lw_g (lw_at lw_m5 100 rfl) rfl
theorem q1136 : (Jvm.Cond.code ({ cls := "PromisePounds$Lover", name := "mark", desc := "(LPromisePounds$Trail;LPromisePounds$Parish;)I" } : Jvm.MethodName) prog_8_method_4_code (3 : Nat) (Option.some Jvm.ClassFile.FieldType.int)) ∈ lw_all := lw_g (lw_at lw_m5 101 rfl) rfl
theorem q1137 : (Jvm.Cond.methodLink "PromisePounds$Lover" (13 : Nat) ({ cls := "PromisePounds$Trail", name := "begins", desc := "(I)V" } : Jvm.MethodName)) ∈ lw_all := lw_g (lw_at lw_m5 102 rfl) rfl
theorem q1138 : (Jvm.Cond.methodLink "PromisePounds$Lover" (18 : Nat) ({ cls := "PromisePounds$Grown", name := "mark", desc := "(LPromisePounds$Trail;LPromisePounds$Parish;)I" } : Jvm.MethodName)) ∈ lw_all := lw_g (lw_at lw_m5 103 rfl) rfl
theorem q1162 : (Jvm.Cond.castable "PromisePounds$Lover" "PromisePounds$Marked") ∈ lw_tbl := lw_at lw_m5 127 rfl
theorem q1163 : (Jvm.Cond.selects "PromisePounds$Lover" ({ cls := "PromisePounds$Marked", name := "number", desc := "()I" } : Jvm.MethodName) ({ cls := "PromisePounds$Person", name := "number", desc := "()I" } : Jvm.MethodName)) ∈ lw_all := lw_g (lw_at lw_m5 128 rfl) rfl
theorem q1164 : (Jvm.Cond.unhidden "PromisePounds$Lover" "number" "()I") ∈ lw_tbl := lw_at lw_m5 129 rfl
theorem q1170 : (Jvm.Cond.selects "PromisePounds$Lover" ({ cls := "PromisePounds$Grown", name := "number", desc := "()I" } : Jvm.MethodName) ({ cls := "PromisePounds$Person", name := "number", desc := "()I" } : Jvm.MethodName)) ∈ lw_all := lw_g (lw_at lw_m5 135 rfl) rfl
theorem q1182 : (Jvm.Cond.selects "PromisePounds$Lover" ({ cls := "PromisePounds$Person", name := "size", desc := "(LPromisePounds$Trail;LPromisePounds$Parish;)I" } : Jvm.MethodName) ({ cls := "PromisePounds$Grown", name := "size", desc := "(LPromisePounds$Trail;LPromisePounds$Parish;)I" } : Jvm.MethodName)) ∈ lw_all := lw_g (lw_at lw_m5 147 rfl) rfl
theorem q1193 : (Jvm.Cond.selects "PromisePounds$Lover" ({ cls := "PromisePounds$Marked", name := "mark", desc := "(LPromisePounds$Trail;LPromisePounds$Parish;)I" } : Jvm.MethodName) ({ cls := "PromisePounds$Lover", name := "mark", desc := "(LPromisePounds$Trail;LPromisePounds$Parish;)I" } : Jvm.MethodName)) ∈ lw_all := lw_g (lw_at lw_m5 158 rfl) rfl
theorem q1658 : (Jvm.Cond.castable "PromisePounds$Lover" "PromisePounds$Person") ∈ lw_tbl := lw_at lw_m7 143 rfl
theorem q1660 : (Jvm.Cond.castable "PromisePounds$Lover" "PromisePounds$Grown") ∈ lw_tbl := lw_at lw_m7 145 rfl
theorem q1674 : (Jvm.Cond.castable "PromisePounds$Lover" "java/lang/Object") ∈ lw_tbl := lw_at lw_m7 159 rfl
theorem in_X11 : ∀ w ∈ wsX110, w ∈ lw_all := lw_in wsX110 [649] (by decide +kernel) (by decide +kernel)
/-! PromisePounds$Child -/
set_option maxRecDepth 100000
def RX12 : String := "PromisePounds$Child"
def TX12 : u_T := fun k => match k with
  | _ => ("PromisePounds$Person", "number", "I", true)
def tyX12 : Nat → FieldType := fun k => match k with
  | _ => .int
abbrev wsX120 : List Cond := u_ws RX12 TX12 1
theorem nmX12 : ∀ a, a < 1 → ∀ b, b < 1 → a ≠ b → (TX12 a).2.1 ≠ (TX12 b).2.1 := by decide +kernel
theorem tyX12_ok : ∀ k, k < 1 → parseFieldDescriptor (TX12 k).2.2.1 = some (tyX12 k) := by decide +kernel
abbrev cX12_init : ByteArray := prog_3_method_1_code
def yX12_init : MethodName := ⟨RX12, "<init>", "(I)V"⟩
def dkwX12_init_0 : List UInt8 := [42, 27, 183, 0, 3, 177]
abbrev dktX12_init_0 : List UInt8 := dkwX12_init_0 ++ []
theorem dksX12_init_0 : cX12_init.data.toList.drop 0 = dktX12_init_0 := by decide +kernel
theorem dX12_init_0 : decode cX12_init 0 = .ok (.aload_n 0, 1) := dk_42 (dk_at dksX12_init_0 0 rfl rfl)
theorem dX12_init_1 : decode cX12_init 1 = .ok (.iload_n 1, 1) := dk_27 (dk_at dksX12_init_0 1 rfl rfl)
theorem dX12_init_2 : decode cX12_init 2 = .ok (.invokespecial 3, 3) := dk_183 0 3 (dk_at dksX12_init_0 2 rfl rfl)
theorem dX12_init_5 : decode cX12_init 5 = .ok (.return_, 1) := dk_177 (dk_at dksX12_init_0 5 rfl rfl)
abbrev cX12_pounds : ByteArray := prog_3_method_3_code
def yX12_pounds : MethodName := ⟨RX12, "pounds", "(IZ)I"⟩
def dkwX12_pounds_0 : List UInt8 := [16, 10, 27, 184, 0, 9, 172]
abbrev dktX12_pounds_0 : List UInt8 := dkwX12_pounds_0 ++ []
theorem dksX12_pounds_0 : cX12_pounds.data.toList.drop 0 = dktX12_pounds_0 := by decide +kernel
theorem dX12_pounds_0 : decode cX12_pounds 0 = .ok (.bipush 10, 2) := dk_16 10 (dk_at dksX12_pounds_0 0 rfl rfl)
theorem dX12_pounds_2 : decode cX12_pounds 2 = .ok (.iload_n 1, 1) := dk_27 (dk_at dksX12_pounds_0 2 rfl rfl)
theorem dX12_pounds_3 : decode cX12_pounds 3 = .ok (.invokestatic 9, 3) := dk_184 0 9 (dk_at dksX12_pounds_0 3 rfl rfl)
theorem dX12_pounds_6 : decode cX12_pounds 6 = .ok (.ireturn, 1) := dk_172 (dk_at dksX12_pounds_0 6 rfl rfl)
abbrev cX12_grows : ByteArray := prog_3_method_4_code
def yX12_grows : MethodName := ⟨RX12, "grows", "()Z"⟩
theorem dX12_grows_0 : decode cX12_grows 0 = .ok (.iconst 1, 1) := by decide +kernel
theorem dX12_grows_1 : decode cX12_grows 1 = .ok (.ireturn, 1) := by decide +kernel
abbrev cX12_kind : ByteArray := prog_3_method_2_code
def yX12_kind : MethodName := ⟨RX12, "kind", "()I"⟩
theorem dX12_kind_0 : decode cX12_kind 0 = .ok (.iconst 4, 1) := by decide +kernel
theorem dX12_kind_1 : decode cX12_kind 1 = .ok (.ireturn, 1) := by decide +kernel
abbrev cX12_size : ByteArray := prog_3_method_5_code
def yX12_size : MethodName := ⟨RX12, "size", "(LPromisePounds$Trail;LPromisePounds$Parish;)I"⟩
def dkwX12_size_0 : List UInt8 := [43, 16, 13, 182, 0, 15, 42, 43, 44, 183, 0, 20, 16, 100, 100, 172]
abbrev dktX12_size_0 : List UInt8 := dkwX12_size_0 ++ []
theorem dksX12_size_0 : cX12_size.data.toList.drop 0 = dktX12_size_0 := by decide +kernel
theorem dX12_size_0 : decode cX12_size 0 = .ok (.aload_n 1, 1) := dk_43 (dk_at dksX12_size_0 0 rfl rfl)
theorem dX12_size_1 : decode cX12_size 1 = .ok (.bipush 13, 2) := dk_16 13 (dk_at dksX12_size_0 1 rfl rfl)
theorem dX12_size_3 : decode cX12_size 3 = .ok (.invokevirtual 15, 3) := dk_182 0 15 (dk_at dksX12_size_0 3 rfl rfl)
theorem dX12_size_6 : decode cX12_size 6 = .ok (.aload_n 0, 1) := dk_42 (dk_at dksX12_size_0 6 rfl rfl)
theorem dX12_size_7 : decode cX12_size 7 = .ok (.aload_n 1, 1) := dk_43 (dk_at dksX12_size_0 7 rfl rfl)
theorem dX12_size_8 : decode cX12_size 8 = .ok (.aload_n 2, 1) := dk_44 (dk_at dksX12_size_0 8 rfl rfl)
theorem dX12_size_9 : decode cX12_size 9 = .ok (.invokespecial 20, 3) := dk_183 0 20 (dk_at dksX12_size_0 9 rfl rfl)
theorem dX12_size_12 : decode cX12_size 12 = .ok (.bipush 100, 2) := dk_16 100 (dk_at dksX12_size_0 12 rfl rfl)
theorem dX12_size_14 : decode cX12_size 14 = .ok (.isub, 1) := dk_100 (dk_at dksX12_size_0 14 rfl rfl)
theorem dX12_size_15 : decode cX12_size 15 = .ok (.ireturn, 1) := dk_172 (dk_at dksX12_size_0 15 rfl rfl)
abbrev cX12_mark : ByteArray := prog_3_method_6_code
def yX12_mark : MethodName := ⟨RX12, "mark", "(LPromisePounds$Trail;LPromisePounds$Parish;)I"⟩
def dkwX12_mark_0 : List UInt8 := [43, 16, 23, 182, 0, 15, 42, 43, 44, 183, 0, 24, 42, 43, 44, 182, 0, 27, 100, 172]
abbrev dktX12_mark_0 : List UInt8 := dkwX12_mark_0 ++ []
theorem dksX12_mark_0 : cX12_mark.data.toList.drop 0 = dktX12_mark_0 := by decide +kernel
theorem dX12_mark_0 : decode cX12_mark 0 = .ok (.aload_n 1, 1) := dk_43 (dk_at dksX12_mark_0 0 rfl rfl)
theorem dX12_mark_1 : decode cX12_mark 1 = .ok (.bipush 23, 2) := dk_16 23 (dk_at dksX12_mark_0 1 rfl rfl)
theorem dX12_mark_3 : decode cX12_mark 3 = .ok (.invokevirtual 15, 3) := dk_182 0 15 (dk_at dksX12_mark_0 3 rfl rfl)
theorem dX12_mark_6 : decode cX12_mark 6 = .ok (.aload_n 0, 1) := dk_42 (dk_at dksX12_mark_0 6 rfl rfl)
theorem dX12_mark_7 : decode cX12_mark 7 = .ok (.aload_n 1, 1) := dk_43 (dk_at dksX12_mark_0 7 rfl rfl)
theorem dX12_mark_8 : decode cX12_mark 8 = .ok (.aload_n 2, 1) := dk_44 (dk_at dksX12_mark_0 8 rfl rfl)
theorem dX12_mark_9 : decode cX12_mark 9 = .ok (.invokespecial 24, 3) := dk_183 0 24 (dk_at dksX12_mark_0 9 rfl rfl)
theorem dX12_mark_12 : decode cX12_mark 12 = .ok (.aload_n 0, 1) := dk_42 (dk_at dksX12_mark_0 12 rfl rfl)
theorem dX12_mark_13 : decode cX12_mark 13 = .ok (.aload_n 1, 1) := dk_43 (dk_at dksX12_mark_0 13 rfl rfl)
theorem dX12_mark_14 : decode cX12_mark 14 = .ok (.aload_n 2, 1) := dk_44 (dk_at dksX12_mark_0 14 rfl rfl)
theorem dX12_mark_15 : decode cX12_mark 15 = .ok (.invokevirtual 27, 3) := dk_182 0 27 (dk_at dksX12_mark_0 15 rfl rfl)
theorem dX12_mark_18 : decode cX12_mark 18 = .ok (.isub, 1) := dk_100 (dk_at dksX12_mark_0 18 rfl rfl)
theorem dX12_mark_19 : decode cX12_mark 19 = .ok (.ireturn, 1) := dk_172 (dk_at dksX12_mark_0 19 rfl rfl)
theorem q101 : (Jvm.Cond.initialized "PromisePounds$Child") ∈ lw_all := lw_g (lw_at lw_m1 26 rfl) rfl
theorem q652 : (Jvm.Cond.instantiable "PromisePounds$Child" (1 : Nat)) ∈ lw_all := lw_g (lw_at lw_m3 97 rfl) rfl
theorem q654 : (Jvm.Cond.instanceMethod ({ cls := "PromisePounds$Child", name := "<init>", desc := "(I)V" } : Jvm.MethodName)) ∈ lw_all := lw_g (lw_at lw_m3 99 rfl) rfl
theorem q655 : (Jvm.Cond.code ({ cls := "PromisePounds$Child", name := "<init>", desc := "(I)V" } : Jvm.MethodName) prog_3_method_1_code (2 : Nat) (Option.none : Option Jvm.ClassFile.FieldType)) ∈ lw_all := lw_g (lw_at lw_m3 100 rfl) rfl
theorem q656 : (Jvm.Cond.methodLink "PromisePounds$Child" (3 : Nat) ({ cls := "PromisePounds$Person", name := "<init>", desc := "(I)V" } : Jvm.MethodName)) ∈ lw_all := lw_g (lw_at lw_m3 101 rfl) rfl
theorem q657 : (Jvm.Cond.laysFinal "PromisePounds$Child" "PromisePounds$Person" "number" "I") ∈ lw_all := lw_g (lw_at lw_m3 102 rfl) rfl
theorem q658 : (Jvm.Cond.superclass "PromisePounds$Child" "PromisePounds$Person") ∈ lw_all := lw_g (lw_at lw_m3 103 rfl) rfl
theorem q706 : (Jvm.Cond.selects "PromisePounds$Child" ({ cls := "java/lang/Object", name := "getClass", desc := "()Ljava/lang/Class;" } : Jvm.MethodName) ({ cls := "java/lang/Object", name := "getClass", desc := "()Ljava/lang/Class;" } : Jvm.MethodName)) ∈ lw_all := lw_g (lw_at lw_m3 151 rfl) rfl
theorem q813 : (Jvm.Cond.selects "PromisePounds$Child" ({ cls := "PromisePounds$Person", name := "pounds", desc := "(IZ)I" } : Jvm.MethodName) ({ cls := "PromisePounds$Child", name := "pounds", desc := "(IZ)I" } : Jvm.MethodName)) ∈ lw_all := lw_g (lw_at lw_m4 18 rfl) rfl
theorem q814 : (Jvm.Cond.instanceMethod ({ cls := "PromisePounds$Child", name := "pounds", desc := "(IZ)I" } : Jvm.MethodName)) ∈ lw_all := lw_g (lw_at lw_m4 19 rfl) rfl
theorem q815 : (Jvm.Cond.code ({ cls := "PromisePounds$Child", name := "pounds", desc := "(IZ)I" } : Jvm.MethodName) prog_3_method_3_code (3 : Nat) (Option.some Jvm.ClassFile.FieldType.int)) ∈ lw_all := lw_g (lw_at lw_m4 20 rfl) rfl
theorem q816 : (Jvm.Cond.methodLink "PromisePounds$Child" (9 : Nat) ({ cls := "java/lang/Math", name := "min", desc := "(II)I" } : Jvm.MethodName)) ∈ lw_all := lw_g (lw_at lw_m4 21 rfl) rfl
theorem q877 : (Jvm.Cond.selects "PromisePounds$Child" ({ cls := "PromisePounds$Person", name := "grows", desc := "()Z" } : Jvm.MethodName) ({ cls := "PromisePounds$Child", name := "grows", desc := "()Z" } : Jvm.MethodName)) ∈ lw_all := lw_g (lw_at lw_m4 82 rfl) rfl
theorem q878 : (Jvm.Cond.instanceMethod ({ cls := "PromisePounds$Child", name := "grows", desc := "()Z" } : Jvm.MethodName)) ∈ lw_all := lw_g (lw_at lw_m4 83 rfl) rfl
theorem q879 : (Jvm.Cond.code ({ cls := "PromisePounds$Child", name := "grows", desc := "()Z" } : Jvm.MethodName) prog_3_method_4_code (1 : Nat) (Option.some Jvm.ClassFile.FieldType.boolean)) ∈ lw_all := lw_g (lw_at lw_m4 84 rfl) rfl
theorem q985 : (Jvm.Cond.selects "PromisePounds$Child" ({ cls := "PromisePounds$Person", name := "isVotedFor", desc := "()Z" } : Jvm.MethodName) ({ cls := "PromisePounds$Person", name := "isVotedFor", desc := "()Z" } : Jvm.MethodName)) ∈ lw_all := lw_g (lw_at lw_m4 190 rfl) rfl
theorem q1068 : (Jvm.Cond.selects "PromisePounds$Child" ({ cls := "PromisePounds$Person", name := "kind", desc := "()I" } : Jvm.MethodName) ({ cls := "PromisePounds$Child", name := "kind", desc := "()I" } : Jvm.MethodName)) ∈ lw_all := lw_g (lw_at lw_m5 33 rfl) rfl
theorem q1069 : (Jvm.Cond.instanceMethod ({ cls := "PromisePounds$Child", name := "kind", desc := "()I" } : Jvm.MethodName)) ∈ lw_all := lw_g (lw_at lw_m5 34 rfl) rfl
theorem q1070 : (Jvm.Cond.code ({ cls := "PromisePounds$Child", name := "kind", desc := "()I" } : Jvm.MethodName) prog_3_method_2_code (1 : Nat) (Option.some Jvm.ClassFile.FieldType.int)) ∈ lw_all := lw_g (lw_at lw_m5 35 rfl) rfl
theorem q1102 : (Jvm.Cond.selects "PromisePounds$Child" ({ cls := "PromisePounds$Person", name := "number", desc := "()I" } : Jvm.MethodName) ({ cls := "PromisePounds$Person", name := "number", desc := "()I" } : Jvm.MethodName)) ∈ lw_all := lw_g (lw_at lw_m5 67 rfl) rfl
theorem q1153 : (Jvm.Cond.castable "PromisePounds$Child" "PromisePounds$Marked") ∈ lw_tbl := lw_at lw_m5 118 rfl
theorem q1154 : (Jvm.Cond.selects "PromisePounds$Child" ({ cls := "PromisePounds$Marked", name := "number", desc := "()I" } : Jvm.MethodName) ({ cls := "PromisePounds$Person", name := "number", desc := "()I" } : Jvm.MethodName)) ∈ lw_all := lw_g (lw_at lw_m5 119 rfl) rfl
theorem q1155 : (Jvm.Cond.unhidden "PromisePounds$Child" "number" "()I") ∈ lw_tbl := lw_at lw_m5 120 rfl
theorem q1171 : (Jvm.Cond.selects "PromisePounds$Child" ({ cls := "PromisePounds$Person", name := "size", desc := "(LPromisePounds$Trail;LPromisePounds$Parish;)I" } : Jvm.MethodName) ({ cls := "PromisePounds$Child", name := "size", desc := "(LPromisePounds$Trail;LPromisePounds$Parish;)I" } : Jvm.MethodName)) ∈ lw_all := lw_g (lw_at lw_m5 136 rfl) rfl
theorem q1172 : (Jvm.Cond.instanceMethod ({ cls := "PromisePounds$Child", name := "size", desc := "(LPromisePounds$Trail;LPromisePounds$Parish;)I" } : Jvm.MethodName)) ∈ lw_all := lw_g (lw_at lw_m5 137 rfl) rfl
theorem q1173 : (Jvm.Cond.code ({ cls := "PromisePounds$Child", name := "size", desc := "(LPromisePounds$Trail;LPromisePounds$Parish;)I" } : Jvm.MethodName) prog_3_method_5_code (3 : Nat) (Option.some Jvm.ClassFile.FieldType.int)) ∈ lw_all := lw_g (lw_at lw_m5 138 rfl) rfl
theorem q1174 : (Jvm.Cond.methodLink "PromisePounds$Child" (15 : Nat) ({ cls := "PromisePounds$Trail", name := "begins", desc := "(I)V" } : Jvm.MethodName)) ∈ lw_all := lw_g (lw_at lw_m5 139 rfl) rfl
theorem q1175 : (Jvm.Cond.methodLink "PromisePounds$Child" (20 : Nat) ({ cls := "PromisePounds$Person", name := "size", desc := "(LPromisePounds$Trail;LPromisePounds$Parish;)I" } : Jvm.MethodName)) ∈ lw_all := lw_g (lw_at lw_m5 140 rfl) rfl
theorem q1187 : (Jvm.Cond.selects "PromisePounds$Child" ({ cls := "PromisePounds$Marked", name := "mark", desc := "(LPromisePounds$Trail;LPromisePounds$Parish;)I" } : Jvm.MethodName) ({ cls := "PromisePounds$Child", name := "mark", desc := "(LPromisePounds$Trail;LPromisePounds$Parish;)I" } : Jvm.MethodName)) ∈ lw_all := lw_g (lw_at lw_m5 152 rfl) rfl
theorem q1188 : (Jvm.Cond.instanceMethod ({ cls := "PromisePounds$Child", name := "mark", desc := "(LPromisePounds$Trail;LPromisePounds$Parish;)I" } : Jvm.MethodName)) ∈ lw_all := lw_g (lw_at lw_m5 153 rfl) rfl
theorem q1189 : (Jvm.Cond.code ({ cls := "PromisePounds$Child", name := "mark", desc := "(LPromisePounds$Trail;LPromisePounds$Parish;)I" } : Jvm.MethodName) prog_3_method_6_code (3 : Nat) (Option.some Jvm.ClassFile.FieldType.int)) ∈ lw_all := lw_g (lw_at lw_m5 154 rfl) rfl
theorem q1190 : (Jvm.Cond.methodLink "PromisePounds$Child" (27 : Nat) ({ cls := "PromisePounds$Child", name := "size", desc := "(LPromisePounds$Trail;LPromisePounds$Parish;)I" } : Jvm.MethodName)) ∈ lw_all := lw_g (lw_at lw_m5 155 rfl) rfl
theorem q1650 : (Jvm.Cond.sameMethod "PromisePounds$Child" "PromisePounds$Child" "size" "(LPromisePounds$Trail;LPromisePounds$Parish;)I") ∈ lw_all := lw_g (lw_at lw_m7 135 rfl) rfl
theorem q1651 : (Jvm.Cond.selects "PromisePounds$Child" ({ cls := "PromisePounds$Child", name := "size", desc := "(LPromisePounds$Trail;LPromisePounds$Parish;)I" } : Jvm.MethodName) ({ cls := "PromisePounds$Child", name := "size", desc := "(LPromisePounds$Trail;LPromisePounds$Parish;)I" } : Jvm.MethodName)) ∈ lw_all := lw_g (lw_at lw_m7 136 rfl) rfl
theorem q1655 : (Jvm.Cond.castable "PromisePounds$Child" "PromisePounds$Person") ∈ lw_tbl := lw_at lw_m7 140 rfl
theorem q1675 : (Jvm.Cond.castable "PromisePounds$Child" "java/lang/Object") ∈ lw_tbl := lw_at lw_m7 160 rfl
theorem in_X12 : ∀ w ∈ wsX120, w ∈ lw_all := lw_in wsX120 [657] (by decide +kernel) (by decide +kernel)
/-! PromisePounds$Liar -/
set_option maxRecDepth 100000
def RX13 : String := "PromisePounds$Liar"
def TX13 : u_T := fun k => match k with
  | _ => ("PromisePounds$Person", "number", "I", true)
def tyX13 : Nat → FieldType := fun k => match k with
  | _ => .int
abbrev wsX130 : List Cond := u_ws RX13 TX13 1
theorem nmX13 : ∀ a, a < 1 → ∀ b, b < 1 → a ≠ b → (TX13 a).2.1 ≠ (TX13 b).2.1 := by decide +kernel
theorem tyX13_ok : ∀ k, k < 1 → parseFieldDescriptor (TX13 k).2.2.1 = some (tyX13 k) := by decide +kernel
abbrev cX13_init : ByteArray := prog_7_method_1_code
def yX13_init : MethodName := ⟨RX13, "<init>", "(I)V"⟩
def dkwX13_init_0 : List UInt8 := [42, 27, 183, 0, 3, 177]
abbrev dktX13_init_0 : List UInt8 := dkwX13_init_0 ++ []
theorem dksX13_init_0 : cX13_init.data.toList.drop 0 = dktX13_init_0 := by decide +kernel
theorem dX13_init_0 : decode cX13_init 0 = .ok (.aload_n 0, 1) := dk_42 (dk_at dksX13_init_0 0 rfl rfl)
theorem dX13_init_1 : decode cX13_init 1 = .ok (.iload_n 1, 1) := dk_27 (dk_at dksX13_init_0 1 rfl rfl)
theorem dX13_init_2 : decode cX13_init 2 = .ok (.invokespecial 3, 3) := dk_183 0 3 (dk_at dksX13_init_0 2 rfl rfl)
theorem dX13_init_5 : decode cX13_init 5 = .ok (.return_, 1) := dk_177 (dk_at dksX13_init_0 5 rfl rfl)
abbrev cX13_pounds : ByteArray := prog_7_method_3_code
def yX13_pounds : MethodName := ⟨RX13, "pounds", "(IZ)I"⟩
theorem dX13_pounds_0 : decode cX13_pounds 0 = .ok (.iconst 0, 1) := by decide +kernel
theorem dX13_pounds_1 : decode cX13_pounds 1 = .ok (.ireturn, 1) := by decide +kernel
abbrev cX13_kind : ByteArray := prog_7_method_2_code
def yX13_kind : MethodName := ⟨RX13, "kind", "()I"⟩
theorem dX13_kind_0 : decode cX13_kind 0 = .ok (.iconst 5, 1) := by decide +kernel
theorem dX13_kind_1 : decode cX13_kind 1 = .ok (.ireturn, 1) := by decide +kernel
abbrev cX13_size : ByteArray := prog_7_method_4_code
def yX13_size : MethodName := ⟨RX13, "size", "(LPromisePounds$Trail;LPromisePounds$Parish;)I"⟩
def dkwX13_size_0 : List UInt8 := [43, 16, 14, 182, 0, 9, 5, 42, 43, 44, 183, 0, 14, 104, 172]
abbrev dktX13_size_0 : List UInt8 := dkwX13_size_0 ++ []
theorem dksX13_size_0 : cX13_size.data.toList.drop 0 = dktX13_size_0 := by decide +kernel
theorem dX13_size_0 : decode cX13_size 0 = .ok (.aload_n 1, 1) := dk_43 (dk_at dksX13_size_0 0 rfl rfl)
theorem dX13_size_1 : decode cX13_size 1 = .ok (.bipush 14, 2) := dk_16 14 (dk_at dksX13_size_0 1 rfl rfl)
theorem dX13_size_3 : decode cX13_size 3 = .ok (.invokevirtual 9, 3) := dk_182 0 9 (dk_at dksX13_size_0 3 rfl rfl)
theorem dX13_size_6 : decode cX13_size 6 = .ok (.iconst 2, 1) := dk_5 (dk_at dksX13_size_0 6 rfl rfl)
theorem dX13_size_7 : decode cX13_size 7 = .ok (.aload_n 0, 1) := dk_42 (dk_at dksX13_size_0 7 rfl rfl)
theorem dX13_size_8 : decode cX13_size 8 = .ok (.aload_n 1, 1) := dk_43 (dk_at dksX13_size_0 8 rfl rfl)
theorem dX13_size_9 : decode cX13_size 9 = .ok (.aload_n 2, 1) := dk_44 (dk_at dksX13_size_0 9 rfl rfl)
theorem dX13_size_10 : decode cX13_size 10 = .ok (.invokespecial 14, 3) := dk_183 0 14 (dk_at dksX13_size_0 10 rfl rfl)
theorem dX13_size_13 : decode cX13_size 13 = .ok (.imul, 1) := dk_104 (dk_at dksX13_size_0 13 rfl rfl)
theorem dX13_size_14 : decode cX13_size 14 = .ok (.ireturn, 1) := dk_172 (dk_at dksX13_size_0 14 rfl rfl)
theorem q102 : (Jvm.Cond.initialized "PromisePounds$Liar") ∈ lw_all := lw_g (lw_at lw_m1 27 rfl) rfl
theorem q660 : (Jvm.Cond.instantiable "PromisePounds$Liar" (1 : Nat)) ∈ lw_all := lw_g (lw_at lw_m3 105 rfl) rfl
theorem q662 : (Jvm.Cond.instanceMethod ({ cls := "PromisePounds$Liar", name := "<init>", desc := "(I)V" } : Jvm.MethodName)) ∈ lw_all := lw_g (lw_at lw_m3 107 rfl) rfl
theorem q663 : (Jvm.Cond.code ({ cls := "PromisePounds$Liar", name := "<init>", desc := "(I)V" } : Jvm.MethodName) prog_7_method_1_code (2 : Nat) (Option.none : Option Jvm.ClassFile.FieldType)) ∈ lw_all := lw_g (lw_at lw_m3 108 rfl) rfl
theorem q664 : (Jvm.Cond.methodLink "PromisePounds$Liar" (3 : Nat) ({ cls := "PromisePounds$Child", name := "<init>", desc := "(I)V" } : Jvm.MethodName)) ∈ lw_all := lw_g (lw_at lw_m3 109 rfl) rfl
theorem q665 : (Jvm.Cond.laysFinal "PromisePounds$Liar" "PromisePounds$Person" "number" "I") ∈ lw_all := lw_g (lw_at lw_m3 110 rfl) rfl
theorem q666 : (Jvm.Cond.superclass "PromisePounds$Liar" "PromisePounds$Child") ∈ lw_all := lw_g (lw_at lw_m3 111 rfl) rfl
theorem q710 : (Jvm.Cond.selects "PromisePounds$Liar" ({ cls := "java/lang/Object", name := "getClass", desc := "()Ljava/lang/Class;" } : Jvm.MethodName) ({ cls := "java/lang/Object", name := "getClass", desc := "()Ljava/lang/Class;" } : Jvm.MethodName)) ∈ lw_all := lw_g (lw_at lw_m3 155 rfl) rfl
theorem q818 : (Jvm.Cond.selects "PromisePounds$Liar" ({ cls := "PromisePounds$Person", name := "pounds", desc := "(IZ)I" } : Jvm.MethodName) ({ cls := "PromisePounds$Liar", name := "pounds", desc := "(IZ)I" } : Jvm.MethodName)) ∈ lw_all := lw_g (lw_at lw_m4 23 rfl) rfl
theorem q819 : (Jvm.Cond.instanceMethod ({ cls := "PromisePounds$Liar", name := "pounds", desc := "(IZ)I" } : Jvm.MethodName)) ∈ lw_all := lw_g (lw_at lw_m4 24 rfl) rfl
theorem q820 : (Jvm.Cond.code ({ cls := "PromisePounds$Liar", name := "pounds", desc := "(IZ)I" } : Jvm.MethodName) prog_7_method_3_code (3 : Nat) (Option.some Jvm.ClassFile.FieldType.int)) ∈ lw_all := lw_g (lw_at lw_m4 25 rfl) rfl
theorem q881 : (Jvm.Cond.selects "PromisePounds$Liar" ({ cls := "PromisePounds$Person", name := "grows", desc := "()Z" } : Jvm.MethodName) ({ cls := "PromisePounds$Child", name := "grows", desc := "()Z" } : Jvm.MethodName)) ∈ lw_all := lw_g (lw_at lw_m4 86 rfl) rfl
theorem q987 : (Jvm.Cond.selects "PromisePounds$Liar" ({ cls := "PromisePounds$Person", name := "isVotedFor", desc := "()Z" } : Jvm.MethodName) ({ cls := "PromisePounds$Person", name := "isVotedFor", desc := "()Z" } : Jvm.MethodName)) ∈ lw_all := lw_g (lw_at lw_m4 192 rfl) rfl
theorem q1074 : (Jvm.Cond.selects "PromisePounds$Liar" ({ cls := "PromisePounds$Person", name := "kind", desc := "()I" } : Jvm.MethodName) ({ cls := "PromisePounds$Liar", name := "kind", desc := "()I" } : Jvm.MethodName)) ∈ lw_all := lw_g (lw_at lw_m5 39 rfl) rfl
theorem q1075 : (Jvm.Cond.instanceMethod ({ cls := "PromisePounds$Liar", name := "kind", desc := "()I" } : Jvm.MethodName)) ∈ lw_all := lw_g (lw_at lw_m5 40 rfl) rfl
theorem q1076 : (Jvm.Cond.code ({ cls := "PromisePounds$Liar", name := "kind", desc := "()I" } : Jvm.MethodName) prog_7_method_2_code (1 : Nat) (Option.some Jvm.ClassFile.FieldType.int)) ∈ lw_all := lw_g (lw_at lw_m5 41 rfl) rfl
theorem q1104 : (Jvm.Cond.selects "PromisePounds$Liar" ({ cls := "PromisePounds$Person", name := "number", desc := "()I" } : Jvm.MethodName) ({ cls := "PromisePounds$Person", name := "number", desc := "()I" } : Jvm.MethodName)) ∈ lw_all := lw_g (lw_at lw_m5 69 rfl) rfl
theorem q1159 : (Jvm.Cond.castable "PromisePounds$Liar" "PromisePounds$Marked") ∈ lw_tbl := lw_at lw_m5 124 rfl
theorem q1160 : (Jvm.Cond.selects "PromisePounds$Liar" ({ cls := "PromisePounds$Marked", name := "number", desc := "()I" } : Jvm.MethodName) ({ cls := "PromisePounds$Person", name := "number", desc := "()I" } : Jvm.MethodName)) ∈ lw_all := lw_g (lw_at lw_m5 125 rfl) rfl
theorem q1161 : (Jvm.Cond.unhidden "PromisePounds$Liar" "number" "()I") ∈ lw_tbl := lw_at lw_m5 126 rfl
theorem q1177 : (Jvm.Cond.selects "PromisePounds$Liar" ({ cls := "PromisePounds$Person", name := "size", desc := "(LPromisePounds$Trail;LPromisePounds$Parish;)I" } : Jvm.MethodName) ({ cls := "PromisePounds$Liar", name := "size", desc := "(LPromisePounds$Trail;LPromisePounds$Parish;)I" } : Jvm.MethodName)) ∈ lw_all := lw_g (lw_at lw_m5 142 rfl) rfl
theorem q1178 : (Jvm.Cond.instanceMethod ({ cls := "PromisePounds$Liar", name := "size", desc := "(LPromisePounds$Trail;LPromisePounds$Parish;)I" } : Jvm.MethodName)) ∈ lw_all := lw_g (lw_at lw_m5 143 rfl) rfl
theorem q1179 : (Jvm.Cond.code ({ cls := "PromisePounds$Liar", name := "size", desc := "(LPromisePounds$Trail;LPromisePounds$Parish;)I" } : Jvm.MethodName) prog_7_method_4_code (3 : Nat) (Option.some Jvm.ClassFile.FieldType.int)) ∈ lw_all := lw_g (lw_at lw_m5 144 rfl) rfl
theorem q1180 : (Jvm.Cond.methodLink "PromisePounds$Liar" (9 : Nat) ({ cls := "PromisePounds$Trail", name := "begins", desc := "(I)V" } : Jvm.MethodName)) ∈ lw_all := lw_g (lw_at lw_m5 145 rfl) rfl
theorem q1181 : (Jvm.Cond.methodLink "PromisePounds$Liar" (14 : Nat) ({ cls := "PromisePounds$Child", name := "size", desc := "(LPromisePounds$Trail;LPromisePounds$Parish;)I" } : Jvm.MethodName)) ∈ lw_all := lw_g (lw_at lw_m5 146 rfl) rfl
theorem q1192 : (Jvm.Cond.selects "PromisePounds$Liar" ({ cls := "PromisePounds$Marked", name := "mark", desc := "(LPromisePounds$Trail;LPromisePounds$Parish;)I" } : Jvm.MethodName) ({ cls := "PromisePounds$Child", name := "mark", desc := "(LPromisePounds$Trail;LPromisePounds$Parish;)I" } : Jvm.MethodName)) ∈ lw_all := lw_g (lw_at lw_m5 157 rfl) rfl
theorem q1652 : (Jvm.Cond.selects "PromisePounds$Liar" ({ cls := "PromisePounds$Child", name := "size", desc := "(LPromisePounds$Trail;LPromisePounds$Parish;)I" } : Jvm.MethodName) ({ cls := "PromisePounds$Liar", name := "size", desc := "(LPromisePounds$Trail;LPromisePounds$Parish;)I" } : Jvm.MethodName)) ∈ lw_all := lw_g (lw_at lw_m7 137 rfl) rfl
theorem q1657 : (Jvm.Cond.castable "PromisePounds$Liar" "PromisePounds$Person") ∈ lw_tbl := lw_at lw_m7 142 rfl
theorem q1661 : (Jvm.Cond.castable "PromisePounds$Liar" "PromisePounds$Child") ∈ lw_tbl := lw_at lw_m7 146 rfl
theorem q1676 : (Jvm.Cond.castable "PromisePounds$Liar" "java/lang/Object") ∈ lw_tbl := lw_at lw_m7 161 rfl
theorem in_X13 : ∀ w ∈ wsX130, w ∈ lw_all := lw_in wsX130 [665] (by decide +kernel) (by decide +kernel)
/-! PromisePounds$Marked -/
set_option maxRecDepth 100000
def RX14 : String := "PromisePounds$Marked"
abbrev cX14_mark : ByteArray := prog_9_method_3_code
def yX14_mark : MethodName := ⟨RX14, "mark", "(LPromisePounds$Trail;LPromisePounds$Parish;)I"⟩
def dkwX14_mark_0 : List UInt8 := [43, 16, 20, 182, 0, 1, 42, 185, 0, 7, 1, 0, 172]
abbrev dktX14_mark_0 : List UInt8 := dkwX14_mark_0 ++ []
theorem dksX14_mark_0 : cX14_mark.data.toList.drop 0 = dktX14_mark_0 := by decide +kernel
theorem dX14_mark_0 : decode cX14_mark 0 = .ok (.aload_n 1, 1) := dk_43 (dk_at dksX14_mark_0 0 rfl rfl)
theorem dX14_mark_1 : decode cX14_mark 1 = .ok (.bipush 20, 2) := dk_16 20 (dk_at dksX14_mark_0 1 rfl rfl)
theorem dX14_mark_3 : decode cX14_mark 3 = .ok (.invokevirtual 1, 3) := dk_182 0 1 (dk_at dksX14_mark_0 3 rfl rfl)
theorem dX14_mark_6 : decode cX14_mark 6 = .ok (.aload_n 0, 1) := dk_42 (dk_at dksX14_mark_0 6 rfl rfl)
theorem dX14_mark_7 : decode cX14_mark 7 = .ok (.invokeinterface 7 1, 5) := by decide +kernel
theorem dX14_mark_12 : decode cX14_mark 12 = .ok (.ireturn, 1) := dk_172 (dk_at dksX14_mark_0 12 rfl rfl)
theorem q1141 : (Jvm.Cond.declares ({ cls := "PromisePounds$Marked", name := "mark", desc := "(LPromisePounds$Trail;LPromisePounds$Parish;)I" } : Jvm.MethodName)) ∈ lw_tbl := lw_at lw_m5 106 rfl
theorem q1142 : (Jvm.Cond.instanceMethod ({ cls := "PromisePounds$Marked", name := "mark", desc := "(LPromisePounds$Trail;LPromisePounds$Parish;)I" } : Jvm.MethodName)) ∈ lw_all := lw_g (lw_at lw_m5 107 rfl) rfl
theorem q1143 : (Jvm.Cond.code ({ cls := "PromisePounds$Marked", name := "mark", desc := "(LPromisePounds$Trail;LPromisePounds$Parish;)I" } : Jvm.MethodName) prog_9_method_3_code (3 : Nat) (Option.some Jvm.ClassFile.FieldType.int)) ∈ lw_all := lw_g (lw_at lw_m5 108 rfl) rfl
theorem q1144 : (Jvm.Cond.methodLink "PromisePounds$Marked" (1 : Nat) ({ cls := "PromisePounds$Trail", name := "begins", desc := "(I)V" } : Jvm.MethodName)) ∈ lw_all := lw_g (lw_at lw_m5 109 rfl) rfl
theorem q1145 : (Jvm.Cond.interfaceEntry "PromisePounds$Marked" (7 : Nat)) ∈ lw_tbl := lw_at lw_m5 110 rfl
theorem q1146 : (Jvm.Cond.methodLink "PromisePounds$Marked" (7 : Nat) ({ cls := "PromisePounds$Marked", name := "number", desc := "()I" } : Jvm.MethodName)) ∈ lw_all := lw_g (lw_at lw_m5 111 rfl) rfl
theorem q1147 : (Jvm.Cond.interfaceMethod "PromisePounds$Marked" "PromisePounds$Marked" "number" "()I") ∈ lw_tbl := lw_at lw_m5 112 rfl
theorem q1148 : (Jvm.Cond.declares ({ cls := "PromisePounds$Marked", name := "number", desc := "()I" } : Jvm.MethodName)) ∈ lw_tbl := lw_at lw_m5 113 rfl
