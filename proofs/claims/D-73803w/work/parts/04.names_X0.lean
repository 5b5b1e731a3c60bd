/-! PrimeProofs -/
set_option maxRecDepth 100000
def RX0 : String := "PrimeProofs"
def TX0 : u_T := fun k => match k with
  | 0 => ("PrimeProofs", "lines", "Ljava/util/ArrayList;", true)
  | 1 => ("PrimeProofs", "faults", "[B", true)
  | 2 => ("PrimeProofs", "laid", "I", false)
  | 3 => ("PrimeProofs", "tape", "[B", true)
  | 4 => ("PrimeProofs", "taped", "I", false)
  | 5 => ("PrimeProofs", "restOf", "[J", true)
  | _ => ("PrimeProofs", "deepOf", "[I", true)
def tyX0 : Nat → FieldType := fun k => match k with
  | 0 => .object "java/util/ArrayList"
  | 1 => .array .byte
  | 2 => .int
  | 3 => .array .byte
  | 4 => .int
  | 5 => .array .long
  | _ => .array .int
abbrev wsX00 : List Cond := u_ws RX0 TX0 7
theorem nmX0 : ∀ a, a < 7 → ∀ b, b < 7 → a ≠ b → (TX0 a).2.1 ≠ (TX0 b).2.1 := by decide +kernel
theorem tyX0_ok : ∀ k, k < 7 → parseFieldDescriptor (TX0 k).2.2.1 = some (tyX0 k) := by decide +kernel
abbrev cX0_init : ByteArray := prog_1_method_11_code
def yX0_init : MethodName := ⟨RX0, "<init>", "()V"⟩
def dkwX0_init_2 : List UInt8 := [177]
abbrev dktX0_init_2 : List UInt8 := dkwX0_init_2 ++ []
def dkwX0_init_1 : List UInt8 := [17, 1, 144, 188, 8, 181, 0, 99, 42, 16, 60, 188, 11, 181, 0, 102, 42, 16, 60, 188, 10, 181, 0, 106]
abbrev dktX0_init_1 : List UInt8 := dkwX0_init_1 ++ dktX0_init_2
def dkwX0_init_0 : List UInt8 := [42, 183, 0, 85, 42, 187, 0, 88, 89, 183, 0, 90, 181, 0, 91, 42, 16, 60, 188, 8, 181, 0, 95, 42]
abbrev dktX0_init_0 : List UInt8 := dkwX0_init_0 ++ dktX0_init_1
theorem dksX0_init_0 : cX0_init.data.toList.drop 0 = dktX0_init_0 := by decide +kernel
theorem dksX0_init_1 : cX0_init.data.toList.drop 24 = dktX0_init_1 := dk_seg dksX0_init_0 24 rfl rfl
theorem dksX0_init_2 : cX0_init.data.toList.drop 48 = dktX0_init_2 := dk_seg dksX0_init_1 24 rfl rfl
theorem dX0_init_0 : decode cX0_init 0 = .ok (.aload_n 0, 1) := dk_42 (dk_at dksX0_init_0 0 rfl rfl)
theorem dX0_init_1 : decode cX0_init 1 = .ok (.invokespecial 85, 3) := dk_183 0 85 (dk_at dksX0_init_0 1 rfl rfl)
theorem dX0_init_4 : decode cX0_init 4 = .ok (.aload_n 0, 1) := dk_42 (dk_at dksX0_init_0 4 rfl rfl)
theorem dX0_init_5 : decode cX0_init 5 = .ok (.new 88, 3) := dk_187 0 88 (dk_at dksX0_init_0 5 rfl rfl)
theorem dX0_init_8 : decode cX0_init 8 = .ok (.dup, 1) := dk_89 (dk_at dksX0_init_0 8 rfl rfl)
theorem dX0_init_9 : decode cX0_init 9 = .ok (.invokespecial 90, 3) := dk_183 0 90 (dk_at dksX0_init_0 9 rfl rfl)
theorem dX0_init_12 : decode cX0_init 12 = .ok (.putfield 91, 3) := dk_181 0 91 (dk_at dksX0_init_0 12 rfl rfl)
theorem dX0_init_15 : decode cX0_init 15 = .ok (.aload_n 0, 1) := dk_42 (dk_at dksX0_init_0 15 rfl rfl)
theorem dX0_init_16 : decode cX0_init 16 = .ok (.bipush 60, 2) := dk_16 60 (dk_at dksX0_init_0 16 rfl rfl)
theorem dX0_init_18 : decode cX0_init 18 = .ok (.newarray .byte, 2) := dk_188_8 (dk_at dksX0_init_0 18 rfl rfl)
theorem dX0_init_20 : decode cX0_init 20 = .ok (.putfield 95, 3) := dk_181 0 95 (dk_at dksX0_init_0 20 rfl rfl)
theorem dX0_init_23 : decode cX0_init 23 = .ok (.aload_n 0, 1) := dk_42 (dk_at dksX0_init_0 23 rfl rfl)
theorem dX0_init_24 : decode cX0_init 24 = .ok (.sipush 400, 3) := dk_17 1 144 (dk_at dksX0_init_1 0 rfl rfl)
theorem dX0_init_27 : decode cX0_init 27 = .ok (.newarray .byte, 2) := dk_188_8 (dk_at dksX0_init_1 3 rfl rfl)
theorem dX0_init_29 : decode cX0_init 29 = .ok (.putfield 99, 3) := dk_181 0 99 (dk_at dksX0_init_1 5 rfl rfl)
theorem dX0_init_32 : decode cX0_init 32 = .ok (.aload_n 0, 1) := dk_42 (dk_at dksX0_init_1 8 rfl rfl)
theorem dX0_init_33 : decode cX0_init 33 = .ok (.bipush 60, 2) := dk_16 60 (dk_at dksX0_init_1 9 rfl rfl)
theorem dX0_init_35 : decode cX0_init 35 = .ok (.newarray .long, 2) := dk_188_11 (dk_at dksX0_init_1 11 rfl rfl)
theorem dX0_init_37 : decode cX0_init 37 = .ok (.putfield 102, 3) := dk_181 0 102 (dk_at dksX0_init_1 13 rfl rfl)
theorem dX0_init_40 : decode cX0_init 40 = .ok (.aload_n 0, 1) := dk_42 (dk_at dksX0_init_1 16 rfl rfl)
theorem dX0_init_41 : decode cX0_init 41 = .ok (.bipush 60, 2) := dk_16 60 (dk_at dksX0_init_1 17 rfl rfl)
theorem dX0_init_43 : decode cX0_init 43 = .ok (.newarray .int, 2) := dk_188_10 (dk_at dksX0_init_1 19 rfl rfl)
theorem dX0_init_45 : decode cX0_init 45 = .ok (.putfield 106, 3) := dk_181 0 106 (dk_at dksX0_init_1 21 rfl rfl)
theorem dX0_init_48 : decode cX0_init 48 = .ok (.return_, 1) := dk_177 (dk_at dksX0_init_2 0 rfl rfl)
abbrev cX0_find : ByteArray := prog_1_method_22_code
def yX0_find : MethodName := ⟨RX0, "find", "(II)I"⟩
def dkwX0_find_4 : List UInt8 := [182, 0, 216, 16, 253, 172]
abbrev dktX0_find_4 : List UInt8 := dkwX0_find_4 ++ []
def dkwX0_find_3 : List UInt8 := [54, 5, 42, 25, 4, 182, 0, 199, 153, 0, 13, 42, 180, 0, 91, 182, 0, 110, 4, 100, 172, 42, 21, 5]
abbrev dktX0_find_3 : List UInt8 := dkwX0_find_3 ++ dktX0_find_4
def dkwX0_find_2 : List UInt8 := [184, 0, 212, 153, 0, 11, 25, 4, 182, 0, 196, 154, 0, 6, 16, 254, 172, 42, 180, 0, 91, 182, 0, 110]
abbrev dktX0_find_2 : List UInt8 := dkwX0_find_2 ++ dktX0_find_3
def dkwX0_find_1 : List UInt8 := [133, 28, 182, 0, 209, 62, 29, 155, 0, 5, 29, 172, 42, 27, 133, 28, 182, 0, 192, 58, 4, 27, 133, 28]
abbrev dktX0_find_1 : List UInt8 := dkwX0_find_1 ++ dktX0_find_2
def dkwX0_find_0 : List UInt8 := [28, 133, 9, 20, 0, 42, 184, 0, 7, 153, 0, 11, 27, 133, 184, 0, 206, 154, 0, 5, 2, 172, 42, 27]
abbrev dktX0_find_0 : List UInt8 := dkwX0_find_0 ++ dktX0_find_1
theorem dksX0_find_0 : cX0_find.data.toList.drop 0 = dktX0_find_0 := by decide +kernel
theorem dksX0_find_1 : cX0_find.data.toList.drop 24 = dktX0_find_1 := dk_seg dksX0_find_0 24 rfl rfl
theorem dksX0_find_2 : cX0_find.data.toList.drop 48 = dktX0_find_2 := dk_seg dksX0_find_1 24 rfl rfl
theorem dksX0_find_3 : cX0_find.data.toList.drop 72 = dktX0_find_3 := dk_seg dksX0_find_2 24 rfl rfl
theorem dksX0_find_4 : cX0_find.data.toList.drop 96 = dktX0_find_4 := dk_seg dksX0_find_3 24 rfl rfl
theorem dX0_find_0 : decode cX0_find 0 = .ok (.iload_n 2, 1) := dk_28 (dk_at dksX0_find_0 0 rfl rfl)
theorem dX0_find_1 : decode cX0_find 1 = .ok (.i2l, 1) := dk_133 (dk_at dksX0_find_0 1 rfl rfl)
theorem dX0_find_2 : decode cX0_find 2 = .ok (.lconst 0, 1) := dk_9 (dk_at dksX0_find_0 2 rfl rfl)
theorem dX0_find_3 : decode cX0_find 3 = .ok (.ldc2_w 42, 3) := dk_20 0 42 (dk_at dksX0_find_0 3 rfl rfl)
theorem dX0_find_6 : decode cX0_find 6 = .ok (.invokestatic 7, 3) := dk_184 0 7 (dk_at dksX0_find_0 6 rfl rfl)
theorem dX0_find_9 : decode cX0_find 9 = .ok (.ifCond .eq 11, 3) := dk_153 0 11 (dk_at dksX0_find_0 9 rfl rfl)
theorem dX0_find_12 : decode cX0_find 12 = .ok (.iload_n 1, 1) := dk_27 (dk_at dksX0_find_0 12 rfl rfl)
theorem dX0_find_13 : decode cX0_find 13 = .ok (.i2l, 1) := dk_133 (dk_at dksX0_find_0 13 rfl rfl)
theorem dX0_find_14 : decode cX0_find 14 = .ok (.invokestatic 206, 3) := dk_184 0 206 (dk_at dksX0_find_0 14 rfl rfl)
theorem dX0_find_17 : decode cX0_find 17 = .ok (.ifCond .ne 5, 3) := dk_154 0 5 (dk_at dksX0_find_0 17 rfl rfl)
theorem dX0_find_20 : decode cX0_find 20 = .ok (.iconst (-1), 1) := dk_2 (dk_at dksX0_find_0 20 rfl rfl)
theorem dX0_find_21 : decode cX0_find 21 = .ok (.ireturn, 1) := dk_172 (dk_at dksX0_find_0 21 rfl rfl)
theorem dX0_find_22 : decode cX0_find 22 = .ok (.aload_n 0, 1) := dk_42 (dk_at dksX0_find_0 22 rfl rfl)
theorem dX0_find_23 : decode cX0_find 23 = .ok (.iload_n 1, 1) := dk_27 (dk_at dksX0_find_0 23 rfl rfl)
theorem dX0_find_24 : decode cX0_find 24 = .ok (.i2l, 1) := dk_133 (dk_at dksX0_find_1 0 rfl rfl)
theorem dX0_find_25 : decode cX0_find 25 = .ok (.iload_n 2, 1) := dk_28 (dk_at dksX0_find_1 1 rfl rfl)
theorem dX0_find_26 : decode cX0_find 26 = .ok (.invokevirtual 209, 3) := dk_182 0 209 (dk_at dksX0_find_1 2 rfl rfl)
theorem dX0_find_29 : decode cX0_find 29 = .ok (.istore_n 3, 1) := dk_62 (dk_at dksX0_find_1 5 rfl rfl)
theorem dX0_find_30 : decode cX0_find 30 = .ok (.iload_n 3, 1) := dk_29 (dk_at dksX0_find_1 6 rfl rfl)
theorem dX0_find_31 : decode cX0_find 31 = .ok (.ifCond .lt 5, 3) := dk_155 0 5 (dk_at dksX0_find_1 7 rfl rfl)
theorem dX0_find_34 : decode cX0_find 34 = .ok (.iload_n 3, 1) := dk_29 (dk_at dksX0_find_1 10 rfl rfl)
theorem dX0_find_35 : decode cX0_find 35 = .ok (.ireturn, 1) := dk_172 (dk_at dksX0_find_1 11 rfl rfl)
theorem dX0_find_36 : decode cX0_find 36 = .ok (.aload_n 0, 1) := dk_42 (dk_at dksX0_find_1 12 rfl rfl)
theorem dX0_find_37 : decode cX0_find 37 = .ok (.iload_n 1, 1) := dk_27 (dk_at dksX0_find_1 13 rfl rfl)
theorem dX0_find_38 : decode cX0_find 38 = .ok (.i2l, 1) := dk_133 (dk_at dksX0_find_1 14 rfl rfl)
theorem dX0_find_39 : decode cX0_find 39 = .ok (.iload_n 2, 1) := dk_28 (dk_at dksX0_find_1 15 rfl rfl)
theorem dX0_find_40 : decode cX0_find 40 = .ok (.invokevirtual 192, 3) := dk_182 0 192 (dk_at dksX0_find_1 16 rfl rfl)
theorem dX0_find_43 : decode cX0_find 43 = .ok (.astore 4, 2) := dk_58 4 (dk_at dksX0_find_1 19 rfl rfl)
theorem dX0_find_45 : decode cX0_find 45 = .ok (.iload_n 1, 1) := dk_27 (dk_at dksX0_find_1 21 rfl rfl)
theorem dX0_find_46 : decode cX0_find 46 = .ok (.i2l, 1) := dk_133 (dk_at dksX0_find_1 22 rfl rfl)
theorem dX0_find_47 : decode cX0_find 47 = .ok (.iload_n 2, 1) := dk_28 (dk_at dksX0_find_1 23 rfl rfl)
theorem dX0_find_48 : decode cX0_find 48 = .ok (.invokestatic 212, 3) := dk_184 0 212 (dk_at dksX0_find_2 0 rfl rfl)
theorem dX0_find_51 : decode cX0_find 51 = .ok (.ifCond .eq 11, 3) := dk_153 0 11 (dk_at dksX0_find_2 3 rfl rfl)
theorem dX0_find_54 : decode cX0_find 54 = .ok (.aload 4, 2) := dk_25 4 (dk_at dksX0_find_2 6 rfl rfl)
theorem dX0_find_56 : decode cX0_find 56 = .ok (.invokevirtual 196, 3) := dk_182 0 196 (dk_at dksX0_find_2 8 rfl rfl)
theorem dX0_find_59 : decode cX0_find 59 = .ok (.ifCond .ne 6, 3) := dk_154 0 6 (dk_at dksX0_find_2 11 rfl rfl)
theorem dX0_find_62 : decode cX0_find 62 = .ok (.bipush (-2), 2) := dk_16 254 (dk_at dksX0_find_2 14 rfl rfl)
theorem dX0_find_64 : decode cX0_find 64 = .ok (.ireturn, 1) := dk_172 (dk_at dksX0_find_2 16 rfl rfl)
theorem dX0_find_65 : decode cX0_find 65 = .ok (.aload_n 0, 1) := dk_42 (dk_at dksX0_find_2 17 rfl rfl)
theorem dX0_find_66 : decode cX0_find 66 = .ok (.getfield 91, 3) := dk_180 0 91 (dk_at dksX0_find_2 18 rfl rfl)
theorem dX0_find_69 : decode cX0_find 69 = .ok (.invokevirtual 110, 3) := dk_182 0 110 (dk_at dksX0_find_2 21 rfl rfl)
theorem dX0_find_72 : decode cX0_find 72 = .ok (.istore 5, 2) := dk_54 5 (dk_at dksX0_find_3 0 rfl rfl)
theorem dX0_find_74 : decode cX0_find 74 = .ok (.aload_n 0, 1) := dk_42 (dk_at dksX0_find_3 2 rfl rfl)
theorem dX0_find_75 : decode cX0_find 75 = .ok (.aload 4, 2) := dk_25 4 (dk_at dksX0_find_3 3 rfl rfl)
theorem dX0_find_77 : decode cX0_find 77 = .ok (.invokevirtual 199, 3) := dk_182 0 199 (dk_at dksX0_find_3 5 rfl rfl)
theorem dX0_find_80 : decode cX0_find 80 = .ok (.ifCond .eq 13, 3) := dk_153 0 13 (dk_at dksX0_find_3 8 rfl rfl)
theorem dX0_find_83 : decode cX0_find 83 = .ok (.aload_n 0, 1) := dk_42 (dk_at dksX0_find_3 11 rfl rfl)
theorem dX0_find_84 : decode cX0_find 84 = .ok (.getfield 91, 3) := dk_180 0 91 (dk_at dksX0_find_3 12 rfl rfl)
theorem dX0_find_87 : decode cX0_find 87 = .ok (.invokevirtual 110, 3) := dk_182 0 110 (dk_at dksX0_find_3 15 rfl rfl)
theorem dX0_find_90 : decode cX0_find 90 = .ok (.iconst 1, 1) := dk_4 (dk_at dksX0_find_3 18 rfl rfl)
theorem dX0_find_91 : decode cX0_find 91 = .ok (.isub, 1) := dk_100 (dk_at dksX0_find_3 19 rfl rfl)
theorem dX0_find_92 : decode cX0_find 92 = .ok (.ireturn, 1) := dk_172 (dk_at dksX0_find_3 20 rfl rfl)
theorem dX0_find_93 : decode cX0_find 93 = .ok (.aload_n 0, 1) := dk_42 (dk_at dksX0_find_3 21 rfl rfl)
theorem dX0_find_94 : decode cX0_find 94 = .ok (.iload 5, 2) := dk_21 5 (dk_at dksX0_find_3 22 rfl rfl)
theorem dX0_find_96 : decode cX0_find 96 = .ok (.invokevirtual 216, 3) := dk_182 0 216 (dk_at dksX0_find_4 0 rfl rfl)
theorem dX0_find_99 : decode cX0_find 99 = .ok (.bipush (-3), 2) := dk_16 253 (dk_at dksX0_find_4 3 rfl rfl)
theorem dX0_find_101 : decode cX0_find 101 = .ok (.ireturn, 1) := dk_172 (dk_at dksX0_find_4 5 rfl rfl)
abbrev cX0_isIn : ByteArray := prog_1_method_1_code
def yX0_isIn : MethodName := ⟨RX0, "isIn", "(JJJ)Z"⟩
def dkwX0_isIn_0 : List UInt8 := [30, 32, 148, 155, 0, 14, 30, 22, 4, 148, 157, 0, 7, 4, 167, 0, 4, 3, 172]
abbrev dktX0_isIn_0 : List UInt8 := dkwX0_isIn_0 ++ []
theorem dksX0_isIn_0 : cX0_isIn.data.toList.drop 0 = dktX0_isIn_0 := by decide +kernel
theorem dX0_isIn_0 : decode cX0_isIn 0 = .ok (.lload_n 0, 1) := dk_30 (dk_at dksX0_isIn_0 0 rfl rfl)
theorem dX0_isIn_1 : decode cX0_isIn 1 = .ok (.lload_n 2, 1) := dk_32 (dk_at dksX0_isIn_0 1 rfl rfl)
theorem dX0_isIn_2 : decode cX0_isIn 2 = .ok (.lcmp, 1) := dk_148 (dk_at dksX0_isIn_0 2 rfl rfl)
theorem dX0_isIn_3 : decode cX0_isIn 3 = .ok (.ifCond .lt 14, 3) := dk_155 0 14 (dk_at dksX0_isIn_0 3 rfl rfl)
theorem dX0_isIn_6 : decode cX0_isIn 6 = .ok (.lload_n 0, 1) := dk_30 (dk_at dksX0_isIn_0 6 rfl rfl)
theorem dX0_isIn_7 : decode cX0_isIn 7 = .ok (.lload 4, 2) := dk_22 4 (dk_at dksX0_isIn_0 7 rfl rfl)
theorem dX0_isIn_9 : decode cX0_isIn 9 = .ok (.lcmp, 1) := dk_148 (dk_at dksX0_isIn_0 9 rfl rfl)
theorem dX0_isIn_10 : decode cX0_isIn 10 = .ok (.ifCond .gt 7, 3) := dk_157 0 7 (dk_at dksX0_isIn_0 10 rfl rfl)
theorem dX0_isIn_13 : decode cX0_isIn 13 = .ok (.iconst 1, 1) := dk_4 (dk_at dksX0_isIn_0 13 rfl rfl)
theorem dX0_isIn_14 : decode cX0_isIn 14 = .ok (.goto 4, 3) := dk_167 0 4 (dk_at dksX0_isIn_0 14 rfl rfl)
theorem dX0_isIn_17 : decode cX0_isIn 17 = .ok (.iconst 0, 1) := dk_3 (dk_at dksX0_isIn_0 17 rfl rfl)
theorem dX0_isIn_18 : decode cX0_isIn 18 = .ok (.ireturn, 1) := dk_172 (dk_at dksX0_isIn_0 18 rfl rfl)
abbrev cX0_isNumber : ByteArray := prog_1_method_2_code
def yX0_isNumber : MethodName := ⟨RX0, "isNumber", "(J)Z"⟩
def dkwX0_isNumber_0 : List UInt8 := [30, 20, 0, 1, 20, 0, 5, 184, 0, 7, 172]
abbrev dktX0_isNumber_0 : List UInt8 := dkwX0_isNumber_0 ++ []
theorem dksX0_isNumber_0 : cX0_isNumber.data.toList.drop 0 = dktX0_isNumber_0 := by decide +kernel
theorem dX0_isNumber_0 : decode cX0_isNumber 0 = .ok (.lload_n 0, 1) := dk_30 (dk_at dksX0_isNumber_0 0 rfl rfl)
theorem dX0_isNumber_1 : decode cX0_isNumber 1 = .ok (.ldc2_w 1, 3) := dk_20 0 1 (dk_at dksX0_isNumber_0 1 rfl rfl)
theorem dX0_isNumber_4 : decode cX0_isNumber 4 = .ok (.ldc2_w 5, 3) := dk_20 0 5 (dk_at dksX0_isNumber_0 4 rfl rfl)
theorem dX0_isNumber_7 : decode cX0_isNumber 7 = .ok (.invokestatic 7, 3) := dk_184 0 7 (dk_at dksX0_isNumber_0 7 rfl rfl)
theorem dX0_isNumber_10 : decode cX0_isNumber 10 = .ok (.ireturn, 1) := dk_172 (dk_at dksX0_isNumber_0 10 rfl rfl)
abbrev cX0_findRight : ByteArray := prog_1_method_18_code
def yX0_findRight : MethodName := ⟨RX0, "findRight", "(JI)I"⟩
def dkwX0_findRight_3 : List UInt8 := [167, 255, 190, 2, 172]
abbrev dktX0_findRight_3 : List UInt8 := dkwX0_findRight_3 ++ []
def dkwX0_findRight_2 : List UInt8 := [180, 0, 151, 29, 160, 0, 15, 42, 21, 4, 182, 0, 136, 153, 0, 6, 21, 4, 172, 132, 4, 1]
abbrev dktX0_findRight_2 : List UInt8 := dkwX0_findRight_2 ++ dktX0_findRight_3
def dkwX0_findRight_1 : List UInt8 := [192, 0, 126, 180, 0, 132, 31, 148, 154, 0, 34, 42, 180, 0, 91, 21, 4, 182, 0, 122, 192, 0, 126]
abbrev dktX0_findRight_1 : List UInt8 := dkwX0_findRight_1 ++ dktX0_findRight_2
def dkwX0_findRight_0 : List UInt8 := [3, 54, 4, 21, 4, 42, 180, 0, 91, 182, 0, 110, 162, 0, 60, 42, 180, 0, 91, 21, 4, 182, 0, 122]
abbrev dktX0_findRight_0 : List UInt8 := dkwX0_findRight_0 ++ dktX0_findRight_1
theorem dksX0_findRight_0 : cX0_findRight.data.toList.drop 0 = dktX0_findRight_0 := by decide +kernel
theorem dksX0_findRight_1 : cX0_findRight.data.toList.drop 24 = dktX0_findRight_1 := dk_seg dksX0_findRight_0 24 rfl rfl
theorem dksX0_findRight_2 : cX0_findRight.data.toList.drop 47 = dktX0_findRight_2 := dk_seg dksX0_findRight_1 23 rfl rfl
theorem dksX0_findRight_3 : cX0_findRight.data.toList.drop 69 = dktX0_findRight_3 := dk_seg dksX0_findRight_2 22 rfl rfl
theorem dX0_findRight_0 : decode cX0_findRight 0 = .ok (.iconst 0, 1) := dk_3 (dk_at dksX0_findRight_0 0 rfl rfl)
theorem dX0_findRight_1 : decode cX0_findRight 1 = .ok (.istore 4, 2) := dk_54 4 (dk_at dksX0_findRight_0 1 rfl rfl)
theorem dX0_findRight_3 : decode cX0_findRight 3 = .ok (.iload 4, 2) := dk_21 4 (dk_at dksX0_findRight_0 3 rfl rfl)
theorem dX0_findRight_5 : decode cX0_findRight 5 = .ok (.aload_n 0, 1) := dk_42 (dk_at dksX0_findRight_0 5 rfl rfl)
theorem dX0_findRight_6 : decode cX0_findRight 6 = .ok (.getfield 91, 3) := dk_180 0 91 (dk_at dksX0_findRight_0 6 rfl rfl)
theorem dX0_findRight_9 : decode cX0_findRight 9 = .ok (.invokevirtual 110, 3) := dk_182 0 110 (dk_at dksX0_findRight_0 9 rfl rfl)
theorem dX0_findRight_12 : decode cX0_findRight 12 = .ok (.if_icmp .ge 60, 3) := dk_162 0 60 (dk_at dksX0_findRight_0 12 rfl rfl)
theorem dX0_findRight_15 : decode cX0_findRight 15 = .ok (.aload_n 0, 1) := dk_42 (dk_at dksX0_findRight_0 15 rfl rfl)
theorem dX0_findRight_16 : decode cX0_findRight 16 = .ok (.getfield 91, 3) := dk_180 0 91 (dk_at dksX0_findRight_0 16 rfl rfl)
theorem dX0_findRight_19 : decode cX0_findRight 19 = .ok (.iload 4, 2) := dk_21 4 (dk_at dksX0_findRight_0 19 rfl rfl)
theorem dX0_findRight_21 : decode cX0_findRight 21 = .ok (.invokevirtual 122, 3) := dk_182 0 122 (dk_at dksX0_findRight_0 21 rfl rfl)
theorem dX0_findRight_24 : decode cX0_findRight 24 = .ok (.checkcast 126, 3) := dk_192 0 126 (dk_at dksX0_findRight_1 0 rfl rfl)
theorem dX0_findRight_27 : decode cX0_findRight 27 = .ok (.getfield 132, 3) := dk_180 0 132 (dk_at dksX0_findRight_1 3 rfl rfl)
theorem dX0_findRight_30 : decode cX0_findRight 30 = .ok (.lload_n 1, 1) := dk_31 (dk_at dksX0_findRight_1 6 rfl rfl)
theorem dX0_findRight_31 : decode cX0_findRight 31 = .ok (.lcmp, 1) := dk_148 (dk_at dksX0_findRight_1 7 rfl rfl)
theorem dX0_findRight_32 : decode cX0_findRight 32 = .ok (.ifCond .ne 34, 3) := dk_154 0 34 (dk_at dksX0_findRight_1 8 rfl rfl)
theorem dX0_findRight_35 : decode cX0_findRight 35 = .ok (.aload_n 0, 1) := dk_42 (dk_at dksX0_findRight_1 11 rfl rfl)
theorem dX0_findRight_36 : decode cX0_findRight 36 = .ok (.getfield 91, 3) := dk_180 0 91 (dk_at dksX0_findRight_1 12 rfl rfl)
theorem dX0_findRight_39 : decode cX0_findRight 39 = .ok (.iload 4, 2) := dk_21 4 (dk_at dksX0_findRight_1 15 rfl rfl)
theorem dX0_findRight_41 : decode cX0_findRight 41 = .ok (.invokevirtual 122, 3) := dk_182 0 122 (dk_at dksX0_findRight_1 17 rfl rfl)
theorem dX0_findRight_44 : decode cX0_findRight 44 = .ok (.checkcast 126, 3) := dk_192 0 126 (dk_at dksX0_findRight_1 20 rfl rfl)
theorem dX0_findRight_47 : decode cX0_findRight 47 = .ok (.getfield 151, 3) := dk_180 0 151 (dk_at dksX0_findRight_2 0 rfl rfl)
theorem dX0_findRight_50 : decode cX0_findRight 50 = .ok (.iload_n 3, 1) := dk_29 (dk_at dksX0_findRight_2 3 rfl rfl)
theorem dX0_findRight_51 : decode cX0_findRight 51 = .ok (.if_icmp .ne 15, 3) := dk_160 0 15 (dk_at dksX0_findRight_2 4 rfl rfl)
theorem dX0_findRight_54 : decode cX0_findRight 54 = .ok (.aload_n 0, 1) := dk_42 (dk_at dksX0_findRight_2 7 rfl rfl)
theorem dX0_findRight_55 : decode cX0_findRight 55 = .ok (.iload 4, 2) := dk_21 4 (dk_at dksX0_findRight_2 8 rfl rfl)
theorem dX0_findRight_57 : decode cX0_findRight 57 = .ok (.invokevirtual 136, 3) := dk_182 0 136 (dk_at dksX0_findRight_2 10 rfl rfl)
theorem dX0_findRight_60 : decode cX0_findRight 60 = .ok (.ifCond .eq 6, 3) := dk_153 0 6 (dk_at dksX0_findRight_2 13 rfl rfl)
theorem dX0_findRight_63 : decode cX0_findRight 63 = .ok (.iload 4, 2) := dk_21 4 (dk_at dksX0_findRight_2 16 rfl rfl)
theorem dX0_findRight_65 : decode cX0_findRight 65 = .ok (.ireturn, 1) := dk_172 (dk_at dksX0_findRight_2 18 rfl rfl)
theorem dX0_findRight_66 : decode cX0_findRight 66 = .ok (.iinc 4 1, 3) := dk_132 4 1 (dk_at dksX0_findRight_2 19 rfl rfl)
theorem dX0_findRight_69 : decode cX0_findRight 69 = .ok (.goto (-66), 3) := dk_167 255 190 (dk_at dksX0_findRight_3 0 rfl rfl)
theorem dX0_findRight_72 : decode cX0_findRight 72 = .ok (.iconst (-1), 1) := dk_2 (dk_at dksX0_findRight_3 3 rfl rfl)
theorem dX0_findRight_73 : decode cX0_findRight 73 = .ok (.ireturn, 1) := dk_172 (dk_at dksX0_findRight_3 4 rfl rfl)
abbrev cX0_isRight : ByteArray := prog_1_method_14_code
def yX0_isRight : MethodName := ⟨RX0, "isRight", "(I)Z"⟩
def dkwX0_isRight_2 : List UInt8 := [181, 0, 114, 167, 255, 207, 42, 180, 0, 95, 27, 51, 154, 0, 7, 4, 167, 0, 4, 3, 172]
abbrev dktX0_isRight_2 : List UInt8 := dkwX0_isRight_2 ++ []
def dkwX0_isRight_1 : List UInt8 := [182, 0, 122, 192, 0, 126, 42, 180, 0, 114, 182, 0, 128, 145, 84, 42, 89, 180, 0, 114, 4, 96]
abbrev dktX0_isRight_1 : List UInt8 := dkwX0_isRight_1 ++ dktX0_isRight_2
def dkwX0_isRight_0 : List UInt8 := [42, 180, 0, 114, 27, 163, 0, 47, 42, 180, 0, 95, 42, 180, 0, 114, 42, 180, 0, 91, 42, 180, 0, 114]
abbrev dktX0_isRight_0 : List UInt8 := dkwX0_isRight_0 ++ dktX0_isRight_1
theorem dksX0_isRight_0 : cX0_isRight.data.toList.drop 0 = dktX0_isRight_0 := by decide +kernel
theorem dksX0_isRight_1 : cX0_isRight.data.toList.drop 24 = dktX0_isRight_1 := dk_seg dksX0_isRight_0 24 rfl rfl
theorem dksX0_isRight_2 : cX0_isRight.data.toList.drop 46 = dktX0_isRight_2 := dk_seg dksX0_isRight_1 22 rfl rfl
theorem dX0_isRight_0 : decode cX0_isRight 0 = .ok (.aload_n 0, 1) := dk_42 (dk_at dksX0_isRight_0 0 rfl rfl)
theorem dX0_isRight_1 : decode cX0_isRight 1 = .ok (.getfield 114, 3) := dk_180 0 114 (dk_at dksX0_isRight_0 1 rfl rfl)
theorem dX0_isRight_4 : decode cX0_isRight 4 = .ok (.iload_n 1, 1) := dk_27 (dk_at dksX0_isRight_0 4 rfl rfl)
theorem dX0_isRight_5 : decode cX0_isRight 5 = .ok (.if_icmp .gt 47, 3) := dk_163 0 47 (dk_at dksX0_isRight_0 5 rfl rfl)
theorem dX0_isRight_8 : decode cX0_isRight 8 = .ok (.aload_n 0, 1) := dk_42 (dk_at dksX0_isRight_0 8 rfl rfl)
theorem dX0_isRight_9 : decode cX0_isRight 9 = .ok (.getfield 95, 3) := dk_180 0 95 (dk_at dksX0_isRight_0 9 rfl rfl)
theorem dX0_isRight_12 : decode cX0_isRight 12 = .ok (.aload_n 0, 1) := dk_42 (dk_at dksX0_isRight_0 12 rfl rfl)
theorem dX0_isRight_13 : decode cX0_isRight 13 = .ok (.getfield 114, 3) := dk_180 0 114 (dk_at dksX0_isRight_0 13 rfl rfl)
theorem dX0_isRight_16 : decode cX0_isRight 16 = .ok (.aload_n 0, 1) := dk_42 (dk_at dksX0_isRight_0 16 rfl rfl)
theorem dX0_isRight_17 : decode cX0_isRight 17 = .ok (.getfield 91, 3) := dk_180 0 91 (dk_at dksX0_isRight_0 17 rfl rfl)
theorem dX0_isRight_20 : decode cX0_isRight 20 = .ok (.aload_n 0, 1) := dk_42 (dk_at dksX0_isRight_0 20 rfl rfl)
theorem dX0_isRight_21 : decode cX0_isRight 21 = .ok (.getfield 114, 3) := dk_180 0 114 (dk_at dksX0_isRight_0 21 rfl rfl)
theorem dX0_isRight_24 : decode cX0_isRight 24 = .ok (.invokevirtual 122, 3) := dk_182 0 122 (dk_at dksX0_isRight_1 0 rfl rfl)
theorem dX0_isRight_27 : decode cX0_isRight 27 = .ok (.checkcast 126, 3) := dk_192 0 126 (dk_at dksX0_isRight_1 3 rfl rfl)
theorem dX0_isRight_30 : decode cX0_isRight 30 = .ok (.aload_n 0, 1) := dk_42 (dk_at dksX0_isRight_1 6 rfl rfl)
theorem dX0_isRight_31 : decode cX0_isRight 31 = .ok (.getfield 114, 3) := dk_180 0 114 (dk_at dksX0_isRight_1 7 rfl rfl)
theorem dX0_isRight_34 : decode cX0_isRight 34 = .ok (.invokevirtual 128, 3) := dk_182 0 128 (dk_at dksX0_isRight_1 10 rfl rfl)
theorem dX0_isRight_37 : decode cX0_isRight 37 = .ok (.i2b, 1) := dk_145 (dk_at dksX0_isRight_1 13 rfl rfl)
theorem dX0_isRight_38 : decode cX0_isRight 38 = .ok (.bastore, 1) := dk_84 (dk_at dksX0_isRight_1 14 rfl rfl)
theorem dX0_isRight_39 : decode cX0_isRight 39 = .ok (.aload_n 0, 1) := dk_42 (dk_at dksX0_isRight_1 15 rfl rfl)
theorem dX0_isRight_40 : decode cX0_isRight 40 = .ok (.dup, 1) := dk_89 (dk_at dksX0_isRight_1 16 rfl rfl)
theorem dX0_isRight_41 : decode cX0_isRight 41 = .ok (.getfield 114, 3) := dk_180 0 114 (dk_at dksX0_isRight_1 17 rfl rfl)
theorem dX0_isRight_44 : decode cX0_isRight 44 = .ok (.iconst 1, 1) := dk_4 (dk_at dksX0_isRight_1 20 rfl rfl)
theorem dX0_isRight_45 : decode cX0_isRight 45 = .ok (.iadd, 1) := dk_96 (dk_at dksX0_isRight_1 21 rfl rfl)
theorem dX0_isRight_46 : decode cX0_isRight 46 = .ok (.putfield 114, 3) := dk_181 0 114 (dk_at dksX0_isRight_2 0 rfl rfl)
theorem dX0_isRight_49 : decode cX0_isRight 49 = .ok (.goto (-49), 3) := dk_167 255 207 (dk_at dksX0_isRight_2 3 rfl rfl)
theorem dX0_isRight_52 : decode cX0_isRight 52 = .ok (.aload_n 0, 1) := dk_42 (dk_at dksX0_isRight_2 6 rfl rfl)
theorem dX0_isRight_53 : decode cX0_isRight 53 = .ok (.getfield 95, 3) := dk_180 0 95 (dk_at dksX0_isRight_2 7 rfl rfl)
theorem dX0_isRight_56 : decode cX0_isRight 56 = .ok (.iload_n 1, 1) := dk_27 (dk_at dksX0_isRight_2 10 rfl rfl)
theorem dX0_isRight_57 : decode cX0_isRight 57 = .ok (.baload, 1) := dk_51 (dk_at dksX0_isRight_2 11 rfl rfl)
theorem dX0_isRight_58 : decode cX0_isRight 58 = .ok (.ifCond .ne 7, 3) := dk_154 0 7 (dk_at dksX0_isRight_2 12 rfl rfl)
theorem dX0_isRight_61 : decode cX0_isRight 61 = .ok (.iconst 1, 1) := dk_4 (dk_at dksX0_isRight_2 15 rfl rfl)
theorem dX0_isRight_62 : decode cX0_isRight 62 = .ok (.goto 4, 3) := dk_167 0 4 (dk_at dksX0_isRight_2 16 rfl rfl)
theorem dX0_isRight_65 : decode cX0_isRight 65 = .ok (.iconst 0, 1) := dk_3 (dk_at dksX0_isRight_2 19 rfl rfl)
theorem dX0_isRight_66 : decode cX0_isRight 66 = .ok (.ireturn, 1) := dk_172 (dk_at dksX0_isRight_2 20 rfl rfl)
abbrev cX0_isPrime : ByteArray := prog_1_method_8_code
def yX0_isPrime : MethodName := ⟨RX0, "isPrime", "(J)Z"⟩
def dkwX0_isPrime_1 : List UInt8 := [97, 65, 167, 255, 234, 30, 10, 148, 158, 0, 7, 4, 167, 0, 4, 3, 172]
abbrev dktX0_isPrime_1 : List UInt8 := dkwX0_isPrime_1 ++ []
def dkwX0_isPrime_0 : List UInt8 := [20, 0, 1, 65, 32, 32, 105, 30, 148, 157, 0, 20, 30, 32, 113, 9, 148, 154, 0, 5, 3, 172, 32, 10]
abbrev dktX0_isPrime_0 : List UInt8 := dkwX0_isPrime_0 ++ dktX0_isPrime_1
theorem dksX0_isPrime_0 : cX0_isPrime.data.toList.drop 0 = dktX0_isPrime_0 := by decide +kernel
theorem dksX0_isPrime_1 : cX0_isPrime.data.toList.drop 24 = dktX0_isPrime_1 := dk_seg dksX0_isPrime_0 24 rfl rfl
theorem dX0_isPrime_0 : decode cX0_isPrime 0 = .ok (.ldc2_w 1, 3) := dk_20 0 1 (dk_at dksX0_isPrime_0 0 rfl rfl)
theorem dX0_isPrime_3 : decode cX0_isPrime 3 = .ok (.lstore_n 2, 1) := dk_65 (dk_at dksX0_isPrime_0 3 rfl rfl)
theorem dX0_isPrime_4 : decode cX0_isPrime 4 = .ok (.lload_n 2, 1) := dk_32 (dk_at dksX0_isPrime_0 4 rfl rfl)
theorem dX0_isPrime_5 : decode cX0_isPrime 5 = .ok (.lload_n 2, 1) := dk_32 (dk_at dksX0_isPrime_0 5 rfl rfl)
theorem dX0_isPrime_6 : decode cX0_isPrime 6 = .ok (.lmul, 1) := dk_105 (dk_at dksX0_isPrime_0 6 rfl rfl)
theorem dX0_isPrime_7 : decode cX0_isPrime 7 = .ok (.lload_n 0, 1) := dk_30 (dk_at dksX0_isPrime_0 7 rfl rfl)
theorem dX0_isPrime_8 : decode cX0_isPrime 8 = .ok (.lcmp, 1) := dk_148 (dk_at dksX0_isPrime_0 8 rfl rfl)
theorem dX0_isPrime_9 : decode cX0_isPrime 9 = .ok (.ifCond .gt 20, 3) := dk_157 0 20 (dk_at dksX0_isPrime_0 9 rfl rfl)
theorem dX0_isPrime_12 : decode cX0_isPrime 12 = .ok (.lload_n 0, 1) := dk_30 (dk_at dksX0_isPrime_0 12 rfl rfl)
theorem dX0_isPrime_13 : decode cX0_isPrime 13 = .ok (.lload_n 2, 1) := dk_32 (dk_at dksX0_isPrime_0 13 rfl rfl)
theorem dX0_isPrime_14 : decode cX0_isPrime 14 = .ok (.lrem, 1) := dk_113 (dk_at dksX0_isPrime_0 14 rfl rfl)
theorem dX0_isPrime_15 : decode cX0_isPrime 15 = .ok (.lconst 0, 1) := dk_9 (dk_at dksX0_isPrime_0 15 rfl rfl)
theorem dX0_isPrime_16 : decode cX0_isPrime 16 = .ok (.lcmp, 1) := dk_148 (dk_at dksX0_isPrime_0 16 rfl rfl)
theorem dX0_isPrime_17 : decode cX0_isPrime 17 = .ok (.ifCond .ne 5, 3) := dk_154 0 5 (dk_at dksX0_isPrime_0 17 rfl rfl)
theorem dX0_isPrime_20 : decode cX0_isPrime 20 = .ok (.iconst 0, 1) := dk_3 (dk_at dksX0_isPrime_0 20 rfl rfl)
theorem dX0_isPrime_21 : decode cX0_isPrime 21 = .ok (.ireturn, 1) := dk_172 (dk_at dksX0_isPrime_0 21 rfl rfl)
theorem dX0_isPrime_22 : decode cX0_isPrime 22 = .ok (.lload_n 2, 1) := dk_32 (dk_at dksX0_isPrime_0 22 rfl rfl)
theorem dX0_isPrime_23 : decode cX0_isPrime 23 = .ok (.lconst 1, 1) := dk_10 (dk_at dksX0_isPrime_0 23 rfl rfl)
theorem dX0_isPrime_24 : decode cX0_isPrime 24 = .ok (.ladd, 1) := dk_97 (dk_at dksX0_isPrime_1 0 rfl rfl)
theorem dX0_isPrime_25 : decode cX0_isPrime 25 = .ok (.lstore_n 2, 1) := dk_65 (dk_at dksX0_isPrime_1 1 rfl rfl)
theorem dX0_isPrime_26 : decode cX0_isPrime 26 = .ok (.goto (-22), 3) := dk_167 255 234 (dk_at dksX0_isPrime_1 2 rfl rfl)
theorem dX0_isPrime_29 : decode cX0_isPrime 29 = .ok (.lload_n 0, 1) := dk_30 (dk_at dksX0_isPrime_1 5 rfl rfl)
theorem dX0_isPrime_30 : decode cX0_isPrime 30 = .ok (.lconst 1, 1) := dk_10 (dk_at dksX0_isPrime_1 6 rfl rfl)
theorem dX0_isPrime_31 : decode cX0_isPrime 31 = .ok (.lcmp, 1) := dk_148 (dk_at dksX0_isPrime_1 7 rfl rfl)
theorem dX0_isPrime_32 : decode cX0_isPrime 32 = .ok (.ifCond .le 7, 3) := dk_158 0 7 (dk_at dksX0_isPrime_1 8 rfl rfl)
theorem dX0_isPrime_35 : decode cX0_isPrime 35 = .ok (.iconst 1, 1) := dk_4 (dk_at dksX0_isPrime_1 11 rfl rfl)
theorem dX0_isPrime_36 : decode cX0_isPrime 36 = .ok (.goto 4, 3) := dk_167 0 4 (dk_at dksX0_isPrime_1 12 rfl rfl)
theorem dX0_isPrime_39 : decode cX0_isPrime 39 = .ok (.iconst 0, 1) := dk_3 (dk_at dksX0_isPrime_1 15 rfl rfl)
theorem dX0_isPrime_40 : decode cX0_isPrime 40 = .ok (.ireturn, 1) := dk_172 (dk_at dksX0_isPrime_1 16 rfl rfl)
abbrev cX0_restOn : ByteArray := prog_1_method_15_code
def yX0_restOn : MethodName := ⟨RX0, "restOn", "(JI)I"⟩
def dkwX0_restOn_2 : List UInt8 := [16, 254, 172]
abbrev dktX0_restOn_2 : List UInt8 := dkwX0_restOn_2 ++ []
def dkwX0_restOn_1 : List UInt8 := [31, 148, 154, 0, 15, 42, 21, 4, 182, 0, 136, 153, 0, 6, 21, 4, 172, 132, 4, 1, 167, 255, 215]
abbrev dktX0_restOn_1 : List UInt8 := dkwX0_restOn_1 ++ dktX0_restOn_2
def dkwX0_restOn_0 : List UInt8 := [3, 54, 4, 21, 4, 29, 162, 0, 41, 42, 180, 0, 91, 21, 4, 182, 0, 122, 192, 0, 126, 180, 0, 132]
abbrev dktX0_restOn_0 : List UInt8 := dkwX0_restOn_0 ++ dktX0_restOn_1
theorem dksX0_restOn_0 : cX0_restOn.data.toList.drop 0 = dktX0_restOn_0 := by decide +kernel
theorem dksX0_restOn_1 : cX0_restOn.data.toList.drop 24 = dktX0_restOn_1 := dk_seg dksX0_restOn_0 24 rfl rfl
theorem dksX0_restOn_2 : cX0_restOn.data.toList.drop 47 = dktX0_restOn_2 := dk_seg dksX0_restOn_1 23 rfl rfl
theorem dX0_restOn_0 : decode cX0_restOn 0 = .ok (.iconst 0, 1) := dk_3 (dk_at dksX0_restOn_0 0 rfl rfl)
theorem dX0_restOn_1 : decode cX0_restOn 1 = .ok (.istore 4, 2) := dk_54 4 (dk_at dksX0_restOn_0 1 rfl rfl)
theorem dX0_restOn_3 : decode cX0_restOn 3 = .ok (.iload 4, 2) := dk_21 4 (dk_at dksX0_restOn_0 3 rfl rfl)
theorem dX0_restOn_5 : decode cX0_restOn 5 = .ok (.iload_n 3, 1) := dk_29 (dk_at dksX0_restOn_0 5 rfl rfl)
theorem dX0_restOn_6 : decode cX0_restOn 6 = .ok (.if_icmp .ge 41, 3) := dk_162 0 41 (dk_at dksX0_restOn_0 6 rfl rfl)
theorem dX0_restOn_9 : decode cX0_restOn 9 = .ok (.aload_n 0, 1) := dk_42 (dk_at dksX0_restOn_0 9 rfl rfl)
theorem dX0_restOn_10 : decode cX0_restOn 10 = .ok (.getfield 91, 3) := dk_180 0 91 (dk_at dksX0_restOn_0 10 rfl rfl)
theorem dX0_restOn_13 : decode cX0_restOn 13 = .ok (.iload 4, 2) := dk_21 4 (dk_at dksX0_restOn_0 13 rfl rfl)
theorem dX0_restOn_15 : decode cX0_restOn 15 = .ok (.invokevirtual 122, 3) := dk_182 0 122 (dk_at dksX0_restOn_0 15 rfl rfl)
theorem dX0_restOn_18 : decode cX0_restOn 18 = .ok (.checkcast 126, 3) := dk_192 0 126 (dk_at dksX0_restOn_0 18 rfl rfl)
theorem dX0_restOn_21 : decode cX0_restOn 21 = .ok (.getfield 132, 3) := dk_180 0 132 (dk_at dksX0_restOn_0 21 rfl rfl)
theorem dX0_restOn_24 : decode cX0_restOn 24 = .ok (.lload_n 1, 1) := dk_31 (dk_at dksX0_restOn_1 0 rfl rfl)
theorem dX0_restOn_25 : decode cX0_restOn 25 = .ok (.lcmp, 1) := dk_148 (dk_at dksX0_restOn_1 1 rfl rfl)
theorem dX0_restOn_26 : decode cX0_restOn 26 = .ok (.ifCond .ne 15, 3) := dk_154 0 15 (dk_at dksX0_restOn_1 2 rfl rfl)
theorem dX0_restOn_29 : decode cX0_restOn 29 = .ok (.aload_n 0, 1) := dk_42 (dk_at dksX0_restOn_1 5 rfl rfl)
theorem dX0_restOn_30 : decode cX0_restOn 30 = .ok (.iload 4, 2) := dk_21 4 (dk_at dksX0_restOn_1 6 rfl rfl)
theorem dX0_restOn_32 : decode cX0_restOn 32 = .ok (.invokevirtual 136, 3) := dk_182 0 136 (dk_at dksX0_restOn_1 8 rfl rfl)
theorem dX0_restOn_35 : decode cX0_restOn 35 = .ok (.ifCond .eq 6, 3) := dk_153 0 6 (dk_at dksX0_restOn_1 11 rfl rfl)
theorem dX0_restOn_38 : decode cX0_restOn 38 = .ok (.iload 4, 2) := dk_21 4 (dk_at dksX0_restOn_1 14 rfl rfl)
theorem dX0_restOn_40 : decode cX0_restOn 40 = .ok (.ireturn, 1) := dk_172 (dk_at dksX0_restOn_1 16 rfl rfl)
theorem dX0_restOn_41 : decode cX0_restOn 41 = .ok (.iinc 4 1, 3) := dk_132 4 1 (dk_at dksX0_restOn_1 17 rfl rfl)
theorem dX0_restOn_44 : decode cX0_restOn 44 = .ok (.goto (-41), 3) := dk_167 255 215 (dk_at dksX0_restOn_1 20 rfl rfl)
theorem dX0_restOn_47 : decode cX0_restOn 47 = .ok (.bipush (-2), 2) := dk_16 254 (dk_at dksX0_restOn_2 0 rfl rfl)
theorem dX0_restOn_49 : decode cX0_restOn 49 = .ok (.ireturn, 1) := dk_172 (dk_at dksX0_restOn_2 2 rfl rfl)
abbrev cX0_common : ByteArray := prog_1_method_3_code
def yX0_common : MethodName := ⟨RX0, "common", "(JJ)J"⟩
def dkwX0_common_0 : List UInt8 := [30, 9, 148, 154, 0, 7, 32, 167, 0, 10, 32, 30, 113, 30, 184, 0, 11, 173]
abbrev dktX0_common_0 : List UInt8 := dkwX0_common_0 ++ []
theorem dksX0_common_0 : cX0_common.data.toList.drop 0 = dktX0_common_0 := by decide +kernel
theorem dX0_common_0 : decode cX0_common 0 = .ok (.lload_n 0, 1) := dk_30 (dk_at dksX0_common_0 0 rfl rfl)
theorem dX0_common_1 : decode cX0_common 1 = .ok (.lconst 0, 1) := dk_9 (dk_at dksX0_common_0 1 rfl rfl)
theorem dX0_common_2 : decode cX0_common 2 = .ok (.lcmp, 1) := dk_148 (dk_at dksX0_common_0 2 rfl rfl)
theorem dX0_common_3 : decode cX0_common 3 = .ok (.ifCond .ne 7, 3) := dk_154 0 7 (dk_at dksX0_common_0 3 rfl rfl)
theorem dX0_common_6 : decode cX0_common 6 = .ok (.lload_n 2, 1) := dk_32 (dk_at dksX0_common_0 6 rfl rfl)
theorem dX0_common_7 : decode cX0_common 7 = .ok (.goto 10, 3) := dk_167 0 10 (dk_at dksX0_common_0 7 rfl rfl)
theorem dX0_common_10 : decode cX0_common 10 = .ok (.lload_n 2, 1) := dk_32 (dk_at dksX0_common_0 10 rfl rfl)
theorem dX0_common_11 : decode cX0_common 11 = .ok (.lload_n 0, 1) := dk_30 (dk_at dksX0_common_0 11 rfl rfl)
theorem dX0_common_12 : decode cX0_common 12 = .ok (.lrem, 1) := dk_113 (dk_at dksX0_common_0 12 rfl rfl)
theorem dX0_common_13 : decode cX0_common 13 = .ok (.lload_n 0, 1) := dk_30 (dk_at dksX0_common_0 13 rfl rfl)
theorem dX0_common_14 : decode cX0_common 14 = .ok (.invokestatic 11, 3) := dk_184 0 11 (dk_at dksX0_common_0 14 rfl rfl)
theorem dX0_common_17 : decode cX0_common 17 = .ok (.lreturn, 1) := dk_173 (dk_at dksX0_common_0 17 rfl rfl)
abbrev cX0_powerOf : ByteArray := prog_1_method_4_code
def yX0_powerOf : MethodName := ⟨RX0, "powerOf", "(JJJ)J"⟩
def dkwX0_powerOf_0 : List UInt8 := [187, 0, 15, 89, 22, 4, 30, 183, 0, 17, 32, 182, 0, 21, 173]
abbrev dktX0_powerOf_0 : List UInt8 := dkwX0_powerOf_0 ++ []
theorem dksX0_powerOf_0 : cX0_powerOf.data.toList.drop 0 = dktX0_powerOf_0 := by decide +kernel
theorem dX0_powerOf_0 : decode cX0_powerOf 0 = .ok (.new 15, 3) := dk_187 0 15 (dk_at dksX0_powerOf_0 0 rfl rfl)
theorem dX0_powerOf_3 : decode cX0_powerOf 3 = .ok (.dup, 1) := dk_89 (dk_at dksX0_powerOf_0 3 rfl rfl)
theorem dX0_powerOf_4 : decode cX0_powerOf 4 = .ok (.lload 4, 2) := dk_22 4 (dk_at dksX0_powerOf_0 4 rfl rfl)
theorem dX0_powerOf_6 : decode cX0_powerOf 6 = .ok (.lload_n 0, 1) := dk_30 (dk_at dksX0_powerOf_0 6 rfl rfl)
theorem dX0_powerOf_7 : decode cX0_powerOf 7 = .ok (.invokespecial 17, 3) := dk_183 0 17 (dk_at dksX0_powerOf_0 7 rfl rfl)
theorem dX0_powerOf_10 : decode cX0_powerOf 10 = .ok (.lload_n 2, 1) := dk_32 (dk_at dksX0_powerOf_0 10 rfl rfl)
theorem dX0_powerOf_11 : decode cX0_powerOf 11 = .ok (.invokevirtual 21, 3) := dk_182 0 21 (dk_at dksX0_powerOf_0 11 rfl rfl)
theorem dX0_powerOf_14 : decode cX0_powerOf 14 = .ok (.lreturn, 1) := dk_173 (dk_at dksX0_powerOf_0 14 rfl rfl)
abbrev cX0_jacobiOf : ByteArray := prog_1_method_6_code
def yX0_jacobiOf : MethodName := ⟨RX0, "jacobiOf", "(JJ)I"⟩
def dkwX0_jacobiOf_6 : List UInt8 := [3, 172]
abbrev dktX0_jacobiOf_6 : List UInt8 := dkwX0_jacobiOf_6 ++ []
def dkwX0_jacobiOf_5 : List UInt8 := [54, 8, 22, 4, 22, 6, 113, 55, 4, 167, 255, 146, 22, 6, 10, 148, 154, 0, 8, 21, 8, 167, 0, 4]
abbrev dktX0_jacobiOf_5 : List UInt8 := dkwX0_jacobiOf_5 ++ dktX0_jacobiOf_6
def dkwX0_jacobiOf_4 : List UInt8 := [20, 0, 38, 148, 154, 0, 21, 22, 6, 20, 0, 42, 113, 20, 0, 38, 148, 154, 0, 8, 21, 8, 116]
abbrev dktX0_jacobiOf_4 : List UInt8 := dkwX0_jacobiOf_4 ++ dktX0_jacobiOf_5
def dkwX0_jacobiOf_3 : List UInt8 := [54, 8, 167, 255, 206, 22, 4, 55, 9, 22, 6, 55, 4, 22, 9, 55, 6, 22, 4, 20, 0, 42, 113]
abbrev dktX0_jacobiOf_3 : List UInt8 := dkwX0_jacobiOf_3 ++ dktX0_jacobiOf_4
def dkwX0_jacobiOf_2 : List UInt8 := [20, 0, 38, 148, 153, 0, 16, 22, 6, 20, 0, 36, 113, 20, 0, 40, 148, 154, 255, 214, 21, 8, 116]
abbrev dktX0_jacobiOf_2 : List UInt8 := dkwX0_jacobiOf_2 ++ dktX0_jacobiOf_3
def dkwX0_jacobiOf_1 : List UInt8 := [20, 0, 1, 113, 9, 148, 154, 0, 45, 22, 4, 20, 0, 1, 109, 55, 4, 22, 6, 20, 0, 36, 113]
abbrev dktX0_jacobiOf_1 : List UInt8 := dkwX0_jacobiOf_1 ++ dktX0_jacobiOf_2
def dkwX0_jacobiOf_0 : List UInt8 := [30, 32, 184, 0, 31, 55, 4, 32, 55, 6, 4, 54, 8, 22, 4, 9, 148, 153, 0, 109, 22, 4]
abbrev dktX0_jacobiOf_0 : List UInt8 := dkwX0_jacobiOf_0 ++ dktX0_jacobiOf_1
theorem dksX0_jacobiOf_0 : cX0_jacobiOf.data.toList.drop 0 = dktX0_jacobiOf_0 := by decide +kernel
theorem dksX0_jacobiOf_1 : cX0_jacobiOf.data.toList.drop 22 = dktX0_jacobiOf_1 := dk_seg dksX0_jacobiOf_0 22 rfl rfl
theorem dksX0_jacobiOf_2 : cX0_jacobiOf.data.toList.drop 45 = dktX0_jacobiOf_2 := dk_seg dksX0_jacobiOf_1 23 rfl rfl
theorem dksX0_jacobiOf_3 : cX0_jacobiOf.data.toList.drop 68 = dktX0_jacobiOf_3 := dk_seg dksX0_jacobiOf_2 23 rfl rfl
theorem dksX0_jacobiOf_4 : cX0_jacobiOf.data.toList.drop 91 = dktX0_jacobiOf_4 := dk_seg dksX0_jacobiOf_3 23 rfl rfl
theorem dksX0_jacobiOf_5 : cX0_jacobiOf.data.toList.drop 114 = dktX0_jacobiOf_5 := dk_seg dksX0_jacobiOf_4 23 rfl rfl
theorem dksX0_jacobiOf_6 : cX0_jacobiOf.data.toList.drop 138 = dktX0_jacobiOf_6 := dk_seg dksX0_jacobiOf_5 24 rfl rfl
theorem dX0_jacobiOf_0 : decode cX0_jacobiOf 0 = .ok (.lload_n 0, 1) := dk_30 (dk_at dksX0_jacobiOf_0 0 rfl rfl)
theorem dX0_jacobiOf_1 : decode cX0_jacobiOf 1 = .ok (.lload_n 2, 1) := dk_32 (dk_at dksX0_jacobiOf_0 1 rfl rfl)
theorem dX0_jacobiOf_2 : decode cX0_jacobiOf 2 = .ok (.invokestatic 31, 3) := dk_184 0 31 (dk_at dksX0_jacobiOf_0 2 rfl rfl)
theorem dX0_jacobiOf_5 : decode cX0_jacobiOf 5 = .ok (.lstore 4, 2) := dk_55 4 (dk_at dksX0_jacobiOf_0 5 rfl rfl)
theorem dX0_jacobiOf_7 : decode cX0_jacobiOf 7 = .ok (.lload_n 2, 1) := dk_32 (dk_at dksX0_jacobiOf_0 7 rfl rfl)
theorem dX0_jacobiOf_8 : decode cX0_jacobiOf 8 = .ok (.lstore 6, 2) := dk_55 6 (dk_at dksX0_jacobiOf_0 8 rfl rfl)
theorem dX0_jacobiOf_10 : decode cX0_jacobiOf 10 = .ok (.iconst 1, 1) := dk_4 (dk_at dksX0_jacobiOf_0 10 rfl rfl)
theorem dX0_jacobiOf_11 : decode cX0_jacobiOf 11 = .ok (.istore 8, 2) := dk_54 8 (dk_at dksX0_jacobiOf_0 11 rfl rfl)
theorem dX0_jacobiOf_13 : decode cX0_jacobiOf 13 = .ok (.lload 4, 2) := dk_22 4 (dk_at dksX0_jacobiOf_0 13 rfl rfl)
theorem dX0_jacobiOf_15 : decode cX0_jacobiOf 15 = .ok (.lconst 0, 1) := dk_9 (dk_at dksX0_jacobiOf_0 15 rfl rfl)
theorem dX0_jacobiOf_16 : decode cX0_jacobiOf 16 = .ok (.lcmp, 1) := dk_148 (dk_at dksX0_jacobiOf_0 16 rfl rfl)
theorem dX0_jacobiOf_17 : decode cX0_jacobiOf 17 = .ok (.ifCond .eq 109, 3) := dk_153 0 109 (dk_at dksX0_jacobiOf_0 17 rfl rfl)
theorem dX0_jacobiOf_20 : decode cX0_jacobiOf 20 = .ok (.lload 4, 2) := dk_22 4 (dk_at dksX0_jacobiOf_0 20 rfl rfl)
theorem dX0_jacobiOf_22 : decode cX0_jacobiOf 22 = .ok (.ldc2_w 1, 3) := dk_20 0 1 (dk_at dksX0_jacobiOf_1 0 rfl rfl)
theorem dX0_jacobiOf_25 : decode cX0_jacobiOf 25 = .ok (.lrem, 1) := dk_113 (dk_at dksX0_jacobiOf_1 3 rfl rfl)
theorem dX0_jacobiOf_26 : decode cX0_jacobiOf 26 = .ok (.lconst 0, 1) := dk_9 (dk_at dksX0_jacobiOf_1 4 rfl rfl)
theorem dX0_jacobiOf_27 : decode cX0_jacobiOf 27 = .ok (.lcmp, 1) := dk_148 (dk_at dksX0_jacobiOf_1 5 rfl rfl)
theorem dX0_jacobiOf_28 : decode cX0_jacobiOf 28 = .ok (.ifCond .ne 45, 3) := dk_154 0 45 (dk_at dksX0_jacobiOf_1 6 rfl rfl)
theorem dX0_jacobiOf_31 : decode cX0_jacobiOf 31 = .ok (.lload 4, 2) := dk_22 4 (dk_at dksX0_jacobiOf_1 9 rfl rfl)
theorem dX0_jacobiOf_33 : decode cX0_jacobiOf 33 = .ok (.ldc2_w 1, 3) := dk_20 0 1 (dk_at dksX0_jacobiOf_1 11 rfl rfl)
theorem dX0_jacobiOf_36 : decode cX0_jacobiOf 36 = .ok (.ldiv, 1) := dk_109 (dk_at dksX0_jacobiOf_1 14 rfl rfl)
theorem dX0_jacobiOf_37 : decode cX0_jacobiOf 37 = .ok (.lstore 4, 2) := dk_55 4 (dk_at dksX0_jacobiOf_1 15 rfl rfl)
theorem dX0_jacobiOf_39 : decode cX0_jacobiOf 39 = .ok (.lload 6, 2) := dk_22 6 (dk_at dksX0_jacobiOf_1 17 rfl rfl)
theorem dX0_jacobiOf_41 : decode cX0_jacobiOf 41 = .ok (.ldc2_w 36, 3) := dk_20 0 36 (dk_at dksX0_jacobiOf_1 19 rfl rfl)
theorem dX0_jacobiOf_44 : decode cX0_jacobiOf 44 = .ok (.lrem, 1) := dk_113 (dk_at dksX0_jacobiOf_1 22 rfl rfl)
theorem dX0_jacobiOf_45 : decode cX0_jacobiOf 45 = .ok (.ldc2_w 38, 3) := dk_20 0 38 (dk_at dksX0_jacobiOf_2 0 rfl rfl)
theorem dX0_jacobiOf_48 : decode cX0_jacobiOf 48 = .ok (.lcmp, 1) := dk_148 (dk_at dksX0_jacobiOf_2 3 rfl rfl)
theorem dX0_jacobiOf_49 : decode cX0_jacobiOf 49 = .ok (.ifCond .eq 16, 3) := dk_153 0 16 (dk_at dksX0_jacobiOf_2 4 rfl rfl)
theorem dX0_jacobiOf_52 : decode cX0_jacobiOf 52 = .ok (.lload 6, 2) := dk_22 6 (dk_at dksX0_jacobiOf_2 7 rfl rfl)
theorem dX0_jacobiOf_54 : decode cX0_jacobiOf 54 = .ok (.ldc2_w 36, 3) := dk_20 0 36 (dk_at dksX0_jacobiOf_2 9 rfl rfl)
theorem dX0_jacobiOf_57 : decode cX0_jacobiOf 57 = .ok (.lrem, 1) := dk_113 (dk_at dksX0_jacobiOf_2 12 rfl rfl)
theorem dX0_jacobiOf_58 : decode cX0_jacobiOf 58 = .ok (.ldc2_w 40, 3) := dk_20 0 40 (dk_at dksX0_jacobiOf_2 13 rfl rfl)
theorem dX0_jacobiOf_61 : decode cX0_jacobiOf 61 = .ok (.lcmp, 1) := dk_148 (dk_at dksX0_jacobiOf_2 16 rfl rfl)
theorem dX0_jacobiOf_62 : decode cX0_jacobiOf 62 = .ok (.ifCond .ne (-42), 3) := dk_154 255 214 (dk_at dksX0_jacobiOf_2 17 rfl rfl)
theorem dX0_jacobiOf_65 : decode cX0_jacobiOf 65 = .ok (.iload 8, 2) := dk_21 8 (dk_at dksX0_jacobiOf_2 20 rfl rfl)
theorem dX0_jacobiOf_67 : decode cX0_jacobiOf 67 = .ok (.ineg, 1) := dk_116 (dk_at dksX0_jacobiOf_2 22 rfl rfl)
theorem dX0_jacobiOf_68 : decode cX0_jacobiOf 68 = .ok (.istore 8, 2) := dk_54 8 (dk_at dksX0_jacobiOf_3 0 rfl rfl)
theorem dX0_jacobiOf_70 : decode cX0_jacobiOf 70 = .ok (.goto (-50), 3) := dk_167 255 206 (dk_at dksX0_jacobiOf_3 2 rfl rfl)
theorem dX0_jacobiOf_73 : decode cX0_jacobiOf 73 = .ok (.lload 4, 2) := dk_22 4 (dk_at dksX0_jacobiOf_3 5 rfl rfl)
theorem dX0_jacobiOf_75 : decode cX0_jacobiOf 75 = .ok (.lstore 9, 2) := dk_55 9 (dk_at dksX0_jacobiOf_3 7 rfl rfl)
theorem dX0_jacobiOf_77 : decode cX0_jacobiOf 77 = .ok (.lload 6, 2) := dk_22 6 (dk_at dksX0_jacobiOf_3 9 rfl rfl)
theorem dX0_jacobiOf_79 : decode cX0_jacobiOf 79 = .ok (.lstore 4, 2) := dk_55 4 (dk_at dksX0_jacobiOf_3 11 rfl rfl)
theorem dX0_jacobiOf_81 : decode cX0_jacobiOf 81 = .ok (.lload 9, 2) := dk_22 9 (dk_at dksX0_jacobiOf_3 13 rfl rfl)
theorem dX0_jacobiOf_83 : decode cX0_jacobiOf 83 = .ok (.lstore 6, 2) := dk_55 6 (dk_at dksX0_jacobiOf_3 15 rfl rfl)
theorem dX0_jacobiOf_85 : decode cX0_jacobiOf 85 = .ok (.lload 4, 2) := dk_22 4 (dk_at dksX0_jacobiOf_3 17 rfl rfl)
theorem dX0_jacobiOf_87 : decode cX0_jacobiOf 87 = .ok (.ldc2_w 42, 3) := dk_20 0 42 (dk_at dksX0_jacobiOf_3 19 rfl rfl)
theorem dX0_jacobiOf_90 : decode cX0_jacobiOf 90 = .ok (.lrem, 1) := dk_113 (dk_at dksX0_jacobiOf_3 22 rfl rfl)
theorem dX0_jacobiOf_91 : decode cX0_jacobiOf 91 = .ok (.ldc2_w 38, 3) := dk_20 0 38 (dk_at dksX0_jacobiOf_4 0 rfl rfl)
theorem dX0_jacobiOf_94 : decode cX0_jacobiOf 94 = .ok (.lcmp, 1) := dk_148 (dk_at dksX0_jacobiOf_4 3 rfl rfl)
theorem dX0_jacobiOf_95 : decode cX0_jacobiOf 95 = .ok (.ifCond .ne 21, 3) := dk_154 0 21 (dk_at dksX0_jacobiOf_4 4 rfl rfl)
theorem dX0_jacobiOf_98 : decode cX0_jacobiOf 98 = .ok (.lload 6, 2) := dk_22 6 (dk_at dksX0_jacobiOf_4 7 rfl rfl)
theorem dX0_jacobiOf_100 : decode cX0_jacobiOf 100 = .ok (.ldc2_w 42, 3) := dk_20 0 42 (dk_at dksX0_jacobiOf_4 9 rfl rfl)
theorem dX0_jacobiOf_103 : decode cX0_jacobiOf 103 = .ok (.lrem, 1) := dk_113 (dk_at dksX0_jacobiOf_4 12 rfl rfl)
theorem dX0_jacobiOf_104 : decode cX0_jacobiOf 104 = .ok (.ldc2_w 38, 3) := dk_20 0 38 (dk_at dksX0_jacobiOf_4 13 rfl rfl)
theorem dX0_jacobiOf_107 : decode cX0_jacobiOf 107 = .ok (.lcmp, 1) := dk_148 (dk_at dksX0_jacobiOf_4 16 rfl rfl)
theorem dX0_jacobiOf_108 : decode cX0_jacobiOf 108 = .ok (.ifCond .ne 8, 3) := dk_154 0 8 (dk_at dksX0_jacobiOf_4 17 rfl rfl)
theorem dX0_jacobiOf_111 : decode cX0_jacobiOf 111 = .ok (.iload 8, 2) := dk_21 8 (dk_at dksX0_jacobiOf_4 20 rfl rfl)
theorem dX0_jacobiOf_113 : decode cX0_jacobiOf 113 = .ok (.ineg, 1) := dk_116 (dk_at dksX0_jacobiOf_4 22 rfl rfl)
theorem dX0_jacobiOf_114 : decode cX0_jacobiOf 114 = .ok (.istore 8, 2) := dk_54 8 (dk_at dksX0_jacobiOf_5 0 rfl rfl)
theorem dX0_jacobiOf_116 : decode cX0_jacobiOf 116 = .ok (.lload 4, 2) := dk_22 4 (dk_at dksX0_jacobiOf_5 2 rfl rfl)
theorem dX0_jacobiOf_118 : decode cX0_jacobiOf 118 = .ok (.lload 6, 2) := dk_22 6 (dk_at dksX0_jacobiOf_5 4 rfl rfl)
theorem dX0_jacobiOf_120 : decode cX0_jacobiOf 120 = .ok (.lrem, 1) := dk_113 (dk_at dksX0_jacobiOf_5 6 rfl rfl)
theorem dX0_jacobiOf_121 : decode cX0_jacobiOf 121 = .ok (.lstore 4, 2) := dk_55 4 (dk_at dksX0_jacobiOf_5 7 rfl rfl)
theorem dX0_jacobiOf_123 : decode cX0_jacobiOf 123 = .ok (.goto (-110), 3) := dk_167 255 146 (dk_at dksX0_jacobiOf_5 9 rfl rfl)
theorem dX0_jacobiOf_126 : decode cX0_jacobiOf 126 = .ok (.lload 6, 2) := dk_22 6 (dk_at dksX0_jacobiOf_5 12 rfl rfl)
theorem dX0_jacobiOf_128 : decode cX0_jacobiOf 128 = .ok (.lconst 1, 1) := dk_10 (dk_at dksX0_jacobiOf_5 14 rfl rfl)
theorem dX0_jacobiOf_129 : decode cX0_jacobiOf 129 = .ok (.lcmp, 1) := dk_148 (dk_at dksX0_jacobiOf_5 15 rfl rfl)
theorem dX0_jacobiOf_130 : decode cX0_jacobiOf 130 = .ok (.ifCond .ne 8, 3) := dk_154 0 8 (dk_at dksX0_jacobiOf_5 16 rfl rfl)
theorem dX0_jacobiOf_133 : decode cX0_jacobiOf 133 = .ok (.iload 8, 2) := dk_21 8 (dk_at dksX0_jacobiOf_5 19 rfl rfl)
theorem dX0_jacobiOf_135 : decode cX0_jacobiOf 135 = .ok (.goto 4, 3) := dk_167 0 4 (dk_at dksX0_jacobiOf_5 21 rfl rfl)
theorem dX0_jacobiOf_138 : decode cX0_jacobiOf 138 = .ok (.iconst 0, 1) := dk_3 (dk_at dksX0_jacobiOf_6 0 rfl rfl)
theorem dX0_jacobiOf_139 : decode cX0_jacobiOf 139 = .ok (.ireturn, 1) := dk_172 (dk_at dksX0_jacobiOf_6 1 rfl rfl)
abbrev cX0_sequenceOf : ByteArray := prog_1_method_5_code
def yX0_sequenceOf : MethodName := ⟨RX0, "sequenceOf", "(JJJJ)J"⟩
def dkwX0_sequenceOf_0 : List UInt8 := [187, 0, 25, 89, 22, 6, 30, 32, 183, 0, 27, 22, 4, 182, 0, 30, 173]
abbrev dktX0_sequenceOf_0 : List UInt8 := dkwX0_sequenceOf_0 ++ []
theorem dksX0_sequenceOf_0 : cX0_sequenceOf.data.toList.drop 0 = dktX0_sequenceOf_0 := by decide +kernel
theorem dX0_sequenceOf_0 : decode cX0_sequenceOf 0 = .ok (.new 25, 3) := dk_187 0 25 (dk_at dksX0_sequenceOf_0 0 rfl rfl)
theorem dX0_sequenceOf_3 : decode cX0_sequenceOf 3 = .ok (.dup, 1) := dk_89 (dk_at dksX0_sequenceOf_0 3 rfl rfl)
theorem dX0_sequenceOf_4 : decode cX0_sequenceOf 4 = .ok (.lload 6, 2) := dk_22 6 (dk_at dksX0_sequenceOf_0 4 rfl rfl)
theorem dX0_sequenceOf_6 : decode cX0_sequenceOf 6 = .ok (.lload_n 0, 1) := dk_30 (dk_at dksX0_sequenceOf_0 6 rfl rfl)
theorem dX0_sequenceOf_7 : decode cX0_sequenceOf 7 = .ok (.lload_n 2, 1) := dk_32 (dk_at dksX0_sequenceOf_0 7 rfl rfl)
theorem dX0_sequenceOf_8 : decode cX0_sequenceOf 8 = .ok (.invokespecial 27, 3) := dk_183 0 27 (dk_at dksX0_sequenceOf_0 8 rfl rfl)
theorem dX0_sequenceOf_11 : decode cX0_sequenceOf 11 = .ok (.lload 4, 2) := dk_22 4 (dk_at dksX0_sequenceOf_0 11 rfl rfl)
theorem dX0_sequenceOf_13 : decode cX0_sequenceOf 13 = .ok (.invokevirtual 30, 3) := dk_182 0 30 (dk_at dksX0_sequenceOf_0 13 rfl rfl)
theorem dX0_sequenceOf_16 : decode cX0_sequenceOf 16 = .ok (.lreturn, 1) := dk_173 (dk_at dksX0_sequenceOf_0 16 rfl rfl)
abbrev cX0_made : ByteArray := prog_1_method_10_code
def yX0_made : MethodName := ⟨RX0, "made", "(JI)LPrimeProofs$Line;"⟩
def dkwX0_made_4 : List UInt8 := [183, 0, 84, 176]
abbrev dktX0_made_4 : List UInt8 := dkwX0_made_4 ++ []
def dkwX0_made_3 : List UInt8 := [42, 31, 183, 0, 78, 176, 187, 0, 79, 89, 42, 31, 183, 0, 81, 176, 187, 0, 82, 89, 42, 31]
abbrev dktX0_made_3 : List UInt8 := dkwX0_made_3 ++ dktX0_made_4
def dkwX0_made_2 : List UInt8 := [187, 0, 68, 89, 42, 31, 183, 0, 70, 176, 187, 0, 73, 89, 42, 31, 183, 0, 75, 176, 187, 0, 76, 89]
abbrev dktX0_made_2 : List UInt8 := dkwX0_made_2 ++ dktX0_made_3
def dkwX0_made_1 : List UInt8 := [170, 0, 0, 0, 0, 0, 71, 0, 0, 0, 0, 0, 0, 0, 3, 0, 0, 0, 31, 0, 0, 0, 41, 0, 0, 0, 51, 0, 0, 0, 61]
abbrev dktX0_made_1 : List UInt8 := dkwX0_made_1 ++ dktX0_made_2
def dkwX0_made_0 : List UInt8 := [29]
abbrev dktX0_made_0 : List UInt8 := dkwX0_made_0 ++ dktX0_made_1
theorem dksX0_made_0 : cX0_made.data.toList.drop 0 = dktX0_made_0 := by decide +kernel
theorem dksX0_made_1 : cX0_made.data.toList.drop 1 = dktX0_made_1 := dk_seg dksX0_made_0 1 rfl rfl
theorem dksX0_made_2 : cX0_made.data.toList.drop 32 = dktX0_made_2 := dk_seg dksX0_made_1 31 rfl rfl
theorem dksX0_made_3 : cX0_made.data.toList.drop 56 = dktX0_made_3 := dk_seg dksX0_made_2 24 rfl rfl
theorem dksX0_made_4 : cX0_made.data.toList.drop 78 = dktX0_made_4 := dk_seg dksX0_made_3 22 rfl rfl
theorem dX0_made_0 : decode cX0_made 0 = .ok (.iload_n 3, 1) := dk_29 (dk_at dksX0_made_0 0 rfl rfl)
theorem dX0_made_1 : decode cX0_made 1 = .ok (.tableswitch 71 0 3 #[31, 41, 51, 61], 31) := by decide +kernel
theorem dX0_made_32 : decode cX0_made 32 = .ok (.new 68, 3) := dk_187 0 68 (dk_at dksX0_made_2 0 rfl rfl)
theorem dX0_made_35 : decode cX0_made 35 = .ok (.dup, 1) := dk_89 (dk_at dksX0_made_2 3 rfl rfl)
theorem dX0_made_36 : decode cX0_made 36 = .ok (.aload_n 0, 1) := dk_42 (dk_at dksX0_made_2 4 rfl rfl)
theorem dX0_made_37 : decode cX0_made 37 = .ok (.lload_n 1, 1) := dk_31 (dk_at dksX0_made_2 5 rfl rfl)
theorem dX0_made_38 : decode cX0_made 38 = .ok (.invokespecial 70, 3) := dk_183 0 70 (dk_at dksX0_made_2 6 rfl rfl)
theorem dX0_made_41 : decode cX0_made 41 = .ok (.areturn, 1) := dk_176 (dk_at dksX0_made_2 9 rfl rfl)
theorem dX0_made_42 : decode cX0_made 42 = .ok (.new 73, 3) := dk_187 0 73 (dk_at dksX0_made_2 10 rfl rfl)
theorem dX0_made_45 : decode cX0_made 45 = .ok (.dup, 1) := dk_89 (dk_at dksX0_made_2 13 rfl rfl)
theorem dX0_made_46 : decode cX0_made 46 = .ok (.aload_n 0, 1) := dk_42 (dk_at dksX0_made_2 14 rfl rfl)
theorem dX0_made_47 : decode cX0_made 47 = .ok (.lload_n 1, 1) := dk_31 (dk_at dksX0_made_2 15 rfl rfl)
theorem dX0_made_48 : decode cX0_made 48 = .ok (.invokespecial 75, 3) := dk_183 0 75 (dk_at dksX0_made_2 16 rfl rfl)
theorem dX0_made_51 : decode cX0_made 51 = .ok (.areturn, 1) := dk_176 (dk_at dksX0_made_2 19 rfl rfl)
theorem dX0_made_52 : decode cX0_made 52 = .ok (.new 76, 3) := dk_187 0 76 (dk_at dksX0_made_2 20 rfl rfl)
theorem dX0_made_55 : decode cX0_made 55 = .ok (.dup, 1) := dk_89 (dk_at dksX0_made_2 23 rfl rfl)
theorem dX0_made_56 : decode cX0_made 56 = .ok (.aload_n 0, 1) := dk_42 (dk_at dksX0_made_3 0 rfl rfl)
theorem dX0_made_57 : decode cX0_made 57 = .ok (.lload_n 1, 1) := dk_31 (dk_at dksX0_made_3 1 rfl rfl)
theorem dX0_made_58 : decode cX0_made 58 = .ok (.invokespecial 78, 3) := dk_183 0 78 (dk_at dksX0_made_3 2 rfl rfl)
theorem dX0_made_61 : decode cX0_made 61 = .ok (.areturn, 1) := dk_176 (dk_at dksX0_made_3 5 rfl rfl)
theorem dX0_made_62 : decode cX0_made 62 = .ok (.new 79, 3) := dk_187 0 79 (dk_at dksX0_made_3 6 rfl rfl)
theorem dX0_made_65 : decode cX0_made 65 = .ok (.dup, 1) := dk_89 (dk_at dksX0_made_3 9 rfl rfl)
theorem dX0_made_66 : decode cX0_made 66 = .ok (.aload_n 0, 1) := dk_42 (dk_at dksX0_made_3 10 rfl rfl)
theorem dX0_made_67 : decode cX0_made 67 = .ok (.lload_n 1, 1) := dk_31 (dk_at dksX0_made_3 11 rfl rfl)
theorem dX0_made_68 : decode cX0_made 68 = .ok (.invokespecial 81, 3) := dk_183 0 81 (dk_at dksX0_made_3 12 rfl rfl)
theorem dX0_made_71 : decode cX0_made 71 = .ok (.areturn, 1) := dk_176 (dk_at dksX0_made_3 15 rfl rfl)
theorem dX0_made_72 : decode cX0_made 72 = .ok (.new 82, 3) := dk_187 0 82 (dk_at dksX0_made_3 16 rfl rfl)
theorem dX0_made_75 : decode cX0_made 75 = .ok (.dup, 1) := dk_89 (dk_at dksX0_made_3 19 rfl rfl)
theorem dX0_made_76 : decode cX0_made 76 = .ok (.aload_n 0, 1) := dk_42 (dk_at dksX0_made_3 20 rfl rfl)
theorem dX0_made_77 : decode cX0_made 77 = .ok (.lload_n 1, 1) := dk_31 (dk_at dksX0_made_3 21 rfl rfl)
theorem dX0_made_78 : decode cX0_made 78 = .ok (.invokespecial 84, 3) := dk_183 0 84 (dk_at dksX0_made_4 0 rfl rfl)
theorem dX0_made_81 : decode cX0_made 81 = .ok (.areturn, 1) := dk_176 (dk_at dksX0_made_4 3 rfl rfl)
abbrev cX0_canBe : ByteArray := prog_1_method_21_code
def yX0_canBe : MethodName := ⟨RX0, "canBe", "(JI)Z"⟩
def dkwX0_canBe_1 : List UInt8 := [20, 0, 1, 148, 158, 0, 7, 4, 167, 0, 4, 3, 172]
abbrev dktX0_canBe_1 : List UInt8 := dkwX0_canBe_1 ++ []
def dkwX0_canBe_0 : List UInt8 := [30, 184, 0, 203, 153, 0, 30, 28, 154, 0, 14, 30, 20, 0, 190, 148, 156, 0, 18, 167, 0, 11, 30]
abbrev dktX0_canBe_0 : List UInt8 := dkwX0_canBe_0 ++ dktX0_canBe_1
theorem dksX0_canBe_0 : cX0_canBe.data.toList.drop 0 = dktX0_canBe_0 := by decide +kernel
theorem dksX0_canBe_1 : cX0_canBe.data.toList.drop 23 = dktX0_canBe_1 := dk_seg dksX0_canBe_0 23 rfl rfl
theorem dX0_canBe_0 : decode cX0_canBe 0 = .ok (.lload_n 0, 1) := dk_30 (dk_at dksX0_canBe_0 0 rfl rfl)
theorem dX0_canBe_1 : decode cX0_canBe 1 = .ok (.invokestatic 203, 3) := dk_184 0 203 (dk_at dksX0_canBe_0 1 rfl rfl)
theorem dX0_canBe_4 : decode cX0_canBe 4 = .ok (.ifCond .eq 30, 3) := dk_153 0 30 (dk_at dksX0_canBe_0 4 rfl rfl)
theorem dX0_canBe_7 : decode cX0_canBe 7 = .ok (.iload_n 2, 1) := dk_28 (dk_at dksX0_canBe_0 7 rfl rfl)
theorem dX0_canBe_8 : decode cX0_canBe 8 = .ok (.ifCond .ne 14, 3) := dk_154 0 14 (dk_at dksX0_canBe_0 8 rfl rfl)
theorem dX0_canBe_11 : decode cX0_canBe 11 = .ok (.lload_n 0, 1) := dk_30 (dk_at dksX0_canBe_0 11 rfl rfl)
theorem dX0_canBe_12 : decode cX0_canBe 12 = .ok (.ldc2_w 190, 3) := dk_20 0 190 (dk_at dksX0_canBe_0 12 rfl rfl)
theorem dX0_canBe_15 : decode cX0_canBe 15 = .ok (.lcmp, 1) := dk_148 (dk_at dksX0_canBe_0 15 rfl rfl)
theorem dX0_canBe_16 : decode cX0_canBe 16 = .ok (.ifCond .ge 18, 3) := dk_156 0 18 (dk_at dksX0_canBe_0 16 rfl rfl)
theorem dX0_canBe_19 : decode cX0_canBe 19 = .ok (.goto 11, 3) := dk_167 0 11 (dk_at dksX0_canBe_0 19 rfl rfl)
theorem dX0_canBe_22 : decode cX0_canBe 22 = .ok (.lload_n 0, 1) := dk_30 (dk_at dksX0_canBe_0 22 rfl rfl)
theorem dX0_canBe_23 : decode cX0_canBe 23 = .ok (.ldc2_w 1, 3) := dk_20 0 1 (dk_at dksX0_canBe_1 0 rfl rfl)
theorem dX0_canBe_26 : decode cX0_canBe 26 = .ok (.lcmp, 1) := dk_148 (dk_at dksX0_canBe_1 3 rfl rfl)
theorem dX0_canBe_27 : decode cX0_canBe 27 = .ok (.ifCond .le 7, 3) := dk_158 0 7 (dk_at dksX0_canBe_1 4 rfl rfl)
theorem dX0_canBe_30 : decode cX0_canBe 30 = .ok (.iconst 1, 1) := dk_4 (dk_at dksX0_canBe_1 7 rfl rfl)
theorem dX0_canBe_31 : decode cX0_canBe 31 = .ok (.goto 4, 3) := dk_167 0 4 (dk_at dksX0_canBe_1 8 rfl rfl)
theorem dX0_canBe_34 : decode cX0_canBe 34 = .ok (.iconst 0, 1) := dk_3 (dk_at dksX0_canBe_1 11 rfl rfl)
theorem dX0_canBe_35 : decode cX0_canBe 35 = .ok (.ireturn, 1) := dk_172 (dk_at dksX0_canBe_1 12 rfl rfl)
abbrev cX0_factors : ByteArray := prog_1_method_7_code
def yX0_factors : MethodName := ⟨RX0, "factors", "(J)LPrimeProofs$Rows;"⟩
def dkwX0_factors_4 : List UInt8 := [183, 0, 51, 182, 0, 54, 167, 0, 4, 44, 176]
abbrev dktX0_factors_4 : List UInt8 := dkwX0_factors_4 ++ []
def dkwX0_factors_3 : List UInt8 := [87, 22, 5, 10, 97, 55, 5, 167, 255, 195, 33, 10, 148, 158, 0, 20, 44, 187, 0, 49, 89, 33, 4, 3]
abbrev dktX0_factors_3 : List UInt8 := dkwX0_factors_3 ++ dktX0_factors_4
def dkwX0_factors_2 : List UInt8 := [167, 255, 239, 21, 7, 158, 0, 20, 44, 187, 0, 49, 89, 22, 5, 21, 7, 3, 183, 0, 51, 182, 0, 54]
abbrev dktX0_factors_2 : List UInt8 := dkwX0_factors_2 ++ dktX0_factors_3
def dkwX0_factors_1 : List UInt8 := [157, 0, 57, 3, 54, 7, 33, 22, 5, 113, 9, 148, 154, 0, 14, 132, 7, 1, 33, 22, 5, 109, 66]
abbrev dktX0_factors_1 : List UInt8 := dkwX0_factors_1 ++ dktX0_factors_2
def dkwX0_factors_0 : List UInt8 := [187, 0, 44, 89, 183, 0, 46, 77, 30, 66, 20, 0, 1, 55, 5, 22, 5, 22, 5, 105, 33, 148]
abbrev dktX0_factors_0 : List UInt8 := dkwX0_factors_0 ++ dktX0_factors_1
theorem dksX0_factors_0 : cX0_factors.data.toList.drop 0 = dktX0_factors_0 := by decide +kernel
theorem dksX0_factors_1 : cX0_factors.data.toList.drop 22 = dktX0_factors_1 := dk_seg dksX0_factors_0 22 rfl rfl
theorem dksX0_factors_2 : cX0_factors.data.toList.drop 45 = dktX0_factors_2 := dk_seg dksX0_factors_1 23 rfl rfl
theorem dksX0_factors_3 : cX0_factors.data.toList.drop 69 = dktX0_factors_3 := dk_seg dksX0_factors_2 24 rfl rfl
theorem dksX0_factors_4 : cX0_factors.data.toList.drop 93 = dktX0_factors_4 := dk_seg dksX0_factors_3 24 rfl rfl
theorem dX0_factors_0 : decode cX0_factors 0 = .ok (.new 44, 3) := dk_187 0 44 (dk_at dksX0_factors_0 0 rfl rfl)
theorem dX0_factors_3 : decode cX0_factors 3 = .ok (.dup, 1) := dk_89 (dk_at dksX0_factors_0 3 rfl rfl)
theorem dX0_factors_4 : decode cX0_factors 4 = .ok (.invokespecial 46, 3) := dk_183 0 46 (dk_at dksX0_factors_0 4 rfl rfl)
theorem dX0_factors_7 : decode cX0_factors 7 = .ok (.astore_n 2, 1) := dk_77 (dk_at dksX0_factors_0 7 rfl rfl)
theorem dX0_factors_8 : decode cX0_factors 8 = .ok (.lload_n 0, 1) := dk_30 (dk_at dksX0_factors_0 8 rfl rfl)
theorem dX0_factors_9 : decode cX0_factors 9 = .ok (.lstore_n 3, 1) := dk_66 (dk_at dksX0_factors_0 9 rfl rfl)
theorem dX0_factors_10 : decode cX0_factors 10 = .ok (.ldc2_w 1, 3) := dk_20 0 1 (dk_at dksX0_factors_0 10 rfl rfl)
theorem dX0_factors_13 : decode cX0_factors 13 = .ok (.lstore 5, 2) := dk_55 5 (dk_at dksX0_factors_0 13 rfl rfl)
theorem dX0_factors_15 : decode cX0_factors 15 = .ok (.lload 5, 2) := dk_22 5 (dk_at dksX0_factors_0 15 rfl rfl)
theorem dX0_factors_17 : decode cX0_factors 17 = .ok (.lload 5, 2) := dk_22 5 (dk_at dksX0_factors_0 17 rfl rfl)
theorem dX0_factors_19 : decode cX0_factors 19 = .ok (.lmul, 1) := dk_105 (dk_at dksX0_factors_0 19 rfl rfl)
theorem dX0_factors_20 : decode cX0_factors 20 = .ok (.lload_n 3, 1) := dk_33 (dk_at dksX0_factors_0 20 rfl rfl)
theorem dX0_factors_21 : decode cX0_factors 21 = .ok (.lcmp, 1) := dk_148 (dk_at dksX0_factors_0 21 rfl rfl)
theorem dX0_factors_22 : decode cX0_factors 22 = .ok (.ifCond .gt 57, 3) := dk_157 0 57 (dk_at dksX0_factors_1 0 rfl rfl)
theorem dX0_factors_25 : decode cX0_factors 25 = .ok (.iconst 0, 1) := dk_3 (dk_at dksX0_factors_1 3 rfl rfl)
theorem dX0_factors_26 : decode cX0_factors 26 = .ok (.istore 7, 2) := dk_54 7 (dk_at dksX0_factors_1 4 rfl rfl)
theorem dX0_factors_28 : decode cX0_factors 28 = .ok (.lload_n 3, 1) := dk_33 (dk_at dksX0_factors_1 6 rfl rfl)
theorem dX0_factors_29 : decode cX0_factors 29 = .ok (.lload 5, 2) := dk_22 5 (dk_at dksX0_factors_1 7 rfl rfl)
theorem dX0_factors_31 : decode cX0_factors 31 = .ok (.lrem, 1) := dk_113 (dk_at dksX0_factors_1 9 rfl rfl)
theorem dX0_factors_32 : decode cX0_factors 32 = .ok (.lconst 0, 1) := dk_9 (dk_at dksX0_factors_1 10 rfl rfl)
theorem dX0_factors_33 : decode cX0_factors 33 = .ok (.lcmp, 1) := dk_148 (dk_at dksX0_factors_1 11 rfl rfl)
theorem dX0_factors_34 : decode cX0_factors 34 = .ok (.ifCond .ne 14, 3) := dk_154 0 14 (dk_at dksX0_factors_1 12 rfl rfl)
theorem dX0_factors_37 : decode cX0_factors 37 = .ok (.iinc 7 1, 3) := dk_132 7 1 (dk_at dksX0_factors_1 15 rfl rfl)
theorem dX0_factors_40 : decode cX0_factors 40 = .ok (.lload_n 3, 1) := dk_33 (dk_at dksX0_factors_1 18 rfl rfl)
theorem dX0_factors_41 : decode cX0_factors 41 = .ok (.lload 5, 2) := dk_22 5 (dk_at dksX0_factors_1 19 rfl rfl)
theorem dX0_factors_43 : decode cX0_factors 43 = .ok (.ldiv, 1) := dk_109 (dk_at dksX0_factors_1 21 rfl rfl)
theorem dX0_factors_44 : decode cX0_factors 44 = .ok (.lstore_n 3, 1) := dk_66 (dk_at dksX0_factors_1 22 rfl rfl)
theorem dX0_factors_45 : decode cX0_factors 45 = .ok (.goto (-17), 3) := dk_167 255 239 (dk_at dksX0_factors_2 0 rfl rfl)
theorem dX0_factors_48 : decode cX0_factors 48 = .ok (.iload 7, 2) := dk_21 7 (dk_at dksX0_factors_2 3 rfl rfl)
theorem dX0_factors_50 : decode cX0_factors 50 = .ok (.ifCond .le 20, 3) := dk_158 0 20 (dk_at dksX0_factors_2 5 rfl rfl)
theorem dX0_factors_53 : decode cX0_factors 53 = .ok (.aload_n 2, 1) := dk_44 (dk_at dksX0_factors_2 8 rfl rfl)
theorem dX0_factors_54 : decode cX0_factors 54 = .ok (.new 49, 3) := dk_187 0 49 (dk_at dksX0_factors_2 9 rfl rfl)
theorem dX0_factors_57 : decode cX0_factors 57 = .ok (.dup, 1) := dk_89 (dk_at dksX0_factors_2 12 rfl rfl)
theorem dX0_factors_58 : decode cX0_factors 58 = .ok (.lload 5, 2) := dk_22 5 (dk_at dksX0_factors_2 13 rfl rfl)
theorem dX0_factors_60 : decode cX0_factors 60 = .ok (.iload 7, 2) := dk_21 7 (dk_at dksX0_factors_2 15 rfl rfl)
theorem dX0_factors_62 : decode cX0_factors 62 = .ok (.iconst 0, 1) := dk_3 (dk_at dksX0_factors_2 17 rfl rfl)
theorem dX0_factors_63 : decode cX0_factors 63 = .ok (.invokespecial 51, 3) := dk_183 0 51 (dk_at dksX0_factors_2 18 rfl rfl)
theorem dX0_factors_66 : decode cX0_factors 66 = .ok (.invokevirtual 54, 3) := dk_182 0 54 (dk_at dksX0_factors_2 21 rfl rfl)
theorem dX0_factors_69 : decode cX0_factors 69 = .ok (.pop, 1) := dk_87 (dk_at dksX0_factors_3 0 rfl rfl)
theorem dX0_factors_70 : decode cX0_factors 70 = .ok (.lload 5, 2) := dk_22 5 (dk_at dksX0_factors_3 1 rfl rfl)
theorem dX0_factors_72 : decode cX0_factors 72 = .ok (.lconst 1, 1) := dk_10 (dk_at dksX0_factors_3 3 rfl rfl)
theorem dX0_factors_73 : decode cX0_factors 73 = .ok (.ladd, 1) := dk_97 (dk_at dksX0_factors_3 4 rfl rfl)
theorem dX0_factors_74 : decode cX0_factors 74 = .ok (.lstore 5, 2) := dk_55 5 (dk_at dksX0_factors_3 5 rfl rfl)
theorem dX0_factors_76 : decode cX0_factors 76 = .ok (.goto (-61), 3) := dk_167 255 195 (dk_at dksX0_factors_3 7 rfl rfl)
theorem dX0_factors_79 : decode cX0_factors 79 = .ok (.lload_n 3, 1) := dk_33 (dk_at dksX0_factors_3 10 rfl rfl)
theorem dX0_factors_80 : decode cX0_factors 80 = .ok (.lconst 1, 1) := dk_10 (dk_at dksX0_factors_3 11 rfl rfl)
theorem dX0_factors_81 : decode cX0_factors 81 = .ok (.lcmp, 1) := dk_148 (dk_at dksX0_factors_3 12 rfl rfl)
theorem dX0_factors_82 : decode cX0_factors 82 = .ok (.ifCond .le 20, 3) := dk_158 0 20 (dk_at dksX0_factors_3 13 rfl rfl)
theorem dX0_factors_85 : decode cX0_factors 85 = .ok (.aload_n 2, 1) := dk_44 (dk_at dksX0_factors_3 16 rfl rfl)
theorem dX0_factors_86 : decode cX0_factors 86 = .ok (.new 49, 3) := dk_187 0 49 (dk_at dksX0_factors_3 17 rfl rfl)
theorem dX0_factors_89 : decode cX0_factors 89 = .ok (.dup, 1) := dk_89 (dk_at dksX0_factors_3 20 rfl rfl)
theorem dX0_factors_90 : decode cX0_factors 90 = .ok (.lload_n 3, 1) := dk_33 (dk_at dksX0_factors_3 21 rfl rfl)
theorem dX0_factors_91 : decode cX0_factors 91 = .ok (.iconst 1, 1) := dk_4 (dk_at dksX0_factors_3 22 rfl rfl)
theorem dX0_factors_92 : decode cX0_factors 92 = .ok (.iconst 0, 1) := dk_3 (dk_at dksX0_factors_3 23 rfl rfl)
theorem dX0_factors_93 : decode cX0_factors 93 = .ok (.invokespecial 51, 3) := dk_183 0 51 (dk_at dksX0_factors_4 0 rfl rfl)
theorem dX0_factors_96 : decode cX0_factors 96 = .ok (.invokevirtual 54, 3) := dk_182 0 54 (dk_at dksX0_factors_4 3 rfl rfl)
theorem dX0_factors_99 : decode cX0_factors 99 = .ok (.goto 4, 3) := dk_167 0 4 (dk_at dksX0_factors_4 6 rfl rfl)
theorem dX0_factors_102 : decode cX0_factors 102 = .ok (.aload_n 2, 1) := dk_44 (dk_at dksX0_factors_4 9 rfl rfl)
theorem dX0_factors_103 : decode cX0_factors 103 = .ok (.areturn, 1) := dk_176 (dk_at dksX0_factors_4 10 rfl rfl)
abbrev cX0_backs : ByteArray := prog_1_method_19_code
def yX0_backs : MethodName := ⟨RX0, "backs", "(LPrimeProofs$Line;)Z"⟩
def dkwX0_backs_4 : List UInt8 := [160, 0, 5, 3, 172, 42, 43, 182, 0, 182, 4, 172]
abbrev dktX0_backs_4 : List UInt8 := dkwX0_backs_4 ++ []
def dkwX0_backs_3 : List UInt8 := [45, 180, 0, 172, 182, 0, 175, 154, 0, 5, 3, 172, 167, 255, 224, 42, 180, 0, 91, 182, 0, 110, 16, 60]
abbrev dktX0_backs_3 : List UInt8 := dkwX0_backs_3 ++ dktX0_backs_4
def dkwX0_backs_2 : List UInt8 := [182, 0, 158, 77, 44, 185, 0, 162, 1, 0, 153, 0, 29, 44, 185, 0, 168, 1, 0, 192, 0, 49, 78, 42]
abbrev dktX0_backs_2 : List UInt8 := dkwX0_backs_2 ++ dktX0_backs_3
def dkwX0_backs_1 : List UInt8 := [192, 0, 49, 78, 42, 45, 180, 0, 172, 182, 0, 175, 154, 0, 5, 3, 172, 167, 255, 224, 43, 180, 0, 179]
abbrev dktX0_backs_1 : List UInt8 := dkwX0_backs_1 ++ dktX0_backs_2
def dkwX0_backs_0 : List UInt8 := [43, 180, 0, 154, 182, 0, 158, 77, 44, 185, 0, 162, 1, 0, 153, 0, 29, 44, 185, 0, 168, 1, 0]
abbrev dktX0_backs_0 : List UInt8 := dkwX0_backs_0 ++ dktX0_backs_1
theorem dksX0_backs_0 : cX0_backs.data.toList.drop 0 = dktX0_backs_0 := by decide +kernel
theorem dksX0_backs_1 : cX0_backs.data.toList.drop 23 = dktX0_backs_1 := dk_seg dksX0_backs_0 23 rfl rfl
theorem dksX0_backs_2 : cX0_backs.data.toList.drop 47 = dktX0_backs_2 := dk_seg dksX0_backs_1 24 rfl rfl
theorem dksX0_backs_3 : cX0_backs.data.toList.drop 71 = dktX0_backs_3 := dk_seg dksX0_backs_2 24 rfl rfl
theorem dksX0_backs_4 : cX0_backs.data.toList.drop 95 = dktX0_backs_4 := dk_seg dksX0_backs_3 24 rfl rfl
theorem dX0_backs_0 : decode cX0_backs 0 = .ok (.aload_n 1, 1) := dk_43 (dk_at dksX0_backs_0 0 rfl rfl)
theorem dX0_backs_1 : decode cX0_backs 1 = .ok (.getfield 154, 3) := dk_180 0 154 (dk_at dksX0_backs_0 1 rfl rfl)
theorem dX0_backs_4 : decode cX0_backs 4 = .ok (.invokevirtual 158, 3) := dk_182 0 158 (dk_at dksX0_backs_0 4 rfl rfl)
theorem dX0_backs_7 : decode cX0_backs 7 = .ok (.astore_n 2, 1) := dk_77 (dk_at dksX0_backs_0 7 rfl rfl)
theorem dX0_backs_8 : decode cX0_backs 8 = .ok (.aload_n 2, 1) := dk_44 (dk_at dksX0_backs_0 8 rfl rfl)
theorem dX0_backs_9 : decode cX0_backs 9 = .ok (.invokeinterface 162 1, 5) := by decide +kernel
theorem dX0_backs_14 : decode cX0_backs 14 = .ok (.ifCond .eq 29, 3) := dk_153 0 29 (dk_at dksX0_backs_0 14 rfl rfl)
theorem dX0_backs_17 : decode cX0_backs 17 = .ok (.aload_n 2, 1) := dk_44 (dk_at dksX0_backs_0 17 rfl rfl)
theorem dX0_backs_18 : decode cX0_backs 18 = .ok (.invokeinterface 168 1, 5) := by decide +kernel
theorem dX0_backs_23 : decode cX0_backs 23 = .ok (.checkcast 49, 3) := dk_192 0 49 (dk_at dksX0_backs_1 0 rfl rfl)
theorem dX0_backs_26 : decode cX0_backs 26 = .ok (.astore_n 3, 1) := dk_78 (dk_at dksX0_backs_1 3 rfl rfl)
theorem dX0_backs_27 : decode cX0_backs 27 = .ok (.aload_n 0, 1) := dk_42 (dk_at dksX0_backs_1 4 rfl rfl)
theorem dX0_backs_28 : decode cX0_backs 28 = .ok (.aload_n 3, 1) := dk_45 (dk_at dksX0_backs_1 5 rfl rfl)
theorem dX0_backs_29 : decode cX0_backs 29 = .ok (.getfield 172, 3) := dk_180 0 172 (dk_at dksX0_backs_1 6 rfl rfl)
theorem dX0_backs_32 : decode cX0_backs 32 = .ok (.invokevirtual 175, 3) := dk_182 0 175 (dk_at dksX0_backs_1 9 rfl rfl)
theorem dX0_backs_35 : decode cX0_backs 35 = .ok (.ifCond .ne 5, 3) := dk_154 0 5 (dk_at dksX0_backs_1 12 rfl rfl)
theorem dX0_backs_38 : decode cX0_backs 38 = .ok (.iconst 0, 1) := dk_3 (dk_at dksX0_backs_1 15 rfl rfl)
theorem dX0_backs_39 : decode cX0_backs 39 = .ok (.ireturn, 1) := dk_172 (dk_at dksX0_backs_1 16 rfl rfl)
theorem dX0_backs_40 : decode cX0_backs 40 = .ok (.goto (-32), 3) := dk_167 255 224 (dk_at dksX0_backs_1 17 rfl rfl)
theorem dX0_backs_43 : decode cX0_backs 43 = .ok (.aload_n 1, 1) := dk_43 (dk_at dksX0_backs_1 20 rfl rfl)
theorem dX0_backs_44 : decode cX0_backs 44 = .ok (.getfield 179, 3) := dk_180 0 179 (dk_at dksX0_backs_1 21 rfl rfl)
theorem dX0_backs_47 : decode cX0_backs 47 = .ok (.invokevirtual 158, 3) := dk_182 0 158 (dk_at dksX0_backs_2 0 rfl rfl)
theorem dX0_backs_50 : decode cX0_backs 50 = .ok (.astore_n 2, 1) := dk_77 (dk_at dksX0_backs_2 3 rfl rfl)
theorem dX0_backs_51 : decode cX0_backs 51 = .ok (.aload_n 2, 1) := dk_44 (dk_at dksX0_backs_2 4 rfl rfl)
theorem dX0_backs_52 : decode cX0_backs 52 = .ok (.invokeinterface 162 1, 5) := by decide +kernel
theorem dX0_backs_57 : decode cX0_backs 57 = .ok (.ifCond .eq 29, 3) := dk_153 0 29 (dk_at dksX0_backs_2 10 rfl rfl)
theorem dX0_backs_60 : decode cX0_backs 60 = .ok (.aload_n 2, 1) := dk_44 (dk_at dksX0_backs_2 13 rfl rfl)
theorem dX0_backs_61 : decode cX0_backs 61 = .ok (.invokeinterface 168 1, 5) := by decide +kernel
theorem dX0_backs_66 : decode cX0_backs 66 = .ok (.checkcast 49, 3) := dk_192 0 49 (dk_at dksX0_backs_2 19 rfl rfl)
theorem dX0_backs_69 : decode cX0_backs 69 = .ok (.astore_n 3, 1) := dk_78 (dk_at dksX0_backs_2 22 rfl rfl)
theorem dX0_backs_70 : decode cX0_backs 70 = .ok (.aload_n 0, 1) := dk_42 (dk_at dksX0_backs_2 23 rfl rfl)
theorem dX0_backs_71 : decode cX0_backs 71 = .ok (.aload_n 3, 1) := dk_45 (dk_at dksX0_backs_3 0 rfl rfl)
theorem dX0_backs_72 : decode cX0_backs 72 = .ok (.getfield 172, 3) := dk_180 0 172 (dk_at dksX0_backs_3 1 rfl rfl)
theorem dX0_backs_75 : decode cX0_backs 75 = .ok (.invokevirtual 175, 3) := dk_182 0 175 (dk_at dksX0_backs_3 4 rfl rfl)
theorem dX0_backs_78 : decode cX0_backs 78 = .ok (.ifCond .ne 5, 3) := dk_154 0 5 (dk_at dksX0_backs_3 7 rfl rfl)
theorem dX0_backs_81 : decode cX0_backs 81 = .ok (.iconst 0, 1) := dk_3 (dk_at dksX0_backs_3 10 rfl rfl)
theorem dX0_backs_82 : decode cX0_backs 82 = .ok (.ireturn, 1) := dk_172 (dk_at dksX0_backs_3 11 rfl rfl)
theorem dX0_backs_83 : decode cX0_backs 83 = .ok (.goto (-32), 3) := dk_167 255 224 (dk_at dksX0_backs_3 12 rfl rfl)
theorem dX0_backs_86 : decode cX0_backs 86 = .ok (.aload_n 0, 1) := dk_42 (dk_at dksX0_backs_3 15 rfl rfl)
theorem dX0_backs_87 : decode cX0_backs 87 = .ok (.getfield 91, 3) := dk_180 0 91 (dk_at dksX0_backs_3 16 rfl rfl)
theorem dX0_backs_90 : decode cX0_backs 90 = .ok (.invokevirtual 110, 3) := dk_182 0 110 (dk_at dksX0_backs_3 19 rfl rfl)
theorem dX0_backs_93 : decode cX0_backs 93 = .ok (.bipush 60, 2) := dk_16 60 (dk_at dksX0_backs_3 22 rfl rfl)
theorem dX0_backs_95 : decode cX0_backs 95 = .ok (.if_icmp .ne 5, 3) := dk_160 0 5 (dk_at dksX0_backs_4 0 rfl rfl)
theorem dX0_backs_98 : decode cX0_backs 98 = .ok (.iconst 0, 1) := dk_3 (dk_at dksX0_backs_4 3 rfl rfl)
theorem dX0_backs_99 : decode cX0_backs 99 = .ok (.ireturn, 1) := dk_172 (dk_at dksX0_backs_4 4 rfl rfl)
theorem dX0_backs_100 : decode cX0_backs 100 = .ok (.aload_n 0, 1) := dk_42 (dk_at dksX0_backs_4 5 rfl rfl)
theorem dX0_backs_101 : decode cX0_backs 101 = .ok (.aload_n 1, 1) := dk_43 (dk_at dksX0_backs_4 6 rfl rfl)
theorem dX0_backs_102 : decode cX0_backs 102 = .ok (.invokevirtual 182, 3) := dk_182 0 182 (dk_at dksX0_backs_4 7 rfl rfl)
theorem dX0_backs_105 : decode cX0_backs 105 = .ok (.iconst 1, 1) := dk_4 (dk_at dksX0_backs_4 10 rfl rfl)
theorem dX0_backs_106 : decode cX0_backs 106 = .ok (.ireturn, 1) := dk_172 (dk_at dksX0_backs_4 11 rfl rfl)
abbrev cX0_backsFor : ByteArray := prog_1_method_20_code
def yX0_backsFor : MethodName := ⟨RX0, "backsFor", "(J)Z"⟩
def dkwX0_backsFor_2 : List UInt8 := [153, 0, 7, 4, 167, 0, 4, 3, 172]
abbrev dktX0_backsFor_2 : List UInt8 := dkwX0_backsFor_2 ++ []
def dkwX0_backsFor_1 : List UInt8 := [156, 0, 7, 3, 167, 0, 4, 4, 182, 0, 192, 78, 45, 182, 0, 196, 153, 0, 15, 42, 45, 182, 0, 199]
abbrev dktX0_backsFor_1 : List UInt8 := dkwX0_backsFor_1 ++ dktX0_backsFor_2
def dkwX0_backsFor_0 : List UInt8 := [42, 31, 42, 180, 0, 91, 182, 0, 110, 182, 0, 186, 155, 0, 5, 4, 172, 42, 31, 31, 20, 0, 190, 148]
abbrev dktX0_backsFor_0 : List UInt8 := dkwX0_backsFor_0 ++ dktX0_backsFor_1
theorem dksX0_backsFor_0 : cX0_backsFor.data.toList.drop 0 = dktX0_backsFor_0 := by decide +kernel
theorem dksX0_backsFor_1 : cX0_backsFor.data.toList.drop 24 = dktX0_backsFor_1 := dk_seg dksX0_backsFor_0 24 rfl rfl
theorem dksX0_backsFor_2 : cX0_backsFor.data.toList.drop 48 = dktX0_backsFor_2 := dk_seg dksX0_backsFor_1 24 rfl rfl
theorem dX0_backsFor_0 : decode cX0_backsFor 0 = .ok (.aload_n 0, 1) := dk_42 (dk_at dksX0_backsFor_0 0 rfl rfl)
theorem dX0_backsFor_1 : decode cX0_backsFor 1 = .ok (.lload_n 1, 1) := dk_31 (dk_at dksX0_backsFor_0 1 rfl rfl)
theorem dX0_backsFor_2 : decode cX0_backsFor 2 = .ok (.aload_n 0, 1) := dk_42 (dk_at dksX0_backsFor_0 2 rfl rfl)
theorem dX0_backsFor_3 : decode cX0_backsFor 3 = .ok (.getfield 91, 3) := dk_180 0 91 (dk_at dksX0_backsFor_0 3 rfl rfl)
theorem dX0_backsFor_6 : decode cX0_backsFor 6 = .ok (.invokevirtual 110, 3) := dk_182 0 110 (dk_at dksX0_backsFor_0 6 rfl rfl)
theorem dX0_backsFor_9 : decode cX0_backsFor 9 = .ok (.invokevirtual 186, 3) := dk_182 0 186 (dk_at dksX0_backsFor_0 9 rfl rfl)
theorem dX0_backsFor_12 : decode cX0_backsFor 12 = .ok (.ifCond .lt 5, 3) := dk_155 0 5 (dk_at dksX0_backsFor_0 12 rfl rfl)
theorem dX0_backsFor_15 : decode cX0_backsFor 15 = .ok (.iconst 1, 1) := dk_4 (dk_at dksX0_backsFor_0 15 rfl rfl)
theorem dX0_backsFor_16 : decode cX0_backsFor 16 = .ok (.ireturn, 1) := dk_172 (dk_at dksX0_backsFor_0 16 rfl rfl)
theorem dX0_backsFor_17 : decode cX0_backsFor 17 = .ok (.aload_n 0, 1) := dk_42 (dk_at dksX0_backsFor_0 17 rfl rfl)
theorem dX0_backsFor_18 : decode cX0_backsFor 18 = .ok (.lload_n 1, 1) := dk_31 (dk_at dksX0_backsFor_0 18 rfl rfl)
theorem dX0_backsFor_19 : decode cX0_backsFor 19 = .ok (.lload_n 1, 1) := dk_31 (dk_at dksX0_backsFor_0 19 rfl rfl)
theorem dX0_backsFor_20 : decode cX0_backsFor 20 = .ok (.ldc2_w 190, 3) := dk_20 0 190 (dk_at dksX0_backsFor_0 20 rfl rfl)
theorem dX0_backsFor_23 : decode cX0_backsFor 23 = .ok (.lcmp, 1) := dk_148 (dk_at dksX0_backsFor_0 23 rfl rfl)
theorem dX0_backsFor_24 : decode cX0_backsFor 24 = .ok (.ifCond .ge 7, 3) := dk_156 0 7 (dk_at dksX0_backsFor_1 0 rfl rfl)
theorem dX0_backsFor_27 : decode cX0_backsFor 27 = .ok (.iconst 0, 1) := dk_3 (dk_at dksX0_backsFor_1 3 rfl rfl)
theorem dX0_backsFor_28 : decode cX0_backsFor 28 = .ok (.goto 4, 3) := dk_167 0 4 (dk_at dksX0_backsFor_1 4 rfl rfl)
theorem dX0_backsFor_31 : decode cX0_backsFor 31 = .ok (.iconst 1, 1) := dk_4 (dk_at dksX0_backsFor_1 7 rfl rfl)
theorem dX0_backsFor_32 : decode cX0_backsFor 32 = .ok (.invokevirtual 192, 3) := dk_182 0 192 (dk_at dksX0_backsFor_1 8 rfl rfl)
theorem dX0_backsFor_35 : decode cX0_backsFor 35 = .ok (.astore_n 3, 1) := dk_78 (dk_at dksX0_backsFor_1 11 rfl rfl)
theorem dX0_backsFor_36 : decode cX0_backsFor 36 = .ok (.aload_n 3, 1) := dk_45 (dk_at dksX0_backsFor_1 12 rfl rfl)
theorem dX0_backsFor_37 : decode cX0_backsFor 37 = .ok (.invokevirtual 196, 3) := dk_182 0 196 (dk_at dksX0_backsFor_1 13 rfl rfl)
theorem dX0_backsFor_40 : decode cX0_backsFor 40 = .ok (.ifCond .eq 15, 3) := dk_153 0 15 (dk_at dksX0_backsFor_1 16 rfl rfl)
theorem dX0_backsFor_43 : decode cX0_backsFor 43 = .ok (.aload_n 0, 1) := dk_42 (dk_at dksX0_backsFor_1 19 rfl rfl)
theorem dX0_backsFor_44 : decode cX0_backsFor 44 = .ok (.aload_n 3, 1) := dk_45 (dk_at dksX0_backsFor_1 20 rfl rfl)
theorem dX0_backsFor_45 : decode cX0_backsFor 45 = .ok (.invokevirtual 199, 3) := dk_182 0 199 (dk_at dksX0_backsFor_1 21 rfl rfl)
theorem dX0_backsFor_48 : decode cX0_backsFor 48 = .ok (.ifCond .eq 7, 3) := dk_153 0 7 (dk_at dksX0_backsFor_2 0 rfl rfl)
theorem dX0_backsFor_51 : decode cX0_backsFor 51 = .ok (.iconst 1, 1) := dk_4 (dk_at dksX0_backsFor_2 3 rfl rfl)
theorem dX0_backsFor_52 : decode cX0_backsFor 52 = .ok (.goto 4, 3) := dk_167 0 4 (dk_at dksX0_backsFor_2 4 rfl rfl)
theorem dX0_backsFor_55 : decode cX0_backsFor 55 = .ok (.iconst 0, 1) := dk_3 (dk_at dksX0_backsFor_2 7 rfl rfl)
theorem dX0_backsFor_56 : decode cX0_backsFor 56 = .ok (.ireturn, 1) := dk_172 (dk_at dksX0_backsFor_2 8 rfl rfl)
abbrev cX0_comes : ByteArray := prog_1_method_16_code
def yX0_comes : MethodName := ⟨RX0, "comes", "(LPrimeProofs$Line;)V"⟩
def dkwX0_comes_0 : List UInt8 := [42, 180, 0, 91, 43, 182, 0, 140, 87, 177]
abbrev dktX0_comes_0 : List UInt8 := dkwX0_comes_0 ++ []
theorem dksX0_comes_0 : cX0_comes.data.toList.drop 0 = dktX0_comes_0 := by decide +kernel
theorem dX0_comes_0 : decode cX0_comes 0 = .ok (.aload_n 0, 1) := dk_42 (dk_at dksX0_comes_0 0 rfl rfl)
theorem dX0_comes_1 : decode cX0_comes 1 = .ok (.getfield 91, 3) := dk_180 0 91 (dk_at dksX0_comes_0 1 rfl rfl)
theorem dX0_comes_4 : decode cX0_comes 4 = .ok (.aload_n 1, 1) := dk_43 (dk_at dksX0_comes_0 4 rfl rfl)
theorem dX0_comes_5 : decode cX0_comes 5 = .ok (.invokevirtual 140, 3) := dk_182 0 140 (dk_at dksX0_comes_0 5 rfl rfl)
theorem dX0_comes_8 : decode cX0_comes 8 = .ok (.pop, 1) := dk_87 (dk_at dksX0_comes_0 8 rfl rfl)
theorem dX0_comes_9 : decode cX0_comes 9 = .ok (.return_, 1) := dk_177 (dk_at dksX0_comes_0 9 rfl rfl)
abbrev cX0_goesBack : ByteArray := prog_1_method_17_code
def yX0_goesBack : MethodName := ⟨RX0, "goesBack", "(I)V"⟩
def dkwX0_goesBack_1 : List UInt8 := [182, 0, 144, 87, 167, 255, 228, 42, 27, 182, 0, 147, 177]
abbrev dktX0_goesBack_1 : List UInt8 := dkwX0_goesBack_1 ++ []
def dkwX0_goesBack_0 : List UInt8 := [42, 180, 0, 91, 182, 0, 110, 27, 164, 0, 23, 42, 180, 0, 91, 42, 180, 0, 91, 182, 0, 110, 4, 100]
abbrev dktX0_goesBack_0 : List UInt8 := dkwX0_goesBack_0 ++ dktX0_goesBack_1
theorem dksX0_goesBack_0 : cX0_goesBack.data.toList.drop 0 = dktX0_goesBack_0 := by decide +kernel
theorem dksX0_goesBack_1 : cX0_goesBack.data.toList.drop 24 = dktX0_goesBack_1 := dk_seg dksX0_goesBack_0 24 rfl rfl
theorem dX0_goesBack_0 : decode cX0_goesBack 0 = .ok (.aload_n 0, 1) := dk_42 (dk_at dksX0_goesBack_0 0 rfl rfl)
theorem dX0_goesBack_1 : decode cX0_goesBack 1 = .ok (.getfield 91, 3) := dk_180 0 91 (dk_at dksX0_goesBack_0 1 rfl rfl)
theorem dX0_goesBack_4 : decode cX0_goesBack 4 = .ok (.invokevirtual 110, 3) := dk_182 0 110 (dk_at dksX0_goesBack_0 4 rfl rfl)
theorem dX0_goesBack_7 : decode cX0_goesBack 7 = .ok (.iload_n 1, 1) := dk_27 (dk_at dksX0_goesBack_0 7 rfl rfl)
theorem dX0_goesBack_8 : decode cX0_goesBack 8 = .ok (.if_icmp .le 23, 3) := dk_164 0 23 (dk_at dksX0_goesBack_0 8 rfl rfl)
theorem dX0_goesBack_11 : decode cX0_goesBack 11 = .ok (.aload_n 0, 1) := dk_42 (dk_at dksX0_goesBack_0 11 rfl rfl)
theorem dX0_goesBack_12 : decode cX0_goesBack 12 = .ok (.getfield 91, 3) := dk_180 0 91 (dk_at dksX0_goesBack_0 12 rfl rfl)
theorem dX0_goesBack_15 : decode cX0_goesBack 15 = .ok (.aload_n 0, 1) := dk_42 (dk_at dksX0_goesBack_0 15 rfl rfl)
theorem dX0_goesBack_16 : decode cX0_goesBack 16 = .ok (.getfield 91, 3) := dk_180 0 91 (dk_at dksX0_goesBack_0 16 rfl rfl)
theorem dX0_goesBack_19 : decode cX0_goesBack 19 = .ok (.invokevirtual 110, 3) := dk_182 0 110 (dk_at dksX0_goesBack_0 19 rfl rfl)
theorem dX0_goesBack_22 : decode cX0_goesBack 22 = .ok (.iconst 1, 1) := dk_4 (dk_at dksX0_goesBack_0 22 rfl rfl)
theorem dX0_goesBack_23 : decode cX0_goesBack 23 = .ok (.isub, 1) := dk_100 (dk_at dksX0_goesBack_0 23 rfl rfl)
theorem dX0_goesBack_24 : decode cX0_goesBack 24 = .ok (.invokevirtual 144, 3) := dk_182 0 144 (dk_at dksX0_goesBack_1 0 rfl rfl)
theorem dX0_goesBack_27 : decode cX0_goesBack 27 = .ok (.pop, 1) := dk_87 (dk_at dksX0_goesBack_1 3 rfl rfl)
theorem dX0_goesBack_28 : decode cX0_goesBack 28 = .ok (.goto (-28), 3) := dk_167 255 228 (dk_at dksX0_goesBack_1 4 rfl rfl)
theorem dX0_goesBack_31 : decode cX0_goesBack 31 = .ok (.aload_n 0, 1) := dk_42 (dk_at dksX0_goesBack_1 7 rfl rfl)
theorem dX0_goesBack_32 : decode cX0_goesBack 32 = .ok (.iload_n 1, 1) := dk_27 (dk_at dksX0_goesBack_1 8 rfl rfl)
theorem dX0_goesBack_33 : decode cX0_goesBack 33 = .ok (.invokevirtual 147, 3) := dk_182 0 147 (dk_at dksX0_goesBack_1 9 rfl rfl)
theorem dX0_goesBack_36 : decode cX0_goesBack 36 = .ok (.return_, 1) := dk_177 (dk_at dksX0_goesBack_1 12 rfl rfl)
abbrev cX0_changes : ByteArray := prog_1_method_13_code
def yX0_changes : MethodName := ⟨RX0, "changes", "(I)V"⟩
def dkwX0_changes_0 : List UInt8 := [42, 42, 180, 0, 114, 27, 184, 0, 118, 181, 0, 114, 177]
abbrev dktX0_changes_0 : List UInt8 := dkwX0_changes_0 ++ []
theorem dksX0_changes_0 : cX0_changes.data.toList.drop 0 = dktX0_changes_0 := by decide +kernel
theorem dX0_changes_0 : decode cX0_changes 0 = .ok (.aload_n 0, 1) := dk_42 (dk_at dksX0_changes_0 0 rfl rfl)
theorem dX0_changes_1 : decode cX0_changes 1 = .ok (.aload_n 0, 1) := dk_42 (dk_at dksX0_changes_0 1 rfl rfl)
theorem dX0_changes_2 : decode cX0_changes 2 = .ok (.getfield 114, 3) := dk_180 0 114 (dk_at dksX0_changes_0 2 rfl rfl)
theorem dX0_changes_5 : decode cX0_changes 5 = .ok (.iload_n 1, 1) := dk_27 (dk_at dksX0_changes_0 5 rfl rfl)
theorem dX0_changes_6 : decode cX0_changes 6 = .ok (.invokestatic 118, 3) := dk_184 0 118 (dk_at dksX0_changes_0 6 rfl rfl)
theorem dX0_changes_9 : decode cX0_changes 9 = .ok (.putfield 114, 3) := dk_181 0 114 (dk_at dksX0_changes_0 9 rfl rfl)
theorem dX0_changes_12 : decode cX0_changes 12 = .ok (.return_, 1) := dk_177 (dk_at dksX0_changes_0 12 rfl rfl)
abbrev cX0_needs : ByteArray := prog_1_method_23_code
def yX0_needs : MethodName := ⟨RX0, "needs", "(II)I"⟩
def dkwX0_needs_2 : List UInt8 := [45, 180, 0, 154, 180, 0, 222, 104, 45, 180, 0, 179, 180, 0, 222, 96, 172]
abbrev dktX0_needs_2 : List UInt8 := dkwX0_needs_2 ++ []
def dkwX0_needs_1 : List UInt8 := [28, 184, 0, 212, 154, 0, 6, 16, 254, 172, 42, 27, 133, 28, 182, 0, 192, 78, 45, 182, 0, 219, 16, 10]
abbrev dktX0_needs_1 : List UInt8 := dkwX0_needs_1 ++ dktX0_needs_2
def dkwX0_needs_0 : List UInt8 := [28, 133, 10, 20, 0, 42, 184, 0, 7, 153, 0, 11, 27, 133, 184, 0, 206, 154, 0, 5, 2, 172, 27, 133]
abbrev dktX0_needs_0 : List UInt8 := dkwX0_needs_0 ++ dktX0_needs_1
theorem dksX0_needs_0 : cX0_needs.data.toList.drop 0 = dktX0_needs_0 := by decide +kernel
theorem dksX0_needs_1 : cX0_needs.data.toList.drop 24 = dktX0_needs_1 := dk_seg dksX0_needs_0 24 rfl rfl
theorem dksX0_needs_2 : cX0_needs.data.toList.drop 48 = dktX0_needs_2 := dk_seg dksX0_needs_1 24 rfl rfl
theorem dX0_needs_0 : decode cX0_needs 0 = .ok (.iload_n 2, 1) := dk_28 (dk_at dksX0_needs_0 0 rfl rfl)
theorem dX0_needs_1 : decode cX0_needs 1 = .ok (.i2l, 1) := dk_133 (dk_at dksX0_needs_0 1 rfl rfl)
theorem dX0_needs_2 : decode cX0_needs 2 = .ok (.lconst 1, 1) := dk_10 (dk_at dksX0_needs_0 2 rfl rfl)
theorem dX0_needs_3 : decode cX0_needs 3 = .ok (.ldc2_w 42, 3) := dk_20 0 42 (dk_at dksX0_needs_0 3 rfl rfl)
theorem dX0_needs_6 : decode cX0_needs 6 = .ok (.invokestatic 7, 3) := dk_184 0 7 (dk_at dksX0_needs_0 6 rfl rfl)
theorem dX0_needs_9 : decode cX0_needs 9 = .ok (.ifCond .eq 11, 3) := dk_153 0 11 (dk_at dksX0_needs_0 9 rfl rfl)
theorem dX0_needs_12 : decode cX0_needs 12 = .ok (.iload_n 1, 1) := dk_27 (dk_at dksX0_needs_0 12 rfl rfl)
theorem dX0_needs_13 : decode cX0_needs 13 = .ok (.i2l, 1) := dk_133 (dk_at dksX0_needs_0 13 rfl rfl)
theorem dX0_needs_14 : decode cX0_needs 14 = .ok (.invokestatic 206, 3) := dk_184 0 206 (dk_at dksX0_needs_0 14 rfl rfl)
theorem dX0_needs_17 : decode cX0_needs 17 = .ok (.ifCond .ne 5, 3) := dk_154 0 5 (dk_at dksX0_needs_0 17 rfl rfl)
theorem dX0_needs_20 : decode cX0_needs 20 = .ok (.iconst (-1), 1) := dk_2 (dk_at dksX0_needs_0 20 rfl rfl)
theorem dX0_needs_21 : decode cX0_needs 21 = .ok (.ireturn, 1) := dk_172 (dk_at dksX0_needs_0 21 rfl rfl)
theorem dX0_needs_22 : decode cX0_needs 22 = .ok (.iload_n 1, 1) := dk_27 (dk_at dksX0_needs_0 22 rfl rfl)
theorem dX0_needs_23 : decode cX0_needs 23 = .ok (.i2l, 1) := dk_133 (dk_at dksX0_needs_0 23 rfl rfl)
theorem dX0_needs_24 : decode cX0_needs 24 = .ok (.iload_n 2, 1) := dk_28 (dk_at dksX0_needs_1 0 rfl rfl)
theorem dX0_needs_25 : decode cX0_needs 25 = .ok (.invokestatic 212, 3) := dk_184 0 212 (dk_at dksX0_needs_1 1 rfl rfl)
theorem dX0_needs_28 : decode cX0_needs 28 = .ok (.ifCond .ne 6, 3) := dk_154 0 6 (dk_at dksX0_needs_1 4 rfl rfl)
theorem dX0_needs_31 : decode cX0_needs 31 = .ok (.bipush (-2), 2) := dk_16 254 (dk_at dksX0_needs_1 7 rfl rfl)
theorem dX0_needs_33 : decode cX0_needs 33 = .ok (.ireturn, 1) := dk_172 (dk_at dksX0_needs_1 9 rfl rfl)
theorem dX0_needs_34 : decode cX0_needs 34 = .ok (.aload_n 0, 1) := dk_42 (dk_at dksX0_needs_1 10 rfl rfl)
theorem dX0_needs_35 : decode cX0_needs 35 = .ok (.iload_n 1, 1) := dk_27 (dk_at dksX0_needs_1 11 rfl rfl)
theorem dX0_needs_36 : decode cX0_needs 36 = .ok (.i2l, 1) := dk_133 (dk_at dksX0_needs_1 12 rfl rfl)
theorem dX0_needs_37 : decode cX0_needs 37 = .ok (.iload_n 2, 1) := dk_28 (dk_at dksX0_needs_1 13 rfl rfl)
theorem dX0_needs_38 : decode cX0_needs 38 = .ok (.invokevirtual 192, 3) := dk_182 0 192 (dk_at dksX0_needs_1 14 rfl rfl)
theorem dX0_needs_41 : decode cX0_needs 41 = .ok (.astore_n 3, 1) := dk_78 (dk_at dksX0_needs_1 17 rfl rfl)
theorem dX0_needs_42 : decode cX0_needs 42 = .ok (.aload_n 3, 1) := dk_45 (dk_at dksX0_needs_1 18 rfl rfl)
theorem dX0_needs_43 : decode cX0_needs 43 = .ok (.invokevirtual 219, 3) := dk_182 0 219 (dk_at dksX0_needs_1 19 rfl rfl)
theorem dX0_needs_46 : decode cX0_needs 46 = .ok (.bipush 10, 2) := dk_16 10 (dk_at dksX0_needs_1 22 rfl rfl)
theorem dX0_needs_48 : decode cX0_needs 48 = .ok (.aload_n 3, 1) := dk_45 (dk_at dksX0_needs_2 0 rfl rfl)
theorem dX0_needs_49 : decode cX0_needs 49 = .ok (.getfield 154, 3) := dk_180 0 154 (dk_at dksX0_needs_2 1 rfl rfl)
theorem dX0_needs_52 : decode cX0_needs 52 = .ok (.getfield 222, 3) := dk_180 0 222 (dk_at dksX0_needs_2 4 rfl rfl)
theorem dX0_needs_55 : decode cX0_needs 55 = .ok (.imul, 1) := dk_104 (dk_at dksX0_needs_2 7 rfl rfl)
theorem dX0_needs_56 : decode cX0_needs 56 = .ok (.aload_n 3, 1) := dk_45 (dk_at dksX0_needs_2 8 rfl rfl)
theorem dX0_needs_57 : decode cX0_needs 57 = .ok (.getfield 179, 3) := dk_180 0 179 (dk_at dksX0_needs_2 9 rfl rfl)
theorem dX0_needs_60 : decode cX0_needs 60 = .ok (.getfield 222, 3) := dk_180 0 222 (dk_at dksX0_needs_2 12 rfl rfl)
theorem dX0_needs_63 : decode cX0_needs 63 = .ok (.iadd, 1) := dk_96 (dk_at dksX0_needs_2 15 rfl rfl)
theorem dX0_needs_64 : decode cX0_needs 64 = .ok (.ireturn, 1) := dk_172 (dk_at dksX0_needs_2 16 rfl rfl)
abbrev cX0_feed : ByteArray := prog_1_method_24_code
def yX0_feed : MethodName := ⟨RX0, "feed", "(IIIII)I"⟩
def dkwX0_feed_2 : List UInt8 := [172]
abbrev dktX0_feed_2 : List UInt8 := dkwX0_feed_2 ++ []
def dkwX0_feed_1 : List UInt8 := [182, 0, 228, 42, 29, 182, 0, 228, 42, 21, 4, 182, 0, 228, 42, 21, 5, 182, 0, 228, 42, 180, 0, 225]
abbrev dktX0_feed_1 : List UInt8 := dkwX0_feed_1 ++ dktX0_feed_2
def dkwX0_feed_0 : List UInt8 := [42, 180, 0, 225, 16, 20, 96, 17, 1, 144, 164, 0, 5, 2, 172, 42, 27, 182, 0, 228, 42, 28]
abbrev dktX0_feed_0 : List UInt8 := dkwX0_feed_0 ++ dktX0_feed_1
theorem dksX0_feed_0 : cX0_feed.data.toList.drop 0 = dktX0_feed_0 := by decide +kernel
theorem dksX0_feed_1 : cX0_feed.data.toList.drop 22 = dktX0_feed_1 := dk_seg dksX0_feed_0 22 rfl rfl
theorem dksX0_feed_2 : cX0_feed.data.toList.drop 46 = dktX0_feed_2 := dk_seg dksX0_feed_1 24 rfl rfl
theorem dX0_feed_0 : decode cX0_feed 0 = .ok (.aload_n 0, 1) := dk_42 (dk_at dksX0_feed_0 0 rfl rfl)
theorem dX0_feed_1 : decode cX0_feed 1 = .ok (.getfield 225, 3) := dk_180 0 225 (dk_at dksX0_feed_0 1 rfl rfl)
theorem dX0_feed_4 : decode cX0_feed 4 = .ok (.bipush 20, 2) := dk_16 20 (dk_at dksX0_feed_0 4 rfl rfl)
theorem dX0_feed_6 : decode cX0_feed 6 = .ok (.iadd, 1) := dk_96 (dk_at dksX0_feed_0 6 rfl rfl)
theorem dX0_feed_7 : decode cX0_feed 7 = .ok (.sipush 400, 3) := dk_17 1 144 (dk_at dksX0_feed_0 7 rfl rfl)
theorem dX0_feed_10 : decode cX0_feed 10 = .ok (.if_icmp .le 5, 3) := dk_164 0 5 (dk_at dksX0_feed_0 10 rfl rfl)
theorem dX0_feed_13 : decode cX0_feed 13 = .ok (.iconst (-1), 1) := dk_2 (dk_at dksX0_feed_0 13 rfl rfl)
theorem dX0_feed_14 : decode cX0_feed 14 = .ok (.ireturn, 1) := dk_172 (dk_at dksX0_feed_0 14 rfl rfl)
theorem dX0_feed_15 : decode cX0_feed 15 = .ok (.aload_n 0, 1) := dk_42 (dk_at dksX0_feed_0 15 rfl rfl)
theorem dX0_feed_16 : decode cX0_feed 16 = .ok (.iload_n 1, 1) := dk_27 (dk_at dksX0_feed_0 16 rfl rfl)
theorem dX0_feed_17 : decode cX0_feed 17 = .ok (.invokevirtual 228, 3) := dk_182 0 228 (dk_at dksX0_feed_0 17 rfl rfl)
theorem dX0_feed_20 : decode cX0_feed 20 = .ok (.aload_n 0, 1) := dk_42 (dk_at dksX0_feed_0 20 rfl rfl)
theorem dX0_feed_21 : decode cX0_feed 21 = .ok (.iload_n 2, 1) := dk_28 (dk_at dksX0_feed_0 21 rfl rfl)
theorem dX0_feed_22 : decode cX0_feed 22 = .ok (.invokevirtual 228, 3) := dk_182 0 228 (dk_at dksX0_feed_1 0 rfl rfl)
theorem dX0_feed_25 : decode cX0_feed 25 = .ok (.aload_n 0, 1) := dk_42 (dk_at dksX0_feed_1 3 rfl rfl)
theorem dX0_feed_26 : decode cX0_feed 26 = .ok (.iload_n 3, 1) := dk_29 (dk_at dksX0_feed_1 4 rfl rfl)
theorem dX0_feed_27 : decode cX0_feed 27 = .ok (.invokevirtual 228, 3) := dk_182 0 228 (dk_at dksX0_feed_1 5 rfl rfl)
theorem dX0_feed_30 : decode cX0_feed 30 = .ok (.aload_n 0, 1) := dk_42 (dk_at dksX0_feed_1 8 rfl rfl)
theorem dX0_feed_31 : decode cX0_feed 31 = .ok (.iload 4, 2) := dk_21 4 (dk_at dksX0_feed_1 9 rfl rfl)
theorem dX0_feed_33 : decode cX0_feed 33 = .ok (.invokevirtual 228, 3) := dk_182 0 228 (dk_at dksX0_feed_1 11 rfl rfl)
theorem dX0_feed_36 : decode cX0_feed 36 = .ok (.aload_n 0, 1) := dk_42 (dk_at dksX0_feed_1 14 rfl rfl)
theorem dX0_feed_37 : decode cX0_feed 37 = .ok (.iload 5, 2) := dk_21 5 (dk_at dksX0_feed_1 15 rfl rfl)
theorem dX0_feed_39 : decode cX0_feed 39 = .ok (.invokevirtual 228, 3) := dk_182 0 228 (dk_at dksX0_feed_1 17 rfl rfl)
theorem dX0_feed_42 : decode cX0_feed 42 = .ok (.aload_n 0, 1) := dk_42 (dk_at dksX0_feed_1 20 rfl rfl)
theorem dX0_feed_43 : decode cX0_feed 43 = .ok (.getfield 225, 3) := dk_180 0 225 (dk_at dksX0_feed_1 21 rfl rfl)
theorem dX0_feed_46 : decode cX0_feed 46 = .ok (.ireturn, 1) := dk_172 (dk_at dksX0_feed_2 0 rfl rfl)
abbrev cX0_tapes : ByteArray := prog_1_method_25_code
def yX0_tapes : MethodName := ⟨RX0, "tapes", "(I)V"⟩
def dkwX0_tapes_1 : List UInt8 := [180, 0, 225, 4, 96, 181, 0, 225, 132, 2, 248, 167, 255, 226, 177]
abbrev dktX0_tapes_1 : List UInt8 := dkwX0_tapes_1 ++ []
def dkwX0_tapes_0 : List UInt8 := [16, 24, 61, 28, 155, 0, 32, 42, 180, 0, 99, 42, 180, 0, 225, 27, 28, 122, 145, 84, 42, 89]
abbrev dktX0_tapes_0 : List UInt8 := dkwX0_tapes_0 ++ dktX0_tapes_1
theorem dksX0_tapes_0 : cX0_tapes.data.toList.drop 0 = dktX0_tapes_0 := by decide +kernel
theorem dksX0_tapes_1 : cX0_tapes.data.toList.drop 22 = dktX0_tapes_1 := dk_seg dksX0_tapes_0 22 rfl rfl
theorem dX0_tapes_0 : decode cX0_tapes 0 = .ok (.bipush 24, 2) := dk_16 24 (dk_at dksX0_tapes_0 0 rfl rfl)
theorem dX0_tapes_2 : decode cX0_tapes 2 = .ok (.istore_n 2, 1) := dk_61 (dk_at dksX0_tapes_0 2 rfl rfl)
theorem dX0_tapes_3 : decode cX0_tapes 3 = .ok (.iload_n 2, 1) := dk_28 (dk_at dksX0_tapes_0 3 rfl rfl)
theorem dX0_tapes_4 : decode cX0_tapes 4 = .ok (.ifCond .lt 32, 3) := dk_155 0 32 (dk_at dksX0_tapes_0 4 rfl rfl)
theorem dX0_tapes_7 : decode cX0_tapes 7 = .ok (.aload_n 0, 1) := dk_42 (dk_at dksX0_tapes_0 7 rfl rfl)
theorem dX0_tapes_8 : decode cX0_tapes 8 = .ok (.getfield 99, 3) := dk_180 0 99 (dk_at dksX0_tapes_0 8 rfl rfl)
theorem dX0_tapes_11 : decode cX0_tapes 11 = .ok (.aload_n 0, 1) := dk_42 (dk_at dksX0_tapes_0 11 rfl rfl)
theorem dX0_tapes_12 : decode cX0_tapes 12 = .ok (.getfield 225, 3) := dk_180 0 225 (dk_at dksX0_tapes_0 12 rfl rfl)
theorem dX0_tapes_15 : decode cX0_tapes 15 = .ok (.iload_n 1, 1) := dk_27 (dk_at dksX0_tapes_0 15 rfl rfl)
theorem dX0_tapes_16 : decode cX0_tapes 16 = .ok (.iload_n 2, 1) := dk_28 (dk_at dksX0_tapes_0 16 rfl rfl)
theorem dX0_tapes_17 : decode cX0_tapes 17 = .ok (.ishr, 1) := dk_122 (dk_at dksX0_tapes_0 17 rfl rfl)
theorem dX0_tapes_18 : decode cX0_tapes 18 = .ok (.i2b, 1) := dk_145 (dk_at dksX0_tapes_0 18 rfl rfl)
theorem dX0_tapes_19 : decode cX0_tapes 19 = .ok (.bastore, 1) := dk_84 (dk_at dksX0_tapes_0 19 rfl rfl)
theorem dX0_tapes_20 : decode cX0_tapes 20 = .ok (.aload_n 0, 1) := dk_42 (dk_at dksX0_tapes_0 20 rfl rfl)
theorem dX0_tapes_21 : decode cX0_tapes 21 = .ok (.dup, 1) := dk_89 (dk_at dksX0_tapes_0 21 rfl rfl)
theorem dX0_tapes_22 : decode cX0_tapes 22 = .ok (.getfield 225, 3) := dk_180 0 225 (dk_at dksX0_tapes_1 0 rfl rfl)
theorem dX0_tapes_25 : decode cX0_tapes 25 = .ok (.iconst 1, 1) := dk_4 (dk_at dksX0_tapes_1 3 rfl rfl)
theorem dX0_tapes_26 : decode cX0_tapes 26 = .ok (.iadd, 1) := dk_96 (dk_at dksX0_tapes_1 4 rfl rfl)
theorem dX0_tapes_27 : decode cX0_tapes 27 = .ok (.putfield 225, 3) := dk_181 0 225 (dk_at dksX0_tapes_1 5 rfl rfl)
theorem dX0_tapes_30 : decode cX0_tapes 30 = .ok (.iinc 2 (-8), 3) := dk_132 2 248 (dk_at dksX0_tapes_1 8 rfl rfl)
theorem dX0_tapes_33 : decode cX0_tapes 33 = .ok (.goto (-30), 3) := dk_167 255 226 (dk_at dksX0_tapes_1 11 rfl rfl)
theorem dX0_tapes_36 : decode cX0_tapes 36 = .ok (.return_, 1) := dk_177 (dk_at dksX0_tapes_1 14 rfl rfl)
abbrev cX0_back : ByteArray := prog_1_method_26_code
def yX0_back : MethodName := ⟨RX0, "back", "(I)I"⟩
def dkwX0_back_1 : List UInt8 := [181, 0, 225, 42, 180, 0, 225, 172]
abbrev dktX0_back_1 : List UInt8 := dkwX0_back_1 ++ []
def dkwX0_back_0 : List UInt8 := [27, 133, 9, 42, 180, 0, 225, 133, 184, 0, 7, 154, 0, 5, 2, 172, 42, 89, 180, 0, 225, 27, 100]
abbrev dktX0_back_0 : List UInt8 := dkwX0_back_0 ++ dktX0_back_1
theorem dksX0_back_0 : cX0_back.data.toList.drop 0 = dktX0_back_0 := by decide +kernel
theorem dksX0_back_1 : cX0_back.data.toList.drop 23 = dktX0_back_1 := dk_seg dksX0_back_0 23 rfl rfl
theorem dX0_back_0 : decode cX0_back 0 = .ok (.iload_n 1, 1) := dk_27 (dk_at dksX0_back_0 0 rfl rfl)
theorem dX0_back_1 : decode cX0_back 1 = .ok (.i2l, 1) := dk_133 (dk_at dksX0_back_0 1 rfl rfl)
theorem dX0_back_2 : decode cX0_back 2 = .ok (.lconst 0, 1) := dk_9 (dk_at dksX0_back_0 2 rfl rfl)
theorem dX0_back_3 : decode cX0_back 3 = .ok (.aload_n 0, 1) := dk_42 (dk_at dksX0_back_0 3 rfl rfl)
theorem dX0_back_4 : decode cX0_back 4 = .ok (.getfield 225, 3) := dk_180 0 225 (dk_at dksX0_back_0 4 rfl rfl)
theorem dX0_back_7 : decode cX0_back 7 = .ok (.i2l, 1) := dk_133 (dk_at dksX0_back_0 7 rfl rfl)
theorem dX0_back_8 : decode cX0_back 8 = .ok (.invokestatic 7, 3) := dk_184 0 7 (dk_at dksX0_back_0 8 rfl rfl)
theorem dX0_back_11 : decode cX0_back 11 = .ok (.ifCond .ne 5, 3) := dk_154 0 5 (dk_at dksX0_back_0 11 rfl rfl)
theorem dX0_back_14 : decode cX0_back 14 = .ok (.iconst (-1), 1) := dk_2 (dk_at dksX0_back_0 14 rfl rfl)
theorem dX0_back_15 : decode cX0_back 15 = .ok (.ireturn, 1) := dk_172 (dk_at dksX0_back_0 15 rfl rfl)
theorem dX0_back_16 : decode cX0_back 16 = .ok (.aload_n 0, 1) := dk_42 (dk_at dksX0_back_0 16 rfl rfl)
theorem dX0_back_17 : decode cX0_back 17 = .ok (.dup, 1) := dk_89 (dk_at dksX0_back_0 17 rfl rfl)
theorem dX0_back_18 : decode cX0_back 18 = .ok (.getfield 225, 3) := dk_180 0 225 (dk_at dksX0_back_0 18 rfl rfl)
theorem dX0_back_21 : decode cX0_back 21 = .ok (.iload_n 1, 1) := dk_27 (dk_at dksX0_back_0 21 rfl rfl)
theorem dX0_back_22 : decode cX0_back 22 = .ok (.isub, 1) := dk_100 (dk_at dksX0_back_0 22 rfl rfl)
theorem dX0_back_23 : decode cX0_back 23 = .ok (.putfield 225, 3) := dk_181 0 225 (dk_at dksX0_back_1 0 rfl rfl)
theorem dX0_back_26 : decode cX0_back 26 = .ok (.aload_n 0, 1) := dk_42 (dk_at dksX0_back_1 3 rfl rfl)
theorem dX0_back_27 : decode cX0_back 27 = .ok (.getfield 225, 3) := dk_180 0 225 (dk_at dksX0_back_1 4 rfl rfl)
theorem dX0_back_30 : decode cX0_back 30 = .ok (.ireturn, 1) := dk_172 (dk_at dksX0_back_1 7 rfl rfl)
abbrev cX0_read : ByteArray := prog_1_method_27_code
def yX0_read : MethodName := ⟨RX0, "read", "()I"⟩
def dkwX0_read_4 : List UInt8 := [42, 3, 181, 0, 225, 28, 172, 58, 4, 42, 3, 181, 0, 225, 25, 4, 191]
abbrev dktX0_read_4 : List UInt8 := dkwX0_read_4 ++ []
def dkwX0_read_3 : List UInt8 := [167, 255, 232, 43, 182, 0, 110, 61, 42, 3, 181, 0, 225, 28, 172, 76, 16, 252, 43, 180, 0, 243, 100, 61]
abbrev dktX0_read_3 : List UInt8 := dkwX0_read_3 ++ dktX0_read_4
def dkwX0_read_2 : List UInt8 := [185, 0, 162, 1, 0, 153, 0, 21, 44, 185, 0, 168, 1, 0, 192, 0, 126, 78, 42, 45, 182, 0, 182]
abbrev dktX0_read_2 : List UInt8 := dkwX0_read_2 ++ dktX0_read_3
def dkwX0_read_1 : List UInt8 := [16, 60, 164, 0, 13, 16, 253, 61, 42, 3, 181, 0, 225, 28, 172, 43, 182, 0, 240, 77, 44]
abbrev dktX0_read_1 : List UInt8 := dkwX0_read_1 ++ dktX0_read_2
def dkwX0_read_0 : List UInt8 := [187, 0, 231, 89, 42, 183, 0, 233, 182, 0, 236, 76, 42, 180, 0, 91, 182, 0, 110, 43, 182, 0, 110, 96]
abbrev dktX0_read_0 : List UInt8 := dkwX0_read_0 ++ dktX0_read_1
theorem dksX0_read_0 : cX0_read.data.toList.drop 0 = dktX0_read_0 := by decide +kernel
theorem dksX0_read_1 : cX0_read.data.toList.drop 24 = dktX0_read_1 := dk_seg dksX0_read_0 24 rfl rfl
theorem dksX0_read_2 : cX0_read.data.toList.drop 45 = dktX0_read_2 := dk_seg dksX0_read_1 21 rfl rfl
theorem dksX0_read_3 : cX0_read.data.toList.drop 68 = dktX0_read_3 := dk_seg dksX0_read_2 23 rfl rfl
theorem dksX0_read_4 : cX0_read.data.toList.drop 92 = dktX0_read_4 := dk_seg dksX0_read_3 24 rfl rfl
theorem dX0_read_0 : decode cX0_read 0 = .ok (.new 231, 3) := dk_187 0 231 (dk_at dksX0_read_0 0 rfl rfl)
theorem dX0_read_3 : decode cX0_read 3 = .ok (.dup, 1) := dk_89 (dk_at dksX0_read_0 3 rfl rfl)
theorem dX0_read_4 : decode cX0_read 4 = .ok (.aload_n 0, 1) := dk_42 (dk_at dksX0_read_0 4 rfl rfl)
theorem dX0_read_5 : decode cX0_read 5 = .ok (.invokespecial 233, 3) := dk_183 0 233 (dk_at dksX0_read_0 5 rfl rfl)
theorem dX0_read_8 : decode cX0_read 8 = .ok (.invokevirtual 236, 3) := dk_182 0 236 (dk_at dksX0_read_0 8 rfl rfl)
theorem dX0_read_11 : decode cX0_read 11 = .ok (.astore_n 1, 1) := dk_76 (dk_at dksX0_read_0 11 rfl rfl)
theorem dX0_read_12 : decode cX0_read 12 = .ok (.aload_n 0, 1) := dk_42 (dk_at dksX0_read_0 12 rfl rfl)
theorem dX0_read_13 : decode cX0_read 13 = .ok (.getfield 91, 3) := dk_180 0 91 (dk_at dksX0_read_0 13 rfl rfl)
theorem dX0_read_16 : decode cX0_read 16 = .ok (.invokevirtual 110, 3) := dk_182 0 110 (dk_at dksX0_read_0 16 rfl rfl)
theorem dX0_read_19 : decode cX0_read 19 = .ok (.aload_n 1, 1) := dk_43 (dk_at dksX0_read_0 19 rfl rfl)
theorem dX0_read_20 : decode cX0_read 20 = .ok (.invokevirtual 110, 3) := dk_182 0 110 (dk_at dksX0_read_0 20 rfl rfl)
theorem dX0_read_23 : decode cX0_read 23 = .ok (.iadd, 1) := dk_96 (dk_at dksX0_read_0 23 rfl rfl)
theorem dX0_read_24 : decode cX0_read 24 = .ok (.bipush 60, 2) := dk_16 60 (dk_at dksX0_read_1 0 rfl rfl)
theorem dX0_read_26 : decode cX0_read 26 = .ok (.if_icmp .le 13, 3) := dk_164 0 13 (dk_at dksX0_read_1 2 rfl rfl)
theorem dX0_read_29 : decode cX0_read 29 = .ok (.bipush (-3), 2) := dk_16 253 (dk_at dksX0_read_1 5 rfl rfl)
theorem dX0_read_31 : decode cX0_read 31 = .ok (.istore_n 2, 1) := dk_61 (dk_at dksX0_read_1 7 rfl rfl)
theorem dX0_read_32 : decode cX0_read 32 = .ok (.aload_n 0, 1) := dk_42 (dk_at dksX0_read_1 8 rfl rfl)
theorem dX0_read_33 : decode cX0_read 33 = .ok (.iconst 0, 1) := dk_3 (dk_at dksX0_read_1 9 rfl rfl)
theorem dX0_read_34 : decode cX0_read 34 = .ok (.putfield 225, 3) := dk_181 0 225 (dk_at dksX0_read_1 10 rfl rfl)
theorem dX0_read_37 : decode cX0_read 37 = .ok (.iload_n 2, 1) := dk_28 (dk_at dksX0_read_1 13 rfl rfl)
theorem dX0_read_38 : decode cX0_read 38 = .ok (.ireturn, 1) := dk_172 (dk_at dksX0_read_1 14 rfl rfl)
theorem dX0_read_39 : decode cX0_read 39 = .ok (.aload_n 1, 1) := dk_43 (dk_at dksX0_read_1 15 rfl rfl)
theorem dX0_read_40 : decode cX0_read 40 = .ok (.invokevirtual 240, 3) := dk_182 0 240 (dk_at dksX0_read_1 16 rfl rfl)
theorem dX0_read_43 : decode cX0_read 43 = .ok (.astore_n 2, 1) := dk_77 (dk_at dksX0_read_1 19 rfl rfl)
theorem dX0_read_44 : decode cX0_read 44 = .ok (.aload_n 2, 1) := dk_44 (dk_at dksX0_read_1 20 rfl rfl)
theorem dX0_read_45 : decode cX0_read 45 = .ok (.invokeinterface 162 1, 5) := by decide +kernel
theorem dX0_read_50 : decode cX0_read 50 = .ok (.ifCond .eq 21, 3) := dk_153 0 21 (dk_at dksX0_read_2 5 rfl rfl)
theorem dX0_read_53 : decode cX0_read 53 = .ok (.aload_n 2, 1) := dk_44 (dk_at dksX0_read_2 8 rfl rfl)
theorem dX0_read_54 : decode cX0_read 54 = .ok (.invokeinterface 168 1, 5) := by decide +kernel
theorem dX0_read_59 : decode cX0_read 59 = .ok (.checkcast 126, 3) := dk_192 0 126 (dk_at dksX0_read_2 14 rfl rfl)
theorem dX0_read_62 : decode cX0_read 62 = .ok (.astore_n 3, 1) := dk_78 (dk_at dksX0_read_2 17 rfl rfl)
theorem dX0_read_63 : decode cX0_read 63 = .ok (.aload_n 0, 1) := dk_42 (dk_at dksX0_read_2 18 rfl rfl)
theorem dX0_read_64 : decode cX0_read 64 = .ok (.aload_n 3, 1) := dk_45 (dk_at dksX0_read_2 19 rfl rfl)
theorem dX0_read_65 : decode cX0_read 65 = .ok (.invokevirtual 182, 3) := dk_182 0 182 (dk_at dksX0_read_2 20 rfl rfl)
theorem dX0_read_68 : decode cX0_read 68 = .ok (.goto (-24), 3) := dk_167 255 232 (dk_at dksX0_read_3 0 rfl rfl)
theorem dX0_read_71 : decode cX0_read 71 = .ok (.aload_n 1, 1) := dk_43 (dk_at dksX0_read_3 3 rfl rfl)
theorem dX0_read_72 : decode cX0_read 72 = .ok (.invokevirtual 110, 3) := dk_182 0 110 (dk_at dksX0_read_3 4 rfl rfl)
theorem dX0_read_75 : decode cX0_read 75 = .ok (.istore_n 2, 1) := dk_61 (dk_at dksX0_read_3 7 rfl rfl)
theorem dX0_read_76 : decode cX0_read 76 = .ok (.aload_n 0, 1) := dk_42 (dk_at dksX0_read_3 8 rfl rfl)
theorem dX0_read_77 : decode cX0_read 77 = .ok (.iconst 0, 1) := dk_3 (dk_at dksX0_read_3 9 rfl rfl)
theorem dX0_read_78 : decode cX0_read 78 = .ok (.putfield 225, 3) := dk_181 0 225 (dk_at dksX0_read_3 10 rfl rfl)
theorem dX0_read_81 : decode cX0_read 81 = .ok (.iload_n 2, 1) := dk_28 (dk_at dksX0_read_3 13 rfl rfl)
theorem dX0_read_82 : decode cX0_read 82 = .ok (.ireturn, 1) := dk_172 (dk_at dksX0_read_3 14 rfl rfl)
theorem dX0_read_83 : decode cX0_read 83 = .ok (.astore_n 1, 1) := dk_76 (dk_at dksX0_read_3 15 rfl rfl)
theorem dX0_read_84 : decode cX0_read 84 = .ok (.bipush (-4), 2) := dk_16 252 (dk_at dksX0_read_3 16 rfl rfl)
theorem dX0_read_86 : decode cX0_read 86 = .ok (.aload_n 1, 1) := dk_43 (dk_at dksX0_read_3 18 rfl rfl)
theorem dX0_read_87 : decode cX0_read 87 = .ok (.getfield 243, 3) := dk_180 0 243 (dk_at dksX0_read_3 19 rfl rfl)
theorem dX0_read_90 : decode cX0_read 90 = .ok (.isub, 1) := dk_100 (dk_at dksX0_read_3 22 rfl rfl)
theorem dX0_read_91 : decode cX0_read 91 = .ok (.istore_n 2, 1) := dk_61 (dk_at dksX0_read_3 23 rfl rfl)
theorem dX0_read_92 : decode cX0_read 92 = .ok (.aload_n 0, 1) := dk_42 (dk_at dksX0_read_4 0 rfl rfl)
theorem dX0_read_93 : decode cX0_read 93 = .ok (.iconst 0, 1) := dk_3 (dk_at dksX0_read_4 1 rfl rfl)
theorem dX0_read_94 : decode cX0_read 94 = .ok (.putfield 225, 3) := dk_181 0 225 (dk_at dksX0_read_4 2 rfl rfl)
theorem dX0_read_97 : decode cX0_read 97 = .ok (.iload_n 2, 1) := dk_28 (dk_at dksX0_read_4 5 rfl rfl)
theorem dX0_read_98 : decode cX0_read 98 = .ok (.ireturn, 1) := dk_172 (dk_at dksX0_read_4 6 rfl rfl)
theorem dX0_read_99 : decode cX0_read 99 = .ok (.astore 4, 2) := dk_58 4 (dk_at dksX0_read_4 7 rfl rfl)
theorem dX0_read_101 : decode cX0_read 101 = .ok (.aload_n 0, 1) := dk_42 (dk_at dksX0_read_4 9 rfl rfl)
theorem dX0_read_102 : decode cX0_read 102 = .ok (.iconst 0, 1) := dk_3 (dk_at dksX0_read_4 10 rfl rfl)
theorem dX0_read_103 : decode cX0_read 103 = .ok (.putfield 225, 3) := dk_181 0 225 (dk_at dksX0_read_4 11 rfl rfl)
theorem dX0_read_106 : decode cX0_read 106 = .ok (.aload 4, 2) := dk_25 4 (dk_at dksX0_read_4 14 rfl rfl)
theorem dX0_read_108 : decode cX0_read 108 = .ok (.athrow, 1) := dk_191 (dk_at dksX0_read_4 16 rfl rfl)
abbrev cX0_wordOf : ByteArray := prog_1_method_9_code
def yX0_wordOf : MethodName := ⟨RX0, "wordOf", "(I)Ljava/lang/String;"⟩
def dkwX0_wordOf_2 : List UInt8 := [18, 58, 176, 18, 60, 176, 18, 62, 176, 18, 64, 176, 18, 66, 176]
abbrev dktX0_wordOf_2 : List UInt8 := dkwX0_wordOf_2 ++ []
def dkwX0_wordOf_1 : List UInt8 := [170, 0, 0, 0, 0, 0, 43, 0, 0, 0, 0, 0, 0, 0, 3, 0, 0, 0, 31, 0, 0, 0, 34, 0, 0, 0, 37, 0, 0, 0, 40]
abbrev dktX0_wordOf_1 : List UInt8 := dkwX0_wordOf_1 ++ dktX0_wordOf_2
def dkwX0_wordOf_0 : List UInt8 := [26]
abbrev dktX0_wordOf_0 : List UInt8 := dkwX0_wordOf_0 ++ dktX0_wordOf_1
theorem dksX0_wordOf_0 : cX0_wordOf.data.toList.drop 0 = dktX0_wordOf_0 := by decide +kernel
theorem dksX0_wordOf_1 : cX0_wordOf.data.toList.drop 1 = dktX0_wordOf_1 := dk_seg dksX0_wordOf_0 1 rfl rfl
theorem dksX0_wordOf_2 : cX0_wordOf.data.toList.drop 32 = dktX0_wordOf_2 := dk_seg dksX0_wordOf_1 31 rfl rfl
theorem dX0_wordOf_0 : decode cX0_wordOf 0 = .ok (.iload_n 0, 1) := dk_26 (dk_at dksX0_wordOf_0 0 rfl rfl)
theorem dX0_wordOf_1 : decode cX0_wordOf 1 = .ok (.tableswitch 43 0 3 #[31, 34, 37, 40], 31) := by decide +kernel
theorem dX0_wordOf_32 : decode cX0_wordOf 32 = .ok (.ldc 58, 2) := dk_18 58 (dk_at dksX0_wordOf_2 0 rfl rfl)
theorem dX0_wordOf_34 : decode cX0_wordOf 34 = .ok (.areturn, 1) := dk_176 (dk_at dksX0_wordOf_2 2 rfl rfl)
theorem dX0_wordOf_35 : decode cX0_wordOf 35 = .ok (.ldc 60, 2) := dk_18 60 (dk_at dksX0_wordOf_2 3 rfl rfl)
theorem dX0_wordOf_37 : decode cX0_wordOf 37 = .ok (.areturn, 1) := dk_176 (dk_at dksX0_wordOf_2 5 rfl rfl)
theorem dX0_wordOf_38 : decode cX0_wordOf 38 = .ok (.ldc 62, 2) := dk_18 62 (dk_at dksX0_wordOf_2 6 rfl rfl)
theorem dX0_wordOf_40 : decode cX0_wordOf 40 = .ok (.areturn, 1) := dk_176 (dk_at dksX0_wordOf_2 8 rfl rfl)
theorem dX0_wordOf_41 : decode cX0_wordOf 41 = .ok (.ldc 64, 2) := dk_18 64 (dk_at dksX0_wordOf_2 9 rfl rfl)
theorem dX0_wordOf_43 : decode cX0_wordOf 43 = .ok (.areturn, 1) := dk_176 (dk_at dksX0_wordOf_2 11 rfl rfl)
theorem dX0_wordOf_44 : decode cX0_wordOf 44 = .ok (.ldc 66, 2) := dk_18 66 (dk_at dksX0_wordOf_2 12 rfl rfl)
theorem dX0_wordOf_46 : decode cX0_wordOf 46 = .ok (.areturn, 1) := dk_176 (dk_at dksX0_wordOf_2 14 rfl rfl)
abbrev cX0_set : ByteArray := prog_1_method_28_code
def yX0_set : MethodName := ⟨RX0, "set", "(III)I"⟩
def dkwX0_set_6 : List UInt8 := [181, 1, 1, 42, 27, 182, 0, 147, 22, 5, 136, 172]
abbrev dktX0_set_6 : List UInt8 := dkwX0_set_6 ++ []
def dkwX0_set_5 : List UInt8 := [181, 0, 132, 167, 0, 23, 28, 4, 160, 0, 12, 25, 4, 29, 181, 0, 254, 167, 0, 9, 25, 4, 29]
abbrev dktX0_set_5 : List UInt8 := dkwX0_set_5 ++ dktX0_set_6
def dkwX0_set_4 : List UInt8 := [180, 0, 254, 133, 167, 0, 9, 25, 4, 180, 1, 1, 133, 55, 5, 28, 154, 0, 13, 25, 4, 29, 133]
abbrev dktX0_set_4 : List UInt8 := dkwX0_set_4 ++ dktX0_set_5
def dkwX0_set_3 : List UInt8 := [154, 0, 5, 2, 172, 28, 154, 0, 11, 25, 4, 180, 0, 132, 167, 0, 23, 28, 4, 160, 0, 12, 25, 4]
abbrev dktX0_set_3 : List UInt8 := dkwX0_set_3 ++ dktX0_set_4
def dkwX0_set_2 : List UInt8 := [172, 42, 180, 0, 91, 27, 182, 0, 122, 192, 0, 126, 58, 4, 28, 158, 0, 13, 25, 4, 182, 0, 251]
abbrev dktX0_set_2 : List UInt8 := dkwX0_set_2 ++ dktX0_set_3
def dkwX0_set_1 : List UInt8 := [29, 133, 184, 0, 206, 153, 0, 18, 167, 0, 17, 29, 133, 10, 20, 0, 249, 184, 0, 7, 154, 0, 5, 2]
abbrev dktX0_set_1 : List UInt8 := dkwX0_set_1 ++ dktX0_set_2
def dkwX0_set_0 : List UInt8 := [42, 27, 182, 0, 246, 153, 0, 42, 28, 133, 9, 20, 0, 1, 184, 0, 7, 153, 0, 30, 28, 154, 0, 14]
abbrev dktX0_set_0 : List UInt8 := dkwX0_set_0 ++ dktX0_set_1
theorem dksX0_set_0 : cX0_set.data.toList.drop 0 = dktX0_set_0 := by decide +kernel
theorem dksX0_set_1 : cX0_set.data.toList.drop 24 = dktX0_set_1 := dk_seg dksX0_set_0 24 rfl rfl
theorem dksX0_set_2 : cX0_set.data.toList.drop 48 = dktX0_set_2 := dk_seg dksX0_set_1 24 rfl rfl
theorem dksX0_set_3 : cX0_set.data.toList.drop 71 = dktX0_set_3 := dk_seg dksX0_set_2 23 rfl rfl
theorem dksX0_set_4 : cX0_set.data.toList.drop 95 = dktX0_set_4 := dk_seg dksX0_set_3 24 rfl rfl
theorem dksX0_set_5 : cX0_set.data.toList.drop 118 = dktX0_set_5 := dk_seg dksX0_set_4 23 rfl rfl
theorem dksX0_set_6 : cX0_set.data.toList.drop 141 = dktX0_set_6 := dk_seg dksX0_set_5 23 rfl rfl
theorem dX0_set_0 : decode cX0_set 0 = .ok (.aload_n 0, 1) := dk_42 (dk_at dksX0_set_0 0 rfl rfl)
theorem dX0_set_1 : decode cX0_set 1 = .ok (.iload_n 1, 1) := dk_27 (dk_at dksX0_set_0 1 rfl rfl)
theorem dX0_set_2 : decode cX0_set 2 = .ok (.invokevirtual 246, 3) := dk_182 0 246 (dk_at dksX0_set_0 2 rfl rfl)
theorem dX0_set_5 : decode cX0_set 5 = .ok (.ifCond .eq 42, 3) := dk_153 0 42 (dk_at dksX0_set_0 5 rfl rfl)
theorem dX0_set_8 : decode cX0_set 8 = .ok (.iload_n 2, 1) := dk_28 (dk_at dksX0_set_0 8 rfl rfl)
theorem dX0_set_9 : decode cX0_set 9 = .ok (.i2l, 1) := dk_133 (dk_at dksX0_set_0 9 rfl rfl)
theorem dX0_set_10 : decode cX0_set 10 = .ok (.lconst 0, 1) := dk_9 (dk_at dksX0_set_0 10 rfl rfl)
theorem dX0_set_11 : decode cX0_set 11 = .ok (.ldc2_w 1, 3) := dk_20 0 1 (dk_at dksX0_set_0 11 rfl rfl)
theorem dX0_set_14 : decode cX0_set 14 = .ok (.invokestatic 7, 3) := dk_184 0 7 (dk_at dksX0_set_0 14 rfl rfl)
theorem dX0_set_17 : decode cX0_set 17 = .ok (.ifCond .eq 30, 3) := dk_153 0 30 (dk_at dksX0_set_0 17 rfl rfl)
theorem dX0_set_20 : decode cX0_set 20 = .ok (.iload_n 2, 1) := dk_28 (dk_at dksX0_set_0 20 rfl rfl)
theorem dX0_set_21 : decode cX0_set 21 = .ok (.ifCond .ne 14, 3) := dk_154 0 14 (dk_at dksX0_set_0 21 rfl rfl)
theorem dX0_set_24 : decode cX0_set 24 = .ok (.iload_n 3, 1) := dk_29 (dk_at dksX0_set_1 0 rfl rfl)
theorem dX0_set_25 : decode cX0_set 25 = .ok (.i2l, 1) := dk_133 (dk_at dksX0_set_1 1 rfl rfl)
theorem dX0_set_26 : decode cX0_set 26 = .ok (.invokestatic 206, 3) := dk_184 0 206 (dk_at dksX0_set_1 2 rfl rfl)
theorem dX0_set_29 : decode cX0_set 29 = .ok (.ifCond .eq 18, 3) := dk_153 0 18 (dk_at dksX0_set_1 5 rfl rfl)
theorem dX0_set_32 : decode cX0_set 32 = .ok (.goto 17, 3) := dk_167 0 17 (dk_at dksX0_set_1 8 rfl rfl)
theorem dX0_set_35 : decode cX0_set 35 = .ok (.iload_n 3, 1) := dk_29 (dk_at dksX0_set_1 11 rfl rfl)
theorem dX0_set_36 : decode cX0_set 36 = .ok (.i2l, 1) := dk_133 (dk_at dksX0_set_1 12 rfl rfl)
theorem dX0_set_37 : decode cX0_set 37 = .ok (.lconst 1, 1) := dk_10 (dk_at dksX0_set_1 13 rfl rfl)
theorem dX0_set_38 : decode cX0_set 38 = .ok (.ldc2_w 249, 3) := dk_20 0 249 (dk_at dksX0_set_1 14 rfl rfl)
theorem dX0_set_41 : decode cX0_set 41 = .ok (.invokestatic 7, 3) := dk_184 0 7 (dk_at dksX0_set_1 17 rfl rfl)
theorem dX0_set_44 : decode cX0_set 44 = .ok (.ifCond .ne 5, 3) := dk_154 0 5 (dk_at dksX0_set_1 20 rfl rfl)
theorem dX0_set_47 : decode cX0_set 47 = .ok (.iconst (-1), 1) := dk_2 (dk_at dksX0_set_1 23 rfl rfl)
theorem dX0_set_48 : decode cX0_set 48 = .ok (.ireturn, 1) := dk_172 (dk_at dksX0_set_2 0 rfl rfl)
theorem dX0_set_49 : decode cX0_set 49 = .ok (.aload_n 0, 1) := dk_42 (dk_at dksX0_set_2 1 rfl rfl)
theorem dX0_set_50 : decode cX0_set 50 = .ok (.getfield 91, 3) := dk_180 0 91 (dk_at dksX0_set_2 2 rfl rfl)
theorem dX0_set_53 : decode cX0_set 53 = .ok (.iload_n 1, 1) := dk_27 (dk_at dksX0_set_2 5 rfl rfl)
theorem dX0_set_54 : decode cX0_set 54 = .ok (.invokevirtual 122, 3) := dk_182 0 122 (dk_at dksX0_set_2 6 rfl rfl)
theorem dX0_set_57 : decode cX0_set 57 = .ok (.checkcast 126, 3) := dk_192 0 126 (dk_at dksX0_set_2 9 rfl rfl)
theorem dX0_set_60 : decode cX0_set 60 = .ok (.astore 4, 2) := dk_58 4 (dk_at dksX0_set_2 12 rfl rfl)
theorem dX0_set_62 : decode cX0_set 62 = .ok (.iload_n 2, 1) := dk_28 (dk_at dksX0_set_2 14 rfl rfl)
theorem dX0_set_63 : decode cX0_set 63 = .ok (.ifCond .le 13, 3) := dk_158 0 13 (dk_at dksX0_set_2 15 rfl rfl)
theorem dX0_set_66 : decode cX0_set 66 = .ok (.aload 4, 2) := dk_25 4 (dk_at dksX0_set_2 18 rfl rfl)
theorem dX0_set_68 : decode cX0_set 68 = .ok (.invokevirtual 251, 3) := dk_182 0 251 (dk_at dksX0_set_2 20 rfl rfl)
theorem dX0_set_71 : decode cX0_set 71 = .ok (.ifCond .ne 5, 3) := dk_154 0 5 (dk_at dksX0_set_3 0 rfl rfl)
theorem dX0_set_74 : decode cX0_set 74 = .ok (.iconst (-1), 1) := dk_2 (dk_at dksX0_set_3 3 rfl rfl)
theorem dX0_set_75 : decode cX0_set 75 = .ok (.ireturn, 1) := dk_172 (dk_at dksX0_set_3 4 rfl rfl)
theorem dX0_set_76 : decode cX0_set 76 = .ok (.iload_n 2, 1) := dk_28 (dk_at dksX0_set_3 5 rfl rfl)
theorem dX0_set_77 : decode cX0_set 77 = .ok (.ifCond .ne 11, 3) := dk_154 0 11 (dk_at dksX0_set_3 6 rfl rfl)
theorem dX0_set_80 : decode cX0_set 80 = .ok (.aload 4, 2) := dk_25 4 (dk_at dksX0_set_3 9 rfl rfl)
theorem dX0_set_82 : decode cX0_set 82 = .ok (.getfield 132, 3) := dk_180 0 132 (dk_at dksX0_set_3 11 rfl rfl)
theorem dX0_set_85 : decode cX0_set 85 = .ok (.goto 23, 3) := dk_167 0 23 (dk_at dksX0_set_3 14 rfl rfl)
theorem dX0_set_88 : decode cX0_set 88 = .ok (.iload_n 2, 1) := dk_28 (dk_at dksX0_set_3 17 rfl rfl)
theorem dX0_set_89 : decode cX0_set 89 = .ok (.iconst 1, 1) := dk_4 (dk_at dksX0_set_3 18 rfl rfl)
theorem dX0_set_90 : decode cX0_set 90 = .ok (.if_icmp .ne 12, 3) := dk_160 0 12 (dk_at dksX0_set_3 19 rfl rfl)
theorem dX0_set_93 : decode cX0_set 93 = .ok (.aload 4, 2) := dk_25 4 (dk_at dksX0_set_3 22 rfl rfl)
theorem dX0_set_95 : decode cX0_set 95 = .ok (.getfield 254, 3) := dk_180 0 254 (dk_at dksX0_set_4 0 rfl rfl)
theorem dX0_set_98 : decode cX0_set 98 = .ok (.i2l, 1) := dk_133 (dk_at dksX0_set_4 3 rfl rfl)
theorem dX0_set_99 : decode cX0_set 99 = .ok (.goto 9, 3) := dk_167 0 9 (dk_at dksX0_set_4 4 rfl rfl)
theorem dX0_set_102 : decode cX0_set 102 = .ok (.aload 4, 2) := dk_25 4 (dk_at dksX0_set_4 7 rfl rfl)
theorem dX0_set_104 : decode cX0_set 104 = .ok (.getfield 257, 3) := dk_180 1 1 (dk_at dksX0_set_4 9 rfl rfl)
theorem dX0_set_107 : decode cX0_set 107 = .ok (.i2l, 1) := dk_133 (dk_at dksX0_set_4 12 rfl rfl)
theorem dX0_set_108 : decode cX0_set 108 = .ok (.lstore 5, 2) := dk_55 5 (dk_at dksX0_set_4 13 rfl rfl)
theorem dX0_set_110 : decode cX0_set 110 = .ok (.iload_n 2, 1) := dk_28 (dk_at dksX0_set_4 15 rfl rfl)
theorem dX0_set_111 : decode cX0_set 111 = .ok (.ifCond .ne 13, 3) := dk_154 0 13 (dk_at dksX0_set_4 16 rfl rfl)
theorem dX0_set_114 : decode cX0_set 114 = .ok (.aload 4, 2) := dk_25 4 (dk_at dksX0_set_4 19 rfl rfl)
theorem dX0_set_116 : decode cX0_set 116 = .ok (.iload_n 3, 1) := dk_29 (dk_at dksX0_set_4 21 rfl rfl)
theorem dX0_set_117 : decode cX0_set 117 = .ok (.i2l, 1) := dk_133 (dk_at dksX0_set_4 22 rfl rfl)
theorem dX0_set_118 : decode cX0_set 118 = .ok (.putfield 132, 3) := dk_181 0 132 (dk_at dksX0_set_5 0 rfl rfl)
theorem dX0_set_121 : decode cX0_set 121 = .ok (.goto 23, 3) := dk_167 0 23 (dk_at dksX0_set_5 3 rfl rfl)
theorem dX0_set_124 : decode cX0_set 124 = .ok (.iload_n 2, 1) := dk_28 (dk_at dksX0_set_5 6 rfl rfl)
theorem dX0_set_125 : decode cX0_set 125 = .ok (.iconst 1, 1) := dk_4 (dk_at dksX0_set_5 7 rfl rfl)
theorem dX0_set_126 : decode cX0_set 126 = .ok (.if_icmp .ne 12, 3) := dk_160 0 12 (dk_at dksX0_set_5 8 rfl rfl)
theorem dX0_set_129 : decode cX0_set 129 = .ok (.aload 4, 2) := dk_25 4 (dk_at dksX0_set_5 11 rfl rfl)
theorem dX0_set_131 : decode cX0_set 131 = .ok (.iload_n 3, 1) := dk_29 (dk_at dksX0_set_5 13 rfl rfl)
theorem dX0_set_132 : decode cX0_set 132 = .ok (.putfield 254, 3) := dk_181 0 254 (dk_at dksX0_set_5 14 rfl rfl)
theorem dX0_set_135 : decode cX0_set 135 = .ok (.goto 9, 3) := dk_167 0 9 (dk_at dksX0_set_5 17 rfl rfl)
theorem dX0_set_138 : decode cX0_set 138 = .ok (.aload 4, 2) := dk_25 4 (dk_at dksX0_set_5 20 rfl rfl)
theorem dX0_set_140 : decode cX0_set 140 = .ok (.iload_n 3, 1) := dk_29 (dk_at dksX0_set_5 22 rfl rfl)
theorem dX0_set_141 : decode cX0_set 141 = .ok (.putfield 257, 3) := dk_181 1 1 (dk_at dksX0_set_6 0 rfl rfl)
theorem dX0_set_144 : decode cX0_set 144 = .ok (.aload_n 0, 1) := dk_42 (dk_at dksX0_set_6 3 rfl rfl)
theorem dX0_set_145 : decode cX0_set 145 = .ok (.iload_n 1, 1) := dk_27 (dk_at dksX0_set_6 4 rfl rfl)
theorem dX0_set_146 : decode cX0_set 146 = .ok (.invokevirtual 147, 3) := dk_182 0 147 (dk_at dksX0_set_6 5 rfl rfl)
theorem dX0_set_149 : decode cX0_set 149 = .ok (.lload 5, 2) := dk_22 5 (dk_at dksX0_set_6 8 rfl rfl)
theorem dX0_set_151 : decode cX0_set 151 = .ok (.l2i, 1) := dk_136 (dk_at dksX0_set_6 10 rfl rfl)
theorem dX0_set_152 : decode cX0_set 152 = .ok (.ireturn, 1) := dk_172 (dk_at dksX0_set_6 11 rfl rfl)
abbrev cX0_isLine : ByteArray := prog_1_method_12_code
def yX0_isLine : MethodName := ⟨RX0, "isLine", "(I)Z"⟩
def dkwX0_isLine_0 : List UInt8 := [27, 133, 9, 42, 180, 0, 91, 182, 0, 110, 4, 100, 133, 184, 0, 7, 172]
abbrev dktX0_isLine_0 : List UInt8 := dkwX0_isLine_0 ++ []
theorem dksX0_isLine_0 : cX0_isLine.data.toList.drop 0 = dktX0_isLine_0 := by decide +kernel
theorem dX0_isLine_0 : decode cX0_isLine 0 = .ok (.iload_n 1, 1) := dk_27 (dk_at dksX0_isLine_0 0 rfl rfl)
theorem dX0_isLine_1 : decode cX0_isLine 1 = .ok (.i2l, 1) := dk_133 (dk_at dksX0_isLine_0 1 rfl rfl)
theorem dX0_isLine_2 : decode cX0_isLine 2 = .ok (.lconst 0, 1) := dk_9 (dk_at dksX0_isLine_0 2 rfl rfl)
theorem dX0_isLine_3 : decode cX0_isLine 3 = .ok (.aload_n 0, 1) := dk_42 (dk_at dksX0_isLine_0 3 rfl rfl)
theorem dX0_isLine_4 : decode cX0_isLine 4 = .ok (.getfield 91, 3) := dk_180 0 91 (dk_at dksX0_isLine_0 4 rfl rfl)
theorem dX0_isLine_7 : decode cX0_isLine 7 = .ok (.invokevirtual 110, 3) := dk_182 0 110 (dk_at dksX0_isLine_0 7 rfl rfl)
theorem dX0_isLine_10 : decode cX0_isLine 10 = .ok (.iconst 1, 1) := dk_4 (dk_at dksX0_isLine_0 10 rfl rfl)
theorem dX0_isLine_11 : decode cX0_isLine 11 = .ok (.isub, 1) := dk_100 (dk_at dksX0_isLine_0 11 rfl rfl)
theorem dX0_isLine_12 : decode cX0_isLine 12 = .ok (.i2l, 1) := dk_133 (dk_at dksX0_isLine_0 12 rfl rfl)
theorem dX0_isLine_13 : decode cX0_isLine 13 = .ok (.invokestatic 7, 3) := dk_184 0 7 (dk_at dksX0_isLine_0 13 rfl rfl)
theorem dX0_isLine_16 : decode cX0_isLine 16 = .ok (.ireturn, 1) := dk_172 (dk_at dksX0_isLine_0 16 rfl rfl)
abbrev cX0_alter : ByteArray := prog_1_method_30_code
def yX0_alter : MethodName := ⟨RX0, "alter", "(IZIII)I"⟩
def dkwX0_alter_7 : List UInt8 := [25, 6, 21, 5, 181, 1, 18, 42, 27, 182, 0, 147, 22, 7, 136, 172]
abbrev dktX0_alter_7 : List UInt8 := dkwX0_alter_7 ++ []
def dkwX0_alter_6 : List UInt8 := [133, 181, 0, 172, 167, 0, 26, 21, 4, 4, 160, 0, 13, 25, 6, 21, 5, 181, 1, 15, 167, 0, 10]
abbrev dktX0_alter_6 : List UInt8 := dkwX0_alter_6 ++ dktX0_alter_7
def dkwX0_alter_5 : List UInt8 := [180, 1, 15, 133, 167, 0, 9, 25, 6, 180, 1, 18, 133, 55, 7, 21, 4, 154, 0, 14, 25, 6, 21, 5]
abbrev dktX0_alter_5 : List UInt8 := dkwX0_alter_5 ++ dktX0_alter_6
def dkwX0_alter_4 : List UInt8 := [2, 172, 21, 4, 154, 0, 11, 25, 6, 180, 0, 172, 167, 0, 24, 21, 4, 4, 160, 0, 12, 25, 6]
abbrev dktX0_alter_4 : List UInt8 := dkwX0_alter_4 ++ dktX0_alter_5
def dkwX0_alter_3 : List UInt8 := [184, 0, 7, 153, 0, 21, 167, 0, 20, 21, 5, 133, 20, 0, 1, 20, 1, 13, 184, 0, 7, 154, 0, 5]
abbrev dktX0_alter_3 : List UInt8 := dkwX0_alter_3 ++ dktX0_alter_4
def dkwX0_alter_2 : List UInt8 := [184, 0, 206, 153, 0, 43, 167, 0, 42, 21, 4, 4, 160, 0, 19, 21, 5, 133, 10, 20, 1, 11]
abbrev dktX0_alter_2 : List UInt8 := dkwX0_alter_2 ++ dktX0_alter_3
def dkwX0_alter_1 : List UInt8 := [167, 0, 6, 20, 0, 1, 184, 0, 7, 154, 0, 5, 2, 172, 21, 4, 154, 0, 15, 21, 5, 133]
abbrev dktX0_alter_1 : List UInt8 := dkwX0_alter_1 ++ dktX0_alter_2
def dkwX0_alter_0 : List UInt8 := [42, 27, 28, 29, 182, 1, 7, 58, 6, 25, 6, 198, 0, 24, 21, 4, 133, 9, 28, 153, 0, 7, 10]
abbrev dktX0_alter_0 : List UInt8 := dkwX0_alter_0 ++ dktX0_alter_1
theorem dksX0_alter_0 : cX0_alter.data.toList.drop 0 = dktX0_alter_0 := by decide +kernel
theorem dksX0_alter_1 : cX0_alter.data.toList.drop 23 = dktX0_alter_1 := dk_seg dksX0_alter_0 23 rfl rfl
theorem dksX0_alter_2 : cX0_alter.data.toList.drop 45 = dktX0_alter_2 := dk_seg dksX0_alter_1 22 rfl rfl
theorem dksX0_alter_3 : cX0_alter.data.toList.drop 67 = dktX0_alter_3 := dk_seg dksX0_alter_2 22 rfl rfl
theorem dksX0_alter_4 : cX0_alter.data.toList.drop 91 = dktX0_alter_4 := dk_seg dksX0_alter_3 24 rfl rfl
theorem dksX0_alter_5 : cX0_alter.data.toList.drop 114 = dktX0_alter_5 := dk_seg dksX0_alter_4 23 rfl rfl
theorem dksX0_alter_6 : cX0_alter.data.toList.drop 138 = dktX0_alter_6 := dk_seg dksX0_alter_5 24 rfl rfl
theorem dksX0_alter_7 : cX0_alter.data.toList.drop 161 = dktX0_alter_7 := dk_seg dksX0_alter_6 23 rfl rfl
theorem dX0_alter_0 : decode cX0_alter 0 = .ok (.aload_n 0, 1) := dk_42 (dk_at dksX0_alter_0 0 rfl rfl)
theorem dX0_alter_1 : decode cX0_alter 1 = .ok (.iload_n 1, 1) := dk_27 (dk_at dksX0_alter_0 1 rfl rfl)
theorem dX0_alter_2 : decode cX0_alter 2 = .ok (.iload_n 2, 1) := dk_28 (dk_at dksX0_alter_0 2 rfl rfl)
theorem dX0_alter_3 : decode cX0_alter 3 = .ok (.iload_n 3, 1) := dk_29 (dk_at dksX0_alter_0 3 rfl rfl)
theorem dX0_alter_4 : decode cX0_alter 4 = .ok (.invokevirtual 263, 3) := dk_182 1 7 (dk_at dksX0_alter_0 4 rfl rfl)
theorem dX0_alter_7 : decode cX0_alter 7 = .ok (.astore 6, 2) := dk_58 6 (dk_at dksX0_alter_0 7 rfl rfl)
theorem dX0_alter_9 : decode cX0_alter 9 = .ok (.aload 6, 2) := dk_25 6 (dk_at dksX0_alter_0 9 rfl rfl)
theorem dX0_alter_11 : decode cX0_alter 11 = .ok (.ifnull 24, 3) := dk_198 0 24 (dk_at dksX0_alter_0 11 rfl rfl)
theorem dX0_alter_14 : decode cX0_alter 14 = .ok (.iload 4, 2) := dk_21 4 (dk_at dksX0_alter_0 14 rfl rfl)
theorem dX0_alter_16 : decode cX0_alter 16 = .ok (.i2l, 1) := dk_133 (dk_at dksX0_alter_0 16 rfl rfl)
theorem dX0_alter_17 : decode cX0_alter 17 = .ok (.lconst 0, 1) := dk_9 (dk_at dksX0_alter_0 17 rfl rfl)
theorem dX0_alter_18 : decode cX0_alter 18 = .ok (.iload_n 2, 1) := dk_28 (dk_at dksX0_alter_0 18 rfl rfl)
theorem dX0_alter_19 : decode cX0_alter 19 = .ok (.ifCond .eq 7, 3) := dk_153 0 7 (dk_at dksX0_alter_0 19 rfl rfl)
theorem dX0_alter_22 : decode cX0_alter 22 = .ok (.lconst 1, 1) := dk_10 (dk_at dksX0_alter_0 22 rfl rfl)
theorem dX0_alter_23 : decode cX0_alter 23 = .ok (.goto 6, 3) := dk_167 0 6 (dk_at dksX0_alter_1 0 rfl rfl)
theorem dX0_alter_26 : decode cX0_alter 26 = .ok (.ldc2_w 1, 3) := dk_20 0 1 (dk_at dksX0_alter_1 3 rfl rfl)
theorem dX0_alter_29 : decode cX0_alter 29 = .ok (.invokestatic 7, 3) := dk_184 0 7 (dk_at dksX0_alter_1 6 rfl rfl)
theorem dX0_alter_32 : decode cX0_alter 32 = .ok (.ifCond .ne 5, 3) := dk_154 0 5 (dk_at dksX0_alter_1 9 rfl rfl)
theorem dX0_alter_35 : decode cX0_alter 35 = .ok (.iconst (-1), 1) := dk_2 (dk_at dksX0_alter_1 12 rfl rfl)
theorem dX0_alter_36 : decode cX0_alter 36 = .ok (.ireturn, 1) := dk_172 (dk_at dksX0_alter_1 13 rfl rfl)
theorem dX0_alter_37 : decode cX0_alter 37 = .ok (.iload 4, 2) := dk_21 4 (dk_at dksX0_alter_1 14 rfl rfl)
theorem dX0_alter_39 : decode cX0_alter 39 = .ok (.ifCond .ne 15, 3) := dk_154 0 15 (dk_at dksX0_alter_1 16 rfl rfl)
theorem dX0_alter_42 : decode cX0_alter 42 = .ok (.iload 5, 2) := dk_21 5 (dk_at dksX0_alter_1 19 rfl rfl)
theorem dX0_alter_44 : decode cX0_alter 44 = .ok (.i2l, 1) := dk_133 (dk_at dksX0_alter_1 21 rfl rfl)
theorem dX0_alter_45 : decode cX0_alter 45 = .ok (.invokestatic 206, 3) := dk_184 0 206 (dk_at dksX0_alter_2 0 rfl rfl)
theorem dX0_alter_48 : decode cX0_alter 48 = .ok (.ifCond .eq 43, 3) := dk_153 0 43 (dk_at dksX0_alter_2 3 rfl rfl)
theorem dX0_alter_51 : decode cX0_alter 51 = .ok (.goto 42, 3) := dk_167 0 42 (dk_at dksX0_alter_2 6 rfl rfl)
theorem dX0_alter_54 : decode cX0_alter 54 = .ok (.iload 4, 2) := dk_21 4 (dk_at dksX0_alter_2 9 rfl rfl)
theorem dX0_alter_56 : decode cX0_alter 56 = .ok (.iconst 1, 1) := dk_4 (dk_at dksX0_alter_2 11 rfl rfl)
theorem dX0_alter_57 : decode cX0_alter 57 = .ok (.if_icmp .ne 19, 3) := dk_160 0 19 (dk_at dksX0_alter_2 12 rfl rfl)
theorem dX0_alter_60 : decode cX0_alter 60 = .ok (.iload 5, 2) := dk_21 5 (dk_at dksX0_alter_2 15 rfl rfl)
theorem dX0_alter_62 : decode cX0_alter 62 = .ok (.i2l, 1) := dk_133 (dk_at dksX0_alter_2 17 rfl rfl)
theorem dX0_alter_63 : decode cX0_alter 63 = .ok (.lconst 1, 1) := dk_10 (dk_at dksX0_alter_2 18 rfl rfl)
theorem dX0_alter_64 : decode cX0_alter 64 = .ok (.ldc2_w 267, 3) := dk_20 1 11 (dk_at dksX0_alter_2 19 rfl rfl)
theorem dX0_alter_67 : decode cX0_alter 67 = .ok (.invokestatic 7, 3) := dk_184 0 7 (dk_at dksX0_alter_3 0 rfl rfl)
theorem dX0_alter_70 : decode cX0_alter 70 = .ok (.ifCond .eq 21, 3) := dk_153 0 21 (dk_at dksX0_alter_3 3 rfl rfl)
theorem dX0_alter_73 : decode cX0_alter 73 = .ok (.goto 20, 3) := dk_167 0 20 (dk_at dksX0_alter_3 6 rfl rfl)
theorem dX0_alter_76 : decode cX0_alter 76 = .ok (.iload 5, 2) := dk_21 5 (dk_at dksX0_alter_3 9 rfl rfl)
theorem dX0_alter_78 : decode cX0_alter 78 = .ok (.i2l, 1) := dk_133 (dk_at dksX0_alter_3 11 rfl rfl)
theorem dX0_alter_79 : decode cX0_alter 79 = .ok (.ldc2_w 1, 3) := dk_20 0 1 (dk_at dksX0_alter_3 12 rfl rfl)
theorem dX0_alter_82 : decode cX0_alter 82 = .ok (.ldc2_w 269, 3) := dk_20 1 13 (dk_at dksX0_alter_3 15 rfl rfl)
theorem dX0_alter_85 : decode cX0_alter 85 = .ok (.invokestatic 7, 3) := dk_184 0 7 (dk_at dksX0_alter_3 18 rfl rfl)
theorem dX0_alter_88 : decode cX0_alter 88 = .ok (.ifCond .ne 5, 3) := dk_154 0 5 (dk_at dksX0_alter_3 21 rfl rfl)
theorem dX0_alter_91 : decode cX0_alter 91 = .ok (.iconst (-1), 1) := dk_2 (dk_at dksX0_alter_4 0 rfl rfl)
theorem dX0_alter_92 : decode cX0_alter 92 = .ok (.ireturn, 1) := dk_172 (dk_at dksX0_alter_4 1 rfl rfl)
theorem dX0_alter_93 : decode cX0_alter 93 = .ok (.iload 4, 2) := dk_21 4 (dk_at dksX0_alter_4 2 rfl rfl)
theorem dX0_alter_95 : decode cX0_alter 95 = .ok (.ifCond .ne 11, 3) := dk_154 0 11 (dk_at dksX0_alter_4 4 rfl rfl)
theorem dX0_alter_98 : decode cX0_alter 98 = .ok (.aload 6, 2) := dk_25 6 (dk_at dksX0_alter_4 7 rfl rfl)
theorem dX0_alter_100 : decode cX0_alter 100 = .ok (.getfield 172, 3) := dk_180 0 172 (dk_at dksX0_alter_4 9 rfl rfl)
theorem dX0_alter_103 : decode cX0_alter 103 = .ok (.goto 24, 3) := dk_167 0 24 (dk_at dksX0_alter_4 12 rfl rfl)
theorem dX0_alter_106 : decode cX0_alter 106 = .ok (.iload 4, 2) := dk_21 4 (dk_at dksX0_alter_4 15 rfl rfl)
theorem dX0_alter_108 : decode cX0_alter 108 = .ok (.iconst 1, 1) := dk_4 (dk_at dksX0_alter_4 17 rfl rfl)
theorem dX0_alter_109 : decode cX0_alter 109 = .ok (.if_icmp .ne 12, 3) := dk_160 0 12 (dk_at dksX0_alter_4 18 rfl rfl)
theorem dX0_alter_112 : decode cX0_alter 112 = .ok (.aload 6, 2) := dk_25 6 (dk_at dksX0_alter_4 21 rfl rfl)
theorem dX0_alter_114 : decode cX0_alter 114 = .ok (.getfield 271, 3) := dk_180 1 15 (dk_at dksX0_alter_5 0 rfl rfl)
theorem dX0_alter_117 : decode cX0_alter 117 = .ok (.i2l, 1) := dk_133 (dk_at dksX0_alter_5 3 rfl rfl)
theorem dX0_alter_118 : decode cX0_alter 118 = .ok (.goto 9, 3) := dk_167 0 9 (dk_at dksX0_alter_5 4 rfl rfl)
theorem dX0_alter_121 : decode cX0_alter 121 = .ok (.aload 6, 2) := dk_25 6 (dk_at dksX0_alter_5 7 rfl rfl)
theorem dX0_alter_123 : decode cX0_alter 123 = .ok (.getfield 274, 3) := dk_180 1 18 (dk_at dksX0_alter_5 9 rfl rfl)
theorem dX0_alter_126 : decode cX0_alter 126 = .ok (.i2l, 1) := dk_133 (dk_at dksX0_alter_5 12 rfl rfl)
theorem dX0_alter_127 : decode cX0_alter 127 = .ok (.lstore 7, 2) := dk_55 7 (dk_at dksX0_alter_5 13 rfl rfl)
theorem dX0_alter_129 : decode cX0_alter 129 = .ok (.iload 4, 2) := dk_21 4 (dk_at dksX0_alter_5 15 rfl rfl)
theorem dX0_alter_131 : decode cX0_alter 131 = .ok (.ifCond .ne 14, 3) := dk_154 0 14 (dk_at dksX0_alter_5 17 rfl rfl)
theorem dX0_alter_134 : decode cX0_alter 134 = .ok (.aload 6, 2) := dk_25 6 (dk_at dksX0_alter_5 20 rfl rfl)
theorem dX0_alter_136 : decode cX0_alter 136 = .ok (.iload 5, 2) := dk_21 5 (dk_at dksX0_alter_5 22 rfl rfl)
theorem dX0_alter_138 : decode cX0_alter 138 = .ok (.i2l, 1) := dk_133 (dk_at dksX0_alter_6 0 rfl rfl)
theorem dX0_alter_139 : decode cX0_alter 139 = .ok (.putfield 172, 3) := dk_181 0 172 (dk_at dksX0_alter_6 1 rfl rfl)
theorem dX0_alter_142 : decode cX0_alter 142 = .ok (.goto 26, 3) := dk_167 0 26 (dk_at dksX0_alter_6 4 rfl rfl)
theorem dX0_alter_145 : decode cX0_alter 145 = .ok (.iload 4, 2) := dk_21 4 (dk_at dksX0_alter_6 7 rfl rfl)
theorem dX0_alter_147 : decode cX0_alter 147 = .ok (.iconst 1, 1) := dk_4 (dk_at dksX0_alter_6 9 rfl rfl)
theorem dX0_alter_148 : decode cX0_alter 148 = .ok (.if_icmp .ne 13, 3) := dk_160 0 13 (dk_at dksX0_alter_6 10 rfl rfl)
theorem dX0_alter_151 : decode cX0_alter 151 = .ok (.aload 6, 2) := dk_25 6 (dk_at dksX0_alter_6 13 rfl rfl)
theorem dX0_alter_153 : decode cX0_alter 153 = .ok (.iload 5, 2) := dk_21 5 (dk_at dksX0_alter_6 15 rfl rfl)
theorem dX0_alter_155 : decode cX0_alter 155 = .ok (.putfield 271, 3) := dk_181 1 15 (dk_at dksX0_alter_6 17 rfl rfl)
theorem dX0_alter_158 : decode cX0_alter 158 = .ok (.goto 10, 3) := dk_167 0 10 (dk_at dksX0_alter_6 20 rfl rfl)
theorem dX0_alter_161 : decode cX0_alter 161 = .ok (.aload 6, 2) := dk_25 6 (dk_at dksX0_alter_7 0 rfl rfl)
theorem dX0_alter_163 : decode cX0_alter 163 = .ok (.iload 5, 2) := dk_21 5 (dk_at dksX0_alter_7 2 rfl rfl)
theorem dX0_alter_165 : decode cX0_alter 165 = .ok (.putfield 274, 3) := dk_181 1 18 (dk_at dksX0_alter_7 4 rfl rfl)
theorem dX0_alter_168 : decode cX0_alter 168 = .ok (.aload_n 0, 1) := dk_42 (dk_at dksX0_alter_7 7 rfl rfl)
theorem dX0_alter_169 : decode cX0_alter 169 = .ok (.iload_n 1, 1) := dk_27 (dk_at dksX0_alter_7 8 rfl rfl)
theorem dX0_alter_170 : decode cX0_alter 170 = .ok (.invokevirtual 147, 3) := dk_182 0 147 (dk_at dksX0_alter_7 9 rfl rfl)
theorem dX0_alter_173 : decode cX0_alter 173 = .ok (.lload 7, 2) := dk_22 7 (dk_at dksX0_alter_7 12 rfl rfl)
theorem dX0_alter_175 : decode cX0_alter 175 = .ok (.l2i, 1) := dk_136 (dk_at dksX0_alter_7 14 rfl rfl)
theorem dX0_alter_176 : decode cX0_alter 176 = .ok (.ireturn, 1) := dk_172 (dk_at dksX0_alter_7 15 rfl rfl)
abbrev cX0_rowOf : ByteArray := prog_1_method_29_code
def yX0_rowOf : MethodName := ⟨RX0, "rowOf", "(IZI)LPrimeProofs$Row;"⟩
def dkwX0_rowOf_3 : List UInt8 := [29, 50, 167, 0, 4, 1, 176]
abbrev dktX0_rowOf_3 : List UInt8 := dkwX0_rowOf_3 ++ []
def dkwX0_rowOf_2 : List UInt8 := [58, 4, 29, 133, 9, 25, 4, 180, 0, 222, 4, 100, 133, 184, 0, 7, 153, 0, 13, 25, 4, 180, 1, 3]
abbrev dktX0_rowOf_2 : List UInt8 := dkwX0_rowOf_2 ++ dktX0_rowOf_3
def dkwX0_rowOf_1 : List UInt8 := [192, 0, 126, 180, 0, 179, 167, 0, 17, 42, 180, 0, 91, 27, 182, 0, 122, 192, 0, 126, 180, 0, 154]
abbrev dktX0_rowOf_1 : List UInt8 := dkwX0_rowOf_1 ++ dktX0_rowOf_2
def dkwX0_rowOf_0 : List UInt8 := [42, 27, 182, 0, 246, 154, 0, 5, 1, 176, 28, 153, 0, 20, 42, 180, 0, 91, 27, 182, 0, 122]
abbrev dktX0_rowOf_0 : List UInt8 := dkwX0_rowOf_0 ++ dktX0_rowOf_1
theorem dksX0_rowOf_0 : cX0_rowOf.data.toList.drop 0 = dktX0_rowOf_0 := by decide +kernel
theorem dksX0_rowOf_1 : cX0_rowOf.data.toList.drop 22 = dktX0_rowOf_1 := dk_seg dksX0_rowOf_0 22 rfl rfl
theorem dksX0_rowOf_2 : cX0_rowOf.data.toList.drop 45 = dktX0_rowOf_2 := dk_seg dksX0_rowOf_1 23 rfl rfl
theorem dksX0_rowOf_3 : cX0_rowOf.data.toList.drop 69 = dktX0_rowOf_3 := dk_seg dksX0_rowOf_2 24 rfl rfl
theorem dX0_rowOf_0 : decode cX0_rowOf 0 = .ok (.aload_n 0, 1) := dk_42 (dk_at dksX0_rowOf_0 0 rfl rfl)
theorem dX0_rowOf_1 : decode cX0_rowOf 1 = .ok (.iload_n 1, 1) := dk_27 (dk_at dksX0_rowOf_0 1 rfl rfl)
theorem dX0_rowOf_2 : decode cX0_rowOf 2 = .ok (.invokevirtual 246, 3) := dk_182 0 246 (dk_at dksX0_rowOf_0 2 rfl rfl)
theorem dX0_rowOf_5 : decode cX0_rowOf 5 = .ok (.ifCond .ne 5, 3) := dk_154 0 5 (dk_at dksX0_rowOf_0 5 rfl rfl)
theorem dX0_rowOf_8 : decode cX0_rowOf 8 = .ok (.aconst_null, 1) := dk_1 (dk_at dksX0_rowOf_0 8 rfl rfl)
theorem dX0_rowOf_9 : decode cX0_rowOf 9 = .ok (.areturn, 1) := dk_176 (dk_at dksX0_rowOf_0 9 rfl rfl)
theorem dX0_rowOf_10 : decode cX0_rowOf 10 = .ok (.iload_n 2, 1) := dk_28 (dk_at dksX0_rowOf_0 10 rfl rfl)
theorem dX0_rowOf_11 : decode cX0_rowOf 11 = .ok (.ifCond .eq 20, 3) := dk_153 0 20 (dk_at dksX0_rowOf_0 11 rfl rfl)
theorem dX0_rowOf_14 : decode cX0_rowOf 14 = .ok (.aload_n 0, 1) := dk_42 (dk_at dksX0_rowOf_0 14 rfl rfl)
theorem dX0_rowOf_15 : decode cX0_rowOf 15 = .ok (.getfield 91, 3) := dk_180 0 91 (dk_at dksX0_rowOf_0 15 rfl rfl)
theorem dX0_rowOf_18 : decode cX0_rowOf 18 = .ok (.iload_n 1, 1) := dk_27 (dk_at dksX0_rowOf_0 18 rfl rfl)
theorem dX0_rowOf_19 : decode cX0_rowOf 19 = .ok (.invokevirtual 122, 3) := dk_182 0 122 (dk_at dksX0_rowOf_0 19 rfl rfl)
theorem dX0_rowOf_22 : decode cX0_rowOf 22 = .ok (.checkcast 126, 3) := dk_192 0 126 (dk_at dksX0_rowOf_1 0 rfl rfl)
theorem dX0_rowOf_25 : decode cX0_rowOf 25 = .ok (.getfield 179, 3) := dk_180 0 179 (dk_at dksX0_rowOf_1 3 rfl rfl)
theorem dX0_rowOf_28 : decode cX0_rowOf 28 = .ok (.goto 17, 3) := dk_167 0 17 (dk_at dksX0_rowOf_1 6 rfl rfl)
theorem dX0_rowOf_31 : decode cX0_rowOf 31 = .ok (.aload_n 0, 1) := dk_42 (dk_at dksX0_rowOf_1 9 rfl rfl)
theorem dX0_rowOf_32 : decode cX0_rowOf 32 = .ok (.getfield 91, 3) := dk_180 0 91 (dk_at dksX0_rowOf_1 10 rfl rfl)
theorem dX0_rowOf_35 : decode cX0_rowOf 35 = .ok (.iload_n 1, 1) := dk_27 (dk_at dksX0_rowOf_1 13 rfl rfl)
theorem dX0_rowOf_36 : decode cX0_rowOf 36 = .ok (.invokevirtual 122, 3) := dk_182 0 122 (dk_at dksX0_rowOf_1 14 rfl rfl)
theorem dX0_rowOf_39 : decode cX0_rowOf 39 = .ok (.checkcast 126, 3) := dk_192 0 126 (dk_at dksX0_rowOf_1 17 rfl rfl)
theorem dX0_rowOf_42 : decode cX0_rowOf 42 = .ok (.getfield 154, 3) := dk_180 0 154 (dk_at dksX0_rowOf_1 20 rfl rfl)
theorem dX0_rowOf_45 : decode cX0_rowOf 45 = .ok (.astore 4, 2) := dk_58 4 (dk_at dksX0_rowOf_2 0 rfl rfl)
theorem dX0_rowOf_47 : decode cX0_rowOf 47 = .ok (.iload_n 3, 1) := dk_29 (dk_at dksX0_rowOf_2 2 rfl rfl)
theorem dX0_rowOf_48 : decode cX0_rowOf 48 = .ok (.i2l, 1) := dk_133 (dk_at dksX0_rowOf_2 3 rfl rfl)
theorem dX0_rowOf_49 : decode cX0_rowOf 49 = .ok (.lconst 0, 1) := dk_9 (dk_at dksX0_rowOf_2 4 rfl rfl)
theorem dX0_rowOf_50 : decode cX0_rowOf 50 = .ok (.aload 4, 2) := dk_25 4 (dk_at dksX0_rowOf_2 5 rfl rfl)
theorem dX0_rowOf_52 : decode cX0_rowOf 52 = .ok (.getfield 222, 3) := dk_180 0 222 (dk_at dksX0_rowOf_2 7 rfl rfl)
theorem dX0_rowOf_55 : decode cX0_rowOf 55 = .ok (.iconst 1, 1) := dk_4 (dk_at dksX0_rowOf_2 10 rfl rfl)
theorem dX0_rowOf_56 : decode cX0_rowOf 56 = .ok (.isub, 1) := dk_100 (dk_at dksX0_rowOf_2 11 rfl rfl)
theorem dX0_rowOf_57 : decode cX0_rowOf 57 = .ok (.i2l, 1) := dk_133 (dk_at dksX0_rowOf_2 12 rfl rfl)
theorem dX0_rowOf_58 : decode cX0_rowOf 58 = .ok (.invokestatic 7, 3) := dk_184 0 7 (dk_at dksX0_rowOf_2 13 rfl rfl)
theorem dX0_rowOf_61 : decode cX0_rowOf 61 = .ok (.ifCond .eq 13, 3) := dk_153 0 13 (dk_at dksX0_rowOf_2 16 rfl rfl)
theorem dX0_rowOf_64 : decode cX0_rowOf 64 = .ok (.aload 4, 2) := dk_25 4 (dk_at dksX0_rowOf_2 19 rfl rfl)
theorem dX0_rowOf_66 : decode cX0_rowOf 66 = .ok (.getfield 259, 3) := dk_180 1 3 (dk_at dksX0_rowOf_2 21 rfl rfl)
theorem dX0_rowOf_69 : decode cX0_rowOf 69 = .ok (.iload_n 3, 1) := dk_29 (dk_at dksX0_rowOf_3 0 rfl rfl)
theorem dX0_rowOf_70 : decode cX0_rowOf 70 = .ok (.aaload, 1) := dk_50 (dk_at dksX0_rowOf_3 1 rfl rfl)
theorem dX0_rowOf_71 : decode cX0_rowOf 71 = .ok (.goto 4, 3) := dk_167 0 4 (dk_at dksX0_rowOf_3 2 rfl rfl)
theorem dX0_rowOf_74 : decode cX0_rowOf 74 = .ok (.aconst_null, 1) := dk_1 (dk_at dksX0_rowOf_3 5 rfl rfl)
theorem dX0_rowOf_75 : decode cX0_rowOf 75 = .ok (.areturn, 1) := dk_176 (dk_at dksX0_rowOf_3 6 rfl rfl)
abbrev cX0_cut : ByteArray := prog_1_method_31_code
def yX0_cut : MethodName := ⟨RX0, "cut", "(IZI)I"⟩
def dkwX0_cut_2 : List UInt8 := [58, 4, 25, 4, 29, 182, 1, 21, 42, 27, 182, 0, 147, 25, 4, 180, 0, 222, 172]
abbrev dktX0_cut_2 : List UInt8 := dkwX0_cut_2 ++ []
def dkwX0_cut_1 : List UInt8 := [192, 0, 126, 180, 0, 179, 167, 0, 17, 42, 180, 0, 91, 27, 182, 0, 122, 192, 0, 126, 180, 0, 154]
abbrev dktX0_cut_1 : List UInt8 := dkwX0_cut_1 ++ dktX0_cut_2
def dkwX0_cut_0 : List UInt8 := [42, 27, 28, 29, 182, 1, 7, 199, 0, 5, 2, 172, 28, 153, 0, 20, 42, 180, 0, 91, 27, 182, 0, 122]
abbrev dktX0_cut_0 : List UInt8 := dkwX0_cut_0 ++ dktX0_cut_1
theorem dksX0_cut_0 : cX0_cut.data.toList.drop 0 = dktX0_cut_0 := by decide +kernel
theorem dksX0_cut_1 : cX0_cut.data.toList.drop 24 = dktX0_cut_1 := dk_seg dksX0_cut_0 24 rfl rfl
theorem dksX0_cut_2 : cX0_cut.data.toList.drop 47 = dktX0_cut_2 := dk_seg dksX0_cut_1 23 rfl rfl
theorem dX0_cut_0 : decode cX0_cut 0 = .ok (.aload_n 0, 1) := dk_42 (dk_at dksX0_cut_0 0 rfl rfl)
theorem dX0_cut_1 : decode cX0_cut 1 = .ok (.iload_n 1, 1) := dk_27 (dk_at dksX0_cut_0 1 rfl rfl)
theorem dX0_cut_2 : decode cX0_cut 2 = .ok (.iload_n 2, 1) := dk_28 (dk_at dksX0_cut_0 2 rfl rfl)
theorem dX0_cut_3 : decode cX0_cut 3 = .ok (.iload_n 3, 1) := dk_29 (dk_at dksX0_cut_0 3 rfl rfl)
theorem dX0_cut_4 : decode cX0_cut 4 = .ok (.invokevirtual 263, 3) := dk_182 1 7 (dk_at dksX0_cut_0 4 rfl rfl)
theorem dX0_cut_7 : decode cX0_cut 7 = .ok (.ifnonnull 5, 3) := dk_199 0 5 (dk_at dksX0_cut_0 7 rfl rfl)
theorem dX0_cut_10 : decode cX0_cut 10 = .ok (.iconst (-1), 1) := dk_2 (dk_at dksX0_cut_0 10 rfl rfl)
theorem dX0_cut_11 : decode cX0_cut 11 = .ok (.ireturn, 1) := dk_172 (dk_at dksX0_cut_0 11 rfl rfl)
theorem dX0_cut_12 : decode cX0_cut 12 = .ok (.iload_n 2, 1) := dk_28 (dk_at dksX0_cut_0 12 rfl rfl)
theorem dX0_cut_13 : decode cX0_cut 13 = .ok (.ifCond .eq 20, 3) := dk_153 0 20 (dk_at dksX0_cut_0 13 rfl rfl)
theorem dX0_cut_16 : decode cX0_cut 16 = .ok (.aload_n 0, 1) := dk_42 (dk_at dksX0_cut_0 16 rfl rfl)
theorem dX0_cut_17 : decode cX0_cut 17 = .ok (.getfield 91, 3) := dk_180 0 91 (dk_at dksX0_cut_0 17 rfl rfl)
theorem dX0_cut_20 : decode cX0_cut 20 = .ok (.iload_n 1, 1) := dk_27 (dk_at dksX0_cut_0 20 rfl rfl)
theorem dX0_cut_21 : decode cX0_cut 21 = .ok (.invokevirtual 122, 3) := dk_182 0 122 (dk_at dksX0_cut_0 21 rfl rfl)
theorem dX0_cut_24 : decode cX0_cut 24 = .ok (.checkcast 126, 3) := dk_192 0 126 (dk_at dksX0_cut_1 0 rfl rfl)
theorem dX0_cut_27 : decode cX0_cut 27 = .ok (.getfield 179, 3) := dk_180 0 179 (dk_at dksX0_cut_1 3 rfl rfl)
theorem dX0_cut_30 : decode cX0_cut 30 = .ok (.goto 17, 3) := dk_167 0 17 (dk_at dksX0_cut_1 6 rfl rfl)
theorem dX0_cut_33 : decode cX0_cut 33 = .ok (.aload_n 0, 1) := dk_42 (dk_at dksX0_cut_1 9 rfl rfl)
theorem dX0_cut_34 : decode cX0_cut 34 = .ok (.getfield 91, 3) := dk_180 0 91 (dk_at dksX0_cut_1 10 rfl rfl)
theorem dX0_cut_37 : decode cX0_cut 37 = .ok (.iload_n 1, 1) := dk_27 (dk_at dksX0_cut_1 13 rfl rfl)
theorem dX0_cut_38 : decode cX0_cut 38 = .ok (.invokevirtual 122, 3) := dk_182 0 122 (dk_at dksX0_cut_1 14 rfl rfl)
theorem dX0_cut_41 : decode cX0_cut 41 = .ok (.checkcast 126, 3) := dk_192 0 126 (dk_at dksX0_cut_1 17 rfl rfl)
theorem dX0_cut_44 : decode cX0_cut 44 = .ok (.getfield 154, 3) := dk_180 0 154 (dk_at dksX0_cut_1 20 rfl rfl)
theorem dX0_cut_47 : decode cX0_cut 47 = .ok (.astore 4, 2) := dk_58 4 (dk_at dksX0_cut_2 0 rfl rfl)
theorem dX0_cut_49 : decode cX0_cut 49 = .ok (.aload 4, 2) := dk_25 4 (dk_at dksX0_cut_2 2 rfl rfl)
theorem dX0_cut_51 : decode cX0_cut 51 = .ok (.iload_n 3, 1) := dk_29 (dk_at dksX0_cut_2 4 rfl rfl)
theorem dX0_cut_52 : decode cX0_cut 52 = .ok (.invokevirtual 277, 3) := dk_182 1 21 (dk_at dksX0_cut_2 5 rfl rfl)
theorem dX0_cut_55 : decode cX0_cut 55 = .ok (.aload_n 0, 1) := dk_42 (dk_at dksX0_cut_2 8 rfl rfl)
theorem dX0_cut_56 : decode cX0_cut 56 = .ok (.iload_n 1, 1) := dk_27 (dk_at dksX0_cut_2 9 rfl rfl)
theorem dX0_cut_57 : decode cX0_cut 57 = .ok (.invokevirtual 147, 3) := dk_182 0 147 (dk_at dksX0_cut_2 10 rfl rfl)
theorem dX0_cut_60 : decode cX0_cut 60 = .ok (.aload 4, 2) := dk_25 4 (dk_at dksX0_cut_2 13 rfl rfl)
theorem dX0_cut_62 : decode cX0_cut 62 = .ok (.getfield 222, 3) := dk_180 0 222 (dk_at dksX0_cut_2 15 rfl rfl)
theorem dX0_cut_65 : decode cX0_cut 65 = .ok (.ireturn, 1) := dk_172 (dk_at dksX0_cut_2 18 rfl rfl)
abbrev cX0_move : ByteArray := prog_1_method_32_code
def yX0_move : MethodName := ⟨RX0, "move", "(II)I"⟩
def dkwX0_move_2 : List UInt8 := [182, 0, 147, 42, 28, 182, 0, 136, 153, 0, 7, 4, 167, 0, 4, 3, 172]
abbrev dktX0_move_2 : List UInt8 := dkwX0_move_2 ++ []
def dkwX0_move_1 : List UInt8 := [180, 0, 91, 28, 42, 180, 0, 91, 27, 182, 0, 144, 192, 0, 126, 182, 1, 24, 42, 27, 28, 184, 0, 118]
abbrev dktX0_move_1 : List UInt8 := dkwX0_move_1 ++ dktX0_move_2
def dkwX0_move_0 : List UInt8 := [42, 27, 182, 0, 246, 153, 0, 16, 42, 28, 182, 0, 246, 153, 0, 8, 27, 28, 160, 0, 5, 2, 172, 42]
abbrev dktX0_move_0 : List UInt8 := dkwX0_move_0 ++ dktX0_move_1
theorem dksX0_move_0 : cX0_move.data.toList.drop 0 = dktX0_move_0 := by decide +kernel
theorem dksX0_move_1 : cX0_move.data.toList.drop 24 = dktX0_move_1 := dk_seg dksX0_move_0 24 rfl rfl
theorem dksX0_move_2 : cX0_move.data.toList.drop 48 = dktX0_move_2 := dk_seg dksX0_move_1 24 rfl rfl
theorem dX0_move_0 : decode cX0_move 0 = .ok (.aload_n 0, 1) := dk_42 (dk_at dksX0_move_0 0 rfl rfl)
theorem dX0_move_1 : decode cX0_move 1 = .ok (.iload_n 1, 1) := dk_27 (dk_at dksX0_move_0 1 rfl rfl)
theorem dX0_move_2 : decode cX0_move 2 = .ok (.invokevirtual 246, 3) := dk_182 0 246 (dk_at dksX0_move_0 2 rfl rfl)
theorem dX0_move_5 : decode cX0_move 5 = .ok (.ifCond .eq 16, 3) := dk_153 0 16 (dk_at dksX0_move_0 5 rfl rfl)
theorem dX0_move_8 : decode cX0_move 8 = .ok (.aload_n 0, 1) := dk_42 (dk_at dksX0_move_0 8 rfl rfl)
theorem dX0_move_9 : decode cX0_move 9 = .ok (.iload_n 2, 1) := dk_28 (dk_at dksX0_move_0 9 rfl rfl)
theorem dX0_move_10 : decode cX0_move 10 = .ok (.invokevirtual 246, 3) := dk_182 0 246 (dk_at dksX0_move_0 10 rfl rfl)
theorem dX0_move_13 : decode cX0_move 13 = .ok (.ifCond .eq 8, 3) := dk_153 0 8 (dk_at dksX0_move_0 13 rfl rfl)
theorem dX0_move_16 : decode cX0_move 16 = .ok (.iload_n 1, 1) := dk_27 (dk_at dksX0_move_0 16 rfl rfl)
theorem dX0_move_17 : decode cX0_move 17 = .ok (.iload_n 2, 1) := dk_28 (dk_at dksX0_move_0 17 rfl rfl)
theorem dX0_move_18 : decode cX0_move 18 = .ok (.if_icmp .ne 5, 3) := dk_160 0 5 (dk_at dksX0_move_0 18 rfl rfl)
theorem dX0_move_21 : decode cX0_move 21 = .ok (.iconst (-1), 1) := dk_2 (dk_at dksX0_move_0 21 rfl rfl)
theorem dX0_move_22 : decode cX0_move 22 = .ok (.ireturn, 1) := dk_172 (dk_at dksX0_move_0 22 rfl rfl)
theorem dX0_move_23 : decode cX0_move 23 = .ok (.aload_n 0, 1) := dk_42 (dk_at dksX0_move_0 23 rfl rfl)
theorem dX0_move_24 : decode cX0_move 24 = .ok (.getfield 91, 3) := dk_180 0 91 (dk_at dksX0_move_1 0 rfl rfl)
theorem dX0_move_27 : decode cX0_move 27 = .ok (.iload_n 2, 1) := dk_28 (dk_at dksX0_move_1 3 rfl rfl)
theorem dX0_move_28 : decode cX0_move 28 = .ok (.aload_n 0, 1) := dk_42 (dk_at dksX0_move_1 4 rfl rfl)
theorem dX0_move_29 : decode cX0_move 29 = .ok (.getfield 91, 3) := dk_180 0 91 (dk_at dksX0_move_1 5 rfl rfl)
theorem dX0_move_32 : decode cX0_move 32 = .ok (.iload_n 1, 1) := dk_27 (dk_at dksX0_move_1 8 rfl rfl)
theorem dX0_move_33 : decode cX0_move 33 = .ok (.invokevirtual 144, 3) := dk_182 0 144 (dk_at dksX0_move_1 9 rfl rfl)
theorem dX0_move_36 : decode cX0_move 36 = .ok (.checkcast 126, 3) := dk_192 0 126 (dk_at dksX0_move_1 12 rfl rfl)
theorem dX0_move_39 : decode cX0_move 39 = .ok (.invokevirtual 280, 3) := dk_182 1 24 (dk_at dksX0_move_1 15 rfl rfl)
theorem dX0_move_42 : decode cX0_move 42 = .ok (.aload_n 0, 1) := dk_42 (dk_at dksX0_move_1 18 rfl rfl)
theorem dX0_move_43 : decode cX0_move 43 = .ok (.iload_n 1, 1) := dk_27 (dk_at dksX0_move_1 19 rfl rfl)
theorem dX0_move_44 : decode cX0_move 44 = .ok (.iload_n 2, 1) := dk_28 (dk_at dksX0_move_1 20 rfl rfl)
theorem dX0_move_45 : decode cX0_move 45 = .ok (.invokestatic 118, 3) := dk_184 0 118 (dk_at dksX0_move_1 21 rfl rfl)
theorem dX0_move_48 : decode cX0_move 48 = .ok (.invokevirtual 147, 3) := dk_182 0 147 (dk_at dksX0_move_2 0 rfl rfl)
theorem dX0_move_51 : decode cX0_move 51 = .ok (.aload_n 0, 1) := dk_42 (dk_at dksX0_move_2 3 rfl rfl)
theorem dX0_move_52 : decode cX0_move 52 = .ok (.iload_n 2, 1) := dk_28 (dk_at dksX0_move_2 4 rfl rfl)
theorem dX0_move_53 : decode cX0_move 53 = .ok (.invokevirtual 136, 3) := dk_182 0 136 (dk_at dksX0_move_2 5 rfl rfl)
theorem dX0_move_56 : decode cX0_move 56 = .ok (.ifCond .eq 7, 3) := dk_153 0 7 (dk_at dksX0_move_2 8 rfl rfl)
theorem dX0_move_59 : decode cX0_move 59 = .ok (.iconst 1, 1) := dk_4 (dk_at dksX0_move_2 11 rfl rfl)
theorem dX0_move_60 : decode cX0_move 60 = .ok (.goto 4, 3) := dk_167 0 4 (dk_at dksX0_move_2 12 rfl rfl)
theorem dX0_move_63 : decode cX0_move 63 = .ok (.iconst 0, 1) := dk_3 (dk_at dksX0_move_2 15 rfl rfl)
theorem dX0_move_64 : decode cX0_move 64 = .ok (.ireturn, 1) := dk_172 (dk_at dksX0_move_2 16 rfl rfl)
abbrev cX0_mend : ByteArray := prog_1_method_33_code
def yX0_mend : MethodName := ⟨RX0, "mend", "(I)I"⟩
def dkwX0_mend_3 : List UInt8 := [27, 182, 0, 147, 42, 27, 182, 0, 136, 153, 0, 7, 3, 167, 0, 9, 42, 180, 0, 95, 27, 51, 172]
abbrev dktX0_mend_3 : List UInt8 := dkwX0_mend_3 ++ []
def dkwX0_mend_2 : List UInt8 := [153, 0, 10, 45, 182, 0, 196, 154, 0, 6, 16, 254, 172, 42, 180, 0, 91, 27, 45, 182, 1, 27, 87, 42]
abbrev dktX0_mend_2 : List UInt8 := dkwX0_mend_2 ++ dktX0_mend_3
def dkwX0_mend_1 : List UInt8 := [180, 0, 132, 44, 180, 0, 151, 182, 0, 192, 78, 45, 180, 0, 132, 45, 180, 0, 151, 184, 0, 212]
abbrev dktX0_mend_1 : List UInt8 := dkwX0_mend_1 ++ dktX0_mend_2
def dkwX0_mend_0 : List UInt8 := [42, 27, 182, 0, 246, 154, 0, 5, 2, 172, 42, 180, 0, 91, 27, 182, 0, 122, 192, 0, 126, 77, 42, 44]
abbrev dktX0_mend_0 : List UInt8 := dkwX0_mend_0 ++ dktX0_mend_1
theorem dksX0_mend_0 : cX0_mend.data.toList.drop 0 = dktX0_mend_0 := by decide +kernel
theorem dksX0_mend_1 : cX0_mend.data.toList.drop 24 = dktX0_mend_1 := dk_seg dksX0_mend_0 24 rfl rfl
theorem dksX0_mend_2 : cX0_mend.data.toList.drop 46 = dktX0_mend_2 := dk_seg dksX0_mend_1 22 rfl rfl
theorem dksX0_mend_3 : cX0_mend.data.toList.drop 70 = dktX0_mend_3 := dk_seg dksX0_mend_2 24 rfl rfl
theorem dX0_mend_0 : decode cX0_mend 0 = .ok (.aload_n 0, 1) := dk_42 (dk_at dksX0_mend_0 0 rfl rfl)
theorem dX0_mend_1 : decode cX0_mend 1 = .ok (.iload_n 1, 1) := dk_27 (dk_at dksX0_mend_0 1 rfl rfl)
theorem dX0_mend_2 : decode cX0_mend 2 = .ok (.invokevirtual 246, 3) := dk_182 0 246 (dk_at dksX0_mend_0 2 rfl rfl)
theorem dX0_mend_5 : decode cX0_mend 5 = .ok (.ifCond .ne 5, 3) := dk_154 0 5 (dk_at dksX0_mend_0 5 rfl rfl)
theorem dX0_mend_8 : decode cX0_mend 8 = .ok (.iconst (-1), 1) := dk_2 (dk_at dksX0_mend_0 8 rfl rfl)
theorem dX0_mend_9 : decode cX0_mend 9 = .ok (.ireturn, 1) := dk_172 (dk_at dksX0_mend_0 9 rfl rfl)
theorem dX0_mend_10 : decode cX0_mend 10 = .ok (.aload_n 0, 1) := dk_42 (dk_at dksX0_mend_0 10 rfl rfl)
theorem dX0_mend_11 : decode cX0_mend 11 = .ok (.getfield 91, 3) := dk_180 0 91 (dk_at dksX0_mend_0 11 rfl rfl)
theorem dX0_mend_14 : decode cX0_mend 14 = .ok (.iload_n 1, 1) := dk_27 (dk_at dksX0_mend_0 14 rfl rfl)
theorem dX0_mend_15 : decode cX0_mend 15 = .ok (.invokevirtual 122, 3) := dk_182 0 122 (dk_at dksX0_mend_0 15 rfl rfl)
theorem dX0_mend_18 : decode cX0_mend 18 = .ok (.checkcast 126, 3) := dk_192 0 126 (dk_at dksX0_mend_0 18 rfl rfl)
theorem dX0_mend_21 : decode cX0_mend 21 = .ok (.astore_n 2, 1) := dk_77 (dk_at dksX0_mend_0 21 rfl rfl)
theorem dX0_mend_22 : decode cX0_mend 22 = .ok (.aload_n 0, 1) := dk_42 (dk_at dksX0_mend_0 22 rfl rfl)
theorem dX0_mend_23 : decode cX0_mend 23 = .ok (.aload_n 2, 1) := dk_44 (dk_at dksX0_mend_0 23 rfl rfl)
theorem dX0_mend_24 : decode cX0_mend 24 = .ok (.getfield 132, 3) := dk_180 0 132 (dk_at dksX0_mend_1 0 rfl rfl)
theorem dX0_mend_27 : decode cX0_mend 27 = .ok (.aload_n 2, 1) := dk_44 (dk_at dksX0_mend_1 3 rfl rfl)
theorem dX0_mend_28 : decode cX0_mend 28 = .ok (.getfield 151, 3) := dk_180 0 151 (dk_at dksX0_mend_1 4 rfl rfl)
theorem dX0_mend_31 : decode cX0_mend 31 = .ok (.invokevirtual 192, 3) := dk_182 0 192 (dk_at dksX0_mend_1 7 rfl rfl)
theorem dX0_mend_34 : decode cX0_mend 34 = .ok (.astore_n 3, 1) := dk_78 (dk_at dksX0_mend_1 10 rfl rfl)
theorem dX0_mend_35 : decode cX0_mend 35 = .ok (.aload_n 3, 1) := dk_45 (dk_at dksX0_mend_1 11 rfl rfl)
theorem dX0_mend_36 : decode cX0_mend 36 = .ok (.getfield 132, 3) := dk_180 0 132 (dk_at dksX0_mend_1 12 rfl rfl)
theorem dX0_mend_39 : decode cX0_mend 39 = .ok (.aload_n 3, 1) := dk_45 (dk_at dksX0_mend_1 15 rfl rfl)
theorem dX0_mend_40 : decode cX0_mend 40 = .ok (.getfield 151, 3) := dk_180 0 151 (dk_at dksX0_mend_1 16 rfl rfl)
theorem dX0_mend_43 : decode cX0_mend 43 = .ok (.invokestatic 212, 3) := dk_184 0 212 (dk_at dksX0_mend_1 19 rfl rfl)
theorem dX0_mend_46 : decode cX0_mend 46 = .ok (.ifCond .eq 10, 3) := dk_153 0 10 (dk_at dksX0_mend_2 0 rfl rfl)
theorem dX0_mend_49 : decode cX0_mend 49 = .ok (.aload_n 3, 1) := dk_45 (dk_at dksX0_mend_2 3 rfl rfl)
theorem dX0_mend_50 : decode cX0_mend 50 = .ok (.invokevirtual 196, 3) := dk_182 0 196 (dk_at dksX0_mend_2 4 rfl rfl)
theorem dX0_mend_53 : decode cX0_mend 53 = .ok (.ifCond .ne 6, 3) := dk_154 0 6 (dk_at dksX0_mend_2 7 rfl rfl)
theorem dX0_mend_56 : decode cX0_mend 56 = .ok (.bipush (-2), 2) := dk_16 254 (dk_at dksX0_mend_2 10 rfl rfl)
theorem dX0_mend_58 : decode cX0_mend 58 = .ok (.ireturn, 1) := dk_172 (dk_at dksX0_mend_2 12 rfl rfl)
theorem dX0_mend_59 : decode cX0_mend 59 = .ok (.aload_n 0, 1) := dk_42 (dk_at dksX0_mend_2 13 rfl rfl)
theorem dX0_mend_60 : decode cX0_mend 60 = .ok (.getfield 91, 3) := dk_180 0 91 (dk_at dksX0_mend_2 14 rfl rfl)
theorem dX0_mend_63 : decode cX0_mend 63 = .ok (.iload_n 1, 1) := dk_27 (dk_at dksX0_mend_2 17 rfl rfl)
theorem dX0_mend_64 : decode cX0_mend 64 = .ok (.aload_n 3, 1) := dk_45 (dk_at dksX0_mend_2 18 rfl rfl)
theorem dX0_mend_65 : decode cX0_mend 65 = .ok (.invokevirtual 283, 3) := dk_182 1 27 (dk_at dksX0_mend_2 19 rfl rfl)
theorem dX0_mend_68 : decode cX0_mend 68 = .ok (.pop, 1) := dk_87 (dk_at dksX0_mend_2 22 rfl rfl)
theorem dX0_mend_69 : decode cX0_mend 69 = .ok (.aload_n 0, 1) := dk_42 (dk_at dksX0_mend_2 23 rfl rfl)
theorem dX0_mend_70 : decode cX0_mend 70 = .ok (.iload_n 1, 1) := dk_27 (dk_at dksX0_mend_3 0 rfl rfl)
theorem dX0_mend_71 : decode cX0_mend 71 = .ok (.invokevirtual 147, 3) := dk_182 0 147 (dk_at dksX0_mend_3 1 rfl rfl)
theorem dX0_mend_74 : decode cX0_mend 74 = .ok (.aload_n 0, 1) := dk_42 (dk_at dksX0_mend_3 4 rfl rfl)
theorem dX0_mend_75 : decode cX0_mend 75 = .ok (.iload_n 1, 1) := dk_27 (dk_at dksX0_mend_3 5 rfl rfl)
theorem dX0_mend_76 : decode cX0_mend 76 = .ok (.invokevirtual 136, 3) := dk_182 0 136 (dk_at dksX0_mend_3 6 rfl rfl)
theorem dX0_mend_79 : decode cX0_mend 79 = .ok (.ifCond .eq 7, 3) := dk_153 0 7 (dk_at dksX0_mend_3 9 rfl rfl)
theorem dX0_mend_82 : decode cX0_mend 82 = .ok (.iconst 0, 1) := dk_3 (dk_at dksX0_mend_3 12 rfl rfl)
theorem dX0_mend_83 : decode cX0_mend 83 = .ok (.goto 9, 3) := dk_167 0 9 (dk_at dksX0_mend_3 13 rfl rfl)
theorem dX0_mend_86 : decode cX0_mend 86 = .ok (.aload_n 0, 1) := dk_42 (dk_at dksX0_mend_3 16 rfl rfl)
theorem dX0_mend_87 : decode cX0_mend 87 = .ok (.getfield 95, 3) := dk_180 0 95 (dk_at dksX0_mend_3 17 rfl rfl)
theorem dX0_mend_90 : decode cX0_mend 90 = .ok (.iload_n 1, 1) := dk_27 (dk_at dksX0_mend_3 20 rfl rfl)
theorem dX0_mend_91 : decode cX0_mend 91 = .ok (.baload, 1) := dk_51 (dk_at dksX0_mend_3 21 rfl rfl)
theorem dX0_mend_92 : decode cX0_mend 92 = .ok (.ireturn, 1) := dk_172 (dk_at dksX0_mend_3 22 rfl rfl)
abbrev cX0_prune : ByteArray := prog_1_method_34_code
def yX0_prune : MethodName := ⟨RX0, "prune", "(I)I"⟩
def dkwX0_prune_5 : List UInt8 := [192, 0, 126, 58, 6, 42, 25, 6, 182, 0, 182, 167, 255, 228, 42, 180, 0, 91, 182, 0, 110, 172]
abbrev dktX0_prune_5 : List UInt8 := dkwX0_prune_5 ++ []
def dkwX0_prune_4 : List UInt8 := [25, 4, 182, 0, 240, 58, 5, 25, 5, 185, 0, 162, 1, 0, 153, 0, 24, 25, 5, 185, 0, 168, 1, 0]
abbrev dktX0_prune_4 : List UInt8 := dkwX0_prune_4 ++ dktX0_prune_5
def dkwX0_prune_3 : List UInt8 := [21, 5, 182, 0, 122, 192, 0, 126, 182, 0, 140, 87, 132, 5, 1, 167, 255, 212, 42, 3, 182, 0, 216]
abbrev dktX0_prune_3 : List UInt8 := dkwX0_prune_3 ++ dktX0_prune_4
def dkwX0_prune_2 : List UInt8 := [182, 0, 110, 162, 0, 38, 32, 21, 5, 123, 10, 127, 10, 148, 154, 0, 21, 25, 4, 42, 180, 0, 91]
abbrev dktX0_prune_2 : List UInt8 := dkwX0_prune_2 ++ dktX0_prune_3
def dkwX0_prune_1 : List UInt8 := [182, 1, 31, 65, 187, 0, 88, 89, 183, 0, 90, 58, 4, 3, 54, 5, 21, 5, 42, 180, 0, 91]
abbrev dktX0_prune_1 : List UInt8 := dkwX0_prune_1 ++ dktX0_prune_2
def dkwX0_prune_0 : List UInt8 := [42, 27, 182, 0, 246, 154, 0, 5, 2, 172, 42, 27, 182, 0, 136, 154, 0, 6, 16, 254, 172, 42, 27]
abbrev dktX0_prune_0 : List UInt8 := dkwX0_prune_0 ++ dktX0_prune_1
theorem dksX0_prune_0 : cX0_prune.data.toList.drop 0 = dktX0_prune_0 := by decide +kernel
theorem dksX0_prune_1 : cX0_prune.data.toList.drop 23 = dktX0_prune_1 := dk_seg dksX0_prune_0 23 rfl rfl
theorem dksX0_prune_2 : cX0_prune.data.toList.drop 45 = dktX0_prune_2 := dk_seg dksX0_prune_1 22 rfl rfl
theorem dksX0_prune_3 : cX0_prune.data.toList.drop 68 = dktX0_prune_3 := dk_seg dksX0_prune_2 23 rfl rfl
theorem dksX0_prune_4 : cX0_prune.data.toList.drop 91 = dktX0_prune_4 := dk_seg dksX0_prune_3 23 rfl rfl
theorem dksX0_prune_5 : cX0_prune.data.toList.drop 115 = dktX0_prune_5 := dk_seg dksX0_prune_4 24 rfl rfl
theorem dX0_prune_0 : decode cX0_prune 0 = .ok (.aload_n 0, 1) := dk_42 (dk_at dksX0_prune_0 0 rfl rfl)
theorem dX0_prune_1 : decode cX0_prune 1 = .ok (.iload_n 1, 1) := dk_27 (dk_at dksX0_prune_0 1 rfl rfl)
theorem dX0_prune_2 : decode cX0_prune 2 = .ok (.invokevirtual 246, 3) := dk_182 0 246 (dk_at dksX0_prune_0 2 rfl rfl)
theorem dX0_prune_5 : decode cX0_prune 5 = .ok (.ifCond .ne 5, 3) := dk_154 0 5 (dk_at dksX0_prune_0 5 rfl rfl)
theorem dX0_prune_8 : decode cX0_prune 8 = .ok (.iconst (-1), 1) := dk_2 (dk_at dksX0_prune_0 8 rfl rfl)
theorem dX0_prune_9 : decode cX0_prune 9 = .ok (.ireturn, 1) := dk_172 (dk_at dksX0_prune_0 9 rfl rfl)
theorem dX0_prune_10 : decode cX0_prune 10 = .ok (.aload_n 0, 1) := dk_42 (dk_at dksX0_prune_0 10 rfl rfl)
theorem dX0_prune_11 : decode cX0_prune 11 = .ok (.iload_n 1, 1) := dk_27 (dk_at dksX0_prune_0 11 rfl rfl)
theorem dX0_prune_12 : decode cX0_prune 12 = .ok (.invokevirtual 136, 3) := dk_182 0 136 (dk_at dksX0_prune_0 12 rfl rfl)
theorem dX0_prune_15 : decode cX0_prune 15 = .ok (.ifCond .ne 6, 3) := dk_154 0 6 (dk_at dksX0_prune_0 15 rfl rfl)
theorem dX0_prune_18 : decode cX0_prune 18 = .ok (.bipush (-2), 2) := dk_16 254 (dk_at dksX0_prune_0 18 rfl rfl)
theorem dX0_prune_20 : decode cX0_prune 20 = .ok (.ireturn, 1) := dk_172 (dk_at dksX0_prune_0 20 rfl rfl)
theorem dX0_prune_21 : decode cX0_prune 21 = .ok (.aload_n 0, 1) := dk_42 (dk_at dksX0_prune_0 21 rfl rfl)
theorem dX0_prune_22 : decode cX0_prune 22 = .ok (.iload_n 1, 1) := dk_27 (dk_at dksX0_prune_0 22 rfl rfl)
theorem dX0_prune_23 : decode cX0_prune 23 = .ok (.invokevirtual 287, 3) := dk_182 1 31 (dk_at dksX0_prune_1 0 rfl rfl)
theorem dX0_prune_26 : decode cX0_prune 26 = .ok (.lstore_n 2, 1) := dk_65 (dk_at dksX0_prune_1 3 rfl rfl)
theorem dX0_prune_27 : decode cX0_prune 27 = .ok (.new 88, 3) := dk_187 0 88 (dk_at dksX0_prune_1 4 rfl rfl)
theorem dX0_prune_30 : decode cX0_prune 30 = .ok (.dup, 1) := dk_89 (dk_at dksX0_prune_1 7 rfl rfl)
theorem dX0_prune_31 : decode cX0_prune 31 = .ok (.invokespecial 90, 3) := dk_183 0 90 (dk_at dksX0_prune_1 8 rfl rfl)
theorem dX0_prune_34 : decode cX0_prune 34 = .ok (.astore 4, 2) := dk_58 4 (dk_at dksX0_prune_1 11 rfl rfl)
theorem dX0_prune_36 : decode cX0_prune 36 = .ok (.iconst 0, 1) := dk_3 (dk_at dksX0_prune_1 13 rfl rfl)
theorem dX0_prune_37 : decode cX0_prune 37 = .ok (.istore 5, 2) := dk_54 5 (dk_at dksX0_prune_1 14 rfl rfl)
theorem dX0_prune_39 : decode cX0_prune 39 = .ok (.iload 5, 2) := dk_21 5 (dk_at dksX0_prune_1 16 rfl rfl)
theorem dX0_prune_41 : decode cX0_prune 41 = .ok (.aload_n 0, 1) := dk_42 (dk_at dksX0_prune_1 18 rfl rfl)
theorem dX0_prune_42 : decode cX0_prune 42 = .ok (.getfield 91, 3) := dk_180 0 91 (dk_at dksX0_prune_1 19 rfl rfl)
theorem dX0_prune_45 : decode cX0_prune 45 = .ok (.invokevirtual 110, 3) := dk_182 0 110 (dk_at dksX0_prune_2 0 rfl rfl)
theorem dX0_prune_48 : decode cX0_prune 48 = .ok (.if_icmp .ge 38, 3) := dk_162 0 38 (dk_at dksX0_prune_2 3 rfl rfl)
theorem dX0_prune_51 : decode cX0_prune 51 = .ok (.lload_n 2, 1) := dk_32 (dk_at dksX0_prune_2 6 rfl rfl)
theorem dX0_prune_52 : decode cX0_prune 52 = .ok (.iload 5, 2) := dk_21 5 (dk_at dksX0_prune_2 7 rfl rfl)
theorem dX0_prune_54 : decode cX0_prune 54 = .ok (.lshr, 1) := dk_123 (dk_at dksX0_prune_2 9 rfl rfl)
theorem dX0_prune_55 : decode cX0_prune 55 = .ok (.lconst 1, 1) := dk_10 (dk_at dksX0_prune_2 10 rfl rfl)
theorem dX0_prune_56 : decode cX0_prune 56 = .ok (.land, 1) := dk_127 (dk_at dksX0_prune_2 11 rfl rfl)
theorem dX0_prune_57 : decode cX0_prune 57 = .ok (.lconst 1, 1) := dk_10 (dk_at dksX0_prune_2 12 rfl rfl)
theorem dX0_prune_58 : decode cX0_prune 58 = .ok (.lcmp, 1) := dk_148 (dk_at dksX0_prune_2 13 rfl rfl)
theorem dX0_prune_59 : decode cX0_prune 59 = .ok (.ifCond .ne 21, 3) := dk_154 0 21 (dk_at dksX0_prune_2 14 rfl rfl)
theorem dX0_prune_62 : decode cX0_prune 62 = .ok (.aload 4, 2) := dk_25 4 (dk_at dksX0_prune_2 17 rfl rfl)
theorem dX0_prune_64 : decode cX0_prune 64 = .ok (.aload_n 0, 1) := dk_42 (dk_at dksX0_prune_2 19 rfl rfl)
theorem dX0_prune_65 : decode cX0_prune 65 = .ok (.getfield 91, 3) := dk_180 0 91 (dk_at dksX0_prune_2 20 rfl rfl)
theorem dX0_prune_68 : decode cX0_prune 68 = .ok (.iload 5, 2) := dk_21 5 (dk_at dksX0_prune_3 0 rfl rfl)
theorem dX0_prune_70 : decode cX0_prune 70 = .ok (.invokevirtual 122, 3) := dk_182 0 122 (dk_at dksX0_prune_3 2 rfl rfl)
theorem dX0_prune_73 : decode cX0_prune 73 = .ok (.checkcast 126, 3) := dk_192 0 126 (dk_at dksX0_prune_3 5 rfl rfl)
theorem dX0_prune_76 : decode cX0_prune 76 = .ok (.invokevirtual 140, 3) := dk_182 0 140 (dk_at dksX0_prune_3 8 rfl rfl)
theorem dX0_prune_79 : decode cX0_prune 79 = .ok (.pop, 1) := dk_87 (dk_at dksX0_prune_3 11 rfl rfl)
theorem dX0_prune_80 : decode cX0_prune 80 = .ok (.iinc 5 1, 3) := dk_132 5 1 (dk_at dksX0_prune_3 12 rfl rfl)
theorem dX0_prune_83 : decode cX0_prune 83 = .ok (.goto (-44), 3) := dk_167 255 212 (dk_at dksX0_prune_3 15 rfl rfl)
theorem dX0_prune_86 : decode cX0_prune 86 = .ok (.aload_n 0, 1) := dk_42 (dk_at dksX0_prune_3 18 rfl rfl)
theorem dX0_prune_87 : decode cX0_prune 87 = .ok (.iconst 0, 1) := dk_3 (dk_at dksX0_prune_3 19 rfl rfl)
theorem dX0_prune_88 : decode cX0_prune 88 = .ok (.invokevirtual 216, 3) := dk_182 0 216 (dk_at dksX0_prune_3 20 rfl rfl)
theorem dX0_prune_91 : decode cX0_prune 91 = .ok (.aload 4, 2) := dk_25 4 (dk_at dksX0_prune_4 0 rfl rfl)
theorem dX0_prune_93 : decode cX0_prune 93 = .ok (.invokevirtual 240, 3) := dk_182 0 240 (dk_at dksX0_prune_4 2 rfl rfl)
theorem dX0_prune_96 : decode cX0_prune 96 = .ok (.astore 5, 2) := dk_58 5 (dk_at dksX0_prune_4 5 rfl rfl)
theorem dX0_prune_98 : decode cX0_prune 98 = .ok (.aload 5, 2) := dk_25 5 (dk_at dksX0_prune_4 7 rfl rfl)
theorem dX0_prune_100 : decode cX0_prune 100 = .ok (.invokeinterface 162 1, 5) := by decide +kernel
theorem dX0_prune_105 : decode cX0_prune 105 = .ok (.ifCond .eq 24, 3) := dk_153 0 24 (dk_at dksX0_prune_4 14 rfl rfl)
theorem dX0_prune_108 : decode cX0_prune 108 = .ok (.aload 5, 2) := dk_25 5 (dk_at dksX0_prune_4 17 rfl rfl)
theorem dX0_prune_110 : decode cX0_prune 110 = .ok (.invokeinterface 168 1, 5) := by decide +kernel
theorem dX0_prune_115 : decode cX0_prune 115 = .ok (.checkcast 126, 3) := dk_192 0 126 (dk_at dksX0_prune_5 0 rfl rfl)
theorem dX0_prune_118 : decode cX0_prune 118 = .ok (.astore 6, 2) := dk_58 6 (dk_at dksX0_prune_5 3 rfl rfl)
theorem dX0_prune_120 : decode cX0_prune 120 = .ok (.aload_n 0, 1) := dk_42 (dk_at dksX0_prune_5 5 rfl rfl)
theorem dX0_prune_121 : decode cX0_prune 121 = .ok (.aload 6, 2) := dk_25 6 (dk_at dksX0_prune_5 6 rfl rfl)
theorem dX0_prune_123 : decode cX0_prune 123 = .ok (.invokevirtual 182, 3) := dk_182 0 182 (dk_at dksX0_prune_5 8 rfl rfl)
theorem dX0_prune_126 : decode cX0_prune 126 = .ok (.goto (-28), 3) := dk_167 255 228 (dk_at dksX0_prune_5 11 rfl rfl)
theorem dX0_prune_129 : decode cX0_prune 129 = .ok (.aload_n 0, 1) := dk_42 (dk_at dksX0_prune_5 14 rfl rfl)
theorem dX0_prune_130 : decode cX0_prune 130 = .ok (.getfield 91, 3) := dk_180 0 91 (dk_at dksX0_prune_5 15 rfl rfl)
theorem dX0_prune_133 : decode cX0_prune 133 = .ok (.invokevirtual 110, 3) := dk_182 0 110 (dk_at dksX0_prune_5 18 rfl rfl)
theorem dX0_prune_136 : decode cX0_prune 136 = .ok (.ireturn, 1) := dk_172 (dk_at dksX0_prune_5 21 rfl rfl)
abbrev cX0_restsOf : ByteArray := prog_1_method_42_code
def yX0_restsOf : MethodName := ⟨RX0, "restsOf", "(I)J"⟩
def dkwX0_restsOf_0 : List UInt8 := [42, 27, 182, 1, 45, 42, 180, 0, 102, 27, 47, 173]
abbrev dktX0_restsOf_0 : List UInt8 := dkwX0_restsOf_0 ++ []
theorem dksX0_restsOf_0 : cX0_restsOf.data.toList.drop 0 = dktX0_restsOf_0 := by decide +kernel
theorem dX0_restsOf_0 : decode cX0_restsOf 0 = .ok (.aload_n 0, 1) := dk_42 (dk_at dksX0_restsOf_0 0 rfl rfl)
theorem dX0_restsOf_1 : decode cX0_restsOf 1 = .ok (.iload_n 1, 1) := dk_27 (dk_at dksX0_restsOf_0 1 rfl rfl)
theorem dX0_restsOf_2 : decode cX0_restsOf 2 = .ok (.invokevirtual 301, 3) := dk_182 1 45 (dk_at dksX0_restsOf_0 2 rfl rfl)
theorem dX0_restsOf_5 : decode cX0_restsOf 5 = .ok (.aload_n 0, 1) := dk_42 (dk_at dksX0_restsOf_0 5 rfl rfl)
theorem dX0_restsOf_6 : decode cX0_restsOf 6 = .ok (.getfield 102, 3) := dk_180 0 102 (dk_at dksX0_restsOf_0 6 rfl rfl)
theorem dX0_restsOf_9 : decode cX0_restsOf 9 = .ok (.iload_n 1, 1) := dk_27 (dk_at dksX0_restsOf_0 9 rfl rfl)
theorem dX0_restsOf_10 : decode cX0_restsOf 10 = .ok (.laload, 1) := dk_47 (dk_at dksX0_restsOf_0 10 rfl rfl)
theorem dX0_restsOf_11 : decode cX0_restsOf 11 = .ok (.lreturn, 1) := dk_173 (dk_at dksX0_restsOf_0 11 rfl rfl)
abbrev cX0_laysRests : ByteArray := prog_1_method_40_code
def yX0_laysRests : MethodName := ⟨RX0, "laysRests", "(I)V"⟩
def dkwX0_laysRests_3 : List UInt8 := [182, 1, 38, 132, 2, 1, 167, 255, 183, 177]
abbrev dktX0_laysRests_3 : List UInt8 := dkwX0_laysRests_3 ++ []
def dkwX0_laysRests_2 : List UInt8 := [180, 0, 154, 182, 1, 38, 42, 28, 42, 180, 0, 91, 28, 182, 0, 122, 192, 0, 126, 180, 0, 179]
abbrev dktX0_laysRests_2 : List UInt8 := dkwX0_laysRests_2 ++ dktX0_laysRests_3
def dkwX0_laysRests_1 : List UInt8 := [28, 182, 0, 136, 154, 0, 6, 167, 0, 41, 42, 28, 42, 180, 0, 91, 28, 182, 0, 122, 192, 0, 126]
abbrev dktX0_laysRests_1 : List UInt8 := dkwX0_laysRests_1 ++ dktX0_laysRests_2
def dkwX0_laysRests_0 : List UInt8 := [3, 61, 28, 27, 163, 0, 74, 42, 180, 0, 102, 28, 10, 28, 121, 80, 42, 180, 0, 106, 28, 3, 79, 42]
abbrev dktX0_laysRests_0 : List UInt8 := dkwX0_laysRests_0 ++ dktX0_laysRests_1
theorem dksX0_laysRests_0 : cX0_laysRests.data.toList.drop 0 = dktX0_laysRests_0 := by decide +kernel
theorem dksX0_laysRests_1 : cX0_laysRests.data.toList.drop 24 = dktX0_laysRests_1 := dk_seg dksX0_laysRests_0 24 rfl rfl
theorem dksX0_laysRests_2 : cX0_laysRests.data.toList.drop 47 = dktX0_laysRests_2 := dk_seg dksX0_laysRests_1 23 rfl rfl
theorem dksX0_laysRests_3 : cX0_laysRests.data.toList.drop 69 = dktX0_laysRests_3 := dk_seg dksX0_laysRests_2 22 rfl rfl
theorem dX0_laysRests_0 : decode cX0_laysRests 0 = .ok (.iconst 0, 1) := dk_3 (dk_at dksX0_laysRests_0 0 rfl rfl)
theorem dX0_laysRests_1 : decode cX0_laysRests 1 = .ok (.istore_n 2, 1) := dk_61 (dk_at dksX0_laysRests_0 1 rfl rfl)
theorem dX0_laysRests_2 : decode cX0_laysRests 2 = .ok (.iload_n 2, 1) := dk_28 (dk_at dksX0_laysRests_0 2 rfl rfl)
theorem dX0_laysRests_3 : decode cX0_laysRests 3 = .ok (.iload_n 1, 1) := dk_27 (dk_at dksX0_laysRests_0 3 rfl rfl)
theorem dX0_laysRests_4 : decode cX0_laysRests 4 = .ok (.if_icmp .gt 74, 3) := dk_163 0 74 (dk_at dksX0_laysRests_0 4 rfl rfl)
theorem dX0_laysRests_7 : decode cX0_laysRests 7 = .ok (.aload_n 0, 1) := dk_42 (dk_at dksX0_laysRests_0 7 rfl rfl)
theorem dX0_laysRests_8 : decode cX0_laysRests 8 = .ok (.getfield 102, 3) := dk_180 0 102 (dk_at dksX0_laysRests_0 8 rfl rfl)
theorem dX0_laysRests_11 : decode cX0_laysRests 11 = .ok (.iload_n 2, 1) := dk_28 (dk_at dksX0_laysRests_0 11 rfl rfl)
theorem dX0_laysRests_12 : decode cX0_laysRests 12 = .ok (.lconst 1, 1) := dk_10 (dk_at dksX0_laysRests_0 12 rfl rfl)
theorem dX0_laysRests_13 : decode cX0_laysRests 13 = .ok (.iload_n 2, 1) := dk_28 (dk_at dksX0_laysRests_0 13 rfl rfl)
theorem dX0_laysRests_14 : decode cX0_laysRests 14 = .ok (.lshl, 1) := dk_121 (dk_at dksX0_laysRests_0 14 rfl rfl)
theorem dX0_laysRests_15 : decode cX0_laysRests 15 = .ok (.lastore, 1) := dk_80 (dk_at dksX0_laysRests_0 15 rfl rfl)
theorem dX0_laysRests_16 : decode cX0_laysRests 16 = .ok (.aload_n 0, 1) := dk_42 (dk_at dksX0_laysRests_0 16 rfl rfl)
theorem dX0_laysRests_17 : decode cX0_laysRests 17 = .ok (.getfield 106, 3) := dk_180 0 106 (dk_at dksX0_laysRests_0 17 rfl rfl)
theorem dX0_laysRests_20 : decode cX0_laysRests 20 = .ok (.iload_n 2, 1) := dk_28 (dk_at dksX0_laysRests_0 20 rfl rfl)
theorem dX0_laysRests_21 : decode cX0_laysRests 21 = .ok (.iconst 0, 1) := dk_3 (dk_at dksX0_laysRests_0 21 rfl rfl)
theorem dX0_laysRests_22 : decode cX0_laysRests 22 = .ok (.iastore, 1) := dk_79 (dk_at dksX0_laysRests_0 22 rfl rfl)
theorem dX0_laysRests_23 : decode cX0_laysRests 23 = .ok (.aload_n 0, 1) := dk_42 (dk_at dksX0_laysRests_0 23 rfl rfl)
theorem dX0_laysRests_24 : decode cX0_laysRests 24 = .ok (.iload_n 2, 1) := dk_28 (dk_at dksX0_laysRests_1 0 rfl rfl)
theorem dX0_laysRests_25 : decode cX0_laysRests 25 = .ok (.invokevirtual 136, 3) := dk_182 0 136 (dk_at dksX0_laysRests_1 1 rfl rfl)
theorem dX0_laysRests_28 : decode cX0_laysRests 28 = .ok (.ifCond .ne 6, 3) := dk_154 0 6 (dk_at dksX0_laysRests_1 4 rfl rfl)
theorem dX0_laysRests_31 : decode cX0_laysRests 31 = .ok (.goto 41, 3) := dk_167 0 41 (dk_at dksX0_laysRests_1 7 rfl rfl)
theorem dX0_laysRests_34 : decode cX0_laysRests 34 = .ok (.aload_n 0, 1) := dk_42 (dk_at dksX0_laysRests_1 10 rfl rfl)
theorem dX0_laysRests_35 : decode cX0_laysRests 35 = .ok (.iload_n 2, 1) := dk_28 (dk_at dksX0_laysRests_1 11 rfl rfl)
theorem dX0_laysRests_36 : decode cX0_laysRests 36 = .ok (.aload_n 0, 1) := dk_42 (dk_at dksX0_laysRests_1 12 rfl rfl)
theorem dX0_laysRests_37 : decode cX0_laysRests 37 = .ok (.getfield 91, 3) := dk_180 0 91 (dk_at dksX0_laysRests_1 13 rfl rfl)
theorem dX0_laysRests_40 : decode cX0_laysRests 40 = .ok (.iload_n 2, 1) := dk_28 (dk_at dksX0_laysRests_1 16 rfl rfl)
theorem dX0_laysRests_41 : decode cX0_laysRests 41 = .ok (.invokevirtual 122, 3) := dk_182 0 122 (dk_at dksX0_laysRests_1 17 rfl rfl)
theorem dX0_laysRests_44 : decode cX0_laysRests 44 = .ok (.checkcast 126, 3) := dk_192 0 126 (dk_at dksX0_laysRests_1 20 rfl rfl)
theorem dX0_laysRests_47 : decode cX0_laysRests 47 = .ok (.getfield 154, 3) := dk_180 0 154 (dk_at dksX0_laysRests_2 0 rfl rfl)
theorem dX0_laysRests_50 : decode cX0_laysRests 50 = .ok (.invokevirtual 294, 3) := dk_182 1 38 (dk_at dksX0_laysRests_2 3 rfl rfl)
theorem dX0_laysRests_53 : decode cX0_laysRests 53 = .ok (.aload_n 0, 1) := dk_42 (dk_at dksX0_laysRests_2 6 rfl rfl)
theorem dX0_laysRests_54 : decode cX0_laysRests 54 = .ok (.iload_n 2, 1) := dk_28 (dk_at dksX0_laysRests_2 7 rfl rfl)
theorem dX0_laysRests_55 : decode cX0_laysRests 55 = .ok (.aload_n 0, 1) := dk_42 (dk_at dksX0_laysRests_2 8 rfl rfl)
theorem dX0_laysRests_56 : decode cX0_laysRests 56 = .ok (.getfield 91, 3) := dk_180 0 91 (dk_at dksX0_laysRests_2 9 rfl rfl)
theorem dX0_laysRests_59 : decode cX0_laysRests 59 = .ok (.iload_n 2, 1) := dk_28 (dk_at dksX0_laysRests_2 12 rfl rfl)
theorem dX0_laysRests_60 : decode cX0_laysRests 60 = .ok (.invokevirtual 122, 3) := dk_182 0 122 (dk_at dksX0_laysRests_2 13 rfl rfl)
theorem dX0_laysRests_63 : decode cX0_laysRests 63 = .ok (.checkcast 126, 3) := dk_192 0 126 (dk_at dksX0_laysRests_2 16 rfl rfl)
theorem dX0_laysRests_66 : decode cX0_laysRests 66 = .ok (.getfield 179, 3) := dk_180 0 179 (dk_at dksX0_laysRests_2 19 rfl rfl)
theorem dX0_laysRests_69 : decode cX0_laysRests 69 = .ok (.invokevirtual 294, 3) := dk_182 1 38 (dk_at dksX0_laysRests_3 0 rfl rfl)
theorem dX0_laysRests_72 : decode cX0_laysRests 72 = .ok (.iinc 2 1, 3) := dk_132 2 1 (dk_at dksX0_laysRests_3 3 rfl rfl)
theorem dX0_laysRests_75 : decode cX0_laysRests 75 = .ok (.goto (-73), 3) := dk_167 255 183 (dk_at dksX0_laysRests_3 6 rfl rfl)
theorem dX0_laysRests_78 : decode cX0_laysRests 78 = .ok (.return_, 1) := dk_177 (dk_at dksX0_laysRests_3 9 rfl rfl)
abbrev cX0_addsRests : ByteArray := prog_1_method_41_code
def yX0_addsRests : MethodName := ⟨RX0, "addsRests", "(ILPrimeProofs$Rows;)V"⟩
def dkwX0_addsRests_3 : List UInt8 := [21, 5, 46, 96, 184, 1, 42, 79, 167, 255, 184, 177]
abbrev dktX0_addsRests_3 : List UInt8 := dkwX0_addsRests_3 ++ []
def dkwX0_addsRests_2 : List UInt8 := [180, 0, 102, 21, 5, 47, 129, 80, 42, 180, 0, 106, 27, 42, 180, 0, 106, 27, 46, 4, 42, 180, 0, 106]
abbrev dktX0_addsRests_2 : List UInt8 := dkwX0_addsRests_2 ++ dktX0_addsRests_3
def dkwX0_addsRests_1 : List UInt8 := [58, 4, 42, 25, 4, 180, 0, 172, 27, 182, 0, 186, 54, 5, 42, 180, 0, 102, 27, 92, 47, 42]
abbrev dktX0_addsRests_1 : List UInt8 := dkwX0_addsRests_1 ++ dktX0_addsRests_2
def dkwX0_addsRests_0 : List UInt8 := [44, 182, 0, 158, 78, 45, 185, 0, 162, 1, 0, 153, 0, 69, 45, 185, 0, 168, 1, 0, 192, 0, 49]
abbrev dktX0_addsRests_0 : List UInt8 := dkwX0_addsRests_0 ++ dktX0_addsRests_1
theorem dksX0_addsRests_0 : cX0_addsRests.data.toList.drop 0 = dktX0_addsRests_0 := by decide +kernel
theorem dksX0_addsRests_1 : cX0_addsRests.data.toList.drop 23 = dktX0_addsRests_1 := dk_seg dksX0_addsRests_0 23 rfl rfl
theorem dksX0_addsRests_2 : cX0_addsRests.data.toList.drop 45 = dktX0_addsRests_2 := dk_seg dksX0_addsRests_1 22 rfl rfl
theorem dksX0_addsRests_3 : cX0_addsRests.data.toList.drop 69 = dktX0_addsRests_3 := dk_seg dksX0_addsRests_2 24 rfl rfl
theorem dX0_addsRests_0 : decode cX0_addsRests 0 = .ok (.aload_n 2, 1) := dk_44 (dk_at dksX0_addsRests_0 0 rfl rfl)
theorem dX0_addsRests_1 : decode cX0_addsRests 1 = .ok (.invokevirtual 158, 3) := dk_182 0 158 (dk_at dksX0_addsRests_0 1 rfl rfl)
theorem dX0_addsRests_4 : decode cX0_addsRests 4 = .ok (.astore_n 3, 1) := dk_78 (dk_at dksX0_addsRests_0 4 rfl rfl)
theorem dX0_addsRests_5 : decode cX0_addsRests 5 = .ok (.aload_n 3, 1) := dk_45 (dk_at dksX0_addsRests_0 5 rfl rfl)
theorem dX0_addsRests_6 : decode cX0_addsRests 6 = .ok (.invokeinterface 162 1, 5) := by decide +kernel
theorem dX0_addsRests_11 : decode cX0_addsRests 11 = .ok (.ifCond .eq 69, 3) := dk_153 0 69 (dk_at dksX0_addsRests_0 11 rfl rfl)
theorem dX0_addsRests_14 : decode cX0_addsRests 14 = .ok (.aload_n 3, 1) := dk_45 (dk_at dksX0_addsRests_0 14 rfl rfl)
theorem dX0_addsRests_15 : decode cX0_addsRests 15 = .ok (.invokeinterface 168 1, 5) := by decide +kernel
theorem dX0_addsRests_20 : decode cX0_addsRests 20 = .ok (.checkcast 49, 3) := dk_192 0 49 (dk_at dksX0_addsRests_0 20 rfl rfl)
theorem dX0_addsRests_23 : decode cX0_addsRests 23 = .ok (.astore 4, 2) := dk_58 4 (dk_at dksX0_addsRests_1 0 rfl rfl)
theorem dX0_addsRests_25 : decode cX0_addsRests 25 = .ok (.aload_n 0, 1) := dk_42 (dk_at dksX0_addsRests_1 2 rfl rfl)
theorem dX0_addsRests_26 : decode cX0_addsRests 26 = .ok (.aload 4, 2) := dk_25 4 (dk_at dksX0_addsRests_1 3 rfl rfl)
theorem dX0_addsRests_28 : decode cX0_addsRests 28 = .ok (.getfield 172, 3) := dk_180 0 172 (dk_at dksX0_addsRests_1 5 rfl rfl)
theorem dX0_addsRests_31 : decode cX0_addsRests 31 = .ok (.iload_n 1, 1) := dk_27 (dk_at dksX0_addsRests_1 8 rfl rfl)
theorem dX0_addsRests_32 : decode cX0_addsRests 32 = .ok (.invokevirtual 186, 3) := dk_182 0 186 (dk_at dksX0_addsRests_1 9 rfl rfl)
theorem dX0_addsRests_35 : decode cX0_addsRests 35 = .ok (.istore 5, 2) := dk_54 5 (dk_at dksX0_addsRests_1 12 rfl rfl)
theorem dX0_addsRests_37 : decode cX0_addsRests 37 = .ok (.aload_n 0, 1) := dk_42 (dk_at dksX0_addsRests_1 14 rfl rfl)
theorem dX0_addsRests_38 : decode cX0_addsRests 38 = .ok (.getfield 102, 3) := dk_180 0 102 (dk_at dksX0_addsRests_1 15 rfl rfl)
theorem dX0_addsRests_41 : decode cX0_addsRests 41 = .ok (.iload_n 1, 1) := dk_27 (dk_at dksX0_addsRests_1 18 rfl rfl)
theorem dX0_addsRests_42 : decode cX0_addsRests 42 = .ok (.dup2, 1) := dk_92 (dk_at dksX0_addsRests_1 19 rfl rfl)
theorem dX0_addsRests_43 : decode cX0_addsRests 43 = .ok (.laload, 1) := dk_47 (dk_at dksX0_addsRests_1 20 rfl rfl)
theorem dX0_addsRests_44 : decode cX0_addsRests 44 = .ok (.aload_n 0, 1) := dk_42 (dk_at dksX0_addsRests_1 21 rfl rfl)
theorem dX0_addsRests_45 : decode cX0_addsRests 45 = .ok (.getfield 102, 3) := dk_180 0 102 (dk_at dksX0_addsRests_2 0 rfl rfl)
theorem dX0_addsRests_48 : decode cX0_addsRests 48 = .ok (.iload 5, 2) := dk_21 5 (dk_at dksX0_addsRests_2 3 rfl rfl)
theorem dX0_addsRests_50 : decode cX0_addsRests 50 = .ok (.laload, 1) := dk_47 (dk_at dksX0_addsRests_2 5 rfl rfl)
theorem dX0_addsRests_51 : decode cX0_addsRests 51 = .ok (.lor, 1) := dk_129 (dk_at dksX0_addsRests_2 6 rfl rfl)
theorem dX0_addsRests_52 : decode cX0_addsRests 52 = .ok (.lastore, 1) := dk_80 (dk_at dksX0_addsRests_2 7 rfl rfl)
theorem dX0_addsRests_53 : decode cX0_addsRests 53 = .ok (.aload_n 0, 1) := dk_42 (dk_at dksX0_addsRests_2 8 rfl rfl)
theorem dX0_addsRests_54 : decode cX0_addsRests 54 = .ok (.getfield 106, 3) := dk_180 0 106 (dk_at dksX0_addsRests_2 9 rfl rfl)
theorem dX0_addsRests_57 : decode cX0_addsRests 57 = .ok (.iload_n 1, 1) := dk_27 (dk_at dksX0_addsRests_2 12 rfl rfl)
theorem dX0_addsRests_58 : decode cX0_addsRests 58 = .ok (.aload_n 0, 1) := dk_42 (dk_at dksX0_addsRests_2 13 rfl rfl)
theorem dX0_addsRests_59 : decode cX0_addsRests 59 = .ok (.getfield 106, 3) := dk_180 0 106 (dk_at dksX0_addsRests_2 14 rfl rfl)
theorem dX0_addsRests_62 : decode cX0_addsRests 62 = .ok (.iload_n 1, 1) := dk_27 (dk_at dksX0_addsRests_2 17 rfl rfl)
theorem dX0_addsRests_63 : decode cX0_addsRests 63 = .ok (.iaload, 1) := dk_46 (dk_at dksX0_addsRests_2 18 rfl rfl)
theorem dX0_addsRests_64 : decode cX0_addsRests 64 = .ok (.iconst 1, 1) := dk_4 (dk_at dksX0_addsRests_2 19 rfl rfl)
theorem dX0_addsRests_65 : decode cX0_addsRests 65 = .ok (.aload_n 0, 1) := dk_42 (dk_at dksX0_addsRests_2 20 rfl rfl)
theorem dX0_addsRests_66 : decode cX0_addsRests 66 = .ok (.getfield 106, 3) := dk_180 0 106 (dk_at dksX0_addsRests_2 21 rfl rfl)
theorem dX0_addsRests_69 : decode cX0_addsRests 69 = .ok (.iload 5, 2) := dk_21 5 (dk_at dksX0_addsRests_3 0 rfl rfl)
theorem dX0_addsRests_71 : decode cX0_addsRests 71 = .ok (.iaload, 1) := dk_46 (dk_at dksX0_addsRests_3 2 rfl rfl)
theorem dX0_addsRests_72 : decode cX0_addsRests 72 = .ok (.iadd, 1) := dk_96 (dk_at dksX0_addsRests_3 3 rfl rfl)
theorem dX0_addsRests_73 : decode cX0_addsRests 73 = .ok (.invokestatic 298, 3) := dk_184 1 42 (dk_at dksX0_addsRests_3 4 rfl rfl)
theorem dX0_addsRests_76 : decode cX0_addsRests 76 = .ok (.iastore, 1) := dk_79 (dk_at dksX0_addsRests_3 7 rfl rfl)
theorem dX0_addsRests_77 : decode cX0_addsRests 77 = .ok (.goto (-72), 3) := dk_167 255 184 (dk_at dksX0_addsRests_3 8 rfl rfl)
theorem dX0_addsRests_80 : decode cX0_addsRests 80 = .ok (.return_, 1) := dk_177 (dk_at dksX0_addsRests_3 11 rfl rfl)
abbrev cX0_drop : ByteArray := prog_1_method_35_code
def yX0_drop : MethodName := ⟨RX0, "drop", "()I"⟩
def dkwX0_drop_1 : List UInt8 := [182, 0, 216, 42, 180, 0, 91, 182, 0, 110, 172]
abbrev dktX0_drop_1 : List UInt8 := dkwX0_drop_1 ++ []
def dkwX0_drop_0 : List UInt8 := [42, 180, 0, 91, 182, 1, 35, 153, 0, 5, 2, 172, 42, 42, 180, 0, 91, 182, 0, 110, 4, 100]
abbrev dktX0_drop_0 : List UInt8 := dkwX0_drop_0 ++ dktX0_drop_1
theorem dksX0_drop_0 : cX0_drop.data.toList.drop 0 = dktX0_drop_0 := by decide +kernel
theorem dksX0_drop_1 : cX0_drop.data.toList.drop 22 = dktX0_drop_1 := dk_seg dksX0_drop_0 22 rfl rfl
theorem dX0_drop_0 : decode cX0_drop 0 = .ok (.aload_n 0, 1) := dk_42 (dk_at dksX0_drop_0 0 rfl rfl)
theorem dX0_drop_1 : decode cX0_drop 1 = .ok (.getfield 91, 3) := dk_180 0 91 (dk_at dksX0_drop_0 1 rfl rfl)
theorem dX0_drop_4 : decode cX0_drop 4 = .ok (.invokevirtual 291, 3) := dk_182 1 35 (dk_at dksX0_drop_0 4 rfl rfl)
theorem dX0_drop_7 : decode cX0_drop 7 = .ok (.ifCond .eq 5, 3) := dk_153 0 5 (dk_at dksX0_drop_0 7 rfl rfl)
theorem dX0_drop_10 : decode cX0_drop 10 = .ok (.iconst (-1), 1) := dk_2 (dk_at dksX0_drop_0 10 rfl rfl)
theorem dX0_drop_11 : decode cX0_drop 11 = .ok (.ireturn, 1) := dk_172 (dk_at dksX0_drop_0 11 rfl rfl)
theorem dX0_drop_12 : decode cX0_drop 12 = .ok (.aload_n 0, 1) := dk_42 (dk_at dksX0_drop_0 12 rfl rfl)
theorem dX0_drop_13 : decode cX0_drop 13 = .ok (.aload_n 0, 1) := dk_42 (dk_at dksX0_drop_0 13 rfl rfl)
theorem dX0_drop_14 : decode cX0_drop 14 = .ok (.getfield 91, 3) := dk_180 0 91 (dk_at dksX0_drop_0 14 rfl rfl)
theorem dX0_drop_17 : decode cX0_drop 17 = .ok (.invokevirtual 110, 3) := dk_182 0 110 (dk_at dksX0_drop_0 17 rfl rfl)
theorem dX0_drop_20 : decode cX0_drop 20 = .ok (.iconst 1, 1) := dk_4 (dk_at dksX0_drop_0 20 rfl rfl)
theorem dX0_drop_21 : decode cX0_drop 21 = .ok (.isub, 1) := dk_100 (dk_at dksX0_drop_0 21 rfl rfl)
theorem dX0_drop_22 : decode cX0_drop 22 = .ok (.invokevirtual 216, 3) := dk_182 0 216 (dk_at dksX0_drop_1 0 rfl rfl)
theorem dX0_drop_25 : decode cX0_drop 25 = .ok (.aload_n 0, 1) := dk_42 (dk_at dksX0_drop_1 3 rfl rfl)
theorem dX0_drop_26 : decode cX0_drop 26 = .ok (.getfield 91, 3) := dk_180 0 91 (dk_at dksX0_drop_1 4 rfl rfl)
theorem dX0_drop_29 : decode cX0_drop 29 = .ok (.invokevirtual 110, 3) := dk_182 0 110 (dk_at dksX0_drop_1 7 rfl rfl)
theorem dX0_drop_32 : decode cX0_drop 32 = .ok (.ireturn, 1) := dk_172 (dk_at dksX0_drop_1 10 rfl rfl)
abbrev cX0_clear : ByteArray := prog_1_method_36_code
def yX0_clear : MethodName := ⟨RX0, "clear", "()I"⟩
def dkwX0_clear_0 : List UInt8 := [42, 180, 0, 91, 182, 0, 110, 60, 42, 3, 182, 0, 216, 27, 172]
abbrev dktX0_clear_0 : List UInt8 := dkwX0_clear_0 ++ []
theorem dksX0_clear_0 : cX0_clear.data.toList.drop 0 = dktX0_clear_0 := by decide +kernel
theorem dX0_clear_0 : decode cX0_clear 0 = .ok (.aload_n 0, 1) := dk_42 (dk_at dksX0_clear_0 0 rfl rfl)
theorem dX0_clear_1 : decode cX0_clear 1 = .ok (.getfield 91, 3) := dk_180 0 91 (dk_at dksX0_clear_0 1 rfl rfl)
theorem dX0_clear_4 : decode cX0_clear 4 = .ok (.invokevirtual 110, 3) := dk_182 0 110 (dk_at dksX0_clear_0 4 rfl rfl)
theorem dX0_clear_7 : decode cX0_clear 7 = .ok (.istore_n 1, 1) := dk_60 (dk_at dksX0_clear_0 7 rfl rfl)
theorem dX0_clear_8 : decode cX0_clear 8 = .ok (.aload_n 0, 1) := dk_42 (dk_at dksX0_clear_0 8 rfl rfl)
theorem dX0_clear_9 : decode cX0_clear 9 = .ok (.iconst 0, 1) := dk_3 (dk_at dksX0_clear_0 9 rfl rfl)
theorem dX0_clear_10 : decode cX0_clear 10 = .ok (.invokevirtual 216, 3) := dk_182 0 216 (dk_at dksX0_clear_0 10 rfl rfl)
theorem dX0_clear_13 : decode cX0_clear 13 = .ok (.iload_n 1, 1) := dk_27 (dk_at dksX0_clear_0 13 rfl rfl)
theorem dX0_clear_14 : decode cX0_clear 14 = .ok (.ireturn, 1) := dk_172 (dk_at dksX0_clear_0 14 rfl rfl)
abbrev cX0_line : ByteArray := prog_1_method_37_code
def yX0_line : MethodName := ⟨RX0, "line", "(II)I"⟩
def dkwX0_line_4 : List UInt8 := [167, 0, 9, 42, 180, 0, 95, 27, 51, 172, 2, 172]
abbrev dktX0_line_4 : List UInt8 := dkwX0_line_4 ++ []
def dkwX0_line_3 : List UInt8 := [180, 0, 154, 180, 0, 222, 172, 45, 180, 0, 179, 180, 0, 222, 172, 42, 27, 182, 0, 136, 153, 0, 7, 3]
abbrev dktX0_line_3 : List UInt8 := dkwX0_line_3 ++ dktX0_line_4
def dkwX0_line_2 : List UInt8 := [45, 180, 0, 132, 136, 172, 45, 180, 0, 151, 172, 45, 180, 0, 254, 172, 45, 180, 1, 1, 172, 45]
abbrev dktX0_line_2 : List UInt8 := dkwX0_line_2 ++ dktX0_line_3
def dkwX0_line_1 : List UInt8 := [170, 0, 0, 0, 97, 0, 0, 0, 0, 0, 0, 0, 6, 0, 0, 0, 41, 0, 0, 0, 47, 0, 0, 0, 52, 0, 0, 0, 57, 0, 0, 0, 62, 0, 0, 0, 70, 0, 0, 0, 78]
abbrev dktX0_line_1 : List UInt8 := dkwX0_line_1 ++ dktX0_line_2
def dkwX0_line_0 : List UInt8 := [42, 27, 182, 0, 246, 154, 0, 5, 2, 172, 42, 180, 0, 91, 27, 182, 0, 122, 192, 0, 126, 78, 28]
abbrev dktX0_line_0 : List UInt8 := dkwX0_line_0 ++ dktX0_line_1
theorem dksX0_line_0 : cX0_line.data.toList.drop 0 = dktX0_line_0 := by decide +kernel
theorem dksX0_line_1 : cX0_line.data.toList.drop 23 = dktX0_line_1 := dk_seg dksX0_line_0 23 rfl rfl
theorem dksX0_line_2 : cX0_line.data.toList.drop 64 = dktX0_line_2 := dk_seg dksX0_line_1 41 rfl rfl
theorem dksX0_line_3 : cX0_line.data.toList.drop 86 = dktX0_line_3 := dk_seg dksX0_line_2 22 rfl rfl
theorem dksX0_line_4 : cX0_line.data.toList.drop 110 = dktX0_line_4 := dk_seg dksX0_line_3 24 rfl rfl
theorem dX0_line_0 : decode cX0_line 0 = .ok (.aload_n 0, 1) := dk_42 (dk_at dksX0_line_0 0 rfl rfl)
theorem dX0_line_1 : decode cX0_line 1 = .ok (.iload_n 1, 1) := dk_27 (dk_at dksX0_line_0 1 rfl rfl)
theorem dX0_line_2 : decode cX0_line 2 = .ok (.invokevirtual 246, 3) := dk_182 0 246 (dk_at dksX0_line_0 2 rfl rfl)
theorem dX0_line_5 : decode cX0_line 5 = .ok (.ifCond .ne 5, 3) := dk_154 0 5 (dk_at dksX0_line_0 5 rfl rfl)
theorem dX0_line_8 : decode cX0_line 8 = .ok (.iconst (-1), 1) := dk_2 (dk_at dksX0_line_0 8 rfl rfl)
theorem dX0_line_9 : decode cX0_line 9 = .ok (.ireturn, 1) := dk_172 (dk_at dksX0_line_0 9 rfl rfl)
theorem dX0_line_10 : decode cX0_line 10 = .ok (.aload_n 0, 1) := dk_42 (dk_at dksX0_line_0 10 rfl rfl)
theorem dX0_line_11 : decode cX0_line 11 = .ok (.getfield 91, 3) := dk_180 0 91 (dk_at dksX0_line_0 11 rfl rfl)
theorem dX0_line_14 : decode cX0_line 14 = .ok (.iload_n 1, 1) := dk_27 (dk_at dksX0_line_0 14 rfl rfl)
theorem dX0_line_15 : decode cX0_line 15 = .ok (.invokevirtual 122, 3) := dk_182 0 122 (dk_at dksX0_line_0 15 rfl rfl)
theorem dX0_line_18 : decode cX0_line 18 = .ok (.checkcast 126, 3) := dk_192 0 126 (dk_at dksX0_line_0 18 rfl rfl)
theorem dX0_line_21 : decode cX0_line 21 = .ok (.astore_n 3, 1) := dk_78 (dk_at dksX0_line_0 21 rfl rfl)
theorem dX0_line_22 : decode cX0_line 22 = .ok (.iload_n 2, 1) := dk_28 (dk_at dksX0_line_0 22 rfl rfl)
theorem dX0_line_23 : decode cX0_line 23 = .ok (.tableswitch 97 0 6 #[41, 47, 52, 57, 62, 70, 78], 41) := by decide +kernel
theorem dX0_line_64 : decode cX0_line 64 = .ok (.aload_n 3, 1) := dk_45 (dk_at dksX0_line_2 0 rfl rfl)
theorem dX0_line_65 : decode cX0_line 65 = .ok (.getfield 132, 3) := dk_180 0 132 (dk_at dksX0_line_2 1 rfl rfl)
theorem dX0_line_68 : decode cX0_line 68 = .ok (.l2i, 1) := dk_136 (dk_at dksX0_line_2 4 rfl rfl)
theorem dX0_line_69 : decode cX0_line 69 = .ok (.ireturn, 1) := dk_172 (dk_at dksX0_line_2 5 rfl rfl)
theorem dX0_line_70 : decode cX0_line 70 = .ok (.aload_n 3, 1) := dk_45 (dk_at dksX0_line_2 6 rfl rfl)
theorem dX0_line_71 : decode cX0_line 71 = .ok (.getfield 151, 3) := dk_180 0 151 (dk_at dksX0_line_2 7 rfl rfl)
theorem dX0_line_74 : decode cX0_line 74 = .ok (.ireturn, 1) := dk_172 (dk_at dksX0_line_2 10 rfl rfl)
theorem dX0_line_75 : decode cX0_line 75 = .ok (.aload_n 3, 1) := dk_45 (dk_at dksX0_line_2 11 rfl rfl)
theorem dX0_line_76 : decode cX0_line 76 = .ok (.getfield 254, 3) := dk_180 0 254 (dk_at dksX0_line_2 12 rfl rfl)
theorem dX0_line_79 : decode cX0_line 79 = .ok (.ireturn, 1) := dk_172 (dk_at dksX0_line_2 15 rfl rfl)
theorem dX0_line_80 : decode cX0_line 80 = .ok (.aload_n 3, 1) := dk_45 (dk_at dksX0_line_2 16 rfl rfl)
theorem dX0_line_81 : decode cX0_line 81 = .ok (.getfield 257, 3) := dk_180 1 1 (dk_at dksX0_line_2 17 rfl rfl)
theorem dX0_line_84 : decode cX0_line 84 = .ok (.ireturn, 1) := dk_172 (dk_at dksX0_line_2 20 rfl rfl)
theorem dX0_line_85 : decode cX0_line 85 = .ok (.aload_n 3, 1) := dk_45 (dk_at dksX0_line_2 21 rfl rfl)
theorem dX0_line_86 : decode cX0_line 86 = .ok (.getfield 154, 3) := dk_180 0 154 (dk_at dksX0_line_3 0 rfl rfl)
theorem dX0_line_89 : decode cX0_line 89 = .ok (.getfield 222, 3) := dk_180 0 222 (dk_at dksX0_line_3 3 rfl rfl)
theorem dX0_line_92 : decode cX0_line 92 = .ok (.ireturn, 1) := dk_172 (dk_at dksX0_line_3 6 rfl rfl)
theorem dX0_line_93 : decode cX0_line 93 = .ok (.aload_n 3, 1) := dk_45 (dk_at dksX0_line_3 7 rfl rfl)
theorem dX0_line_94 : decode cX0_line 94 = .ok (.getfield 179, 3) := dk_180 0 179 (dk_at dksX0_line_3 8 rfl rfl)
theorem dX0_line_97 : decode cX0_line 97 = .ok (.getfield 222, 3) := dk_180 0 222 (dk_at dksX0_line_3 11 rfl rfl)
theorem dX0_line_100 : decode cX0_line 100 = .ok (.ireturn, 1) := dk_172 (dk_at dksX0_line_3 14 rfl rfl)
theorem dX0_line_101 : decode cX0_line 101 = .ok (.aload_n 0, 1) := dk_42 (dk_at dksX0_line_3 15 rfl rfl)
theorem dX0_line_102 : decode cX0_line 102 = .ok (.iload_n 1, 1) := dk_27 (dk_at dksX0_line_3 16 rfl rfl)
theorem dX0_line_103 : decode cX0_line 103 = .ok (.invokevirtual 136, 3) := dk_182 0 136 (dk_at dksX0_line_3 17 rfl rfl)
theorem dX0_line_106 : decode cX0_line 106 = .ok (.ifCond .eq 7, 3) := dk_153 0 7 (dk_at dksX0_line_3 20 rfl rfl)
theorem dX0_line_109 : decode cX0_line 109 = .ok (.iconst 0, 1) := dk_3 (dk_at dksX0_line_3 23 rfl rfl)
theorem dX0_line_110 : decode cX0_line 110 = .ok (.goto 9, 3) := dk_167 0 9 (dk_at dksX0_line_4 0 rfl rfl)
theorem dX0_line_113 : decode cX0_line 113 = .ok (.aload_n 0, 1) := dk_42 (dk_at dksX0_line_4 3 rfl rfl)
theorem dX0_line_114 : decode cX0_line 114 = .ok (.getfield 95, 3) := dk_180 0 95 (dk_at dksX0_line_4 4 rfl rfl)
theorem dX0_line_117 : decode cX0_line 117 = .ok (.iload_n 1, 1) := dk_27 (dk_at dksX0_line_4 7 rfl rfl)
theorem dX0_line_118 : decode cX0_line 118 = .ok (.baload, 1) := dk_51 (dk_at dksX0_line_4 8 rfl rfl)
theorem dX0_line_119 : decode cX0_line 119 = .ok (.ireturn, 1) := dk_172 (dk_at dksX0_line_4 9 rfl rfl)
theorem dX0_line_120 : decode cX0_line 120 = .ok (.iconst (-1), 1) := dk_2 (dk_at dksX0_line_4 10 rfl rfl)
theorem dX0_line_121 : decode cX0_line 121 = .ok (.ireturn, 1) := dk_172 (dk_at dksX0_line_4 11 rfl rfl)
abbrev cX0_row : ByteArray := prog_1_method_38_code
def yX0_row : MethodName := ⟨RX0, "row", "(IZII)I"⟩
def dkwX0_row_3 : List UInt8 := [180, 0, 172, 27, 182, 0, 186, 172, 2, 172]
abbrev dktX0_row_3 : List UInt8 := dkwX0_row_3 ++ []
def dkwX0_row_2 : List UInt8 := [25, 5, 180, 0, 172, 136, 172, 25, 5, 180, 1, 15, 172, 25, 5, 180, 1, 18, 172, 42, 25, 5]
abbrev dktX0_row_2 : List UInt8 := dkwX0_row_2 ++ dktX0_row_3
def dkwX0_row_1 : List UInt8 := [170, 0, 0, 0, 0, 60, 0, 0, 0, 0, 0, 0, 0, 3, 0, 0, 0, 30, 0, 0, 0, 37, 0, 0, 0, 43, 0, 0, 0, 49]
abbrev dktX0_row_1 : List UInt8 := dkwX0_row_1 ++ dktX0_row_2
def dkwX0_row_0 : List UInt8 := [42, 27, 28, 29, 182, 1, 7, 58, 5, 25, 5, 199, 0, 5, 2, 172, 21, 4]
abbrev dktX0_row_0 : List UInt8 := dkwX0_row_0 ++ dktX0_row_1
theorem dksX0_row_0 : cX0_row.data.toList.drop 0 = dktX0_row_0 := by decide +kernel
theorem dksX0_row_1 : cX0_row.data.toList.drop 18 = dktX0_row_1 := dk_seg dksX0_row_0 18 rfl rfl
theorem dksX0_row_2 : cX0_row.data.toList.drop 48 = dktX0_row_2 := dk_seg dksX0_row_1 30 rfl rfl
theorem dksX0_row_3 : cX0_row.data.toList.drop 70 = dktX0_row_3 := dk_seg dksX0_row_2 22 rfl rfl
theorem dX0_row_0 : decode cX0_row 0 = .ok (.aload_n 0, 1) := dk_42 (dk_at dksX0_row_0 0 rfl rfl)
theorem dX0_row_1 : decode cX0_row 1 = .ok (.iload_n 1, 1) := dk_27 (dk_at dksX0_row_0 1 rfl rfl)
theorem dX0_row_2 : decode cX0_row 2 = .ok (.iload_n 2, 1) := dk_28 (dk_at dksX0_row_0 2 rfl rfl)
theorem dX0_row_3 : decode cX0_row 3 = .ok (.iload_n 3, 1) := dk_29 (dk_at dksX0_row_0 3 rfl rfl)
theorem dX0_row_4 : decode cX0_row 4 = .ok (.invokevirtual 263, 3) := dk_182 1 7 (dk_at dksX0_row_0 4 rfl rfl)
theorem dX0_row_7 : decode cX0_row 7 = .ok (.astore 5, 2) := dk_58 5 (dk_at dksX0_row_0 7 rfl rfl)
theorem dX0_row_9 : decode cX0_row 9 = .ok (.aload 5, 2) := dk_25 5 (dk_at dksX0_row_0 9 rfl rfl)
theorem dX0_row_11 : decode cX0_row 11 = .ok (.ifnonnull 5, 3) := dk_199 0 5 (dk_at dksX0_row_0 11 rfl rfl)
theorem dX0_row_14 : decode cX0_row 14 = .ok (.iconst (-1), 1) := dk_2 (dk_at dksX0_row_0 14 rfl rfl)
theorem dX0_row_15 : decode cX0_row 15 = .ok (.ireturn, 1) := dk_172 (dk_at dksX0_row_0 15 rfl rfl)
theorem dX0_row_16 : decode cX0_row 16 = .ok (.iload 4, 2) := dk_21 4 (dk_at dksX0_row_0 16 rfl rfl)
theorem dX0_row_18 : decode cX0_row 18 = .ok (.tableswitch 60 0 3 #[30, 37, 43, 49], 30) := by decide +kernel
theorem dX0_row_48 : decode cX0_row 48 = .ok (.aload 5, 2) := dk_25 5 (dk_at dksX0_row_2 0 rfl rfl)
theorem dX0_row_50 : decode cX0_row 50 = .ok (.getfield 172, 3) := dk_180 0 172 (dk_at dksX0_row_2 2 rfl rfl)
theorem dX0_row_53 : decode cX0_row 53 = .ok (.l2i, 1) := dk_136 (dk_at dksX0_row_2 5 rfl rfl)
theorem dX0_row_54 : decode cX0_row 54 = .ok (.ireturn, 1) := dk_172 (dk_at dksX0_row_2 6 rfl rfl)
theorem dX0_row_55 : decode cX0_row 55 = .ok (.aload 5, 2) := dk_25 5 (dk_at dksX0_row_2 7 rfl rfl)
theorem dX0_row_57 : decode cX0_row 57 = .ok (.getfield 271, 3) := dk_180 1 15 (dk_at dksX0_row_2 9 rfl rfl)
theorem dX0_row_60 : decode cX0_row 60 = .ok (.ireturn, 1) := dk_172 (dk_at dksX0_row_2 12 rfl rfl)
theorem dX0_row_61 : decode cX0_row 61 = .ok (.aload 5, 2) := dk_25 5 (dk_at dksX0_row_2 13 rfl rfl)
theorem dX0_row_63 : decode cX0_row 63 = .ok (.getfield 274, 3) := dk_180 1 18 (dk_at dksX0_row_2 15 rfl rfl)
theorem dX0_row_66 : decode cX0_row 66 = .ok (.ireturn, 1) := dk_172 (dk_at dksX0_row_2 18 rfl rfl)
theorem dX0_row_67 : decode cX0_row 67 = .ok (.aload_n 0, 1) := dk_42 (dk_at dksX0_row_2 19 rfl rfl)
theorem dX0_row_68 : decode cX0_row 68 = .ok (.aload 5, 2) := dk_25 5 (dk_at dksX0_row_2 20 rfl rfl)
theorem dX0_row_70 : decode cX0_row 70 = .ok (.getfield 172, 3) := dk_180 0 172 (dk_at dksX0_row_3 0 rfl rfl)
theorem dX0_row_73 : decode cX0_row 73 = .ok (.iload_n 1, 1) := dk_27 (dk_at dksX0_row_3 3 rfl rfl)
theorem dX0_row_74 : decode cX0_row 74 = .ok (.invokevirtual 186, 3) := dk_182 0 186 (dk_at dksX0_row_3 4 rfl rfl)
theorem dX0_row_77 : decode cX0_row 77 = .ok (.ireturn, 1) := dk_172 (dk_at dksX0_row_3 7 rfl rfl)
theorem dX0_row_78 : decode cX0_row 78 = .ok (.iconst (-1), 1) := dk_2 (dk_at dksX0_row_3 8 rfl rfl)
theorem dX0_row_79 : decode cX0_row 79 = .ok (.ireturn, 1) := dk_172 (dk_at dksX0_row_3 9 rfl rfl)
abbrev cX0_right : ByteArray := prog_1_method_39_code
def yX0_right : MethodName := ⟨RX0, "right", "()J"⟩
def dkwX0_right_1 : List UInt8 := [10, 29, 121, 167, 0, 4, 9, 129, 64, 132, 3, 1, 167, 255, 224, 31, 173]
abbrev dktX0_right_1 : List UInt8 := dkwX0_right_1 ++ []
def dkwX0_right_0 : List UInt8 := [9, 64, 3, 62, 29, 42, 180, 0, 91, 182, 0, 110, 162, 0, 27, 31, 42, 29, 182, 0, 136, 153, 0, 9]
abbrev dktX0_right_0 : List UInt8 := dkwX0_right_0 ++ dktX0_right_1
theorem dksX0_right_0 : cX0_right.data.toList.drop 0 = dktX0_right_0 := by decide +kernel
theorem dksX0_right_1 : cX0_right.data.toList.drop 24 = dktX0_right_1 := dk_seg dksX0_right_0 24 rfl rfl
theorem dX0_right_0 : decode cX0_right 0 = .ok (.lconst 0, 1) := dk_9 (dk_at dksX0_right_0 0 rfl rfl)
theorem dX0_right_1 : decode cX0_right 1 = .ok (.lstore_n 1, 1) := dk_64 (dk_at dksX0_right_0 1 rfl rfl)
theorem dX0_right_2 : decode cX0_right 2 = .ok (.iconst 0, 1) := dk_3 (dk_at dksX0_right_0 2 rfl rfl)
theorem dX0_right_3 : decode cX0_right 3 = .ok (.istore_n 3, 1) := dk_62 (dk_at dksX0_right_0 3 rfl rfl)
theorem dX0_right_4 : decode cX0_right 4 = .ok (.iload_n 3, 1) := dk_29 (dk_at dksX0_right_0 4 rfl rfl)
theorem dX0_right_5 : decode cX0_right 5 = .ok (.aload_n 0, 1) := dk_42 (dk_at dksX0_right_0 5 rfl rfl)
theorem dX0_right_6 : decode cX0_right 6 = .ok (.getfield 91, 3) := dk_180 0 91 (dk_at dksX0_right_0 6 rfl rfl)
theorem dX0_right_9 : decode cX0_right 9 = .ok (.invokevirtual 110, 3) := dk_182 0 110 (dk_at dksX0_right_0 9 rfl rfl)
theorem dX0_right_12 : decode cX0_right 12 = .ok (.if_icmp .ge 27, 3) := dk_162 0 27 (dk_at dksX0_right_0 12 rfl rfl)
theorem dX0_right_15 : decode cX0_right 15 = .ok (.lload_n 1, 1) := dk_31 (dk_at dksX0_right_0 15 rfl rfl)
theorem dX0_right_16 : decode cX0_right 16 = .ok (.aload_n 0, 1) := dk_42 (dk_at dksX0_right_0 16 rfl rfl)
theorem dX0_right_17 : decode cX0_right 17 = .ok (.iload_n 3, 1) := dk_29 (dk_at dksX0_right_0 17 rfl rfl)
theorem dX0_right_18 : decode cX0_right 18 = .ok (.invokevirtual 136, 3) := dk_182 0 136 (dk_at dksX0_right_0 18 rfl rfl)
theorem dX0_right_21 : decode cX0_right 21 = .ok (.ifCond .eq 9, 3) := dk_153 0 9 (dk_at dksX0_right_0 21 rfl rfl)
theorem dX0_right_24 : decode cX0_right 24 = .ok (.lconst 1, 1) := dk_10 (dk_at dksX0_right_1 0 rfl rfl)
theorem dX0_right_25 : decode cX0_right 25 = .ok (.iload_n 3, 1) := dk_29 (dk_at dksX0_right_1 1 rfl rfl)
theorem dX0_right_26 : decode cX0_right 26 = .ok (.lshl, 1) := dk_121 (dk_at dksX0_right_1 2 rfl rfl)
theorem dX0_right_27 : decode cX0_right 27 = .ok (.goto 4, 3) := dk_167 0 4 (dk_at dksX0_right_1 3 rfl rfl)
theorem dX0_right_30 : decode cX0_right 30 = .ok (.lconst 0, 1) := dk_9 (dk_at dksX0_right_1 6 rfl rfl)
theorem dX0_right_31 : decode cX0_right 31 = .ok (.lor, 1) := dk_129 (dk_at dksX0_right_1 7 rfl rfl)
theorem dX0_right_32 : decode cX0_right 32 = .ok (.lstore_n 1, 1) := dk_64 (dk_at dksX0_right_1 8 rfl rfl)
theorem dX0_right_33 : decode cX0_right 33 = .ok (.iinc 3 1, 3) := dk_132 3 1 (dk_at dksX0_right_1 9 rfl rfl)
theorem dX0_right_36 : decode cX0_right 36 = .ok (.goto (-32), 3) := dk_167 255 224 (dk_at dksX0_right_1 12 rfl rfl)
theorem dX0_right_39 : decode cX0_right 39 = .ok (.lload_n 1, 1) := dk_31 (dk_at dksX0_right_1 15 rfl rfl)
theorem dX0_right_40 : decode cX0_right 40 = .ok (.lreturn, 1) := dk_173 (dk_at dksX0_right_1 16 rfl rfl)
abbrev cX0_rests : ByteArray := prog_1_method_43_code
def yX0_rests : MethodName := ⟨RX0, "rests", "(I)J"⟩
def dkwX0_rests_1 : List UInt8 := [182, 1, 31, 167, 0, 6, 20, 1, 50, 173]
abbrev dktX0_rests_1 : List UInt8 := dkwX0_rests_1 ++ []
def dkwX0_rests_0 : List UInt8 := [42, 27, 182, 0, 246, 154, 0, 9, 20, 1, 48, 167, 0, 22, 42, 27, 182, 0, 136, 153, 0, 11, 42, 27]
abbrev dktX0_rests_0 : List UInt8 := dkwX0_rests_0 ++ dktX0_rests_1
theorem dksX0_rests_0 : cX0_rests.data.toList.drop 0 = dktX0_rests_0 := by decide +kernel
theorem dksX0_rests_1 : cX0_rests.data.toList.drop 24 = dktX0_rests_1 := dk_seg dksX0_rests_0 24 rfl rfl
theorem dX0_rests_0 : decode cX0_rests 0 = .ok (.aload_n 0, 1) := dk_42 (dk_at dksX0_rests_0 0 rfl rfl)
theorem dX0_rests_1 : decode cX0_rests 1 = .ok (.iload_n 1, 1) := dk_27 (dk_at dksX0_rests_0 1 rfl rfl)
theorem dX0_rests_2 : decode cX0_rests 2 = .ok (.invokevirtual 246, 3) := dk_182 0 246 (dk_at dksX0_rests_0 2 rfl rfl)
theorem dX0_rests_5 : decode cX0_rests 5 = .ok (.ifCond .ne 9, 3) := dk_154 0 9 (dk_at dksX0_rests_0 5 rfl rfl)
theorem dX0_rests_8 : decode cX0_rests 8 = .ok (.ldc2_w 304, 3) := dk_20 1 48 (dk_at dksX0_rests_0 8 rfl rfl)
theorem dX0_rests_11 : decode cX0_rests 11 = .ok (.goto 22, 3) := dk_167 0 22 (dk_at dksX0_rests_0 11 rfl rfl)
theorem dX0_rests_14 : decode cX0_rests 14 = .ok (.aload_n 0, 1) := dk_42 (dk_at dksX0_rests_0 14 rfl rfl)
theorem dX0_rests_15 : decode cX0_rests 15 = .ok (.iload_n 1, 1) := dk_27 (dk_at dksX0_rests_0 15 rfl rfl)
theorem dX0_rests_16 : decode cX0_rests 16 = .ok (.invokevirtual 136, 3) := dk_182 0 136 (dk_at dksX0_rests_0 16 rfl rfl)
theorem dX0_rests_19 : decode cX0_rests 19 = .ok (.ifCond .eq 11, 3) := dk_153 0 11 (dk_at dksX0_rests_0 19 rfl rfl)
theorem dX0_rests_22 : decode cX0_rests 22 = .ok (.aload_n 0, 1) := dk_42 (dk_at dksX0_rests_0 22 rfl rfl)
theorem dX0_rests_23 : decode cX0_rests 23 = .ok (.iload_n 1, 1) := dk_27 (dk_at dksX0_rests_0 23 rfl rfl)
theorem dX0_rests_24 : decode cX0_rests 24 = .ok (.invokevirtual 287, 3) := dk_182 1 31 (dk_at dksX0_rests_1 0 rfl rfl)
theorem dX0_rests_27 : decode cX0_rests 27 = .ok (.goto 6, 3) := dk_167 0 6 (dk_at dksX0_rests_1 3 rfl rfl)
theorem dX0_rests_30 : decode cX0_rests 30 = .ok (.ldc2_w 306, 3) := dk_20 1 50 (dk_at dksX0_rests_1 6 rfl rfl)
theorem dX0_rests_33 : decode cX0_rests 33 = .ok (.lreturn, 1) := dk_173 (dk_at dksX0_rests_1 9 rfl rfl)
abbrev cX0_deep : ByteArray := prog_1_method_44_code
def yX0_deep : MethodName := ⟨RX0, "deep", "(I)I"⟩
def dkwX0_deep_1 : List UInt8 := [182, 1, 45, 42, 180, 0, 106, 27, 46, 172]
abbrev dktX0_deep_1 : List UInt8 := dkwX0_deep_1 ++ []
def dkwX0_deep_0 : List UInt8 := [42, 27, 182, 0, 246, 154, 0, 5, 2, 172, 42, 27, 182, 0, 136, 154, 0, 6, 16, 254, 172, 42, 27]
abbrev dktX0_deep_0 : List UInt8 := dkwX0_deep_0 ++ dktX0_deep_1
theorem dksX0_deep_0 : cX0_deep.data.toList.drop 0 = dktX0_deep_0 := by decide +kernel
theorem dksX0_deep_1 : cX0_deep.data.toList.drop 23 = dktX0_deep_1 := dk_seg dksX0_deep_0 23 rfl rfl
theorem dX0_deep_0 : decode cX0_deep 0 = .ok (.aload_n 0, 1) := dk_42 (dk_at dksX0_deep_0 0 rfl rfl)
theorem dX0_deep_1 : decode cX0_deep 1 = .ok (.iload_n 1, 1) := dk_27 (dk_at dksX0_deep_0 1 rfl rfl)
theorem dX0_deep_2 : decode cX0_deep 2 = .ok (.invokevirtual 246, 3) := dk_182 0 246 (dk_at dksX0_deep_0 2 rfl rfl)
theorem dX0_deep_5 : decode cX0_deep 5 = .ok (.ifCond .ne 5, 3) := dk_154 0 5 (dk_at dksX0_deep_0 5 rfl rfl)
theorem dX0_deep_8 : decode cX0_deep 8 = .ok (.iconst (-1), 1) := dk_2 (dk_at dksX0_deep_0 8 rfl rfl)
theorem dX0_deep_9 : decode cX0_deep 9 = .ok (.ireturn, 1) := dk_172 (dk_at dksX0_deep_0 9 rfl rfl)
theorem dX0_deep_10 : decode cX0_deep 10 = .ok (.aload_n 0, 1) := dk_42 (dk_at dksX0_deep_0 10 rfl rfl)
theorem dX0_deep_11 : decode cX0_deep 11 = .ok (.iload_n 1, 1) := dk_27 (dk_at dksX0_deep_0 11 rfl rfl)
theorem dX0_deep_12 : decode cX0_deep 12 = .ok (.invokevirtual 136, 3) := dk_182 0 136 (dk_at dksX0_deep_0 12 rfl rfl)
theorem dX0_deep_15 : decode cX0_deep 15 = .ok (.ifCond .ne 6, 3) := dk_154 0 6 (dk_at dksX0_deep_0 15 rfl rfl)
theorem dX0_deep_18 : decode cX0_deep 18 = .ok (.bipush (-2), 2) := dk_16 254 (dk_at dksX0_deep_0 18 rfl rfl)
theorem dX0_deep_20 : decode cX0_deep 20 = .ok (.ireturn, 1) := dk_172 (dk_at dksX0_deep_0 20 rfl rfl)
theorem dX0_deep_21 : decode cX0_deep 21 = .ok (.aload_n 0, 1) := dk_42 (dk_at dksX0_deep_0 21 rfl rfl)
theorem dX0_deep_22 : decode cX0_deep 22 = .ok (.iload_n 1, 1) := dk_27 (dk_at dksX0_deep_0 22 rfl rfl)
theorem dX0_deep_23 : decode cX0_deep 23 = .ok (.invokevirtual 301, 3) := dk_182 1 45 (dk_at dksX0_deep_1 0 rfl rfl)
theorem dX0_deep_26 : decode cX0_deep 26 = .ok (.aload_n 0, 1) := dk_42 (dk_at dksX0_deep_1 3 rfl rfl)
theorem dX0_deep_27 : decode cX0_deep 27 = .ok (.getfield 106, 3) := dk_180 0 106 (dk_at dksX0_deep_1 4 rfl rfl)
theorem dX0_deep_30 : decode cX0_deep 30 = .ok (.iload_n 1, 1) := dk_27 (dk_at dksX0_deep_1 7 rfl rfl)
theorem dX0_deep_31 : decode cX0_deep 31 = .ok (.iaload, 1) := dk_46 (dk_at dksX0_deep_1 8 rfl rfl)
theorem dX0_deep_32 : decode cX0_deep 32 = .ok (.ireturn, 1) := dk_172 (dk_at dksX0_deep_1 9 rfl rfl)
abbrev cX0_falls : ByteArray := prog_1_method_46_code
def yX0_falls : MethodName := ⟨RX0, "falls", "(I)J"⟩
def dkwX0_falls_6 : List UInt8 := [132, 6, 1, 167, 255, 147, 32, 22, 4, 20, 1, 48, 131, 127, 173]
abbrev dktX0_falls_6 : List UInt8 := dkwX0_falls_6 ++ []
def dkwX0_falls_5 : List UInt8 := [167, 0, 4, 3, 54, 7, 22, 4, 21, 7, 153, 0, 10, 10, 21, 6, 121, 167, 0, 4, 9, 129, 55, 4]
abbrev dktX0_falls_5 : List UInt8 := dkwX0_falls_5 ++ dktX0_falls_6
def dkwX0_falls_4 : List UInt8 := [21, 6, 182, 0, 122, 192, 0, 126, 180, 0, 179, 21, 6, 22, 4, 182, 1, 56, 153, 0, 7, 4]
abbrev dktX0_falls_4 : List UInt8 := dkwX0_falls_4 ++ dktX0_falls_5
def dkwX0_falls_3 : List UInt8 := [182, 0, 122, 192, 0, 126, 180, 0, 154, 21, 6, 22, 4, 182, 1, 56, 153, 0, 33, 42, 42, 180, 0, 91]
abbrev dktX0_falls_3 : List UInt8 := dkwX0_falls_3 ++ dktX0_falls_4
def dkwX0_falls_2 : List UInt8 := [21, 6, 27, 159, 0, 70, 32, 21, 6, 123, 10, 127, 10, 148, 154, 0, 59, 42, 42, 180, 0, 91, 21, 6]
abbrev dktX0_falls_2 : List UInt8 := dkwX0_falls_2 ++ dktX0_falls_3
def dkwX0_falls_1 : List UInt8 := [42, 182, 1, 52, 65, 9, 55, 4, 3, 54, 6, 21, 6, 42, 180, 0, 91, 182, 0, 110, 162, 0, 103]
abbrev dktX0_falls_1 : List UInt8 := dkwX0_falls_1 ++ dktX0_falls_2
def dkwX0_falls_0 : List UInt8 := [42, 27, 182, 0, 246, 154, 0, 7, 20, 1, 48, 173, 42, 27, 182, 0, 136, 154, 0, 7, 20, 1, 50, 173]
abbrev dktX0_falls_0 : List UInt8 := dkwX0_falls_0 ++ dktX0_falls_1
theorem dksX0_falls_0 : cX0_falls.data.toList.drop 0 = dktX0_falls_0 := by decide +kernel
theorem dksX0_falls_1 : cX0_falls.data.toList.drop 24 = dktX0_falls_1 := dk_seg dksX0_falls_0 24 rfl rfl
theorem dksX0_falls_2 : cX0_falls.data.toList.drop 47 = dktX0_falls_2 := dk_seg dksX0_falls_1 23 rfl rfl
theorem dksX0_falls_3 : cX0_falls.data.toList.drop 71 = dktX0_falls_3 := dk_seg dksX0_falls_2 24 rfl rfl
theorem dksX0_falls_4 : cX0_falls.data.toList.drop 95 = dktX0_falls_4 := dk_seg dksX0_falls_3 24 rfl rfl
theorem dksX0_falls_5 : cX0_falls.data.toList.drop 117 = dktX0_falls_5 := dk_seg dksX0_falls_4 22 rfl rfl
theorem dksX0_falls_6 : cX0_falls.data.toList.drop 141 = dktX0_falls_6 := dk_seg dksX0_falls_5 24 rfl rfl
theorem dX0_falls_0 : decode cX0_falls 0 = .ok (.aload_n 0, 1) := dk_42 (dk_at dksX0_falls_0 0 rfl rfl)
theorem dX0_falls_1 : decode cX0_falls 1 = .ok (.iload_n 1, 1) := dk_27 (dk_at dksX0_falls_0 1 rfl rfl)
theorem dX0_falls_2 : decode cX0_falls 2 = .ok (.invokevirtual 246, 3) := dk_182 0 246 (dk_at dksX0_falls_0 2 rfl rfl)
theorem dX0_falls_5 : decode cX0_falls 5 = .ok (.ifCond .ne 7, 3) := dk_154 0 7 (dk_at dksX0_falls_0 5 rfl rfl)
theorem dX0_falls_8 : decode cX0_falls 8 = .ok (.ldc2_w 304, 3) := dk_20 1 48 (dk_at dksX0_falls_0 8 rfl rfl)
theorem dX0_falls_11 : decode cX0_falls 11 = .ok (.lreturn, 1) := dk_173 (dk_at dksX0_falls_0 11 rfl rfl)
theorem dX0_falls_12 : decode cX0_falls 12 = .ok (.aload_n 0, 1) := dk_42 (dk_at dksX0_falls_0 12 rfl rfl)
theorem dX0_falls_13 : decode cX0_falls 13 = .ok (.iload_n 1, 1) := dk_27 (dk_at dksX0_falls_0 13 rfl rfl)
theorem dX0_falls_14 : decode cX0_falls 14 = .ok (.invokevirtual 136, 3) := dk_182 0 136 (dk_at dksX0_falls_0 14 rfl rfl)
theorem dX0_falls_17 : decode cX0_falls 17 = .ok (.ifCond .ne 7, 3) := dk_154 0 7 (dk_at dksX0_falls_0 17 rfl rfl)
theorem dX0_falls_20 : decode cX0_falls 20 = .ok (.ldc2_w 306, 3) := dk_20 1 50 (dk_at dksX0_falls_0 20 rfl rfl)
theorem dX0_falls_23 : decode cX0_falls 23 = .ok (.lreturn, 1) := dk_173 (dk_at dksX0_falls_0 23 rfl rfl)
theorem dX0_falls_24 : decode cX0_falls 24 = .ok (.aload_n 0, 1) := dk_42 (dk_at dksX0_falls_1 0 rfl rfl)
theorem dX0_falls_25 : decode cX0_falls 25 = .ok (.invokevirtual 308, 3) := dk_182 1 52 (dk_at dksX0_falls_1 1 rfl rfl)
theorem dX0_falls_28 : decode cX0_falls 28 = .ok (.lstore_n 2, 1) := dk_65 (dk_at dksX0_falls_1 4 rfl rfl)
theorem dX0_falls_29 : decode cX0_falls 29 = .ok (.lconst 0, 1) := dk_9 (dk_at dksX0_falls_1 5 rfl rfl)
theorem dX0_falls_30 : decode cX0_falls 30 = .ok (.lstore 4, 2) := dk_55 4 (dk_at dksX0_falls_1 6 rfl rfl)
theorem dX0_falls_32 : decode cX0_falls 32 = .ok (.iconst 0, 1) := dk_3 (dk_at dksX0_falls_1 8 rfl rfl)
theorem dX0_falls_33 : decode cX0_falls 33 = .ok (.istore 6, 2) := dk_54 6 (dk_at dksX0_falls_1 9 rfl rfl)
theorem dX0_falls_35 : decode cX0_falls 35 = .ok (.iload 6, 2) := dk_21 6 (dk_at dksX0_falls_1 11 rfl rfl)
theorem dX0_falls_37 : decode cX0_falls 37 = .ok (.aload_n 0, 1) := dk_42 (dk_at dksX0_falls_1 13 rfl rfl)
theorem dX0_falls_38 : decode cX0_falls 38 = .ok (.getfield 91, 3) := dk_180 0 91 (dk_at dksX0_falls_1 14 rfl rfl)
theorem dX0_falls_41 : decode cX0_falls 41 = .ok (.invokevirtual 110, 3) := dk_182 0 110 (dk_at dksX0_falls_1 17 rfl rfl)
theorem dX0_falls_44 : decode cX0_falls 44 = .ok (.if_icmp .ge 103, 3) := dk_162 0 103 (dk_at dksX0_falls_1 20 rfl rfl)
theorem dX0_falls_47 : decode cX0_falls 47 = .ok (.iload 6, 2) := dk_21 6 (dk_at dksX0_falls_2 0 rfl rfl)
theorem dX0_falls_49 : decode cX0_falls 49 = .ok (.iload_n 1, 1) := dk_27 (dk_at dksX0_falls_2 2 rfl rfl)
theorem dX0_falls_50 : decode cX0_falls 50 = .ok (.if_icmp .eq 70, 3) := dk_159 0 70 (dk_at dksX0_falls_2 3 rfl rfl)
theorem dX0_falls_53 : decode cX0_falls 53 = .ok (.lload_n 2, 1) := dk_32 (dk_at dksX0_falls_2 6 rfl rfl)
theorem dX0_falls_54 : decode cX0_falls 54 = .ok (.iload 6, 2) := dk_21 6 (dk_at dksX0_falls_2 7 rfl rfl)
theorem dX0_falls_56 : decode cX0_falls 56 = .ok (.lshr, 1) := dk_123 (dk_at dksX0_falls_2 9 rfl rfl)
theorem dX0_falls_57 : decode cX0_falls 57 = .ok (.lconst 1, 1) := dk_10 (dk_at dksX0_falls_2 10 rfl rfl)
theorem dX0_falls_58 : decode cX0_falls 58 = .ok (.land, 1) := dk_127 (dk_at dksX0_falls_2 11 rfl rfl)
theorem dX0_falls_59 : decode cX0_falls 59 = .ok (.lconst 1, 1) := dk_10 (dk_at dksX0_falls_2 12 rfl rfl)
theorem dX0_falls_60 : decode cX0_falls 60 = .ok (.lcmp, 1) := dk_148 (dk_at dksX0_falls_2 13 rfl rfl)
theorem dX0_falls_61 : decode cX0_falls 61 = .ok (.ifCond .ne 59, 3) := dk_154 0 59 (dk_at dksX0_falls_2 14 rfl rfl)
theorem dX0_falls_64 : decode cX0_falls 64 = .ok (.aload_n 0, 1) := dk_42 (dk_at dksX0_falls_2 17 rfl rfl)
theorem dX0_falls_65 : decode cX0_falls 65 = .ok (.aload_n 0, 1) := dk_42 (dk_at dksX0_falls_2 18 rfl rfl)
theorem dX0_falls_66 : decode cX0_falls 66 = .ok (.getfield 91, 3) := dk_180 0 91 (dk_at dksX0_falls_2 19 rfl rfl)
theorem dX0_falls_69 : decode cX0_falls 69 = .ok (.iload 6, 2) := dk_21 6 (dk_at dksX0_falls_2 22 rfl rfl)
theorem dX0_falls_71 : decode cX0_falls 71 = .ok (.invokevirtual 122, 3) := dk_182 0 122 (dk_at dksX0_falls_3 0 rfl rfl)
theorem dX0_falls_74 : decode cX0_falls 74 = .ok (.checkcast 126, 3) := dk_192 0 126 (dk_at dksX0_falls_3 3 rfl rfl)
theorem dX0_falls_77 : decode cX0_falls 77 = .ok (.getfield 154, 3) := dk_180 0 154 (dk_at dksX0_falls_3 6 rfl rfl)
theorem dX0_falls_80 : decode cX0_falls 80 = .ok (.iload 6, 2) := dk_21 6 (dk_at dksX0_falls_3 9 rfl rfl)
theorem dX0_falls_82 : decode cX0_falls 82 = .ok (.lload 4, 2) := dk_22 4 (dk_at dksX0_falls_3 11 rfl rfl)
theorem dX0_falls_84 : decode cX0_falls 84 = .ok (.invokevirtual 312, 3) := dk_182 1 56 (dk_at dksX0_falls_3 13 rfl rfl)
theorem dX0_falls_87 : decode cX0_falls 87 = .ok (.ifCond .eq 33, 3) := dk_153 0 33 (dk_at dksX0_falls_3 16 rfl rfl)
theorem dX0_falls_90 : decode cX0_falls 90 = .ok (.aload_n 0, 1) := dk_42 (dk_at dksX0_falls_3 19 rfl rfl)
theorem dX0_falls_91 : decode cX0_falls 91 = .ok (.aload_n 0, 1) := dk_42 (dk_at dksX0_falls_3 20 rfl rfl)
theorem dX0_falls_92 : decode cX0_falls 92 = .ok (.getfield 91, 3) := dk_180 0 91 (dk_at dksX0_falls_3 21 rfl rfl)
theorem dX0_falls_95 : decode cX0_falls 95 = .ok (.iload 6, 2) := dk_21 6 (dk_at dksX0_falls_4 0 rfl rfl)
theorem dX0_falls_97 : decode cX0_falls 97 = .ok (.invokevirtual 122, 3) := dk_182 0 122 (dk_at dksX0_falls_4 2 rfl rfl)
theorem dX0_falls_100 : decode cX0_falls 100 = .ok (.checkcast 126, 3) := dk_192 0 126 (dk_at dksX0_falls_4 5 rfl rfl)
theorem dX0_falls_103 : decode cX0_falls 103 = .ok (.getfield 179, 3) := dk_180 0 179 (dk_at dksX0_falls_4 8 rfl rfl)
theorem dX0_falls_106 : decode cX0_falls 106 = .ok (.iload 6, 2) := dk_21 6 (dk_at dksX0_falls_4 11 rfl rfl)
theorem dX0_falls_108 : decode cX0_falls 108 = .ok (.lload 4, 2) := dk_22 4 (dk_at dksX0_falls_4 13 rfl rfl)
theorem dX0_falls_110 : decode cX0_falls 110 = .ok (.invokevirtual 312, 3) := dk_182 1 56 (dk_at dksX0_falls_4 15 rfl rfl)
theorem dX0_falls_113 : decode cX0_falls 113 = .ok (.ifCond .eq 7, 3) := dk_153 0 7 (dk_at dksX0_falls_4 18 rfl rfl)
theorem dX0_falls_116 : decode cX0_falls 116 = .ok (.iconst 1, 1) := dk_4 (dk_at dksX0_falls_4 21 rfl rfl)
theorem dX0_falls_117 : decode cX0_falls 117 = .ok (.goto 4, 3) := dk_167 0 4 (dk_at dksX0_falls_5 0 rfl rfl)
theorem dX0_falls_120 : decode cX0_falls 120 = .ok (.iconst 0, 1) := dk_3 (dk_at dksX0_falls_5 3 rfl rfl)
theorem dX0_falls_121 : decode cX0_falls 121 = .ok (.istore 7, 2) := dk_54 7 (dk_at dksX0_falls_5 4 rfl rfl)
theorem dX0_falls_123 : decode cX0_falls 123 = .ok (.lload 4, 2) := dk_22 4 (dk_at dksX0_falls_5 6 rfl rfl)
theorem dX0_falls_125 : decode cX0_falls 125 = .ok (.iload 7, 2) := dk_21 7 (dk_at dksX0_falls_5 8 rfl rfl)
theorem dX0_falls_127 : decode cX0_falls 127 = .ok (.ifCond .eq 10, 3) := dk_153 0 10 (dk_at dksX0_falls_5 10 rfl rfl)
theorem dX0_falls_130 : decode cX0_falls 130 = .ok (.lconst 1, 1) := dk_10 (dk_at dksX0_falls_5 13 rfl rfl)
theorem dX0_falls_131 : decode cX0_falls 131 = .ok (.iload 6, 2) := dk_21 6 (dk_at dksX0_falls_5 14 rfl rfl)
theorem dX0_falls_133 : decode cX0_falls 133 = .ok (.lshl, 1) := dk_121 (dk_at dksX0_falls_5 16 rfl rfl)
theorem dX0_falls_134 : decode cX0_falls 134 = .ok (.goto 4, 3) := dk_167 0 4 (dk_at dksX0_falls_5 17 rfl rfl)
theorem dX0_falls_137 : decode cX0_falls 137 = .ok (.lconst 0, 1) := dk_9 (dk_at dksX0_falls_5 20 rfl rfl)
theorem dX0_falls_138 : decode cX0_falls 138 = .ok (.lor, 1) := dk_129 (dk_at dksX0_falls_5 21 rfl rfl)
theorem dX0_falls_139 : decode cX0_falls 139 = .ok (.lstore 4, 2) := dk_55 4 (dk_at dksX0_falls_5 22 rfl rfl)
theorem dX0_falls_141 : decode cX0_falls 141 = .ok (.iinc 6 1, 3) := dk_132 6 1 (dk_at dksX0_falls_6 0 rfl rfl)
theorem dX0_falls_144 : decode cX0_falls 144 = .ok (.goto (-109), 3) := dk_167 255 147 (dk_at dksX0_falls_6 3 rfl rfl)
theorem dX0_falls_147 : decode cX0_falls 147 = .ok (.lload_n 2, 1) := dk_32 (dk_at dksX0_falls_6 6 rfl rfl)
theorem dX0_falls_148 : decode cX0_falls 148 = .ok (.lload 4, 2) := dk_22 4 (dk_at dksX0_falls_6 7 rfl rfl)
theorem dX0_falls_150 : decode cX0_falls 150 = .ok (.ldc2_w 304, 3) := dk_20 1 48 (dk_at dksX0_falls_6 9 rfl rfl)
theorem dX0_falls_153 : decode cX0_falls 153 = .ok (.lxor, 1) := dk_131 (dk_at dksX0_falls_6 12 rfl rfl)
theorem dX0_falls_154 : decode cX0_falls 154 = .ok (.land, 1) := dk_127 (dk_at dksX0_falls_6 13 rfl rfl)
theorem dX0_falls_155 : decode cX0_falls 155 = .ok (.lreturn, 1) := dk_173 (dk_at dksX0_falls_6 14 rfl rfl)
abbrev cX0_areBacked : ByteArray := prog_1_method_45_code
def yX0_areBacked : MethodName := ⟨RX0, "areBacked", "(LPrimeProofs$Rows;IJ)Z"⟩
def dkwX0_areBacked_4 : List UInt8 := [167, 255, 200, 21, 7, 154, 0, 5, 3, 172, 167, 255, 162, 4, 172]
abbrev dktX0_areBacked_4 : List UInt8 := dkwX0_areBacked_4 ++ []
def dkwX0_areBacked_3 : List UInt8 := [180, 0, 132, 25, 6, 180, 0, 172, 148, 154, 0, 7, 4, 167, 0, 4, 3, 54, 7, 132, 8, 1]
abbrev dktX0_areBacked_3 : List UInt8 := dkwX0_areBacked_3 ++ dktX0_areBacked_4
def dkwX0_areBacked_2 : List UInt8 := [21, 8, 123, 10, 127, 10, 148, 154, 0, 31, 42, 180, 0, 91, 21, 8, 182, 0, 122, 192, 0, 126]
abbrev dktX0_areBacked_2 : List UInt8 := dkwX0_areBacked_2 ++ dktX0_areBacked_3
def dkwX0_areBacked_1 : List UInt8 := [192, 0, 49, 58, 6, 3, 54, 7, 3, 54, 8, 21, 8, 28, 162, 0, 56, 21, 7, 154, 0, 38, 33]
abbrev dktX0_areBacked_1 : List UInt8 := dkwX0_areBacked_1 ++ dktX0_areBacked_2
def dkwX0_areBacked_0 : List UInt8 := [43, 182, 0, 158, 58, 5, 25, 5, 185, 0, 162, 1, 0, 153, 0, 90, 25, 5, 185, 0, 168, 1, 0]
abbrev dktX0_areBacked_0 : List UInt8 := dkwX0_areBacked_0 ++ dktX0_areBacked_1
theorem dksX0_areBacked_0 : cX0_areBacked.data.toList.drop 0 = dktX0_areBacked_0 := by decide +kernel
theorem dksX0_areBacked_1 : cX0_areBacked.data.toList.drop 23 = dktX0_areBacked_1 := dk_seg dksX0_areBacked_0 23 rfl rfl
theorem dksX0_areBacked_2 : cX0_areBacked.data.toList.drop 46 = dktX0_areBacked_2 := dk_seg dksX0_areBacked_1 23 rfl rfl
theorem dksX0_areBacked_3 : cX0_areBacked.data.toList.drop 68 = dktX0_areBacked_3 := dk_seg dksX0_areBacked_2 22 rfl rfl
theorem dksX0_areBacked_4 : cX0_areBacked.data.toList.drop 90 = dktX0_areBacked_4 := dk_seg dksX0_areBacked_3 22 rfl rfl
theorem dX0_areBacked_0 : decode cX0_areBacked 0 = .ok (.aload_n 1, 1) := dk_43 (dk_at dksX0_areBacked_0 0 rfl rfl)
theorem dX0_areBacked_1 : decode cX0_areBacked 1 = .ok (.invokevirtual 158, 3) := dk_182 0 158 (dk_at dksX0_areBacked_0 1 rfl rfl)
theorem dX0_areBacked_4 : decode cX0_areBacked 4 = .ok (.astore 5, 2) := dk_58 5 (dk_at dksX0_areBacked_0 4 rfl rfl)
theorem dX0_areBacked_6 : decode cX0_areBacked 6 = .ok (.aload 5, 2) := dk_25 5 (dk_at dksX0_areBacked_0 6 rfl rfl)
theorem dX0_areBacked_8 : decode cX0_areBacked 8 = .ok (.invokeinterface 162 1, 5) := by decide +kernel
theorem dX0_areBacked_13 : decode cX0_areBacked 13 = .ok (.ifCond .eq 90, 3) := dk_153 0 90 (dk_at dksX0_areBacked_0 13 rfl rfl)
theorem dX0_areBacked_16 : decode cX0_areBacked 16 = .ok (.aload 5, 2) := dk_25 5 (dk_at dksX0_areBacked_0 16 rfl rfl)
theorem dX0_areBacked_18 : decode cX0_areBacked 18 = .ok (.invokeinterface 168 1, 5) := by decide +kernel
theorem dX0_areBacked_23 : decode cX0_areBacked 23 = .ok (.checkcast 49, 3) := dk_192 0 49 (dk_at dksX0_areBacked_1 0 rfl rfl)
theorem dX0_areBacked_26 : decode cX0_areBacked 26 = .ok (.astore 6, 2) := dk_58 6 (dk_at dksX0_areBacked_1 3 rfl rfl)
theorem dX0_areBacked_28 : decode cX0_areBacked 28 = .ok (.iconst 0, 1) := dk_3 (dk_at dksX0_areBacked_1 5 rfl rfl)
theorem dX0_areBacked_29 : decode cX0_areBacked 29 = .ok (.istore 7, 2) := dk_54 7 (dk_at dksX0_areBacked_1 6 rfl rfl)
theorem dX0_areBacked_31 : decode cX0_areBacked 31 = .ok (.iconst 0, 1) := dk_3 (dk_at dksX0_areBacked_1 8 rfl rfl)
theorem dX0_areBacked_32 : decode cX0_areBacked 32 = .ok (.istore 8, 2) := dk_54 8 (dk_at dksX0_areBacked_1 9 rfl rfl)
theorem dX0_areBacked_34 : decode cX0_areBacked 34 = .ok (.iload 8, 2) := dk_21 8 (dk_at dksX0_areBacked_1 11 rfl rfl)
theorem dX0_areBacked_36 : decode cX0_areBacked 36 = .ok (.iload_n 2, 1) := dk_28 (dk_at dksX0_areBacked_1 13 rfl rfl)
theorem dX0_areBacked_37 : decode cX0_areBacked 37 = .ok (.if_icmp .ge 56, 3) := dk_162 0 56 (dk_at dksX0_areBacked_1 14 rfl rfl)
theorem dX0_areBacked_40 : decode cX0_areBacked 40 = .ok (.iload 7, 2) := dk_21 7 (dk_at dksX0_areBacked_1 17 rfl rfl)
theorem dX0_areBacked_42 : decode cX0_areBacked 42 = .ok (.ifCond .ne 38, 3) := dk_154 0 38 (dk_at dksX0_areBacked_1 19 rfl rfl)
theorem dX0_areBacked_45 : decode cX0_areBacked 45 = .ok (.lload_n 3, 1) := dk_33 (dk_at dksX0_areBacked_1 22 rfl rfl)
theorem dX0_areBacked_46 : decode cX0_areBacked 46 = .ok (.iload 8, 2) := dk_21 8 (dk_at dksX0_areBacked_2 0 rfl rfl)
theorem dX0_areBacked_48 : decode cX0_areBacked 48 = .ok (.lshr, 1) := dk_123 (dk_at dksX0_areBacked_2 2 rfl rfl)
theorem dX0_areBacked_49 : decode cX0_areBacked 49 = .ok (.lconst 1, 1) := dk_10 (dk_at dksX0_areBacked_2 3 rfl rfl)
theorem dX0_areBacked_50 : decode cX0_areBacked 50 = .ok (.land, 1) := dk_127 (dk_at dksX0_areBacked_2 4 rfl rfl)
theorem dX0_areBacked_51 : decode cX0_areBacked 51 = .ok (.lconst 1, 1) := dk_10 (dk_at dksX0_areBacked_2 5 rfl rfl)
theorem dX0_areBacked_52 : decode cX0_areBacked 52 = .ok (.lcmp, 1) := dk_148 (dk_at dksX0_areBacked_2 6 rfl rfl)
theorem dX0_areBacked_53 : decode cX0_areBacked 53 = .ok (.ifCond .ne 31, 3) := dk_154 0 31 (dk_at dksX0_areBacked_2 7 rfl rfl)
theorem dX0_areBacked_56 : decode cX0_areBacked 56 = .ok (.aload_n 0, 1) := dk_42 (dk_at dksX0_areBacked_2 10 rfl rfl)
theorem dX0_areBacked_57 : decode cX0_areBacked 57 = .ok (.getfield 91, 3) := dk_180 0 91 (dk_at dksX0_areBacked_2 11 rfl rfl)
theorem dX0_areBacked_60 : decode cX0_areBacked 60 = .ok (.iload 8, 2) := dk_21 8 (dk_at dksX0_areBacked_2 14 rfl rfl)
theorem dX0_areBacked_62 : decode cX0_areBacked 62 = .ok (.invokevirtual 122, 3) := dk_182 0 122 (dk_at dksX0_areBacked_2 16 rfl rfl)
theorem dX0_areBacked_65 : decode cX0_areBacked 65 = .ok (.checkcast 126, 3) := dk_192 0 126 (dk_at dksX0_areBacked_2 19 rfl rfl)
theorem dX0_areBacked_68 : decode cX0_areBacked 68 = .ok (.getfield 132, 3) := dk_180 0 132 (dk_at dksX0_areBacked_3 0 rfl rfl)
theorem dX0_areBacked_71 : decode cX0_areBacked 71 = .ok (.aload 6, 2) := dk_25 6 (dk_at dksX0_areBacked_3 3 rfl rfl)
theorem dX0_areBacked_73 : decode cX0_areBacked 73 = .ok (.getfield 172, 3) := dk_180 0 172 (dk_at dksX0_areBacked_3 5 rfl rfl)
theorem dX0_areBacked_76 : decode cX0_areBacked 76 = .ok (.lcmp, 1) := dk_148 (dk_at dksX0_areBacked_3 8 rfl rfl)
theorem dX0_areBacked_77 : decode cX0_areBacked 77 = .ok (.ifCond .ne 7, 3) := dk_154 0 7 (dk_at dksX0_areBacked_3 9 rfl rfl)
theorem dX0_areBacked_80 : decode cX0_areBacked 80 = .ok (.iconst 1, 1) := dk_4 (dk_at dksX0_areBacked_3 12 rfl rfl)
theorem dX0_areBacked_81 : decode cX0_areBacked 81 = .ok (.goto 4, 3) := dk_167 0 4 (dk_at dksX0_areBacked_3 13 rfl rfl)
theorem dX0_areBacked_84 : decode cX0_areBacked 84 = .ok (.iconst 0, 1) := dk_3 (dk_at dksX0_areBacked_3 16 rfl rfl)
theorem dX0_areBacked_85 : decode cX0_areBacked 85 = .ok (.istore 7, 2) := dk_54 7 (dk_at dksX0_areBacked_3 17 rfl rfl)
theorem dX0_areBacked_87 : decode cX0_areBacked 87 = .ok (.iinc 8 1, 3) := dk_132 8 1 (dk_at dksX0_areBacked_3 19 rfl rfl)
theorem dX0_areBacked_90 : decode cX0_areBacked 90 = .ok (.goto (-56), 3) := dk_167 255 200 (dk_at dksX0_areBacked_4 0 rfl rfl)
theorem dX0_areBacked_93 : decode cX0_areBacked 93 = .ok (.iload 7, 2) := dk_21 7 (dk_at dksX0_areBacked_4 3 rfl rfl)
theorem dX0_areBacked_95 : decode cX0_areBacked 95 = .ok (.ifCond .ne 5, 3) := dk_154 0 5 (dk_at dksX0_areBacked_4 5 rfl rfl)
theorem dX0_areBacked_98 : decode cX0_areBacked 98 = .ok (.iconst 0, 1) := dk_3 (dk_at dksX0_areBacked_4 8 rfl rfl)
theorem dX0_areBacked_99 : decode cX0_areBacked 99 = .ok (.ireturn, 1) := dk_172 (dk_at dksX0_areBacked_4 9 rfl rfl)
theorem dX0_areBacked_100 : decode cX0_areBacked 100 = .ok (.goto (-94), 3) := dk_167 255 162 (dk_at dksX0_areBacked_4 10 rfl rfl)
theorem dX0_areBacked_103 : decode cX0_areBacked 103 = .ok (.iconst 1, 1) := dk_4 (dk_at dksX0_areBacked_4 13 rfl rfl)
theorem dX0_areBacked_104 : decode cX0_areBacked 104 = .ok (.ireturn, 1) := dk_172 (dk_at dksX0_areBacked_4 14 rfl rfl)
abbrev cX0_cost : ByteArray := prog_1_method_48_code
def yX0_cost : MethodName := ⟨RX0, "cost", "(I)I"⟩
def dkwX0_cost_4 : List UInt8 := [96, 62, 167, 255, 206, 29, 172]
abbrev dktX0_cost_4 : List UInt8 := dkwX0_cost_4 ++ []
def dkwX0_cost_3 : List UInt8 := [180, 0, 132, 10, 101, 184, 1, 69, 44, 180, 0, 132, 10, 101, 25, 5, 180, 0, 172, 109, 184, 1, 69, 96]
abbrev dktX0_cost_3 : List UInt8 := dkwX0_cost_3 ++ dktX0_cost_4
def dkwX0_cost_2 : List UInt8 := [185, 0, 162, 1, 0, 153, 0, 46, 25, 4, 185, 0, 168, 1, 0, 192, 0, 49, 58, 5, 29, 44]
abbrev dktX0_cost_2 : List UInt8 := dkwX0_cost_2 ++ dktX0_cost_3
def dkwX0_cost_1 : List UInt8 := [180, 0, 91, 27, 182, 0, 122, 192, 0, 126, 77, 3, 62, 44, 180, 0, 154, 182, 0, 158, 58, 4, 25, 4]
abbrev dktX0_cost_1 : List UInt8 := dkwX0_cost_1 ++ dktX0_cost_2
def dkwX0_cost_0 : List UInt8 := [42, 27, 182, 0, 246, 154, 0, 5, 2, 172, 42, 27, 182, 0, 136, 154, 0, 6, 16, 254, 172, 42]
abbrev dktX0_cost_0 : List UInt8 := dkwX0_cost_0 ++ dktX0_cost_1
theorem dksX0_cost_0 : cX0_cost.data.toList.drop 0 = dktX0_cost_0 := by decide +kernel
theorem dksX0_cost_1 : cX0_cost.data.toList.drop 22 = dktX0_cost_1 := dk_seg dksX0_cost_0 22 rfl rfl
theorem dksX0_cost_2 : cX0_cost.data.toList.drop 46 = dktX0_cost_2 := dk_seg dksX0_cost_1 24 rfl rfl
theorem dksX0_cost_3 : cX0_cost.data.toList.drop 68 = dktX0_cost_3 := dk_seg dksX0_cost_2 22 rfl rfl
theorem dksX0_cost_4 : cX0_cost.data.toList.drop 92 = dktX0_cost_4 := dk_seg dksX0_cost_3 24 rfl rfl
theorem dX0_cost_0 : decode cX0_cost 0 = .ok (.aload_n 0, 1) := dk_42 (dk_at dksX0_cost_0 0 rfl rfl)
theorem dX0_cost_1 : decode cX0_cost 1 = .ok (.iload_n 1, 1) := dk_27 (dk_at dksX0_cost_0 1 rfl rfl)
theorem dX0_cost_2 : decode cX0_cost 2 = .ok (.invokevirtual 246, 3) := dk_182 0 246 (dk_at dksX0_cost_0 2 rfl rfl)
theorem dX0_cost_5 : decode cX0_cost 5 = .ok (.ifCond .ne 5, 3) := dk_154 0 5 (dk_at dksX0_cost_0 5 rfl rfl)
theorem dX0_cost_8 : decode cX0_cost 8 = .ok (.iconst (-1), 1) := dk_2 (dk_at dksX0_cost_0 8 rfl rfl)
theorem dX0_cost_9 : decode cX0_cost 9 = .ok (.ireturn, 1) := dk_172 (dk_at dksX0_cost_0 9 rfl rfl)
theorem dX0_cost_10 : decode cX0_cost 10 = .ok (.aload_n 0, 1) := dk_42 (dk_at dksX0_cost_0 10 rfl rfl)
theorem dX0_cost_11 : decode cX0_cost 11 = .ok (.iload_n 1, 1) := dk_27 (dk_at dksX0_cost_0 11 rfl rfl)
theorem dX0_cost_12 : decode cX0_cost 12 = .ok (.invokevirtual 136, 3) := dk_182 0 136 (dk_at dksX0_cost_0 12 rfl rfl)
theorem dX0_cost_15 : decode cX0_cost 15 = .ok (.ifCond .ne 6, 3) := dk_154 0 6 (dk_at dksX0_cost_0 15 rfl rfl)
theorem dX0_cost_18 : decode cX0_cost 18 = .ok (.bipush (-2), 2) := dk_16 254 (dk_at dksX0_cost_0 18 rfl rfl)
theorem dX0_cost_20 : decode cX0_cost 20 = .ok (.ireturn, 1) := dk_172 (dk_at dksX0_cost_0 20 rfl rfl)
theorem dX0_cost_21 : decode cX0_cost 21 = .ok (.aload_n 0, 1) := dk_42 (dk_at dksX0_cost_0 21 rfl rfl)
theorem dX0_cost_22 : decode cX0_cost 22 = .ok (.getfield 91, 3) := dk_180 0 91 (dk_at dksX0_cost_1 0 rfl rfl)
theorem dX0_cost_25 : decode cX0_cost 25 = .ok (.iload_n 1, 1) := dk_27 (dk_at dksX0_cost_1 3 rfl rfl)
theorem dX0_cost_26 : decode cX0_cost 26 = .ok (.invokevirtual 122, 3) := dk_182 0 122 (dk_at dksX0_cost_1 4 rfl rfl)
theorem dX0_cost_29 : decode cX0_cost 29 = .ok (.checkcast 126, 3) := dk_192 0 126 (dk_at dksX0_cost_1 7 rfl rfl)
theorem dX0_cost_32 : decode cX0_cost 32 = .ok (.astore_n 2, 1) := dk_77 (dk_at dksX0_cost_1 10 rfl rfl)
theorem dX0_cost_33 : decode cX0_cost 33 = .ok (.iconst 0, 1) := dk_3 (dk_at dksX0_cost_1 11 rfl rfl)
theorem dX0_cost_34 : decode cX0_cost 34 = .ok (.istore_n 3, 1) := dk_62 (dk_at dksX0_cost_1 12 rfl rfl)
theorem dX0_cost_35 : decode cX0_cost 35 = .ok (.aload_n 2, 1) := dk_44 (dk_at dksX0_cost_1 13 rfl rfl)
theorem dX0_cost_36 : decode cX0_cost 36 = .ok (.getfield 154, 3) := dk_180 0 154 (dk_at dksX0_cost_1 14 rfl rfl)
theorem dX0_cost_39 : decode cX0_cost 39 = .ok (.invokevirtual 158, 3) := dk_182 0 158 (dk_at dksX0_cost_1 17 rfl rfl)
theorem dX0_cost_42 : decode cX0_cost 42 = .ok (.astore 4, 2) := dk_58 4 (dk_at dksX0_cost_1 20 rfl rfl)
theorem dX0_cost_44 : decode cX0_cost 44 = .ok (.aload 4, 2) := dk_25 4 (dk_at dksX0_cost_1 22 rfl rfl)
theorem dX0_cost_46 : decode cX0_cost 46 = .ok (.invokeinterface 162 1, 5) := by decide +kernel
theorem dX0_cost_51 : decode cX0_cost 51 = .ok (.ifCond .eq 46, 3) := dk_153 0 46 (dk_at dksX0_cost_2 5 rfl rfl)
theorem dX0_cost_54 : decode cX0_cost 54 = .ok (.aload 4, 2) := dk_25 4 (dk_at dksX0_cost_2 8 rfl rfl)
theorem dX0_cost_56 : decode cX0_cost 56 = .ok (.invokeinterface 168 1, 5) := by decide +kernel
theorem dX0_cost_61 : decode cX0_cost 61 = .ok (.checkcast 49, 3) := dk_192 0 49 (dk_at dksX0_cost_2 15 rfl rfl)
theorem dX0_cost_64 : decode cX0_cost 64 = .ok (.astore 5, 2) := dk_58 5 (dk_at dksX0_cost_2 18 rfl rfl)
theorem dX0_cost_66 : decode cX0_cost 66 = .ok (.iload_n 3, 1) := dk_29 (dk_at dksX0_cost_2 20 rfl rfl)
theorem dX0_cost_67 : decode cX0_cost 67 = .ok (.aload_n 2, 1) := dk_44 (dk_at dksX0_cost_2 21 rfl rfl)
theorem dX0_cost_68 : decode cX0_cost 68 = .ok (.getfield 132, 3) := dk_180 0 132 (dk_at dksX0_cost_3 0 rfl rfl)
theorem dX0_cost_71 : decode cX0_cost 71 = .ok (.lconst 1, 1) := dk_10 (dk_at dksX0_cost_3 3 rfl rfl)
theorem dX0_cost_72 : decode cX0_cost 72 = .ok (.lsub, 1) := dk_101 (dk_at dksX0_cost_3 4 rfl rfl)
theorem dX0_cost_73 : decode cX0_cost 73 = .ok (.invokestatic 325, 3) := dk_184 1 69 (dk_at dksX0_cost_3 5 rfl rfl)
theorem dX0_cost_76 : decode cX0_cost 76 = .ok (.aload_n 2, 1) := dk_44 (dk_at dksX0_cost_3 8 rfl rfl)
theorem dX0_cost_77 : decode cX0_cost 77 = .ok (.getfield 132, 3) := dk_180 0 132 (dk_at dksX0_cost_3 9 rfl rfl)
theorem dX0_cost_80 : decode cX0_cost 80 = .ok (.lconst 1, 1) := dk_10 (dk_at dksX0_cost_3 12 rfl rfl)
theorem dX0_cost_81 : decode cX0_cost 81 = .ok (.lsub, 1) := dk_101 (dk_at dksX0_cost_3 13 rfl rfl)
theorem dX0_cost_82 : decode cX0_cost 82 = .ok (.aload 5, 2) := dk_25 5 (dk_at dksX0_cost_3 14 rfl rfl)
theorem dX0_cost_84 : decode cX0_cost 84 = .ok (.getfield 172, 3) := dk_180 0 172 (dk_at dksX0_cost_3 16 rfl rfl)
theorem dX0_cost_87 : decode cX0_cost 87 = .ok (.ldiv, 1) := dk_109 (dk_at dksX0_cost_3 19 rfl rfl)
theorem dX0_cost_88 : decode cX0_cost 88 = .ok (.invokestatic 325, 3) := dk_184 1 69 (dk_at dksX0_cost_3 20 rfl rfl)
theorem dX0_cost_91 : decode cX0_cost 91 = .ok (.iadd, 1) := dk_96 (dk_at dksX0_cost_3 23 rfl rfl)
theorem dX0_cost_92 : decode cX0_cost 92 = .ok (.iadd, 1) := dk_96 (dk_at dksX0_cost_4 0 rfl rfl)
theorem dX0_cost_93 : decode cX0_cost 93 = .ok (.istore_n 3, 1) := dk_62 (dk_at dksX0_cost_4 1 rfl rfl)
theorem dX0_cost_94 : decode cX0_cost 94 = .ok (.goto (-50), 3) := dk_167 255 206 (dk_at dksX0_cost_4 2 rfl rfl)
theorem dX0_cost_97 : decode cX0_cost 97 = .ok (.iload_n 3, 1) := dk_29 (dk_at dksX0_cost_4 5 rfl rfl)
theorem dX0_cost_98 : decode cX0_cost 98 = .ok (.ireturn, 1) := dk_172 (dk_at dksX0_cost_4 6 rfl rfl)
abbrev cX0_climb : ByteArray := prog_1_method_47_code
def yX0_climb : MethodName := ⟨RX0, "climb", "(J)I"⟩
def dkwX0_climb_0 : List UInt8 := [16, 64, 30, 184, 1, 60, 100, 30, 184, 1, 66, 96, 5, 100, 172]
abbrev dktX0_climb_0 : List UInt8 := dkwX0_climb_0 ++ []
theorem dksX0_climb_0 : cX0_climb.data.toList.drop 0 = dktX0_climb_0 := by decide +kernel
theorem dX0_climb_0 : decode cX0_climb 0 = .ok (.bipush 64, 2) := dk_16 64 (dk_at dksX0_climb_0 0 rfl rfl)
theorem dX0_climb_2 : decode cX0_climb 2 = .ok (.lload_n 0, 1) := dk_30 (dk_at dksX0_climb_0 2 rfl rfl)
theorem dX0_climb_3 : decode cX0_climb 3 = .ok (.invokestatic 316, 3) := dk_184 1 60 (dk_at dksX0_climb_0 3 rfl rfl)
theorem dX0_climb_6 : decode cX0_climb 6 = .ok (.isub, 1) := dk_100 (dk_at dksX0_climb_0 6 rfl rfl)
theorem dX0_climb_7 : decode cX0_climb 7 = .ok (.lload_n 0, 1) := dk_30 (dk_at dksX0_climb_0 7 rfl rfl)
theorem dX0_climb_8 : decode cX0_climb 8 = .ok (.invokestatic 322, 3) := dk_184 1 66 (dk_at dksX0_climb_0 8 rfl rfl)
theorem dX0_climb_11 : decode cX0_climb 11 = .ok (.iadd, 1) := dk_96 (dk_at dksX0_climb_0 11 rfl rfl)
theorem dX0_climb_12 : decode cX0_climb 12 = .ok (.iconst 2, 1) := dk_5 (dk_at dksX0_climb_0 12 rfl rfl)
theorem dX0_climb_13 : decode cX0_climb 13 = .ok (.isub, 1) := dk_100 (dk_at dksX0_climb_0 13 rfl rfl)
theorem dX0_climb_14 : decode cX0_climb 14 = .ok (.ireturn, 1) := dk_172 (dk_at dksX0_climb_0 14 rfl rfl)
abbrev cX0_loose : ByteArray := prog_1_method_49_code
def yX0_loose : MethodName := ⟨RX0, "loose", "(II)I"⟩
def dkwX0_loose_4 : List UInt8 := [54, 5, 45, 89, 180, 1, 18, 4, 96, 181, 1, 18, 167, 255, 190, 45, 21, 4, 181, 1, 18, 21, 5, 172]
abbrev dktX0_loose_4 : List UInt8 := dkwX0_loose_4 ++ []
def dkwX0_loose_3 : List UInt8 := [180, 0, 91, 27, 182, 0, 122, 192, 0, 126, 45, 182, 1, 76, 153, 0, 7, 4, 167, 0, 4, 3, 96]
abbrev dktX0_loose_3 : List UInt8 := dkwX0_loose_3 ++ dktX0_loose_4
def dkwX0_loose_2 : List UInt8 := [163, 0, 62, 21, 5, 42, 180, 0, 91, 27, 182, 0, 122, 192, 0, 126, 45, 182, 1, 72, 153, 0, 25, 42]
abbrev dktX0_loose_2 : List UInt8 := dkwX0_loose_2 ++ dktX0_loose_3
def dkwX0_loose_1 : List UInt8 := [172, 45, 180, 1, 18, 54, 4, 3, 54, 5, 45, 5, 181, 1, 18, 45, 180, 1, 18, 17, 3, 231]
abbrev dktX0_loose_1 : List UInt8 := dkwX0_loose_1 ++ dktX0_loose_2
def dkwX0_loose_0 : List UInt8 := [42, 27, 3, 28, 182, 1, 7, 78, 45, 199, 0, 5, 2, 172, 42, 27, 182, 0, 136, 154, 0, 6, 16, 254]
abbrev dktX0_loose_0 : List UInt8 := dkwX0_loose_0 ++ dktX0_loose_1
theorem dksX0_loose_0 : cX0_loose.data.toList.drop 0 = dktX0_loose_0 := by decide +kernel
theorem dksX0_loose_1 : cX0_loose.data.toList.drop 24 = dktX0_loose_1 := dk_seg dksX0_loose_0 24 rfl rfl
theorem dksX0_loose_2 : cX0_loose.data.toList.drop 46 = dktX0_loose_2 := dk_seg dksX0_loose_1 22 rfl rfl
theorem dksX0_loose_3 : cX0_loose.data.toList.drop 70 = dktX0_loose_3 := dk_seg dksX0_loose_2 24 rfl rfl
theorem dksX0_loose_4 : cX0_loose.data.toList.drop 93 = dktX0_loose_4 := dk_seg dksX0_loose_3 23 rfl rfl
theorem dX0_loose_0 : decode cX0_loose 0 = .ok (.aload_n 0, 1) := dk_42 (dk_at dksX0_loose_0 0 rfl rfl)
theorem dX0_loose_1 : decode cX0_loose 1 = .ok (.iload_n 1, 1) := dk_27 (dk_at dksX0_loose_0 1 rfl rfl)
theorem dX0_loose_2 : decode cX0_loose 2 = .ok (.iconst 0, 1) := dk_3 (dk_at dksX0_loose_0 2 rfl rfl)
theorem dX0_loose_3 : decode cX0_loose 3 = .ok (.iload_n 2, 1) := dk_28 (dk_at dksX0_loose_0 3 rfl rfl)
theorem dX0_loose_4 : decode cX0_loose 4 = .ok (.invokevirtual 263, 3) := dk_182 1 7 (dk_at dksX0_loose_0 4 rfl rfl)
theorem dX0_loose_7 : decode cX0_loose 7 = .ok (.astore_n 3, 1) := dk_78 (dk_at dksX0_loose_0 7 rfl rfl)
theorem dX0_loose_8 : decode cX0_loose 8 = .ok (.aload_n 3, 1) := dk_45 (dk_at dksX0_loose_0 8 rfl rfl)
theorem dX0_loose_9 : decode cX0_loose 9 = .ok (.ifnonnull 5, 3) := dk_199 0 5 (dk_at dksX0_loose_0 9 rfl rfl)
theorem dX0_loose_12 : decode cX0_loose 12 = .ok (.iconst (-1), 1) := dk_2 (dk_at dksX0_loose_0 12 rfl rfl)
theorem dX0_loose_13 : decode cX0_loose 13 = .ok (.ireturn, 1) := dk_172 (dk_at dksX0_loose_0 13 rfl rfl)
theorem dX0_loose_14 : decode cX0_loose 14 = .ok (.aload_n 0, 1) := dk_42 (dk_at dksX0_loose_0 14 rfl rfl)
theorem dX0_loose_15 : decode cX0_loose 15 = .ok (.iload_n 1, 1) := dk_27 (dk_at dksX0_loose_0 15 rfl rfl)
theorem dX0_loose_16 : decode cX0_loose 16 = .ok (.invokevirtual 136, 3) := dk_182 0 136 (dk_at dksX0_loose_0 16 rfl rfl)
theorem dX0_loose_19 : decode cX0_loose 19 = .ok (.ifCond .ne 6, 3) := dk_154 0 6 (dk_at dksX0_loose_0 19 rfl rfl)
theorem dX0_loose_22 : decode cX0_loose 22 = .ok (.bipush (-2), 2) := dk_16 254 (dk_at dksX0_loose_0 22 rfl rfl)
theorem dX0_loose_24 : decode cX0_loose 24 = .ok (.ireturn, 1) := dk_172 (dk_at dksX0_loose_1 0 rfl rfl)
theorem dX0_loose_25 : decode cX0_loose 25 = .ok (.aload_n 3, 1) := dk_45 (dk_at dksX0_loose_1 1 rfl rfl)
theorem dX0_loose_26 : decode cX0_loose 26 = .ok (.getfield 274, 3) := dk_180 1 18 (dk_at dksX0_loose_1 2 rfl rfl)
theorem dX0_loose_29 : decode cX0_loose 29 = .ok (.istore 4, 2) := dk_54 4 (dk_at dksX0_loose_1 5 rfl rfl)
theorem dX0_loose_31 : decode cX0_loose 31 = .ok (.iconst 0, 1) := dk_3 (dk_at dksX0_loose_1 7 rfl rfl)
theorem dX0_loose_32 : decode cX0_loose 32 = .ok (.istore 5, 2) := dk_54 5 (dk_at dksX0_loose_1 8 rfl rfl)
theorem dX0_loose_34 : decode cX0_loose 34 = .ok (.aload_n 3, 1) := dk_45 (dk_at dksX0_loose_1 10 rfl rfl)
theorem dX0_loose_35 : decode cX0_loose 35 = .ok (.iconst 2, 1) := dk_5 (dk_at dksX0_loose_1 11 rfl rfl)
theorem dX0_loose_36 : decode cX0_loose 36 = .ok (.putfield 274, 3) := dk_181 1 18 (dk_at dksX0_loose_1 12 rfl rfl)
theorem dX0_loose_39 : decode cX0_loose 39 = .ok (.aload_n 3, 1) := dk_45 (dk_at dksX0_loose_1 15 rfl rfl)
theorem dX0_loose_40 : decode cX0_loose 40 = .ok (.getfield 274, 3) := dk_180 1 18 (dk_at dksX0_loose_1 16 rfl rfl)
theorem dX0_loose_43 : decode cX0_loose 43 = .ok (.sipush 999, 3) := dk_17 3 231 (dk_at dksX0_loose_1 19 rfl rfl)
theorem dX0_loose_46 : decode cX0_loose 46 = .ok (.if_icmp .gt 62, 3) := dk_163 0 62 (dk_at dksX0_loose_2 0 rfl rfl)
theorem dX0_loose_49 : decode cX0_loose 49 = .ok (.iload 5, 2) := dk_21 5 (dk_at dksX0_loose_2 3 rfl rfl)
theorem dX0_loose_51 : decode cX0_loose 51 = .ok (.aload_n 0, 1) := dk_42 (dk_at dksX0_loose_2 5 rfl rfl)
theorem dX0_loose_52 : decode cX0_loose 52 = .ok (.getfield 91, 3) := dk_180 0 91 (dk_at dksX0_loose_2 6 rfl rfl)
theorem dX0_loose_55 : decode cX0_loose 55 = .ok (.iload_n 1, 1) := dk_27 (dk_at dksX0_loose_2 9 rfl rfl)
theorem dX0_loose_56 : decode cX0_loose 56 = .ok (.invokevirtual 122, 3) := dk_182 0 122 (dk_at dksX0_loose_2 10 rfl rfl)
theorem dX0_loose_59 : decode cX0_loose 59 = .ok (.checkcast 126, 3) := dk_192 0 126 (dk_at dksX0_loose_2 13 rfl rfl)
theorem dX0_loose_62 : decode cX0_loose 62 = .ok (.aload_n 3, 1) := dk_45 (dk_at dksX0_loose_2 16 rfl rfl)
theorem dX0_loose_63 : decode cX0_loose 63 = .ok (.invokevirtual 328, 3) := dk_182 1 72 (dk_at dksX0_loose_2 17 rfl rfl)
theorem dX0_loose_66 : decode cX0_loose 66 = .ok (.ifCond .eq 25, 3) := dk_153 0 25 (dk_at dksX0_loose_2 20 rfl rfl)
theorem dX0_loose_69 : decode cX0_loose 69 = .ok (.aload_n 0, 1) := dk_42 (dk_at dksX0_loose_2 23 rfl rfl)
theorem dX0_loose_70 : decode cX0_loose 70 = .ok (.getfield 91, 3) := dk_180 0 91 (dk_at dksX0_loose_3 0 rfl rfl)
theorem dX0_loose_73 : decode cX0_loose 73 = .ok (.iload_n 1, 1) := dk_27 (dk_at dksX0_loose_3 3 rfl rfl)
theorem dX0_loose_74 : decode cX0_loose 74 = .ok (.invokevirtual 122, 3) := dk_182 0 122 (dk_at dksX0_loose_3 4 rfl rfl)
theorem dX0_loose_77 : decode cX0_loose 77 = .ok (.checkcast 126, 3) := dk_192 0 126 (dk_at dksX0_loose_3 7 rfl rfl)
theorem dX0_loose_80 : decode cX0_loose 80 = .ok (.aload_n 3, 1) := dk_45 (dk_at dksX0_loose_3 10 rfl rfl)
theorem dX0_loose_81 : decode cX0_loose 81 = .ok (.invokevirtual 332, 3) := dk_182 1 76 (dk_at dksX0_loose_3 11 rfl rfl)
theorem dX0_loose_84 : decode cX0_loose 84 = .ok (.ifCond .eq 7, 3) := dk_153 0 7 (dk_at dksX0_loose_3 14 rfl rfl)
theorem dX0_loose_87 : decode cX0_loose 87 = .ok (.iconst 1, 1) := dk_4 (dk_at dksX0_loose_3 17 rfl rfl)
theorem dX0_loose_88 : decode cX0_loose 88 = .ok (.goto 4, 3) := dk_167 0 4 (dk_at dksX0_loose_3 18 rfl rfl)
theorem dX0_loose_91 : decode cX0_loose 91 = .ok (.iconst 0, 1) := dk_3 (dk_at dksX0_loose_3 21 rfl rfl)
theorem dX0_loose_92 : decode cX0_loose 92 = .ok (.iadd, 1) := dk_96 (dk_at dksX0_loose_3 22 rfl rfl)
theorem dX0_loose_93 : decode cX0_loose 93 = .ok (.istore 5, 2) := dk_54 5 (dk_at dksX0_loose_4 0 rfl rfl)
theorem dX0_loose_95 : decode cX0_loose 95 = .ok (.aload_n 3, 1) := dk_45 (dk_at dksX0_loose_4 2 rfl rfl)
theorem dX0_loose_96 : decode cX0_loose 96 = .ok (.dup, 1) := dk_89 (dk_at dksX0_loose_4 3 rfl rfl)
theorem dX0_loose_97 : decode cX0_loose 97 = .ok (.getfield 274, 3) := dk_180 1 18 (dk_at dksX0_loose_4 4 rfl rfl)
theorem dX0_loose_100 : decode cX0_loose 100 = .ok (.iconst 1, 1) := dk_4 (dk_at dksX0_loose_4 7 rfl rfl)
theorem dX0_loose_101 : decode cX0_loose 101 = .ok (.iadd, 1) := dk_96 (dk_at dksX0_loose_4 8 rfl rfl)
theorem dX0_loose_102 : decode cX0_loose 102 = .ok (.putfield 274, 3) := dk_181 1 18 (dk_at dksX0_loose_4 9 rfl rfl)
theorem dX0_loose_105 : decode cX0_loose 105 = .ok (.goto (-66), 3) := dk_167 255 190 (dk_at dksX0_loose_4 12 rfl rfl)
theorem dX0_loose_108 : decode cX0_loose 108 = .ok (.aload_n 3, 1) := dk_45 (dk_at dksX0_loose_4 15 rfl rfl)
theorem dX0_loose_109 : decode cX0_loose 109 = .ok (.iload 4, 2) := dk_21 4 (dk_at dksX0_loose_4 16 rfl rfl)
theorem dX0_loose_111 : decode cX0_loose 111 = .ok (.putfield 274, 3) := dk_181 1 18 (dk_at dksX0_loose_4 18 rfl rfl)
theorem dX0_loose_114 : decode cX0_loose 114 = .ok (.iload 5, 2) := dk_21 5 (dk_at dksX0_loose_4 21 rfl rfl)
theorem dX0_loose_116 : decode cX0_loose 116 = .ok (.ireturn, 1) := dk_172 (dk_at dksX0_loose_4 23 rfl rfl)
abbrev cX0_shared : ByteArray := prog_1_method_50_code
def yX0_shared : MethodName := ⟨RX0, "shared", "(II)J"⟩
def dkwX0_shared_2 : List UInt8 := [127, 167, 0, 6, 20, 1, 50, 173]
abbrev dktX0_shared_2 : List UInt8 := dkwX0_shared_2 ++ []
def dkwX0_shared_1 : List UInt8 := [182, 0, 136, 153, 0, 25, 42, 28, 182, 0, 136, 153, 0, 17, 42, 27, 182, 1, 31, 42, 28, 182, 1, 31]
abbrev dktX0_shared_1 : List UInt8 := dkwX0_shared_1 ++ dktX0_shared_2
def dkwX0_shared_0 : List UInt8 := [42, 27, 182, 0, 246, 153, 0, 11, 42, 28, 182, 0, 246, 154, 0, 7, 20, 1, 48, 173, 42, 27]
abbrev dktX0_shared_0 : List UInt8 := dkwX0_shared_0 ++ dktX0_shared_1
theorem dksX0_shared_0 : cX0_shared.data.toList.drop 0 = dktX0_shared_0 := by decide +kernel
theorem dksX0_shared_1 : cX0_shared.data.toList.drop 22 = dktX0_shared_1 := dk_seg dksX0_shared_0 22 rfl rfl
theorem dksX0_shared_2 : cX0_shared.data.toList.drop 46 = dktX0_shared_2 := dk_seg dksX0_shared_1 24 rfl rfl
theorem dX0_shared_0 : decode cX0_shared 0 = .ok (.aload_n 0, 1) := dk_42 (dk_at dksX0_shared_0 0 rfl rfl)
theorem dX0_shared_1 : decode cX0_shared 1 = .ok (.iload_n 1, 1) := dk_27 (dk_at dksX0_shared_0 1 rfl rfl)
theorem dX0_shared_2 : decode cX0_shared 2 = .ok (.invokevirtual 246, 3) := dk_182 0 246 (dk_at dksX0_shared_0 2 rfl rfl)
theorem dX0_shared_5 : decode cX0_shared 5 = .ok (.ifCond .eq 11, 3) := dk_153 0 11 (dk_at dksX0_shared_0 5 rfl rfl)
theorem dX0_shared_8 : decode cX0_shared 8 = .ok (.aload_n 0, 1) := dk_42 (dk_at dksX0_shared_0 8 rfl rfl)
theorem dX0_shared_9 : decode cX0_shared 9 = .ok (.iload_n 2, 1) := dk_28 (dk_at dksX0_shared_0 9 rfl rfl)
theorem dX0_shared_10 : decode cX0_shared 10 = .ok (.invokevirtual 246, 3) := dk_182 0 246 (dk_at dksX0_shared_0 10 rfl rfl)
theorem dX0_shared_13 : decode cX0_shared 13 = .ok (.ifCond .ne 7, 3) := dk_154 0 7 (dk_at dksX0_shared_0 13 rfl rfl)
theorem dX0_shared_16 : decode cX0_shared 16 = .ok (.ldc2_w 304, 3) := dk_20 1 48 (dk_at dksX0_shared_0 16 rfl rfl)
theorem dX0_shared_19 : decode cX0_shared 19 = .ok (.lreturn, 1) := dk_173 (dk_at dksX0_shared_0 19 rfl rfl)
theorem dX0_shared_20 : decode cX0_shared 20 = .ok (.aload_n 0, 1) := dk_42 (dk_at dksX0_shared_0 20 rfl rfl)
theorem dX0_shared_21 : decode cX0_shared 21 = .ok (.iload_n 1, 1) := dk_27 (dk_at dksX0_shared_0 21 rfl rfl)
theorem dX0_shared_22 : decode cX0_shared 22 = .ok (.invokevirtual 136, 3) := dk_182 0 136 (dk_at dksX0_shared_1 0 rfl rfl)
theorem dX0_shared_25 : decode cX0_shared 25 = .ok (.ifCond .eq 25, 3) := dk_153 0 25 (dk_at dksX0_shared_1 3 rfl rfl)
theorem dX0_shared_28 : decode cX0_shared 28 = .ok (.aload_n 0, 1) := dk_42 (dk_at dksX0_shared_1 6 rfl rfl)
theorem dX0_shared_29 : decode cX0_shared 29 = .ok (.iload_n 2, 1) := dk_28 (dk_at dksX0_shared_1 7 rfl rfl)
theorem dX0_shared_30 : decode cX0_shared 30 = .ok (.invokevirtual 136, 3) := dk_182 0 136 (dk_at dksX0_shared_1 8 rfl rfl)
theorem dX0_shared_33 : decode cX0_shared 33 = .ok (.ifCond .eq 17, 3) := dk_153 0 17 (dk_at dksX0_shared_1 11 rfl rfl)
theorem dX0_shared_36 : decode cX0_shared 36 = .ok (.aload_n 0, 1) := dk_42 (dk_at dksX0_shared_1 14 rfl rfl)
theorem dX0_shared_37 : decode cX0_shared 37 = .ok (.iload_n 1, 1) := dk_27 (dk_at dksX0_shared_1 15 rfl rfl)
theorem dX0_shared_38 : decode cX0_shared 38 = .ok (.invokevirtual 287, 3) := dk_182 1 31 (dk_at dksX0_shared_1 16 rfl rfl)
theorem dX0_shared_41 : decode cX0_shared 41 = .ok (.aload_n 0, 1) := dk_42 (dk_at dksX0_shared_1 19 rfl rfl)
theorem dX0_shared_42 : decode cX0_shared 42 = .ok (.iload_n 2, 1) := dk_28 (dk_at dksX0_shared_1 20 rfl rfl)
theorem dX0_shared_43 : decode cX0_shared 43 = .ok (.invokevirtual 287, 3) := dk_182 1 31 (dk_at dksX0_shared_1 21 rfl rfl)
theorem dX0_shared_46 : decode cX0_shared 46 = .ok (.land, 1) := dk_127 (dk_at dksX0_shared_2 0 rfl rfl)
theorem dX0_shared_47 : decode cX0_shared 47 = .ok (.goto 6, 3) := dk_167 0 6 (dk_at dksX0_shared_2 1 rfl rfl)
theorem dX0_shared_50 : decode cX0_shared 50 = .ok (.ldc2_w 306, 3) := dk_20 1 50 (dk_at dksX0_shared_2 4 rfl rfl)
theorem dX0_shared_53 : decode cX0_shared 53 = .ok (.lreturn, 1) := dk_173 (dk_at dksX0_shared_2 7 rfl rfl)
abbrev cX0_spell : ByteArray := prog_1_method_53_code
def yX0_spell : MethodName := ⟨RX0, "spell", "(II)I"⟩
def dkwX0_spell_2 : List UInt8 := [162, 0, 11, 45, 28, 182, 1, 128, 167, 0, 4, 2, 172]
abbrev dktX0_spell_2 : List UInt8 := dkwX0_spell_2 ++ []
def dkwX0_spell_1 : List UInt8 := [192, 0, 126, 184, 1, 119, 78, 28, 2, 160, 0, 10, 45, 182, 1, 123, 167, 0, 20, 28, 45, 182, 1, 123]
abbrev dktX0_spell_1 : List UInt8 := dkwX0_spell_1 ++ dktX0_spell_2
def dkwX0_spell_0 : List UInt8 := [42, 27, 182, 0, 246, 153, 0, 8, 28, 2, 162, 0, 5, 2, 172, 42, 180, 0, 91, 27, 182, 0, 122]
abbrev dktX0_spell_0 : List UInt8 := dkwX0_spell_0 ++ dktX0_spell_1
theorem dksX0_spell_0 : cX0_spell.data.toList.drop 0 = dktX0_spell_0 := by decide +kernel
theorem dksX0_spell_1 : cX0_spell.data.toList.drop 23 = dktX0_spell_1 := dk_seg dksX0_spell_0 23 rfl rfl
theorem dksX0_spell_2 : cX0_spell.data.toList.drop 47 = dktX0_spell_2 := dk_seg dksX0_spell_1 24 rfl rfl
theorem dX0_spell_0 : decode cX0_spell 0 = .ok (.aload_n 0, 1) := dk_42 (dk_at dksX0_spell_0 0 rfl rfl)
theorem dX0_spell_1 : decode cX0_spell 1 = .ok (.iload_n 1, 1) := dk_27 (dk_at dksX0_spell_0 1 rfl rfl)
theorem dX0_spell_2 : decode cX0_spell 2 = .ok (.invokevirtual 246, 3) := dk_182 0 246 (dk_at dksX0_spell_0 2 rfl rfl)
theorem dX0_spell_5 : decode cX0_spell 5 = .ok (.ifCond .eq 8, 3) := dk_153 0 8 (dk_at dksX0_spell_0 5 rfl rfl)
theorem dX0_spell_8 : decode cX0_spell 8 = .ok (.iload_n 2, 1) := dk_28 (dk_at dksX0_spell_0 8 rfl rfl)
theorem dX0_spell_9 : decode cX0_spell 9 = .ok (.iconst (-1), 1) := dk_2 (dk_at dksX0_spell_0 9 rfl rfl)
theorem dX0_spell_10 : decode cX0_spell 10 = .ok (.if_icmp .ge 5, 3) := dk_162 0 5 (dk_at dksX0_spell_0 10 rfl rfl)
theorem dX0_spell_13 : decode cX0_spell 13 = .ok (.iconst (-1), 1) := dk_2 (dk_at dksX0_spell_0 13 rfl rfl)
theorem dX0_spell_14 : decode cX0_spell 14 = .ok (.ireturn, 1) := dk_172 (dk_at dksX0_spell_0 14 rfl rfl)
theorem dX0_spell_15 : decode cX0_spell 15 = .ok (.aload_n 0, 1) := dk_42 (dk_at dksX0_spell_0 15 rfl rfl)
theorem dX0_spell_16 : decode cX0_spell 16 = .ok (.getfield 91, 3) := dk_180 0 91 (dk_at dksX0_spell_0 16 rfl rfl)
theorem dX0_spell_19 : decode cX0_spell 19 = .ok (.iload_n 1, 1) := dk_27 (dk_at dksX0_spell_0 19 rfl rfl)
theorem dX0_spell_20 : decode cX0_spell 20 = .ok (.invokevirtual 122, 3) := dk_182 0 122 (dk_at dksX0_spell_0 20 rfl rfl)
theorem dX0_spell_23 : decode cX0_spell 23 = .ok (.checkcast 126, 3) := dk_192 0 126 (dk_at dksX0_spell_1 0 rfl rfl)
theorem dX0_spell_26 : decode cX0_spell 26 = .ok (.invokestatic 375, 3) := dk_184 1 119 (dk_at dksX0_spell_1 3 rfl rfl)
theorem dX0_spell_29 : decode cX0_spell 29 = .ok (.astore_n 3, 1) := dk_78 (dk_at dksX0_spell_1 6 rfl rfl)
theorem dX0_spell_30 : decode cX0_spell 30 = .ok (.iload_n 2, 1) := dk_28 (dk_at dksX0_spell_1 7 rfl rfl)
theorem dX0_spell_31 : decode cX0_spell 31 = .ok (.iconst (-1), 1) := dk_2 (dk_at dksX0_spell_1 8 rfl rfl)
theorem dX0_spell_32 : decode cX0_spell 32 = .ok (.if_icmp .ne 10, 3) := dk_160 0 10 (dk_at dksX0_spell_1 9 rfl rfl)
theorem dX0_spell_35 : decode cX0_spell 35 = .ok (.aload_n 3, 1) := dk_45 (dk_at dksX0_spell_1 12 rfl rfl)
theorem dX0_spell_36 : decode cX0_spell 36 = .ok (.invokevirtual 379, 3) := dk_182 1 123 (dk_at dksX0_spell_1 13 rfl rfl)
theorem dX0_spell_39 : decode cX0_spell 39 = .ok (.goto 20, 3) := dk_167 0 20 (dk_at dksX0_spell_1 16 rfl rfl)
theorem dX0_spell_42 : decode cX0_spell 42 = .ok (.iload_n 2, 1) := dk_28 (dk_at dksX0_spell_1 19 rfl rfl)
theorem dX0_spell_43 : decode cX0_spell 43 = .ok (.aload_n 3, 1) := dk_45 (dk_at dksX0_spell_1 20 rfl rfl)
theorem dX0_spell_44 : decode cX0_spell 44 = .ok (.invokevirtual 379, 3) := dk_182 1 123 (dk_at dksX0_spell_1 21 rfl rfl)
theorem dX0_spell_47 : decode cX0_spell 47 = .ok (.if_icmp .ge 11, 3) := dk_162 0 11 (dk_at dksX0_spell_2 0 rfl rfl)
theorem dX0_spell_50 : decode cX0_spell 50 = .ok (.aload_n 3, 1) := dk_45 (dk_at dksX0_spell_2 3 rfl rfl)
theorem dX0_spell_51 : decode cX0_spell 51 = .ok (.iload_n 2, 1) := dk_28 (dk_at dksX0_spell_2 4 rfl rfl)
theorem dX0_spell_52 : decode cX0_spell 52 = .ok (.invokevirtual 384, 3) := dk_182 1 128 (dk_at dksX0_spell_2 5 rfl rfl)
theorem dX0_spell_55 : decode cX0_spell 55 = .ok (.goto 4, 3) := dk_167 0 4 (dk_at dksX0_spell_2 8 rfl rfl)
theorem dX0_spell_58 : decode cX0_spell 58 = .ok (.iconst (-1), 1) := dk_2 (dk_at dksX0_spell_2 11 rfl rfl)
theorem dX0_spell_59 : decode cX0_spell 59 = .ok (.ireturn, 1) := dk_172 (dk_at dksX0_spell_2 12 rfl rfl)
abbrev cX0_spelt : ByteArray := prog_1_method_52_code
def yX0_spelt : MethodName := ⟨RX0, "spelt", "(LPrimeProofs$Line;)Ljava/lang/String;"⟩
def dkwX0_spelt_9 : List UInt8 := [180, 0, 179, 3, 184, 1, 107, 43, 16, 59, 182, 1, 79, 182, 1, 115, 176]
abbrev dktX0_spelt_9 : List UInt8 := dkwX0_spelt_9 ++ []
def dkwX0_spelt_8 : List UInt8 := [42, 180, 0, 151, 6, 160, 0, 9, 19, 1, 105, 167, 0, 6, 19, 1, 113, 182, 1, 100, 87, 43, 42]
abbrev dktX0_spelt_8 : List UInt8 := dkwX0_spelt_8 ++ dktX0_spelt_9
def dkwX0_spelt_7 : List UInt8 := [19, 1, 111, 182, 1, 100, 87, 43, 42, 180, 0, 154, 4, 184, 1, 107, 42, 182, 0, 251, 153, 0, 34, 43]
abbrev dktX0_spelt_7 : List UInt8 := dkwX0_spelt_7 ++ dktX0_spelt_8
def dkwX0_spelt_6 : List UInt8 := [180, 0, 151, 5, 160, 0, 7, 4, 167, 0, 4, 3, 184, 1, 107, 42, 180, 0, 151, 7, 160, 0, 20, 43]
abbrev dktX0_spelt_6 : List UInt8 := dkwX0_spelt_6 ++ dktX0_spelt_7
def dkwX0_spelt_5 : List UInt8 := [42, 180, 0, 151, 5, 160, 0, 32, 43, 19, 1, 105, 182, 1, 100, 87, 43, 42, 180, 0, 154, 42]
abbrev dktX0_spelt_5 : List UInt8 := dkwX0_spelt_5 ++ dktX0_spelt_6
def dkwX0_spelt_4 : List UInt8 := [182, 1, 88, 16, 32, 182, 1, 79, 42, 180, 1, 1, 182, 1, 88, 87, 42, 180, 0, 151, 4, 159, 0, 11]
abbrev dktX0_spelt_4 : List UInt8 := dkwX0_spelt_4 ++ dktX0_spelt_5
def dkwX0_spelt_3 : List UInt8 := [182, 1, 88, 87, 42, 182, 0, 251, 153, 0, 30, 43, 19, 1, 103, 182, 1, 100, 42, 180, 0, 254]
abbrev dktX0_spelt_3 : List UInt8 := dkwX0_spelt_3 ++ dktX0_spelt_4
def dkwX0_spelt_2 : List UInt8 := [180, 0, 222, 158, 0, 18, 42, 180, 0, 154, 180, 1, 3, 3, 50, 180, 1, 18, 167, 0, 4, 5]
abbrev dktX0_spelt_2 : List UInt8 := dkwX0_spelt_2 ++ dktX0_spelt_3
def dkwX0_spelt_1 : List UInt8 := [182, 1, 85, 76, 42, 180, 0, 151, 4, 160, 0, 40, 43, 19, 1, 98, 182, 1, 100, 42, 180, 0, 154]
abbrev dktX0_spelt_1 : List UInt8 := dkwX0_spelt_1 ++ dktX0_spelt_2
def dkwX0_spelt_0 : List UInt8 := [187, 1, 80, 89, 42, 180, 0, 151, 184, 1, 91, 183, 1, 95, 16, 32, 182, 1, 79, 42, 180, 0, 132]
abbrev dktX0_spelt_0 : List UInt8 := dkwX0_spelt_0 ++ dktX0_spelt_1
theorem dksX0_spelt_0 : cX0_spelt.data.toList.drop 0 = dktX0_spelt_0 := by decide +kernel
theorem dksX0_spelt_1 : cX0_spelt.data.toList.drop 23 = dktX0_spelt_1 := dk_seg dksX0_spelt_0 23 rfl rfl
theorem dksX0_spelt_2 : cX0_spelt.data.toList.drop 46 = dktX0_spelt_2 := dk_seg dksX0_spelt_1 23 rfl rfl
theorem dksX0_spelt_3 : cX0_spelt.data.toList.drop 68 = dktX0_spelt_3 := dk_seg dksX0_spelt_2 22 rfl rfl
theorem dksX0_spelt_4 : cX0_spelt.data.toList.drop 90 = dktX0_spelt_4 := dk_seg dksX0_spelt_3 22 rfl rfl
theorem dksX0_spelt_5 : cX0_spelt.data.toList.drop 114 = dktX0_spelt_5 := dk_seg dksX0_spelt_4 24 rfl rfl
theorem dksX0_spelt_6 : cX0_spelt.data.toList.drop 136 = dktX0_spelt_6 := dk_seg dksX0_spelt_5 22 rfl rfl
theorem dksX0_spelt_7 : cX0_spelt.data.toList.drop 160 = dktX0_spelt_7 := dk_seg dksX0_spelt_6 24 rfl rfl
theorem dksX0_spelt_8 : cX0_spelt.data.toList.drop 184 = dktX0_spelt_8 := dk_seg dksX0_spelt_7 24 rfl rfl
theorem dksX0_spelt_9 : cX0_spelt.data.toList.drop 207 = dktX0_spelt_9 := dk_seg dksX0_spelt_8 23 rfl rfl
theorem dX0_spelt_0 : decode cX0_spelt 0 = .ok (.new 336, 3) := dk_187 1 80 (dk_at dksX0_spelt_0 0 rfl rfl)
theorem dX0_spelt_3 : decode cX0_spelt 3 = .ok (.dup, 1) := dk_89 (dk_at dksX0_spelt_0 3 rfl rfl)
theorem dX0_spelt_4 : decode cX0_spelt 4 = .ok (.aload_n 0, 1) := dk_42 (dk_at dksX0_spelt_0 4 rfl rfl)
theorem dX0_spelt_5 : decode cX0_spelt 5 = .ok (.getfield 151, 3) := dk_180 0 151 (dk_at dksX0_spelt_0 5 rfl rfl)
theorem dX0_spelt_8 : decode cX0_spelt 8 = .ok (.invokestatic 347, 3) := dk_184 1 91 (dk_at dksX0_spelt_0 8 rfl rfl)
theorem dX0_spelt_11 : decode cX0_spelt 11 = .ok (.invokespecial 351, 3) := dk_183 1 95 (dk_at dksX0_spelt_0 11 rfl rfl)
theorem dX0_spelt_14 : decode cX0_spelt 14 = .ok (.bipush 32, 2) := dk_16 32 (dk_at dksX0_spelt_0 14 rfl rfl)
theorem dX0_spelt_16 : decode cX0_spelt 16 = .ok (.invokevirtual 335, 3) := dk_182 1 79 (dk_at dksX0_spelt_0 16 rfl rfl)
theorem dX0_spelt_19 : decode cX0_spelt 19 = .ok (.aload_n 0, 1) := dk_42 (dk_at dksX0_spelt_0 19 rfl rfl)
theorem dX0_spelt_20 : decode cX0_spelt 20 = .ok (.getfield 132, 3) := dk_180 0 132 (dk_at dksX0_spelt_0 20 rfl rfl)
theorem dX0_spelt_23 : decode cX0_spelt 23 = .ok (.invokevirtual 341, 3) := dk_182 1 85 (dk_at dksX0_spelt_1 0 rfl rfl)
theorem dX0_spelt_26 : decode cX0_spelt 26 = .ok (.astore_n 1, 1) := dk_76 (dk_at dksX0_spelt_1 3 rfl rfl)
theorem dX0_spelt_27 : decode cX0_spelt 27 = .ok (.aload_n 0, 1) := dk_42 (dk_at dksX0_spelt_1 4 rfl rfl)
theorem dX0_spelt_28 : decode cX0_spelt 28 = .ok (.getfield 151, 3) := dk_180 0 151 (dk_at dksX0_spelt_1 5 rfl rfl)
theorem dX0_spelt_31 : decode cX0_spelt 31 = .ok (.iconst 1, 1) := dk_4 (dk_at dksX0_spelt_1 8 rfl rfl)
theorem dX0_spelt_32 : decode cX0_spelt 32 = .ok (.if_icmp .ne 40, 3) := dk_160 0 40 (dk_at dksX0_spelt_1 9 rfl rfl)
theorem dX0_spelt_35 : decode cX0_spelt 35 = .ok (.aload_n 1, 1) := dk_43 (dk_at dksX0_spelt_1 12 rfl rfl)
theorem dX0_spelt_36 : decode cX0_spelt 36 = .ok (.ldc_w 354, 3) := dk_19 1 98 (dk_at dksX0_spelt_1 13 rfl rfl)
theorem dX0_spelt_39 : decode cX0_spelt 39 = .ok (.invokevirtual 356, 3) := dk_182 1 100 (dk_at dksX0_spelt_1 16 rfl rfl)
theorem dX0_spelt_42 : decode cX0_spelt 42 = .ok (.aload_n 0, 1) := dk_42 (dk_at dksX0_spelt_1 19 rfl rfl)
theorem dX0_spelt_43 : decode cX0_spelt 43 = .ok (.getfield 154, 3) := dk_180 0 154 (dk_at dksX0_spelt_1 20 rfl rfl)
theorem dX0_spelt_46 : decode cX0_spelt 46 = .ok (.getfield 222, 3) := dk_180 0 222 (dk_at dksX0_spelt_2 0 rfl rfl)
theorem dX0_spelt_49 : decode cX0_spelt 49 = .ok (.ifCond .le 18, 3) := dk_158 0 18 (dk_at dksX0_spelt_2 3 rfl rfl)
theorem dX0_spelt_52 : decode cX0_spelt 52 = .ok (.aload_n 0, 1) := dk_42 (dk_at dksX0_spelt_2 6 rfl rfl)
theorem dX0_spelt_53 : decode cX0_spelt 53 = .ok (.getfield 154, 3) := dk_180 0 154 (dk_at dksX0_spelt_2 7 rfl rfl)
theorem dX0_spelt_56 : decode cX0_spelt 56 = .ok (.getfield 259, 3) := dk_180 1 3 (dk_at dksX0_spelt_2 10 rfl rfl)
theorem dX0_spelt_59 : decode cX0_spelt 59 = .ok (.iconst 0, 1) := dk_3 (dk_at dksX0_spelt_2 13 rfl rfl)
theorem dX0_spelt_60 : decode cX0_spelt 60 = .ok (.aaload, 1) := dk_50 (dk_at dksX0_spelt_2 14 rfl rfl)
theorem dX0_spelt_61 : decode cX0_spelt 61 = .ok (.getfield 274, 3) := dk_180 1 18 (dk_at dksX0_spelt_2 15 rfl rfl)
theorem dX0_spelt_64 : decode cX0_spelt 64 = .ok (.goto 4, 3) := dk_167 0 4 (dk_at dksX0_spelt_2 18 rfl rfl)
theorem dX0_spelt_67 : decode cX0_spelt 67 = .ok (.iconst 2, 1) := dk_5 (dk_at dksX0_spelt_2 21 rfl rfl)
theorem dX0_spelt_68 : decode cX0_spelt 68 = .ok (.invokevirtual 344, 3) := dk_182 1 88 (dk_at dksX0_spelt_3 0 rfl rfl)
theorem dX0_spelt_71 : decode cX0_spelt 71 = .ok (.pop, 1) := dk_87 (dk_at dksX0_spelt_3 3 rfl rfl)
theorem dX0_spelt_72 : decode cX0_spelt 72 = .ok (.aload_n 0, 1) := dk_42 (dk_at dksX0_spelt_3 4 rfl rfl)
theorem dX0_spelt_73 : decode cX0_spelt 73 = .ok (.invokevirtual 251, 3) := dk_182 0 251 (dk_at dksX0_spelt_3 5 rfl rfl)
theorem dX0_spelt_76 : decode cX0_spelt 76 = .ok (.ifCond .eq 30, 3) := dk_153 0 30 (dk_at dksX0_spelt_3 8 rfl rfl)
theorem dX0_spelt_79 : decode cX0_spelt 79 = .ok (.aload_n 1, 1) := dk_43 (dk_at dksX0_spelt_3 11 rfl rfl)
theorem dX0_spelt_80 : decode cX0_spelt 80 = .ok (.ldc_w 359, 3) := dk_19 1 103 (dk_at dksX0_spelt_3 12 rfl rfl)
theorem dX0_spelt_83 : decode cX0_spelt 83 = .ok (.invokevirtual 356, 3) := dk_182 1 100 (dk_at dksX0_spelt_3 15 rfl rfl)
theorem dX0_spelt_86 : decode cX0_spelt 86 = .ok (.aload_n 0, 1) := dk_42 (dk_at dksX0_spelt_3 18 rfl rfl)
theorem dX0_spelt_87 : decode cX0_spelt 87 = .ok (.getfield 254, 3) := dk_180 0 254 (dk_at dksX0_spelt_3 19 rfl rfl)
theorem dX0_spelt_90 : decode cX0_spelt 90 = .ok (.invokevirtual 344, 3) := dk_182 1 88 (dk_at dksX0_spelt_4 0 rfl rfl)
theorem dX0_spelt_93 : decode cX0_spelt 93 = .ok (.bipush 32, 2) := dk_16 32 (dk_at dksX0_spelt_4 3 rfl rfl)
theorem dX0_spelt_95 : decode cX0_spelt 95 = .ok (.invokevirtual 335, 3) := dk_182 1 79 (dk_at dksX0_spelt_4 5 rfl rfl)
theorem dX0_spelt_98 : decode cX0_spelt 98 = .ok (.aload_n 0, 1) := dk_42 (dk_at dksX0_spelt_4 8 rfl rfl)
theorem dX0_spelt_99 : decode cX0_spelt 99 = .ok (.getfield 257, 3) := dk_180 1 1 (dk_at dksX0_spelt_4 9 rfl rfl)
theorem dX0_spelt_102 : decode cX0_spelt 102 = .ok (.invokevirtual 344, 3) := dk_182 1 88 (dk_at dksX0_spelt_4 12 rfl rfl)
theorem dX0_spelt_105 : decode cX0_spelt 105 = .ok (.pop, 1) := dk_87 (dk_at dksX0_spelt_4 15 rfl rfl)
theorem dX0_spelt_106 : decode cX0_spelt 106 = .ok (.aload_n 0, 1) := dk_42 (dk_at dksX0_spelt_4 16 rfl rfl)
theorem dX0_spelt_107 : decode cX0_spelt 107 = .ok (.getfield 151, 3) := dk_180 0 151 (dk_at dksX0_spelt_4 17 rfl rfl)
theorem dX0_spelt_110 : decode cX0_spelt 110 = .ok (.iconst 1, 1) := dk_4 (dk_at dksX0_spelt_4 20 rfl rfl)
theorem dX0_spelt_111 : decode cX0_spelt 111 = .ok (.if_icmp .eq 11, 3) := dk_159 0 11 (dk_at dksX0_spelt_4 21 rfl rfl)
theorem dX0_spelt_114 : decode cX0_spelt 114 = .ok (.aload_n 0, 1) := dk_42 (dk_at dksX0_spelt_5 0 rfl rfl)
theorem dX0_spelt_115 : decode cX0_spelt 115 = .ok (.getfield 151, 3) := dk_180 0 151 (dk_at dksX0_spelt_5 1 rfl rfl)
theorem dX0_spelt_118 : decode cX0_spelt 118 = .ok (.iconst 2, 1) := dk_5 (dk_at dksX0_spelt_5 4 rfl rfl)
theorem dX0_spelt_119 : decode cX0_spelt 119 = .ok (.if_icmp .ne 32, 3) := dk_160 0 32 (dk_at dksX0_spelt_5 5 rfl rfl)
theorem dX0_spelt_122 : decode cX0_spelt 122 = .ok (.aload_n 1, 1) := dk_43 (dk_at dksX0_spelt_5 8 rfl rfl)
theorem dX0_spelt_123 : decode cX0_spelt 123 = .ok (.ldc_w 361, 3) := dk_19 1 105 (dk_at dksX0_spelt_5 9 rfl rfl)
theorem dX0_spelt_126 : decode cX0_spelt 126 = .ok (.invokevirtual 356, 3) := dk_182 1 100 (dk_at dksX0_spelt_5 12 rfl rfl)
theorem dX0_spelt_129 : decode cX0_spelt 129 = .ok (.pop, 1) := dk_87 (dk_at dksX0_spelt_5 15 rfl rfl)
theorem dX0_spelt_130 : decode cX0_spelt 130 = .ok (.aload_n 1, 1) := dk_43 (dk_at dksX0_spelt_5 16 rfl rfl)
theorem dX0_spelt_131 : decode cX0_spelt 131 = .ok (.aload_n 0, 1) := dk_42 (dk_at dksX0_spelt_5 17 rfl rfl)
theorem dX0_spelt_132 : decode cX0_spelt 132 = .ok (.getfield 154, 3) := dk_180 0 154 (dk_at dksX0_spelt_5 18 rfl rfl)
theorem dX0_spelt_135 : decode cX0_spelt 135 = .ok (.aload_n 0, 1) := dk_42 (dk_at dksX0_spelt_5 21 rfl rfl)
theorem dX0_spelt_136 : decode cX0_spelt 136 = .ok (.getfield 151, 3) := dk_180 0 151 (dk_at dksX0_spelt_6 0 rfl rfl)
theorem dX0_spelt_139 : decode cX0_spelt 139 = .ok (.iconst 2, 1) := dk_5 (dk_at dksX0_spelt_6 3 rfl rfl)
theorem dX0_spelt_140 : decode cX0_spelt 140 = .ok (.if_icmp .ne 7, 3) := dk_160 0 7 (dk_at dksX0_spelt_6 4 rfl rfl)
theorem dX0_spelt_143 : decode cX0_spelt 143 = .ok (.iconst 1, 1) := dk_4 (dk_at dksX0_spelt_6 7 rfl rfl)
theorem dX0_spelt_144 : decode cX0_spelt 144 = .ok (.goto 4, 3) := dk_167 0 4 (dk_at dksX0_spelt_6 8 rfl rfl)
theorem dX0_spelt_147 : decode cX0_spelt 147 = .ok (.iconst 0, 1) := dk_3 (dk_at dksX0_spelt_6 11 rfl rfl)
theorem dX0_spelt_148 : decode cX0_spelt 148 = .ok (.invokestatic 363, 3) := dk_184 1 107 (dk_at dksX0_spelt_6 12 rfl rfl)
theorem dX0_spelt_151 : decode cX0_spelt 151 = .ok (.aload_n 0, 1) := dk_42 (dk_at dksX0_spelt_6 15 rfl rfl)
theorem dX0_spelt_152 : decode cX0_spelt 152 = .ok (.getfield 151, 3) := dk_180 0 151 (dk_at dksX0_spelt_6 16 rfl rfl)
theorem dX0_spelt_155 : decode cX0_spelt 155 = .ok (.iconst 4, 1) := dk_7 (dk_at dksX0_spelt_6 19 rfl rfl)
theorem dX0_spelt_156 : decode cX0_spelt 156 = .ok (.if_icmp .ne 20, 3) := dk_160 0 20 (dk_at dksX0_spelt_6 20 rfl rfl)
theorem dX0_spelt_159 : decode cX0_spelt 159 = .ok (.aload_n 1, 1) := dk_43 (dk_at dksX0_spelt_6 23 rfl rfl)
theorem dX0_spelt_160 : decode cX0_spelt 160 = .ok (.ldc_w 367, 3) := dk_19 1 111 (dk_at dksX0_spelt_7 0 rfl rfl)
theorem dX0_spelt_163 : decode cX0_spelt 163 = .ok (.invokevirtual 356, 3) := dk_182 1 100 (dk_at dksX0_spelt_7 3 rfl rfl)
theorem dX0_spelt_166 : decode cX0_spelt 166 = .ok (.pop, 1) := dk_87 (dk_at dksX0_spelt_7 6 rfl rfl)
theorem dX0_spelt_167 : decode cX0_spelt 167 = .ok (.aload_n 1, 1) := dk_43 (dk_at dksX0_spelt_7 7 rfl rfl)
theorem dX0_spelt_168 : decode cX0_spelt 168 = .ok (.aload_n 0, 1) := dk_42 (dk_at dksX0_spelt_7 8 rfl rfl)
theorem dX0_spelt_169 : decode cX0_spelt 169 = .ok (.getfield 154, 3) := dk_180 0 154 (dk_at dksX0_spelt_7 9 rfl rfl)
theorem dX0_spelt_172 : decode cX0_spelt 172 = .ok (.iconst 1, 1) := dk_4 (dk_at dksX0_spelt_7 12 rfl rfl)
theorem dX0_spelt_173 : decode cX0_spelt 173 = .ok (.invokestatic 363, 3) := dk_184 1 107 (dk_at dksX0_spelt_7 13 rfl rfl)
theorem dX0_spelt_176 : decode cX0_spelt 176 = .ok (.aload_n 0, 1) := dk_42 (dk_at dksX0_spelt_7 16 rfl rfl)
theorem dX0_spelt_177 : decode cX0_spelt 177 = .ok (.invokevirtual 251, 3) := dk_182 0 251 (dk_at dksX0_spelt_7 17 rfl rfl)
theorem dX0_spelt_180 : decode cX0_spelt 180 = .ok (.ifCond .eq 34, 3) := dk_153 0 34 (dk_at dksX0_spelt_7 20 rfl rfl)
theorem dX0_spelt_183 : decode cX0_spelt 183 = .ok (.aload_n 1, 1) := dk_43 (dk_at dksX0_spelt_7 23 rfl rfl)
theorem dX0_spelt_184 : decode cX0_spelt 184 = .ok (.aload_n 0, 1) := dk_42 (dk_at dksX0_spelt_8 0 rfl rfl)
theorem dX0_spelt_185 : decode cX0_spelt 185 = .ok (.getfield 151, 3) := dk_180 0 151 (dk_at dksX0_spelt_8 1 rfl rfl)
theorem dX0_spelt_188 : decode cX0_spelt 188 = .ok (.iconst 3, 1) := dk_6 (dk_at dksX0_spelt_8 4 rfl rfl)
theorem dX0_spelt_189 : decode cX0_spelt 189 = .ok (.if_icmp .ne 9, 3) := dk_160 0 9 (dk_at dksX0_spelt_8 5 rfl rfl)
theorem dX0_spelt_192 : decode cX0_spelt 192 = .ok (.ldc_w 361, 3) := dk_19 1 105 (dk_at dksX0_spelt_8 8 rfl rfl)
theorem dX0_spelt_195 : decode cX0_spelt 195 = .ok (.goto 6, 3) := dk_167 0 6 (dk_at dksX0_spelt_8 11 rfl rfl)
theorem dX0_spelt_198 : decode cX0_spelt 198 = .ok (.ldc_w 369, 3) := dk_19 1 113 (dk_at dksX0_spelt_8 14 rfl rfl)
theorem dX0_spelt_201 : decode cX0_spelt 201 = .ok (.invokevirtual 356, 3) := dk_182 1 100 (dk_at dksX0_spelt_8 17 rfl rfl)
theorem dX0_spelt_204 : decode cX0_spelt 204 = .ok (.pop, 1) := dk_87 (dk_at dksX0_spelt_8 20 rfl rfl)
theorem dX0_spelt_205 : decode cX0_spelt 205 = .ok (.aload_n 1, 1) := dk_43 (dk_at dksX0_spelt_8 21 rfl rfl)
theorem dX0_spelt_206 : decode cX0_spelt 206 = .ok (.aload_n 0, 1) := dk_42 (dk_at dksX0_spelt_8 22 rfl rfl)
theorem dX0_spelt_207 : decode cX0_spelt 207 = .ok (.getfield 179, 3) := dk_180 0 179 (dk_at dksX0_spelt_9 0 rfl rfl)
theorem dX0_spelt_210 : decode cX0_spelt 210 = .ok (.iconst 0, 1) := dk_3 (dk_at dksX0_spelt_9 3 rfl rfl)
theorem dX0_spelt_211 : decode cX0_spelt 211 = .ok (.invokestatic 363, 3) := dk_184 1 107 (dk_at dksX0_spelt_9 4 rfl rfl)
theorem dX0_spelt_214 : decode cX0_spelt 214 = .ok (.aload_n 1, 1) := dk_43 (dk_at dksX0_spelt_9 7 rfl rfl)
theorem dX0_spelt_215 : decode cX0_spelt 215 = .ok (.bipush 59, 2) := dk_16 59 (dk_at dksX0_spelt_9 8 rfl rfl)
theorem dX0_spelt_217 : decode cX0_spelt 217 = .ok (.invokevirtual 335, 3) := dk_182 1 79 (dk_at dksX0_spelt_9 10 rfl rfl)
theorem dX0_spelt_220 : decode cX0_spelt 220 = .ok (.invokevirtual 371, 3) := dk_182 1 115 (dk_at dksX0_spelt_9 13 rfl rfl)
theorem dX0_spelt_223 : decode cX0_spelt 223 = .ok (.areturn, 1) := dk_176 (dk_at dksX0_spelt_9 16 rfl rfl)
abbrev cX0_spells : ByteArray := prog_1_method_51_code
def yX0_spells : MethodName := ⟨RX0, "spells", "(Ljava/lang/StringBuilder;LPrimeProofs$Rows;Z)V"⟩
def dkwX0_spells_3 : List UInt8 := [182, 1, 88, 87, 167, 255, 189, 177]
abbrev dktX0_spells_3 : List UInt8 := dkwX0_spells_3 ++ []
def dkwX0_spells_2 : List UInt8 := [180, 1, 15, 182, 1, 88, 87, 28, 153, 0, 18, 42, 16, 32, 182, 1, 79, 25, 4, 180, 1, 18]
abbrev dktX0_spells_2 : List UInt8 := dkwX0_spells_2 ++ dktX0_spells_3
def dkwX0_spells_1 : List UInt8 := [58, 4, 42, 16, 32, 182, 1, 79, 25, 4, 180, 0, 172, 182, 1, 85, 16, 32, 182, 1, 79, 25, 4]
abbrev dktX0_spells_1 : List UInt8 := dkwX0_spells_1 ++ dktX0_spells_2
def dkwX0_spells_0 : List UInt8 := [43, 182, 0, 158, 78, 45, 185, 0, 162, 1, 0, 153, 0, 64, 45, 185, 0, 168, 1, 0, 192, 0, 49]
abbrev dktX0_spells_0 : List UInt8 := dkwX0_spells_0 ++ dktX0_spells_1
theorem dksX0_spells_0 : cX0_spells.data.toList.drop 0 = dktX0_spells_0 := by decide +kernel
theorem dksX0_spells_1 : cX0_spells.data.toList.drop 23 = dktX0_spells_1 := dk_seg dksX0_spells_0 23 rfl rfl
theorem dksX0_spells_2 : cX0_spells.data.toList.drop 46 = dktX0_spells_2 := dk_seg dksX0_spells_1 23 rfl rfl
theorem dksX0_spells_3 : cX0_spells.data.toList.drop 68 = dktX0_spells_3 := dk_seg dksX0_spells_2 22 rfl rfl
theorem dX0_spells_0 : decode cX0_spells 0 = .ok (.aload_n 1, 1) := dk_43 (dk_at dksX0_spells_0 0 rfl rfl)
theorem dX0_spells_1 : decode cX0_spells 1 = .ok (.invokevirtual 158, 3) := dk_182 0 158 (dk_at dksX0_spells_0 1 rfl rfl)
theorem dX0_spells_4 : decode cX0_spells 4 = .ok (.astore_n 3, 1) := dk_78 (dk_at dksX0_spells_0 4 rfl rfl)
theorem dX0_spells_5 : decode cX0_spells 5 = .ok (.aload_n 3, 1) := dk_45 (dk_at dksX0_spells_0 5 rfl rfl)
theorem dX0_spells_6 : decode cX0_spells 6 = .ok (.invokeinterface 162 1, 5) := by decide +kernel
theorem dX0_spells_11 : decode cX0_spells 11 = .ok (.ifCond .eq 64, 3) := dk_153 0 64 (dk_at dksX0_spells_0 11 rfl rfl)
theorem dX0_spells_14 : decode cX0_spells 14 = .ok (.aload_n 3, 1) := dk_45 (dk_at dksX0_spells_0 14 rfl rfl)
theorem dX0_spells_15 : decode cX0_spells 15 = .ok (.invokeinterface 168 1, 5) := by decide +kernel
theorem dX0_spells_20 : decode cX0_spells 20 = .ok (.checkcast 49, 3) := dk_192 0 49 (dk_at dksX0_spells_0 20 rfl rfl)
theorem dX0_spells_23 : decode cX0_spells 23 = .ok (.astore 4, 2) := dk_58 4 (dk_at dksX0_spells_1 0 rfl rfl)
theorem dX0_spells_25 : decode cX0_spells 25 = .ok (.aload_n 0, 1) := dk_42 (dk_at dksX0_spells_1 2 rfl rfl)
theorem dX0_spells_26 : decode cX0_spells 26 = .ok (.bipush 32, 2) := dk_16 32 (dk_at dksX0_spells_1 3 rfl rfl)
theorem dX0_spells_28 : decode cX0_spells 28 = .ok (.invokevirtual 335, 3) := dk_182 1 79 (dk_at dksX0_spells_1 5 rfl rfl)
theorem dX0_spells_31 : decode cX0_spells 31 = .ok (.aload 4, 2) := dk_25 4 (dk_at dksX0_spells_1 8 rfl rfl)
theorem dX0_spells_33 : decode cX0_spells 33 = .ok (.getfield 172, 3) := dk_180 0 172 (dk_at dksX0_spells_1 10 rfl rfl)
theorem dX0_spells_36 : decode cX0_spells 36 = .ok (.invokevirtual 341, 3) := dk_182 1 85 (dk_at dksX0_spells_1 13 rfl rfl)
theorem dX0_spells_39 : decode cX0_spells 39 = .ok (.bipush 32, 2) := dk_16 32 (dk_at dksX0_spells_1 16 rfl rfl)
theorem dX0_spells_41 : decode cX0_spells 41 = .ok (.invokevirtual 335, 3) := dk_182 1 79 (dk_at dksX0_spells_1 18 rfl rfl)
theorem dX0_spells_44 : decode cX0_spells 44 = .ok (.aload 4, 2) := dk_25 4 (dk_at dksX0_spells_1 21 rfl rfl)
theorem dX0_spells_46 : decode cX0_spells 46 = .ok (.getfield 271, 3) := dk_180 1 15 (dk_at dksX0_spells_2 0 rfl rfl)
theorem dX0_spells_49 : decode cX0_spells 49 = .ok (.invokevirtual 344, 3) := dk_182 1 88 (dk_at dksX0_spells_2 3 rfl rfl)
theorem dX0_spells_52 : decode cX0_spells 52 = .ok (.pop, 1) := dk_87 (dk_at dksX0_spells_2 6 rfl rfl)
theorem dX0_spells_53 : decode cX0_spells 53 = .ok (.iload_n 2, 1) := dk_28 (dk_at dksX0_spells_2 7 rfl rfl)
theorem dX0_spells_54 : decode cX0_spells 54 = .ok (.ifCond .eq 18, 3) := dk_153 0 18 (dk_at dksX0_spells_2 8 rfl rfl)
theorem dX0_spells_57 : decode cX0_spells 57 = .ok (.aload_n 0, 1) := dk_42 (dk_at dksX0_spells_2 11 rfl rfl)
theorem dX0_spells_58 : decode cX0_spells 58 = .ok (.bipush 32, 2) := dk_16 32 (dk_at dksX0_spells_2 12 rfl rfl)
theorem dX0_spells_60 : decode cX0_spells 60 = .ok (.invokevirtual 335, 3) := dk_182 1 79 (dk_at dksX0_spells_2 14 rfl rfl)
theorem dX0_spells_63 : decode cX0_spells 63 = .ok (.aload 4, 2) := dk_25 4 (dk_at dksX0_spells_2 17 rfl rfl)
theorem dX0_spells_65 : decode cX0_spells 65 = .ok (.getfield 274, 3) := dk_180 1 18 (dk_at dksX0_spells_2 19 rfl rfl)
theorem dX0_spells_68 : decode cX0_spells 68 = .ok (.invokevirtual 344, 3) := dk_182 1 88 (dk_at dksX0_spells_3 0 rfl rfl)
theorem dX0_spells_71 : decode cX0_spells 71 = .ok (.pop, 1) := dk_87 (dk_at dksX0_spells_3 3 rfl rfl)
theorem dX0_spells_72 : decode cX0_spells 72 = .ok (.goto (-67), 3) := dk_167 255 189 (dk_at dksX0_spells_3 4 rfl rfl)
theorem dX0_spells_75 : decode cX0_spells 75 = .ok (.return_, 1) := dk_177 (dk_at dksX0_spells_3 7 rfl rfl)
abbrev cX0_proof : ByteArray := prog_1_method_54_code
def yX0_proof : MethodName := ⟨RX0, "proof", "(I)I"⟩
def dkwX0_proof_1 : List UInt8 := [2, 172]
abbrev dktX0_proof_1 : List UInt8 := dkwX0_proof_1 ++ []
def dkwX0_proof_0 : List UInt8 := [27, 133, 184, 0, 206, 153, 0, 19, 42, 27, 133, 42, 180, 0, 91, 182, 0, 110, 182, 0, 186, 167, 0, 4]
abbrev dktX0_proof_0 : List UInt8 := dkwX0_proof_0 ++ dktX0_proof_1
theorem dksX0_proof_0 : cX0_proof.data.toList.drop 0 = dktX0_proof_0 := by decide +kernel
theorem dksX0_proof_1 : cX0_proof.data.toList.drop 24 = dktX0_proof_1 := dk_seg dksX0_proof_0 24 rfl rfl
theorem dX0_proof_0 : decode cX0_proof 0 = .ok (.iload_n 1, 1) := dk_27 (dk_at dksX0_proof_0 0 rfl rfl)
theorem dX0_proof_1 : decode cX0_proof 1 = .ok (.i2l, 1) := dk_133 (dk_at dksX0_proof_0 1 rfl rfl)
theorem dX0_proof_2 : decode cX0_proof 2 = .ok (.invokestatic 206, 3) := dk_184 0 206 (dk_at dksX0_proof_0 2 rfl rfl)
theorem dX0_proof_5 : decode cX0_proof 5 = .ok (.ifCond .eq 19, 3) := dk_153 0 19 (dk_at dksX0_proof_0 5 rfl rfl)
theorem dX0_proof_8 : decode cX0_proof 8 = .ok (.aload_n 0, 1) := dk_42 (dk_at dksX0_proof_0 8 rfl rfl)
theorem dX0_proof_9 : decode cX0_proof 9 = .ok (.iload_n 1, 1) := dk_27 (dk_at dksX0_proof_0 9 rfl rfl)
theorem dX0_proof_10 : decode cX0_proof 10 = .ok (.i2l, 1) := dk_133 (dk_at dksX0_proof_0 10 rfl rfl)
theorem dX0_proof_11 : decode cX0_proof 11 = .ok (.aload_n 0, 1) := dk_42 (dk_at dksX0_proof_0 11 rfl rfl)
theorem dX0_proof_12 : decode cX0_proof 12 = .ok (.getfield 91, 3) := dk_180 0 91 (dk_at dksX0_proof_0 12 rfl rfl)
theorem dX0_proof_15 : decode cX0_proof 15 = .ok (.invokevirtual 110, 3) := dk_182 0 110 (dk_at dksX0_proof_0 15 rfl rfl)
theorem dX0_proof_18 : decode cX0_proof 18 = .ok (.invokevirtual 186, 3) := dk_182 0 186 (dk_at dksX0_proof_0 18 rfl rfl)
theorem dX0_proof_21 : decode cX0_proof 21 = .ok (.goto 4, 3) := dk_167 0 4 (dk_at dksX0_proof_0 21 rfl rfl)
theorem dX0_proof_24 : decode cX0_proof 24 = .ok (.iconst (-1), 1) := dk_2 (dk_at dksX0_proof_1 0 rfl rfl)
theorem dX0_proof_25 : decode cX0_proof 25 = .ok (.ireturn, 1) := dk_172 (dk_at dksX0_proof_1 1 rfl rfl)
abbrev cX0_prime : ByteArray := prog_1_method_55_code
def yX0_prime : MethodName := ⟨RX0, "prime", "(II)I"⟩
def dkwX0_prime_2 : List UInt8 := [180, 0, 172, 136, 167, 0, 4, 2, 172]
abbrev dktX0_prime_2 : List UInt8 := dkwX0_prime_2 ++ []
def dkwX0_prime_1 : List UInt8 := [160, 0, 10, 45, 180, 0, 222, 167, 0, 25, 28, 45, 180, 0, 222, 162, 0, 16, 45, 180, 1, 3, 28, 50]
abbrev dktX0_prime_1 : List UInt8 := dkwX0_prime_1 ++ dktX0_prime_2
def dkwX0_prime_0 : List UInt8 := [27, 133, 184, 0, 206, 153, 0, 8, 28, 2, 162, 0, 5, 2, 172, 27, 133, 184, 1, 132, 78, 28, 2]
abbrev dktX0_prime_0 : List UInt8 := dkwX0_prime_0 ++ dktX0_prime_1
theorem dksX0_prime_0 : cX0_prime.data.toList.drop 0 = dktX0_prime_0 := by decide +kernel
theorem dksX0_prime_1 : cX0_prime.data.toList.drop 23 = dktX0_prime_1 := dk_seg dksX0_prime_0 23 rfl rfl
theorem dksX0_prime_2 : cX0_prime.data.toList.drop 47 = dktX0_prime_2 := dk_seg dksX0_prime_1 24 rfl rfl
theorem dX0_prime_0 : decode cX0_prime 0 = .ok (.iload_n 1, 1) := dk_27 (dk_at dksX0_prime_0 0 rfl rfl)
theorem dX0_prime_1 : decode cX0_prime 1 = .ok (.i2l, 1) := dk_133 (dk_at dksX0_prime_0 1 rfl rfl)
theorem dX0_prime_2 : decode cX0_prime 2 = .ok (.invokestatic 206, 3) := dk_184 0 206 (dk_at dksX0_prime_0 2 rfl rfl)
theorem dX0_prime_5 : decode cX0_prime 5 = .ok (.ifCond .eq 8, 3) := dk_153 0 8 (dk_at dksX0_prime_0 5 rfl rfl)
theorem dX0_prime_8 : decode cX0_prime 8 = .ok (.iload_n 2, 1) := dk_28 (dk_at dksX0_prime_0 8 rfl rfl)
theorem dX0_prime_9 : decode cX0_prime 9 = .ok (.iconst (-1), 1) := dk_2 (dk_at dksX0_prime_0 9 rfl rfl)
theorem dX0_prime_10 : decode cX0_prime 10 = .ok (.if_icmp .ge 5, 3) := dk_162 0 5 (dk_at dksX0_prime_0 10 rfl rfl)
theorem dX0_prime_13 : decode cX0_prime 13 = .ok (.iconst (-1), 1) := dk_2 (dk_at dksX0_prime_0 13 rfl rfl)
theorem dX0_prime_14 : decode cX0_prime 14 = .ok (.ireturn, 1) := dk_172 (dk_at dksX0_prime_0 14 rfl rfl)
theorem dX0_prime_15 : decode cX0_prime 15 = .ok (.iload_n 1, 1) := dk_27 (dk_at dksX0_prime_0 15 rfl rfl)
theorem dX0_prime_16 : decode cX0_prime 16 = .ok (.i2l, 1) := dk_133 (dk_at dksX0_prime_0 16 rfl rfl)
theorem dX0_prime_17 : decode cX0_prime 17 = .ok (.invokestatic 388, 3) := dk_184 1 132 (dk_at dksX0_prime_0 17 rfl rfl)
theorem dX0_prime_20 : decode cX0_prime 20 = .ok (.astore_n 3, 1) := dk_78 (dk_at dksX0_prime_0 20 rfl rfl)
theorem dX0_prime_21 : decode cX0_prime 21 = .ok (.iload_n 2, 1) := dk_28 (dk_at dksX0_prime_0 21 rfl rfl)
theorem dX0_prime_22 : decode cX0_prime 22 = .ok (.iconst (-1), 1) := dk_2 (dk_at dksX0_prime_0 22 rfl rfl)
theorem dX0_prime_23 : decode cX0_prime 23 = .ok (.if_icmp .ne 10, 3) := dk_160 0 10 (dk_at dksX0_prime_1 0 rfl rfl)
theorem dX0_prime_26 : decode cX0_prime 26 = .ok (.aload_n 3, 1) := dk_45 (dk_at dksX0_prime_1 3 rfl rfl)
theorem dX0_prime_27 : decode cX0_prime 27 = .ok (.getfield 222, 3) := dk_180 0 222 (dk_at dksX0_prime_1 4 rfl rfl)
theorem dX0_prime_30 : decode cX0_prime 30 = .ok (.goto 25, 3) := dk_167 0 25 (dk_at dksX0_prime_1 7 rfl rfl)
theorem dX0_prime_33 : decode cX0_prime 33 = .ok (.iload_n 2, 1) := dk_28 (dk_at dksX0_prime_1 10 rfl rfl)
theorem dX0_prime_34 : decode cX0_prime 34 = .ok (.aload_n 3, 1) := dk_45 (dk_at dksX0_prime_1 11 rfl rfl)
theorem dX0_prime_35 : decode cX0_prime 35 = .ok (.getfield 222, 3) := dk_180 0 222 (dk_at dksX0_prime_1 12 rfl rfl)
theorem dX0_prime_38 : decode cX0_prime 38 = .ok (.if_icmp .ge 16, 3) := dk_162 0 16 (dk_at dksX0_prime_1 15 rfl rfl)
theorem dX0_prime_41 : decode cX0_prime 41 = .ok (.aload_n 3, 1) := dk_45 (dk_at dksX0_prime_1 18 rfl rfl)
theorem dX0_prime_42 : decode cX0_prime 42 = .ok (.getfield 259, 3) := dk_180 1 3 (dk_at dksX0_prime_1 19 rfl rfl)
theorem dX0_prime_45 : decode cX0_prime 45 = .ok (.iload_n 2, 1) := dk_28 (dk_at dksX0_prime_1 22 rfl rfl)
theorem dX0_prime_46 : decode cX0_prime 46 = .ok (.aaload, 1) := dk_50 (dk_at dksX0_prime_1 23 rfl rfl)
theorem dX0_prime_47 : decode cX0_prime 47 = .ok (.getfield 172, 3) := dk_180 0 172 (dk_at dksX0_prime_2 0 rfl rfl)
theorem dX0_prime_50 : decode cX0_prime 50 = .ok (.l2i, 1) := dk_136 (dk_at dksX0_prime_2 3 rfl rfl)
theorem dX0_prime_51 : decode cX0_prime 51 = .ok (.goto 4, 3) := dk_167 0 4 (dk_at dksX0_prime_2 4 rfl rfl)
theorem dX0_prime_54 : decode cX0_prime 54 = .ok (.iconst (-1), 1) := dk_2 (dk_at dksX0_prime_2 7 rfl rfl)
theorem dX0_prime_55 : decode cX0_prime 55 = .ok (.ireturn, 1) := dk_172 (dk_at dksX0_prime_2 8 rfl rfl)
abbrev cX0_often : ByteArray := prog_1_method_56_code
def yX0_often : MethodName := ⟨RX0, "often", "(II)I"⟩
def dkwX0_often_1 : List UInt8 := [21, 4, 28, 112, 154, 0, 15, 132, 3, 1, 21, 4, 28, 108, 54, 4, 167, 255, 240, 29, 172]
abbrev dktX0_often_1 : List UInt8 := dkwX0_often_1 ++ []
def dkwX0_often_0 : List UInt8 := [27, 133, 184, 0, 206, 153, 0, 11, 28, 133, 184, 0, 206, 154, 0, 5, 2, 172, 3, 62, 27, 54, 4]
abbrev dktX0_often_0 : List UInt8 := dkwX0_often_0 ++ dktX0_often_1
theorem dksX0_often_0 : cX0_often.data.toList.drop 0 = dktX0_often_0 := by decide +kernel
theorem dksX0_often_1 : cX0_often.data.toList.drop 23 = dktX0_often_1 := dk_seg dksX0_often_0 23 rfl rfl
theorem dX0_often_0 : decode cX0_often 0 = .ok (.iload_n 1, 1) := dk_27 (dk_at dksX0_often_0 0 rfl rfl)
theorem dX0_often_1 : decode cX0_often 1 = .ok (.i2l, 1) := dk_133 (dk_at dksX0_often_0 1 rfl rfl)
theorem dX0_often_2 : decode cX0_often 2 = .ok (.invokestatic 206, 3) := dk_184 0 206 (dk_at dksX0_often_0 2 rfl rfl)
theorem dX0_often_5 : decode cX0_often 5 = .ok (.ifCond .eq 11, 3) := dk_153 0 11 (dk_at dksX0_often_0 5 rfl rfl)
theorem dX0_often_8 : decode cX0_often 8 = .ok (.iload_n 2, 1) := dk_28 (dk_at dksX0_often_0 8 rfl rfl)
theorem dX0_often_9 : decode cX0_often 9 = .ok (.i2l, 1) := dk_133 (dk_at dksX0_often_0 9 rfl rfl)
theorem dX0_often_10 : decode cX0_often 10 = .ok (.invokestatic 206, 3) := dk_184 0 206 (dk_at dksX0_often_0 10 rfl rfl)
theorem dX0_often_13 : decode cX0_often 13 = .ok (.ifCond .ne 5, 3) := dk_154 0 5 (dk_at dksX0_often_0 13 rfl rfl)
theorem dX0_often_16 : decode cX0_often 16 = .ok (.iconst (-1), 1) := dk_2 (dk_at dksX0_often_0 16 rfl rfl)
theorem dX0_often_17 : decode cX0_often 17 = .ok (.ireturn, 1) := dk_172 (dk_at dksX0_often_0 17 rfl rfl)
theorem dX0_often_18 : decode cX0_often 18 = .ok (.iconst 0, 1) := dk_3 (dk_at dksX0_often_0 18 rfl rfl)
theorem dX0_often_19 : decode cX0_often 19 = .ok (.istore_n 3, 1) := dk_62 (dk_at dksX0_often_0 19 rfl rfl)
theorem dX0_often_20 : decode cX0_often 20 = .ok (.iload_n 1, 1) := dk_27 (dk_at dksX0_often_0 20 rfl rfl)
theorem dX0_often_21 : decode cX0_often 21 = .ok (.istore 4, 2) := dk_54 4 (dk_at dksX0_often_0 21 rfl rfl)
theorem dX0_often_23 : decode cX0_often 23 = .ok (.iload 4, 2) := dk_21 4 (dk_at dksX0_often_1 0 rfl rfl)
theorem dX0_often_25 : decode cX0_often 25 = .ok (.iload_n 2, 1) := dk_28 (dk_at dksX0_often_1 2 rfl rfl)
theorem dX0_often_26 : decode cX0_often 26 = .ok (.irem, 1) := dk_112 (dk_at dksX0_often_1 3 rfl rfl)
theorem dX0_often_27 : decode cX0_often 27 = .ok (.ifCond .ne 15, 3) := dk_154 0 15 (dk_at dksX0_often_1 4 rfl rfl)
theorem dX0_often_30 : decode cX0_often 30 = .ok (.iinc 3 1, 3) := dk_132 3 1 (dk_at dksX0_often_1 7 rfl rfl)
theorem dX0_often_33 : decode cX0_often 33 = .ok (.iload 4, 2) := dk_21 4 (dk_at dksX0_often_1 10 rfl rfl)
theorem dX0_often_35 : decode cX0_often 35 = .ok (.iload_n 2, 1) := dk_28 (dk_at dksX0_often_1 12 rfl rfl)
theorem dX0_often_36 : decode cX0_often 36 = .ok (.idiv, 1) := dk_108 (dk_at dksX0_often_1 13 rfl rfl)
theorem dX0_often_37 : decode cX0_often 37 = .ok (.istore 4, 2) := dk_54 4 (dk_at dksX0_often_1 14 rfl rfl)
theorem dX0_often_39 : decode cX0_often 39 = .ok (.goto (-16), 3) := dk_167 255 240 (dk_at dksX0_often_1 16 rfl rfl)
theorem dX0_often_42 : decode cX0_often 42 = .ok (.iload_n 3, 1) := dk_29 (dk_at dksX0_often_1 19 rfl rfl)
theorem dX0_often_43 : decode cX0_often 43 = .ok (.ireturn, 1) := dk_172 (dk_at dksX0_often_1 20 rfl rfl)
abbrev cX0_fewest : ByteArray := prog_1_method_57_code
def yX0_fewest : MethodName := ⟨RX0, "fewest", "(I)I"⟩
def dkwX0_fewest_2 : List UInt8 := [132, 3, 1, 167, 255, 231, 28, 172]
abbrev dktX0_fewest_2 : List UInt8 := dkwX0_fewest_2 ++ []
def dkwX0_fewest_1 : List UInt8 := [5, 62, 29, 7, 163, 0, 26, 42, 27, 29, 182, 1, 136, 42, 27, 28, 182, 1, 136, 162, 0, 5, 29, 61]
abbrev dktX0_fewest_1 : List UInt8 := dkwX0_fewest_1 ++ dktX0_fewest_2
def dkwX0_fewest_0 : List UInt8 := [27, 133, 184, 0, 206, 154, 0, 5, 2, 172, 27, 133, 4, 184, 0, 212, 154, 0, 6, 16, 254, 172, 4, 61]
abbrev dktX0_fewest_0 : List UInt8 := dkwX0_fewest_0 ++ dktX0_fewest_1
theorem dksX0_fewest_0 : cX0_fewest.data.toList.drop 0 = dktX0_fewest_0 := by decide +kernel
theorem dksX0_fewest_1 : cX0_fewest.data.toList.drop 24 = dktX0_fewest_1 := dk_seg dksX0_fewest_0 24 rfl rfl
theorem dksX0_fewest_2 : cX0_fewest.data.toList.drop 48 = dktX0_fewest_2 := dk_seg dksX0_fewest_1 24 rfl rfl
theorem dX0_fewest_0 : decode cX0_fewest 0 = .ok (.iload_n 1, 1) := dk_27 (dk_at dksX0_fewest_0 0 rfl rfl)
theorem dX0_fewest_1 : decode cX0_fewest 1 = .ok (.i2l, 1) := dk_133 (dk_at dksX0_fewest_0 1 rfl rfl)
theorem dX0_fewest_2 : decode cX0_fewest 2 = .ok (.invokestatic 206, 3) := dk_184 0 206 (dk_at dksX0_fewest_0 2 rfl rfl)
theorem dX0_fewest_5 : decode cX0_fewest 5 = .ok (.ifCond .ne 5, 3) := dk_154 0 5 (dk_at dksX0_fewest_0 5 rfl rfl)
theorem dX0_fewest_8 : decode cX0_fewest 8 = .ok (.iconst (-1), 1) := dk_2 (dk_at dksX0_fewest_0 8 rfl rfl)
theorem dX0_fewest_9 : decode cX0_fewest 9 = .ok (.ireturn, 1) := dk_172 (dk_at dksX0_fewest_0 9 rfl rfl)
theorem dX0_fewest_10 : decode cX0_fewest 10 = .ok (.iload_n 1, 1) := dk_27 (dk_at dksX0_fewest_0 10 rfl rfl)
theorem dX0_fewest_11 : decode cX0_fewest 11 = .ok (.i2l, 1) := dk_133 (dk_at dksX0_fewest_0 11 rfl rfl)
theorem dX0_fewest_12 : decode cX0_fewest 12 = .ok (.iconst 1, 1) := dk_4 (dk_at dksX0_fewest_0 12 rfl rfl)
theorem dX0_fewest_13 : decode cX0_fewest 13 = .ok (.invokestatic 212, 3) := dk_184 0 212 (dk_at dksX0_fewest_0 13 rfl rfl)
theorem dX0_fewest_16 : decode cX0_fewest 16 = .ok (.ifCond .ne 6, 3) := dk_154 0 6 (dk_at dksX0_fewest_0 16 rfl rfl)
theorem dX0_fewest_19 : decode cX0_fewest 19 = .ok (.bipush (-2), 2) := dk_16 254 (dk_at dksX0_fewest_0 19 rfl rfl)
theorem dX0_fewest_21 : decode cX0_fewest 21 = .ok (.ireturn, 1) := dk_172 (dk_at dksX0_fewest_0 21 rfl rfl)
theorem dX0_fewest_22 : decode cX0_fewest 22 = .ok (.iconst 1, 1) := dk_4 (dk_at dksX0_fewest_0 22 rfl rfl)
theorem dX0_fewest_23 : decode cX0_fewest 23 = .ok (.istore_n 2, 1) := dk_61 (dk_at dksX0_fewest_0 23 rfl rfl)
theorem dX0_fewest_24 : decode cX0_fewest 24 = .ok (.iconst 2, 1) := dk_5 (dk_at dksX0_fewest_1 0 rfl rfl)
theorem dX0_fewest_25 : decode cX0_fewest 25 = .ok (.istore_n 3, 1) := dk_62 (dk_at dksX0_fewest_1 1 rfl rfl)
theorem dX0_fewest_26 : decode cX0_fewest 26 = .ok (.iload_n 3, 1) := dk_29 (dk_at dksX0_fewest_1 2 rfl rfl)
theorem dX0_fewest_27 : decode cX0_fewest 27 = .ok (.iconst 4, 1) := dk_7 (dk_at dksX0_fewest_1 3 rfl rfl)
theorem dX0_fewest_28 : decode cX0_fewest 28 = .ok (.if_icmp .gt 26, 3) := dk_163 0 26 (dk_at dksX0_fewest_1 4 rfl rfl)
theorem dX0_fewest_31 : decode cX0_fewest 31 = .ok (.aload_n 0, 1) := dk_42 (dk_at dksX0_fewest_1 7 rfl rfl)
theorem dX0_fewest_32 : decode cX0_fewest 32 = .ok (.iload_n 1, 1) := dk_27 (dk_at dksX0_fewest_1 8 rfl rfl)
theorem dX0_fewest_33 : decode cX0_fewest 33 = .ok (.iload_n 3, 1) := dk_29 (dk_at dksX0_fewest_1 9 rfl rfl)
theorem dX0_fewest_34 : decode cX0_fewest 34 = .ok (.invokevirtual 392, 3) := dk_182 1 136 (dk_at dksX0_fewest_1 10 rfl rfl)
theorem dX0_fewest_37 : decode cX0_fewest 37 = .ok (.aload_n 0, 1) := dk_42 (dk_at dksX0_fewest_1 13 rfl rfl)
theorem dX0_fewest_38 : decode cX0_fewest 38 = .ok (.iload_n 1, 1) := dk_27 (dk_at dksX0_fewest_1 14 rfl rfl)
theorem dX0_fewest_39 : decode cX0_fewest 39 = .ok (.iload_n 2, 1) := dk_28 (dk_at dksX0_fewest_1 15 rfl rfl)
theorem dX0_fewest_40 : decode cX0_fewest 40 = .ok (.invokevirtual 392, 3) := dk_182 1 136 (dk_at dksX0_fewest_1 16 rfl rfl)
theorem dX0_fewest_43 : decode cX0_fewest 43 = .ok (.if_icmp .ge 5, 3) := dk_162 0 5 (dk_at dksX0_fewest_1 19 rfl rfl)
theorem dX0_fewest_46 : decode cX0_fewest 46 = .ok (.iload_n 3, 1) := dk_29 (dk_at dksX0_fewest_1 22 rfl rfl)
theorem dX0_fewest_47 : decode cX0_fewest 47 = .ok (.istore_n 2, 1) := dk_61 (dk_at dksX0_fewest_1 23 rfl rfl)
theorem dX0_fewest_48 : decode cX0_fewest 48 = .ok (.iinc 3 1, 3) := dk_132 3 1 (dk_at dksX0_fewest_2 0 rfl rfl)
theorem dX0_fewest_51 : decode cX0_fewest 51 = .ok (.goto (-25), 3) := dk_167 255 231 (dk_at dksX0_fewest_2 3 rfl rfl)
theorem dX0_fewest_54 : decode cX0_fewest 54 = .ok (.iload_n 2, 1) := dk_28 (dk_at dksX0_fewest_2 6 rfl rfl)
theorem dX0_fewest_55 : decode cX0_fewest 55 = .ok (.ireturn, 1) := dk_172 (dk_at dksX0_fewest_2 7 rfl rfl)
abbrev cX0_rowsFor : ByteArray := prog_1_method_58_code
def yX0_rowsFor : MethodName := ⟨RX0, "rowsFor", "(II)I"⟩
def dkwX0_rowsFor_0 : List UInt8 := [42, 27, 28, 182, 1, 139, 16, 10, 108, 42, 27, 28, 182, 1, 139, 16, 10, 112, 96, 172]
abbrev dktX0_rowsFor_0 : List UInt8 := dkwX0_rowsFor_0 ++ []
theorem dksX0_rowsFor_0 : cX0_rowsFor.data.toList.drop 0 = dktX0_rowsFor_0 := by decide +kernel
theorem dX0_rowsFor_0 : decode cX0_rowsFor 0 = .ok (.aload_n 0, 1) := dk_42 (dk_at dksX0_rowsFor_0 0 rfl rfl)
theorem dX0_rowsFor_1 : decode cX0_rowsFor 1 = .ok (.iload_n 1, 1) := dk_27 (dk_at dksX0_rowsFor_0 1 rfl rfl)
theorem dX0_rowsFor_2 : decode cX0_rowsFor 2 = .ok (.iload_n 2, 1) := dk_28 (dk_at dksX0_rowsFor_0 2 rfl rfl)
theorem dX0_rowsFor_3 : decode cX0_rowsFor 3 = .ok (.invokevirtual 395, 3) := dk_182 1 139 (dk_at dksX0_rowsFor_0 3 rfl rfl)
theorem dX0_rowsFor_6 : decode cX0_rowsFor 6 = .ok (.bipush 10, 2) := dk_16 10 (dk_at dksX0_rowsFor_0 6 rfl rfl)
theorem dX0_rowsFor_8 : decode cX0_rowsFor 8 = .ok (.idiv, 1) := dk_108 (dk_at dksX0_rowsFor_0 8 rfl rfl)
theorem dX0_rowsFor_9 : decode cX0_rowsFor 9 = .ok (.aload_n 0, 1) := dk_42 (dk_at dksX0_rowsFor_0 9 rfl rfl)
theorem dX0_rowsFor_10 : decode cX0_rowsFor 10 = .ok (.iload_n 1, 1) := dk_27 (dk_at dksX0_rowsFor_0 10 rfl rfl)
theorem dX0_rowsFor_11 : decode cX0_rowsFor 11 = .ok (.iload_n 2, 1) := dk_28 (dk_at dksX0_rowsFor_0 11 rfl rfl)
theorem dX0_rowsFor_12 : decode cX0_rowsFor 12 = .ok (.invokevirtual 395, 3) := dk_182 1 139 (dk_at dksX0_rowsFor_0 12 rfl rfl)
theorem dX0_rowsFor_15 : decode cX0_rowsFor 15 = .ok (.bipush 10, 2) := dk_16 10 (dk_at dksX0_rowsFor_0 15 rfl rfl)
theorem dX0_rowsFor_17 : decode cX0_rowsFor 17 = .ok (.irem, 1) := dk_112 (dk_at dksX0_rowsFor_0 17 rfl rfl)
theorem dX0_rowsFor_18 : decode cX0_rowsFor 18 = .ok (.iadd, 1) := dk_96 (dk_at dksX0_rowsFor_0 18 rfl rfl)
theorem dX0_rowsFor_19 : decode cX0_rowsFor 19 = .ok (.ireturn, 1) := dk_172 (dk_at dksX0_rowsFor_0 19 rfl rfl)
abbrev cX0_next : ByteArray := prog_1_method_59_code
def yX0_next : MethodName := ⟨RX0, "next", "(I)I"⟩
def dkwX0_next_1 : List UInt8 := [154, 0, 9, 132, 2, 1, 167, 255, 245, 28, 172]
abbrev dktX0_next_1 : List UInt8 := dkwX0_next_1 ++ []
def dkwX0_next_0 : List UInt8 := [27, 133, 9, 20, 1, 142, 184, 0, 7, 154, 0, 5, 2, 172, 27, 4, 96, 61, 28, 133, 184, 0, 203]
abbrev dktX0_next_0 : List UInt8 := dkwX0_next_0 ++ dktX0_next_1
theorem dksX0_next_0 : cX0_next.data.toList.drop 0 = dktX0_next_0 := by decide +kernel
theorem dksX0_next_1 : cX0_next.data.toList.drop 23 = dktX0_next_1 := dk_seg dksX0_next_0 23 rfl rfl
theorem dX0_next_0 : decode cX0_next 0 = .ok (.iload_n 1, 1) := dk_27 (dk_at dksX0_next_0 0 rfl rfl)
theorem dX0_next_1 : decode cX0_next 1 = .ok (.i2l, 1) := dk_133 (dk_at dksX0_next_0 1 rfl rfl)
theorem dX0_next_2 : decode cX0_next 2 = .ok (.lconst 0, 1) := dk_9 (dk_at dksX0_next_0 2 rfl rfl)
theorem dX0_next_3 : decode cX0_next 3 = .ok (.ldc2_w 398, 3) := dk_20 1 142 (dk_at dksX0_next_0 3 rfl rfl)
theorem dX0_next_6 : decode cX0_next 6 = .ok (.invokestatic 7, 3) := dk_184 0 7 (dk_at dksX0_next_0 6 rfl rfl)
theorem dX0_next_9 : decode cX0_next 9 = .ok (.ifCond .ne 5, 3) := dk_154 0 5 (dk_at dksX0_next_0 9 rfl rfl)
theorem dX0_next_12 : decode cX0_next 12 = .ok (.iconst (-1), 1) := dk_2 (dk_at dksX0_next_0 12 rfl rfl)
theorem dX0_next_13 : decode cX0_next 13 = .ok (.ireturn, 1) := dk_172 (dk_at dksX0_next_0 13 rfl rfl)
theorem dX0_next_14 : decode cX0_next 14 = .ok (.iload_n 1, 1) := dk_27 (dk_at dksX0_next_0 14 rfl rfl)
theorem dX0_next_15 : decode cX0_next 15 = .ok (.iconst 1, 1) := dk_4 (dk_at dksX0_next_0 15 rfl rfl)
theorem dX0_next_16 : decode cX0_next 16 = .ok (.iadd, 1) := dk_96 (dk_at dksX0_next_0 16 rfl rfl)
theorem dX0_next_17 : decode cX0_next 17 = .ok (.istore_n 2, 1) := dk_61 (dk_at dksX0_next_0 17 rfl rfl)
theorem dX0_next_18 : decode cX0_next 18 = .ok (.iload_n 2, 1) := dk_28 (dk_at dksX0_next_0 18 rfl rfl)
theorem dX0_next_19 : decode cX0_next 19 = .ok (.i2l, 1) := dk_133 (dk_at dksX0_next_0 19 rfl rfl)
theorem dX0_next_20 : decode cX0_next 20 = .ok (.invokestatic 203, 3) := dk_184 0 203 (dk_at dksX0_next_0 20 rfl rfl)
theorem dX0_next_23 : decode cX0_next 23 = .ok (.ifCond .ne 9, 3) := dk_154 0 9 (dk_at dksX0_next_1 0 rfl rfl)
theorem dX0_next_26 : decode cX0_next 26 = .ok (.iinc 2 1, 3) := dk_132 2 1 (dk_at dksX0_next_1 3 rfl rfl)
theorem dX0_next_29 : decode cX0_next 29 = .ok (.goto (-11), 3) := dk_167 255 245 (dk_at dksX0_next_1 6 rfl rfl)
theorem dX0_next_32 : decode cX0_next 32 = .ok (.iload_n 2, 1) := dk_28 (dk_at dksX0_next_1 9 rfl rfl)
theorem dX0_next_33 : decode cX0_next 33 = .ok (.ireturn, 1) := dk_172 (dk_at dksX0_next_1 10 rfl rfl)
abbrev cX0_smooth : ByteArray := prog_1_method_61_code
def yX0_smooth : MethodName := ⟨RX0, "smooth", "(II)I"⟩
def dkwX0_smooth_1 : List UInt8 := [172]
abbrev dktX0_smooth_1 : List UInt8 := dkwX0_smooth_1 ++ []
def dkwX0_smooth_0 : List UInt8 := [27, 133, 184, 0, 206, 153, 0, 18, 28, 155, 0, 14, 27, 133, 28, 133, 184, 1, 144, 136, 167, 0, 4, 2]
abbrev dktX0_smooth_0 : List UInt8 := dkwX0_smooth_0 ++ dktX0_smooth_1
theorem dksX0_smooth_0 : cX0_smooth.data.toList.drop 0 = dktX0_smooth_0 := by decide +kernel
theorem dksX0_smooth_1 : cX0_smooth.data.toList.drop 24 = dktX0_smooth_1 := dk_seg dksX0_smooth_0 24 rfl rfl
theorem dX0_smooth_0 : decode cX0_smooth 0 = .ok (.iload_n 1, 1) := dk_27 (dk_at dksX0_smooth_0 0 rfl rfl)
theorem dX0_smooth_1 : decode cX0_smooth 1 = .ok (.i2l, 1) := dk_133 (dk_at dksX0_smooth_0 1 rfl rfl)
theorem dX0_smooth_2 : decode cX0_smooth 2 = .ok (.invokestatic 206, 3) := dk_184 0 206 (dk_at dksX0_smooth_0 2 rfl rfl)
theorem dX0_smooth_5 : decode cX0_smooth 5 = .ok (.ifCond .eq 18, 3) := dk_153 0 18 (dk_at dksX0_smooth_0 5 rfl rfl)
theorem dX0_smooth_8 : decode cX0_smooth 8 = .ok (.iload_n 2, 1) := dk_28 (dk_at dksX0_smooth_0 8 rfl rfl)
theorem dX0_smooth_9 : decode cX0_smooth 9 = .ok (.ifCond .lt 14, 3) := dk_155 0 14 (dk_at dksX0_smooth_0 9 rfl rfl)
theorem dX0_smooth_12 : decode cX0_smooth 12 = .ok (.iload_n 1, 1) := dk_27 (dk_at dksX0_smooth_0 12 rfl rfl)
theorem dX0_smooth_13 : decode cX0_smooth 13 = .ok (.i2l, 1) := dk_133 (dk_at dksX0_smooth_0 13 rfl rfl)
theorem dX0_smooth_14 : decode cX0_smooth 14 = .ok (.iload_n 2, 1) := dk_28 (dk_at dksX0_smooth_0 14 rfl rfl)
theorem dX0_smooth_15 : decode cX0_smooth 15 = .ok (.i2l, 1) := dk_133 (dk_at dksX0_smooth_0 15 rfl rfl)
theorem dX0_smooth_16 : decode cX0_smooth 16 = .ok (.invokestatic 400, 3) := dk_184 1 144 (dk_at dksX0_smooth_0 16 rfl rfl)
theorem dX0_smooth_19 : decode cX0_smooth 19 = .ok (.l2i, 1) := dk_136 (dk_at dksX0_smooth_0 19 rfl rfl)
theorem dX0_smooth_20 : decode cX0_smooth 20 = .ok (.goto 4, 3) := dk_167 0 4 (dk_at dksX0_smooth_0 20 rfl rfl)
theorem dX0_smooth_23 : decode cX0_smooth 23 = .ok (.iconst (-1), 1) := dk_2 (dk_at dksX0_smooth_0 23 rfl rfl)
theorem dX0_smooth_24 : decode cX0_smooth 24 = .ok (.ireturn, 1) := dk_172 (dk_at dksX0_smooth_1 0 rfl rfl)
abbrev cX0_smoothOf : ByteArray := prog_1_method_60_code
def yX0_smoothOf : MethodName := ⟨RX0, "smoothOf", "(JJ)J"⟩
def dkwX0_smoothOf_3 : List UInt8 := [167, 255, 223, 167, 255, 195, 22, 4, 173]
abbrev dktX0_smoothOf_3 : List UInt8 := dkwX0_smoothOf_3 ++ []
def dkwX0_smoothOf_2 : List UInt8 := [25, 7, 180, 0, 172, 32, 148, 157, 0, 19, 22, 4, 25, 7, 180, 0, 172, 105, 55, 4, 132, 8, 1]
abbrev dktX0_smoothOf_2 : List UInt8 := dkwX0_smoothOf_2 ++ dktX0_smoothOf_3
def dkwX0_smoothOf_1 : List UInt8 := [185, 0, 168, 1, 0, 192, 0, 49, 58, 7, 3, 54, 8, 21, 8, 25, 7, 180, 1, 15, 162, 0, 29]
abbrev dktX0_smoothOf_1 : List UInt8 := dkwX0_smoothOf_1 ++ dktX0_smoothOf_2
def dkwX0_smoothOf_0 : List UInt8 := [10, 55, 4, 30, 184, 1, 132, 182, 0, 158, 58, 6, 25, 6, 185, 0, 162, 1, 0, 153, 0, 57, 25, 6]
abbrev dktX0_smoothOf_0 : List UInt8 := dkwX0_smoothOf_0 ++ dktX0_smoothOf_1
theorem dksX0_smoothOf_0 : cX0_smoothOf.data.toList.drop 0 = dktX0_smoothOf_0 := by decide +kernel
theorem dksX0_smoothOf_1 : cX0_smoothOf.data.toList.drop 24 = dktX0_smoothOf_1 := dk_seg dksX0_smoothOf_0 24 rfl rfl
theorem dksX0_smoothOf_2 : cX0_smoothOf.data.toList.drop 47 = dktX0_smoothOf_2 := dk_seg dksX0_smoothOf_1 23 rfl rfl
theorem dksX0_smoothOf_3 : cX0_smoothOf.data.toList.drop 70 = dktX0_smoothOf_3 := dk_seg dksX0_smoothOf_2 23 rfl rfl
theorem dX0_smoothOf_0 : decode cX0_smoothOf 0 = .ok (.lconst 1, 1) := dk_10 (dk_at dksX0_smoothOf_0 0 rfl rfl)
theorem dX0_smoothOf_1 : decode cX0_smoothOf 1 = .ok (.lstore 4, 2) := dk_55 4 (dk_at dksX0_smoothOf_0 1 rfl rfl)
theorem dX0_smoothOf_3 : decode cX0_smoothOf 3 = .ok (.lload_n 0, 1) := dk_30 (dk_at dksX0_smoothOf_0 3 rfl rfl)
theorem dX0_smoothOf_4 : decode cX0_smoothOf 4 = .ok (.invokestatic 388, 3) := dk_184 1 132 (dk_at dksX0_smoothOf_0 4 rfl rfl)
theorem dX0_smoothOf_7 : decode cX0_smoothOf 7 = .ok (.invokevirtual 158, 3) := dk_182 0 158 (dk_at dksX0_smoothOf_0 7 rfl rfl)
theorem dX0_smoothOf_10 : decode cX0_smoothOf 10 = .ok (.astore 6, 2) := dk_58 6 (dk_at dksX0_smoothOf_0 10 rfl rfl)
theorem dX0_smoothOf_12 : decode cX0_smoothOf 12 = .ok (.aload 6, 2) := dk_25 6 (dk_at dksX0_smoothOf_0 12 rfl rfl)
theorem dX0_smoothOf_14 : decode cX0_smoothOf 14 = .ok (.invokeinterface 162 1, 5) := by decide +kernel
theorem dX0_smoothOf_19 : decode cX0_smoothOf 19 = .ok (.ifCond .eq 57, 3) := dk_153 0 57 (dk_at dksX0_smoothOf_0 19 rfl rfl)
theorem dX0_smoothOf_22 : decode cX0_smoothOf 22 = .ok (.aload 6, 2) := dk_25 6 (dk_at dksX0_smoothOf_0 22 rfl rfl)
theorem dX0_smoothOf_24 : decode cX0_smoothOf 24 = .ok (.invokeinterface 168 1, 5) := by decide +kernel
theorem dX0_smoothOf_29 : decode cX0_smoothOf 29 = .ok (.checkcast 49, 3) := dk_192 0 49 (dk_at dksX0_smoothOf_1 5 rfl rfl)
theorem dX0_smoothOf_32 : decode cX0_smoothOf 32 = .ok (.astore 7, 2) := dk_58 7 (dk_at dksX0_smoothOf_1 8 rfl rfl)
theorem dX0_smoothOf_34 : decode cX0_smoothOf 34 = .ok (.iconst 0, 1) := dk_3 (dk_at dksX0_smoothOf_1 10 rfl rfl)
theorem dX0_smoothOf_35 : decode cX0_smoothOf 35 = .ok (.istore 8, 2) := dk_54 8 (dk_at dksX0_smoothOf_1 11 rfl rfl)
theorem dX0_smoothOf_37 : decode cX0_smoothOf 37 = .ok (.iload 8, 2) := dk_21 8 (dk_at dksX0_smoothOf_1 13 rfl rfl)
theorem dX0_smoothOf_39 : decode cX0_smoothOf 39 = .ok (.aload 7, 2) := dk_25 7 (dk_at dksX0_smoothOf_1 15 rfl rfl)
theorem dX0_smoothOf_41 : decode cX0_smoothOf 41 = .ok (.getfield 271, 3) := dk_180 1 15 (dk_at dksX0_smoothOf_1 17 rfl rfl)
theorem dX0_smoothOf_44 : decode cX0_smoothOf 44 = .ok (.if_icmp .ge 29, 3) := dk_162 0 29 (dk_at dksX0_smoothOf_1 20 rfl rfl)
theorem dX0_smoothOf_47 : decode cX0_smoothOf 47 = .ok (.aload 7, 2) := dk_25 7 (dk_at dksX0_smoothOf_2 0 rfl rfl)
theorem dX0_smoothOf_49 : decode cX0_smoothOf 49 = .ok (.getfield 172, 3) := dk_180 0 172 (dk_at dksX0_smoothOf_2 2 rfl rfl)
theorem dX0_smoothOf_52 : decode cX0_smoothOf 52 = .ok (.lload_n 2, 1) := dk_32 (dk_at dksX0_smoothOf_2 5 rfl rfl)
theorem dX0_smoothOf_53 : decode cX0_smoothOf 53 = .ok (.lcmp, 1) := dk_148 (dk_at dksX0_smoothOf_2 6 rfl rfl)
theorem dX0_smoothOf_54 : decode cX0_smoothOf 54 = .ok (.ifCond .gt 19, 3) := dk_157 0 19 (dk_at dksX0_smoothOf_2 7 rfl rfl)
theorem dX0_smoothOf_57 : decode cX0_smoothOf 57 = .ok (.lload 4, 2) := dk_22 4 (dk_at dksX0_smoothOf_2 10 rfl rfl)
theorem dX0_smoothOf_59 : decode cX0_smoothOf 59 = .ok (.aload 7, 2) := dk_25 7 (dk_at dksX0_smoothOf_2 12 rfl rfl)
theorem dX0_smoothOf_61 : decode cX0_smoothOf 61 = .ok (.getfield 172, 3) := dk_180 0 172 (dk_at dksX0_smoothOf_2 14 rfl rfl)
theorem dX0_smoothOf_64 : decode cX0_smoothOf 64 = .ok (.lmul, 1) := dk_105 (dk_at dksX0_smoothOf_2 17 rfl rfl)
theorem dX0_smoothOf_65 : decode cX0_smoothOf 65 = .ok (.lstore 4, 2) := dk_55 4 (dk_at dksX0_smoothOf_2 18 rfl rfl)
theorem dX0_smoothOf_67 : decode cX0_smoothOf 67 = .ok (.iinc 8 1, 3) := dk_132 8 1 (dk_at dksX0_smoothOf_2 20 rfl rfl)
theorem dX0_smoothOf_70 : decode cX0_smoothOf 70 = .ok (.goto (-33), 3) := dk_167 255 223 (dk_at dksX0_smoothOf_3 0 rfl rfl)
theorem dX0_smoothOf_73 : decode cX0_smoothOf 73 = .ok (.goto (-61), 3) := dk_167 255 195 (dk_at dksX0_smoothOf_3 3 rfl rfl)
theorem dX0_smoothOf_76 : decode cX0_smoothOf 76 = .ok (.lload 4, 2) := dk_22 4 (dk_at dksX0_smoothOf_3 6 rfl rfl)
theorem dX0_smoothOf_78 : decode cX0_smoothOf 78 = .ok (.lreturn, 1) := dk_173 (dk_at dksX0_smoothOf_3 8 rfl rfl)
abbrev cX0_bound : ByteArray := prog_1_method_62_code
def yX0_bound : MethodName := ⟨RX0, "bound", "(I)I"⟩
def dkwX0_bound_3 : List UInt8 := [148, 158, 0, 9, 45, 180, 0, 172, 136, 172, 167, 255, 202, 2, 172]
abbrev dktX0_bound_3 : List UInt8 := dkwX0_bound_3 ++ []
def dkwX0_bound_2 : List UInt8 := [4, 100, 133, 45, 180, 0, 172, 184, 1, 144, 27, 4, 100, 133, 45, 180, 0, 172, 184, 1, 144, 105, 27, 133]
abbrev dktX0_bound_2 : List UInt8 := dkwX0_bound_2 ++ dktX0_bound_3
def dkwX0_bound_1 : List UInt8 := [182, 0, 158, 77, 44, 185, 0, 162, 1, 0, 153, 0, 51, 44, 185, 0, 168, 1, 0, 192, 0, 49, 78, 27]
abbrev dktX0_bound_1 : List UInt8 := dkwX0_bound_1 ++ dktX0_bound_2
def dkwX0_bound_0 : List UInt8 := [27, 133, 184, 0, 206, 153, 0, 8, 27, 6, 162, 0, 5, 2, 172, 27, 4, 100, 133, 184, 1, 132]
abbrev dktX0_bound_0 : List UInt8 := dkwX0_bound_0 ++ dktX0_bound_1
theorem dksX0_bound_0 : cX0_bound.data.toList.drop 0 = dktX0_bound_0 := by decide +kernel
theorem dksX0_bound_1 : cX0_bound.data.toList.drop 22 = dktX0_bound_1 := dk_seg dksX0_bound_0 22 rfl rfl
theorem dksX0_bound_2 : cX0_bound.data.toList.drop 46 = dktX0_bound_2 := dk_seg dksX0_bound_1 24 rfl rfl
theorem dksX0_bound_3 : cX0_bound.data.toList.drop 70 = dktX0_bound_3 := dk_seg dksX0_bound_2 24 rfl rfl
theorem dX0_bound_0 : decode cX0_bound 0 = .ok (.iload_n 1, 1) := dk_27 (dk_at dksX0_bound_0 0 rfl rfl)
theorem dX0_bound_1 : decode cX0_bound 1 = .ok (.i2l, 1) := dk_133 (dk_at dksX0_bound_0 1 rfl rfl)
theorem dX0_bound_2 : decode cX0_bound 2 = .ok (.invokestatic 206, 3) := dk_184 0 206 (dk_at dksX0_bound_0 2 rfl rfl)
theorem dX0_bound_5 : decode cX0_bound 5 = .ok (.ifCond .eq 8, 3) := dk_153 0 8 (dk_at dksX0_bound_0 5 rfl rfl)
theorem dX0_bound_8 : decode cX0_bound 8 = .ok (.iload_n 1, 1) := dk_27 (dk_at dksX0_bound_0 8 rfl rfl)
theorem dX0_bound_9 : decode cX0_bound 9 = .ok (.iconst 3, 1) := dk_6 (dk_at dksX0_bound_0 9 rfl rfl)
theorem dX0_bound_10 : decode cX0_bound 10 = .ok (.if_icmp .ge 5, 3) := dk_162 0 5 (dk_at dksX0_bound_0 10 rfl rfl)
theorem dX0_bound_13 : decode cX0_bound 13 = .ok (.iconst (-1), 1) := dk_2 (dk_at dksX0_bound_0 13 rfl rfl)
theorem dX0_bound_14 : decode cX0_bound 14 = .ok (.ireturn, 1) := dk_172 (dk_at dksX0_bound_0 14 rfl rfl)
theorem dX0_bound_15 : decode cX0_bound 15 = .ok (.iload_n 1, 1) := dk_27 (dk_at dksX0_bound_0 15 rfl rfl)
theorem dX0_bound_16 : decode cX0_bound 16 = .ok (.iconst 1, 1) := dk_4 (dk_at dksX0_bound_0 16 rfl rfl)
theorem dX0_bound_17 : decode cX0_bound 17 = .ok (.isub, 1) := dk_100 (dk_at dksX0_bound_0 17 rfl rfl)
theorem dX0_bound_18 : decode cX0_bound 18 = .ok (.i2l, 1) := dk_133 (dk_at dksX0_bound_0 18 rfl rfl)
theorem dX0_bound_19 : decode cX0_bound 19 = .ok (.invokestatic 388, 3) := dk_184 1 132 (dk_at dksX0_bound_0 19 rfl rfl)
theorem dX0_bound_22 : decode cX0_bound 22 = .ok (.invokevirtual 158, 3) := dk_182 0 158 (dk_at dksX0_bound_1 0 rfl rfl)
theorem dX0_bound_25 : decode cX0_bound 25 = .ok (.astore_n 2, 1) := dk_77 (dk_at dksX0_bound_1 3 rfl rfl)
theorem dX0_bound_26 : decode cX0_bound 26 = .ok (.aload_n 2, 1) := dk_44 (dk_at dksX0_bound_1 4 rfl rfl)
theorem dX0_bound_27 : decode cX0_bound 27 = .ok (.invokeinterface 162 1, 5) := by decide +kernel
theorem dX0_bound_32 : decode cX0_bound 32 = .ok (.ifCond .eq 51, 3) := dk_153 0 51 (dk_at dksX0_bound_1 10 rfl rfl)
theorem dX0_bound_35 : decode cX0_bound 35 = .ok (.aload_n 2, 1) := dk_44 (dk_at dksX0_bound_1 13 rfl rfl)
theorem dX0_bound_36 : decode cX0_bound 36 = .ok (.invokeinterface 168 1, 5) := by decide +kernel
theorem dX0_bound_41 : decode cX0_bound 41 = .ok (.checkcast 49, 3) := dk_192 0 49 (dk_at dksX0_bound_1 19 rfl rfl)
theorem dX0_bound_44 : decode cX0_bound 44 = .ok (.astore_n 3, 1) := dk_78 (dk_at dksX0_bound_1 22 rfl rfl)
theorem dX0_bound_45 : decode cX0_bound 45 = .ok (.iload_n 1, 1) := dk_27 (dk_at dksX0_bound_1 23 rfl rfl)
theorem dX0_bound_46 : decode cX0_bound 46 = .ok (.iconst 1, 1) := dk_4 (dk_at dksX0_bound_2 0 rfl rfl)
theorem dX0_bound_47 : decode cX0_bound 47 = .ok (.isub, 1) := dk_100 (dk_at dksX0_bound_2 1 rfl rfl)
theorem dX0_bound_48 : decode cX0_bound 48 = .ok (.i2l, 1) := dk_133 (dk_at dksX0_bound_2 2 rfl rfl)
theorem dX0_bound_49 : decode cX0_bound 49 = .ok (.aload_n 3, 1) := dk_45 (dk_at dksX0_bound_2 3 rfl rfl)
theorem dX0_bound_50 : decode cX0_bound 50 = .ok (.getfield 172, 3) := dk_180 0 172 (dk_at dksX0_bound_2 4 rfl rfl)
theorem dX0_bound_53 : decode cX0_bound 53 = .ok (.invokestatic 400, 3) := dk_184 1 144 (dk_at dksX0_bound_2 7 rfl rfl)
theorem dX0_bound_56 : decode cX0_bound 56 = .ok (.iload_n 1, 1) := dk_27 (dk_at dksX0_bound_2 10 rfl rfl)
theorem dX0_bound_57 : decode cX0_bound 57 = .ok (.iconst 1, 1) := dk_4 (dk_at dksX0_bound_2 11 rfl rfl)
theorem dX0_bound_58 : decode cX0_bound 58 = .ok (.isub, 1) := dk_100 (dk_at dksX0_bound_2 12 rfl rfl)
theorem dX0_bound_59 : decode cX0_bound 59 = .ok (.i2l, 1) := dk_133 (dk_at dksX0_bound_2 13 rfl rfl)
theorem dX0_bound_60 : decode cX0_bound 60 = .ok (.aload_n 3, 1) := dk_45 (dk_at dksX0_bound_2 14 rfl rfl)
theorem dX0_bound_61 : decode cX0_bound 61 = .ok (.getfield 172, 3) := dk_180 0 172 (dk_at dksX0_bound_2 15 rfl rfl)
theorem dX0_bound_64 : decode cX0_bound 64 = .ok (.invokestatic 400, 3) := dk_184 1 144 (dk_at dksX0_bound_2 18 rfl rfl)
theorem dX0_bound_67 : decode cX0_bound 67 = .ok (.lmul, 1) := dk_105 (dk_at dksX0_bound_2 21 rfl rfl)
theorem dX0_bound_68 : decode cX0_bound 68 = .ok (.iload_n 1, 1) := dk_27 (dk_at dksX0_bound_2 22 rfl rfl)
theorem dX0_bound_69 : decode cX0_bound 69 = .ok (.i2l, 1) := dk_133 (dk_at dksX0_bound_2 23 rfl rfl)
theorem dX0_bound_70 : decode cX0_bound 70 = .ok (.lcmp, 1) := dk_148 (dk_at dksX0_bound_3 0 rfl rfl)
theorem dX0_bound_71 : decode cX0_bound 71 = .ok (.ifCond .le 9, 3) := dk_158 0 9 (dk_at dksX0_bound_3 1 rfl rfl)
theorem dX0_bound_74 : decode cX0_bound 74 = .ok (.aload_n 3, 1) := dk_45 (dk_at dksX0_bound_3 4 rfl rfl)
theorem dX0_bound_75 : decode cX0_bound 75 = .ok (.getfield 172, 3) := dk_180 0 172 (dk_at dksX0_bound_3 5 rfl rfl)
theorem dX0_bound_78 : decode cX0_bound 78 = .ok (.l2i, 1) := dk_136 (dk_at dksX0_bound_3 8 rfl rfl)
theorem dX0_bound_79 : decode cX0_bound 79 = .ok (.ireturn, 1) := dk_172 (dk_at dksX0_bound_3 9 rfl rfl)
theorem dX0_bound_80 : decode cX0_bound 80 = .ok (.goto (-54), 3) := dk_167 255 202 (dk_at dksX0_bound_3 10 rfl rfl)
theorem dX0_bound_83 : decode cX0_bound 83 = .ok (.iconst (-1), 1) := dk_2 (dk_at dksX0_bound_3 13 rfl rfl)
theorem dX0_bound_84 : decode cX0_bound 84 = .ok (.ireturn, 1) := dk_172 (dk_at dksX0_bound_3 14 rfl rfl)
abbrev cX0_chase : ByteArray := prog_1_method_63_code
def yX0_chase : MethodName := ⟨RX0, "chase", "(II)I"⟩
def dkwX0_chase_4 : List UInt8 := [10, 148, 153, 0, 7, 22, 8, 136, 172, 132, 7, 1, 167, 255, 184, 16, 254, 172]
abbrev dktX0_chase_4 : List UInt8 := dkwX0_chase_4 ++ []
def dkwX0_chase_3 : List UInt8 := [28, 133, 97, 27, 133, 113, 55, 5, 33, 22, 5, 101, 184, 1, 147, 27, 133, 184, 0, 11, 55, 8, 22, 8]
abbrev dktX0_chase_3 : List UInt8 := dkwX0_chase_3 ++ dktX0_chase_4
def dkwX0_chase_2 : List UInt8 := [133, 97, 27, 133, 113, 66, 22, 5, 22, 5, 105, 28, 133, 97, 27, 133, 113, 55, 5, 22, 5, 22, 5, 105]
abbrev dktX0_chase_2 : List UInt8 := dkwX0_chase_2 ++ dktX0_chase_3
def dkwX0_chase_1 : List UInt8 := [20, 0, 1, 66, 20, 0, 1, 55, 5, 3, 54, 7, 21, 7, 17, 3, 232, 162, 0, 70, 33, 33, 105, 28]
abbrev dktX0_chase_1 : List UInt8 := dkwX0_chase_1 ++ dktX0_chase_2
def dkwX0_chase_0 : List UInt8 := [27, 133, 184, 0, 206, 153, 0, 15, 28, 133, 10, 20, 0, 249, 184, 0, 7, 154, 0, 5, 2, 172]
abbrev dktX0_chase_0 : List UInt8 := dkwX0_chase_0 ++ dktX0_chase_1
theorem dksX0_chase_0 : cX0_chase.data.toList.drop 0 = dktX0_chase_0 := by decide +kernel
theorem dksX0_chase_1 : cX0_chase.data.toList.drop 22 = dktX0_chase_1 := dk_seg dksX0_chase_0 22 rfl rfl
theorem dksX0_chase_2 : cX0_chase.data.toList.drop 46 = dktX0_chase_2 := dk_seg dksX0_chase_1 24 rfl rfl
theorem dksX0_chase_3 : cX0_chase.data.toList.drop 70 = dktX0_chase_3 := dk_seg dksX0_chase_2 24 rfl rfl
theorem dksX0_chase_4 : cX0_chase.data.toList.drop 94 = dktX0_chase_4 := dk_seg dksX0_chase_3 24 rfl rfl
theorem dX0_chase_0 : decode cX0_chase 0 = .ok (.iload_n 1, 1) := dk_27 (dk_at dksX0_chase_0 0 rfl rfl)
theorem dX0_chase_1 : decode cX0_chase 1 = .ok (.i2l, 1) := dk_133 (dk_at dksX0_chase_0 1 rfl rfl)
theorem dX0_chase_2 : decode cX0_chase 2 = .ok (.invokestatic 206, 3) := dk_184 0 206 (dk_at dksX0_chase_0 2 rfl rfl)
theorem dX0_chase_5 : decode cX0_chase 5 = .ok (.ifCond .eq 15, 3) := dk_153 0 15 (dk_at dksX0_chase_0 5 rfl rfl)
theorem dX0_chase_8 : decode cX0_chase 8 = .ok (.iload_n 2, 1) := dk_28 (dk_at dksX0_chase_0 8 rfl rfl)
theorem dX0_chase_9 : decode cX0_chase 9 = .ok (.i2l, 1) := dk_133 (dk_at dksX0_chase_0 9 rfl rfl)
theorem dX0_chase_10 : decode cX0_chase 10 = .ok (.lconst 1, 1) := dk_10 (dk_at dksX0_chase_0 10 rfl rfl)
theorem dX0_chase_11 : decode cX0_chase 11 = .ok (.ldc2_w 249, 3) := dk_20 0 249 (dk_at dksX0_chase_0 11 rfl rfl)
theorem dX0_chase_14 : decode cX0_chase 14 = .ok (.invokestatic 7, 3) := dk_184 0 7 (dk_at dksX0_chase_0 14 rfl rfl)
theorem dX0_chase_17 : decode cX0_chase 17 = .ok (.ifCond .ne 5, 3) := dk_154 0 5 (dk_at dksX0_chase_0 17 rfl rfl)
theorem dX0_chase_20 : decode cX0_chase 20 = .ok (.iconst (-1), 1) := dk_2 (dk_at dksX0_chase_0 20 rfl rfl)
theorem dX0_chase_21 : decode cX0_chase 21 = .ok (.ireturn, 1) := dk_172 (dk_at dksX0_chase_0 21 rfl rfl)
theorem dX0_chase_22 : decode cX0_chase 22 = .ok (.ldc2_w 1, 3) := dk_20 0 1 (dk_at dksX0_chase_1 0 rfl rfl)
theorem dX0_chase_25 : decode cX0_chase 25 = .ok (.lstore_n 3, 1) := dk_66 (dk_at dksX0_chase_1 3 rfl rfl)
theorem dX0_chase_26 : decode cX0_chase 26 = .ok (.ldc2_w 1, 3) := dk_20 0 1 (dk_at dksX0_chase_1 4 rfl rfl)
theorem dX0_chase_29 : decode cX0_chase 29 = .ok (.lstore 5, 2) := dk_55 5 (dk_at dksX0_chase_1 7 rfl rfl)
theorem dX0_chase_31 : decode cX0_chase 31 = .ok (.iconst 0, 1) := dk_3 (dk_at dksX0_chase_1 9 rfl rfl)
theorem dX0_chase_32 : decode cX0_chase 32 = .ok (.istore 7, 2) := dk_54 7 (dk_at dksX0_chase_1 10 rfl rfl)
theorem dX0_chase_34 : decode cX0_chase 34 = .ok (.iload 7, 2) := dk_21 7 (dk_at dksX0_chase_1 12 rfl rfl)
theorem dX0_chase_36 : decode cX0_chase 36 = .ok (.sipush 1000, 3) := dk_17 3 232 (dk_at dksX0_chase_1 14 rfl rfl)
theorem dX0_chase_39 : decode cX0_chase 39 = .ok (.if_icmp .ge 70, 3) := dk_162 0 70 (dk_at dksX0_chase_1 17 rfl rfl)
theorem dX0_chase_42 : decode cX0_chase 42 = .ok (.lload_n 3, 1) := dk_33 (dk_at dksX0_chase_1 20 rfl rfl)
theorem dX0_chase_43 : decode cX0_chase 43 = .ok (.lload_n 3, 1) := dk_33 (dk_at dksX0_chase_1 21 rfl rfl)
theorem dX0_chase_44 : decode cX0_chase 44 = .ok (.lmul, 1) := dk_105 (dk_at dksX0_chase_1 22 rfl rfl)
theorem dX0_chase_45 : decode cX0_chase 45 = .ok (.iload_n 2, 1) := dk_28 (dk_at dksX0_chase_1 23 rfl rfl)
theorem dX0_chase_46 : decode cX0_chase 46 = .ok (.i2l, 1) := dk_133 (dk_at dksX0_chase_2 0 rfl rfl)
theorem dX0_chase_47 : decode cX0_chase 47 = .ok (.ladd, 1) := dk_97 (dk_at dksX0_chase_2 1 rfl rfl)
theorem dX0_chase_48 : decode cX0_chase 48 = .ok (.iload_n 1, 1) := dk_27 (dk_at dksX0_chase_2 2 rfl rfl)
theorem dX0_chase_49 : decode cX0_chase 49 = .ok (.i2l, 1) := dk_133 (dk_at dksX0_chase_2 3 rfl rfl)
theorem dX0_chase_50 : decode cX0_chase 50 = .ok (.lrem, 1) := dk_113 (dk_at dksX0_chase_2 4 rfl rfl)
theorem dX0_chase_51 : decode cX0_chase 51 = .ok (.lstore_n 3, 1) := dk_66 (dk_at dksX0_chase_2 5 rfl rfl)
theorem dX0_chase_52 : decode cX0_chase 52 = .ok (.lload 5, 2) := dk_22 5 (dk_at dksX0_chase_2 6 rfl rfl)
theorem dX0_chase_54 : decode cX0_chase 54 = .ok (.lload 5, 2) := dk_22 5 (dk_at dksX0_chase_2 8 rfl rfl)
theorem dX0_chase_56 : decode cX0_chase 56 = .ok (.lmul, 1) := dk_105 (dk_at dksX0_chase_2 10 rfl rfl)
theorem dX0_chase_57 : decode cX0_chase 57 = .ok (.iload_n 2, 1) := dk_28 (dk_at dksX0_chase_2 11 rfl rfl)
theorem dX0_chase_58 : decode cX0_chase 58 = .ok (.i2l, 1) := dk_133 (dk_at dksX0_chase_2 12 rfl rfl)
theorem dX0_chase_59 : decode cX0_chase 59 = .ok (.ladd, 1) := dk_97 (dk_at dksX0_chase_2 13 rfl rfl)
theorem dX0_chase_60 : decode cX0_chase 60 = .ok (.iload_n 1, 1) := dk_27 (dk_at dksX0_chase_2 14 rfl rfl)
theorem dX0_chase_61 : decode cX0_chase 61 = .ok (.i2l, 1) := dk_133 (dk_at dksX0_chase_2 15 rfl rfl)
theorem dX0_chase_62 : decode cX0_chase 62 = .ok (.lrem, 1) := dk_113 (dk_at dksX0_chase_2 16 rfl rfl)
theorem dX0_chase_63 : decode cX0_chase 63 = .ok (.lstore 5, 2) := dk_55 5 (dk_at dksX0_chase_2 17 rfl rfl)
theorem dX0_chase_65 : decode cX0_chase 65 = .ok (.lload 5, 2) := dk_22 5 (dk_at dksX0_chase_2 19 rfl rfl)
theorem dX0_chase_67 : decode cX0_chase 67 = .ok (.lload 5, 2) := dk_22 5 (dk_at dksX0_chase_2 21 rfl rfl)
theorem dX0_chase_69 : decode cX0_chase 69 = .ok (.lmul, 1) := dk_105 (dk_at dksX0_chase_2 23 rfl rfl)
theorem dX0_chase_70 : decode cX0_chase 70 = .ok (.iload_n 2, 1) := dk_28 (dk_at dksX0_chase_3 0 rfl rfl)
theorem dX0_chase_71 : decode cX0_chase 71 = .ok (.i2l, 1) := dk_133 (dk_at dksX0_chase_3 1 rfl rfl)
theorem dX0_chase_72 : decode cX0_chase 72 = .ok (.ladd, 1) := dk_97 (dk_at dksX0_chase_3 2 rfl rfl)
theorem dX0_chase_73 : decode cX0_chase 73 = .ok (.iload_n 1, 1) := dk_27 (dk_at dksX0_chase_3 3 rfl rfl)
theorem dX0_chase_74 : decode cX0_chase 74 = .ok (.i2l, 1) := dk_133 (dk_at dksX0_chase_3 4 rfl rfl)
theorem dX0_chase_75 : decode cX0_chase 75 = .ok (.lrem, 1) := dk_113 (dk_at dksX0_chase_3 5 rfl rfl)
theorem dX0_chase_76 : decode cX0_chase 76 = .ok (.lstore 5, 2) := dk_55 5 (dk_at dksX0_chase_3 6 rfl rfl)
theorem dX0_chase_78 : decode cX0_chase 78 = .ok (.lload_n 3, 1) := dk_33 (dk_at dksX0_chase_3 8 rfl rfl)
theorem dX0_chase_79 : decode cX0_chase 79 = .ok (.lload 5, 2) := dk_22 5 (dk_at dksX0_chase_3 9 rfl rfl)
theorem dX0_chase_81 : decode cX0_chase 81 = .ok (.lsub, 1) := dk_101 (dk_at dksX0_chase_3 11 rfl rfl)
theorem dX0_chase_82 : decode cX0_chase 82 = .ok (.invokestatic 403, 3) := dk_184 1 147 (dk_at dksX0_chase_3 12 rfl rfl)
theorem dX0_chase_85 : decode cX0_chase 85 = .ok (.iload_n 1, 1) := dk_27 (dk_at dksX0_chase_3 15 rfl rfl)
theorem dX0_chase_86 : decode cX0_chase 86 = .ok (.i2l, 1) := dk_133 (dk_at dksX0_chase_3 16 rfl rfl)
theorem dX0_chase_87 : decode cX0_chase 87 = .ok (.invokestatic 11, 3) := dk_184 0 11 (dk_at dksX0_chase_3 17 rfl rfl)
theorem dX0_chase_90 : decode cX0_chase 90 = .ok (.lstore 8, 2) := dk_55 8 (dk_at dksX0_chase_3 20 rfl rfl)
theorem dX0_chase_92 : decode cX0_chase 92 = .ok (.lload 8, 2) := dk_22 8 (dk_at dksX0_chase_3 22 rfl rfl)
theorem dX0_chase_94 : decode cX0_chase 94 = .ok (.lconst 1, 1) := dk_10 (dk_at dksX0_chase_4 0 rfl rfl)
theorem dX0_chase_95 : decode cX0_chase 95 = .ok (.lcmp, 1) := dk_148 (dk_at dksX0_chase_4 1 rfl rfl)
theorem dX0_chase_96 : decode cX0_chase 96 = .ok (.ifCond .eq 7, 3) := dk_153 0 7 (dk_at dksX0_chase_4 2 rfl rfl)
theorem dX0_chase_99 : decode cX0_chase 99 = .ok (.lload 8, 2) := dk_22 8 (dk_at dksX0_chase_4 5 rfl rfl)
theorem dX0_chase_101 : decode cX0_chase 101 = .ok (.l2i, 1) := dk_136 (dk_at dksX0_chase_4 7 rfl rfl)
theorem dX0_chase_102 : decode cX0_chase 102 = .ok (.ireturn, 1) := dk_172 (dk_at dksX0_chase_4 8 rfl rfl)
theorem dX0_chase_103 : decode cX0_chase 103 = .ok (.iinc 7 1, 3) := dk_132 7 1 (dk_at dksX0_chase_4 9 rfl rfl)
theorem dX0_chase_106 : decode cX0_chase 106 = .ok (.goto (-72), 3) := dk_167 255 184 (dk_at dksX0_chase_4 12 rfl rfl)
theorem dX0_chase_109 : decode cX0_chase 109 = .ok (.bipush (-2), 2) := dk_16 254 (dk_at dksX0_chase_4 15 rfl rfl)
theorem dX0_chase_111 : decode cX0_chase 111 = .ok (.ireturn, 1) := dk_172 (dk_at dksX0_chase_4 17 rfl rfl)
abbrev cX0_primes : ByteArray := prog_1_method_64_code
def yX0_primes : MethodName := ⟨RX0, "primes", "(II)I"⟩
def dkwX0_primes_2 : List UInt8 := [153, 0, 7, 4, 167, 0, 4, 3, 96, 62, 132, 4, 1, 167, 255, 230, 29, 172]
abbrev dktX0_primes_2 : List UInt8 := dkwX0_primes_2 ++ []
def dkwX0_primes_1 : List UInt8 := [161, 0, 5, 2, 172, 3, 62, 27, 54, 4, 21, 4, 28, 163, 0, 26, 29, 21, 4, 133, 184, 0, 203]
abbrev dktX0_primes_1 : List UInt8 := dkwX0_primes_1 ++ dktX0_primes_2
def dkwX0_primes_0 : List UInt8 := [27, 155, 0, 25, 28, 133, 27, 133, 20, 0, 5, 184, 0, 7, 153, 0, 12, 28, 27, 100, 17, 3, 232]
abbrev dktX0_primes_0 : List UInt8 := dkwX0_primes_0 ++ dktX0_primes_1
theorem dksX0_primes_0 : cX0_primes.data.toList.drop 0 = dktX0_primes_0 := by decide +kernel
theorem dksX0_primes_1 : cX0_primes.data.toList.drop 23 = dktX0_primes_1 := dk_seg dksX0_primes_0 23 rfl rfl
theorem dksX0_primes_2 : cX0_primes.data.toList.drop 46 = dktX0_primes_2 := dk_seg dksX0_primes_1 23 rfl rfl
theorem dX0_primes_0 : decode cX0_primes 0 = .ok (.iload_n 1, 1) := dk_27 (dk_at dksX0_primes_0 0 rfl rfl)
theorem dX0_primes_1 : decode cX0_primes 1 = .ok (.ifCond .lt 25, 3) := dk_155 0 25 (dk_at dksX0_primes_0 1 rfl rfl)
theorem dX0_primes_4 : decode cX0_primes 4 = .ok (.iload_n 2, 1) := dk_28 (dk_at dksX0_primes_0 4 rfl rfl)
theorem dX0_primes_5 : decode cX0_primes 5 = .ok (.i2l, 1) := dk_133 (dk_at dksX0_primes_0 5 rfl rfl)
theorem dX0_primes_6 : decode cX0_primes 6 = .ok (.iload_n 1, 1) := dk_27 (dk_at dksX0_primes_0 6 rfl rfl)
theorem dX0_primes_7 : decode cX0_primes 7 = .ok (.i2l, 1) := dk_133 (dk_at dksX0_primes_0 7 rfl rfl)
theorem dX0_primes_8 : decode cX0_primes 8 = .ok (.ldc2_w 5, 3) := dk_20 0 5 (dk_at dksX0_primes_0 8 rfl rfl)
theorem dX0_primes_11 : decode cX0_primes 11 = .ok (.invokestatic 7, 3) := dk_184 0 7 (dk_at dksX0_primes_0 11 rfl rfl)
theorem dX0_primes_14 : decode cX0_primes 14 = .ok (.ifCond .eq 12, 3) := dk_153 0 12 (dk_at dksX0_primes_0 14 rfl rfl)
theorem dX0_primes_17 : decode cX0_primes 17 = .ok (.iload_n 2, 1) := dk_28 (dk_at dksX0_primes_0 17 rfl rfl)
theorem dX0_primes_18 : decode cX0_primes 18 = .ok (.iload_n 1, 1) := dk_27 (dk_at dksX0_primes_0 18 rfl rfl)
theorem dX0_primes_19 : decode cX0_primes 19 = .ok (.isub, 1) := dk_100 (dk_at dksX0_primes_0 19 rfl rfl)
theorem dX0_primes_20 : decode cX0_primes 20 = .ok (.sipush 1000, 3) := dk_17 3 232 (dk_at dksX0_primes_0 20 rfl rfl)
theorem dX0_primes_23 : decode cX0_primes 23 = .ok (.if_icmp .lt 5, 3) := dk_161 0 5 (dk_at dksX0_primes_1 0 rfl rfl)
theorem dX0_primes_26 : decode cX0_primes 26 = .ok (.iconst (-1), 1) := dk_2 (dk_at dksX0_primes_1 3 rfl rfl)
theorem dX0_primes_27 : decode cX0_primes 27 = .ok (.ireturn, 1) := dk_172 (dk_at dksX0_primes_1 4 rfl rfl)
theorem dX0_primes_28 : decode cX0_primes 28 = .ok (.iconst 0, 1) := dk_3 (dk_at dksX0_primes_1 5 rfl rfl)
theorem dX0_primes_29 : decode cX0_primes 29 = .ok (.istore_n 3, 1) := dk_62 (dk_at dksX0_primes_1 6 rfl rfl)
theorem dX0_primes_30 : decode cX0_primes 30 = .ok (.iload_n 1, 1) := dk_27 (dk_at dksX0_primes_1 7 rfl rfl)
theorem dX0_primes_31 : decode cX0_primes 31 = .ok (.istore 4, 2) := dk_54 4 (dk_at dksX0_primes_1 8 rfl rfl)
theorem dX0_primes_33 : decode cX0_primes 33 = .ok (.iload 4, 2) := dk_21 4 (dk_at dksX0_primes_1 10 rfl rfl)
theorem dX0_primes_35 : decode cX0_primes 35 = .ok (.iload_n 2, 1) := dk_28 (dk_at dksX0_primes_1 12 rfl rfl)
theorem dX0_primes_36 : decode cX0_primes 36 = .ok (.if_icmp .gt 26, 3) := dk_163 0 26 (dk_at dksX0_primes_1 13 rfl rfl)
theorem dX0_primes_39 : decode cX0_primes 39 = .ok (.iload_n 3, 1) := dk_29 (dk_at dksX0_primes_1 16 rfl rfl)
theorem dX0_primes_40 : decode cX0_primes 40 = .ok (.iload 4, 2) := dk_21 4 (dk_at dksX0_primes_1 17 rfl rfl)
theorem dX0_primes_42 : decode cX0_primes 42 = .ok (.i2l, 1) := dk_133 (dk_at dksX0_primes_1 19 rfl rfl)
theorem dX0_primes_43 : decode cX0_primes 43 = .ok (.invokestatic 203, 3) := dk_184 0 203 (dk_at dksX0_primes_1 20 rfl rfl)
theorem dX0_primes_46 : decode cX0_primes 46 = .ok (.ifCond .eq 7, 3) := dk_153 0 7 (dk_at dksX0_primes_2 0 rfl rfl)
theorem dX0_primes_49 : decode cX0_primes 49 = .ok (.iconst 1, 1) := dk_4 (dk_at dksX0_primes_2 3 rfl rfl)
theorem dX0_primes_50 : decode cX0_primes 50 = .ok (.goto 4, 3) := dk_167 0 4 (dk_at dksX0_primes_2 4 rfl rfl)
theorem dX0_primes_53 : decode cX0_primes 53 = .ok (.iconst 0, 1) := dk_3 (dk_at dksX0_primes_2 7 rfl rfl)
theorem dX0_primes_54 : decode cX0_primes 54 = .ok (.iadd, 1) := dk_96 (dk_at dksX0_primes_2 8 rfl rfl)
theorem dX0_primes_55 : decode cX0_primes 55 = .ok (.istore_n 3, 1) := dk_62 (dk_at dksX0_primes_2 9 rfl rfl)
theorem dX0_primes_56 : decode cX0_primes 56 = .ok (.iinc 4 1, 3) := dk_132 4 1 (dk_at dksX0_primes_2 10 rfl rfl)
theorem dX0_primes_59 : decode cX0_primes 59 = .ok (.goto (-26), 3) := dk_167 255 230 (dk_at dksX0_primes_2 13 rfl rfl)
theorem dX0_primes_62 : decode cX0_primes 62 = .ok (.iload_n 3, 1) := dk_29 (dk_at dksX0_primes_2 16 rfl rfl)
theorem dX0_primes_63 : decode cX0_primes 63 = .ok (.ireturn, 1) := dk_172 (dk_at dksX0_primes_2 17 rfl rfl)
abbrev cX0_passes : ByteArray := prog_1_method_67_code
def yX0_passes : MethodName := ⟨RX0, "passes", "(II)I"⟩
def dkwX0_passes_2 : List UInt8 := [2, 172]
abbrev dktX0_passes_2 : List UInt8 := dkwX0_passes_2 ++ []
def dkwX0_passes_1 : List UInt8 := [184, 0, 7, 153, 0, 21, 27, 133, 28, 133, 184, 1, 157, 153, 0, 7, 4, 167, 0, 8, 3, 167, 0, 4]
abbrev dktX0_passes_1 : List UInt8 := dkwX0_passes_1 ++ dktX0_passes_2
def dkwX0_passes_0 : List UInt8 := [27, 184, 1, 154, 153, 0, 42, 28, 133, 20, 0, 1, 17, 3, 231, 27, 4, 100, 184, 0, 118, 133]
abbrev dktX0_passes_0 : List UInt8 := dkwX0_passes_0 ++ dktX0_passes_1
theorem dksX0_passes_0 : cX0_passes.data.toList.drop 0 = dktX0_passes_0 := by decide +kernel
theorem dksX0_passes_1 : cX0_passes.data.toList.drop 22 = dktX0_passes_1 := dk_seg dksX0_passes_0 22 rfl rfl
theorem dksX0_passes_2 : cX0_passes.data.toList.drop 46 = dktX0_passes_2 := dk_seg dksX0_passes_1 24 rfl rfl
theorem dX0_passes_0 : decode cX0_passes 0 = .ok (.iload_n 1, 1) := dk_27 (dk_at dksX0_passes_0 0 rfl rfl)
theorem dX0_passes_1 : decode cX0_passes 1 = .ok (.invokestatic 410, 3) := dk_184 1 154 (dk_at dksX0_passes_0 1 rfl rfl)
theorem dX0_passes_4 : decode cX0_passes 4 = .ok (.ifCond .eq 42, 3) := dk_153 0 42 (dk_at dksX0_passes_0 4 rfl rfl)
theorem dX0_passes_7 : decode cX0_passes 7 = .ok (.iload_n 2, 1) := dk_28 (dk_at dksX0_passes_0 7 rfl rfl)
theorem dX0_passes_8 : decode cX0_passes 8 = .ok (.i2l, 1) := dk_133 (dk_at dksX0_passes_0 8 rfl rfl)
theorem dX0_passes_9 : decode cX0_passes 9 = .ok (.ldc2_w 1, 3) := dk_20 0 1 (dk_at dksX0_passes_0 9 rfl rfl)
theorem dX0_passes_12 : decode cX0_passes 12 = .ok (.sipush 999, 3) := dk_17 3 231 (dk_at dksX0_passes_0 12 rfl rfl)
theorem dX0_passes_15 : decode cX0_passes 15 = .ok (.iload_n 1, 1) := dk_27 (dk_at dksX0_passes_0 15 rfl rfl)
theorem dX0_passes_16 : decode cX0_passes 16 = .ok (.iconst 1, 1) := dk_4 (dk_at dksX0_passes_0 16 rfl rfl)
theorem dX0_passes_17 : decode cX0_passes 17 = .ok (.isub, 1) := dk_100 (dk_at dksX0_passes_0 17 rfl rfl)
theorem dX0_passes_18 : decode cX0_passes 18 = .ok (.invokestatic 118, 3) := dk_184 0 118 (dk_at dksX0_passes_0 18 rfl rfl)
theorem dX0_passes_21 : decode cX0_passes 21 = .ok (.i2l, 1) := dk_133 (dk_at dksX0_passes_0 21 rfl rfl)
theorem dX0_passes_22 : decode cX0_passes 22 = .ok (.invokestatic 7, 3) := dk_184 0 7 (dk_at dksX0_passes_1 0 rfl rfl)
theorem dX0_passes_25 : decode cX0_passes 25 = .ok (.ifCond .eq 21, 3) := dk_153 0 21 (dk_at dksX0_passes_1 3 rfl rfl)
theorem dX0_passes_28 : decode cX0_passes 28 = .ok (.iload_n 1, 1) := dk_27 (dk_at dksX0_passes_1 6 rfl rfl)
theorem dX0_passes_29 : decode cX0_passes 29 = .ok (.i2l, 1) := dk_133 (dk_at dksX0_passes_1 7 rfl rfl)
theorem dX0_passes_30 : decode cX0_passes 30 = .ok (.iload_n 2, 1) := dk_28 (dk_at dksX0_passes_1 8 rfl rfl)
theorem dX0_passes_31 : decode cX0_passes 31 = .ok (.i2l, 1) := dk_133 (dk_at dksX0_passes_1 9 rfl rfl)
theorem dX0_passes_32 : decode cX0_passes 32 = .ok (.invokestatic 413, 3) := dk_184 1 157 (dk_at dksX0_passes_1 10 rfl rfl)
theorem dX0_passes_35 : decode cX0_passes 35 = .ok (.ifCond .eq 7, 3) := dk_153 0 7 (dk_at dksX0_passes_1 13 rfl rfl)
theorem dX0_passes_38 : decode cX0_passes 38 = .ok (.iconst 1, 1) := dk_4 (dk_at dksX0_passes_1 16 rfl rfl)
theorem dX0_passes_39 : decode cX0_passes 39 = .ok (.goto 8, 3) := dk_167 0 8 (dk_at dksX0_passes_1 17 rfl rfl)
theorem dX0_passes_42 : decode cX0_passes 42 = .ok (.iconst 0, 1) := dk_3 (dk_at dksX0_passes_1 20 rfl rfl)
theorem dX0_passes_43 : decode cX0_passes 43 = .ok (.goto 4, 3) := dk_167 0 4 (dk_at dksX0_passes_1 21 rfl rfl)
theorem dX0_passes_46 : decode cX0_passes 46 = .ok (.iconst (-1), 1) := dk_2 (dk_at dksX0_passes_2 0 rfl rfl)
theorem dX0_passes_47 : decode cX0_passes 47 = .ok (.ireturn, 1) := dk_172 (dk_at dksX0_passes_2 1 rfl rfl)
abbrev cX0_isOdd : ByteArray := prog_1_method_66_code
def yX0_isOdd : MethodName := ⟨RX0, "isOdd", "(I)Z"⟩
def dkwX0_isOdd_0 : List UInt8 := [26, 133, 184, 0, 206, 153, 0, 14, 26, 5, 112, 4, 160, 0, 7, 4, 167, 0, 4, 3, 172]
abbrev dktX0_isOdd_0 : List UInt8 := dkwX0_isOdd_0 ++ []
theorem dksX0_isOdd_0 : cX0_isOdd.data.toList.drop 0 = dktX0_isOdd_0 := by decide +kernel
theorem dX0_isOdd_0 : decode cX0_isOdd 0 = .ok (.iload_n 0, 1) := dk_26 (dk_at dksX0_isOdd_0 0 rfl rfl)
theorem dX0_isOdd_1 : decode cX0_isOdd 1 = .ok (.i2l, 1) := dk_133 (dk_at dksX0_isOdd_0 1 rfl rfl)
theorem dX0_isOdd_2 : decode cX0_isOdd 2 = .ok (.invokestatic 206, 3) := dk_184 0 206 (dk_at dksX0_isOdd_0 2 rfl rfl)
theorem dX0_isOdd_5 : decode cX0_isOdd 5 = .ok (.ifCond .eq 14, 3) := dk_153 0 14 (dk_at dksX0_isOdd_0 5 rfl rfl)
theorem dX0_isOdd_8 : decode cX0_isOdd 8 = .ok (.iload_n 0, 1) := dk_26 (dk_at dksX0_isOdd_0 8 rfl rfl)
theorem dX0_isOdd_9 : decode cX0_isOdd 9 = .ok (.iconst 2, 1) := dk_5 (dk_at dksX0_isOdd_0 9 rfl rfl)
theorem dX0_isOdd_10 : decode cX0_isOdd 10 = .ok (.irem, 1) := dk_112 (dk_at dksX0_isOdd_0 10 rfl rfl)
theorem dX0_isOdd_11 : decode cX0_isOdd 11 = .ok (.iconst 1, 1) := dk_4 (dk_at dksX0_isOdd_0 11 rfl rfl)
theorem dX0_isOdd_12 : decode cX0_isOdd 12 = .ok (.if_icmp .ne 7, 3) := dk_160 0 7 (dk_at dksX0_isOdd_0 12 rfl rfl)
theorem dX0_isOdd_15 : decode cX0_isOdd 15 = .ok (.iconst 1, 1) := dk_4 (dk_at dksX0_isOdd_0 15 rfl rfl)
theorem dX0_isOdd_16 : decode cX0_isOdd 16 = .ok (.goto 4, 3) := dk_167 0 4 (dk_at dksX0_isOdd_0 16 rfl rfl)
theorem dX0_isOdd_19 : decode cX0_isOdd 19 = .ok (.iconst 0, 1) := dk_3 (dk_at dksX0_isOdd_0 19 rfl rfl)
theorem dX0_isOdd_20 : decode cX0_isOdd 20 = .ok (.ireturn, 1) := dk_172 (dk_at dksX0_isOdd_0 20 rfl rfl)
abbrev cX0_isPassed : ByteArray := prog_1_method_65_code
def yX0_isPassed : MethodName := ⟨RX0, "isPassed", "(JJ)Z"⟩
def dkwX0_isPassed_3 : List UInt8 := [55, 6, 22, 4, 20, 0, 1, 105, 55, 4, 167, 255, 219, 3, 172]
abbrev dktX0_isPassed_3 : List UInt8 := dkwX0_isPassed_3 ++ []
def dkwX0_isPassed_2 : List UInt8 := [10, 101, 148, 156, 0, 34, 22, 6, 30, 10, 101, 148, 154, 0, 5, 4, 172, 22, 6, 22, 6, 105, 30, 113]
abbrev dktX0_isPassed_2 : List UInt8 := dkwX0_isPassed_2 ++ dktX0_isPassed_3
def dkwX0_isPassed_1 : List UInt8 := [167, 255, 237, 32, 22, 4, 30, 184, 1, 150, 55, 6, 22, 6, 10, 148, 154, 0, 5, 4, 172, 22, 4, 30]
abbrev dktX0_isPassed_1 : List UInt8 := dkwX0_isPassed_1 ++ dktX0_isPassed_2
def dkwX0_isPassed_0 : List UInt8 := [30, 10, 101, 55, 4, 22, 4, 20, 0, 1, 113, 9, 148, 154, 0, 14, 22, 4, 20, 0, 1, 109, 55, 4]
abbrev dktX0_isPassed_0 : List UInt8 := dkwX0_isPassed_0 ++ dktX0_isPassed_1
theorem dksX0_isPassed_0 : cX0_isPassed.data.toList.drop 0 = dktX0_isPassed_0 := by decide +kernel
theorem dksX0_isPassed_1 : cX0_isPassed.data.toList.drop 24 = dktX0_isPassed_1 := dk_seg dksX0_isPassed_0 24 rfl rfl
theorem dksX0_isPassed_2 : cX0_isPassed.data.toList.drop 48 = dktX0_isPassed_2 := dk_seg dksX0_isPassed_1 24 rfl rfl
theorem dksX0_isPassed_3 : cX0_isPassed.data.toList.drop 72 = dktX0_isPassed_3 := dk_seg dksX0_isPassed_2 24 rfl rfl
theorem dX0_isPassed_0 : decode cX0_isPassed 0 = .ok (.lload_n 0, 1) := dk_30 (dk_at dksX0_isPassed_0 0 rfl rfl)
theorem dX0_isPassed_1 : decode cX0_isPassed 1 = .ok (.lconst 1, 1) := dk_10 (dk_at dksX0_isPassed_0 1 rfl rfl)
theorem dX0_isPassed_2 : decode cX0_isPassed 2 = .ok (.lsub, 1) := dk_101 (dk_at dksX0_isPassed_0 2 rfl rfl)
theorem dX0_isPassed_3 : decode cX0_isPassed 3 = .ok (.lstore 4, 2) := dk_55 4 (dk_at dksX0_isPassed_0 3 rfl rfl)
theorem dX0_isPassed_5 : decode cX0_isPassed 5 = .ok (.lload 4, 2) := dk_22 4 (dk_at dksX0_isPassed_0 5 rfl rfl)
theorem dX0_isPassed_7 : decode cX0_isPassed 7 = .ok (.ldc2_w 1, 3) := dk_20 0 1 (dk_at dksX0_isPassed_0 7 rfl rfl)
theorem dX0_isPassed_10 : decode cX0_isPassed 10 = .ok (.lrem, 1) := dk_113 (dk_at dksX0_isPassed_0 10 rfl rfl)
theorem dX0_isPassed_11 : decode cX0_isPassed 11 = .ok (.lconst 0, 1) := dk_9 (dk_at dksX0_isPassed_0 11 rfl rfl)
theorem dX0_isPassed_12 : decode cX0_isPassed 12 = .ok (.lcmp, 1) := dk_148 (dk_at dksX0_isPassed_0 12 rfl rfl)
theorem dX0_isPassed_13 : decode cX0_isPassed 13 = .ok (.ifCond .ne 14, 3) := dk_154 0 14 (dk_at dksX0_isPassed_0 13 rfl rfl)
theorem dX0_isPassed_16 : decode cX0_isPassed 16 = .ok (.lload 4, 2) := dk_22 4 (dk_at dksX0_isPassed_0 16 rfl rfl)
theorem dX0_isPassed_18 : decode cX0_isPassed 18 = .ok (.ldc2_w 1, 3) := dk_20 0 1 (dk_at dksX0_isPassed_0 18 rfl rfl)
theorem dX0_isPassed_21 : decode cX0_isPassed 21 = .ok (.ldiv, 1) := dk_109 (dk_at dksX0_isPassed_0 21 rfl rfl)
theorem dX0_isPassed_22 : decode cX0_isPassed 22 = .ok (.lstore 4, 2) := dk_55 4 (dk_at dksX0_isPassed_0 22 rfl rfl)
theorem dX0_isPassed_24 : decode cX0_isPassed 24 = .ok (.goto (-19), 3) := dk_167 255 237 (dk_at dksX0_isPassed_1 0 rfl rfl)
theorem dX0_isPassed_27 : decode cX0_isPassed 27 = .ok (.lload_n 2, 1) := dk_32 (dk_at dksX0_isPassed_1 3 rfl rfl)
theorem dX0_isPassed_28 : decode cX0_isPassed 28 = .ok (.lload 4, 2) := dk_22 4 (dk_at dksX0_isPassed_1 4 rfl rfl)
theorem dX0_isPassed_30 : decode cX0_isPassed 30 = .ok (.lload_n 0, 1) := dk_30 (dk_at dksX0_isPassed_1 6 rfl rfl)
theorem dX0_isPassed_31 : decode cX0_isPassed 31 = .ok (.invokestatic 406, 3) := dk_184 1 150 (dk_at dksX0_isPassed_1 7 rfl rfl)
theorem dX0_isPassed_34 : decode cX0_isPassed 34 = .ok (.lstore 6, 2) := dk_55 6 (dk_at dksX0_isPassed_1 10 rfl rfl)
theorem dX0_isPassed_36 : decode cX0_isPassed 36 = .ok (.lload 6, 2) := dk_22 6 (dk_at dksX0_isPassed_1 12 rfl rfl)
theorem dX0_isPassed_38 : decode cX0_isPassed 38 = .ok (.lconst 1, 1) := dk_10 (dk_at dksX0_isPassed_1 14 rfl rfl)
theorem dX0_isPassed_39 : decode cX0_isPassed 39 = .ok (.lcmp, 1) := dk_148 (dk_at dksX0_isPassed_1 15 rfl rfl)
theorem dX0_isPassed_40 : decode cX0_isPassed 40 = .ok (.ifCond .ne 5, 3) := dk_154 0 5 (dk_at dksX0_isPassed_1 16 rfl rfl)
theorem dX0_isPassed_43 : decode cX0_isPassed 43 = .ok (.iconst 1, 1) := dk_4 (dk_at dksX0_isPassed_1 19 rfl rfl)
theorem dX0_isPassed_44 : decode cX0_isPassed 44 = .ok (.ireturn, 1) := dk_172 (dk_at dksX0_isPassed_1 20 rfl rfl)
theorem dX0_isPassed_45 : decode cX0_isPassed 45 = .ok (.lload 4, 2) := dk_22 4 (dk_at dksX0_isPassed_1 21 rfl rfl)
theorem dX0_isPassed_47 : decode cX0_isPassed 47 = .ok (.lload_n 0, 1) := dk_30 (dk_at dksX0_isPassed_1 23 rfl rfl)
theorem dX0_isPassed_48 : decode cX0_isPassed 48 = .ok (.lconst 1, 1) := dk_10 (dk_at dksX0_isPassed_2 0 rfl rfl)
theorem dX0_isPassed_49 : decode cX0_isPassed 49 = .ok (.lsub, 1) := dk_101 (dk_at dksX0_isPassed_2 1 rfl rfl)
theorem dX0_isPassed_50 : decode cX0_isPassed 50 = .ok (.lcmp, 1) := dk_148 (dk_at dksX0_isPassed_2 2 rfl rfl)
theorem dX0_isPassed_51 : decode cX0_isPassed 51 = .ok (.ifCond .ge 34, 3) := dk_156 0 34 (dk_at dksX0_isPassed_2 3 rfl rfl)
theorem dX0_isPassed_54 : decode cX0_isPassed 54 = .ok (.lload 6, 2) := dk_22 6 (dk_at dksX0_isPassed_2 6 rfl rfl)
theorem dX0_isPassed_56 : decode cX0_isPassed 56 = .ok (.lload_n 0, 1) := dk_30 (dk_at dksX0_isPassed_2 8 rfl rfl)
theorem dX0_isPassed_57 : decode cX0_isPassed 57 = .ok (.lconst 1, 1) := dk_10 (dk_at dksX0_isPassed_2 9 rfl rfl)
theorem dX0_isPassed_58 : decode cX0_isPassed 58 = .ok (.lsub, 1) := dk_101 (dk_at dksX0_isPassed_2 10 rfl rfl)
theorem dX0_isPassed_59 : decode cX0_isPassed 59 = .ok (.lcmp, 1) := dk_148 (dk_at dksX0_isPassed_2 11 rfl rfl)
theorem dX0_isPassed_60 : decode cX0_isPassed 60 = .ok (.ifCond .ne 5, 3) := dk_154 0 5 (dk_at dksX0_isPassed_2 12 rfl rfl)
theorem dX0_isPassed_63 : decode cX0_isPassed 63 = .ok (.iconst 1, 1) := dk_4 (dk_at dksX0_isPassed_2 15 rfl rfl)
theorem dX0_isPassed_64 : decode cX0_isPassed 64 = .ok (.ireturn, 1) := dk_172 (dk_at dksX0_isPassed_2 16 rfl rfl)
theorem dX0_isPassed_65 : decode cX0_isPassed 65 = .ok (.lload 6, 2) := dk_22 6 (dk_at dksX0_isPassed_2 17 rfl rfl)
theorem dX0_isPassed_67 : decode cX0_isPassed 67 = .ok (.lload 6, 2) := dk_22 6 (dk_at dksX0_isPassed_2 19 rfl rfl)
theorem dX0_isPassed_69 : decode cX0_isPassed 69 = .ok (.lmul, 1) := dk_105 (dk_at dksX0_isPassed_2 21 rfl rfl)
theorem dX0_isPassed_70 : decode cX0_isPassed 70 = .ok (.lload_n 0, 1) := dk_30 (dk_at dksX0_isPassed_2 22 rfl rfl)
theorem dX0_isPassed_71 : decode cX0_isPassed 71 = .ok (.lrem, 1) := dk_113 (dk_at dksX0_isPassed_2 23 rfl rfl)
theorem dX0_isPassed_72 : decode cX0_isPassed 72 = .ok (.lstore 6, 2) := dk_55 6 (dk_at dksX0_isPassed_3 0 rfl rfl)
theorem dX0_isPassed_74 : decode cX0_isPassed 74 = .ok (.lload 4, 2) := dk_22 4 (dk_at dksX0_isPassed_3 2 rfl rfl)
theorem dX0_isPassed_76 : decode cX0_isPassed 76 = .ok (.ldc2_w 1, 3) := dk_20 0 1 (dk_at dksX0_isPassed_3 4 rfl rfl)
theorem dX0_isPassed_79 : decode cX0_isPassed 79 = .ok (.lmul, 1) := dk_105 (dk_at dksX0_isPassed_3 7 rfl rfl)
theorem dX0_isPassed_80 : decode cX0_isPassed 80 = .ok (.lstore 4, 2) := dk_55 4 (dk_at dksX0_isPassed_3 8 rfl rfl)
theorem dX0_isPassed_82 : decode cX0_isPassed 82 = .ok (.goto (-37), 3) := dk_167 255 219 (dk_at dksX0_isPassed_3 10 rfl rfl)
theorem dX0_isPassed_85 : decode cX0_isPassed 85 = .ok (.iconst 0, 1) := dk_3 (dk_at dksX0_isPassed_3 13 rfl rfl)
theorem dX0_isPassed_86 : decode cX0_isPassed 86 = .ok (.ireturn, 1) := dk_172 (dk_at dksX0_isPassed_3 14 rfl rfl)
abbrev cX0_fools : ByteArray := prog_1_method_68_code
def yX0_fools : MethodName := ⟨RX0, "fools", "(II)I"⟩
def dkwX0_fools_4 : List UInt8 := [29, 167, 0, 5, 21, 4, 172]
abbrev dktX0_fools_4 : List UInt8 := dkwX0_fools_4 ++ []
def dkwX0_fools_3 : List UInt8 := [21, 4, 154, 0, 8, 21, 5, 167, 0, 5, 21, 4, 54, 4, 132, 5, 1, 167, 255, 197, 28, 154, 0, 7]
abbrev dktX0_fools_3 : List UInt8 := dkwX0_fools_3 ++ dktX0_fools_4
def dkwX0_fools_2 : List UInt8 := [184, 1, 157, 54, 6, 29, 21, 6, 153, 0, 7, 4, 167, 0, 4, 3, 96, 62, 21, 6, 154, 0, 13]
abbrev dktX0_fools_2 : List UInt8 := dkwX0_fools_2 ++ dktX0_fools_3
def dkwX0_fools_1 : List UInt8 := [5, 54, 5, 21, 5, 17, 3, 231, 163, 0, 57, 21, 5, 27, 162, 0, 51, 27, 133, 21, 5, 133]
abbrev dktX0_fools_1 : List UInt8 := dkwX0_fools_1 ++ dktX0_fools_2
def dkwX0_fools_0 : List UInt8 := [27, 184, 1, 154, 153, 0, 13, 28, 133, 9, 10, 184, 0, 7, 154, 0, 5, 2, 172, 3, 62, 3, 54, 4]
abbrev dktX0_fools_0 : List UInt8 := dkwX0_fools_0 ++ dktX0_fools_1
theorem dksX0_fools_0 : cX0_fools.data.toList.drop 0 = dktX0_fools_0 := by decide +kernel
theorem dksX0_fools_1 : cX0_fools.data.toList.drop 24 = dktX0_fools_1 := dk_seg dksX0_fools_0 24 rfl rfl
theorem dksX0_fools_2 : cX0_fools.data.toList.drop 46 = dktX0_fools_2 := dk_seg dksX0_fools_1 22 rfl rfl
theorem dksX0_fools_3 : cX0_fools.data.toList.drop 69 = dktX0_fools_3 := dk_seg dksX0_fools_2 23 rfl rfl
theorem dksX0_fools_4 : cX0_fools.data.toList.drop 93 = dktX0_fools_4 := dk_seg dksX0_fools_3 24 rfl rfl
theorem dX0_fools_0 : decode cX0_fools 0 = .ok (.iload_n 1, 1) := dk_27 (dk_at dksX0_fools_0 0 rfl rfl)
theorem dX0_fools_1 : decode cX0_fools 1 = .ok (.invokestatic 410, 3) := dk_184 1 154 (dk_at dksX0_fools_0 1 rfl rfl)
theorem dX0_fools_4 : decode cX0_fools 4 = .ok (.ifCond .eq 13, 3) := dk_153 0 13 (dk_at dksX0_fools_0 4 rfl rfl)
theorem dX0_fools_7 : decode cX0_fools 7 = .ok (.iload_n 2, 1) := dk_28 (dk_at dksX0_fools_0 7 rfl rfl)
theorem dX0_fools_8 : decode cX0_fools 8 = .ok (.i2l, 1) := dk_133 (dk_at dksX0_fools_0 8 rfl rfl)
theorem dX0_fools_9 : decode cX0_fools 9 = .ok (.lconst 0, 1) := dk_9 (dk_at dksX0_fools_0 9 rfl rfl)
theorem dX0_fools_10 : decode cX0_fools 10 = .ok (.lconst 1, 1) := dk_10 (dk_at dksX0_fools_0 10 rfl rfl)
theorem dX0_fools_11 : decode cX0_fools 11 = .ok (.invokestatic 7, 3) := dk_184 0 7 (dk_at dksX0_fools_0 11 rfl rfl)
theorem dX0_fools_14 : decode cX0_fools 14 = .ok (.ifCond .ne 5, 3) := dk_154 0 5 (dk_at dksX0_fools_0 14 rfl rfl)
theorem dX0_fools_17 : decode cX0_fools 17 = .ok (.iconst (-1), 1) := dk_2 (dk_at dksX0_fools_0 17 rfl rfl)
theorem dX0_fools_18 : decode cX0_fools 18 = .ok (.ireturn, 1) := dk_172 (dk_at dksX0_fools_0 18 rfl rfl)
theorem dX0_fools_19 : decode cX0_fools 19 = .ok (.iconst 0, 1) := dk_3 (dk_at dksX0_fools_0 19 rfl rfl)
theorem dX0_fools_20 : decode cX0_fools 20 = .ok (.istore_n 3, 1) := dk_62 (dk_at dksX0_fools_0 20 rfl rfl)
theorem dX0_fools_21 : decode cX0_fools 21 = .ok (.iconst 0, 1) := dk_3 (dk_at dksX0_fools_0 21 rfl rfl)
theorem dX0_fools_22 : decode cX0_fools 22 = .ok (.istore 4, 2) := dk_54 4 (dk_at dksX0_fools_0 22 rfl rfl)
theorem dX0_fools_24 : decode cX0_fools 24 = .ok (.iconst 2, 1) := dk_5 (dk_at dksX0_fools_1 0 rfl rfl)
theorem dX0_fools_25 : decode cX0_fools 25 = .ok (.istore 5, 2) := dk_54 5 (dk_at dksX0_fools_1 1 rfl rfl)
theorem dX0_fools_27 : decode cX0_fools 27 = .ok (.iload 5, 2) := dk_21 5 (dk_at dksX0_fools_1 3 rfl rfl)
theorem dX0_fools_29 : decode cX0_fools 29 = .ok (.sipush 999, 3) := dk_17 3 231 (dk_at dksX0_fools_1 5 rfl rfl)
theorem dX0_fools_32 : decode cX0_fools 32 = .ok (.if_icmp .gt 57, 3) := dk_163 0 57 (dk_at dksX0_fools_1 8 rfl rfl)
theorem dX0_fools_35 : decode cX0_fools 35 = .ok (.iload 5, 2) := dk_21 5 (dk_at dksX0_fools_1 11 rfl rfl)
theorem dX0_fools_37 : decode cX0_fools 37 = .ok (.iload_n 1, 1) := dk_27 (dk_at dksX0_fools_1 13 rfl rfl)
theorem dX0_fools_38 : decode cX0_fools 38 = .ok (.if_icmp .ge 51, 3) := dk_162 0 51 (dk_at dksX0_fools_1 14 rfl rfl)
theorem dX0_fools_41 : decode cX0_fools 41 = .ok (.iload_n 1, 1) := dk_27 (dk_at dksX0_fools_1 17 rfl rfl)
theorem dX0_fools_42 : decode cX0_fools 42 = .ok (.i2l, 1) := dk_133 (dk_at dksX0_fools_1 18 rfl rfl)
theorem dX0_fools_43 : decode cX0_fools 43 = .ok (.iload 5, 2) := dk_21 5 (dk_at dksX0_fools_1 19 rfl rfl)
theorem dX0_fools_45 : decode cX0_fools 45 = .ok (.i2l, 1) := dk_133 (dk_at dksX0_fools_1 21 rfl rfl)
theorem dX0_fools_46 : decode cX0_fools 46 = .ok (.invokestatic 413, 3) := dk_184 1 157 (dk_at dksX0_fools_2 0 rfl rfl)
theorem dX0_fools_49 : decode cX0_fools 49 = .ok (.istore 6, 2) := dk_54 6 (dk_at dksX0_fools_2 3 rfl rfl)
theorem dX0_fools_51 : decode cX0_fools 51 = .ok (.iload_n 3, 1) := dk_29 (dk_at dksX0_fools_2 5 rfl rfl)
theorem dX0_fools_52 : decode cX0_fools 52 = .ok (.iload 6, 2) := dk_21 6 (dk_at dksX0_fools_2 6 rfl rfl)
theorem dX0_fools_54 : decode cX0_fools 54 = .ok (.ifCond .eq 7, 3) := dk_153 0 7 (dk_at dksX0_fools_2 8 rfl rfl)
theorem dX0_fools_57 : decode cX0_fools 57 = .ok (.iconst 1, 1) := dk_4 (dk_at dksX0_fools_2 11 rfl rfl)
theorem dX0_fools_58 : decode cX0_fools 58 = .ok (.goto 4, 3) := dk_167 0 4 (dk_at dksX0_fools_2 12 rfl rfl)
theorem dX0_fools_61 : decode cX0_fools 61 = .ok (.iconst 0, 1) := dk_3 (dk_at dksX0_fools_2 15 rfl rfl)
theorem dX0_fools_62 : decode cX0_fools 62 = .ok (.iadd, 1) := dk_96 (dk_at dksX0_fools_2 16 rfl rfl)
theorem dX0_fools_63 : decode cX0_fools 63 = .ok (.istore_n 3, 1) := dk_62 (dk_at dksX0_fools_2 17 rfl rfl)
theorem dX0_fools_64 : decode cX0_fools 64 = .ok (.iload 6, 2) := dk_21 6 (dk_at dksX0_fools_2 18 rfl rfl)
theorem dX0_fools_66 : decode cX0_fools 66 = .ok (.ifCond .ne 13, 3) := dk_154 0 13 (dk_at dksX0_fools_2 20 rfl rfl)
theorem dX0_fools_69 : decode cX0_fools 69 = .ok (.iload 4, 2) := dk_21 4 (dk_at dksX0_fools_3 0 rfl rfl)
theorem dX0_fools_71 : decode cX0_fools 71 = .ok (.ifCond .ne 8, 3) := dk_154 0 8 (dk_at dksX0_fools_3 2 rfl rfl)
theorem dX0_fools_74 : decode cX0_fools 74 = .ok (.iload 5, 2) := dk_21 5 (dk_at dksX0_fools_3 5 rfl rfl)
theorem dX0_fools_76 : decode cX0_fools 76 = .ok (.goto 5, 3) := dk_167 0 5 (dk_at dksX0_fools_3 7 rfl rfl)
theorem dX0_fools_79 : decode cX0_fools 79 = .ok (.iload 4, 2) := dk_21 4 (dk_at dksX0_fools_3 10 rfl rfl)
theorem dX0_fools_81 : decode cX0_fools 81 = .ok (.istore 4, 2) := dk_54 4 (dk_at dksX0_fools_3 12 rfl rfl)
theorem dX0_fools_83 : decode cX0_fools 83 = .ok (.iinc 5 1, 3) := dk_132 5 1 (dk_at dksX0_fools_3 14 rfl rfl)
theorem dX0_fools_86 : decode cX0_fools 86 = .ok (.goto (-59), 3) := dk_167 255 197 (dk_at dksX0_fools_3 17 rfl rfl)
theorem dX0_fools_89 : decode cX0_fools 89 = .ok (.iload_n 2, 1) := dk_28 (dk_at dksX0_fools_3 20 rfl rfl)
theorem dX0_fools_90 : decode cX0_fools 90 = .ok (.ifCond .ne 7, 3) := dk_154 0 7 (dk_at dksX0_fools_3 21 rfl rfl)
theorem dX0_fools_93 : decode cX0_fools 93 = .ok (.iload_n 3, 1) := dk_29 (dk_at dksX0_fools_4 0 rfl rfl)
theorem dX0_fools_94 : decode cX0_fools 94 = .ok (.goto 5, 3) := dk_167 0 5 (dk_at dksX0_fools_4 1 rfl rfl)
theorem dX0_fools_97 : decode cX0_fools 97 = .ok (.iload 4, 2) := dk_21 4 (dk_at dksX0_fools_4 4 rfl rfl)
theorem dX0_fools_99 : decode cX0_fools 99 = .ok (.ireturn, 1) := dk_172 (dk_at dksX0_fools_4 6 rfl rfl)
abbrev cX0_power : ByteArray := prog_1_method_69_code
def yX0_power : MethodName := ⟨RX0, "power", "(III)I"⟩
def dkwX0_power_1 : List UInt8 := [184, 1, 150, 136, 172]
abbrev dktX0_power_1 : List UInt8 := dkwX0_power_1 ++ []
def dkwX0_power_0 : List UInt8 := [27, 155, 0, 12, 28, 155, 0, 8, 29, 4, 162, 0, 7, 2, 167, 0, 13, 27, 133, 28, 133, 29, 133]
abbrev dktX0_power_0 : List UInt8 := dkwX0_power_0 ++ dktX0_power_1
theorem dksX0_power_0 : cX0_power.data.toList.drop 0 = dktX0_power_0 := by decide +kernel
theorem dksX0_power_1 : cX0_power.data.toList.drop 23 = dktX0_power_1 := dk_seg dksX0_power_0 23 rfl rfl
theorem dX0_power_0 : decode cX0_power 0 = .ok (.iload_n 1, 1) := dk_27 (dk_at dksX0_power_0 0 rfl rfl)
theorem dX0_power_1 : decode cX0_power 1 = .ok (.ifCond .lt 12, 3) := dk_155 0 12 (dk_at dksX0_power_0 1 rfl rfl)
theorem dX0_power_4 : decode cX0_power 4 = .ok (.iload_n 2, 1) := dk_28 (dk_at dksX0_power_0 4 rfl rfl)
theorem dX0_power_5 : decode cX0_power 5 = .ok (.ifCond .lt 8, 3) := dk_155 0 8 (dk_at dksX0_power_0 5 rfl rfl)
theorem dX0_power_8 : decode cX0_power 8 = .ok (.iload_n 3, 1) := dk_29 (dk_at dksX0_power_0 8 rfl rfl)
theorem dX0_power_9 : decode cX0_power 9 = .ok (.iconst 1, 1) := dk_4 (dk_at dksX0_power_0 9 rfl rfl)
theorem dX0_power_10 : decode cX0_power 10 = .ok (.if_icmp .ge 7, 3) := dk_162 0 7 (dk_at dksX0_power_0 10 rfl rfl)
theorem dX0_power_13 : decode cX0_power 13 = .ok (.iconst (-1), 1) := dk_2 (dk_at dksX0_power_0 13 rfl rfl)
theorem dX0_power_14 : decode cX0_power 14 = .ok (.goto 13, 3) := dk_167 0 13 (dk_at dksX0_power_0 14 rfl rfl)
theorem dX0_power_17 : decode cX0_power 17 = .ok (.iload_n 1, 1) := dk_27 (dk_at dksX0_power_0 17 rfl rfl)
theorem dX0_power_18 : decode cX0_power 18 = .ok (.i2l, 1) := dk_133 (dk_at dksX0_power_0 18 rfl rfl)
theorem dX0_power_19 : decode cX0_power 19 = .ok (.iload_n 2, 1) := dk_28 (dk_at dksX0_power_0 19 rfl rfl)
theorem dX0_power_20 : decode cX0_power 20 = .ok (.i2l, 1) := dk_133 (dk_at dksX0_power_0 20 rfl rfl)
theorem dX0_power_21 : decode cX0_power 21 = .ok (.iload_n 3, 1) := dk_29 (dk_at dksX0_power_0 21 rfl rfl)
theorem dX0_power_22 : decode cX0_power 22 = .ok (.i2l, 1) := dk_133 (dk_at dksX0_power_0 22 rfl rfl)
theorem dX0_power_23 : decode cX0_power 23 = .ok (.invokestatic 406, 3) := dk_184 1 150 (dk_at dksX0_power_1 0 rfl rfl)
theorem dX0_power_26 : decode cX0_power 26 = .ok (.l2i, 1) := dk_136 (dk_at dksX0_power_1 3 rfl rfl)
theorem dX0_power_27 : decode cX0_power 27 = .ok (.ireturn, 1) := dk_172 (dk_at dksX0_power_1 4 rfl rfl)
abbrev cX0_order : ByteArray := prog_1_method_71_code
def yX0_order : MethodName := ⟨RX0, "order", "(II)I"⟩
def dkwX0_order_5 : List UInt8 := [172]
abbrev dktX0_order_5 : List UInt8 := dkwX0_order_5 ++ []
def dkwX0_order_4 : List UInt8 := [184, 1, 150, 10, 148, 154, 0, 14, 33, 25, 6, 180, 0, 172, 109, 66, 167, 255, 217, 167, 255, 192, 33, 136]
abbrev dktX0_order_4 : List UInt8 := dkwX0_order_4 ++ dktX0_order_5
def dkwX0_order_3 : List UInt8 := [33, 25, 6, 180, 0, 172, 113, 9, 148, 154, 0, 33, 27, 133, 33, 25, 6, 180, 0, 172, 109, 28, 133]
abbrev dktX0_order_3 : List UInt8 := dkwX0_order_3 ++ dktX0_order_4
def dkwX0_order_2 : List UInt8 := [58, 5, 25, 5, 185, 0, 162, 1, 0, 153, 0, 60, 25, 5, 185, 0, 168, 1, 0, 192, 0, 49, 58, 6]
abbrev dktX0_order_2 : List UInt8 := dkwX0_order_2 ++ dktX0_order_3
def dkwX0_order_1 : List UInt8 := [184, 0, 11, 10, 148, 153, 0, 6, 16, 254, 172, 28, 133, 184, 1, 163, 66, 33, 184, 1, 132, 182, 0, 158]
abbrev dktX0_order_1 : List UInt8 := dkwX0_order_1 ++ dktX0_order_2
def dkwX0_order_0 : List UInt8 := [27, 155, 0, 17, 28, 133, 20, 0, 1, 20, 1, 161, 184, 0, 7, 154, 0, 5, 2, 172, 27, 133, 28, 133]
abbrev dktX0_order_0 : List UInt8 := dkwX0_order_0 ++ dktX0_order_1
theorem dksX0_order_0 : cX0_order.data.toList.drop 0 = dktX0_order_0 := by decide +kernel
theorem dksX0_order_1 : cX0_order.data.toList.drop 24 = dktX0_order_1 := dk_seg dksX0_order_0 24 rfl rfl
theorem dksX0_order_2 : cX0_order.data.toList.drop 48 = dktX0_order_2 := dk_seg dksX0_order_1 24 rfl rfl
theorem dksX0_order_3 : cX0_order.data.toList.drop 72 = dktX0_order_3 := dk_seg dksX0_order_2 24 rfl rfl
theorem dksX0_order_4 : cX0_order.data.toList.drop 95 = dktX0_order_4 := dk_seg dksX0_order_3 23 rfl rfl
theorem dksX0_order_5 : cX0_order.data.toList.drop 119 = dktX0_order_5 := dk_seg dksX0_order_4 24 rfl rfl
theorem dX0_order_0 : decode cX0_order 0 = .ok (.iload_n 1, 1) := dk_27 (dk_at dksX0_order_0 0 rfl rfl)
theorem dX0_order_1 : decode cX0_order 1 = .ok (.ifCond .lt 17, 3) := dk_155 0 17 (dk_at dksX0_order_0 1 rfl rfl)
theorem dX0_order_4 : decode cX0_order 4 = .ok (.iload_n 2, 1) := dk_28 (dk_at dksX0_order_0 4 rfl rfl)
theorem dX0_order_5 : decode cX0_order 5 = .ok (.i2l, 1) := dk_133 (dk_at dksX0_order_0 5 rfl rfl)
theorem dX0_order_6 : decode cX0_order 6 = .ok (.ldc2_w 1, 3) := dk_20 0 1 (dk_at dksX0_order_0 6 rfl rfl)
theorem dX0_order_9 : decode cX0_order 9 = .ok (.ldc2_w 417, 3) := dk_20 1 161 (dk_at dksX0_order_0 9 rfl rfl)
theorem dX0_order_12 : decode cX0_order 12 = .ok (.invokestatic 7, 3) := dk_184 0 7 (dk_at dksX0_order_0 12 rfl rfl)
theorem dX0_order_15 : decode cX0_order 15 = .ok (.ifCond .ne 5, 3) := dk_154 0 5 (dk_at dksX0_order_0 15 rfl rfl)
theorem dX0_order_18 : decode cX0_order 18 = .ok (.iconst (-1), 1) := dk_2 (dk_at dksX0_order_0 18 rfl rfl)
theorem dX0_order_19 : decode cX0_order 19 = .ok (.ireturn, 1) := dk_172 (dk_at dksX0_order_0 19 rfl rfl)
theorem dX0_order_20 : decode cX0_order 20 = .ok (.iload_n 1, 1) := dk_27 (dk_at dksX0_order_0 20 rfl rfl)
theorem dX0_order_21 : decode cX0_order 21 = .ok (.i2l, 1) := dk_133 (dk_at dksX0_order_0 21 rfl rfl)
theorem dX0_order_22 : decode cX0_order 22 = .ok (.iload_n 2, 1) := dk_28 (dk_at dksX0_order_0 22 rfl rfl)
theorem dX0_order_23 : decode cX0_order 23 = .ok (.i2l, 1) := dk_133 (dk_at dksX0_order_0 23 rfl rfl)
theorem dX0_order_24 : decode cX0_order 24 = .ok (.invokestatic 11, 3) := dk_184 0 11 (dk_at dksX0_order_1 0 rfl rfl)
theorem dX0_order_27 : decode cX0_order 27 = .ok (.lconst 1, 1) := dk_10 (dk_at dksX0_order_1 3 rfl rfl)
theorem dX0_order_28 : decode cX0_order 28 = .ok (.lcmp, 1) := dk_148 (dk_at dksX0_order_1 4 rfl rfl)
theorem dX0_order_29 : decode cX0_order 29 = .ok (.ifCond .eq 6, 3) := dk_153 0 6 (dk_at dksX0_order_1 5 rfl rfl)
theorem dX0_order_32 : decode cX0_order 32 = .ok (.bipush (-2), 2) := dk_16 254 (dk_at dksX0_order_1 8 rfl rfl)
theorem dX0_order_34 : decode cX0_order 34 = .ok (.ireturn, 1) := dk_172 (dk_at dksX0_order_1 10 rfl rfl)
theorem dX0_order_35 : decode cX0_order 35 = .ok (.iload_n 2, 1) := dk_28 (dk_at dksX0_order_1 11 rfl rfl)
theorem dX0_order_36 : decode cX0_order 36 = .ok (.i2l, 1) := dk_133 (dk_at dksX0_order_1 12 rfl rfl)
theorem dX0_order_37 : decode cX0_order 37 = .ok (.invokestatic 419, 3) := dk_184 1 163 (dk_at dksX0_order_1 13 rfl rfl)
theorem dX0_order_40 : decode cX0_order 40 = .ok (.lstore_n 3, 1) := dk_66 (dk_at dksX0_order_1 16 rfl rfl)
theorem dX0_order_41 : decode cX0_order 41 = .ok (.lload_n 3, 1) := dk_33 (dk_at dksX0_order_1 17 rfl rfl)
theorem dX0_order_42 : decode cX0_order 42 = .ok (.invokestatic 388, 3) := dk_184 1 132 (dk_at dksX0_order_1 18 rfl rfl)
theorem dX0_order_45 : decode cX0_order 45 = .ok (.invokevirtual 158, 3) := dk_182 0 158 (dk_at dksX0_order_1 21 rfl rfl)
theorem dX0_order_48 : decode cX0_order 48 = .ok (.astore 5, 2) := dk_58 5 (dk_at dksX0_order_2 0 rfl rfl)
theorem dX0_order_50 : decode cX0_order 50 = .ok (.aload 5, 2) := dk_25 5 (dk_at dksX0_order_2 2 rfl rfl)
theorem dX0_order_52 : decode cX0_order 52 = .ok (.invokeinterface 162 1, 5) := by decide +kernel
theorem dX0_order_57 : decode cX0_order 57 = .ok (.ifCond .eq 60, 3) := dk_153 0 60 (dk_at dksX0_order_2 9 rfl rfl)
theorem dX0_order_60 : decode cX0_order 60 = .ok (.aload 5, 2) := dk_25 5 (dk_at dksX0_order_2 12 rfl rfl)
theorem dX0_order_62 : decode cX0_order 62 = .ok (.invokeinterface 168 1, 5) := by decide +kernel
theorem dX0_order_67 : decode cX0_order 67 = .ok (.checkcast 49, 3) := dk_192 0 49 (dk_at dksX0_order_2 19 rfl rfl)
theorem dX0_order_70 : decode cX0_order 70 = .ok (.astore 6, 2) := dk_58 6 (dk_at dksX0_order_2 22 rfl rfl)
theorem dX0_order_72 : decode cX0_order 72 = .ok (.lload_n 3, 1) := dk_33 (dk_at dksX0_order_3 0 rfl rfl)
theorem dX0_order_73 : decode cX0_order 73 = .ok (.aload 6, 2) := dk_25 6 (dk_at dksX0_order_3 1 rfl rfl)
theorem dX0_order_75 : decode cX0_order 75 = .ok (.getfield 172, 3) := dk_180 0 172 (dk_at dksX0_order_3 3 rfl rfl)
theorem dX0_order_78 : decode cX0_order 78 = .ok (.lrem, 1) := dk_113 (dk_at dksX0_order_3 6 rfl rfl)
theorem dX0_order_79 : decode cX0_order 79 = .ok (.lconst 0, 1) := dk_9 (dk_at dksX0_order_3 7 rfl rfl)
theorem dX0_order_80 : decode cX0_order 80 = .ok (.lcmp, 1) := dk_148 (dk_at dksX0_order_3 8 rfl rfl)
theorem dX0_order_81 : decode cX0_order 81 = .ok (.ifCond .ne 33, 3) := dk_154 0 33 (dk_at dksX0_order_3 9 rfl rfl)
theorem dX0_order_84 : decode cX0_order 84 = .ok (.iload_n 1, 1) := dk_27 (dk_at dksX0_order_3 12 rfl rfl)
theorem dX0_order_85 : decode cX0_order 85 = .ok (.i2l, 1) := dk_133 (dk_at dksX0_order_3 13 rfl rfl)
theorem dX0_order_86 : decode cX0_order 86 = .ok (.lload_n 3, 1) := dk_33 (dk_at dksX0_order_3 14 rfl rfl)
theorem dX0_order_87 : decode cX0_order 87 = .ok (.aload 6, 2) := dk_25 6 (dk_at dksX0_order_3 15 rfl rfl)
theorem dX0_order_89 : decode cX0_order 89 = .ok (.getfield 172, 3) := dk_180 0 172 (dk_at dksX0_order_3 17 rfl rfl)
theorem dX0_order_92 : decode cX0_order 92 = .ok (.ldiv, 1) := dk_109 (dk_at dksX0_order_3 20 rfl rfl)
theorem dX0_order_93 : decode cX0_order 93 = .ok (.iload_n 2, 1) := dk_28 (dk_at dksX0_order_3 21 rfl rfl)
theorem dX0_order_94 : decode cX0_order 94 = .ok (.i2l, 1) := dk_133 (dk_at dksX0_order_3 22 rfl rfl)
theorem dX0_order_95 : decode cX0_order 95 = .ok (.invokestatic 406, 3) := dk_184 1 150 (dk_at dksX0_order_4 0 rfl rfl)
theorem dX0_order_98 : decode cX0_order 98 = .ok (.lconst 1, 1) := dk_10 (dk_at dksX0_order_4 3 rfl rfl)
theorem dX0_order_99 : decode cX0_order 99 = .ok (.lcmp, 1) := dk_148 (dk_at dksX0_order_4 4 rfl rfl)
theorem dX0_order_100 : decode cX0_order 100 = .ok (.ifCond .ne 14, 3) := dk_154 0 14 (dk_at dksX0_order_4 5 rfl rfl)
theorem dX0_order_103 : decode cX0_order 103 = .ok (.lload_n 3, 1) := dk_33 (dk_at dksX0_order_4 8 rfl rfl)
theorem dX0_order_104 : decode cX0_order 104 = .ok (.aload 6, 2) := dk_25 6 (dk_at dksX0_order_4 9 rfl rfl)
theorem dX0_order_106 : decode cX0_order 106 = .ok (.getfield 172, 3) := dk_180 0 172 (dk_at dksX0_order_4 11 rfl rfl)
theorem dX0_order_109 : decode cX0_order 109 = .ok (.ldiv, 1) := dk_109 (dk_at dksX0_order_4 14 rfl rfl)
theorem dX0_order_110 : decode cX0_order 110 = .ok (.lstore_n 3, 1) := dk_66 (dk_at dksX0_order_4 15 rfl rfl)
theorem dX0_order_111 : decode cX0_order 111 = .ok (.goto (-39), 3) := dk_167 255 217 (dk_at dksX0_order_4 16 rfl rfl)
theorem dX0_order_114 : decode cX0_order 114 = .ok (.goto (-64), 3) := dk_167 255 192 (dk_at dksX0_order_4 19 rfl rfl)
theorem dX0_order_117 : decode cX0_order 117 = .ok (.lload_n 3, 1) := dk_33 (dk_at dksX0_order_4 22 rfl rfl)
theorem dX0_order_118 : decode cX0_order 118 = .ok (.l2i, 1) := dk_136 (dk_at dksX0_order_4 23 rfl rfl)
theorem dX0_order_119 : decode cX0_order 119 = .ok (.ireturn, 1) := dk_172 (dk_at dksX0_order_5 0 rfl rfl)
abbrev cX0_unitsOf : ByteArray := prog_1_method_70_code
def yX0_unitsOf : MethodName := ⟨RX0, "unitsOf", "(J)J"⟩
def dkwX0_unitsOf_2 : List UInt8 := [105, 65, 167, 255, 218, 32, 173]
abbrev dktX0_unitsOf_2 : List UInt8 := dkwX0_unitsOf_2 ++ []
def dkwX0_unitsOf_1 : List UInt8 := [185, 0, 168, 1, 0, 192, 0, 49, 58, 5, 32, 25, 5, 180, 0, 172, 109, 25, 5, 180, 0, 172, 10, 101]
abbrev dktX0_unitsOf_1 : List UInt8 := dkwX0_unitsOf_1 ++ dktX0_unitsOf_2
def dkwX0_unitsOf_0 : List UInt8 := [30, 65, 30, 184, 1, 132, 182, 0, 158, 58, 4, 25, 4, 185, 0, 162, 1, 0, 153, 0, 34, 25, 4]
abbrev dktX0_unitsOf_0 : List UInt8 := dkwX0_unitsOf_0 ++ dktX0_unitsOf_1
theorem dksX0_unitsOf_0 : cX0_unitsOf.data.toList.drop 0 = dktX0_unitsOf_0 := by decide +kernel
theorem dksX0_unitsOf_1 : cX0_unitsOf.data.toList.drop 23 = dktX0_unitsOf_1 := dk_seg dksX0_unitsOf_0 23 rfl rfl
theorem dksX0_unitsOf_2 : cX0_unitsOf.data.toList.drop 47 = dktX0_unitsOf_2 := dk_seg dksX0_unitsOf_1 24 rfl rfl
theorem dX0_unitsOf_0 : decode cX0_unitsOf 0 = .ok (.lload_n 0, 1) := dk_30 (dk_at dksX0_unitsOf_0 0 rfl rfl)
theorem dX0_unitsOf_1 : decode cX0_unitsOf 1 = .ok (.lstore_n 2, 1) := dk_65 (dk_at dksX0_unitsOf_0 1 rfl rfl)
theorem dX0_unitsOf_2 : decode cX0_unitsOf 2 = .ok (.lload_n 0, 1) := dk_30 (dk_at dksX0_unitsOf_0 2 rfl rfl)
theorem dX0_unitsOf_3 : decode cX0_unitsOf 3 = .ok (.invokestatic 388, 3) := dk_184 1 132 (dk_at dksX0_unitsOf_0 3 rfl rfl)
theorem dX0_unitsOf_6 : decode cX0_unitsOf 6 = .ok (.invokevirtual 158, 3) := dk_182 0 158 (dk_at dksX0_unitsOf_0 6 rfl rfl)
theorem dX0_unitsOf_9 : decode cX0_unitsOf 9 = .ok (.astore 4, 2) := dk_58 4 (dk_at dksX0_unitsOf_0 9 rfl rfl)
theorem dX0_unitsOf_11 : decode cX0_unitsOf 11 = .ok (.aload 4, 2) := dk_25 4 (dk_at dksX0_unitsOf_0 11 rfl rfl)
theorem dX0_unitsOf_13 : decode cX0_unitsOf 13 = .ok (.invokeinterface 162 1, 5) := by decide +kernel
theorem dX0_unitsOf_18 : decode cX0_unitsOf 18 = .ok (.ifCond .eq 34, 3) := dk_153 0 34 (dk_at dksX0_unitsOf_0 18 rfl rfl)
theorem dX0_unitsOf_21 : decode cX0_unitsOf 21 = .ok (.aload 4, 2) := dk_25 4 (dk_at dksX0_unitsOf_0 21 rfl rfl)
theorem dX0_unitsOf_23 : decode cX0_unitsOf 23 = .ok (.invokeinterface 168 1, 5) := by decide +kernel
theorem dX0_unitsOf_28 : decode cX0_unitsOf 28 = .ok (.checkcast 49, 3) := dk_192 0 49 (dk_at dksX0_unitsOf_1 5 rfl rfl)
theorem dX0_unitsOf_31 : decode cX0_unitsOf 31 = .ok (.astore 5, 2) := dk_58 5 (dk_at dksX0_unitsOf_1 8 rfl rfl)
theorem dX0_unitsOf_33 : decode cX0_unitsOf 33 = .ok (.lload_n 2, 1) := dk_32 (dk_at dksX0_unitsOf_1 10 rfl rfl)
theorem dX0_unitsOf_34 : decode cX0_unitsOf 34 = .ok (.aload 5, 2) := dk_25 5 (dk_at dksX0_unitsOf_1 11 rfl rfl)
theorem dX0_unitsOf_36 : decode cX0_unitsOf 36 = .ok (.getfield 172, 3) := dk_180 0 172 (dk_at dksX0_unitsOf_1 13 rfl rfl)
theorem dX0_unitsOf_39 : decode cX0_unitsOf 39 = .ok (.ldiv, 1) := dk_109 (dk_at dksX0_unitsOf_1 16 rfl rfl)
theorem dX0_unitsOf_40 : decode cX0_unitsOf 40 = .ok (.aload 5, 2) := dk_25 5 (dk_at dksX0_unitsOf_1 17 rfl rfl)
theorem dX0_unitsOf_42 : decode cX0_unitsOf 42 = .ok (.getfield 172, 3) := dk_180 0 172 (dk_at dksX0_unitsOf_1 19 rfl rfl)
theorem dX0_unitsOf_45 : decode cX0_unitsOf 45 = .ok (.lconst 1, 1) := dk_10 (dk_at dksX0_unitsOf_1 22 rfl rfl)
theorem dX0_unitsOf_46 : decode cX0_unitsOf 46 = .ok (.lsub, 1) := dk_101 (dk_at dksX0_unitsOf_1 23 rfl rfl)
theorem dX0_unitsOf_47 : decode cX0_unitsOf 47 = .ok (.lmul, 1) := dk_105 (dk_at dksX0_unitsOf_2 0 rfl rfl)
theorem dX0_unitsOf_48 : decode cX0_unitsOf 48 = .ok (.lstore_n 2, 1) := dk_65 (dk_at dksX0_unitsOf_2 1 rfl rfl)
theorem dX0_unitsOf_49 : decode cX0_unitsOf 49 = .ok (.goto (-38), 3) := dk_167 255 218 (dk_at dksX0_unitsOf_2 2 rfl rfl)
theorem dX0_unitsOf_52 : decode cX0_unitsOf 52 = .ok (.lload_n 2, 1) := dk_32 (dk_at dksX0_unitsOf_2 5 rfl rfl)
theorem dX0_unitsOf_53 : decode cX0_unitsOf 53 = .ok (.lreturn, 1) := dk_173 (dk_at dksX0_unitsOf_2 6 rfl rfl)
abbrev cX0_jacobi : ByteArray := prog_1_method_72_code
def yX0_jacobi : MethodName := ⟨RX0, "jacobi", "(II)I"⟩
def dkwX0_jacobi_0 : List UInt8 := [28, 4, 161, 0, 9, 28, 5, 112, 154, 0, 8, 16, 254, 167, 0, 10, 27, 133, 28, 133, 184, 1, 166, 172]
abbrev dktX0_jacobi_0 : List UInt8 := dkwX0_jacobi_0 ++ []
theorem dksX0_jacobi_0 : cX0_jacobi.data.toList.drop 0 = dktX0_jacobi_0 := by decide +kernel
theorem dX0_jacobi_0 : decode cX0_jacobi 0 = .ok (.iload_n 2, 1) := dk_28 (dk_at dksX0_jacobi_0 0 rfl rfl)
theorem dX0_jacobi_1 : decode cX0_jacobi 1 = .ok (.iconst 1, 1) := dk_4 (dk_at dksX0_jacobi_0 1 rfl rfl)
theorem dX0_jacobi_2 : decode cX0_jacobi 2 = .ok (.if_icmp .lt 9, 3) := dk_161 0 9 (dk_at dksX0_jacobi_0 2 rfl rfl)
theorem dX0_jacobi_5 : decode cX0_jacobi 5 = .ok (.iload_n 2, 1) := dk_28 (dk_at dksX0_jacobi_0 5 rfl rfl)
theorem dX0_jacobi_6 : decode cX0_jacobi 6 = .ok (.iconst 2, 1) := dk_5 (dk_at dksX0_jacobi_0 6 rfl rfl)
theorem dX0_jacobi_7 : decode cX0_jacobi 7 = .ok (.irem, 1) := dk_112 (dk_at dksX0_jacobi_0 7 rfl rfl)
theorem dX0_jacobi_8 : decode cX0_jacobi 8 = .ok (.ifCond .ne 8, 3) := dk_154 0 8 (dk_at dksX0_jacobi_0 8 rfl rfl)
theorem dX0_jacobi_11 : decode cX0_jacobi 11 = .ok (.bipush (-2), 2) := dk_16 254 (dk_at dksX0_jacobi_0 11 rfl rfl)
theorem dX0_jacobi_13 : decode cX0_jacobi 13 = .ok (.goto 10, 3) := dk_167 0 10 (dk_at dksX0_jacobi_0 13 rfl rfl)
theorem dX0_jacobi_16 : decode cX0_jacobi 16 = .ok (.iload_n 1, 1) := dk_27 (dk_at dksX0_jacobi_0 16 rfl rfl)
theorem dX0_jacobi_17 : decode cX0_jacobi 17 = .ok (.i2l, 1) := dk_133 (dk_at dksX0_jacobi_0 17 rfl rfl)
theorem dX0_jacobi_18 : decode cX0_jacobi 18 = .ok (.iload_n 2, 1) := dk_28 (dk_at dksX0_jacobi_0 18 rfl rfl)
theorem dX0_jacobi_19 : decode cX0_jacobi 19 = .ok (.i2l, 1) := dk_133 (dk_at dksX0_jacobi_0 19 rfl rfl)
theorem dX0_jacobi_20 : decode cX0_jacobi 20 = .ok (.invokestatic 422, 3) := dk_184 1 166 (dk_at dksX0_jacobi_0 20 rfl rfl)
theorem dX0_jacobi_23 : decode cX0_jacobi 23 = .ok (.ireturn, 1) := dk_172 (dk_at dksX0_jacobi_0 23 rfl rfl)
abbrev cX0_u : ByteArray := prog_1_method_73_code
def yX0_u : MethodName := ⟨RX0, "u", "(IIII)I"⟩
def dkwX0_u_2 : List UInt8 := [21, 4, 133, 184, 1, 170, 136, 167, 0, 4, 2, 172]
abbrev dktX0_u_2 : List UInt8 := dkwX0_u_2 ++ []
def dkwX0_u_1 : List UInt8 := [29, 155, 0, 32, 21, 4, 133, 10, 20, 0, 5, 184, 0, 7, 153, 0, 19, 27, 133, 28, 133, 29, 133]
abbrev dktX0_u_1 : List UInt8 := dkwX0_u_1 ++ dktX0_u_2
def dkwX0_u_0 : List UInt8 := [27, 133, 10, 20, 0, 249, 184, 0, 7, 153, 0, 48, 28, 133, 10, 20, 0, 249, 184, 0, 7, 153, 0, 36]
abbrev dktX0_u_0 : List UInt8 := dkwX0_u_0 ++ dktX0_u_1
theorem dksX0_u_0 : cX0_u.data.toList.drop 0 = dktX0_u_0 := by decide +kernel
theorem dksX0_u_1 : cX0_u.data.toList.drop 24 = dktX0_u_1 := dk_seg dksX0_u_0 24 rfl rfl
theorem dksX0_u_2 : cX0_u.data.toList.drop 47 = dktX0_u_2 := dk_seg dksX0_u_1 23 rfl rfl
theorem dX0_u_0 : decode cX0_u 0 = .ok (.iload_n 1, 1) := dk_27 (dk_at dksX0_u_0 0 rfl rfl)
theorem dX0_u_1 : decode cX0_u 1 = .ok (.i2l, 1) := dk_133 (dk_at dksX0_u_0 1 rfl rfl)
theorem dX0_u_2 : decode cX0_u 2 = .ok (.lconst 1, 1) := dk_10 (dk_at dksX0_u_0 2 rfl rfl)
theorem dX0_u_3 : decode cX0_u 3 = .ok (.ldc2_w 249, 3) := dk_20 0 249 (dk_at dksX0_u_0 3 rfl rfl)
theorem dX0_u_6 : decode cX0_u 6 = .ok (.invokestatic 7, 3) := dk_184 0 7 (dk_at dksX0_u_0 6 rfl rfl)
theorem dX0_u_9 : decode cX0_u 9 = .ok (.ifCond .eq 48, 3) := dk_153 0 48 (dk_at dksX0_u_0 9 rfl rfl)
theorem dX0_u_12 : decode cX0_u 12 = .ok (.iload_n 2, 1) := dk_28 (dk_at dksX0_u_0 12 rfl rfl)
theorem dX0_u_13 : decode cX0_u 13 = .ok (.i2l, 1) := dk_133 (dk_at dksX0_u_0 13 rfl rfl)
theorem dX0_u_14 : decode cX0_u 14 = .ok (.lconst 1, 1) := dk_10 (dk_at dksX0_u_0 14 rfl rfl)
theorem dX0_u_15 : decode cX0_u 15 = .ok (.ldc2_w 249, 3) := dk_20 0 249 (dk_at dksX0_u_0 15 rfl rfl)
theorem dX0_u_18 : decode cX0_u 18 = .ok (.invokestatic 7, 3) := dk_184 0 7 (dk_at dksX0_u_0 18 rfl rfl)
theorem dX0_u_21 : decode cX0_u 21 = .ok (.ifCond .eq 36, 3) := dk_153 0 36 (dk_at dksX0_u_0 21 rfl rfl)
theorem dX0_u_24 : decode cX0_u 24 = .ok (.iload_n 3, 1) := dk_29 (dk_at dksX0_u_1 0 rfl rfl)
theorem dX0_u_25 : decode cX0_u 25 = .ok (.ifCond .lt 32, 3) := dk_155 0 32 (dk_at dksX0_u_1 1 rfl rfl)
theorem dX0_u_28 : decode cX0_u 28 = .ok (.iload 4, 2) := dk_21 4 (dk_at dksX0_u_1 4 rfl rfl)
theorem dX0_u_30 : decode cX0_u 30 = .ok (.i2l, 1) := dk_133 (dk_at dksX0_u_1 6 rfl rfl)
theorem dX0_u_31 : decode cX0_u 31 = .ok (.lconst 1, 1) := dk_10 (dk_at dksX0_u_1 7 rfl rfl)
theorem dX0_u_32 : decode cX0_u 32 = .ok (.ldc2_w 5, 3) := dk_20 0 5 (dk_at dksX0_u_1 8 rfl rfl)
theorem dX0_u_35 : decode cX0_u 35 = .ok (.invokestatic 7, 3) := dk_184 0 7 (dk_at dksX0_u_1 11 rfl rfl)
theorem dX0_u_38 : decode cX0_u 38 = .ok (.ifCond .eq 19, 3) := dk_153 0 19 (dk_at dksX0_u_1 14 rfl rfl)
theorem dX0_u_41 : decode cX0_u 41 = .ok (.iload_n 1, 1) := dk_27 (dk_at dksX0_u_1 17 rfl rfl)
theorem dX0_u_42 : decode cX0_u 42 = .ok (.i2l, 1) := dk_133 (dk_at dksX0_u_1 18 rfl rfl)
theorem dX0_u_43 : decode cX0_u 43 = .ok (.iload_n 2, 1) := dk_28 (dk_at dksX0_u_1 19 rfl rfl)
theorem dX0_u_44 : decode cX0_u 44 = .ok (.i2l, 1) := dk_133 (dk_at dksX0_u_1 20 rfl rfl)
theorem dX0_u_45 : decode cX0_u 45 = .ok (.iload_n 3, 1) := dk_29 (dk_at dksX0_u_1 21 rfl rfl)
theorem dX0_u_46 : decode cX0_u 46 = .ok (.i2l, 1) := dk_133 (dk_at dksX0_u_1 22 rfl rfl)
theorem dX0_u_47 : decode cX0_u 47 = .ok (.iload 4, 2) := dk_21 4 (dk_at dksX0_u_2 0 rfl rfl)
theorem dX0_u_49 : decode cX0_u 49 = .ok (.i2l, 1) := dk_133 (dk_at dksX0_u_2 2 rfl rfl)
theorem dX0_u_50 : decode cX0_u 50 = .ok (.invokestatic 426, 3) := dk_184 1 170 (dk_at dksX0_u_2 3 rfl rfl)
theorem dX0_u_53 : decode cX0_u 53 = .ok (.l2i, 1) := dk_136 (dk_at dksX0_u_2 6 rfl rfl)
theorem dX0_u_54 : decode cX0_u 54 = .ok (.goto 4, 3) := dk_167 0 4 (dk_at dksX0_u_2 7 rfl rfl)
theorem dX0_u_57 : decode cX0_u 57 = .ok (.iconst (-1), 1) := dk_2 (dk_at dksX0_u_2 10 rfl rfl)
theorem dX0_u_58 : decode cX0_u 58 = .ok (.ireturn, 1) := dk_172 (dk_at dksX0_u_2 11 rfl rfl)
abbrev cX0_units : ByteArray := prog_1_method_74_code
def yX0_units : MethodName := ⟨RX0, "units", "(I)I"⟩
def dkwX0_units_0 : List UInt8 := [27, 133, 10, 20, 0, 5, 184, 0, 7, 153, 0, 12, 27, 133, 184, 1, 163, 136, 167, 0, 4, 2, 172]
abbrev dktX0_units_0 : List UInt8 := dkwX0_units_0 ++ []
theorem dksX0_units_0 : cX0_units.data.toList.drop 0 = dktX0_units_0 := by decide +kernel
theorem dX0_units_0 : decode cX0_units 0 = .ok (.iload_n 1, 1) := dk_27 (dk_at dksX0_units_0 0 rfl rfl)
theorem dX0_units_1 : decode cX0_units 1 = .ok (.i2l, 1) := dk_133 (dk_at dksX0_units_0 1 rfl rfl)
theorem dX0_units_2 : decode cX0_units 2 = .ok (.lconst 1, 1) := dk_10 (dk_at dksX0_units_0 2 rfl rfl)
theorem dX0_units_3 : decode cX0_units 3 = .ok (.ldc2_w 5, 3) := dk_20 0 5 (dk_at dksX0_units_0 3 rfl rfl)
theorem dX0_units_6 : decode cX0_units 6 = .ok (.invokestatic 7, 3) := dk_184 0 7 (dk_at dksX0_units_0 6 rfl rfl)
theorem dX0_units_9 : decode cX0_units 9 = .ok (.ifCond .eq 12, 3) := dk_153 0 12 (dk_at dksX0_units_0 9 rfl rfl)
theorem dX0_units_12 : decode cX0_units 12 = .ok (.iload_n 1, 1) := dk_27 (dk_at dksX0_units_0 12 rfl rfl)
theorem dX0_units_13 : decode cX0_units 13 = .ok (.i2l, 1) := dk_133 (dk_at dksX0_units_0 13 rfl rfl)
theorem dX0_units_14 : decode cX0_units 14 = .ok (.invokestatic 419, 3) := dk_184 1 163 (dk_at dksX0_units_0 14 rfl rfl)
theorem dX0_units_17 : decode cX0_units 17 = .ok (.l2i, 1) := dk_136 (dk_at dksX0_units_0 17 rfl rfl)
theorem dX0_units_18 : decode cX0_units 18 = .ok (.goto 4, 3) := dk_167 0 4 (dk_at dksX0_units_0 18 rfl rfl)
theorem dX0_units_21 : decode cX0_units 21 = .ok (.iconst (-1), 1) := dk_2 (dk_at dksX0_units_0 21 rfl rfl)
theorem dX0_units_22 : decode cX0_units 22 = .ok (.ireturn, 1) := dk_172 (dk_at dksX0_units_0 22 rfl rfl)
abbrev cX0_count : ByteArray := prog_1_method_75_code
def yX0_count : MethodName := ⟨RX0, "count", "(I)I"⟩
def dkwX0_count_11 : List UInt8 := [172]
abbrev dktX0_count_11 : List UInt8 := dkwX0_count_11 ++ []
def dkwX0_count_10 : List UInt8 := [162, 0, 21, 28, 3, 42, 29, 182, 1, 176, 184, 1, 42, 96, 61, 132, 3, 1, 167, 255, 230, 28, 172, 2]
abbrev dktX0_count_10 : List UInt8 := dkwX0_count_10 ++ dktX0_count_11
def dkwX0_count_9 : List UInt8 := [184, 1, 42, 61, 132, 3, 1, 167, 255, 231, 28, 172, 3, 61, 3, 62, 29, 42, 180, 0, 91, 182, 0, 110]
abbrev dktX0_count_9 : List UInt8 := dkwX0_count_9 ++ dktX0_count_10
def dkwX0_count_8 : List UInt8 := [100, 182, 1, 45, 3, 62, 29, 42, 180, 0, 91, 182, 0, 110, 162, 0, 20, 28, 42, 180, 0, 106, 29, 46]
abbrev dktX0_count_8 : List UInt8 := dkwX0_count_8 ++ dktX0_count_9
def dkwX0_count_7 : List UInt8 := [184, 1, 174, 65, 132, 4, 1, 167, 255, 212, 32, 136, 172, 3, 61, 42, 42, 180, 0, 91, 182, 0, 110, 4]
abbrev dktX0_count_7 : List UInt8 := dkwX0_count_7 ++ dktX0_count_8
def dkwX0_count_6 : List UInt8 := [21, 4, 182, 0, 136, 153, 0, 23, 32, 42, 180, 0, 91, 21, 4, 182, 0, 122, 192, 0, 126, 180, 0, 132]
abbrev dktX0_count_6 : List UInt8 := dkwX0_count_6 ++ dktX0_count_7
def dkwX0_count_5 : List UInt8 := [172, 42, 180, 0, 225, 172, 9, 65, 3, 54, 4, 21, 4, 42, 180, 0, 91, 182, 0, 110, 162, 0, 38, 42]
abbrev dktX0_count_5 : List UInt8 := dkwX0_count_5 ++ dktX0_count_6
def dkwX0_count_4 : List UInt8 := [28, 25, 4, 180, 0, 154, 180, 0, 222, 25, 4, 180, 0, 179, 180, 0, 222, 96, 96, 61, 167, 255, 216, 28]
abbrev dktX0_count_4 : List UInt8 := dkwX0_count_4 ++ dktX0_count_5
def dkwX0_count_3 : List UInt8 := [182, 0, 240, 78, 45, 185, 0, 162, 1, 0, 153, 0, 37, 45, 185, 0, 168, 1, 0, 192, 0, 126, 58, 4]
abbrev dktX0_count_3 : List UInt8 := dkwX0_count_3 ++ dktX0_count_4
def dkwX0_count_2 : List UInt8 := [42, 180, 0, 91, 182, 0, 110, 172, 42, 182, 1, 52, 184, 1, 66, 172, 3, 61, 42, 180, 0, 91]
abbrev dktX0_count_2 : List UInt8 := dkwX0_count_2 ++ dktX0_count_3
def dkwX0_count_1 : List UInt8 := [170, 0, 0, 0, 0, 1, 0, 0, 0, 0, 0, 0, 0, 0, 6, 0, 0, 0, 43, 0, 0, 0, 51, 0, 0, 0, 59, 0, 0, 0, 114, 0, 0, 0, 119, 0, 0, 0, 174, 0, 0, 0, 221]
abbrev dktX0_count_1 : List UInt8 := dkwX0_count_1 ++ dktX0_count_2
def dkwX0_count_0 : List UInt8 := [27]
abbrev dktX0_count_0 : List UInt8 := dkwX0_count_0 ++ dktX0_count_1
theorem dksX0_count_0 : cX0_count.data.toList.drop 0 = dktX0_count_0 := by decide +kernel
theorem dksX0_count_1 : cX0_count.data.toList.drop 1 = dktX0_count_1 := dk_seg dksX0_count_0 1 rfl rfl
theorem dksX0_count_2 : cX0_count.data.toList.drop 44 = dktX0_count_2 := dk_seg dksX0_count_1 43 rfl rfl
theorem dksX0_count_3 : cX0_count.data.toList.drop 66 = dktX0_count_3 := dk_seg dksX0_count_2 22 rfl rfl
theorem dksX0_count_4 : cX0_count.data.toList.drop 90 = dktX0_count_4 := dk_seg dksX0_count_3 24 rfl rfl
theorem dksX0_count_5 : cX0_count.data.toList.drop 114 = dktX0_count_5 := dk_seg dksX0_count_4 24 rfl rfl
theorem dksX0_count_6 : cX0_count.data.toList.drop 138 = dktX0_count_6 := dk_seg dksX0_count_5 24 rfl rfl
theorem dksX0_count_7 : cX0_count.data.toList.drop 162 = dktX0_count_7 := dk_seg dksX0_count_6 24 rfl rfl
theorem dksX0_count_8 : cX0_count.data.toList.drop 186 = dktX0_count_8 := dk_seg dksX0_count_7 24 rfl rfl
theorem dksX0_count_9 : cX0_count.data.toList.drop 210 = dktX0_count_9 := dk_seg dksX0_count_8 24 rfl rfl
theorem dksX0_count_10 : cX0_count.data.toList.drop 234 = dktX0_count_10 := dk_seg dksX0_count_9 24 rfl rfl
theorem dksX0_count_11 : cX0_count.data.toList.drop 258 = dktX0_count_11 := dk_seg dksX0_count_10 24 rfl rfl
theorem dX0_count_0 : decode cX0_count 0 = .ok (.iload_n 1, 1) := dk_27 (dk_at dksX0_count_0 0 rfl rfl)
theorem dX0_count_1 : decode cX0_count 1 = .ok (.tableswitch 256 0 6 #[43, 51, 59, 114, 119, 174, 221], 43) := by decide +kernel
theorem dX0_count_44 : decode cX0_count 44 = .ok (.aload_n 0, 1) := dk_42 (dk_at dksX0_count_2 0 rfl rfl)
theorem dX0_count_45 : decode cX0_count 45 = .ok (.getfield 91, 3) := dk_180 0 91 (dk_at dksX0_count_2 1 rfl rfl)
theorem dX0_count_48 : decode cX0_count 48 = .ok (.invokevirtual 110, 3) := dk_182 0 110 (dk_at dksX0_count_2 4 rfl rfl)
theorem dX0_count_51 : decode cX0_count 51 = .ok (.ireturn, 1) := dk_172 (dk_at dksX0_count_2 7 rfl rfl)
theorem dX0_count_52 : decode cX0_count 52 = .ok (.aload_n 0, 1) := dk_42 (dk_at dksX0_count_2 8 rfl rfl)
theorem dX0_count_53 : decode cX0_count 53 = .ok (.invokevirtual 308, 3) := dk_182 1 52 (dk_at dksX0_count_2 9 rfl rfl)
theorem dX0_count_56 : decode cX0_count 56 = .ok (.invokestatic 322, 3) := dk_184 1 66 (dk_at dksX0_count_2 12 rfl rfl)
theorem dX0_count_59 : decode cX0_count 59 = .ok (.ireturn, 1) := dk_172 (dk_at dksX0_count_2 15 rfl rfl)
theorem dX0_count_60 : decode cX0_count 60 = .ok (.iconst 0, 1) := dk_3 (dk_at dksX0_count_2 16 rfl rfl)
theorem dX0_count_61 : decode cX0_count 61 = .ok (.istore_n 2, 1) := dk_61 (dk_at dksX0_count_2 17 rfl rfl)
theorem dX0_count_62 : decode cX0_count 62 = .ok (.aload_n 0, 1) := dk_42 (dk_at dksX0_count_2 18 rfl rfl)
theorem dX0_count_63 : decode cX0_count 63 = .ok (.getfield 91, 3) := dk_180 0 91 (dk_at dksX0_count_2 19 rfl rfl)
theorem dX0_count_66 : decode cX0_count 66 = .ok (.invokevirtual 240, 3) := dk_182 0 240 (dk_at dksX0_count_3 0 rfl rfl)
theorem dX0_count_69 : decode cX0_count 69 = .ok (.astore_n 3, 1) := dk_78 (dk_at dksX0_count_3 3 rfl rfl)
theorem dX0_count_70 : decode cX0_count 70 = .ok (.aload_n 3, 1) := dk_45 (dk_at dksX0_count_3 4 rfl rfl)
theorem dX0_count_71 : decode cX0_count 71 = .ok (.invokeinterface 162 1, 5) := by decide +kernel
theorem dX0_count_76 : decode cX0_count 76 = .ok (.ifCond .eq 37, 3) := dk_153 0 37 (dk_at dksX0_count_3 10 rfl rfl)
theorem dX0_count_79 : decode cX0_count 79 = .ok (.aload_n 3, 1) := dk_45 (dk_at dksX0_count_3 13 rfl rfl)
theorem dX0_count_80 : decode cX0_count 80 = .ok (.invokeinterface 168 1, 5) := by decide +kernel
theorem dX0_count_85 : decode cX0_count 85 = .ok (.checkcast 126, 3) := dk_192 0 126 (dk_at dksX0_count_3 19 rfl rfl)
theorem dX0_count_88 : decode cX0_count 88 = .ok (.astore 4, 2) := dk_58 4 (dk_at dksX0_count_3 22 rfl rfl)
theorem dX0_count_90 : decode cX0_count 90 = .ok (.iload_n 2, 1) := dk_28 (dk_at dksX0_count_4 0 rfl rfl)
theorem dX0_count_91 : decode cX0_count 91 = .ok (.aload 4, 2) := dk_25 4 (dk_at dksX0_count_4 1 rfl rfl)
theorem dX0_count_93 : decode cX0_count 93 = .ok (.getfield 154, 3) := dk_180 0 154 (dk_at dksX0_count_4 3 rfl rfl)
theorem dX0_count_96 : decode cX0_count 96 = .ok (.getfield 222, 3) := dk_180 0 222 (dk_at dksX0_count_4 6 rfl rfl)
theorem dX0_count_99 : decode cX0_count 99 = .ok (.aload 4, 2) := dk_25 4 (dk_at dksX0_count_4 9 rfl rfl)
theorem dX0_count_101 : decode cX0_count 101 = .ok (.getfield 179, 3) := dk_180 0 179 (dk_at dksX0_count_4 11 rfl rfl)
theorem dX0_count_104 : decode cX0_count 104 = .ok (.getfield 222, 3) := dk_180 0 222 (dk_at dksX0_count_4 14 rfl rfl)
theorem dX0_count_107 : decode cX0_count 107 = .ok (.iadd, 1) := dk_96 (dk_at dksX0_count_4 17 rfl rfl)
theorem dX0_count_108 : decode cX0_count 108 = .ok (.iadd, 1) := dk_96 (dk_at dksX0_count_4 18 rfl rfl)
theorem dX0_count_109 : decode cX0_count 109 = .ok (.istore_n 2, 1) := dk_61 (dk_at dksX0_count_4 19 rfl rfl)
theorem dX0_count_110 : decode cX0_count 110 = .ok (.goto (-40), 3) := dk_167 255 216 (dk_at dksX0_count_4 20 rfl rfl)
theorem dX0_count_113 : decode cX0_count 113 = .ok (.iload_n 2, 1) := dk_28 (dk_at dksX0_count_4 23 rfl rfl)
theorem dX0_count_114 : decode cX0_count 114 = .ok (.ireturn, 1) := dk_172 (dk_at dksX0_count_5 0 rfl rfl)
theorem dX0_count_115 : decode cX0_count 115 = .ok (.aload_n 0, 1) := dk_42 (dk_at dksX0_count_5 1 rfl rfl)
theorem dX0_count_116 : decode cX0_count 116 = .ok (.getfield 225, 3) := dk_180 0 225 (dk_at dksX0_count_5 2 rfl rfl)
theorem dX0_count_119 : decode cX0_count 119 = .ok (.ireturn, 1) := dk_172 (dk_at dksX0_count_5 5 rfl rfl)
theorem dX0_count_120 : decode cX0_count 120 = .ok (.lconst 0, 1) := dk_9 (dk_at dksX0_count_5 6 rfl rfl)
theorem dX0_count_121 : decode cX0_count 121 = .ok (.lstore_n 2, 1) := dk_65 (dk_at dksX0_count_5 7 rfl rfl)
theorem dX0_count_122 : decode cX0_count 122 = .ok (.iconst 0, 1) := dk_3 (dk_at dksX0_count_5 8 rfl rfl)
theorem dX0_count_123 : decode cX0_count 123 = .ok (.istore 4, 2) := dk_54 4 (dk_at dksX0_count_5 9 rfl rfl)
theorem dX0_count_125 : decode cX0_count 125 = .ok (.iload 4, 2) := dk_21 4 (dk_at dksX0_count_5 11 rfl rfl)
theorem dX0_count_127 : decode cX0_count 127 = .ok (.aload_n 0, 1) := dk_42 (dk_at dksX0_count_5 13 rfl rfl)
theorem dX0_count_128 : decode cX0_count 128 = .ok (.getfield 91, 3) := dk_180 0 91 (dk_at dksX0_count_5 14 rfl rfl)
theorem dX0_count_131 : decode cX0_count 131 = .ok (.invokevirtual 110, 3) := dk_182 0 110 (dk_at dksX0_count_5 17 rfl rfl)
theorem dX0_count_134 : decode cX0_count 134 = .ok (.if_icmp .ge 38, 3) := dk_162 0 38 (dk_at dksX0_count_5 20 rfl rfl)
theorem dX0_count_137 : decode cX0_count 137 = .ok (.aload_n 0, 1) := dk_42 (dk_at dksX0_count_5 23 rfl rfl)
theorem dX0_count_138 : decode cX0_count 138 = .ok (.iload 4, 2) := dk_21 4 (dk_at dksX0_count_6 0 rfl rfl)
theorem dX0_count_140 : decode cX0_count 140 = .ok (.invokevirtual 136, 3) := dk_182 0 136 (dk_at dksX0_count_6 2 rfl rfl)
theorem dX0_count_143 : decode cX0_count 143 = .ok (.ifCond .eq 23, 3) := dk_153 0 23 (dk_at dksX0_count_6 5 rfl rfl)
theorem dX0_count_146 : decode cX0_count 146 = .ok (.lload_n 2, 1) := dk_32 (dk_at dksX0_count_6 8 rfl rfl)
theorem dX0_count_147 : decode cX0_count 147 = .ok (.aload_n 0, 1) := dk_42 (dk_at dksX0_count_6 9 rfl rfl)
theorem dX0_count_148 : decode cX0_count 148 = .ok (.getfield 91, 3) := dk_180 0 91 (dk_at dksX0_count_6 10 rfl rfl)
theorem dX0_count_151 : decode cX0_count 151 = .ok (.iload 4, 2) := dk_21 4 (dk_at dksX0_count_6 13 rfl rfl)
theorem dX0_count_153 : decode cX0_count 153 = .ok (.invokevirtual 122, 3) := dk_182 0 122 (dk_at dksX0_count_6 15 rfl rfl)
theorem dX0_count_156 : decode cX0_count 156 = .ok (.checkcast 126, 3) := dk_192 0 126 (dk_at dksX0_count_6 18 rfl rfl)
theorem dX0_count_159 : decode cX0_count 159 = .ok (.getfield 132, 3) := dk_180 0 132 (dk_at dksX0_count_6 21 rfl rfl)
theorem dX0_count_162 : decode cX0_count 162 = .ok (.invokestatic 430, 3) := dk_184 1 174 (dk_at dksX0_count_7 0 rfl rfl)
theorem dX0_count_165 : decode cX0_count 165 = .ok (.lstore_n 2, 1) := dk_65 (dk_at dksX0_count_7 3 rfl rfl)
theorem dX0_count_166 : decode cX0_count 166 = .ok (.iinc 4 1, 3) := dk_132 4 1 (dk_at dksX0_count_7 4 rfl rfl)
theorem dX0_count_169 : decode cX0_count 169 = .ok (.goto (-44), 3) := dk_167 255 212 (dk_at dksX0_count_7 7 rfl rfl)
theorem dX0_count_172 : decode cX0_count 172 = .ok (.lload_n 2, 1) := dk_32 (dk_at dksX0_count_7 10 rfl rfl)
theorem dX0_count_173 : decode cX0_count 173 = .ok (.l2i, 1) := dk_136 (dk_at dksX0_count_7 11 rfl rfl)
theorem dX0_count_174 : decode cX0_count 174 = .ok (.ireturn, 1) := dk_172 (dk_at dksX0_count_7 12 rfl rfl)
theorem dX0_count_175 : decode cX0_count 175 = .ok (.iconst 0, 1) := dk_3 (dk_at dksX0_count_7 13 rfl rfl)
theorem dX0_count_176 : decode cX0_count 176 = .ok (.istore_n 2, 1) := dk_61 (dk_at dksX0_count_7 14 rfl rfl)
theorem dX0_count_177 : decode cX0_count 177 = .ok (.aload_n 0, 1) := dk_42 (dk_at dksX0_count_7 15 rfl rfl)
theorem dX0_count_178 : decode cX0_count 178 = .ok (.aload_n 0, 1) := dk_42 (dk_at dksX0_count_7 16 rfl rfl)
theorem dX0_count_179 : decode cX0_count 179 = .ok (.getfield 91, 3) := dk_180 0 91 (dk_at dksX0_count_7 17 rfl rfl)
theorem dX0_count_182 : decode cX0_count 182 = .ok (.invokevirtual 110, 3) := dk_182 0 110 (dk_at dksX0_count_7 20 rfl rfl)
theorem dX0_count_185 : decode cX0_count 185 = .ok (.iconst 1, 1) := dk_4 (dk_at dksX0_count_7 23 rfl rfl)
theorem dX0_count_186 : decode cX0_count 186 = .ok (.isub, 1) := dk_100 (dk_at dksX0_count_8 0 rfl rfl)
theorem dX0_count_187 : decode cX0_count 187 = .ok (.invokevirtual 301, 3) := dk_182 1 45 (dk_at dksX0_count_8 1 rfl rfl)
theorem dX0_count_190 : decode cX0_count 190 = .ok (.iconst 0, 1) := dk_3 (dk_at dksX0_count_8 4 rfl rfl)
theorem dX0_count_191 : decode cX0_count 191 = .ok (.istore_n 3, 1) := dk_62 (dk_at dksX0_count_8 5 rfl rfl)
theorem dX0_count_192 : decode cX0_count 192 = .ok (.iload_n 3, 1) := dk_29 (dk_at dksX0_count_8 6 rfl rfl)
theorem dX0_count_193 : decode cX0_count 193 = .ok (.aload_n 0, 1) := dk_42 (dk_at dksX0_count_8 7 rfl rfl)
theorem dX0_count_194 : decode cX0_count 194 = .ok (.getfield 91, 3) := dk_180 0 91 (dk_at dksX0_count_8 8 rfl rfl)
theorem dX0_count_197 : decode cX0_count 197 = .ok (.invokevirtual 110, 3) := dk_182 0 110 (dk_at dksX0_count_8 11 rfl rfl)
theorem dX0_count_200 : decode cX0_count 200 = .ok (.if_icmp .ge 20, 3) := dk_162 0 20 (dk_at dksX0_count_8 14 rfl rfl)
theorem dX0_count_203 : decode cX0_count 203 = .ok (.iload_n 2, 1) := dk_28 (dk_at dksX0_count_8 17 rfl rfl)
theorem dX0_count_204 : decode cX0_count 204 = .ok (.aload_n 0, 1) := dk_42 (dk_at dksX0_count_8 18 rfl rfl)
theorem dX0_count_205 : decode cX0_count 205 = .ok (.getfield 106, 3) := dk_180 0 106 (dk_at dksX0_count_8 19 rfl rfl)
theorem dX0_count_208 : decode cX0_count 208 = .ok (.iload_n 3, 1) := dk_29 (dk_at dksX0_count_8 22 rfl rfl)
theorem dX0_count_209 : decode cX0_count 209 = .ok (.iaload, 1) := dk_46 (dk_at dksX0_count_8 23 rfl rfl)
theorem dX0_count_210 : decode cX0_count 210 = .ok (.invokestatic 298, 3) := dk_184 1 42 (dk_at dksX0_count_9 0 rfl rfl)
theorem dX0_count_213 : decode cX0_count 213 = .ok (.istore_n 2, 1) := dk_61 (dk_at dksX0_count_9 3 rfl rfl)
theorem dX0_count_214 : decode cX0_count 214 = .ok (.iinc 3 1, 3) := dk_132 3 1 (dk_at dksX0_count_9 4 rfl rfl)
theorem dX0_count_217 : decode cX0_count 217 = .ok (.goto (-25), 3) := dk_167 255 231 (dk_at dksX0_count_9 7 rfl rfl)
theorem dX0_count_220 : decode cX0_count 220 = .ok (.iload_n 2, 1) := dk_28 (dk_at dksX0_count_9 10 rfl rfl)
theorem dX0_count_221 : decode cX0_count 221 = .ok (.ireturn, 1) := dk_172 (dk_at dksX0_count_9 11 rfl rfl)
theorem dX0_count_222 : decode cX0_count 222 = .ok (.iconst 0, 1) := dk_3 (dk_at dksX0_count_9 12 rfl rfl)
theorem dX0_count_223 : decode cX0_count 223 = .ok (.istore_n 2, 1) := dk_61 (dk_at dksX0_count_9 13 rfl rfl)
theorem dX0_count_224 : decode cX0_count 224 = .ok (.iconst 0, 1) := dk_3 (dk_at dksX0_count_9 14 rfl rfl)
theorem dX0_count_225 : decode cX0_count 225 = .ok (.istore_n 3, 1) := dk_62 (dk_at dksX0_count_9 15 rfl rfl)
theorem dX0_count_226 : decode cX0_count 226 = .ok (.iload_n 3, 1) := dk_29 (dk_at dksX0_count_9 16 rfl rfl)
theorem dX0_count_227 : decode cX0_count 227 = .ok (.aload_n 0, 1) := dk_42 (dk_at dksX0_count_9 17 rfl rfl)
theorem dX0_count_228 : decode cX0_count 228 = .ok (.getfield 91, 3) := dk_180 0 91 (dk_at dksX0_count_9 18 rfl rfl)
theorem dX0_count_231 : decode cX0_count 231 = .ok (.invokevirtual 110, 3) := dk_182 0 110 (dk_at dksX0_count_9 21 rfl rfl)
theorem dX0_count_234 : decode cX0_count 234 = .ok (.if_icmp .ge 21, 3) := dk_162 0 21 (dk_at dksX0_count_10 0 rfl rfl)
theorem dX0_count_237 : decode cX0_count 237 = .ok (.iload_n 2, 1) := dk_28 (dk_at dksX0_count_10 3 rfl rfl)
theorem dX0_count_238 : decode cX0_count 238 = .ok (.iconst 0, 1) := dk_3 (dk_at dksX0_count_10 4 rfl rfl)
theorem dX0_count_239 : decode cX0_count 239 = .ok (.aload_n 0, 1) := dk_42 (dk_at dksX0_count_10 5 rfl rfl)
theorem dX0_count_240 : decode cX0_count 240 = .ok (.iload_n 3, 1) := dk_29 (dk_at dksX0_count_10 6 rfl rfl)
theorem dX0_count_241 : decode cX0_count 241 = .ok (.invokevirtual 432, 3) := dk_182 1 176 (dk_at dksX0_count_10 7 rfl rfl)
theorem dX0_count_244 : decode cX0_count 244 = .ok (.invokestatic 298, 3) := dk_184 1 42 (dk_at dksX0_count_10 10 rfl rfl)
theorem dX0_count_247 : decode cX0_count 247 = .ok (.iadd, 1) := dk_96 (dk_at dksX0_count_10 13 rfl rfl)
theorem dX0_count_248 : decode cX0_count 248 = .ok (.istore_n 2, 1) := dk_61 (dk_at dksX0_count_10 14 rfl rfl)
theorem dX0_count_249 : decode cX0_count 249 = .ok (.iinc 3 1, 3) := dk_132 3 1 (dk_at dksX0_count_10 15 rfl rfl)
theorem dX0_count_252 : decode cX0_count 252 = .ok (.goto (-26), 3) := dk_167 255 230 (dk_at dksX0_count_10 18 rfl rfl)
theorem dX0_count_255 : decode cX0_count 255 = .ok (.iload_n 2, 1) := dk_28 (dk_at dksX0_count_10 21 rfl rfl)
theorem dX0_count_256 : decode cX0_count 256 = .ok (.ireturn, 1) := dk_172 (dk_at dksX0_count_10 22 rfl rfl)
theorem dX0_count_257 : decode cX0_count 257 = .ok (.iconst (-1), 1) := dk_2 (dk_at dksX0_count_10 23 rfl rfl)
theorem dX0_count_258 : decode cX0_count 258 = .ok (.ireturn, 1) := dk_172 (dk_at dksX0_count_11 0 rfl rfl)
theorem q84 : (Jvm.Cond.initialized "PrimeProofs") ∈ lw_all := lw_g (lw_at lw_m1 1 rfl) rfl
theorem q120 : (Jvm.Cond.instantiable "PrimeProofs" (7 : Nat)) ∈ lw_all := lw_g (lw_at lw_m1 37 rfl) rfl
theorem q122 : (Jvm.Cond.instanceMethod ({ cls := "PrimeProofs", name := "<init>", desc := "()V" } : Jvm.MethodName)) ∈ lw_all := lw_g (lw_at lw_m1 39 rfl) rfl
theorem q123 : (Jvm.Cond.code ({ cls := "PrimeProofs", name := "<init>", desc := "()V" } : Jvm.MethodName) prog_1_method_11_code (1 : Nat) (Option.none : Option Jvm.ClassFile.FieldType)) ∈ lw_all := lw_g (lw_at lw_m1 40 rfl) rfl
theorem q124 : (Jvm.Cond.methodLink "PrimeProofs" (85 : Nat) ({ cls := "java/lang/Object", name := "<init>", desc := "()V" } : Jvm.MethodName)) ∈ lw_all := lw_g (lw_at lw_m1 41 rfl) rfl
theorem q127 : (Jvm.Cond.classLink "PrimeProofs" (88 : Nat) "java/util/ArrayList") ∈ lw_all := lw_g (lw_at lw_m1 44 rfl) rfl
theorem q129 : (Jvm.Cond.methodLink "PrimeProofs" (90 : Nat) ({ cls := "java/util/ArrayList", name := "<init>", desc := "()V" } : Jvm.MethodName)) ∈ lw_all := lw_g (lw_at lw_m1 46 rfl) rfl
theorem q156 : (Jvm.Cond.fieldLink "PrimeProofs" (91 : Nat) "PrimeProofs" "lines" "Ljava/util/ArrayList;") ∈ lw_all := lw_g (lw_at lw_m1 73 rfl) rfl
theorem q157 : (Jvm.Cond.fieldLink "PrimeProofs" (95 : Nat) "PrimeProofs" "faults" "[B") ∈ lw_all := lw_g (lw_at lw_m1 74 rfl) rfl
theorem q158 : (Jvm.Cond.fieldLink "PrimeProofs" (114 : Nat) "PrimeProofs" "laid" "I") ∈ lw_all := lw_g (lw_at lw_m1 75 rfl) rfl
theorem q160 : (Jvm.Cond.fieldLink "PrimeProofs" (99 : Nat) "PrimeProofs" "tape" "[B") ∈ lw_all := lw_g (lw_at lw_m1 77 rfl) rfl
theorem q162 : (Jvm.Cond.fieldLink "PrimeProofs" (225 : Nat) "PrimeProofs" "taped" "I") ∈ lw_all := lw_g (lw_at lw_m1 79 rfl) rfl
theorem q163 : (Jvm.Cond.fieldLink "PrimeProofs" (102 : Nat) "PrimeProofs" "restOf" "[J") ∈ lw_all := lw_g (lw_at lw_m1 80 rfl) rfl
theorem q164 : (Jvm.Cond.fieldLink "PrimeProofs" (106 : Nat) "PrimeProofs" "deepOf" "[I") ∈ lw_all := lw_g (lw_at lw_m1 81 rfl) rfl
theorem q165 : (Jvm.Cond.laysFinal "PrimeProofs" "PrimeProofs" "lines" "Ljava/util/ArrayList;") ∈ lw_all := lw_g (lw_at lw_m1 82 rfl) rfl
theorem q166 : (Jvm.Cond.soleField "PrimeProofs" "lines") ∈ lw_all := lw_g (lw_at lw_m1 83 rfl) rfl
theorem q167 : (Jvm.Cond.laysFinal "PrimeProofs" "PrimeProofs" "faults" "[B") ∈ lw_all := lw_g (lw_at lw_m1 84 rfl) rfl
theorem q168 : (Jvm.Cond.soleField "PrimeProofs" "faults") ∈ lw_all := lw_g (lw_at lw_m1 85 rfl) rfl
theorem q169 : (Jvm.Cond.lays "PrimeProofs" "PrimeProofs" "laid" "I") ∈ lw_all := lw_g (lw_at lw_m1 86 rfl) rfl
theorem q170 : (Jvm.Cond.soleField "PrimeProofs" "laid") ∈ lw_all := lw_g (lw_at lw_m1 87 rfl) rfl
theorem q171 : (Jvm.Cond.laysFinal "PrimeProofs" "PrimeProofs" "tape" "[B") ∈ lw_all := lw_g (lw_at lw_m1 88 rfl) rfl
theorem q172 : (Jvm.Cond.soleField "PrimeProofs" "tape") ∈ lw_all := lw_g (lw_at lw_m1 89 rfl) rfl
theorem q173 : (Jvm.Cond.lays "PrimeProofs" "PrimeProofs" "taped" "I") ∈ lw_all := lw_g (lw_at lw_m1 90 rfl) rfl
theorem q174 : (Jvm.Cond.soleField "PrimeProofs" "taped") ∈ lw_all := lw_g (lw_at lw_m1 91 rfl) rfl
theorem q175 : (Jvm.Cond.laysFinal "PrimeProofs" "PrimeProofs" "restOf" "[J") ∈ lw_all := lw_g (lw_at lw_m1 92 rfl) rfl
theorem q176 : (Jvm.Cond.soleField "PrimeProofs" "restOf") ∈ lw_all := lw_g (lw_at lw_m1 93 rfl) rfl
theorem q177 : (Jvm.Cond.laysFinal "PrimeProofs" "PrimeProofs" "deepOf" "[I") ∈ lw_all := lw_g (lw_at lw_m1 94 rfl) rfl
theorem q178 : (Jvm.Cond.soleField "PrimeProofs" "deepOf") ∈ lw_all := lw_g (lw_at lw_m1 95 rfl) rfl
theorem q179 : (Jvm.Cond.superclass "PrimeProofs" "java/lang/Object") ∈ lw_all := lw_g (lw_at lw_m1 96 rfl) rfl
theorem q184 : (Jvm.Cond.instanceMethod ({ cls := "PrimeProofs", name := "find", desc := "(II)I" } : Jvm.MethodName)) ∈ lw_all := lw_g (lw_at lw_m1 101 rfl) rfl
theorem q185 : (Jvm.Cond.selects "PrimeProofs" ({ cls := "PrimeProofs", name := "find", desc := "(II)I" } : Jvm.MethodName) ({ cls := "PrimeProofs", name := "find", desc := "(II)I" } : Jvm.MethodName)) ∈ lw_all := lw_g (lw_at lw_m1 102 rfl) rfl
theorem q186 : (Jvm.Cond.code ({ cls := "PrimeProofs", name := "find", desc := "(II)I" } : Jvm.MethodName) prog_1_method_22_code (6 : Nat) (Option.some Jvm.ClassFile.FieldType.int)) ∈ lw_all := lw_g (lw_at lw_m1 103 rfl) rfl
theorem q187 : (Jvm.Cond.constantLong "PrimeProofs" (42 : Nat) (4 : Int64)) ∈ lw_all := lw_g (lw_at lw_m1 104 rfl) rfl
theorem q188 : (Jvm.Cond.methodLink "PrimeProofs" (7 : Nat) ({ cls := "PrimeProofs", name := "isIn", desc := "(JJJ)Z" } : Jvm.MethodName)) ∈ lw_all := lw_g (lw_at lw_m1 105 rfl) rfl
theorem q189 : (Jvm.Cond.static ({ cls := "PrimeProofs", name := "isIn", desc := "(JJJ)Z" } : Jvm.MethodName)) ∈ lw_all := lw_g (lw_at lw_m1 106 rfl) rfl
theorem q190 : (Jvm.Cond.code ({ cls := "PrimeProofs", name := "isIn", desc := "(JJJ)Z" } : Jvm.MethodName) prog_1_method_1_code (6 : Nat) (Option.some Jvm.ClassFile.FieldType.boolean)) ∈ lw_all := lw_g (lw_at lw_m1 107 rfl) rfl
theorem q191 : (Jvm.Cond.methodLink "PrimeProofs" (206 : Nat) ({ cls := "PrimeProofs", name := "isNumber", desc := "(J)Z" } : Jvm.MethodName)) ∈ lw_all := lw_g (lw_at lw_m1 108 rfl) rfl
theorem q192 : (Jvm.Cond.static ({ cls := "PrimeProofs", name := "isNumber", desc := "(J)Z" } : Jvm.MethodName)) ∈ lw_all := lw_g (lw_at lw_m1 109 rfl) rfl
theorem q193 : (Jvm.Cond.code ({ cls := "PrimeProofs", name := "isNumber", desc := "(J)Z" } : Jvm.MethodName) prog_1_method_2_code (2 : Nat) (Option.some Jvm.ClassFile.FieldType.boolean)) ∈ lw_all := lw_g (lw_at lw_m1 110 rfl) rfl
theorem q194 : (Jvm.Cond.constantLong "PrimeProofs" (1 : Nat) (2 : Int64)) ∈ lw_all := lw_g (lw_at lw_m1 111 rfl) rfl
theorem q195 : (Jvm.Cond.constantLong "PrimeProofs" (5 : Nat) (1000000000 : Int64)) ∈ lw_all := lw_g (lw_at lw_m1 112 rfl) rfl
theorem q196 : (Jvm.Cond.methodLink "PrimeProofs" (209 : Nat) ({ cls := "PrimeProofs", name := "findRight", desc := "(JI)I" } : Jvm.MethodName)) ∈ lw_all := lw_g (lw_at lw_m1 113 rfl) rfl
theorem q197 : (Jvm.Cond.privateMethod ({ cls := "PrimeProofs", name := "findRight", desc := "(JI)I" } : Jvm.MethodName)) ∈ lw_tbl := lw_at lw_m1 114 rfl
theorem q198 : (Jvm.Cond.instanceMethod ({ cls := "PrimeProofs", name := "findRight", desc := "(JI)I" } : Jvm.MethodName)) ∈ lw_all := lw_g (lw_at lw_m1 115 rfl) rfl
theorem q199 : (Jvm.Cond.code ({ cls := "PrimeProofs", name := "findRight", desc := "(JI)I" } : Jvm.MethodName) prog_1_method_18_code (5 : Nat) (Option.some Jvm.ClassFile.FieldType.int)) ∈ lw_all := lw_g (lw_at lw_m1 116 rfl) rfl
theorem q200 : (Jvm.Cond.methodLink "PrimeProofs" (110 : Nat) ({ cls := "java/util/ArrayList", name := "size", desc := "()I" } : Jvm.MethodName)) ∈ lw_all := lw_g (lw_at lw_m1 117 rfl) rfl
theorem q204 : (Jvm.Cond.methodLink "PrimeProofs" (122 : Nat) ({ cls := "java/util/ArrayList", name := "get", desc := "(I)Ljava/lang/Object;" } : Jvm.MethodName)) ∈ lw_all := lw_g (lw_at lw_m1 121 rfl) rfl
theorem q218 : (Jvm.Cond.classLink "PrimeProofs" (126 : Nat) "PrimeProofs$Line") ∈ lw_all := lw_g (lw_at lw_m1 135 rfl) rfl
theorem q219 : (Jvm.Cond.methodLink "PrimeProofs" (136 : Nat) ({ cls := "PrimeProofs", name := "isRight", desc := "(I)Z" } : Jvm.MethodName)) ∈ lw_all := lw_g (lw_at lw_m1 136 rfl) rfl
theorem q220 : (Jvm.Cond.privateMethod ({ cls := "PrimeProofs", name := "isRight", desc := "(I)Z" } : Jvm.MethodName)) ∈ lw_tbl := lw_at lw_m1 137 rfl
theorem q221 : (Jvm.Cond.instanceMethod ({ cls := "PrimeProofs", name := "isRight", desc := "(I)Z" } : Jvm.MethodName)) ∈ lw_all := lw_g (lw_at lw_m1 138 rfl) rfl
theorem q222 : (Jvm.Cond.code ({ cls := "PrimeProofs", name := "isRight", desc := "(I)Z" } : Jvm.MethodName) prog_1_method_14_code (2 : Nat) (Option.some Jvm.ClassFile.FieldType.boolean)) ∈ lw_all := lw_g (lw_at lw_m1 139 rfl) rfl
theorem q223 : (Jvm.Cond.methodLink "PrimeProofs" (128 : Nat) ({ cls := "PrimeProofs$Line", name := "fault", desc := "(I)I" } : Jvm.MethodName)) ∈ lw_all := lw_g (lw_at lw_m1 140 rfl) rfl
theorem q234 : (Jvm.Cond.static ({ cls := "PrimeProofs", name := "isPrime", desc := "(J)Z" } : Jvm.MethodName)) ∈ lw_all := lw_g (lw_at lw_m1 151 rfl) rfl
theorem q235 : (Jvm.Cond.code ({ cls := "PrimeProofs", name := "isPrime", desc := "(J)Z" } : Jvm.MethodName) prog_1_method_8_code (4 : Nat) (Option.some Jvm.ClassFile.FieldType.boolean)) ∈ lw_all := lw_g (lw_at lw_m1 152 rfl) rfl
theorem q302 : (Jvm.Cond.privateMethod ({ cls := "PrimeProofs", name := "restOn", desc := "(JI)I" } : Jvm.MethodName)) ∈ lw_tbl := lw_at lw_m1 219 rfl
theorem q303 : (Jvm.Cond.instanceMethod ({ cls := "PrimeProofs", name := "restOn", desc := "(JI)I" } : Jvm.MethodName)) ∈ lw_all := lw_g (lw_at lw_m1 220 rfl) rfl
theorem q304 : (Jvm.Cond.code ({ cls := "PrimeProofs", name := "restOn", desc := "(JI)I" } : Jvm.MethodName) prog_1_method_15_code (5 : Nat) (Option.some Jvm.ClassFile.FieldType.int)) ∈ lw_all := lw_g (lw_at lw_m1 221 rfl) rfl
theorem q347 : (Jvm.Cond.static ({ cls := "PrimeProofs", name := "common", desc := "(JJ)J" } : Jvm.MethodName)) ∈ lw_all := lw_g (lw_at lw_m2 24 rfl) rfl
theorem q348 : (Jvm.Cond.code ({ cls := "PrimeProofs", name := "common", desc := "(JJ)J" } : Jvm.MethodName) prog_1_method_3_code (4 : Nat) (Option.some Jvm.ClassFile.FieldType.long)) ∈ lw_all := lw_g (lw_at lw_m2 25 rfl) rfl
theorem q349 : (Jvm.Cond.methodLink "PrimeProofs" (11 : Nat) ({ cls := "PrimeProofs", name := "common", desc := "(JJ)J" } : Jvm.MethodName)) ∈ lw_all := lw_g (lw_at lw_m2 26 rfl) rfl
theorem q368 : (Jvm.Cond.static ({ cls := "PrimeProofs", name := "powerOf", desc := "(JJJ)J" } : Jvm.MethodName)) ∈ lw_all := lw_g (lw_at lw_m2 45 rfl) rfl
theorem q369 : (Jvm.Cond.code ({ cls := "PrimeProofs", name := "powerOf", desc := "(JJJ)J" } : Jvm.MethodName) prog_1_method_4_code (6 : Nat) (Option.some Jvm.ClassFile.FieldType.long)) ∈ lw_all := lw_g (lw_at lw_m2 46 rfl) rfl
theorem q370 : (Jvm.Cond.classLink "PrimeProofs" (15 : Nat) "PrimeProofs$1") ∈ lw_all := lw_g (lw_at lw_m2 47 rfl) rfl
theorem q372 : (Jvm.Cond.methodLink "PrimeProofs" (17 : Nat) ({ cls := "PrimeProofs$1", name := "<init>", desc := "(JJ)V" } : Jvm.MethodName)) ∈ lw_all := lw_g (lw_at lw_m2 49 rfl) rfl
theorem q389 : (Jvm.Cond.methodLink "PrimeProofs" (21 : Nat) ({ cls := "PrimeProofs$1", name := "climbs", desc := "(J)J" } : Jvm.MethodName)) ∈ lw_all := lw_g (lw_at lw_m2 66 rfl) rfl
theorem q462 : (Jvm.Cond.static ({ cls := "PrimeProofs", name := "jacobiOf", desc := "(JJ)I" } : Jvm.MethodName)) ∈ lw_all := lw_g (lw_at lw_m2 139 rfl) rfl
theorem q463 : (Jvm.Cond.code ({ cls := "PrimeProofs", name := "jacobiOf", desc := "(JJ)I" } : Jvm.MethodName) prog_1_method_6_code (11 : Nat) (Option.some Jvm.ClassFile.FieldType.int)) ∈ lw_all := lw_g (lw_at lw_m2 140 rfl) rfl
theorem q464 : (Jvm.Cond.methodLink "PrimeProofs" (31 : Nat) ({ cls := "java/lang/Math", name := "floorMod", desc := "(JJ)J" } : Jvm.MethodName)) ∈ lw_all := lw_g (lw_at lw_m2 141 rfl) rfl
theorem q465 : (Jvm.Cond.constantLong "PrimeProofs" (36 : Nat) (8 : Int64)) ∈ lw_all := lw_g (lw_at lw_m2 142 rfl) rfl
theorem q466 : (Jvm.Cond.constantLong "PrimeProofs" (38 : Nat) (3 : Int64)) ∈ lw_all := lw_g (lw_at lw_m2 143 rfl) rfl
theorem q467 : (Jvm.Cond.constantLong "PrimeProofs" (40 : Nat) (5 : Int64)) ∈ lw_all := lw_g (lw_at lw_m2 144 rfl) rfl
theorem q469 : (Jvm.Cond.static ({ cls := "PrimeProofs", name := "sequenceOf", desc := "(JJJJ)J" } : Jvm.MethodName)) ∈ lw_all := lw_g (lw_at lw_m2 146 rfl) rfl
theorem q470 : (Jvm.Cond.code ({ cls := "PrimeProofs", name := "sequenceOf", desc := "(JJJJ)J" } : Jvm.MethodName) prog_1_method_5_code (8 : Nat) (Option.some Jvm.ClassFile.FieldType.long)) ∈ lw_all := lw_g (lw_at lw_m2 147 rfl) rfl
theorem q471 : (Jvm.Cond.classLink "PrimeProofs" (25 : Nat) "PrimeProofs$1Sequence") ∈ lw_all := lw_g (lw_at lw_m2 148 rfl) rfl
theorem q472 : (Jvm.Cond.methodLink "PrimeProofs" (27 : Nat) ({ cls := "PrimeProofs$1Sequence", name := "<init>", desc := "(JJJ)V" } : Jvm.MethodName)) ∈ lw_all := lw_g (lw_at lw_m2 149 rfl) rfl
theorem q492 : (Jvm.Cond.methodLink "PrimeProofs" (30 : Nat) ({ cls := "PrimeProofs$1Sequence", name := "climbs", desc := "(J)J" } : Jvm.MethodName)) ∈ lw_all := lw_g (lw_at lw_m2 169 rfl) rfl
theorem q495 : (Jvm.Cond.methodLink "PrimeProofs" (192 : Nat) ({ cls := "PrimeProofs", name := "made", desc := "(JI)LPrimeProofs$Line;" } : Jvm.MethodName)) ∈ lw_all := lw_g (lw_at lw_m2 172 rfl) rfl
theorem q496 : (Jvm.Cond.privateMethod ({ cls := "PrimeProofs", name := "made", desc := "(JI)LPrimeProofs$Line;" } : Jvm.MethodName)) ∈ lw_tbl := lw_at lw_m2 173 rfl
theorem q497 : (Jvm.Cond.instanceMethod ({ cls := "PrimeProofs", name := "made", desc := "(JI)LPrimeProofs$Line;" } : Jvm.MethodName)) ∈ lw_all := lw_g (lw_at lw_m2 174 rfl) rfl
theorem q498 : (Jvm.Cond.code ({ cls := "PrimeProofs", name := "made", desc := "(JI)LPrimeProofs$Line;" } : Jvm.MethodName) prog_1_method_10_code (4 : Nat) (Option.some (Jvm.ClassFile.FieldType.object "PrimeProofs$Line"))) ∈ lw_all := lw_g (lw_at lw_m2 175 rfl) rfl
theorem q499 : (Jvm.Cond.classLink "PrimeProofs" (68 : Nat) "PrimeProofs$Small") ∈ lw_all := lw_g (lw_at lw_m2 176 rfl) rfl
theorem q501 : (Jvm.Cond.methodLink "PrimeProofs" (70 : Nat) ({ cls := "PrimeProofs$Small", name := "<init>", desc := "(LPrimeProofs;J)V" } : Jvm.MethodName)) ∈ lw_all := lw_g (lw_at lw_m2 178 rfl) rfl
theorem q519 : (Jvm.Cond.fieldLinkNest "PrimeProofs" (259 : Nat) "PrimeProofs$Rows" "row" "[LPrimeProofs$Row;" "PrimeProofs") ∈ lw_tbl := lw_at lw_m2 196 rfl
theorem q525 : (Jvm.Cond.fieldLinkNest "PrimeProofs" (222 : Nat) "PrimeProofs$Rows" "many" "I" "PrimeProofs") ∈ lw_tbl := lw_at lw_m2 202 rfl
theorem q541 : (Jvm.Cond.fieldLink "PrimeProofs" (132 : Nat) "PrimeProofs$Line" "n" "J") ∈ lw_all := lw_g (lw_at lw_m2 218 rfl) rfl
theorem q543 : (Jvm.Cond.fieldLink "PrimeProofs" (151 : Nat) "PrimeProofs$Line" "sort" "I") ∈ lw_all := lw_g (lw_at lw_m2 220 rfl) rfl
theorem q546 : (Jvm.Cond.fieldLink "PrimeProofs" (254 : Nat) "PrimeProofs$Line" "p" "I") ∈ lw_all := lw_g (lw_at lw_m2 223 rfl) rfl
theorem q549 : (Jvm.Cond.fieldLink "PrimeProofs" (257 : Nat) "PrimeProofs$Line" "q" "I") ∈ lw_all := lw_g (lw_at lw_m2 226 rfl) rfl
theorem q558 : (Jvm.Cond.fieldLink "PrimeProofs" (154 : Nat) "PrimeProofs$Line" "down" "LPrimeProofs$Rows;") ∈ lw_all := lw_g (lw_at lw_m2 235 rfl) rfl
theorem q565 : (Jvm.Cond.fieldLink "PrimeProofs" (179 : Nat) "PrimeProofs$Line" "up" "LPrimeProofs$Rows;") ∈ lw_all := lw_g (lw_at lw_m3 2 rfl) rfl
theorem q584 : (Jvm.Cond.classLink "PrimeProofs" (73 : Nat) "PrimeProofs$Pratt") ∈ lw_all := lw_g (lw_at lw_m3 21 rfl) rfl
theorem q586 : (Jvm.Cond.methodLink "PrimeProofs" (75 : Nat) ({ cls := "PrimeProofs$Pratt", name := "<init>", desc := "(LPrimeProofs;J)V" } : Jvm.MethodName)) ∈ lw_all := lw_g (lw_at lw_m3 23 rfl) rfl
theorem q601 : (Jvm.Cond.classLink "PrimeProofs" (76 : Nat) "PrimeProofs$Part") ∈ lw_all := lw_g (lw_at lw_m3 38 rfl) rfl
theorem q603 : (Jvm.Cond.methodLink "PrimeProofs" (78 : Nat) ({ cls := "PrimeProofs$Part", name := "<init>", desc := "(LPrimeProofs;J)V" } : Jvm.MethodName)) ∈ lw_all := lw_g (lw_at lw_m3 40 rfl) rfl
theorem q618 : (Jvm.Cond.classLink "PrimeProofs" (79 : Nat) "PrimeProofs$Lucas") ∈ lw_all := lw_g (lw_at lw_m3 55 rfl) rfl
theorem q620 : (Jvm.Cond.methodLink "PrimeProofs" (81 : Nat) ({ cls := "PrimeProofs$Lucas", name := "<init>", desc := "(LPrimeProofs;J)V" } : Jvm.MethodName)) ∈ lw_all := lw_g (lw_at lw_m3 57 rfl) rfl
theorem q635 : (Jvm.Cond.classLink "PrimeProofs" (82 : Nat) "PrimeProofs$Both") ∈ lw_all := lw_g (lw_at lw_m3 72 rfl) rfl
theorem q637 : (Jvm.Cond.methodLink "PrimeProofs" (84 : Nat) ({ cls := "PrimeProofs$Both", name := "<init>", desc := "(LPrimeProofs;J)V" } : Jvm.MethodName)) ∈ lw_all := lw_g (lw_at lw_m3 74 rfl) rfl
theorem q652 : (Jvm.Cond.methodLink "PrimeProofs" (212 : Nat) ({ cls := "PrimeProofs", name := "canBe", desc := "(JI)Z" } : Jvm.MethodName)) ∈ lw_all := lw_g (lw_at lw_m3 89 rfl) rfl
theorem q653 : (Jvm.Cond.static ({ cls := "PrimeProofs", name := "canBe", desc := "(JI)Z" } : Jvm.MethodName)) ∈ lw_all := lw_g (lw_at lw_m3 90 rfl) rfl
theorem q654 : (Jvm.Cond.code ({ cls := "PrimeProofs", name := "canBe", desc := "(JI)Z" } : Jvm.MethodName) prog_1_method_21_code (3 : Nat) (Option.some Jvm.ClassFile.FieldType.boolean)) ∈ lw_all := lw_g (lw_at lw_m3 91 rfl) rfl
theorem q655 : (Jvm.Cond.methodLink "PrimeProofs" (203 : Nat) ({ cls := "PrimeProofs", name := "isPrime", desc := "(J)Z" } : Jvm.MethodName)) ∈ lw_all := lw_g (lw_at lw_m3 92 rfl) rfl
theorem q656 : (Jvm.Cond.constantLong "PrimeProofs" (190 : Nat) (100 : Int64)) ∈ lw_all := lw_g (lw_at lw_m3 93 rfl) rfl
theorem q657 : (Jvm.Cond.methodLink "PrimeProofs" (196 : Nat) ({ cls := "PrimeProofs$Line", name := "isFound", desc := "()Z" } : Jvm.MethodName)) ∈ lw_all := lw_g (lw_at lw_m3 94 rfl) rfl
theorem q673 : (Jvm.Cond.static ({ cls := "PrimeProofs", name := "factors", desc := "(J)LPrimeProofs$Rows;" } : Jvm.MethodName)) ∈ lw_all := lw_g (lw_at lw_m3 110 rfl) rfl
theorem q674 : (Jvm.Cond.code ({ cls := "PrimeProofs", name := "factors", desc := "(J)LPrimeProofs$Rows;" } : Jvm.MethodName) prog_1_method_7_code (8 : Nat) (Option.some (Jvm.ClassFile.FieldType.object "PrimeProofs$Rows"))) ∈ lw_all := lw_g (lw_at lw_m3 111 rfl) rfl
theorem q675 : (Jvm.Cond.classLink "PrimeProofs" (44 : Nat) "PrimeProofs$Rows") ∈ lw_all := lw_g (lw_at lw_m3 112 rfl) rfl
theorem q676 : (Jvm.Cond.methodLinkNest "PrimeProofs" (46 : Nat) ({ cls := "PrimeProofs$Rows", name := "<init>", desc := "()V" } : Jvm.MethodName) "PrimeProofs") ∈ lw_tbl := lw_at lw_m3 113 rfl
theorem q677 : (Jvm.Cond.classLink "PrimeProofs" (49 : Nat) "PrimeProofs$Row") ∈ lw_all := lw_g (lw_at lw_m3 114 rfl) rfl
theorem q679 : (Jvm.Cond.methodLink "PrimeProofs" (51 : Nat) ({ cls := "PrimeProofs$Row", name := "<init>", desc := "(JII)V" } : Jvm.MethodName)) ∈ lw_all := lw_g (lw_at lw_m3 116 rfl) rfl
theorem q686 : (Jvm.Cond.fieldLink "PrimeProofs" (172 : Nat) "PrimeProofs$Row" "q" "J") ∈ lw_all := lw_g (lw_at lw_m3 123 rfl) rfl
theorem q689 : (Jvm.Cond.fieldLink "PrimeProofs" (271 : Nat) "PrimeProofs$Row" "exponent" "I") ∈ lw_all := lw_g (lw_at lw_m3 126 rfl) rfl
theorem q693 : (Jvm.Cond.fieldLink "PrimeProofs" (274 : Nat) "PrimeProofs$Row" "base" "I") ∈ lw_all := lw_g (lw_at lw_m3 130 rfl) rfl
theorem q701 : (Jvm.Cond.methodLink "PrimeProofs" (54 : Nat) ({ cls := "PrimeProofs$Rows", name := "adds", desc := "(LPrimeProofs$Row;)LPrimeProofs$Rows;" } : Jvm.MethodName)) ∈ lw_all := lw_g (lw_at lw_m3 138 rfl) rfl
theorem q776 : (Jvm.Cond.methodLink "PrimeProofs" (199 : Nat) ({ cls := "PrimeProofs", name := "backs", desc := "(LPrimeProofs$Line;)Z" } : Jvm.MethodName)) ∈ lw_all := lw_g (lw_at lw_m3 213 rfl) rfl
theorem q777 : (Jvm.Cond.privateMethod ({ cls := "PrimeProofs", name := "backs", desc := "(LPrimeProofs$Line;)Z" } : Jvm.MethodName)) ∈ lw_tbl := lw_at lw_m3 214 rfl
theorem q778 : (Jvm.Cond.instanceMethod ({ cls := "PrimeProofs", name := "backs", desc := "(LPrimeProofs$Line;)Z" } : Jvm.MethodName)) ∈ lw_all := lw_g (lw_at lw_m3 215 rfl) rfl
theorem q779 : (Jvm.Cond.code ({ cls := "PrimeProofs", name := "backs", desc := "(LPrimeProofs$Line;)Z" } : Jvm.MethodName) prog_1_method_19_code (4 : Nat) (Option.some Jvm.ClassFile.FieldType.boolean)) ∈ lw_all := lw_g (lw_at lw_m3 216 rfl) rfl
theorem q780 : (Jvm.Cond.methodLink "PrimeProofs" (158 : Nat) ({ cls := "PrimeProofs$Rows", name := "iterator", desc := "()Ljava/util/Iterator;" } : Jvm.MethodName)) ∈ lw_all := lw_g (lw_at lw_m3 217 rfl) rfl
theorem q781 : (Jvm.Cond.interfaceEntry "PrimeProofs" (162 : Nat)) ∈ lw_tbl := lw_at lw_m3 218 rfl
theorem q782 : (Jvm.Cond.methodLink "PrimeProofs" (162 : Nat) ({ cls := "java/util/Iterator", name := "hasNext", desc := "()Z" } : Jvm.MethodName)) ∈ lw_all := lw_g (lw_at lw_m3 219 rfl) rfl
theorem q783 : (Jvm.Cond.interfaceEntry "PrimeProofs" (168 : Nat)) ∈ lw_tbl := lw_at lw_m3 220 rfl
theorem q784 : (Jvm.Cond.methodLink "PrimeProofs" (168 : Nat) ({ cls := "java/util/Iterator", name := "next", desc := "()Ljava/lang/Object;" } : Jvm.MethodName)) ∈ lw_all := lw_g (lw_at lw_m3 221 rfl) rfl
theorem q785 : (Jvm.Cond.methodLink "PrimeProofs" (175 : Nat) ({ cls := "PrimeProofs", name := "backsFor", desc := "(J)Z" } : Jvm.MethodName)) ∈ lw_all := lw_g (lw_at lw_m3 222 rfl) rfl
theorem q786 : (Jvm.Cond.privateMethod ({ cls := "PrimeProofs", name := "backsFor", desc := "(J)Z" } : Jvm.MethodName)) ∈ lw_tbl := lw_at lw_m3 223 rfl
theorem q787 : (Jvm.Cond.instanceMethod ({ cls := "PrimeProofs", name := "backsFor", desc := "(J)Z" } : Jvm.MethodName)) ∈ lw_all := lw_g (lw_at lw_m3 224 rfl) rfl
theorem q788 : (Jvm.Cond.code ({ cls := "PrimeProofs", name := "backsFor", desc := "(J)Z" } : Jvm.MethodName) prog_1_method_20_code (4 : Nat) (Option.some Jvm.ClassFile.FieldType.boolean)) ∈ lw_all := lw_g (lw_at lw_m3 225 rfl) rfl
theorem q789 : (Jvm.Cond.methodLink "PrimeProofs" (186 : Nat) ({ cls := "PrimeProofs", name := "restOn", desc := "(JI)I" } : Jvm.MethodName)) ∈ lw_all := lw_g (lw_at lw_m3 226 rfl) rfl
theorem q790 : (Jvm.Cond.methodLink "PrimeProofs" (182 : Nat) ({ cls := "PrimeProofs", name := "comes", desc := "(LPrimeProofs$Line;)V" } : Jvm.MethodName)) ∈ lw_all := lw_g (lw_at lw_m3 227 rfl) rfl
theorem q791 : (Jvm.Cond.privateMethod ({ cls := "PrimeProofs", name := "comes", desc := "(LPrimeProofs$Line;)V" } : Jvm.MethodName)) ∈ lw_tbl := lw_at lw_m3 228 rfl
theorem q792 : (Jvm.Cond.instanceMethod ({ cls := "PrimeProofs", name := "comes", desc := "(LPrimeProofs$Line;)V" } : Jvm.MethodName)) ∈ lw_all := lw_g (lw_at lw_m3 229 rfl) rfl
theorem q793 : (Jvm.Cond.code ({ cls := "PrimeProofs", name := "comes", desc := "(LPrimeProofs$Line;)V" } : Jvm.MethodName) prog_1_method_16_code (2 : Nat) (Option.none : Option Jvm.ClassFile.FieldType)) ∈ lw_all := lw_g (lw_at lw_m3 230 rfl) rfl
theorem q794 : (Jvm.Cond.methodLink "PrimeProofs" (140 : Nat) ({ cls := "java/util/ArrayList", name := "add", desc := "(Ljava/lang/Object;)Z" } : Jvm.MethodName)) ∈ lw_all := lw_g (lw_at lw_m3 231 rfl) rfl
theorem q826 : (Jvm.Cond.selects "PrimeProofs" ({ cls := "java/lang/Object", name := "getClass", desc := "()Ljava/lang/Class;" } : Jvm.MethodName) ({ cls := "java/lang/Object", name := "getClass", desc := "()Ljava/lang/Class;" } : Jvm.MethodName)) ∈ lw_all := lw_g (lw_at lw_m4 23 rfl) rfl
theorem q859 : (Jvm.Cond.methodLink "PrimeProofs" (216 : Nat) ({ cls := "PrimeProofs", name := "goesBack", desc := "(I)V" } : Jvm.MethodName)) ∈ lw_all := lw_g (lw_at lw_m4 56 rfl) rfl
theorem q860 : (Jvm.Cond.privateMethod ({ cls := "PrimeProofs", name := "goesBack", desc := "(I)V" } : Jvm.MethodName)) ∈ lw_tbl := lw_at lw_m4 57 rfl
theorem q861 : (Jvm.Cond.instanceMethod ({ cls := "PrimeProofs", name := "goesBack", desc := "(I)V" } : Jvm.MethodName)) ∈ lw_all := lw_g (lw_at lw_m4 58 rfl) rfl
theorem q862 : (Jvm.Cond.code ({ cls := "PrimeProofs", name := "goesBack", desc := "(I)V" } : Jvm.MethodName) prog_1_method_17_code (2 : Nat) (Option.none : Option Jvm.ClassFile.FieldType)) ∈ lw_all := lw_g (lw_at lw_m4 59 rfl) rfl
theorem q863 : (Jvm.Cond.methodLink "PrimeProofs" (144 : Nat) ({ cls := "java/util/ArrayList", name := "remove", desc := "(I)Ljava/lang/Object;" } : Jvm.MethodName)) ∈ lw_all := lw_g (lw_at lw_m4 60 rfl) rfl
theorem q872 : (Jvm.Cond.methodLink "PrimeProofs" (147 : Nat) ({ cls := "PrimeProofs", name := "changes", desc := "(I)V" } : Jvm.MethodName)) ∈ lw_all := lw_g (lw_at lw_m4 69 rfl) rfl
theorem q873 : (Jvm.Cond.privateMethod ({ cls := "PrimeProofs", name := "changes", desc := "(I)V" } : Jvm.MethodName)) ∈ lw_tbl := lw_at lw_m4 70 rfl
theorem q874 : (Jvm.Cond.instanceMethod ({ cls := "PrimeProofs", name := "changes", desc := "(I)V" } : Jvm.MethodName)) ∈ lw_all := lw_g (lw_at lw_m4 71 rfl) rfl
theorem q875 : (Jvm.Cond.code ({ cls := "PrimeProofs", name := "changes", desc := "(I)V" } : Jvm.MethodName) prog_1_method_13_code (2 : Nat) (Option.none : Option Jvm.ClassFile.FieldType)) ∈ lw_all := lw_g (lw_at lw_m4 72 rfl) rfl
theorem q876 : (Jvm.Cond.methodLink "PrimeProofs" (118 : Nat) ({ cls := "java/lang/Math", name := "min", desc := "(II)I" } : Jvm.MethodName)) ∈ lw_all := lw_g (lw_at lw_m4 73 rfl) rfl
theorem q878 : (Jvm.Cond.instanceMethod ({ cls := "PrimeProofs", name := "needs", desc := "(II)I" } : Jvm.MethodName)) ∈ lw_all := lw_g (lw_at lw_m4 75 rfl) rfl
theorem q879 : (Jvm.Cond.selects "PrimeProofs" ({ cls := "PrimeProofs", name := "needs", desc := "(II)I" } : Jvm.MethodName) ({ cls := "PrimeProofs", name := "needs", desc := "(II)I" } : Jvm.MethodName)) ∈ lw_all := lw_g (lw_at lw_m4 76 rfl) rfl
theorem q880 : (Jvm.Cond.code ({ cls := "PrimeProofs", name := "needs", desc := "(II)I" } : Jvm.MethodName) prog_1_method_23_code (4 : Nat) (Option.some Jvm.ClassFile.FieldType.int)) ∈ lw_all := lw_g (lw_at lw_m4 77 rfl) rfl
theorem q881 : (Jvm.Cond.methodLink "PrimeProofs" (219 : Nat) ({ cls := "PrimeProofs$Line", name := "lays", desc := "()V" } : Jvm.MethodName)) ∈ lw_all := lw_g (lw_at lw_m4 78 rfl) rfl
theorem q883 : (Jvm.Cond.instanceMethod ({ cls := "PrimeProofs", name := "feed", desc := "(IIIII)I" } : Jvm.MethodName)) ∈ lw_all := lw_g (lw_at lw_m4 80 rfl) rfl
theorem q884 : (Jvm.Cond.selects "PrimeProofs" ({ cls := "PrimeProofs", name := "feed", desc := "(IIIII)I" } : Jvm.MethodName) ({ cls := "PrimeProofs", name := "feed", desc := "(IIIII)I" } : Jvm.MethodName)) ∈ lw_all := lw_g (lw_at lw_m4 81 rfl) rfl
theorem q885 : (Jvm.Cond.code ({ cls := "PrimeProofs", name := "feed", desc := "(IIIII)I" } : Jvm.MethodName) prog_1_method_24_code (6 : Nat) (Option.some Jvm.ClassFile.FieldType.int)) ∈ lw_all := lw_g (lw_at lw_m4 82 rfl) rfl
theorem q886 : (Jvm.Cond.methodLink "PrimeProofs" (228 : Nat) ({ cls := "PrimeProofs", name := "tapes", desc := "(I)V" } : Jvm.MethodName)) ∈ lw_all := lw_g (lw_at lw_m4 83 rfl) rfl
theorem q887 : (Jvm.Cond.privateMethod ({ cls := "PrimeProofs", name := "tapes", desc := "(I)V" } : Jvm.MethodName)) ∈ lw_tbl := lw_at lw_m4 84 rfl
theorem q888 : (Jvm.Cond.instanceMethod ({ cls := "PrimeProofs", name := "tapes", desc := "(I)V" } : Jvm.MethodName)) ∈ lw_all := lw_g (lw_at lw_m4 85 rfl) rfl
theorem q889 : (Jvm.Cond.code ({ cls := "PrimeProofs", name := "tapes", desc := "(I)V" } : Jvm.MethodName) prog_1_method_25_code (3 : Nat) (Option.none : Option Jvm.ClassFile.FieldType)) ∈ lw_all := lw_g (lw_at lw_m4 86 rfl) rfl
theorem q891 : (Jvm.Cond.instanceMethod ({ cls := "PrimeProofs", name := "back", desc := "(I)I" } : Jvm.MethodName)) ∈ lw_all := lw_g (lw_at lw_m4 88 rfl) rfl
theorem q892 : (Jvm.Cond.selects "PrimeProofs" ({ cls := "PrimeProofs", name := "back", desc := "(I)I" } : Jvm.MethodName) ({ cls := "PrimeProofs", name := "back", desc := "(I)I" } : Jvm.MethodName)) ∈ lw_all := lw_g (lw_at lw_m4 89 rfl) rfl
theorem q893 : (Jvm.Cond.code ({ cls := "PrimeProofs", name := "back", desc := "(I)I" } : Jvm.MethodName) prog_1_method_26_code (2 : Nat) (Option.some Jvm.ClassFile.FieldType.int)) ∈ lw_all := lw_g (lw_at lw_m4 90 rfl) rfl
theorem q895 : (Jvm.Cond.instanceMethod ({ cls := "PrimeProofs", name := "read", desc := "()I" } : Jvm.MethodName)) ∈ lw_all := lw_g (lw_at lw_m4 92 rfl) rfl
theorem q896 : (Jvm.Cond.selects "PrimeProofs" ({ cls := "PrimeProofs", name := "read", desc := "()I" } : Jvm.MethodName) ({ cls := "PrimeProofs", name := "read", desc := "()I" } : Jvm.MethodName)) ∈ lw_all := lw_g (lw_at lw_m4 93 rfl) rfl
theorem q897 : (Jvm.Cond.codeWith ({ cls := "PrimeProofs", name := "read", desc := "()I" } : Jvm.MethodName) prog_1_method_27_code (5 : Nat) (Option.some Jvm.ClassFile.FieldType.int) [((0 : Nat), (32 : Nat), (83 : Nat), (241 : Nat)), ((39 : Nat), (76 : Nat), (83 : Nat), (241 : Nat)), ((0 : Nat), (32 : Nat), (99 : Nat), (0 : Nat)), ((39 : Nat), (76 : Nat), (99 : Nat), (0 : Nat)), ((83 : Nat), (92 : Nat), (99 : Nat), (0 : Nat)), ((99 : Nat), (101 : Nat), (99 : Nat), (0 : Nat))]) ∈ lw_all := lw_g (lw_at lw_m4 94 rfl) rfl
theorem q898 : (Jvm.Cond.classLink "PrimeProofs" (241 : Nat) "PrimeProofs$Fault") ∈ lw_all := lw_g (lw_at lw_m4 95 rfl) rfl
theorem q899 : (Jvm.Cond.classLink "PrimeProofs" (231 : Nat) "PrimeProofs$Reader") ∈ lw_all := lw_g (lw_at lw_m4 96 rfl) rfl
theorem q901 : (Jvm.Cond.methodLinkNest "PrimeProofs" (233 : Nat) ({ cls := "PrimeProofs$Reader", name := "<init>", desc := "(LPrimeProofs;)V" } : Jvm.MethodName) "PrimeProofs") ∈ lw_tbl := lw_at lw_m4 98 rfl
theorem q925 : (Jvm.Cond.methodLink "PrimeProofs" (236 : Nat) ({ cls := "PrimeProofs$Reader", name := "reads", desc := "()Ljava/util/ArrayList;" } : Jvm.MethodName)) ∈ lw_all := lw_g (lw_at lw_m4 122 rfl) rfl
theorem q1208 : (Jvm.Cond.static ({ cls := "PrimeProofs", name := "wordOf", desc := "(I)Ljava/lang/String;" } : Jvm.MethodName)) ∈ lw_all := lw_g (lw_at lw_m5 165 rfl) rfl
theorem q1209 : (Jvm.Cond.code ({ cls := "PrimeProofs", name := "wordOf", desc := "(I)Ljava/lang/String;" } : Jvm.MethodName) prog_1_method_9_code (1 : Nat) (Option.some (Jvm.ClassFile.FieldType.object "java/lang/String"))) ∈ lw_all := lw_g (lw_at lw_m5 166 rfl) rfl
theorem q1210 : (Jvm.Cond.stringRef "PrimeProofs" (58 : Nat) "small") ∈ lw_tbl := lw_at lw_m5 167 rfl
theorem q1211 : (Jvm.Cond.stringRef "PrimeProofs" (60 : Nat) "pratt") ∈ lw_tbl := lw_at lw_m5 168 rfl
theorem q1212 : (Jvm.Cond.stringRef "PrimeProofs" (62 : Nat) "part") ∈ lw_tbl := lw_at lw_m5 169 rfl
theorem q1213 : (Jvm.Cond.stringRef "PrimeProofs" (64 : Nat) "lucas") ∈ lw_tbl := lw_at lw_m5 170 rfl
theorem q1214 : (Jvm.Cond.stringRef "PrimeProofs" (66 : Nat) "both") ∈ lw_tbl := lw_at lw_m5 171 rfl
theorem q1273 : (Jvm.Cond.fieldLink "PrimeProofs" (243 : Nat) "PrimeProofs$Fault" "place" "I") ∈ lw_all := lw_g (lw_at lw_m5 230 rfl) rfl
theorem q1322 : (Jvm.Cond.methodLink "PrimeProofs" (240 : Nat) ({ cls := "java/util/ArrayList", name := "iterator", desc := "()Ljava/util/Iterator;" } : Jvm.MethodName)) ∈ lw_all := lw_g (lw_at lw_m6 39 rfl) rfl
theorem q1346 : (Jvm.Cond.instanceMethod ({ cls := "PrimeProofs", name := "set", desc := "(III)I" } : Jvm.MethodName)) ∈ lw_all := lw_g (lw_at lw_m6 63 rfl) rfl
theorem q1347 : (Jvm.Cond.selects "PrimeProofs" ({ cls := "PrimeProofs", name := "set", desc := "(III)I" } : Jvm.MethodName) ({ cls := "PrimeProofs", name := "set", desc := "(III)I" } : Jvm.MethodName)) ∈ lw_all := lw_g (lw_at lw_m6 64 rfl) rfl
theorem q1348 : (Jvm.Cond.code ({ cls := "PrimeProofs", name := "set", desc := "(III)I" } : Jvm.MethodName) prog_1_method_28_code (7 : Nat) (Option.some Jvm.ClassFile.FieldType.int)) ∈ lw_all := lw_g (lw_at lw_m6 65 rfl) rfl
theorem q1349 : (Jvm.Cond.methodLink "PrimeProofs" (246 : Nat) ({ cls := "PrimeProofs", name := "isLine", desc := "(I)Z" } : Jvm.MethodName)) ∈ lw_all := lw_g (lw_at lw_m6 66 rfl) rfl
theorem q1350 : (Jvm.Cond.privateMethod ({ cls := "PrimeProofs", name := "isLine", desc := "(I)Z" } : Jvm.MethodName)) ∈ lw_tbl := lw_at lw_m6 67 rfl
theorem q1351 : (Jvm.Cond.instanceMethod ({ cls := "PrimeProofs", name := "isLine", desc := "(I)Z" } : Jvm.MethodName)) ∈ lw_all := lw_g (lw_at lw_m6 68 rfl) rfl
theorem q1352 : (Jvm.Cond.code ({ cls := "PrimeProofs", name := "isLine", desc := "(I)Z" } : Jvm.MethodName) prog_1_method_12_code (2 : Nat) (Option.some Jvm.ClassFile.FieldType.boolean)) ∈ lw_all := lw_g (lw_at lw_m6 69 rfl) rfl
theorem q1353 : (Jvm.Cond.constantLong "PrimeProofs" (249 : Nat) (99 : Int64)) ∈ lw_all := lw_g (lw_at lw_m6 70 rfl) rfl
theorem q1354 : (Jvm.Cond.methodLink "PrimeProofs" (251 : Nat) ({ cls := "PrimeProofs$Line", name := "hasPair", desc := "()Z" } : Jvm.MethodName)) ∈ lw_all := lw_g (lw_at lw_m6 71 rfl) rfl
theorem q1356 : (Jvm.Cond.instanceMethod ({ cls := "PrimeProofs", name := "alter", desc := "(IZIII)I" } : Jvm.MethodName)) ∈ lw_all := lw_g (lw_at lw_m6 73 rfl) rfl
theorem q1357 : (Jvm.Cond.selects "PrimeProofs" ({ cls := "PrimeProofs", name := "alter", desc := "(IZIII)I" } : Jvm.MethodName) ({ cls := "PrimeProofs", name := "alter", desc := "(IZIII)I" } : Jvm.MethodName)) ∈ lw_all := lw_g (lw_at lw_m6 74 rfl) rfl
theorem q1358 : (Jvm.Cond.code ({ cls := "PrimeProofs", name := "alter", desc := "(IZIII)I" } : Jvm.MethodName) prog_1_method_30_code (9 : Nat) (Option.some Jvm.ClassFile.FieldType.int)) ∈ lw_all := lw_g (lw_at lw_m6 75 rfl) rfl
theorem q1359 : (Jvm.Cond.methodLink "PrimeProofs" (263 : Nat) ({ cls := "PrimeProofs", name := "rowOf", desc := "(IZI)LPrimeProofs$Row;" } : Jvm.MethodName)) ∈ lw_all := lw_g (lw_at lw_m6 76 rfl) rfl
theorem q1360 : (Jvm.Cond.privateMethod ({ cls := "PrimeProofs", name := "rowOf", desc := "(IZI)LPrimeProofs$Row;" } : Jvm.MethodName)) ∈ lw_tbl := lw_at lw_m6 77 rfl
theorem q1361 : (Jvm.Cond.instanceMethod ({ cls := "PrimeProofs", name := "rowOf", desc := "(IZI)LPrimeProofs$Row;" } : Jvm.MethodName)) ∈ lw_all := lw_g (lw_at lw_m6 78 rfl) rfl
theorem q1362 : (Jvm.Cond.code ({ cls := "PrimeProofs", name := "rowOf", desc := "(IZI)LPrimeProofs$Row;" } : Jvm.MethodName) prog_1_method_29_code (5 : Nat) (Option.some (Jvm.ClassFile.FieldType.object "PrimeProofs$Row"))) ∈ lw_all := lw_g (lw_at lw_m6 79 rfl) rfl
theorem q1363 : (Jvm.Cond.constantLong "PrimeProofs" (267 : Nat) (30 : Int64)) ∈ lw_all := lw_g (lw_at lw_m6 80 rfl) rfl
theorem q1364 : (Jvm.Cond.constantLong "PrimeProofs" (269 : Nat) (999 : Int64)) ∈ lw_all := lw_g (lw_at lw_m6 81 rfl) rfl
theorem q1366 : (Jvm.Cond.instanceMethod ({ cls := "PrimeProofs", name := "cut", desc := "(IZI)I" } : Jvm.MethodName)) ∈ lw_all := lw_g (lw_at lw_m6 83 rfl) rfl
theorem q1367 : (Jvm.Cond.selects "PrimeProofs" ({ cls := "PrimeProofs", name := "cut", desc := "(IZI)I" } : Jvm.MethodName) ({ cls := "PrimeProofs", name := "cut", desc := "(IZI)I" } : Jvm.MethodName)) ∈ lw_all := lw_g (lw_at lw_m6 84 rfl) rfl
theorem q1368 : (Jvm.Cond.code ({ cls := "PrimeProofs", name := "cut", desc := "(IZI)I" } : Jvm.MethodName) prog_1_method_31_code (5 : Nat) (Option.some Jvm.ClassFile.FieldType.int)) ∈ lw_all := lw_g (lw_at lw_m6 85 rfl) rfl
theorem q1369 : (Jvm.Cond.methodLink "PrimeProofs" (277 : Nat) ({ cls := "PrimeProofs$Rows", name := "cuts", desc := "(I)V" } : Jvm.MethodName)) ∈ lw_all := lw_g (lw_at lw_m6 86 rfl) rfl
theorem q1374 : (Jvm.Cond.instanceMethod ({ cls := "PrimeProofs", name := "move", desc := "(II)I" } : Jvm.MethodName)) ∈ lw_all := lw_g (lw_at lw_m6 91 rfl) rfl
theorem q1375 : (Jvm.Cond.selects "PrimeProofs" ({ cls := "PrimeProofs", name := "move", desc := "(II)I" } : Jvm.MethodName) ({ cls := "PrimeProofs", name := "move", desc := "(II)I" } : Jvm.MethodName)) ∈ lw_all := lw_g (lw_at lw_m6 92 rfl) rfl
theorem q1376 : (Jvm.Cond.code ({ cls := "PrimeProofs", name := "move", desc := "(II)I" } : Jvm.MethodName) prog_1_method_32_code (3 : Nat) (Option.some Jvm.ClassFile.FieldType.int)) ∈ lw_all := lw_g (lw_at lw_m6 93 rfl) rfl
theorem q1377 : (Jvm.Cond.methodLink "PrimeProofs" (280 : Nat) ({ cls := "java/util/ArrayList", name := "add", desc := "(ILjava/lang/Object;)V" } : Jvm.MethodName)) ∈ lw_all := lw_g (lw_at lw_m6 94 rfl) rfl
theorem q1386 : (Jvm.Cond.instanceMethod ({ cls := "PrimeProofs", name := "mend", desc := "(I)I" } : Jvm.MethodName)) ∈ lw_all := lw_g (lw_at lw_m6 103 rfl) rfl
theorem q1387 : (Jvm.Cond.selects "PrimeProofs" ({ cls := "PrimeProofs", name := "mend", desc := "(I)I" } : Jvm.MethodName) ({ cls := "PrimeProofs", name := "mend", desc := "(I)I" } : Jvm.MethodName)) ∈ lw_all := lw_g (lw_at lw_m6 104 rfl) rfl
theorem q1388 : (Jvm.Cond.code ({ cls := "PrimeProofs", name := "mend", desc := "(I)I" } : Jvm.MethodName) prog_1_method_33_code (4 : Nat) (Option.some Jvm.ClassFile.FieldType.int)) ∈ lw_all := lw_g (lw_at lw_m6 105 rfl) rfl
theorem q1389 : (Jvm.Cond.methodLink "PrimeProofs" (283 : Nat) ({ cls := "java/util/ArrayList", name := "set", desc := "(ILjava/lang/Object;)Ljava/lang/Object;" } : Jvm.MethodName)) ∈ lw_all := lw_g (lw_at lw_m6 106 rfl) rfl
theorem q1394 : (Jvm.Cond.instanceMethod ({ cls := "PrimeProofs", name := "prune", desc := "(I)I" } : Jvm.MethodName)) ∈ lw_all := lw_g (lw_at lw_m6 111 rfl) rfl
theorem q1395 : (Jvm.Cond.selects "PrimeProofs" ({ cls := "PrimeProofs", name := "prune", desc := "(I)I" } : Jvm.MethodName) ({ cls := "PrimeProofs", name := "prune", desc := "(I)I" } : Jvm.MethodName)) ∈ lw_all := lw_g (lw_at lw_m6 112 rfl) rfl
theorem q1396 : (Jvm.Cond.code ({ cls := "PrimeProofs", name := "prune", desc := "(I)I" } : Jvm.MethodName) prog_1_method_34_code (7 : Nat) (Option.some Jvm.ClassFile.FieldType.int)) ∈ lw_all := lw_g (lw_at lw_m6 113 rfl) rfl
theorem q1397 : (Jvm.Cond.methodLink "PrimeProofs" (287 : Nat) ({ cls := "PrimeProofs", name := "restsOf", desc := "(I)J" } : Jvm.MethodName)) ∈ lw_all := lw_g (lw_at lw_m6 114 rfl) rfl
theorem q1398 : (Jvm.Cond.privateMethod ({ cls := "PrimeProofs", name := "restsOf", desc := "(I)J" } : Jvm.MethodName)) ∈ lw_tbl := lw_at lw_m6 115 rfl
theorem q1399 : (Jvm.Cond.instanceMethod ({ cls := "PrimeProofs", name := "restsOf", desc := "(I)J" } : Jvm.MethodName)) ∈ lw_all := lw_g (lw_at lw_m6 116 rfl) rfl
theorem q1400 : (Jvm.Cond.code ({ cls := "PrimeProofs", name := "restsOf", desc := "(I)J" } : Jvm.MethodName) prog_1_method_42_code (2 : Nat) (Option.some Jvm.ClassFile.FieldType.long)) ∈ lw_all := lw_g (lw_at lw_m6 117 rfl) rfl
theorem q1401 : (Jvm.Cond.methodLink "PrimeProofs" (301 : Nat) ({ cls := "PrimeProofs", name := "laysRests", desc := "(I)V" } : Jvm.MethodName)) ∈ lw_all := lw_g (lw_at lw_m6 118 rfl) rfl
theorem q1402 : (Jvm.Cond.privateMethod ({ cls := "PrimeProofs", name := "laysRests", desc := "(I)V" } : Jvm.MethodName)) ∈ lw_tbl := lw_at lw_m6 119 rfl
theorem q1403 : (Jvm.Cond.instanceMethod ({ cls := "PrimeProofs", name := "laysRests", desc := "(I)V" } : Jvm.MethodName)) ∈ lw_all := lw_g (lw_at lw_m6 120 rfl) rfl
theorem q1404 : (Jvm.Cond.code ({ cls := "PrimeProofs", name := "laysRests", desc := "(I)V" } : Jvm.MethodName) prog_1_method_40_code (3 : Nat) (Option.none : Option Jvm.ClassFile.FieldType)) ∈ lw_all := lw_g (lw_at lw_m6 121 rfl) rfl
theorem q1405 : (Jvm.Cond.methodLink "PrimeProofs" (294 : Nat) ({ cls := "PrimeProofs", name := "addsRests", desc := "(ILPrimeProofs$Rows;)V" } : Jvm.MethodName)) ∈ lw_all := lw_g (lw_at lw_m6 122 rfl) rfl
theorem q1406 : (Jvm.Cond.privateMethod ({ cls := "PrimeProofs", name := "addsRests", desc := "(ILPrimeProofs$Rows;)V" } : Jvm.MethodName)) ∈ lw_tbl := lw_at lw_m6 123 rfl
theorem q1407 : (Jvm.Cond.instanceMethod ({ cls := "PrimeProofs", name := "addsRests", desc := "(ILPrimeProofs$Rows;)V" } : Jvm.MethodName)) ∈ lw_all := lw_g (lw_at lw_m6 124 rfl) rfl
theorem q1408 : (Jvm.Cond.code ({ cls := "PrimeProofs", name := "addsRests", desc := "(ILPrimeProofs$Rows;)V" } : Jvm.MethodName) prog_1_method_41_code (6 : Nat) (Option.none : Option Jvm.ClassFile.FieldType)) ∈ lw_all := lw_g (lw_at lw_m6 125 rfl) rfl
theorem q1409 : (Jvm.Cond.methodLink "PrimeProofs" (298 : Nat) ({ cls := "java/lang/Math", name := "max", desc := "(II)I" } : Jvm.MethodName)) ∈ lw_all := lw_g (lw_at lw_m6 126 rfl) rfl
theorem q1411 : (Jvm.Cond.instanceMethod ({ cls := "PrimeProofs", name := "drop", desc := "()I" } : Jvm.MethodName)) ∈ lw_all := lw_g (lw_at lw_m6 128 rfl) rfl
theorem q1412 : (Jvm.Cond.selects "PrimeProofs" ({ cls := "PrimeProofs", name := "drop", desc := "()I" } : Jvm.MethodName) ({ cls := "PrimeProofs", name := "drop", desc := "()I" } : Jvm.MethodName)) ∈ lw_all := lw_g (lw_at lw_m6 129 rfl) rfl
theorem q1413 : (Jvm.Cond.code ({ cls := "PrimeProofs", name := "drop", desc := "()I" } : Jvm.MethodName) prog_1_method_35_code (1 : Nat) (Option.some Jvm.ClassFile.FieldType.int)) ∈ lw_all := lw_g (lw_at lw_m6 130 rfl) rfl
theorem q1414 : (Jvm.Cond.methodLink "PrimeProofs" (291 : Nat) ({ cls := "java/util/ArrayList", name := "isEmpty", desc := "()Z" } : Jvm.MethodName)) ∈ lw_all := lw_g (lw_at lw_m6 131 rfl) rfl
theorem q1419 : (Jvm.Cond.instanceMethod ({ cls := "PrimeProofs", name := "clear", desc := "()I" } : Jvm.MethodName)) ∈ lw_all := lw_g (lw_at lw_m6 136 rfl) rfl
theorem q1420 : (Jvm.Cond.selects "PrimeProofs" ({ cls := "PrimeProofs", name := "clear", desc := "()I" } : Jvm.MethodName) ({ cls := "PrimeProofs", name := "clear", desc := "()I" } : Jvm.MethodName)) ∈ lw_all := lw_g (lw_at lw_m6 137 rfl) rfl
theorem q1421 : (Jvm.Cond.code ({ cls := "PrimeProofs", name := "clear", desc := "()I" } : Jvm.MethodName) prog_1_method_36_code (2 : Nat) (Option.some Jvm.ClassFile.FieldType.int)) ∈ lw_all := lw_g (lw_at lw_m6 138 rfl) rfl
theorem q1423 : (Jvm.Cond.instanceMethod ({ cls := "PrimeProofs", name := "line", desc := "(II)I" } : Jvm.MethodName)) ∈ lw_all := lw_g (lw_at lw_m6 140 rfl) rfl
theorem q1424 : (Jvm.Cond.selects "PrimeProofs" ({ cls := "PrimeProofs", name := "line", desc := "(II)I" } : Jvm.MethodName) ({ cls := "PrimeProofs", name := "line", desc := "(II)I" } : Jvm.MethodName)) ∈ lw_all := lw_g (lw_at lw_m6 141 rfl) rfl
theorem q1425 : (Jvm.Cond.code ({ cls := "PrimeProofs", name := "line", desc := "(II)I" } : Jvm.MethodName) prog_1_method_37_code (4 : Nat) (Option.some Jvm.ClassFile.FieldType.int)) ∈ lw_all := lw_g (lw_at lw_m6 142 rfl) rfl
theorem q1427 : (Jvm.Cond.instanceMethod ({ cls := "PrimeProofs", name := "row", desc := "(IZII)I" } : Jvm.MethodName)) ∈ lw_all := lw_g (lw_at lw_m6 144 rfl) rfl
theorem q1428 : (Jvm.Cond.selects "PrimeProofs" ({ cls := "PrimeProofs", name := "row", desc := "(IZII)I" } : Jvm.MethodName) ({ cls := "PrimeProofs", name := "row", desc := "(IZII)I" } : Jvm.MethodName)) ∈ lw_all := lw_g (lw_at lw_m6 145 rfl) rfl
theorem q1429 : (Jvm.Cond.code ({ cls := "PrimeProofs", name := "row", desc := "(IZII)I" } : Jvm.MethodName) prog_1_method_38_code (6 : Nat) (Option.some Jvm.ClassFile.FieldType.int)) ∈ lw_all := lw_g (lw_at lw_m6 146 rfl) rfl
theorem q1431 : (Jvm.Cond.instanceMethod ({ cls := "PrimeProofs", name := "right", desc := "()J" } : Jvm.MethodName)) ∈ lw_all := lw_g (lw_at lw_m6 148 rfl) rfl
theorem q1432 : (Jvm.Cond.selects "PrimeProofs" ({ cls := "PrimeProofs", name := "right", desc := "()J" } : Jvm.MethodName) ({ cls := "PrimeProofs", name := "right", desc := "()J" } : Jvm.MethodName)) ∈ lw_all := lw_g (lw_at lw_m6 149 rfl) rfl
theorem q1433 : (Jvm.Cond.code ({ cls := "PrimeProofs", name := "right", desc := "()J" } : Jvm.MethodName) prog_1_method_39_code (4 : Nat) (Option.some Jvm.ClassFile.FieldType.long)) ∈ lw_all := lw_g (lw_at lw_m6 150 rfl) rfl
theorem q1435 : (Jvm.Cond.instanceMethod ({ cls := "PrimeProofs", name := "rests", desc := "(I)J" } : Jvm.MethodName)) ∈ lw_all := lw_g (lw_at lw_m6 152 rfl) rfl
theorem q1436 : (Jvm.Cond.selects "PrimeProofs" ({ cls := "PrimeProofs", name := "rests", desc := "(I)J" } : Jvm.MethodName) ({ cls := "PrimeProofs", name := "rests", desc := "(I)J" } : Jvm.MethodName)) ∈ lw_all := lw_g (lw_at lw_m6 153 rfl) rfl
theorem q1437 : (Jvm.Cond.code ({ cls := "PrimeProofs", name := "rests", desc := "(I)J" } : Jvm.MethodName) prog_1_method_43_code (2 : Nat) (Option.some Jvm.ClassFile.FieldType.long)) ∈ lw_all := lw_g (lw_at lw_m6 154 rfl) rfl
theorem q1438 : (Jvm.Cond.constantLong "PrimeProofs" (304 : Nat) (-1 : Int64)) ∈ lw_all := lw_g (lw_at lw_m6 155 rfl) rfl
theorem q1439 : (Jvm.Cond.constantLong "PrimeProofs" (306 : Nat) (-2 : Int64)) ∈ lw_all := lw_g (lw_at lw_m6 156 rfl) rfl
theorem q1441 : (Jvm.Cond.instanceMethod ({ cls := "PrimeProofs", name := "deep", desc := "(I)I" } : Jvm.MethodName)) ∈ lw_all := lw_g (lw_at lw_m6 158 rfl) rfl
theorem q1442 : (Jvm.Cond.selects "PrimeProofs" ({ cls := "PrimeProofs", name := "deep", desc := "(I)I" } : Jvm.MethodName) ({ cls := "PrimeProofs", name := "deep", desc := "(I)I" } : Jvm.MethodName)) ∈ lw_all := lw_g (lw_at lw_m6 159 rfl) rfl
theorem q1443 : (Jvm.Cond.code ({ cls := "PrimeProofs", name := "deep", desc := "(I)I" } : Jvm.MethodName) prog_1_method_44_code (2 : Nat) (Option.some Jvm.ClassFile.FieldType.int)) ∈ lw_all := lw_g (lw_at lw_m6 160 rfl) rfl
theorem q1445 : (Jvm.Cond.instanceMethod ({ cls := "PrimeProofs", name := "falls", desc := "(I)J" } : Jvm.MethodName)) ∈ lw_all := lw_g (lw_at lw_m6 162 rfl) rfl
theorem q1446 : (Jvm.Cond.selects "PrimeProofs" ({ cls := "PrimeProofs", name := "falls", desc := "(I)J" } : Jvm.MethodName) ({ cls := "PrimeProofs", name := "falls", desc := "(I)J" } : Jvm.MethodName)) ∈ lw_all := lw_g (lw_at lw_m6 163 rfl) rfl
theorem q1447 : (Jvm.Cond.code ({ cls := "PrimeProofs", name := "falls", desc := "(I)J" } : Jvm.MethodName) prog_1_method_46_code (8 : Nat) (Option.some Jvm.ClassFile.FieldType.long)) ∈ lw_all := lw_g (lw_at lw_m6 164 rfl) rfl
theorem q1448 : (Jvm.Cond.methodLink "PrimeProofs" (308 : Nat) ({ cls := "PrimeProofs", name := "right", desc := "()J" } : Jvm.MethodName)) ∈ lw_all := lw_g (lw_at lw_m6 165 rfl) rfl
theorem q1449 : (Jvm.Cond.methodLink "PrimeProofs" (312 : Nat) ({ cls := "PrimeProofs", name := "areBacked", desc := "(LPrimeProofs$Rows;IJ)Z" } : Jvm.MethodName)) ∈ lw_all := lw_g (lw_at lw_m6 166 rfl) rfl
theorem q1450 : (Jvm.Cond.privateMethod ({ cls := "PrimeProofs", name := "areBacked", desc := "(LPrimeProofs$Rows;IJ)Z" } : Jvm.MethodName)) ∈ lw_tbl := lw_at lw_m6 167 rfl
theorem q1451 : (Jvm.Cond.instanceMethod ({ cls := "PrimeProofs", name := "areBacked", desc := "(LPrimeProofs$Rows;IJ)Z" } : Jvm.MethodName)) ∈ lw_all := lw_g (lw_at lw_m6 168 rfl) rfl
theorem q1452 : (Jvm.Cond.code ({ cls := "PrimeProofs", name := "areBacked", desc := "(LPrimeProofs$Rows;IJ)Z" } : Jvm.MethodName) prog_1_method_45_code (9 : Nat) (Option.some Jvm.ClassFile.FieldType.boolean)) ∈ lw_all := lw_g (lw_at lw_m6 169 rfl) rfl
theorem q1454 : (Jvm.Cond.instanceMethod ({ cls := "PrimeProofs", name := "cost", desc := "(I)I" } : Jvm.MethodName)) ∈ lw_all := lw_g (lw_at lw_m6 171 rfl) rfl
theorem q1455 : (Jvm.Cond.selects "PrimeProofs" ({ cls := "PrimeProofs", name := "cost", desc := "(I)I" } : Jvm.MethodName) ({ cls := "PrimeProofs", name := "cost", desc := "(I)I" } : Jvm.MethodName)) ∈ lw_all := lw_g (lw_at lw_m6 172 rfl) rfl
theorem q1456 : (Jvm.Cond.code ({ cls := "PrimeProofs", name := "cost", desc := "(I)I" } : Jvm.MethodName) prog_1_method_48_code (6 : Nat) (Option.some Jvm.ClassFile.FieldType.int)) ∈ lw_all := lw_g (lw_at lw_m6 173 rfl) rfl
theorem q1457 : (Jvm.Cond.methodLink "PrimeProofs" (325 : Nat) ({ cls := "PrimeProofs", name := "climb", desc := "(J)I" } : Jvm.MethodName)) ∈ lw_all := lw_g (lw_at lw_m6 174 rfl) rfl
theorem q1458 : (Jvm.Cond.static ({ cls := "PrimeProofs", name := "climb", desc := "(J)I" } : Jvm.MethodName)) ∈ lw_all := lw_g (lw_at lw_m6 175 rfl) rfl
theorem q1459 : (Jvm.Cond.code ({ cls := "PrimeProofs", name := "climb", desc := "(J)I" } : Jvm.MethodName) prog_1_method_47_code (2 : Nat) (Option.some Jvm.ClassFile.FieldType.int)) ∈ lw_all := lw_g (lw_at lw_m6 176 rfl) rfl
theorem q1460 : (Jvm.Cond.methodLink "PrimeProofs" (316 : Nat) ({ cls := "java/lang/Long", name := "numberOfLeadingZeros", desc := "(J)I" } : Jvm.MethodName)) ∈ lw_all := lw_g (lw_at lw_m6 177 rfl) rfl
theorem q1467 : (Jvm.Cond.methodLink "PrimeProofs" (322 : Nat) ({ cls := "java/lang/Long", name := "bitCount", desc := "(J)I" } : Jvm.MethodName)) ∈ lw_all := lw_g (lw_at lw_m6 184 rfl) rfl
theorem q1474 : (Jvm.Cond.instanceMethod ({ cls := "PrimeProofs", name := "loose", desc := "(II)I" } : Jvm.MethodName)) ∈ lw_all := lw_g (lw_at lw_m6 191 rfl) rfl
theorem q1475 : (Jvm.Cond.selects "PrimeProofs" ({ cls := "PrimeProofs", name := "loose", desc := "(II)I" } : Jvm.MethodName) ({ cls := "PrimeProofs", name := "loose", desc := "(II)I" } : Jvm.MethodName)) ∈ lw_all := lw_g (lw_at lw_m6 192 rfl) rfl
theorem q1476 : (Jvm.Cond.code ({ cls := "PrimeProofs", name := "loose", desc := "(II)I" } : Jvm.MethodName) prog_1_method_49_code (6 : Nat) (Option.some Jvm.ClassFile.FieldType.int)) ∈ lw_all := lw_g (lw_at lw_m6 193 rfl) rfl
theorem q1477 : (Jvm.Cond.methodLink "PrimeProofs" (328 : Nat) ({ cls := "PrimeProofs$Line", name := "isOne", desc := "(LPrimeProofs$Row;)Z" } : Jvm.MethodName)) ∈ lw_all := lw_g (lw_at lw_m6 194 rfl) rfl
theorem q1478 : (Jvm.Cond.methodLink "PrimeProofs" (332 : Nat) ({ cls := "PrimeProofs$Line", name := "isFar", desc := "(LPrimeProofs$Row;)Z" } : Jvm.MethodName)) ∈ lw_all := lw_g (lw_at lw_m6 195 rfl) rfl
theorem q1480 : (Jvm.Cond.instanceMethod ({ cls := "PrimeProofs", name := "shared", desc := "(II)J" } : Jvm.MethodName)) ∈ lw_all := lw_g (lw_at lw_m6 197 rfl) rfl
theorem q1481 : (Jvm.Cond.selects "PrimeProofs" ({ cls := "PrimeProofs", name := "shared", desc := "(II)J" } : Jvm.MethodName) ({ cls := "PrimeProofs", name := "shared", desc := "(II)J" } : Jvm.MethodName)) ∈ lw_all := lw_g (lw_at lw_m6 198 rfl) rfl
theorem q1482 : (Jvm.Cond.code ({ cls := "PrimeProofs", name := "shared", desc := "(II)J" } : Jvm.MethodName) prog_1_method_50_code (3 : Nat) (Option.some Jvm.ClassFile.FieldType.long)) ∈ lw_all := lw_g (lw_at lw_m6 199 rfl) rfl
theorem q1484 : (Jvm.Cond.instanceMethod ({ cls := "PrimeProofs", name := "spell", desc := "(II)I" } : Jvm.MethodName)) ∈ lw_all := lw_g (lw_at lw_m6 201 rfl) rfl
theorem q1485 : (Jvm.Cond.selects "PrimeProofs" ({ cls := "PrimeProofs", name := "spell", desc := "(II)I" } : Jvm.MethodName) ({ cls := "PrimeProofs", name := "spell", desc := "(II)I" } : Jvm.MethodName)) ∈ lw_all := lw_g (lw_at lw_m6 202 rfl) rfl
theorem q1486 : (Jvm.Cond.code ({ cls := "PrimeProofs", name := "spell", desc := "(II)I" } : Jvm.MethodName) prog_1_method_53_code (4 : Nat) (Option.some Jvm.ClassFile.FieldType.int)) ∈ lw_all := lw_g (lw_at lw_m6 203 rfl) rfl
theorem q1487 : (Jvm.Cond.methodLink "PrimeProofs" (375 : Nat) ({ cls := "PrimeProofs", name := "spelt", desc := "(LPrimeProofs$Line;)Ljava/lang/String;" } : Jvm.MethodName)) ∈ lw_all := lw_g (lw_at lw_m6 204 rfl) rfl
theorem q1488 : (Jvm.Cond.static ({ cls := "PrimeProofs", name := "spelt", desc := "(LPrimeProofs$Line;)Ljava/lang/String;" } : Jvm.MethodName)) ∈ lw_all := lw_g (lw_at lw_m6 205 rfl) rfl
theorem q1489 : (Jvm.Cond.code ({ cls := "PrimeProofs", name := "spelt", desc := "(LPrimeProofs$Line;)Ljava/lang/String;" } : Jvm.MethodName) prog_1_method_52_code (2 : Nat) (Option.some (Jvm.ClassFile.FieldType.object "java/lang/String"))) ∈ lw_all := lw_g (lw_at lw_m6 206 rfl) rfl
theorem q1490 : (Jvm.Cond.classLink "PrimeProofs" (336 : Nat) "java/lang/StringBuilder") ∈ lw_all := lw_g (lw_at lw_m6 207 rfl) rfl
theorem q1491 : (Jvm.Cond.methodLink "PrimeProofs" (347 : Nat) ({ cls := "PrimeProofs", name := "wordOf", desc := "(I)Ljava/lang/String;" } : Jvm.MethodName)) ∈ lw_all := lw_g (lw_at lw_m6 208 rfl) rfl
theorem q1492 : (Jvm.Cond.methodLink "PrimeProofs" (351 : Nat) ({ cls := "java/lang/StringBuilder", name := "<init>", desc := "(Ljava/lang/String;)V" } : Jvm.MethodName)) ∈ lw_all := lw_g (lw_at lw_m6 209 rfl) rfl
theorem q1503 : (Jvm.Cond.methodLink "PrimeProofs" (335 : Nat) ({ cls := "java/lang/StringBuilder", name := "append", desc := "(C)Ljava/lang/StringBuilder;" } : Jvm.MethodName)) ∈ lw_all := lw_g (lw_at lw_m6 220 rfl) rfl
theorem q1504 : (Jvm.Cond.methodLink "PrimeProofs" (341 : Nat) ({ cls := "java/lang/StringBuilder", name := "append", desc := "(J)Ljava/lang/StringBuilder;" } : Jvm.MethodName)) ∈ lw_all := lw_g (lw_at lw_m6 221 rfl) rfl
theorem q1535 : (Jvm.Cond.stringRef "PrimeProofs" (354 : Nat) " base ") ∈ lw_tbl := lw_at lw_m7 12 rfl
theorem q1536 : (Jvm.Cond.methodLink "PrimeProofs" (356 : Nat) ({ cls := "java/lang/StringBuilder", name := "append", desc := "(Ljava/lang/String;)Ljava/lang/StringBuilder;" } : Jvm.MethodName)) ∈ lw_all := lw_g (lw_at lw_m7 13 rfl) rfl
theorem q1537 : (Jvm.Cond.methodLink "PrimeProofs" (344 : Nat) ({ cls := "java/lang/StringBuilder", name := "append", desc := "(I)Ljava/lang/StringBuilder;" } : Jvm.MethodName)) ∈ lw_all := lw_g (lw_at lw_m7 14 rfl) rfl
theorem q1558 : (Jvm.Cond.stringRef "PrimeProofs" (359 : Nat) " with ") ∈ lw_tbl := lw_at lw_m7 35 rfl
theorem q1559 : (Jvm.Cond.stringRef "PrimeProofs" (361 : Nat) " by") ∈ lw_tbl := lw_at lw_m7 36 rfl
theorem q1560 : (Jvm.Cond.methodLink "PrimeProofs" (363 : Nat) ({ cls := "PrimeProofs", name := "spells", desc := "(Ljava/lang/StringBuilder;LPrimeProofs$Rows;Z)V" } : Jvm.MethodName)) ∈ lw_all := lw_g (lw_at lw_m7 37 rfl) rfl
theorem q1561 : (Jvm.Cond.static ({ cls := "PrimeProofs", name := "spells", desc := "(Ljava/lang/StringBuilder;LPrimeProofs$Rows;Z)V" } : Jvm.MethodName)) ∈ lw_all := lw_g (lw_at lw_m7 38 rfl) rfl
theorem q1562 : (Jvm.Cond.code ({ cls := "PrimeProofs", name := "spells", desc := "(Ljava/lang/StringBuilder;LPrimeProofs$Rows;Z)V" } : Jvm.MethodName) prog_1_method_51_code (5 : Nat) (Option.none : Option Jvm.ClassFile.FieldType)) ∈ lw_all := lw_g (lw_at lw_m7 39 rfl) rfl
theorem q1563 : (Jvm.Cond.stringRef "PrimeProofs" (367 : Nat) " down") ∈ lw_tbl := lw_at lw_m7 40 rfl
theorem q1564 : (Jvm.Cond.stringRef "PrimeProofs" (369 : Nat) " up") ∈ lw_tbl := lw_at lw_m7 41 rfl
theorem q1565 : (Jvm.Cond.methodLink "PrimeProofs" (371 : Nat) ({ cls := "java/lang/StringBuilder", name := "toString", desc := "()Ljava/lang/String;" } : Jvm.MethodName)) ∈ lw_all := lw_g (lw_at lw_m7 42 rfl) rfl
theorem q1566 : (Jvm.Cond.methodLink "PrimeProofs" (379 : Nat) ({ cls := "java/lang/String", name := "length", desc := "()I" } : Jvm.MethodName)) ∈ lw_all := lw_g (lw_at lw_m7 43 rfl) rfl
theorem q1567 : (Jvm.Cond.methodLink "PrimeProofs" (384 : Nat) ({ cls := "java/lang/String", name := "charAt", desc := "(I)C" } : Jvm.MethodName)) ∈ lw_all := lw_g (lw_at lw_m7 44 rfl) rfl
theorem q1569 : (Jvm.Cond.instanceMethod ({ cls := "PrimeProofs", name := "proof", desc := "(I)I" } : Jvm.MethodName)) ∈ lw_all := lw_g (lw_at lw_m7 46 rfl) rfl
theorem q1570 : (Jvm.Cond.selects "PrimeProofs" ({ cls := "PrimeProofs", name := "proof", desc := "(I)I" } : Jvm.MethodName) ({ cls := "PrimeProofs", name := "proof", desc := "(I)I" } : Jvm.MethodName)) ∈ lw_all := lw_g (lw_at lw_m7 47 rfl) rfl
theorem q1571 : (Jvm.Cond.code ({ cls := "PrimeProofs", name := "proof", desc := "(I)I" } : Jvm.MethodName) prog_1_method_54_code (2 : Nat) (Option.some Jvm.ClassFile.FieldType.int)) ∈ lw_all := lw_g (lw_at lw_m7 48 rfl) rfl
theorem q1573 : (Jvm.Cond.instanceMethod ({ cls := "PrimeProofs", name := "prime", desc := "(II)I" } : Jvm.MethodName)) ∈ lw_all := lw_g (lw_at lw_m7 50 rfl) rfl
theorem q1574 : (Jvm.Cond.selects "PrimeProofs" ({ cls := "PrimeProofs", name := "prime", desc := "(II)I" } : Jvm.MethodName) ({ cls := "PrimeProofs", name := "prime", desc := "(II)I" } : Jvm.MethodName)) ∈ lw_all := lw_g (lw_at lw_m7 51 rfl) rfl
theorem q1575 : (Jvm.Cond.code ({ cls := "PrimeProofs", name := "prime", desc := "(II)I" } : Jvm.MethodName) prog_1_method_55_code (4 : Nat) (Option.some Jvm.ClassFile.FieldType.int)) ∈ lw_all := lw_g (lw_at lw_m7 52 rfl) rfl
theorem q1576 : (Jvm.Cond.methodLink "PrimeProofs" (388 : Nat) ({ cls := "PrimeProofs", name := "factors", desc := "(J)LPrimeProofs$Rows;" } : Jvm.MethodName)) ∈ lw_all := lw_g (lw_at lw_m7 53 rfl) rfl
theorem q1578 : (Jvm.Cond.instanceMethod ({ cls := "PrimeProofs", name := "often", desc := "(II)I" } : Jvm.MethodName)) ∈ lw_all := lw_g (lw_at lw_m7 55 rfl) rfl
theorem q1579 : (Jvm.Cond.selects "PrimeProofs" ({ cls := "PrimeProofs", name := "often", desc := "(II)I" } : Jvm.MethodName) ({ cls := "PrimeProofs", name := "often", desc := "(II)I" } : Jvm.MethodName)) ∈ lw_all := lw_g (lw_at lw_m7 56 rfl) rfl
theorem q1580 : (Jvm.Cond.code ({ cls := "PrimeProofs", name := "often", desc := "(II)I" } : Jvm.MethodName) prog_1_method_56_code (5 : Nat) (Option.some Jvm.ClassFile.FieldType.int)) ∈ lw_all := lw_g (lw_at lw_m7 57 rfl) rfl
theorem q1582 : (Jvm.Cond.instanceMethod ({ cls := "PrimeProofs", name := "fewest", desc := "(I)I" } : Jvm.MethodName)) ∈ lw_all := lw_g (lw_at lw_m7 59 rfl) rfl
theorem q1583 : (Jvm.Cond.selects "PrimeProofs" ({ cls := "PrimeProofs", name := "fewest", desc := "(I)I" } : Jvm.MethodName) ({ cls := "PrimeProofs", name := "fewest", desc := "(I)I" } : Jvm.MethodName)) ∈ lw_all := lw_g (lw_at lw_m7 60 rfl) rfl
theorem q1584 : (Jvm.Cond.code ({ cls := "PrimeProofs", name := "fewest", desc := "(I)I" } : Jvm.MethodName) prog_1_method_57_code (4 : Nat) (Option.some Jvm.ClassFile.FieldType.int)) ∈ lw_all := lw_g (lw_at lw_m7 61 rfl) rfl
theorem q1585 : (Jvm.Cond.methodLink "PrimeProofs" (392 : Nat) ({ cls := "PrimeProofs", name := "rowsFor", desc := "(II)I" } : Jvm.MethodName)) ∈ lw_all := lw_g (lw_at lw_m7 62 rfl) rfl
theorem q1586 : (Jvm.Cond.privateMethod ({ cls := "PrimeProofs", name := "rowsFor", desc := "(II)I" } : Jvm.MethodName)) ∈ lw_tbl := lw_at lw_m7 63 rfl
theorem q1587 : (Jvm.Cond.instanceMethod ({ cls := "PrimeProofs", name := "rowsFor", desc := "(II)I" } : Jvm.MethodName)) ∈ lw_all := lw_g (lw_at lw_m7 64 rfl) rfl
theorem q1588 : (Jvm.Cond.code ({ cls := "PrimeProofs", name := "rowsFor", desc := "(II)I" } : Jvm.MethodName) prog_1_method_58_code (3 : Nat) (Option.some Jvm.ClassFile.FieldType.int)) ∈ lw_all := lw_g (lw_at lw_m7 65 rfl) rfl
theorem q1589 : (Jvm.Cond.methodLink "PrimeProofs" (395 : Nat) ({ cls := "PrimeProofs", name := "needs", desc := "(II)I" } : Jvm.MethodName)) ∈ lw_all := lw_g (lw_at lw_m7 66 rfl) rfl
theorem q1591 : (Jvm.Cond.instanceMethod ({ cls := "PrimeProofs", name := "next", desc := "(I)I" } : Jvm.MethodName)) ∈ lw_all := lw_g (lw_at lw_m7 68 rfl) rfl
theorem q1592 : (Jvm.Cond.selects "PrimeProofs" ({ cls := "PrimeProofs", name := "next", desc := "(I)I" } : Jvm.MethodName) ({ cls := "PrimeProofs", name := "next", desc := "(I)I" } : Jvm.MethodName)) ∈ lw_all := lw_g (lw_at lw_m7 69 rfl) rfl
theorem q1593 : (Jvm.Cond.code ({ cls := "PrimeProofs", name := "next", desc := "(I)I" } : Jvm.MethodName) prog_1_method_59_code (3 : Nat) (Option.some Jvm.ClassFile.FieldType.int)) ∈ lw_all := lw_g (lw_at lw_m7 70 rfl) rfl
theorem q1594 : (Jvm.Cond.constantLong "PrimeProofs" (398 : Nat) (999999936 : Int64)) ∈ lw_all := lw_g (lw_at lw_m7 71 rfl) rfl
theorem q1596 : (Jvm.Cond.instanceMethod ({ cls := "PrimeProofs", name := "smooth", desc := "(II)I" } : Jvm.MethodName)) ∈ lw_all := lw_g (lw_at lw_m7 73 rfl) rfl
theorem q1597 : (Jvm.Cond.selects "PrimeProofs" ({ cls := "PrimeProofs", name := "smooth", desc := "(II)I" } : Jvm.MethodName) ({ cls := "PrimeProofs", name := "smooth", desc := "(II)I" } : Jvm.MethodName)) ∈ lw_all := lw_g (lw_at lw_m7 74 rfl) rfl
theorem q1598 : (Jvm.Cond.code ({ cls := "PrimeProofs", name := "smooth", desc := "(II)I" } : Jvm.MethodName) prog_1_method_61_code (3 : Nat) (Option.some Jvm.ClassFile.FieldType.int)) ∈ lw_all := lw_g (lw_at lw_m7 75 rfl) rfl
theorem q1599 : (Jvm.Cond.methodLink "PrimeProofs" (400 : Nat) ({ cls := "PrimeProofs", name := "smoothOf", desc := "(JJ)J" } : Jvm.MethodName)) ∈ lw_all := lw_g (lw_at lw_m7 76 rfl) rfl
theorem q1600 : (Jvm.Cond.static ({ cls := "PrimeProofs", name := "smoothOf", desc := "(JJ)J" } : Jvm.MethodName)) ∈ lw_all := lw_g (lw_at lw_m7 77 rfl) rfl
theorem q1601 : (Jvm.Cond.code ({ cls := "PrimeProofs", name := "smoothOf", desc := "(JJ)J" } : Jvm.MethodName) prog_1_method_60_code (9 : Nat) (Option.some Jvm.ClassFile.FieldType.long)) ∈ lw_all := lw_g (lw_at lw_m7 78 rfl) rfl
theorem q1603 : (Jvm.Cond.instanceMethod ({ cls := "PrimeProofs", name := "bound", desc := "(I)I" } : Jvm.MethodName)) ∈ lw_all := lw_g (lw_at lw_m7 80 rfl) rfl
theorem q1604 : (Jvm.Cond.selects "PrimeProofs" ({ cls := "PrimeProofs", name := "bound", desc := "(I)I" } : Jvm.MethodName) ({ cls := "PrimeProofs", name := "bound", desc := "(I)I" } : Jvm.MethodName)) ∈ lw_all := lw_g (lw_at lw_m7 81 rfl) rfl
theorem q1605 : (Jvm.Cond.code ({ cls := "PrimeProofs", name := "bound", desc := "(I)I" } : Jvm.MethodName) prog_1_method_62_code (4 : Nat) (Option.some Jvm.ClassFile.FieldType.int)) ∈ lw_all := lw_g (lw_at lw_m7 82 rfl) rfl
theorem q1607 : (Jvm.Cond.instanceMethod ({ cls := "PrimeProofs", name := "chase", desc := "(II)I" } : Jvm.MethodName)) ∈ lw_all := lw_g (lw_at lw_m7 84 rfl) rfl
theorem q1608 : (Jvm.Cond.selects "PrimeProofs" ({ cls := "PrimeProofs", name := "chase", desc := "(II)I" } : Jvm.MethodName) ({ cls := "PrimeProofs", name := "chase", desc := "(II)I" } : Jvm.MethodName)) ∈ lw_all := lw_g (lw_at lw_m7 85 rfl) rfl
theorem q1609 : (Jvm.Cond.code ({ cls := "PrimeProofs", name := "chase", desc := "(II)I" } : Jvm.MethodName) prog_1_method_63_code (10 : Nat) (Option.some Jvm.ClassFile.FieldType.int)) ∈ lw_all := lw_g (lw_at lw_m7 86 rfl) rfl
theorem q1610 : (Jvm.Cond.methodLink "PrimeProofs" (403 : Nat) ({ cls := "java/lang/Math", name := "abs", desc := "(J)J" } : Jvm.MethodName)) ∈ lw_all := lw_g (lw_at lw_m7 87 rfl) rfl
theorem q1614 : (Jvm.Cond.instanceMethod ({ cls := "PrimeProofs", name := "primes", desc := "(II)I" } : Jvm.MethodName)) ∈ lw_all := lw_g (lw_at lw_m7 91 rfl) rfl
theorem q1615 : (Jvm.Cond.selects "PrimeProofs" ({ cls := "PrimeProofs", name := "primes", desc := "(II)I" } : Jvm.MethodName) ({ cls := "PrimeProofs", name := "primes", desc := "(II)I" } : Jvm.MethodName)) ∈ lw_all := lw_g (lw_at lw_m7 92 rfl) rfl
theorem q1616 : (Jvm.Cond.code ({ cls := "PrimeProofs", name := "primes", desc := "(II)I" } : Jvm.MethodName) prog_1_method_64_code (5 : Nat) (Option.some Jvm.ClassFile.FieldType.int)) ∈ lw_all := lw_g (lw_at lw_m7 93 rfl) rfl
theorem q1618 : (Jvm.Cond.instanceMethod ({ cls := "PrimeProofs", name := "passes", desc := "(II)I" } : Jvm.MethodName)) ∈ lw_all := lw_g (lw_at lw_m7 95 rfl) rfl
theorem q1619 : (Jvm.Cond.selects "PrimeProofs" ({ cls := "PrimeProofs", name := "passes", desc := "(II)I" } : Jvm.MethodName) ({ cls := "PrimeProofs", name := "passes", desc := "(II)I" } : Jvm.MethodName)) ∈ lw_all := lw_g (lw_at lw_m7 96 rfl) rfl
theorem q1620 : (Jvm.Cond.code ({ cls := "PrimeProofs", name := "passes", desc := "(II)I" } : Jvm.MethodName) prog_1_method_67_code (3 : Nat) (Option.some Jvm.ClassFile.FieldType.int)) ∈ lw_all := lw_g (lw_at lw_m7 97 rfl) rfl
theorem q1621 : (Jvm.Cond.methodLink "PrimeProofs" (410 : Nat) ({ cls := "PrimeProofs", name := "isOdd", desc := "(I)Z" } : Jvm.MethodName)) ∈ lw_all := lw_g (lw_at lw_m7 98 rfl) rfl
theorem q1622 : (Jvm.Cond.static ({ cls := "PrimeProofs", name := "isOdd", desc := "(I)Z" } : Jvm.MethodName)) ∈ lw_all := lw_g (lw_at lw_m7 99 rfl) rfl
theorem q1623 : (Jvm.Cond.code ({ cls := "PrimeProofs", name := "isOdd", desc := "(I)Z" } : Jvm.MethodName) prog_1_method_66_code (1 : Nat) (Option.some Jvm.ClassFile.FieldType.boolean)) ∈ lw_all := lw_g (lw_at lw_m7 100 rfl) rfl
theorem q1624 : (Jvm.Cond.methodLink "PrimeProofs" (413 : Nat) ({ cls := "PrimeProofs", name := "isPassed", desc := "(JJ)Z" } : Jvm.MethodName)) ∈ lw_all := lw_g (lw_at lw_m7 101 rfl) rfl
theorem q1625 : (Jvm.Cond.static ({ cls := "PrimeProofs", name := "isPassed", desc := "(JJ)Z" } : Jvm.MethodName)) ∈ lw_all := lw_g (lw_at lw_m7 102 rfl) rfl
theorem q1626 : (Jvm.Cond.code ({ cls := "PrimeProofs", name := "isPassed", desc := "(JJ)Z" } : Jvm.MethodName) prog_1_method_65_code (8 : Nat) (Option.some Jvm.ClassFile.FieldType.boolean)) ∈ lw_all := lw_g (lw_at lw_m7 103 rfl) rfl
theorem q1627 : (Jvm.Cond.methodLink "PrimeProofs" (406 : Nat) ({ cls := "PrimeProofs", name := "powerOf", desc := "(JJJ)J" } : Jvm.MethodName)) ∈ lw_all := lw_g (lw_at lw_m7 104 rfl) rfl
theorem q1629 : (Jvm.Cond.instanceMethod ({ cls := "PrimeProofs", name := "fools", desc := "(II)I" } : Jvm.MethodName)) ∈ lw_all := lw_g (lw_at lw_m7 106 rfl) rfl
theorem q1630 : (Jvm.Cond.selects "PrimeProofs" ({ cls := "PrimeProofs", name := "fools", desc := "(II)I" } : Jvm.MethodName) ({ cls := "PrimeProofs", name := "fools", desc := "(II)I" } : Jvm.MethodName)) ∈ lw_all := lw_g (lw_at lw_m7 107 rfl) rfl
theorem q1631 : (Jvm.Cond.code ({ cls := "PrimeProofs", name := "fools", desc := "(II)I" } : Jvm.MethodName) prog_1_method_68_code (7 : Nat) (Option.some Jvm.ClassFile.FieldType.int)) ∈ lw_all := lw_g (lw_at lw_m7 108 rfl) rfl
theorem q1633 : (Jvm.Cond.instanceMethod ({ cls := "PrimeProofs", name := "power", desc := "(III)I" } : Jvm.MethodName)) ∈ lw_all := lw_g (lw_at lw_m7 110 rfl) rfl
theorem q1634 : (Jvm.Cond.selects "PrimeProofs" ({ cls := "PrimeProofs", name := "power", desc := "(III)I" } : Jvm.MethodName) ({ cls := "PrimeProofs", name := "power", desc := "(III)I" } : Jvm.MethodName)) ∈ lw_all := lw_g (lw_at lw_m7 111 rfl) rfl
theorem q1635 : (Jvm.Cond.code ({ cls := "PrimeProofs", name := "power", desc := "(III)I" } : Jvm.MethodName) prog_1_method_69_code (4 : Nat) (Option.some Jvm.ClassFile.FieldType.int)) ∈ lw_all := lw_g (lw_at lw_m7 112 rfl) rfl
theorem q1637 : (Jvm.Cond.instanceMethod ({ cls := "PrimeProofs", name := "order", desc := "(II)I" } : Jvm.MethodName)) ∈ lw_all := lw_g (lw_at lw_m7 114 rfl) rfl
theorem q1638 : (Jvm.Cond.selects "PrimeProofs" ({ cls := "PrimeProofs", name := "order", desc := "(II)I" } : Jvm.MethodName) ({ cls := "PrimeProofs", name := "order", desc := "(II)I" } : Jvm.MethodName)) ∈ lw_all := lw_g (lw_at lw_m7 115 rfl) rfl
theorem q1639 : (Jvm.Cond.code ({ cls := "PrimeProofs", name := "order", desc := "(II)I" } : Jvm.MethodName) prog_1_method_71_code (7 : Nat) (Option.some Jvm.ClassFile.FieldType.int)) ∈ lw_all := lw_g (lw_at lw_m7 116 rfl) rfl
theorem q1640 : (Jvm.Cond.constantLong "PrimeProofs" (417 : Nat) (1000000 : Int64)) ∈ lw_all := lw_g (lw_at lw_m7 117 rfl) rfl
theorem q1641 : (Jvm.Cond.methodLink "PrimeProofs" (419 : Nat) ({ cls := "PrimeProofs", name := "unitsOf", desc := "(J)J" } : Jvm.MethodName)) ∈ lw_all := lw_g (lw_at lw_m7 118 rfl) rfl
theorem q1642 : (Jvm.Cond.static ({ cls := "PrimeProofs", name := "unitsOf", desc := "(J)J" } : Jvm.MethodName)) ∈ lw_all := lw_g (lw_at lw_m7 119 rfl) rfl
theorem q1643 : (Jvm.Cond.code ({ cls := "PrimeProofs", name := "unitsOf", desc := "(J)J" } : Jvm.MethodName) prog_1_method_70_code (6 : Nat) (Option.some Jvm.ClassFile.FieldType.long)) ∈ lw_all := lw_g (lw_at lw_m7 120 rfl) rfl
theorem q1645 : (Jvm.Cond.instanceMethod ({ cls := "PrimeProofs", name := "jacobi", desc := "(II)I" } : Jvm.MethodName)) ∈ lw_all := lw_g (lw_at lw_m7 122 rfl) rfl
theorem q1646 : (Jvm.Cond.selects "PrimeProofs" ({ cls := "PrimeProofs", name := "jacobi", desc := "(II)I" } : Jvm.MethodName) ({ cls := "PrimeProofs", name := "jacobi", desc := "(II)I" } : Jvm.MethodName)) ∈ lw_all := lw_g (lw_at lw_m7 123 rfl) rfl
theorem q1647 : (Jvm.Cond.code ({ cls := "PrimeProofs", name := "jacobi", desc := "(II)I" } : Jvm.MethodName) prog_1_method_72_code (3 : Nat) (Option.some Jvm.ClassFile.FieldType.int)) ∈ lw_all := lw_g (lw_at lw_m7 124 rfl) rfl
theorem q1648 : (Jvm.Cond.methodLink "PrimeProofs" (422 : Nat) ({ cls := "PrimeProofs", name := "jacobiOf", desc := "(JJ)I" } : Jvm.MethodName)) ∈ lw_all := lw_g (lw_at lw_m7 125 rfl) rfl
theorem q1650 : (Jvm.Cond.instanceMethod ({ cls := "PrimeProofs", name := "u", desc := "(IIII)I" } : Jvm.MethodName)) ∈ lw_all := lw_g (lw_at lw_m7 127 rfl) rfl
theorem q1651 : (Jvm.Cond.selects "PrimeProofs" ({ cls := "PrimeProofs", name := "u", desc := "(IIII)I" } : Jvm.MethodName) ({ cls := "PrimeProofs", name := "u", desc := "(IIII)I" } : Jvm.MethodName)) ∈ lw_all := lw_g (lw_at lw_m7 128 rfl) rfl
theorem q1652 : (Jvm.Cond.code ({ cls := "PrimeProofs", name := "u", desc := "(IIII)I" } : Jvm.MethodName) prog_1_method_73_code (5 : Nat) (Option.some Jvm.ClassFile.FieldType.int)) ∈ lw_all := lw_g (lw_at lw_m7 129 rfl) rfl
theorem q1653 : (Jvm.Cond.methodLink "PrimeProofs" (426 : Nat) ({ cls := "PrimeProofs", name := "sequenceOf", desc := "(JJJJ)J" } : Jvm.MethodName)) ∈ lw_all := lw_g (lw_at lw_m7 130 rfl) rfl
theorem q1655 : (Jvm.Cond.instanceMethod ({ cls := "PrimeProofs", name := "units", desc := "(I)I" } : Jvm.MethodName)) ∈ lw_all := lw_g (lw_at lw_m7 132 rfl) rfl
theorem q1656 : (Jvm.Cond.selects "PrimeProofs" ({ cls := "PrimeProofs", name := "units", desc := "(I)I" } : Jvm.MethodName) ({ cls := "PrimeProofs", name := "units", desc := "(I)I" } : Jvm.MethodName)) ∈ lw_all := lw_g (lw_at lw_m7 133 rfl) rfl
theorem q1657 : (Jvm.Cond.code ({ cls := "PrimeProofs", name := "units", desc := "(I)I" } : Jvm.MethodName) prog_1_method_74_code (2 : Nat) (Option.some Jvm.ClassFile.FieldType.int)) ∈ lw_all := lw_g (lw_at lw_m7 134 rfl) rfl
theorem q1659 : (Jvm.Cond.instanceMethod ({ cls := "PrimeProofs", name := "count", desc := "(I)I" } : Jvm.MethodName)) ∈ lw_all := lw_g (lw_at lw_m7 136 rfl) rfl
theorem q1660 : (Jvm.Cond.selects "PrimeProofs" ({ cls := "PrimeProofs", name := "count", desc := "(I)I" } : Jvm.MethodName) ({ cls := "PrimeProofs", name := "count", desc := "(I)I" } : Jvm.MethodName)) ∈ lw_all := lw_g (lw_at lw_m7 137 rfl) rfl
theorem q1661 : (Jvm.Cond.code ({ cls := "PrimeProofs", name := "count", desc := "(I)I" } : Jvm.MethodName) prog_1_method_75_code (5 : Nat) (Option.some Jvm.ClassFile.FieldType.int)) ∈ lw_all := lw_g (lw_at lw_m7 138 rfl) rfl
theorem q1662 : (Jvm.Cond.methodLink "PrimeProofs" (430 : Nat) ({ cls := "java/lang/Math", name := "max", desc := "(JJ)J" } : Jvm.MethodName)) ∈ lw_all := lw_g (lw_at lw_m7 139 rfl) rfl
theorem q1665 : (Jvm.Cond.methodLink "PrimeProofs" (432 : Nat) ({ cls := "PrimeProofs", name := "cost", desc := "(I)I" } : Jvm.MethodName)) ∈ lw_all := lw_g (lw_at lw_m7 142 rfl) rfl
theorem q2220 : (Jvm.Cond.castable "PrimeProofs" "java/lang/Object") ∈ lw_tbl := lw_at lw_m9 217 rfl
theorem in_X0 : ∀ w ∈ wsX00, w ∈ lw_all := lw_in wsX00 [165, 167, 169, 171, 173, 175, 177] (by decide +kernel) (by decide +kernel)
