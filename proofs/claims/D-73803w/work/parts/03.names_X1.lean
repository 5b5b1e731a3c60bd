/-! PrimeProofsModel -/
set_option maxRecDepth 100000
def RX1 : String := "PrimeProofsModel"
def TX1 : u_T := fun k => match k with
  | 0 => ("PrimeProofsModel", "thrown", "I", false)
  | 1 => ("PrimeProofsModel", "so", "[J", true)
  | 2 => ("PrimeProofsModel", "by", "[J", true)
  | 3 => ("PrimeProofsModel", "then", "[J", true)
  | 4 => ("PrimeProofsModel", "factor", "[I", true)
  | 5 => ("PrimeProofsModel", "power", "[I", true)
  | 6 => ("PrimeProofsModel", "factors", "I", false)
  | 7 => ("PrimeProofsModel", "many", "I", false)
  | 8 => ("PrimeProofsModel", "lineN", "[I", true)
  | 9 => ("PrimeProofsModel", "lineSort", "[I", true)
  | 10 => ("PrimeProofsModel", "lineP", "[I", true)
  | 11 => ("PrimeProofsModel", "lineQ", "[I", true)
  | 12 => ("PrimeProofsModel", "downs", "[I", true)
  | 13 => ("PrimeProofsModel", "ups", "[I", true)
  | 14 => ("PrimeProofsModel", "downQ", "[I", true)
  | 15 => ("PrimeProofsModel", "downE", "[I", true)
  | 16 => ("PrimeProofsModel", "downA", "[I", true)
  | 17 => ("PrimeProofsModel", "upQ", "[I", true)
  | 18 => ("PrimeProofsModel", "upE", "[I", true)
  | 19 => ("PrimeProofsModel", "isRight", "[Z", true)
  | 20 => ("PrimeProofsModel", "faults", "[I", true)
  | 21 => ("PrimeProofsModel", "waitN", "[I", true)
  | 22 => ("PrimeProofsModel", "waitSort", "[I", true)
  | 23 => ("PrimeProofsModel", "tape", "[I", true)
  | 24 => ("PrimeProofsModel", "taped", "I", false)
  | 25 => ("PrimeProofsModel", "token", "I", false)
  | 26 => ("PrimeProofsModel", "at", "I", false)
  | 27 => ("PrimeProofsModel", "word", "I", false)
  | 28 => ("PrimeProofsModel", "number", "J", false)
  | 29 => ("PrimeProofsModel", "next", "I", false)
  | 30 => ("PrimeProofsModel", "wrong", "I", false)
  | 31 => ("PrimeProofsModel", "words", "[B", true)
  | 32 => ("PrimeProofsModel", "signs", "[I", true)
  | 33 => ("PrimeProofsModel", "signMany", "I", false)
  | _ => ("PrimeProofsModel", "deeps", "[I", true)
def tyX1 : Nat → FieldType := fun k => match k with
  | 0 => .int
  | 1 => .array .long
  | 2 => .array .long
  | 3 => .array .long
  | 4 => .array .int
  | 5 => .array .int
  | 6 => .int
  | 7 => .int
  | 8 => .array .int
  | 9 => .array .int
  | 10 => .array .int
  | 11 => .array .int
  | 12 => .array .int
  | 13 => .array .int
  | 14 => .array .int
  | 15 => .array .int
  | 16 => .array .int
  | 17 => .array .int
  | 18 => .array .int
  | 19 => .array .boolean
  | 20 => .array .int
  | 21 => .array .int
  | 22 => .array .int
  | 23 => .array .int
  | 24 => .int
  | 25 => .int
  | 26 => .int
  | 27 => .int
  | 28 => .long
  | 29 => .int
  | 30 => .int
  | 31 => .array .byte
  | 32 => .array .int
  | 33 => .int
  | _ => .array .int
abbrev wsX10 : List Cond := u_ws RX1 TX1 35
set_option maxRecDepth 100000 in
theorem nmX1 : ∀ a, a < 35 → ∀ b, b < 35 → a ≠ b → (TX1 a).2.1 ≠ (TX1 b).2.1 := by decide +kernel
set_option maxRecDepth 100000 in
theorem tyX1_ok : ∀ k, k < 35 → parseFieldDescriptor (TX1 k).2.2.1 = some (tyX1 k) := by decide +kernel
abbrev cX1_init : ByteArray := prog_17_method_11_code
def yX1_init : MethodName := ⟨RX1, "<init>", "()V"⟩
def dkwX1_init_20 : List UInt8 := [188, 10, 181, 0, 106, 42, 16, 60, 188, 10, 181, 0, 109, 177]
abbrev dktX1_init_20 : List UInt8 := dkwX1_init_20 ++ []
def dkwX1_init_19 : List UInt8 := [16, 46, 16, 117, 84, 89, 16, 47, 16, 112, 84, 89, 16, 48, 3, 84, 181, 0, 102, 42, 17, 2, 88]
abbrev dktX1_init_19 : List UInt8 := dkwX1_init_19 ++ dktX1_init_20
def dkwX1_init_18 : List UInt8 := [16, 42, 16, 111, 84, 89, 16, 43, 16, 119, 84, 89, 16, 44, 16, 110, 84, 89, 16, 45, 3, 84, 89]
abbrev dktX1_init_18 : List UInt8 := dkwX1_init_18 ++ dktX1_init_19
def dkwX1_init_17 : List UInt8 := [16, 38, 16, 116, 84, 89, 16, 39, 16, 104, 84, 89, 16, 40, 3, 84, 89, 16, 41, 16, 100, 84, 89]
abbrev dktX1_init_17 : List UInt8 := dkwX1_init_17 ++ dktX1_init_18
def dkwX1_init_16 : List UInt8 := [16, 34, 16, 121, 84, 89, 16, 35, 3, 84, 89, 16, 36, 16, 119, 84, 89, 16, 37, 16, 105, 84, 89]
abbrev dktX1_init_16 : List UInt8 := dkwX1_init_16 ++ dktX1_init_17
def dkwX1_init_15 : List UInt8 := [16, 30, 16, 115, 84, 89, 16, 31, 16, 101, 84, 89, 16, 32, 3, 84, 89, 16, 33, 16, 98, 84, 89]
abbrev dktX1_init_15 : List UInt8 := dkwX1_init_15 ++ dktX1_init_16
def dkwX1_init_14 : List UInt8 := [16, 26, 16, 104, 84, 89, 16, 27, 3, 84, 89, 16, 28, 16, 98, 84, 89, 16, 29, 16, 97, 84, 89]
abbrev dktX1_init_14 : List UInt8 := dkwX1_init_14 ++ dktX1_init_15
def dkwX1_init_13 : List UInt8 := [16, 22, 3, 84, 89, 16, 23, 16, 98, 84, 89, 16, 24, 16, 111, 84, 89, 16, 25, 16, 116, 84, 89]
abbrev dktX1_init_13 : List UInt8 := dkwX1_init_13 ++ dktX1_init_14
def dkwX1_init_12 : List UInt8 := [16, 18, 16, 117, 84, 89, 16, 19, 16, 99, 84, 89, 16, 20, 16, 97, 84, 89, 16, 21, 16, 115, 84, 89]
abbrev dktX1_init_12 : List UInt8 := dkwX1_init_12 ++ dktX1_init_13
def dkwX1_init_11 : List UInt8 := [16, 14, 16, 114, 84, 89, 16, 15, 16, 116, 84, 89, 16, 16, 3, 84, 89, 16, 17, 16, 108, 84, 89]
abbrev dktX1_init_11 : List UInt8 := dkwX1_init_11 ++ dktX1_init_12
def dkwX1_init_10 : List UInt8 := [16, 10, 16, 116, 84, 89, 16, 11, 3, 84, 89, 16, 12, 16, 112, 84, 89, 16, 13, 16, 97, 84, 89]
abbrev dktX1_init_10 : List UInt8 := dkwX1_init_10 ++ dktX1_init_11
def dkwX1_init_9 : List UInt8 := [16, 6, 16, 112, 84, 89, 16, 7, 16, 114, 84, 89, 16, 8, 16, 97, 84, 89, 16, 9, 16, 116, 84, 89]
abbrev dktX1_init_9 : List UInt8 := dkwX1_init_9 ++ dktX1_init_10
def dkwX1_init_8 : List UInt8 := [16, 109, 84, 89, 5, 16, 97, 84, 89, 6, 16, 108, 84, 89, 7, 16, 108, 84, 89, 8, 3, 84, 89]
abbrev dktX1_init_8 : List UInt8 := dkwX1_init_8 ++ dktX1_init_9
def dkwX1_init_7 : List UInt8 := [181, 0, 96, 42, 17, 1, 144, 188, 10, 181, 0, 99, 42, 16, 49, 188, 8, 89, 3, 16, 115, 84, 89, 4]
abbrev dktX1_init_7 : List UInt8 := dkwX1_init_7 ++ dktX1_init_8
def dkwX1_init_6 : List UInt8 := [181, 0, 86, 42, 16, 60, 188, 10, 181, 0, 90, 42, 16, 70, 188, 10, 181, 0, 93, 42, 16, 70, 188, 10]
abbrev dktX1_init_6 : List UInt8 := dkwX1_init_6 ++ dktX1_init_7
def dkwX1_init_5 : List UInt8 := [17, 4, 20, 188, 10, 181, 0, 80, 42, 17, 4, 20, 188, 10, 181, 0, 83, 42, 16, 60, 188, 4]
abbrev dktX1_init_5 : List UInt8 := dkwX1_init_5 ++ dktX1_init_6
def dkwX1_init_4 : List UInt8 := [188, 10, 181, 0, 71, 42, 17, 4, 20, 188, 10, 181, 0, 74, 42, 17, 4, 20, 188, 10, 181, 0, 77, 42]
abbrev dktX1_init_4 : List UInt8 := dkwX1_init_4 ++ dktX1_init_5
def dkwX1_init_3 : List UInt8 := [181, 0, 62, 42, 16, 116, 188, 10, 181, 0, 65, 42, 16, 116, 188, 10, 181, 0, 68, 42, 17, 4, 20]
abbrev dktX1_init_3 : List UInt8 := dkwX1_init_3 ++ dktX1_init_4
def dkwX1_init_2 : List UInt8 := [181, 0, 53, 42, 16, 116, 188, 10, 181, 0, 56, 42, 16, 116, 188, 10, 181, 0, 59, 42, 16, 116, 188, 10]
abbrev dktX1_init_2 : List UInt8 := dkwX1_init_2 ++ dktX1_init_3
def dkwX1_init_1 : List UInt8 := [181, 0, 23, 42, 16, 12, 188, 10, 181, 0, 40, 42, 16, 12, 188, 10, 181, 0, 44, 42, 16, 116, 188, 10]
abbrev dktX1_init_1 : List UInt8 := dkwX1_init_1 ++ dktX1_init_2
def dkwX1_init_0 : List UInt8 := [42, 183, 0, 47, 42, 7, 188, 11, 181, 0, 27, 42, 7, 188, 11, 181, 0, 30, 42, 7, 188, 11]
abbrev dktX1_init_0 : List UInt8 := dkwX1_init_0 ++ dktX1_init_1
theorem dksX1_init_0 : cX1_init.data.toList.drop 0 = dktX1_init_0 := by decide +kernel
theorem dksX1_init_1 : cX1_init.data.toList.drop 22 = dktX1_init_1 := dk_seg dksX1_init_0 22 rfl rfl
theorem dksX1_init_2 : cX1_init.data.toList.drop 46 = dktX1_init_2 := dk_seg dksX1_init_1 24 rfl rfl
theorem dksX1_init_3 : cX1_init.data.toList.drop 70 = dktX1_init_3 := dk_seg dksX1_init_2 24 rfl rfl
theorem dksX1_init_4 : cX1_init.data.toList.drop 93 = dktX1_init_4 := dk_seg dksX1_init_3 23 rfl rfl
theorem dksX1_init_5 : cX1_init.data.toList.drop 117 = dktX1_init_5 := dk_seg dksX1_init_4 24 rfl rfl
theorem dksX1_init_6 : cX1_init.data.toList.drop 139 = dktX1_init_6 := dk_seg dksX1_init_5 22 rfl rfl
theorem dksX1_init_7 : cX1_init.data.toList.drop 163 = dktX1_init_7 := dk_seg dksX1_init_6 24 rfl rfl
theorem dksX1_init_8 : cX1_init.data.toList.drop 187 = dktX1_init_8 := dk_seg dksX1_init_7 24 rfl rfl
theorem dksX1_init_9 : cX1_init.data.toList.drop 210 = dktX1_init_9 := dk_seg dksX1_init_8 23 rfl rfl
theorem dksX1_init_10 : cX1_init.data.toList.drop 234 = dktX1_init_10 := dk_seg dksX1_init_9 24 rfl rfl
theorem dksX1_init_11 : cX1_init.data.toList.drop 257 = dktX1_init_11 := dk_seg dksX1_init_10 23 rfl rfl
theorem dksX1_init_12 : cX1_init.data.toList.drop 280 = dktX1_init_12 := dk_seg dksX1_init_11 23 rfl rfl
theorem dksX1_init_13 : cX1_init.data.toList.drop 304 = dktX1_init_13 := dk_seg dksX1_init_12 24 rfl rfl
theorem dksX1_init_14 : cX1_init.data.toList.drop 327 = dktX1_init_14 := dk_seg dksX1_init_13 23 rfl rfl
theorem dksX1_init_15 : cX1_init.data.toList.drop 350 = dktX1_init_15 := dk_seg dksX1_init_14 23 rfl rfl
theorem dksX1_init_16 : cX1_init.data.toList.drop 373 = dktX1_init_16 := dk_seg dksX1_init_15 23 rfl rfl
theorem dksX1_init_17 : cX1_init.data.toList.drop 396 = dktX1_init_17 := dk_seg dksX1_init_16 23 rfl rfl
theorem dksX1_init_18 : cX1_init.data.toList.drop 419 = dktX1_init_18 := dk_seg dksX1_init_17 23 rfl rfl
theorem dksX1_init_19 : cX1_init.data.toList.drop 442 = dktX1_init_19 := dk_seg dksX1_init_18 23 rfl rfl
theorem dksX1_init_20 : cX1_init.data.toList.drop 465 = dktX1_init_20 := dk_seg dksX1_init_19 23 rfl rfl
theorem dX1_init_0 : decode cX1_init 0 = .ok (.aload_n 0, 1) := dk_42 (dk_at dksX1_init_0 0 rfl rfl)
theorem dX1_init_1 : decode cX1_init 1 = .ok (.invokespecial 47, 3) := dk_183 0 47 (dk_at dksX1_init_0 1 rfl rfl)
theorem dX1_init_4 : decode cX1_init 4 = .ok (.aload_n 0, 1) := dk_42 (dk_at dksX1_init_0 4 rfl rfl)
theorem dX1_init_5 : decode cX1_init 5 = .ok (.iconst 4, 1) := dk_7 (dk_at dksX1_init_0 5 rfl rfl)
theorem dX1_init_6 : decode cX1_init 6 = .ok (.newarray .long, 2) := dk_188_11 (dk_at dksX1_init_0 6 rfl rfl)
theorem dX1_init_8 : decode cX1_init 8 = .ok (.putfield 27, 3) := dk_181 0 27 (dk_at dksX1_init_0 8 rfl rfl)
theorem dX1_init_11 : decode cX1_init 11 = .ok (.aload_n 0, 1) := dk_42 (dk_at dksX1_init_0 11 rfl rfl)
theorem dX1_init_12 : decode cX1_init 12 = .ok (.iconst 4, 1) := dk_7 (dk_at dksX1_init_0 12 rfl rfl)
theorem dX1_init_13 : decode cX1_init 13 = .ok (.newarray .long, 2) := dk_188_11 (dk_at dksX1_init_0 13 rfl rfl)
theorem dX1_init_15 : decode cX1_init 15 = .ok (.putfield 30, 3) := dk_181 0 30 (dk_at dksX1_init_0 15 rfl rfl)
theorem dX1_init_18 : decode cX1_init 18 = .ok (.aload_n 0, 1) := dk_42 (dk_at dksX1_init_0 18 rfl rfl)
theorem dX1_init_19 : decode cX1_init 19 = .ok (.iconst 4, 1) := dk_7 (dk_at dksX1_init_0 19 rfl rfl)
theorem dX1_init_20 : decode cX1_init 20 = .ok (.newarray .long, 2) := dk_188_11 (dk_at dksX1_init_0 20 rfl rfl)
theorem dX1_init_22 : decode cX1_init 22 = .ok (.putfield 23, 3) := dk_181 0 23 (dk_at dksX1_init_1 0 rfl rfl)
theorem dX1_init_25 : decode cX1_init 25 = .ok (.aload_n 0, 1) := dk_42 (dk_at dksX1_init_1 3 rfl rfl)
theorem dX1_init_26 : decode cX1_init 26 = .ok (.bipush 12, 2) := dk_16 12 (dk_at dksX1_init_1 4 rfl rfl)
theorem dX1_init_28 : decode cX1_init 28 = .ok (.newarray .int, 2) := dk_188_10 (dk_at dksX1_init_1 6 rfl rfl)
theorem dX1_init_30 : decode cX1_init 30 = .ok (.putfield 40, 3) := dk_181 0 40 (dk_at dksX1_init_1 8 rfl rfl)
theorem dX1_init_33 : decode cX1_init 33 = .ok (.aload_n 0, 1) := dk_42 (dk_at dksX1_init_1 11 rfl rfl)
theorem dX1_init_34 : decode cX1_init 34 = .ok (.bipush 12, 2) := dk_16 12 (dk_at dksX1_init_1 12 rfl rfl)
theorem dX1_init_36 : decode cX1_init 36 = .ok (.newarray .int, 2) := dk_188_10 (dk_at dksX1_init_1 14 rfl rfl)
theorem dX1_init_38 : decode cX1_init 38 = .ok (.putfield 44, 3) := dk_181 0 44 (dk_at dksX1_init_1 16 rfl rfl)
theorem dX1_init_41 : decode cX1_init 41 = .ok (.aload_n 0, 1) := dk_42 (dk_at dksX1_init_1 19 rfl rfl)
theorem dX1_init_42 : decode cX1_init 42 = .ok (.bipush 116, 2) := dk_16 116 (dk_at dksX1_init_1 20 rfl rfl)
theorem dX1_init_44 : decode cX1_init 44 = .ok (.newarray .int, 2) := dk_188_10 (dk_at dksX1_init_1 22 rfl rfl)
theorem dX1_init_46 : decode cX1_init 46 = .ok (.putfield 53, 3) := dk_181 0 53 (dk_at dksX1_init_2 0 rfl rfl)
theorem dX1_init_49 : decode cX1_init 49 = .ok (.aload_n 0, 1) := dk_42 (dk_at dksX1_init_2 3 rfl rfl)
theorem dX1_init_50 : decode cX1_init 50 = .ok (.bipush 116, 2) := dk_16 116 (dk_at dksX1_init_2 4 rfl rfl)
theorem dX1_init_52 : decode cX1_init 52 = .ok (.newarray .int, 2) := dk_188_10 (dk_at dksX1_init_2 6 rfl rfl)
theorem dX1_init_54 : decode cX1_init 54 = .ok (.putfield 56, 3) := dk_181 0 56 (dk_at dksX1_init_2 8 rfl rfl)
theorem dX1_init_57 : decode cX1_init 57 = .ok (.aload_n 0, 1) := dk_42 (dk_at dksX1_init_2 11 rfl rfl)
theorem dX1_init_58 : decode cX1_init 58 = .ok (.bipush 116, 2) := dk_16 116 (dk_at dksX1_init_2 12 rfl rfl)
theorem dX1_init_60 : decode cX1_init 60 = .ok (.newarray .int, 2) := dk_188_10 (dk_at dksX1_init_2 14 rfl rfl)
theorem dX1_init_62 : decode cX1_init 62 = .ok (.putfield 59, 3) := dk_181 0 59 (dk_at dksX1_init_2 16 rfl rfl)
theorem dX1_init_65 : decode cX1_init 65 = .ok (.aload_n 0, 1) := dk_42 (dk_at dksX1_init_2 19 rfl rfl)
theorem dX1_init_66 : decode cX1_init 66 = .ok (.bipush 116, 2) := dk_16 116 (dk_at dksX1_init_2 20 rfl rfl)
theorem dX1_init_68 : decode cX1_init 68 = .ok (.newarray .int, 2) := dk_188_10 (dk_at dksX1_init_2 22 rfl rfl)
theorem dX1_init_70 : decode cX1_init 70 = .ok (.putfield 62, 3) := dk_181 0 62 (dk_at dksX1_init_3 0 rfl rfl)
theorem dX1_init_73 : decode cX1_init 73 = .ok (.aload_n 0, 1) := dk_42 (dk_at dksX1_init_3 3 rfl rfl)
theorem dX1_init_74 : decode cX1_init 74 = .ok (.bipush 116, 2) := dk_16 116 (dk_at dksX1_init_3 4 rfl rfl)
theorem dX1_init_76 : decode cX1_init 76 = .ok (.newarray .int, 2) := dk_188_10 (dk_at dksX1_init_3 6 rfl rfl)
theorem dX1_init_78 : decode cX1_init 78 = .ok (.putfield 65, 3) := dk_181 0 65 (dk_at dksX1_init_3 8 rfl rfl)
theorem dX1_init_81 : decode cX1_init 81 = .ok (.aload_n 0, 1) := dk_42 (dk_at dksX1_init_3 11 rfl rfl)
theorem dX1_init_82 : decode cX1_init 82 = .ok (.bipush 116, 2) := dk_16 116 (dk_at dksX1_init_3 12 rfl rfl)
theorem dX1_init_84 : decode cX1_init 84 = .ok (.newarray .int, 2) := dk_188_10 (dk_at dksX1_init_3 14 rfl rfl)
theorem dX1_init_86 : decode cX1_init 86 = .ok (.putfield 68, 3) := dk_181 0 68 (dk_at dksX1_init_3 16 rfl rfl)
theorem dX1_init_89 : decode cX1_init 89 = .ok (.aload_n 0, 1) := dk_42 (dk_at dksX1_init_3 19 rfl rfl)
theorem dX1_init_90 : decode cX1_init 90 = .ok (.sipush 1044, 3) := dk_17 4 20 (dk_at dksX1_init_3 20 rfl rfl)
theorem dX1_init_93 : decode cX1_init 93 = .ok (.newarray .int, 2) := dk_188_10 (dk_at dksX1_init_4 0 rfl rfl)
theorem dX1_init_95 : decode cX1_init 95 = .ok (.putfield 71, 3) := dk_181 0 71 (dk_at dksX1_init_4 2 rfl rfl)
theorem dX1_init_98 : decode cX1_init 98 = .ok (.aload_n 0, 1) := dk_42 (dk_at dksX1_init_4 5 rfl rfl)
theorem dX1_init_99 : decode cX1_init 99 = .ok (.sipush 1044, 3) := dk_17 4 20 (dk_at dksX1_init_4 6 rfl rfl)
theorem dX1_init_102 : decode cX1_init 102 = .ok (.newarray .int, 2) := dk_188_10 (dk_at dksX1_init_4 9 rfl rfl)
theorem dX1_init_104 : decode cX1_init 104 = .ok (.putfield 74, 3) := dk_181 0 74 (dk_at dksX1_init_4 11 rfl rfl)
theorem dX1_init_107 : decode cX1_init 107 = .ok (.aload_n 0, 1) := dk_42 (dk_at dksX1_init_4 14 rfl rfl)
theorem dX1_init_108 : decode cX1_init 108 = .ok (.sipush 1044, 3) := dk_17 4 20 (dk_at dksX1_init_4 15 rfl rfl)
theorem dX1_init_111 : decode cX1_init 111 = .ok (.newarray .int, 2) := dk_188_10 (dk_at dksX1_init_4 18 rfl rfl)
theorem dX1_init_113 : decode cX1_init 113 = .ok (.putfield 77, 3) := dk_181 0 77 (dk_at dksX1_init_4 20 rfl rfl)
theorem dX1_init_116 : decode cX1_init 116 = .ok (.aload_n 0, 1) := dk_42 (dk_at dksX1_init_4 23 rfl rfl)
theorem dX1_init_117 : decode cX1_init 117 = .ok (.sipush 1044, 3) := dk_17 4 20 (dk_at dksX1_init_5 0 rfl rfl)
theorem dX1_init_120 : decode cX1_init 120 = .ok (.newarray .int, 2) := dk_188_10 (dk_at dksX1_init_5 3 rfl rfl)
theorem dX1_init_122 : decode cX1_init 122 = .ok (.putfield 80, 3) := dk_181 0 80 (dk_at dksX1_init_5 5 rfl rfl)
theorem dX1_init_125 : decode cX1_init 125 = .ok (.aload_n 0, 1) := dk_42 (dk_at dksX1_init_5 8 rfl rfl)
theorem dX1_init_126 : decode cX1_init 126 = .ok (.sipush 1044, 3) := dk_17 4 20 (dk_at dksX1_init_5 9 rfl rfl)
theorem dX1_init_129 : decode cX1_init 129 = .ok (.newarray .int, 2) := dk_188_10 (dk_at dksX1_init_5 12 rfl rfl)
theorem dX1_init_131 : decode cX1_init 131 = .ok (.putfield 83, 3) := dk_181 0 83 (dk_at dksX1_init_5 14 rfl rfl)
theorem dX1_init_134 : decode cX1_init 134 = .ok (.aload_n 0, 1) := dk_42 (dk_at dksX1_init_5 17 rfl rfl)
theorem dX1_init_135 : decode cX1_init 135 = .ok (.bipush 60, 2) := dk_16 60 (dk_at dksX1_init_5 18 rfl rfl)
theorem dX1_init_137 : decode cX1_init 137 = .ok (.newarray .boolean, 2) := dk_188_4 (dk_at dksX1_init_5 20 rfl rfl)
theorem dX1_init_139 : decode cX1_init 139 = .ok (.putfield 86, 3) := dk_181 0 86 (dk_at dksX1_init_6 0 rfl rfl)
theorem dX1_init_142 : decode cX1_init 142 = .ok (.aload_n 0, 1) := dk_42 (dk_at dksX1_init_6 3 rfl rfl)
theorem dX1_init_143 : decode cX1_init 143 = .ok (.bipush 60, 2) := dk_16 60 (dk_at dksX1_init_6 4 rfl rfl)
theorem dX1_init_145 : decode cX1_init 145 = .ok (.newarray .int, 2) := dk_188_10 (dk_at dksX1_init_6 6 rfl rfl)
theorem dX1_init_147 : decode cX1_init 147 = .ok (.putfield 90, 3) := dk_181 0 90 (dk_at dksX1_init_6 8 rfl rfl)
theorem dX1_init_150 : decode cX1_init 150 = .ok (.aload_n 0, 1) := dk_42 (dk_at dksX1_init_6 11 rfl rfl)
theorem dX1_init_151 : decode cX1_init 151 = .ok (.bipush 70, 2) := dk_16 70 (dk_at dksX1_init_6 12 rfl rfl)
theorem dX1_init_153 : decode cX1_init 153 = .ok (.newarray .int, 2) := dk_188_10 (dk_at dksX1_init_6 14 rfl rfl)
theorem dX1_init_155 : decode cX1_init 155 = .ok (.putfield 93, 3) := dk_181 0 93 (dk_at dksX1_init_6 16 rfl rfl)
theorem dX1_init_158 : decode cX1_init 158 = .ok (.aload_n 0, 1) := dk_42 (dk_at dksX1_init_6 19 rfl rfl)
theorem dX1_init_159 : decode cX1_init 159 = .ok (.bipush 70, 2) := dk_16 70 (dk_at dksX1_init_6 20 rfl rfl)
theorem dX1_init_161 : decode cX1_init 161 = .ok (.newarray .int, 2) := dk_188_10 (dk_at dksX1_init_6 22 rfl rfl)
theorem dX1_init_163 : decode cX1_init 163 = .ok (.putfield 96, 3) := dk_181 0 96 (dk_at dksX1_init_7 0 rfl rfl)
theorem dX1_init_166 : decode cX1_init 166 = .ok (.aload_n 0, 1) := dk_42 (dk_at dksX1_init_7 3 rfl rfl)
theorem dX1_init_167 : decode cX1_init 167 = .ok (.sipush 400, 3) := dk_17 1 144 (dk_at dksX1_init_7 4 rfl rfl)
theorem dX1_init_170 : decode cX1_init 170 = .ok (.newarray .int, 2) := dk_188_10 (dk_at dksX1_init_7 7 rfl rfl)
theorem dX1_init_172 : decode cX1_init 172 = .ok (.putfield 99, 3) := dk_181 0 99 (dk_at dksX1_init_7 9 rfl rfl)
theorem dX1_init_175 : decode cX1_init 175 = .ok (.aload_n 0, 1) := dk_42 (dk_at dksX1_init_7 12 rfl rfl)
theorem dX1_init_176 : decode cX1_init 176 = .ok (.bipush 49, 2) := dk_16 49 (dk_at dksX1_init_7 13 rfl rfl)
theorem dX1_init_178 : decode cX1_init 178 = .ok (.newarray .byte, 2) := dk_188_8 (dk_at dksX1_init_7 15 rfl rfl)
theorem dX1_init_180 : decode cX1_init 180 = .ok (.dup, 1) := dk_89 (dk_at dksX1_init_7 17 rfl rfl)
theorem dX1_init_181 : decode cX1_init 181 = .ok (.iconst 0, 1) := dk_3 (dk_at dksX1_init_7 18 rfl rfl)
theorem dX1_init_182 : decode cX1_init 182 = .ok (.bipush 115, 2) := dk_16 115 (dk_at dksX1_init_7 19 rfl rfl)
theorem dX1_init_184 : decode cX1_init 184 = .ok (.bastore, 1) := dk_84 (dk_at dksX1_init_7 21 rfl rfl)
theorem dX1_init_185 : decode cX1_init 185 = .ok (.dup, 1) := dk_89 (dk_at dksX1_init_7 22 rfl rfl)
theorem dX1_init_186 : decode cX1_init 186 = .ok (.iconst 1, 1) := dk_4 (dk_at dksX1_init_7 23 rfl rfl)
theorem dX1_init_187 : decode cX1_init 187 = .ok (.bipush 109, 2) := dk_16 109 (dk_at dksX1_init_8 0 rfl rfl)
theorem dX1_init_189 : decode cX1_init 189 = .ok (.bastore, 1) := dk_84 (dk_at dksX1_init_8 2 rfl rfl)
theorem dX1_init_190 : decode cX1_init 190 = .ok (.dup, 1) := dk_89 (dk_at dksX1_init_8 3 rfl rfl)
theorem dX1_init_191 : decode cX1_init 191 = .ok (.iconst 2, 1) := dk_5 (dk_at dksX1_init_8 4 rfl rfl)
theorem dX1_init_192 : decode cX1_init 192 = .ok (.bipush 97, 2) := dk_16 97 (dk_at dksX1_init_8 5 rfl rfl)
theorem dX1_init_194 : decode cX1_init 194 = .ok (.bastore, 1) := dk_84 (dk_at dksX1_init_8 7 rfl rfl)
theorem dX1_init_195 : decode cX1_init 195 = .ok (.dup, 1) := dk_89 (dk_at dksX1_init_8 8 rfl rfl)
theorem dX1_init_196 : decode cX1_init 196 = .ok (.iconst 3, 1) := dk_6 (dk_at dksX1_init_8 9 rfl rfl)
theorem dX1_init_197 : decode cX1_init 197 = .ok (.bipush 108, 2) := dk_16 108 (dk_at dksX1_init_8 10 rfl rfl)
theorem dX1_init_199 : decode cX1_init 199 = .ok (.bastore, 1) := dk_84 (dk_at dksX1_init_8 12 rfl rfl)
theorem dX1_init_200 : decode cX1_init 200 = .ok (.dup, 1) := dk_89 (dk_at dksX1_init_8 13 rfl rfl)
theorem dX1_init_201 : decode cX1_init 201 = .ok (.iconst 4, 1) := dk_7 (dk_at dksX1_init_8 14 rfl rfl)
theorem dX1_init_202 : decode cX1_init 202 = .ok (.bipush 108, 2) := dk_16 108 (dk_at dksX1_init_8 15 rfl rfl)
theorem dX1_init_204 : decode cX1_init 204 = .ok (.bastore, 1) := dk_84 (dk_at dksX1_init_8 17 rfl rfl)
theorem dX1_init_205 : decode cX1_init 205 = .ok (.dup, 1) := dk_89 (dk_at dksX1_init_8 18 rfl rfl)
theorem dX1_init_206 : decode cX1_init 206 = .ok (.iconst 5, 1) := dk_8 (dk_at dksX1_init_8 19 rfl rfl)
theorem dX1_init_207 : decode cX1_init 207 = .ok (.iconst 0, 1) := dk_3 (dk_at dksX1_init_8 20 rfl rfl)
theorem dX1_init_208 : decode cX1_init 208 = .ok (.bastore, 1) := dk_84 (dk_at dksX1_init_8 21 rfl rfl)
theorem dX1_init_209 : decode cX1_init 209 = .ok (.dup, 1) := dk_89 (dk_at dksX1_init_8 22 rfl rfl)
theorem dX1_init_210 : decode cX1_init 210 = .ok (.bipush 6, 2) := dk_16 6 (dk_at dksX1_init_9 0 rfl rfl)
theorem dX1_init_212 : decode cX1_init 212 = .ok (.bipush 112, 2) := dk_16 112 (dk_at dksX1_init_9 2 rfl rfl)
theorem dX1_init_214 : decode cX1_init 214 = .ok (.bastore, 1) := dk_84 (dk_at dksX1_init_9 4 rfl rfl)
theorem dX1_init_215 : decode cX1_init 215 = .ok (.dup, 1) := dk_89 (dk_at dksX1_init_9 5 rfl rfl)
theorem dX1_init_216 : decode cX1_init 216 = .ok (.bipush 7, 2) := dk_16 7 (dk_at dksX1_init_9 6 rfl rfl)
theorem dX1_init_218 : decode cX1_init 218 = .ok (.bipush 114, 2) := dk_16 114 (dk_at dksX1_init_9 8 rfl rfl)
theorem dX1_init_220 : decode cX1_init 220 = .ok (.bastore, 1) := dk_84 (dk_at dksX1_init_9 10 rfl rfl)
theorem dX1_init_221 : decode cX1_init 221 = .ok (.dup, 1) := dk_89 (dk_at dksX1_init_9 11 rfl rfl)
theorem dX1_init_222 : decode cX1_init 222 = .ok (.bipush 8, 2) := dk_16 8 (dk_at dksX1_init_9 12 rfl rfl)
theorem dX1_init_224 : decode cX1_init 224 = .ok (.bipush 97, 2) := dk_16 97 (dk_at dksX1_init_9 14 rfl rfl)
theorem dX1_init_226 : decode cX1_init 226 = .ok (.bastore, 1) := dk_84 (dk_at dksX1_init_9 16 rfl rfl)
theorem dX1_init_227 : decode cX1_init 227 = .ok (.dup, 1) := dk_89 (dk_at dksX1_init_9 17 rfl rfl)
theorem dX1_init_228 : decode cX1_init 228 = .ok (.bipush 9, 2) := dk_16 9 (dk_at dksX1_init_9 18 rfl rfl)
theorem dX1_init_230 : decode cX1_init 230 = .ok (.bipush 116, 2) := dk_16 116 (dk_at dksX1_init_9 20 rfl rfl)
theorem dX1_init_232 : decode cX1_init 232 = .ok (.bastore, 1) := dk_84 (dk_at dksX1_init_9 22 rfl rfl)
theorem dX1_init_233 : decode cX1_init 233 = .ok (.dup, 1) := dk_89 (dk_at dksX1_init_9 23 rfl rfl)
theorem dX1_init_234 : decode cX1_init 234 = .ok (.bipush 10, 2) := dk_16 10 (dk_at dksX1_init_10 0 rfl rfl)
theorem dX1_init_236 : decode cX1_init 236 = .ok (.bipush 116, 2) := dk_16 116 (dk_at dksX1_init_10 2 rfl rfl)
theorem dX1_init_238 : decode cX1_init 238 = .ok (.bastore, 1) := dk_84 (dk_at dksX1_init_10 4 rfl rfl)
theorem dX1_init_239 : decode cX1_init 239 = .ok (.dup, 1) := dk_89 (dk_at dksX1_init_10 5 rfl rfl)
theorem dX1_init_240 : decode cX1_init 240 = .ok (.bipush 11, 2) := dk_16 11 (dk_at dksX1_init_10 6 rfl rfl)
theorem dX1_init_242 : decode cX1_init 242 = .ok (.iconst 0, 1) := dk_3 (dk_at dksX1_init_10 8 rfl rfl)
theorem dX1_init_243 : decode cX1_init 243 = .ok (.bastore, 1) := dk_84 (dk_at dksX1_init_10 9 rfl rfl)
theorem dX1_init_244 : decode cX1_init 244 = .ok (.dup, 1) := dk_89 (dk_at dksX1_init_10 10 rfl rfl)
theorem dX1_init_245 : decode cX1_init 245 = .ok (.bipush 12, 2) := dk_16 12 (dk_at dksX1_init_10 11 rfl rfl)
theorem dX1_init_247 : decode cX1_init 247 = .ok (.bipush 112, 2) := dk_16 112 (dk_at dksX1_init_10 13 rfl rfl)
theorem dX1_init_249 : decode cX1_init 249 = .ok (.bastore, 1) := dk_84 (dk_at dksX1_init_10 15 rfl rfl)
theorem dX1_init_250 : decode cX1_init 250 = .ok (.dup, 1) := dk_89 (dk_at dksX1_init_10 16 rfl rfl)
theorem dX1_init_251 : decode cX1_init 251 = .ok (.bipush 13, 2) := dk_16 13 (dk_at dksX1_init_10 17 rfl rfl)
theorem dX1_init_253 : decode cX1_init 253 = .ok (.bipush 97, 2) := dk_16 97 (dk_at dksX1_init_10 19 rfl rfl)
theorem dX1_init_255 : decode cX1_init 255 = .ok (.bastore, 1) := dk_84 (dk_at dksX1_init_10 21 rfl rfl)
theorem dX1_init_256 : decode cX1_init 256 = .ok (.dup, 1) := dk_89 (dk_at dksX1_init_10 22 rfl rfl)
theorem dX1_init_257 : decode cX1_init 257 = .ok (.bipush 14, 2) := dk_16 14 (dk_at dksX1_init_11 0 rfl rfl)
theorem dX1_init_259 : decode cX1_init 259 = .ok (.bipush 114, 2) := dk_16 114 (dk_at dksX1_init_11 2 rfl rfl)
theorem dX1_init_261 : decode cX1_init 261 = .ok (.bastore, 1) := dk_84 (dk_at dksX1_init_11 4 rfl rfl)
theorem dX1_init_262 : decode cX1_init 262 = .ok (.dup, 1) := dk_89 (dk_at dksX1_init_11 5 rfl rfl)
theorem dX1_init_263 : decode cX1_init 263 = .ok (.bipush 15, 2) := dk_16 15 (dk_at dksX1_init_11 6 rfl rfl)
theorem dX1_init_265 : decode cX1_init 265 = .ok (.bipush 116, 2) := dk_16 116 (dk_at dksX1_init_11 8 rfl rfl)
theorem dX1_init_267 : decode cX1_init 267 = .ok (.bastore, 1) := dk_84 (dk_at dksX1_init_11 10 rfl rfl)
theorem dX1_init_268 : decode cX1_init 268 = .ok (.dup, 1) := dk_89 (dk_at dksX1_init_11 11 rfl rfl)
theorem dX1_init_269 : decode cX1_init 269 = .ok (.bipush 16, 2) := dk_16 16 (dk_at dksX1_init_11 12 rfl rfl)
theorem dX1_init_271 : decode cX1_init 271 = .ok (.iconst 0, 1) := dk_3 (dk_at dksX1_init_11 14 rfl rfl)
theorem dX1_init_272 : decode cX1_init 272 = .ok (.bastore, 1) := dk_84 (dk_at dksX1_init_11 15 rfl rfl)
theorem dX1_init_273 : decode cX1_init 273 = .ok (.dup, 1) := dk_89 (dk_at dksX1_init_11 16 rfl rfl)
theorem dX1_init_274 : decode cX1_init 274 = .ok (.bipush 17, 2) := dk_16 17 (dk_at dksX1_init_11 17 rfl rfl)
theorem dX1_init_276 : decode cX1_init 276 = .ok (.bipush 108, 2) := dk_16 108 (dk_at dksX1_init_11 19 rfl rfl)
theorem dX1_init_278 : decode cX1_init 278 = .ok (.bastore, 1) := dk_84 (dk_at dksX1_init_11 21 rfl rfl)
theorem dX1_init_279 : decode cX1_init 279 = .ok (.dup, 1) := dk_89 (dk_at dksX1_init_11 22 rfl rfl)
theorem dX1_init_280 : decode cX1_init 280 = .ok (.bipush 18, 2) := dk_16 18 (dk_at dksX1_init_12 0 rfl rfl)
theorem dX1_init_282 : decode cX1_init 282 = .ok (.bipush 117, 2) := dk_16 117 (dk_at dksX1_init_12 2 rfl rfl)
theorem dX1_init_284 : decode cX1_init 284 = .ok (.bastore, 1) := dk_84 (dk_at dksX1_init_12 4 rfl rfl)
theorem dX1_init_285 : decode cX1_init 285 = .ok (.dup, 1) := dk_89 (dk_at dksX1_init_12 5 rfl rfl)
theorem dX1_init_286 : decode cX1_init 286 = .ok (.bipush 19, 2) := dk_16 19 (dk_at dksX1_init_12 6 rfl rfl)
theorem dX1_init_288 : decode cX1_init 288 = .ok (.bipush 99, 2) := dk_16 99 (dk_at dksX1_init_12 8 rfl rfl)
theorem dX1_init_290 : decode cX1_init 290 = .ok (.bastore, 1) := dk_84 (dk_at dksX1_init_12 10 rfl rfl)
theorem dX1_init_291 : decode cX1_init 291 = .ok (.dup, 1) := dk_89 (dk_at dksX1_init_12 11 rfl rfl)
theorem dX1_init_292 : decode cX1_init 292 = .ok (.bipush 20, 2) := dk_16 20 (dk_at dksX1_init_12 12 rfl rfl)
theorem dX1_init_294 : decode cX1_init 294 = .ok (.bipush 97, 2) := dk_16 97 (dk_at dksX1_init_12 14 rfl rfl)
theorem dX1_init_296 : decode cX1_init 296 = .ok (.bastore, 1) := dk_84 (dk_at dksX1_init_12 16 rfl rfl)
theorem dX1_init_297 : decode cX1_init 297 = .ok (.dup, 1) := dk_89 (dk_at dksX1_init_12 17 rfl rfl)
theorem dX1_init_298 : decode cX1_init 298 = .ok (.bipush 21, 2) := dk_16 21 (dk_at dksX1_init_12 18 rfl rfl)
theorem dX1_init_300 : decode cX1_init 300 = .ok (.bipush 115, 2) := dk_16 115 (dk_at dksX1_init_12 20 rfl rfl)
theorem dX1_init_302 : decode cX1_init 302 = .ok (.bastore, 1) := dk_84 (dk_at dksX1_init_12 22 rfl rfl)
theorem dX1_init_303 : decode cX1_init 303 = .ok (.dup, 1) := dk_89 (dk_at dksX1_init_12 23 rfl rfl)
theorem dX1_init_304 : decode cX1_init 304 = .ok (.bipush 22, 2) := dk_16 22 (dk_at dksX1_init_13 0 rfl rfl)
theorem dX1_init_306 : decode cX1_init 306 = .ok (.iconst 0, 1) := dk_3 (dk_at dksX1_init_13 2 rfl rfl)
theorem dX1_init_307 : decode cX1_init 307 = .ok (.bastore, 1) := dk_84 (dk_at dksX1_init_13 3 rfl rfl)
theorem dX1_init_308 : decode cX1_init 308 = .ok (.dup, 1) := dk_89 (dk_at dksX1_init_13 4 rfl rfl)
theorem dX1_init_309 : decode cX1_init 309 = .ok (.bipush 23, 2) := dk_16 23 (dk_at dksX1_init_13 5 rfl rfl)
theorem dX1_init_311 : decode cX1_init 311 = .ok (.bipush 98, 2) := dk_16 98 (dk_at dksX1_init_13 7 rfl rfl)
theorem dX1_init_313 : decode cX1_init 313 = .ok (.bastore, 1) := dk_84 (dk_at dksX1_init_13 9 rfl rfl)
theorem dX1_init_314 : decode cX1_init 314 = .ok (.dup, 1) := dk_89 (dk_at dksX1_init_13 10 rfl rfl)
theorem dX1_init_315 : decode cX1_init 315 = .ok (.bipush 24, 2) := dk_16 24 (dk_at dksX1_init_13 11 rfl rfl)
theorem dX1_init_317 : decode cX1_init 317 = .ok (.bipush 111, 2) := dk_16 111 (dk_at dksX1_init_13 13 rfl rfl)
theorem dX1_init_319 : decode cX1_init 319 = .ok (.bastore, 1) := dk_84 (dk_at dksX1_init_13 15 rfl rfl)
theorem dX1_init_320 : decode cX1_init 320 = .ok (.dup, 1) := dk_89 (dk_at dksX1_init_13 16 rfl rfl)
theorem dX1_init_321 : decode cX1_init 321 = .ok (.bipush 25, 2) := dk_16 25 (dk_at dksX1_init_13 17 rfl rfl)
theorem dX1_init_323 : decode cX1_init 323 = .ok (.bipush 116, 2) := dk_16 116 (dk_at dksX1_init_13 19 rfl rfl)
theorem dX1_init_325 : decode cX1_init 325 = .ok (.bastore, 1) := dk_84 (dk_at dksX1_init_13 21 rfl rfl)
theorem dX1_init_326 : decode cX1_init 326 = .ok (.dup, 1) := dk_89 (dk_at dksX1_init_13 22 rfl rfl)
theorem dX1_init_327 : decode cX1_init 327 = .ok (.bipush 26, 2) := dk_16 26 (dk_at dksX1_init_14 0 rfl rfl)
theorem dX1_init_329 : decode cX1_init 329 = .ok (.bipush 104, 2) := dk_16 104 (dk_at dksX1_init_14 2 rfl rfl)
theorem dX1_init_331 : decode cX1_init 331 = .ok (.bastore, 1) := dk_84 (dk_at dksX1_init_14 4 rfl rfl)
theorem dX1_init_332 : decode cX1_init 332 = .ok (.dup, 1) := dk_89 (dk_at dksX1_init_14 5 rfl rfl)
theorem dX1_init_333 : decode cX1_init 333 = .ok (.bipush 27, 2) := dk_16 27 (dk_at dksX1_init_14 6 rfl rfl)
theorem dX1_init_335 : decode cX1_init 335 = .ok (.iconst 0, 1) := dk_3 (dk_at dksX1_init_14 8 rfl rfl)
theorem dX1_init_336 : decode cX1_init 336 = .ok (.bastore, 1) := dk_84 (dk_at dksX1_init_14 9 rfl rfl)
theorem dX1_init_337 : decode cX1_init 337 = .ok (.dup, 1) := dk_89 (dk_at dksX1_init_14 10 rfl rfl)
theorem dX1_init_338 : decode cX1_init 338 = .ok (.bipush 28, 2) := dk_16 28 (dk_at dksX1_init_14 11 rfl rfl)
theorem dX1_init_340 : decode cX1_init 340 = .ok (.bipush 98, 2) := dk_16 98 (dk_at dksX1_init_14 13 rfl rfl)
theorem dX1_init_342 : decode cX1_init 342 = .ok (.bastore, 1) := dk_84 (dk_at dksX1_init_14 15 rfl rfl)
theorem dX1_init_343 : decode cX1_init 343 = .ok (.dup, 1) := dk_89 (dk_at dksX1_init_14 16 rfl rfl)
theorem dX1_init_344 : decode cX1_init 344 = .ok (.bipush 29, 2) := dk_16 29 (dk_at dksX1_init_14 17 rfl rfl)
theorem dX1_init_346 : decode cX1_init 346 = .ok (.bipush 97, 2) := dk_16 97 (dk_at dksX1_init_14 19 rfl rfl)
theorem dX1_init_348 : decode cX1_init 348 = .ok (.bastore, 1) := dk_84 (dk_at dksX1_init_14 21 rfl rfl)
theorem dX1_init_349 : decode cX1_init 349 = .ok (.dup, 1) := dk_89 (dk_at dksX1_init_14 22 rfl rfl)
theorem dX1_init_350 : decode cX1_init 350 = .ok (.bipush 30, 2) := dk_16 30 (dk_at dksX1_init_15 0 rfl rfl)
theorem dX1_init_352 : decode cX1_init 352 = .ok (.bipush 115, 2) := dk_16 115 (dk_at dksX1_init_15 2 rfl rfl)
theorem dX1_init_354 : decode cX1_init 354 = .ok (.bastore, 1) := dk_84 (dk_at dksX1_init_15 4 rfl rfl)
theorem dX1_init_355 : decode cX1_init 355 = .ok (.dup, 1) := dk_89 (dk_at dksX1_init_15 5 rfl rfl)
theorem dX1_init_356 : decode cX1_init 356 = .ok (.bipush 31, 2) := dk_16 31 (dk_at dksX1_init_15 6 rfl rfl)
theorem dX1_init_358 : decode cX1_init 358 = .ok (.bipush 101, 2) := dk_16 101 (dk_at dksX1_init_15 8 rfl rfl)
theorem dX1_init_360 : decode cX1_init 360 = .ok (.bastore, 1) := dk_84 (dk_at dksX1_init_15 10 rfl rfl)
theorem dX1_init_361 : decode cX1_init 361 = .ok (.dup, 1) := dk_89 (dk_at dksX1_init_15 11 rfl rfl)
theorem dX1_init_362 : decode cX1_init 362 = .ok (.bipush 32, 2) := dk_16 32 (dk_at dksX1_init_15 12 rfl rfl)
theorem dX1_init_364 : decode cX1_init 364 = .ok (.iconst 0, 1) := dk_3 (dk_at dksX1_init_15 14 rfl rfl)
theorem dX1_init_365 : decode cX1_init 365 = .ok (.bastore, 1) := dk_84 (dk_at dksX1_init_15 15 rfl rfl)
theorem dX1_init_366 : decode cX1_init 366 = .ok (.dup, 1) := dk_89 (dk_at dksX1_init_15 16 rfl rfl)
theorem dX1_init_367 : decode cX1_init 367 = .ok (.bipush 33, 2) := dk_16 33 (dk_at dksX1_init_15 17 rfl rfl)
theorem dX1_init_369 : decode cX1_init 369 = .ok (.bipush 98, 2) := dk_16 98 (dk_at dksX1_init_15 19 rfl rfl)
theorem dX1_init_371 : decode cX1_init 371 = .ok (.bastore, 1) := dk_84 (dk_at dksX1_init_15 21 rfl rfl)
theorem dX1_init_372 : decode cX1_init 372 = .ok (.dup, 1) := dk_89 (dk_at dksX1_init_15 22 rfl rfl)
theorem dX1_init_373 : decode cX1_init 373 = .ok (.bipush 34, 2) := dk_16 34 (dk_at dksX1_init_16 0 rfl rfl)
theorem dX1_init_375 : decode cX1_init 375 = .ok (.bipush 121, 2) := dk_16 121 (dk_at dksX1_init_16 2 rfl rfl)
theorem dX1_init_377 : decode cX1_init 377 = .ok (.bastore, 1) := dk_84 (dk_at dksX1_init_16 4 rfl rfl)
theorem dX1_init_378 : decode cX1_init 378 = .ok (.dup, 1) := dk_89 (dk_at dksX1_init_16 5 rfl rfl)
theorem dX1_init_379 : decode cX1_init 379 = .ok (.bipush 35, 2) := dk_16 35 (dk_at dksX1_init_16 6 rfl rfl)
theorem dX1_init_381 : decode cX1_init 381 = .ok (.iconst 0, 1) := dk_3 (dk_at dksX1_init_16 8 rfl rfl)
theorem dX1_init_382 : decode cX1_init 382 = .ok (.bastore, 1) := dk_84 (dk_at dksX1_init_16 9 rfl rfl)
theorem dX1_init_383 : decode cX1_init 383 = .ok (.dup, 1) := dk_89 (dk_at dksX1_init_16 10 rfl rfl)
theorem dX1_init_384 : decode cX1_init 384 = .ok (.bipush 36, 2) := dk_16 36 (dk_at dksX1_init_16 11 rfl rfl)
theorem dX1_init_386 : decode cX1_init 386 = .ok (.bipush 119, 2) := dk_16 119 (dk_at dksX1_init_16 13 rfl rfl)
theorem dX1_init_388 : decode cX1_init 388 = .ok (.bastore, 1) := dk_84 (dk_at dksX1_init_16 15 rfl rfl)
theorem dX1_init_389 : decode cX1_init 389 = .ok (.dup, 1) := dk_89 (dk_at dksX1_init_16 16 rfl rfl)
theorem dX1_init_390 : decode cX1_init 390 = .ok (.bipush 37, 2) := dk_16 37 (dk_at dksX1_init_16 17 rfl rfl)
theorem dX1_init_392 : decode cX1_init 392 = .ok (.bipush 105, 2) := dk_16 105 (dk_at dksX1_init_16 19 rfl rfl)
theorem dX1_init_394 : decode cX1_init 394 = .ok (.bastore, 1) := dk_84 (dk_at dksX1_init_16 21 rfl rfl)
theorem dX1_init_395 : decode cX1_init 395 = .ok (.dup, 1) := dk_89 (dk_at dksX1_init_16 22 rfl rfl)
theorem dX1_init_396 : decode cX1_init 396 = .ok (.bipush 38, 2) := dk_16 38 (dk_at dksX1_init_17 0 rfl rfl)
theorem dX1_init_398 : decode cX1_init 398 = .ok (.bipush 116, 2) := dk_16 116 (dk_at dksX1_init_17 2 rfl rfl)
theorem dX1_init_400 : decode cX1_init 400 = .ok (.bastore, 1) := dk_84 (dk_at dksX1_init_17 4 rfl rfl)
theorem dX1_init_401 : decode cX1_init 401 = .ok (.dup, 1) := dk_89 (dk_at dksX1_init_17 5 rfl rfl)
theorem dX1_init_402 : decode cX1_init 402 = .ok (.bipush 39, 2) := dk_16 39 (dk_at dksX1_init_17 6 rfl rfl)
theorem dX1_init_404 : decode cX1_init 404 = .ok (.bipush 104, 2) := dk_16 104 (dk_at dksX1_init_17 8 rfl rfl)
theorem dX1_init_406 : decode cX1_init 406 = .ok (.bastore, 1) := dk_84 (dk_at dksX1_init_17 10 rfl rfl)
theorem dX1_init_407 : decode cX1_init 407 = .ok (.dup, 1) := dk_89 (dk_at dksX1_init_17 11 rfl rfl)
theorem dX1_init_408 : decode cX1_init 408 = .ok (.bipush 40, 2) := dk_16 40 (dk_at dksX1_init_17 12 rfl rfl)
theorem dX1_init_410 : decode cX1_init 410 = .ok (.iconst 0, 1) := dk_3 (dk_at dksX1_init_17 14 rfl rfl)
theorem dX1_init_411 : decode cX1_init 411 = .ok (.bastore, 1) := dk_84 (dk_at dksX1_init_17 15 rfl rfl)
theorem dX1_init_412 : decode cX1_init 412 = .ok (.dup, 1) := dk_89 (dk_at dksX1_init_17 16 rfl rfl)
theorem dX1_init_413 : decode cX1_init 413 = .ok (.bipush 41, 2) := dk_16 41 (dk_at dksX1_init_17 17 rfl rfl)
theorem dX1_init_415 : decode cX1_init 415 = .ok (.bipush 100, 2) := dk_16 100 (dk_at dksX1_init_17 19 rfl rfl)
theorem dX1_init_417 : decode cX1_init 417 = .ok (.bastore, 1) := dk_84 (dk_at dksX1_init_17 21 rfl rfl)
theorem dX1_init_418 : decode cX1_init 418 = .ok (.dup, 1) := dk_89 (dk_at dksX1_init_17 22 rfl rfl)
theorem dX1_init_419 : decode cX1_init 419 = .ok (.bipush 42, 2) := dk_16 42 (dk_at dksX1_init_18 0 rfl rfl)
theorem dX1_init_421 : decode cX1_init 421 = .ok (.bipush 111, 2) := dk_16 111 (dk_at dksX1_init_18 2 rfl rfl)
theorem dX1_init_423 : decode cX1_init 423 = .ok (.bastore, 1) := dk_84 (dk_at dksX1_init_18 4 rfl rfl)
theorem dX1_init_424 : decode cX1_init 424 = .ok (.dup, 1) := dk_89 (dk_at dksX1_init_18 5 rfl rfl)
theorem dX1_init_425 : decode cX1_init 425 = .ok (.bipush 43, 2) := dk_16 43 (dk_at dksX1_init_18 6 rfl rfl)
theorem dX1_init_427 : decode cX1_init 427 = .ok (.bipush 119, 2) := dk_16 119 (dk_at dksX1_init_18 8 rfl rfl)
theorem dX1_init_429 : decode cX1_init 429 = .ok (.bastore, 1) := dk_84 (dk_at dksX1_init_18 10 rfl rfl)
theorem dX1_init_430 : decode cX1_init 430 = .ok (.dup, 1) := dk_89 (dk_at dksX1_init_18 11 rfl rfl)
theorem dX1_init_431 : decode cX1_init 431 = .ok (.bipush 44, 2) := dk_16 44 (dk_at dksX1_init_18 12 rfl rfl)
theorem dX1_init_433 : decode cX1_init 433 = .ok (.bipush 110, 2) := dk_16 110 (dk_at dksX1_init_18 14 rfl rfl)
theorem dX1_init_435 : decode cX1_init 435 = .ok (.bastore, 1) := dk_84 (dk_at dksX1_init_18 16 rfl rfl)
theorem dX1_init_436 : decode cX1_init 436 = .ok (.dup, 1) := dk_89 (dk_at dksX1_init_18 17 rfl rfl)
theorem dX1_init_437 : decode cX1_init 437 = .ok (.bipush 45, 2) := dk_16 45 (dk_at dksX1_init_18 18 rfl rfl)
theorem dX1_init_439 : decode cX1_init 439 = .ok (.iconst 0, 1) := dk_3 (dk_at dksX1_init_18 20 rfl rfl)
theorem dX1_init_440 : decode cX1_init 440 = .ok (.bastore, 1) := dk_84 (dk_at dksX1_init_18 21 rfl rfl)
theorem dX1_init_441 : decode cX1_init 441 = .ok (.dup, 1) := dk_89 (dk_at dksX1_init_18 22 rfl rfl)
theorem dX1_init_442 : decode cX1_init 442 = .ok (.bipush 46, 2) := dk_16 46 (dk_at dksX1_init_19 0 rfl rfl)
theorem dX1_init_444 : decode cX1_init 444 = .ok (.bipush 117, 2) := dk_16 117 (dk_at dksX1_init_19 2 rfl rfl)
theorem dX1_init_446 : decode cX1_init 446 = .ok (.bastore, 1) := dk_84 (dk_at dksX1_init_19 4 rfl rfl)
theorem dX1_init_447 : decode cX1_init 447 = .ok (.dup, 1) := dk_89 (dk_at dksX1_init_19 5 rfl rfl)
theorem dX1_init_448 : decode cX1_init 448 = .ok (.bipush 47, 2) := dk_16 47 (dk_at dksX1_init_19 6 rfl rfl)
theorem dX1_init_450 : decode cX1_init 450 = .ok (.bipush 112, 2) := dk_16 112 (dk_at dksX1_init_19 8 rfl rfl)
theorem dX1_init_452 : decode cX1_init 452 = .ok (.bastore, 1) := dk_84 (dk_at dksX1_init_19 10 rfl rfl)
theorem dX1_init_453 : decode cX1_init 453 = .ok (.dup, 1) := dk_89 (dk_at dksX1_init_19 11 rfl rfl)
theorem dX1_init_454 : decode cX1_init 454 = .ok (.bipush 48, 2) := dk_16 48 (dk_at dksX1_init_19 12 rfl rfl)
theorem dX1_init_456 : decode cX1_init 456 = .ok (.iconst 0, 1) := dk_3 (dk_at dksX1_init_19 14 rfl rfl)
theorem dX1_init_457 : decode cX1_init 457 = .ok (.bastore, 1) := dk_84 (dk_at dksX1_init_19 15 rfl rfl)
theorem dX1_init_458 : decode cX1_init 458 = .ok (.putfield 102, 3) := dk_181 0 102 (dk_at dksX1_init_19 16 rfl rfl)
theorem dX1_init_461 : decode cX1_init 461 = .ok (.aload_n 0, 1) := dk_42 (dk_at dksX1_init_19 19 rfl rfl)
theorem dX1_init_462 : decode cX1_init 462 = .ok (.sipush 600, 3) := dk_17 2 88 (dk_at dksX1_init_19 20 rfl rfl)
theorem dX1_init_465 : decode cX1_init 465 = .ok (.newarray .int, 2) := dk_188_10 (dk_at dksX1_init_20 0 rfl rfl)
theorem dX1_init_467 : decode cX1_init 467 = .ok (.putfield 106, 3) := dk_181 0 106 (dk_at dksX1_init_20 2 rfl rfl)
theorem dX1_init_470 : decode cX1_init 470 = .ok (.aload_n 0, 1) := dk_42 (dk_at dksX1_init_20 5 rfl rfl)
theorem dX1_init_471 : decode cX1_init 471 = .ok (.bipush 60, 2) := dk_16 60 (dk_at dksX1_init_20 6 rfl rfl)
theorem dX1_init_473 : decode cX1_init 473 = .ok (.newarray .int, 2) := dk_188_10 (dk_at dksX1_init_20 8 rfl rfl)
theorem dX1_init_475 : decode cX1_init 475 = .ok (.putfield 109, 3) := dk_181 0 109 (dk_at dksX1_init_20 10 rfl rfl)
theorem dX1_init_478 : decode cX1_init 478 = .ok (.return_, 1) := dk_177 (dk_at dksX1_init_20 13 rfl rfl)
abbrev cX1_find : ByteArray := prog_17_method_41_code
def yX1_find : MethodName := ⟨RX1, "find", "(II)I"⟩
def dkwX1_find_12 : List UInt8 := [96, 181, 0, 112, 132, 4, 255, 167, 255, 76, 42, 180, 0, 112, 4, 100, 172]
abbrev dktX1_find_12 : List UInt8 := dkwX1_find_12 ++ []
def dkwX1_find_11 : List UInt8 := [180, 0, 112, 16, 115, 182, 0, 237, 42, 180, 0, 86, 42, 180, 0, 112, 4, 84, 42, 89, 180, 0, 112, 4]
abbrev dktX1_find_11 : List UInt8 := dkwX1_find_11 ++ dktX1_find_12
def dkwX1_find_10 : List UInt8 := [3, 54, 8, 42, 29, 181, 0, 112, 21, 8, 153, 0, 8, 16, 253, 167, 0, 5, 16, 254, 172, 42, 42]
abbrev dktX1_find_10 : List UInt8 := dkwX1_find_10 ++ dktX1_find_11
def dkwX1_find_9 : List UInt8 := [42, 21, 5, 21, 6, 182, 0, 229, 154, 0, 37, 42, 180, 0, 112, 16, 60, 160, 0, 7, 4, 167, 0, 4]
abbrev dktX1_find_9 : List UInt8 := dkwX1_find_9 ++ dktX1_find_10
def dkwX1_find_8 : List UInt8 := [162, 0, 7, 3, 167, 0, 4, 4, 79, 132, 4, 1, 167, 255, 166, 42, 180, 0, 112, 16, 60, 159, 0, 14]
abbrev dktX1_find_8 : List UInt8 := dkwX1_find_8 ++ dktX1_find_9
def dkwX1_find_7 : List UInt8 := [158, 0, 37, 42, 180, 0, 93, 21, 4, 21, 7, 79, 42, 180, 0, 96, 21, 4, 21, 7, 16, 100]
abbrev dktX1_find_7 : List UInt8 := dkwX1_find_7 ++ dktX1_find_8
def dkwX1_find_6 : List UInt8 := [182, 0, 115, 21, 6, 153, 0, 9, 42, 16, 115, 182, 0, 216, 42, 182, 0, 233, 54, 7, 21, 7]
abbrev dktX1_find_6 : List UInt8 := dkwX1_find_6 ++ dktX1_find_7
def dkwX1_find_5 : List UInt8 := [4, 100, 46, 54, 5, 42, 180, 0, 96, 21, 4, 4, 100, 46, 54, 6, 42, 16, 115, 21, 5, 21, 6]
abbrev dktX1_find_5 : List UInt8 := dkwX1_find_5 ++ dktX1_find_6
def dkwX1_find_4 : List UInt8 := [3, 27, 79, 42, 180, 0, 96, 3, 28, 79, 4, 54, 4, 21, 4, 158, 0, 181, 42, 180, 0, 93, 21, 4]
abbrev dktX1_find_4 : List UInt8 := dkwX1_find_4 ++ dktX1_find_5
def dkwX1_find_3 : List UInt8 := [167, 255, 214, 42, 27, 28, 182, 0, 229, 154, 0, 6, 16, 254, 172, 42, 180, 0, 112, 62, 42, 180, 0, 93]
abbrev dktX1_find_3 : List UInt8 := dkwX1_find_3 ++ dktX1_find_4
def dkwX1_find_2 : List UInt8 := [180, 0, 56, 29, 46, 28, 160, 0, 15, 42, 180, 0, 53, 29, 46, 27, 160, 0, 5, 29, 172, 132, 3, 1]
abbrev dktX1_find_2 : List UInt8 := dkwX1_find_2 ++ dktX1_find_3
def dkwX1_find_1 : List UInt8 := [182, 0, 201, 3, 62, 29, 42, 180, 0, 112, 162, 0, 40, 42, 180, 0, 86, 29, 51, 153, 0, 25, 42]
abbrev dktX1_find_1 : List UInt8 := dkwX1_find_1 ++ dktX1_find_2
def dkwX1_find_0 : List UInt8 := [28, 133, 9, 20, 0, 21, 184, 0, 11, 153, 0, 11, 27, 133, 184, 0, 226, 154, 0, 5, 2, 172, 42]
abbrev dktX1_find_0 : List UInt8 := dkwX1_find_0 ++ dktX1_find_1
theorem dksX1_find_0 : cX1_find.data.toList.drop 0 = dktX1_find_0 := by decide +kernel
theorem dksX1_find_1 : cX1_find.data.toList.drop 23 = dktX1_find_1 := dk_seg dksX1_find_0 23 rfl rfl
theorem dksX1_find_2 : cX1_find.data.toList.drop 46 = dktX1_find_2 := dk_seg dksX1_find_1 23 rfl rfl
theorem dksX1_find_3 : cX1_find.data.toList.drop 70 = dktX1_find_3 := dk_seg dksX1_find_2 24 rfl rfl
theorem dksX1_find_4 : cX1_find.data.toList.drop 94 = dktX1_find_4 := dk_seg dksX1_find_3 24 rfl rfl
theorem dksX1_find_5 : cX1_find.data.toList.drop 118 = dktX1_find_5 := dk_seg dksX1_find_4 24 rfl rfl
theorem dksX1_find_6 : cX1_find.data.toList.drop 141 = dktX1_find_6 := dk_seg dksX1_find_5 23 rfl rfl
theorem dksX1_find_7 : cX1_find.data.toList.drop 163 = dktX1_find_7 := dk_seg dksX1_find_6 22 rfl rfl
theorem dksX1_find_8 : cX1_find.data.toList.drop 185 = dktX1_find_8 := dk_seg dksX1_find_7 22 rfl rfl
theorem dksX1_find_9 : cX1_find.data.toList.drop 209 = dktX1_find_9 := dk_seg dksX1_find_8 24 rfl rfl
theorem dksX1_find_10 : cX1_find.data.toList.drop 233 = dktX1_find_10 := dk_seg dksX1_find_9 24 rfl rfl
theorem dksX1_find_11 : cX1_find.data.toList.drop 256 = dktX1_find_11 := dk_seg dksX1_find_10 23 rfl rfl
theorem dksX1_find_12 : cX1_find.data.toList.drop 280 = dktX1_find_12 := dk_seg dksX1_find_11 24 rfl rfl
theorem dX1_find_0 : decode cX1_find 0 = .ok (.iload_n 2, 1) := dk_28 (dk_at dksX1_find_0 0 rfl rfl)
theorem dX1_find_1 : decode cX1_find 1 = .ok (.i2l, 1) := dk_133 (dk_at dksX1_find_0 1 rfl rfl)
theorem dX1_find_2 : decode cX1_find 2 = .ok (.lconst 0, 1) := dk_9 (dk_at dksX1_find_0 2 rfl rfl)
theorem dX1_find_3 : decode cX1_find 3 = .ok (.ldc2_w 21, 3) := dk_20 0 21 (dk_at dksX1_find_0 3 rfl rfl)
theorem dX1_find_6 : decode cX1_find 6 = .ok (.invokestatic 11, 3) := dk_184 0 11 (dk_at dksX1_find_0 6 rfl rfl)
theorem dX1_find_9 : decode cX1_find 9 = .ok (.ifCond .eq 11, 3) := dk_153 0 11 (dk_at dksX1_find_0 9 rfl rfl)
theorem dX1_find_12 : decode cX1_find 12 = .ok (.iload_n 1, 1) := dk_27 (dk_at dksX1_find_0 12 rfl rfl)
theorem dX1_find_13 : decode cX1_find 13 = .ok (.i2l, 1) := dk_133 (dk_at dksX1_find_0 13 rfl rfl)
theorem dX1_find_14 : decode cX1_find 14 = .ok (.invokestatic 226, 3) := dk_184 0 226 (dk_at dksX1_find_0 14 rfl rfl)
theorem dX1_find_17 : decode cX1_find 17 = .ok (.ifCond .ne 5, 3) := dk_154 0 5 (dk_at dksX1_find_0 17 rfl rfl)
theorem dX1_find_20 : decode cX1_find 20 = .ok (.iconst (-1), 1) := dk_2 (dk_at dksX1_find_0 20 rfl rfl)
theorem dX1_find_21 : decode cX1_find 21 = .ok (.ireturn, 1) := dk_172 (dk_at dksX1_find_0 21 rfl rfl)
theorem dX1_find_22 : decode cX1_find 22 = .ok (.aload_n 0, 1) := dk_42 (dk_at dksX1_find_0 22 rfl rfl)
theorem dX1_find_23 : decode cX1_find 23 = .ok (.invokevirtual 201, 3) := dk_182 0 201 (dk_at dksX1_find_1 0 rfl rfl)
theorem dX1_find_26 : decode cX1_find 26 = .ok (.iconst 0, 1) := dk_3 (dk_at dksX1_find_1 3 rfl rfl)
theorem dX1_find_27 : decode cX1_find 27 = .ok (.istore_n 3, 1) := dk_62 (dk_at dksX1_find_1 4 rfl rfl)
theorem dX1_find_28 : decode cX1_find 28 = .ok (.iload_n 3, 1) := dk_29 (dk_at dksX1_find_1 5 rfl rfl)
theorem dX1_find_29 : decode cX1_find 29 = .ok (.aload_n 0, 1) := dk_42 (dk_at dksX1_find_1 6 rfl rfl)
theorem dX1_find_30 : decode cX1_find 30 = .ok (.getfield 112, 3) := dk_180 0 112 (dk_at dksX1_find_1 7 rfl rfl)
theorem dX1_find_33 : decode cX1_find 33 = .ok (.if_icmp .ge 40, 3) := dk_162 0 40 (dk_at dksX1_find_1 10 rfl rfl)
theorem dX1_find_36 : decode cX1_find 36 = .ok (.aload_n 0, 1) := dk_42 (dk_at dksX1_find_1 13 rfl rfl)
theorem dX1_find_37 : decode cX1_find 37 = .ok (.getfield 86, 3) := dk_180 0 86 (dk_at dksX1_find_1 14 rfl rfl)
theorem dX1_find_40 : decode cX1_find 40 = .ok (.iload_n 3, 1) := dk_29 (dk_at dksX1_find_1 17 rfl rfl)
theorem dX1_find_41 : decode cX1_find 41 = .ok (.baload, 1) := dk_51 (dk_at dksX1_find_1 18 rfl rfl)
theorem dX1_find_42 : decode cX1_find 42 = .ok (.ifCond .eq 25, 3) := dk_153 0 25 (dk_at dksX1_find_1 19 rfl rfl)
theorem dX1_find_45 : decode cX1_find 45 = .ok (.aload_n 0, 1) := dk_42 (dk_at dksX1_find_1 22 rfl rfl)
theorem dX1_find_46 : decode cX1_find 46 = .ok (.getfield 56, 3) := dk_180 0 56 (dk_at dksX1_find_2 0 rfl rfl)
theorem dX1_find_49 : decode cX1_find 49 = .ok (.iload_n 3, 1) := dk_29 (dk_at dksX1_find_2 3 rfl rfl)
theorem dX1_find_50 : decode cX1_find 50 = .ok (.iaload, 1) := dk_46 (dk_at dksX1_find_2 4 rfl rfl)
theorem dX1_find_51 : decode cX1_find 51 = .ok (.iload_n 2, 1) := dk_28 (dk_at dksX1_find_2 5 rfl rfl)
theorem dX1_find_52 : decode cX1_find 52 = .ok (.if_icmp .ne 15, 3) := dk_160 0 15 (dk_at dksX1_find_2 6 rfl rfl)
theorem dX1_find_55 : decode cX1_find 55 = .ok (.aload_n 0, 1) := dk_42 (dk_at dksX1_find_2 9 rfl rfl)
theorem dX1_find_56 : decode cX1_find 56 = .ok (.getfield 53, 3) := dk_180 0 53 (dk_at dksX1_find_2 10 rfl rfl)
theorem dX1_find_59 : decode cX1_find 59 = .ok (.iload_n 3, 1) := dk_29 (dk_at dksX1_find_2 13 rfl rfl)
theorem dX1_find_60 : decode cX1_find 60 = .ok (.iaload, 1) := dk_46 (dk_at dksX1_find_2 14 rfl rfl)
theorem dX1_find_61 : decode cX1_find 61 = .ok (.iload_n 1, 1) := dk_27 (dk_at dksX1_find_2 15 rfl rfl)
theorem dX1_find_62 : decode cX1_find 62 = .ok (.if_icmp .ne 5, 3) := dk_160 0 5 (dk_at dksX1_find_2 16 rfl rfl)
theorem dX1_find_65 : decode cX1_find 65 = .ok (.iload_n 3, 1) := dk_29 (dk_at dksX1_find_2 19 rfl rfl)
theorem dX1_find_66 : decode cX1_find 66 = .ok (.ireturn, 1) := dk_172 (dk_at dksX1_find_2 20 rfl rfl)
theorem dX1_find_67 : decode cX1_find 67 = .ok (.iinc 3 1, 3) := dk_132 3 1 (dk_at dksX1_find_2 21 rfl rfl)
theorem dX1_find_70 : decode cX1_find 70 = .ok (.goto (-42), 3) := dk_167 255 214 (dk_at dksX1_find_3 0 rfl rfl)
theorem dX1_find_73 : decode cX1_find 73 = .ok (.aload_n 0, 1) := dk_42 (dk_at dksX1_find_3 3 rfl rfl)
theorem dX1_find_74 : decode cX1_find 74 = .ok (.iload_n 1, 1) := dk_27 (dk_at dksX1_find_3 4 rfl rfl)
theorem dX1_find_75 : decode cX1_find 75 = .ok (.iload_n 2, 1) := dk_28 (dk_at dksX1_find_3 5 rfl rfl)
theorem dX1_find_76 : decode cX1_find 76 = .ok (.invokevirtual 229, 3) := dk_182 0 229 (dk_at dksX1_find_3 6 rfl rfl)
theorem dX1_find_79 : decode cX1_find 79 = .ok (.ifCond .ne 6, 3) := dk_154 0 6 (dk_at dksX1_find_3 9 rfl rfl)
theorem dX1_find_82 : decode cX1_find 82 = .ok (.bipush (-2), 2) := dk_16 254 (dk_at dksX1_find_3 12 rfl rfl)
theorem dX1_find_84 : decode cX1_find 84 = .ok (.ireturn, 1) := dk_172 (dk_at dksX1_find_3 14 rfl rfl)
theorem dX1_find_85 : decode cX1_find 85 = .ok (.aload_n 0, 1) := dk_42 (dk_at dksX1_find_3 15 rfl rfl)
theorem dX1_find_86 : decode cX1_find 86 = .ok (.getfield 112, 3) := dk_180 0 112 (dk_at dksX1_find_3 16 rfl rfl)
theorem dX1_find_89 : decode cX1_find 89 = .ok (.istore_n 3, 1) := dk_62 (dk_at dksX1_find_3 19 rfl rfl)
theorem dX1_find_90 : decode cX1_find 90 = .ok (.aload_n 0, 1) := dk_42 (dk_at dksX1_find_3 20 rfl rfl)
theorem dX1_find_91 : decode cX1_find 91 = .ok (.getfield 93, 3) := dk_180 0 93 (dk_at dksX1_find_3 21 rfl rfl)
theorem dX1_find_94 : decode cX1_find 94 = .ok (.iconst 0, 1) := dk_3 (dk_at dksX1_find_4 0 rfl rfl)
theorem dX1_find_95 : decode cX1_find 95 = .ok (.iload_n 1, 1) := dk_27 (dk_at dksX1_find_4 1 rfl rfl)
theorem dX1_find_96 : decode cX1_find 96 = .ok (.iastore, 1) := dk_79 (dk_at dksX1_find_4 2 rfl rfl)
theorem dX1_find_97 : decode cX1_find 97 = .ok (.aload_n 0, 1) := dk_42 (dk_at dksX1_find_4 3 rfl rfl)
theorem dX1_find_98 : decode cX1_find 98 = .ok (.getfield 96, 3) := dk_180 0 96 (dk_at dksX1_find_4 4 rfl rfl)
theorem dX1_find_101 : decode cX1_find 101 = .ok (.iconst 0, 1) := dk_3 (dk_at dksX1_find_4 7 rfl rfl)
theorem dX1_find_102 : decode cX1_find 102 = .ok (.iload_n 2, 1) := dk_28 (dk_at dksX1_find_4 8 rfl rfl)
theorem dX1_find_103 : decode cX1_find 103 = .ok (.iastore, 1) := dk_79 (dk_at dksX1_find_4 9 rfl rfl)
theorem dX1_find_104 : decode cX1_find 104 = .ok (.iconst 1, 1) := dk_4 (dk_at dksX1_find_4 10 rfl rfl)
theorem dX1_find_105 : decode cX1_find 105 = .ok (.istore 4, 2) := dk_54 4 (dk_at dksX1_find_4 11 rfl rfl)
theorem dX1_find_107 : decode cX1_find 107 = .ok (.iload 4, 2) := dk_21 4 (dk_at dksX1_find_4 13 rfl rfl)
theorem dX1_find_109 : decode cX1_find 109 = .ok (.ifCond .le 181, 3) := dk_158 0 181 (dk_at dksX1_find_4 15 rfl rfl)
theorem dX1_find_112 : decode cX1_find 112 = .ok (.aload_n 0, 1) := dk_42 (dk_at dksX1_find_4 18 rfl rfl)
theorem dX1_find_113 : decode cX1_find 113 = .ok (.getfield 93, 3) := dk_180 0 93 (dk_at dksX1_find_4 19 rfl rfl)
theorem dX1_find_116 : decode cX1_find 116 = .ok (.iload 4, 2) := dk_21 4 (dk_at dksX1_find_4 22 rfl rfl)
theorem dX1_find_118 : decode cX1_find 118 = .ok (.iconst 1, 1) := dk_4 (dk_at dksX1_find_5 0 rfl rfl)
theorem dX1_find_119 : decode cX1_find 119 = .ok (.isub, 1) := dk_100 (dk_at dksX1_find_5 1 rfl rfl)
theorem dX1_find_120 : decode cX1_find 120 = .ok (.iaload, 1) := dk_46 (dk_at dksX1_find_5 2 rfl rfl)
theorem dX1_find_121 : decode cX1_find 121 = .ok (.istore 5, 2) := dk_54 5 (dk_at dksX1_find_5 3 rfl rfl)
theorem dX1_find_123 : decode cX1_find 123 = .ok (.aload_n 0, 1) := dk_42 (dk_at dksX1_find_5 5 rfl rfl)
theorem dX1_find_124 : decode cX1_find 124 = .ok (.getfield 96, 3) := dk_180 0 96 (dk_at dksX1_find_5 6 rfl rfl)
theorem dX1_find_127 : decode cX1_find 127 = .ok (.iload 4, 2) := dk_21 4 (dk_at dksX1_find_5 9 rfl rfl)
theorem dX1_find_129 : decode cX1_find 129 = .ok (.iconst 1, 1) := dk_4 (dk_at dksX1_find_5 11 rfl rfl)
theorem dX1_find_130 : decode cX1_find 130 = .ok (.isub, 1) := dk_100 (dk_at dksX1_find_5 12 rfl rfl)
theorem dX1_find_131 : decode cX1_find 131 = .ok (.iaload, 1) := dk_46 (dk_at dksX1_find_5 13 rfl rfl)
theorem dX1_find_132 : decode cX1_find 132 = .ok (.istore 6, 2) := dk_54 6 (dk_at dksX1_find_5 14 rfl rfl)
theorem dX1_find_134 : decode cX1_find 134 = .ok (.aload_n 0, 1) := dk_42 (dk_at dksX1_find_5 16 rfl rfl)
theorem dX1_find_135 : decode cX1_find 135 = .ok (.bipush 115, 2) := dk_16 115 (dk_at dksX1_find_5 17 rfl rfl)
theorem dX1_find_137 : decode cX1_find 137 = .ok (.iload 5, 2) := dk_21 5 (dk_at dksX1_find_5 19 rfl rfl)
theorem dX1_find_139 : decode cX1_find 139 = .ok (.iload 6, 2) := dk_21 6 (dk_at dksX1_find_5 21 rfl rfl)
theorem dX1_find_141 : decode cX1_find 141 = .ok (.invokevirtual 115, 3) := dk_182 0 115 (dk_at dksX1_find_6 0 rfl rfl)
theorem dX1_find_144 : decode cX1_find 144 = .ok (.iload 6, 2) := dk_21 6 (dk_at dksX1_find_6 3 rfl rfl)
theorem dX1_find_146 : decode cX1_find 146 = .ok (.ifCond .eq 9, 3) := dk_153 0 9 (dk_at dksX1_find_6 5 rfl rfl)
theorem dX1_find_149 : decode cX1_find 149 = .ok (.aload_n 0, 1) := dk_42 (dk_at dksX1_find_6 8 rfl rfl)
theorem dX1_find_150 : decode cX1_find 150 = .ok (.bipush 115, 2) := dk_16 115 (dk_at dksX1_find_6 9 rfl rfl)
theorem dX1_find_152 : decode cX1_find 152 = .ok (.invokevirtual 216, 3) := dk_182 0 216 (dk_at dksX1_find_6 11 rfl rfl)
theorem dX1_find_155 : decode cX1_find 155 = .ok (.aload_n 0, 1) := dk_42 (dk_at dksX1_find_6 14 rfl rfl)
theorem dX1_find_156 : decode cX1_find 156 = .ok (.invokevirtual 233, 3) := dk_182 0 233 (dk_at dksX1_find_6 15 rfl rfl)
theorem dX1_find_159 : decode cX1_find 159 = .ok (.istore 7, 2) := dk_54 7 (dk_at dksX1_find_6 18 rfl rfl)
theorem dX1_find_161 : decode cX1_find 161 = .ok (.iload 7, 2) := dk_21 7 (dk_at dksX1_find_6 20 rfl rfl)
theorem dX1_find_163 : decode cX1_find 163 = .ok (.ifCond .le 37, 3) := dk_158 0 37 (dk_at dksX1_find_7 0 rfl rfl)
theorem dX1_find_166 : decode cX1_find 166 = .ok (.aload_n 0, 1) := dk_42 (dk_at dksX1_find_7 3 rfl rfl)
theorem dX1_find_167 : decode cX1_find 167 = .ok (.getfield 93, 3) := dk_180 0 93 (dk_at dksX1_find_7 4 rfl rfl)
theorem dX1_find_170 : decode cX1_find 170 = .ok (.iload 4, 2) := dk_21 4 (dk_at dksX1_find_7 7 rfl rfl)
theorem dX1_find_172 : decode cX1_find 172 = .ok (.iload 7, 2) := dk_21 7 (dk_at dksX1_find_7 9 rfl rfl)
theorem dX1_find_174 : decode cX1_find 174 = .ok (.iastore, 1) := dk_79 (dk_at dksX1_find_7 11 rfl rfl)
theorem dX1_find_175 : decode cX1_find 175 = .ok (.aload_n 0, 1) := dk_42 (dk_at dksX1_find_7 12 rfl rfl)
theorem dX1_find_176 : decode cX1_find 176 = .ok (.getfield 96, 3) := dk_180 0 96 (dk_at dksX1_find_7 13 rfl rfl)
theorem dX1_find_179 : decode cX1_find 179 = .ok (.iload 4, 2) := dk_21 4 (dk_at dksX1_find_7 16 rfl rfl)
theorem dX1_find_181 : decode cX1_find 181 = .ok (.iload 7, 2) := dk_21 7 (dk_at dksX1_find_7 18 rfl rfl)
theorem dX1_find_183 : decode cX1_find 183 = .ok (.bipush 100, 2) := dk_16 100 (dk_at dksX1_find_7 20 rfl rfl)
theorem dX1_find_185 : decode cX1_find 185 = .ok (.if_icmp .ge 7, 3) := dk_162 0 7 (dk_at dksX1_find_8 0 rfl rfl)
theorem dX1_find_188 : decode cX1_find 188 = .ok (.iconst 0, 1) := dk_3 (dk_at dksX1_find_8 3 rfl rfl)
theorem dX1_find_189 : decode cX1_find 189 = .ok (.goto 4, 3) := dk_167 0 4 (dk_at dksX1_find_8 4 rfl rfl)
theorem dX1_find_192 : decode cX1_find 192 = .ok (.iconst 1, 1) := dk_4 (dk_at dksX1_find_8 7 rfl rfl)
theorem dX1_find_193 : decode cX1_find 193 = .ok (.iastore, 1) := dk_79 (dk_at dksX1_find_8 8 rfl rfl)
theorem dX1_find_194 : decode cX1_find 194 = .ok (.iinc 4 1, 3) := dk_132 4 1 (dk_at dksX1_find_8 9 rfl rfl)
theorem dX1_find_197 : decode cX1_find 197 = .ok (.goto (-90), 3) := dk_167 255 166 (dk_at dksX1_find_8 12 rfl rfl)
theorem dX1_find_200 : decode cX1_find 200 = .ok (.aload_n 0, 1) := dk_42 (dk_at dksX1_find_8 15 rfl rfl)
theorem dX1_find_201 : decode cX1_find 201 = .ok (.getfield 112, 3) := dk_180 0 112 (dk_at dksX1_find_8 16 rfl rfl)
theorem dX1_find_204 : decode cX1_find 204 = .ok (.bipush 60, 2) := dk_16 60 (dk_at dksX1_find_8 19 rfl rfl)
theorem dX1_find_206 : decode cX1_find 206 = .ok (.if_icmp .eq 14, 3) := dk_159 0 14 (dk_at dksX1_find_8 21 rfl rfl)
theorem dX1_find_209 : decode cX1_find 209 = .ok (.aload_n 0, 1) := dk_42 (dk_at dksX1_find_9 0 rfl rfl)
theorem dX1_find_210 : decode cX1_find 210 = .ok (.iload 5, 2) := dk_21 5 (dk_at dksX1_find_9 1 rfl rfl)
theorem dX1_find_212 : decode cX1_find 212 = .ok (.iload 6, 2) := dk_21 6 (dk_at dksX1_find_9 3 rfl rfl)
theorem dX1_find_214 : decode cX1_find 214 = .ok (.invokevirtual 229, 3) := dk_182 0 229 (dk_at dksX1_find_9 5 rfl rfl)
theorem dX1_find_217 : decode cX1_find 217 = .ok (.ifCond .ne 37, 3) := dk_154 0 37 (dk_at dksX1_find_9 8 rfl rfl)
theorem dX1_find_220 : decode cX1_find 220 = .ok (.aload_n 0, 1) := dk_42 (dk_at dksX1_find_9 11 rfl rfl)
theorem dX1_find_221 : decode cX1_find 221 = .ok (.getfield 112, 3) := dk_180 0 112 (dk_at dksX1_find_9 12 rfl rfl)
theorem dX1_find_224 : decode cX1_find 224 = .ok (.bipush 60, 2) := dk_16 60 (dk_at dksX1_find_9 15 rfl rfl)
theorem dX1_find_226 : decode cX1_find 226 = .ok (.if_icmp .ne 7, 3) := dk_160 0 7 (dk_at dksX1_find_9 17 rfl rfl)
theorem dX1_find_229 : decode cX1_find 229 = .ok (.iconst 1, 1) := dk_4 (dk_at dksX1_find_9 20 rfl rfl)
theorem dX1_find_230 : decode cX1_find 230 = .ok (.goto 4, 3) := dk_167 0 4 (dk_at dksX1_find_9 21 rfl rfl)
theorem dX1_find_233 : decode cX1_find 233 = .ok (.iconst 0, 1) := dk_3 (dk_at dksX1_find_10 0 rfl rfl)
theorem dX1_find_234 : decode cX1_find 234 = .ok (.istore 8, 2) := dk_54 8 (dk_at dksX1_find_10 1 rfl rfl)
theorem dX1_find_236 : decode cX1_find 236 = .ok (.aload_n 0, 1) := dk_42 (dk_at dksX1_find_10 3 rfl rfl)
theorem dX1_find_237 : decode cX1_find 237 = .ok (.iload_n 3, 1) := dk_29 (dk_at dksX1_find_10 4 rfl rfl)
theorem dX1_find_238 : decode cX1_find 238 = .ok (.putfield 112, 3) := dk_181 0 112 (dk_at dksX1_find_10 5 rfl rfl)
theorem dX1_find_241 : decode cX1_find 241 = .ok (.iload 8, 2) := dk_21 8 (dk_at dksX1_find_10 8 rfl rfl)
theorem dX1_find_243 : decode cX1_find 243 = .ok (.ifCond .eq 8, 3) := dk_153 0 8 (dk_at dksX1_find_10 10 rfl rfl)
theorem dX1_find_246 : decode cX1_find 246 = .ok (.bipush (-3), 2) := dk_16 253 (dk_at dksX1_find_10 13 rfl rfl)
theorem dX1_find_248 : decode cX1_find 248 = .ok (.goto 5, 3) := dk_167 0 5 (dk_at dksX1_find_10 15 rfl rfl)
theorem dX1_find_251 : decode cX1_find 251 = .ok (.bipush (-2), 2) := dk_16 254 (dk_at dksX1_find_10 18 rfl rfl)
theorem dX1_find_253 : decode cX1_find 253 = .ok (.ireturn, 1) := dk_172 (dk_at dksX1_find_10 20 rfl rfl)
theorem dX1_find_254 : decode cX1_find 254 = .ok (.aload_n 0, 1) := dk_42 (dk_at dksX1_find_10 21 rfl rfl)
theorem dX1_find_255 : decode cX1_find 255 = .ok (.aload_n 0, 1) := dk_42 (dk_at dksX1_find_10 22 rfl rfl)
theorem dX1_find_256 : decode cX1_find 256 = .ok (.getfield 112, 3) := dk_180 0 112 (dk_at dksX1_find_11 0 rfl rfl)
theorem dX1_find_259 : decode cX1_find 259 = .ok (.bipush 115, 2) := dk_16 115 (dk_at dksX1_find_11 3 rfl rfl)
theorem dX1_find_261 : decode cX1_find 261 = .ok (.invokevirtual 237, 3) := dk_182 0 237 (dk_at dksX1_find_11 5 rfl rfl)
theorem dX1_find_264 : decode cX1_find 264 = .ok (.aload_n 0, 1) := dk_42 (dk_at dksX1_find_11 8 rfl rfl)
theorem dX1_find_265 : decode cX1_find 265 = .ok (.getfield 86, 3) := dk_180 0 86 (dk_at dksX1_find_11 9 rfl rfl)
theorem dX1_find_268 : decode cX1_find 268 = .ok (.aload_n 0, 1) := dk_42 (dk_at dksX1_find_11 12 rfl rfl)
theorem dX1_find_269 : decode cX1_find 269 = .ok (.getfield 112, 3) := dk_180 0 112 (dk_at dksX1_find_11 13 rfl rfl)
theorem dX1_find_272 : decode cX1_find 272 = .ok (.iconst 1, 1) := dk_4 (dk_at dksX1_find_11 16 rfl rfl)
theorem dX1_find_273 : decode cX1_find 273 = .ok (.bastore, 1) := dk_84 (dk_at dksX1_find_11 17 rfl rfl)
theorem dX1_find_274 : decode cX1_find 274 = .ok (.aload_n 0, 1) := dk_42 (dk_at dksX1_find_11 18 rfl rfl)
theorem dX1_find_275 : decode cX1_find 275 = .ok (.dup, 1) := dk_89 (dk_at dksX1_find_11 19 rfl rfl)
theorem dX1_find_276 : decode cX1_find 276 = .ok (.getfield 112, 3) := dk_180 0 112 (dk_at dksX1_find_11 20 rfl rfl)
theorem dX1_find_279 : decode cX1_find 279 = .ok (.iconst 1, 1) := dk_4 (dk_at dksX1_find_11 23 rfl rfl)
theorem dX1_find_280 : decode cX1_find 280 = .ok (.iadd, 1) := dk_96 (dk_at dksX1_find_12 0 rfl rfl)
theorem dX1_find_281 : decode cX1_find 281 = .ok (.putfield 112, 3) := dk_181 0 112 (dk_at dksX1_find_12 1 rfl rfl)
theorem dX1_find_284 : decode cX1_find 284 = .ok (.iinc 4 (-1), 3) := dk_132 4 255 (dk_at dksX1_find_12 4 rfl rfl)
theorem dX1_find_287 : decode cX1_find 287 = .ok (.goto (-180), 3) := dk_167 255 76 (dk_at dksX1_find_12 7 rfl rfl)
theorem dX1_find_290 : decode cX1_find 290 = .ok (.aload_n 0, 1) := dk_42 (dk_at dksX1_find_12 10 rfl rfl)
theorem dX1_find_291 : decode cX1_find 291 = .ok (.getfield 112, 3) := dk_180 0 112 (dk_at dksX1_find_12 11 rfl rfl)
theorem dX1_find_294 : decode cX1_find 294 = .ok (.iconst 1, 1) := dk_4 (dk_at dksX1_find_12 14 rfl rfl)
theorem dX1_find_295 : decode cX1_find 295 = .ok (.isub, 1) := dk_100 (dk_at dksX1_find_12 15 rfl rfl)
theorem dX1_find_296 : decode cX1_find 296 = .ok (.ireturn, 1) := dk_172 (dk_at dksX1_find_12 16 rfl rfl)
abbrev cX1_in : ByteArray := prog_17_method_2_code
def yX1_in : MethodName := ⟨RX1, "in", "(JJJ)Z"⟩
def dkwX1_in_0 : List UInt8 := [30, 32, 148, 155, 0, 14, 30, 22, 4, 148, 157, 0, 7, 4, 167, 0, 4, 3, 172]
abbrev dktX1_in_0 : List UInt8 := dkwX1_in_0 ++ []
theorem dksX1_in_0 : cX1_in.data.toList.drop 0 = dktX1_in_0 := by decide +kernel
theorem dX1_in_0 : decode cX1_in 0 = .ok (.lload_n 0, 1) := dk_30 (dk_at dksX1_in_0 0 rfl rfl)
theorem dX1_in_1 : decode cX1_in 1 = .ok (.lload_n 2, 1) := dk_32 (dk_at dksX1_in_0 1 rfl rfl)
theorem dX1_in_2 : decode cX1_in 2 = .ok (.lcmp, 1) := dk_148 (dk_at dksX1_in_0 2 rfl rfl)
theorem dX1_in_3 : decode cX1_in 3 = .ok (.ifCond .lt 14, 3) := dk_155 0 14 (dk_at dksX1_in_0 3 rfl rfl)
theorem dX1_in_6 : decode cX1_in 6 = .ok (.lload_n 0, 1) := dk_30 (dk_at dksX1_in_0 6 rfl rfl)
theorem dX1_in_7 : decode cX1_in 7 = .ok (.lload 4, 2) := dk_22 4 (dk_at dksX1_in_0 7 rfl rfl)
theorem dX1_in_9 : decode cX1_in 9 = .ok (.lcmp, 1) := dk_148 (dk_at dksX1_in_0 9 rfl rfl)
theorem dX1_in_10 : decode cX1_in 10 = .ok (.ifCond .gt 7, 3) := dk_157 0 7 (dk_at dksX1_in_0 10 rfl rfl)
theorem dX1_in_13 : decode cX1_in 13 = .ok (.iconst 1, 1) := dk_4 (dk_at dksX1_in_0 13 rfl rfl)
theorem dX1_in_14 : decode cX1_in 14 = .ok (.goto 4, 3) := dk_167 0 4 (dk_at dksX1_in_0 14 rfl rfl)
theorem dX1_in_17 : decode cX1_in 17 = .ok (.iconst 0, 1) := dk_3 (dk_at dksX1_in_0 17 rfl rfl)
theorem dX1_in_18 : decode cX1_in 18 = .ok (.ireturn, 1) := dk_172 (dk_at dksX1_in_0 18 rfl rfl)
abbrev cX1_isNumber : ByteArray := prog_17_method_3_code
def yX1_isNumber : MethodName := ⟨RX1, "isNumber", "(J)Z"⟩
def dkwX1_isNumber_0 : List UInt8 := [30, 20, 0, 7, 20, 0, 9, 184, 0, 11, 172]
abbrev dktX1_isNumber_0 : List UInt8 := dkwX1_isNumber_0 ++ []
theorem dksX1_isNumber_0 : cX1_isNumber.data.toList.drop 0 = dktX1_isNumber_0 := by decide +kernel
theorem dX1_isNumber_0 : decode cX1_isNumber 0 = .ok (.lload_n 0, 1) := dk_30 (dk_at dksX1_isNumber_0 0 rfl rfl)
theorem dX1_isNumber_1 : decode cX1_isNumber 1 = .ok (.ldc2_w 7, 3) := dk_20 0 7 (dk_at dksX1_isNumber_0 1 rfl rfl)
theorem dX1_isNumber_4 : decode cX1_isNumber 4 = .ok (.ldc2_w 9, 3) := dk_20 0 9 (dk_at dksX1_isNumber_0 4 rfl rfl)
theorem dX1_isNumber_7 : decode cX1_isNumber 7 = .ok (.invokestatic 11, 3) := dk_184 0 11 (dk_at dksX1_isNumber_0 7 rfl rfl)
theorem dX1_isNumber_10 : decode cX1_isNumber 10 = .ok (.ireturn, 1) := dk_172 (dk_at dksX1_isNumber_0 10 rfl rfl)
abbrev cX1_laysRight : ByteArray := prog_17_method_32_code
def yX1_laysRight : MethodName := ⟨RX1, "laysRight", "()V"⟩
def dkwX1_laysRight_2 : List UInt8 := [167, 255, 214, 177]
abbrev dktX1_laysRight_2 : List UInt8 := dkwX1_laysRight_2 ++ []
def dkwX1_laysRight_1 : List UInt8 := [180, 0, 86, 27, 42, 180, 0, 90, 27, 46, 154, 0, 7, 4, 167, 0, 4, 3, 84, 132, 1, 1]
abbrev dktX1_laysRight_1 : List UInt8 := dkwX1_laysRight_1 ++ dktX1_laysRight_2
def dkwX1_laysRight_0 : List UInt8 := [3, 60, 27, 42, 180, 0, 112, 162, 0, 40, 42, 180, 0, 90, 27, 42, 27, 182, 0, 197, 79, 42]
abbrev dktX1_laysRight_0 : List UInt8 := dkwX1_laysRight_0 ++ dktX1_laysRight_1
theorem dksX1_laysRight_0 : cX1_laysRight.data.toList.drop 0 = dktX1_laysRight_0 := by decide +kernel
theorem dksX1_laysRight_1 : cX1_laysRight.data.toList.drop 22 = dktX1_laysRight_1 := dk_seg dksX1_laysRight_0 22 rfl rfl
theorem dksX1_laysRight_2 : cX1_laysRight.data.toList.drop 44 = dktX1_laysRight_2 := dk_seg dksX1_laysRight_1 22 rfl rfl
theorem dX1_laysRight_0 : decode cX1_laysRight 0 = .ok (.iconst 0, 1) := dk_3 (dk_at dksX1_laysRight_0 0 rfl rfl)
theorem dX1_laysRight_1 : decode cX1_laysRight 1 = .ok (.istore_n 1, 1) := dk_60 (dk_at dksX1_laysRight_0 1 rfl rfl)
theorem dX1_laysRight_2 : decode cX1_laysRight 2 = .ok (.iload_n 1, 1) := dk_27 (dk_at dksX1_laysRight_0 2 rfl rfl)
theorem dX1_laysRight_3 : decode cX1_laysRight 3 = .ok (.aload_n 0, 1) := dk_42 (dk_at dksX1_laysRight_0 3 rfl rfl)
theorem dX1_laysRight_4 : decode cX1_laysRight 4 = .ok (.getfield 112, 3) := dk_180 0 112 (dk_at dksX1_laysRight_0 4 rfl rfl)
theorem dX1_laysRight_7 : decode cX1_laysRight 7 = .ok (.if_icmp .ge 40, 3) := dk_162 0 40 (dk_at dksX1_laysRight_0 7 rfl rfl)
theorem dX1_laysRight_10 : decode cX1_laysRight 10 = .ok (.aload_n 0, 1) := dk_42 (dk_at dksX1_laysRight_0 10 rfl rfl)
theorem dX1_laysRight_11 : decode cX1_laysRight 11 = .ok (.getfield 90, 3) := dk_180 0 90 (dk_at dksX1_laysRight_0 11 rfl rfl)
theorem dX1_laysRight_14 : decode cX1_laysRight 14 = .ok (.iload_n 1, 1) := dk_27 (dk_at dksX1_laysRight_0 14 rfl rfl)
theorem dX1_laysRight_15 : decode cX1_laysRight 15 = .ok (.aload_n 0, 1) := dk_42 (dk_at dksX1_laysRight_0 15 rfl rfl)
theorem dX1_laysRight_16 : decode cX1_laysRight 16 = .ok (.iload_n 1, 1) := dk_27 (dk_at dksX1_laysRight_0 16 rfl rfl)
theorem dX1_laysRight_17 : decode cX1_laysRight 17 = .ok (.invokevirtual 197, 3) := dk_182 0 197 (dk_at dksX1_laysRight_0 17 rfl rfl)
theorem dX1_laysRight_20 : decode cX1_laysRight 20 = .ok (.iastore, 1) := dk_79 (dk_at dksX1_laysRight_0 20 rfl rfl)
theorem dX1_laysRight_21 : decode cX1_laysRight 21 = .ok (.aload_n 0, 1) := dk_42 (dk_at dksX1_laysRight_0 21 rfl rfl)
theorem dX1_laysRight_22 : decode cX1_laysRight 22 = .ok (.getfield 86, 3) := dk_180 0 86 (dk_at dksX1_laysRight_1 0 rfl rfl)
theorem dX1_laysRight_25 : decode cX1_laysRight 25 = .ok (.iload_n 1, 1) := dk_27 (dk_at dksX1_laysRight_1 3 rfl rfl)
theorem dX1_laysRight_26 : decode cX1_laysRight 26 = .ok (.aload_n 0, 1) := dk_42 (dk_at dksX1_laysRight_1 4 rfl rfl)
theorem dX1_laysRight_27 : decode cX1_laysRight 27 = .ok (.getfield 90, 3) := dk_180 0 90 (dk_at dksX1_laysRight_1 5 rfl rfl)
theorem dX1_laysRight_30 : decode cX1_laysRight 30 = .ok (.iload_n 1, 1) := dk_27 (dk_at dksX1_laysRight_1 8 rfl rfl)
theorem dX1_laysRight_31 : decode cX1_laysRight 31 = .ok (.iaload, 1) := dk_46 (dk_at dksX1_laysRight_1 9 rfl rfl)
theorem dX1_laysRight_32 : decode cX1_laysRight 32 = .ok (.ifCond .ne 7, 3) := dk_154 0 7 (dk_at dksX1_laysRight_1 10 rfl rfl)
theorem dX1_laysRight_35 : decode cX1_laysRight 35 = .ok (.iconst 1, 1) := dk_4 (dk_at dksX1_laysRight_1 13 rfl rfl)
theorem dX1_laysRight_36 : decode cX1_laysRight 36 = .ok (.goto 4, 3) := dk_167 0 4 (dk_at dksX1_laysRight_1 14 rfl rfl)
theorem dX1_laysRight_39 : decode cX1_laysRight 39 = .ok (.iconst 0, 1) := dk_3 (dk_at dksX1_laysRight_1 17 rfl rfl)
theorem dX1_laysRight_40 : decode cX1_laysRight 40 = .ok (.bastore, 1) := dk_84 (dk_at dksX1_laysRight_1 18 rfl rfl)
theorem dX1_laysRight_41 : decode cX1_laysRight 41 = .ok (.iinc 1 1, 3) := dk_132 1 1 (dk_at dksX1_laysRight_1 19 rfl rfl)
theorem dX1_laysRight_44 : decode cX1_laysRight 44 = .ok (.goto (-42), 3) := dk_167 255 214 (dk_at dksX1_laysRight_2 0 rfl rfl)
theorem dX1_laysRight_47 : decode cX1_laysRight 47 = .ok (.return_, 1) := dk_177 (dk_at dksX1_laysRight_2 3 rfl rfl)
abbrev cX1_faultOf : ByteArray := prog_17_method_31_code
def yX1_faultOf : MethodName := ⟨RX1, "faultOf", "(I)I"⟩
def dkwX1_faultOf_11 : List UInt8 := [133, 42, 180, 0, 62, 27, 46, 133, 182, 0, 193, 167, 0, 4, 3, 172]
abbrev dktX1_faultOf_11 : List UInt8 := dkwX1_faultOf_11 ++ []
def dkwX1_faultOf_10 : List UInt8 := [16, 6, 172, 132, 5, 1, 167, 255, 212, 29, 184, 0, 190, 153, 0, 25, 42, 27, 42, 180, 0, 59, 27, 46]
abbrev dktX1_faultOf_10 : List UInt8 := dkwX1_faultOf_10 ++ dktX1_faultOf_11
def dkwX1_faultOf_9 : List UInt8 := [28, 133, 42, 180, 0, 77, 21, 5, 46, 133, 42, 180, 0, 71, 21, 5, 46, 133, 184, 0, 187, 154, 0, 6]
abbrev dktX1_faultOf_9 : List UInt8 := dkwX1_faultOf_9 ++ dktX1_faultOf_10
def dkwX1_faultOf_8 : List UInt8 := [132, 5, 1, 167, 255, 221, 21, 4, 54, 5, 21, 5, 21, 4, 42, 180, 0, 65, 27, 46, 96, 162, 0, 36]
abbrev dktX1_faultOf_8 : List UInt8 := dkwX1_faultOf_8 ++ dktX1_faultOf_9
def dkwX1_faultOf_7 : List UInt8 := [96, 162, 0, 27, 28, 133, 42, 180, 0, 77, 21, 5, 46, 133, 184, 0, 183, 154, 0, 5, 8, 172]
abbrev dktX1_faultOf_7 : List UInt8 := dkwX1_faultOf_7 ++ dktX1_faultOf_8
def dkwX1_faultOf_6 : List UInt8 := [42, 27, 182, 0, 180, 154, 0, 5, 7, 172, 21, 4, 54, 5, 21, 5, 21, 4, 42, 180, 0, 65, 27, 46]
abbrev dktX1_faultOf_6 : List UInt8 := dkwX1_faultOf_6 ++ dktX1_faultOf_7
def dkwX1_faultOf_5 : List UInt8 := [180, 0, 68, 27, 46, 27, 182, 0, 172, 154, 0, 5, 5, 172, 42, 27, 182, 0, 176, 154, 0, 5, 6, 172]
abbrev dktX1_faultOf_5 : List UInt8 := dkwX1_faultOf_5 ++ dktX1_faultOf_6
def dkwX1_faultOf_4 : List UInt8 := [21, 4, 42, 180, 0, 65, 27, 46, 27, 182, 0, 172, 153, 0, 23, 42, 42, 180, 0, 80, 21, 4, 42]
abbrev dktX1_faultOf_4 : List UInt8 := dkwX1_faultOf_4 ++ dktX1_faultOf_5
def dkwX1_faultOf_3 : List UInt8 := [180, 0, 80, 21, 4, 42, 180, 0, 68, 27, 46, 184, 0, 168, 153, 0, 5, 5, 172, 42, 42, 180, 0, 71]
abbrev dktX1_faultOf_3 : List UInt8 := dkwX1_faultOf_3 ++ dktX1_faultOf_4
def dkwX1_faultOf_2 : List UInt8 := [27, 104, 54, 4, 42, 180, 0, 71, 21, 4, 42, 180, 0, 65, 27, 46, 184, 0, 168, 154, 0, 21, 42]
abbrev dktX1_faultOf_2 : List UInt8 := dkwX1_faultOf_2 ++ dktX1_faultOf_3
def dkwX1_faultOf_1 : List UInt8 := [28, 133, 184, 0, 164, 153, 0, 7, 3, 167, 0, 4, 4, 172, 28, 5, 112, 154, 0, 5, 4, 172, 16, 9]
abbrev dktX1_faultOf_1 : List UInt8 := dkwX1_faultOf_1 ++ dktX1_faultOf_2
def dkwX1_faultOf_0 : List UInt8 := [42, 180, 0, 53, 27, 46, 61, 42, 180, 0, 56, 27, 46, 62, 29, 154, 0, 23, 28, 16, 100, 162, 0, 15]
abbrev dktX1_faultOf_0 : List UInt8 := dkwX1_faultOf_0 ++ dktX1_faultOf_1
theorem dksX1_faultOf_0 : cX1_faultOf.data.toList.drop 0 = dktX1_faultOf_0 := by decide +kernel
theorem dksX1_faultOf_1 : cX1_faultOf.data.toList.drop 24 = dktX1_faultOf_1 := dk_seg dksX1_faultOf_0 24 rfl rfl
theorem dksX1_faultOf_2 : cX1_faultOf.data.toList.drop 48 = dktX1_faultOf_2 := dk_seg dksX1_faultOf_1 24 rfl rfl
theorem dksX1_faultOf_3 : cX1_faultOf.data.toList.drop 71 = dktX1_faultOf_3 := dk_seg dksX1_faultOf_2 23 rfl rfl
theorem dksX1_faultOf_4 : cX1_faultOf.data.toList.drop 95 = dktX1_faultOf_4 := dk_seg dksX1_faultOf_3 24 rfl rfl
theorem dksX1_faultOf_5 : cX1_faultOf.data.toList.drop 118 = dktX1_faultOf_5 := dk_seg dksX1_faultOf_4 23 rfl rfl
theorem dksX1_faultOf_6 : cX1_faultOf.data.toList.drop 142 = dktX1_faultOf_6 := dk_seg dksX1_faultOf_5 24 rfl rfl
theorem dksX1_faultOf_7 : cX1_faultOf.data.toList.drop 166 = dktX1_faultOf_7 := dk_seg dksX1_faultOf_6 24 rfl rfl
theorem dksX1_faultOf_8 : cX1_faultOf.data.toList.drop 188 = dktX1_faultOf_8 := dk_seg dksX1_faultOf_7 22 rfl rfl
theorem dksX1_faultOf_9 : cX1_faultOf.data.toList.drop 212 = dktX1_faultOf_9 := dk_seg dksX1_faultOf_8 24 rfl rfl
theorem dksX1_faultOf_10 : cX1_faultOf.data.toList.drop 236 = dktX1_faultOf_10 := dk_seg dksX1_faultOf_9 24 rfl rfl
theorem dksX1_faultOf_11 : cX1_faultOf.data.toList.drop 260 = dktX1_faultOf_11 := dk_seg dksX1_faultOf_10 24 rfl rfl
theorem dX1_faultOf_0 : decode cX1_faultOf 0 = .ok (.aload_n 0, 1) := dk_42 (dk_at dksX1_faultOf_0 0 rfl rfl)
theorem dX1_faultOf_1 : decode cX1_faultOf 1 = .ok (.getfield 53, 3) := dk_180 0 53 (dk_at dksX1_faultOf_0 1 rfl rfl)
theorem dX1_faultOf_4 : decode cX1_faultOf 4 = .ok (.iload_n 1, 1) := dk_27 (dk_at dksX1_faultOf_0 4 rfl rfl)
theorem dX1_faultOf_5 : decode cX1_faultOf 5 = .ok (.iaload, 1) := dk_46 (dk_at dksX1_faultOf_0 5 rfl rfl)
theorem dX1_faultOf_6 : decode cX1_faultOf 6 = .ok (.istore_n 2, 1) := dk_61 (dk_at dksX1_faultOf_0 6 rfl rfl)
theorem dX1_faultOf_7 : decode cX1_faultOf 7 = .ok (.aload_n 0, 1) := dk_42 (dk_at dksX1_faultOf_0 7 rfl rfl)
theorem dX1_faultOf_8 : decode cX1_faultOf 8 = .ok (.getfield 56, 3) := dk_180 0 56 (dk_at dksX1_faultOf_0 8 rfl rfl)
theorem dX1_faultOf_11 : decode cX1_faultOf 11 = .ok (.iload_n 1, 1) := dk_27 (dk_at dksX1_faultOf_0 11 rfl rfl)
theorem dX1_faultOf_12 : decode cX1_faultOf 12 = .ok (.iaload, 1) := dk_46 (dk_at dksX1_faultOf_0 12 rfl rfl)
theorem dX1_faultOf_13 : decode cX1_faultOf 13 = .ok (.istore_n 3, 1) := dk_62 (dk_at dksX1_faultOf_0 13 rfl rfl)
theorem dX1_faultOf_14 : decode cX1_faultOf 14 = .ok (.iload_n 3, 1) := dk_29 (dk_at dksX1_faultOf_0 14 rfl rfl)
theorem dX1_faultOf_15 : decode cX1_faultOf 15 = .ok (.ifCond .ne 23, 3) := dk_154 0 23 (dk_at dksX1_faultOf_0 15 rfl rfl)
theorem dX1_faultOf_18 : decode cX1_faultOf 18 = .ok (.iload_n 2, 1) := dk_28 (dk_at dksX1_faultOf_0 18 rfl rfl)
theorem dX1_faultOf_19 : decode cX1_faultOf 19 = .ok (.bipush 100, 2) := dk_16 100 (dk_at dksX1_faultOf_0 19 rfl rfl)
theorem dX1_faultOf_21 : decode cX1_faultOf 21 = .ok (.if_icmp .ge 15, 3) := dk_162 0 15 (dk_at dksX1_faultOf_0 21 rfl rfl)
theorem dX1_faultOf_24 : decode cX1_faultOf 24 = .ok (.iload_n 2, 1) := dk_28 (dk_at dksX1_faultOf_1 0 rfl rfl)
theorem dX1_faultOf_25 : decode cX1_faultOf 25 = .ok (.i2l, 1) := dk_133 (dk_at dksX1_faultOf_1 1 rfl rfl)
theorem dX1_faultOf_26 : decode cX1_faultOf 26 = .ok (.invokestatic 164, 3) := dk_184 0 164 (dk_at dksX1_faultOf_1 2 rfl rfl)
theorem dX1_faultOf_29 : decode cX1_faultOf 29 = .ok (.ifCond .eq 7, 3) := dk_153 0 7 (dk_at dksX1_faultOf_1 5 rfl rfl)
theorem dX1_faultOf_32 : decode cX1_faultOf 32 = .ok (.iconst 0, 1) := dk_3 (dk_at dksX1_faultOf_1 8 rfl rfl)
theorem dX1_faultOf_33 : decode cX1_faultOf 33 = .ok (.goto 4, 3) := dk_167 0 4 (dk_at dksX1_faultOf_1 9 rfl rfl)
theorem dX1_faultOf_36 : decode cX1_faultOf 36 = .ok (.iconst 1, 1) := dk_4 (dk_at dksX1_faultOf_1 12 rfl rfl)
theorem dX1_faultOf_37 : decode cX1_faultOf 37 = .ok (.ireturn, 1) := dk_172 (dk_at dksX1_faultOf_1 13 rfl rfl)
theorem dX1_faultOf_38 : decode cX1_faultOf 38 = .ok (.iload_n 2, 1) := dk_28 (dk_at dksX1_faultOf_1 14 rfl rfl)
theorem dX1_faultOf_39 : decode cX1_faultOf 39 = .ok (.iconst 2, 1) := dk_5 (dk_at dksX1_faultOf_1 15 rfl rfl)
theorem dX1_faultOf_40 : decode cX1_faultOf 40 = .ok (.irem, 1) := dk_112 (dk_at dksX1_faultOf_1 16 rfl rfl)
theorem dX1_faultOf_41 : decode cX1_faultOf 41 = .ok (.ifCond .ne 5, 3) := dk_154 0 5 (dk_at dksX1_faultOf_1 17 rfl rfl)
theorem dX1_faultOf_44 : decode cX1_faultOf 44 = .ok (.iconst 1, 1) := dk_4 (dk_at dksX1_faultOf_1 20 rfl rfl)
theorem dX1_faultOf_45 : decode cX1_faultOf 45 = .ok (.ireturn, 1) := dk_172 (dk_at dksX1_faultOf_1 21 rfl rfl)
theorem dX1_faultOf_46 : decode cX1_faultOf 46 = .ok (.bipush 9, 2) := dk_16 9 (dk_at dksX1_faultOf_1 22 rfl rfl)
theorem dX1_faultOf_48 : decode cX1_faultOf 48 = .ok (.iload_n 1, 1) := dk_27 (dk_at dksX1_faultOf_2 0 rfl rfl)
theorem dX1_faultOf_49 : decode cX1_faultOf 49 = .ok (.imul, 1) := dk_104 (dk_at dksX1_faultOf_2 1 rfl rfl)
theorem dX1_faultOf_50 : decode cX1_faultOf 50 = .ok (.istore 4, 2) := dk_54 4 (dk_at dksX1_faultOf_2 2 rfl rfl)
theorem dX1_faultOf_52 : decode cX1_faultOf 52 = .ok (.aload_n 0, 1) := dk_42 (dk_at dksX1_faultOf_2 4 rfl rfl)
theorem dX1_faultOf_53 : decode cX1_faultOf 53 = .ok (.getfield 71, 3) := dk_180 0 71 (dk_at dksX1_faultOf_2 5 rfl rfl)
theorem dX1_faultOf_56 : decode cX1_faultOf 56 = .ok (.iload 4, 2) := dk_21 4 (dk_at dksX1_faultOf_2 8 rfl rfl)
theorem dX1_faultOf_58 : decode cX1_faultOf 58 = .ok (.aload_n 0, 1) := dk_42 (dk_at dksX1_faultOf_2 10 rfl rfl)
theorem dX1_faultOf_59 : decode cX1_faultOf 59 = .ok (.getfield 65, 3) := dk_180 0 65 (dk_at dksX1_faultOf_2 11 rfl rfl)
theorem dX1_faultOf_62 : decode cX1_faultOf 62 = .ok (.iload_n 1, 1) := dk_27 (dk_at dksX1_faultOf_2 14 rfl rfl)
theorem dX1_faultOf_63 : decode cX1_faultOf 63 = .ok (.iaload, 1) := dk_46 (dk_at dksX1_faultOf_2 15 rfl rfl)
theorem dX1_faultOf_64 : decode cX1_faultOf 64 = .ok (.invokestatic 168, 3) := dk_184 0 168 (dk_at dksX1_faultOf_2 16 rfl rfl)
theorem dX1_faultOf_67 : decode cX1_faultOf 67 = .ok (.ifCond .ne 21, 3) := dk_154 0 21 (dk_at dksX1_faultOf_2 19 rfl rfl)
theorem dX1_faultOf_70 : decode cX1_faultOf 70 = .ok (.aload_n 0, 1) := dk_42 (dk_at dksX1_faultOf_2 22 rfl rfl)
theorem dX1_faultOf_71 : decode cX1_faultOf 71 = .ok (.getfield 80, 3) := dk_180 0 80 (dk_at dksX1_faultOf_3 0 rfl rfl)
theorem dX1_faultOf_74 : decode cX1_faultOf 74 = .ok (.iload 4, 2) := dk_21 4 (dk_at dksX1_faultOf_3 3 rfl rfl)
theorem dX1_faultOf_76 : decode cX1_faultOf 76 = .ok (.aload_n 0, 1) := dk_42 (dk_at dksX1_faultOf_3 5 rfl rfl)
theorem dX1_faultOf_77 : decode cX1_faultOf 77 = .ok (.getfield 68, 3) := dk_180 0 68 (dk_at dksX1_faultOf_3 6 rfl rfl)
theorem dX1_faultOf_80 : decode cX1_faultOf 80 = .ok (.iload_n 1, 1) := dk_27 (dk_at dksX1_faultOf_3 9 rfl rfl)
theorem dX1_faultOf_81 : decode cX1_faultOf 81 = .ok (.iaload, 1) := dk_46 (dk_at dksX1_faultOf_3 10 rfl rfl)
theorem dX1_faultOf_82 : decode cX1_faultOf 82 = .ok (.invokestatic 168, 3) := dk_184 0 168 (dk_at dksX1_faultOf_3 11 rfl rfl)
theorem dX1_faultOf_85 : decode cX1_faultOf 85 = .ok (.ifCond .eq 5, 3) := dk_153 0 5 (dk_at dksX1_faultOf_3 14 rfl rfl)
theorem dX1_faultOf_88 : decode cX1_faultOf 88 = .ok (.iconst 2, 1) := dk_5 (dk_at dksX1_faultOf_3 17 rfl rfl)
theorem dX1_faultOf_89 : decode cX1_faultOf 89 = .ok (.ireturn, 1) := dk_172 (dk_at dksX1_faultOf_3 18 rfl rfl)
theorem dX1_faultOf_90 : decode cX1_faultOf 90 = .ok (.aload_n 0, 1) := dk_42 (dk_at dksX1_faultOf_3 19 rfl rfl)
theorem dX1_faultOf_91 : decode cX1_faultOf 91 = .ok (.aload_n 0, 1) := dk_42 (dk_at dksX1_faultOf_3 20 rfl rfl)
theorem dX1_faultOf_92 : decode cX1_faultOf 92 = .ok (.getfield 71, 3) := dk_180 0 71 (dk_at dksX1_faultOf_3 21 rfl rfl)
theorem dX1_faultOf_95 : decode cX1_faultOf 95 = .ok (.iload 4, 2) := dk_21 4 (dk_at dksX1_faultOf_4 0 rfl rfl)
theorem dX1_faultOf_97 : decode cX1_faultOf 97 = .ok (.aload_n 0, 1) := dk_42 (dk_at dksX1_faultOf_4 2 rfl rfl)
theorem dX1_faultOf_98 : decode cX1_faultOf 98 = .ok (.getfield 65, 3) := dk_180 0 65 (dk_at dksX1_faultOf_4 3 rfl rfl)
theorem dX1_faultOf_101 : decode cX1_faultOf 101 = .ok (.iload_n 1, 1) := dk_27 (dk_at dksX1_faultOf_4 6 rfl rfl)
theorem dX1_faultOf_102 : decode cX1_faultOf 102 = .ok (.iaload, 1) := dk_46 (dk_at dksX1_faultOf_4 7 rfl rfl)
theorem dX1_faultOf_103 : decode cX1_faultOf 103 = .ok (.iload_n 1, 1) := dk_27 (dk_at dksX1_faultOf_4 8 rfl rfl)
theorem dX1_faultOf_104 : decode cX1_faultOf 104 = .ok (.invokevirtual 172, 3) := dk_182 0 172 (dk_at dksX1_faultOf_4 9 rfl rfl)
theorem dX1_faultOf_107 : decode cX1_faultOf 107 = .ok (.ifCond .eq 23, 3) := dk_153 0 23 (dk_at dksX1_faultOf_4 12 rfl rfl)
theorem dX1_faultOf_110 : decode cX1_faultOf 110 = .ok (.aload_n 0, 1) := dk_42 (dk_at dksX1_faultOf_4 15 rfl rfl)
theorem dX1_faultOf_111 : decode cX1_faultOf 111 = .ok (.aload_n 0, 1) := dk_42 (dk_at dksX1_faultOf_4 16 rfl rfl)
theorem dX1_faultOf_112 : decode cX1_faultOf 112 = .ok (.getfield 80, 3) := dk_180 0 80 (dk_at dksX1_faultOf_4 17 rfl rfl)
theorem dX1_faultOf_115 : decode cX1_faultOf 115 = .ok (.iload 4, 2) := dk_21 4 (dk_at dksX1_faultOf_4 20 rfl rfl)
theorem dX1_faultOf_117 : decode cX1_faultOf 117 = .ok (.aload_n 0, 1) := dk_42 (dk_at dksX1_faultOf_4 22 rfl rfl)
theorem dX1_faultOf_118 : decode cX1_faultOf 118 = .ok (.getfield 68, 3) := dk_180 0 68 (dk_at dksX1_faultOf_5 0 rfl rfl)
theorem dX1_faultOf_121 : decode cX1_faultOf 121 = .ok (.iload_n 1, 1) := dk_27 (dk_at dksX1_faultOf_5 3 rfl rfl)
theorem dX1_faultOf_122 : decode cX1_faultOf 122 = .ok (.iaload, 1) := dk_46 (dk_at dksX1_faultOf_5 4 rfl rfl)
theorem dX1_faultOf_123 : decode cX1_faultOf 123 = .ok (.iload_n 1, 1) := dk_27 (dk_at dksX1_faultOf_5 5 rfl rfl)
theorem dX1_faultOf_124 : decode cX1_faultOf 124 = .ok (.invokevirtual 172, 3) := dk_182 0 172 (dk_at dksX1_faultOf_5 6 rfl rfl)
theorem dX1_faultOf_127 : decode cX1_faultOf 127 = .ok (.ifCond .ne 5, 3) := dk_154 0 5 (dk_at dksX1_faultOf_5 9 rfl rfl)
theorem dX1_faultOf_130 : decode cX1_faultOf 130 = .ok (.iconst 2, 1) := dk_5 (dk_at dksX1_faultOf_5 12 rfl rfl)
theorem dX1_faultOf_131 : decode cX1_faultOf 131 = .ok (.ireturn, 1) := dk_172 (dk_at dksX1_faultOf_5 13 rfl rfl)
theorem dX1_faultOf_132 : decode cX1_faultOf 132 = .ok (.aload_n 0, 1) := dk_42 (dk_at dksX1_faultOf_5 14 rfl rfl)
theorem dX1_faultOf_133 : decode cX1_faultOf 133 = .ok (.iload_n 1, 1) := dk_27 (dk_at dksX1_faultOf_5 15 rfl rfl)
theorem dX1_faultOf_134 : decode cX1_faultOf 134 = .ok (.invokevirtual 176, 3) := dk_182 0 176 (dk_at dksX1_faultOf_5 16 rfl rfl)
theorem dX1_faultOf_137 : decode cX1_faultOf 137 = .ok (.ifCond .ne 5, 3) := dk_154 0 5 (dk_at dksX1_faultOf_5 19 rfl rfl)
theorem dX1_faultOf_140 : decode cX1_faultOf 140 = .ok (.iconst 3, 1) := dk_6 (dk_at dksX1_faultOf_5 22 rfl rfl)
theorem dX1_faultOf_141 : decode cX1_faultOf 141 = .ok (.ireturn, 1) := dk_172 (dk_at dksX1_faultOf_5 23 rfl rfl)
theorem dX1_faultOf_142 : decode cX1_faultOf 142 = .ok (.aload_n 0, 1) := dk_42 (dk_at dksX1_faultOf_6 0 rfl rfl)
theorem dX1_faultOf_143 : decode cX1_faultOf 143 = .ok (.iload_n 1, 1) := dk_27 (dk_at dksX1_faultOf_6 1 rfl rfl)
theorem dX1_faultOf_144 : decode cX1_faultOf 144 = .ok (.invokevirtual 180, 3) := dk_182 0 180 (dk_at dksX1_faultOf_6 2 rfl rfl)
theorem dX1_faultOf_147 : decode cX1_faultOf 147 = .ok (.ifCond .ne 5, 3) := dk_154 0 5 (dk_at dksX1_faultOf_6 5 rfl rfl)
theorem dX1_faultOf_150 : decode cX1_faultOf 150 = .ok (.iconst 4, 1) := dk_7 (dk_at dksX1_faultOf_6 8 rfl rfl)
theorem dX1_faultOf_151 : decode cX1_faultOf 151 = .ok (.ireturn, 1) := dk_172 (dk_at dksX1_faultOf_6 9 rfl rfl)
theorem dX1_faultOf_152 : decode cX1_faultOf 152 = .ok (.iload 4, 2) := dk_21 4 (dk_at dksX1_faultOf_6 10 rfl rfl)
theorem dX1_faultOf_154 : decode cX1_faultOf 154 = .ok (.istore 5, 2) := dk_54 5 (dk_at dksX1_faultOf_6 12 rfl rfl)
theorem dX1_faultOf_156 : decode cX1_faultOf 156 = .ok (.iload 5, 2) := dk_21 5 (dk_at dksX1_faultOf_6 14 rfl rfl)
theorem dX1_faultOf_158 : decode cX1_faultOf 158 = .ok (.iload 4, 2) := dk_21 4 (dk_at dksX1_faultOf_6 16 rfl rfl)
theorem dX1_faultOf_160 : decode cX1_faultOf 160 = .ok (.aload_n 0, 1) := dk_42 (dk_at dksX1_faultOf_6 18 rfl rfl)
theorem dX1_faultOf_161 : decode cX1_faultOf 161 = .ok (.getfield 65, 3) := dk_180 0 65 (dk_at dksX1_faultOf_6 19 rfl rfl)
theorem dX1_faultOf_164 : decode cX1_faultOf 164 = .ok (.iload_n 1, 1) := dk_27 (dk_at dksX1_faultOf_6 22 rfl rfl)
theorem dX1_faultOf_165 : decode cX1_faultOf 165 = .ok (.iaload, 1) := dk_46 (dk_at dksX1_faultOf_6 23 rfl rfl)
theorem dX1_faultOf_166 : decode cX1_faultOf 166 = .ok (.iadd, 1) := dk_96 (dk_at dksX1_faultOf_7 0 rfl rfl)
theorem dX1_faultOf_167 : decode cX1_faultOf 167 = .ok (.if_icmp .ge 27, 3) := dk_162 0 27 (dk_at dksX1_faultOf_7 1 rfl rfl)
theorem dX1_faultOf_170 : decode cX1_faultOf 170 = .ok (.iload_n 2, 1) := dk_28 (dk_at dksX1_faultOf_7 4 rfl rfl)
theorem dX1_faultOf_171 : decode cX1_faultOf 171 = .ok (.i2l, 1) := dk_133 (dk_at dksX1_faultOf_7 5 rfl rfl)
theorem dX1_faultOf_172 : decode cX1_faultOf 172 = .ok (.aload_n 0, 1) := dk_42 (dk_at dksX1_faultOf_7 6 rfl rfl)
theorem dX1_faultOf_173 : decode cX1_faultOf 173 = .ok (.getfield 77, 3) := dk_180 0 77 (dk_at dksX1_faultOf_7 7 rfl rfl)
theorem dX1_faultOf_176 : decode cX1_faultOf 176 = .ok (.iload 5, 2) := dk_21 5 (dk_at dksX1_faultOf_7 10 rfl rfl)
theorem dX1_faultOf_178 : decode cX1_faultOf 178 = .ok (.iaload, 1) := dk_46 (dk_at dksX1_faultOf_7 12 rfl rfl)
theorem dX1_faultOf_179 : decode cX1_faultOf 179 = .ok (.i2l, 1) := dk_133 (dk_at dksX1_faultOf_7 13 rfl rfl)
theorem dX1_faultOf_180 : decode cX1_faultOf 180 = .ok (.invokestatic 183, 3) := dk_184 0 183 (dk_at dksX1_faultOf_7 14 rfl rfl)
theorem dX1_faultOf_183 : decode cX1_faultOf 183 = .ok (.ifCond .ne 5, 3) := dk_154 0 5 (dk_at dksX1_faultOf_7 17 rfl rfl)
theorem dX1_faultOf_186 : decode cX1_faultOf 186 = .ok (.iconst 5, 1) := dk_8 (dk_at dksX1_faultOf_7 20 rfl rfl)
theorem dX1_faultOf_187 : decode cX1_faultOf 187 = .ok (.ireturn, 1) := dk_172 (dk_at dksX1_faultOf_7 21 rfl rfl)
theorem dX1_faultOf_188 : decode cX1_faultOf 188 = .ok (.iinc 5 1, 3) := dk_132 5 1 (dk_at dksX1_faultOf_8 0 rfl rfl)
theorem dX1_faultOf_191 : decode cX1_faultOf 191 = .ok (.goto (-35), 3) := dk_167 255 221 (dk_at dksX1_faultOf_8 3 rfl rfl)
theorem dX1_faultOf_194 : decode cX1_faultOf 194 = .ok (.iload 4, 2) := dk_21 4 (dk_at dksX1_faultOf_8 6 rfl rfl)
theorem dX1_faultOf_196 : decode cX1_faultOf 196 = .ok (.istore 5, 2) := dk_54 5 (dk_at dksX1_faultOf_8 8 rfl rfl)
theorem dX1_faultOf_198 : decode cX1_faultOf 198 = .ok (.iload 5, 2) := dk_21 5 (dk_at dksX1_faultOf_8 10 rfl rfl)
theorem dX1_faultOf_200 : decode cX1_faultOf 200 = .ok (.iload 4, 2) := dk_21 4 (dk_at dksX1_faultOf_8 12 rfl rfl)
theorem dX1_faultOf_202 : decode cX1_faultOf 202 = .ok (.aload_n 0, 1) := dk_42 (dk_at dksX1_faultOf_8 14 rfl rfl)
theorem dX1_faultOf_203 : decode cX1_faultOf 203 = .ok (.getfield 65, 3) := dk_180 0 65 (dk_at dksX1_faultOf_8 15 rfl rfl)
theorem dX1_faultOf_206 : decode cX1_faultOf 206 = .ok (.iload_n 1, 1) := dk_27 (dk_at dksX1_faultOf_8 18 rfl rfl)
theorem dX1_faultOf_207 : decode cX1_faultOf 207 = .ok (.iaload, 1) := dk_46 (dk_at dksX1_faultOf_8 19 rfl rfl)
theorem dX1_faultOf_208 : decode cX1_faultOf 208 = .ok (.iadd, 1) := dk_96 (dk_at dksX1_faultOf_8 20 rfl rfl)
theorem dX1_faultOf_209 : decode cX1_faultOf 209 = .ok (.if_icmp .ge 36, 3) := dk_162 0 36 (dk_at dksX1_faultOf_8 21 rfl rfl)
theorem dX1_faultOf_212 : decode cX1_faultOf 212 = .ok (.iload_n 2, 1) := dk_28 (dk_at dksX1_faultOf_9 0 rfl rfl)
theorem dX1_faultOf_213 : decode cX1_faultOf 213 = .ok (.i2l, 1) := dk_133 (dk_at dksX1_faultOf_9 1 rfl rfl)
theorem dX1_faultOf_214 : decode cX1_faultOf 214 = .ok (.aload_n 0, 1) := dk_42 (dk_at dksX1_faultOf_9 2 rfl rfl)
theorem dX1_faultOf_215 : decode cX1_faultOf 215 = .ok (.getfield 77, 3) := dk_180 0 77 (dk_at dksX1_faultOf_9 3 rfl rfl)
theorem dX1_faultOf_218 : decode cX1_faultOf 218 = .ok (.iload 5, 2) := dk_21 5 (dk_at dksX1_faultOf_9 6 rfl rfl)
theorem dX1_faultOf_220 : decode cX1_faultOf 220 = .ok (.iaload, 1) := dk_46 (dk_at dksX1_faultOf_9 8 rfl rfl)
theorem dX1_faultOf_221 : decode cX1_faultOf 221 = .ok (.i2l, 1) := dk_133 (dk_at dksX1_faultOf_9 9 rfl rfl)
theorem dX1_faultOf_222 : decode cX1_faultOf 222 = .ok (.aload_n 0, 1) := dk_42 (dk_at dksX1_faultOf_9 10 rfl rfl)
theorem dX1_faultOf_223 : decode cX1_faultOf 223 = .ok (.getfield 71, 3) := dk_180 0 71 (dk_at dksX1_faultOf_9 11 rfl rfl)
theorem dX1_faultOf_226 : decode cX1_faultOf 226 = .ok (.iload 5, 2) := dk_21 5 (dk_at dksX1_faultOf_9 14 rfl rfl)
theorem dX1_faultOf_228 : decode cX1_faultOf 228 = .ok (.iaload, 1) := dk_46 (dk_at dksX1_faultOf_9 16 rfl rfl)
theorem dX1_faultOf_229 : decode cX1_faultOf 229 = .ok (.i2l, 1) := dk_133 (dk_at dksX1_faultOf_9 17 rfl rfl)
theorem dX1_faultOf_230 : decode cX1_faultOf 230 = .ok (.invokestatic 187, 3) := dk_184 0 187 (dk_at dksX1_faultOf_9 18 rfl rfl)
theorem dX1_faultOf_233 : decode cX1_faultOf 233 = .ok (.ifCond .ne 6, 3) := dk_154 0 6 (dk_at dksX1_faultOf_9 21 rfl rfl)
theorem dX1_faultOf_236 : decode cX1_faultOf 236 = .ok (.bipush 6, 2) := dk_16 6 (dk_at dksX1_faultOf_10 0 rfl rfl)
theorem dX1_faultOf_238 : decode cX1_faultOf 238 = .ok (.ireturn, 1) := dk_172 (dk_at dksX1_faultOf_10 2 rfl rfl)
theorem dX1_faultOf_239 : decode cX1_faultOf 239 = .ok (.iinc 5 1, 3) := dk_132 5 1 (dk_at dksX1_faultOf_10 3 rfl rfl)
theorem dX1_faultOf_242 : decode cX1_faultOf 242 = .ok (.goto (-44), 3) := dk_167 255 212 (dk_at dksX1_faultOf_10 6 rfl rfl)
theorem dX1_faultOf_245 : decode cX1_faultOf 245 = .ok (.iload_n 3, 1) := dk_29 (dk_at dksX1_faultOf_10 9 rfl rfl)
theorem dX1_faultOf_246 : decode cX1_faultOf 246 = .ok (.invokestatic 190, 3) := dk_184 0 190 (dk_at dksX1_faultOf_10 10 rfl rfl)
theorem dX1_faultOf_249 : decode cX1_faultOf 249 = .ok (.ifCond .eq 25, 3) := dk_153 0 25 (dk_at dksX1_faultOf_10 13 rfl rfl)
theorem dX1_faultOf_252 : decode cX1_faultOf 252 = .ok (.aload_n 0, 1) := dk_42 (dk_at dksX1_faultOf_10 16 rfl rfl)
theorem dX1_faultOf_253 : decode cX1_faultOf 253 = .ok (.iload_n 1, 1) := dk_27 (dk_at dksX1_faultOf_10 17 rfl rfl)
theorem dX1_faultOf_254 : decode cX1_faultOf 254 = .ok (.aload_n 0, 1) := dk_42 (dk_at dksX1_faultOf_10 18 rfl rfl)
theorem dX1_faultOf_255 : decode cX1_faultOf 255 = .ok (.getfield 59, 3) := dk_180 0 59 (dk_at dksX1_faultOf_10 19 rfl rfl)
theorem dX1_faultOf_258 : decode cX1_faultOf 258 = .ok (.iload_n 1, 1) := dk_27 (dk_at dksX1_faultOf_10 22 rfl rfl)
theorem dX1_faultOf_259 : decode cX1_faultOf 259 = .ok (.iaload, 1) := dk_46 (dk_at dksX1_faultOf_10 23 rfl rfl)
theorem dX1_faultOf_260 : decode cX1_faultOf 260 = .ok (.i2l, 1) := dk_133 (dk_at dksX1_faultOf_11 0 rfl rfl)
theorem dX1_faultOf_261 : decode cX1_faultOf 261 = .ok (.aload_n 0, 1) := dk_42 (dk_at dksX1_faultOf_11 1 rfl rfl)
theorem dX1_faultOf_262 : decode cX1_faultOf 262 = .ok (.getfield 62, 3) := dk_180 0 62 (dk_at dksX1_faultOf_11 2 rfl rfl)
theorem dX1_faultOf_265 : decode cX1_faultOf 265 = .ok (.iload_n 1, 1) := dk_27 (dk_at dksX1_faultOf_11 5 rfl rfl)
theorem dX1_faultOf_266 : decode cX1_faultOf 266 = .ok (.iaload, 1) := dk_46 (dk_at dksX1_faultOf_11 6 rfl rfl)
theorem dX1_faultOf_267 : decode cX1_faultOf 267 = .ok (.i2l, 1) := dk_133 (dk_at dksX1_faultOf_11 7 rfl rfl)
theorem dX1_faultOf_268 : decode cX1_faultOf 268 = .ok (.invokevirtual 193, 3) := dk_182 0 193 (dk_at dksX1_faultOf_11 8 rfl rfl)
theorem dX1_faultOf_271 : decode cX1_faultOf 271 = .ok (.goto 4, 3) := dk_167 0 4 (dk_at dksX1_faultOf_11 11 rfl rfl)
theorem dX1_faultOf_274 : decode cX1_faultOf 274 = .ok (.iconst 0, 1) := dk_3 (dk_at dksX1_faultOf_11 14 rfl rfl)
theorem dX1_faultOf_275 : decode cX1_faultOf 275 = .ok (.ireturn, 1) := dk_172 (dk_at dksX1_faultOf_11 15 rfl rfl)
abbrev cX1_isPrime : ByteArray := prog_17_method_6_code
def yX1_isPrime : MethodName := ⟨RX1, "isPrime", "(J)Z"⟩
def dkwX1_isPrime_1 : List UInt8 := [113, 9, 148, 154, 0, 5, 3, 172, 32, 10, 97, 65, 167, 255, 234, 4, 172]
abbrev dktX1_isPrime_1 : List UInt8 := dkwX1_isPrime_1 ++ []
def dkwX1_isPrime_0 : List UInt8 := [30, 20, 0, 7, 148, 156, 0, 5, 3, 172, 20, 0, 7, 65, 32, 32, 105, 30, 148, 157, 0, 20, 30, 32]
abbrev dktX1_isPrime_0 : List UInt8 := dkwX1_isPrime_0 ++ dktX1_isPrime_1
theorem dksX1_isPrime_0 : cX1_isPrime.data.toList.drop 0 = dktX1_isPrime_0 := by decide +kernel
theorem dksX1_isPrime_1 : cX1_isPrime.data.toList.drop 24 = dktX1_isPrime_1 := dk_seg dksX1_isPrime_0 24 rfl rfl
theorem dX1_isPrime_0 : decode cX1_isPrime 0 = .ok (.lload_n 0, 1) := dk_30 (dk_at dksX1_isPrime_0 0 rfl rfl)
theorem dX1_isPrime_1 : decode cX1_isPrime 1 = .ok (.ldc2_w 7, 3) := dk_20 0 7 (dk_at dksX1_isPrime_0 1 rfl rfl)
theorem dX1_isPrime_4 : decode cX1_isPrime 4 = .ok (.lcmp, 1) := dk_148 (dk_at dksX1_isPrime_0 4 rfl rfl)
theorem dX1_isPrime_5 : decode cX1_isPrime 5 = .ok (.ifCond .ge 5, 3) := dk_156 0 5 (dk_at dksX1_isPrime_0 5 rfl rfl)
theorem dX1_isPrime_8 : decode cX1_isPrime 8 = .ok (.iconst 0, 1) := dk_3 (dk_at dksX1_isPrime_0 8 rfl rfl)
theorem dX1_isPrime_9 : decode cX1_isPrime 9 = .ok (.ireturn, 1) := dk_172 (dk_at dksX1_isPrime_0 9 rfl rfl)
theorem dX1_isPrime_10 : decode cX1_isPrime 10 = .ok (.ldc2_w 7, 3) := dk_20 0 7 (dk_at dksX1_isPrime_0 10 rfl rfl)
theorem dX1_isPrime_13 : decode cX1_isPrime 13 = .ok (.lstore_n 2, 1) := dk_65 (dk_at dksX1_isPrime_0 13 rfl rfl)
theorem dX1_isPrime_14 : decode cX1_isPrime 14 = .ok (.lload_n 2, 1) := dk_32 (dk_at dksX1_isPrime_0 14 rfl rfl)
theorem dX1_isPrime_15 : decode cX1_isPrime 15 = .ok (.lload_n 2, 1) := dk_32 (dk_at dksX1_isPrime_0 15 rfl rfl)
theorem dX1_isPrime_16 : decode cX1_isPrime 16 = .ok (.lmul, 1) := dk_105 (dk_at dksX1_isPrime_0 16 rfl rfl)
theorem dX1_isPrime_17 : decode cX1_isPrime 17 = .ok (.lload_n 0, 1) := dk_30 (dk_at dksX1_isPrime_0 17 rfl rfl)
theorem dX1_isPrime_18 : decode cX1_isPrime 18 = .ok (.lcmp, 1) := dk_148 (dk_at dksX1_isPrime_0 18 rfl rfl)
theorem dX1_isPrime_19 : decode cX1_isPrime 19 = .ok (.ifCond .gt 20, 3) := dk_157 0 20 (dk_at dksX1_isPrime_0 19 rfl rfl)
theorem dX1_isPrime_22 : decode cX1_isPrime 22 = .ok (.lload_n 0, 1) := dk_30 (dk_at dksX1_isPrime_0 22 rfl rfl)
theorem dX1_isPrime_23 : decode cX1_isPrime 23 = .ok (.lload_n 2, 1) := dk_32 (dk_at dksX1_isPrime_0 23 rfl rfl)
theorem dX1_isPrime_24 : decode cX1_isPrime 24 = .ok (.lrem, 1) := dk_113 (dk_at dksX1_isPrime_1 0 rfl rfl)
theorem dX1_isPrime_25 : decode cX1_isPrime 25 = .ok (.lconst 0, 1) := dk_9 (dk_at dksX1_isPrime_1 1 rfl rfl)
theorem dX1_isPrime_26 : decode cX1_isPrime 26 = .ok (.lcmp, 1) := dk_148 (dk_at dksX1_isPrime_1 2 rfl rfl)
theorem dX1_isPrime_27 : decode cX1_isPrime 27 = .ok (.ifCond .ne 5, 3) := dk_154 0 5 (dk_at dksX1_isPrime_1 3 rfl rfl)
theorem dX1_isPrime_30 : decode cX1_isPrime 30 = .ok (.iconst 0, 1) := dk_3 (dk_at dksX1_isPrime_1 6 rfl rfl)
theorem dX1_isPrime_31 : decode cX1_isPrime 31 = .ok (.ireturn, 1) := dk_172 (dk_at dksX1_isPrime_1 7 rfl rfl)
theorem dX1_isPrime_32 : decode cX1_isPrime 32 = .ok (.lload_n 2, 1) := dk_32 (dk_at dksX1_isPrime_1 8 rfl rfl)
theorem dX1_isPrime_33 : decode cX1_isPrime 33 = .ok (.lconst 1, 1) := dk_10 (dk_at dksX1_isPrime_1 9 rfl rfl)
theorem dX1_isPrime_34 : decode cX1_isPrime 34 = .ok (.ladd, 1) := dk_97 (dk_at dksX1_isPrime_1 10 rfl rfl)
theorem dX1_isPrime_35 : decode cX1_isPrime 35 = .ok (.lstore_n 2, 1) := dk_65 (dk_at dksX1_isPrime_1 11 rfl rfl)
theorem dX1_isPrime_36 : decode cX1_isPrime 36 = .ok (.goto (-22), 3) := dk_167 255 234 (dk_at dksX1_isPrime_1 12 rfl rfl)
theorem dX1_isPrime_39 : decode cX1_isPrime 39 = .ok (.iconst 1, 1) := dk_4 (dk_at dksX1_isPrime_1 15 rfl rfl)
theorem dX1_isPrime_40 : decode cX1_isPrime 40 = .ok (.ireturn, 1) := dk_172 (dk_at dksX1_isPrime_1 16 rfl rfl)
abbrev cX1_areTwice : ByteArray := prog_17_method_23_code
def yX1_areTwice : MethodName := ⟨RX1, "areTwice", "([III)Z"⟩
def dkwX1_areTwice_1 : List UInt8 := [46, 160, 0, 5, 4, 172, 132, 4, 1, 167, 255, 235, 132, 3, 1, 167, 255, 219, 3, 172]
abbrev dktX1_areTwice_1 : List UInt8 := dkwX1_areTwice_1 ++ []
def dkwX1_areTwice_0 : List UInt8 := [27, 62, 29, 27, 28, 96, 162, 0, 36, 27, 54, 4, 21, 4, 29, 162, 0, 21, 42, 29, 46, 42, 21, 4]
abbrev dktX1_areTwice_0 : List UInt8 := dkwX1_areTwice_0 ++ dktX1_areTwice_1
theorem dksX1_areTwice_0 : cX1_areTwice.data.toList.drop 0 = dktX1_areTwice_0 := by decide +kernel
theorem dksX1_areTwice_1 : cX1_areTwice.data.toList.drop 24 = dktX1_areTwice_1 := dk_seg dksX1_areTwice_0 24 rfl rfl
theorem dX1_areTwice_0 : decode cX1_areTwice 0 = .ok (.iload_n 1, 1) := dk_27 (dk_at dksX1_areTwice_0 0 rfl rfl)
theorem dX1_areTwice_1 : decode cX1_areTwice 1 = .ok (.istore_n 3, 1) := dk_62 (dk_at dksX1_areTwice_0 1 rfl rfl)
theorem dX1_areTwice_2 : decode cX1_areTwice 2 = .ok (.iload_n 3, 1) := dk_29 (dk_at dksX1_areTwice_0 2 rfl rfl)
theorem dX1_areTwice_3 : decode cX1_areTwice 3 = .ok (.iload_n 1, 1) := dk_27 (dk_at dksX1_areTwice_0 3 rfl rfl)
theorem dX1_areTwice_4 : decode cX1_areTwice 4 = .ok (.iload_n 2, 1) := dk_28 (dk_at dksX1_areTwice_0 4 rfl rfl)
theorem dX1_areTwice_5 : decode cX1_areTwice 5 = .ok (.iadd, 1) := dk_96 (dk_at dksX1_areTwice_0 5 rfl rfl)
theorem dX1_areTwice_6 : decode cX1_areTwice 6 = .ok (.if_icmp .ge 36, 3) := dk_162 0 36 (dk_at dksX1_areTwice_0 6 rfl rfl)
theorem dX1_areTwice_9 : decode cX1_areTwice 9 = .ok (.iload_n 1, 1) := dk_27 (dk_at dksX1_areTwice_0 9 rfl rfl)
theorem dX1_areTwice_10 : decode cX1_areTwice 10 = .ok (.istore 4, 2) := dk_54 4 (dk_at dksX1_areTwice_0 10 rfl rfl)
theorem dX1_areTwice_12 : decode cX1_areTwice 12 = .ok (.iload 4, 2) := dk_21 4 (dk_at dksX1_areTwice_0 12 rfl rfl)
theorem dX1_areTwice_14 : decode cX1_areTwice 14 = .ok (.iload_n 3, 1) := dk_29 (dk_at dksX1_areTwice_0 14 rfl rfl)
theorem dX1_areTwice_15 : decode cX1_areTwice 15 = .ok (.if_icmp .ge 21, 3) := dk_162 0 21 (dk_at dksX1_areTwice_0 15 rfl rfl)
theorem dX1_areTwice_18 : decode cX1_areTwice 18 = .ok (.aload_n 0, 1) := dk_42 (dk_at dksX1_areTwice_0 18 rfl rfl)
theorem dX1_areTwice_19 : decode cX1_areTwice 19 = .ok (.iload_n 3, 1) := dk_29 (dk_at dksX1_areTwice_0 19 rfl rfl)
theorem dX1_areTwice_20 : decode cX1_areTwice 20 = .ok (.iaload, 1) := dk_46 (dk_at dksX1_areTwice_0 20 rfl rfl)
theorem dX1_areTwice_21 : decode cX1_areTwice 21 = .ok (.aload_n 0, 1) := dk_42 (dk_at dksX1_areTwice_0 21 rfl rfl)
theorem dX1_areTwice_22 : decode cX1_areTwice 22 = .ok (.iload 4, 2) := dk_21 4 (dk_at dksX1_areTwice_0 22 rfl rfl)
theorem dX1_areTwice_24 : decode cX1_areTwice 24 = .ok (.iaload, 1) := dk_46 (dk_at dksX1_areTwice_1 0 rfl rfl)
theorem dX1_areTwice_25 : decode cX1_areTwice 25 = .ok (.if_icmp .ne 5, 3) := dk_160 0 5 (dk_at dksX1_areTwice_1 1 rfl rfl)
theorem dX1_areTwice_28 : decode cX1_areTwice 28 = .ok (.iconst 1, 1) := dk_4 (dk_at dksX1_areTwice_1 4 rfl rfl)
theorem dX1_areTwice_29 : decode cX1_areTwice 29 = .ok (.ireturn, 1) := dk_172 (dk_at dksX1_areTwice_1 5 rfl rfl)
theorem dX1_areTwice_30 : decode cX1_areTwice 30 = .ok (.iinc 4 1, 3) := dk_132 4 1 (dk_at dksX1_areTwice_1 6 rfl rfl)
theorem dX1_areTwice_33 : decode cX1_areTwice 33 = .ok (.goto (-21), 3) := dk_167 255 235 (dk_at dksX1_areTwice_1 9 rfl rfl)
theorem dX1_areTwice_36 : decode cX1_areTwice 36 = .ok (.iinc 3 1, 3) := dk_132 3 1 (dk_at dksX1_areTwice_1 12 rfl rfl)
theorem dX1_areTwice_39 : decode cX1_areTwice 39 = .ok (.goto (-37), 3) := dk_167 255 219 (dk_at dksX1_areTwice_1 15 rfl rfl)
theorem dX1_areTwice_42 : decode cX1_areTwice 42 = .ok (.iconst 0, 1) := dk_3 (dk_at dksX1_areTwice_1 18 rfl rfl)
theorem dX1_areTwice_43 : decode cX1_areTwice 43 = .ok (.ireturn, 1) := dk_172 (dk_at dksX1_areTwice_1 19 rfl rfl)
abbrev cX1_hasAll : ByteArray := prog_17_method_24_code
def yX1_hasAll : MethodName := ⟨RX1, "hasAll", "([IIII)Z"⟩
def dkwX1_hasAll_1 : List UInt8 := [160, 0, 5, 3, 172, 132, 5, 1, 167, 255, 229, 4, 172]
abbrev dktX1_hasAll_1 : List UInt8 := dkwX1_hasAll_1 ++ []
def dkwX1_hasAll_0 : List UInt8 := [28, 54, 5, 21, 5, 28, 29, 96, 162, 0, 25, 42, 43, 21, 5, 46, 21, 4, 182, 0, 132, 2]
abbrev dktX1_hasAll_0 : List UInt8 := dkwX1_hasAll_0 ++ dktX1_hasAll_1
theorem dksX1_hasAll_0 : cX1_hasAll.data.toList.drop 0 = dktX1_hasAll_0 := by decide +kernel
theorem dksX1_hasAll_1 : cX1_hasAll.data.toList.drop 22 = dktX1_hasAll_1 := dk_seg dksX1_hasAll_0 22 rfl rfl
theorem dX1_hasAll_0 : decode cX1_hasAll 0 = .ok (.iload_n 2, 1) := dk_28 (dk_at dksX1_hasAll_0 0 rfl rfl)
theorem dX1_hasAll_1 : decode cX1_hasAll 1 = .ok (.istore 5, 2) := dk_54 5 (dk_at dksX1_hasAll_0 1 rfl rfl)
theorem dX1_hasAll_3 : decode cX1_hasAll 3 = .ok (.iload 5, 2) := dk_21 5 (dk_at dksX1_hasAll_0 3 rfl rfl)
theorem dX1_hasAll_5 : decode cX1_hasAll 5 = .ok (.iload_n 2, 1) := dk_28 (dk_at dksX1_hasAll_0 5 rfl rfl)
theorem dX1_hasAll_6 : decode cX1_hasAll 6 = .ok (.iload_n 3, 1) := dk_29 (dk_at dksX1_hasAll_0 6 rfl rfl)
theorem dX1_hasAll_7 : decode cX1_hasAll 7 = .ok (.iadd, 1) := dk_96 (dk_at dksX1_hasAll_0 7 rfl rfl)
theorem dX1_hasAll_8 : decode cX1_hasAll 8 = .ok (.if_icmp .ge 25, 3) := dk_162 0 25 (dk_at dksX1_hasAll_0 8 rfl rfl)
theorem dX1_hasAll_11 : decode cX1_hasAll 11 = .ok (.aload_n 0, 1) := dk_42 (dk_at dksX1_hasAll_0 11 rfl rfl)
theorem dX1_hasAll_12 : decode cX1_hasAll 12 = .ok (.aload_n 1, 1) := dk_43 (dk_at dksX1_hasAll_0 12 rfl rfl)
theorem dX1_hasAll_13 : decode cX1_hasAll 13 = .ok (.iload 5, 2) := dk_21 5 (dk_at dksX1_hasAll_0 13 rfl rfl)
theorem dX1_hasAll_15 : decode cX1_hasAll 15 = .ok (.iaload, 1) := dk_46 (dk_at dksX1_hasAll_0 15 rfl rfl)
theorem dX1_hasAll_16 : decode cX1_hasAll 16 = .ok (.iload 4, 2) := dk_21 4 (dk_at dksX1_hasAll_0 16 rfl rfl)
theorem dX1_hasAll_18 : decode cX1_hasAll 18 = .ok (.invokevirtual 132, 3) := dk_182 0 132 (dk_at dksX1_hasAll_0 18 rfl rfl)
theorem dX1_hasAll_21 : decode cX1_hasAll 21 = .ok (.iconst (-1), 1) := dk_2 (dk_at dksX1_hasAll_0 21 rfl rfl)
theorem dX1_hasAll_22 : decode cX1_hasAll 22 = .ok (.if_icmp .ne 5, 3) := dk_160 0 5 (dk_at dksX1_hasAll_1 0 rfl rfl)
theorem dX1_hasAll_25 : decode cX1_hasAll 25 = .ok (.iconst 0, 1) := dk_3 (dk_at dksX1_hasAll_1 3 rfl rfl)
theorem dX1_hasAll_26 : decode cX1_hasAll 26 = .ok (.ireturn, 1) := dk_172 (dk_at dksX1_hasAll_1 4 rfl rfl)
theorem dX1_hasAll_27 : decode cX1_hasAll 27 = .ok (.iinc 5 1, 3) := dk_132 5 1 (dk_at dksX1_hasAll_1 5 rfl rfl)
theorem dX1_hasAll_30 : decode cX1_hasAll 30 = .ok (.goto (-27), 3) := dk_167 255 229 (dk_at dksX1_hasAll_1 8 rfl rfl)
theorem dX1_hasAll_33 : decode cX1_hasAll 33 = .ok (.iconst 1, 1) := dk_4 (dk_at dksX1_hasAll_1 11 rfl rfl)
theorem dX1_hasAll_34 : decode cX1_hasAll 34 = .ok (.ireturn, 1) := dk_172 (dk_at dksX1_hasAll_1 12 rfl rfl)
abbrev cX1_lineFor : ByteArray := prog_17_method_22_code
def yX1_lineFor : MethodName := ⟨RX1, "lineFor", "(II)I"⟩
def dkwX1_lineFor_1 : List UInt8 := [160, 0, 5, 29, 172, 132, 3, 1, 167, 255, 227, 2, 172]
abbrev dktX1_lineFor_1 : List UInt8 := dkwX1_lineFor_1 ++ []
def dkwX1_lineFor_0 : List UInt8 := [3, 62, 29, 28, 162, 0, 30, 42, 180, 0, 86, 29, 51, 153, 0, 15, 42, 180, 0, 53, 29, 46, 27]
abbrev dktX1_lineFor_0 : List UInt8 := dkwX1_lineFor_0 ++ dktX1_lineFor_1
theorem dksX1_lineFor_0 : cX1_lineFor.data.toList.drop 0 = dktX1_lineFor_0 := by decide +kernel
theorem dksX1_lineFor_1 : cX1_lineFor.data.toList.drop 23 = dktX1_lineFor_1 := dk_seg dksX1_lineFor_0 23 rfl rfl
theorem dX1_lineFor_0 : decode cX1_lineFor 0 = .ok (.iconst 0, 1) := dk_3 (dk_at dksX1_lineFor_0 0 rfl rfl)
theorem dX1_lineFor_1 : decode cX1_lineFor 1 = .ok (.istore_n 3, 1) := dk_62 (dk_at dksX1_lineFor_0 1 rfl rfl)
theorem dX1_lineFor_2 : decode cX1_lineFor 2 = .ok (.iload_n 3, 1) := dk_29 (dk_at dksX1_lineFor_0 2 rfl rfl)
theorem dX1_lineFor_3 : decode cX1_lineFor 3 = .ok (.iload_n 2, 1) := dk_28 (dk_at dksX1_lineFor_0 3 rfl rfl)
theorem dX1_lineFor_4 : decode cX1_lineFor 4 = .ok (.if_icmp .ge 30, 3) := dk_162 0 30 (dk_at dksX1_lineFor_0 4 rfl rfl)
theorem dX1_lineFor_7 : decode cX1_lineFor 7 = .ok (.aload_n 0, 1) := dk_42 (dk_at dksX1_lineFor_0 7 rfl rfl)
theorem dX1_lineFor_8 : decode cX1_lineFor 8 = .ok (.getfield 86, 3) := dk_180 0 86 (dk_at dksX1_lineFor_0 8 rfl rfl)
theorem dX1_lineFor_11 : decode cX1_lineFor 11 = .ok (.iload_n 3, 1) := dk_29 (dk_at dksX1_lineFor_0 11 rfl rfl)
theorem dX1_lineFor_12 : decode cX1_lineFor 12 = .ok (.baload, 1) := dk_51 (dk_at dksX1_lineFor_0 12 rfl rfl)
theorem dX1_lineFor_13 : decode cX1_lineFor 13 = .ok (.ifCond .eq 15, 3) := dk_153 0 15 (dk_at dksX1_lineFor_0 13 rfl rfl)
theorem dX1_lineFor_16 : decode cX1_lineFor 16 = .ok (.aload_n 0, 1) := dk_42 (dk_at dksX1_lineFor_0 16 rfl rfl)
theorem dX1_lineFor_17 : decode cX1_lineFor 17 = .ok (.getfield 53, 3) := dk_180 0 53 (dk_at dksX1_lineFor_0 17 rfl rfl)
theorem dX1_lineFor_20 : decode cX1_lineFor 20 = .ok (.iload_n 3, 1) := dk_29 (dk_at dksX1_lineFor_0 20 rfl rfl)
theorem dX1_lineFor_21 : decode cX1_lineFor 21 = .ok (.iaload, 1) := dk_46 (dk_at dksX1_lineFor_0 21 rfl rfl)
theorem dX1_lineFor_22 : decode cX1_lineFor 22 = .ok (.iload_n 1, 1) := dk_27 (dk_at dksX1_lineFor_0 22 rfl rfl)
theorem dX1_lineFor_23 : decode cX1_lineFor 23 = .ok (.if_icmp .ne 5, 3) := dk_160 0 5 (dk_at dksX1_lineFor_1 0 rfl rfl)
theorem dX1_lineFor_26 : decode cX1_lineFor 26 = .ok (.iload_n 3, 1) := dk_29 (dk_at dksX1_lineFor_1 3 rfl rfl)
theorem dX1_lineFor_27 : decode cX1_lineFor 27 = .ok (.ireturn, 1) := dk_172 (dk_at dksX1_lineFor_1 4 rfl rfl)
theorem dX1_lineFor_28 : decode cX1_lineFor 28 = .ok (.iinc 3 1, 3) := dk_132 3 1 (dk_at dksX1_lineFor_1 5 rfl rfl)
theorem dX1_lineFor_31 : decode cX1_lineFor 31 = .ok (.goto (-29), 3) := dk_167 255 227 (dk_at dksX1_lineFor_1 8 rfl rfl)
theorem dX1_lineFor_34 : decode cX1_lineFor 34 = .ok (.iconst (-1), 1) := dk_2 (dk_at dksX1_lineFor_1 11 rfl rfl)
theorem dX1_lineFor_35 : decode cX1_lineFor 35 = .ok (.ireturn, 1) := dk_172 (dk_at dksX1_lineFor_1 12 rfl rfl)
abbrev cX1_isFit : ByteArray := prog_17_method_26_code
def yX1_isFit : MethodName := ⟨RX1, "isFit", "(I)Z"⟩
def dkwX1_isFit_6 : List UInt8 := [167, 0, 4, 3, 172]
abbrev dktX1_isFit_6 : List UInt8 := dkwX1_isFit_6 ++ []
def dkwX1_isFit_5 : List UInt8 := [32, 10, 101, 22, 4, 113, 9, 148, 154, 0, 18, 32, 10, 97, 22, 6, 113, 9, 148, 154, 0, 7, 4]
abbrev dktX1_isFit_5 : List UInt8 := dkwX1_isFit_5 ++ dktX1_isFit_6
def dkwX1_isFit_4 : List UInt8 := [154, 0, 7, 4, 167, 0, 4, 3, 172, 22, 6, 32, 10, 97, 148, 154, 0, 7, 4, 167, 0, 4, 3, 172]
abbrev dktX1_isFit_4 : List UInt8 := dkwX1_isFit_4 ++ dktX1_isFit_5
def dkwX1_isFit_3 : List UInt8 := [22, 4, 32, 10, 101, 148, 154, 0, 7, 4, 167, 0, 4, 3, 172, 32, 10, 101, 22, 4, 113, 9, 148]
abbrev dktX1_isFit_3 : List UInt8 := dkwX1_isFit_3 ++ dktX1_isFit_4
def dkwX1_isFit_2 : List UInt8 := [170, 0, 0, 0, 0, 0, 0, 75, 0, 0, 0, 1, 0, 0, 0, 3, 0, 0, 0, 28, 0, 0, 0, 43, 0, 0, 0, 60]
abbrev dktX1_isFit_2 : List UInt8 := dkwX1_isFit_2 ++ dktX1_isFit_3
def dkwX1_isFit_1 : List UInt8 := [180, 0, 56, 27, 46]
abbrev dktX1_isFit_1 : List UInt8 := dkwX1_isFit_1 ++ dktX1_isFit_2
def dkwX1_isFit_0 : List UInt8 := [42, 180, 0, 53, 27, 46, 133, 65, 42, 27, 182, 0, 142, 55, 4, 42, 27, 182, 0, 146, 55, 6, 42]
abbrev dktX1_isFit_0 : List UInt8 := dkwX1_isFit_0 ++ dktX1_isFit_1
theorem dksX1_isFit_0 : cX1_isFit.data.toList.drop 0 = dktX1_isFit_0 := by decide +kernel
theorem dksX1_isFit_1 : cX1_isFit.data.toList.drop 23 = dktX1_isFit_1 := dk_seg dksX1_isFit_0 23 rfl rfl
theorem dksX1_isFit_2 : cX1_isFit.data.toList.drop 28 = dktX1_isFit_2 := dk_seg dksX1_isFit_1 5 rfl rfl
theorem dksX1_isFit_3 : cX1_isFit.data.toList.drop 56 = dktX1_isFit_3 := dk_seg dksX1_isFit_2 28 rfl rfl
theorem dksX1_isFit_4 : cX1_isFit.data.toList.drop 79 = dktX1_isFit_4 := dk_seg dksX1_isFit_3 23 rfl rfl
theorem dksX1_isFit_5 : cX1_isFit.data.toList.drop 103 = dktX1_isFit_5 := dk_seg dksX1_isFit_4 24 rfl rfl
theorem dksX1_isFit_6 : cX1_isFit.data.toList.drop 126 = dktX1_isFit_6 := dk_seg dksX1_isFit_5 23 rfl rfl
theorem dX1_isFit_0 : decode cX1_isFit 0 = .ok (.aload_n 0, 1) := dk_42 (dk_at dksX1_isFit_0 0 rfl rfl)
theorem dX1_isFit_1 : decode cX1_isFit 1 = .ok (.getfield 53, 3) := dk_180 0 53 (dk_at dksX1_isFit_0 1 rfl rfl)
theorem dX1_isFit_4 : decode cX1_isFit 4 = .ok (.iload_n 1, 1) := dk_27 (dk_at dksX1_isFit_0 4 rfl rfl)
theorem dX1_isFit_5 : decode cX1_isFit 5 = .ok (.iaload, 1) := dk_46 (dk_at dksX1_isFit_0 5 rfl rfl)
theorem dX1_isFit_6 : decode cX1_isFit 6 = .ok (.i2l, 1) := dk_133 (dk_at dksX1_isFit_0 6 rfl rfl)
theorem dX1_isFit_7 : decode cX1_isFit 7 = .ok (.lstore_n 2, 1) := dk_65 (dk_at dksX1_isFit_0 7 rfl rfl)
theorem dX1_isFit_8 : decode cX1_isFit 8 = .ok (.aload_n 0, 1) := dk_42 (dk_at dksX1_isFit_0 8 rfl rfl)
theorem dX1_isFit_9 : decode cX1_isFit 9 = .ok (.iload_n 1, 1) := dk_27 (dk_at dksX1_isFit_0 9 rfl rfl)
theorem dX1_isFit_10 : decode cX1_isFit 10 = .ok (.invokevirtual 142, 3) := dk_182 0 142 (dk_at dksX1_isFit_0 10 rfl rfl)
theorem dX1_isFit_13 : decode cX1_isFit 13 = .ok (.lstore 4, 2) := dk_55 4 (dk_at dksX1_isFit_0 13 rfl rfl)
theorem dX1_isFit_15 : decode cX1_isFit 15 = .ok (.aload_n 0, 1) := dk_42 (dk_at dksX1_isFit_0 15 rfl rfl)
theorem dX1_isFit_16 : decode cX1_isFit 16 = .ok (.iload_n 1, 1) := dk_27 (dk_at dksX1_isFit_0 16 rfl rfl)
theorem dX1_isFit_17 : decode cX1_isFit 17 = .ok (.invokevirtual 146, 3) := dk_182 0 146 (dk_at dksX1_isFit_0 17 rfl rfl)
theorem dX1_isFit_20 : decode cX1_isFit 20 = .ok (.lstore 6, 2) := dk_55 6 (dk_at dksX1_isFit_0 20 rfl rfl)
theorem dX1_isFit_22 : decode cX1_isFit 22 = .ok (.aload_n 0, 1) := dk_42 (dk_at dksX1_isFit_0 22 rfl rfl)
theorem dX1_isFit_23 : decode cX1_isFit 23 = .ok (.getfield 56, 3) := dk_180 0 56 (dk_at dksX1_isFit_1 0 rfl rfl)
theorem dX1_isFit_26 : decode cX1_isFit 26 = .ok (.iload_n 1, 1) := dk_27 (dk_at dksX1_isFit_1 3 rfl rfl)
theorem dX1_isFit_27 : decode cX1_isFit 27 = .ok (.iaload, 1) := dk_46 (dk_at dksX1_isFit_1 4 rfl rfl)
theorem dX1_isFit_28 : decode cX1_isFit 28 = .ok (.tableswitch 75 1 3 #[28, 43, 60], 28) := by decide +kernel
theorem dX1_isFit_56 : decode cX1_isFit 56 = .ok (.lload 4, 2) := dk_22 4 (dk_at dksX1_isFit_3 0 rfl rfl)
theorem dX1_isFit_58 : decode cX1_isFit 58 = .ok (.lload_n 2, 1) := dk_32 (dk_at dksX1_isFit_3 2 rfl rfl)
theorem dX1_isFit_59 : decode cX1_isFit 59 = .ok (.lconst 1, 1) := dk_10 (dk_at dksX1_isFit_3 3 rfl rfl)
theorem dX1_isFit_60 : decode cX1_isFit 60 = .ok (.lsub, 1) := dk_101 (dk_at dksX1_isFit_3 4 rfl rfl)
theorem dX1_isFit_61 : decode cX1_isFit 61 = .ok (.lcmp, 1) := dk_148 (dk_at dksX1_isFit_3 5 rfl rfl)
theorem dX1_isFit_62 : decode cX1_isFit 62 = .ok (.ifCond .ne 7, 3) := dk_154 0 7 (dk_at dksX1_isFit_3 6 rfl rfl)
theorem dX1_isFit_65 : decode cX1_isFit 65 = .ok (.iconst 1, 1) := dk_4 (dk_at dksX1_isFit_3 9 rfl rfl)
theorem dX1_isFit_66 : decode cX1_isFit 66 = .ok (.goto 4, 3) := dk_167 0 4 (dk_at dksX1_isFit_3 10 rfl rfl)
theorem dX1_isFit_69 : decode cX1_isFit 69 = .ok (.iconst 0, 1) := dk_3 (dk_at dksX1_isFit_3 13 rfl rfl)
theorem dX1_isFit_70 : decode cX1_isFit 70 = .ok (.ireturn, 1) := dk_172 (dk_at dksX1_isFit_3 14 rfl rfl)
theorem dX1_isFit_71 : decode cX1_isFit 71 = .ok (.lload_n 2, 1) := dk_32 (dk_at dksX1_isFit_3 15 rfl rfl)
theorem dX1_isFit_72 : decode cX1_isFit 72 = .ok (.lconst 1, 1) := dk_10 (dk_at dksX1_isFit_3 16 rfl rfl)
theorem dX1_isFit_73 : decode cX1_isFit 73 = .ok (.lsub, 1) := dk_101 (dk_at dksX1_isFit_3 17 rfl rfl)
theorem dX1_isFit_74 : decode cX1_isFit 74 = .ok (.lload 4, 2) := dk_22 4 (dk_at dksX1_isFit_3 18 rfl rfl)
theorem dX1_isFit_76 : decode cX1_isFit 76 = .ok (.lrem, 1) := dk_113 (dk_at dksX1_isFit_3 20 rfl rfl)
theorem dX1_isFit_77 : decode cX1_isFit 77 = .ok (.lconst 0, 1) := dk_9 (dk_at dksX1_isFit_3 21 rfl rfl)
theorem dX1_isFit_78 : decode cX1_isFit 78 = .ok (.lcmp, 1) := dk_148 (dk_at dksX1_isFit_3 22 rfl rfl)
theorem dX1_isFit_79 : decode cX1_isFit 79 = .ok (.ifCond .ne 7, 3) := dk_154 0 7 (dk_at dksX1_isFit_4 0 rfl rfl)
theorem dX1_isFit_82 : decode cX1_isFit 82 = .ok (.iconst 1, 1) := dk_4 (dk_at dksX1_isFit_4 3 rfl rfl)
theorem dX1_isFit_83 : decode cX1_isFit 83 = .ok (.goto 4, 3) := dk_167 0 4 (dk_at dksX1_isFit_4 4 rfl rfl)
theorem dX1_isFit_86 : decode cX1_isFit 86 = .ok (.iconst 0, 1) := dk_3 (dk_at dksX1_isFit_4 7 rfl rfl)
theorem dX1_isFit_87 : decode cX1_isFit 87 = .ok (.ireturn, 1) := dk_172 (dk_at dksX1_isFit_4 8 rfl rfl)
theorem dX1_isFit_88 : decode cX1_isFit 88 = .ok (.lload 6, 2) := dk_22 6 (dk_at dksX1_isFit_4 9 rfl rfl)
theorem dX1_isFit_90 : decode cX1_isFit 90 = .ok (.lload_n 2, 1) := dk_32 (dk_at dksX1_isFit_4 11 rfl rfl)
theorem dX1_isFit_91 : decode cX1_isFit 91 = .ok (.lconst 1, 1) := dk_10 (dk_at dksX1_isFit_4 12 rfl rfl)
theorem dX1_isFit_92 : decode cX1_isFit 92 = .ok (.ladd, 1) := dk_97 (dk_at dksX1_isFit_4 13 rfl rfl)
theorem dX1_isFit_93 : decode cX1_isFit 93 = .ok (.lcmp, 1) := dk_148 (dk_at dksX1_isFit_4 14 rfl rfl)
theorem dX1_isFit_94 : decode cX1_isFit 94 = .ok (.ifCond .ne 7, 3) := dk_154 0 7 (dk_at dksX1_isFit_4 15 rfl rfl)
theorem dX1_isFit_97 : decode cX1_isFit 97 = .ok (.iconst 1, 1) := dk_4 (dk_at dksX1_isFit_4 18 rfl rfl)
theorem dX1_isFit_98 : decode cX1_isFit 98 = .ok (.goto 4, 3) := dk_167 0 4 (dk_at dksX1_isFit_4 19 rfl rfl)
theorem dX1_isFit_101 : decode cX1_isFit 101 = .ok (.iconst 0, 1) := dk_3 (dk_at dksX1_isFit_4 22 rfl rfl)
theorem dX1_isFit_102 : decode cX1_isFit 102 = .ok (.ireturn, 1) := dk_172 (dk_at dksX1_isFit_4 23 rfl rfl)
theorem dX1_isFit_103 : decode cX1_isFit 103 = .ok (.lload_n 2, 1) := dk_32 (dk_at dksX1_isFit_5 0 rfl rfl)
theorem dX1_isFit_104 : decode cX1_isFit 104 = .ok (.lconst 1, 1) := dk_10 (dk_at dksX1_isFit_5 1 rfl rfl)
theorem dX1_isFit_105 : decode cX1_isFit 105 = .ok (.lsub, 1) := dk_101 (dk_at dksX1_isFit_5 2 rfl rfl)
theorem dX1_isFit_106 : decode cX1_isFit 106 = .ok (.lload 4, 2) := dk_22 4 (dk_at dksX1_isFit_5 3 rfl rfl)
theorem dX1_isFit_108 : decode cX1_isFit 108 = .ok (.lrem, 1) := dk_113 (dk_at dksX1_isFit_5 5 rfl rfl)
theorem dX1_isFit_109 : decode cX1_isFit 109 = .ok (.lconst 0, 1) := dk_9 (dk_at dksX1_isFit_5 6 rfl rfl)
theorem dX1_isFit_110 : decode cX1_isFit 110 = .ok (.lcmp, 1) := dk_148 (dk_at dksX1_isFit_5 7 rfl rfl)
theorem dX1_isFit_111 : decode cX1_isFit 111 = .ok (.ifCond .ne 18, 3) := dk_154 0 18 (dk_at dksX1_isFit_5 8 rfl rfl)
theorem dX1_isFit_114 : decode cX1_isFit 114 = .ok (.lload_n 2, 1) := dk_32 (dk_at dksX1_isFit_5 11 rfl rfl)
theorem dX1_isFit_115 : decode cX1_isFit 115 = .ok (.lconst 1, 1) := dk_10 (dk_at dksX1_isFit_5 12 rfl rfl)
theorem dX1_isFit_116 : decode cX1_isFit 116 = .ok (.ladd, 1) := dk_97 (dk_at dksX1_isFit_5 13 rfl rfl)
theorem dX1_isFit_117 : decode cX1_isFit 117 = .ok (.lload 6, 2) := dk_22 6 (dk_at dksX1_isFit_5 14 rfl rfl)
theorem dX1_isFit_119 : decode cX1_isFit 119 = .ok (.lrem, 1) := dk_113 (dk_at dksX1_isFit_5 16 rfl rfl)
theorem dX1_isFit_120 : decode cX1_isFit 120 = .ok (.lconst 0, 1) := dk_9 (dk_at dksX1_isFit_5 17 rfl rfl)
theorem dX1_isFit_121 : decode cX1_isFit 121 = .ok (.lcmp, 1) := dk_148 (dk_at dksX1_isFit_5 18 rfl rfl)
theorem dX1_isFit_122 : decode cX1_isFit 122 = .ok (.ifCond .ne 7, 3) := dk_154 0 7 (dk_at dksX1_isFit_5 19 rfl rfl)
theorem dX1_isFit_125 : decode cX1_isFit 125 = .ok (.iconst 1, 1) := dk_4 (dk_at dksX1_isFit_5 22 rfl rfl)
theorem dX1_isFit_126 : decode cX1_isFit 126 = .ok (.goto 4, 3) := dk_167 0 4 (dk_at dksX1_isFit_6 0 rfl rfl)
theorem dX1_isFit_129 : decode cX1_isFit 129 = .ok (.iconst 0, 1) := dk_3 (dk_at dksX1_isFit_6 3 rfl rfl)
theorem dX1_isFit_130 : decode cX1_isFit 130 = .ok (.ireturn, 1) := dk_172 (dk_at dksX1_isFit_6 4 rfl rfl)
abbrev cX1_below : ByteArray := prog_17_method_20_code
def yX1_below : MethodName := ⟨RX1, "below", "(I)J"⟩
def dkwX1_below_0 : List UInt8 := [42, 42, 180, 0, 71, 42, 180, 0, 74, 16, 9, 27, 104, 42, 180, 0, 65, 27, 46, 182, 0, 128, 173]
abbrev dktX1_below_0 : List UInt8 := dkwX1_below_0 ++ []
theorem dksX1_below_0 : cX1_below.data.toList.drop 0 = dktX1_below_0 := by decide +kernel
theorem dX1_below_0 : decode cX1_below 0 = .ok (.aload_n 0, 1) := dk_42 (dk_at dksX1_below_0 0 rfl rfl)
theorem dX1_below_1 : decode cX1_below 1 = .ok (.aload_n 0, 1) := dk_42 (dk_at dksX1_below_0 1 rfl rfl)
theorem dX1_below_2 : decode cX1_below 2 = .ok (.getfield 71, 3) := dk_180 0 71 (dk_at dksX1_below_0 2 rfl rfl)
theorem dX1_below_5 : decode cX1_below 5 = .ok (.aload_n 0, 1) := dk_42 (dk_at dksX1_below_0 5 rfl rfl)
theorem dX1_below_6 : decode cX1_below 6 = .ok (.getfield 74, 3) := dk_180 0 74 (dk_at dksX1_below_0 6 rfl rfl)
theorem dX1_below_9 : decode cX1_below 9 = .ok (.bipush 9, 2) := dk_16 9 (dk_at dksX1_below_0 9 rfl rfl)
theorem dX1_below_11 : decode cX1_below 11 = .ok (.iload_n 1, 1) := dk_27 (dk_at dksX1_below_0 11 rfl rfl)
theorem dX1_below_12 : decode cX1_below 12 = .ok (.imul, 1) := dk_104 (dk_at dksX1_below_0 12 rfl rfl)
theorem dX1_below_13 : decode cX1_below 13 = .ok (.aload_n 0, 1) := dk_42 (dk_at dksX1_below_0 13 rfl rfl)
theorem dX1_below_14 : decode cX1_below 14 = .ok (.getfield 65, 3) := dk_180 0 65 (dk_at dksX1_below_0 14 rfl rfl)
theorem dX1_below_17 : decode cX1_below 17 = .ok (.iload_n 1, 1) := dk_27 (dk_at dksX1_below_0 17 rfl rfl)
theorem dX1_below_18 : decode cX1_below 18 = .ok (.iaload, 1) := dk_46 (dk_at dksX1_below_0 18 rfl rfl)
theorem dX1_below_19 : decode cX1_below 19 = .ok (.invokevirtual 128, 3) := dk_182 0 128 (dk_at dksX1_below_0 19 rfl rfl)
theorem dX1_below_22 : decode cX1_below 22 = .ok (.lreturn, 1) := dk_173 (dk_at dksX1_below_0 22 rfl rfl)
abbrev cX1_product : ByteArray := prog_17_method_19_code
def yX1_product : MethodName := ⟨RX1, "product", "([I[III)J"⟩
def dkwX1_product_3 : List UInt8 := [173]
abbrev dktX1_product_3 : List UInt8 := dkwX1_product_3 ++ []
def dkwX1_product_2 : List UInt8 := [22, 5, 43, 21, 7, 46, 133, 105, 55, 5, 132, 8, 1, 167, 255, 213, 132, 7, 1, 167, 255, 195, 22, 5]
abbrev dktX1_product_2 : List UInt8 := dkwX1_product_2 ++ dktX1_product_3
def dkwX1_product_1 : List UInt8 := [162, 0, 40, 22, 5, 20, 0, 126, 43, 21, 7, 46, 133, 109, 148, 158, 0, 9, 20, 0, 126, 167, 0, 11]
abbrev dktX1_product_1 : List UInt8 := dkwX1_product_1 ++ dktX1_product_2
def dkwX1_product_0 : List UInt8 := [10, 55, 5, 29, 54, 7, 21, 7, 29, 21, 4, 96, 162, 0, 58, 3, 54, 8, 21, 8, 44, 21, 7, 46]
abbrev dktX1_product_0 : List UInt8 := dkwX1_product_0 ++ dktX1_product_1
theorem dksX1_product_0 : cX1_product.data.toList.drop 0 = dktX1_product_0 := by decide +kernel
theorem dksX1_product_1 : cX1_product.data.toList.drop 24 = dktX1_product_1 := dk_seg dksX1_product_0 24 rfl rfl
theorem dksX1_product_2 : cX1_product.data.toList.drop 48 = dktX1_product_2 := dk_seg dksX1_product_1 24 rfl rfl
theorem dksX1_product_3 : cX1_product.data.toList.drop 72 = dktX1_product_3 := dk_seg dksX1_product_2 24 rfl rfl
theorem dX1_product_0 : decode cX1_product 0 = .ok (.lconst 1, 1) := dk_10 (dk_at dksX1_product_0 0 rfl rfl)
theorem dX1_product_1 : decode cX1_product 1 = .ok (.lstore 5, 2) := dk_55 5 (dk_at dksX1_product_0 1 rfl rfl)
theorem dX1_product_3 : decode cX1_product 3 = .ok (.iload_n 3, 1) := dk_29 (dk_at dksX1_product_0 3 rfl rfl)
theorem dX1_product_4 : decode cX1_product 4 = .ok (.istore 7, 2) := dk_54 7 (dk_at dksX1_product_0 4 rfl rfl)
theorem dX1_product_6 : decode cX1_product 6 = .ok (.iload 7, 2) := dk_21 7 (dk_at dksX1_product_0 6 rfl rfl)
theorem dX1_product_8 : decode cX1_product 8 = .ok (.iload_n 3, 1) := dk_29 (dk_at dksX1_product_0 8 rfl rfl)
theorem dX1_product_9 : decode cX1_product 9 = .ok (.iload 4, 2) := dk_21 4 (dk_at dksX1_product_0 9 rfl rfl)
theorem dX1_product_11 : decode cX1_product 11 = .ok (.iadd, 1) := dk_96 (dk_at dksX1_product_0 11 rfl rfl)
theorem dX1_product_12 : decode cX1_product 12 = .ok (.if_icmp .ge 58, 3) := dk_162 0 58 (dk_at dksX1_product_0 12 rfl rfl)
theorem dX1_product_15 : decode cX1_product 15 = .ok (.iconst 0, 1) := dk_3 (dk_at dksX1_product_0 15 rfl rfl)
theorem dX1_product_16 : decode cX1_product 16 = .ok (.istore 8, 2) := dk_54 8 (dk_at dksX1_product_0 16 rfl rfl)
theorem dX1_product_18 : decode cX1_product 18 = .ok (.iload 8, 2) := dk_21 8 (dk_at dksX1_product_0 18 rfl rfl)
theorem dX1_product_20 : decode cX1_product 20 = .ok (.aload_n 2, 1) := dk_44 (dk_at dksX1_product_0 20 rfl rfl)
theorem dX1_product_21 : decode cX1_product 21 = .ok (.iload 7, 2) := dk_21 7 (dk_at dksX1_product_0 21 rfl rfl)
theorem dX1_product_23 : decode cX1_product 23 = .ok (.iaload, 1) := dk_46 (dk_at dksX1_product_0 23 rfl rfl)
theorem dX1_product_24 : decode cX1_product 24 = .ok (.if_icmp .ge 40, 3) := dk_162 0 40 (dk_at dksX1_product_1 0 rfl rfl)
theorem dX1_product_27 : decode cX1_product 27 = .ok (.lload 5, 2) := dk_22 5 (dk_at dksX1_product_1 3 rfl rfl)
theorem dX1_product_29 : decode cX1_product 29 = .ok (.ldc2_w 126, 3) := dk_20 0 126 (dk_at dksX1_product_1 5 rfl rfl)
theorem dX1_product_32 : decode cX1_product 32 = .ok (.aload_n 1, 1) := dk_43 (dk_at dksX1_product_1 8 rfl rfl)
theorem dX1_product_33 : decode cX1_product 33 = .ok (.iload 7, 2) := dk_21 7 (dk_at dksX1_product_1 9 rfl rfl)
theorem dX1_product_35 : decode cX1_product 35 = .ok (.iaload, 1) := dk_46 (dk_at dksX1_product_1 11 rfl rfl)
theorem dX1_product_36 : decode cX1_product 36 = .ok (.i2l, 1) := dk_133 (dk_at dksX1_product_1 12 rfl rfl)
theorem dX1_product_37 : decode cX1_product 37 = .ok (.ldiv, 1) := dk_109 (dk_at dksX1_product_1 13 rfl rfl)
theorem dX1_product_38 : decode cX1_product 38 = .ok (.lcmp, 1) := dk_148 (dk_at dksX1_product_1 14 rfl rfl)
theorem dX1_product_39 : decode cX1_product 39 = .ok (.ifCond .le 9, 3) := dk_158 0 9 (dk_at dksX1_product_1 15 rfl rfl)
theorem dX1_product_42 : decode cX1_product 42 = .ok (.ldc2_w 126, 3) := dk_20 0 126 (dk_at dksX1_product_1 18 rfl rfl)
theorem dX1_product_45 : decode cX1_product 45 = .ok (.goto 11, 3) := dk_167 0 11 (dk_at dksX1_product_1 21 rfl rfl)
theorem dX1_product_48 : decode cX1_product 48 = .ok (.lload 5, 2) := dk_22 5 (dk_at dksX1_product_2 0 rfl rfl)
theorem dX1_product_50 : decode cX1_product 50 = .ok (.aload_n 1, 1) := dk_43 (dk_at dksX1_product_2 2 rfl rfl)
theorem dX1_product_51 : decode cX1_product 51 = .ok (.iload 7, 2) := dk_21 7 (dk_at dksX1_product_2 3 rfl rfl)
theorem dX1_product_53 : decode cX1_product 53 = .ok (.iaload, 1) := dk_46 (dk_at dksX1_product_2 5 rfl rfl)
theorem dX1_product_54 : decode cX1_product 54 = .ok (.i2l, 1) := dk_133 (dk_at dksX1_product_2 6 rfl rfl)
theorem dX1_product_55 : decode cX1_product 55 = .ok (.lmul, 1) := dk_105 (dk_at dksX1_product_2 7 rfl rfl)
theorem dX1_product_56 : decode cX1_product 56 = .ok (.lstore 5, 2) := dk_55 5 (dk_at dksX1_product_2 8 rfl rfl)
theorem dX1_product_58 : decode cX1_product 58 = .ok (.iinc 8 1, 3) := dk_132 8 1 (dk_at dksX1_product_2 10 rfl rfl)
theorem dX1_product_61 : decode cX1_product 61 = .ok (.goto (-43), 3) := dk_167 255 213 (dk_at dksX1_product_2 13 rfl rfl)
theorem dX1_product_64 : decode cX1_product 64 = .ok (.iinc 7 1, 3) := dk_132 7 1 (dk_at dksX1_product_2 16 rfl rfl)
theorem dX1_product_67 : decode cX1_product 67 = .ok (.goto (-61), 3) := dk_167 255 195 (dk_at dksX1_product_2 19 rfl rfl)
theorem dX1_product_70 : decode cX1_product 70 = .ok (.lload 5, 2) := dk_22 5 (dk_at dksX1_product_2 22 rfl rfl)
theorem dX1_product_72 : decode cX1_product 72 = .ok (.lreturn, 1) := dk_173 (dk_at dksX1_product_3 0 rfl rfl)
abbrev cX1_above : ByteArray := prog_17_method_21_code
def yX1_above : MethodName := ⟨RX1, "above", "(I)J"⟩
def dkwX1_above_0 : List UInt8 := [42, 42, 180, 0, 80, 42, 180, 0, 83, 16, 9, 27, 104, 42, 180, 0, 68, 27, 46, 182, 0, 128, 173]
abbrev dktX1_above_0 : List UInt8 := dkwX1_above_0 ++ []
theorem dksX1_above_0 : cX1_above.data.toList.drop 0 = dktX1_above_0 := by decide +kernel
theorem dX1_above_0 : decode cX1_above 0 = .ok (.aload_n 0, 1) := dk_42 (dk_at dksX1_above_0 0 rfl rfl)
theorem dX1_above_1 : decode cX1_above 1 = .ok (.aload_n 0, 1) := dk_42 (dk_at dksX1_above_0 1 rfl rfl)
theorem dX1_above_2 : decode cX1_above 2 = .ok (.getfield 80, 3) := dk_180 0 80 (dk_at dksX1_above_0 2 rfl rfl)
theorem dX1_above_5 : decode cX1_above 5 = .ok (.aload_n 0, 1) := dk_42 (dk_at dksX1_above_0 5 rfl rfl)
theorem dX1_above_6 : decode cX1_above 6 = .ok (.getfield 83, 3) := dk_180 0 83 (dk_at dksX1_above_0 6 rfl rfl)
theorem dX1_above_9 : decode cX1_above 9 = .ok (.bipush 9, 2) := dk_16 9 (dk_at dksX1_above_0 9 rfl rfl)
theorem dX1_above_11 : decode cX1_above 11 = .ok (.iload_n 1, 1) := dk_27 (dk_at dksX1_above_0 11 rfl rfl)
theorem dX1_above_12 : decode cX1_above 12 = .ok (.imul, 1) := dk_104 (dk_at dksX1_above_0 12 rfl rfl)
theorem dX1_above_13 : decode cX1_above 13 = .ok (.aload_n 0, 1) := dk_42 (dk_at dksX1_above_0 13 rfl rfl)
theorem dX1_above_14 : decode cX1_above 14 = .ok (.getfield 68, 3) := dk_180 0 68 (dk_at dksX1_above_0 14 rfl rfl)
theorem dX1_above_17 : decode cX1_above 17 = .ok (.iload_n 1, 1) := dk_27 (dk_at dksX1_above_0 17 rfl rfl)
theorem dX1_above_18 : decode cX1_above 18 = .ok (.iaload, 1) := dk_46 (dk_at dksX1_above_0 18 rfl rfl)
theorem dX1_above_19 : decode cX1_above 19 = .ok (.invokevirtual 128, 3) := dk_182 0 128 (dk_at dksX1_above_0 19 rfl rfl)
theorem dX1_above_22 : decode cX1_above 22 = .ok (.lreturn, 1) := dk_173 (dk_at dksX1_above_0 22 rfl rfl)
abbrev cX1_isEnough : ByteArray := prog_17_method_27_code
def yX1_isEnough : MethodName := ⟨RX1, "isEnough", "(I)Z"⟩
def dkwX1_isEnough_2 : List UInt8 := [180, 0, 53, 27, 46, 133, 32, 42, 27, 182, 0, 146, 184, 0, 149, 154, 0, 7, 4, 167, 0, 4, 3, 172]
abbrev dktX1_isEnough_2 : List UInt8 := dkwX1_isEnough_2 ++ []
def dkwX1_isEnough_1 : List UInt8 := [46, 133, 148, 158, 0, 7, 4, 167, 0, 4, 3, 172, 42, 180, 0, 56, 27, 46, 7, 160, 0, 22, 42]
abbrev dktX1_isEnough_1 : List UInt8 := dkwX1_isEnough_1 ++ dktX1_isEnough_2
def dkwX1_isEnough_0 : List UInt8 := [42, 27, 182, 0, 142, 65, 42, 180, 0, 56, 27, 46, 5, 160, 0, 23, 32, 32, 105, 42, 180, 0, 53, 27]
abbrev dktX1_isEnough_0 : List UInt8 := dkwX1_isEnough_0 ++ dktX1_isEnough_1
theorem dksX1_isEnough_0 : cX1_isEnough.data.toList.drop 0 = dktX1_isEnough_0 := by decide +kernel
theorem dksX1_isEnough_1 : cX1_isEnough.data.toList.drop 24 = dktX1_isEnough_1 := dk_seg dksX1_isEnough_0 24 rfl rfl
theorem dksX1_isEnough_2 : cX1_isEnough.data.toList.drop 47 = dktX1_isEnough_2 := dk_seg dksX1_isEnough_1 23 rfl rfl
theorem dX1_isEnough_0 : decode cX1_isEnough 0 = .ok (.aload_n 0, 1) := dk_42 (dk_at dksX1_isEnough_0 0 rfl rfl)
theorem dX1_isEnough_1 : decode cX1_isEnough 1 = .ok (.iload_n 1, 1) := dk_27 (dk_at dksX1_isEnough_0 1 rfl rfl)
theorem dX1_isEnough_2 : decode cX1_isEnough 2 = .ok (.invokevirtual 142, 3) := dk_182 0 142 (dk_at dksX1_isEnough_0 2 rfl rfl)
theorem dX1_isEnough_5 : decode cX1_isEnough 5 = .ok (.lstore_n 2, 1) := dk_65 (dk_at dksX1_isEnough_0 5 rfl rfl)
theorem dX1_isEnough_6 : decode cX1_isEnough 6 = .ok (.aload_n 0, 1) := dk_42 (dk_at dksX1_isEnough_0 6 rfl rfl)
theorem dX1_isEnough_7 : decode cX1_isEnough 7 = .ok (.getfield 56, 3) := dk_180 0 56 (dk_at dksX1_isEnough_0 7 rfl rfl)
theorem dX1_isEnough_10 : decode cX1_isEnough 10 = .ok (.iload_n 1, 1) := dk_27 (dk_at dksX1_isEnough_0 10 rfl rfl)
theorem dX1_isEnough_11 : decode cX1_isEnough 11 = .ok (.iaload, 1) := dk_46 (dk_at dksX1_isEnough_0 11 rfl rfl)
theorem dX1_isEnough_12 : decode cX1_isEnough 12 = .ok (.iconst 2, 1) := dk_5 (dk_at dksX1_isEnough_0 12 rfl rfl)
theorem dX1_isEnough_13 : decode cX1_isEnough 13 = .ok (.if_icmp .ne 23, 3) := dk_160 0 23 (dk_at dksX1_isEnough_0 13 rfl rfl)
theorem dX1_isEnough_16 : decode cX1_isEnough 16 = .ok (.lload_n 2, 1) := dk_32 (dk_at dksX1_isEnough_0 16 rfl rfl)
theorem dX1_isEnough_17 : decode cX1_isEnough 17 = .ok (.lload_n 2, 1) := dk_32 (dk_at dksX1_isEnough_0 17 rfl rfl)
theorem dX1_isEnough_18 : decode cX1_isEnough 18 = .ok (.lmul, 1) := dk_105 (dk_at dksX1_isEnough_0 18 rfl rfl)
theorem dX1_isEnough_19 : decode cX1_isEnough 19 = .ok (.aload_n 0, 1) := dk_42 (dk_at dksX1_isEnough_0 19 rfl rfl)
theorem dX1_isEnough_20 : decode cX1_isEnough 20 = .ok (.getfield 53, 3) := dk_180 0 53 (dk_at dksX1_isEnough_0 20 rfl rfl)
theorem dX1_isEnough_23 : decode cX1_isEnough 23 = .ok (.iload_n 1, 1) := dk_27 (dk_at dksX1_isEnough_0 23 rfl rfl)
theorem dX1_isEnough_24 : decode cX1_isEnough 24 = .ok (.iaload, 1) := dk_46 (dk_at dksX1_isEnough_1 0 rfl rfl)
theorem dX1_isEnough_25 : decode cX1_isEnough 25 = .ok (.i2l, 1) := dk_133 (dk_at dksX1_isEnough_1 1 rfl rfl)
theorem dX1_isEnough_26 : decode cX1_isEnough 26 = .ok (.lcmp, 1) := dk_148 (dk_at dksX1_isEnough_1 2 rfl rfl)
theorem dX1_isEnough_27 : decode cX1_isEnough 27 = .ok (.ifCond .le 7, 3) := dk_158 0 7 (dk_at dksX1_isEnough_1 3 rfl rfl)
theorem dX1_isEnough_30 : decode cX1_isEnough 30 = .ok (.iconst 1, 1) := dk_4 (dk_at dksX1_isEnough_1 6 rfl rfl)
theorem dX1_isEnough_31 : decode cX1_isEnough 31 = .ok (.goto 4, 3) := dk_167 0 4 (dk_at dksX1_isEnough_1 7 rfl rfl)
theorem dX1_isEnough_34 : decode cX1_isEnough 34 = .ok (.iconst 0, 1) := dk_3 (dk_at dksX1_isEnough_1 10 rfl rfl)
theorem dX1_isEnough_35 : decode cX1_isEnough 35 = .ok (.ireturn, 1) := dk_172 (dk_at dksX1_isEnough_1 11 rfl rfl)
theorem dX1_isEnough_36 : decode cX1_isEnough 36 = .ok (.aload_n 0, 1) := dk_42 (dk_at dksX1_isEnough_1 12 rfl rfl)
theorem dX1_isEnough_37 : decode cX1_isEnough 37 = .ok (.getfield 56, 3) := dk_180 0 56 (dk_at dksX1_isEnough_1 13 rfl rfl)
theorem dX1_isEnough_40 : decode cX1_isEnough 40 = .ok (.iload_n 1, 1) := dk_27 (dk_at dksX1_isEnough_1 16 rfl rfl)
theorem dX1_isEnough_41 : decode cX1_isEnough 41 = .ok (.iaload, 1) := dk_46 (dk_at dksX1_isEnough_1 17 rfl rfl)
theorem dX1_isEnough_42 : decode cX1_isEnough 42 = .ok (.iconst 4, 1) := dk_7 (dk_at dksX1_isEnough_1 18 rfl rfl)
theorem dX1_isEnough_43 : decode cX1_isEnough 43 = .ok (.if_icmp .ne 22, 3) := dk_160 0 22 (dk_at dksX1_isEnough_1 19 rfl rfl)
theorem dX1_isEnough_46 : decode cX1_isEnough 46 = .ok (.aload_n 0, 1) := dk_42 (dk_at dksX1_isEnough_1 22 rfl rfl)
theorem dX1_isEnough_47 : decode cX1_isEnough 47 = .ok (.getfield 53, 3) := dk_180 0 53 (dk_at dksX1_isEnough_2 0 rfl rfl)
theorem dX1_isEnough_50 : decode cX1_isEnough 50 = .ok (.iload_n 1, 1) := dk_27 (dk_at dksX1_isEnough_2 3 rfl rfl)
theorem dX1_isEnough_51 : decode cX1_isEnough 51 = .ok (.iaload, 1) := dk_46 (dk_at dksX1_isEnough_2 4 rfl rfl)
theorem dX1_isEnough_52 : decode cX1_isEnough 52 = .ok (.i2l, 1) := dk_133 (dk_at dksX1_isEnough_2 5 rfl rfl)
theorem dX1_isEnough_53 : decode cX1_isEnough 53 = .ok (.lload_n 2, 1) := dk_32 (dk_at dksX1_isEnough_2 6 rfl rfl)
theorem dX1_isEnough_54 : decode cX1_isEnough 54 = .ok (.aload_n 0, 1) := dk_42 (dk_at dksX1_isEnough_2 7 rfl rfl)
theorem dX1_isEnough_55 : decode cX1_isEnough 55 = .ok (.iload_n 1, 1) := dk_27 (dk_at dksX1_isEnough_2 8 rfl rfl)
theorem dX1_isEnough_56 : decode cX1_isEnough 56 = .ok (.invokevirtual 146, 3) := dk_182 0 146 (dk_at dksX1_isEnough_2 9 rfl rfl)
theorem dX1_isEnough_59 : decode cX1_isEnough 59 = .ok (.invokestatic 149, 3) := dk_184 0 149 (dk_at dksX1_isEnough_2 12 rfl rfl)
theorem dX1_isEnough_62 : decode cX1_isEnough 62 = .ok (.ifCond .ne 7, 3) := dk_154 0 7 (dk_at dksX1_isEnough_2 15 rfl rfl)
theorem dX1_isEnough_65 : decode cX1_isEnough 65 = .ok (.iconst 1, 1) := dk_4 (dk_at dksX1_isEnough_2 18 rfl rfl)
theorem dX1_isEnough_66 : decode cX1_isEnough 66 = .ok (.goto 4, 3) := dk_167 0 4 (dk_at dksX1_isEnough_2 19 rfl rfl)
theorem dX1_isEnough_69 : decode cX1_isEnough 69 = .ok (.iconst 0, 1) := dk_3 (dk_at dksX1_isEnough_2 22 rfl rfl)
theorem dX1_isEnough_70 : decode cX1_isEnough 70 = .ok (.ireturn, 1) := dk_172 (dk_at dksX1_isEnough_2 23 rfl rfl)
abbrev cX1_isLittle : ByteArray := prog_17_method_25_code
def yX1_isLittle : MethodName := ⟨RX1, "isLittle", "(JJJ)Z"⟩
def dkwX1_isLittle_2 : List UInt8 := [22, 8, 30, 148, 156, 0, 16, 30, 22, 8, 113, 9, 148, 154, 0, 7, 4, 167, 0, 4, 3, 172]
abbrev dktX1_isLittle_2 : List UInt8 := dkwX1_isLittle_2 ++ []
def dkwX1_isLittle_1 : List UInt8 := [22, 6, 105, 30, 148, 157, 0, 5, 4, 172, 30, 22, 6, 113, 55, 8, 22, 8, 10, 148, 158, 0, 23]
abbrev dktX1_isLittle_1 : List UInt8 := dkwX1_isLittle_1 ++ dktX1_isLittle_2
def dkwX1_isLittle_0 : List UInt8 := [32, 32, 22, 4, 184, 0, 136, 109, 22, 4, 105, 55, 6, 22, 6, 20, 0, 140, 148, 157, 0, 15, 22, 6]
abbrev dktX1_isLittle_0 : List UInt8 := dkwX1_isLittle_0 ++ dktX1_isLittle_1
theorem dksX1_isLittle_0 : cX1_isLittle.data.toList.drop 0 = dktX1_isLittle_0 := by decide +kernel
theorem dksX1_isLittle_1 : cX1_isLittle.data.toList.drop 24 = dktX1_isLittle_1 := dk_seg dksX1_isLittle_0 24 rfl rfl
theorem dksX1_isLittle_2 : cX1_isLittle.data.toList.drop 47 = dktX1_isLittle_2 := dk_seg dksX1_isLittle_1 23 rfl rfl
theorem dX1_isLittle_0 : decode cX1_isLittle 0 = .ok (.lload_n 2, 1) := dk_32 (dk_at dksX1_isLittle_0 0 rfl rfl)
theorem dX1_isLittle_1 : decode cX1_isLittle 1 = .ok (.lload_n 2, 1) := dk_32 (dk_at dksX1_isLittle_0 1 rfl rfl)
theorem dX1_isLittle_2 : decode cX1_isLittle 2 = .ok (.lload 4, 2) := dk_22 4 (dk_at dksX1_isLittle_0 2 rfl rfl)
theorem dX1_isLittle_4 : decode cX1_isLittle 4 = .ok (.invokestatic 136, 3) := dk_184 0 136 (dk_at dksX1_isLittle_0 4 rfl rfl)
theorem dX1_isLittle_7 : decode cX1_isLittle 7 = .ok (.ldiv, 1) := dk_109 (dk_at dksX1_isLittle_0 7 rfl rfl)
theorem dX1_isLittle_8 : decode cX1_isLittle 8 = .ok (.lload 4, 2) := dk_22 4 (dk_at dksX1_isLittle_0 8 rfl rfl)
theorem dX1_isLittle_10 : decode cX1_isLittle 10 = .ok (.lmul, 1) := dk_105 (dk_at dksX1_isLittle_0 10 rfl rfl)
theorem dX1_isLittle_11 : decode cX1_isLittle 11 = .ok (.lstore 6, 2) := dk_55 6 (dk_at dksX1_isLittle_0 11 rfl rfl)
theorem dX1_isLittle_13 : decode cX1_isLittle 13 = .ok (.lload 6, 2) := dk_22 6 (dk_at dksX1_isLittle_0 13 rfl rfl)
theorem dX1_isLittle_15 : decode cX1_isLittle 15 = .ok (.ldc2_w 140, 3) := dk_20 0 140 (dk_at dksX1_isLittle_0 15 rfl rfl)
theorem dX1_isLittle_18 : decode cX1_isLittle 18 = .ok (.lcmp, 1) := dk_148 (dk_at dksX1_isLittle_0 18 rfl rfl)
theorem dX1_isLittle_19 : decode cX1_isLittle 19 = .ok (.ifCond .gt 15, 3) := dk_157 0 15 (dk_at dksX1_isLittle_0 19 rfl rfl)
theorem dX1_isLittle_22 : decode cX1_isLittle 22 = .ok (.lload 6, 2) := dk_22 6 (dk_at dksX1_isLittle_0 22 rfl rfl)
theorem dX1_isLittle_24 : decode cX1_isLittle 24 = .ok (.lload 6, 2) := dk_22 6 (dk_at dksX1_isLittle_1 0 rfl rfl)
theorem dX1_isLittle_26 : decode cX1_isLittle 26 = .ok (.lmul, 1) := dk_105 (dk_at dksX1_isLittle_1 2 rfl rfl)
theorem dX1_isLittle_27 : decode cX1_isLittle 27 = .ok (.lload_n 0, 1) := dk_30 (dk_at dksX1_isLittle_1 3 rfl rfl)
theorem dX1_isLittle_28 : decode cX1_isLittle 28 = .ok (.lcmp, 1) := dk_148 (dk_at dksX1_isLittle_1 4 rfl rfl)
theorem dX1_isLittle_29 : decode cX1_isLittle 29 = .ok (.ifCond .gt 5, 3) := dk_157 0 5 (dk_at dksX1_isLittle_1 5 rfl rfl)
theorem dX1_isLittle_32 : decode cX1_isLittle 32 = .ok (.iconst 1, 1) := dk_4 (dk_at dksX1_isLittle_1 8 rfl rfl)
theorem dX1_isLittle_33 : decode cX1_isLittle 33 = .ok (.ireturn, 1) := dk_172 (dk_at dksX1_isLittle_1 9 rfl rfl)
theorem dX1_isLittle_34 : decode cX1_isLittle 34 = .ok (.lload_n 0, 1) := dk_30 (dk_at dksX1_isLittle_1 10 rfl rfl)
theorem dX1_isLittle_35 : decode cX1_isLittle 35 = .ok (.lload 6, 2) := dk_22 6 (dk_at dksX1_isLittle_1 11 rfl rfl)
theorem dX1_isLittle_37 : decode cX1_isLittle 37 = .ok (.lrem, 1) := dk_113 (dk_at dksX1_isLittle_1 13 rfl rfl)
theorem dX1_isLittle_38 : decode cX1_isLittle 38 = .ok (.lstore 8, 2) := dk_55 8 (dk_at dksX1_isLittle_1 14 rfl rfl)
theorem dX1_isLittle_40 : decode cX1_isLittle 40 = .ok (.lload 8, 2) := dk_22 8 (dk_at dksX1_isLittle_1 16 rfl rfl)
theorem dX1_isLittle_42 : decode cX1_isLittle 42 = .ok (.lconst 1, 1) := dk_10 (dk_at dksX1_isLittle_1 18 rfl rfl)
theorem dX1_isLittle_43 : decode cX1_isLittle 43 = .ok (.lcmp, 1) := dk_148 (dk_at dksX1_isLittle_1 19 rfl rfl)
theorem dX1_isLittle_44 : decode cX1_isLittle 44 = .ok (.ifCond .le 23, 3) := dk_158 0 23 (dk_at dksX1_isLittle_1 20 rfl rfl)
theorem dX1_isLittle_47 : decode cX1_isLittle 47 = .ok (.lload 8, 2) := dk_22 8 (dk_at dksX1_isLittle_2 0 rfl rfl)
theorem dX1_isLittle_49 : decode cX1_isLittle 49 = .ok (.lload_n 0, 1) := dk_30 (dk_at dksX1_isLittle_2 2 rfl rfl)
theorem dX1_isLittle_50 : decode cX1_isLittle 50 = .ok (.lcmp, 1) := dk_148 (dk_at dksX1_isLittle_2 3 rfl rfl)
theorem dX1_isLittle_51 : decode cX1_isLittle 51 = .ok (.ifCond .ge 16, 3) := dk_156 0 16 (dk_at dksX1_isLittle_2 4 rfl rfl)
theorem dX1_isLittle_54 : decode cX1_isLittle 54 = .ok (.lload_n 0, 1) := dk_30 (dk_at dksX1_isLittle_2 7 rfl rfl)
theorem dX1_isLittle_55 : decode cX1_isLittle 55 = .ok (.lload 8, 2) := dk_22 8 (dk_at dksX1_isLittle_2 8 rfl rfl)
theorem dX1_isLittle_57 : decode cX1_isLittle 57 = .ok (.lrem, 1) := dk_113 (dk_at dksX1_isLittle_2 10 rfl rfl)
theorem dX1_isLittle_58 : decode cX1_isLittle 58 = .ok (.lconst 0, 1) := dk_9 (dk_at dksX1_isLittle_2 11 rfl rfl)
theorem dX1_isLittle_59 : decode cX1_isLittle 59 = .ok (.lcmp, 1) := dk_148 (dk_at dksX1_isLittle_2 12 rfl rfl)
theorem dX1_isLittle_60 : decode cX1_isLittle 60 = .ok (.ifCond .ne 7, 3) := dk_154 0 7 (dk_at dksX1_isLittle_2 13 rfl rfl)
theorem dX1_isLittle_63 : decode cX1_isLittle 63 = .ok (.iconst 1, 1) := dk_4 (dk_at dksX1_isLittle_2 16 rfl rfl)
theorem dX1_isLittle_64 : decode cX1_isLittle 64 = .ok (.goto 4, 3) := dk_167 0 4 (dk_at dksX1_isLittle_2 17 rfl rfl)
theorem dX1_isLittle_67 : decode cX1_isLittle 67 = .ok (.iconst 0, 1) := dk_3 (dk_at dksX1_isLittle_2 20 rfl rfl)
theorem dX1_isLittle_68 : decode cX1_isLittle 68 = .ok (.ireturn, 1) := dk_172 (dk_at dksX1_isLittle_2 21 rfl rfl)
abbrev cX1_common : ByteArray := prog_17_method_4_code
def yX1_common : MethodName := ⟨RX1, "common", "(JJ)J"⟩
def dkwX1_common_1 : List UInt8 := [22, 8, 55, 6, 167, 255, 234, 22, 4, 173]
abbrev dktX1_common_1 : List UInt8 := dkwX1_common_1 ++ []
def dkwX1_common_0 : List UInt8 := [30, 55, 4, 32, 55, 6, 22, 6, 9, 148, 153, 0, 21, 22, 4, 22, 6, 113, 55, 8, 22, 6, 55, 4]
abbrev dktX1_common_0 : List UInt8 := dkwX1_common_0 ++ dktX1_common_1
theorem dksX1_common_0 : cX1_common.data.toList.drop 0 = dktX1_common_0 := by decide +kernel
theorem dksX1_common_1 : cX1_common.data.toList.drop 24 = dktX1_common_1 := dk_seg dksX1_common_0 24 rfl rfl
theorem dX1_common_0 : decode cX1_common 0 = .ok (.lload_n 0, 1) := dk_30 (dk_at dksX1_common_0 0 rfl rfl)
theorem dX1_common_1 : decode cX1_common 1 = .ok (.lstore 4, 2) := dk_55 4 (dk_at dksX1_common_0 1 rfl rfl)
theorem dX1_common_3 : decode cX1_common 3 = .ok (.lload_n 2, 1) := dk_32 (dk_at dksX1_common_0 3 rfl rfl)
theorem dX1_common_4 : decode cX1_common 4 = .ok (.lstore 6, 2) := dk_55 6 (dk_at dksX1_common_0 4 rfl rfl)
theorem dX1_common_6 : decode cX1_common 6 = .ok (.lload 6, 2) := dk_22 6 (dk_at dksX1_common_0 6 rfl rfl)
theorem dX1_common_8 : decode cX1_common 8 = .ok (.lconst 0, 1) := dk_9 (dk_at dksX1_common_0 8 rfl rfl)
theorem dX1_common_9 : decode cX1_common 9 = .ok (.lcmp, 1) := dk_148 (dk_at dksX1_common_0 9 rfl rfl)
theorem dX1_common_10 : decode cX1_common 10 = .ok (.ifCond .eq 21, 3) := dk_153 0 21 (dk_at dksX1_common_0 10 rfl rfl)
theorem dX1_common_13 : decode cX1_common 13 = .ok (.lload 4, 2) := dk_22 4 (dk_at dksX1_common_0 13 rfl rfl)
theorem dX1_common_15 : decode cX1_common 15 = .ok (.lload 6, 2) := dk_22 6 (dk_at dksX1_common_0 15 rfl rfl)
theorem dX1_common_17 : decode cX1_common 17 = .ok (.lrem, 1) := dk_113 (dk_at dksX1_common_0 17 rfl rfl)
theorem dX1_common_18 : decode cX1_common 18 = .ok (.lstore 8, 2) := dk_55 8 (dk_at dksX1_common_0 18 rfl rfl)
theorem dX1_common_20 : decode cX1_common 20 = .ok (.lload 6, 2) := dk_22 6 (dk_at dksX1_common_0 20 rfl rfl)
theorem dX1_common_22 : decode cX1_common 22 = .ok (.lstore 4, 2) := dk_55 4 (dk_at dksX1_common_0 22 rfl rfl)
theorem dX1_common_24 : decode cX1_common 24 = .ok (.lload 8, 2) := dk_22 8 (dk_at dksX1_common_1 0 rfl rfl)
theorem dX1_common_26 : decode cX1_common 26 = .ok (.lstore 6, 2) := dk_55 6 (dk_at dksX1_common_1 2 rfl rfl)
theorem dX1_common_28 : decode cX1_common 28 = .ok (.goto (-22), 3) := dk_167 255 234 (dk_at dksX1_common_1 4 rfl rfl)
theorem dX1_common_31 : decode cX1_common 31 = .ok (.lload 4, 2) := dk_22 4 (dk_at dksX1_common_1 7 rfl rfl)
theorem dX1_common_33 : decode cX1_common 33 = .ok (.lreturn, 1) := dk_173 (dk_at dksX1_common_1 9 rfl rfl)
abbrev cX1_isOneBy : ByteArray := prog_17_method_28_code
def yX1_isOneBy : MethodName := ⟨RX1, "isOneBy", "(JJ)Z"⟩
def dkwX1_isOneBy_0 : List UInt8 := [32, 30, 10, 101, 30, 184, 0, 152, 10, 148, 154, 0, 7, 4, 167, 0, 4, 3, 172]
abbrev dktX1_isOneBy_0 : List UInt8 := dkwX1_isOneBy_0 ++ []
theorem dksX1_isOneBy_0 : cX1_isOneBy.data.toList.drop 0 = dktX1_isOneBy_0 := by decide +kernel
theorem dX1_isOneBy_0 : decode cX1_isOneBy 0 = .ok (.lload_n 2, 1) := dk_32 (dk_at dksX1_isOneBy_0 0 rfl rfl)
theorem dX1_isOneBy_1 : decode cX1_isOneBy 1 = .ok (.lload_n 0, 1) := dk_30 (dk_at dksX1_isOneBy_0 1 rfl rfl)
theorem dX1_isOneBy_2 : decode cX1_isOneBy 2 = .ok (.lconst 1, 1) := dk_10 (dk_at dksX1_isOneBy_0 2 rfl rfl)
theorem dX1_isOneBy_3 : decode cX1_isOneBy 3 = .ok (.lsub, 1) := dk_101 (dk_at dksX1_isOneBy_0 3 rfl rfl)
theorem dX1_isOneBy_4 : decode cX1_isOneBy 4 = .ok (.lload_n 0, 1) := dk_30 (dk_at dksX1_isOneBy_0 4 rfl rfl)
theorem dX1_isOneBy_5 : decode cX1_isOneBy 5 = .ok (.invokestatic 152, 3) := dk_184 0 152 (dk_at dksX1_isOneBy_0 5 rfl rfl)
theorem dX1_isOneBy_8 : decode cX1_isOneBy 8 = .ok (.lconst 1, 1) := dk_10 (dk_at dksX1_isOneBy_0 8 rfl rfl)
theorem dX1_isOneBy_9 : decode cX1_isOneBy 9 = .ok (.lcmp, 1) := dk_148 (dk_at dksX1_isOneBy_0 9 rfl rfl)
theorem dX1_isOneBy_10 : decode cX1_isOneBy 10 = .ok (.ifCond .ne 7, 3) := dk_154 0 7 (dk_at dksX1_isOneBy_0 10 rfl rfl)
theorem dX1_isOneBy_13 : decode cX1_isOneBy 13 = .ok (.iconst 1, 1) := dk_4 (dk_at dksX1_isOneBy_0 13 rfl rfl)
theorem dX1_isOneBy_14 : decode cX1_isOneBy 14 = .ok (.goto 4, 3) := dk_167 0 4 (dk_at dksX1_isOneBy_0 14 rfl rfl)
theorem dX1_isOneBy_17 : decode cX1_isOneBy 17 = .ok (.iconst 0, 1) := dk_3 (dk_at dksX1_isOneBy_0 17 rfl rfl)
theorem dX1_isOneBy_18 : decode cX1_isOneBy 18 = .ok (.ireturn, 1) := dk_172 (dk_at dksX1_isOneBy_0 18 rfl rfl)
abbrev cX1_powerOf : ByteArray := prog_17_method_5_code
def yX1_powerOf : MethodName := ⟨RX1, "powerOf", "(JJJ)J"⟩
def dkwX1_powerOf_2 : List UInt8 := [113, 55, 6, 22, 10, 4, 123, 55, 10, 167, 255, 214, 22, 8, 173]
abbrev dktX1_powerOf_2 : List UInt8 := dkwX1_powerOf_2 ++ []
def dkwX1_powerOf_1 : List UInt8 := [10, 127, 10, 148, 154, 0, 13, 22, 8, 22, 6, 105, 22, 4, 113, 55, 8, 22, 6, 22, 6, 105, 22, 4]
abbrev dktX1_powerOf_1 : List UInt8 := dkwX1_powerOf_1 ++ dktX1_powerOf_2
def dkwX1_powerOf_0 : List UInt8 := [30, 22, 4, 113, 55, 6, 10, 22, 4, 113, 55, 8, 32, 55, 10, 22, 10, 9, 148, 158, 0, 41, 22, 10]
abbrev dktX1_powerOf_0 : List UInt8 := dkwX1_powerOf_0 ++ dktX1_powerOf_1
theorem dksX1_powerOf_0 : cX1_powerOf.data.toList.drop 0 = dktX1_powerOf_0 := by decide +kernel
theorem dksX1_powerOf_1 : cX1_powerOf.data.toList.drop 24 = dktX1_powerOf_1 := dk_seg dksX1_powerOf_0 24 rfl rfl
theorem dksX1_powerOf_2 : cX1_powerOf.data.toList.drop 48 = dktX1_powerOf_2 := dk_seg dksX1_powerOf_1 24 rfl rfl
theorem dX1_powerOf_0 : decode cX1_powerOf 0 = .ok (.lload_n 0, 1) := dk_30 (dk_at dksX1_powerOf_0 0 rfl rfl)
theorem dX1_powerOf_1 : decode cX1_powerOf 1 = .ok (.lload 4, 2) := dk_22 4 (dk_at dksX1_powerOf_0 1 rfl rfl)
theorem dX1_powerOf_3 : decode cX1_powerOf 3 = .ok (.lrem, 1) := dk_113 (dk_at dksX1_powerOf_0 3 rfl rfl)
theorem dX1_powerOf_4 : decode cX1_powerOf 4 = .ok (.lstore 6, 2) := dk_55 6 (dk_at dksX1_powerOf_0 4 rfl rfl)
theorem dX1_powerOf_6 : decode cX1_powerOf 6 = .ok (.lconst 1, 1) := dk_10 (dk_at dksX1_powerOf_0 6 rfl rfl)
theorem dX1_powerOf_7 : decode cX1_powerOf 7 = .ok (.lload 4, 2) := dk_22 4 (dk_at dksX1_powerOf_0 7 rfl rfl)
theorem dX1_powerOf_9 : decode cX1_powerOf 9 = .ok (.lrem, 1) := dk_113 (dk_at dksX1_powerOf_0 9 rfl rfl)
theorem dX1_powerOf_10 : decode cX1_powerOf 10 = .ok (.lstore 8, 2) := dk_55 8 (dk_at dksX1_powerOf_0 10 rfl rfl)
theorem dX1_powerOf_12 : decode cX1_powerOf 12 = .ok (.lload_n 2, 1) := dk_32 (dk_at dksX1_powerOf_0 12 rfl rfl)
theorem dX1_powerOf_13 : decode cX1_powerOf 13 = .ok (.lstore 10, 2) := dk_55 10 (dk_at dksX1_powerOf_0 13 rfl rfl)
theorem dX1_powerOf_15 : decode cX1_powerOf 15 = .ok (.lload 10, 2) := dk_22 10 (dk_at dksX1_powerOf_0 15 rfl rfl)
theorem dX1_powerOf_17 : decode cX1_powerOf 17 = .ok (.lconst 0, 1) := dk_9 (dk_at dksX1_powerOf_0 17 rfl rfl)
theorem dX1_powerOf_18 : decode cX1_powerOf 18 = .ok (.lcmp, 1) := dk_148 (dk_at dksX1_powerOf_0 18 rfl rfl)
theorem dX1_powerOf_19 : decode cX1_powerOf 19 = .ok (.ifCond .le 41, 3) := dk_158 0 41 (dk_at dksX1_powerOf_0 19 rfl rfl)
theorem dX1_powerOf_22 : decode cX1_powerOf 22 = .ok (.lload 10, 2) := dk_22 10 (dk_at dksX1_powerOf_0 22 rfl rfl)
theorem dX1_powerOf_24 : decode cX1_powerOf 24 = .ok (.lconst 1, 1) := dk_10 (dk_at dksX1_powerOf_1 0 rfl rfl)
theorem dX1_powerOf_25 : decode cX1_powerOf 25 = .ok (.land, 1) := dk_127 (dk_at dksX1_powerOf_1 1 rfl rfl)
theorem dX1_powerOf_26 : decode cX1_powerOf 26 = .ok (.lconst 1, 1) := dk_10 (dk_at dksX1_powerOf_1 2 rfl rfl)
theorem dX1_powerOf_27 : decode cX1_powerOf 27 = .ok (.lcmp, 1) := dk_148 (dk_at dksX1_powerOf_1 3 rfl rfl)
theorem dX1_powerOf_28 : decode cX1_powerOf 28 = .ok (.ifCond .ne 13, 3) := dk_154 0 13 (dk_at dksX1_powerOf_1 4 rfl rfl)
theorem dX1_powerOf_31 : decode cX1_powerOf 31 = .ok (.lload 8, 2) := dk_22 8 (dk_at dksX1_powerOf_1 7 rfl rfl)
theorem dX1_powerOf_33 : decode cX1_powerOf 33 = .ok (.lload 6, 2) := dk_22 6 (dk_at dksX1_powerOf_1 9 rfl rfl)
theorem dX1_powerOf_35 : decode cX1_powerOf 35 = .ok (.lmul, 1) := dk_105 (dk_at dksX1_powerOf_1 11 rfl rfl)
theorem dX1_powerOf_36 : decode cX1_powerOf 36 = .ok (.lload 4, 2) := dk_22 4 (dk_at dksX1_powerOf_1 12 rfl rfl)
theorem dX1_powerOf_38 : decode cX1_powerOf 38 = .ok (.lrem, 1) := dk_113 (dk_at dksX1_powerOf_1 14 rfl rfl)
theorem dX1_powerOf_39 : decode cX1_powerOf 39 = .ok (.lstore 8, 2) := dk_55 8 (dk_at dksX1_powerOf_1 15 rfl rfl)
theorem dX1_powerOf_41 : decode cX1_powerOf 41 = .ok (.lload 6, 2) := dk_22 6 (dk_at dksX1_powerOf_1 17 rfl rfl)
theorem dX1_powerOf_43 : decode cX1_powerOf 43 = .ok (.lload 6, 2) := dk_22 6 (dk_at dksX1_powerOf_1 19 rfl rfl)
theorem dX1_powerOf_45 : decode cX1_powerOf 45 = .ok (.lmul, 1) := dk_105 (dk_at dksX1_powerOf_1 21 rfl rfl)
theorem dX1_powerOf_46 : decode cX1_powerOf 46 = .ok (.lload 4, 2) := dk_22 4 (dk_at dksX1_powerOf_1 22 rfl rfl)
theorem dX1_powerOf_48 : decode cX1_powerOf 48 = .ok (.lrem, 1) := dk_113 (dk_at dksX1_powerOf_2 0 rfl rfl)
theorem dX1_powerOf_49 : decode cX1_powerOf 49 = .ok (.lstore 6, 2) := dk_55 6 (dk_at dksX1_powerOf_2 1 rfl rfl)
theorem dX1_powerOf_51 : decode cX1_powerOf 51 = .ok (.lload 10, 2) := dk_22 10 (dk_at dksX1_powerOf_2 3 rfl rfl)
theorem dX1_powerOf_53 : decode cX1_powerOf 53 = .ok (.iconst 1, 1) := dk_4 (dk_at dksX1_powerOf_2 5 rfl rfl)
theorem dX1_powerOf_54 : decode cX1_powerOf 54 = .ok (.lshr, 1) := dk_123 (dk_at dksX1_powerOf_2 6 rfl rfl)
theorem dX1_powerOf_55 : decode cX1_powerOf 55 = .ok (.lstore 10, 2) := dk_55 10 (dk_at dksX1_powerOf_2 7 rfl rfl)
theorem dX1_powerOf_57 : decode cX1_powerOf 57 = .ok (.goto (-42), 3) := dk_167 255 214 (dk_at dksX1_powerOf_2 9 rfl rfl)
theorem dX1_powerOf_60 : decode cX1_powerOf 60 = .ok (.lload 8, 2) := dk_22 8 (dk_at dksX1_powerOf_2 12 rfl rfl)
theorem dX1_powerOf_62 : decode cX1_powerOf 62 = .ok (.lreturn, 1) := dk_173 (dk_at dksX1_powerOf_2 14 rfl rfl)
abbrev cX1_isApartBy : ByteArray := prog_17_method_29_code
def yX1_isApartBy : MethodName := ⟨RX1, "isApartBy", "(JJJ)Z"⟩
def dkwX1_isApartBy_1 : List UInt8 := [30, 97, 167, 0, 5, 22, 6, 30, 184, 0, 136, 10, 148, 154, 0, 7, 4, 167, 0, 4, 3, 172]
abbrev dktX1_isApartBy_1 : List UInt8 := dkwX1_isApartBy_1 ++ []
def dkwX1_isApartBy_0 : List UInt8 := [32, 30, 10, 101, 22, 4, 109, 30, 184, 0, 152, 10, 101, 55, 6, 22, 6, 9, 148, 156, 0, 10, 22, 6]
abbrev dktX1_isApartBy_0 : List UInt8 := dkwX1_isApartBy_0 ++ dktX1_isApartBy_1
theorem dksX1_isApartBy_0 : cX1_isApartBy.data.toList.drop 0 = dktX1_isApartBy_0 := by decide +kernel
theorem dksX1_isApartBy_1 : cX1_isApartBy.data.toList.drop 24 = dktX1_isApartBy_1 := dk_seg dksX1_isApartBy_0 24 rfl rfl
theorem dX1_isApartBy_0 : decode cX1_isApartBy 0 = .ok (.lload_n 2, 1) := dk_32 (dk_at dksX1_isApartBy_0 0 rfl rfl)
theorem dX1_isApartBy_1 : decode cX1_isApartBy 1 = .ok (.lload_n 0, 1) := dk_30 (dk_at dksX1_isApartBy_0 1 rfl rfl)
theorem dX1_isApartBy_2 : decode cX1_isApartBy 2 = .ok (.lconst 1, 1) := dk_10 (dk_at dksX1_isApartBy_0 2 rfl rfl)
theorem dX1_isApartBy_3 : decode cX1_isApartBy 3 = .ok (.lsub, 1) := dk_101 (dk_at dksX1_isApartBy_0 3 rfl rfl)
theorem dX1_isApartBy_4 : decode cX1_isApartBy 4 = .ok (.lload 4, 2) := dk_22 4 (dk_at dksX1_isApartBy_0 4 rfl rfl)
theorem dX1_isApartBy_6 : decode cX1_isApartBy 6 = .ok (.ldiv, 1) := dk_109 (dk_at dksX1_isApartBy_0 6 rfl rfl)
theorem dX1_isApartBy_7 : decode cX1_isApartBy 7 = .ok (.lload_n 0, 1) := dk_30 (dk_at dksX1_isApartBy_0 7 rfl rfl)
theorem dX1_isApartBy_8 : decode cX1_isApartBy 8 = .ok (.invokestatic 152, 3) := dk_184 0 152 (dk_at dksX1_isApartBy_0 8 rfl rfl)
theorem dX1_isApartBy_11 : decode cX1_isApartBy 11 = .ok (.lconst 1, 1) := dk_10 (dk_at dksX1_isApartBy_0 11 rfl rfl)
theorem dX1_isApartBy_12 : decode cX1_isApartBy 12 = .ok (.lsub, 1) := dk_101 (dk_at dksX1_isApartBy_0 12 rfl rfl)
theorem dX1_isApartBy_13 : decode cX1_isApartBy 13 = .ok (.lstore 6, 2) := dk_55 6 (dk_at dksX1_isApartBy_0 13 rfl rfl)
theorem dX1_isApartBy_15 : decode cX1_isApartBy 15 = .ok (.lload 6, 2) := dk_22 6 (dk_at dksX1_isApartBy_0 15 rfl rfl)
theorem dX1_isApartBy_17 : decode cX1_isApartBy 17 = .ok (.lconst 0, 1) := dk_9 (dk_at dksX1_isApartBy_0 17 rfl rfl)
theorem dX1_isApartBy_18 : decode cX1_isApartBy 18 = .ok (.lcmp, 1) := dk_148 (dk_at dksX1_isApartBy_0 18 rfl rfl)
theorem dX1_isApartBy_19 : decode cX1_isApartBy 19 = .ok (.ifCond .ge 10, 3) := dk_156 0 10 (dk_at dksX1_isApartBy_0 19 rfl rfl)
theorem dX1_isApartBy_22 : decode cX1_isApartBy 22 = .ok (.lload 6, 2) := dk_22 6 (dk_at dksX1_isApartBy_0 22 rfl rfl)
theorem dX1_isApartBy_24 : decode cX1_isApartBy 24 = .ok (.lload_n 0, 1) := dk_30 (dk_at dksX1_isApartBy_1 0 rfl rfl)
theorem dX1_isApartBy_25 : decode cX1_isApartBy 25 = .ok (.ladd, 1) := dk_97 (dk_at dksX1_isApartBy_1 1 rfl rfl)
theorem dX1_isApartBy_26 : decode cX1_isApartBy 26 = .ok (.goto 5, 3) := dk_167 0 5 (dk_at dksX1_isApartBy_1 2 rfl rfl)
theorem dX1_isApartBy_29 : decode cX1_isApartBy 29 = .ok (.lload 6, 2) := dk_22 6 (dk_at dksX1_isApartBy_1 5 rfl rfl)
theorem dX1_isApartBy_31 : decode cX1_isApartBy 31 = .ok (.lload_n 0, 1) := dk_30 (dk_at dksX1_isApartBy_1 7 rfl rfl)
theorem dX1_isApartBy_32 : decode cX1_isApartBy 32 = .ok (.invokestatic 136, 3) := dk_184 0 136 (dk_at dksX1_isApartBy_1 8 rfl rfl)
theorem dX1_isApartBy_35 : decode cX1_isApartBy 35 = .ok (.lconst 1, 1) := dk_10 (dk_at dksX1_isApartBy_1 11 rfl rfl)
theorem dX1_isApartBy_36 : decode cX1_isApartBy 36 = .ok (.lcmp, 1) := dk_148 (dk_at dksX1_isApartBy_1 12 rfl rfl)
theorem dX1_isApartBy_37 : decode cX1_isApartBy 37 = .ok (.ifCond .ne 7, 3) := dk_154 0 7 (dk_at dksX1_isApartBy_1 13 rfl rfl)
theorem dX1_isApartBy_40 : decode cX1_isApartBy 40 = .ok (.iconst 1, 1) := dk_4 (dk_at dksX1_isApartBy_1 16 rfl rfl)
theorem dX1_isApartBy_41 : decode cX1_isApartBy 41 = .ok (.goto 4, 3) := dk_167 0 4 (dk_at dksX1_isApartBy_1 17 rfl rfl)
theorem dX1_isApartBy_44 : decode cX1_isApartBy 44 = .ok (.iconst 0, 1) := dk_3 (dk_at dksX1_isApartBy_1 20 rfl rfl)
theorem dX1_isApartBy_45 : decode cX1_isApartBy 45 = .ok (.ireturn, 1) := dk_172 (dk_at dksX1_isApartBy_1 21 rfl rfl)
abbrev cX1_hasPair : ByteArray := prog_17_method_14_code
def yX1_hasPair : MethodName := ⟨RX1, "hasPair", "(I)Z"⟩
def dkwX1_hasPair_0 : List UInt8 := [26, 6, 159, 0, 8, 26, 7, 160, 0, 7, 4, 167, 0, 4, 3, 172]
abbrev dktX1_hasPair_0 : List UInt8 := dkwX1_hasPair_0 ++ []
theorem dksX1_hasPair_0 : cX1_hasPair.data.toList.drop 0 = dktX1_hasPair_0 := by decide +kernel
theorem dX1_hasPair_0 : decode cX1_hasPair 0 = .ok (.iload_n 0, 1) := dk_26 (dk_at dksX1_hasPair_0 0 rfl rfl)
theorem dX1_hasPair_1 : decode cX1_hasPair 1 = .ok (.iconst 3, 1) := dk_6 (dk_at dksX1_hasPair_0 1 rfl rfl)
theorem dX1_hasPair_2 : decode cX1_hasPair 2 = .ok (.if_icmp .eq 8, 3) := dk_159 0 8 (dk_at dksX1_hasPair_0 2 rfl rfl)
theorem dX1_hasPair_5 : decode cX1_hasPair 5 = .ok (.iload_n 0, 1) := dk_26 (dk_at dksX1_hasPair_0 5 rfl rfl)
theorem dX1_hasPair_6 : decode cX1_hasPair 6 = .ok (.iconst 4, 1) := dk_7 (dk_at dksX1_hasPair_0 6 rfl rfl)
theorem dX1_hasPair_7 : decode cX1_hasPair 7 = .ok (.if_icmp .ne 7, 3) := dk_160 0 7 (dk_at dksX1_hasPair_0 7 rfl rfl)
theorem dX1_hasPair_10 : decode cX1_hasPair 10 = .ok (.iconst 1, 1) := dk_4 (dk_at dksX1_hasPair_0 10 rfl rfl)
theorem dX1_hasPair_11 : decode cX1_hasPair 11 = .ok (.goto 4, 3) := dk_167 0 4 (dk_at dksX1_hasPair_0 11 rfl rfl)
theorem dX1_hasPair_14 : decode cX1_hasPair 14 = .ok (.iconst 0, 1) := dk_3 (dk_at dksX1_hasPair_0 14 rfl rfl)
theorem dX1_hasPair_15 : decode cX1_hasPair 15 = .ok (.ireturn, 1) := dk_172 (dk_at dksX1_hasPair_0 15 rfl rfl)
abbrev cX1_wrongPair : ByteArray := prog_17_method_30_code
def yX1_wrongPair : MethodName := ⟨RX1, "wrongPair", "(IJJ)I"⟩
def dkwX1_wrongPair_5 : List UInt8 := [132, 8, 1, 167, 255, 202, 3, 172]
abbrev dktX1_wrongPair_5 : List UInt8 := dkwX1_wrongPair_5 ++ []
def dkwX1_wrongPair_4 : List UInt8 := [21, 8, 96, 46, 133, 109, 22, 6, 182, 0, 160, 22, 6, 184, 0, 136, 10, 148, 153, 0, 6, 16, 9, 172]
abbrev dktX1_wrongPair_4 : List UInt8 := dkwX1_wrongPair_4 ++ dktX1_wrongPair_5
def dkwX1_wrongPair_3 : List UInt8 := [180, 0, 68, 27, 46, 162, 0, 49, 42, 32, 22, 4, 22, 6, 10, 97, 42, 180, 0, 80, 16, 9, 27, 104]
abbrev dktX1_wrongPair_3 : List UInt8 := dkwX1_wrongPair_3 ++ dktX1_wrongPair_4
def dkwX1_wrongPair_2 : List UInt8 := [22, 6, 10, 97, 22, 6, 182, 0, 160, 9, 148, 153, 0, 6, 16, 8, 172, 3, 54, 8, 21, 8, 42]
abbrev dktX1_wrongPair_2 : List UInt8 := dkwX1_wrongPair_2 ++ dktX1_wrongPair_3
def dkwX1_wrongPair_1 : List UInt8 := [2, 160, 0, 15, 22, 4, 22, 6, 184, 0, 136, 10, 148, 153, 0, 6, 16, 7, 172, 42, 32, 22, 4]
abbrev dktX1_wrongPair_1 : List UInt8 := dkwX1_wrongPair_1 ++ dktX1_wrongPair_2
def dkwX1_wrongPair_0 : List UInt8 := [42, 180, 0, 53, 27, 46, 133, 55, 6, 32, 32, 105, 20, 0, 21, 22, 4, 105, 101, 22, 6, 184, 0, 156]
abbrev dktX1_wrongPair_0 : List UInt8 := dkwX1_wrongPair_0 ++ dktX1_wrongPair_1
theorem dksX1_wrongPair_0 : cX1_wrongPair.data.toList.drop 0 = dktX1_wrongPair_0 := by decide +kernel
theorem dksX1_wrongPair_1 : cX1_wrongPair.data.toList.drop 24 = dktX1_wrongPair_1 := dk_seg dksX1_wrongPair_0 24 rfl rfl
theorem dksX1_wrongPair_2 : cX1_wrongPair.data.toList.drop 47 = dktX1_wrongPair_2 := dk_seg dksX1_wrongPair_1 23 rfl rfl
theorem dksX1_wrongPair_3 : cX1_wrongPair.data.toList.drop 70 = dktX1_wrongPair_3 := dk_seg dksX1_wrongPair_2 23 rfl rfl
theorem dksX1_wrongPair_4 : cX1_wrongPair.data.toList.drop 94 = dktX1_wrongPair_4 := dk_seg dksX1_wrongPair_3 24 rfl rfl
theorem dksX1_wrongPair_5 : cX1_wrongPair.data.toList.drop 118 = dktX1_wrongPair_5 := dk_seg dksX1_wrongPair_4 24 rfl rfl
theorem dX1_wrongPair_0 : decode cX1_wrongPair 0 = .ok (.aload_n 0, 1) := dk_42 (dk_at dksX1_wrongPair_0 0 rfl rfl)
theorem dX1_wrongPair_1 : decode cX1_wrongPair 1 = .ok (.getfield 53, 3) := dk_180 0 53 (dk_at dksX1_wrongPair_0 1 rfl rfl)
theorem dX1_wrongPair_4 : decode cX1_wrongPair 4 = .ok (.iload_n 1, 1) := dk_27 (dk_at dksX1_wrongPair_0 4 rfl rfl)
theorem dX1_wrongPair_5 : decode cX1_wrongPair 5 = .ok (.iaload, 1) := dk_46 (dk_at dksX1_wrongPair_0 5 rfl rfl)
theorem dX1_wrongPair_6 : decode cX1_wrongPair 6 = .ok (.i2l, 1) := dk_133 (dk_at dksX1_wrongPair_0 6 rfl rfl)
theorem dX1_wrongPair_7 : decode cX1_wrongPair 7 = .ok (.lstore 6, 2) := dk_55 6 (dk_at dksX1_wrongPair_0 7 rfl rfl)
theorem dX1_wrongPair_9 : decode cX1_wrongPair 9 = .ok (.lload_n 2, 1) := dk_32 (dk_at dksX1_wrongPair_0 9 rfl rfl)
theorem dX1_wrongPair_10 : decode cX1_wrongPair 10 = .ok (.lload_n 2, 1) := dk_32 (dk_at dksX1_wrongPair_0 10 rfl rfl)
theorem dX1_wrongPair_11 : decode cX1_wrongPair 11 = .ok (.lmul, 1) := dk_105 (dk_at dksX1_wrongPair_0 11 rfl rfl)
theorem dX1_wrongPair_12 : decode cX1_wrongPair 12 = .ok (.ldc2_w 21, 3) := dk_20 0 21 (dk_at dksX1_wrongPair_0 12 rfl rfl)
theorem dX1_wrongPair_15 : decode cX1_wrongPair 15 = .ok (.lload 4, 2) := dk_22 4 (dk_at dksX1_wrongPair_0 15 rfl rfl)
theorem dX1_wrongPair_17 : decode cX1_wrongPair 17 = .ok (.lmul, 1) := dk_105 (dk_at dksX1_wrongPair_0 17 rfl rfl)
theorem dX1_wrongPair_18 : decode cX1_wrongPair 18 = .ok (.lsub, 1) := dk_101 (dk_at dksX1_wrongPair_0 18 rfl rfl)
theorem dX1_wrongPair_19 : decode cX1_wrongPair 19 = .ok (.lload 6, 2) := dk_22 6 (dk_at dksX1_wrongPair_0 19 rfl rfl)
theorem dX1_wrongPair_21 : decode cX1_wrongPair 21 = .ok (.invokestatic 156, 3) := dk_184 0 156 (dk_at dksX1_wrongPair_0 21 rfl rfl)
theorem dX1_wrongPair_24 : decode cX1_wrongPair 24 = .ok (.iconst (-1), 1) := dk_2 (dk_at dksX1_wrongPair_1 0 rfl rfl)
theorem dX1_wrongPair_25 : decode cX1_wrongPair 25 = .ok (.if_icmp .ne 15, 3) := dk_160 0 15 (dk_at dksX1_wrongPair_1 1 rfl rfl)
theorem dX1_wrongPair_28 : decode cX1_wrongPair 28 = .ok (.lload 4, 2) := dk_22 4 (dk_at dksX1_wrongPair_1 4 rfl rfl)
theorem dX1_wrongPair_30 : decode cX1_wrongPair 30 = .ok (.lload 6, 2) := dk_22 6 (dk_at dksX1_wrongPair_1 6 rfl rfl)
theorem dX1_wrongPair_32 : decode cX1_wrongPair 32 = .ok (.invokestatic 136, 3) := dk_184 0 136 (dk_at dksX1_wrongPair_1 8 rfl rfl)
theorem dX1_wrongPair_35 : decode cX1_wrongPair 35 = .ok (.lconst 1, 1) := dk_10 (dk_at dksX1_wrongPair_1 11 rfl rfl)
theorem dX1_wrongPair_36 : decode cX1_wrongPair 36 = .ok (.lcmp, 1) := dk_148 (dk_at dksX1_wrongPair_1 12 rfl rfl)
theorem dX1_wrongPair_37 : decode cX1_wrongPair 37 = .ok (.ifCond .eq 6, 3) := dk_153 0 6 (dk_at dksX1_wrongPair_1 13 rfl rfl)
theorem dX1_wrongPair_40 : decode cX1_wrongPair 40 = .ok (.bipush 7, 2) := dk_16 7 (dk_at dksX1_wrongPair_1 16 rfl rfl)
theorem dX1_wrongPair_42 : decode cX1_wrongPair 42 = .ok (.ireturn, 1) := dk_172 (dk_at dksX1_wrongPair_1 18 rfl rfl)
theorem dX1_wrongPair_43 : decode cX1_wrongPair 43 = .ok (.aload_n 0, 1) := dk_42 (dk_at dksX1_wrongPair_1 19 rfl rfl)
theorem dX1_wrongPair_44 : decode cX1_wrongPair 44 = .ok (.lload_n 2, 1) := dk_32 (dk_at dksX1_wrongPair_1 20 rfl rfl)
theorem dX1_wrongPair_45 : decode cX1_wrongPair 45 = .ok (.lload 4, 2) := dk_22 4 (dk_at dksX1_wrongPair_1 21 rfl rfl)
theorem dX1_wrongPair_47 : decode cX1_wrongPair 47 = .ok (.lload 6, 2) := dk_22 6 (dk_at dksX1_wrongPair_2 0 rfl rfl)
theorem dX1_wrongPair_49 : decode cX1_wrongPair 49 = .ok (.lconst 1, 1) := dk_10 (dk_at dksX1_wrongPair_2 2 rfl rfl)
theorem dX1_wrongPair_50 : decode cX1_wrongPair 50 = .ok (.ladd, 1) := dk_97 (dk_at dksX1_wrongPair_2 3 rfl rfl)
theorem dX1_wrongPair_51 : decode cX1_wrongPair 51 = .ok (.lload 6, 2) := dk_22 6 (dk_at dksX1_wrongPair_2 4 rfl rfl)
theorem dX1_wrongPair_53 : decode cX1_wrongPair 53 = .ok (.invokevirtual 160, 3) := dk_182 0 160 (dk_at dksX1_wrongPair_2 6 rfl rfl)
theorem dX1_wrongPair_56 : decode cX1_wrongPair 56 = .ok (.lconst 0, 1) := dk_9 (dk_at dksX1_wrongPair_2 9 rfl rfl)
theorem dX1_wrongPair_57 : decode cX1_wrongPair 57 = .ok (.lcmp, 1) := dk_148 (dk_at dksX1_wrongPair_2 10 rfl rfl)
theorem dX1_wrongPair_58 : decode cX1_wrongPair 58 = .ok (.ifCond .eq 6, 3) := dk_153 0 6 (dk_at dksX1_wrongPair_2 11 rfl rfl)
theorem dX1_wrongPair_61 : decode cX1_wrongPair 61 = .ok (.bipush 8, 2) := dk_16 8 (dk_at dksX1_wrongPair_2 14 rfl rfl)
theorem dX1_wrongPair_63 : decode cX1_wrongPair 63 = .ok (.ireturn, 1) := dk_172 (dk_at dksX1_wrongPair_2 16 rfl rfl)
theorem dX1_wrongPair_64 : decode cX1_wrongPair 64 = .ok (.iconst 0, 1) := dk_3 (dk_at dksX1_wrongPair_2 17 rfl rfl)
theorem dX1_wrongPair_65 : decode cX1_wrongPair 65 = .ok (.istore 8, 2) := dk_54 8 (dk_at dksX1_wrongPair_2 18 rfl rfl)
theorem dX1_wrongPair_67 : decode cX1_wrongPair 67 = .ok (.iload 8, 2) := dk_21 8 (dk_at dksX1_wrongPair_2 20 rfl rfl)
theorem dX1_wrongPair_69 : decode cX1_wrongPair 69 = .ok (.aload_n 0, 1) := dk_42 (dk_at dksX1_wrongPair_2 22 rfl rfl)
theorem dX1_wrongPair_70 : decode cX1_wrongPair 70 = .ok (.getfield 68, 3) := dk_180 0 68 (dk_at dksX1_wrongPair_3 0 rfl rfl)
theorem dX1_wrongPair_73 : decode cX1_wrongPair 73 = .ok (.iload_n 1, 1) := dk_27 (dk_at dksX1_wrongPair_3 3 rfl rfl)
theorem dX1_wrongPair_74 : decode cX1_wrongPair 74 = .ok (.iaload, 1) := dk_46 (dk_at dksX1_wrongPair_3 4 rfl rfl)
theorem dX1_wrongPair_75 : decode cX1_wrongPair 75 = .ok (.if_icmp .ge 49, 3) := dk_162 0 49 (dk_at dksX1_wrongPair_3 5 rfl rfl)
theorem dX1_wrongPair_78 : decode cX1_wrongPair 78 = .ok (.aload_n 0, 1) := dk_42 (dk_at dksX1_wrongPair_3 8 rfl rfl)
theorem dX1_wrongPair_79 : decode cX1_wrongPair 79 = .ok (.lload_n 2, 1) := dk_32 (dk_at dksX1_wrongPair_3 9 rfl rfl)
theorem dX1_wrongPair_80 : decode cX1_wrongPair 80 = .ok (.lload 4, 2) := dk_22 4 (dk_at dksX1_wrongPair_3 10 rfl rfl)
theorem dX1_wrongPair_82 : decode cX1_wrongPair 82 = .ok (.lload 6, 2) := dk_22 6 (dk_at dksX1_wrongPair_3 12 rfl rfl)
theorem dX1_wrongPair_84 : decode cX1_wrongPair 84 = .ok (.lconst 1, 1) := dk_10 (dk_at dksX1_wrongPair_3 14 rfl rfl)
theorem dX1_wrongPair_85 : decode cX1_wrongPair 85 = .ok (.ladd, 1) := dk_97 (dk_at dksX1_wrongPair_3 15 rfl rfl)
theorem dX1_wrongPair_86 : decode cX1_wrongPair 86 = .ok (.aload_n 0, 1) := dk_42 (dk_at dksX1_wrongPair_3 16 rfl rfl)
theorem dX1_wrongPair_87 : decode cX1_wrongPair 87 = .ok (.getfield 80, 3) := dk_180 0 80 (dk_at dksX1_wrongPair_3 17 rfl rfl)
theorem dX1_wrongPair_90 : decode cX1_wrongPair 90 = .ok (.bipush 9, 2) := dk_16 9 (dk_at dksX1_wrongPair_3 20 rfl rfl)
theorem dX1_wrongPair_92 : decode cX1_wrongPair 92 = .ok (.iload_n 1, 1) := dk_27 (dk_at dksX1_wrongPair_3 22 rfl rfl)
theorem dX1_wrongPair_93 : decode cX1_wrongPair 93 = .ok (.imul, 1) := dk_104 (dk_at dksX1_wrongPair_3 23 rfl rfl)
theorem dX1_wrongPair_94 : decode cX1_wrongPair 94 = .ok (.iload 8, 2) := dk_21 8 (dk_at dksX1_wrongPair_4 0 rfl rfl)
theorem dX1_wrongPair_96 : decode cX1_wrongPair 96 = .ok (.iadd, 1) := dk_96 (dk_at dksX1_wrongPair_4 2 rfl rfl)
theorem dX1_wrongPair_97 : decode cX1_wrongPair 97 = .ok (.iaload, 1) := dk_46 (dk_at dksX1_wrongPair_4 3 rfl rfl)
theorem dX1_wrongPair_98 : decode cX1_wrongPair 98 = .ok (.i2l, 1) := dk_133 (dk_at dksX1_wrongPair_4 4 rfl rfl)
theorem dX1_wrongPair_99 : decode cX1_wrongPair 99 = .ok (.ldiv, 1) := dk_109 (dk_at dksX1_wrongPair_4 5 rfl rfl)
theorem dX1_wrongPair_100 : decode cX1_wrongPair 100 = .ok (.lload 6, 2) := dk_22 6 (dk_at dksX1_wrongPair_4 6 rfl rfl)
theorem dX1_wrongPair_102 : decode cX1_wrongPair 102 = .ok (.invokevirtual 160, 3) := dk_182 0 160 (dk_at dksX1_wrongPair_4 8 rfl rfl)
theorem dX1_wrongPair_105 : decode cX1_wrongPair 105 = .ok (.lload 6, 2) := dk_22 6 (dk_at dksX1_wrongPair_4 11 rfl rfl)
theorem dX1_wrongPair_107 : decode cX1_wrongPair 107 = .ok (.invokestatic 136, 3) := dk_184 0 136 (dk_at dksX1_wrongPair_4 13 rfl rfl)
theorem dX1_wrongPair_110 : decode cX1_wrongPair 110 = .ok (.lconst 1, 1) := dk_10 (dk_at dksX1_wrongPair_4 16 rfl rfl)
theorem dX1_wrongPair_111 : decode cX1_wrongPair 111 = .ok (.lcmp, 1) := dk_148 (dk_at dksX1_wrongPair_4 17 rfl rfl)
theorem dX1_wrongPair_112 : decode cX1_wrongPair 112 = .ok (.ifCond .eq 6, 3) := dk_153 0 6 (dk_at dksX1_wrongPair_4 18 rfl rfl)
theorem dX1_wrongPair_115 : decode cX1_wrongPair 115 = .ok (.bipush 9, 2) := dk_16 9 (dk_at dksX1_wrongPair_4 21 rfl rfl)
theorem dX1_wrongPair_117 : decode cX1_wrongPair 117 = .ok (.ireturn, 1) := dk_172 (dk_at dksX1_wrongPair_4 23 rfl rfl)
theorem dX1_wrongPair_118 : decode cX1_wrongPair 118 = .ok (.iinc 8 1, 3) := dk_132 8 1 (dk_at dksX1_wrongPair_5 0 rfl rfl)
theorem dX1_wrongPair_121 : decode cX1_wrongPair 121 = .ok (.goto (-54), 3) := dk_167 255 202 (dk_at dksX1_wrongPair_5 3 rfl rfl)
theorem dX1_wrongPair_124 : decode cX1_wrongPair 124 = .ok (.iconst 0, 1) := dk_3 (dk_at dksX1_wrongPair_5 6 rfl rfl)
theorem dX1_wrongPair_125 : decode cX1_wrongPair 125 = .ok (.ireturn, 1) := dk_172 (dk_at dksX1_wrongPair_5 7 rfl rfl)
abbrev cX1_signOf : ByteArray := prog_17_method_7_code
def yX1_signOf : MethodName := ⟨RX1, "signOf", "(JJ)I"⟩
def dkwX1_signOf_6 : List UInt8 := [10, 148, 154, 0, 8, 21, 8, 167, 0, 4, 3, 172]
abbrev dktX1_signOf_6 : List UInt8 := dkwX1_signOf_6 ++ []
def dkwX1_signOf_5 : List UInt8 := [20, 0, 17, 148, 154, 0, 8, 21, 8, 116, 54, 8, 22, 6, 22, 4, 113, 55, 6, 167, 255, 146, 22, 4]
abbrev dktX1_signOf_5 : List UInt8 := dkwX1_signOf_5 ++ dktX1_signOf_6
def dkwX1_signOf_4 : List UInt8 := [22, 9, 55, 4, 22, 6, 20, 0, 21, 113, 20, 0, 17, 148, 154, 0, 21, 22, 4, 20, 0, 21, 113]
abbrev dktX1_signOf_4 : List UInt8 := dkwX1_signOf_4 ++ dktX1_signOf_5
def dkwX1_signOf_3 : List UInt8 := [113, 20, 0, 19, 148, 154, 255, 214, 21, 8, 116, 54, 8, 167, 255, 206, 22, 6, 55, 9, 22, 4, 55, 6]
abbrev dktX1_signOf_3 : List UInt8 := dkwX1_signOf_3 ++ dktX1_signOf_4
def dkwX1_signOf_2 : List UInt8 := [20, 0, 7, 109, 55, 6, 22, 4, 20, 0, 15, 113, 20, 0, 17, 148, 153, 0, 16, 22, 4, 20, 0, 15]
abbrev dktX1_signOf_2 : List UInt8 := dkwX1_signOf_2 ++ dktX1_signOf_3
def dkwX1_signOf_1 : List UInt8 := [54, 8, 22, 6, 9, 148, 153, 0, 109, 22, 6, 20, 0, 7, 113, 9, 148, 154, 0, 45, 22, 6]
abbrev dktX1_signOf_1 : List UInt8 := dkwX1_signOf_1 ++ dktX1_signOf_2
def dkwX1_signOf_0 : List UInt8 := [32, 55, 4, 30, 22, 4, 113, 55, 6, 22, 6, 9, 148, 156, 0, 10, 22, 6, 22, 4, 97, 55, 6, 4]
abbrev dktX1_signOf_0 : List UInt8 := dkwX1_signOf_0 ++ dktX1_signOf_1
theorem dksX1_signOf_0 : cX1_signOf.data.toList.drop 0 = dktX1_signOf_0 := by decide +kernel
theorem dksX1_signOf_1 : cX1_signOf.data.toList.drop 24 = dktX1_signOf_1 := dk_seg dksX1_signOf_0 24 rfl rfl
theorem dksX1_signOf_2 : cX1_signOf.data.toList.drop 46 = dktX1_signOf_2 := dk_seg dksX1_signOf_1 22 rfl rfl
theorem dksX1_signOf_3 : cX1_signOf.data.toList.drop 70 = dktX1_signOf_3 := dk_seg dksX1_signOf_2 24 rfl rfl
theorem dksX1_signOf_4 : cX1_signOf.data.toList.drop 94 = dktX1_signOf_4 := dk_seg dksX1_signOf_3 24 rfl rfl
theorem dksX1_signOf_5 : cX1_signOf.data.toList.drop 117 = dktX1_signOf_5 := dk_seg dksX1_signOf_4 23 rfl rfl
theorem dksX1_signOf_6 : cX1_signOf.data.toList.drop 141 = dktX1_signOf_6 := dk_seg dksX1_signOf_5 24 rfl rfl
theorem dX1_signOf_0 : decode cX1_signOf 0 = .ok (.lload_n 2, 1) := dk_32 (dk_at dksX1_signOf_0 0 rfl rfl)
theorem dX1_signOf_1 : decode cX1_signOf 1 = .ok (.lstore 4, 2) := dk_55 4 (dk_at dksX1_signOf_0 1 rfl rfl)
theorem dX1_signOf_3 : decode cX1_signOf 3 = .ok (.lload_n 0, 1) := dk_30 (dk_at dksX1_signOf_0 3 rfl rfl)
theorem dX1_signOf_4 : decode cX1_signOf 4 = .ok (.lload 4, 2) := dk_22 4 (dk_at dksX1_signOf_0 4 rfl rfl)
theorem dX1_signOf_6 : decode cX1_signOf 6 = .ok (.lrem, 1) := dk_113 (dk_at dksX1_signOf_0 6 rfl rfl)
theorem dX1_signOf_7 : decode cX1_signOf 7 = .ok (.lstore 6, 2) := dk_55 6 (dk_at dksX1_signOf_0 7 rfl rfl)
theorem dX1_signOf_9 : decode cX1_signOf 9 = .ok (.lload 6, 2) := dk_22 6 (dk_at dksX1_signOf_0 9 rfl rfl)
theorem dX1_signOf_11 : decode cX1_signOf 11 = .ok (.lconst 0, 1) := dk_9 (dk_at dksX1_signOf_0 11 rfl rfl)
theorem dX1_signOf_12 : decode cX1_signOf 12 = .ok (.lcmp, 1) := dk_148 (dk_at dksX1_signOf_0 12 rfl rfl)
theorem dX1_signOf_13 : decode cX1_signOf 13 = .ok (.ifCond .ge 10, 3) := dk_156 0 10 (dk_at dksX1_signOf_0 13 rfl rfl)
theorem dX1_signOf_16 : decode cX1_signOf 16 = .ok (.lload 6, 2) := dk_22 6 (dk_at dksX1_signOf_0 16 rfl rfl)
theorem dX1_signOf_18 : decode cX1_signOf 18 = .ok (.lload 4, 2) := dk_22 4 (dk_at dksX1_signOf_0 18 rfl rfl)
theorem dX1_signOf_20 : decode cX1_signOf 20 = .ok (.ladd, 1) := dk_97 (dk_at dksX1_signOf_0 20 rfl rfl)
theorem dX1_signOf_21 : decode cX1_signOf 21 = .ok (.lstore 6, 2) := dk_55 6 (dk_at dksX1_signOf_0 21 rfl rfl)
theorem dX1_signOf_23 : decode cX1_signOf 23 = .ok (.iconst 1, 1) := dk_4 (dk_at dksX1_signOf_0 23 rfl rfl)
theorem dX1_signOf_24 : decode cX1_signOf 24 = .ok (.istore 8, 2) := dk_54 8 (dk_at dksX1_signOf_1 0 rfl rfl)
theorem dX1_signOf_26 : decode cX1_signOf 26 = .ok (.lload 6, 2) := dk_22 6 (dk_at dksX1_signOf_1 2 rfl rfl)
theorem dX1_signOf_28 : decode cX1_signOf 28 = .ok (.lconst 0, 1) := dk_9 (dk_at dksX1_signOf_1 4 rfl rfl)
theorem dX1_signOf_29 : decode cX1_signOf 29 = .ok (.lcmp, 1) := dk_148 (dk_at dksX1_signOf_1 5 rfl rfl)
theorem dX1_signOf_30 : decode cX1_signOf 30 = .ok (.ifCond .eq 109, 3) := dk_153 0 109 (dk_at dksX1_signOf_1 6 rfl rfl)
theorem dX1_signOf_33 : decode cX1_signOf 33 = .ok (.lload 6, 2) := dk_22 6 (dk_at dksX1_signOf_1 9 rfl rfl)
theorem dX1_signOf_35 : decode cX1_signOf 35 = .ok (.ldc2_w 7, 3) := dk_20 0 7 (dk_at dksX1_signOf_1 11 rfl rfl)
theorem dX1_signOf_38 : decode cX1_signOf 38 = .ok (.lrem, 1) := dk_113 (dk_at dksX1_signOf_1 14 rfl rfl)
theorem dX1_signOf_39 : decode cX1_signOf 39 = .ok (.lconst 0, 1) := dk_9 (dk_at dksX1_signOf_1 15 rfl rfl)
theorem dX1_signOf_40 : decode cX1_signOf 40 = .ok (.lcmp, 1) := dk_148 (dk_at dksX1_signOf_1 16 rfl rfl)
theorem dX1_signOf_41 : decode cX1_signOf 41 = .ok (.ifCond .ne 45, 3) := dk_154 0 45 (dk_at dksX1_signOf_1 17 rfl rfl)
theorem dX1_signOf_44 : decode cX1_signOf 44 = .ok (.lload 6, 2) := dk_22 6 (dk_at dksX1_signOf_1 20 rfl rfl)
theorem dX1_signOf_46 : decode cX1_signOf 46 = .ok (.ldc2_w 7, 3) := dk_20 0 7 (dk_at dksX1_signOf_2 0 rfl rfl)
theorem dX1_signOf_49 : decode cX1_signOf 49 = .ok (.ldiv, 1) := dk_109 (dk_at dksX1_signOf_2 3 rfl rfl)
theorem dX1_signOf_50 : decode cX1_signOf 50 = .ok (.lstore 6, 2) := dk_55 6 (dk_at dksX1_signOf_2 4 rfl rfl)
theorem dX1_signOf_52 : decode cX1_signOf 52 = .ok (.lload 4, 2) := dk_22 4 (dk_at dksX1_signOf_2 6 rfl rfl)
theorem dX1_signOf_54 : decode cX1_signOf 54 = .ok (.ldc2_w 15, 3) := dk_20 0 15 (dk_at dksX1_signOf_2 8 rfl rfl)
theorem dX1_signOf_57 : decode cX1_signOf 57 = .ok (.lrem, 1) := dk_113 (dk_at dksX1_signOf_2 11 rfl rfl)
theorem dX1_signOf_58 : decode cX1_signOf 58 = .ok (.ldc2_w 17, 3) := dk_20 0 17 (dk_at dksX1_signOf_2 12 rfl rfl)
theorem dX1_signOf_61 : decode cX1_signOf 61 = .ok (.lcmp, 1) := dk_148 (dk_at dksX1_signOf_2 15 rfl rfl)
theorem dX1_signOf_62 : decode cX1_signOf 62 = .ok (.ifCond .eq 16, 3) := dk_153 0 16 (dk_at dksX1_signOf_2 16 rfl rfl)
theorem dX1_signOf_65 : decode cX1_signOf 65 = .ok (.lload 4, 2) := dk_22 4 (dk_at dksX1_signOf_2 19 rfl rfl)
theorem dX1_signOf_67 : decode cX1_signOf 67 = .ok (.ldc2_w 15, 3) := dk_20 0 15 (dk_at dksX1_signOf_2 21 rfl rfl)
theorem dX1_signOf_70 : decode cX1_signOf 70 = .ok (.lrem, 1) := dk_113 (dk_at dksX1_signOf_3 0 rfl rfl)
theorem dX1_signOf_71 : decode cX1_signOf 71 = .ok (.ldc2_w 19, 3) := dk_20 0 19 (dk_at dksX1_signOf_3 1 rfl rfl)
theorem dX1_signOf_74 : decode cX1_signOf 74 = .ok (.lcmp, 1) := dk_148 (dk_at dksX1_signOf_3 4 rfl rfl)
theorem dX1_signOf_75 : decode cX1_signOf 75 = .ok (.ifCond .ne (-42), 3) := dk_154 255 214 (dk_at dksX1_signOf_3 5 rfl rfl)
theorem dX1_signOf_78 : decode cX1_signOf 78 = .ok (.iload 8, 2) := dk_21 8 (dk_at dksX1_signOf_3 8 rfl rfl)
theorem dX1_signOf_80 : decode cX1_signOf 80 = .ok (.ineg, 1) := dk_116 (dk_at dksX1_signOf_3 10 rfl rfl)
theorem dX1_signOf_81 : decode cX1_signOf 81 = .ok (.istore 8, 2) := dk_54 8 (dk_at dksX1_signOf_3 11 rfl rfl)
theorem dX1_signOf_83 : decode cX1_signOf 83 = .ok (.goto (-50), 3) := dk_167 255 206 (dk_at dksX1_signOf_3 13 rfl rfl)
theorem dX1_signOf_86 : decode cX1_signOf 86 = .ok (.lload 6, 2) := dk_22 6 (dk_at dksX1_signOf_3 16 rfl rfl)
theorem dX1_signOf_88 : decode cX1_signOf 88 = .ok (.lstore 9, 2) := dk_55 9 (dk_at dksX1_signOf_3 18 rfl rfl)
theorem dX1_signOf_90 : decode cX1_signOf 90 = .ok (.lload 4, 2) := dk_22 4 (dk_at dksX1_signOf_3 20 rfl rfl)
theorem dX1_signOf_92 : decode cX1_signOf 92 = .ok (.lstore 6, 2) := dk_55 6 (dk_at dksX1_signOf_3 22 rfl rfl)
theorem dX1_signOf_94 : decode cX1_signOf 94 = .ok (.lload 9, 2) := dk_22 9 (dk_at dksX1_signOf_4 0 rfl rfl)
theorem dX1_signOf_96 : decode cX1_signOf 96 = .ok (.lstore 4, 2) := dk_55 4 (dk_at dksX1_signOf_4 2 rfl rfl)
theorem dX1_signOf_98 : decode cX1_signOf 98 = .ok (.lload 6, 2) := dk_22 6 (dk_at dksX1_signOf_4 4 rfl rfl)
theorem dX1_signOf_100 : decode cX1_signOf 100 = .ok (.ldc2_w 21, 3) := dk_20 0 21 (dk_at dksX1_signOf_4 6 rfl rfl)
theorem dX1_signOf_103 : decode cX1_signOf 103 = .ok (.lrem, 1) := dk_113 (dk_at dksX1_signOf_4 9 rfl rfl)
theorem dX1_signOf_104 : decode cX1_signOf 104 = .ok (.ldc2_w 17, 3) := dk_20 0 17 (dk_at dksX1_signOf_4 10 rfl rfl)
theorem dX1_signOf_107 : decode cX1_signOf 107 = .ok (.lcmp, 1) := dk_148 (dk_at dksX1_signOf_4 13 rfl rfl)
theorem dX1_signOf_108 : decode cX1_signOf 108 = .ok (.ifCond .ne 21, 3) := dk_154 0 21 (dk_at dksX1_signOf_4 14 rfl rfl)
theorem dX1_signOf_111 : decode cX1_signOf 111 = .ok (.lload 4, 2) := dk_22 4 (dk_at dksX1_signOf_4 17 rfl rfl)
theorem dX1_signOf_113 : decode cX1_signOf 113 = .ok (.ldc2_w 21, 3) := dk_20 0 21 (dk_at dksX1_signOf_4 19 rfl rfl)
theorem dX1_signOf_116 : decode cX1_signOf 116 = .ok (.lrem, 1) := dk_113 (dk_at dksX1_signOf_4 22 rfl rfl)
theorem dX1_signOf_117 : decode cX1_signOf 117 = .ok (.ldc2_w 17, 3) := dk_20 0 17 (dk_at dksX1_signOf_5 0 rfl rfl)
theorem dX1_signOf_120 : decode cX1_signOf 120 = .ok (.lcmp, 1) := dk_148 (dk_at dksX1_signOf_5 3 rfl rfl)
theorem dX1_signOf_121 : decode cX1_signOf 121 = .ok (.ifCond .ne 8, 3) := dk_154 0 8 (dk_at dksX1_signOf_5 4 rfl rfl)
theorem dX1_signOf_124 : decode cX1_signOf 124 = .ok (.iload 8, 2) := dk_21 8 (dk_at dksX1_signOf_5 7 rfl rfl)
theorem dX1_signOf_126 : decode cX1_signOf 126 = .ok (.ineg, 1) := dk_116 (dk_at dksX1_signOf_5 9 rfl rfl)
theorem dX1_signOf_127 : decode cX1_signOf 127 = .ok (.istore 8, 2) := dk_54 8 (dk_at dksX1_signOf_5 10 rfl rfl)
theorem dX1_signOf_129 : decode cX1_signOf 129 = .ok (.lload 6, 2) := dk_22 6 (dk_at dksX1_signOf_5 12 rfl rfl)
theorem dX1_signOf_131 : decode cX1_signOf 131 = .ok (.lload 4, 2) := dk_22 4 (dk_at dksX1_signOf_5 14 rfl rfl)
theorem dX1_signOf_133 : decode cX1_signOf 133 = .ok (.lrem, 1) := dk_113 (dk_at dksX1_signOf_5 16 rfl rfl)
theorem dX1_signOf_134 : decode cX1_signOf 134 = .ok (.lstore 6, 2) := dk_55 6 (dk_at dksX1_signOf_5 17 rfl rfl)
theorem dX1_signOf_136 : decode cX1_signOf 136 = .ok (.goto (-110), 3) := dk_167 255 146 (dk_at dksX1_signOf_5 19 rfl rfl)
theorem dX1_signOf_139 : decode cX1_signOf 139 = .ok (.lload 4, 2) := dk_22 4 (dk_at dksX1_signOf_5 22 rfl rfl)
theorem dX1_signOf_141 : decode cX1_signOf 141 = .ok (.lconst 1, 1) := dk_10 (dk_at dksX1_signOf_6 0 rfl rfl)
theorem dX1_signOf_142 : decode cX1_signOf 142 = .ok (.lcmp, 1) := dk_148 (dk_at dksX1_signOf_6 1 rfl rfl)
theorem dX1_signOf_143 : decode cX1_signOf 143 = .ok (.ifCond .ne 8, 3) := dk_154 0 8 (dk_at dksX1_signOf_6 2 rfl rfl)
theorem dX1_signOf_146 : decode cX1_signOf 146 = .ok (.iload 8, 2) := dk_21 8 (dk_at dksX1_signOf_6 5 rfl rfl)
theorem dX1_signOf_148 : decode cX1_signOf 148 = .ok (.goto 4, 3) := dk_167 0 4 (dk_at dksX1_signOf_6 7 rfl rfl)
theorem dX1_signOf_151 : decode cX1_signOf 151 = .ok (.iconst 0, 1) := dk_3 (dk_at dksX1_signOf_6 10 rfl rfl)
theorem dX1_signOf_152 : decode cX1_signOf 152 = .ok (.ireturn, 1) := dk_172 (dk_at dksX1_signOf_6 11 rfl rfl)
abbrev cX1_sequence : ByteArray := prog_17_method_9_code
def yX1_sequence : MethodName := ⟨RX1, "sequence", "(JJJJ)J"⟩
def dkwX1_sequence_5 : List UInt8 := [180, 0, 30, 22, 7, 182, 0, 33, 22, 9, 4, 123, 55, 9, 167, 255, 206, 42, 180, 0, 27, 5, 47, 173]
abbrev dktX1_sequence_5 : List UInt8 := dkwX1_sequence_5 ++ []
def dkwX1_sequence_4 : List UInt8 := [154, 0, 17, 42, 42, 180, 0, 27, 42, 180, 0, 30, 22, 7, 182, 0, 33, 42, 42, 180, 0, 30, 42]
abbrev dktX1_sequence_4 : List UInt8 := dkwX1_sequence_4 ++ dktX1_sequence_5
def dkwX1_sequence_3 : List UInt8 := [180, 0, 30, 6, 9, 80, 22, 5, 55, 9, 22, 9, 9, 148, 158, 0, 49, 22, 9, 10, 127, 10, 148]
abbrev dktX1_sequence_3 : List UInt8 := dkwX1_sequence_3 ++ dktX1_sequence_4
def dkwX1_sequence_2 : List UInt8 := [4, 22, 7, 33, 22, 7, 113, 101, 22, 7, 113, 80, 42, 180, 0, 30, 5, 10, 22, 7, 113, 80, 42]
abbrev dktX1_sequence_2 : List UInt8 := dkwX1_sequence_2 ++ dktX1_sequence_3
def dkwX1_sequence_1 : List UInt8 := [42, 180, 0, 27, 6, 10, 22, 7, 113, 80, 42, 180, 0, 30, 3, 31, 22, 7, 113, 80, 42, 180, 0, 30]
abbrev dktX1_sequence_1 : List UInt8 := dkwX1_sequence_1 ++ dktX1_sequence_2
def dkwX1_sequence_0 : List UInt8 := [42, 180, 0, 27, 3, 10, 22, 7, 113, 80, 42, 180, 0, 27, 4, 9, 80, 42, 180, 0, 27, 5, 9, 80]
abbrev dktX1_sequence_0 : List UInt8 := dkwX1_sequence_0 ++ dktX1_sequence_1
theorem dksX1_sequence_0 : cX1_sequence.data.toList.drop 0 = dktX1_sequence_0 := by decide +kernel
theorem dksX1_sequence_1 : cX1_sequence.data.toList.drop 24 = dktX1_sequence_1 := dk_seg dksX1_sequence_0 24 rfl rfl
theorem dksX1_sequence_2 : cX1_sequence.data.toList.drop 48 = dktX1_sequence_2 := dk_seg dksX1_sequence_1 24 rfl rfl
theorem dksX1_sequence_3 : cX1_sequence.data.toList.drop 71 = dktX1_sequence_3 := dk_seg dksX1_sequence_2 23 rfl rfl
theorem dksX1_sequence_4 : cX1_sequence.data.toList.drop 94 = dktX1_sequence_4 := dk_seg dksX1_sequence_3 23 rfl rfl
theorem dksX1_sequence_5 : cX1_sequence.data.toList.drop 117 = dktX1_sequence_5 := dk_seg dksX1_sequence_4 23 rfl rfl
theorem dX1_sequence_0 : decode cX1_sequence 0 = .ok (.aload_n 0, 1) := dk_42 (dk_at dksX1_sequence_0 0 rfl rfl)
theorem dX1_sequence_1 : decode cX1_sequence 1 = .ok (.getfield 27, 3) := dk_180 0 27 (dk_at dksX1_sequence_0 1 rfl rfl)
theorem dX1_sequence_4 : decode cX1_sequence 4 = .ok (.iconst 0, 1) := dk_3 (dk_at dksX1_sequence_0 4 rfl rfl)
theorem dX1_sequence_5 : decode cX1_sequence 5 = .ok (.lconst 1, 1) := dk_10 (dk_at dksX1_sequence_0 5 rfl rfl)
theorem dX1_sequence_6 : decode cX1_sequence 6 = .ok (.lload 7, 2) := dk_22 7 (dk_at dksX1_sequence_0 6 rfl rfl)
theorem dX1_sequence_8 : decode cX1_sequence 8 = .ok (.lrem, 1) := dk_113 (dk_at dksX1_sequence_0 8 rfl rfl)
theorem dX1_sequence_9 : decode cX1_sequence 9 = .ok (.lastore, 1) := dk_80 (dk_at dksX1_sequence_0 9 rfl rfl)
theorem dX1_sequence_10 : decode cX1_sequence 10 = .ok (.aload_n 0, 1) := dk_42 (dk_at dksX1_sequence_0 10 rfl rfl)
theorem dX1_sequence_11 : decode cX1_sequence 11 = .ok (.getfield 27, 3) := dk_180 0 27 (dk_at dksX1_sequence_0 11 rfl rfl)
theorem dX1_sequence_14 : decode cX1_sequence 14 = .ok (.iconst 1, 1) := dk_4 (dk_at dksX1_sequence_0 14 rfl rfl)
theorem dX1_sequence_15 : decode cX1_sequence 15 = .ok (.lconst 0, 1) := dk_9 (dk_at dksX1_sequence_0 15 rfl rfl)
theorem dX1_sequence_16 : decode cX1_sequence 16 = .ok (.lastore, 1) := dk_80 (dk_at dksX1_sequence_0 16 rfl rfl)
theorem dX1_sequence_17 : decode cX1_sequence 17 = .ok (.aload_n 0, 1) := dk_42 (dk_at dksX1_sequence_0 17 rfl rfl)
theorem dX1_sequence_18 : decode cX1_sequence 18 = .ok (.getfield 27, 3) := dk_180 0 27 (dk_at dksX1_sequence_0 18 rfl rfl)
theorem dX1_sequence_21 : decode cX1_sequence 21 = .ok (.iconst 2, 1) := dk_5 (dk_at dksX1_sequence_0 21 rfl rfl)
theorem dX1_sequence_22 : decode cX1_sequence 22 = .ok (.lconst 0, 1) := dk_9 (dk_at dksX1_sequence_0 22 rfl rfl)
theorem dX1_sequence_23 : decode cX1_sequence 23 = .ok (.lastore, 1) := dk_80 (dk_at dksX1_sequence_0 23 rfl rfl)
theorem dX1_sequence_24 : decode cX1_sequence 24 = .ok (.aload_n 0, 1) := dk_42 (dk_at dksX1_sequence_1 0 rfl rfl)
theorem dX1_sequence_25 : decode cX1_sequence 25 = .ok (.getfield 27, 3) := dk_180 0 27 (dk_at dksX1_sequence_1 1 rfl rfl)
theorem dX1_sequence_28 : decode cX1_sequence 28 = .ok (.iconst 3, 1) := dk_6 (dk_at dksX1_sequence_1 4 rfl rfl)
theorem dX1_sequence_29 : decode cX1_sequence 29 = .ok (.lconst 1, 1) := dk_10 (dk_at dksX1_sequence_1 5 rfl rfl)
theorem dX1_sequence_30 : decode cX1_sequence 30 = .ok (.lload 7, 2) := dk_22 7 (dk_at dksX1_sequence_1 6 rfl rfl)
theorem dX1_sequence_32 : decode cX1_sequence 32 = .ok (.lrem, 1) := dk_113 (dk_at dksX1_sequence_1 8 rfl rfl)
theorem dX1_sequence_33 : decode cX1_sequence 33 = .ok (.lastore, 1) := dk_80 (dk_at dksX1_sequence_1 9 rfl rfl)
theorem dX1_sequence_34 : decode cX1_sequence 34 = .ok (.aload_n 0, 1) := dk_42 (dk_at dksX1_sequence_1 10 rfl rfl)
theorem dX1_sequence_35 : decode cX1_sequence 35 = .ok (.getfield 30, 3) := dk_180 0 30 (dk_at dksX1_sequence_1 11 rfl rfl)
theorem dX1_sequence_38 : decode cX1_sequence 38 = .ok (.iconst 0, 1) := dk_3 (dk_at dksX1_sequence_1 14 rfl rfl)
theorem dX1_sequence_39 : decode cX1_sequence 39 = .ok (.lload_n 1, 1) := dk_31 (dk_at dksX1_sequence_1 15 rfl rfl)
theorem dX1_sequence_40 : decode cX1_sequence 40 = .ok (.lload 7, 2) := dk_22 7 (dk_at dksX1_sequence_1 16 rfl rfl)
theorem dX1_sequence_42 : decode cX1_sequence 42 = .ok (.lrem, 1) := dk_113 (dk_at dksX1_sequence_1 18 rfl rfl)
theorem dX1_sequence_43 : decode cX1_sequence 43 = .ok (.lastore, 1) := dk_80 (dk_at dksX1_sequence_1 19 rfl rfl)
theorem dX1_sequence_44 : decode cX1_sequence 44 = .ok (.aload_n 0, 1) := dk_42 (dk_at dksX1_sequence_1 20 rfl rfl)
theorem dX1_sequence_45 : decode cX1_sequence 45 = .ok (.getfield 30, 3) := dk_180 0 30 (dk_at dksX1_sequence_1 21 rfl rfl)
theorem dX1_sequence_48 : decode cX1_sequence 48 = .ok (.iconst 1, 1) := dk_4 (dk_at dksX1_sequence_2 0 rfl rfl)
theorem dX1_sequence_49 : decode cX1_sequence 49 = .ok (.lload 7, 2) := dk_22 7 (dk_at dksX1_sequence_2 1 rfl rfl)
theorem dX1_sequence_51 : decode cX1_sequence 51 = .ok (.lload_n 3, 1) := dk_33 (dk_at dksX1_sequence_2 3 rfl rfl)
theorem dX1_sequence_52 : decode cX1_sequence 52 = .ok (.lload 7, 2) := dk_22 7 (dk_at dksX1_sequence_2 4 rfl rfl)
theorem dX1_sequence_54 : decode cX1_sequence 54 = .ok (.lrem, 1) := dk_113 (dk_at dksX1_sequence_2 6 rfl rfl)
theorem dX1_sequence_55 : decode cX1_sequence 55 = .ok (.lsub, 1) := dk_101 (dk_at dksX1_sequence_2 7 rfl rfl)
theorem dX1_sequence_56 : decode cX1_sequence 56 = .ok (.lload 7, 2) := dk_22 7 (dk_at dksX1_sequence_2 8 rfl rfl)
theorem dX1_sequence_58 : decode cX1_sequence 58 = .ok (.lrem, 1) := dk_113 (dk_at dksX1_sequence_2 10 rfl rfl)
theorem dX1_sequence_59 : decode cX1_sequence 59 = .ok (.lastore, 1) := dk_80 (dk_at dksX1_sequence_2 11 rfl rfl)
theorem dX1_sequence_60 : decode cX1_sequence 60 = .ok (.aload_n 0, 1) := dk_42 (dk_at dksX1_sequence_2 12 rfl rfl)
theorem dX1_sequence_61 : decode cX1_sequence 61 = .ok (.getfield 30, 3) := dk_180 0 30 (dk_at dksX1_sequence_2 13 rfl rfl)
theorem dX1_sequence_64 : decode cX1_sequence 64 = .ok (.iconst 2, 1) := dk_5 (dk_at dksX1_sequence_2 16 rfl rfl)
theorem dX1_sequence_65 : decode cX1_sequence 65 = .ok (.lconst 1, 1) := dk_10 (dk_at dksX1_sequence_2 17 rfl rfl)
theorem dX1_sequence_66 : decode cX1_sequence 66 = .ok (.lload 7, 2) := dk_22 7 (dk_at dksX1_sequence_2 18 rfl rfl)
theorem dX1_sequence_68 : decode cX1_sequence 68 = .ok (.lrem, 1) := dk_113 (dk_at dksX1_sequence_2 20 rfl rfl)
theorem dX1_sequence_69 : decode cX1_sequence 69 = .ok (.lastore, 1) := dk_80 (dk_at dksX1_sequence_2 21 rfl rfl)
theorem dX1_sequence_70 : decode cX1_sequence 70 = .ok (.aload_n 0, 1) := dk_42 (dk_at dksX1_sequence_2 22 rfl rfl)
theorem dX1_sequence_71 : decode cX1_sequence 71 = .ok (.getfield 30, 3) := dk_180 0 30 (dk_at dksX1_sequence_3 0 rfl rfl)
theorem dX1_sequence_74 : decode cX1_sequence 74 = .ok (.iconst 3, 1) := dk_6 (dk_at dksX1_sequence_3 3 rfl rfl)
theorem dX1_sequence_75 : decode cX1_sequence 75 = .ok (.lconst 0, 1) := dk_9 (dk_at dksX1_sequence_3 4 rfl rfl)
theorem dX1_sequence_76 : decode cX1_sequence 76 = .ok (.lastore, 1) := dk_80 (dk_at dksX1_sequence_3 5 rfl rfl)
theorem dX1_sequence_77 : decode cX1_sequence 77 = .ok (.lload 5, 2) := dk_22 5 (dk_at dksX1_sequence_3 6 rfl rfl)
theorem dX1_sequence_79 : decode cX1_sequence 79 = .ok (.lstore 9, 2) := dk_55 9 (dk_at dksX1_sequence_3 8 rfl rfl)
theorem dX1_sequence_81 : decode cX1_sequence 81 = .ok (.lload 9, 2) := dk_22 9 (dk_at dksX1_sequence_3 10 rfl rfl)
theorem dX1_sequence_83 : decode cX1_sequence 83 = .ok (.lconst 0, 1) := dk_9 (dk_at dksX1_sequence_3 12 rfl rfl)
theorem dX1_sequence_84 : decode cX1_sequence 84 = .ok (.lcmp, 1) := dk_148 (dk_at dksX1_sequence_3 13 rfl rfl)
theorem dX1_sequence_85 : decode cX1_sequence 85 = .ok (.ifCond .le 49, 3) := dk_158 0 49 (dk_at dksX1_sequence_3 14 rfl rfl)
theorem dX1_sequence_88 : decode cX1_sequence 88 = .ok (.lload 9, 2) := dk_22 9 (dk_at dksX1_sequence_3 17 rfl rfl)
theorem dX1_sequence_90 : decode cX1_sequence 90 = .ok (.lconst 1, 1) := dk_10 (dk_at dksX1_sequence_3 19 rfl rfl)
theorem dX1_sequence_91 : decode cX1_sequence 91 = .ok (.land, 1) := dk_127 (dk_at dksX1_sequence_3 20 rfl rfl)
theorem dX1_sequence_92 : decode cX1_sequence 92 = .ok (.lconst 1, 1) := dk_10 (dk_at dksX1_sequence_3 21 rfl rfl)
theorem dX1_sequence_93 : decode cX1_sequence 93 = .ok (.lcmp, 1) := dk_148 (dk_at dksX1_sequence_3 22 rfl rfl)
theorem dX1_sequence_94 : decode cX1_sequence 94 = .ok (.ifCond .ne 17, 3) := dk_154 0 17 (dk_at dksX1_sequence_4 0 rfl rfl)
theorem dX1_sequence_97 : decode cX1_sequence 97 = .ok (.aload_n 0, 1) := dk_42 (dk_at dksX1_sequence_4 3 rfl rfl)
theorem dX1_sequence_98 : decode cX1_sequence 98 = .ok (.aload_n 0, 1) := dk_42 (dk_at dksX1_sequence_4 4 rfl rfl)
theorem dX1_sequence_99 : decode cX1_sequence 99 = .ok (.getfield 27, 3) := dk_180 0 27 (dk_at dksX1_sequence_4 5 rfl rfl)
theorem dX1_sequence_102 : decode cX1_sequence 102 = .ok (.aload_n 0, 1) := dk_42 (dk_at dksX1_sequence_4 8 rfl rfl)
theorem dX1_sequence_103 : decode cX1_sequence 103 = .ok (.getfield 30, 3) := dk_180 0 30 (dk_at dksX1_sequence_4 9 rfl rfl)
theorem dX1_sequence_106 : decode cX1_sequence 106 = .ok (.lload 7, 2) := dk_22 7 (dk_at dksX1_sequence_4 12 rfl rfl)
theorem dX1_sequence_108 : decode cX1_sequence 108 = .ok (.invokevirtual 33, 3) := dk_182 0 33 (dk_at dksX1_sequence_4 14 rfl rfl)
theorem dX1_sequence_111 : decode cX1_sequence 111 = .ok (.aload_n 0, 1) := dk_42 (dk_at dksX1_sequence_4 17 rfl rfl)
theorem dX1_sequence_112 : decode cX1_sequence 112 = .ok (.aload_n 0, 1) := dk_42 (dk_at dksX1_sequence_4 18 rfl rfl)
theorem dX1_sequence_113 : decode cX1_sequence 113 = .ok (.getfield 30, 3) := dk_180 0 30 (dk_at dksX1_sequence_4 19 rfl rfl)
theorem dX1_sequence_116 : decode cX1_sequence 116 = .ok (.aload_n 0, 1) := dk_42 (dk_at dksX1_sequence_4 22 rfl rfl)
theorem dX1_sequence_117 : decode cX1_sequence 117 = .ok (.getfield 30, 3) := dk_180 0 30 (dk_at dksX1_sequence_5 0 rfl rfl)
theorem dX1_sequence_120 : decode cX1_sequence 120 = .ok (.lload 7, 2) := dk_22 7 (dk_at dksX1_sequence_5 3 rfl rfl)
theorem dX1_sequence_122 : decode cX1_sequence 122 = .ok (.invokevirtual 33, 3) := dk_182 0 33 (dk_at dksX1_sequence_5 5 rfl rfl)
theorem dX1_sequence_125 : decode cX1_sequence 125 = .ok (.lload 9, 2) := dk_22 9 (dk_at dksX1_sequence_5 8 rfl rfl)
theorem dX1_sequence_127 : decode cX1_sequence 127 = .ok (.iconst 1, 1) := dk_4 (dk_at dksX1_sequence_5 10 rfl rfl)
theorem dX1_sequence_128 : decode cX1_sequence 128 = .ok (.lshr, 1) := dk_123 (dk_at dksX1_sequence_5 11 rfl rfl)
theorem dX1_sequence_129 : decode cX1_sequence 129 = .ok (.lstore 9, 2) := dk_55 9 (dk_at dksX1_sequence_5 12 rfl rfl)
theorem dX1_sequence_131 : decode cX1_sequence 131 = .ok (.goto (-50), 3) := dk_167 255 206 (dk_at dksX1_sequence_5 14 rfl rfl)
theorem dX1_sequence_134 : decode cX1_sequence 134 = .ok (.aload_n 0, 1) := dk_42 (dk_at dksX1_sequence_5 17 rfl rfl)
theorem dX1_sequence_135 : decode cX1_sequence 135 = .ok (.getfield 27, 3) := dk_180 0 27 (dk_at dksX1_sequence_5 18 rfl rfl)
theorem dX1_sequence_138 : decode cX1_sequence 138 = .ok (.iconst 2, 1) := dk_5 (dk_at dksX1_sequence_5 21 rfl rfl)
theorem dX1_sequence_139 : decode cX1_sequence 139 = .ok (.laload, 1) := dk_47 (dk_at dksX1_sequence_5 22 rfl rfl)
theorem dX1_sequence_140 : decode cX1_sequence 140 = .ok (.lreturn, 1) := dk_173 (dk_at dksX1_sequence_5 23 rfl rfl)
abbrev cX1_times : ByteArray := prog_17_method_8_code
def yX1_times : MethodName := ⟨RX1, "times", "([J[JJ)V"⟩
def dkwX1_times_4 : List UInt8 := [167, 255, 236, 177]
abbrev dktX1_times_4 : List UInt8 := dkwX1_times_4 ++ []
def dkwX1_times_3 : List UInt8 := [3, 54, 5, 21, 5, 7, 162, 0, 20, 43, 21, 5, 42, 180, 0, 23, 21, 5, 47, 80, 132, 5, 1]
abbrev dktX1_times_3 : List UInt8 := dkwX1_times_3 ++ dktX1_times_4
def dkwX1_times_2 : List UInt8 := [47, 44, 5, 21, 6, 96, 47, 105, 97, 33, 113, 80, 132, 6, 1, 167, 255, 206, 132, 5, 1, 167, 255, 191]
abbrev dktX1_times_2 : List UInt8 := dkwX1_times_2 ++ dktX1_times_3
def dkwX1_times_1 : List UInt8 := [21, 5, 104, 21, 6, 96, 43, 5, 21, 5, 104, 47, 44, 21, 6, 47, 105, 43, 5, 21, 5, 104, 4, 96]
abbrev dktX1_times_1 : List UInt8 := dkwX1_times_1 ++ dktX1_times_2
def dkwX1_times_0 : List UInt8 := [3, 54, 5, 21, 5, 5, 162, 0, 65, 3, 54, 6, 21, 6, 5, 162, 0, 50, 42, 180, 0, 23, 5]
abbrev dktX1_times_0 : List UInt8 := dkwX1_times_0 ++ dktX1_times_1
theorem dksX1_times_0 : cX1_times.data.toList.drop 0 = dktX1_times_0 := by decide +kernel
theorem dksX1_times_1 : cX1_times.data.toList.drop 23 = dktX1_times_1 := dk_seg dksX1_times_0 23 rfl rfl
theorem dksX1_times_2 : cX1_times.data.toList.drop 47 = dktX1_times_2 := dk_seg dksX1_times_1 24 rfl rfl
theorem dksX1_times_3 : cX1_times.data.toList.drop 71 = dktX1_times_3 := dk_seg dksX1_times_2 24 rfl rfl
theorem dksX1_times_4 : cX1_times.data.toList.drop 94 = dktX1_times_4 := dk_seg dksX1_times_3 23 rfl rfl
theorem dX1_times_0 : decode cX1_times 0 = .ok (.iconst 0, 1) := dk_3 (dk_at dksX1_times_0 0 rfl rfl)
theorem dX1_times_1 : decode cX1_times 1 = .ok (.istore 5, 2) := dk_54 5 (dk_at dksX1_times_0 1 rfl rfl)
theorem dX1_times_3 : decode cX1_times 3 = .ok (.iload 5, 2) := dk_21 5 (dk_at dksX1_times_0 3 rfl rfl)
theorem dX1_times_5 : decode cX1_times 5 = .ok (.iconst 2, 1) := dk_5 (dk_at dksX1_times_0 5 rfl rfl)
theorem dX1_times_6 : decode cX1_times 6 = .ok (.if_icmp .ge 65, 3) := dk_162 0 65 (dk_at dksX1_times_0 6 rfl rfl)
theorem dX1_times_9 : decode cX1_times 9 = .ok (.iconst 0, 1) := dk_3 (dk_at dksX1_times_0 9 rfl rfl)
theorem dX1_times_10 : decode cX1_times 10 = .ok (.istore 6, 2) := dk_54 6 (dk_at dksX1_times_0 10 rfl rfl)
theorem dX1_times_12 : decode cX1_times 12 = .ok (.iload 6, 2) := dk_21 6 (dk_at dksX1_times_0 12 rfl rfl)
theorem dX1_times_14 : decode cX1_times 14 = .ok (.iconst 2, 1) := dk_5 (dk_at dksX1_times_0 14 rfl rfl)
theorem dX1_times_15 : decode cX1_times 15 = .ok (.if_icmp .ge 50, 3) := dk_162 0 50 (dk_at dksX1_times_0 15 rfl rfl)
theorem dX1_times_18 : decode cX1_times 18 = .ok (.aload_n 0, 1) := dk_42 (dk_at dksX1_times_0 18 rfl rfl)
theorem dX1_times_19 : decode cX1_times 19 = .ok (.getfield 23, 3) := dk_180 0 23 (dk_at dksX1_times_0 19 rfl rfl)
theorem dX1_times_22 : decode cX1_times 22 = .ok (.iconst 2, 1) := dk_5 (dk_at dksX1_times_0 22 rfl rfl)
theorem dX1_times_23 : decode cX1_times 23 = .ok (.iload 5, 2) := dk_21 5 (dk_at dksX1_times_1 0 rfl rfl)
theorem dX1_times_25 : decode cX1_times 25 = .ok (.imul, 1) := dk_104 (dk_at dksX1_times_1 2 rfl rfl)
theorem dX1_times_26 : decode cX1_times 26 = .ok (.iload 6, 2) := dk_21 6 (dk_at dksX1_times_1 3 rfl rfl)
theorem dX1_times_28 : decode cX1_times 28 = .ok (.iadd, 1) := dk_96 (dk_at dksX1_times_1 5 rfl rfl)
theorem dX1_times_29 : decode cX1_times 29 = .ok (.aload_n 1, 1) := dk_43 (dk_at dksX1_times_1 6 rfl rfl)
theorem dX1_times_30 : decode cX1_times 30 = .ok (.iconst 2, 1) := dk_5 (dk_at dksX1_times_1 7 rfl rfl)
theorem dX1_times_31 : decode cX1_times 31 = .ok (.iload 5, 2) := dk_21 5 (dk_at dksX1_times_1 8 rfl rfl)
theorem dX1_times_33 : decode cX1_times 33 = .ok (.imul, 1) := dk_104 (dk_at dksX1_times_1 10 rfl rfl)
theorem dX1_times_34 : decode cX1_times 34 = .ok (.laload, 1) := dk_47 (dk_at dksX1_times_1 11 rfl rfl)
theorem dX1_times_35 : decode cX1_times 35 = .ok (.aload_n 2, 1) := dk_44 (dk_at dksX1_times_1 12 rfl rfl)
theorem dX1_times_36 : decode cX1_times 36 = .ok (.iload 6, 2) := dk_21 6 (dk_at dksX1_times_1 13 rfl rfl)
theorem dX1_times_38 : decode cX1_times 38 = .ok (.laload, 1) := dk_47 (dk_at dksX1_times_1 15 rfl rfl)
theorem dX1_times_39 : decode cX1_times 39 = .ok (.lmul, 1) := dk_105 (dk_at dksX1_times_1 16 rfl rfl)
theorem dX1_times_40 : decode cX1_times 40 = .ok (.aload_n 1, 1) := dk_43 (dk_at dksX1_times_1 17 rfl rfl)
theorem dX1_times_41 : decode cX1_times 41 = .ok (.iconst 2, 1) := dk_5 (dk_at dksX1_times_1 18 rfl rfl)
theorem dX1_times_42 : decode cX1_times 42 = .ok (.iload 5, 2) := dk_21 5 (dk_at dksX1_times_1 19 rfl rfl)
theorem dX1_times_44 : decode cX1_times 44 = .ok (.imul, 1) := dk_104 (dk_at dksX1_times_1 21 rfl rfl)
theorem dX1_times_45 : decode cX1_times 45 = .ok (.iconst 1, 1) := dk_4 (dk_at dksX1_times_1 22 rfl rfl)
theorem dX1_times_46 : decode cX1_times 46 = .ok (.iadd, 1) := dk_96 (dk_at dksX1_times_1 23 rfl rfl)
theorem dX1_times_47 : decode cX1_times 47 = .ok (.laload, 1) := dk_47 (dk_at dksX1_times_2 0 rfl rfl)
theorem dX1_times_48 : decode cX1_times 48 = .ok (.aload_n 2, 1) := dk_44 (dk_at dksX1_times_2 1 rfl rfl)
theorem dX1_times_49 : decode cX1_times 49 = .ok (.iconst 2, 1) := dk_5 (dk_at dksX1_times_2 2 rfl rfl)
theorem dX1_times_50 : decode cX1_times 50 = .ok (.iload 6, 2) := dk_21 6 (dk_at dksX1_times_2 3 rfl rfl)
theorem dX1_times_52 : decode cX1_times 52 = .ok (.iadd, 1) := dk_96 (dk_at dksX1_times_2 5 rfl rfl)
theorem dX1_times_53 : decode cX1_times 53 = .ok (.laload, 1) := dk_47 (dk_at dksX1_times_2 6 rfl rfl)
theorem dX1_times_54 : decode cX1_times 54 = .ok (.lmul, 1) := dk_105 (dk_at dksX1_times_2 7 rfl rfl)
theorem dX1_times_55 : decode cX1_times 55 = .ok (.ladd, 1) := dk_97 (dk_at dksX1_times_2 8 rfl rfl)
theorem dX1_times_56 : decode cX1_times 56 = .ok (.lload_n 3, 1) := dk_33 (dk_at dksX1_times_2 9 rfl rfl)
theorem dX1_times_57 : decode cX1_times 57 = .ok (.lrem, 1) := dk_113 (dk_at dksX1_times_2 10 rfl rfl)
theorem dX1_times_58 : decode cX1_times 58 = .ok (.lastore, 1) := dk_80 (dk_at dksX1_times_2 11 rfl rfl)
theorem dX1_times_59 : decode cX1_times 59 = .ok (.iinc 6 1, 3) := dk_132 6 1 (dk_at dksX1_times_2 12 rfl rfl)
theorem dX1_times_62 : decode cX1_times 62 = .ok (.goto (-50), 3) := dk_167 255 206 (dk_at dksX1_times_2 15 rfl rfl)
theorem dX1_times_65 : decode cX1_times 65 = .ok (.iinc 5 1, 3) := dk_132 5 1 (dk_at dksX1_times_2 18 rfl rfl)
theorem dX1_times_68 : decode cX1_times 68 = .ok (.goto (-65), 3) := dk_167 255 191 (dk_at dksX1_times_2 21 rfl rfl)
theorem dX1_times_71 : decode cX1_times 71 = .ok (.iconst 0, 1) := dk_3 (dk_at dksX1_times_3 0 rfl rfl)
theorem dX1_times_72 : decode cX1_times 72 = .ok (.istore 5, 2) := dk_54 5 (dk_at dksX1_times_3 1 rfl rfl)
theorem dX1_times_74 : decode cX1_times 74 = .ok (.iload 5, 2) := dk_21 5 (dk_at dksX1_times_3 3 rfl rfl)
theorem dX1_times_76 : decode cX1_times 76 = .ok (.iconst 4, 1) := dk_7 (dk_at dksX1_times_3 5 rfl rfl)
theorem dX1_times_77 : decode cX1_times 77 = .ok (.if_icmp .ge 20, 3) := dk_162 0 20 (dk_at dksX1_times_3 6 rfl rfl)
theorem dX1_times_80 : decode cX1_times 80 = .ok (.aload_n 1, 1) := dk_43 (dk_at dksX1_times_3 9 rfl rfl)
theorem dX1_times_81 : decode cX1_times 81 = .ok (.iload 5, 2) := dk_21 5 (dk_at dksX1_times_3 10 rfl rfl)
theorem dX1_times_83 : decode cX1_times 83 = .ok (.aload_n 0, 1) := dk_42 (dk_at dksX1_times_3 12 rfl rfl)
theorem dX1_times_84 : decode cX1_times 84 = .ok (.getfield 23, 3) := dk_180 0 23 (dk_at dksX1_times_3 13 rfl rfl)
theorem dX1_times_87 : decode cX1_times 87 = .ok (.iload 5, 2) := dk_21 5 (dk_at dksX1_times_3 16 rfl rfl)
theorem dX1_times_89 : decode cX1_times 89 = .ok (.laload, 1) := dk_47 (dk_at dksX1_times_3 18 rfl rfl)
theorem dX1_times_90 : decode cX1_times 90 = .ok (.lastore, 1) := dk_80 (dk_at dksX1_times_3 19 rfl rfl)
theorem dX1_times_91 : decode cX1_times 91 = .ok (.iinc 5 1, 3) := dk_132 5 1 (dk_at dksX1_times_3 20 rfl rfl)
theorem dX1_times_94 : decode cX1_times 94 = .ok (.goto (-20), 3) := dk_167 255 236 (dk_at dksX1_times_4 0 rfl rfl)
theorem dX1_times_97 : decode cX1_times 97 = .ok (.return_, 1) := dk_177 (dk_at dksX1_times_4 3 rfl rfl)
abbrev cX1_works : ByteArray := prog_17_method_39_code
def yX1_works : MethodName := ⟨RX1, "works", "(II)Z"⟩
def dkwX1_works_3 : List UInt8 := [153, 0, 7, 4, 167, 0, 4, 3, 172]
abbrev dktX1_works_3 : List UInt8 := dkwX1_works_3 ++ []
def dkwX1_works_2 : List UInt8 := [42, 16, 115, 182, 0, 220, 153, 0, 23, 28, 184, 0, 190, 153, 0, 12, 42, 16, 115, 182, 0, 223]
abbrev dktX1_works_2 : List UInt8 := dkwX1_works_2 ++ dktX1_works_3
def dkwX1_works_1 : List UInt8 := [16, 100, 162, 0, 7, 4, 167, 0, 4, 3, 172, 27, 5, 160, 0, 5, 3, 172, 42, 16, 115, 182, 0, 216]
abbrev dktX1_works_1 : List UInt8 := dkwX1_works_1 ++ dktX1_works_2
def dkwX1_works_0 : List UInt8 := [42, 16, 115, 27, 28, 182, 0, 115, 27, 133, 184, 0, 164, 154, 0, 5, 3, 172, 28, 154, 0, 15, 27]
abbrev dktX1_works_0 : List UInt8 := dkwX1_works_0 ++ dktX1_works_1
theorem dksX1_works_0 : cX1_works.data.toList.drop 0 = dktX1_works_0 := by decide +kernel
theorem dksX1_works_1 : cX1_works.data.toList.drop 23 = dktX1_works_1 := dk_seg dksX1_works_0 23 rfl rfl
theorem dksX1_works_2 : cX1_works.data.toList.drop 47 = dktX1_works_2 := dk_seg dksX1_works_1 24 rfl rfl
theorem dksX1_works_3 : cX1_works.data.toList.drop 69 = dktX1_works_3 := dk_seg dksX1_works_2 22 rfl rfl
theorem dX1_works_0 : decode cX1_works 0 = .ok (.aload_n 0, 1) := dk_42 (dk_at dksX1_works_0 0 rfl rfl)
theorem dX1_works_1 : decode cX1_works 1 = .ok (.bipush 115, 2) := dk_16 115 (dk_at dksX1_works_0 1 rfl rfl)
theorem dX1_works_3 : decode cX1_works 3 = .ok (.iload_n 1, 1) := dk_27 (dk_at dksX1_works_0 3 rfl rfl)
theorem dX1_works_4 : decode cX1_works 4 = .ok (.iload_n 2, 1) := dk_28 (dk_at dksX1_works_0 4 rfl rfl)
theorem dX1_works_5 : decode cX1_works 5 = .ok (.invokevirtual 115, 3) := dk_182 0 115 (dk_at dksX1_works_0 5 rfl rfl)
theorem dX1_works_8 : decode cX1_works 8 = .ok (.iload_n 1, 1) := dk_27 (dk_at dksX1_works_0 8 rfl rfl)
theorem dX1_works_9 : decode cX1_works 9 = .ok (.i2l, 1) := dk_133 (dk_at dksX1_works_0 9 rfl rfl)
theorem dX1_works_10 : decode cX1_works 10 = .ok (.invokestatic 164, 3) := dk_184 0 164 (dk_at dksX1_works_0 10 rfl rfl)
theorem dX1_works_13 : decode cX1_works 13 = .ok (.ifCond .ne 5, 3) := dk_154 0 5 (dk_at dksX1_works_0 13 rfl rfl)
theorem dX1_works_16 : decode cX1_works 16 = .ok (.iconst 0, 1) := dk_3 (dk_at dksX1_works_0 16 rfl rfl)
theorem dX1_works_17 : decode cX1_works 17 = .ok (.ireturn, 1) := dk_172 (dk_at dksX1_works_0 17 rfl rfl)
theorem dX1_works_18 : decode cX1_works 18 = .ok (.iload_n 2, 1) := dk_28 (dk_at dksX1_works_0 18 rfl rfl)
theorem dX1_works_19 : decode cX1_works 19 = .ok (.ifCond .ne 15, 3) := dk_154 0 15 (dk_at dksX1_works_0 19 rfl rfl)
theorem dX1_works_22 : decode cX1_works 22 = .ok (.iload_n 1, 1) := dk_27 (dk_at dksX1_works_0 22 rfl rfl)
theorem dX1_works_23 : decode cX1_works 23 = .ok (.bipush 100, 2) := dk_16 100 (dk_at dksX1_works_1 0 rfl rfl)
theorem dX1_works_25 : decode cX1_works 25 = .ok (.if_icmp .ge 7, 3) := dk_162 0 7 (dk_at dksX1_works_1 2 rfl rfl)
theorem dX1_works_28 : decode cX1_works 28 = .ok (.iconst 1, 1) := dk_4 (dk_at dksX1_works_1 5 rfl rfl)
theorem dX1_works_29 : decode cX1_works 29 = .ok (.goto 4, 3) := dk_167 0 4 (dk_at dksX1_works_1 6 rfl rfl)
theorem dX1_works_32 : decode cX1_works 32 = .ok (.iconst 0, 1) := dk_3 (dk_at dksX1_works_1 9 rfl rfl)
theorem dX1_works_33 : decode cX1_works 33 = .ok (.ireturn, 1) := dk_172 (dk_at dksX1_works_1 10 rfl rfl)
theorem dX1_works_34 : decode cX1_works 34 = .ok (.iload_n 1, 1) := dk_27 (dk_at dksX1_works_1 11 rfl rfl)
theorem dX1_works_35 : decode cX1_works 35 = .ok (.iconst 2, 1) := dk_5 (dk_at dksX1_works_1 12 rfl rfl)
theorem dX1_works_36 : decode cX1_works 36 = .ok (.if_icmp .ne 5, 3) := dk_160 0 5 (dk_at dksX1_works_1 13 rfl rfl)
theorem dX1_works_39 : decode cX1_works 39 = .ok (.iconst 0, 1) := dk_3 (dk_at dksX1_works_1 16 rfl rfl)
theorem dX1_works_40 : decode cX1_works 40 = .ok (.ireturn, 1) := dk_172 (dk_at dksX1_works_1 17 rfl rfl)
theorem dX1_works_41 : decode cX1_works 41 = .ok (.aload_n 0, 1) := dk_42 (dk_at dksX1_works_1 18 rfl rfl)
theorem dX1_works_42 : decode cX1_works 42 = .ok (.bipush 115, 2) := dk_16 115 (dk_at dksX1_works_1 19 rfl rfl)
theorem dX1_works_44 : decode cX1_works 44 = .ok (.invokevirtual 216, 3) := dk_182 0 216 (dk_at dksX1_works_1 21 rfl rfl)
theorem dX1_works_47 : decode cX1_works 47 = .ok (.aload_n 0, 1) := dk_42 (dk_at dksX1_works_2 0 rfl rfl)
theorem dX1_works_48 : decode cX1_works 48 = .ok (.bipush 115, 2) := dk_16 115 (dk_at dksX1_works_2 1 rfl rfl)
theorem dX1_works_50 : decode cX1_works 50 = .ok (.invokevirtual 220, 3) := dk_182 0 220 (dk_at dksX1_works_2 3 rfl rfl)
theorem dX1_works_53 : decode cX1_works 53 = .ok (.ifCond .eq 23, 3) := dk_153 0 23 (dk_at dksX1_works_2 6 rfl rfl)
theorem dX1_works_56 : decode cX1_works 56 = .ok (.iload_n 2, 1) := dk_28 (dk_at dksX1_works_2 9 rfl rfl)
theorem dX1_works_57 : decode cX1_works 57 = .ok (.invokestatic 190, 3) := dk_184 0 190 (dk_at dksX1_works_2 10 rfl rfl)
theorem dX1_works_60 : decode cX1_works 60 = .ok (.ifCond .eq 12, 3) := dk_153 0 12 (dk_at dksX1_works_2 13 rfl rfl)
theorem dX1_works_63 : decode cX1_works 63 = .ok (.aload_n 0, 1) := dk_42 (dk_at dksX1_works_2 16 rfl rfl)
theorem dX1_works_64 : decode cX1_works 64 = .ok (.bipush 115, 2) := dk_16 115 (dk_at dksX1_works_2 17 rfl rfl)
theorem dX1_works_66 : decode cX1_works 66 = .ok (.invokevirtual 223, 3) := dk_182 0 223 (dk_at dksX1_works_2 19 rfl rfl)
theorem dX1_works_69 : decode cX1_works 69 = .ok (.ifCond .eq 7, 3) := dk_153 0 7 (dk_at dksX1_works_3 0 rfl rfl)
theorem dX1_works_72 : decode cX1_works 72 = .ok (.iconst 1, 1) := dk_4 (dk_at dksX1_works_3 3 rfl rfl)
theorem dX1_works_73 : decode cX1_works 73 = .ok (.goto 4, 3) := dk_167 0 4 (dk_at dksX1_works_3 4 rfl rfl)
theorem dX1_works_76 : decode cX1_works 76 = .ok (.iconst 0, 1) := dk_3 (dk_at dksX1_works_3 7 rfl rfl)
theorem dX1_works_77 : decode cX1_works 77 = .ok (.ireturn, 1) := dk_172 (dk_at dksX1_works_3 8 rfl rfl)
abbrev cX1_begins : ByteArray := prog_17_method_15_code
def yX1_begins : MethodName := ⟨RX1, "begins", "(III)V"⟩
def dkwX1_begins_1 : List UInt8 := [180, 0, 62, 27, 3, 79, 42, 180, 0, 65, 27, 3, 79, 42, 180, 0, 68, 27, 3, 79, 177]
abbrev dktX1_begins_1 : List UInt8 := dkwX1_begins_1 ++ []
def dkwX1_begins_0 : List UInt8 := [42, 180, 0, 53, 27, 28, 79, 42, 180, 0, 56, 27, 29, 79, 42, 180, 0, 59, 27, 3, 79, 42]
abbrev dktX1_begins_0 : List UInt8 := dkwX1_begins_0 ++ dktX1_begins_1
theorem dksX1_begins_0 : cX1_begins.data.toList.drop 0 = dktX1_begins_0 := by decide +kernel
theorem dksX1_begins_1 : cX1_begins.data.toList.drop 22 = dktX1_begins_1 := dk_seg dksX1_begins_0 22 rfl rfl
theorem dX1_begins_0 : decode cX1_begins 0 = .ok (.aload_n 0, 1) := dk_42 (dk_at dksX1_begins_0 0 rfl rfl)
theorem dX1_begins_1 : decode cX1_begins 1 = .ok (.getfield 53, 3) := dk_180 0 53 (dk_at dksX1_begins_0 1 rfl rfl)
theorem dX1_begins_4 : decode cX1_begins 4 = .ok (.iload_n 1, 1) := dk_27 (dk_at dksX1_begins_0 4 rfl rfl)
theorem dX1_begins_5 : decode cX1_begins 5 = .ok (.iload_n 2, 1) := dk_28 (dk_at dksX1_begins_0 5 rfl rfl)
theorem dX1_begins_6 : decode cX1_begins 6 = .ok (.iastore, 1) := dk_79 (dk_at dksX1_begins_0 6 rfl rfl)
theorem dX1_begins_7 : decode cX1_begins 7 = .ok (.aload_n 0, 1) := dk_42 (dk_at dksX1_begins_0 7 rfl rfl)
theorem dX1_begins_8 : decode cX1_begins 8 = .ok (.getfield 56, 3) := dk_180 0 56 (dk_at dksX1_begins_0 8 rfl rfl)
theorem dX1_begins_11 : decode cX1_begins 11 = .ok (.iload_n 1, 1) := dk_27 (dk_at dksX1_begins_0 11 rfl rfl)
theorem dX1_begins_12 : decode cX1_begins 12 = .ok (.iload_n 3, 1) := dk_29 (dk_at dksX1_begins_0 12 rfl rfl)
theorem dX1_begins_13 : decode cX1_begins 13 = .ok (.iastore, 1) := dk_79 (dk_at dksX1_begins_0 13 rfl rfl)
theorem dX1_begins_14 : decode cX1_begins 14 = .ok (.aload_n 0, 1) := dk_42 (dk_at dksX1_begins_0 14 rfl rfl)
theorem dX1_begins_15 : decode cX1_begins 15 = .ok (.getfield 59, 3) := dk_180 0 59 (dk_at dksX1_begins_0 15 rfl rfl)
theorem dX1_begins_18 : decode cX1_begins 18 = .ok (.iload_n 1, 1) := dk_27 (dk_at dksX1_begins_0 18 rfl rfl)
theorem dX1_begins_19 : decode cX1_begins 19 = .ok (.iconst 0, 1) := dk_3 (dk_at dksX1_begins_0 19 rfl rfl)
theorem dX1_begins_20 : decode cX1_begins 20 = .ok (.iastore, 1) := dk_79 (dk_at dksX1_begins_0 20 rfl rfl)
theorem dX1_begins_21 : decode cX1_begins 21 = .ok (.aload_n 0, 1) := dk_42 (dk_at dksX1_begins_0 21 rfl rfl)
theorem dX1_begins_22 : decode cX1_begins 22 = .ok (.getfield 62, 3) := dk_180 0 62 (dk_at dksX1_begins_1 0 rfl rfl)
theorem dX1_begins_25 : decode cX1_begins 25 = .ok (.iload_n 1, 1) := dk_27 (dk_at dksX1_begins_1 3 rfl rfl)
theorem dX1_begins_26 : decode cX1_begins 26 = .ok (.iconst 0, 1) := dk_3 (dk_at dksX1_begins_1 4 rfl rfl)
theorem dX1_begins_27 : decode cX1_begins 27 = .ok (.iastore, 1) := dk_79 (dk_at dksX1_begins_1 5 rfl rfl)
theorem dX1_begins_28 : decode cX1_begins 28 = .ok (.aload_n 0, 1) := dk_42 (dk_at dksX1_begins_1 6 rfl rfl)
theorem dX1_begins_29 : decode cX1_begins 29 = .ok (.getfield 65, 3) := dk_180 0 65 (dk_at dksX1_begins_1 7 rfl rfl)
theorem dX1_begins_32 : decode cX1_begins 32 = .ok (.iload_n 1, 1) := dk_27 (dk_at dksX1_begins_1 10 rfl rfl)
theorem dX1_begins_33 : decode cX1_begins 33 = .ok (.iconst 0, 1) := dk_3 (dk_at dksX1_begins_1 11 rfl rfl)
theorem dX1_begins_34 : decode cX1_begins 34 = .ok (.iastore, 1) := dk_79 (dk_at dksX1_begins_1 12 rfl rfl)
theorem dX1_begins_35 : decode cX1_begins 35 = .ok (.aload_n 0, 1) := dk_42 (dk_at dksX1_begins_1 13 rfl rfl)
theorem dX1_begins_36 : decode cX1_begins 36 = .ok (.getfield 68, 3) := dk_180 0 68 (dk_at dksX1_begins_1 14 rfl rfl)
theorem dX1_begins_39 : decode cX1_begins 39 = .ok (.iload_n 1, 1) := dk_27 (dk_at dksX1_begins_1 17 rfl rfl)
theorem dX1_begins_40 : decode cX1_begins 40 = .ok (.iconst 0, 1) := dk_3 (dk_at dksX1_begins_1 18 rfl rfl)
theorem dX1_begins_41 : decode cX1_begins 41 = .ok (.iastore, 1) := dk_79 (dk_at dksX1_begins_1 19 rfl rfl)
theorem dX1_begins_42 : decode cX1_begins 42 = .ok (.return_, 1) := dk_177 (dk_at dksX1_begins_1 20 rfl rfl)
abbrev cX1_laysRows : ByteArray := prog_17_method_35_code
def yX1_laysRows : MethodName := ⟨RX1, "laysRows", "(I)V"⟩
def dkwX1_laysRows_6 : List UInt8 := [132, 4, 255, 167, 255, 231, 167, 0, 14, 28, 7, 160, 0, 9, 42, 27, 29, 182, 0, 212, 177]
abbrev dktX1_laysRows_6 : List UInt8 := dkwX1_laysRows_6 ++ []
def dkwX1_laysRows_5 : List UInt8 := [21, 4, 155, 0, 26, 42, 27, 182, 0, 180, 154, 0, 18, 42, 27, 3, 21, 4, 5, 182, 0, 208]
abbrev dktX1_laysRows_5 : List UInt8 := dkwX1_laysRows_5 ++ dktX1_laysRows_6
def dkwX1_laysRows_4 : List UInt8 := [167, 0, 66, 28, 5, 160, 0, 50, 42, 29, 133, 10, 101, 182, 0, 204, 42, 180, 0, 37, 4, 100, 54, 4]
abbrev dktX1_laysRows_4 : List UInt8 := dkwX1_laysRows_4 ++ dktX1_laysRows_5
def dkwX1_laysRows_3 : List UInt8 := [42, 27, 28, 6, 160, 0, 7, 4, 167, 0, 4, 3, 21, 4, 5, 182, 0, 208, 132, 4, 1, 167, 255, 226]
abbrev dktX1_laysRows_3 : List UInt8 := dkwX1_laysRows_3 ++ dktX1_laysRows_4
def dkwX1_laysRows_2 : List UInt8 := [10, 101, 167, 0, 7, 29, 133, 10, 97, 182, 0, 204, 3, 54, 4, 21, 4, 42, 180, 0, 37, 162, 0, 27]
abbrev dktX1_laysRows_2 : List UInt8 := dkwX1_laysRows_2 ++ dktX1_laysRows_3
def dkwX1_laysRows_1 : List UInt8 := [180, 0, 68, 27, 3, 79, 28, 4, 159, 0, 8, 28, 6, 160, 0, 62, 42, 28, 4, 160, 0, 10, 29, 133]
abbrev dktX1_laysRows_1 : List UInt8 := dkwX1_laysRows_1 ++ dktX1_laysRows_2
def dkwX1_laysRows_0 : List UInt8 := [42, 180, 0, 56, 27, 46, 61, 42, 180, 0, 53, 27, 46, 62, 42, 180, 0, 65, 27, 3, 79, 42]
abbrev dktX1_laysRows_0 : List UInt8 := dkwX1_laysRows_0 ++ dktX1_laysRows_1
theorem dksX1_laysRows_0 : cX1_laysRows.data.toList.drop 0 = dktX1_laysRows_0 := by decide +kernel
theorem dksX1_laysRows_1 : cX1_laysRows.data.toList.drop 22 = dktX1_laysRows_1 := dk_seg dksX1_laysRows_0 22 rfl rfl
theorem dksX1_laysRows_2 : cX1_laysRows.data.toList.drop 46 = dktX1_laysRows_2 := dk_seg dksX1_laysRows_1 24 rfl rfl
theorem dksX1_laysRows_3 : cX1_laysRows.data.toList.drop 70 = dktX1_laysRows_3 := dk_seg dksX1_laysRows_2 24 rfl rfl
theorem dksX1_laysRows_4 : cX1_laysRows.data.toList.drop 94 = dktX1_laysRows_4 := dk_seg dksX1_laysRows_3 24 rfl rfl
theorem dksX1_laysRows_5 : cX1_laysRows.data.toList.drop 118 = dktX1_laysRows_5 := dk_seg dksX1_laysRows_4 24 rfl rfl
theorem dksX1_laysRows_6 : cX1_laysRows.data.toList.drop 140 = dktX1_laysRows_6 := dk_seg dksX1_laysRows_5 22 rfl rfl
theorem dX1_laysRows_0 : decode cX1_laysRows 0 = .ok (.aload_n 0, 1) := dk_42 (dk_at dksX1_laysRows_0 0 rfl rfl)
theorem dX1_laysRows_1 : decode cX1_laysRows 1 = .ok (.getfield 56, 3) := dk_180 0 56 (dk_at dksX1_laysRows_0 1 rfl rfl)
theorem dX1_laysRows_4 : decode cX1_laysRows 4 = .ok (.iload_n 1, 1) := dk_27 (dk_at dksX1_laysRows_0 4 rfl rfl)
theorem dX1_laysRows_5 : decode cX1_laysRows 5 = .ok (.iaload, 1) := dk_46 (dk_at dksX1_laysRows_0 5 rfl rfl)
theorem dX1_laysRows_6 : decode cX1_laysRows 6 = .ok (.istore_n 2, 1) := dk_61 (dk_at dksX1_laysRows_0 6 rfl rfl)
theorem dX1_laysRows_7 : decode cX1_laysRows 7 = .ok (.aload_n 0, 1) := dk_42 (dk_at dksX1_laysRows_0 7 rfl rfl)
theorem dX1_laysRows_8 : decode cX1_laysRows 8 = .ok (.getfield 53, 3) := dk_180 0 53 (dk_at dksX1_laysRows_0 8 rfl rfl)
theorem dX1_laysRows_11 : decode cX1_laysRows 11 = .ok (.iload_n 1, 1) := dk_27 (dk_at dksX1_laysRows_0 11 rfl rfl)
theorem dX1_laysRows_12 : decode cX1_laysRows 12 = .ok (.iaload, 1) := dk_46 (dk_at dksX1_laysRows_0 12 rfl rfl)
theorem dX1_laysRows_13 : decode cX1_laysRows 13 = .ok (.istore_n 3, 1) := dk_62 (dk_at dksX1_laysRows_0 13 rfl rfl)
theorem dX1_laysRows_14 : decode cX1_laysRows 14 = .ok (.aload_n 0, 1) := dk_42 (dk_at dksX1_laysRows_0 14 rfl rfl)
theorem dX1_laysRows_15 : decode cX1_laysRows 15 = .ok (.getfield 65, 3) := dk_180 0 65 (dk_at dksX1_laysRows_0 15 rfl rfl)
theorem dX1_laysRows_18 : decode cX1_laysRows 18 = .ok (.iload_n 1, 1) := dk_27 (dk_at dksX1_laysRows_0 18 rfl rfl)
theorem dX1_laysRows_19 : decode cX1_laysRows 19 = .ok (.iconst 0, 1) := dk_3 (dk_at dksX1_laysRows_0 19 rfl rfl)
theorem dX1_laysRows_20 : decode cX1_laysRows 20 = .ok (.iastore, 1) := dk_79 (dk_at dksX1_laysRows_0 20 rfl rfl)
theorem dX1_laysRows_21 : decode cX1_laysRows 21 = .ok (.aload_n 0, 1) := dk_42 (dk_at dksX1_laysRows_0 21 rfl rfl)
theorem dX1_laysRows_22 : decode cX1_laysRows 22 = .ok (.getfield 68, 3) := dk_180 0 68 (dk_at dksX1_laysRows_1 0 rfl rfl)
theorem dX1_laysRows_25 : decode cX1_laysRows 25 = .ok (.iload_n 1, 1) := dk_27 (dk_at dksX1_laysRows_1 3 rfl rfl)
theorem dX1_laysRows_26 : decode cX1_laysRows 26 = .ok (.iconst 0, 1) := dk_3 (dk_at dksX1_laysRows_1 4 rfl rfl)
theorem dX1_laysRows_27 : decode cX1_laysRows 27 = .ok (.iastore, 1) := dk_79 (dk_at dksX1_laysRows_1 5 rfl rfl)
theorem dX1_laysRows_28 : decode cX1_laysRows 28 = .ok (.iload_n 2, 1) := dk_28 (dk_at dksX1_laysRows_1 6 rfl rfl)
theorem dX1_laysRows_29 : decode cX1_laysRows 29 = .ok (.iconst 1, 1) := dk_4 (dk_at dksX1_laysRows_1 7 rfl rfl)
theorem dX1_laysRows_30 : decode cX1_laysRows 30 = .ok (.if_icmp .eq 8, 3) := dk_159 0 8 (dk_at dksX1_laysRows_1 8 rfl rfl)
theorem dX1_laysRows_33 : decode cX1_laysRows 33 = .ok (.iload_n 2, 1) := dk_28 (dk_at dksX1_laysRows_1 11 rfl rfl)
theorem dX1_laysRows_34 : decode cX1_laysRows 34 = .ok (.iconst 3, 1) := dk_6 (dk_at dksX1_laysRows_1 12 rfl rfl)
theorem dX1_laysRows_35 : decode cX1_laysRows 35 = .ok (.if_icmp .ne 62, 3) := dk_160 0 62 (dk_at dksX1_laysRows_1 13 rfl rfl)
theorem dX1_laysRows_38 : decode cX1_laysRows 38 = .ok (.aload_n 0, 1) := dk_42 (dk_at dksX1_laysRows_1 16 rfl rfl)
theorem dX1_laysRows_39 : decode cX1_laysRows 39 = .ok (.iload_n 2, 1) := dk_28 (dk_at dksX1_laysRows_1 17 rfl rfl)
theorem dX1_laysRows_40 : decode cX1_laysRows 40 = .ok (.iconst 1, 1) := dk_4 (dk_at dksX1_laysRows_1 18 rfl rfl)
theorem dX1_laysRows_41 : decode cX1_laysRows 41 = .ok (.if_icmp .ne 10, 3) := dk_160 0 10 (dk_at dksX1_laysRows_1 19 rfl rfl)
theorem dX1_laysRows_44 : decode cX1_laysRows 44 = .ok (.iload_n 3, 1) := dk_29 (dk_at dksX1_laysRows_1 22 rfl rfl)
theorem dX1_laysRows_45 : decode cX1_laysRows 45 = .ok (.i2l, 1) := dk_133 (dk_at dksX1_laysRows_1 23 rfl rfl)
theorem dX1_laysRows_46 : decode cX1_laysRows 46 = .ok (.lconst 1, 1) := dk_10 (dk_at dksX1_laysRows_2 0 rfl rfl)
theorem dX1_laysRows_47 : decode cX1_laysRows 47 = .ok (.lsub, 1) := dk_101 (dk_at dksX1_laysRows_2 1 rfl rfl)
theorem dX1_laysRows_48 : decode cX1_laysRows 48 = .ok (.goto 7, 3) := dk_167 0 7 (dk_at dksX1_laysRows_2 2 rfl rfl)
theorem dX1_laysRows_51 : decode cX1_laysRows 51 = .ok (.iload_n 3, 1) := dk_29 (dk_at dksX1_laysRows_2 5 rfl rfl)
theorem dX1_laysRows_52 : decode cX1_laysRows 52 = .ok (.i2l, 1) := dk_133 (dk_at dksX1_laysRows_2 6 rfl rfl)
theorem dX1_laysRows_53 : decode cX1_laysRows 53 = .ok (.lconst 1, 1) := dk_10 (dk_at dksX1_laysRows_2 7 rfl rfl)
theorem dX1_laysRows_54 : decode cX1_laysRows 54 = .ok (.ladd, 1) := dk_97 (dk_at dksX1_laysRows_2 8 rfl rfl)
theorem dX1_laysRows_55 : decode cX1_laysRows 55 = .ok (.invokevirtual 204, 3) := dk_182 0 204 (dk_at dksX1_laysRows_2 9 rfl rfl)
theorem dX1_laysRows_58 : decode cX1_laysRows 58 = .ok (.iconst 0, 1) := dk_3 (dk_at dksX1_laysRows_2 12 rfl rfl)
theorem dX1_laysRows_59 : decode cX1_laysRows 59 = .ok (.istore 4, 2) := dk_54 4 (dk_at dksX1_laysRows_2 13 rfl rfl)
theorem dX1_laysRows_61 : decode cX1_laysRows 61 = .ok (.iload 4, 2) := dk_21 4 (dk_at dksX1_laysRows_2 15 rfl rfl)
theorem dX1_laysRows_63 : decode cX1_laysRows 63 = .ok (.aload_n 0, 1) := dk_42 (dk_at dksX1_laysRows_2 17 rfl rfl)
theorem dX1_laysRows_64 : decode cX1_laysRows 64 = .ok (.getfield 37, 3) := dk_180 0 37 (dk_at dksX1_laysRows_2 18 rfl rfl)
theorem dX1_laysRows_67 : decode cX1_laysRows 67 = .ok (.if_icmp .ge 27, 3) := dk_162 0 27 (dk_at dksX1_laysRows_2 21 rfl rfl)
theorem dX1_laysRows_70 : decode cX1_laysRows 70 = .ok (.aload_n 0, 1) := dk_42 (dk_at dksX1_laysRows_3 0 rfl rfl)
theorem dX1_laysRows_71 : decode cX1_laysRows 71 = .ok (.iload_n 1, 1) := dk_27 (dk_at dksX1_laysRows_3 1 rfl rfl)
theorem dX1_laysRows_72 : decode cX1_laysRows 72 = .ok (.iload_n 2, 1) := dk_28 (dk_at dksX1_laysRows_3 2 rfl rfl)
theorem dX1_laysRows_73 : decode cX1_laysRows 73 = .ok (.iconst 3, 1) := dk_6 (dk_at dksX1_laysRows_3 3 rfl rfl)
theorem dX1_laysRows_74 : decode cX1_laysRows 74 = .ok (.if_icmp .ne 7, 3) := dk_160 0 7 (dk_at dksX1_laysRows_3 4 rfl rfl)
theorem dX1_laysRows_77 : decode cX1_laysRows 77 = .ok (.iconst 1, 1) := dk_4 (dk_at dksX1_laysRows_3 7 rfl rfl)
theorem dX1_laysRows_78 : decode cX1_laysRows 78 = .ok (.goto 4, 3) := dk_167 0 4 (dk_at dksX1_laysRows_3 8 rfl rfl)
theorem dX1_laysRows_81 : decode cX1_laysRows 81 = .ok (.iconst 0, 1) := dk_3 (dk_at dksX1_laysRows_3 11 rfl rfl)
theorem dX1_laysRows_82 : decode cX1_laysRows 82 = .ok (.iload 4, 2) := dk_21 4 (dk_at dksX1_laysRows_3 12 rfl rfl)
theorem dX1_laysRows_84 : decode cX1_laysRows 84 = .ok (.iconst 2, 1) := dk_5 (dk_at dksX1_laysRows_3 14 rfl rfl)
theorem dX1_laysRows_85 : decode cX1_laysRows 85 = .ok (.invokevirtual 208, 3) := dk_182 0 208 (dk_at dksX1_laysRows_3 15 rfl rfl)
theorem dX1_laysRows_88 : decode cX1_laysRows 88 = .ok (.iinc 4 1, 3) := dk_132 4 1 (dk_at dksX1_laysRows_3 18 rfl rfl)
theorem dX1_laysRows_91 : decode cX1_laysRows 91 = .ok (.goto (-30), 3) := dk_167 255 226 (dk_at dksX1_laysRows_3 21 rfl rfl)
theorem dX1_laysRows_94 : decode cX1_laysRows 94 = .ok (.goto 66, 3) := dk_167 0 66 (dk_at dksX1_laysRows_4 0 rfl rfl)
theorem dX1_laysRows_97 : decode cX1_laysRows 97 = .ok (.iload_n 2, 1) := dk_28 (dk_at dksX1_laysRows_4 3 rfl rfl)
theorem dX1_laysRows_98 : decode cX1_laysRows 98 = .ok (.iconst 2, 1) := dk_5 (dk_at dksX1_laysRows_4 4 rfl rfl)
theorem dX1_laysRows_99 : decode cX1_laysRows 99 = .ok (.if_icmp .ne 50, 3) := dk_160 0 50 (dk_at dksX1_laysRows_4 5 rfl rfl)
theorem dX1_laysRows_102 : decode cX1_laysRows 102 = .ok (.aload_n 0, 1) := dk_42 (dk_at dksX1_laysRows_4 8 rfl rfl)
theorem dX1_laysRows_103 : decode cX1_laysRows 103 = .ok (.iload_n 3, 1) := dk_29 (dk_at dksX1_laysRows_4 9 rfl rfl)
theorem dX1_laysRows_104 : decode cX1_laysRows 104 = .ok (.i2l, 1) := dk_133 (dk_at dksX1_laysRows_4 10 rfl rfl)
theorem dX1_laysRows_105 : decode cX1_laysRows 105 = .ok (.lconst 1, 1) := dk_10 (dk_at dksX1_laysRows_4 11 rfl rfl)
theorem dX1_laysRows_106 : decode cX1_laysRows 106 = .ok (.lsub, 1) := dk_101 (dk_at dksX1_laysRows_4 12 rfl rfl)
theorem dX1_laysRows_107 : decode cX1_laysRows 107 = .ok (.invokevirtual 204, 3) := dk_182 0 204 (dk_at dksX1_laysRows_4 13 rfl rfl)
theorem dX1_laysRows_110 : decode cX1_laysRows 110 = .ok (.aload_n 0, 1) := dk_42 (dk_at dksX1_laysRows_4 16 rfl rfl)
theorem dX1_laysRows_111 : decode cX1_laysRows 111 = .ok (.getfield 37, 3) := dk_180 0 37 (dk_at dksX1_laysRows_4 17 rfl rfl)
theorem dX1_laysRows_114 : decode cX1_laysRows 114 = .ok (.iconst 1, 1) := dk_4 (dk_at dksX1_laysRows_4 20 rfl rfl)
theorem dX1_laysRows_115 : decode cX1_laysRows 115 = .ok (.isub, 1) := dk_100 (dk_at dksX1_laysRows_4 21 rfl rfl)
theorem dX1_laysRows_116 : decode cX1_laysRows 116 = .ok (.istore 4, 2) := dk_54 4 (dk_at dksX1_laysRows_4 22 rfl rfl)
theorem dX1_laysRows_118 : decode cX1_laysRows 118 = .ok (.iload 4, 2) := dk_21 4 (dk_at dksX1_laysRows_5 0 rfl rfl)
theorem dX1_laysRows_120 : decode cX1_laysRows 120 = .ok (.ifCond .lt 26, 3) := dk_155 0 26 (dk_at dksX1_laysRows_5 2 rfl rfl)
theorem dX1_laysRows_123 : decode cX1_laysRows 123 = .ok (.aload_n 0, 1) := dk_42 (dk_at dksX1_laysRows_5 5 rfl rfl)
theorem dX1_laysRows_124 : decode cX1_laysRows 124 = .ok (.iload_n 1, 1) := dk_27 (dk_at dksX1_laysRows_5 6 rfl rfl)
theorem dX1_laysRows_125 : decode cX1_laysRows 125 = .ok (.invokevirtual 180, 3) := dk_182 0 180 (dk_at dksX1_laysRows_5 7 rfl rfl)
theorem dX1_laysRows_128 : decode cX1_laysRows 128 = .ok (.ifCond .ne 18, 3) := dk_154 0 18 (dk_at dksX1_laysRows_5 10 rfl rfl)
theorem dX1_laysRows_131 : decode cX1_laysRows 131 = .ok (.aload_n 0, 1) := dk_42 (dk_at dksX1_laysRows_5 13 rfl rfl)
theorem dX1_laysRows_132 : decode cX1_laysRows 132 = .ok (.iload_n 1, 1) := dk_27 (dk_at dksX1_laysRows_5 14 rfl rfl)
theorem dX1_laysRows_133 : decode cX1_laysRows 133 = .ok (.iconst 0, 1) := dk_3 (dk_at dksX1_laysRows_5 15 rfl rfl)
theorem dX1_laysRows_134 : decode cX1_laysRows 134 = .ok (.iload 4, 2) := dk_21 4 (dk_at dksX1_laysRows_5 16 rfl rfl)
theorem dX1_laysRows_136 : decode cX1_laysRows 136 = .ok (.iconst 2, 1) := dk_5 (dk_at dksX1_laysRows_5 18 rfl rfl)
theorem dX1_laysRows_137 : decode cX1_laysRows 137 = .ok (.invokevirtual 208, 3) := dk_182 0 208 (dk_at dksX1_laysRows_5 19 rfl rfl)
theorem dX1_laysRows_140 : decode cX1_laysRows 140 = .ok (.iinc 4 (-1), 3) := dk_132 4 255 (dk_at dksX1_laysRows_6 0 rfl rfl)
theorem dX1_laysRows_143 : decode cX1_laysRows 143 = .ok (.goto (-25), 3) := dk_167 255 231 (dk_at dksX1_laysRows_6 3 rfl rfl)
theorem dX1_laysRows_146 : decode cX1_laysRows 146 = .ok (.goto 14, 3) := dk_167 0 14 (dk_at dksX1_laysRows_6 6 rfl rfl)
theorem dX1_laysRows_149 : decode cX1_laysRows 149 = .ok (.iload_n 2, 1) := dk_28 (dk_at dksX1_laysRows_6 9 rfl rfl)
theorem dX1_laysRows_150 : decode cX1_laysRows 150 = .ok (.iconst 4, 1) := dk_7 (dk_at dksX1_laysRows_6 10 rfl rfl)
theorem dX1_laysRows_151 : decode cX1_laysRows 151 = .ok (.if_icmp .ne 9, 3) := dk_160 0 9 (dk_at dksX1_laysRows_6 11 rfl rfl)
theorem dX1_laysRows_154 : decode cX1_laysRows 154 = .ok (.aload_n 0, 1) := dk_42 (dk_at dksX1_laysRows_6 14 rfl rfl)
theorem dX1_laysRows_155 : decode cX1_laysRows 155 = .ok (.iload_n 1, 1) := dk_27 (dk_at dksX1_laysRows_6 15 rfl rfl)
theorem dX1_laysRows_156 : decode cX1_laysRows 156 = .ok (.iload_n 3, 1) := dk_29 (dk_at dksX1_laysRows_6 16 rfl rfl)
theorem dX1_laysRows_157 : decode cX1_laysRows 157 = .ok (.invokevirtual 212, 3) := dk_182 0 212 (dk_at dksX1_laysRows_6 17 rfl rfl)
theorem dX1_laysRows_160 : decode cX1_laysRows 160 = .ok (.return_, 1) := dk_177 (dk_at dksX1_laysRows_6 20 rfl rfl)
abbrev cX1_laysFactors : ByteArray := prog_17_method_10_code
def yX1_laysFactors : MethodName := ⟨RX1, "laysFactors", "(J)V"⟩
def dkwX1_laysFactors_6 : List UInt8 := [180, 0, 37, 4, 96, 181, 0, 37, 177]
abbrev dktX1_laysFactors_6 : List UInt8 := dkwX1_laysFactors_6 ++ []
def dkwX1_laysFactors_5 : List UInt8 := [180, 0, 40, 42, 180, 0, 37, 33, 136, 79, 42, 180, 0, 44, 42, 180, 0, 37, 4, 79, 42, 89]
abbrev dktX1_laysFactors_5 : List UInt8 := dkwX1_laysFactors_5 ++ dktX1_laysFactors_6
def dkwX1_laysFactors_4 : List UInt8 := [181, 0, 37, 22, 5, 10, 97, 55, 5, 167, 255, 166, 33, 20, 0, 7, 148, 156, 0, 4, 177, 42]
abbrev dktX1_laysFactors_4 : List UInt8 := dkwX1_laysFactors_4 ++ dktX1_laysFactors_5
def dkwX1_laysFactors_3 : List UInt8 := [180, 0, 44, 42, 180, 0, 37, 92, 46, 4, 96, 79, 167, 255, 229, 42, 89, 180, 0, 37, 4, 96]
abbrev dktX1_laysFactors_3 : List UInt8 := dkwX1_laysFactors_3 ++ dktX1_laysFactors_4
def dkwX1_laysFactors_2 : List UInt8 := [180, 0, 44, 42, 180, 0, 37, 3, 79, 33, 22, 5, 113, 9, 148, 154, 0, 24, 33, 22, 5, 109, 66, 42]
abbrev dktX1_laysFactors_2 : List UInt8 := dkwX1_laysFactors_2 ++ dktX1_laysFactors_3
def dkwX1_laysFactors_1 : List UInt8 := [22, 5, 113, 9, 148, 153, 0, 6, 167, 0, 65, 42, 180, 0, 40, 42, 180, 0, 37, 22, 5, 136, 79, 42]
abbrev dktX1_laysFactors_1 : List UInt8 := dkwX1_laysFactors_1 ++ dktX1_laysFactors_2
def dkwX1_laysFactors_0 : List UInt8 := [42, 3, 181, 0, 37, 31, 66, 20, 0, 7, 55, 5, 22, 5, 22, 5, 105, 33, 148, 157, 0, 86, 33]
abbrev dktX1_laysFactors_0 : List UInt8 := dkwX1_laysFactors_0 ++ dktX1_laysFactors_1
theorem dksX1_laysFactors_0 : cX1_laysFactors.data.toList.drop 0 = dktX1_laysFactors_0 := by decide +kernel
theorem dksX1_laysFactors_1 : cX1_laysFactors.data.toList.drop 23 = dktX1_laysFactors_1 := dk_seg dksX1_laysFactors_0 23 rfl rfl
theorem dksX1_laysFactors_2 : cX1_laysFactors.data.toList.drop 47 = dktX1_laysFactors_2 := dk_seg dksX1_laysFactors_1 24 rfl rfl
theorem dksX1_laysFactors_3 : cX1_laysFactors.data.toList.drop 71 = dktX1_laysFactors_3 := dk_seg dksX1_laysFactors_2 24 rfl rfl
theorem dksX1_laysFactors_4 : cX1_laysFactors.data.toList.drop 93 = dktX1_laysFactors_4 := dk_seg dksX1_laysFactors_3 22 rfl rfl
theorem dksX1_laysFactors_5 : cX1_laysFactors.data.toList.drop 115 = dktX1_laysFactors_5 := dk_seg dksX1_laysFactors_4 22 rfl rfl
theorem dksX1_laysFactors_6 : cX1_laysFactors.data.toList.drop 137 = dktX1_laysFactors_6 := dk_seg dksX1_laysFactors_5 22 rfl rfl
theorem dX1_laysFactors_0 : decode cX1_laysFactors 0 = .ok (.aload_n 0, 1) := dk_42 (dk_at dksX1_laysFactors_0 0 rfl rfl)
theorem dX1_laysFactors_1 : decode cX1_laysFactors 1 = .ok (.iconst 0, 1) := dk_3 (dk_at dksX1_laysFactors_0 1 rfl rfl)
theorem dX1_laysFactors_2 : decode cX1_laysFactors 2 = .ok (.putfield 37, 3) := dk_181 0 37 (dk_at dksX1_laysFactors_0 2 rfl rfl)
theorem dX1_laysFactors_5 : decode cX1_laysFactors 5 = .ok (.lload_n 1, 1) := dk_31 (dk_at dksX1_laysFactors_0 5 rfl rfl)
theorem dX1_laysFactors_6 : decode cX1_laysFactors 6 = .ok (.lstore_n 3, 1) := dk_66 (dk_at dksX1_laysFactors_0 6 rfl rfl)
theorem dX1_laysFactors_7 : decode cX1_laysFactors 7 = .ok (.ldc2_w 7, 3) := dk_20 0 7 (dk_at dksX1_laysFactors_0 7 rfl rfl)
theorem dX1_laysFactors_10 : decode cX1_laysFactors 10 = .ok (.lstore 5, 2) := dk_55 5 (dk_at dksX1_laysFactors_0 10 rfl rfl)
theorem dX1_laysFactors_12 : decode cX1_laysFactors 12 = .ok (.lload 5, 2) := dk_22 5 (dk_at dksX1_laysFactors_0 12 rfl rfl)
theorem dX1_laysFactors_14 : decode cX1_laysFactors 14 = .ok (.lload 5, 2) := dk_22 5 (dk_at dksX1_laysFactors_0 14 rfl rfl)
theorem dX1_laysFactors_16 : decode cX1_laysFactors 16 = .ok (.lmul, 1) := dk_105 (dk_at dksX1_laysFactors_0 16 rfl rfl)
theorem dX1_laysFactors_17 : decode cX1_laysFactors 17 = .ok (.lload_n 3, 1) := dk_33 (dk_at dksX1_laysFactors_0 17 rfl rfl)
theorem dX1_laysFactors_18 : decode cX1_laysFactors 18 = .ok (.lcmp, 1) := dk_148 (dk_at dksX1_laysFactors_0 18 rfl rfl)
theorem dX1_laysFactors_19 : decode cX1_laysFactors 19 = .ok (.ifCond .gt 86, 3) := dk_157 0 86 (dk_at dksX1_laysFactors_0 19 rfl rfl)
theorem dX1_laysFactors_22 : decode cX1_laysFactors 22 = .ok (.lload_n 3, 1) := dk_33 (dk_at dksX1_laysFactors_0 22 rfl rfl)
theorem dX1_laysFactors_23 : decode cX1_laysFactors 23 = .ok (.lload 5, 2) := dk_22 5 (dk_at dksX1_laysFactors_1 0 rfl rfl)
theorem dX1_laysFactors_25 : decode cX1_laysFactors 25 = .ok (.lrem, 1) := dk_113 (dk_at dksX1_laysFactors_1 2 rfl rfl)
theorem dX1_laysFactors_26 : decode cX1_laysFactors 26 = .ok (.lconst 0, 1) := dk_9 (dk_at dksX1_laysFactors_1 3 rfl rfl)
theorem dX1_laysFactors_27 : decode cX1_laysFactors 27 = .ok (.lcmp, 1) := dk_148 (dk_at dksX1_laysFactors_1 4 rfl rfl)
theorem dX1_laysFactors_28 : decode cX1_laysFactors 28 = .ok (.ifCond .eq 6, 3) := dk_153 0 6 (dk_at dksX1_laysFactors_1 5 rfl rfl)
theorem dX1_laysFactors_31 : decode cX1_laysFactors 31 = .ok (.goto 65, 3) := dk_167 0 65 (dk_at dksX1_laysFactors_1 8 rfl rfl)
theorem dX1_laysFactors_34 : decode cX1_laysFactors 34 = .ok (.aload_n 0, 1) := dk_42 (dk_at dksX1_laysFactors_1 11 rfl rfl)
theorem dX1_laysFactors_35 : decode cX1_laysFactors 35 = .ok (.getfield 40, 3) := dk_180 0 40 (dk_at dksX1_laysFactors_1 12 rfl rfl)
theorem dX1_laysFactors_38 : decode cX1_laysFactors 38 = .ok (.aload_n 0, 1) := dk_42 (dk_at dksX1_laysFactors_1 15 rfl rfl)
theorem dX1_laysFactors_39 : decode cX1_laysFactors 39 = .ok (.getfield 37, 3) := dk_180 0 37 (dk_at dksX1_laysFactors_1 16 rfl rfl)
theorem dX1_laysFactors_42 : decode cX1_laysFactors 42 = .ok (.lload 5, 2) := dk_22 5 (dk_at dksX1_laysFactors_1 19 rfl rfl)
theorem dX1_laysFactors_44 : decode cX1_laysFactors 44 = .ok (.l2i, 1) := dk_136 (dk_at dksX1_laysFactors_1 21 rfl rfl)
theorem dX1_laysFactors_45 : decode cX1_laysFactors 45 = .ok (.iastore, 1) := dk_79 (dk_at dksX1_laysFactors_1 22 rfl rfl)
theorem dX1_laysFactors_46 : decode cX1_laysFactors 46 = .ok (.aload_n 0, 1) := dk_42 (dk_at dksX1_laysFactors_1 23 rfl rfl)
theorem dX1_laysFactors_47 : decode cX1_laysFactors 47 = .ok (.getfield 44, 3) := dk_180 0 44 (dk_at dksX1_laysFactors_2 0 rfl rfl)
theorem dX1_laysFactors_50 : decode cX1_laysFactors 50 = .ok (.aload_n 0, 1) := dk_42 (dk_at dksX1_laysFactors_2 3 rfl rfl)
theorem dX1_laysFactors_51 : decode cX1_laysFactors 51 = .ok (.getfield 37, 3) := dk_180 0 37 (dk_at dksX1_laysFactors_2 4 rfl rfl)
theorem dX1_laysFactors_54 : decode cX1_laysFactors 54 = .ok (.iconst 0, 1) := dk_3 (dk_at dksX1_laysFactors_2 7 rfl rfl)
theorem dX1_laysFactors_55 : decode cX1_laysFactors 55 = .ok (.iastore, 1) := dk_79 (dk_at dksX1_laysFactors_2 8 rfl rfl)
theorem dX1_laysFactors_56 : decode cX1_laysFactors 56 = .ok (.lload_n 3, 1) := dk_33 (dk_at dksX1_laysFactors_2 9 rfl rfl)
theorem dX1_laysFactors_57 : decode cX1_laysFactors 57 = .ok (.lload 5, 2) := dk_22 5 (dk_at dksX1_laysFactors_2 10 rfl rfl)
theorem dX1_laysFactors_59 : decode cX1_laysFactors 59 = .ok (.lrem, 1) := dk_113 (dk_at dksX1_laysFactors_2 12 rfl rfl)
theorem dX1_laysFactors_60 : decode cX1_laysFactors 60 = .ok (.lconst 0, 1) := dk_9 (dk_at dksX1_laysFactors_2 13 rfl rfl)
theorem dX1_laysFactors_61 : decode cX1_laysFactors 61 = .ok (.lcmp, 1) := dk_148 (dk_at dksX1_laysFactors_2 14 rfl rfl)
theorem dX1_laysFactors_62 : decode cX1_laysFactors 62 = .ok (.ifCond .ne 24, 3) := dk_154 0 24 (dk_at dksX1_laysFactors_2 15 rfl rfl)
theorem dX1_laysFactors_65 : decode cX1_laysFactors 65 = .ok (.lload_n 3, 1) := dk_33 (dk_at dksX1_laysFactors_2 18 rfl rfl)
theorem dX1_laysFactors_66 : decode cX1_laysFactors 66 = .ok (.lload 5, 2) := dk_22 5 (dk_at dksX1_laysFactors_2 19 rfl rfl)
theorem dX1_laysFactors_68 : decode cX1_laysFactors 68 = .ok (.ldiv, 1) := dk_109 (dk_at dksX1_laysFactors_2 21 rfl rfl)
theorem dX1_laysFactors_69 : decode cX1_laysFactors 69 = .ok (.lstore_n 3, 1) := dk_66 (dk_at dksX1_laysFactors_2 22 rfl rfl)
theorem dX1_laysFactors_70 : decode cX1_laysFactors 70 = .ok (.aload_n 0, 1) := dk_42 (dk_at dksX1_laysFactors_2 23 rfl rfl)
theorem dX1_laysFactors_71 : decode cX1_laysFactors 71 = .ok (.getfield 44, 3) := dk_180 0 44 (dk_at dksX1_laysFactors_3 0 rfl rfl)
theorem dX1_laysFactors_74 : decode cX1_laysFactors 74 = .ok (.aload_n 0, 1) := dk_42 (dk_at dksX1_laysFactors_3 3 rfl rfl)
theorem dX1_laysFactors_75 : decode cX1_laysFactors 75 = .ok (.getfield 37, 3) := dk_180 0 37 (dk_at dksX1_laysFactors_3 4 rfl rfl)
theorem dX1_laysFactors_78 : decode cX1_laysFactors 78 = .ok (.dup2, 1) := dk_92 (dk_at dksX1_laysFactors_3 7 rfl rfl)
theorem dX1_laysFactors_79 : decode cX1_laysFactors 79 = .ok (.iaload, 1) := dk_46 (dk_at dksX1_laysFactors_3 8 rfl rfl)
theorem dX1_laysFactors_80 : decode cX1_laysFactors 80 = .ok (.iconst 1, 1) := dk_4 (dk_at dksX1_laysFactors_3 9 rfl rfl)
theorem dX1_laysFactors_81 : decode cX1_laysFactors 81 = .ok (.iadd, 1) := dk_96 (dk_at dksX1_laysFactors_3 10 rfl rfl)
theorem dX1_laysFactors_82 : decode cX1_laysFactors 82 = .ok (.iastore, 1) := dk_79 (dk_at dksX1_laysFactors_3 11 rfl rfl)
theorem dX1_laysFactors_83 : decode cX1_laysFactors 83 = .ok (.goto (-27), 3) := dk_167 255 229 (dk_at dksX1_laysFactors_3 12 rfl rfl)
theorem dX1_laysFactors_86 : decode cX1_laysFactors 86 = .ok (.aload_n 0, 1) := dk_42 (dk_at dksX1_laysFactors_3 15 rfl rfl)
theorem dX1_laysFactors_87 : decode cX1_laysFactors 87 = .ok (.dup, 1) := dk_89 (dk_at dksX1_laysFactors_3 16 rfl rfl)
theorem dX1_laysFactors_88 : decode cX1_laysFactors 88 = .ok (.getfield 37, 3) := dk_180 0 37 (dk_at dksX1_laysFactors_3 17 rfl rfl)
theorem dX1_laysFactors_91 : decode cX1_laysFactors 91 = .ok (.iconst 1, 1) := dk_4 (dk_at dksX1_laysFactors_3 20 rfl rfl)
theorem dX1_laysFactors_92 : decode cX1_laysFactors 92 = .ok (.iadd, 1) := dk_96 (dk_at dksX1_laysFactors_3 21 rfl rfl)
theorem dX1_laysFactors_93 : decode cX1_laysFactors 93 = .ok (.putfield 37, 3) := dk_181 0 37 (dk_at dksX1_laysFactors_4 0 rfl rfl)
theorem dX1_laysFactors_96 : decode cX1_laysFactors 96 = .ok (.lload 5, 2) := dk_22 5 (dk_at dksX1_laysFactors_4 3 rfl rfl)
theorem dX1_laysFactors_98 : decode cX1_laysFactors 98 = .ok (.lconst 1, 1) := dk_10 (dk_at dksX1_laysFactors_4 5 rfl rfl)
theorem dX1_laysFactors_99 : decode cX1_laysFactors 99 = .ok (.ladd, 1) := dk_97 (dk_at dksX1_laysFactors_4 6 rfl rfl)
theorem dX1_laysFactors_100 : decode cX1_laysFactors 100 = .ok (.lstore 5, 2) := dk_55 5 (dk_at dksX1_laysFactors_4 7 rfl rfl)
theorem dX1_laysFactors_102 : decode cX1_laysFactors 102 = .ok (.goto (-90), 3) := dk_167 255 166 (dk_at dksX1_laysFactors_4 9 rfl rfl)
theorem dX1_laysFactors_105 : decode cX1_laysFactors 105 = .ok (.lload_n 3, 1) := dk_33 (dk_at dksX1_laysFactors_4 12 rfl rfl)
theorem dX1_laysFactors_106 : decode cX1_laysFactors 106 = .ok (.ldc2_w 7, 3) := dk_20 0 7 (dk_at dksX1_laysFactors_4 13 rfl rfl)
theorem dX1_laysFactors_109 : decode cX1_laysFactors 109 = .ok (.lcmp, 1) := dk_148 (dk_at dksX1_laysFactors_4 16 rfl rfl)
theorem dX1_laysFactors_110 : decode cX1_laysFactors 110 = .ok (.ifCond .ge 4, 3) := dk_156 0 4 (dk_at dksX1_laysFactors_4 17 rfl rfl)
theorem dX1_laysFactors_113 : decode cX1_laysFactors 113 = .ok (.return_, 1) := dk_177 (dk_at dksX1_laysFactors_4 20 rfl rfl)
theorem dX1_laysFactors_114 : decode cX1_laysFactors 114 = .ok (.aload_n 0, 1) := dk_42 (dk_at dksX1_laysFactors_4 21 rfl rfl)
theorem dX1_laysFactors_115 : decode cX1_laysFactors 115 = .ok (.getfield 40, 3) := dk_180 0 40 (dk_at dksX1_laysFactors_5 0 rfl rfl)
theorem dX1_laysFactors_118 : decode cX1_laysFactors 118 = .ok (.aload_n 0, 1) := dk_42 (dk_at dksX1_laysFactors_5 3 rfl rfl)
theorem dX1_laysFactors_119 : decode cX1_laysFactors 119 = .ok (.getfield 37, 3) := dk_180 0 37 (dk_at dksX1_laysFactors_5 4 rfl rfl)
theorem dX1_laysFactors_122 : decode cX1_laysFactors 122 = .ok (.lload_n 3, 1) := dk_33 (dk_at dksX1_laysFactors_5 7 rfl rfl)
theorem dX1_laysFactors_123 : decode cX1_laysFactors 123 = .ok (.l2i, 1) := dk_136 (dk_at dksX1_laysFactors_5 8 rfl rfl)
theorem dX1_laysFactors_124 : decode cX1_laysFactors 124 = .ok (.iastore, 1) := dk_79 (dk_at dksX1_laysFactors_5 9 rfl rfl)
theorem dX1_laysFactors_125 : decode cX1_laysFactors 125 = .ok (.aload_n 0, 1) := dk_42 (dk_at dksX1_laysFactors_5 10 rfl rfl)
theorem dX1_laysFactors_126 : decode cX1_laysFactors 126 = .ok (.getfield 44, 3) := dk_180 0 44 (dk_at dksX1_laysFactors_5 11 rfl rfl)
theorem dX1_laysFactors_129 : decode cX1_laysFactors 129 = .ok (.aload_n 0, 1) := dk_42 (dk_at dksX1_laysFactors_5 14 rfl rfl)
theorem dX1_laysFactors_130 : decode cX1_laysFactors 130 = .ok (.getfield 37, 3) := dk_180 0 37 (dk_at dksX1_laysFactors_5 15 rfl rfl)
theorem dX1_laysFactors_133 : decode cX1_laysFactors 133 = .ok (.iconst 1, 1) := dk_4 (dk_at dksX1_laysFactors_5 18 rfl rfl)
theorem dX1_laysFactors_134 : decode cX1_laysFactors 134 = .ok (.iastore, 1) := dk_79 (dk_at dksX1_laysFactors_5 19 rfl rfl)
theorem dX1_laysFactors_135 : decode cX1_laysFactors 135 = .ok (.aload_n 0, 1) := dk_42 (dk_at dksX1_laysFactors_5 20 rfl rfl)
theorem dX1_laysFactors_136 : decode cX1_laysFactors 136 = .ok (.dup, 1) := dk_89 (dk_at dksX1_laysFactors_5 21 rfl rfl)
theorem dX1_laysFactors_137 : decode cX1_laysFactors 137 = .ok (.getfield 37, 3) := dk_180 0 37 (dk_at dksX1_laysFactors_6 0 rfl rfl)
theorem dX1_laysFactors_140 : decode cX1_laysFactors 140 = .ok (.iconst 1, 1) := dk_4 (dk_at dksX1_laysFactors_6 3 rfl rfl)
theorem dX1_laysFactors_141 : decode cX1_laysFactors 141 = .ok (.iadd, 1) := dk_96 (dk_at dksX1_laysFactors_6 4 rfl rfl)
theorem dX1_laysFactors_142 : decode cX1_laysFactors 142 = .ok (.putfield 37, 3) := dk_181 0 37 (dk_at dksX1_laysFactors_6 5 rfl rfl)
theorem dX1_laysFactors_145 : decode cX1_laysFactors 145 = .ok (.return_, 1) := dk_177 (dk_at dksX1_laysFactors_6 8 rfl rfl)
abbrev cX1_rowsOf : ByteArray := prog_17_method_34_code
def yX1_rowsOf : MethodName := ⟨RX1, "rowsOf", "(IZII)V"⟩
def dkwX1_rowsOf_1 : List UInt8 := [42, 27, 42, 180, 0, 40, 29, 46, 42, 180, 0, 44, 29, 46, 21, 4, 182, 0, 119, 177]
abbrev dktX1_rowsOf_1 : List UInt8 := dkwX1_rowsOf_1 ++ []
def dkwX1_rowsOf_0 : List UInt8 := [28, 153, 0, 23, 42, 27, 42, 180, 0, 40, 29, 46, 42, 180, 0, 44, 29, 46, 182, 0, 123, 167, 0, 22]
abbrev dktX1_rowsOf_0 : List UInt8 := dkwX1_rowsOf_0 ++ dktX1_rowsOf_1
theorem dksX1_rowsOf_0 : cX1_rowsOf.data.toList.drop 0 = dktX1_rowsOf_0 := by decide +kernel
theorem dksX1_rowsOf_1 : cX1_rowsOf.data.toList.drop 24 = dktX1_rowsOf_1 := dk_seg dksX1_rowsOf_0 24 rfl rfl
theorem dX1_rowsOf_0 : decode cX1_rowsOf 0 = .ok (.iload_n 2, 1) := dk_28 (dk_at dksX1_rowsOf_0 0 rfl rfl)
theorem dX1_rowsOf_1 : decode cX1_rowsOf 1 = .ok (.ifCond .eq 23, 3) := dk_153 0 23 (dk_at dksX1_rowsOf_0 1 rfl rfl)
theorem dX1_rowsOf_4 : decode cX1_rowsOf 4 = .ok (.aload_n 0, 1) := dk_42 (dk_at dksX1_rowsOf_0 4 rfl rfl)
theorem dX1_rowsOf_5 : decode cX1_rowsOf 5 = .ok (.iload_n 1, 1) := dk_27 (dk_at dksX1_rowsOf_0 5 rfl rfl)
theorem dX1_rowsOf_6 : decode cX1_rowsOf 6 = .ok (.aload_n 0, 1) := dk_42 (dk_at dksX1_rowsOf_0 6 rfl rfl)
theorem dX1_rowsOf_7 : decode cX1_rowsOf 7 = .ok (.getfield 40, 3) := dk_180 0 40 (dk_at dksX1_rowsOf_0 7 rfl rfl)
theorem dX1_rowsOf_10 : decode cX1_rowsOf 10 = .ok (.iload_n 3, 1) := dk_29 (dk_at dksX1_rowsOf_0 10 rfl rfl)
theorem dX1_rowsOf_11 : decode cX1_rowsOf 11 = .ok (.iaload, 1) := dk_46 (dk_at dksX1_rowsOf_0 11 rfl rfl)
theorem dX1_rowsOf_12 : decode cX1_rowsOf 12 = .ok (.aload_n 0, 1) := dk_42 (dk_at dksX1_rowsOf_0 12 rfl rfl)
theorem dX1_rowsOf_13 : decode cX1_rowsOf 13 = .ok (.getfield 44, 3) := dk_180 0 44 (dk_at dksX1_rowsOf_0 13 rfl rfl)
theorem dX1_rowsOf_16 : decode cX1_rowsOf 16 = .ok (.iload_n 3, 1) := dk_29 (dk_at dksX1_rowsOf_0 16 rfl rfl)
theorem dX1_rowsOf_17 : decode cX1_rowsOf 17 = .ok (.iaload, 1) := dk_46 (dk_at dksX1_rowsOf_0 17 rfl rfl)
theorem dX1_rowsOf_18 : decode cX1_rowsOf 18 = .ok (.invokevirtual 123, 3) := dk_182 0 123 (dk_at dksX1_rowsOf_0 18 rfl rfl)
theorem dX1_rowsOf_21 : decode cX1_rowsOf 21 = .ok (.goto 22, 3) := dk_167 0 22 (dk_at dksX1_rowsOf_0 21 rfl rfl)
theorem dX1_rowsOf_24 : decode cX1_rowsOf 24 = .ok (.aload_n 0, 1) := dk_42 (dk_at dksX1_rowsOf_1 0 rfl rfl)
theorem dX1_rowsOf_25 : decode cX1_rowsOf 25 = .ok (.iload_n 1, 1) := dk_27 (dk_at dksX1_rowsOf_1 1 rfl rfl)
theorem dX1_rowsOf_26 : decode cX1_rowsOf 26 = .ok (.aload_n 0, 1) := dk_42 (dk_at dksX1_rowsOf_1 2 rfl rfl)
theorem dX1_rowsOf_27 : decode cX1_rowsOf 27 = .ok (.getfield 40, 3) := dk_180 0 40 (dk_at dksX1_rowsOf_1 3 rfl rfl)
theorem dX1_rowsOf_30 : decode cX1_rowsOf 30 = .ok (.iload_n 3, 1) := dk_29 (dk_at dksX1_rowsOf_1 6 rfl rfl)
theorem dX1_rowsOf_31 : decode cX1_rowsOf 31 = .ok (.iaload, 1) := dk_46 (dk_at dksX1_rowsOf_1 7 rfl rfl)
theorem dX1_rowsOf_32 : decode cX1_rowsOf 32 = .ok (.aload_n 0, 1) := dk_42 (dk_at dksX1_rowsOf_1 8 rfl rfl)
theorem dX1_rowsOf_33 : decode cX1_rowsOf 33 = .ok (.getfield 44, 3) := dk_180 0 44 (dk_at dksX1_rowsOf_1 9 rfl rfl)
theorem dX1_rowsOf_36 : decode cX1_rowsOf 36 = .ok (.iload_n 3, 1) := dk_29 (dk_at dksX1_rowsOf_1 12 rfl rfl)
theorem dX1_rowsOf_37 : decode cX1_rowsOf 37 = .ok (.iaload, 1) := dk_46 (dk_at dksX1_rowsOf_1 13 rfl rfl)
theorem dX1_rowsOf_38 : decode cX1_rowsOf 38 = .ok (.iload 4, 2) := dk_21 4 (dk_at dksX1_rowsOf_1 14 rfl rfl)
theorem dX1_rowsOf_40 : decode cX1_rowsOf 40 = .ok (.invokevirtual 119, 3) := dk_182 0 119 (dk_at dksX1_rowsOf_1 16 rfl rfl)
theorem dX1_rowsOf_43 : decode cX1_rowsOf 43 = .ok (.return_, 1) := dk_177 (dk_at dksX1_rowsOf_1 19 rfl rfl)
abbrev cX1_addsUp : ByteArray := prog_17_method_17_code
def yX1_addsUp : MethodName := ⟨RX1, "addsUp", "(III)V"⟩
def dkwX1_addsUp_1 : List UInt8 := [180, 0, 83, 21, 4, 29, 79, 42, 180, 0, 68, 27, 92, 46, 4, 96, 79, 177]
abbrev dktX1_addsUp_1 : List UInt8 := dkwX1_addsUp_1 ++ []
def dkwX1_addsUp_0 : List UInt8 := [16, 9, 27, 104, 42, 180, 0, 68, 27, 46, 96, 54, 4, 42, 180, 0, 80, 21, 4, 28, 79, 42]
abbrev dktX1_addsUp_0 : List UInt8 := dkwX1_addsUp_0 ++ dktX1_addsUp_1
theorem dksX1_addsUp_0 : cX1_addsUp.data.toList.drop 0 = dktX1_addsUp_0 := by decide +kernel
theorem dksX1_addsUp_1 : cX1_addsUp.data.toList.drop 22 = dktX1_addsUp_1 := dk_seg dksX1_addsUp_0 22 rfl rfl
theorem dX1_addsUp_0 : decode cX1_addsUp 0 = .ok (.bipush 9, 2) := dk_16 9 (dk_at dksX1_addsUp_0 0 rfl rfl)
theorem dX1_addsUp_2 : decode cX1_addsUp 2 = .ok (.iload_n 1, 1) := dk_27 (dk_at dksX1_addsUp_0 2 rfl rfl)
theorem dX1_addsUp_3 : decode cX1_addsUp 3 = .ok (.imul, 1) := dk_104 (dk_at dksX1_addsUp_0 3 rfl rfl)
theorem dX1_addsUp_4 : decode cX1_addsUp 4 = .ok (.aload_n 0, 1) := dk_42 (dk_at dksX1_addsUp_0 4 rfl rfl)
theorem dX1_addsUp_5 : decode cX1_addsUp 5 = .ok (.getfield 68, 3) := dk_180 0 68 (dk_at dksX1_addsUp_0 5 rfl rfl)
theorem dX1_addsUp_8 : decode cX1_addsUp 8 = .ok (.iload_n 1, 1) := dk_27 (dk_at dksX1_addsUp_0 8 rfl rfl)
theorem dX1_addsUp_9 : decode cX1_addsUp 9 = .ok (.iaload, 1) := dk_46 (dk_at dksX1_addsUp_0 9 rfl rfl)
theorem dX1_addsUp_10 : decode cX1_addsUp 10 = .ok (.iadd, 1) := dk_96 (dk_at dksX1_addsUp_0 10 rfl rfl)
theorem dX1_addsUp_11 : decode cX1_addsUp 11 = .ok (.istore 4, 2) := dk_54 4 (dk_at dksX1_addsUp_0 11 rfl rfl)
theorem dX1_addsUp_13 : decode cX1_addsUp 13 = .ok (.aload_n 0, 1) := dk_42 (dk_at dksX1_addsUp_0 13 rfl rfl)
theorem dX1_addsUp_14 : decode cX1_addsUp 14 = .ok (.getfield 80, 3) := dk_180 0 80 (dk_at dksX1_addsUp_0 14 rfl rfl)
theorem dX1_addsUp_17 : decode cX1_addsUp 17 = .ok (.iload 4, 2) := dk_21 4 (dk_at dksX1_addsUp_0 17 rfl rfl)
theorem dX1_addsUp_19 : decode cX1_addsUp 19 = .ok (.iload_n 2, 1) := dk_28 (dk_at dksX1_addsUp_0 19 rfl rfl)
theorem dX1_addsUp_20 : decode cX1_addsUp 20 = .ok (.iastore, 1) := dk_79 (dk_at dksX1_addsUp_0 20 rfl rfl)
theorem dX1_addsUp_21 : decode cX1_addsUp 21 = .ok (.aload_n 0, 1) := dk_42 (dk_at dksX1_addsUp_0 21 rfl rfl)
theorem dX1_addsUp_22 : decode cX1_addsUp 22 = .ok (.getfield 83, 3) := dk_180 0 83 (dk_at dksX1_addsUp_1 0 rfl rfl)
theorem dX1_addsUp_25 : decode cX1_addsUp 25 = .ok (.iload 4, 2) := dk_21 4 (dk_at dksX1_addsUp_1 3 rfl rfl)
theorem dX1_addsUp_27 : decode cX1_addsUp 27 = .ok (.iload_n 3, 1) := dk_29 (dk_at dksX1_addsUp_1 5 rfl rfl)
theorem dX1_addsUp_28 : decode cX1_addsUp 28 = .ok (.iastore, 1) := dk_79 (dk_at dksX1_addsUp_1 6 rfl rfl)
theorem dX1_addsUp_29 : decode cX1_addsUp 29 = .ok (.aload_n 0, 1) := dk_42 (dk_at dksX1_addsUp_1 7 rfl rfl)
theorem dX1_addsUp_30 : decode cX1_addsUp 30 = .ok (.getfield 68, 3) := dk_180 0 68 (dk_at dksX1_addsUp_1 8 rfl rfl)
theorem dX1_addsUp_33 : decode cX1_addsUp 33 = .ok (.iload_n 1, 1) := dk_27 (dk_at dksX1_addsUp_1 11 rfl rfl)
theorem dX1_addsUp_34 : decode cX1_addsUp 34 = .ok (.dup2, 1) := dk_92 (dk_at dksX1_addsUp_1 12 rfl rfl)
theorem dX1_addsUp_35 : decode cX1_addsUp 35 = .ok (.iaload, 1) := dk_46 (dk_at dksX1_addsUp_1 13 rfl rfl)
theorem dX1_addsUp_36 : decode cX1_addsUp 36 = .ok (.iconst 1, 1) := dk_4 (dk_at dksX1_addsUp_1 14 rfl rfl)
theorem dX1_addsUp_37 : decode cX1_addsUp 37 = .ok (.iadd, 1) := dk_96 (dk_at dksX1_addsUp_1 15 rfl rfl)
theorem dX1_addsUp_38 : decode cX1_addsUp 38 = .ok (.iastore, 1) := dk_79 (dk_at dksX1_addsUp_1 16 rfl rfl)
theorem dX1_addsUp_39 : decode cX1_addsUp 39 = .ok (.return_, 1) := dk_177 (dk_at dksX1_addsUp_1 17 rfl rfl)
abbrev cX1_addsDown : ByteArray := prog_17_method_16_code
def yX1_addsDown : MethodName := ⟨RX1, "addsDown", "(IIII)V"⟩
def dkwX1_addsDown_2 : List UInt8 := [96, 79, 177]
abbrev dktX1_addsDown_2 : List UInt8 := dkwX1_addsDown_2 ++ []
def dkwX1_addsDown_1 : List UInt8 := [180, 0, 74, 21, 5, 29, 79, 42, 180, 0, 77, 21, 5, 21, 4, 79, 42, 180, 0, 65, 27, 92, 46, 4]
abbrev dktX1_addsDown_1 : List UInt8 := dkwX1_addsDown_1 ++ dktX1_addsDown_2
def dkwX1_addsDown_0 : List UInt8 := [16, 9, 27, 104, 42, 180, 0, 65, 27, 46, 96, 54, 5, 42, 180, 0, 71, 21, 5, 28, 79, 42]
abbrev dktX1_addsDown_0 : List UInt8 := dkwX1_addsDown_0 ++ dktX1_addsDown_1
theorem dksX1_addsDown_0 : cX1_addsDown.data.toList.drop 0 = dktX1_addsDown_0 := by decide +kernel
theorem dksX1_addsDown_1 : cX1_addsDown.data.toList.drop 22 = dktX1_addsDown_1 := dk_seg dksX1_addsDown_0 22 rfl rfl
theorem dksX1_addsDown_2 : cX1_addsDown.data.toList.drop 46 = dktX1_addsDown_2 := dk_seg dksX1_addsDown_1 24 rfl rfl
theorem dX1_addsDown_0 : decode cX1_addsDown 0 = .ok (.bipush 9, 2) := dk_16 9 (dk_at dksX1_addsDown_0 0 rfl rfl)
theorem dX1_addsDown_2 : decode cX1_addsDown 2 = .ok (.iload_n 1, 1) := dk_27 (dk_at dksX1_addsDown_0 2 rfl rfl)
theorem dX1_addsDown_3 : decode cX1_addsDown 3 = .ok (.imul, 1) := dk_104 (dk_at dksX1_addsDown_0 3 rfl rfl)
theorem dX1_addsDown_4 : decode cX1_addsDown 4 = .ok (.aload_n 0, 1) := dk_42 (dk_at dksX1_addsDown_0 4 rfl rfl)
theorem dX1_addsDown_5 : decode cX1_addsDown 5 = .ok (.getfield 65, 3) := dk_180 0 65 (dk_at dksX1_addsDown_0 5 rfl rfl)
theorem dX1_addsDown_8 : decode cX1_addsDown 8 = .ok (.iload_n 1, 1) := dk_27 (dk_at dksX1_addsDown_0 8 rfl rfl)
theorem dX1_addsDown_9 : decode cX1_addsDown 9 = .ok (.iaload, 1) := dk_46 (dk_at dksX1_addsDown_0 9 rfl rfl)
theorem dX1_addsDown_10 : decode cX1_addsDown 10 = .ok (.iadd, 1) := dk_96 (dk_at dksX1_addsDown_0 10 rfl rfl)
theorem dX1_addsDown_11 : decode cX1_addsDown 11 = .ok (.istore 5, 2) := dk_54 5 (dk_at dksX1_addsDown_0 11 rfl rfl)
theorem dX1_addsDown_13 : decode cX1_addsDown 13 = .ok (.aload_n 0, 1) := dk_42 (dk_at dksX1_addsDown_0 13 rfl rfl)
theorem dX1_addsDown_14 : decode cX1_addsDown 14 = .ok (.getfield 71, 3) := dk_180 0 71 (dk_at dksX1_addsDown_0 14 rfl rfl)
theorem dX1_addsDown_17 : decode cX1_addsDown 17 = .ok (.iload 5, 2) := dk_21 5 (dk_at dksX1_addsDown_0 17 rfl rfl)
theorem dX1_addsDown_19 : decode cX1_addsDown 19 = .ok (.iload_n 2, 1) := dk_28 (dk_at dksX1_addsDown_0 19 rfl rfl)
theorem dX1_addsDown_20 : decode cX1_addsDown 20 = .ok (.iastore, 1) := dk_79 (dk_at dksX1_addsDown_0 20 rfl rfl)
theorem dX1_addsDown_21 : decode cX1_addsDown 21 = .ok (.aload_n 0, 1) := dk_42 (dk_at dksX1_addsDown_0 21 rfl rfl)
theorem dX1_addsDown_22 : decode cX1_addsDown 22 = .ok (.getfield 74, 3) := dk_180 0 74 (dk_at dksX1_addsDown_1 0 rfl rfl)
theorem dX1_addsDown_25 : decode cX1_addsDown 25 = .ok (.iload 5, 2) := dk_21 5 (dk_at dksX1_addsDown_1 3 rfl rfl)
theorem dX1_addsDown_27 : decode cX1_addsDown 27 = .ok (.iload_n 3, 1) := dk_29 (dk_at dksX1_addsDown_1 5 rfl rfl)
theorem dX1_addsDown_28 : decode cX1_addsDown 28 = .ok (.iastore, 1) := dk_79 (dk_at dksX1_addsDown_1 6 rfl rfl)
theorem dX1_addsDown_29 : decode cX1_addsDown 29 = .ok (.aload_n 0, 1) := dk_42 (dk_at dksX1_addsDown_1 7 rfl rfl)
theorem dX1_addsDown_30 : decode cX1_addsDown 30 = .ok (.getfield 77, 3) := dk_180 0 77 (dk_at dksX1_addsDown_1 8 rfl rfl)
theorem dX1_addsDown_33 : decode cX1_addsDown 33 = .ok (.iload 5, 2) := dk_21 5 (dk_at dksX1_addsDown_1 11 rfl rfl)
theorem dX1_addsDown_35 : decode cX1_addsDown 35 = .ok (.iload 4, 2) := dk_21 4 (dk_at dksX1_addsDown_1 13 rfl rfl)
theorem dX1_addsDown_37 : decode cX1_addsDown 37 = .ok (.iastore, 1) := dk_79 (dk_at dksX1_addsDown_1 15 rfl rfl)
theorem dX1_addsDown_38 : decode cX1_addsDown 38 = .ok (.aload_n 0, 1) := dk_42 (dk_at dksX1_addsDown_1 16 rfl rfl)
theorem dX1_addsDown_39 : decode cX1_addsDown 39 = .ok (.getfield 65, 3) := dk_180 0 65 (dk_at dksX1_addsDown_1 17 rfl rfl)
theorem dX1_addsDown_42 : decode cX1_addsDown 42 = .ok (.iload_n 1, 1) := dk_27 (dk_at dksX1_addsDown_1 20 rfl rfl)
theorem dX1_addsDown_43 : decode cX1_addsDown 43 = .ok (.dup2, 1) := dk_92 (dk_at dksX1_addsDown_1 21 rfl rfl)
theorem dX1_addsDown_44 : decode cX1_addsDown 44 = .ok (.iaload, 1) := dk_46 (dk_at dksX1_addsDown_1 22 rfl rfl)
theorem dX1_addsDown_45 : decode cX1_addsDown 45 = .ok (.iconst 1, 1) := dk_4 (dk_at dksX1_addsDown_1 23 rfl rfl)
theorem dX1_addsDown_46 : decode cX1_addsDown 46 = .ok (.iadd, 1) := dk_96 (dk_at dksX1_addsDown_2 0 rfl rfl)
theorem dX1_addsDown_47 : decode cX1_addsDown 47 = .ok (.iastore, 1) := dk_79 (dk_at dksX1_addsDown_2 1 rfl rfl)
theorem dX1_addsDown_48 : decode cX1_addsDown 48 = .ok (.return_, 1) := dk_177 (dk_at dksX1_addsDown_2 2 rfl rfl)
abbrev cX1_turns : ByteArray := prog_17_method_36_code
def yX1_turns : MethodName := ⟨RX1, "turns", "(II)V"⟩
def dkwX1_turns_5 : List UInt8 := [167, 0, 6, 132, 3, 255, 21, 6, 154, 0, 7, 4, 167, 0, 4, 3, 54, 5, 167, 255, 154, 177]
abbrev dktX1_turns_5 : List UInt8 := dkwX1_turns_5 ++ []
def dkwX1_turns_4 : List UInt8 := [21, 6, 153, 0, 8, 21, 4, 167, 0, 4, 29, 5, 182, 0, 208, 21, 6, 153, 0, 9, 132, 4, 255]
abbrev dktX1_turns_4 : List UInt8 := dkwX1_turns_4 ++ dktX1_turns_5
def dkwX1_turns_3 : List UInt8 := [42, 21, 6, 153, 0, 10, 28, 133, 10, 97, 167, 0, 7, 28, 133, 10, 101, 182, 0, 204, 42, 27, 21, 6]
abbrev dktX1_turns_3 : List UInt8 := dkwX1_turns_3 ++ dktX1_turns_4
def dkwX1_turns_2 : List UInt8 := [21, 4, 155, 0, 7, 4, 167, 0, 16, 3, 167, 0, 12, 29, 156, 0, 7, 4, 167, 0, 4, 3, 54, 6]
abbrev dktX1_turns_2 : List UInt8 := dkwX1_turns_2 ++ dktX1_turns_3
def dkwX1_turns_1 : List UInt8 := [180, 0, 37, 4, 100, 54, 4, 3, 54, 5, 42, 27, 182, 0, 180, 154, 0, 100, 21, 5, 153, 0, 16]
abbrev dktX1_turns_1 : List UInt8 := dkwX1_turns_1 ++ dktX1_turns_2
def dkwX1_turns_0 : List UInt8 := [42, 28, 133, 10, 101, 182, 0, 204, 42, 180, 0, 37, 4, 100, 62, 42, 28, 133, 10, 97, 182, 0, 204, 42]
abbrev dktX1_turns_0 : List UInt8 := dkwX1_turns_0 ++ dktX1_turns_1
theorem dksX1_turns_0 : cX1_turns.data.toList.drop 0 = dktX1_turns_0 := by decide +kernel
theorem dksX1_turns_1 : cX1_turns.data.toList.drop 24 = dktX1_turns_1 := dk_seg dksX1_turns_0 24 rfl rfl
theorem dksX1_turns_2 : cX1_turns.data.toList.drop 47 = dktX1_turns_2 := dk_seg dksX1_turns_1 23 rfl rfl
theorem dksX1_turns_3 : cX1_turns.data.toList.drop 71 = dktX1_turns_3 := dk_seg dksX1_turns_2 24 rfl rfl
theorem dksX1_turns_4 : cX1_turns.data.toList.drop 95 = dktX1_turns_4 := dk_seg dksX1_turns_3 24 rfl rfl
theorem dksX1_turns_5 : cX1_turns.data.toList.drop 118 = dktX1_turns_5 := dk_seg dksX1_turns_4 23 rfl rfl
theorem dX1_turns_0 : decode cX1_turns 0 = .ok (.aload_n 0, 1) := dk_42 (dk_at dksX1_turns_0 0 rfl rfl)
theorem dX1_turns_1 : decode cX1_turns 1 = .ok (.iload_n 2, 1) := dk_28 (dk_at dksX1_turns_0 1 rfl rfl)
theorem dX1_turns_2 : decode cX1_turns 2 = .ok (.i2l, 1) := dk_133 (dk_at dksX1_turns_0 2 rfl rfl)
theorem dX1_turns_3 : decode cX1_turns 3 = .ok (.lconst 1, 1) := dk_10 (dk_at dksX1_turns_0 3 rfl rfl)
theorem dX1_turns_4 : decode cX1_turns 4 = .ok (.lsub, 1) := dk_101 (dk_at dksX1_turns_0 4 rfl rfl)
theorem dX1_turns_5 : decode cX1_turns 5 = .ok (.invokevirtual 204, 3) := dk_182 0 204 (dk_at dksX1_turns_0 5 rfl rfl)
theorem dX1_turns_8 : decode cX1_turns 8 = .ok (.aload_n 0, 1) := dk_42 (dk_at dksX1_turns_0 8 rfl rfl)
theorem dX1_turns_9 : decode cX1_turns 9 = .ok (.getfield 37, 3) := dk_180 0 37 (dk_at dksX1_turns_0 9 rfl rfl)
theorem dX1_turns_12 : decode cX1_turns 12 = .ok (.iconst 1, 1) := dk_4 (dk_at dksX1_turns_0 12 rfl rfl)
theorem dX1_turns_13 : decode cX1_turns 13 = .ok (.isub, 1) := dk_100 (dk_at dksX1_turns_0 13 rfl rfl)
theorem dX1_turns_14 : decode cX1_turns 14 = .ok (.istore_n 3, 1) := dk_62 (dk_at dksX1_turns_0 14 rfl rfl)
theorem dX1_turns_15 : decode cX1_turns 15 = .ok (.aload_n 0, 1) := dk_42 (dk_at dksX1_turns_0 15 rfl rfl)
theorem dX1_turns_16 : decode cX1_turns 16 = .ok (.iload_n 2, 1) := dk_28 (dk_at dksX1_turns_0 16 rfl rfl)
theorem dX1_turns_17 : decode cX1_turns 17 = .ok (.i2l, 1) := dk_133 (dk_at dksX1_turns_0 17 rfl rfl)
theorem dX1_turns_18 : decode cX1_turns 18 = .ok (.lconst 1, 1) := dk_10 (dk_at dksX1_turns_0 18 rfl rfl)
theorem dX1_turns_19 : decode cX1_turns 19 = .ok (.ladd, 1) := dk_97 (dk_at dksX1_turns_0 19 rfl rfl)
theorem dX1_turns_20 : decode cX1_turns 20 = .ok (.invokevirtual 204, 3) := dk_182 0 204 (dk_at dksX1_turns_0 20 rfl rfl)
theorem dX1_turns_23 : decode cX1_turns 23 = .ok (.aload_n 0, 1) := dk_42 (dk_at dksX1_turns_0 23 rfl rfl)
theorem dX1_turns_24 : decode cX1_turns 24 = .ok (.getfield 37, 3) := dk_180 0 37 (dk_at dksX1_turns_1 0 rfl rfl)
theorem dX1_turns_27 : decode cX1_turns 27 = .ok (.iconst 1, 1) := dk_4 (dk_at dksX1_turns_1 3 rfl rfl)
theorem dX1_turns_28 : decode cX1_turns 28 = .ok (.isub, 1) := dk_100 (dk_at dksX1_turns_1 4 rfl rfl)
theorem dX1_turns_29 : decode cX1_turns 29 = .ok (.istore 4, 2) := dk_54 4 (dk_at dksX1_turns_1 5 rfl rfl)
theorem dX1_turns_31 : decode cX1_turns 31 = .ok (.iconst 0, 1) := dk_3 (dk_at dksX1_turns_1 7 rfl rfl)
theorem dX1_turns_32 : decode cX1_turns 32 = .ok (.istore 5, 2) := dk_54 5 (dk_at dksX1_turns_1 8 rfl rfl)
theorem dX1_turns_34 : decode cX1_turns 34 = .ok (.aload_n 0, 1) := dk_42 (dk_at dksX1_turns_1 10 rfl rfl)
theorem dX1_turns_35 : decode cX1_turns 35 = .ok (.iload_n 1, 1) := dk_27 (dk_at dksX1_turns_1 11 rfl rfl)
theorem dX1_turns_36 : decode cX1_turns 36 = .ok (.invokevirtual 180, 3) := dk_182 0 180 (dk_at dksX1_turns_1 12 rfl rfl)
theorem dX1_turns_39 : decode cX1_turns 39 = .ok (.ifCond .ne 100, 3) := dk_154 0 100 (dk_at dksX1_turns_1 15 rfl rfl)
theorem dX1_turns_42 : decode cX1_turns 42 = .ok (.iload 5, 2) := dk_21 5 (dk_at dksX1_turns_1 18 rfl rfl)
theorem dX1_turns_44 : decode cX1_turns 44 = .ok (.ifCond .eq 16, 3) := dk_153 0 16 (dk_at dksX1_turns_1 20 rfl rfl)
theorem dX1_turns_47 : decode cX1_turns 47 = .ok (.iload 4, 2) := dk_21 4 (dk_at dksX1_turns_2 0 rfl rfl)
theorem dX1_turns_49 : decode cX1_turns 49 = .ok (.ifCond .lt 7, 3) := dk_155 0 7 (dk_at dksX1_turns_2 2 rfl rfl)
theorem dX1_turns_52 : decode cX1_turns 52 = .ok (.iconst 1, 1) := dk_4 (dk_at dksX1_turns_2 5 rfl rfl)
theorem dX1_turns_53 : decode cX1_turns 53 = .ok (.goto 16, 3) := dk_167 0 16 (dk_at dksX1_turns_2 6 rfl rfl)
theorem dX1_turns_56 : decode cX1_turns 56 = .ok (.iconst 0, 1) := dk_3 (dk_at dksX1_turns_2 9 rfl rfl)
theorem dX1_turns_57 : decode cX1_turns 57 = .ok (.goto 12, 3) := dk_167 0 12 (dk_at dksX1_turns_2 10 rfl rfl)
theorem dX1_turns_60 : decode cX1_turns 60 = .ok (.iload_n 3, 1) := dk_29 (dk_at dksX1_turns_2 13 rfl rfl)
theorem dX1_turns_61 : decode cX1_turns 61 = .ok (.ifCond .ge 7, 3) := dk_156 0 7 (dk_at dksX1_turns_2 14 rfl rfl)
theorem dX1_turns_64 : decode cX1_turns 64 = .ok (.iconst 1, 1) := dk_4 (dk_at dksX1_turns_2 17 rfl rfl)
theorem dX1_turns_65 : decode cX1_turns 65 = .ok (.goto 4, 3) := dk_167 0 4 (dk_at dksX1_turns_2 18 rfl rfl)
theorem dX1_turns_68 : decode cX1_turns 68 = .ok (.iconst 0, 1) := dk_3 (dk_at dksX1_turns_2 21 rfl rfl)
theorem dX1_turns_69 : decode cX1_turns 69 = .ok (.istore 6, 2) := dk_54 6 (dk_at dksX1_turns_2 22 rfl rfl)
theorem dX1_turns_71 : decode cX1_turns 71 = .ok (.aload_n 0, 1) := dk_42 (dk_at dksX1_turns_3 0 rfl rfl)
theorem dX1_turns_72 : decode cX1_turns 72 = .ok (.iload 6, 2) := dk_21 6 (dk_at dksX1_turns_3 1 rfl rfl)
theorem dX1_turns_74 : decode cX1_turns 74 = .ok (.ifCond .eq 10, 3) := dk_153 0 10 (dk_at dksX1_turns_3 3 rfl rfl)
theorem dX1_turns_77 : decode cX1_turns 77 = .ok (.iload_n 2, 1) := dk_28 (dk_at dksX1_turns_3 6 rfl rfl)
theorem dX1_turns_78 : decode cX1_turns 78 = .ok (.i2l, 1) := dk_133 (dk_at dksX1_turns_3 7 rfl rfl)
theorem dX1_turns_79 : decode cX1_turns 79 = .ok (.lconst 1, 1) := dk_10 (dk_at dksX1_turns_3 8 rfl rfl)
theorem dX1_turns_80 : decode cX1_turns 80 = .ok (.ladd, 1) := dk_97 (dk_at dksX1_turns_3 9 rfl rfl)
theorem dX1_turns_81 : decode cX1_turns 81 = .ok (.goto 7, 3) := dk_167 0 7 (dk_at dksX1_turns_3 10 rfl rfl)
theorem dX1_turns_84 : decode cX1_turns 84 = .ok (.iload_n 2, 1) := dk_28 (dk_at dksX1_turns_3 13 rfl rfl)
theorem dX1_turns_85 : decode cX1_turns 85 = .ok (.i2l, 1) := dk_133 (dk_at dksX1_turns_3 14 rfl rfl)
theorem dX1_turns_86 : decode cX1_turns 86 = .ok (.lconst 1, 1) := dk_10 (dk_at dksX1_turns_3 15 rfl rfl)
theorem dX1_turns_87 : decode cX1_turns 87 = .ok (.lsub, 1) := dk_101 (dk_at dksX1_turns_3 16 rfl rfl)
theorem dX1_turns_88 : decode cX1_turns 88 = .ok (.invokevirtual 204, 3) := dk_182 0 204 (dk_at dksX1_turns_3 17 rfl rfl)
theorem dX1_turns_91 : decode cX1_turns 91 = .ok (.aload_n 0, 1) := dk_42 (dk_at dksX1_turns_3 20 rfl rfl)
theorem dX1_turns_92 : decode cX1_turns 92 = .ok (.iload_n 1, 1) := dk_27 (dk_at dksX1_turns_3 21 rfl rfl)
theorem dX1_turns_93 : decode cX1_turns 93 = .ok (.iload 6, 2) := dk_21 6 (dk_at dksX1_turns_3 22 rfl rfl)
theorem dX1_turns_95 : decode cX1_turns 95 = .ok (.iload 6, 2) := dk_21 6 (dk_at dksX1_turns_4 0 rfl rfl)
theorem dX1_turns_97 : decode cX1_turns 97 = .ok (.ifCond .eq 8, 3) := dk_153 0 8 (dk_at dksX1_turns_4 2 rfl rfl)
theorem dX1_turns_100 : decode cX1_turns 100 = .ok (.iload 4, 2) := dk_21 4 (dk_at dksX1_turns_4 5 rfl rfl)
theorem dX1_turns_102 : decode cX1_turns 102 = .ok (.goto 4, 3) := dk_167 0 4 (dk_at dksX1_turns_4 7 rfl rfl)
theorem dX1_turns_105 : decode cX1_turns 105 = .ok (.iload_n 3, 1) := dk_29 (dk_at dksX1_turns_4 10 rfl rfl)
theorem dX1_turns_106 : decode cX1_turns 106 = .ok (.iconst 2, 1) := dk_5 (dk_at dksX1_turns_4 11 rfl rfl)
theorem dX1_turns_107 : decode cX1_turns 107 = .ok (.invokevirtual 208, 3) := dk_182 0 208 (dk_at dksX1_turns_4 12 rfl rfl)
theorem dX1_turns_110 : decode cX1_turns 110 = .ok (.iload 6, 2) := dk_21 6 (dk_at dksX1_turns_4 15 rfl rfl)
theorem dX1_turns_112 : decode cX1_turns 112 = .ok (.ifCond .eq 9, 3) := dk_153 0 9 (dk_at dksX1_turns_4 17 rfl rfl)
theorem dX1_turns_115 : decode cX1_turns 115 = .ok (.iinc 4 (-1), 3) := dk_132 4 255 (dk_at dksX1_turns_4 20 rfl rfl)
theorem dX1_turns_118 : decode cX1_turns 118 = .ok (.goto 6, 3) := dk_167 0 6 (dk_at dksX1_turns_5 0 rfl rfl)
theorem dX1_turns_121 : decode cX1_turns 121 = .ok (.iinc 3 (-1), 3) := dk_132 3 255 (dk_at dksX1_turns_5 3 rfl rfl)
theorem dX1_turns_124 : decode cX1_turns 124 = .ok (.iload 6, 2) := dk_21 6 (dk_at dksX1_turns_5 6 rfl rfl)
theorem dX1_turns_126 : decode cX1_turns 126 = .ok (.ifCond .ne 7, 3) := dk_154 0 7 (dk_at dksX1_turns_5 8 rfl rfl)
theorem dX1_turns_129 : decode cX1_turns 129 = .ok (.iconst 1, 1) := dk_4 (dk_at dksX1_turns_5 11 rfl rfl)
theorem dX1_turns_130 : decode cX1_turns 130 = .ok (.goto 4, 3) := dk_167 0 4 (dk_at dksX1_turns_5 12 rfl rfl)
theorem dX1_turns_133 : decode cX1_turns 133 = .ok (.iconst 0, 1) := dk_3 (dk_at dksX1_turns_5 15 rfl rfl)
theorem dX1_turns_134 : decode cX1_turns 134 = .ok (.istore 5, 2) := dk_54 5 (dk_at dksX1_turns_5 16 rfl rfl)
theorem dX1_turns_136 : decode cX1_turns 136 = .ok (.goto (-102), 3) := dk_167 255 154 (dk_at dksX1_turns_5 18 rfl rfl)
theorem dX1_turns_139 : decode cX1_turns 139 = .ok (.return_, 1) := dk_177 (dk_at dksX1_turns_5 21 rfl rfl)
abbrev cX1_laysBases : ByteArray := prog_17_method_37_code
def yX1_laysBases : MethodName := ⟨RX1, "laysBases", "(I)Z"⟩
def dkwX1_laysBases_9 : List UInt8 := [180, 0, 77, 21, 4, 21, 5, 79, 132, 4, 1, 167, 255, 174, 4, 172]
abbrev dktX1_laysBases_9 : List UInt8 := dkwX1_laysBases_9 ++ []
def dkwX1_laysBases_8 : List UInt8 := [184, 0, 187, 154, 0, 9, 132, 5, 1, 167, 255, 215, 21, 5, 17, 3, 231, 164, 0, 5, 3, 172, 42]
abbrev dktX1_laysBases_8 : List UInt8 := dkwX1_laysBases_8 ++ dktX1_laysBases_9
def dkwX1_laysBases_7 : List UInt8 := [29, 133, 21, 5, 133, 184, 0, 183, 153, 0, 22, 29, 133, 21, 5, 133, 42, 180, 0, 71, 21, 4, 46, 133]
abbrev dktX1_laysBases_7 : List UInt8 := dkwX1_laysBases_7 ++ dktX1_laysBases_8
def dkwX1_laysBases_6 : List UInt8 := [21, 4, 28, 42, 180, 0, 65, 27, 46, 96, 162, 0, 75, 5, 54, 5, 21, 5, 17, 3, 231, 163, 0, 39]
abbrev dktX1_laysBases_6 : List UInt8 := dkwX1_laysBases_6 ++ dktX1_laysBases_7
def dkwX1_laysBases_5 : List UInt8 := [21, 6, 21, 4, 79, 132, 6, 1, 167, 255, 231, 4, 172, 132, 4, 1, 167, 255, 149, 3, 172, 28, 54, 4]
abbrev dktX1_laysBases_5 : List UInt8 := dkwX1_laysBases_5 ++ dktX1_laysBases_6
def dkwX1_laysBases_4 : List UInt8 := [167, 0, 36, 28, 54, 6, 21, 6, 28, 42, 180, 0, 65, 27, 46, 96, 162, 0, 18, 42, 180, 0, 77]
abbrev dktX1_laysBases_4 : List UInt8 := dkwX1_laysBases_4 ++ dktX1_laysBases_5
def dkwX1_laysBases_3 : List UInt8 := [180, 0, 71, 21, 6, 46, 133, 184, 0, 187, 54, 5, 132, 6, 1, 167, 255, 217, 21, 5, 154, 0, 6]
abbrev dktX1_laysBases_3 : List UInt8 := dkwX1_laysBases_3 ++ dktX1_laysBases_4
def dkwX1_laysBases_2 : List UInt8 := [21, 6, 28, 42, 180, 0, 65, 27, 46, 96, 162, 0, 32, 21, 5, 153, 0, 27, 29, 133, 21, 4, 133, 42]
abbrev dktX1_laysBases_2 : List UInt8 := dkwX1_laysBases_2 ++ dktX1_laysBases_3
def dkwX1_laysBases_1 : List UInt8 := [54, 4, 21, 4, 17, 3, 231, 163, 0, 105, 29, 133, 21, 4, 133, 184, 0, 183, 54, 5, 28, 54, 6]
abbrev dktX1_laysBases_1 : List UInt8 := dkwX1_laysBases_1 ++ dktX1_laysBases_2
def dkwX1_laysBases_0 : List UInt8 := [16, 9, 27, 104, 61, 42, 180, 0, 53, 27, 46, 62, 42, 180, 0, 56, 27, 46, 4, 160, 0, 118, 5]
abbrev dktX1_laysBases_0 : List UInt8 := dkwX1_laysBases_0 ++ dktX1_laysBases_1
theorem dksX1_laysBases_0 : cX1_laysBases.data.toList.drop 0 = dktX1_laysBases_0 := by decide +kernel
theorem dksX1_laysBases_1 : cX1_laysBases.data.toList.drop 23 = dktX1_laysBases_1 := dk_seg dksX1_laysBases_0 23 rfl rfl
theorem dksX1_laysBases_2 : cX1_laysBases.data.toList.drop 46 = dktX1_laysBases_2 := dk_seg dksX1_laysBases_1 23 rfl rfl
theorem dksX1_laysBases_3 : cX1_laysBases.data.toList.drop 70 = dktX1_laysBases_3 := dk_seg dksX1_laysBases_2 24 rfl rfl
theorem dksX1_laysBases_4 : cX1_laysBases.data.toList.drop 93 = dktX1_laysBases_4 := dk_seg dksX1_laysBases_3 23 rfl rfl
theorem dksX1_laysBases_5 : cX1_laysBases.data.toList.drop 116 = dktX1_laysBases_5 := dk_seg dksX1_laysBases_4 23 rfl rfl
theorem dksX1_laysBases_6 : cX1_laysBases.data.toList.drop 140 = dktX1_laysBases_6 := dk_seg dksX1_laysBases_5 24 rfl rfl
theorem dksX1_laysBases_7 : cX1_laysBases.data.toList.drop 164 = dktX1_laysBases_7 := dk_seg dksX1_laysBases_6 24 rfl rfl
theorem dksX1_laysBases_8 : cX1_laysBases.data.toList.drop 188 = dktX1_laysBases_8 := dk_seg dksX1_laysBases_7 24 rfl rfl
theorem dksX1_laysBases_9 : cX1_laysBases.data.toList.drop 211 = dktX1_laysBases_9 := dk_seg dksX1_laysBases_8 23 rfl rfl
theorem dX1_laysBases_0 : decode cX1_laysBases 0 = .ok (.bipush 9, 2) := dk_16 9 (dk_at dksX1_laysBases_0 0 rfl rfl)
theorem dX1_laysBases_2 : decode cX1_laysBases 2 = .ok (.iload_n 1, 1) := dk_27 (dk_at dksX1_laysBases_0 2 rfl rfl)
theorem dX1_laysBases_3 : decode cX1_laysBases 3 = .ok (.imul, 1) := dk_104 (dk_at dksX1_laysBases_0 3 rfl rfl)
theorem dX1_laysBases_4 : decode cX1_laysBases 4 = .ok (.istore_n 2, 1) := dk_61 (dk_at dksX1_laysBases_0 4 rfl rfl)
theorem dX1_laysBases_5 : decode cX1_laysBases 5 = .ok (.aload_n 0, 1) := dk_42 (dk_at dksX1_laysBases_0 5 rfl rfl)
theorem dX1_laysBases_6 : decode cX1_laysBases 6 = .ok (.getfield 53, 3) := dk_180 0 53 (dk_at dksX1_laysBases_0 6 rfl rfl)
theorem dX1_laysBases_9 : decode cX1_laysBases 9 = .ok (.iload_n 1, 1) := dk_27 (dk_at dksX1_laysBases_0 9 rfl rfl)
theorem dX1_laysBases_10 : decode cX1_laysBases 10 = .ok (.iaload, 1) := dk_46 (dk_at dksX1_laysBases_0 10 rfl rfl)
theorem dX1_laysBases_11 : decode cX1_laysBases 11 = .ok (.istore_n 3, 1) := dk_62 (dk_at dksX1_laysBases_0 11 rfl rfl)
theorem dX1_laysBases_12 : decode cX1_laysBases 12 = .ok (.aload_n 0, 1) := dk_42 (dk_at dksX1_laysBases_0 12 rfl rfl)
theorem dX1_laysBases_13 : decode cX1_laysBases 13 = .ok (.getfield 56, 3) := dk_180 0 56 (dk_at dksX1_laysBases_0 13 rfl rfl)
theorem dX1_laysBases_16 : decode cX1_laysBases 16 = .ok (.iload_n 1, 1) := dk_27 (dk_at dksX1_laysBases_0 16 rfl rfl)
theorem dX1_laysBases_17 : decode cX1_laysBases 17 = .ok (.iaload, 1) := dk_46 (dk_at dksX1_laysBases_0 17 rfl rfl)
theorem dX1_laysBases_18 : decode cX1_laysBases 18 = .ok (.iconst 1, 1) := dk_4 (dk_at dksX1_laysBases_0 18 rfl rfl)
theorem dX1_laysBases_19 : decode cX1_laysBases 19 = .ok (.if_icmp .ne 118, 3) := dk_160 0 118 (dk_at dksX1_laysBases_0 19 rfl rfl)
theorem dX1_laysBases_22 : decode cX1_laysBases 22 = .ok (.iconst 2, 1) := dk_5 (dk_at dksX1_laysBases_0 22 rfl rfl)
theorem dX1_laysBases_23 : decode cX1_laysBases 23 = .ok (.istore 4, 2) := dk_54 4 (dk_at dksX1_laysBases_1 0 rfl rfl)
theorem dX1_laysBases_25 : decode cX1_laysBases 25 = .ok (.iload 4, 2) := dk_21 4 (dk_at dksX1_laysBases_1 2 rfl rfl)
theorem dX1_laysBases_27 : decode cX1_laysBases 27 = .ok (.sipush 999, 3) := dk_17 3 231 (dk_at dksX1_laysBases_1 4 rfl rfl)
theorem dX1_laysBases_30 : decode cX1_laysBases 30 = .ok (.if_icmp .gt 105, 3) := dk_163 0 105 (dk_at dksX1_laysBases_1 7 rfl rfl)
theorem dX1_laysBases_33 : decode cX1_laysBases 33 = .ok (.iload_n 3, 1) := dk_29 (dk_at dksX1_laysBases_1 10 rfl rfl)
theorem dX1_laysBases_34 : decode cX1_laysBases 34 = .ok (.i2l, 1) := dk_133 (dk_at dksX1_laysBases_1 11 rfl rfl)
theorem dX1_laysBases_35 : decode cX1_laysBases 35 = .ok (.iload 4, 2) := dk_21 4 (dk_at dksX1_laysBases_1 12 rfl rfl)
theorem dX1_laysBases_37 : decode cX1_laysBases 37 = .ok (.i2l, 1) := dk_133 (dk_at dksX1_laysBases_1 14 rfl rfl)
theorem dX1_laysBases_38 : decode cX1_laysBases 38 = .ok (.invokestatic 183, 3) := dk_184 0 183 (dk_at dksX1_laysBases_1 15 rfl rfl)
theorem dX1_laysBases_41 : decode cX1_laysBases 41 = .ok (.istore 5, 2) := dk_54 5 (dk_at dksX1_laysBases_1 18 rfl rfl)
theorem dX1_laysBases_43 : decode cX1_laysBases 43 = .ok (.iload_n 2, 1) := dk_28 (dk_at dksX1_laysBases_1 20 rfl rfl)
theorem dX1_laysBases_44 : decode cX1_laysBases 44 = .ok (.istore 6, 2) := dk_54 6 (dk_at dksX1_laysBases_1 21 rfl rfl)
theorem dX1_laysBases_46 : decode cX1_laysBases 46 = .ok (.iload 6, 2) := dk_21 6 (dk_at dksX1_laysBases_2 0 rfl rfl)
theorem dX1_laysBases_48 : decode cX1_laysBases 48 = .ok (.iload_n 2, 1) := dk_28 (dk_at dksX1_laysBases_2 2 rfl rfl)
theorem dX1_laysBases_49 : decode cX1_laysBases 49 = .ok (.aload_n 0, 1) := dk_42 (dk_at dksX1_laysBases_2 3 rfl rfl)
theorem dX1_laysBases_50 : decode cX1_laysBases 50 = .ok (.getfield 65, 3) := dk_180 0 65 (dk_at dksX1_laysBases_2 4 rfl rfl)
theorem dX1_laysBases_53 : decode cX1_laysBases 53 = .ok (.iload_n 1, 1) := dk_27 (dk_at dksX1_laysBases_2 7 rfl rfl)
theorem dX1_laysBases_54 : decode cX1_laysBases 54 = .ok (.iaload, 1) := dk_46 (dk_at dksX1_laysBases_2 8 rfl rfl)
theorem dX1_laysBases_55 : decode cX1_laysBases 55 = .ok (.iadd, 1) := dk_96 (dk_at dksX1_laysBases_2 9 rfl rfl)
theorem dX1_laysBases_56 : decode cX1_laysBases 56 = .ok (.if_icmp .ge 32, 3) := dk_162 0 32 (dk_at dksX1_laysBases_2 10 rfl rfl)
theorem dX1_laysBases_59 : decode cX1_laysBases 59 = .ok (.iload 5, 2) := dk_21 5 (dk_at dksX1_laysBases_2 13 rfl rfl)
theorem dX1_laysBases_61 : decode cX1_laysBases 61 = .ok (.ifCond .eq 27, 3) := dk_153 0 27 (dk_at dksX1_laysBases_2 15 rfl rfl)
theorem dX1_laysBases_64 : decode cX1_laysBases 64 = .ok (.iload_n 3, 1) := dk_29 (dk_at dksX1_laysBases_2 18 rfl rfl)
theorem dX1_laysBases_65 : decode cX1_laysBases 65 = .ok (.i2l, 1) := dk_133 (dk_at dksX1_laysBases_2 19 rfl rfl)
theorem dX1_laysBases_66 : decode cX1_laysBases 66 = .ok (.iload 4, 2) := dk_21 4 (dk_at dksX1_laysBases_2 20 rfl rfl)
theorem dX1_laysBases_68 : decode cX1_laysBases 68 = .ok (.i2l, 1) := dk_133 (dk_at dksX1_laysBases_2 22 rfl rfl)
theorem dX1_laysBases_69 : decode cX1_laysBases 69 = .ok (.aload_n 0, 1) := dk_42 (dk_at dksX1_laysBases_2 23 rfl rfl)
theorem dX1_laysBases_70 : decode cX1_laysBases 70 = .ok (.getfield 71, 3) := dk_180 0 71 (dk_at dksX1_laysBases_3 0 rfl rfl)
theorem dX1_laysBases_73 : decode cX1_laysBases 73 = .ok (.iload 6, 2) := dk_21 6 (dk_at dksX1_laysBases_3 3 rfl rfl)
theorem dX1_laysBases_75 : decode cX1_laysBases 75 = .ok (.iaload, 1) := dk_46 (dk_at dksX1_laysBases_3 5 rfl rfl)
theorem dX1_laysBases_76 : decode cX1_laysBases 76 = .ok (.i2l, 1) := dk_133 (dk_at dksX1_laysBases_3 6 rfl rfl)
theorem dX1_laysBases_77 : decode cX1_laysBases 77 = .ok (.invokestatic 187, 3) := dk_184 0 187 (dk_at dksX1_laysBases_3 7 rfl rfl)
theorem dX1_laysBases_80 : decode cX1_laysBases 80 = .ok (.istore 5, 2) := dk_54 5 (dk_at dksX1_laysBases_3 10 rfl rfl)
theorem dX1_laysBases_82 : decode cX1_laysBases 82 = .ok (.iinc 6 1, 3) := dk_132 6 1 (dk_at dksX1_laysBases_3 12 rfl rfl)
theorem dX1_laysBases_85 : decode cX1_laysBases 85 = .ok (.goto (-39), 3) := dk_167 255 217 (dk_at dksX1_laysBases_3 15 rfl rfl)
theorem dX1_laysBases_88 : decode cX1_laysBases 88 = .ok (.iload 5, 2) := dk_21 5 (dk_at dksX1_laysBases_3 18 rfl rfl)
theorem dX1_laysBases_90 : decode cX1_laysBases 90 = .ok (.ifCond .ne 6, 3) := dk_154 0 6 (dk_at dksX1_laysBases_3 20 rfl rfl)
theorem dX1_laysBases_93 : decode cX1_laysBases 93 = .ok (.goto 36, 3) := dk_167 0 36 (dk_at dksX1_laysBases_4 0 rfl rfl)
theorem dX1_laysBases_96 : decode cX1_laysBases 96 = .ok (.iload_n 2, 1) := dk_28 (dk_at dksX1_laysBases_4 3 rfl rfl)
theorem dX1_laysBases_97 : decode cX1_laysBases 97 = .ok (.istore 6, 2) := dk_54 6 (dk_at dksX1_laysBases_4 4 rfl rfl)
theorem dX1_laysBases_99 : decode cX1_laysBases 99 = .ok (.iload 6, 2) := dk_21 6 (dk_at dksX1_laysBases_4 6 rfl rfl)
theorem dX1_laysBases_101 : decode cX1_laysBases 101 = .ok (.iload_n 2, 1) := dk_28 (dk_at dksX1_laysBases_4 8 rfl rfl)
theorem dX1_laysBases_102 : decode cX1_laysBases 102 = .ok (.aload_n 0, 1) := dk_42 (dk_at dksX1_laysBases_4 9 rfl rfl)
theorem dX1_laysBases_103 : decode cX1_laysBases 103 = .ok (.getfield 65, 3) := dk_180 0 65 (dk_at dksX1_laysBases_4 10 rfl rfl)
theorem dX1_laysBases_106 : decode cX1_laysBases 106 = .ok (.iload_n 1, 1) := dk_27 (dk_at dksX1_laysBases_4 13 rfl rfl)
theorem dX1_laysBases_107 : decode cX1_laysBases 107 = .ok (.iaload, 1) := dk_46 (dk_at dksX1_laysBases_4 14 rfl rfl)
theorem dX1_laysBases_108 : decode cX1_laysBases 108 = .ok (.iadd, 1) := dk_96 (dk_at dksX1_laysBases_4 15 rfl rfl)
theorem dX1_laysBases_109 : decode cX1_laysBases 109 = .ok (.if_icmp .ge 18, 3) := dk_162 0 18 (dk_at dksX1_laysBases_4 16 rfl rfl)
theorem dX1_laysBases_112 : decode cX1_laysBases 112 = .ok (.aload_n 0, 1) := dk_42 (dk_at dksX1_laysBases_4 19 rfl rfl)
theorem dX1_laysBases_113 : decode cX1_laysBases 113 = .ok (.getfield 77, 3) := dk_180 0 77 (dk_at dksX1_laysBases_4 20 rfl rfl)
theorem dX1_laysBases_116 : decode cX1_laysBases 116 = .ok (.iload 6, 2) := dk_21 6 (dk_at dksX1_laysBases_5 0 rfl rfl)
theorem dX1_laysBases_118 : decode cX1_laysBases 118 = .ok (.iload 4, 2) := dk_21 4 (dk_at dksX1_laysBases_5 2 rfl rfl)
theorem dX1_laysBases_120 : decode cX1_laysBases 120 = .ok (.iastore, 1) := dk_79 (dk_at dksX1_laysBases_5 4 rfl rfl)
theorem dX1_laysBases_121 : decode cX1_laysBases 121 = .ok (.iinc 6 1, 3) := dk_132 6 1 (dk_at dksX1_laysBases_5 5 rfl rfl)
theorem dX1_laysBases_124 : decode cX1_laysBases 124 = .ok (.goto (-25), 3) := dk_167 255 231 (dk_at dksX1_laysBases_5 8 rfl rfl)
theorem dX1_laysBases_127 : decode cX1_laysBases 127 = .ok (.iconst 1, 1) := dk_4 (dk_at dksX1_laysBases_5 11 rfl rfl)
theorem dX1_laysBases_128 : decode cX1_laysBases 128 = .ok (.ireturn, 1) := dk_172 (dk_at dksX1_laysBases_5 12 rfl rfl)
theorem dX1_laysBases_129 : decode cX1_laysBases 129 = .ok (.iinc 4 1, 3) := dk_132 4 1 (dk_at dksX1_laysBases_5 13 rfl rfl)
theorem dX1_laysBases_132 : decode cX1_laysBases 132 = .ok (.goto (-107), 3) := dk_167 255 149 (dk_at dksX1_laysBases_5 16 rfl rfl)
theorem dX1_laysBases_135 : decode cX1_laysBases 135 = .ok (.iconst 0, 1) := dk_3 (dk_at dksX1_laysBases_5 19 rfl rfl)
theorem dX1_laysBases_136 : decode cX1_laysBases 136 = .ok (.ireturn, 1) := dk_172 (dk_at dksX1_laysBases_5 20 rfl rfl)
theorem dX1_laysBases_137 : decode cX1_laysBases 137 = .ok (.iload_n 2, 1) := dk_28 (dk_at dksX1_laysBases_5 21 rfl rfl)
theorem dX1_laysBases_138 : decode cX1_laysBases 138 = .ok (.istore 4, 2) := dk_54 4 (dk_at dksX1_laysBases_5 22 rfl rfl)
theorem dX1_laysBases_140 : decode cX1_laysBases 140 = .ok (.iload 4, 2) := dk_21 4 (dk_at dksX1_laysBases_6 0 rfl rfl)
theorem dX1_laysBases_142 : decode cX1_laysBases 142 = .ok (.iload_n 2, 1) := dk_28 (dk_at dksX1_laysBases_6 2 rfl rfl)
theorem dX1_laysBases_143 : decode cX1_laysBases 143 = .ok (.aload_n 0, 1) := dk_42 (dk_at dksX1_laysBases_6 3 rfl rfl)
theorem dX1_laysBases_144 : decode cX1_laysBases 144 = .ok (.getfield 65, 3) := dk_180 0 65 (dk_at dksX1_laysBases_6 4 rfl rfl)
theorem dX1_laysBases_147 : decode cX1_laysBases 147 = .ok (.iload_n 1, 1) := dk_27 (dk_at dksX1_laysBases_6 7 rfl rfl)
theorem dX1_laysBases_148 : decode cX1_laysBases 148 = .ok (.iaload, 1) := dk_46 (dk_at dksX1_laysBases_6 8 rfl rfl)
theorem dX1_laysBases_149 : decode cX1_laysBases 149 = .ok (.iadd, 1) := dk_96 (dk_at dksX1_laysBases_6 9 rfl rfl)
theorem dX1_laysBases_150 : decode cX1_laysBases 150 = .ok (.if_icmp .ge 75, 3) := dk_162 0 75 (dk_at dksX1_laysBases_6 10 rfl rfl)
theorem dX1_laysBases_153 : decode cX1_laysBases 153 = .ok (.iconst 2, 1) := dk_5 (dk_at dksX1_laysBases_6 13 rfl rfl)
theorem dX1_laysBases_154 : decode cX1_laysBases 154 = .ok (.istore 5, 2) := dk_54 5 (dk_at dksX1_laysBases_6 14 rfl rfl)
theorem dX1_laysBases_156 : decode cX1_laysBases 156 = .ok (.iload 5, 2) := dk_21 5 (dk_at dksX1_laysBases_6 16 rfl rfl)
theorem dX1_laysBases_158 : decode cX1_laysBases 158 = .ok (.sipush 999, 3) := dk_17 3 231 (dk_at dksX1_laysBases_6 18 rfl rfl)
theorem dX1_laysBases_161 : decode cX1_laysBases 161 = .ok (.if_icmp .gt 39, 3) := dk_163 0 39 (dk_at dksX1_laysBases_6 21 rfl rfl)
theorem dX1_laysBases_164 : decode cX1_laysBases 164 = .ok (.iload_n 3, 1) := dk_29 (dk_at dksX1_laysBases_7 0 rfl rfl)
theorem dX1_laysBases_165 : decode cX1_laysBases 165 = .ok (.i2l, 1) := dk_133 (dk_at dksX1_laysBases_7 1 rfl rfl)
theorem dX1_laysBases_166 : decode cX1_laysBases 166 = .ok (.iload 5, 2) := dk_21 5 (dk_at dksX1_laysBases_7 2 rfl rfl)
theorem dX1_laysBases_168 : decode cX1_laysBases 168 = .ok (.i2l, 1) := dk_133 (dk_at dksX1_laysBases_7 4 rfl rfl)
theorem dX1_laysBases_169 : decode cX1_laysBases 169 = .ok (.invokestatic 183, 3) := dk_184 0 183 (dk_at dksX1_laysBases_7 5 rfl rfl)
theorem dX1_laysBases_172 : decode cX1_laysBases 172 = .ok (.ifCond .eq 22, 3) := dk_153 0 22 (dk_at dksX1_laysBases_7 8 rfl rfl)
theorem dX1_laysBases_175 : decode cX1_laysBases 175 = .ok (.iload_n 3, 1) := dk_29 (dk_at dksX1_laysBases_7 11 rfl rfl)
theorem dX1_laysBases_176 : decode cX1_laysBases 176 = .ok (.i2l, 1) := dk_133 (dk_at dksX1_laysBases_7 12 rfl rfl)
theorem dX1_laysBases_177 : decode cX1_laysBases 177 = .ok (.iload 5, 2) := dk_21 5 (dk_at dksX1_laysBases_7 13 rfl rfl)
theorem dX1_laysBases_179 : decode cX1_laysBases 179 = .ok (.i2l, 1) := dk_133 (dk_at dksX1_laysBases_7 15 rfl rfl)
theorem dX1_laysBases_180 : decode cX1_laysBases 180 = .ok (.aload_n 0, 1) := dk_42 (dk_at dksX1_laysBases_7 16 rfl rfl)
theorem dX1_laysBases_181 : decode cX1_laysBases 181 = .ok (.getfield 71, 3) := dk_180 0 71 (dk_at dksX1_laysBases_7 17 rfl rfl)
theorem dX1_laysBases_184 : decode cX1_laysBases 184 = .ok (.iload 4, 2) := dk_21 4 (dk_at dksX1_laysBases_7 20 rfl rfl)
theorem dX1_laysBases_186 : decode cX1_laysBases 186 = .ok (.iaload, 1) := dk_46 (dk_at dksX1_laysBases_7 22 rfl rfl)
theorem dX1_laysBases_187 : decode cX1_laysBases 187 = .ok (.i2l, 1) := dk_133 (dk_at dksX1_laysBases_7 23 rfl rfl)
theorem dX1_laysBases_188 : decode cX1_laysBases 188 = .ok (.invokestatic 187, 3) := dk_184 0 187 (dk_at dksX1_laysBases_8 0 rfl rfl)
theorem dX1_laysBases_191 : decode cX1_laysBases 191 = .ok (.ifCond .ne 9, 3) := dk_154 0 9 (dk_at dksX1_laysBases_8 3 rfl rfl)
theorem dX1_laysBases_194 : decode cX1_laysBases 194 = .ok (.iinc 5 1, 3) := dk_132 5 1 (dk_at dksX1_laysBases_8 6 rfl rfl)
theorem dX1_laysBases_197 : decode cX1_laysBases 197 = .ok (.goto (-41), 3) := dk_167 255 215 (dk_at dksX1_laysBases_8 9 rfl rfl)
theorem dX1_laysBases_200 : decode cX1_laysBases 200 = .ok (.iload 5, 2) := dk_21 5 (dk_at dksX1_laysBases_8 12 rfl rfl)
theorem dX1_laysBases_202 : decode cX1_laysBases 202 = .ok (.sipush 999, 3) := dk_17 3 231 (dk_at dksX1_laysBases_8 14 rfl rfl)
theorem dX1_laysBases_205 : decode cX1_laysBases 205 = .ok (.if_icmp .le 5, 3) := dk_164 0 5 (dk_at dksX1_laysBases_8 17 rfl rfl)
theorem dX1_laysBases_208 : decode cX1_laysBases 208 = .ok (.iconst 0, 1) := dk_3 (dk_at dksX1_laysBases_8 20 rfl rfl)
theorem dX1_laysBases_209 : decode cX1_laysBases 209 = .ok (.ireturn, 1) := dk_172 (dk_at dksX1_laysBases_8 21 rfl rfl)
theorem dX1_laysBases_210 : decode cX1_laysBases 210 = .ok (.aload_n 0, 1) := dk_42 (dk_at dksX1_laysBases_8 22 rfl rfl)
theorem dX1_laysBases_211 : decode cX1_laysBases 211 = .ok (.getfield 77, 3) := dk_180 0 77 (dk_at dksX1_laysBases_9 0 rfl rfl)
theorem dX1_laysBases_214 : decode cX1_laysBases 214 = .ok (.iload 4, 2) := dk_21 4 (dk_at dksX1_laysBases_9 3 rfl rfl)
theorem dX1_laysBases_216 : decode cX1_laysBases 216 = .ok (.iload 5, 2) := dk_21 5 (dk_at dksX1_laysBases_9 5 rfl rfl)
theorem dX1_laysBases_218 : decode cX1_laysBases 218 = .ok (.iastore, 1) := dk_79 (dk_at dksX1_laysBases_9 7 rfl rfl)
theorem dX1_laysBases_219 : decode cX1_laysBases 219 = .ok (.iinc 4 1, 3) := dk_132 4 1 (dk_at dksX1_laysBases_9 8 rfl rfl)
theorem dX1_laysBases_222 : decode cX1_laysBases 222 = .ok (.goto (-82), 3) := dk_167 255 174 (dk_at dksX1_laysBases_9 11 rfl rfl)
theorem dX1_laysBases_225 : decode cX1_laysBases 225 = .ok (.iconst 1, 1) := dk_4 (dk_at dksX1_laysBases_9 14 rfl rfl)
theorem dX1_laysBases_226 : decode cX1_laysBases 226 = .ok (.ireturn, 1) := dk_172 (dk_at dksX1_laysBases_9 15 rfl rfl)
abbrev cX1_laysPair : ByteArray := prog_17_method_38_code
def yX1_laysPair : MethodName := ⟨RX1, "laysPair", "(I)Z"⟩
def dkwX1_laysPair_2 : List UInt8 := [172, 132, 3, 1, 167, 255, 216, 132, 2, 1, 167, 255, 202, 3, 172]
abbrev dktX1_laysPair_2 : List UInt8 := dkwX1_laysPair_2 ++ []
def dkwX1_laysPair_1 : List UInt8 := [182, 0, 193, 153, 0, 6, 167, 0, 19, 42, 180, 0, 59, 27, 28, 79, 42, 180, 0, 62, 27, 29, 79, 4]
abbrev dktX1_laysPair_1 : List UInt8 := dkwX1_laysPair_1 ++ dktX1_laysPair_2
def dkwX1_laysPair_0 : List UInt8 := [4, 61, 28, 16, 99, 163, 0, 54, 4, 62, 29, 16, 99, 163, 0, 40, 42, 27, 28, 133, 29, 133]
abbrev dktX1_laysPair_0 : List UInt8 := dkwX1_laysPair_0 ++ dktX1_laysPair_1
theorem dksX1_laysPair_0 : cX1_laysPair.data.toList.drop 0 = dktX1_laysPair_0 := by decide +kernel
theorem dksX1_laysPair_1 : cX1_laysPair.data.toList.drop 22 = dktX1_laysPair_1 := dk_seg dksX1_laysPair_0 22 rfl rfl
theorem dksX1_laysPair_2 : cX1_laysPair.data.toList.drop 46 = dktX1_laysPair_2 := dk_seg dksX1_laysPair_1 24 rfl rfl
theorem dX1_laysPair_0 : decode cX1_laysPair 0 = .ok (.iconst 1, 1) := dk_4 (dk_at dksX1_laysPair_0 0 rfl rfl)
theorem dX1_laysPair_1 : decode cX1_laysPair 1 = .ok (.istore_n 2, 1) := dk_61 (dk_at dksX1_laysPair_0 1 rfl rfl)
theorem dX1_laysPair_2 : decode cX1_laysPair 2 = .ok (.iload_n 2, 1) := dk_28 (dk_at dksX1_laysPair_0 2 rfl rfl)
theorem dX1_laysPair_3 : decode cX1_laysPair 3 = .ok (.bipush 99, 2) := dk_16 99 (dk_at dksX1_laysPair_0 3 rfl rfl)
theorem dX1_laysPair_5 : decode cX1_laysPair 5 = .ok (.if_icmp .gt 54, 3) := dk_163 0 54 (dk_at dksX1_laysPair_0 5 rfl rfl)
theorem dX1_laysPair_8 : decode cX1_laysPair 8 = .ok (.iconst 1, 1) := dk_4 (dk_at dksX1_laysPair_0 8 rfl rfl)
theorem dX1_laysPair_9 : decode cX1_laysPair 9 = .ok (.istore_n 3, 1) := dk_62 (dk_at dksX1_laysPair_0 9 rfl rfl)
theorem dX1_laysPair_10 : decode cX1_laysPair 10 = .ok (.iload_n 3, 1) := dk_29 (dk_at dksX1_laysPair_0 10 rfl rfl)
theorem dX1_laysPair_11 : decode cX1_laysPair 11 = .ok (.bipush 99, 2) := dk_16 99 (dk_at dksX1_laysPair_0 11 rfl rfl)
theorem dX1_laysPair_13 : decode cX1_laysPair 13 = .ok (.if_icmp .gt 40, 3) := dk_163 0 40 (dk_at dksX1_laysPair_0 13 rfl rfl)
theorem dX1_laysPair_16 : decode cX1_laysPair 16 = .ok (.aload_n 0, 1) := dk_42 (dk_at dksX1_laysPair_0 16 rfl rfl)
theorem dX1_laysPair_17 : decode cX1_laysPair 17 = .ok (.iload_n 1, 1) := dk_27 (dk_at dksX1_laysPair_0 17 rfl rfl)
theorem dX1_laysPair_18 : decode cX1_laysPair 18 = .ok (.iload_n 2, 1) := dk_28 (dk_at dksX1_laysPair_0 18 rfl rfl)
theorem dX1_laysPair_19 : decode cX1_laysPair 19 = .ok (.i2l, 1) := dk_133 (dk_at dksX1_laysPair_0 19 rfl rfl)
theorem dX1_laysPair_20 : decode cX1_laysPair 20 = .ok (.iload_n 3, 1) := dk_29 (dk_at dksX1_laysPair_0 20 rfl rfl)
theorem dX1_laysPair_21 : decode cX1_laysPair 21 = .ok (.i2l, 1) := dk_133 (dk_at dksX1_laysPair_0 21 rfl rfl)
theorem dX1_laysPair_22 : decode cX1_laysPair 22 = .ok (.invokevirtual 193, 3) := dk_182 0 193 (dk_at dksX1_laysPair_1 0 rfl rfl)
theorem dX1_laysPair_25 : decode cX1_laysPair 25 = .ok (.ifCond .eq 6, 3) := dk_153 0 6 (dk_at dksX1_laysPair_1 3 rfl rfl)
theorem dX1_laysPair_28 : decode cX1_laysPair 28 = .ok (.goto 19, 3) := dk_167 0 19 (dk_at dksX1_laysPair_1 6 rfl rfl)
theorem dX1_laysPair_31 : decode cX1_laysPair 31 = .ok (.aload_n 0, 1) := dk_42 (dk_at dksX1_laysPair_1 9 rfl rfl)
theorem dX1_laysPair_32 : decode cX1_laysPair 32 = .ok (.getfield 59, 3) := dk_180 0 59 (dk_at dksX1_laysPair_1 10 rfl rfl)
theorem dX1_laysPair_35 : decode cX1_laysPair 35 = .ok (.iload_n 1, 1) := dk_27 (dk_at dksX1_laysPair_1 13 rfl rfl)
theorem dX1_laysPair_36 : decode cX1_laysPair 36 = .ok (.iload_n 2, 1) := dk_28 (dk_at dksX1_laysPair_1 14 rfl rfl)
theorem dX1_laysPair_37 : decode cX1_laysPair 37 = .ok (.iastore, 1) := dk_79 (dk_at dksX1_laysPair_1 15 rfl rfl)
theorem dX1_laysPair_38 : decode cX1_laysPair 38 = .ok (.aload_n 0, 1) := dk_42 (dk_at dksX1_laysPair_1 16 rfl rfl)
theorem dX1_laysPair_39 : decode cX1_laysPair 39 = .ok (.getfield 62, 3) := dk_180 0 62 (dk_at dksX1_laysPair_1 17 rfl rfl)
theorem dX1_laysPair_42 : decode cX1_laysPair 42 = .ok (.iload_n 1, 1) := dk_27 (dk_at dksX1_laysPair_1 20 rfl rfl)
theorem dX1_laysPair_43 : decode cX1_laysPair 43 = .ok (.iload_n 3, 1) := dk_29 (dk_at dksX1_laysPair_1 21 rfl rfl)
theorem dX1_laysPair_44 : decode cX1_laysPair 44 = .ok (.iastore, 1) := dk_79 (dk_at dksX1_laysPair_1 22 rfl rfl)
theorem dX1_laysPair_45 : decode cX1_laysPair 45 = .ok (.iconst 1, 1) := dk_4 (dk_at dksX1_laysPair_1 23 rfl rfl)
theorem dX1_laysPair_46 : decode cX1_laysPair 46 = .ok (.ireturn, 1) := dk_172 (dk_at dksX1_laysPair_2 0 rfl rfl)
theorem dX1_laysPair_47 : decode cX1_laysPair 47 = .ok (.iinc 3 1, 3) := dk_132 3 1 (dk_at dksX1_laysPair_2 1 rfl rfl)
theorem dX1_laysPair_50 : decode cX1_laysPair 50 = .ok (.goto (-40), 3) := dk_167 255 216 (dk_at dksX1_laysPair_2 4 rfl rfl)
theorem dX1_laysPair_53 : decode cX1_laysPair 53 = .ok (.iinc 2 1, 3) := dk_132 2 1 (dk_at dksX1_laysPair_2 7 rfl rfl)
theorem dX1_laysPair_56 : decode cX1_laysPair 56 = .ok (.goto (-54), 3) := dk_167 255 202 (dk_at dksX1_laysPair_2 10 rfl rfl)
theorem dX1_laysPair_59 : decode cX1_laysPair 59 = .ok (.iconst 0, 1) := dk_3 (dk_at dksX1_laysPair_2 13 rfl rfl)
theorem dX1_laysPair_60 : decode cX1_laysPair 60 = .ok (.ireturn, 1) := dk_172 (dk_at dksX1_laysPair_2 14 rfl rfl)
abbrev cX1_missing : ByteArray := prog_17_method_40_code
def yX1_missing : MethodName := ⟨RX1, "missing", "()I"⟩
def dkwX1_missing_4 : List UInt8 := [27, 96, 46, 172, 132, 1, 1, 167, 255, 209, 3, 172]
abbrev dktX1_missing_4 : List UInt8 := dkwX1_missing_4 ++ []
def dkwX1_missing_3 : List UInt8 := [17, 4, 11, 27, 96, 46, 42, 180, 0, 112, 182, 0, 132, 2, 160, 0, 14, 42, 180, 0, 80, 17, 4, 11]
abbrev dktX1_missing_3 : List UInt8 := dkwX1_missing_3 ++ dktX1_missing_4
def dkwX1_missing_2 : List UInt8 := [132, 1, 1, 167, 255, 209, 3, 60, 27, 42, 180, 0, 68, 16, 115, 46, 162, 0, 42, 42, 42, 180, 0, 80]
abbrev dktX1_missing_2 : List UInt8 := dkwX1_missing_2 ++ dktX1_missing_3
def dkwX1_missing_1 : List UInt8 := [42, 180, 0, 112, 182, 0, 132, 2, 160, 0, 14, 42, 180, 0, 71, 17, 4, 11, 27, 96, 46, 172]
abbrev dktX1_missing_1 : List UInt8 := dkwX1_missing_1 ++ dktX1_missing_2
def dkwX1_missing_0 : List UInt8 := [3, 60, 27, 42, 180, 0, 65, 16, 115, 46, 162, 0, 42, 42, 42, 180, 0, 71, 17, 4, 11, 27, 96, 46]
abbrev dktX1_missing_0 : List UInt8 := dkwX1_missing_0 ++ dktX1_missing_1
theorem dksX1_missing_0 : cX1_missing.data.toList.drop 0 = dktX1_missing_0 := by decide +kernel
theorem dksX1_missing_1 : cX1_missing.data.toList.drop 24 = dktX1_missing_1 := dk_seg dksX1_missing_0 24 rfl rfl
theorem dksX1_missing_2 : cX1_missing.data.toList.drop 46 = dktX1_missing_2 := dk_seg dksX1_missing_1 22 rfl rfl
theorem dksX1_missing_3 : cX1_missing.data.toList.drop 70 = dktX1_missing_3 := dk_seg dksX1_missing_2 24 rfl rfl
theorem dksX1_missing_4 : cX1_missing.data.toList.drop 94 = dktX1_missing_4 := dk_seg dksX1_missing_3 24 rfl rfl
theorem dX1_missing_0 : decode cX1_missing 0 = .ok (.iconst 0, 1) := dk_3 (dk_at dksX1_missing_0 0 rfl rfl)
theorem dX1_missing_1 : decode cX1_missing 1 = .ok (.istore_n 1, 1) := dk_60 (dk_at dksX1_missing_0 1 rfl rfl)
theorem dX1_missing_2 : decode cX1_missing 2 = .ok (.iload_n 1, 1) := dk_27 (dk_at dksX1_missing_0 2 rfl rfl)
theorem dX1_missing_3 : decode cX1_missing 3 = .ok (.aload_n 0, 1) := dk_42 (dk_at dksX1_missing_0 3 rfl rfl)
theorem dX1_missing_4 : decode cX1_missing 4 = .ok (.getfield 65, 3) := dk_180 0 65 (dk_at dksX1_missing_0 4 rfl rfl)
theorem dX1_missing_7 : decode cX1_missing 7 = .ok (.bipush 115, 2) := dk_16 115 (dk_at dksX1_missing_0 7 rfl rfl)
theorem dX1_missing_9 : decode cX1_missing 9 = .ok (.iaload, 1) := dk_46 (dk_at dksX1_missing_0 9 rfl rfl)
theorem dX1_missing_10 : decode cX1_missing 10 = .ok (.if_icmp .ge 42, 3) := dk_162 0 42 (dk_at dksX1_missing_0 10 rfl rfl)
theorem dX1_missing_13 : decode cX1_missing 13 = .ok (.aload_n 0, 1) := dk_42 (dk_at dksX1_missing_0 13 rfl rfl)
theorem dX1_missing_14 : decode cX1_missing 14 = .ok (.aload_n 0, 1) := dk_42 (dk_at dksX1_missing_0 14 rfl rfl)
theorem dX1_missing_15 : decode cX1_missing 15 = .ok (.getfield 71, 3) := dk_180 0 71 (dk_at dksX1_missing_0 15 rfl rfl)
theorem dX1_missing_18 : decode cX1_missing 18 = .ok (.sipush 1035, 3) := dk_17 4 11 (dk_at dksX1_missing_0 18 rfl rfl)
theorem dX1_missing_21 : decode cX1_missing 21 = .ok (.iload_n 1, 1) := dk_27 (dk_at dksX1_missing_0 21 rfl rfl)
theorem dX1_missing_22 : decode cX1_missing 22 = .ok (.iadd, 1) := dk_96 (dk_at dksX1_missing_0 22 rfl rfl)
theorem dX1_missing_23 : decode cX1_missing 23 = .ok (.iaload, 1) := dk_46 (dk_at dksX1_missing_0 23 rfl rfl)
theorem dX1_missing_24 : decode cX1_missing 24 = .ok (.aload_n 0, 1) := dk_42 (dk_at dksX1_missing_1 0 rfl rfl)
theorem dX1_missing_25 : decode cX1_missing 25 = .ok (.getfield 112, 3) := dk_180 0 112 (dk_at dksX1_missing_1 1 rfl rfl)
theorem dX1_missing_28 : decode cX1_missing 28 = .ok (.invokevirtual 132, 3) := dk_182 0 132 (dk_at dksX1_missing_1 4 rfl rfl)
theorem dX1_missing_31 : decode cX1_missing 31 = .ok (.iconst (-1), 1) := dk_2 (dk_at dksX1_missing_1 7 rfl rfl)
theorem dX1_missing_32 : decode cX1_missing 32 = .ok (.if_icmp .ne 14, 3) := dk_160 0 14 (dk_at dksX1_missing_1 8 rfl rfl)
theorem dX1_missing_35 : decode cX1_missing 35 = .ok (.aload_n 0, 1) := dk_42 (dk_at dksX1_missing_1 11 rfl rfl)
theorem dX1_missing_36 : decode cX1_missing 36 = .ok (.getfield 71, 3) := dk_180 0 71 (dk_at dksX1_missing_1 12 rfl rfl)
theorem dX1_missing_39 : decode cX1_missing 39 = .ok (.sipush 1035, 3) := dk_17 4 11 (dk_at dksX1_missing_1 15 rfl rfl)
theorem dX1_missing_42 : decode cX1_missing 42 = .ok (.iload_n 1, 1) := dk_27 (dk_at dksX1_missing_1 18 rfl rfl)
theorem dX1_missing_43 : decode cX1_missing 43 = .ok (.iadd, 1) := dk_96 (dk_at dksX1_missing_1 19 rfl rfl)
theorem dX1_missing_44 : decode cX1_missing 44 = .ok (.iaload, 1) := dk_46 (dk_at dksX1_missing_1 20 rfl rfl)
theorem dX1_missing_45 : decode cX1_missing 45 = .ok (.ireturn, 1) := dk_172 (dk_at dksX1_missing_1 21 rfl rfl)
theorem dX1_missing_46 : decode cX1_missing 46 = .ok (.iinc 1 1, 3) := dk_132 1 1 (dk_at dksX1_missing_2 0 rfl rfl)
theorem dX1_missing_49 : decode cX1_missing 49 = .ok (.goto (-47), 3) := dk_167 255 209 (dk_at dksX1_missing_2 3 rfl rfl)
theorem dX1_missing_52 : decode cX1_missing 52 = .ok (.iconst 0, 1) := dk_3 (dk_at dksX1_missing_2 6 rfl rfl)
theorem dX1_missing_53 : decode cX1_missing 53 = .ok (.istore_n 1, 1) := dk_60 (dk_at dksX1_missing_2 7 rfl rfl)
theorem dX1_missing_54 : decode cX1_missing 54 = .ok (.iload_n 1, 1) := dk_27 (dk_at dksX1_missing_2 8 rfl rfl)
theorem dX1_missing_55 : decode cX1_missing 55 = .ok (.aload_n 0, 1) := dk_42 (dk_at dksX1_missing_2 9 rfl rfl)
theorem dX1_missing_56 : decode cX1_missing 56 = .ok (.getfield 68, 3) := dk_180 0 68 (dk_at dksX1_missing_2 10 rfl rfl)
theorem dX1_missing_59 : decode cX1_missing 59 = .ok (.bipush 115, 2) := dk_16 115 (dk_at dksX1_missing_2 13 rfl rfl)
theorem dX1_missing_61 : decode cX1_missing 61 = .ok (.iaload, 1) := dk_46 (dk_at dksX1_missing_2 15 rfl rfl)
theorem dX1_missing_62 : decode cX1_missing 62 = .ok (.if_icmp .ge 42, 3) := dk_162 0 42 (dk_at dksX1_missing_2 16 rfl rfl)
theorem dX1_missing_65 : decode cX1_missing 65 = .ok (.aload_n 0, 1) := dk_42 (dk_at dksX1_missing_2 19 rfl rfl)
theorem dX1_missing_66 : decode cX1_missing 66 = .ok (.aload_n 0, 1) := dk_42 (dk_at dksX1_missing_2 20 rfl rfl)
theorem dX1_missing_67 : decode cX1_missing 67 = .ok (.getfield 80, 3) := dk_180 0 80 (dk_at dksX1_missing_2 21 rfl rfl)
theorem dX1_missing_70 : decode cX1_missing 70 = .ok (.sipush 1035, 3) := dk_17 4 11 (dk_at dksX1_missing_3 0 rfl rfl)
theorem dX1_missing_73 : decode cX1_missing 73 = .ok (.iload_n 1, 1) := dk_27 (dk_at dksX1_missing_3 3 rfl rfl)
theorem dX1_missing_74 : decode cX1_missing 74 = .ok (.iadd, 1) := dk_96 (dk_at dksX1_missing_3 4 rfl rfl)
theorem dX1_missing_75 : decode cX1_missing 75 = .ok (.iaload, 1) := dk_46 (dk_at dksX1_missing_3 5 rfl rfl)
theorem dX1_missing_76 : decode cX1_missing 76 = .ok (.aload_n 0, 1) := dk_42 (dk_at dksX1_missing_3 6 rfl rfl)
theorem dX1_missing_77 : decode cX1_missing 77 = .ok (.getfield 112, 3) := dk_180 0 112 (dk_at dksX1_missing_3 7 rfl rfl)
theorem dX1_missing_80 : decode cX1_missing 80 = .ok (.invokevirtual 132, 3) := dk_182 0 132 (dk_at dksX1_missing_3 10 rfl rfl)
theorem dX1_missing_83 : decode cX1_missing 83 = .ok (.iconst (-1), 1) := dk_2 (dk_at dksX1_missing_3 13 rfl rfl)
theorem dX1_missing_84 : decode cX1_missing 84 = .ok (.if_icmp .ne 14, 3) := dk_160 0 14 (dk_at dksX1_missing_3 14 rfl rfl)
theorem dX1_missing_87 : decode cX1_missing 87 = .ok (.aload_n 0, 1) := dk_42 (dk_at dksX1_missing_3 17 rfl rfl)
theorem dX1_missing_88 : decode cX1_missing 88 = .ok (.getfield 80, 3) := dk_180 0 80 (dk_at dksX1_missing_3 18 rfl rfl)
theorem dX1_missing_91 : decode cX1_missing 91 = .ok (.sipush 1035, 3) := dk_17 4 11 (dk_at dksX1_missing_3 21 rfl rfl)
theorem dX1_missing_94 : decode cX1_missing 94 = .ok (.iload_n 1, 1) := dk_27 (dk_at dksX1_missing_4 0 rfl rfl)
theorem dX1_missing_95 : decode cX1_missing 95 = .ok (.iadd, 1) := dk_96 (dk_at dksX1_missing_4 1 rfl rfl)
theorem dX1_missing_96 : decode cX1_missing 96 = .ok (.iaload, 1) := dk_46 (dk_at dksX1_missing_4 2 rfl rfl)
theorem dX1_missing_97 : decode cX1_missing 97 = .ok (.ireturn, 1) := dk_172 (dk_at dksX1_missing_4 3 rfl rfl)
theorem dX1_missing_98 : decode cX1_missing 98 = .ok (.iinc 1 1, 3) := dk_132 1 1 (dk_at dksX1_missing_4 4 rfl rfl)
theorem dX1_missing_101 : decode cX1_missing 101 = .ok (.goto (-47), 3) := dk_167 255 209 (dk_at dksX1_missing_4 7 rfl rfl)
theorem dX1_missing_104 : decode cX1_missing 104 = .ok (.iconst 0, 1) := dk_3 (dk_at dksX1_missing_4 10 rfl rfl)
theorem dX1_missing_105 : decode cX1_missing 105 = .ok (.ireturn, 1) := dk_172 (dk_at dksX1_missing_4 11 rfl rfl)
abbrev cX1_becomes : ByteArray := prog_17_method_18_code
def yX1_becomes : MethodName := ⟨RX1, "becomes", "(II)V"⟩
def dkwX1_becomes_6 : List UInt8 := [167, 255, 216, 177]
abbrev dktX1_becomes_6 : List UInt8 := dkwX1_becomes_6 ++ []
def dkwX1_becomes_5 : List UInt8 := [16, 9, 28, 104, 29, 96, 46, 42, 180, 0, 83, 16, 9, 28, 104, 29, 96, 46, 182, 0, 123, 132, 3, 1]
abbrev dktX1_becomes_5 : List UInt8 := dkwX1_becomes_5 ++ dktX1_becomes_6
def dkwX1_becomes_4 : List UInt8 := [132, 3, 1, 167, 255, 205, 3, 62, 29, 42, 180, 0, 68, 28, 46, 162, 0, 36, 42, 27, 42, 180, 0, 80]
abbrev dktX1_becomes_4 : List UInt8 := dkwX1_becomes_4 ++ dktX1_becomes_5
def dkwX1_becomes_3 : List UInt8 := [180, 0, 74, 16, 9, 28, 104, 29, 96, 46, 42, 180, 0, 77, 16, 9, 28, 104, 29, 96, 46, 182, 0, 119]
abbrev dktX1_becomes_3 : List UInt8 := dkwX1_becomes_3 ++ dktX1_becomes_4
def dkwX1_becomes_2 : List UInt8 := [180, 0, 65, 28, 46, 162, 0, 47, 42, 27, 42, 180, 0, 71, 16, 9, 28, 104, 29, 96, 46, 42]
abbrev dktX1_becomes_2 : List UInt8 := dkwX1_becomes_2 ++ dktX1_becomes_3
def dkwX1_becomes_1 : List UInt8 := [180, 0, 59, 28, 46, 79, 42, 180, 0, 62, 27, 42, 180, 0, 62, 28, 46, 79, 3, 62, 29, 42]
abbrev dktX1_becomes_1 : List UInt8 := dkwX1_becomes_1 ++ dktX1_becomes_2
def dkwX1_becomes_0 : List UInt8 := [42, 27, 42, 180, 0, 53, 28, 46, 42, 180, 0, 56, 28, 46, 182, 0, 115, 42, 180, 0, 59, 27, 42]
abbrev dktX1_becomes_0 : List UInt8 := dkwX1_becomes_0 ++ dktX1_becomes_1
theorem dksX1_becomes_0 : cX1_becomes.data.toList.drop 0 = dktX1_becomes_0 := by decide +kernel
theorem dksX1_becomes_1 : cX1_becomes.data.toList.drop 23 = dktX1_becomes_1 := dk_seg dksX1_becomes_0 23 rfl rfl
theorem dksX1_becomes_2 : cX1_becomes.data.toList.drop 45 = dktX1_becomes_2 := dk_seg dksX1_becomes_1 22 rfl rfl
theorem dksX1_becomes_3 : cX1_becomes.data.toList.drop 67 = dktX1_becomes_3 := dk_seg dksX1_becomes_2 22 rfl rfl
theorem dksX1_becomes_4 : cX1_becomes.data.toList.drop 91 = dktX1_becomes_4 := dk_seg dksX1_becomes_3 24 rfl rfl
theorem dksX1_becomes_5 : cX1_becomes.data.toList.drop 115 = dktX1_becomes_5 := dk_seg dksX1_becomes_4 24 rfl rfl
theorem dksX1_becomes_6 : cX1_becomes.data.toList.drop 139 = dktX1_becomes_6 := dk_seg dksX1_becomes_5 24 rfl rfl
theorem dX1_becomes_0 : decode cX1_becomes 0 = .ok (.aload_n 0, 1) := dk_42 (dk_at dksX1_becomes_0 0 rfl rfl)
theorem dX1_becomes_1 : decode cX1_becomes 1 = .ok (.iload_n 1, 1) := dk_27 (dk_at dksX1_becomes_0 1 rfl rfl)
theorem dX1_becomes_2 : decode cX1_becomes 2 = .ok (.aload_n 0, 1) := dk_42 (dk_at dksX1_becomes_0 2 rfl rfl)
theorem dX1_becomes_3 : decode cX1_becomes 3 = .ok (.getfield 53, 3) := dk_180 0 53 (dk_at dksX1_becomes_0 3 rfl rfl)
theorem dX1_becomes_6 : decode cX1_becomes 6 = .ok (.iload_n 2, 1) := dk_28 (dk_at dksX1_becomes_0 6 rfl rfl)
theorem dX1_becomes_7 : decode cX1_becomes 7 = .ok (.iaload, 1) := dk_46 (dk_at dksX1_becomes_0 7 rfl rfl)
theorem dX1_becomes_8 : decode cX1_becomes 8 = .ok (.aload_n 0, 1) := dk_42 (dk_at dksX1_becomes_0 8 rfl rfl)
theorem dX1_becomes_9 : decode cX1_becomes 9 = .ok (.getfield 56, 3) := dk_180 0 56 (dk_at dksX1_becomes_0 9 rfl rfl)
theorem dX1_becomes_12 : decode cX1_becomes 12 = .ok (.iload_n 2, 1) := dk_28 (dk_at dksX1_becomes_0 12 rfl rfl)
theorem dX1_becomes_13 : decode cX1_becomes 13 = .ok (.iaload, 1) := dk_46 (dk_at dksX1_becomes_0 13 rfl rfl)
theorem dX1_becomes_14 : decode cX1_becomes 14 = .ok (.invokevirtual 115, 3) := dk_182 0 115 (dk_at dksX1_becomes_0 14 rfl rfl)
theorem dX1_becomes_17 : decode cX1_becomes 17 = .ok (.aload_n 0, 1) := dk_42 (dk_at dksX1_becomes_0 17 rfl rfl)
theorem dX1_becomes_18 : decode cX1_becomes 18 = .ok (.getfield 59, 3) := dk_180 0 59 (dk_at dksX1_becomes_0 18 rfl rfl)
theorem dX1_becomes_21 : decode cX1_becomes 21 = .ok (.iload_n 1, 1) := dk_27 (dk_at dksX1_becomes_0 21 rfl rfl)
theorem dX1_becomes_22 : decode cX1_becomes 22 = .ok (.aload_n 0, 1) := dk_42 (dk_at dksX1_becomes_0 22 rfl rfl)
theorem dX1_becomes_23 : decode cX1_becomes 23 = .ok (.getfield 59, 3) := dk_180 0 59 (dk_at dksX1_becomes_1 0 rfl rfl)
theorem dX1_becomes_26 : decode cX1_becomes 26 = .ok (.iload_n 2, 1) := dk_28 (dk_at dksX1_becomes_1 3 rfl rfl)
theorem dX1_becomes_27 : decode cX1_becomes 27 = .ok (.iaload, 1) := dk_46 (dk_at dksX1_becomes_1 4 rfl rfl)
theorem dX1_becomes_28 : decode cX1_becomes 28 = .ok (.iastore, 1) := dk_79 (dk_at dksX1_becomes_1 5 rfl rfl)
theorem dX1_becomes_29 : decode cX1_becomes 29 = .ok (.aload_n 0, 1) := dk_42 (dk_at dksX1_becomes_1 6 rfl rfl)
theorem dX1_becomes_30 : decode cX1_becomes 30 = .ok (.getfield 62, 3) := dk_180 0 62 (dk_at dksX1_becomes_1 7 rfl rfl)
theorem dX1_becomes_33 : decode cX1_becomes 33 = .ok (.iload_n 1, 1) := dk_27 (dk_at dksX1_becomes_1 10 rfl rfl)
theorem dX1_becomes_34 : decode cX1_becomes 34 = .ok (.aload_n 0, 1) := dk_42 (dk_at dksX1_becomes_1 11 rfl rfl)
theorem dX1_becomes_35 : decode cX1_becomes 35 = .ok (.getfield 62, 3) := dk_180 0 62 (dk_at dksX1_becomes_1 12 rfl rfl)
theorem dX1_becomes_38 : decode cX1_becomes 38 = .ok (.iload_n 2, 1) := dk_28 (dk_at dksX1_becomes_1 15 rfl rfl)
theorem dX1_becomes_39 : decode cX1_becomes 39 = .ok (.iaload, 1) := dk_46 (dk_at dksX1_becomes_1 16 rfl rfl)
theorem dX1_becomes_40 : decode cX1_becomes 40 = .ok (.iastore, 1) := dk_79 (dk_at dksX1_becomes_1 17 rfl rfl)
theorem dX1_becomes_41 : decode cX1_becomes 41 = .ok (.iconst 0, 1) := dk_3 (dk_at dksX1_becomes_1 18 rfl rfl)
theorem dX1_becomes_42 : decode cX1_becomes 42 = .ok (.istore_n 3, 1) := dk_62 (dk_at dksX1_becomes_1 19 rfl rfl)
theorem dX1_becomes_43 : decode cX1_becomes 43 = .ok (.iload_n 3, 1) := dk_29 (dk_at dksX1_becomes_1 20 rfl rfl)
theorem dX1_becomes_44 : decode cX1_becomes 44 = .ok (.aload_n 0, 1) := dk_42 (dk_at dksX1_becomes_1 21 rfl rfl)
theorem dX1_becomes_45 : decode cX1_becomes 45 = .ok (.getfield 65, 3) := dk_180 0 65 (dk_at dksX1_becomes_2 0 rfl rfl)
theorem dX1_becomes_48 : decode cX1_becomes 48 = .ok (.iload_n 2, 1) := dk_28 (dk_at dksX1_becomes_2 3 rfl rfl)
theorem dX1_becomes_49 : decode cX1_becomes 49 = .ok (.iaload, 1) := dk_46 (dk_at dksX1_becomes_2 4 rfl rfl)
theorem dX1_becomes_50 : decode cX1_becomes 50 = .ok (.if_icmp .ge 47, 3) := dk_162 0 47 (dk_at dksX1_becomes_2 5 rfl rfl)
theorem dX1_becomes_53 : decode cX1_becomes 53 = .ok (.aload_n 0, 1) := dk_42 (dk_at dksX1_becomes_2 8 rfl rfl)
theorem dX1_becomes_54 : decode cX1_becomes 54 = .ok (.iload_n 1, 1) := dk_27 (dk_at dksX1_becomes_2 9 rfl rfl)
theorem dX1_becomes_55 : decode cX1_becomes 55 = .ok (.aload_n 0, 1) := dk_42 (dk_at dksX1_becomes_2 10 rfl rfl)
theorem dX1_becomes_56 : decode cX1_becomes 56 = .ok (.getfield 71, 3) := dk_180 0 71 (dk_at dksX1_becomes_2 11 rfl rfl)
theorem dX1_becomes_59 : decode cX1_becomes 59 = .ok (.bipush 9, 2) := dk_16 9 (dk_at dksX1_becomes_2 14 rfl rfl)
theorem dX1_becomes_61 : decode cX1_becomes 61 = .ok (.iload_n 2, 1) := dk_28 (dk_at dksX1_becomes_2 16 rfl rfl)
theorem dX1_becomes_62 : decode cX1_becomes 62 = .ok (.imul, 1) := dk_104 (dk_at dksX1_becomes_2 17 rfl rfl)
theorem dX1_becomes_63 : decode cX1_becomes 63 = .ok (.iload_n 3, 1) := dk_29 (dk_at dksX1_becomes_2 18 rfl rfl)
theorem dX1_becomes_64 : decode cX1_becomes 64 = .ok (.iadd, 1) := dk_96 (dk_at dksX1_becomes_2 19 rfl rfl)
theorem dX1_becomes_65 : decode cX1_becomes 65 = .ok (.iaload, 1) := dk_46 (dk_at dksX1_becomes_2 20 rfl rfl)
theorem dX1_becomes_66 : decode cX1_becomes 66 = .ok (.aload_n 0, 1) := dk_42 (dk_at dksX1_becomes_2 21 rfl rfl)
theorem dX1_becomes_67 : decode cX1_becomes 67 = .ok (.getfield 74, 3) := dk_180 0 74 (dk_at dksX1_becomes_3 0 rfl rfl)
theorem dX1_becomes_70 : decode cX1_becomes 70 = .ok (.bipush 9, 2) := dk_16 9 (dk_at dksX1_becomes_3 3 rfl rfl)
theorem dX1_becomes_72 : decode cX1_becomes 72 = .ok (.iload_n 2, 1) := dk_28 (dk_at dksX1_becomes_3 5 rfl rfl)
theorem dX1_becomes_73 : decode cX1_becomes 73 = .ok (.imul, 1) := dk_104 (dk_at dksX1_becomes_3 6 rfl rfl)
theorem dX1_becomes_74 : decode cX1_becomes 74 = .ok (.iload_n 3, 1) := dk_29 (dk_at dksX1_becomes_3 7 rfl rfl)
theorem dX1_becomes_75 : decode cX1_becomes 75 = .ok (.iadd, 1) := dk_96 (dk_at dksX1_becomes_3 8 rfl rfl)
theorem dX1_becomes_76 : decode cX1_becomes 76 = .ok (.iaload, 1) := dk_46 (dk_at dksX1_becomes_3 9 rfl rfl)
theorem dX1_becomes_77 : decode cX1_becomes 77 = .ok (.aload_n 0, 1) := dk_42 (dk_at dksX1_becomes_3 10 rfl rfl)
theorem dX1_becomes_78 : decode cX1_becomes 78 = .ok (.getfield 77, 3) := dk_180 0 77 (dk_at dksX1_becomes_3 11 rfl rfl)
theorem dX1_becomes_81 : decode cX1_becomes 81 = .ok (.bipush 9, 2) := dk_16 9 (dk_at dksX1_becomes_3 14 rfl rfl)
theorem dX1_becomes_83 : decode cX1_becomes 83 = .ok (.iload_n 2, 1) := dk_28 (dk_at dksX1_becomes_3 16 rfl rfl)
theorem dX1_becomes_84 : decode cX1_becomes 84 = .ok (.imul, 1) := dk_104 (dk_at dksX1_becomes_3 17 rfl rfl)
theorem dX1_becomes_85 : decode cX1_becomes 85 = .ok (.iload_n 3, 1) := dk_29 (dk_at dksX1_becomes_3 18 rfl rfl)
theorem dX1_becomes_86 : decode cX1_becomes 86 = .ok (.iadd, 1) := dk_96 (dk_at dksX1_becomes_3 19 rfl rfl)
theorem dX1_becomes_87 : decode cX1_becomes 87 = .ok (.iaload, 1) := dk_46 (dk_at dksX1_becomes_3 20 rfl rfl)
theorem dX1_becomes_88 : decode cX1_becomes 88 = .ok (.invokevirtual 119, 3) := dk_182 0 119 (dk_at dksX1_becomes_3 21 rfl rfl)
theorem dX1_becomes_91 : decode cX1_becomes 91 = .ok (.iinc 3 1, 3) := dk_132 3 1 (dk_at dksX1_becomes_4 0 rfl rfl)
theorem dX1_becomes_94 : decode cX1_becomes 94 = .ok (.goto (-51), 3) := dk_167 255 205 (dk_at dksX1_becomes_4 3 rfl rfl)
theorem dX1_becomes_97 : decode cX1_becomes 97 = .ok (.iconst 0, 1) := dk_3 (dk_at dksX1_becomes_4 6 rfl rfl)
theorem dX1_becomes_98 : decode cX1_becomes 98 = .ok (.istore_n 3, 1) := dk_62 (dk_at dksX1_becomes_4 7 rfl rfl)
theorem dX1_becomes_99 : decode cX1_becomes 99 = .ok (.iload_n 3, 1) := dk_29 (dk_at dksX1_becomes_4 8 rfl rfl)
theorem dX1_becomes_100 : decode cX1_becomes 100 = .ok (.aload_n 0, 1) := dk_42 (dk_at dksX1_becomes_4 9 rfl rfl)
theorem dX1_becomes_101 : decode cX1_becomes 101 = .ok (.getfield 68, 3) := dk_180 0 68 (dk_at dksX1_becomes_4 10 rfl rfl)
theorem dX1_becomes_104 : decode cX1_becomes 104 = .ok (.iload_n 2, 1) := dk_28 (dk_at dksX1_becomes_4 13 rfl rfl)
theorem dX1_becomes_105 : decode cX1_becomes 105 = .ok (.iaload, 1) := dk_46 (dk_at dksX1_becomes_4 14 rfl rfl)
theorem dX1_becomes_106 : decode cX1_becomes 106 = .ok (.if_icmp .ge 36, 3) := dk_162 0 36 (dk_at dksX1_becomes_4 15 rfl rfl)
theorem dX1_becomes_109 : decode cX1_becomes 109 = .ok (.aload_n 0, 1) := dk_42 (dk_at dksX1_becomes_4 18 rfl rfl)
theorem dX1_becomes_110 : decode cX1_becomes 110 = .ok (.iload_n 1, 1) := dk_27 (dk_at dksX1_becomes_4 19 rfl rfl)
theorem dX1_becomes_111 : decode cX1_becomes 111 = .ok (.aload_n 0, 1) := dk_42 (dk_at dksX1_becomes_4 20 rfl rfl)
theorem dX1_becomes_112 : decode cX1_becomes 112 = .ok (.getfield 80, 3) := dk_180 0 80 (dk_at dksX1_becomes_4 21 rfl rfl)
theorem dX1_becomes_115 : decode cX1_becomes 115 = .ok (.bipush 9, 2) := dk_16 9 (dk_at dksX1_becomes_5 0 rfl rfl)
theorem dX1_becomes_117 : decode cX1_becomes 117 = .ok (.iload_n 2, 1) := dk_28 (dk_at dksX1_becomes_5 2 rfl rfl)
theorem dX1_becomes_118 : decode cX1_becomes 118 = .ok (.imul, 1) := dk_104 (dk_at dksX1_becomes_5 3 rfl rfl)
theorem dX1_becomes_119 : decode cX1_becomes 119 = .ok (.iload_n 3, 1) := dk_29 (dk_at dksX1_becomes_5 4 rfl rfl)
theorem dX1_becomes_120 : decode cX1_becomes 120 = .ok (.iadd, 1) := dk_96 (dk_at dksX1_becomes_5 5 rfl rfl)
theorem dX1_becomes_121 : decode cX1_becomes 121 = .ok (.iaload, 1) := dk_46 (dk_at dksX1_becomes_5 6 rfl rfl)
theorem dX1_becomes_122 : decode cX1_becomes 122 = .ok (.aload_n 0, 1) := dk_42 (dk_at dksX1_becomes_5 7 rfl rfl)
theorem dX1_becomes_123 : decode cX1_becomes 123 = .ok (.getfield 83, 3) := dk_180 0 83 (dk_at dksX1_becomes_5 8 rfl rfl)
theorem dX1_becomes_126 : decode cX1_becomes 126 = .ok (.bipush 9, 2) := dk_16 9 (dk_at dksX1_becomes_5 11 rfl rfl)
theorem dX1_becomes_128 : decode cX1_becomes 128 = .ok (.iload_n 2, 1) := dk_28 (dk_at dksX1_becomes_5 13 rfl rfl)
theorem dX1_becomes_129 : decode cX1_becomes 129 = .ok (.imul, 1) := dk_104 (dk_at dksX1_becomes_5 14 rfl rfl)
theorem dX1_becomes_130 : decode cX1_becomes 130 = .ok (.iload_n 3, 1) := dk_29 (dk_at dksX1_becomes_5 15 rfl rfl)
theorem dX1_becomes_131 : decode cX1_becomes 131 = .ok (.iadd, 1) := dk_96 (dk_at dksX1_becomes_5 16 rfl rfl)
theorem dX1_becomes_132 : decode cX1_becomes 132 = .ok (.iaload, 1) := dk_46 (dk_at dksX1_becomes_5 17 rfl rfl)
theorem dX1_becomes_133 : decode cX1_becomes 133 = .ok (.invokevirtual 123, 3) := dk_182 0 123 (dk_at dksX1_becomes_5 18 rfl rfl)
theorem dX1_becomes_136 : decode cX1_becomes 136 = .ok (.iinc 3 1, 3) := dk_132 3 1 (dk_at dksX1_becomes_5 21 rfl rfl)
theorem dX1_becomes_139 : decode cX1_becomes 139 = .ok (.goto (-40), 3) := dk_167 255 216 (dk_at dksX1_becomes_6 0 rfl rfl)
theorem dX1_becomes_142 : decode cX1_becomes 142 = .ok (.return_, 1) := dk_177 (dk_at dksX1_becomes_6 3 rfl rfl)
abbrev cX1_mend : ByteArray := prog_17_method_42_code
def yX1_mend : MethodName := ⟨RX1, "mend", "(I)I"⟩
def dkwX1_mend_2 : List UInt8 := [27, 46, 172]
abbrev dktX1_mend_2 : List UInt8 := dkwX1_mend_2 ++ []
def dkwX1_mend_1 : List UInt8 := [182, 0, 229, 154, 0, 6, 16, 254, 172, 42, 27, 16, 115, 182, 0, 237, 42, 182, 0, 201, 42, 180, 0, 90]
abbrev dktX1_mend_1 : List UInt8 := dkwX1_mend_1 ++ dktX1_mend_2
def dkwX1_mend_0 : List UInt8 := [42, 27, 182, 0, 240, 154, 0, 5, 2, 172, 42, 42, 180, 0, 53, 27, 46, 42, 180, 0, 56, 27, 46]
abbrev dktX1_mend_0 : List UInt8 := dkwX1_mend_0 ++ dktX1_mend_1
theorem dksX1_mend_0 : cX1_mend.data.toList.drop 0 = dktX1_mend_0 := by decide +kernel
theorem dksX1_mend_1 : cX1_mend.data.toList.drop 23 = dktX1_mend_1 := dk_seg dksX1_mend_0 23 rfl rfl
theorem dksX1_mend_2 : cX1_mend.data.toList.drop 47 = dktX1_mend_2 := dk_seg dksX1_mend_1 24 rfl rfl
theorem dX1_mend_0 : decode cX1_mend 0 = .ok (.aload_n 0, 1) := dk_42 (dk_at dksX1_mend_0 0 rfl rfl)
theorem dX1_mend_1 : decode cX1_mend 1 = .ok (.iload_n 1, 1) := dk_27 (dk_at dksX1_mend_0 1 rfl rfl)
theorem dX1_mend_2 : decode cX1_mend 2 = .ok (.invokevirtual 240, 3) := dk_182 0 240 (dk_at dksX1_mend_0 2 rfl rfl)
theorem dX1_mend_5 : decode cX1_mend 5 = .ok (.ifCond .ne 5, 3) := dk_154 0 5 (dk_at dksX1_mend_0 5 rfl rfl)
theorem dX1_mend_8 : decode cX1_mend 8 = .ok (.iconst (-1), 1) := dk_2 (dk_at dksX1_mend_0 8 rfl rfl)
theorem dX1_mend_9 : decode cX1_mend 9 = .ok (.ireturn, 1) := dk_172 (dk_at dksX1_mend_0 9 rfl rfl)
theorem dX1_mend_10 : decode cX1_mend 10 = .ok (.aload_n 0, 1) := dk_42 (dk_at dksX1_mend_0 10 rfl rfl)
theorem dX1_mend_11 : decode cX1_mend 11 = .ok (.aload_n 0, 1) := dk_42 (dk_at dksX1_mend_0 11 rfl rfl)
theorem dX1_mend_12 : decode cX1_mend 12 = .ok (.getfield 53, 3) := dk_180 0 53 (dk_at dksX1_mend_0 12 rfl rfl)
theorem dX1_mend_15 : decode cX1_mend 15 = .ok (.iload_n 1, 1) := dk_27 (dk_at dksX1_mend_0 15 rfl rfl)
theorem dX1_mend_16 : decode cX1_mend 16 = .ok (.iaload, 1) := dk_46 (dk_at dksX1_mend_0 16 rfl rfl)
theorem dX1_mend_17 : decode cX1_mend 17 = .ok (.aload_n 0, 1) := dk_42 (dk_at dksX1_mend_0 17 rfl rfl)
theorem dX1_mend_18 : decode cX1_mend 18 = .ok (.getfield 56, 3) := dk_180 0 56 (dk_at dksX1_mend_0 18 rfl rfl)
theorem dX1_mend_21 : decode cX1_mend 21 = .ok (.iload_n 1, 1) := dk_27 (dk_at dksX1_mend_0 21 rfl rfl)
theorem dX1_mend_22 : decode cX1_mend 22 = .ok (.iaload, 1) := dk_46 (dk_at dksX1_mend_0 22 rfl rfl)
theorem dX1_mend_23 : decode cX1_mend 23 = .ok (.invokevirtual 229, 3) := dk_182 0 229 (dk_at dksX1_mend_1 0 rfl rfl)
theorem dX1_mend_26 : decode cX1_mend 26 = .ok (.ifCond .ne 6, 3) := dk_154 0 6 (dk_at dksX1_mend_1 3 rfl rfl)
theorem dX1_mend_29 : decode cX1_mend 29 = .ok (.bipush (-2), 2) := dk_16 254 (dk_at dksX1_mend_1 6 rfl rfl)
theorem dX1_mend_31 : decode cX1_mend 31 = .ok (.ireturn, 1) := dk_172 (dk_at dksX1_mend_1 8 rfl rfl)
theorem dX1_mend_32 : decode cX1_mend 32 = .ok (.aload_n 0, 1) := dk_42 (dk_at dksX1_mend_1 9 rfl rfl)
theorem dX1_mend_33 : decode cX1_mend 33 = .ok (.iload_n 1, 1) := dk_27 (dk_at dksX1_mend_1 10 rfl rfl)
theorem dX1_mend_34 : decode cX1_mend 34 = .ok (.bipush 115, 2) := dk_16 115 (dk_at dksX1_mend_1 11 rfl rfl)
theorem dX1_mend_36 : decode cX1_mend 36 = .ok (.invokevirtual 237, 3) := dk_182 0 237 (dk_at dksX1_mend_1 13 rfl rfl)
theorem dX1_mend_39 : decode cX1_mend 39 = .ok (.aload_n 0, 1) := dk_42 (dk_at dksX1_mend_1 16 rfl rfl)
theorem dX1_mend_40 : decode cX1_mend 40 = .ok (.invokevirtual 201, 3) := dk_182 0 201 (dk_at dksX1_mend_1 17 rfl rfl)
theorem dX1_mend_43 : decode cX1_mend 43 = .ok (.aload_n 0, 1) := dk_42 (dk_at dksX1_mend_1 20 rfl rfl)
theorem dX1_mend_44 : decode cX1_mend 44 = .ok (.getfield 90, 3) := dk_180 0 90 (dk_at dksX1_mend_1 21 rfl rfl)
theorem dX1_mend_47 : decode cX1_mend 47 = .ok (.iload_n 1, 1) := dk_27 (dk_at dksX1_mend_2 0 rfl rfl)
theorem dX1_mend_48 : decode cX1_mend 48 = .ok (.iaload, 1) := dk_46 (dk_at dksX1_mend_2 1 rfl rfl)
theorem dX1_mend_49 : decode cX1_mend 49 = .ok (.ireturn, 1) := dk_172 (dk_at dksX1_mend_2 2 rfl rfl)
abbrev cX1_isLine : ByteArray := prog_17_method_12_code
def yX1_isLine : MethodName := ⟨RX1, "isLine", "(I)Z"⟩
def dkwX1_isLine_0 : List UInt8 := [27, 133, 9, 42, 180, 0, 112, 4, 100, 133, 184, 0, 11, 172]
abbrev dktX1_isLine_0 : List UInt8 := dkwX1_isLine_0 ++ []
theorem dksX1_isLine_0 : cX1_isLine.data.toList.drop 0 = dktX1_isLine_0 := by decide +kernel
theorem dX1_isLine_0 : decode cX1_isLine 0 = .ok (.iload_n 1, 1) := dk_27 (dk_at dksX1_isLine_0 0 rfl rfl)
theorem dX1_isLine_1 : decode cX1_isLine 1 = .ok (.i2l, 1) := dk_133 (dk_at dksX1_isLine_0 1 rfl rfl)
theorem dX1_isLine_2 : decode cX1_isLine 2 = .ok (.lconst 0, 1) := dk_9 (dk_at dksX1_isLine_0 2 rfl rfl)
theorem dX1_isLine_3 : decode cX1_isLine 3 = .ok (.aload_n 0, 1) := dk_42 (dk_at dksX1_isLine_0 3 rfl rfl)
theorem dX1_isLine_4 : decode cX1_isLine 4 = .ok (.getfield 112, 3) := dk_180 0 112 (dk_at dksX1_isLine_0 4 rfl rfl)
theorem dX1_isLine_7 : decode cX1_isLine 7 = .ok (.iconst 1, 1) := dk_4 (dk_at dksX1_isLine_0 7 rfl rfl)
theorem dX1_isLine_8 : decode cX1_isLine 8 = .ok (.isub, 1) := dk_100 (dk_at dksX1_isLine_0 8 rfl rfl)
theorem dX1_isLine_9 : decode cX1_isLine 9 = .ok (.i2l, 1) := dk_133 (dk_at dksX1_isLine_0 9 rfl rfl)
theorem dX1_isLine_10 : decode cX1_isLine 10 = .ok (.invokestatic 11, 3) := dk_184 0 11 (dk_at dksX1_isLine_0 10 rfl rfl)
theorem dX1_isLine_13 : decode cX1_isLine 13 = .ok (.ireturn, 1) := dk_172 (dk_at dksX1_isLine_0 13 rfl rfl)
abbrev cX1_needs : ByteArray := prog_17_method_43_code
def yX1_needs : MethodName := ⟨RX1, "needs", "(II)I"⟩
def dkwX1_needs_2 : List UInt8 := [16, 115, 182, 0, 216, 16, 10, 42, 180, 0, 65, 16, 115, 46, 104, 42, 180, 0, 68, 16, 115, 46, 96, 172]
abbrev dktX1_needs_2 : List UInt8 := dkwX1_needs_2 ++ []
def dkwX1_needs_1 : List UInt8 := [159, 0, 11, 27, 133, 184, 0, 164, 154, 0, 6, 16, 254, 172, 42, 16, 115, 27, 28, 182, 0, 115, 42]
abbrev dktX1_needs_1 : List UInt8 := dkwX1_needs_1 ++ dktX1_needs_2
def dkwX1_needs_0 : List UInt8 := [28, 133, 10, 20, 0, 21, 184, 0, 11, 153, 0, 11, 27, 133, 184, 0, 226, 154, 0, 5, 2, 172, 27, 5]
abbrev dktX1_needs_0 : List UInt8 := dkwX1_needs_0 ++ dktX1_needs_1
theorem dksX1_needs_0 : cX1_needs.data.toList.drop 0 = dktX1_needs_0 := by decide +kernel
theorem dksX1_needs_1 : cX1_needs.data.toList.drop 24 = dktX1_needs_1 := dk_seg dksX1_needs_0 24 rfl rfl
theorem dksX1_needs_2 : cX1_needs.data.toList.drop 47 = dktX1_needs_2 := dk_seg dksX1_needs_1 23 rfl rfl
theorem dX1_needs_0 : decode cX1_needs 0 = .ok (.iload_n 2, 1) := dk_28 (dk_at dksX1_needs_0 0 rfl rfl)
theorem dX1_needs_1 : decode cX1_needs 1 = .ok (.i2l, 1) := dk_133 (dk_at dksX1_needs_0 1 rfl rfl)
theorem dX1_needs_2 : decode cX1_needs 2 = .ok (.lconst 1, 1) := dk_10 (dk_at dksX1_needs_0 2 rfl rfl)
theorem dX1_needs_3 : decode cX1_needs 3 = .ok (.ldc2_w 21, 3) := dk_20 0 21 (dk_at dksX1_needs_0 3 rfl rfl)
theorem dX1_needs_6 : decode cX1_needs 6 = .ok (.invokestatic 11, 3) := dk_184 0 11 (dk_at dksX1_needs_0 6 rfl rfl)
theorem dX1_needs_9 : decode cX1_needs 9 = .ok (.ifCond .eq 11, 3) := dk_153 0 11 (dk_at dksX1_needs_0 9 rfl rfl)
theorem dX1_needs_12 : decode cX1_needs 12 = .ok (.iload_n 1, 1) := dk_27 (dk_at dksX1_needs_0 12 rfl rfl)
theorem dX1_needs_13 : decode cX1_needs 13 = .ok (.i2l, 1) := dk_133 (dk_at dksX1_needs_0 13 rfl rfl)
theorem dX1_needs_14 : decode cX1_needs 14 = .ok (.invokestatic 226, 3) := dk_184 0 226 (dk_at dksX1_needs_0 14 rfl rfl)
theorem dX1_needs_17 : decode cX1_needs 17 = .ok (.ifCond .ne 5, 3) := dk_154 0 5 (dk_at dksX1_needs_0 17 rfl rfl)
theorem dX1_needs_20 : decode cX1_needs 20 = .ok (.iconst (-1), 1) := dk_2 (dk_at dksX1_needs_0 20 rfl rfl)
theorem dX1_needs_21 : decode cX1_needs 21 = .ok (.ireturn, 1) := dk_172 (dk_at dksX1_needs_0 21 rfl rfl)
theorem dX1_needs_22 : decode cX1_needs 22 = .ok (.iload_n 1, 1) := dk_27 (dk_at dksX1_needs_0 22 rfl rfl)
theorem dX1_needs_23 : decode cX1_needs 23 = .ok (.iconst 2, 1) := dk_5 (dk_at dksX1_needs_0 23 rfl rfl)
theorem dX1_needs_24 : decode cX1_needs 24 = .ok (.if_icmp .eq 11, 3) := dk_159 0 11 (dk_at dksX1_needs_1 0 rfl rfl)
theorem dX1_needs_27 : decode cX1_needs 27 = .ok (.iload_n 1, 1) := dk_27 (dk_at dksX1_needs_1 3 rfl rfl)
theorem dX1_needs_28 : decode cX1_needs 28 = .ok (.i2l, 1) := dk_133 (dk_at dksX1_needs_1 4 rfl rfl)
theorem dX1_needs_29 : decode cX1_needs 29 = .ok (.invokestatic 164, 3) := dk_184 0 164 (dk_at dksX1_needs_1 5 rfl rfl)
theorem dX1_needs_32 : decode cX1_needs 32 = .ok (.ifCond .ne 6, 3) := dk_154 0 6 (dk_at dksX1_needs_1 8 rfl rfl)
theorem dX1_needs_35 : decode cX1_needs 35 = .ok (.bipush (-2), 2) := dk_16 254 (dk_at dksX1_needs_1 11 rfl rfl)
theorem dX1_needs_37 : decode cX1_needs 37 = .ok (.ireturn, 1) := dk_172 (dk_at dksX1_needs_1 13 rfl rfl)
theorem dX1_needs_38 : decode cX1_needs 38 = .ok (.aload_n 0, 1) := dk_42 (dk_at dksX1_needs_1 14 rfl rfl)
theorem dX1_needs_39 : decode cX1_needs 39 = .ok (.bipush 115, 2) := dk_16 115 (dk_at dksX1_needs_1 15 rfl rfl)
theorem dX1_needs_41 : decode cX1_needs 41 = .ok (.iload_n 1, 1) := dk_27 (dk_at dksX1_needs_1 17 rfl rfl)
theorem dX1_needs_42 : decode cX1_needs 42 = .ok (.iload_n 2, 1) := dk_28 (dk_at dksX1_needs_1 18 rfl rfl)
theorem dX1_needs_43 : decode cX1_needs 43 = .ok (.invokevirtual 115, 3) := dk_182 0 115 (dk_at dksX1_needs_1 19 rfl rfl)
theorem dX1_needs_46 : decode cX1_needs 46 = .ok (.aload_n 0, 1) := dk_42 (dk_at dksX1_needs_1 22 rfl rfl)
theorem dX1_needs_47 : decode cX1_needs 47 = .ok (.bipush 115, 2) := dk_16 115 (dk_at dksX1_needs_2 0 rfl rfl)
theorem dX1_needs_49 : decode cX1_needs 49 = .ok (.invokevirtual 216, 3) := dk_182 0 216 (dk_at dksX1_needs_2 2 rfl rfl)
theorem dX1_needs_52 : decode cX1_needs 52 = .ok (.bipush 10, 2) := dk_16 10 (dk_at dksX1_needs_2 5 rfl rfl)
theorem dX1_needs_54 : decode cX1_needs 54 = .ok (.aload_n 0, 1) := dk_42 (dk_at dksX1_needs_2 7 rfl rfl)
theorem dX1_needs_55 : decode cX1_needs 55 = .ok (.getfield 65, 3) := dk_180 0 65 (dk_at dksX1_needs_2 8 rfl rfl)
theorem dX1_needs_58 : decode cX1_needs 58 = .ok (.bipush 115, 2) := dk_16 115 (dk_at dksX1_needs_2 11 rfl rfl)
theorem dX1_needs_60 : decode cX1_needs 60 = .ok (.iaload, 1) := dk_46 (dk_at dksX1_needs_2 13 rfl rfl)
theorem dX1_needs_61 : decode cX1_needs 61 = .ok (.imul, 1) := dk_104 (dk_at dksX1_needs_2 14 rfl rfl)
theorem dX1_needs_62 : decode cX1_needs 62 = .ok (.aload_n 0, 1) := dk_42 (dk_at dksX1_needs_2 15 rfl rfl)
theorem dX1_needs_63 : decode cX1_needs 63 = .ok (.getfield 68, 3) := dk_180 0 68 (dk_at dksX1_needs_2 16 rfl rfl)
theorem dX1_needs_66 : decode cX1_needs 66 = .ok (.bipush 115, 2) := dk_16 115 (dk_at dksX1_needs_2 19 rfl rfl)
theorem dX1_needs_68 : decode cX1_needs 68 = .ok (.iaload, 1) := dk_46 (dk_at dksX1_needs_2 21 rfl rfl)
theorem dX1_needs_69 : decode cX1_needs 69 = .ok (.iadd, 1) := dk_96 (dk_at dksX1_needs_2 22 rfl rfl)
theorem dX1_needs_70 : decode cX1_needs 70 = .ok (.ireturn, 1) := dk_172 (dk_at dksX1_needs_2 23 rfl rfl)
abbrev cX1_fewest : ByteArray := prog_17_method_44_code
def yX1_fewest : MethodName := ⟨RX1, "fewest", "(I)I"⟩
def dkwX1_fewest_3 : List UInt8 := [21, 6, 62, 21, 4, 61, 132, 4, 1, 167, 255, 210, 28, 172]
abbrev dktX1_fewest_3 : List UInt8 := dkwX1_fewest_3 ++ []
def dkwX1_fewest_2 : List UInt8 := [54, 5, 21, 5, 16, 10, 108, 21, 5, 16, 10, 112, 96, 54, 6, 21, 6, 29, 161, 0, 6, 167, 0, 9]
abbrev dktX1_fewest_2 : List UInt8 := dkwX1_fewest_2 ++ dktX1_fewest_3
def dkwX1_fewest_1 : List UInt8 := [16, 254, 172, 2, 61, 16, 99, 62, 4, 54, 4, 21, 4, 7, 163, 0, 46, 42, 27, 21, 4, 182, 0, 243]
abbrev dktX1_fewest_1 : List UInt8 := dkwX1_fewest_1 ++ dktX1_fewest_2
def dkwX1_fewest_0 : List UInt8 := [27, 133, 184, 0, 226, 154, 0, 5, 2, 172, 27, 5, 159, 0, 11, 27, 133, 184, 0, 164, 154, 0, 6]
abbrev dktX1_fewest_0 : List UInt8 := dkwX1_fewest_0 ++ dktX1_fewest_1
theorem dksX1_fewest_0 : cX1_fewest.data.toList.drop 0 = dktX1_fewest_0 := by decide +kernel
theorem dksX1_fewest_1 : cX1_fewest.data.toList.drop 23 = dktX1_fewest_1 := dk_seg dksX1_fewest_0 23 rfl rfl
theorem dksX1_fewest_2 : cX1_fewest.data.toList.drop 47 = dktX1_fewest_2 := dk_seg dksX1_fewest_1 24 rfl rfl
theorem dksX1_fewest_3 : cX1_fewest.data.toList.drop 71 = dktX1_fewest_3 := dk_seg dksX1_fewest_2 24 rfl rfl
theorem dX1_fewest_0 : decode cX1_fewest 0 = .ok (.iload_n 1, 1) := dk_27 (dk_at dksX1_fewest_0 0 rfl rfl)
theorem dX1_fewest_1 : decode cX1_fewest 1 = .ok (.i2l, 1) := dk_133 (dk_at dksX1_fewest_0 1 rfl rfl)
theorem dX1_fewest_2 : decode cX1_fewest 2 = .ok (.invokestatic 226, 3) := dk_184 0 226 (dk_at dksX1_fewest_0 2 rfl rfl)
theorem dX1_fewest_5 : decode cX1_fewest 5 = .ok (.ifCond .ne 5, 3) := dk_154 0 5 (dk_at dksX1_fewest_0 5 rfl rfl)
theorem dX1_fewest_8 : decode cX1_fewest 8 = .ok (.iconst (-1), 1) := dk_2 (dk_at dksX1_fewest_0 8 rfl rfl)
theorem dX1_fewest_9 : decode cX1_fewest 9 = .ok (.ireturn, 1) := dk_172 (dk_at dksX1_fewest_0 9 rfl rfl)
theorem dX1_fewest_10 : decode cX1_fewest 10 = .ok (.iload_n 1, 1) := dk_27 (dk_at dksX1_fewest_0 10 rfl rfl)
theorem dX1_fewest_11 : decode cX1_fewest 11 = .ok (.iconst 2, 1) := dk_5 (dk_at dksX1_fewest_0 11 rfl rfl)
theorem dX1_fewest_12 : decode cX1_fewest 12 = .ok (.if_icmp .eq 11, 3) := dk_159 0 11 (dk_at dksX1_fewest_0 12 rfl rfl)
theorem dX1_fewest_15 : decode cX1_fewest 15 = .ok (.iload_n 1, 1) := dk_27 (dk_at dksX1_fewest_0 15 rfl rfl)
theorem dX1_fewest_16 : decode cX1_fewest 16 = .ok (.i2l, 1) := dk_133 (dk_at dksX1_fewest_0 16 rfl rfl)
theorem dX1_fewest_17 : decode cX1_fewest 17 = .ok (.invokestatic 164, 3) := dk_184 0 164 (dk_at dksX1_fewest_0 17 rfl rfl)
theorem dX1_fewest_20 : decode cX1_fewest 20 = .ok (.ifCond .ne 6, 3) := dk_154 0 6 (dk_at dksX1_fewest_0 20 rfl rfl)
theorem dX1_fewest_23 : decode cX1_fewest 23 = .ok (.bipush (-2), 2) := dk_16 254 (dk_at dksX1_fewest_1 0 rfl rfl)
theorem dX1_fewest_25 : decode cX1_fewest 25 = .ok (.ireturn, 1) := dk_172 (dk_at dksX1_fewest_1 2 rfl rfl)
theorem dX1_fewest_26 : decode cX1_fewest 26 = .ok (.iconst (-1), 1) := dk_2 (dk_at dksX1_fewest_1 3 rfl rfl)
theorem dX1_fewest_27 : decode cX1_fewest 27 = .ok (.istore_n 2, 1) := dk_61 (dk_at dksX1_fewest_1 4 rfl rfl)
theorem dX1_fewest_28 : decode cX1_fewest 28 = .ok (.bipush 99, 2) := dk_16 99 (dk_at dksX1_fewest_1 5 rfl rfl)
theorem dX1_fewest_30 : decode cX1_fewest 30 = .ok (.istore_n 3, 1) := dk_62 (dk_at dksX1_fewest_1 7 rfl rfl)
theorem dX1_fewest_31 : decode cX1_fewest 31 = .ok (.iconst 1, 1) := dk_4 (dk_at dksX1_fewest_1 8 rfl rfl)
theorem dX1_fewest_32 : decode cX1_fewest 32 = .ok (.istore 4, 2) := dk_54 4 (dk_at dksX1_fewest_1 9 rfl rfl)
theorem dX1_fewest_34 : decode cX1_fewest 34 = .ok (.iload 4, 2) := dk_21 4 (dk_at dksX1_fewest_1 11 rfl rfl)
theorem dX1_fewest_36 : decode cX1_fewest 36 = .ok (.iconst 4, 1) := dk_7 (dk_at dksX1_fewest_1 13 rfl rfl)
theorem dX1_fewest_37 : decode cX1_fewest 37 = .ok (.if_icmp .gt 46, 3) := dk_163 0 46 (dk_at dksX1_fewest_1 14 rfl rfl)
theorem dX1_fewest_40 : decode cX1_fewest 40 = .ok (.aload_n 0, 1) := dk_42 (dk_at dksX1_fewest_1 17 rfl rfl)
theorem dX1_fewest_41 : decode cX1_fewest 41 = .ok (.iload_n 1, 1) := dk_27 (dk_at dksX1_fewest_1 18 rfl rfl)
theorem dX1_fewest_42 : decode cX1_fewest 42 = .ok (.iload 4, 2) := dk_21 4 (dk_at dksX1_fewest_1 19 rfl rfl)
theorem dX1_fewest_44 : decode cX1_fewest 44 = .ok (.invokevirtual 243, 3) := dk_182 0 243 (dk_at dksX1_fewest_1 21 rfl rfl)
theorem dX1_fewest_47 : decode cX1_fewest 47 = .ok (.istore 5, 2) := dk_54 5 (dk_at dksX1_fewest_2 0 rfl rfl)
theorem dX1_fewest_49 : decode cX1_fewest 49 = .ok (.iload 5, 2) := dk_21 5 (dk_at dksX1_fewest_2 2 rfl rfl)
theorem dX1_fewest_51 : decode cX1_fewest 51 = .ok (.bipush 10, 2) := dk_16 10 (dk_at dksX1_fewest_2 4 rfl rfl)
theorem dX1_fewest_53 : decode cX1_fewest 53 = .ok (.idiv, 1) := dk_108 (dk_at dksX1_fewest_2 6 rfl rfl)
theorem dX1_fewest_54 : decode cX1_fewest 54 = .ok (.iload 5, 2) := dk_21 5 (dk_at dksX1_fewest_2 7 rfl rfl)
theorem dX1_fewest_56 : decode cX1_fewest 56 = .ok (.bipush 10, 2) := dk_16 10 (dk_at dksX1_fewest_2 9 rfl rfl)
theorem dX1_fewest_58 : decode cX1_fewest 58 = .ok (.irem, 1) := dk_112 (dk_at dksX1_fewest_2 11 rfl rfl)
theorem dX1_fewest_59 : decode cX1_fewest 59 = .ok (.iadd, 1) := dk_96 (dk_at dksX1_fewest_2 12 rfl rfl)
theorem dX1_fewest_60 : decode cX1_fewest 60 = .ok (.istore 6, 2) := dk_54 6 (dk_at dksX1_fewest_2 13 rfl rfl)
theorem dX1_fewest_62 : decode cX1_fewest 62 = .ok (.iload 6, 2) := dk_21 6 (dk_at dksX1_fewest_2 15 rfl rfl)
theorem dX1_fewest_64 : decode cX1_fewest 64 = .ok (.iload_n 3, 1) := dk_29 (dk_at dksX1_fewest_2 17 rfl rfl)
theorem dX1_fewest_65 : decode cX1_fewest 65 = .ok (.if_icmp .lt 6, 3) := dk_161 0 6 (dk_at dksX1_fewest_2 18 rfl rfl)
theorem dX1_fewest_68 : decode cX1_fewest 68 = .ok (.goto 9, 3) := dk_167 0 9 (dk_at dksX1_fewest_2 21 rfl rfl)
theorem dX1_fewest_71 : decode cX1_fewest 71 = .ok (.iload 6, 2) := dk_21 6 (dk_at dksX1_fewest_3 0 rfl rfl)
theorem dX1_fewest_73 : decode cX1_fewest 73 = .ok (.istore_n 3, 1) := dk_62 (dk_at dksX1_fewest_3 2 rfl rfl)
theorem dX1_fewest_74 : decode cX1_fewest 74 = .ok (.iload 4, 2) := dk_21 4 (dk_at dksX1_fewest_3 3 rfl rfl)
theorem dX1_fewest_76 : decode cX1_fewest 76 = .ok (.istore_n 2, 1) := dk_61 (dk_at dksX1_fewest_3 5 rfl rfl)
theorem dX1_fewest_77 : decode cX1_fewest 77 = .ok (.iinc 4 1, 3) := dk_132 4 1 (dk_at dksX1_fewest_3 6 rfl rfl)
theorem dX1_fewest_80 : decode cX1_fewest 80 = .ok (.goto (-46), 3) := dk_167 255 210 (dk_at dksX1_fewest_3 9 rfl rfl)
theorem dX1_fewest_83 : decode cX1_fewest 83 = .ok (.iload_n 2, 1) := dk_28 (dk_at dksX1_fewest_3 12 rfl rfl)
theorem dX1_fewest_84 : decode cX1_fewest 84 = .ok (.ireturn, 1) := dk_172 (dk_at dksX1_fewest_3 13 rfl rfl)
abbrev cX1_feed : ByteArray := prog_17_method_45_code
def yX1_feed : MethodName := ⟨RX1, "feed", "(IIIII)I"⟩
def dkwX1_feed_5 : List UInt8 := [180, 0, 246, 172]
abbrev dktX1_feed_5 : List UInt8 := dkwX1_feed_5 ++ []
def dkwX1_feed_4 : List UInt8 := [122, 17, 0, 255, 126, 79, 42, 89, 180, 0, 246, 4, 96, 181, 0, 246, 132, 6, 1, 167, 255, 162, 42]
abbrev dktX1_feed_4 : List UInt8 := dkwX1_feed_4 ++ dktX1_feed_5
def dkwX1_feed_3 : List UInt8 := [21, 5, 54, 7, 42, 180, 0, 99, 42, 180, 0, 246, 21, 7, 16, 24, 16, 8, 21, 6, 7, 112, 104, 100]
abbrev dktX1_feed_3 : List UInt8 := dkwX1_feed_3 ++ dktX1_feed_4
def dkwX1_feed_2 : List UInt8 := [21, 6, 16, 12, 162, 0, 7, 29, 167, 0, 17, 21, 6, 16, 16, 162, 0, 8, 21, 4, 167, 0, 5]
abbrev dktX1_feed_2 : List UInt8 := dkwX1_feed_2 ++ dktX1_feed_3
def dkwX1_feed_1 : List UInt8 := [162, 0, 93, 21, 6, 7, 162, 0, 7, 27, 167, 0, 39, 21, 6, 16, 8, 162, 0, 7, 28, 167, 0, 28]
abbrev dktX1_feed_1 : List UInt8 := dkwX1_feed_1 ++ dktX1_feed_2
def dkwX1_feed_0 : List UInt8 := [42, 180, 0, 246, 16, 20, 96, 17, 1, 144, 164, 0, 5, 2, 172, 3, 54, 6, 21, 6, 16, 20]
abbrev dktX1_feed_0 : List UInt8 := dkwX1_feed_0 ++ dktX1_feed_1
theorem dksX1_feed_0 : cX1_feed.data.toList.drop 0 = dktX1_feed_0 := by decide +kernel
theorem dksX1_feed_1 : cX1_feed.data.toList.drop 22 = dktX1_feed_1 := dk_seg dksX1_feed_0 22 rfl rfl
theorem dksX1_feed_2 : cX1_feed.data.toList.drop 46 = dktX1_feed_2 := dk_seg dksX1_feed_1 24 rfl rfl
theorem dksX1_feed_3 : cX1_feed.data.toList.drop 69 = dktX1_feed_3 := dk_seg dksX1_feed_2 23 rfl rfl
theorem dksX1_feed_4 : cX1_feed.data.toList.drop 93 = dktX1_feed_4 := dk_seg dksX1_feed_3 24 rfl rfl
theorem dksX1_feed_5 : cX1_feed.data.toList.drop 116 = dktX1_feed_5 := dk_seg dksX1_feed_4 23 rfl rfl
theorem dX1_feed_0 : decode cX1_feed 0 = .ok (.aload_n 0, 1) := dk_42 (dk_at dksX1_feed_0 0 rfl rfl)
theorem dX1_feed_1 : decode cX1_feed 1 = .ok (.getfield 246, 3) := dk_180 0 246 (dk_at dksX1_feed_0 1 rfl rfl)
theorem dX1_feed_4 : decode cX1_feed 4 = .ok (.bipush 20, 2) := dk_16 20 (dk_at dksX1_feed_0 4 rfl rfl)
theorem dX1_feed_6 : decode cX1_feed 6 = .ok (.iadd, 1) := dk_96 (dk_at dksX1_feed_0 6 rfl rfl)
theorem dX1_feed_7 : decode cX1_feed 7 = .ok (.sipush 400, 3) := dk_17 1 144 (dk_at dksX1_feed_0 7 rfl rfl)
theorem dX1_feed_10 : decode cX1_feed 10 = .ok (.if_icmp .le 5, 3) := dk_164 0 5 (dk_at dksX1_feed_0 10 rfl rfl)
theorem dX1_feed_13 : decode cX1_feed 13 = .ok (.iconst (-1), 1) := dk_2 (dk_at dksX1_feed_0 13 rfl rfl)
theorem dX1_feed_14 : decode cX1_feed 14 = .ok (.ireturn, 1) := dk_172 (dk_at dksX1_feed_0 14 rfl rfl)
theorem dX1_feed_15 : decode cX1_feed 15 = .ok (.iconst 0, 1) := dk_3 (dk_at dksX1_feed_0 15 rfl rfl)
theorem dX1_feed_16 : decode cX1_feed 16 = .ok (.istore 6, 2) := dk_54 6 (dk_at dksX1_feed_0 16 rfl rfl)
theorem dX1_feed_18 : decode cX1_feed 18 = .ok (.iload 6, 2) := dk_21 6 (dk_at dksX1_feed_0 18 rfl rfl)
theorem dX1_feed_20 : decode cX1_feed 20 = .ok (.bipush 20, 2) := dk_16 20 (dk_at dksX1_feed_0 20 rfl rfl)
theorem dX1_feed_22 : decode cX1_feed 22 = .ok (.if_icmp .ge 93, 3) := dk_162 0 93 (dk_at dksX1_feed_1 0 rfl rfl)
theorem dX1_feed_25 : decode cX1_feed 25 = .ok (.iload 6, 2) := dk_21 6 (dk_at dksX1_feed_1 3 rfl rfl)
theorem dX1_feed_27 : decode cX1_feed 27 = .ok (.iconst 4, 1) := dk_7 (dk_at dksX1_feed_1 5 rfl rfl)
theorem dX1_feed_28 : decode cX1_feed 28 = .ok (.if_icmp .ge 7, 3) := dk_162 0 7 (dk_at dksX1_feed_1 6 rfl rfl)
theorem dX1_feed_31 : decode cX1_feed 31 = .ok (.iload_n 1, 1) := dk_27 (dk_at dksX1_feed_1 9 rfl rfl)
theorem dX1_feed_32 : decode cX1_feed 32 = .ok (.goto 39, 3) := dk_167 0 39 (dk_at dksX1_feed_1 10 rfl rfl)
theorem dX1_feed_35 : decode cX1_feed 35 = .ok (.iload 6, 2) := dk_21 6 (dk_at dksX1_feed_1 13 rfl rfl)
theorem dX1_feed_37 : decode cX1_feed 37 = .ok (.bipush 8, 2) := dk_16 8 (dk_at dksX1_feed_1 15 rfl rfl)
theorem dX1_feed_39 : decode cX1_feed 39 = .ok (.if_icmp .ge 7, 3) := dk_162 0 7 (dk_at dksX1_feed_1 17 rfl rfl)
theorem dX1_feed_42 : decode cX1_feed 42 = .ok (.iload_n 2, 1) := dk_28 (dk_at dksX1_feed_1 20 rfl rfl)
theorem dX1_feed_43 : decode cX1_feed 43 = .ok (.goto 28, 3) := dk_167 0 28 (dk_at dksX1_feed_1 21 rfl rfl)
theorem dX1_feed_46 : decode cX1_feed 46 = .ok (.iload 6, 2) := dk_21 6 (dk_at dksX1_feed_2 0 rfl rfl)
theorem dX1_feed_48 : decode cX1_feed 48 = .ok (.bipush 12, 2) := dk_16 12 (dk_at dksX1_feed_2 2 rfl rfl)
theorem dX1_feed_50 : decode cX1_feed 50 = .ok (.if_icmp .ge 7, 3) := dk_162 0 7 (dk_at dksX1_feed_2 4 rfl rfl)
theorem dX1_feed_53 : decode cX1_feed 53 = .ok (.iload_n 3, 1) := dk_29 (dk_at dksX1_feed_2 7 rfl rfl)
theorem dX1_feed_54 : decode cX1_feed 54 = .ok (.goto 17, 3) := dk_167 0 17 (dk_at dksX1_feed_2 8 rfl rfl)
theorem dX1_feed_57 : decode cX1_feed 57 = .ok (.iload 6, 2) := dk_21 6 (dk_at dksX1_feed_2 11 rfl rfl)
theorem dX1_feed_59 : decode cX1_feed 59 = .ok (.bipush 16, 2) := dk_16 16 (dk_at dksX1_feed_2 13 rfl rfl)
theorem dX1_feed_61 : decode cX1_feed 61 = .ok (.if_icmp .ge 8, 3) := dk_162 0 8 (dk_at dksX1_feed_2 15 rfl rfl)
theorem dX1_feed_64 : decode cX1_feed 64 = .ok (.iload 4, 2) := dk_21 4 (dk_at dksX1_feed_2 18 rfl rfl)
theorem dX1_feed_66 : decode cX1_feed 66 = .ok (.goto 5, 3) := dk_167 0 5 (dk_at dksX1_feed_2 20 rfl rfl)
theorem dX1_feed_69 : decode cX1_feed 69 = .ok (.iload 5, 2) := dk_21 5 (dk_at dksX1_feed_3 0 rfl rfl)
theorem dX1_feed_71 : decode cX1_feed 71 = .ok (.istore 7, 2) := dk_54 7 (dk_at dksX1_feed_3 2 rfl rfl)
theorem dX1_feed_73 : decode cX1_feed 73 = .ok (.aload_n 0, 1) := dk_42 (dk_at dksX1_feed_3 4 rfl rfl)
theorem dX1_feed_74 : decode cX1_feed 74 = .ok (.getfield 99, 3) := dk_180 0 99 (dk_at dksX1_feed_3 5 rfl rfl)
theorem dX1_feed_77 : decode cX1_feed 77 = .ok (.aload_n 0, 1) := dk_42 (dk_at dksX1_feed_3 8 rfl rfl)
theorem dX1_feed_78 : decode cX1_feed 78 = .ok (.getfield 246, 3) := dk_180 0 246 (dk_at dksX1_feed_3 9 rfl rfl)
theorem dX1_feed_81 : decode cX1_feed 81 = .ok (.iload 7, 2) := dk_21 7 (dk_at dksX1_feed_3 12 rfl rfl)
theorem dX1_feed_83 : decode cX1_feed 83 = .ok (.bipush 24, 2) := dk_16 24 (dk_at dksX1_feed_3 14 rfl rfl)
theorem dX1_feed_85 : decode cX1_feed 85 = .ok (.bipush 8, 2) := dk_16 8 (dk_at dksX1_feed_3 16 rfl rfl)
theorem dX1_feed_87 : decode cX1_feed 87 = .ok (.iload 6, 2) := dk_21 6 (dk_at dksX1_feed_3 18 rfl rfl)
theorem dX1_feed_89 : decode cX1_feed 89 = .ok (.iconst 4, 1) := dk_7 (dk_at dksX1_feed_3 20 rfl rfl)
theorem dX1_feed_90 : decode cX1_feed 90 = .ok (.irem, 1) := dk_112 (dk_at dksX1_feed_3 21 rfl rfl)
theorem dX1_feed_91 : decode cX1_feed 91 = .ok (.imul, 1) := dk_104 (dk_at dksX1_feed_3 22 rfl rfl)
theorem dX1_feed_92 : decode cX1_feed 92 = .ok (.isub, 1) := dk_100 (dk_at dksX1_feed_3 23 rfl rfl)
theorem dX1_feed_93 : decode cX1_feed 93 = .ok (.ishr, 1) := dk_122 (dk_at dksX1_feed_4 0 rfl rfl)
theorem dX1_feed_94 : decode cX1_feed 94 = .ok (.sipush 255, 3) := dk_17 0 255 (dk_at dksX1_feed_4 1 rfl rfl)
theorem dX1_feed_97 : decode cX1_feed 97 = .ok (.iand, 1) := dk_126 (dk_at dksX1_feed_4 4 rfl rfl)
theorem dX1_feed_98 : decode cX1_feed 98 = .ok (.iastore, 1) := dk_79 (dk_at dksX1_feed_4 5 rfl rfl)
theorem dX1_feed_99 : decode cX1_feed 99 = .ok (.aload_n 0, 1) := dk_42 (dk_at dksX1_feed_4 6 rfl rfl)
theorem dX1_feed_100 : decode cX1_feed 100 = .ok (.dup, 1) := dk_89 (dk_at dksX1_feed_4 7 rfl rfl)
theorem dX1_feed_101 : decode cX1_feed 101 = .ok (.getfield 246, 3) := dk_180 0 246 (dk_at dksX1_feed_4 8 rfl rfl)
theorem dX1_feed_104 : decode cX1_feed 104 = .ok (.iconst 1, 1) := dk_4 (dk_at dksX1_feed_4 11 rfl rfl)
theorem dX1_feed_105 : decode cX1_feed 105 = .ok (.iadd, 1) := dk_96 (dk_at dksX1_feed_4 12 rfl rfl)
theorem dX1_feed_106 : decode cX1_feed 106 = .ok (.putfield 246, 3) := dk_181 0 246 (dk_at dksX1_feed_4 13 rfl rfl)
theorem dX1_feed_109 : decode cX1_feed 109 = .ok (.iinc 6 1, 3) := dk_132 6 1 (dk_at dksX1_feed_4 16 rfl rfl)
theorem dX1_feed_112 : decode cX1_feed 112 = .ok (.goto (-94), 3) := dk_167 255 162 (dk_at dksX1_feed_4 19 rfl rfl)
theorem dX1_feed_115 : decode cX1_feed 115 = .ok (.aload_n 0, 1) := dk_42 (dk_at dksX1_feed_4 22 rfl rfl)
theorem dX1_feed_116 : decode cX1_feed 116 = .ok (.getfield 246, 3) := dk_180 0 246 (dk_at dksX1_feed_5 0 rfl rfl)
theorem dX1_feed_119 : decode cX1_feed 119 = .ok (.ireturn, 1) := dk_172 (dk_at dksX1_feed_5 3 rfl rfl)
abbrev cX1_back : ByteArray := prog_17_method_46_code
def yX1_back : MethodName := ⟨RX1, "back", "(I)I"⟩
def dkwX1_back_1 : List UInt8 := [181, 0, 246, 42, 180, 0, 246, 172]
abbrev dktX1_back_1 : List UInt8 := dkwX1_back_1 ++ []
def dkwX1_back_0 : List UInt8 := [27, 133, 9, 42, 180, 0, 246, 133, 184, 0, 11, 154, 0, 5, 2, 172, 42, 89, 180, 0, 246, 27, 100]
abbrev dktX1_back_0 : List UInt8 := dkwX1_back_0 ++ dktX1_back_1
theorem dksX1_back_0 : cX1_back.data.toList.drop 0 = dktX1_back_0 := by decide +kernel
theorem dksX1_back_1 : cX1_back.data.toList.drop 23 = dktX1_back_1 := dk_seg dksX1_back_0 23 rfl rfl
theorem dX1_back_0 : decode cX1_back 0 = .ok (.iload_n 1, 1) := dk_27 (dk_at dksX1_back_0 0 rfl rfl)
theorem dX1_back_1 : decode cX1_back 1 = .ok (.i2l, 1) := dk_133 (dk_at dksX1_back_0 1 rfl rfl)
theorem dX1_back_2 : decode cX1_back 2 = .ok (.lconst 0, 1) := dk_9 (dk_at dksX1_back_0 2 rfl rfl)
theorem dX1_back_3 : decode cX1_back 3 = .ok (.aload_n 0, 1) := dk_42 (dk_at dksX1_back_0 3 rfl rfl)
theorem dX1_back_4 : decode cX1_back 4 = .ok (.getfield 246, 3) := dk_180 0 246 (dk_at dksX1_back_0 4 rfl rfl)
theorem dX1_back_7 : decode cX1_back 7 = .ok (.i2l, 1) := dk_133 (dk_at dksX1_back_0 7 rfl rfl)
theorem dX1_back_8 : decode cX1_back 8 = .ok (.invokestatic 11, 3) := dk_184 0 11 (dk_at dksX1_back_0 8 rfl rfl)
theorem dX1_back_11 : decode cX1_back 11 = .ok (.ifCond .ne 5, 3) := dk_154 0 5 (dk_at dksX1_back_0 11 rfl rfl)
theorem dX1_back_14 : decode cX1_back 14 = .ok (.iconst (-1), 1) := dk_2 (dk_at dksX1_back_0 14 rfl rfl)
theorem dX1_back_15 : decode cX1_back 15 = .ok (.ireturn, 1) := dk_172 (dk_at dksX1_back_0 15 rfl rfl)
theorem dX1_back_16 : decode cX1_back 16 = .ok (.aload_n 0, 1) := dk_42 (dk_at dksX1_back_0 16 rfl rfl)
theorem dX1_back_17 : decode cX1_back 17 = .ok (.dup, 1) := dk_89 (dk_at dksX1_back_0 17 rfl rfl)
theorem dX1_back_18 : decode cX1_back 18 = .ok (.getfield 246, 3) := dk_180 0 246 (dk_at dksX1_back_0 18 rfl rfl)
theorem dX1_back_21 : decode cX1_back 21 = .ok (.iload_n 1, 1) := dk_27 (dk_at dksX1_back_0 21 rfl rfl)
theorem dX1_back_22 : decode cX1_back 22 = .ok (.isub, 1) := dk_100 (dk_at dksX1_back_0 22 rfl rfl)
theorem dX1_back_23 : decode cX1_back 23 = .ok (.putfield 246, 3) := dk_181 0 246 (dk_at dksX1_back_1 0 rfl rfl)
theorem dX1_back_26 : decode cX1_back 26 = .ok (.aload_n 0, 1) := dk_42 (dk_at dksX1_back_1 3 rfl rfl)
theorem dX1_back_27 : decode cX1_back 27 = .ok (.getfield 246, 3) := dk_180 0 246 (dk_at dksX1_back_1 4 rfl rfl)
theorem dX1_back_30 : decode cX1_back 30 = .ok (.ireturn, 1) := dk_172 (dk_at dksX1_back_1 7 rfl rfl)
abbrev cX1_read : ByteArray := prog_17_method_58_code
def yX1_read : MethodName := ⟨RX1, "read", "()I"⟩
def dkwX1_read_4 : List UInt8 := [27, 96, 181, 0, 112, 27, 172]
abbrev dktX1_read_4 : List UInt8 := dkwX1_read_4 ++ []
def dkwX1_read_3 : List UInt8 := [180, 1, 31, 100, 172, 42, 180, 0, 112, 27, 96, 16, 60, 164, 0, 6, 16, 253, 172, 42, 89, 180, 0, 112]
abbrev dktX1_read_3 : List UInt8 := dkwX1_read_3 ++ dktX1_read_4
def dkwX1_read_2 : List UInt8 := [132, 1, 1, 167, 255, 228, 42, 3, 181, 0, 246, 42, 180, 1, 31, 2, 159, 0, 11, 16, 252, 42]
abbrev dktX1_read_2 : List UInt8 := dkwX1_read_2 ++ dktX1_read_3
def dkwX1_read_1 : List UInt8 := [180, 1, 31, 2, 160, 0, 26, 42, 180, 1, 10, 153, 0, 19, 42, 42, 180, 0, 112, 27, 96, 182, 1, 56]
abbrev dktX1_read_1 : List UInt8 := dkwX1_read_1 ++ dktX1_read_2
def dkwX1_read_0 : List UInt8 := [42, 3, 181, 1, 7, 42, 6, 181, 1, 10, 42, 2, 181, 1, 31, 3, 60, 42, 182, 1, 37, 42]
abbrev dktX1_read_0 : List UInt8 := dkwX1_read_0 ++ dktX1_read_1
theorem dksX1_read_0 : cX1_read.data.toList.drop 0 = dktX1_read_0 := by decide +kernel
theorem dksX1_read_1 : cX1_read.data.toList.drop 22 = dktX1_read_1 := dk_seg dksX1_read_0 22 rfl rfl
theorem dksX1_read_2 : cX1_read.data.toList.drop 46 = dktX1_read_2 := dk_seg dksX1_read_1 24 rfl rfl
theorem dksX1_read_3 : cX1_read.data.toList.drop 68 = dktX1_read_3 := dk_seg dksX1_read_2 22 rfl rfl
theorem dksX1_read_4 : cX1_read.data.toList.drop 92 = dktX1_read_4 := dk_seg dksX1_read_3 24 rfl rfl
theorem dX1_read_0 : decode cX1_read 0 = .ok (.aload_n 0, 1) := dk_42 (dk_at dksX1_read_0 0 rfl rfl)
theorem dX1_read_1 : decode cX1_read 1 = .ok (.iconst 0, 1) := dk_3 (dk_at dksX1_read_0 1 rfl rfl)
theorem dX1_read_2 : decode cX1_read 2 = .ok (.putfield 263, 3) := dk_181 1 7 (dk_at dksX1_read_0 2 rfl rfl)
theorem dX1_read_5 : decode cX1_read 5 = .ok (.aload_n 0, 1) := dk_42 (dk_at dksX1_read_0 5 rfl rfl)
theorem dX1_read_6 : decode cX1_read 6 = .ok (.iconst 3, 1) := dk_6 (dk_at dksX1_read_0 6 rfl rfl)
theorem dX1_read_7 : decode cX1_read 7 = .ok (.putfield 266, 3) := dk_181 1 10 (dk_at dksX1_read_0 7 rfl rfl)
theorem dX1_read_10 : decode cX1_read 10 = .ok (.aload_n 0, 1) := dk_42 (dk_at dksX1_read_0 10 rfl rfl)
theorem dX1_read_11 : decode cX1_read 11 = .ok (.iconst (-1), 1) := dk_2 (dk_at dksX1_read_0 11 rfl rfl)
theorem dX1_read_12 : decode cX1_read 12 = .ok (.putfield 287, 3) := dk_181 1 31 (dk_at dksX1_read_0 12 rfl rfl)
theorem dX1_read_15 : decode cX1_read 15 = .ok (.iconst 0, 1) := dk_3 (dk_at dksX1_read_0 15 rfl rfl)
theorem dX1_read_16 : decode cX1_read 16 = .ok (.istore_n 1, 1) := dk_60 (dk_at dksX1_read_0 16 rfl rfl)
theorem dX1_read_17 : decode cX1_read 17 = .ok (.aload_n 0, 1) := dk_42 (dk_at dksX1_read_0 17 rfl rfl)
theorem dX1_read_18 : decode cX1_read 18 = .ok (.invokevirtual 293, 3) := dk_182 1 37 (dk_at dksX1_read_0 18 rfl rfl)
theorem dX1_read_21 : decode cX1_read 21 = .ok (.aload_n 0, 1) := dk_42 (dk_at dksX1_read_0 21 rfl rfl)
theorem dX1_read_22 : decode cX1_read 22 = .ok (.getfield 287, 3) := dk_180 1 31 (dk_at dksX1_read_1 0 rfl rfl)
theorem dX1_read_25 : decode cX1_read 25 = .ok (.iconst (-1), 1) := dk_2 (dk_at dksX1_read_1 3 rfl rfl)
theorem dX1_read_26 : decode cX1_read 26 = .ok (.if_icmp .ne 26, 3) := dk_160 0 26 (dk_at dksX1_read_1 4 rfl rfl)
theorem dX1_read_29 : decode cX1_read 29 = .ok (.aload_n 0, 1) := dk_42 (dk_at dksX1_read_1 7 rfl rfl)
theorem dX1_read_30 : decode cX1_read 30 = .ok (.getfield 266, 3) := dk_180 1 10 (dk_at dksX1_read_1 8 rfl rfl)
theorem dX1_read_33 : decode cX1_read 33 = .ok (.ifCond .eq 19, 3) := dk_153 0 19 (dk_at dksX1_read_1 11 rfl rfl)
theorem dX1_read_36 : decode cX1_read 36 = .ok (.aload_n 0, 1) := dk_42 (dk_at dksX1_read_1 14 rfl rfl)
theorem dX1_read_37 : decode cX1_read 37 = .ok (.aload_n 0, 1) := dk_42 (dk_at dksX1_read_1 15 rfl rfl)
theorem dX1_read_38 : decode cX1_read 38 = .ok (.getfield 112, 3) := dk_180 0 112 (dk_at dksX1_read_1 16 rfl rfl)
theorem dX1_read_41 : decode cX1_read 41 = .ok (.iload_n 1, 1) := dk_27 (dk_at dksX1_read_1 19 rfl rfl)
theorem dX1_read_42 : decode cX1_read 42 = .ok (.iadd, 1) := dk_96 (dk_at dksX1_read_1 20 rfl rfl)
theorem dX1_read_43 : decode cX1_read 43 = .ok (.invokevirtual 312, 3) := dk_182 1 56 (dk_at dksX1_read_1 21 rfl rfl)
theorem dX1_read_46 : decode cX1_read 46 = .ok (.iinc 1 1, 3) := dk_132 1 1 (dk_at dksX1_read_2 0 rfl rfl)
theorem dX1_read_49 : decode cX1_read 49 = .ok (.goto (-28), 3) := dk_167 255 228 (dk_at dksX1_read_2 3 rfl rfl)
theorem dX1_read_52 : decode cX1_read 52 = .ok (.aload_n 0, 1) := dk_42 (dk_at dksX1_read_2 6 rfl rfl)
theorem dX1_read_53 : decode cX1_read 53 = .ok (.iconst 0, 1) := dk_3 (dk_at dksX1_read_2 7 rfl rfl)
theorem dX1_read_54 : decode cX1_read 54 = .ok (.putfield 246, 3) := dk_181 0 246 (dk_at dksX1_read_2 8 rfl rfl)
theorem dX1_read_57 : decode cX1_read 57 = .ok (.aload_n 0, 1) := dk_42 (dk_at dksX1_read_2 11 rfl rfl)
theorem dX1_read_58 : decode cX1_read 58 = .ok (.getfield 287, 3) := dk_180 1 31 (dk_at dksX1_read_2 12 rfl rfl)
theorem dX1_read_61 : decode cX1_read 61 = .ok (.iconst (-1), 1) := dk_2 (dk_at dksX1_read_2 15 rfl rfl)
theorem dX1_read_62 : decode cX1_read 62 = .ok (.if_icmp .eq 11, 3) := dk_159 0 11 (dk_at dksX1_read_2 16 rfl rfl)
theorem dX1_read_65 : decode cX1_read 65 = .ok (.bipush (-4), 2) := dk_16 252 (dk_at dksX1_read_2 19 rfl rfl)
theorem dX1_read_67 : decode cX1_read 67 = .ok (.aload_n 0, 1) := dk_42 (dk_at dksX1_read_2 21 rfl rfl)
theorem dX1_read_68 : decode cX1_read 68 = .ok (.getfield 287, 3) := dk_180 1 31 (dk_at dksX1_read_3 0 rfl rfl)
theorem dX1_read_71 : decode cX1_read 71 = .ok (.isub, 1) := dk_100 (dk_at dksX1_read_3 3 rfl rfl)
theorem dX1_read_72 : decode cX1_read 72 = .ok (.ireturn, 1) := dk_172 (dk_at dksX1_read_3 4 rfl rfl)
theorem dX1_read_73 : decode cX1_read 73 = .ok (.aload_n 0, 1) := dk_42 (dk_at dksX1_read_3 5 rfl rfl)
theorem dX1_read_74 : decode cX1_read 74 = .ok (.getfield 112, 3) := dk_180 0 112 (dk_at dksX1_read_3 6 rfl rfl)
theorem dX1_read_77 : decode cX1_read 77 = .ok (.iload_n 1, 1) := dk_27 (dk_at dksX1_read_3 9 rfl rfl)
theorem dX1_read_78 : decode cX1_read 78 = .ok (.iadd, 1) := dk_96 (dk_at dksX1_read_3 10 rfl rfl)
theorem dX1_read_79 : decode cX1_read 79 = .ok (.bipush 60, 2) := dk_16 60 (dk_at dksX1_read_3 11 rfl rfl)
theorem dX1_read_81 : decode cX1_read 81 = .ok (.if_icmp .le 6, 3) := dk_164 0 6 (dk_at dksX1_read_3 13 rfl rfl)
theorem dX1_read_84 : decode cX1_read 84 = .ok (.bipush (-3), 2) := dk_16 253 (dk_at dksX1_read_3 16 rfl rfl)
theorem dX1_read_86 : decode cX1_read 86 = .ok (.ireturn, 1) := dk_172 (dk_at dksX1_read_3 18 rfl rfl)
theorem dX1_read_87 : decode cX1_read 87 = .ok (.aload_n 0, 1) := dk_42 (dk_at dksX1_read_3 19 rfl rfl)
theorem dX1_read_88 : decode cX1_read 88 = .ok (.dup, 1) := dk_89 (dk_at dksX1_read_3 20 rfl rfl)
theorem dX1_read_89 : decode cX1_read 89 = .ok (.getfield 112, 3) := dk_180 0 112 (dk_at dksX1_read_3 21 rfl rfl)
theorem dX1_read_92 : decode cX1_read 92 = .ok (.iload_n 1, 1) := dk_27 (dk_at dksX1_read_4 0 rfl rfl)
theorem dX1_read_93 : decode cX1_read 93 = .ok (.iadd, 1) := dk_96 (dk_at dksX1_read_4 1 rfl rfl)
theorem dX1_read_94 : decode cX1_read 94 = .ok (.putfield 112, 3) := dk_181 0 112 (dk_at dksX1_read_4 2 rfl rfl)
theorem dX1_read_97 : decode cX1_read 97 = .ok (.iload_n 1, 1) := dk_27 (dk_at dksX1_read_4 5 rfl rfl)
theorem dX1_read_98 : decode cX1_read 98 = .ok (.ireturn, 1) := dk_172 (dk_at dksX1_read_4 6 rfl rfl)
abbrev cX1_goesOn : ByteArray := prog_17_method_51_code
def yX1_goesOn : MethodName := ⟨RX1, "goesOn", "()V"⟩
def dkwX1_goesOn_14 : List UInt8 := [89, 180, 1, 7, 4, 96, 181, 1, 7, 177]
abbrev dktX1_goesOn_14 : List UInt8 := dkwX1_goesOn_14 ++ []
def dkwX1_goesOn_13 : List UInt8 := [42, 42, 180, 0, 99, 42, 180, 1, 4, 46, 16, 59, 160, 0, 7, 6, 167, 0, 4, 7, 181, 1, 10, 42]
abbrev dktX1_goesOn_13 : List UInt8 := dkwX1_goesOn_13 ++ dktX1_goesOn_14
def dkwX1_goesOn_12 : List UInt8 := [180, 1, 7, 42, 180, 1, 4, 100, 16, 10, 164, 0, 7, 7, 167, 0, 4, 5, 181, 1, 10, 167, 0, 36]
abbrev dktX1_goesOn_12 : List UInt8 := dkwX1_goesOn_12 ++ dktX1_goesOn_13
def dkwX1_goesOn_11 : List UInt8 := [181, 1, 25, 42, 89, 180, 1, 7, 4, 96, 181, 1, 7, 167, 255, 194, 42, 27, 154, 0, 17, 42]
abbrev dktX1_goesOn_11 : List UInt8 := dkwX1_goesOn_11 ++ dktX1_goesOn_12
def dkwX1_goesOn_10 : List UInt8 := [20, 1, 29, 42, 180, 1, 25, 105, 42, 180, 0, 99, 42, 180, 1, 7, 46, 133, 97, 20, 0, 253, 101]
abbrev dktX1_goesOn_10 : List UInt8 := dkwX1_goesOn_10 ++ dktX1_goesOn_11
def dkwX1_goesOn_9 : List UInt8 := [180, 1, 7, 182, 1, 22, 153, 0, 57, 42, 180, 1, 7, 42, 180, 1, 4, 100, 16, 10, 162, 0, 30, 42]
abbrev dktX1_goesOn_9 : List UInt8 := dkwX1_goesOn_9 ++ dktX1_goesOn_10
def dkwX1_goesOn_8 : List UInt8 := [167, 255, 234, 167, 0, 147, 42, 42, 180, 1, 4, 182, 1, 22, 153, 0, 103, 42, 9, 181, 1, 25, 42, 42]
abbrev dktX1_goesOn_8 : List UInt8 := dkwX1_goesOn_8 ++ dktX1_goesOn_9
def dkwX1_goesOn_7 : List UInt8 := [3, 62, 29, 16, 10, 162, 0, 22, 42, 29, 182, 1, 19, 153, 0, 8, 42, 29, 181, 1, 13, 132, 3, 1]
abbrev dktX1_goesOn_7 : List UInt8 := dkwX1_goesOn_7 ++ dktX1_goesOn_8
def dkwX1_goesOn_6 : List UInt8 := [180, 1, 7, 4, 96, 181, 1, 7, 167, 255, 235, 42, 27, 153, 0, 7, 7, 167, 0, 4, 4, 181, 1, 10]
abbrev dktX1_goesOn_6 : List UInt8 := dkwX1_goesOn_6 ++ dktX1_goesOn_7
def dkwX1_goesOn_5 : List UInt8 := [180, 1, 4, 182, 1, 16, 153, 0, 70, 42, 42, 180, 1, 7, 182, 1, 16, 153, 0, 16, 42, 89]
abbrev dktX1_goesOn_5 : List UInt8 := dkwX1_goesOn_5 ++ dktX1_goesOn_6
def dkwX1_goesOn_4 : List UInt8 := [181, 1, 13, 42, 180, 1, 4, 42, 180, 0, 246, 160, 0, 11, 42, 3, 181, 1, 10, 167, 0, 225, 42, 42]
abbrev dktX1_goesOn_4 : List UInt8 := dkwX1_goesOn_4 ++ dktX1_goesOn_5
def dkwX1_goesOn_3 : List UInt8 := [181, 1, 4, 27, 153, 0, 15, 42, 180, 1, 4, 28, 160, 0, 7, 4, 167, 0, 4, 3, 60, 42, 16, 10]
abbrev dktX1_goesOn_3 : List UInt8 := dkwX1_goesOn_3 ++ dktX1_goesOn_4
def dkwX1_goesOn_2 : List UInt8 := [16, 32, 160, 0, 16, 42, 89, 180, 1, 7, 4, 96, 181, 1, 7, 167, 255, 221, 42, 42, 180, 1, 7]
abbrev dktX1_goesOn_2 : List UInt8 := dkwX1_goesOn_2 ++ dktX1_goesOn_3
def dkwX1_goesOn_1 : List UInt8 := [180, 1, 7, 61, 42, 180, 1, 7, 42, 180, 0, 246, 162, 0, 30, 42, 180, 0, 99, 42, 180, 1, 7, 46]
abbrev dktX1_goesOn_1 : List UInt8 := dkwX1_goesOn_1 ++ dktX1_goesOn_2
def dkwX1_goesOn_0 : List UInt8 := [42, 180, 1, 10, 4, 159, 0, 11, 42, 180, 1, 10, 5, 160, 0, 7, 4, 167, 0, 4, 3, 60, 42]
abbrev dktX1_goesOn_0 : List UInt8 := dkwX1_goesOn_0 ++ dktX1_goesOn_1
theorem dksX1_goesOn_0 : cX1_goesOn.data.toList.drop 0 = dktX1_goesOn_0 := by decide +kernel
theorem dksX1_goesOn_1 : cX1_goesOn.data.toList.drop 23 = dktX1_goesOn_1 := dk_seg dksX1_goesOn_0 23 rfl rfl
theorem dksX1_goesOn_2 : cX1_goesOn.data.toList.drop 47 = dktX1_goesOn_2 := dk_seg dksX1_goesOn_1 24 rfl rfl
theorem dksX1_goesOn_3 : cX1_goesOn.data.toList.drop 70 = dktX1_goesOn_3 := dk_seg dksX1_goesOn_2 23 rfl rfl
theorem dksX1_goesOn_4 : cX1_goesOn.data.toList.drop 94 = dktX1_goesOn_4 := dk_seg dksX1_goesOn_3 24 rfl rfl
theorem dksX1_goesOn_5 : cX1_goesOn.data.toList.drop 118 = dktX1_goesOn_5 := dk_seg dksX1_goesOn_4 24 rfl rfl
theorem dksX1_goesOn_6 : cX1_goesOn.data.toList.drop 140 = dktX1_goesOn_6 := dk_seg dksX1_goesOn_5 22 rfl rfl
theorem dksX1_goesOn_7 : cX1_goesOn.data.toList.drop 164 = dktX1_goesOn_7 := dk_seg dksX1_goesOn_6 24 rfl rfl
theorem dksX1_goesOn_8 : cX1_goesOn.data.toList.drop 188 = dktX1_goesOn_8 := dk_seg dksX1_goesOn_7 24 rfl rfl
theorem dksX1_goesOn_9 : cX1_goesOn.data.toList.drop 212 = dktX1_goesOn_9 := dk_seg dksX1_goesOn_8 24 rfl rfl
theorem dksX1_goesOn_10 : cX1_goesOn.data.toList.drop 236 = dktX1_goesOn_10 := dk_seg dksX1_goesOn_9 24 rfl rfl
theorem dksX1_goesOn_11 : cX1_goesOn.data.toList.drop 259 = dktX1_goesOn_11 := dk_seg dksX1_goesOn_10 23 rfl rfl
theorem dksX1_goesOn_12 : cX1_goesOn.data.toList.drop 281 = dktX1_goesOn_12 := dk_seg dksX1_goesOn_11 22 rfl rfl
theorem dksX1_goesOn_13 : cX1_goesOn.data.toList.drop 305 = dktX1_goesOn_13 := dk_seg dksX1_goesOn_12 24 rfl rfl
theorem dksX1_goesOn_14 : cX1_goesOn.data.toList.drop 329 = dktX1_goesOn_14 := dk_seg dksX1_goesOn_13 24 rfl rfl
theorem dX1_goesOn_0 : decode cX1_goesOn 0 = .ok (.aload_n 0, 1) := dk_42 (dk_at dksX1_goesOn_0 0 rfl rfl)
theorem dX1_goesOn_1 : decode cX1_goesOn 1 = .ok (.getfield 266, 3) := dk_180 1 10 (dk_at dksX1_goesOn_0 1 rfl rfl)
theorem dX1_goesOn_4 : decode cX1_goesOn 4 = .ok (.iconst 1, 1) := dk_4 (dk_at dksX1_goesOn_0 4 rfl rfl)
theorem dX1_goesOn_5 : decode cX1_goesOn 5 = .ok (.if_icmp .eq 11, 3) := dk_159 0 11 (dk_at dksX1_goesOn_0 5 rfl rfl)
theorem dX1_goesOn_8 : decode cX1_goesOn 8 = .ok (.aload_n 0, 1) := dk_42 (dk_at dksX1_goesOn_0 8 rfl rfl)
theorem dX1_goesOn_9 : decode cX1_goesOn 9 = .ok (.getfield 266, 3) := dk_180 1 10 (dk_at dksX1_goesOn_0 9 rfl rfl)
theorem dX1_goesOn_12 : decode cX1_goesOn 12 = .ok (.iconst 2, 1) := dk_5 (dk_at dksX1_goesOn_0 12 rfl rfl)
theorem dX1_goesOn_13 : decode cX1_goesOn 13 = .ok (.if_icmp .ne 7, 3) := dk_160 0 7 (dk_at dksX1_goesOn_0 13 rfl rfl)
theorem dX1_goesOn_16 : decode cX1_goesOn 16 = .ok (.iconst 1, 1) := dk_4 (dk_at dksX1_goesOn_0 16 rfl rfl)
theorem dX1_goesOn_17 : decode cX1_goesOn 17 = .ok (.goto 4, 3) := dk_167 0 4 (dk_at dksX1_goesOn_0 17 rfl rfl)
theorem dX1_goesOn_20 : decode cX1_goesOn 20 = .ok (.iconst 0, 1) := dk_3 (dk_at dksX1_goesOn_0 20 rfl rfl)
theorem dX1_goesOn_21 : decode cX1_goesOn 21 = .ok (.istore_n 1, 1) := dk_60 (dk_at dksX1_goesOn_0 21 rfl rfl)
theorem dX1_goesOn_22 : decode cX1_goesOn 22 = .ok (.aload_n 0, 1) := dk_42 (dk_at dksX1_goesOn_0 22 rfl rfl)
theorem dX1_goesOn_23 : decode cX1_goesOn 23 = .ok (.getfield 263, 3) := dk_180 1 7 (dk_at dksX1_goesOn_1 0 rfl rfl)
theorem dX1_goesOn_26 : decode cX1_goesOn 26 = .ok (.istore_n 2, 1) := dk_61 (dk_at dksX1_goesOn_1 3 rfl rfl)
theorem dX1_goesOn_27 : decode cX1_goesOn 27 = .ok (.aload_n 0, 1) := dk_42 (dk_at dksX1_goesOn_1 4 rfl rfl)
theorem dX1_goesOn_28 : decode cX1_goesOn 28 = .ok (.getfield 263, 3) := dk_180 1 7 (dk_at dksX1_goesOn_1 5 rfl rfl)
theorem dX1_goesOn_31 : decode cX1_goesOn 31 = .ok (.aload_n 0, 1) := dk_42 (dk_at dksX1_goesOn_1 8 rfl rfl)
theorem dX1_goesOn_32 : decode cX1_goesOn 32 = .ok (.getfield 246, 3) := dk_180 0 246 (dk_at dksX1_goesOn_1 9 rfl rfl)
theorem dX1_goesOn_35 : decode cX1_goesOn 35 = .ok (.if_icmp .ge 30, 3) := dk_162 0 30 (dk_at dksX1_goesOn_1 12 rfl rfl)
theorem dX1_goesOn_38 : decode cX1_goesOn 38 = .ok (.aload_n 0, 1) := dk_42 (dk_at dksX1_goesOn_1 15 rfl rfl)
theorem dX1_goesOn_39 : decode cX1_goesOn 39 = .ok (.getfield 99, 3) := dk_180 0 99 (dk_at dksX1_goesOn_1 16 rfl rfl)
theorem dX1_goesOn_42 : decode cX1_goesOn 42 = .ok (.aload_n 0, 1) := dk_42 (dk_at dksX1_goesOn_1 19 rfl rfl)
theorem dX1_goesOn_43 : decode cX1_goesOn 43 = .ok (.getfield 263, 3) := dk_180 1 7 (dk_at dksX1_goesOn_1 20 rfl rfl)
theorem dX1_goesOn_46 : decode cX1_goesOn 46 = .ok (.iaload, 1) := dk_46 (dk_at dksX1_goesOn_1 23 rfl rfl)
theorem dX1_goesOn_47 : decode cX1_goesOn 47 = .ok (.bipush 32, 2) := dk_16 32 (dk_at dksX1_goesOn_2 0 rfl rfl)
theorem dX1_goesOn_49 : decode cX1_goesOn 49 = .ok (.if_icmp .ne 16, 3) := dk_160 0 16 (dk_at dksX1_goesOn_2 2 rfl rfl)
theorem dX1_goesOn_52 : decode cX1_goesOn 52 = .ok (.aload_n 0, 1) := dk_42 (dk_at dksX1_goesOn_2 5 rfl rfl)
theorem dX1_goesOn_53 : decode cX1_goesOn 53 = .ok (.dup, 1) := dk_89 (dk_at dksX1_goesOn_2 6 rfl rfl)
theorem dX1_goesOn_54 : decode cX1_goesOn 54 = .ok (.getfield 263, 3) := dk_180 1 7 (dk_at dksX1_goesOn_2 7 rfl rfl)
theorem dX1_goesOn_57 : decode cX1_goesOn 57 = .ok (.iconst 1, 1) := dk_4 (dk_at dksX1_goesOn_2 10 rfl rfl)
theorem dX1_goesOn_58 : decode cX1_goesOn 58 = .ok (.iadd, 1) := dk_96 (dk_at dksX1_goesOn_2 11 rfl rfl)
theorem dX1_goesOn_59 : decode cX1_goesOn 59 = .ok (.putfield 263, 3) := dk_181 1 7 (dk_at dksX1_goesOn_2 12 rfl rfl)
theorem dX1_goesOn_62 : decode cX1_goesOn 62 = .ok (.goto (-35), 3) := dk_167 255 221 (dk_at dksX1_goesOn_2 15 rfl rfl)
theorem dX1_goesOn_65 : decode cX1_goesOn 65 = .ok (.aload_n 0, 1) := dk_42 (dk_at dksX1_goesOn_2 18 rfl rfl)
theorem dX1_goesOn_66 : decode cX1_goesOn 66 = .ok (.aload_n 0, 1) := dk_42 (dk_at dksX1_goesOn_2 19 rfl rfl)
theorem dX1_goesOn_67 : decode cX1_goesOn 67 = .ok (.getfield 263, 3) := dk_180 1 7 (dk_at dksX1_goesOn_2 20 rfl rfl)
theorem dX1_goesOn_70 : decode cX1_goesOn 70 = .ok (.putfield 260, 3) := dk_181 1 4 (dk_at dksX1_goesOn_3 0 rfl rfl)
theorem dX1_goesOn_73 : decode cX1_goesOn 73 = .ok (.iload_n 1, 1) := dk_27 (dk_at dksX1_goesOn_3 3 rfl rfl)
theorem dX1_goesOn_74 : decode cX1_goesOn 74 = .ok (.ifCond .eq 15, 3) := dk_153 0 15 (dk_at dksX1_goesOn_3 4 rfl rfl)
theorem dX1_goesOn_77 : decode cX1_goesOn 77 = .ok (.aload_n 0, 1) := dk_42 (dk_at dksX1_goesOn_3 7 rfl rfl)
theorem dX1_goesOn_78 : decode cX1_goesOn 78 = .ok (.getfield 260, 3) := dk_180 1 4 (dk_at dksX1_goesOn_3 8 rfl rfl)
theorem dX1_goesOn_81 : decode cX1_goesOn 81 = .ok (.iload_n 2, 1) := dk_28 (dk_at dksX1_goesOn_3 11 rfl rfl)
theorem dX1_goesOn_82 : decode cX1_goesOn 82 = .ok (.if_icmp .ne 7, 3) := dk_160 0 7 (dk_at dksX1_goesOn_3 12 rfl rfl)
theorem dX1_goesOn_85 : decode cX1_goesOn 85 = .ok (.iconst 1, 1) := dk_4 (dk_at dksX1_goesOn_3 15 rfl rfl)
theorem dX1_goesOn_86 : decode cX1_goesOn 86 = .ok (.goto 4, 3) := dk_167 0 4 (dk_at dksX1_goesOn_3 16 rfl rfl)
theorem dX1_goesOn_89 : decode cX1_goesOn 89 = .ok (.iconst 0, 1) := dk_3 (dk_at dksX1_goesOn_3 19 rfl rfl)
theorem dX1_goesOn_90 : decode cX1_goesOn 90 = .ok (.istore_n 1, 1) := dk_60 (dk_at dksX1_goesOn_3 20 rfl rfl)
theorem dX1_goesOn_91 : decode cX1_goesOn 91 = .ok (.aload_n 0, 1) := dk_42 (dk_at dksX1_goesOn_3 21 rfl rfl)
theorem dX1_goesOn_92 : decode cX1_goesOn 92 = .ok (.bipush 10, 2) := dk_16 10 (dk_at dksX1_goesOn_3 22 rfl rfl)
theorem dX1_goesOn_94 : decode cX1_goesOn 94 = .ok (.putfield 269, 3) := dk_181 1 13 (dk_at dksX1_goesOn_4 0 rfl rfl)
theorem dX1_goesOn_97 : decode cX1_goesOn 97 = .ok (.aload_n 0, 1) := dk_42 (dk_at dksX1_goesOn_4 3 rfl rfl)
theorem dX1_goesOn_98 : decode cX1_goesOn 98 = .ok (.getfield 260, 3) := dk_180 1 4 (dk_at dksX1_goesOn_4 4 rfl rfl)
theorem dX1_goesOn_101 : decode cX1_goesOn 101 = .ok (.aload_n 0, 1) := dk_42 (dk_at dksX1_goesOn_4 7 rfl rfl)
theorem dX1_goesOn_102 : decode cX1_goesOn 102 = .ok (.getfield 246, 3) := dk_180 0 246 (dk_at dksX1_goesOn_4 8 rfl rfl)
theorem dX1_goesOn_105 : decode cX1_goesOn 105 = .ok (.if_icmp .ne 11, 3) := dk_160 0 11 (dk_at dksX1_goesOn_4 11 rfl rfl)
theorem dX1_goesOn_108 : decode cX1_goesOn 108 = .ok (.aload_n 0, 1) := dk_42 (dk_at dksX1_goesOn_4 14 rfl rfl)
theorem dX1_goesOn_109 : decode cX1_goesOn 109 = .ok (.iconst 0, 1) := dk_3 (dk_at dksX1_goesOn_4 15 rfl rfl)
theorem dX1_goesOn_110 : decode cX1_goesOn 110 = .ok (.putfield 266, 3) := dk_181 1 10 (dk_at dksX1_goesOn_4 16 rfl rfl)
theorem dX1_goesOn_113 : decode cX1_goesOn 113 = .ok (.goto 225, 3) := dk_167 0 225 (dk_at dksX1_goesOn_4 19 rfl rfl)
theorem dX1_goesOn_116 : decode cX1_goesOn 116 = .ok (.aload_n 0, 1) := dk_42 (dk_at dksX1_goesOn_4 22 rfl rfl)
theorem dX1_goesOn_117 : decode cX1_goesOn 117 = .ok (.aload_n 0, 1) := dk_42 (dk_at dksX1_goesOn_4 23 rfl rfl)
theorem dX1_goesOn_118 : decode cX1_goesOn 118 = .ok (.getfield 260, 3) := dk_180 1 4 (dk_at dksX1_goesOn_5 0 rfl rfl)
theorem dX1_goesOn_121 : decode cX1_goesOn 121 = .ok (.invokevirtual 272, 3) := dk_182 1 16 (dk_at dksX1_goesOn_5 3 rfl rfl)
theorem dX1_goesOn_124 : decode cX1_goesOn 124 = .ok (.ifCond .eq 70, 3) := dk_153 0 70 (dk_at dksX1_goesOn_5 6 rfl rfl)
theorem dX1_goesOn_127 : decode cX1_goesOn 127 = .ok (.aload_n 0, 1) := dk_42 (dk_at dksX1_goesOn_5 9 rfl rfl)
theorem dX1_goesOn_128 : decode cX1_goesOn 128 = .ok (.aload_n 0, 1) := dk_42 (dk_at dksX1_goesOn_5 10 rfl rfl)
theorem dX1_goesOn_129 : decode cX1_goesOn 129 = .ok (.getfield 263, 3) := dk_180 1 7 (dk_at dksX1_goesOn_5 11 rfl rfl)
theorem dX1_goesOn_132 : decode cX1_goesOn 132 = .ok (.invokevirtual 272, 3) := dk_182 1 16 (dk_at dksX1_goesOn_5 14 rfl rfl)
theorem dX1_goesOn_135 : decode cX1_goesOn 135 = .ok (.ifCond .eq 16, 3) := dk_153 0 16 (dk_at dksX1_goesOn_5 17 rfl rfl)
theorem dX1_goesOn_138 : decode cX1_goesOn 138 = .ok (.aload_n 0, 1) := dk_42 (dk_at dksX1_goesOn_5 20 rfl rfl)
theorem dX1_goesOn_139 : decode cX1_goesOn 139 = .ok (.dup, 1) := dk_89 (dk_at dksX1_goesOn_5 21 rfl rfl)
theorem dX1_goesOn_140 : decode cX1_goesOn 140 = .ok (.getfield 263, 3) := dk_180 1 7 (dk_at dksX1_goesOn_6 0 rfl rfl)
theorem dX1_goesOn_143 : decode cX1_goesOn 143 = .ok (.iconst 1, 1) := dk_4 (dk_at dksX1_goesOn_6 3 rfl rfl)
theorem dX1_goesOn_144 : decode cX1_goesOn 144 = .ok (.iadd, 1) := dk_96 (dk_at dksX1_goesOn_6 4 rfl rfl)
theorem dX1_goesOn_145 : decode cX1_goesOn 145 = .ok (.putfield 263, 3) := dk_181 1 7 (dk_at dksX1_goesOn_6 5 rfl rfl)
theorem dX1_goesOn_148 : decode cX1_goesOn 148 = .ok (.goto (-21), 3) := dk_167 255 235 (dk_at dksX1_goesOn_6 8 rfl rfl)
theorem dX1_goesOn_151 : decode cX1_goesOn 151 = .ok (.aload_n 0, 1) := dk_42 (dk_at dksX1_goesOn_6 11 rfl rfl)
theorem dX1_goesOn_152 : decode cX1_goesOn 152 = .ok (.iload_n 1, 1) := dk_27 (dk_at dksX1_goesOn_6 12 rfl rfl)
theorem dX1_goesOn_153 : decode cX1_goesOn 153 = .ok (.ifCond .eq 7, 3) := dk_153 0 7 (dk_at dksX1_goesOn_6 13 rfl rfl)
theorem dX1_goesOn_156 : decode cX1_goesOn 156 = .ok (.iconst 4, 1) := dk_7 (dk_at dksX1_goesOn_6 16 rfl rfl)
theorem dX1_goesOn_157 : decode cX1_goesOn 157 = .ok (.goto 4, 3) := dk_167 0 4 (dk_at dksX1_goesOn_6 17 rfl rfl)
theorem dX1_goesOn_160 : decode cX1_goesOn 160 = .ok (.iconst 1, 1) := dk_4 (dk_at dksX1_goesOn_6 20 rfl rfl)
theorem dX1_goesOn_161 : decode cX1_goesOn 161 = .ok (.putfield 266, 3) := dk_181 1 10 (dk_at dksX1_goesOn_6 21 rfl rfl)
theorem dX1_goesOn_164 : decode cX1_goesOn 164 = .ok (.iconst 0, 1) := dk_3 (dk_at dksX1_goesOn_7 0 rfl rfl)
theorem dX1_goesOn_165 : decode cX1_goesOn 165 = .ok (.istore_n 3, 1) := dk_62 (dk_at dksX1_goesOn_7 1 rfl rfl)
theorem dX1_goesOn_166 : decode cX1_goesOn 166 = .ok (.iload_n 3, 1) := dk_29 (dk_at dksX1_goesOn_7 2 rfl rfl)
theorem dX1_goesOn_167 : decode cX1_goesOn 167 = .ok (.bipush 10, 2) := dk_16 10 (dk_at dksX1_goesOn_7 3 rfl rfl)
theorem dX1_goesOn_169 : decode cX1_goesOn 169 = .ok (.if_icmp .ge 22, 3) := dk_162 0 22 (dk_at dksX1_goesOn_7 5 rfl rfl)
theorem dX1_goesOn_172 : decode cX1_goesOn 172 = .ok (.aload_n 0, 1) := dk_42 (dk_at dksX1_goesOn_7 8 rfl rfl)
theorem dX1_goesOn_173 : decode cX1_goesOn 173 = .ok (.iload_n 3, 1) := dk_29 (dk_at dksX1_goesOn_7 9 rfl rfl)
theorem dX1_goesOn_174 : decode cX1_goesOn 174 = .ok (.invokevirtual 275, 3) := dk_182 1 19 (dk_at dksX1_goesOn_7 10 rfl rfl)
theorem dX1_goesOn_177 : decode cX1_goesOn 177 = .ok (.ifCond .eq 8, 3) := dk_153 0 8 (dk_at dksX1_goesOn_7 13 rfl rfl)
theorem dX1_goesOn_180 : decode cX1_goesOn 180 = .ok (.aload_n 0, 1) := dk_42 (dk_at dksX1_goesOn_7 16 rfl rfl)
theorem dX1_goesOn_181 : decode cX1_goesOn 181 = .ok (.iload_n 3, 1) := dk_29 (dk_at dksX1_goesOn_7 17 rfl rfl)
theorem dX1_goesOn_182 : decode cX1_goesOn 182 = .ok (.putfield 269, 3) := dk_181 1 13 (dk_at dksX1_goesOn_7 18 rfl rfl)
theorem dX1_goesOn_185 : decode cX1_goesOn 185 = .ok (.iinc 3 1, 3) := dk_132 3 1 (dk_at dksX1_goesOn_7 21 rfl rfl)
theorem dX1_goesOn_188 : decode cX1_goesOn 188 = .ok (.goto (-22), 3) := dk_167 255 234 (dk_at dksX1_goesOn_8 0 rfl rfl)
theorem dX1_goesOn_191 : decode cX1_goesOn 191 = .ok (.goto 147, 3) := dk_167 0 147 (dk_at dksX1_goesOn_8 3 rfl rfl)
theorem dX1_goesOn_194 : decode cX1_goesOn 194 = .ok (.aload_n 0, 1) := dk_42 (dk_at dksX1_goesOn_8 6 rfl rfl)
theorem dX1_goesOn_195 : decode cX1_goesOn 195 = .ok (.aload_n 0, 1) := dk_42 (dk_at dksX1_goesOn_8 7 rfl rfl)
theorem dX1_goesOn_196 : decode cX1_goesOn 196 = .ok (.getfield 260, 3) := dk_180 1 4 (dk_at dksX1_goesOn_8 8 rfl rfl)
theorem dX1_goesOn_199 : decode cX1_goesOn 199 = .ok (.invokevirtual 278, 3) := dk_182 1 22 (dk_at dksX1_goesOn_8 11 rfl rfl)
theorem dX1_goesOn_202 : decode cX1_goesOn 202 = .ok (.ifCond .eq 103, 3) := dk_153 0 103 (dk_at dksX1_goesOn_8 14 rfl rfl)
theorem dX1_goesOn_205 : decode cX1_goesOn 205 = .ok (.aload_n 0, 1) := dk_42 (dk_at dksX1_goesOn_8 17 rfl rfl)
theorem dX1_goesOn_206 : decode cX1_goesOn 206 = .ok (.lconst 0, 1) := dk_9 (dk_at dksX1_goesOn_8 18 rfl rfl)
theorem dX1_goesOn_207 : decode cX1_goesOn 207 = .ok (.putfield 281, 3) := dk_181 1 25 (dk_at dksX1_goesOn_8 19 rfl rfl)
theorem dX1_goesOn_210 : decode cX1_goesOn 210 = .ok (.aload_n 0, 1) := dk_42 (dk_at dksX1_goesOn_8 22 rfl rfl)
theorem dX1_goesOn_211 : decode cX1_goesOn 211 = .ok (.aload_n 0, 1) := dk_42 (dk_at dksX1_goesOn_8 23 rfl rfl)
theorem dX1_goesOn_212 : decode cX1_goesOn 212 = .ok (.getfield 263, 3) := dk_180 1 7 (dk_at dksX1_goesOn_9 0 rfl rfl)
theorem dX1_goesOn_215 : decode cX1_goesOn 215 = .ok (.invokevirtual 278, 3) := dk_182 1 22 (dk_at dksX1_goesOn_9 3 rfl rfl)
theorem dX1_goesOn_218 : decode cX1_goesOn 218 = .ok (.ifCond .eq 57, 3) := dk_153 0 57 (dk_at dksX1_goesOn_9 6 rfl rfl)
theorem dX1_goesOn_221 : decode cX1_goesOn 221 = .ok (.aload_n 0, 1) := dk_42 (dk_at dksX1_goesOn_9 9 rfl rfl)
theorem dX1_goesOn_222 : decode cX1_goesOn 222 = .ok (.getfield 263, 3) := dk_180 1 7 (dk_at dksX1_goesOn_9 10 rfl rfl)
theorem dX1_goesOn_225 : decode cX1_goesOn 225 = .ok (.aload_n 0, 1) := dk_42 (dk_at dksX1_goesOn_9 13 rfl rfl)
theorem dX1_goesOn_226 : decode cX1_goesOn 226 = .ok (.getfield 260, 3) := dk_180 1 4 (dk_at dksX1_goesOn_9 14 rfl rfl)
theorem dX1_goesOn_229 : decode cX1_goesOn 229 = .ok (.isub, 1) := dk_100 (dk_at dksX1_goesOn_9 17 rfl rfl)
theorem dX1_goesOn_230 : decode cX1_goesOn 230 = .ok (.bipush 10, 2) := dk_16 10 (dk_at dksX1_goesOn_9 18 rfl rfl)
theorem dX1_goesOn_232 : decode cX1_goesOn 232 = .ok (.if_icmp .ge 30, 3) := dk_162 0 30 (dk_at dksX1_goesOn_9 20 rfl rfl)
theorem dX1_goesOn_235 : decode cX1_goesOn 235 = .ok (.aload_n 0, 1) := dk_42 (dk_at dksX1_goesOn_9 23 rfl rfl)
theorem dX1_goesOn_236 : decode cX1_goesOn 236 = .ok (.ldc2_w 285, 3) := dk_20 1 29 (dk_at dksX1_goesOn_10 0 rfl rfl)
theorem dX1_goesOn_239 : decode cX1_goesOn 239 = .ok (.aload_n 0, 1) := dk_42 (dk_at dksX1_goesOn_10 3 rfl rfl)
theorem dX1_goesOn_240 : decode cX1_goesOn 240 = .ok (.getfield 281, 3) := dk_180 1 25 (dk_at dksX1_goesOn_10 4 rfl rfl)
theorem dX1_goesOn_243 : decode cX1_goesOn 243 = .ok (.lmul, 1) := dk_105 (dk_at dksX1_goesOn_10 7 rfl rfl)
theorem dX1_goesOn_244 : decode cX1_goesOn 244 = .ok (.aload_n 0, 1) := dk_42 (dk_at dksX1_goesOn_10 8 rfl rfl)
theorem dX1_goesOn_245 : decode cX1_goesOn 245 = .ok (.getfield 99, 3) := dk_180 0 99 (dk_at dksX1_goesOn_10 9 rfl rfl)
theorem dX1_goesOn_248 : decode cX1_goesOn 248 = .ok (.aload_n 0, 1) := dk_42 (dk_at dksX1_goesOn_10 12 rfl rfl)
theorem dX1_goesOn_249 : decode cX1_goesOn 249 = .ok (.getfield 263, 3) := dk_180 1 7 (dk_at dksX1_goesOn_10 13 rfl rfl)
theorem dX1_goesOn_252 : decode cX1_goesOn 252 = .ok (.iaload, 1) := dk_46 (dk_at dksX1_goesOn_10 16 rfl rfl)
theorem dX1_goesOn_253 : decode cX1_goesOn 253 = .ok (.i2l, 1) := dk_133 (dk_at dksX1_goesOn_10 17 rfl rfl)
theorem dX1_goesOn_254 : decode cX1_goesOn 254 = .ok (.ladd, 1) := dk_97 (dk_at dksX1_goesOn_10 18 rfl rfl)
theorem dX1_goesOn_255 : decode cX1_goesOn 255 = .ok (.ldc2_w 253, 3) := dk_20 0 253 (dk_at dksX1_goesOn_10 19 rfl rfl)
theorem dX1_goesOn_258 : decode cX1_goesOn 258 = .ok (.lsub, 1) := dk_101 (dk_at dksX1_goesOn_10 22 rfl rfl)
theorem dX1_goesOn_259 : decode cX1_goesOn 259 = .ok (.putfield 281, 3) := dk_181 1 25 (dk_at dksX1_goesOn_11 0 rfl rfl)
theorem dX1_goesOn_262 : decode cX1_goesOn 262 = .ok (.aload_n 0, 1) := dk_42 (dk_at dksX1_goesOn_11 3 rfl rfl)
theorem dX1_goesOn_263 : decode cX1_goesOn 263 = .ok (.dup, 1) := dk_89 (dk_at dksX1_goesOn_11 4 rfl rfl)
theorem dX1_goesOn_264 : decode cX1_goesOn 264 = .ok (.getfield 263, 3) := dk_180 1 7 (dk_at dksX1_goesOn_11 5 rfl rfl)
theorem dX1_goesOn_267 : decode cX1_goesOn 267 = .ok (.iconst 1, 1) := dk_4 (dk_at dksX1_goesOn_11 8 rfl rfl)
theorem dX1_goesOn_268 : decode cX1_goesOn 268 = .ok (.iadd, 1) := dk_96 (dk_at dksX1_goesOn_11 9 rfl rfl)
theorem dX1_goesOn_269 : decode cX1_goesOn 269 = .ok (.putfield 263, 3) := dk_181 1 7 (dk_at dksX1_goesOn_11 10 rfl rfl)
theorem dX1_goesOn_272 : decode cX1_goesOn 272 = .ok (.goto (-62), 3) := dk_167 255 194 (dk_at dksX1_goesOn_11 13 rfl rfl)
theorem dX1_goesOn_275 : decode cX1_goesOn 275 = .ok (.aload_n 0, 1) := dk_42 (dk_at dksX1_goesOn_11 16 rfl rfl)
theorem dX1_goesOn_276 : decode cX1_goesOn 276 = .ok (.iload_n 1, 1) := dk_27 (dk_at dksX1_goesOn_11 17 rfl rfl)
theorem dX1_goesOn_277 : decode cX1_goesOn 277 = .ok (.ifCond .ne 17, 3) := dk_154 0 17 (dk_at dksX1_goesOn_11 18 rfl rfl)
theorem dX1_goesOn_280 : decode cX1_goesOn 280 = .ok (.aload_n 0, 1) := dk_42 (dk_at dksX1_goesOn_11 21 rfl rfl)
theorem dX1_goesOn_281 : decode cX1_goesOn 281 = .ok (.getfield 263, 3) := dk_180 1 7 (dk_at dksX1_goesOn_12 0 rfl rfl)
theorem dX1_goesOn_284 : decode cX1_goesOn 284 = .ok (.aload_n 0, 1) := dk_42 (dk_at dksX1_goesOn_12 3 rfl rfl)
theorem dX1_goesOn_285 : decode cX1_goesOn 285 = .ok (.getfield 260, 3) := dk_180 1 4 (dk_at dksX1_goesOn_12 4 rfl rfl)
theorem dX1_goesOn_288 : decode cX1_goesOn 288 = .ok (.isub, 1) := dk_100 (dk_at dksX1_goesOn_12 7 rfl rfl)
theorem dX1_goesOn_289 : decode cX1_goesOn 289 = .ok (.bipush 10, 2) := dk_16 10 (dk_at dksX1_goesOn_12 8 rfl rfl)
theorem dX1_goesOn_291 : decode cX1_goesOn 291 = .ok (.if_icmp .le 7, 3) := dk_164 0 7 (dk_at dksX1_goesOn_12 10 rfl rfl)
theorem dX1_goesOn_294 : decode cX1_goesOn 294 = .ok (.iconst 4, 1) := dk_7 (dk_at dksX1_goesOn_12 13 rfl rfl)
theorem dX1_goesOn_295 : decode cX1_goesOn 295 = .ok (.goto 4, 3) := dk_167 0 4 (dk_at dksX1_goesOn_12 14 rfl rfl)
theorem dX1_goesOn_298 : decode cX1_goesOn 298 = .ok (.iconst 2, 1) := dk_5 (dk_at dksX1_goesOn_12 17 rfl rfl)
theorem dX1_goesOn_299 : decode cX1_goesOn 299 = .ok (.putfield 266, 3) := dk_181 1 10 (dk_at dksX1_goesOn_12 18 rfl rfl)
theorem dX1_goesOn_302 : decode cX1_goesOn 302 = .ok (.goto 36, 3) := dk_167 0 36 (dk_at dksX1_goesOn_12 21 rfl rfl)
theorem dX1_goesOn_305 : decode cX1_goesOn 305 = .ok (.aload_n 0, 1) := dk_42 (dk_at dksX1_goesOn_13 0 rfl rfl)
theorem dX1_goesOn_306 : decode cX1_goesOn 306 = .ok (.aload_n 0, 1) := dk_42 (dk_at dksX1_goesOn_13 1 rfl rfl)
theorem dX1_goesOn_307 : decode cX1_goesOn 307 = .ok (.getfield 99, 3) := dk_180 0 99 (dk_at dksX1_goesOn_13 2 rfl rfl)
theorem dX1_goesOn_310 : decode cX1_goesOn 310 = .ok (.aload_n 0, 1) := dk_42 (dk_at dksX1_goesOn_13 5 rfl rfl)
theorem dX1_goesOn_311 : decode cX1_goesOn 311 = .ok (.getfield 260, 3) := dk_180 1 4 (dk_at dksX1_goesOn_13 6 rfl rfl)
theorem dX1_goesOn_314 : decode cX1_goesOn 314 = .ok (.iaload, 1) := dk_46 (dk_at dksX1_goesOn_13 9 rfl rfl)
theorem dX1_goesOn_315 : decode cX1_goesOn 315 = .ok (.bipush 59, 2) := dk_16 59 (dk_at dksX1_goesOn_13 10 rfl rfl)
theorem dX1_goesOn_317 : decode cX1_goesOn 317 = .ok (.if_icmp .ne 7, 3) := dk_160 0 7 (dk_at dksX1_goesOn_13 12 rfl rfl)
theorem dX1_goesOn_320 : decode cX1_goesOn 320 = .ok (.iconst 3, 1) := dk_6 (dk_at dksX1_goesOn_13 15 rfl rfl)
theorem dX1_goesOn_321 : decode cX1_goesOn 321 = .ok (.goto 4, 3) := dk_167 0 4 (dk_at dksX1_goesOn_13 16 rfl rfl)
theorem dX1_goesOn_324 : decode cX1_goesOn 324 = .ok (.iconst 4, 1) := dk_7 (dk_at dksX1_goesOn_13 19 rfl rfl)
theorem dX1_goesOn_325 : decode cX1_goesOn 325 = .ok (.putfield 266, 3) := dk_181 1 10 (dk_at dksX1_goesOn_13 20 rfl rfl)
theorem dX1_goesOn_328 : decode cX1_goesOn 328 = .ok (.aload_n 0, 1) := dk_42 (dk_at dksX1_goesOn_13 23 rfl rfl)
theorem dX1_goesOn_329 : decode cX1_goesOn 329 = .ok (.dup, 1) := dk_89 (dk_at dksX1_goesOn_14 0 rfl rfl)
theorem dX1_goesOn_330 : decode cX1_goesOn 330 = .ok (.getfield 263, 3) := dk_180 1 7 (dk_at dksX1_goesOn_14 1 rfl rfl)
theorem dX1_goesOn_333 : decode cX1_goesOn 333 = .ok (.iconst 1, 1) := dk_4 (dk_at dksX1_goesOn_14 4 rfl rfl)
theorem dX1_goesOn_334 : decode cX1_goesOn 334 = .ok (.iadd, 1) := dk_96 (dk_at dksX1_goesOn_14 5 rfl rfl)
theorem dX1_goesOn_335 : decode cX1_goesOn 335 = .ok (.putfield 263, 3) := dk_181 1 7 (dk_at dksX1_goesOn_14 6 rfl rfl)
theorem dX1_goesOn_338 : decode cX1_goesOn 338 = .ok (.return_, 1) := dk_177 (dk_at dksX1_goesOn_14 9 rfl rfl)
abbrev cX1_isLetter : ByteArray := prog_17_method_47_code
def yX1_isLetter : MethodName := ⟨RX1, "isLetter", "(I)Z"⟩
def dkwX1_isLetter_1 : List UInt8 := [153, 0, 7, 4, 167, 0, 4, 3, 172]
abbrev dktX1_isLetter_1 : List UInt8 := dkwX1_isLetter_1 ++ []
def dkwX1_isLetter_0 : List UInt8 := [27, 42, 180, 0, 246, 162, 0, 26, 42, 180, 0, 99, 27, 46, 133, 20, 0, 249, 20, 0, 251, 184, 0, 11]
abbrev dktX1_isLetter_0 : List UInt8 := dkwX1_isLetter_0 ++ dktX1_isLetter_1
theorem dksX1_isLetter_0 : cX1_isLetter.data.toList.drop 0 = dktX1_isLetter_0 := by decide +kernel
theorem dksX1_isLetter_1 : cX1_isLetter.data.toList.drop 24 = dktX1_isLetter_1 := dk_seg dksX1_isLetter_0 24 rfl rfl
theorem dX1_isLetter_0 : decode cX1_isLetter 0 = .ok (.iload_n 1, 1) := dk_27 (dk_at dksX1_isLetter_0 0 rfl rfl)
theorem dX1_isLetter_1 : decode cX1_isLetter 1 = .ok (.aload_n 0, 1) := dk_42 (dk_at dksX1_isLetter_0 1 rfl rfl)
theorem dX1_isLetter_2 : decode cX1_isLetter 2 = .ok (.getfield 246, 3) := dk_180 0 246 (dk_at dksX1_isLetter_0 2 rfl rfl)
theorem dX1_isLetter_5 : decode cX1_isLetter 5 = .ok (.if_icmp .ge 26, 3) := dk_162 0 26 (dk_at dksX1_isLetter_0 5 rfl rfl)
theorem dX1_isLetter_8 : decode cX1_isLetter 8 = .ok (.aload_n 0, 1) := dk_42 (dk_at dksX1_isLetter_0 8 rfl rfl)
theorem dX1_isLetter_9 : decode cX1_isLetter 9 = .ok (.getfield 99, 3) := dk_180 0 99 (dk_at dksX1_isLetter_0 9 rfl rfl)
theorem dX1_isLetter_12 : decode cX1_isLetter 12 = .ok (.iload_n 1, 1) := dk_27 (dk_at dksX1_isLetter_0 12 rfl rfl)
theorem dX1_isLetter_13 : decode cX1_isLetter 13 = .ok (.iaload, 1) := dk_46 (dk_at dksX1_isLetter_0 13 rfl rfl)
theorem dX1_isLetter_14 : decode cX1_isLetter 14 = .ok (.i2l, 1) := dk_133 (dk_at dksX1_isLetter_0 14 rfl rfl)
theorem dX1_isLetter_15 : decode cX1_isLetter 15 = .ok (.ldc2_w 249, 3) := dk_20 0 249 (dk_at dksX1_isLetter_0 15 rfl rfl)
theorem dX1_isLetter_18 : decode cX1_isLetter 18 = .ok (.ldc2_w 251, 3) := dk_20 0 251 (dk_at dksX1_isLetter_0 18 rfl rfl)
theorem dX1_isLetter_21 : decode cX1_isLetter 21 = .ok (.invokestatic 11, 3) := dk_184 0 11 (dk_at dksX1_isLetter_0 21 rfl rfl)
theorem dX1_isLetter_24 : decode cX1_isLetter 24 = .ok (.ifCond .eq 7, 3) := dk_153 0 7 (dk_at dksX1_isLetter_1 0 rfl rfl)
theorem dX1_isLetter_27 : decode cX1_isLetter 27 = .ok (.iconst 1, 1) := dk_4 (dk_at dksX1_isLetter_1 3 rfl rfl)
theorem dX1_isLetter_28 : decode cX1_isLetter 28 = .ok (.goto 4, 3) := dk_167 0 4 (dk_at dksX1_isLetter_1 4 rfl rfl)
theorem dX1_isLetter_31 : decode cX1_isLetter 31 = .ok (.iconst 0, 1) := dk_3 (dk_at dksX1_isLetter_1 7 rfl rfl)
theorem dX1_isLetter_32 : decode cX1_isLetter 32 = .ok (.ireturn, 1) := dk_172 (dk_at dksX1_isLetter_1 8 rfl rfl)
abbrev cX1_isWord : ByteArray := prog_17_method_50_code
def yX1_isWord : MethodName := ⟨RX1, "isWord", "(I)Z"⟩
def dkwX1_isWord_3 : List UInt8 := [154, 0, 7, 4, 167, 0, 4, 3, 172]
abbrev dktX1_isWord_3 : List UInt8 := dkwX1_isWord_3 ++ []
def dkwX1_isWord_2 : List UInt8 := [167, 255, 218, 42, 180, 1, 4, 29, 96, 42, 180, 1, 7, 160, 0, 18, 42, 180, 0, 102, 28, 29, 96, 51]
abbrev dktX1_isWord_2 : List UInt8 := dkwX1_isWord_2 ++ dktX1_isWord_3
def dkwX1_isWord_1 : List UInt8 := [180, 0, 102, 28, 29, 96, 51, 42, 180, 0, 99, 42, 180, 1, 4, 29, 96, 46, 160, 0, 9, 132, 3, 1]
abbrev dktX1_isWord_1 : List UInt8 := dkwX1_isWord_1 ++ dktX1_isWord_2
def dkwX1_isWord_0 : List UInt8 := [42, 27, 182, 1, 1, 61, 3, 62, 42, 180, 1, 4, 29, 96, 42, 180, 1, 7, 162, 0, 31, 42]
abbrev dktX1_isWord_0 : List UInt8 := dkwX1_isWord_0 ++ dktX1_isWord_1
theorem dksX1_isWord_0 : cX1_isWord.data.toList.drop 0 = dktX1_isWord_0 := by decide +kernel
theorem dksX1_isWord_1 : cX1_isWord.data.toList.drop 22 = dktX1_isWord_1 := dk_seg dksX1_isWord_0 22 rfl rfl
theorem dksX1_isWord_2 : cX1_isWord.data.toList.drop 46 = dktX1_isWord_2 := dk_seg dksX1_isWord_1 24 rfl rfl
theorem dksX1_isWord_3 : cX1_isWord.data.toList.drop 70 = dktX1_isWord_3 := dk_seg dksX1_isWord_2 24 rfl rfl
theorem dX1_isWord_0 : decode cX1_isWord 0 = .ok (.aload_n 0, 1) := dk_42 (dk_at dksX1_isWord_0 0 rfl rfl)
theorem dX1_isWord_1 : decode cX1_isWord 1 = .ok (.iload_n 1, 1) := dk_27 (dk_at dksX1_isWord_0 1 rfl rfl)
theorem dX1_isWord_2 : decode cX1_isWord 2 = .ok (.invokevirtual 257, 3) := dk_182 1 1 (dk_at dksX1_isWord_0 2 rfl rfl)
theorem dX1_isWord_5 : decode cX1_isWord 5 = .ok (.istore_n 2, 1) := dk_61 (dk_at dksX1_isWord_0 5 rfl rfl)
theorem dX1_isWord_6 : decode cX1_isWord 6 = .ok (.iconst 0, 1) := dk_3 (dk_at dksX1_isWord_0 6 rfl rfl)
theorem dX1_isWord_7 : decode cX1_isWord 7 = .ok (.istore_n 3, 1) := dk_62 (dk_at dksX1_isWord_0 7 rfl rfl)
theorem dX1_isWord_8 : decode cX1_isWord 8 = .ok (.aload_n 0, 1) := dk_42 (dk_at dksX1_isWord_0 8 rfl rfl)
theorem dX1_isWord_9 : decode cX1_isWord 9 = .ok (.getfield 260, 3) := dk_180 1 4 (dk_at dksX1_isWord_0 9 rfl rfl)
theorem dX1_isWord_12 : decode cX1_isWord 12 = .ok (.iload_n 3, 1) := dk_29 (dk_at dksX1_isWord_0 12 rfl rfl)
theorem dX1_isWord_13 : decode cX1_isWord 13 = .ok (.iadd, 1) := dk_96 (dk_at dksX1_isWord_0 13 rfl rfl)
theorem dX1_isWord_14 : decode cX1_isWord 14 = .ok (.aload_n 0, 1) := dk_42 (dk_at dksX1_isWord_0 14 rfl rfl)
theorem dX1_isWord_15 : decode cX1_isWord 15 = .ok (.getfield 263, 3) := dk_180 1 7 (dk_at dksX1_isWord_0 15 rfl rfl)
theorem dX1_isWord_18 : decode cX1_isWord 18 = .ok (.if_icmp .ge 31, 3) := dk_162 0 31 (dk_at dksX1_isWord_0 18 rfl rfl)
theorem dX1_isWord_21 : decode cX1_isWord 21 = .ok (.aload_n 0, 1) := dk_42 (dk_at dksX1_isWord_0 21 rfl rfl)
theorem dX1_isWord_22 : decode cX1_isWord 22 = .ok (.getfield 102, 3) := dk_180 0 102 (dk_at dksX1_isWord_1 0 rfl rfl)
theorem dX1_isWord_25 : decode cX1_isWord 25 = .ok (.iload_n 2, 1) := dk_28 (dk_at dksX1_isWord_1 3 rfl rfl)
theorem dX1_isWord_26 : decode cX1_isWord 26 = .ok (.iload_n 3, 1) := dk_29 (dk_at dksX1_isWord_1 4 rfl rfl)
theorem dX1_isWord_27 : decode cX1_isWord 27 = .ok (.iadd, 1) := dk_96 (dk_at dksX1_isWord_1 5 rfl rfl)
theorem dX1_isWord_28 : decode cX1_isWord 28 = .ok (.baload, 1) := dk_51 (dk_at dksX1_isWord_1 6 rfl rfl)
theorem dX1_isWord_29 : decode cX1_isWord 29 = .ok (.aload_n 0, 1) := dk_42 (dk_at dksX1_isWord_1 7 rfl rfl)
theorem dX1_isWord_30 : decode cX1_isWord 30 = .ok (.getfield 99, 3) := dk_180 0 99 (dk_at dksX1_isWord_1 8 rfl rfl)
theorem dX1_isWord_33 : decode cX1_isWord 33 = .ok (.aload_n 0, 1) := dk_42 (dk_at dksX1_isWord_1 11 rfl rfl)
theorem dX1_isWord_34 : decode cX1_isWord 34 = .ok (.getfield 260, 3) := dk_180 1 4 (dk_at dksX1_isWord_1 12 rfl rfl)
theorem dX1_isWord_37 : decode cX1_isWord 37 = .ok (.iload_n 3, 1) := dk_29 (dk_at dksX1_isWord_1 15 rfl rfl)
theorem dX1_isWord_38 : decode cX1_isWord 38 = .ok (.iadd, 1) := dk_96 (dk_at dksX1_isWord_1 16 rfl rfl)
theorem dX1_isWord_39 : decode cX1_isWord 39 = .ok (.iaload, 1) := dk_46 (dk_at dksX1_isWord_1 17 rfl rfl)
theorem dX1_isWord_40 : decode cX1_isWord 40 = .ok (.if_icmp .ne 9, 3) := dk_160 0 9 (dk_at dksX1_isWord_1 18 rfl rfl)
theorem dX1_isWord_43 : decode cX1_isWord 43 = .ok (.iinc 3 1, 3) := dk_132 3 1 (dk_at dksX1_isWord_1 21 rfl rfl)
theorem dX1_isWord_46 : decode cX1_isWord 46 = .ok (.goto (-38), 3) := dk_167 255 218 (dk_at dksX1_isWord_2 0 rfl rfl)
theorem dX1_isWord_49 : decode cX1_isWord 49 = .ok (.aload_n 0, 1) := dk_42 (dk_at dksX1_isWord_2 3 rfl rfl)
theorem dX1_isWord_50 : decode cX1_isWord 50 = .ok (.getfield 260, 3) := dk_180 1 4 (dk_at dksX1_isWord_2 4 rfl rfl)
theorem dX1_isWord_53 : decode cX1_isWord 53 = .ok (.iload_n 3, 1) := dk_29 (dk_at dksX1_isWord_2 7 rfl rfl)
theorem dX1_isWord_54 : decode cX1_isWord 54 = .ok (.iadd, 1) := dk_96 (dk_at dksX1_isWord_2 8 rfl rfl)
theorem dX1_isWord_55 : decode cX1_isWord 55 = .ok (.aload_n 0, 1) := dk_42 (dk_at dksX1_isWord_2 9 rfl rfl)
theorem dX1_isWord_56 : decode cX1_isWord 56 = .ok (.getfield 263, 3) := dk_180 1 7 (dk_at dksX1_isWord_2 10 rfl rfl)
theorem dX1_isWord_59 : decode cX1_isWord 59 = .ok (.if_icmp .ne 18, 3) := dk_160 0 18 (dk_at dksX1_isWord_2 13 rfl rfl)
theorem dX1_isWord_62 : decode cX1_isWord 62 = .ok (.aload_n 0, 1) := dk_42 (dk_at dksX1_isWord_2 16 rfl rfl)
theorem dX1_isWord_63 : decode cX1_isWord 63 = .ok (.getfield 102, 3) := dk_180 0 102 (dk_at dksX1_isWord_2 17 rfl rfl)
theorem dX1_isWord_66 : decode cX1_isWord 66 = .ok (.iload_n 2, 1) := dk_28 (dk_at dksX1_isWord_2 20 rfl rfl)
theorem dX1_isWord_67 : decode cX1_isWord 67 = .ok (.iload_n 3, 1) := dk_29 (dk_at dksX1_isWord_2 21 rfl rfl)
theorem dX1_isWord_68 : decode cX1_isWord 68 = .ok (.iadd, 1) := dk_96 (dk_at dksX1_isWord_2 22 rfl rfl)
theorem dX1_isWord_69 : decode cX1_isWord 69 = .ok (.baload, 1) := dk_51 (dk_at dksX1_isWord_2 23 rfl rfl)
theorem dX1_isWord_70 : decode cX1_isWord 70 = .ok (.ifCond .ne 7, 3) := dk_154 0 7 (dk_at dksX1_isWord_3 0 rfl rfl)
theorem dX1_isWord_73 : decode cX1_isWord 73 = .ok (.iconst 1, 1) := dk_4 (dk_at dksX1_isWord_3 3 rfl rfl)
theorem dX1_isWord_74 : decode cX1_isWord 74 = .ok (.goto 4, 3) := dk_167 0 4 (dk_at dksX1_isWord_3 4 rfl rfl)
theorem dX1_isWord_77 : decode cX1_isWord 77 = .ok (.iconst 0, 1) := dk_3 (dk_at dksX1_isWord_3 7 rfl rfl)
theorem dX1_isWord_78 : decode cX1_isWord 78 = .ok (.ireturn, 1) := dk_172 (dk_at dksX1_isWord_3 8 rfl rfl)
abbrev cX1_wordFrom : ByteArray := prog_17_method_49_code
def yX1_wordFrom : MethodName := ⟨RX1, "wordFrom", "(I)I"⟩
def dkwX1_wordFrom_1 : List UInt8 := [167, 255, 237, 28, 172]
abbrev dktX1_wordFrom_1 : List UInt8 := dkwX1_wordFrom_1 ++ []
def dkwX1_wordFrom_0 : List UInt8 := [3, 61, 27, 62, 29, 158, 0, 21, 42, 180, 0, 102, 28, 51, 154, 0, 6, 132, 3, 255, 132, 2, 1]
abbrev dktX1_wordFrom_0 : List UInt8 := dkwX1_wordFrom_0 ++ dktX1_wordFrom_1
theorem dksX1_wordFrom_0 : cX1_wordFrom.data.toList.drop 0 = dktX1_wordFrom_0 := by decide +kernel
theorem dksX1_wordFrom_1 : cX1_wordFrom.data.toList.drop 23 = dktX1_wordFrom_1 := dk_seg dksX1_wordFrom_0 23 rfl rfl
theorem dX1_wordFrom_0 : decode cX1_wordFrom 0 = .ok (.iconst 0, 1) := dk_3 (dk_at dksX1_wordFrom_0 0 rfl rfl)
theorem dX1_wordFrom_1 : decode cX1_wordFrom 1 = .ok (.istore_n 2, 1) := dk_61 (dk_at dksX1_wordFrom_0 1 rfl rfl)
theorem dX1_wordFrom_2 : decode cX1_wordFrom 2 = .ok (.iload_n 1, 1) := dk_27 (dk_at dksX1_wordFrom_0 2 rfl rfl)
theorem dX1_wordFrom_3 : decode cX1_wordFrom 3 = .ok (.istore_n 3, 1) := dk_62 (dk_at dksX1_wordFrom_0 3 rfl rfl)
theorem dX1_wordFrom_4 : decode cX1_wordFrom 4 = .ok (.iload_n 3, 1) := dk_29 (dk_at dksX1_wordFrom_0 4 rfl rfl)
theorem dX1_wordFrom_5 : decode cX1_wordFrom 5 = .ok (.ifCond .le 21, 3) := dk_158 0 21 (dk_at dksX1_wordFrom_0 5 rfl rfl)
theorem dX1_wordFrom_8 : decode cX1_wordFrom 8 = .ok (.aload_n 0, 1) := dk_42 (dk_at dksX1_wordFrom_0 8 rfl rfl)
theorem dX1_wordFrom_9 : decode cX1_wordFrom 9 = .ok (.getfield 102, 3) := dk_180 0 102 (dk_at dksX1_wordFrom_0 9 rfl rfl)
theorem dX1_wordFrom_12 : decode cX1_wordFrom 12 = .ok (.iload_n 2, 1) := dk_28 (dk_at dksX1_wordFrom_0 12 rfl rfl)
theorem dX1_wordFrom_13 : decode cX1_wordFrom 13 = .ok (.baload, 1) := dk_51 (dk_at dksX1_wordFrom_0 13 rfl rfl)
theorem dX1_wordFrom_14 : decode cX1_wordFrom 14 = .ok (.ifCond .ne 6, 3) := dk_154 0 6 (dk_at dksX1_wordFrom_0 14 rfl rfl)
theorem dX1_wordFrom_17 : decode cX1_wordFrom 17 = .ok (.iinc 3 (-1), 3) := dk_132 3 255 (dk_at dksX1_wordFrom_0 17 rfl rfl)
theorem dX1_wordFrom_20 : decode cX1_wordFrom 20 = .ok (.iinc 2 1, 3) := dk_132 2 1 (dk_at dksX1_wordFrom_0 20 rfl rfl)
theorem dX1_wordFrom_23 : decode cX1_wordFrom 23 = .ok (.goto (-19), 3) := dk_167 255 237 (dk_at dksX1_wordFrom_1 0 rfl rfl)
theorem dX1_wordFrom_26 : decode cX1_wordFrom 26 = .ok (.iload_n 2, 1) := dk_28 (dk_at dksX1_wordFrom_1 3 rfl rfl)
theorem dX1_wordFrom_27 : decode cX1_wordFrom 27 = .ok (.ireturn, 1) := dk_172 (dk_at dksX1_wordFrom_1 4 rfl rfl)
abbrev cX1_isDigit : ByteArray := prog_17_method_48_code
def yX1_isDigit : MethodName := ⟨RX1, "isDigit", "(I)Z"⟩
def dkwX1_isDigit_1 : List UInt8 := [153, 0, 7, 4, 167, 0, 4, 3, 172]
abbrev dktX1_isDigit_1 : List UInt8 := dkwX1_isDigit_1 ++ []
def dkwX1_isDigit_0 : List UInt8 := [27, 42, 180, 0, 246, 162, 0, 26, 42, 180, 0, 99, 27, 46, 133, 20, 0, 253, 20, 0, 255, 184, 0, 11]
abbrev dktX1_isDigit_0 : List UInt8 := dkwX1_isDigit_0 ++ dktX1_isDigit_1
theorem dksX1_isDigit_0 : cX1_isDigit.data.toList.drop 0 = dktX1_isDigit_0 := by decide +kernel
theorem dksX1_isDigit_1 : cX1_isDigit.data.toList.drop 24 = dktX1_isDigit_1 := dk_seg dksX1_isDigit_0 24 rfl rfl
theorem dX1_isDigit_0 : decode cX1_isDigit 0 = .ok (.iload_n 1, 1) := dk_27 (dk_at dksX1_isDigit_0 0 rfl rfl)
theorem dX1_isDigit_1 : decode cX1_isDigit 1 = .ok (.aload_n 0, 1) := dk_42 (dk_at dksX1_isDigit_0 1 rfl rfl)
theorem dX1_isDigit_2 : decode cX1_isDigit 2 = .ok (.getfield 246, 3) := dk_180 0 246 (dk_at dksX1_isDigit_0 2 rfl rfl)
theorem dX1_isDigit_5 : decode cX1_isDigit 5 = .ok (.if_icmp .ge 26, 3) := dk_162 0 26 (dk_at dksX1_isDigit_0 5 rfl rfl)
theorem dX1_isDigit_8 : decode cX1_isDigit 8 = .ok (.aload_n 0, 1) := dk_42 (dk_at dksX1_isDigit_0 8 rfl rfl)
theorem dX1_isDigit_9 : decode cX1_isDigit 9 = .ok (.getfield 99, 3) := dk_180 0 99 (dk_at dksX1_isDigit_0 9 rfl rfl)
theorem dX1_isDigit_12 : decode cX1_isDigit 12 = .ok (.iload_n 1, 1) := dk_27 (dk_at dksX1_isDigit_0 12 rfl rfl)
theorem dX1_isDigit_13 : decode cX1_isDigit 13 = .ok (.iaload, 1) := dk_46 (dk_at dksX1_isDigit_0 13 rfl rfl)
theorem dX1_isDigit_14 : decode cX1_isDigit 14 = .ok (.i2l, 1) := dk_133 (dk_at dksX1_isDigit_0 14 rfl rfl)
theorem dX1_isDigit_15 : decode cX1_isDigit 15 = .ok (.ldc2_w 253, 3) := dk_20 0 253 (dk_at dksX1_isDigit_0 15 rfl rfl)
theorem dX1_isDigit_18 : decode cX1_isDigit 18 = .ok (.ldc2_w 255, 3) := dk_20 0 255 (dk_at dksX1_isDigit_0 18 rfl rfl)
theorem dX1_isDigit_21 : decode cX1_isDigit 21 = .ok (.invokestatic 11, 3) := dk_184 0 11 (dk_at dksX1_isDigit_0 21 rfl rfl)
theorem dX1_isDigit_24 : decode cX1_isDigit 24 = .ok (.ifCond .eq 7, 3) := dk_153 0 7 (dk_at dksX1_isDigit_1 0 rfl rfl)
theorem dX1_isDigit_27 : decode cX1_isDigit 27 = .ok (.iconst 1, 1) := dk_4 (dk_at dksX1_isDigit_1 3 rfl rfl)
theorem dX1_isDigit_28 : decode cX1_isDigit 28 = .ok (.goto 4, 3) := dk_167 0 4 (dk_at dksX1_isDigit_1 4 rfl rfl)
theorem dX1_isDigit_31 : decode cX1_isDigit 31 = .ok (.iconst 0, 1) := dk_3 (dk_at dksX1_isDigit_1 7 rfl rfl)
theorem dX1_isDigit_32 : decode cX1_isDigit 32 = .ok (.ireturn, 1) := dk_172 (dk_at dksX1_isDigit_1 8 rfl rfl)
abbrev cX1_readsLine : ByteArray := prog_17_method_57_code
def yX1_readsLine : MethodName := ⟨RX1, "readsLine", "(I)V"⟩
def dkwX1_readsLine_8 : List UInt8 := [182, 1, 34, 177]
abbrev dktX1_readsLine_8 : List UInt8 := dkwX1_readsLine_8 ++ []
def dkwX1_readsLine_7 : List UInt8 := [180, 1, 31, 2, 159, 0, 4, 177, 42, 180, 1, 10, 6, 160, 0, 10, 42, 182, 1, 37, 167, 0, 7, 42]
abbrev dktX1_readsLine_7 : List UInt8 := dkwX1_readsLine_7 ++ dktX1_readsLine_8
def dkwX1_readsLine_6 : List UInt8 := [28, 7, 160, 0, 9, 42, 16, 9, 182, 1, 44, 28, 184, 0, 190, 153, 0, 8, 42, 27, 182, 1, 53, 42]
abbrev dktX1_readsLine_6 : List UInt8 := dkwX1_readsLine_6 ++ dktX1_readsLine_7
def dkwX1_readsLine_5 : List UInt8 := [16, 8, 167, 0, 5, 16, 6, 182, 1, 44, 28, 184, 1, 47, 153, 0, 10, 42, 27, 21, 4, 182, 1, 50]
abbrev dktX1_readsLine_5 : List UInt8 := dkwX1_readsLine_5 ++ dktX1_readsLine_6
def dkwX1_readsLine_4 : List UInt8 := [79, 42, 180, 0, 62, 27, 42, 4, 16, 99, 182, 1, 41, 79, 28, 153, 0, 19, 42, 28, 7, 160, 0, 8]
abbrev dktX1_readsLine_4 : List UInt8 := dkwX1_readsLine_4 ++ dktX1_readsLine_5
def dkwX1_readsLine_3 : List UInt8 := [184, 0, 190, 153, 0, 35, 42, 16, 7, 182, 1, 44, 42, 180, 0, 59, 27, 42, 4, 16, 99, 182, 1, 41]
abbrev dktX1_readsLine_3 : List UInt8 := dkwX1_readsLine_3 ++ dktX1_readsLine_4
def dkwX1_readsLine_2 : List UInt8 := [3, 54, 4, 28, 4, 160, 0, 18, 42, 8, 182, 1, 44, 42, 5, 17, 3, 231, 182, 1, 41, 54, 4, 28]
abbrev dktX1_readsLine_2 : List UInt8 := dkwX1_readsLine_2 ++ dktX1_readsLine_3
def dkwX1_readsLine_1 : List UInt8 := [180, 1, 13, 61, 42, 182, 1, 37, 42, 5, 19, 1, 40, 182, 1, 41, 62, 42, 27, 29, 28, 182, 0, 115]
abbrev dktX1_readsLine_1 : List UInt8 := dkwX1_readsLine_1 ++ dktX1_readsLine_2
def dkwX1_readsLine_0 : List UInt8 := [42, 180, 1, 10, 4, 160, 0, 11, 42, 180, 1, 13, 7, 164, 0, 8, 42, 182, 1, 34, 177, 42]
abbrev dktX1_readsLine_0 : List UInt8 := dkwX1_readsLine_0 ++ dktX1_readsLine_1
theorem dksX1_readsLine_0 : cX1_readsLine.data.toList.drop 0 = dktX1_readsLine_0 := by decide +kernel
theorem dksX1_readsLine_1 : cX1_readsLine.data.toList.drop 22 = dktX1_readsLine_1 := dk_seg dksX1_readsLine_0 22 rfl rfl
theorem dksX1_readsLine_2 : cX1_readsLine.data.toList.drop 46 = dktX1_readsLine_2 := dk_seg dksX1_readsLine_1 24 rfl rfl
theorem dksX1_readsLine_3 : cX1_readsLine.data.toList.drop 70 = dktX1_readsLine_3 := dk_seg dksX1_readsLine_2 24 rfl rfl
theorem dksX1_readsLine_4 : cX1_readsLine.data.toList.drop 94 = dktX1_readsLine_4 := dk_seg dksX1_readsLine_3 24 rfl rfl
theorem dksX1_readsLine_5 : cX1_readsLine.data.toList.drop 118 = dktX1_readsLine_5 := dk_seg dksX1_readsLine_4 24 rfl rfl
theorem dksX1_readsLine_6 : cX1_readsLine.data.toList.drop 142 = dktX1_readsLine_6 := dk_seg dksX1_readsLine_5 24 rfl rfl
theorem dksX1_readsLine_7 : cX1_readsLine.data.toList.drop 166 = dktX1_readsLine_7 := dk_seg dksX1_readsLine_6 24 rfl rfl
theorem dksX1_readsLine_8 : cX1_readsLine.data.toList.drop 190 = dktX1_readsLine_8 := dk_seg dksX1_readsLine_7 24 rfl rfl
theorem dX1_readsLine_0 : decode cX1_readsLine 0 = .ok (.aload_n 0, 1) := dk_42 (dk_at dksX1_readsLine_0 0 rfl rfl)
theorem dX1_readsLine_1 : decode cX1_readsLine 1 = .ok (.getfield 266, 3) := dk_180 1 10 (dk_at dksX1_readsLine_0 1 rfl rfl)
theorem dX1_readsLine_4 : decode cX1_readsLine 4 = .ok (.iconst 1, 1) := dk_4 (dk_at dksX1_readsLine_0 4 rfl rfl)
theorem dX1_readsLine_5 : decode cX1_readsLine 5 = .ok (.if_icmp .ne 11, 3) := dk_160 0 11 (dk_at dksX1_readsLine_0 5 rfl rfl)
theorem dX1_readsLine_8 : decode cX1_readsLine 8 = .ok (.aload_n 0, 1) := dk_42 (dk_at dksX1_readsLine_0 8 rfl rfl)
theorem dX1_readsLine_9 : decode cX1_readsLine 9 = .ok (.getfield 269, 3) := dk_180 1 13 (dk_at dksX1_readsLine_0 9 rfl rfl)
theorem dX1_readsLine_12 : decode cX1_readsLine 12 = .ok (.iconst 4, 1) := dk_7 (dk_at dksX1_readsLine_0 12 rfl rfl)
theorem dX1_readsLine_13 : decode cX1_readsLine 13 = .ok (.if_icmp .le 8, 3) := dk_164 0 8 (dk_at dksX1_readsLine_0 13 rfl rfl)
theorem dX1_readsLine_16 : decode cX1_readsLine 16 = .ok (.aload_n 0, 1) := dk_42 (dk_at dksX1_readsLine_0 16 rfl rfl)
theorem dX1_readsLine_17 : decode cX1_readsLine 17 = .ok (.invokevirtual 290, 3) := dk_182 1 34 (dk_at dksX1_readsLine_0 17 rfl rfl)
theorem dX1_readsLine_20 : decode cX1_readsLine 20 = .ok (.return_, 1) := dk_177 (dk_at dksX1_readsLine_0 20 rfl rfl)
theorem dX1_readsLine_21 : decode cX1_readsLine 21 = .ok (.aload_n 0, 1) := dk_42 (dk_at dksX1_readsLine_0 21 rfl rfl)
theorem dX1_readsLine_22 : decode cX1_readsLine 22 = .ok (.getfield 269, 3) := dk_180 1 13 (dk_at dksX1_readsLine_1 0 rfl rfl)
theorem dX1_readsLine_25 : decode cX1_readsLine 25 = .ok (.istore_n 2, 1) := dk_61 (dk_at dksX1_readsLine_1 3 rfl rfl)
theorem dX1_readsLine_26 : decode cX1_readsLine 26 = .ok (.aload_n 0, 1) := dk_42 (dk_at dksX1_readsLine_1 4 rfl rfl)
theorem dX1_readsLine_27 : decode cX1_readsLine 27 = .ok (.invokevirtual 293, 3) := dk_182 1 37 (dk_at dksX1_readsLine_1 5 rfl rfl)
theorem dX1_readsLine_30 : decode cX1_readsLine 30 = .ok (.aload_n 0, 1) := dk_42 (dk_at dksX1_readsLine_1 8 rfl rfl)
theorem dX1_readsLine_31 : decode cX1_readsLine 31 = .ok (.iconst 2, 1) := dk_5 (dk_at dksX1_readsLine_1 9 rfl rfl)
theorem dX1_readsLine_32 : decode cX1_readsLine 32 = .ok (.ldc_w 296, 3) := dk_19 1 40 (dk_at dksX1_readsLine_1 10 rfl rfl)
theorem dX1_readsLine_35 : decode cX1_readsLine 35 = .ok (.invokevirtual 297, 3) := dk_182 1 41 (dk_at dksX1_readsLine_1 13 rfl rfl)
theorem dX1_readsLine_38 : decode cX1_readsLine 38 = .ok (.istore_n 3, 1) := dk_62 (dk_at dksX1_readsLine_1 16 rfl rfl)
theorem dX1_readsLine_39 : decode cX1_readsLine 39 = .ok (.aload_n 0, 1) := dk_42 (dk_at dksX1_readsLine_1 17 rfl rfl)
theorem dX1_readsLine_40 : decode cX1_readsLine 40 = .ok (.iload_n 1, 1) := dk_27 (dk_at dksX1_readsLine_1 18 rfl rfl)
theorem dX1_readsLine_41 : decode cX1_readsLine 41 = .ok (.iload_n 3, 1) := dk_29 (dk_at dksX1_readsLine_1 19 rfl rfl)
theorem dX1_readsLine_42 : decode cX1_readsLine 42 = .ok (.iload_n 2, 1) := dk_28 (dk_at dksX1_readsLine_1 20 rfl rfl)
theorem dX1_readsLine_43 : decode cX1_readsLine 43 = .ok (.invokevirtual 115, 3) := dk_182 0 115 (dk_at dksX1_readsLine_1 21 rfl rfl)
theorem dX1_readsLine_46 : decode cX1_readsLine 46 = .ok (.iconst 0, 1) := dk_3 (dk_at dksX1_readsLine_2 0 rfl rfl)
theorem dX1_readsLine_47 : decode cX1_readsLine 47 = .ok (.istore 4, 2) := dk_54 4 (dk_at dksX1_readsLine_2 1 rfl rfl)
theorem dX1_readsLine_49 : decode cX1_readsLine 49 = .ok (.iload_n 2, 1) := dk_28 (dk_at dksX1_readsLine_2 3 rfl rfl)
theorem dX1_readsLine_50 : decode cX1_readsLine 50 = .ok (.iconst 1, 1) := dk_4 (dk_at dksX1_readsLine_2 4 rfl rfl)
theorem dX1_readsLine_51 : decode cX1_readsLine 51 = .ok (.if_icmp .ne 18, 3) := dk_160 0 18 (dk_at dksX1_readsLine_2 5 rfl rfl)
theorem dX1_readsLine_54 : decode cX1_readsLine 54 = .ok (.aload_n 0, 1) := dk_42 (dk_at dksX1_readsLine_2 8 rfl rfl)
theorem dX1_readsLine_55 : decode cX1_readsLine 55 = .ok (.iconst 5, 1) := dk_8 (dk_at dksX1_readsLine_2 9 rfl rfl)
theorem dX1_readsLine_56 : decode cX1_readsLine 56 = .ok (.invokevirtual 300, 3) := dk_182 1 44 (dk_at dksX1_readsLine_2 10 rfl rfl)
theorem dX1_readsLine_59 : decode cX1_readsLine 59 = .ok (.aload_n 0, 1) := dk_42 (dk_at dksX1_readsLine_2 13 rfl rfl)
theorem dX1_readsLine_60 : decode cX1_readsLine 60 = .ok (.iconst 2, 1) := dk_5 (dk_at dksX1_readsLine_2 14 rfl rfl)
theorem dX1_readsLine_61 : decode cX1_readsLine 61 = .ok (.sipush 999, 3) := dk_17 3 231 (dk_at dksX1_readsLine_2 15 rfl rfl)
theorem dX1_readsLine_64 : decode cX1_readsLine 64 = .ok (.invokevirtual 297, 3) := dk_182 1 41 (dk_at dksX1_readsLine_2 18 rfl rfl)
theorem dX1_readsLine_67 : decode cX1_readsLine 67 = .ok (.istore 4, 2) := dk_54 4 (dk_at dksX1_readsLine_2 21 rfl rfl)
theorem dX1_readsLine_69 : decode cX1_readsLine 69 = .ok (.iload_n 2, 1) := dk_28 (dk_at dksX1_readsLine_2 23 rfl rfl)
theorem dX1_readsLine_70 : decode cX1_readsLine 70 = .ok (.invokestatic 190, 3) := dk_184 0 190 (dk_at dksX1_readsLine_3 0 rfl rfl)
theorem dX1_readsLine_73 : decode cX1_readsLine 73 = .ok (.ifCond .eq 35, 3) := dk_153 0 35 (dk_at dksX1_readsLine_3 3 rfl rfl)
theorem dX1_readsLine_76 : decode cX1_readsLine 76 = .ok (.aload_n 0, 1) := dk_42 (dk_at dksX1_readsLine_3 6 rfl rfl)
theorem dX1_readsLine_77 : decode cX1_readsLine 77 = .ok (.bipush 7, 2) := dk_16 7 (dk_at dksX1_readsLine_3 7 rfl rfl)
theorem dX1_readsLine_79 : decode cX1_readsLine 79 = .ok (.invokevirtual 300, 3) := dk_182 1 44 (dk_at dksX1_readsLine_3 9 rfl rfl)
theorem dX1_readsLine_82 : decode cX1_readsLine 82 = .ok (.aload_n 0, 1) := dk_42 (dk_at dksX1_readsLine_3 12 rfl rfl)
theorem dX1_readsLine_83 : decode cX1_readsLine 83 = .ok (.getfield 59, 3) := dk_180 0 59 (dk_at dksX1_readsLine_3 13 rfl rfl)
theorem dX1_readsLine_86 : decode cX1_readsLine 86 = .ok (.iload_n 1, 1) := dk_27 (dk_at dksX1_readsLine_3 16 rfl rfl)
theorem dX1_readsLine_87 : decode cX1_readsLine 87 = .ok (.aload_n 0, 1) := dk_42 (dk_at dksX1_readsLine_3 17 rfl rfl)
theorem dX1_readsLine_88 : decode cX1_readsLine 88 = .ok (.iconst 1, 1) := dk_4 (dk_at dksX1_readsLine_3 18 rfl rfl)
theorem dX1_readsLine_89 : decode cX1_readsLine 89 = .ok (.bipush 99, 2) := dk_16 99 (dk_at dksX1_readsLine_3 19 rfl rfl)
theorem dX1_readsLine_91 : decode cX1_readsLine 91 = .ok (.invokevirtual 297, 3) := dk_182 1 41 (dk_at dksX1_readsLine_3 21 rfl rfl)
theorem dX1_readsLine_94 : decode cX1_readsLine 94 = .ok (.iastore, 1) := dk_79 (dk_at dksX1_readsLine_4 0 rfl rfl)
theorem dX1_readsLine_95 : decode cX1_readsLine 95 = .ok (.aload_n 0, 1) := dk_42 (dk_at dksX1_readsLine_4 1 rfl rfl)
theorem dX1_readsLine_96 : decode cX1_readsLine 96 = .ok (.getfield 62, 3) := dk_180 0 62 (dk_at dksX1_readsLine_4 2 rfl rfl)
theorem dX1_readsLine_99 : decode cX1_readsLine 99 = .ok (.iload_n 1, 1) := dk_27 (dk_at dksX1_readsLine_4 5 rfl rfl)
theorem dX1_readsLine_100 : decode cX1_readsLine 100 = .ok (.aload_n 0, 1) := dk_42 (dk_at dksX1_readsLine_4 6 rfl rfl)
theorem dX1_readsLine_101 : decode cX1_readsLine 101 = .ok (.iconst 1, 1) := dk_4 (dk_at dksX1_readsLine_4 7 rfl rfl)
theorem dX1_readsLine_102 : decode cX1_readsLine 102 = .ok (.bipush 99, 2) := dk_16 99 (dk_at dksX1_readsLine_4 8 rfl rfl)
theorem dX1_readsLine_104 : decode cX1_readsLine 104 = .ok (.invokevirtual 297, 3) := dk_182 1 41 (dk_at dksX1_readsLine_4 10 rfl rfl)
theorem dX1_readsLine_107 : decode cX1_readsLine 107 = .ok (.iastore, 1) := dk_79 (dk_at dksX1_readsLine_4 13 rfl rfl)
theorem dX1_readsLine_108 : decode cX1_readsLine 108 = .ok (.iload_n 2, 1) := dk_28 (dk_at dksX1_readsLine_4 14 rfl rfl)
theorem dX1_readsLine_109 : decode cX1_readsLine 109 = .ok (.ifCond .eq 19, 3) := dk_153 0 19 (dk_at dksX1_readsLine_4 15 rfl rfl)
theorem dX1_readsLine_112 : decode cX1_readsLine 112 = .ok (.aload_n 0, 1) := dk_42 (dk_at dksX1_readsLine_4 18 rfl rfl)
theorem dX1_readsLine_113 : decode cX1_readsLine 113 = .ok (.iload_n 2, 1) := dk_28 (dk_at dksX1_readsLine_4 19 rfl rfl)
theorem dX1_readsLine_114 : decode cX1_readsLine 114 = .ok (.iconst 4, 1) := dk_7 (dk_at dksX1_readsLine_4 20 rfl rfl)
theorem dX1_readsLine_115 : decode cX1_readsLine 115 = .ok (.if_icmp .ne 8, 3) := dk_160 0 8 (dk_at dksX1_readsLine_4 21 rfl rfl)
theorem dX1_readsLine_118 : decode cX1_readsLine 118 = .ok (.bipush 8, 2) := dk_16 8 (dk_at dksX1_readsLine_5 0 rfl rfl)
theorem dX1_readsLine_120 : decode cX1_readsLine 120 = .ok (.goto 5, 3) := dk_167 0 5 (dk_at dksX1_readsLine_5 2 rfl rfl)
theorem dX1_readsLine_123 : decode cX1_readsLine 123 = .ok (.bipush 6, 2) := dk_16 6 (dk_at dksX1_readsLine_5 5 rfl rfl)
theorem dX1_readsLine_125 : decode cX1_readsLine 125 = .ok (.invokevirtual 300, 3) := dk_182 1 44 (dk_at dksX1_readsLine_5 7 rfl rfl)
theorem dX1_readsLine_128 : decode cX1_readsLine 128 = .ok (.iload_n 2, 1) := dk_28 (dk_at dksX1_readsLine_5 10 rfl rfl)
theorem dX1_readsLine_129 : decode cX1_readsLine 129 = .ok (.invokestatic 303, 3) := dk_184 1 47 (dk_at dksX1_readsLine_5 11 rfl rfl)
theorem dX1_readsLine_132 : decode cX1_readsLine 132 = .ok (.ifCond .eq 10, 3) := dk_153 0 10 (dk_at dksX1_readsLine_5 14 rfl rfl)
theorem dX1_readsLine_135 : decode cX1_readsLine 135 = .ok (.aload_n 0, 1) := dk_42 (dk_at dksX1_readsLine_5 17 rfl rfl)
theorem dX1_readsLine_136 : decode cX1_readsLine 136 = .ok (.iload_n 1, 1) := dk_27 (dk_at dksX1_readsLine_5 18 rfl rfl)
theorem dX1_readsLine_137 : decode cX1_readsLine 137 = .ok (.iload 4, 2) := dk_21 4 (dk_at dksX1_readsLine_5 19 rfl rfl)
theorem dX1_readsLine_139 : decode cX1_readsLine 139 = .ok (.invokevirtual 306, 3) := dk_182 1 50 (dk_at dksX1_readsLine_5 21 rfl rfl)
theorem dX1_readsLine_142 : decode cX1_readsLine 142 = .ok (.iload_n 2, 1) := dk_28 (dk_at dksX1_readsLine_6 0 rfl rfl)
theorem dX1_readsLine_143 : decode cX1_readsLine 143 = .ok (.iconst 4, 1) := dk_7 (dk_at dksX1_readsLine_6 1 rfl rfl)
theorem dX1_readsLine_144 : decode cX1_readsLine 144 = .ok (.if_icmp .ne 9, 3) := dk_160 0 9 (dk_at dksX1_readsLine_6 2 rfl rfl)
theorem dX1_readsLine_147 : decode cX1_readsLine 147 = .ok (.aload_n 0, 1) := dk_42 (dk_at dksX1_readsLine_6 5 rfl rfl)
theorem dX1_readsLine_148 : decode cX1_readsLine 148 = .ok (.bipush 9, 2) := dk_16 9 (dk_at dksX1_readsLine_6 6 rfl rfl)
theorem dX1_readsLine_150 : decode cX1_readsLine 150 = .ok (.invokevirtual 300, 3) := dk_182 1 44 (dk_at dksX1_readsLine_6 8 rfl rfl)
theorem dX1_readsLine_153 : decode cX1_readsLine 153 = .ok (.iload_n 2, 1) := dk_28 (dk_at dksX1_readsLine_6 11 rfl rfl)
theorem dX1_readsLine_154 : decode cX1_readsLine 154 = .ok (.invokestatic 190, 3) := dk_184 0 190 (dk_at dksX1_readsLine_6 12 rfl rfl)
theorem dX1_readsLine_157 : decode cX1_readsLine 157 = .ok (.ifCond .eq 8, 3) := dk_153 0 8 (dk_at dksX1_readsLine_6 15 rfl rfl)
theorem dX1_readsLine_160 : decode cX1_readsLine 160 = .ok (.aload_n 0, 1) := dk_42 (dk_at dksX1_readsLine_6 18 rfl rfl)
theorem dX1_readsLine_161 : decode cX1_readsLine 161 = .ok (.iload_n 1, 1) := dk_27 (dk_at dksX1_readsLine_6 19 rfl rfl)
theorem dX1_readsLine_162 : decode cX1_readsLine 162 = .ok (.invokevirtual 309, 3) := dk_182 1 53 (dk_at dksX1_readsLine_6 20 rfl rfl)
theorem dX1_readsLine_165 : decode cX1_readsLine 165 = .ok (.aload_n 0, 1) := dk_42 (dk_at dksX1_readsLine_6 23 rfl rfl)
theorem dX1_readsLine_166 : decode cX1_readsLine 166 = .ok (.getfield 287, 3) := dk_180 1 31 (dk_at dksX1_readsLine_7 0 rfl rfl)
theorem dX1_readsLine_169 : decode cX1_readsLine 169 = .ok (.iconst (-1), 1) := dk_2 (dk_at dksX1_readsLine_7 3 rfl rfl)
theorem dX1_readsLine_170 : decode cX1_readsLine 170 = .ok (.if_icmp .eq 4, 3) := dk_159 0 4 (dk_at dksX1_readsLine_7 4 rfl rfl)
theorem dX1_readsLine_173 : decode cX1_readsLine 173 = .ok (.return_, 1) := dk_177 (dk_at dksX1_readsLine_7 7 rfl rfl)
theorem dX1_readsLine_174 : decode cX1_readsLine 174 = .ok (.aload_n 0, 1) := dk_42 (dk_at dksX1_readsLine_7 8 rfl rfl)
theorem dX1_readsLine_175 : decode cX1_readsLine 175 = .ok (.getfield 266, 3) := dk_180 1 10 (dk_at dksX1_readsLine_7 9 rfl rfl)
theorem dX1_readsLine_178 : decode cX1_readsLine 178 = .ok (.iconst 3, 1) := dk_6 (dk_at dksX1_readsLine_7 12 rfl rfl)
theorem dX1_readsLine_179 : decode cX1_readsLine 179 = .ok (.if_icmp .ne 10, 3) := dk_160 0 10 (dk_at dksX1_readsLine_7 13 rfl rfl)
theorem dX1_readsLine_182 : decode cX1_readsLine 182 = .ok (.aload_n 0, 1) := dk_42 (dk_at dksX1_readsLine_7 16 rfl rfl)
theorem dX1_readsLine_183 : decode cX1_readsLine 183 = .ok (.invokevirtual 293, 3) := dk_182 1 37 (dk_at dksX1_readsLine_7 17 rfl rfl)
theorem dX1_readsLine_186 : decode cX1_readsLine 186 = .ok (.goto 7, 3) := dk_167 0 7 (dk_at dksX1_readsLine_7 20 rfl rfl)
theorem dX1_readsLine_189 : decode cX1_readsLine 189 = .ok (.aload_n 0, 1) := dk_42 (dk_at dksX1_readsLine_7 23 rfl rfl)
theorem dX1_readsLine_190 : decode cX1_readsLine 190 = .ok (.invokevirtual 290, 3) := dk_182 1 34 (dk_at dksX1_readsLine_8 0 rfl rfl)
theorem dX1_readsLine_193 : decode cX1_readsLine 193 = .ok (.return_, 1) := dk_177 (dk_at dksX1_readsLine_8 3 rfl rfl)
abbrev cX1_fails : ByteArray := prog_17_method_52_code
def yX1_fails : MethodName := ⟨RX1, "fails", "()V"⟩
def dkwX1_fails_0 : List UInt8 := [42, 180, 1, 31, 2, 160, 0, 11, 42, 42, 180, 1, 4, 181, 1, 31, 177]
abbrev dktX1_fails_0 : List UInt8 := dkwX1_fails_0 ++ []
theorem dksX1_fails_0 : cX1_fails.data.toList.drop 0 = dktX1_fails_0 := by decide +kernel
theorem dX1_fails_0 : decode cX1_fails 0 = .ok (.aload_n 0, 1) := dk_42 (dk_at dksX1_fails_0 0 rfl rfl)
theorem dX1_fails_1 : decode cX1_fails 1 = .ok (.getfield 287, 3) := dk_180 1 31 (dk_at dksX1_fails_0 1 rfl rfl)
theorem dX1_fails_4 : decode cX1_fails 4 = .ok (.iconst (-1), 1) := dk_2 (dk_at dksX1_fails_0 4 rfl rfl)
theorem dX1_fails_5 : decode cX1_fails 5 = .ok (.if_icmp .ne 11, 3) := dk_160 0 11 (dk_at dksX1_fails_0 5 rfl rfl)
theorem dX1_fails_8 : decode cX1_fails 8 = .ok (.aload_n 0, 1) := dk_42 (dk_at dksX1_fails_0 8 rfl rfl)
theorem dX1_fails_9 : decode cX1_fails 9 = .ok (.aload_n 0, 1) := dk_42 (dk_at dksX1_fails_0 9 rfl rfl)
theorem dX1_fails_10 : decode cX1_fails 10 = .ok (.getfield 260, 3) := dk_180 1 4 (dk_at dksX1_fails_0 10 rfl rfl)
theorem dX1_fails_13 : decode cX1_fails 13 = .ok (.putfield 287, 3) := dk_181 1 31 (dk_at dksX1_fails_0 13 rfl rfl)
theorem dX1_fails_16 : decode cX1_fails 16 = .ok (.return_, 1) := dk_177 (dk_at dksX1_fails_0 16 rfl rfl)
abbrev cX1_needsInt : ByteArray := prog_17_method_54_code
def yX1_needsInt : MethodName := ⟨RX1, "needsInt", "(II)I"⟩
def dkwX1_needsInt_2 : List UInt8 := [29, 172]
abbrev dktX1_needsInt_2 : List UInt8 := dkwX1_needsInt_2 ++ []
def dkwX1_needsInt_1 : List UInt8 := [28, 133, 184, 0, 11, 154, 0, 9, 42, 182, 1, 34, 27, 172, 42, 180, 1, 25, 136, 62, 42, 182, 1, 37]
abbrev dktX1_needsInt_1 : List UInt8 := dkwX1_needsInt_1 ++ dktX1_needsInt_2
def dkwX1_needsInt_0 : List UInt8 := [42, 180, 1, 31, 2, 159, 0, 5, 27, 172, 42, 180, 1, 10, 5, 160, 0, 17, 42, 180, 1, 25, 27, 133]
abbrev dktX1_needsInt_0 : List UInt8 := dkwX1_needsInt_0 ++ dktX1_needsInt_1
theorem dksX1_needsInt_0 : cX1_needsInt.data.toList.drop 0 = dktX1_needsInt_0 := by decide +kernel
theorem dksX1_needsInt_1 : cX1_needsInt.data.toList.drop 24 = dktX1_needsInt_1 := dk_seg dksX1_needsInt_0 24 rfl rfl
theorem dksX1_needsInt_2 : cX1_needsInt.data.toList.drop 48 = dktX1_needsInt_2 := dk_seg dksX1_needsInt_1 24 rfl rfl
theorem dX1_needsInt_0 : decode cX1_needsInt 0 = .ok (.aload_n 0, 1) := dk_42 (dk_at dksX1_needsInt_0 0 rfl rfl)
theorem dX1_needsInt_1 : decode cX1_needsInt 1 = .ok (.getfield 287, 3) := dk_180 1 31 (dk_at dksX1_needsInt_0 1 rfl rfl)
theorem dX1_needsInt_4 : decode cX1_needsInt 4 = .ok (.iconst (-1), 1) := dk_2 (dk_at dksX1_needsInt_0 4 rfl rfl)
theorem dX1_needsInt_5 : decode cX1_needsInt 5 = .ok (.if_icmp .eq 5, 3) := dk_159 0 5 (dk_at dksX1_needsInt_0 5 rfl rfl)
theorem dX1_needsInt_8 : decode cX1_needsInt 8 = .ok (.iload_n 1, 1) := dk_27 (dk_at dksX1_needsInt_0 8 rfl rfl)
theorem dX1_needsInt_9 : decode cX1_needsInt 9 = .ok (.ireturn, 1) := dk_172 (dk_at dksX1_needsInt_0 9 rfl rfl)
theorem dX1_needsInt_10 : decode cX1_needsInt 10 = .ok (.aload_n 0, 1) := dk_42 (dk_at dksX1_needsInt_0 10 rfl rfl)
theorem dX1_needsInt_11 : decode cX1_needsInt 11 = .ok (.getfield 266, 3) := dk_180 1 10 (dk_at dksX1_needsInt_0 11 rfl rfl)
theorem dX1_needsInt_14 : decode cX1_needsInt 14 = .ok (.iconst 2, 1) := dk_5 (dk_at dksX1_needsInt_0 14 rfl rfl)
theorem dX1_needsInt_15 : decode cX1_needsInt 15 = .ok (.if_icmp .ne 17, 3) := dk_160 0 17 (dk_at dksX1_needsInt_0 15 rfl rfl)
theorem dX1_needsInt_18 : decode cX1_needsInt 18 = .ok (.aload_n 0, 1) := dk_42 (dk_at dksX1_needsInt_0 18 rfl rfl)
theorem dX1_needsInt_19 : decode cX1_needsInt 19 = .ok (.getfield 281, 3) := dk_180 1 25 (dk_at dksX1_needsInt_0 19 rfl rfl)
theorem dX1_needsInt_22 : decode cX1_needsInt 22 = .ok (.iload_n 1, 1) := dk_27 (dk_at dksX1_needsInt_0 22 rfl rfl)
theorem dX1_needsInt_23 : decode cX1_needsInt 23 = .ok (.i2l, 1) := dk_133 (dk_at dksX1_needsInt_0 23 rfl rfl)
theorem dX1_needsInt_24 : decode cX1_needsInt 24 = .ok (.iload_n 2, 1) := dk_28 (dk_at dksX1_needsInt_1 0 rfl rfl)
theorem dX1_needsInt_25 : decode cX1_needsInt 25 = .ok (.i2l, 1) := dk_133 (dk_at dksX1_needsInt_1 1 rfl rfl)
theorem dX1_needsInt_26 : decode cX1_needsInt 26 = .ok (.invokestatic 11, 3) := dk_184 0 11 (dk_at dksX1_needsInt_1 2 rfl rfl)
theorem dX1_needsInt_29 : decode cX1_needsInt 29 = .ok (.ifCond .ne 9, 3) := dk_154 0 9 (dk_at dksX1_needsInt_1 5 rfl rfl)
theorem dX1_needsInt_32 : decode cX1_needsInt 32 = .ok (.aload_n 0, 1) := dk_42 (dk_at dksX1_needsInt_1 8 rfl rfl)
theorem dX1_needsInt_33 : decode cX1_needsInt 33 = .ok (.invokevirtual 290, 3) := dk_182 1 34 (dk_at dksX1_needsInt_1 9 rfl rfl)
theorem dX1_needsInt_36 : decode cX1_needsInt 36 = .ok (.iload_n 1, 1) := dk_27 (dk_at dksX1_needsInt_1 12 rfl rfl)
theorem dX1_needsInt_37 : decode cX1_needsInt 37 = .ok (.ireturn, 1) := dk_172 (dk_at dksX1_needsInt_1 13 rfl rfl)
theorem dX1_needsInt_38 : decode cX1_needsInt 38 = .ok (.aload_n 0, 1) := dk_42 (dk_at dksX1_needsInt_1 14 rfl rfl)
theorem dX1_needsInt_39 : decode cX1_needsInt 39 = .ok (.getfield 281, 3) := dk_180 1 25 (dk_at dksX1_needsInt_1 15 rfl rfl)
theorem dX1_needsInt_42 : decode cX1_needsInt 42 = .ok (.l2i, 1) := dk_136 (dk_at dksX1_needsInt_1 18 rfl rfl)
theorem dX1_needsInt_43 : decode cX1_needsInt 43 = .ok (.istore_n 3, 1) := dk_62 (dk_at dksX1_needsInt_1 19 rfl rfl)
theorem dX1_needsInt_44 : decode cX1_needsInt 44 = .ok (.aload_n 0, 1) := dk_42 (dk_at dksX1_needsInt_1 20 rfl rfl)
theorem dX1_needsInt_45 : decode cX1_needsInt 45 = .ok (.invokevirtual 293, 3) := dk_182 1 37 (dk_at dksX1_needsInt_1 21 rfl rfl)
theorem dX1_needsInt_48 : decode cX1_needsInt 48 = .ok (.iload_n 3, 1) := dk_29 (dk_at dksX1_needsInt_2 0 rfl rfl)
theorem dX1_needsInt_49 : decode cX1_needsInt 49 = .ok (.ireturn, 1) := dk_172 (dk_at dksX1_needsInt_2 1 rfl rfl)
abbrev cX1_needsWord : ByteArray := prog_17_method_53_code
def yX1_needsWord : MethodName := ⟨RX1, "needsWord", "(I)V"⟩
def dkwX1_needsWord_1 : List UInt8 := [159, 0, 10, 42, 182, 1, 34, 167, 0, 7, 42, 182, 1, 37, 177]
abbrev dktX1_needsWord_1 : List UInt8 := dkwX1_needsWord_1 ++ []
def dkwX1_needsWord_0 : List UInt8 := [42, 180, 1, 31, 2, 159, 0, 4, 177, 42, 180, 1, 10, 4, 160, 0, 11, 42, 180, 1, 13, 27]
abbrev dktX1_needsWord_0 : List UInt8 := dkwX1_needsWord_0 ++ dktX1_needsWord_1
theorem dksX1_needsWord_0 : cX1_needsWord.data.toList.drop 0 = dktX1_needsWord_0 := by decide +kernel
theorem dksX1_needsWord_1 : cX1_needsWord.data.toList.drop 22 = dktX1_needsWord_1 := dk_seg dksX1_needsWord_0 22 rfl rfl
theorem dX1_needsWord_0 : decode cX1_needsWord 0 = .ok (.aload_n 0, 1) := dk_42 (dk_at dksX1_needsWord_0 0 rfl rfl)
theorem dX1_needsWord_1 : decode cX1_needsWord 1 = .ok (.getfield 287, 3) := dk_180 1 31 (dk_at dksX1_needsWord_0 1 rfl rfl)
theorem dX1_needsWord_4 : decode cX1_needsWord 4 = .ok (.iconst (-1), 1) := dk_2 (dk_at dksX1_needsWord_0 4 rfl rfl)
theorem dX1_needsWord_5 : decode cX1_needsWord 5 = .ok (.if_icmp .eq 4, 3) := dk_159 0 4 (dk_at dksX1_needsWord_0 5 rfl rfl)
theorem dX1_needsWord_8 : decode cX1_needsWord 8 = .ok (.return_, 1) := dk_177 (dk_at dksX1_needsWord_0 8 rfl rfl)
theorem dX1_needsWord_9 : decode cX1_needsWord 9 = .ok (.aload_n 0, 1) := dk_42 (dk_at dksX1_needsWord_0 9 rfl rfl)
theorem dX1_needsWord_10 : decode cX1_needsWord 10 = .ok (.getfield 266, 3) := dk_180 1 10 (dk_at dksX1_needsWord_0 10 rfl rfl)
theorem dX1_needsWord_13 : decode cX1_needsWord 13 = .ok (.iconst 1, 1) := dk_4 (dk_at dksX1_needsWord_0 13 rfl rfl)
theorem dX1_needsWord_14 : decode cX1_needsWord 14 = .ok (.if_icmp .ne 11, 3) := dk_160 0 11 (dk_at dksX1_needsWord_0 14 rfl rfl)
theorem dX1_needsWord_17 : decode cX1_needsWord 17 = .ok (.aload_n 0, 1) := dk_42 (dk_at dksX1_needsWord_0 17 rfl rfl)
theorem dX1_needsWord_18 : decode cX1_needsWord 18 = .ok (.getfield 269, 3) := dk_180 1 13 (dk_at dksX1_needsWord_0 18 rfl rfl)
theorem dX1_needsWord_21 : decode cX1_needsWord 21 = .ok (.iload_n 1, 1) := dk_27 (dk_at dksX1_needsWord_0 21 rfl rfl)
theorem dX1_needsWord_22 : decode cX1_needsWord 22 = .ok (.if_icmp .eq 10, 3) := dk_159 0 10 (dk_at dksX1_needsWord_1 0 rfl rfl)
theorem dX1_needsWord_25 : decode cX1_needsWord 25 = .ok (.aload_n 0, 1) := dk_42 (dk_at dksX1_needsWord_1 3 rfl rfl)
theorem dX1_needsWord_26 : decode cX1_needsWord 26 = .ok (.invokevirtual 290, 3) := dk_182 1 34 (dk_at dksX1_needsWord_1 4 rfl rfl)
theorem dX1_needsWord_29 : decode cX1_needsWord 29 = .ok (.goto 7, 3) := dk_167 0 7 (dk_at dksX1_needsWord_1 7 rfl rfl)
theorem dX1_needsWord_32 : decode cX1_needsWord 32 = .ok (.aload_n 0, 1) := dk_42 (dk_at dksX1_needsWord_1 10 rfl rfl)
theorem dX1_needsWord_33 : decode cX1_needsWord 33 = .ok (.invokevirtual 293, 3) := dk_182 1 37 (dk_at dksX1_needsWord_1 11 rfl rfl)
theorem dX1_needsWord_36 : decode cX1_needsWord 36 = .ok (.return_, 1) := dk_177 (dk_at dksX1_needsWord_1 14 rfl rfl)
abbrev cX1_hasDowns : ByteArray := prog_17_method_13_code
def yX1_hasDowns : MethodName := ⟨RX1, "hasDowns", "(I)Z"⟩
def dkwX1_hasDowns_0 : List UInt8 := [26, 4, 159, 0, 13, 26, 5, 159, 0, 8, 26, 7, 160, 0, 7, 4, 167, 0, 4, 3, 172]
abbrev dktX1_hasDowns_0 : List UInt8 := dkwX1_hasDowns_0 ++ []
theorem dksX1_hasDowns_0 : cX1_hasDowns.data.toList.drop 0 = dktX1_hasDowns_0 := by decide +kernel
theorem dX1_hasDowns_0 : decode cX1_hasDowns 0 = .ok (.iload_n 0, 1) := dk_26 (dk_at dksX1_hasDowns_0 0 rfl rfl)
theorem dX1_hasDowns_1 : decode cX1_hasDowns 1 = .ok (.iconst 1, 1) := dk_4 (dk_at dksX1_hasDowns_0 1 rfl rfl)
theorem dX1_hasDowns_2 : decode cX1_hasDowns 2 = .ok (.if_icmp .eq 13, 3) := dk_159 0 13 (dk_at dksX1_hasDowns_0 2 rfl rfl)
theorem dX1_hasDowns_5 : decode cX1_hasDowns 5 = .ok (.iload_n 0, 1) := dk_26 (dk_at dksX1_hasDowns_0 5 rfl rfl)
theorem dX1_hasDowns_6 : decode cX1_hasDowns 6 = .ok (.iconst 2, 1) := dk_5 (dk_at dksX1_hasDowns_0 6 rfl rfl)
theorem dX1_hasDowns_7 : decode cX1_hasDowns 7 = .ok (.if_icmp .eq 8, 3) := dk_159 0 8 (dk_at dksX1_hasDowns_0 7 rfl rfl)
theorem dX1_hasDowns_10 : decode cX1_hasDowns 10 = .ok (.iload_n 0, 1) := dk_26 (dk_at dksX1_hasDowns_0 10 rfl rfl)
theorem dX1_hasDowns_11 : decode cX1_hasDowns 11 = .ok (.iconst 4, 1) := dk_7 (dk_at dksX1_hasDowns_0 11 rfl rfl)
theorem dX1_hasDowns_12 : decode cX1_hasDowns 12 = .ok (.if_icmp .ne 7, 3) := dk_160 0 7 (dk_at dksX1_hasDowns_0 12 rfl rfl)
theorem dX1_hasDowns_15 : decode cX1_hasDowns 15 = .ok (.iconst 1, 1) := dk_4 (dk_at dksX1_hasDowns_0 15 rfl rfl)
theorem dX1_hasDowns_16 : decode cX1_hasDowns 16 = .ok (.goto 4, 3) := dk_167 0 4 (dk_at dksX1_hasDowns_0 16 rfl rfl)
theorem dX1_hasDowns_19 : decode cX1_hasDowns 19 = .ok (.iconst 0, 1) := dk_3 (dk_at dksX1_hasDowns_0 19 rfl rfl)
theorem dX1_hasDowns_20 : decode cX1_hasDowns 20 = .ok (.ireturn, 1) := dk_172 (dk_at dksX1_hasDowns_0 20 rfl rfl)
abbrev cX1_readsDowns : ByteArray := prog_17_method_55_code
def yX1_readsDowns : MethodName := ⟨RX1, "readsDowns", "(II)V"⟩
def dkwX1_readsDowns_3 : List UInt8 := [2, 160, 0, 13, 42, 27, 29, 21, 4, 21, 5, 182, 0, 119, 167, 255, 171, 177]
abbrev dktX1_readsDowns_3 : List UInt8 := dkwX1_readsDowns_3 ++ []
def dkwX1_readsDowns_2 : List UInt8 := [54, 4, 28, 158, 0, 7, 28, 167, 0, 11, 42, 5, 17, 3, 231, 182, 1, 41, 54, 5, 42, 180, 1, 31]
abbrev dktX1_readsDowns_2 : List UInt8 := dkwX1_readsDowns_2 ++ dktX1_readsDowns_3
def dkwX1_readsDowns_1 : List UInt8 := [160, 0, 7, 42, 182, 1, 34, 42, 5, 19, 1, 40, 182, 1, 41, 62, 42, 4, 16, 30, 182, 1, 41]
abbrev dktX1_readsDowns_1 : List UInt8 := dkwX1_readsDowns_1 ++ dktX1_readsDowns_2
def dkwX1_readsDowns_0 : List UInt8 := [42, 180, 1, 31, 2, 160, 0, 83, 42, 180, 1, 10, 5, 160, 0, 75, 42, 180, 0, 65, 27, 46, 16, 9]
abbrev dktX1_readsDowns_0 : List UInt8 := dkwX1_readsDowns_0 ++ dktX1_readsDowns_1
theorem dksX1_readsDowns_0 : cX1_readsDowns.data.toList.drop 0 = dktX1_readsDowns_0 := by decide +kernel
theorem dksX1_readsDowns_1 : cX1_readsDowns.data.toList.drop 24 = dktX1_readsDowns_1 := dk_seg dksX1_readsDowns_0 24 rfl rfl
theorem dksX1_readsDowns_2 : cX1_readsDowns.data.toList.drop 47 = dktX1_readsDowns_2 := dk_seg dksX1_readsDowns_1 23 rfl rfl
theorem dksX1_readsDowns_3 : cX1_readsDowns.data.toList.drop 71 = dktX1_readsDowns_3 := dk_seg dksX1_readsDowns_2 24 rfl rfl
theorem dX1_readsDowns_0 : decode cX1_readsDowns 0 = .ok (.aload_n 0, 1) := dk_42 (dk_at dksX1_readsDowns_0 0 rfl rfl)
theorem dX1_readsDowns_1 : decode cX1_readsDowns 1 = .ok (.getfield 287, 3) := dk_180 1 31 (dk_at dksX1_readsDowns_0 1 rfl rfl)
theorem dX1_readsDowns_4 : decode cX1_readsDowns 4 = .ok (.iconst (-1), 1) := dk_2 (dk_at dksX1_readsDowns_0 4 rfl rfl)
theorem dX1_readsDowns_5 : decode cX1_readsDowns 5 = .ok (.if_icmp .ne 83, 3) := dk_160 0 83 (dk_at dksX1_readsDowns_0 5 rfl rfl)
theorem dX1_readsDowns_8 : decode cX1_readsDowns 8 = .ok (.aload_n 0, 1) := dk_42 (dk_at dksX1_readsDowns_0 8 rfl rfl)
theorem dX1_readsDowns_9 : decode cX1_readsDowns 9 = .ok (.getfield 266, 3) := dk_180 1 10 (dk_at dksX1_readsDowns_0 9 rfl rfl)
theorem dX1_readsDowns_12 : decode cX1_readsDowns 12 = .ok (.iconst 2, 1) := dk_5 (dk_at dksX1_readsDowns_0 12 rfl rfl)
theorem dX1_readsDowns_13 : decode cX1_readsDowns 13 = .ok (.if_icmp .ne 75, 3) := dk_160 0 75 (dk_at dksX1_readsDowns_0 13 rfl rfl)
theorem dX1_readsDowns_16 : decode cX1_readsDowns 16 = .ok (.aload_n 0, 1) := dk_42 (dk_at dksX1_readsDowns_0 16 rfl rfl)
theorem dX1_readsDowns_17 : decode cX1_readsDowns 17 = .ok (.getfield 65, 3) := dk_180 0 65 (dk_at dksX1_readsDowns_0 17 rfl rfl)
theorem dX1_readsDowns_20 : decode cX1_readsDowns 20 = .ok (.iload_n 1, 1) := dk_27 (dk_at dksX1_readsDowns_0 20 rfl rfl)
theorem dX1_readsDowns_21 : decode cX1_readsDowns 21 = .ok (.iaload, 1) := dk_46 (dk_at dksX1_readsDowns_0 21 rfl rfl)
theorem dX1_readsDowns_22 : decode cX1_readsDowns 22 = .ok (.bipush 9, 2) := dk_16 9 (dk_at dksX1_readsDowns_0 22 rfl rfl)
theorem dX1_readsDowns_24 : decode cX1_readsDowns 24 = .ok (.if_icmp .ne 7, 3) := dk_160 0 7 (dk_at dksX1_readsDowns_1 0 rfl rfl)
theorem dX1_readsDowns_27 : decode cX1_readsDowns 27 = .ok (.aload_n 0, 1) := dk_42 (dk_at dksX1_readsDowns_1 3 rfl rfl)
theorem dX1_readsDowns_28 : decode cX1_readsDowns 28 = .ok (.invokevirtual 290, 3) := dk_182 1 34 (dk_at dksX1_readsDowns_1 4 rfl rfl)
theorem dX1_readsDowns_31 : decode cX1_readsDowns 31 = .ok (.aload_n 0, 1) := dk_42 (dk_at dksX1_readsDowns_1 7 rfl rfl)
theorem dX1_readsDowns_32 : decode cX1_readsDowns 32 = .ok (.iconst 2, 1) := dk_5 (dk_at dksX1_readsDowns_1 8 rfl rfl)
theorem dX1_readsDowns_33 : decode cX1_readsDowns 33 = .ok (.ldc_w 296, 3) := dk_19 1 40 (dk_at dksX1_readsDowns_1 9 rfl rfl)
theorem dX1_readsDowns_36 : decode cX1_readsDowns 36 = .ok (.invokevirtual 297, 3) := dk_182 1 41 (dk_at dksX1_readsDowns_1 12 rfl rfl)
theorem dX1_readsDowns_39 : decode cX1_readsDowns 39 = .ok (.istore_n 3, 1) := dk_62 (dk_at dksX1_readsDowns_1 15 rfl rfl)
theorem dX1_readsDowns_40 : decode cX1_readsDowns 40 = .ok (.aload_n 0, 1) := dk_42 (dk_at dksX1_readsDowns_1 16 rfl rfl)
theorem dX1_readsDowns_41 : decode cX1_readsDowns 41 = .ok (.iconst 1, 1) := dk_4 (dk_at dksX1_readsDowns_1 17 rfl rfl)
theorem dX1_readsDowns_42 : decode cX1_readsDowns 42 = .ok (.bipush 30, 2) := dk_16 30 (dk_at dksX1_readsDowns_1 18 rfl rfl)
theorem dX1_readsDowns_44 : decode cX1_readsDowns 44 = .ok (.invokevirtual 297, 3) := dk_182 1 41 (dk_at dksX1_readsDowns_1 20 rfl rfl)
theorem dX1_readsDowns_47 : decode cX1_readsDowns 47 = .ok (.istore 4, 2) := dk_54 4 (dk_at dksX1_readsDowns_2 0 rfl rfl)
theorem dX1_readsDowns_49 : decode cX1_readsDowns 49 = .ok (.iload_n 2, 1) := dk_28 (dk_at dksX1_readsDowns_2 2 rfl rfl)
theorem dX1_readsDowns_50 : decode cX1_readsDowns 50 = .ok (.ifCond .le 7, 3) := dk_158 0 7 (dk_at dksX1_readsDowns_2 3 rfl rfl)
theorem dX1_readsDowns_53 : decode cX1_readsDowns 53 = .ok (.iload_n 2, 1) := dk_28 (dk_at dksX1_readsDowns_2 6 rfl rfl)
theorem dX1_readsDowns_54 : decode cX1_readsDowns 54 = .ok (.goto 11, 3) := dk_167 0 11 (dk_at dksX1_readsDowns_2 7 rfl rfl)
theorem dX1_readsDowns_57 : decode cX1_readsDowns 57 = .ok (.aload_n 0, 1) := dk_42 (dk_at dksX1_readsDowns_2 10 rfl rfl)
theorem dX1_readsDowns_58 : decode cX1_readsDowns 58 = .ok (.iconst 2, 1) := dk_5 (dk_at dksX1_readsDowns_2 11 rfl rfl)
theorem dX1_readsDowns_59 : decode cX1_readsDowns 59 = .ok (.sipush 999, 3) := dk_17 3 231 (dk_at dksX1_readsDowns_2 12 rfl rfl)
theorem dX1_readsDowns_62 : decode cX1_readsDowns 62 = .ok (.invokevirtual 297, 3) := dk_182 1 41 (dk_at dksX1_readsDowns_2 15 rfl rfl)
theorem dX1_readsDowns_65 : decode cX1_readsDowns 65 = .ok (.istore 5, 2) := dk_54 5 (dk_at dksX1_readsDowns_2 18 rfl rfl)
theorem dX1_readsDowns_67 : decode cX1_readsDowns 67 = .ok (.aload_n 0, 1) := dk_42 (dk_at dksX1_readsDowns_2 20 rfl rfl)
theorem dX1_readsDowns_68 : decode cX1_readsDowns 68 = .ok (.getfield 287, 3) := dk_180 1 31 (dk_at dksX1_readsDowns_2 21 rfl rfl)
theorem dX1_readsDowns_71 : decode cX1_readsDowns 71 = .ok (.iconst (-1), 1) := dk_2 (dk_at dksX1_readsDowns_3 0 rfl rfl)
theorem dX1_readsDowns_72 : decode cX1_readsDowns 72 = .ok (.if_icmp .ne 13, 3) := dk_160 0 13 (dk_at dksX1_readsDowns_3 1 rfl rfl)
theorem dX1_readsDowns_75 : decode cX1_readsDowns 75 = .ok (.aload_n 0, 1) := dk_42 (dk_at dksX1_readsDowns_3 4 rfl rfl)
theorem dX1_readsDowns_76 : decode cX1_readsDowns 76 = .ok (.iload_n 1, 1) := dk_27 (dk_at dksX1_readsDowns_3 5 rfl rfl)
theorem dX1_readsDowns_77 : decode cX1_readsDowns 77 = .ok (.iload_n 3, 1) := dk_29 (dk_at dksX1_readsDowns_3 6 rfl rfl)
theorem dX1_readsDowns_78 : decode cX1_readsDowns 78 = .ok (.iload 4, 2) := dk_21 4 (dk_at dksX1_readsDowns_3 7 rfl rfl)
theorem dX1_readsDowns_80 : decode cX1_readsDowns 80 = .ok (.iload 5, 2) := dk_21 5 (dk_at dksX1_readsDowns_3 9 rfl rfl)
theorem dX1_readsDowns_82 : decode cX1_readsDowns 82 = .ok (.invokevirtual 119, 3) := dk_182 0 119 (dk_at dksX1_readsDowns_3 11 rfl rfl)
theorem dX1_readsDowns_85 : decode cX1_readsDowns 85 = .ok (.goto (-85), 3) := dk_167 255 171 (dk_at dksX1_readsDowns_3 14 rfl rfl)
theorem dX1_readsDowns_88 : decode cX1_readsDowns 88 = .ok (.return_, 1) := dk_177 (dk_at dksX1_readsDowns_3 17 rfl rfl)
abbrev cX1_readsUps : ByteArray := prog_17_method_56_code
def yX1_readsUps : MethodName := ⟨RX1, "readsUps", "(I)V"⟩
def dkwX1_readsUps_2 : List UInt8 := [42, 180, 1, 31, 2, 160, 0, 10, 42, 27, 28, 29, 182, 0, 123, 167, 255, 193, 177]
abbrev dktX1_readsUps_2 : List UInt8 := dkwX1_readsUps_2 ++ []
def dkwX1_readsUps_1 : List UInt8 := [160, 0, 7, 42, 182, 1, 34, 42, 5, 19, 1, 40, 182, 1, 41, 61, 42, 4, 16, 30, 182, 1, 41, 62]
abbrev dktX1_readsUps_1 : List UInt8 := dkwX1_readsUps_1 ++ dktX1_readsUps_2
def dkwX1_readsUps_0 : List UInt8 := [42, 180, 1, 31, 2, 160, 0, 61, 42, 180, 1, 10, 5, 160, 0, 53, 42, 180, 0, 68, 27, 46, 16, 9]
abbrev dktX1_readsUps_0 : List UInt8 := dkwX1_readsUps_0 ++ dktX1_readsUps_1
theorem dksX1_readsUps_0 : cX1_readsUps.data.toList.drop 0 = dktX1_readsUps_0 := by decide +kernel
theorem dksX1_readsUps_1 : cX1_readsUps.data.toList.drop 24 = dktX1_readsUps_1 := dk_seg dksX1_readsUps_0 24 rfl rfl
theorem dksX1_readsUps_2 : cX1_readsUps.data.toList.drop 48 = dktX1_readsUps_2 := dk_seg dksX1_readsUps_1 24 rfl rfl
theorem dX1_readsUps_0 : decode cX1_readsUps 0 = .ok (.aload_n 0, 1) := dk_42 (dk_at dksX1_readsUps_0 0 rfl rfl)
theorem dX1_readsUps_1 : decode cX1_readsUps 1 = .ok (.getfield 287, 3) := dk_180 1 31 (dk_at dksX1_readsUps_0 1 rfl rfl)
theorem dX1_readsUps_4 : decode cX1_readsUps 4 = .ok (.iconst (-1), 1) := dk_2 (dk_at dksX1_readsUps_0 4 rfl rfl)
theorem dX1_readsUps_5 : decode cX1_readsUps 5 = .ok (.if_icmp .ne 61, 3) := dk_160 0 61 (dk_at dksX1_readsUps_0 5 rfl rfl)
theorem dX1_readsUps_8 : decode cX1_readsUps 8 = .ok (.aload_n 0, 1) := dk_42 (dk_at dksX1_readsUps_0 8 rfl rfl)
theorem dX1_readsUps_9 : decode cX1_readsUps 9 = .ok (.getfield 266, 3) := dk_180 1 10 (dk_at dksX1_readsUps_0 9 rfl rfl)
theorem dX1_readsUps_12 : decode cX1_readsUps 12 = .ok (.iconst 2, 1) := dk_5 (dk_at dksX1_readsUps_0 12 rfl rfl)
theorem dX1_readsUps_13 : decode cX1_readsUps 13 = .ok (.if_icmp .ne 53, 3) := dk_160 0 53 (dk_at dksX1_readsUps_0 13 rfl rfl)
theorem dX1_readsUps_16 : decode cX1_readsUps 16 = .ok (.aload_n 0, 1) := dk_42 (dk_at dksX1_readsUps_0 16 rfl rfl)
theorem dX1_readsUps_17 : decode cX1_readsUps 17 = .ok (.getfield 68, 3) := dk_180 0 68 (dk_at dksX1_readsUps_0 17 rfl rfl)
theorem dX1_readsUps_20 : decode cX1_readsUps 20 = .ok (.iload_n 1, 1) := dk_27 (dk_at dksX1_readsUps_0 20 rfl rfl)
theorem dX1_readsUps_21 : decode cX1_readsUps 21 = .ok (.iaload, 1) := dk_46 (dk_at dksX1_readsUps_0 21 rfl rfl)
theorem dX1_readsUps_22 : decode cX1_readsUps 22 = .ok (.bipush 9, 2) := dk_16 9 (dk_at dksX1_readsUps_0 22 rfl rfl)
theorem dX1_readsUps_24 : decode cX1_readsUps 24 = .ok (.if_icmp .ne 7, 3) := dk_160 0 7 (dk_at dksX1_readsUps_1 0 rfl rfl)
theorem dX1_readsUps_27 : decode cX1_readsUps 27 = .ok (.aload_n 0, 1) := dk_42 (dk_at dksX1_readsUps_1 3 rfl rfl)
theorem dX1_readsUps_28 : decode cX1_readsUps 28 = .ok (.invokevirtual 290, 3) := dk_182 1 34 (dk_at dksX1_readsUps_1 4 rfl rfl)
theorem dX1_readsUps_31 : decode cX1_readsUps 31 = .ok (.aload_n 0, 1) := dk_42 (dk_at dksX1_readsUps_1 7 rfl rfl)
theorem dX1_readsUps_32 : decode cX1_readsUps 32 = .ok (.iconst 2, 1) := dk_5 (dk_at dksX1_readsUps_1 8 rfl rfl)
theorem dX1_readsUps_33 : decode cX1_readsUps 33 = .ok (.ldc_w 296, 3) := dk_19 1 40 (dk_at dksX1_readsUps_1 9 rfl rfl)
theorem dX1_readsUps_36 : decode cX1_readsUps 36 = .ok (.invokevirtual 297, 3) := dk_182 1 41 (dk_at dksX1_readsUps_1 12 rfl rfl)
theorem dX1_readsUps_39 : decode cX1_readsUps 39 = .ok (.istore_n 2, 1) := dk_61 (dk_at dksX1_readsUps_1 15 rfl rfl)
theorem dX1_readsUps_40 : decode cX1_readsUps 40 = .ok (.aload_n 0, 1) := dk_42 (dk_at dksX1_readsUps_1 16 rfl rfl)
theorem dX1_readsUps_41 : decode cX1_readsUps 41 = .ok (.iconst 1, 1) := dk_4 (dk_at dksX1_readsUps_1 17 rfl rfl)
theorem dX1_readsUps_42 : decode cX1_readsUps 42 = .ok (.bipush 30, 2) := dk_16 30 (dk_at dksX1_readsUps_1 18 rfl rfl)
theorem dX1_readsUps_44 : decode cX1_readsUps 44 = .ok (.invokevirtual 297, 3) := dk_182 1 41 (dk_at dksX1_readsUps_1 20 rfl rfl)
theorem dX1_readsUps_47 : decode cX1_readsUps 47 = .ok (.istore_n 3, 1) := dk_62 (dk_at dksX1_readsUps_1 23 rfl rfl)
theorem dX1_readsUps_48 : decode cX1_readsUps 48 = .ok (.aload_n 0, 1) := dk_42 (dk_at dksX1_readsUps_2 0 rfl rfl)
theorem dX1_readsUps_49 : decode cX1_readsUps 49 = .ok (.getfield 287, 3) := dk_180 1 31 (dk_at dksX1_readsUps_2 1 rfl rfl)
theorem dX1_readsUps_52 : decode cX1_readsUps 52 = .ok (.iconst (-1), 1) := dk_2 (dk_at dksX1_readsUps_2 4 rfl rfl)
theorem dX1_readsUps_53 : decode cX1_readsUps 53 = .ok (.if_icmp .ne 10, 3) := dk_160 0 10 (dk_at dksX1_readsUps_2 5 rfl rfl)
theorem dX1_readsUps_56 : decode cX1_readsUps 56 = .ok (.aload_n 0, 1) := dk_42 (dk_at dksX1_readsUps_2 8 rfl rfl)
theorem dX1_readsUps_57 : decode cX1_readsUps 57 = .ok (.iload_n 1, 1) := dk_27 (dk_at dksX1_readsUps_2 9 rfl rfl)
theorem dX1_readsUps_58 : decode cX1_readsUps 58 = .ok (.iload_n 2, 1) := dk_28 (dk_at dksX1_readsUps_2 10 rfl rfl)
theorem dX1_readsUps_59 : decode cX1_readsUps 59 = .ok (.iload_n 3, 1) := dk_29 (dk_at dksX1_readsUps_2 11 rfl rfl)
theorem dX1_readsUps_60 : decode cX1_readsUps 60 = .ok (.invokevirtual 123, 3) := dk_182 0 123 (dk_at dksX1_readsUps_2 12 rfl rfl)
theorem dX1_readsUps_63 : decode cX1_readsUps 63 = .ok (.goto (-63), 3) := dk_167 255 193 (dk_at dksX1_readsUps_2 15 rfl rfl)
theorem dX1_readsUps_66 : decode cX1_readsUps 66 = .ok (.return_, 1) := dk_177 (dk_at dksX1_readsUps_2 18 rfl rfl)
abbrev cX1_spell : ByteArray := prog_17_method_63_code
def yX1_spell : MethodName := ⟨RX1, "spell", "(II)I"⟩
def dkwX1_spell_2 : List UInt8 := [167, 0, 4, 2, 172]
abbrev dktX1_spell_2 : List UInt8 := dkwX1_spell_2 ++ []
def dkwX1_spell_1 : List UInt8 := [160, 0, 10, 42, 180, 1, 59, 167, 0, 21, 28, 42, 180, 1, 59, 162, 0, 12, 42, 180, 0, 106, 28, 46]
abbrev dktX1_spell_1 : List UInt8 := dkwX1_spell_1 ++ dktX1_spell_2
def dkwX1_spell_0 : List UInt8 := [42, 27, 182, 0, 240, 153, 0, 8, 28, 2, 162, 0, 5, 2, 172, 42, 27, 182, 1, 71, 28, 2]
abbrev dktX1_spell_0 : List UInt8 := dkwX1_spell_0 ++ dktX1_spell_1
theorem dksX1_spell_0 : cX1_spell.data.toList.drop 0 = dktX1_spell_0 := by decide +kernel
theorem dksX1_spell_1 : cX1_spell.data.toList.drop 22 = dktX1_spell_1 := dk_seg dksX1_spell_0 22 rfl rfl
theorem dksX1_spell_2 : cX1_spell.data.toList.drop 46 = dktX1_spell_2 := dk_seg dksX1_spell_1 24 rfl rfl
theorem dX1_spell_0 : decode cX1_spell 0 = .ok (.aload_n 0, 1) := dk_42 (dk_at dksX1_spell_0 0 rfl rfl)
theorem dX1_spell_1 : decode cX1_spell 1 = .ok (.iload_n 1, 1) := dk_27 (dk_at dksX1_spell_0 1 rfl rfl)
theorem dX1_spell_2 : decode cX1_spell 2 = .ok (.invokevirtual 240, 3) := dk_182 0 240 (dk_at dksX1_spell_0 2 rfl rfl)
theorem dX1_spell_5 : decode cX1_spell 5 = .ok (.ifCond .eq 8, 3) := dk_153 0 8 (dk_at dksX1_spell_0 5 rfl rfl)
theorem dX1_spell_8 : decode cX1_spell 8 = .ok (.iload_n 2, 1) := dk_28 (dk_at dksX1_spell_0 8 rfl rfl)
theorem dX1_spell_9 : decode cX1_spell 9 = .ok (.iconst (-1), 1) := dk_2 (dk_at dksX1_spell_0 9 rfl rfl)
theorem dX1_spell_10 : decode cX1_spell 10 = .ok (.if_icmp .ge 5, 3) := dk_162 0 5 (dk_at dksX1_spell_0 10 rfl rfl)
theorem dX1_spell_13 : decode cX1_spell 13 = .ok (.iconst (-1), 1) := dk_2 (dk_at dksX1_spell_0 13 rfl rfl)
theorem dX1_spell_14 : decode cX1_spell 14 = .ok (.ireturn, 1) := dk_172 (dk_at dksX1_spell_0 14 rfl rfl)
theorem dX1_spell_15 : decode cX1_spell 15 = .ok (.aload_n 0, 1) := dk_42 (dk_at dksX1_spell_0 15 rfl rfl)
theorem dX1_spell_16 : decode cX1_spell 16 = .ok (.iload_n 1, 1) := dk_27 (dk_at dksX1_spell_0 16 rfl rfl)
theorem dX1_spell_17 : decode cX1_spell 17 = .ok (.invokevirtual 327, 3) := dk_182 1 71 (dk_at dksX1_spell_0 17 rfl rfl)
theorem dX1_spell_20 : decode cX1_spell 20 = .ok (.iload_n 2, 1) := dk_28 (dk_at dksX1_spell_0 20 rfl rfl)
theorem dX1_spell_21 : decode cX1_spell 21 = .ok (.iconst (-1), 1) := dk_2 (dk_at dksX1_spell_0 21 rfl rfl)
theorem dX1_spell_22 : decode cX1_spell 22 = .ok (.if_icmp .ne 10, 3) := dk_160 0 10 (dk_at dksX1_spell_1 0 rfl rfl)
theorem dX1_spell_25 : decode cX1_spell 25 = .ok (.aload_n 0, 1) := dk_42 (dk_at dksX1_spell_1 3 rfl rfl)
theorem dX1_spell_26 : decode cX1_spell 26 = .ok (.getfield 315, 3) := dk_180 1 59 (dk_at dksX1_spell_1 4 rfl rfl)
theorem dX1_spell_29 : decode cX1_spell 29 = .ok (.goto 21, 3) := dk_167 0 21 (dk_at dksX1_spell_1 7 rfl rfl)
theorem dX1_spell_32 : decode cX1_spell 32 = .ok (.iload_n 2, 1) := dk_28 (dk_at dksX1_spell_1 10 rfl rfl)
theorem dX1_spell_33 : decode cX1_spell 33 = .ok (.aload_n 0, 1) := dk_42 (dk_at dksX1_spell_1 11 rfl rfl)
theorem dX1_spell_34 : decode cX1_spell 34 = .ok (.getfield 315, 3) := dk_180 1 59 (dk_at dksX1_spell_1 12 rfl rfl)
theorem dX1_spell_37 : decode cX1_spell 37 = .ok (.if_icmp .ge 12, 3) := dk_162 0 12 (dk_at dksX1_spell_1 15 rfl rfl)
theorem dX1_spell_40 : decode cX1_spell 40 = .ok (.aload_n 0, 1) := dk_42 (dk_at dksX1_spell_1 18 rfl rfl)
theorem dX1_spell_41 : decode cX1_spell 41 = .ok (.getfield 106, 3) := dk_180 0 106 (dk_at dksX1_spell_1 19 rfl rfl)
theorem dX1_spell_44 : decode cX1_spell 44 = .ok (.iload_n 2, 1) := dk_28 (dk_at dksX1_spell_1 22 rfl rfl)
theorem dX1_spell_45 : decode cX1_spell 45 = .ok (.iaload, 1) := dk_46 (dk_at dksX1_spell_1 23 rfl rfl)
theorem dX1_spell_46 : decode cX1_spell 46 = .ok (.goto 4, 3) := dk_167 0 4 (dk_at dksX1_spell_2 0 rfl rfl)
theorem dX1_spell_49 : decode cX1_spell 49 = .ok (.iconst (-1), 1) := dk_2 (dk_at dksX1_spell_2 3 rfl rfl)
theorem dX1_spell_50 : decode cX1_spell 50 = .ok (.ireturn, 1) := dk_172 (dk_at dksX1_spell_2 4 rfl rfl)
abbrev cX1_writesLine : ByteArray := prog_17_method_62_code
def yX1_writesLine : MethodName := ⟨RX1, "writesLine", "(I)V"⟩
def dkwX1_writesLine_10 : List UInt8 := [167, 255, 218, 42, 16, 59, 182, 1, 62, 177]
abbrev dktX1_writesLine_10 : List UInt8 := dkwX1_writesLine_10 ++ []
def dkwX1_writesLine_9 : List UInt8 := [42, 180, 0, 80, 29, 46, 182, 1, 68, 42, 42, 180, 0, 83, 29, 46, 182, 1, 68, 132, 3, 1]
abbrev dktX1_writesLine_9 : List UInt8 := dkwX1_writesLine_9 ++ dktX1_writesLine_10
def dkwX1_writesLine_8 : List UInt8 := [182, 1, 65, 16, 9, 27, 104, 62, 29, 16, 9, 27, 104, 42, 180, 0, 68, 27, 46, 96, 162, 0, 29, 42]
abbrev dktX1_writesLine_8 : List UInt8 := dkwX1_writesLine_8 ++ dktX1_writesLine_9
def dkwX1_writesLine_7 : List UInt8 := [42, 180, 0, 77, 29, 46, 182, 1, 68, 132, 3, 1, 167, 255, 203, 28, 7, 160, 0, 9, 42, 16, 9]
abbrev dktX1_writesLine_7 : List UInt8 := dkwX1_writesLine_7 ++ dktX1_writesLine_8
def dkwX1_writesLine_6 : List UInt8 := [180, 0, 71, 29, 46, 182, 1, 68, 42, 42, 180, 0, 74, 29, 46, 182, 1, 68, 28, 4, 159, 0, 13, 42]
abbrev dktX1_writesLine_6 : List UInt8 := dkwX1_writesLine_6 ++ dktX1_writesLine_7
def dkwX1_writesLine_5 : List UInt8 := [16, 9, 27, 104, 62, 29, 16, 9, 27, 104, 42, 180, 0, 65, 27, 46, 96, 162, 0, 44, 42, 42]
abbrev dktX1_writesLine_5 : List UInt8 := dkwX1_writesLine_5 ++ dktX1_writesLine_6
def dkwX1_writesLine_4 : List UInt8 := [182, 1, 68, 28, 153, 0, 19, 42, 28, 7, 160, 0, 8, 16, 8, 167, 0, 5, 16, 6, 182, 1, 65]
abbrev dktX1_writesLine_4 : List UInt8 := dkwX1_writesLine_4 ++ dktX1_writesLine_5
def dkwX1_writesLine_3 : List UInt8 := [16, 7, 182, 1, 65, 42, 42, 180, 0, 59, 27, 46, 182, 1, 68, 42, 42, 180, 0, 62, 27, 46]
abbrev dktX1_writesLine_3 : List UInt8 := dkwX1_writesLine_3 ++ dktX1_writesLine_4
def dkwX1_writesLine_2 : List UInt8 := [167, 0, 12, 42, 180, 0, 77, 16, 9, 27, 104, 46, 182, 1, 68, 28, 184, 0, 190, 153, 0, 29, 42]
abbrev dktX1_writesLine_2 : List UInt8 := dkwX1_writesLine_2 ++ dktX1_writesLine_3
def dkwX1_writesLine_1 : List UInt8 := [182, 1, 68, 28, 4, 160, 0, 34, 42, 8, 182, 1, 65, 42, 42, 180, 0, 65, 27, 46, 154, 0, 7, 5]
abbrev dktX1_writesLine_1 : List UInt8 := dkwX1_writesLine_1 ++ dktX1_writesLine_2
def dkwX1_writesLine_0 : List UInt8 := [42, 180, 0, 56, 27, 46, 61, 42, 3, 181, 1, 59, 42, 28, 182, 1, 65, 42, 42, 180, 0, 53, 27, 46]
abbrev dktX1_writesLine_0 : List UInt8 := dkwX1_writesLine_0 ++ dktX1_writesLine_1
theorem dksX1_writesLine_0 : cX1_writesLine.data.toList.drop 0 = dktX1_writesLine_0 := by decide +kernel
theorem dksX1_writesLine_1 : cX1_writesLine.data.toList.drop 24 = dktX1_writesLine_1 := dk_seg dksX1_writesLine_0 24 rfl rfl
theorem dksX1_writesLine_2 : cX1_writesLine.data.toList.drop 48 = dktX1_writesLine_2 := dk_seg dksX1_writesLine_1 24 rfl rfl
theorem dksX1_writesLine_3 : cX1_writesLine.data.toList.drop 71 = dktX1_writesLine_3 := dk_seg dksX1_writesLine_2 23 rfl rfl
theorem dksX1_writesLine_4 : cX1_writesLine.data.toList.drop 93 = dktX1_writesLine_4 := dk_seg dksX1_writesLine_3 22 rfl rfl
theorem dksX1_writesLine_5 : cX1_writesLine.data.toList.drop 116 = dktX1_writesLine_5 := dk_seg dksX1_writesLine_4 23 rfl rfl
theorem dksX1_writesLine_6 : cX1_writesLine.data.toList.drop 138 = dktX1_writesLine_6 := dk_seg dksX1_writesLine_5 22 rfl rfl
theorem dksX1_writesLine_7 : cX1_writesLine.data.toList.drop 162 = dktX1_writesLine_7 := dk_seg dksX1_writesLine_6 24 rfl rfl
theorem dksX1_writesLine_8 : cX1_writesLine.data.toList.drop 185 = dktX1_writesLine_8 := dk_seg dksX1_writesLine_7 23 rfl rfl
theorem dksX1_writesLine_9 : cX1_writesLine.data.toList.drop 209 = dktX1_writesLine_9 := dk_seg dksX1_writesLine_8 24 rfl rfl
theorem dksX1_writesLine_10 : cX1_writesLine.data.toList.drop 231 = dktX1_writesLine_10 := dk_seg dksX1_writesLine_9 22 rfl rfl
theorem dX1_writesLine_0 : decode cX1_writesLine 0 = .ok (.aload_n 0, 1) := dk_42 (dk_at dksX1_writesLine_0 0 rfl rfl)
theorem dX1_writesLine_1 : decode cX1_writesLine 1 = .ok (.getfield 56, 3) := dk_180 0 56 (dk_at dksX1_writesLine_0 1 rfl rfl)
theorem dX1_writesLine_4 : decode cX1_writesLine 4 = .ok (.iload_n 1, 1) := dk_27 (dk_at dksX1_writesLine_0 4 rfl rfl)
theorem dX1_writesLine_5 : decode cX1_writesLine 5 = .ok (.iaload, 1) := dk_46 (dk_at dksX1_writesLine_0 5 rfl rfl)
theorem dX1_writesLine_6 : decode cX1_writesLine 6 = .ok (.istore_n 2, 1) := dk_61 (dk_at dksX1_writesLine_0 6 rfl rfl)
theorem dX1_writesLine_7 : decode cX1_writesLine 7 = .ok (.aload_n 0, 1) := dk_42 (dk_at dksX1_writesLine_0 7 rfl rfl)
theorem dX1_writesLine_8 : decode cX1_writesLine 8 = .ok (.iconst 0, 1) := dk_3 (dk_at dksX1_writesLine_0 8 rfl rfl)
theorem dX1_writesLine_9 : decode cX1_writesLine 9 = .ok (.putfield 315, 3) := dk_181 1 59 (dk_at dksX1_writesLine_0 9 rfl rfl)
theorem dX1_writesLine_12 : decode cX1_writesLine 12 = .ok (.aload_n 0, 1) := dk_42 (dk_at dksX1_writesLine_0 12 rfl rfl)
theorem dX1_writesLine_13 : decode cX1_writesLine 13 = .ok (.iload_n 2, 1) := dk_28 (dk_at dksX1_writesLine_0 13 rfl rfl)
theorem dX1_writesLine_14 : decode cX1_writesLine 14 = .ok (.invokevirtual 321, 3) := dk_182 1 65 (dk_at dksX1_writesLine_0 14 rfl rfl)
theorem dX1_writesLine_17 : decode cX1_writesLine 17 = .ok (.aload_n 0, 1) := dk_42 (dk_at dksX1_writesLine_0 17 rfl rfl)
theorem dX1_writesLine_18 : decode cX1_writesLine 18 = .ok (.aload_n 0, 1) := dk_42 (dk_at dksX1_writesLine_0 18 rfl rfl)
theorem dX1_writesLine_19 : decode cX1_writesLine 19 = .ok (.getfield 53, 3) := dk_180 0 53 (dk_at dksX1_writesLine_0 19 rfl rfl)
theorem dX1_writesLine_22 : decode cX1_writesLine 22 = .ok (.iload_n 1, 1) := dk_27 (dk_at dksX1_writesLine_0 22 rfl rfl)
theorem dX1_writesLine_23 : decode cX1_writesLine 23 = .ok (.iaload, 1) := dk_46 (dk_at dksX1_writesLine_0 23 rfl rfl)
theorem dX1_writesLine_24 : decode cX1_writesLine 24 = .ok (.invokevirtual 324, 3) := dk_182 1 68 (dk_at dksX1_writesLine_1 0 rfl rfl)
theorem dX1_writesLine_27 : decode cX1_writesLine 27 = .ok (.iload_n 2, 1) := dk_28 (dk_at dksX1_writesLine_1 3 rfl rfl)
theorem dX1_writesLine_28 : decode cX1_writesLine 28 = .ok (.iconst 1, 1) := dk_4 (dk_at dksX1_writesLine_1 4 rfl rfl)
theorem dX1_writesLine_29 : decode cX1_writesLine 29 = .ok (.if_icmp .ne 34, 3) := dk_160 0 34 (dk_at dksX1_writesLine_1 5 rfl rfl)
theorem dX1_writesLine_32 : decode cX1_writesLine 32 = .ok (.aload_n 0, 1) := dk_42 (dk_at dksX1_writesLine_1 8 rfl rfl)
theorem dX1_writesLine_33 : decode cX1_writesLine 33 = .ok (.iconst 5, 1) := dk_8 (dk_at dksX1_writesLine_1 9 rfl rfl)
theorem dX1_writesLine_34 : decode cX1_writesLine 34 = .ok (.invokevirtual 321, 3) := dk_182 1 65 (dk_at dksX1_writesLine_1 10 rfl rfl)
theorem dX1_writesLine_37 : decode cX1_writesLine 37 = .ok (.aload_n 0, 1) := dk_42 (dk_at dksX1_writesLine_1 13 rfl rfl)
theorem dX1_writesLine_38 : decode cX1_writesLine 38 = .ok (.aload_n 0, 1) := dk_42 (dk_at dksX1_writesLine_1 14 rfl rfl)
theorem dX1_writesLine_39 : decode cX1_writesLine 39 = .ok (.getfield 65, 3) := dk_180 0 65 (dk_at dksX1_writesLine_1 15 rfl rfl)
theorem dX1_writesLine_42 : decode cX1_writesLine 42 = .ok (.iload_n 1, 1) := dk_27 (dk_at dksX1_writesLine_1 18 rfl rfl)
theorem dX1_writesLine_43 : decode cX1_writesLine 43 = .ok (.iaload, 1) := dk_46 (dk_at dksX1_writesLine_1 19 rfl rfl)
theorem dX1_writesLine_44 : decode cX1_writesLine 44 = .ok (.ifCond .ne 7, 3) := dk_154 0 7 (dk_at dksX1_writesLine_1 20 rfl rfl)
theorem dX1_writesLine_47 : decode cX1_writesLine 47 = .ok (.iconst 2, 1) := dk_5 (dk_at dksX1_writesLine_1 23 rfl rfl)
theorem dX1_writesLine_48 : decode cX1_writesLine 48 = .ok (.goto 12, 3) := dk_167 0 12 (dk_at dksX1_writesLine_2 0 rfl rfl)
theorem dX1_writesLine_51 : decode cX1_writesLine 51 = .ok (.aload_n 0, 1) := dk_42 (dk_at dksX1_writesLine_2 3 rfl rfl)
theorem dX1_writesLine_52 : decode cX1_writesLine 52 = .ok (.getfield 77, 3) := dk_180 0 77 (dk_at dksX1_writesLine_2 4 rfl rfl)
theorem dX1_writesLine_55 : decode cX1_writesLine 55 = .ok (.bipush 9, 2) := dk_16 9 (dk_at dksX1_writesLine_2 7 rfl rfl)
theorem dX1_writesLine_57 : decode cX1_writesLine 57 = .ok (.iload_n 1, 1) := dk_27 (dk_at dksX1_writesLine_2 9 rfl rfl)
theorem dX1_writesLine_58 : decode cX1_writesLine 58 = .ok (.imul, 1) := dk_104 (dk_at dksX1_writesLine_2 10 rfl rfl)
theorem dX1_writesLine_59 : decode cX1_writesLine 59 = .ok (.iaload, 1) := dk_46 (dk_at dksX1_writesLine_2 11 rfl rfl)
theorem dX1_writesLine_60 : decode cX1_writesLine 60 = .ok (.invokevirtual 324, 3) := dk_182 1 68 (dk_at dksX1_writesLine_2 12 rfl rfl)
theorem dX1_writesLine_63 : decode cX1_writesLine 63 = .ok (.iload_n 2, 1) := dk_28 (dk_at dksX1_writesLine_2 15 rfl rfl)
theorem dX1_writesLine_64 : decode cX1_writesLine 64 = .ok (.invokestatic 190, 3) := dk_184 0 190 (dk_at dksX1_writesLine_2 16 rfl rfl)
theorem dX1_writesLine_67 : decode cX1_writesLine 67 = .ok (.ifCond .eq 29, 3) := dk_153 0 29 (dk_at dksX1_writesLine_2 19 rfl rfl)
theorem dX1_writesLine_70 : decode cX1_writesLine 70 = .ok (.aload_n 0, 1) := dk_42 (dk_at dksX1_writesLine_2 22 rfl rfl)
theorem dX1_writesLine_71 : decode cX1_writesLine 71 = .ok (.bipush 7, 2) := dk_16 7 (dk_at dksX1_writesLine_3 0 rfl rfl)
theorem dX1_writesLine_73 : decode cX1_writesLine 73 = .ok (.invokevirtual 321, 3) := dk_182 1 65 (dk_at dksX1_writesLine_3 2 rfl rfl)
theorem dX1_writesLine_76 : decode cX1_writesLine 76 = .ok (.aload_n 0, 1) := dk_42 (dk_at dksX1_writesLine_3 5 rfl rfl)
theorem dX1_writesLine_77 : decode cX1_writesLine 77 = .ok (.aload_n 0, 1) := dk_42 (dk_at dksX1_writesLine_3 6 rfl rfl)
theorem dX1_writesLine_78 : decode cX1_writesLine 78 = .ok (.getfield 59, 3) := dk_180 0 59 (dk_at dksX1_writesLine_3 7 rfl rfl)
theorem dX1_writesLine_81 : decode cX1_writesLine 81 = .ok (.iload_n 1, 1) := dk_27 (dk_at dksX1_writesLine_3 10 rfl rfl)
theorem dX1_writesLine_82 : decode cX1_writesLine 82 = .ok (.iaload, 1) := dk_46 (dk_at dksX1_writesLine_3 11 rfl rfl)
theorem dX1_writesLine_83 : decode cX1_writesLine 83 = .ok (.invokevirtual 324, 3) := dk_182 1 68 (dk_at dksX1_writesLine_3 12 rfl rfl)
theorem dX1_writesLine_86 : decode cX1_writesLine 86 = .ok (.aload_n 0, 1) := dk_42 (dk_at dksX1_writesLine_3 15 rfl rfl)
theorem dX1_writesLine_87 : decode cX1_writesLine 87 = .ok (.aload_n 0, 1) := dk_42 (dk_at dksX1_writesLine_3 16 rfl rfl)
theorem dX1_writesLine_88 : decode cX1_writesLine 88 = .ok (.getfield 62, 3) := dk_180 0 62 (dk_at dksX1_writesLine_3 17 rfl rfl)
theorem dX1_writesLine_91 : decode cX1_writesLine 91 = .ok (.iload_n 1, 1) := dk_27 (dk_at dksX1_writesLine_3 20 rfl rfl)
theorem dX1_writesLine_92 : decode cX1_writesLine 92 = .ok (.iaload, 1) := dk_46 (dk_at dksX1_writesLine_3 21 rfl rfl)
theorem dX1_writesLine_93 : decode cX1_writesLine 93 = .ok (.invokevirtual 324, 3) := dk_182 1 68 (dk_at dksX1_writesLine_4 0 rfl rfl)
theorem dX1_writesLine_96 : decode cX1_writesLine 96 = .ok (.iload_n 2, 1) := dk_28 (dk_at dksX1_writesLine_4 3 rfl rfl)
theorem dX1_writesLine_97 : decode cX1_writesLine 97 = .ok (.ifCond .eq 19, 3) := dk_153 0 19 (dk_at dksX1_writesLine_4 4 rfl rfl)
theorem dX1_writesLine_100 : decode cX1_writesLine 100 = .ok (.aload_n 0, 1) := dk_42 (dk_at dksX1_writesLine_4 7 rfl rfl)
theorem dX1_writesLine_101 : decode cX1_writesLine 101 = .ok (.iload_n 2, 1) := dk_28 (dk_at dksX1_writesLine_4 8 rfl rfl)
theorem dX1_writesLine_102 : decode cX1_writesLine 102 = .ok (.iconst 4, 1) := dk_7 (dk_at dksX1_writesLine_4 9 rfl rfl)
theorem dX1_writesLine_103 : decode cX1_writesLine 103 = .ok (.if_icmp .ne 8, 3) := dk_160 0 8 (dk_at dksX1_writesLine_4 10 rfl rfl)
theorem dX1_writesLine_106 : decode cX1_writesLine 106 = .ok (.bipush 8, 2) := dk_16 8 (dk_at dksX1_writesLine_4 13 rfl rfl)
theorem dX1_writesLine_108 : decode cX1_writesLine 108 = .ok (.goto 5, 3) := dk_167 0 5 (dk_at dksX1_writesLine_4 15 rfl rfl)
theorem dX1_writesLine_111 : decode cX1_writesLine 111 = .ok (.bipush 6, 2) := dk_16 6 (dk_at dksX1_writesLine_4 18 rfl rfl)
theorem dX1_writesLine_113 : decode cX1_writesLine 113 = .ok (.invokevirtual 321, 3) := dk_182 1 65 (dk_at dksX1_writesLine_4 20 rfl rfl)
theorem dX1_writesLine_116 : decode cX1_writesLine 116 = .ok (.bipush 9, 2) := dk_16 9 (dk_at dksX1_writesLine_5 0 rfl rfl)
theorem dX1_writesLine_118 : decode cX1_writesLine 118 = .ok (.iload_n 1, 1) := dk_27 (dk_at dksX1_writesLine_5 2 rfl rfl)
theorem dX1_writesLine_119 : decode cX1_writesLine 119 = .ok (.imul, 1) := dk_104 (dk_at dksX1_writesLine_5 3 rfl rfl)
theorem dX1_writesLine_120 : decode cX1_writesLine 120 = .ok (.istore_n 3, 1) := dk_62 (dk_at dksX1_writesLine_5 4 rfl rfl)
theorem dX1_writesLine_121 : decode cX1_writesLine 121 = .ok (.iload_n 3, 1) := dk_29 (dk_at dksX1_writesLine_5 5 rfl rfl)
theorem dX1_writesLine_122 : decode cX1_writesLine 122 = .ok (.bipush 9, 2) := dk_16 9 (dk_at dksX1_writesLine_5 6 rfl rfl)
theorem dX1_writesLine_124 : decode cX1_writesLine 124 = .ok (.iload_n 1, 1) := dk_27 (dk_at dksX1_writesLine_5 8 rfl rfl)
theorem dX1_writesLine_125 : decode cX1_writesLine 125 = .ok (.imul, 1) := dk_104 (dk_at dksX1_writesLine_5 9 rfl rfl)
theorem dX1_writesLine_126 : decode cX1_writesLine 126 = .ok (.aload_n 0, 1) := dk_42 (dk_at dksX1_writesLine_5 10 rfl rfl)
theorem dX1_writesLine_127 : decode cX1_writesLine 127 = .ok (.getfield 65, 3) := dk_180 0 65 (dk_at dksX1_writesLine_5 11 rfl rfl)
theorem dX1_writesLine_130 : decode cX1_writesLine 130 = .ok (.iload_n 1, 1) := dk_27 (dk_at dksX1_writesLine_5 14 rfl rfl)
theorem dX1_writesLine_131 : decode cX1_writesLine 131 = .ok (.iaload, 1) := dk_46 (dk_at dksX1_writesLine_5 15 rfl rfl)
theorem dX1_writesLine_132 : decode cX1_writesLine 132 = .ok (.iadd, 1) := dk_96 (dk_at dksX1_writesLine_5 16 rfl rfl)
theorem dX1_writesLine_133 : decode cX1_writesLine 133 = .ok (.if_icmp .ge 44, 3) := dk_162 0 44 (dk_at dksX1_writesLine_5 17 rfl rfl)
theorem dX1_writesLine_136 : decode cX1_writesLine 136 = .ok (.aload_n 0, 1) := dk_42 (dk_at dksX1_writesLine_5 20 rfl rfl)
theorem dX1_writesLine_137 : decode cX1_writesLine 137 = .ok (.aload_n 0, 1) := dk_42 (dk_at dksX1_writesLine_5 21 rfl rfl)
theorem dX1_writesLine_138 : decode cX1_writesLine 138 = .ok (.getfield 71, 3) := dk_180 0 71 (dk_at dksX1_writesLine_6 0 rfl rfl)
theorem dX1_writesLine_141 : decode cX1_writesLine 141 = .ok (.iload_n 3, 1) := dk_29 (dk_at dksX1_writesLine_6 3 rfl rfl)
theorem dX1_writesLine_142 : decode cX1_writesLine 142 = .ok (.iaload, 1) := dk_46 (dk_at dksX1_writesLine_6 4 rfl rfl)
theorem dX1_writesLine_143 : decode cX1_writesLine 143 = .ok (.invokevirtual 324, 3) := dk_182 1 68 (dk_at dksX1_writesLine_6 5 rfl rfl)
theorem dX1_writesLine_146 : decode cX1_writesLine 146 = .ok (.aload_n 0, 1) := dk_42 (dk_at dksX1_writesLine_6 8 rfl rfl)
theorem dX1_writesLine_147 : decode cX1_writesLine 147 = .ok (.aload_n 0, 1) := dk_42 (dk_at dksX1_writesLine_6 9 rfl rfl)
theorem dX1_writesLine_148 : decode cX1_writesLine 148 = .ok (.getfield 74, 3) := dk_180 0 74 (dk_at dksX1_writesLine_6 10 rfl rfl)
theorem dX1_writesLine_151 : decode cX1_writesLine 151 = .ok (.iload_n 3, 1) := dk_29 (dk_at dksX1_writesLine_6 13 rfl rfl)
theorem dX1_writesLine_152 : decode cX1_writesLine 152 = .ok (.iaload, 1) := dk_46 (dk_at dksX1_writesLine_6 14 rfl rfl)
theorem dX1_writesLine_153 : decode cX1_writesLine 153 = .ok (.invokevirtual 324, 3) := dk_182 1 68 (dk_at dksX1_writesLine_6 15 rfl rfl)
theorem dX1_writesLine_156 : decode cX1_writesLine 156 = .ok (.iload_n 2, 1) := dk_28 (dk_at dksX1_writesLine_6 18 rfl rfl)
theorem dX1_writesLine_157 : decode cX1_writesLine 157 = .ok (.iconst 1, 1) := dk_4 (dk_at dksX1_writesLine_6 19 rfl rfl)
theorem dX1_writesLine_158 : decode cX1_writesLine 158 = .ok (.if_icmp .eq 13, 3) := dk_159 0 13 (dk_at dksX1_writesLine_6 20 rfl rfl)
theorem dX1_writesLine_161 : decode cX1_writesLine 161 = .ok (.aload_n 0, 1) := dk_42 (dk_at dksX1_writesLine_6 23 rfl rfl)
theorem dX1_writesLine_162 : decode cX1_writesLine 162 = .ok (.aload_n 0, 1) := dk_42 (dk_at dksX1_writesLine_7 0 rfl rfl)
theorem dX1_writesLine_163 : decode cX1_writesLine 163 = .ok (.getfield 77, 3) := dk_180 0 77 (dk_at dksX1_writesLine_7 1 rfl rfl)
theorem dX1_writesLine_166 : decode cX1_writesLine 166 = .ok (.iload_n 3, 1) := dk_29 (dk_at dksX1_writesLine_7 4 rfl rfl)
theorem dX1_writesLine_167 : decode cX1_writesLine 167 = .ok (.iaload, 1) := dk_46 (dk_at dksX1_writesLine_7 5 rfl rfl)
theorem dX1_writesLine_168 : decode cX1_writesLine 168 = .ok (.invokevirtual 324, 3) := dk_182 1 68 (dk_at dksX1_writesLine_7 6 rfl rfl)
theorem dX1_writesLine_171 : decode cX1_writesLine 171 = .ok (.iinc 3 1, 3) := dk_132 3 1 (dk_at dksX1_writesLine_7 9 rfl rfl)
theorem dX1_writesLine_174 : decode cX1_writesLine 174 = .ok (.goto (-53), 3) := dk_167 255 203 (dk_at dksX1_writesLine_7 12 rfl rfl)
theorem dX1_writesLine_177 : decode cX1_writesLine 177 = .ok (.iload_n 2, 1) := dk_28 (dk_at dksX1_writesLine_7 15 rfl rfl)
theorem dX1_writesLine_178 : decode cX1_writesLine 178 = .ok (.iconst 4, 1) := dk_7 (dk_at dksX1_writesLine_7 16 rfl rfl)
theorem dX1_writesLine_179 : decode cX1_writesLine 179 = .ok (.if_icmp .ne 9, 3) := dk_160 0 9 (dk_at dksX1_writesLine_7 17 rfl rfl)
theorem dX1_writesLine_182 : decode cX1_writesLine 182 = .ok (.aload_n 0, 1) := dk_42 (dk_at dksX1_writesLine_7 20 rfl rfl)
theorem dX1_writesLine_183 : decode cX1_writesLine 183 = .ok (.bipush 9, 2) := dk_16 9 (dk_at dksX1_writesLine_7 21 rfl rfl)
theorem dX1_writesLine_185 : decode cX1_writesLine 185 = .ok (.invokevirtual 321, 3) := dk_182 1 65 (dk_at dksX1_writesLine_8 0 rfl rfl)
theorem dX1_writesLine_188 : decode cX1_writesLine 188 = .ok (.bipush 9, 2) := dk_16 9 (dk_at dksX1_writesLine_8 3 rfl rfl)
theorem dX1_writesLine_190 : decode cX1_writesLine 190 = .ok (.iload_n 1, 1) := dk_27 (dk_at dksX1_writesLine_8 5 rfl rfl)
theorem dX1_writesLine_191 : decode cX1_writesLine 191 = .ok (.imul, 1) := dk_104 (dk_at dksX1_writesLine_8 6 rfl rfl)
theorem dX1_writesLine_192 : decode cX1_writesLine 192 = .ok (.istore_n 3, 1) := dk_62 (dk_at dksX1_writesLine_8 7 rfl rfl)
theorem dX1_writesLine_193 : decode cX1_writesLine 193 = .ok (.iload_n 3, 1) := dk_29 (dk_at dksX1_writesLine_8 8 rfl rfl)
theorem dX1_writesLine_194 : decode cX1_writesLine 194 = .ok (.bipush 9, 2) := dk_16 9 (dk_at dksX1_writesLine_8 9 rfl rfl)
theorem dX1_writesLine_196 : decode cX1_writesLine 196 = .ok (.iload_n 1, 1) := dk_27 (dk_at dksX1_writesLine_8 11 rfl rfl)
theorem dX1_writesLine_197 : decode cX1_writesLine 197 = .ok (.imul, 1) := dk_104 (dk_at dksX1_writesLine_8 12 rfl rfl)
theorem dX1_writesLine_198 : decode cX1_writesLine 198 = .ok (.aload_n 0, 1) := dk_42 (dk_at dksX1_writesLine_8 13 rfl rfl)
theorem dX1_writesLine_199 : decode cX1_writesLine 199 = .ok (.getfield 68, 3) := dk_180 0 68 (dk_at dksX1_writesLine_8 14 rfl rfl)
theorem dX1_writesLine_202 : decode cX1_writesLine 202 = .ok (.iload_n 1, 1) := dk_27 (dk_at dksX1_writesLine_8 17 rfl rfl)
theorem dX1_writesLine_203 : decode cX1_writesLine 203 = .ok (.iaload, 1) := dk_46 (dk_at dksX1_writesLine_8 18 rfl rfl)
theorem dX1_writesLine_204 : decode cX1_writesLine 204 = .ok (.iadd, 1) := dk_96 (dk_at dksX1_writesLine_8 19 rfl rfl)
theorem dX1_writesLine_205 : decode cX1_writesLine 205 = .ok (.if_icmp .ge 29, 3) := dk_162 0 29 (dk_at dksX1_writesLine_8 20 rfl rfl)
theorem dX1_writesLine_208 : decode cX1_writesLine 208 = .ok (.aload_n 0, 1) := dk_42 (dk_at dksX1_writesLine_8 23 rfl rfl)
theorem dX1_writesLine_209 : decode cX1_writesLine 209 = .ok (.aload_n 0, 1) := dk_42 (dk_at dksX1_writesLine_9 0 rfl rfl)
theorem dX1_writesLine_210 : decode cX1_writesLine 210 = .ok (.getfield 80, 3) := dk_180 0 80 (dk_at dksX1_writesLine_9 1 rfl rfl)
theorem dX1_writesLine_213 : decode cX1_writesLine 213 = .ok (.iload_n 3, 1) := dk_29 (dk_at dksX1_writesLine_9 4 rfl rfl)
theorem dX1_writesLine_214 : decode cX1_writesLine 214 = .ok (.iaload, 1) := dk_46 (dk_at dksX1_writesLine_9 5 rfl rfl)
theorem dX1_writesLine_215 : decode cX1_writesLine 215 = .ok (.invokevirtual 324, 3) := dk_182 1 68 (dk_at dksX1_writesLine_9 6 rfl rfl)
theorem dX1_writesLine_218 : decode cX1_writesLine 218 = .ok (.aload_n 0, 1) := dk_42 (dk_at dksX1_writesLine_9 9 rfl rfl)
theorem dX1_writesLine_219 : decode cX1_writesLine 219 = .ok (.aload_n 0, 1) := dk_42 (dk_at dksX1_writesLine_9 10 rfl rfl)
theorem dX1_writesLine_220 : decode cX1_writesLine 220 = .ok (.getfield 83, 3) := dk_180 0 83 (dk_at dksX1_writesLine_9 11 rfl rfl)
theorem dX1_writesLine_223 : decode cX1_writesLine 223 = .ok (.iload_n 3, 1) := dk_29 (dk_at dksX1_writesLine_9 14 rfl rfl)
theorem dX1_writesLine_224 : decode cX1_writesLine 224 = .ok (.iaload, 1) := dk_46 (dk_at dksX1_writesLine_9 15 rfl rfl)
theorem dX1_writesLine_225 : decode cX1_writesLine 225 = .ok (.invokevirtual 324, 3) := dk_182 1 68 (dk_at dksX1_writesLine_9 16 rfl rfl)
theorem dX1_writesLine_228 : decode cX1_writesLine 228 = .ok (.iinc 3 1, 3) := dk_132 3 1 (dk_at dksX1_writesLine_9 19 rfl rfl)
theorem dX1_writesLine_231 : decode cX1_writesLine 231 = .ok (.goto (-38), 3) := dk_167 255 218 (dk_at dksX1_writesLine_10 0 rfl rfl)
theorem dX1_writesLine_234 : decode cX1_writesLine 234 = .ok (.aload_n 0, 1) := dk_42 (dk_at dksX1_writesLine_10 3 rfl rfl)
theorem dX1_writesLine_235 : decode cX1_writesLine 235 = .ok (.bipush 59, 2) := dk_16 59 (dk_at dksX1_writesLine_10 4 rfl rfl)
theorem dX1_writesLine_237 : decode cX1_writesLine 237 = .ok (.invokevirtual 318, 3) := dk_182 1 62 (dk_at dksX1_writesLine_10 6 rfl rfl)
theorem dX1_writesLine_240 : decode cX1_writesLine 240 = .ok (.return_, 1) := dk_177 (dk_at dksX1_writesLine_10 9 rfl rfl)
abbrev cX1_writesWord : ByteArray := prog_17_method_59_code
def yX1_writesWord : MethodName := ⟨RX1, "writesWord", "(I)V"⟩
def dkwX1_writesWord_1 : List UInt8 := [51, 153, 0, 19, 42, 42, 180, 0, 102, 28, 51, 182, 1, 62, 132, 2, 1, 167, 255, 234, 177]
abbrev dktX1_writesWord_1 : List UInt8 := dkwX1_writesWord_1 ++ []
def dkwX1_writesWord_0 : List UInt8 := [42, 180, 1, 59, 158, 0, 9, 42, 16, 32, 182, 1, 62, 42, 27, 182, 1, 1, 61, 42, 180, 0, 102, 28]
abbrev dktX1_writesWord_0 : List UInt8 := dkwX1_writesWord_0 ++ dktX1_writesWord_1
theorem dksX1_writesWord_0 : cX1_writesWord.data.toList.drop 0 = dktX1_writesWord_0 := by decide +kernel
theorem dksX1_writesWord_1 : cX1_writesWord.data.toList.drop 24 = dktX1_writesWord_1 := dk_seg dksX1_writesWord_0 24 rfl rfl
theorem dX1_writesWord_0 : decode cX1_writesWord 0 = .ok (.aload_n 0, 1) := dk_42 (dk_at dksX1_writesWord_0 0 rfl rfl)
theorem dX1_writesWord_1 : decode cX1_writesWord 1 = .ok (.getfield 315, 3) := dk_180 1 59 (dk_at dksX1_writesWord_0 1 rfl rfl)
theorem dX1_writesWord_4 : decode cX1_writesWord 4 = .ok (.ifCond .le 9, 3) := dk_158 0 9 (dk_at dksX1_writesWord_0 4 rfl rfl)
theorem dX1_writesWord_7 : decode cX1_writesWord 7 = .ok (.aload_n 0, 1) := dk_42 (dk_at dksX1_writesWord_0 7 rfl rfl)
theorem dX1_writesWord_8 : decode cX1_writesWord 8 = .ok (.bipush 32, 2) := dk_16 32 (dk_at dksX1_writesWord_0 8 rfl rfl)
theorem dX1_writesWord_10 : decode cX1_writesWord 10 = .ok (.invokevirtual 318, 3) := dk_182 1 62 (dk_at dksX1_writesWord_0 10 rfl rfl)
theorem dX1_writesWord_13 : decode cX1_writesWord 13 = .ok (.aload_n 0, 1) := dk_42 (dk_at dksX1_writesWord_0 13 rfl rfl)
theorem dX1_writesWord_14 : decode cX1_writesWord 14 = .ok (.iload_n 1, 1) := dk_27 (dk_at dksX1_writesWord_0 14 rfl rfl)
theorem dX1_writesWord_15 : decode cX1_writesWord 15 = .ok (.invokevirtual 257, 3) := dk_182 1 1 (dk_at dksX1_writesWord_0 15 rfl rfl)
theorem dX1_writesWord_18 : decode cX1_writesWord 18 = .ok (.istore_n 2, 1) := dk_61 (dk_at dksX1_writesWord_0 18 rfl rfl)
theorem dX1_writesWord_19 : decode cX1_writesWord 19 = .ok (.aload_n 0, 1) := dk_42 (dk_at dksX1_writesWord_0 19 rfl rfl)
theorem dX1_writesWord_20 : decode cX1_writesWord 20 = .ok (.getfield 102, 3) := dk_180 0 102 (dk_at dksX1_writesWord_0 20 rfl rfl)
theorem dX1_writesWord_23 : decode cX1_writesWord 23 = .ok (.iload_n 2, 1) := dk_28 (dk_at dksX1_writesWord_0 23 rfl rfl)
theorem dX1_writesWord_24 : decode cX1_writesWord 24 = .ok (.baload, 1) := dk_51 (dk_at dksX1_writesWord_1 0 rfl rfl)
theorem dX1_writesWord_25 : decode cX1_writesWord 25 = .ok (.ifCond .eq 19, 3) := dk_153 0 19 (dk_at dksX1_writesWord_1 1 rfl rfl)
theorem dX1_writesWord_28 : decode cX1_writesWord 28 = .ok (.aload_n 0, 1) := dk_42 (dk_at dksX1_writesWord_1 4 rfl rfl)
theorem dX1_writesWord_29 : decode cX1_writesWord 29 = .ok (.aload_n 0, 1) := dk_42 (dk_at dksX1_writesWord_1 5 rfl rfl)
theorem dX1_writesWord_30 : decode cX1_writesWord 30 = .ok (.getfield 102, 3) := dk_180 0 102 (dk_at dksX1_writesWord_1 6 rfl rfl)
theorem dX1_writesWord_33 : decode cX1_writesWord 33 = .ok (.iload_n 2, 1) := dk_28 (dk_at dksX1_writesWord_1 9 rfl rfl)
theorem dX1_writesWord_34 : decode cX1_writesWord 34 = .ok (.baload, 1) := dk_51 (dk_at dksX1_writesWord_1 10 rfl rfl)
theorem dX1_writesWord_35 : decode cX1_writesWord 35 = .ok (.invokevirtual 318, 3) := dk_182 1 62 (dk_at dksX1_writesWord_1 11 rfl rfl)
theorem dX1_writesWord_38 : decode cX1_writesWord 38 = .ok (.iinc 2 1, 3) := dk_132 2 1 (dk_at dksX1_writesWord_1 14 rfl rfl)
theorem dX1_writesWord_41 : decode cX1_writesWord 41 = .ok (.goto (-22), 3) := dk_167 255 234 (dk_at dksX1_writesWord_1 17 rfl rfl)
theorem dX1_writesWord_44 : decode cX1_writesWord 44 = .ok (.return_, 1) := dk_177 (dk_at dksX1_writesWord_1 20 rfl rfl)
abbrev cX1_writesSign : ByteArray := prog_17_method_60_code
def yX1_writesSign : MethodName := ⟨RX1, "writesSign", "(I)V"⟩
def dkwX1_writesSign_0 : List UInt8 := [42, 180, 0, 106, 42, 180, 1, 59, 27, 79, 42, 89, 180, 1, 59, 4, 96, 181, 1, 59, 177]
abbrev dktX1_writesSign_0 : List UInt8 := dkwX1_writesSign_0 ++ []
theorem dksX1_writesSign_0 : cX1_writesSign.data.toList.drop 0 = dktX1_writesSign_0 := by decide +kernel
theorem dX1_writesSign_0 : decode cX1_writesSign 0 = .ok (.aload_n 0, 1) := dk_42 (dk_at dksX1_writesSign_0 0 rfl rfl)
theorem dX1_writesSign_1 : decode cX1_writesSign 1 = .ok (.getfield 106, 3) := dk_180 0 106 (dk_at dksX1_writesSign_0 1 rfl rfl)
theorem dX1_writesSign_4 : decode cX1_writesSign 4 = .ok (.aload_n 0, 1) := dk_42 (dk_at dksX1_writesSign_0 4 rfl rfl)
theorem dX1_writesSign_5 : decode cX1_writesSign 5 = .ok (.getfield 315, 3) := dk_180 1 59 (dk_at dksX1_writesSign_0 5 rfl rfl)
theorem dX1_writesSign_8 : decode cX1_writesSign 8 = .ok (.iload_n 1, 1) := dk_27 (dk_at dksX1_writesSign_0 8 rfl rfl)
theorem dX1_writesSign_9 : decode cX1_writesSign 9 = .ok (.iastore, 1) := dk_79 (dk_at dksX1_writesSign_0 9 rfl rfl)
theorem dX1_writesSign_10 : decode cX1_writesSign 10 = .ok (.aload_n 0, 1) := dk_42 (dk_at dksX1_writesSign_0 10 rfl rfl)
theorem dX1_writesSign_11 : decode cX1_writesSign 11 = .ok (.dup, 1) := dk_89 (dk_at dksX1_writesSign_0 11 rfl rfl)
theorem dX1_writesSign_12 : decode cX1_writesSign 12 = .ok (.getfield 315, 3) := dk_180 1 59 (dk_at dksX1_writesSign_0 12 rfl rfl)
theorem dX1_writesSign_15 : decode cX1_writesSign 15 = .ok (.iconst 1, 1) := dk_4 (dk_at dksX1_writesSign_0 15 rfl rfl)
theorem dX1_writesSign_16 : decode cX1_writesSign 16 = .ok (.iadd, 1) := dk_96 (dk_at dksX1_writesSign_0 16 rfl rfl)
theorem dX1_writesSign_17 : decode cX1_writesSign 17 = .ok (.putfield 315, 3) := dk_181 1 59 (dk_at dksX1_writesSign_0 17 rfl rfl)
theorem dX1_writesSign_20 : decode cX1_writesSign 20 = .ok (.return_, 1) := dk_177 (dk_at dksX1_writesSign_0 20 rfl rfl)
abbrev cX1_writes : ByteArray := prog_17_method_61_code
def yX1_writes : MethodName := ⟨RX1, "writes", "(I)V"⟩
def dkwX1_writes_2 : List UInt8 := [167, 255, 234, 177]
abbrev dktX1_writes_2 : List UInt8 := dkwX1_writes_2 ++ []
def dkwX1_writes_1 : List UInt8 := [28, 158, 0, 24, 42, 16, 48, 27, 28, 108, 16, 10, 112, 96, 182, 1, 62, 28, 16, 10, 108, 61]
abbrev dktX1_writes_1 : List UInt8 := dkwX1_writes_1 ++ dktX1_writes_2
def dkwX1_writes_0 : List UInt8 := [42, 16, 32, 182, 1, 62, 4, 61, 27, 28, 108, 16, 9, 164, 0, 11, 28, 16, 10, 104, 61, 167, 255, 243]
abbrev dktX1_writes_0 : List UInt8 := dkwX1_writes_0 ++ dktX1_writes_1
theorem dksX1_writes_0 : cX1_writes.data.toList.drop 0 = dktX1_writes_0 := by decide +kernel
theorem dksX1_writes_1 : cX1_writes.data.toList.drop 24 = dktX1_writes_1 := dk_seg dksX1_writes_0 24 rfl rfl
theorem dksX1_writes_2 : cX1_writes.data.toList.drop 46 = dktX1_writes_2 := dk_seg dksX1_writes_1 22 rfl rfl
theorem dX1_writes_0 : decode cX1_writes 0 = .ok (.aload_n 0, 1) := dk_42 (dk_at dksX1_writes_0 0 rfl rfl)
theorem dX1_writes_1 : decode cX1_writes 1 = .ok (.bipush 32, 2) := dk_16 32 (dk_at dksX1_writes_0 1 rfl rfl)
theorem dX1_writes_3 : decode cX1_writes 3 = .ok (.invokevirtual 318, 3) := dk_182 1 62 (dk_at dksX1_writes_0 3 rfl rfl)
theorem dX1_writes_6 : decode cX1_writes 6 = .ok (.iconst 1, 1) := dk_4 (dk_at dksX1_writes_0 6 rfl rfl)
theorem dX1_writes_7 : decode cX1_writes 7 = .ok (.istore_n 2, 1) := dk_61 (dk_at dksX1_writes_0 7 rfl rfl)
theorem dX1_writes_8 : decode cX1_writes 8 = .ok (.iload_n 1, 1) := dk_27 (dk_at dksX1_writes_0 8 rfl rfl)
theorem dX1_writes_9 : decode cX1_writes 9 = .ok (.iload_n 2, 1) := dk_28 (dk_at dksX1_writes_0 9 rfl rfl)
theorem dX1_writes_10 : decode cX1_writes 10 = .ok (.idiv, 1) := dk_108 (dk_at dksX1_writes_0 10 rfl rfl)
theorem dX1_writes_11 : decode cX1_writes 11 = .ok (.bipush 9, 2) := dk_16 9 (dk_at dksX1_writes_0 11 rfl rfl)
theorem dX1_writes_13 : decode cX1_writes 13 = .ok (.if_icmp .le 11, 3) := dk_164 0 11 (dk_at dksX1_writes_0 13 rfl rfl)
theorem dX1_writes_16 : decode cX1_writes 16 = .ok (.iload_n 2, 1) := dk_28 (dk_at dksX1_writes_0 16 rfl rfl)
theorem dX1_writes_17 : decode cX1_writes 17 = .ok (.bipush 10, 2) := dk_16 10 (dk_at dksX1_writes_0 17 rfl rfl)
theorem dX1_writes_19 : decode cX1_writes 19 = .ok (.imul, 1) := dk_104 (dk_at dksX1_writes_0 19 rfl rfl)
theorem dX1_writes_20 : decode cX1_writes 20 = .ok (.istore_n 2, 1) := dk_61 (dk_at dksX1_writes_0 20 rfl rfl)
theorem dX1_writes_21 : decode cX1_writes 21 = .ok (.goto (-13), 3) := dk_167 255 243 (dk_at dksX1_writes_0 21 rfl rfl)
theorem dX1_writes_24 : decode cX1_writes 24 = .ok (.iload_n 2, 1) := dk_28 (dk_at dksX1_writes_1 0 rfl rfl)
theorem dX1_writes_25 : decode cX1_writes 25 = .ok (.ifCond .le 24, 3) := dk_158 0 24 (dk_at dksX1_writes_1 1 rfl rfl)
theorem dX1_writes_28 : decode cX1_writes 28 = .ok (.aload_n 0, 1) := dk_42 (dk_at dksX1_writes_1 4 rfl rfl)
theorem dX1_writes_29 : decode cX1_writes 29 = .ok (.bipush 48, 2) := dk_16 48 (dk_at dksX1_writes_1 5 rfl rfl)
theorem dX1_writes_31 : decode cX1_writes 31 = .ok (.iload_n 1, 1) := dk_27 (dk_at dksX1_writes_1 7 rfl rfl)
theorem dX1_writes_32 : decode cX1_writes 32 = .ok (.iload_n 2, 1) := dk_28 (dk_at dksX1_writes_1 8 rfl rfl)
theorem dX1_writes_33 : decode cX1_writes 33 = .ok (.idiv, 1) := dk_108 (dk_at dksX1_writes_1 9 rfl rfl)
theorem dX1_writes_34 : decode cX1_writes 34 = .ok (.bipush 10, 2) := dk_16 10 (dk_at dksX1_writes_1 10 rfl rfl)
theorem dX1_writes_36 : decode cX1_writes 36 = .ok (.irem, 1) := dk_112 (dk_at dksX1_writes_1 12 rfl rfl)
theorem dX1_writes_37 : decode cX1_writes 37 = .ok (.iadd, 1) := dk_96 (dk_at dksX1_writes_1 13 rfl rfl)
theorem dX1_writes_38 : decode cX1_writes 38 = .ok (.invokevirtual 318, 3) := dk_182 1 62 (dk_at dksX1_writes_1 14 rfl rfl)
theorem dX1_writes_41 : decode cX1_writes 41 = .ok (.iload_n 2, 1) := dk_28 (dk_at dksX1_writes_1 17 rfl rfl)
theorem dX1_writes_42 : decode cX1_writes 42 = .ok (.bipush 10, 2) := dk_16 10 (dk_at dksX1_writes_1 18 rfl rfl)
theorem dX1_writes_44 : decode cX1_writes 44 = .ok (.idiv, 1) := dk_108 (dk_at dksX1_writes_1 20 rfl rfl)
theorem dX1_writes_45 : decode cX1_writes 45 = .ok (.istore_n 2, 1) := dk_61 (dk_at dksX1_writes_1 21 rfl rfl)
theorem dX1_writes_46 : decode cX1_writes 46 = .ok (.goto (-22), 3) := dk_167 255 234 (dk_at dksX1_writes_2 0 rfl rfl)
theorem dX1_writes_49 : decode cX1_writes 49 = .ok (.return_, 1) := dk_177 (dk_at dksX1_writes_2 3 rfl rfl)
abbrev cX1_set : ByteArray := prog_17_method_64_code
def yX1_set : MethodName := ⟨RX1, "set", "(III)I"⟩
def dkwX1_set_5 : List UInt8 := [160, 0, 13, 42, 180, 0, 59, 27, 29, 79, 167, 0, 10, 42, 180, 0, 62, 27, 29, 79, 21, 4, 172]
abbrev dktX1_set_5 : List UInt8 := dkwX1_set_5 ++ []
def dkwX1_set_4 : List UInt8 := [180, 0, 62, 27, 46, 54, 4, 28, 154, 0, 13, 42, 180, 0, 53, 27, 29, 79, 167, 0, 25, 28, 4]
abbrev dktX1_set_4 : List UInt8 := dkwX1_set_4 ++ dktX1_set_5
def dkwX1_set_3 : List UInt8 := [42, 180, 0, 53, 27, 46, 167, 0, 23, 28, 4, 160, 0, 12, 42, 180, 0, 59, 27, 46, 167, 0, 9, 42]
abbrev dktX1_set_3 : List UInt8 := dkwX1_set_3 ++ dktX1_set_4
def dkwX1_set_2 : List UInt8 := [154, 0, 20, 167, 0, 15, 29, 133, 10, 20, 1, 74, 184, 0, 11, 154, 0, 5, 2, 172, 28, 154, 0, 12]
abbrev dktX1_set_2 : List UInt8 := dkwX1_set_2 ++ dktX1_set_3
def dkwX1_set_1 : List UInt8 := [42, 180, 0, 56, 27, 46, 184, 0, 190, 154, 0, 5, 2, 172, 28, 154, 0, 14, 29, 133, 184, 0, 226]
abbrev dktX1_set_1 : List UInt8 := dkwX1_set_1 ++ dktX1_set_2
def dkwX1_set_0 : List UInt8 := [42, 27, 182, 0, 240, 153, 0, 31, 28, 133, 9, 20, 0, 7, 184, 0, 11, 153, 0, 19, 28, 158, 0, 17]
abbrev dktX1_set_0 : List UInt8 := dkwX1_set_0 ++ dktX1_set_1
theorem dksX1_set_0 : cX1_set.data.toList.drop 0 = dktX1_set_0 := by decide +kernel
theorem dksX1_set_1 : cX1_set.data.toList.drop 24 = dktX1_set_1 := dk_seg dksX1_set_0 24 rfl rfl
theorem dksX1_set_2 : cX1_set.data.toList.drop 47 = dktX1_set_2 := dk_seg dksX1_set_1 23 rfl rfl
theorem dksX1_set_3 : cX1_set.data.toList.drop 71 = dktX1_set_3 := dk_seg dksX1_set_2 24 rfl rfl
theorem dksX1_set_4 : cX1_set.data.toList.drop 95 = dktX1_set_4 := dk_seg dksX1_set_3 24 rfl rfl
theorem dksX1_set_5 : cX1_set.data.toList.drop 118 = dktX1_set_5 := dk_seg dksX1_set_4 23 rfl rfl
theorem dX1_set_0 : decode cX1_set 0 = .ok (.aload_n 0, 1) := dk_42 (dk_at dksX1_set_0 0 rfl rfl)
theorem dX1_set_1 : decode cX1_set 1 = .ok (.iload_n 1, 1) := dk_27 (dk_at dksX1_set_0 1 rfl rfl)
theorem dX1_set_2 : decode cX1_set 2 = .ok (.invokevirtual 240, 3) := dk_182 0 240 (dk_at dksX1_set_0 2 rfl rfl)
theorem dX1_set_5 : decode cX1_set 5 = .ok (.ifCond .eq 31, 3) := dk_153 0 31 (dk_at dksX1_set_0 5 rfl rfl)
theorem dX1_set_8 : decode cX1_set 8 = .ok (.iload_n 2, 1) := dk_28 (dk_at dksX1_set_0 8 rfl rfl)
theorem dX1_set_9 : decode cX1_set 9 = .ok (.i2l, 1) := dk_133 (dk_at dksX1_set_0 9 rfl rfl)
theorem dX1_set_10 : decode cX1_set 10 = .ok (.lconst 0, 1) := dk_9 (dk_at dksX1_set_0 10 rfl rfl)
theorem dX1_set_11 : decode cX1_set 11 = .ok (.ldc2_w 7, 3) := dk_20 0 7 (dk_at dksX1_set_0 11 rfl rfl)
theorem dX1_set_14 : decode cX1_set 14 = .ok (.invokestatic 11, 3) := dk_184 0 11 (dk_at dksX1_set_0 14 rfl rfl)
theorem dX1_set_17 : decode cX1_set 17 = .ok (.ifCond .eq 19, 3) := dk_153 0 19 (dk_at dksX1_set_0 17 rfl rfl)
theorem dX1_set_20 : decode cX1_set 20 = .ok (.iload_n 2, 1) := dk_28 (dk_at dksX1_set_0 20 rfl rfl)
theorem dX1_set_21 : decode cX1_set 21 = .ok (.ifCond .le 17, 3) := dk_158 0 17 (dk_at dksX1_set_0 21 rfl rfl)
theorem dX1_set_24 : decode cX1_set 24 = .ok (.aload_n 0, 1) := dk_42 (dk_at dksX1_set_1 0 rfl rfl)
theorem dX1_set_25 : decode cX1_set 25 = .ok (.getfield 56, 3) := dk_180 0 56 (dk_at dksX1_set_1 1 rfl rfl)
theorem dX1_set_28 : decode cX1_set 28 = .ok (.iload_n 1, 1) := dk_27 (dk_at dksX1_set_1 4 rfl rfl)
theorem dX1_set_29 : decode cX1_set 29 = .ok (.iaload, 1) := dk_46 (dk_at dksX1_set_1 5 rfl rfl)
theorem dX1_set_30 : decode cX1_set 30 = .ok (.invokestatic 190, 3) := dk_184 0 190 (dk_at dksX1_set_1 6 rfl rfl)
theorem dX1_set_33 : decode cX1_set 33 = .ok (.ifCond .ne 5, 3) := dk_154 0 5 (dk_at dksX1_set_1 9 rfl rfl)
theorem dX1_set_36 : decode cX1_set 36 = .ok (.iconst (-1), 1) := dk_2 (dk_at dksX1_set_1 12 rfl rfl)
theorem dX1_set_37 : decode cX1_set 37 = .ok (.ireturn, 1) := dk_172 (dk_at dksX1_set_1 13 rfl rfl)
theorem dX1_set_38 : decode cX1_set 38 = .ok (.iload_n 2, 1) := dk_28 (dk_at dksX1_set_1 14 rfl rfl)
theorem dX1_set_39 : decode cX1_set 39 = .ok (.ifCond .ne 14, 3) := dk_154 0 14 (dk_at dksX1_set_1 15 rfl rfl)
theorem dX1_set_42 : decode cX1_set 42 = .ok (.iload_n 3, 1) := dk_29 (dk_at dksX1_set_1 18 rfl rfl)
theorem dX1_set_43 : decode cX1_set 43 = .ok (.i2l, 1) := dk_133 (dk_at dksX1_set_1 19 rfl rfl)
theorem dX1_set_44 : decode cX1_set 44 = .ok (.invokestatic 226, 3) := dk_184 0 226 (dk_at dksX1_set_1 20 rfl rfl)
theorem dX1_set_47 : decode cX1_set 47 = .ok (.ifCond .ne 20, 3) := dk_154 0 20 (dk_at dksX1_set_2 0 rfl rfl)
theorem dX1_set_50 : decode cX1_set 50 = .ok (.goto 15, 3) := dk_167 0 15 (dk_at dksX1_set_2 3 rfl rfl)
theorem dX1_set_53 : decode cX1_set 53 = .ok (.iload_n 3, 1) := dk_29 (dk_at dksX1_set_2 6 rfl rfl)
theorem dX1_set_54 : decode cX1_set 54 = .ok (.i2l, 1) := dk_133 (dk_at dksX1_set_2 7 rfl rfl)
theorem dX1_set_55 : decode cX1_set 55 = .ok (.lconst 1, 1) := dk_10 (dk_at dksX1_set_2 8 rfl rfl)
theorem dX1_set_56 : decode cX1_set 56 = .ok (.ldc2_w 330, 3) := dk_20 1 74 (dk_at dksX1_set_2 9 rfl rfl)
theorem dX1_set_59 : decode cX1_set 59 = .ok (.invokestatic 11, 3) := dk_184 0 11 (dk_at dksX1_set_2 12 rfl rfl)
theorem dX1_set_62 : decode cX1_set 62 = .ok (.ifCond .ne 5, 3) := dk_154 0 5 (dk_at dksX1_set_2 15 rfl rfl)
theorem dX1_set_65 : decode cX1_set 65 = .ok (.iconst (-1), 1) := dk_2 (dk_at dksX1_set_2 18 rfl rfl)
theorem dX1_set_66 : decode cX1_set 66 = .ok (.ireturn, 1) := dk_172 (dk_at dksX1_set_2 19 rfl rfl)
theorem dX1_set_67 : decode cX1_set 67 = .ok (.iload_n 2, 1) := dk_28 (dk_at dksX1_set_2 20 rfl rfl)
theorem dX1_set_68 : decode cX1_set 68 = .ok (.ifCond .ne 12, 3) := dk_154 0 12 (dk_at dksX1_set_2 21 rfl rfl)
theorem dX1_set_71 : decode cX1_set 71 = .ok (.aload_n 0, 1) := dk_42 (dk_at dksX1_set_3 0 rfl rfl)
theorem dX1_set_72 : decode cX1_set 72 = .ok (.getfield 53, 3) := dk_180 0 53 (dk_at dksX1_set_3 1 rfl rfl)
theorem dX1_set_75 : decode cX1_set 75 = .ok (.iload_n 1, 1) := dk_27 (dk_at dksX1_set_3 4 rfl rfl)
theorem dX1_set_76 : decode cX1_set 76 = .ok (.iaload, 1) := dk_46 (dk_at dksX1_set_3 5 rfl rfl)
theorem dX1_set_77 : decode cX1_set 77 = .ok (.goto 23, 3) := dk_167 0 23 (dk_at dksX1_set_3 6 rfl rfl)
theorem dX1_set_80 : decode cX1_set 80 = .ok (.iload_n 2, 1) := dk_28 (dk_at dksX1_set_3 9 rfl rfl)
theorem dX1_set_81 : decode cX1_set 81 = .ok (.iconst 1, 1) := dk_4 (dk_at dksX1_set_3 10 rfl rfl)
theorem dX1_set_82 : decode cX1_set 82 = .ok (.if_icmp .ne 12, 3) := dk_160 0 12 (dk_at dksX1_set_3 11 rfl rfl)
theorem dX1_set_85 : decode cX1_set 85 = .ok (.aload_n 0, 1) := dk_42 (dk_at dksX1_set_3 14 rfl rfl)
theorem dX1_set_86 : decode cX1_set 86 = .ok (.getfield 59, 3) := dk_180 0 59 (dk_at dksX1_set_3 15 rfl rfl)
theorem dX1_set_89 : decode cX1_set 89 = .ok (.iload_n 1, 1) := dk_27 (dk_at dksX1_set_3 18 rfl rfl)
theorem dX1_set_90 : decode cX1_set 90 = .ok (.iaload, 1) := dk_46 (dk_at dksX1_set_3 19 rfl rfl)
theorem dX1_set_91 : decode cX1_set 91 = .ok (.goto 9, 3) := dk_167 0 9 (dk_at dksX1_set_3 20 rfl rfl)
theorem dX1_set_94 : decode cX1_set 94 = .ok (.aload_n 0, 1) := dk_42 (dk_at dksX1_set_3 23 rfl rfl)
theorem dX1_set_95 : decode cX1_set 95 = .ok (.getfield 62, 3) := dk_180 0 62 (dk_at dksX1_set_4 0 rfl rfl)
theorem dX1_set_98 : decode cX1_set 98 = .ok (.iload_n 1, 1) := dk_27 (dk_at dksX1_set_4 3 rfl rfl)
theorem dX1_set_99 : decode cX1_set 99 = .ok (.iaload, 1) := dk_46 (dk_at dksX1_set_4 4 rfl rfl)
theorem dX1_set_100 : decode cX1_set 100 = .ok (.istore 4, 2) := dk_54 4 (dk_at dksX1_set_4 5 rfl rfl)
theorem dX1_set_102 : decode cX1_set 102 = .ok (.iload_n 2, 1) := dk_28 (dk_at dksX1_set_4 7 rfl rfl)
theorem dX1_set_103 : decode cX1_set 103 = .ok (.ifCond .ne 13, 3) := dk_154 0 13 (dk_at dksX1_set_4 8 rfl rfl)
theorem dX1_set_106 : decode cX1_set 106 = .ok (.aload_n 0, 1) := dk_42 (dk_at dksX1_set_4 11 rfl rfl)
theorem dX1_set_107 : decode cX1_set 107 = .ok (.getfield 53, 3) := dk_180 0 53 (dk_at dksX1_set_4 12 rfl rfl)
theorem dX1_set_110 : decode cX1_set 110 = .ok (.iload_n 1, 1) := dk_27 (dk_at dksX1_set_4 15 rfl rfl)
theorem dX1_set_111 : decode cX1_set 111 = .ok (.iload_n 3, 1) := dk_29 (dk_at dksX1_set_4 16 rfl rfl)
theorem dX1_set_112 : decode cX1_set 112 = .ok (.iastore, 1) := dk_79 (dk_at dksX1_set_4 17 rfl rfl)
theorem dX1_set_113 : decode cX1_set 113 = .ok (.goto 25, 3) := dk_167 0 25 (dk_at dksX1_set_4 18 rfl rfl)
theorem dX1_set_116 : decode cX1_set 116 = .ok (.iload_n 2, 1) := dk_28 (dk_at dksX1_set_4 21 rfl rfl)
theorem dX1_set_117 : decode cX1_set 117 = .ok (.iconst 1, 1) := dk_4 (dk_at dksX1_set_4 22 rfl rfl)
theorem dX1_set_118 : decode cX1_set 118 = .ok (.if_icmp .ne 13, 3) := dk_160 0 13 (dk_at dksX1_set_5 0 rfl rfl)
theorem dX1_set_121 : decode cX1_set 121 = .ok (.aload_n 0, 1) := dk_42 (dk_at dksX1_set_5 3 rfl rfl)
theorem dX1_set_122 : decode cX1_set 122 = .ok (.getfield 59, 3) := dk_180 0 59 (dk_at dksX1_set_5 4 rfl rfl)
theorem dX1_set_125 : decode cX1_set 125 = .ok (.iload_n 1, 1) := dk_27 (dk_at dksX1_set_5 7 rfl rfl)
theorem dX1_set_126 : decode cX1_set 126 = .ok (.iload_n 3, 1) := dk_29 (dk_at dksX1_set_5 8 rfl rfl)
theorem dX1_set_127 : decode cX1_set 127 = .ok (.iastore, 1) := dk_79 (dk_at dksX1_set_5 9 rfl rfl)
theorem dX1_set_128 : decode cX1_set 128 = .ok (.goto 10, 3) := dk_167 0 10 (dk_at dksX1_set_5 10 rfl rfl)
theorem dX1_set_131 : decode cX1_set 131 = .ok (.aload_n 0, 1) := dk_42 (dk_at dksX1_set_5 13 rfl rfl)
theorem dX1_set_132 : decode cX1_set 132 = .ok (.getfield 62, 3) := dk_180 0 62 (dk_at dksX1_set_5 14 rfl rfl)
theorem dX1_set_135 : decode cX1_set 135 = .ok (.iload_n 1, 1) := dk_27 (dk_at dksX1_set_5 17 rfl rfl)
theorem dX1_set_136 : decode cX1_set 136 = .ok (.iload_n 3, 1) := dk_29 (dk_at dksX1_set_5 18 rfl rfl)
theorem dX1_set_137 : decode cX1_set 137 = .ok (.iastore, 1) := dk_79 (dk_at dksX1_set_5 19 rfl rfl)
theorem dX1_set_138 : decode cX1_set 138 = .ok (.iload 4, 2) := dk_21 4 (dk_at dksX1_set_5 20 rfl rfl)
theorem dX1_set_140 : decode cX1_set 140 = .ok (.ireturn, 1) := dk_172 (dk_at dksX1_set_5 22 rfl rfl)
abbrev cX1_alter : ByteArray := prog_17_method_67_code
def yX1_alter : MethodName := ⟨RX1, "alter", "(IZIII)I"⟩
def dkwX1_alter_5 : List UInt8 := [21, 5, 79, 21, 7, 172]
abbrev dktX1_alter_5 : List UInt8 := dkwX1_alter_5 ++ []
def dkwX1_alter_4 : List UInt8 := [180, 0, 71, 58, 6, 25, 6, 16, 9, 27, 104, 29, 96, 46, 54, 7, 25, 6, 16, 9, 27, 104, 29, 96]
abbrev dktX1_alter_4 : List UInt8 := dkwX1_alter_4 ++ dktX1_alter_5
def dkwX1_alter_3 : List UInt8 := [167, 0, 25, 42, 180, 0, 74, 167, 0, 18, 28, 153, 0, 10, 42, 180, 0, 80, 167, 0, 7, 42]
abbrev dktX1_alter_3 : List UInt8 := dkwX1_alter_3 ++ dktX1_alter_4
def dkwX1_alter_2 : List UInt8 := [160, 0, 10, 42, 180, 0, 77, 167, 0, 42, 21, 4, 4, 160, 0, 21, 28, 153, 0, 10, 42, 180, 0, 83]
abbrev dktX1_alter_2 : List UInt8 := dkwX1_alter_2 ++ dktX1_alter_3
def dkwX1_alter_1 : List UInt8 := [20, 0, 7, 184, 0, 11, 153, 0, 13, 21, 4, 21, 5, 184, 1, 84, 154, 0, 5, 2, 172, 21, 4, 5]
abbrev dktX1_alter_1 : List UInt8 := dkwX1_alter_1 ++ dktX1_alter_2
def dkwX1_alter_0 : List UInt8 := [42, 27, 28, 29, 182, 1, 80, 153, 0, 34, 21, 4, 133, 9, 28, 153, 0, 7, 10, 167, 0, 6]
abbrev dktX1_alter_0 : List UInt8 := dkwX1_alter_0 ++ dktX1_alter_1
theorem dksX1_alter_0 : cX1_alter.data.toList.drop 0 = dktX1_alter_0 := by decide +kernel
theorem dksX1_alter_1 : cX1_alter.data.toList.drop 22 = dktX1_alter_1 := dk_seg dksX1_alter_0 22 rfl rfl
theorem dksX1_alter_2 : cX1_alter.data.toList.drop 46 = dktX1_alter_2 := dk_seg dksX1_alter_1 24 rfl rfl
theorem dksX1_alter_3 : cX1_alter.data.toList.drop 70 = dktX1_alter_3 := dk_seg dksX1_alter_2 24 rfl rfl
theorem dksX1_alter_4 : cX1_alter.data.toList.drop 92 = dktX1_alter_4 := dk_seg dksX1_alter_3 22 rfl rfl
theorem dksX1_alter_5 : cX1_alter.data.toList.drop 116 = dktX1_alter_5 := dk_seg dksX1_alter_4 24 rfl rfl
theorem dX1_alter_0 : decode cX1_alter 0 = .ok (.aload_n 0, 1) := dk_42 (dk_at dksX1_alter_0 0 rfl rfl)
theorem dX1_alter_1 : decode cX1_alter 1 = .ok (.iload_n 1, 1) := dk_27 (dk_at dksX1_alter_0 1 rfl rfl)
theorem dX1_alter_2 : decode cX1_alter 2 = .ok (.iload_n 2, 1) := dk_28 (dk_at dksX1_alter_0 2 rfl rfl)
theorem dX1_alter_3 : decode cX1_alter 3 = .ok (.iload_n 3, 1) := dk_29 (dk_at dksX1_alter_0 3 rfl rfl)
theorem dX1_alter_4 : decode cX1_alter 4 = .ok (.invokevirtual 336, 3) := dk_182 1 80 (dk_at dksX1_alter_0 4 rfl rfl)
theorem dX1_alter_7 : decode cX1_alter 7 = .ok (.ifCond .eq 34, 3) := dk_153 0 34 (dk_at dksX1_alter_0 7 rfl rfl)
theorem dX1_alter_10 : decode cX1_alter 10 = .ok (.iload 4, 2) := dk_21 4 (dk_at dksX1_alter_0 10 rfl rfl)
theorem dX1_alter_12 : decode cX1_alter 12 = .ok (.i2l, 1) := dk_133 (dk_at dksX1_alter_0 12 rfl rfl)
theorem dX1_alter_13 : decode cX1_alter 13 = .ok (.lconst 0, 1) := dk_9 (dk_at dksX1_alter_0 13 rfl rfl)
theorem dX1_alter_14 : decode cX1_alter 14 = .ok (.iload_n 2, 1) := dk_28 (dk_at dksX1_alter_0 14 rfl rfl)
theorem dX1_alter_15 : decode cX1_alter 15 = .ok (.ifCond .eq 7, 3) := dk_153 0 7 (dk_at dksX1_alter_0 15 rfl rfl)
theorem dX1_alter_18 : decode cX1_alter 18 = .ok (.lconst 1, 1) := dk_10 (dk_at dksX1_alter_0 18 rfl rfl)
theorem dX1_alter_19 : decode cX1_alter 19 = .ok (.goto 6, 3) := dk_167 0 6 (dk_at dksX1_alter_0 19 rfl rfl)
theorem dX1_alter_22 : decode cX1_alter 22 = .ok (.ldc2_w 7, 3) := dk_20 0 7 (dk_at dksX1_alter_1 0 rfl rfl)
theorem dX1_alter_25 : decode cX1_alter 25 = .ok (.invokestatic 11, 3) := dk_184 0 11 (dk_at dksX1_alter_1 3 rfl rfl)
theorem dX1_alter_28 : decode cX1_alter 28 = .ok (.ifCond .eq 13, 3) := dk_153 0 13 (dk_at dksX1_alter_1 6 rfl rfl)
theorem dX1_alter_31 : decode cX1_alter 31 = .ok (.iload 4, 2) := dk_21 4 (dk_at dksX1_alter_1 9 rfl rfl)
theorem dX1_alter_33 : decode cX1_alter 33 = .ok (.iload 5, 2) := dk_21 5 (dk_at dksX1_alter_1 11 rfl rfl)
theorem dX1_alter_35 : decode cX1_alter 35 = .ok (.invokestatic 340, 3) := dk_184 1 84 (dk_at dksX1_alter_1 13 rfl rfl)
theorem dX1_alter_38 : decode cX1_alter 38 = .ok (.ifCond .ne 5, 3) := dk_154 0 5 (dk_at dksX1_alter_1 16 rfl rfl)
theorem dX1_alter_41 : decode cX1_alter 41 = .ok (.iconst (-1), 1) := dk_2 (dk_at dksX1_alter_1 19 rfl rfl)
theorem dX1_alter_42 : decode cX1_alter 42 = .ok (.ireturn, 1) := dk_172 (dk_at dksX1_alter_1 20 rfl rfl)
theorem dX1_alter_43 : decode cX1_alter 43 = .ok (.iload 4, 2) := dk_21 4 (dk_at dksX1_alter_1 21 rfl rfl)
theorem dX1_alter_45 : decode cX1_alter 45 = .ok (.iconst 2, 1) := dk_5 (dk_at dksX1_alter_1 23 rfl rfl)
theorem dX1_alter_46 : decode cX1_alter 46 = .ok (.if_icmp .ne 10, 3) := dk_160 0 10 (dk_at dksX1_alter_2 0 rfl rfl)
theorem dX1_alter_49 : decode cX1_alter 49 = .ok (.aload_n 0, 1) := dk_42 (dk_at dksX1_alter_2 3 rfl rfl)
theorem dX1_alter_50 : decode cX1_alter 50 = .ok (.getfield 77, 3) := dk_180 0 77 (dk_at dksX1_alter_2 4 rfl rfl)
theorem dX1_alter_53 : decode cX1_alter 53 = .ok (.goto 42, 3) := dk_167 0 42 (dk_at dksX1_alter_2 7 rfl rfl)
theorem dX1_alter_56 : decode cX1_alter 56 = .ok (.iload 4, 2) := dk_21 4 (dk_at dksX1_alter_2 10 rfl rfl)
theorem dX1_alter_58 : decode cX1_alter 58 = .ok (.iconst 1, 1) := dk_4 (dk_at dksX1_alter_2 12 rfl rfl)
theorem dX1_alter_59 : decode cX1_alter 59 = .ok (.if_icmp .ne 21, 3) := dk_160 0 21 (dk_at dksX1_alter_2 13 rfl rfl)
theorem dX1_alter_62 : decode cX1_alter 62 = .ok (.iload_n 2, 1) := dk_28 (dk_at dksX1_alter_2 16 rfl rfl)
theorem dX1_alter_63 : decode cX1_alter 63 = .ok (.ifCond .eq 10, 3) := dk_153 0 10 (dk_at dksX1_alter_2 17 rfl rfl)
theorem dX1_alter_66 : decode cX1_alter 66 = .ok (.aload_n 0, 1) := dk_42 (dk_at dksX1_alter_2 20 rfl rfl)
theorem dX1_alter_67 : decode cX1_alter 67 = .ok (.getfield 83, 3) := dk_180 0 83 (dk_at dksX1_alter_2 21 rfl rfl)
theorem dX1_alter_70 : decode cX1_alter 70 = .ok (.goto 25, 3) := dk_167 0 25 (dk_at dksX1_alter_3 0 rfl rfl)
theorem dX1_alter_73 : decode cX1_alter 73 = .ok (.aload_n 0, 1) := dk_42 (dk_at dksX1_alter_3 3 rfl rfl)
theorem dX1_alter_74 : decode cX1_alter 74 = .ok (.getfield 74, 3) := dk_180 0 74 (dk_at dksX1_alter_3 4 rfl rfl)
theorem dX1_alter_77 : decode cX1_alter 77 = .ok (.goto 18, 3) := dk_167 0 18 (dk_at dksX1_alter_3 7 rfl rfl)
theorem dX1_alter_80 : decode cX1_alter 80 = .ok (.iload_n 2, 1) := dk_28 (dk_at dksX1_alter_3 10 rfl rfl)
theorem dX1_alter_81 : decode cX1_alter 81 = .ok (.ifCond .eq 10, 3) := dk_153 0 10 (dk_at dksX1_alter_3 11 rfl rfl)
theorem dX1_alter_84 : decode cX1_alter 84 = .ok (.aload_n 0, 1) := dk_42 (dk_at dksX1_alter_3 14 rfl rfl)
theorem dX1_alter_85 : decode cX1_alter 85 = .ok (.getfield 80, 3) := dk_180 0 80 (dk_at dksX1_alter_3 15 rfl rfl)
theorem dX1_alter_88 : decode cX1_alter 88 = .ok (.goto 7, 3) := dk_167 0 7 (dk_at dksX1_alter_3 18 rfl rfl)
theorem dX1_alter_91 : decode cX1_alter 91 = .ok (.aload_n 0, 1) := dk_42 (dk_at dksX1_alter_3 21 rfl rfl)
theorem dX1_alter_92 : decode cX1_alter 92 = .ok (.getfield 71, 3) := dk_180 0 71 (dk_at dksX1_alter_4 0 rfl rfl)
theorem dX1_alter_95 : decode cX1_alter 95 = .ok (.astore 6, 2) := dk_58 6 (dk_at dksX1_alter_4 3 rfl rfl)
theorem dX1_alter_97 : decode cX1_alter 97 = .ok (.aload 6, 2) := dk_25 6 (dk_at dksX1_alter_4 5 rfl rfl)
theorem dX1_alter_99 : decode cX1_alter 99 = .ok (.bipush 9, 2) := dk_16 9 (dk_at dksX1_alter_4 7 rfl rfl)
theorem dX1_alter_101 : decode cX1_alter 101 = .ok (.iload_n 1, 1) := dk_27 (dk_at dksX1_alter_4 9 rfl rfl)
theorem dX1_alter_102 : decode cX1_alter 102 = .ok (.imul, 1) := dk_104 (dk_at dksX1_alter_4 10 rfl rfl)
theorem dX1_alter_103 : decode cX1_alter 103 = .ok (.iload_n 3, 1) := dk_29 (dk_at dksX1_alter_4 11 rfl rfl)
theorem dX1_alter_104 : decode cX1_alter 104 = .ok (.iadd, 1) := dk_96 (dk_at dksX1_alter_4 12 rfl rfl)
theorem dX1_alter_105 : decode cX1_alter 105 = .ok (.iaload, 1) := dk_46 (dk_at dksX1_alter_4 13 rfl rfl)
theorem dX1_alter_106 : decode cX1_alter 106 = .ok (.istore 7, 2) := dk_54 7 (dk_at dksX1_alter_4 14 rfl rfl)
theorem dX1_alter_108 : decode cX1_alter 108 = .ok (.aload 6, 2) := dk_25 6 (dk_at dksX1_alter_4 16 rfl rfl)
theorem dX1_alter_110 : decode cX1_alter 110 = .ok (.bipush 9, 2) := dk_16 9 (dk_at dksX1_alter_4 18 rfl rfl)
theorem dX1_alter_112 : decode cX1_alter 112 = .ok (.iload_n 1, 1) := dk_27 (dk_at dksX1_alter_4 20 rfl rfl)
theorem dX1_alter_113 : decode cX1_alter 113 = .ok (.imul, 1) := dk_104 (dk_at dksX1_alter_4 21 rfl rfl)
theorem dX1_alter_114 : decode cX1_alter 114 = .ok (.iload_n 3, 1) := dk_29 (dk_at dksX1_alter_4 22 rfl rfl)
theorem dX1_alter_115 : decode cX1_alter 115 = .ok (.iadd, 1) := dk_96 (dk_at dksX1_alter_4 23 rfl rfl)
theorem dX1_alter_116 : decode cX1_alter 116 = .ok (.iload 5, 2) := dk_21 5 (dk_at dksX1_alter_5 0 rfl rfl)
theorem dX1_alter_118 : decode cX1_alter 118 = .ok (.iastore, 1) := dk_79 (dk_at dksX1_alter_5 2 rfl rfl)
theorem dX1_alter_119 : decode cX1_alter 119 = .ok (.iload 7, 2) := dk_21 7 (dk_at dksX1_alter_5 3 rfl rfl)
theorem dX1_alter_121 : decode cX1_alter 121 = .ok (.ireturn, 1) := dk_172 (dk_at dksX1_alter_5 5 rfl rfl)
abbrev cX1_isRow : ByteArray := prog_17_method_65_code
def yX1_isRow : MethodName := ⟨RX1, "isRow", "(IZI)Z"⟩
def dkwX1_isRow_1 : List UInt8 := [42, 180, 0, 65, 27, 46, 4, 100, 133, 184, 0, 11, 153, 0, 7, 4, 167, 0, 4, 3, 172]
abbrev dktX1_isRow_1 : List UInt8 := dkwX1_isRow_1 ++ []
def dkwX1_isRow_0 : List UInt8 := [42, 27, 182, 0, 240, 153, 0, 38, 29, 133, 9, 28, 153, 0, 12, 42, 180, 0, 68, 27, 46, 167, 0, 9]
abbrev dktX1_isRow_0 : List UInt8 := dkwX1_isRow_0 ++ dktX1_isRow_1
theorem dksX1_isRow_0 : cX1_isRow.data.toList.drop 0 = dktX1_isRow_0 := by decide +kernel
theorem dksX1_isRow_1 : cX1_isRow.data.toList.drop 24 = dktX1_isRow_1 := dk_seg dksX1_isRow_0 24 rfl rfl
theorem dX1_isRow_0 : decode cX1_isRow 0 = .ok (.aload_n 0, 1) := dk_42 (dk_at dksX1_isRow_0 0 rfl rfl)
theorem dX1_isRow_1 : decode cX1_isRow 1 = .ok (.iload_n 1, 1) := dk_27 (dk_at dksX1_isRow_0 1 rfl rfl)
theorem dX1_isRow_2 : decode cX1_isRow 2 = .ok (.invokevirtual 240, 3) := dk_182 0 240 (dk_at dksX1_isRow_0 2 rfl rfl)
theorem dX1_isRow_5 : decode cX1_isRow 5 = .ok (.ifCond .eq 38, 3) := dk_153 0 38 (dk_at dksX1_isRow_0 5 rfl rfl)
theorem dX1_isRow_8 : decode cX1_isRow 8 = .ok (.iload_n 3, 1) := dk_29 (dk_at dksX1_isRow_0 8 rfl rfl)
theorem dX1_isRow_9 : decode cX1_isRow 9 = .ok (.i2l, 1) := dk_133 (dk_at dksX1_isRow_0 9 rfl rfl)
theorem dX1_isRow_10 : decode cX1_isRow 10 = .ok (.lconst 0, 1) := dk_9 (dk_at dksX1_isRow_0 10 rfl rfl)
theorem dX1_isRow_11 : decode cX1_isRow 11 = .ok (.iload_n 2, 1) := dk_28 (dk_at dksX1_isRow_0 11 rfl rfl)
theorem dX1_isRow_12 : decode cX1_isRow 12 = .ok (.ifCond .eq 12, 3) := dk_153 0 12 (dk_at dksX1_isRow_0 12 rfl rfl)
theorem dX1_isRow_15 : decode cX1_isRow 15 = .ok (.aload_n 0, 1) := dk_42 (dk_at dksX1_isRow_0 15 rfl rfl)
theorem dX1_isRow_16 : decode cX1_isRow 16 = .ok (.getfield 68, 3) := dk_180 0 68 (dk_at dksX1_isRow_0 16 rfl rfl)
theorem dX1_isRow_19 : decode cX1_isRow 19 = .ok (.iload_n 1, 1) := dk_27 (dk_at dksX1_isRow_0 19 rfl rfl)
theorem dX1_isRow_20 : decode cX1_isRow 20 = .ok (.iaload, 1) := dk_46 (dk_at dksX1_isRow_0 20 rfl rfl)
theorem dX1_isRow_21 : decode cX1_isRow 21 = .ok (.goto 9, 3) := dk_167 0 9 (dk_at dksX1_isRow_0 21 rfl rfl)
theorem dX1_isRow_24 : decode cX1_isRow 24 = .ok (.aload_n 0, 1) := dk_42 (dk_at dksX1_isRow_1 0 rfl rfl)
theorem dX1_isRow_25 : decode cX1_isRow 25 = .ok (.getfield 65, 3) := dk_180 0 65 (dk_at dksX1_isRow_1 1 rfl rfl)
theorem dX1_isRow_28 : decode cX1_isRow 28 = .ok (.iload_n 1, 1) := dk_27 (dk_at dksX1_isRow_1 4 rfl rfl)
theorem dX1_isRow_29 : decode cX1_isRow 29 = .ok (.iaload, 1) := dk_46 (dk_at dksX1_isRow_1 5 rfl rfl)
theorem dX1_isRow_30 : decode cX1_isRow 30 = .ok (.iconst 1, 1) := dk_4 (dk_at dksX1_isRow_1 6 rfl rfl)
theorem dX1_isRow_31 : decode cX1_isRow 31 = .ok (.isub, 1) := dk_100 (dk_at dksX1_isRow_1 7 rfl rfl)
theorem dX1_isRow_32 : decode cX1_isRow 32 = .ok (.i2l, 1) := dk_133 (dk_at dksX1_isRow_1 8 rfl rfl)
theorem dX1_isRow_33 : decode cX1_isRow 33 = .ok (.invokestatic 11, 3) := dk_184 0 11 (dk_at dksX1_isRow_1 9 rfl rfl)
theorem dX1_isRow_36 : decode cX1_isRow 36 = .ok (.ifCond .eq 7, 3) := dk_153 0 7 (dk_at dksX1_isRow_1 12 rfl rfl)
theorem dX1_isRow_39 : decode cX1_isRow 39 = .ok (.iconst 1, 1) := dk_4 (dk_at dksX1_isRow_1 15 rfl rfl)
theorem dX1_isRow_40 : decode cX1_isRow 40 = .ok (.goto 4, 3) := dk_167 0 4 (dk_at dksX1_isRow_1 16 rfl rfl)
theorem dX1_isRow_43 : decode cX1_isRow 43 = .ok (.iconst 0, 1) := dk_3 (dk_at dksX1_isRow_1 19 rfl rfl)
theorem dX1_isRow_44 : decode cX1_isRow 44 = .ok (.ireturn, 1) := dk_172 (dk_at dksX1_isRow_1 20 rfl rfl)
abbrev cX1_canBe : ByteArray := prog_17_method_66_code
def yX1_canBe : MethodName := ⟨RX1, "canBe", "(II)Z"⟩
def dkwX1_canBe_1 : List UInt8 := [184, 0, 11, 167, 0, 14, 27, 133, 20, 0, 7, 20, 1, 78, 184, 0, 11, 172]
abbrev dktX1_canBe_1 : List UInt8 := dkwX1_canBe_1 ++ []
def dkwX1_canBe_0 : List UInt8 := [26, 154, 0, 11, 27, 133, 184, 0, 226, 167, 0, 31, 26, 4, 160, 0, 15, 27, 133, 10, 20, 1, 76]
abbrev dktX1_canBe_0 : List UInt8 := dkwX1_canBe_0 ++ dktX1_canBe_1
theorem dksX1_canBe_0 : cX1_canBe.data.toList.drop 0 = dktX1_canBe_0 := by decide +kernel
theorem dksX1_canBe_1 : cX1_canBe.data.toList.drop 23 = dktX1_canBe_1 := dk_seg dksX1_canBe_0 23 rfl rfl
theorem dX1_canBe_0 : decode cX1_canBe 0 = .ok (.iload_n 0, 1) := dk_26 (dk_at dksX1_canBe_0 0 rfl rfl)
theorem dX1_canBe_1 : decode cX1_canBe 1 = .ok (.ifCond .ne 11, 3) := dk_154 0 11 (dk_at dksX1_canBe_0 1 rfl rfl)
theorem dX1_canBe_4 : decode cX1_canBe 4 = .ok (.iload_n 1, 1) := dk_27 (dk_at dksX1_canBe_0 4 rfl rfl)
theorem dX1_canBe_5 : decode cX1_canBe 5 = .ok (.i2l, 1) := dk_133 (dk_at dksX1_canBe_0 5 rfl rfl)
theorem dX1_canBe_6 : decode cX1_canBe 6 = .ok (.invokestatic 226, 3) := dk_184 0 226 (dk_at dksX1_canBe_0 6 rfl rfl)
theorem dX1_canBe_9 : decode cX1_canBe 9 = .ok (.goto 31, 3) := dk_167 0 31 (dk_at dksX1_canBe_0 9 rfl rfl)
theorem dX1_canBe_12 : decode cX1_canBe 12 = .ok (.iload_n 0, 1) := dk_26 (dk_at dksX1_canBe_0 12 rfl rfl)
theorem dX1_canBe_13 : decode cX1_canBe 13 = .ok (.iconst 1, 1) := dk_4 (dk_at dksX1_canBe_0 13 rfl rfl)
theorem dX1_canBe_14 : decode cX1_canBe 14 = .ok (.if_icmp .ne 15, 3) := dk_160 0 15 (dk_at dksX1_canBe_0 14 rfl rfl)
theorem dX1_canBe_17 : decode cX1_canBe 17 = .ok (.iload_n 1, 1) := dk_27 (dk_at dksX1_canBe_0 17 rfl rfl)
theorem dX1_canBe_18 : decode cX1_canBe 18 = .ok (.i2l, 1) := dk_133 (dk_at dksX1_canBe_0 18 rfl rfl)
theorem dX1_canBe_19 : decode cX1_canBe 19 = .ok (.lconst 1, 1) := dk_10 (dk_at dksX1_canBe_0 19 rfl rfl)
theorem dX1_canBe_20 : decode cX1_canBe 20 = .ok (.ldc2_w 332, 3) := dk_20 1 76 (dk_at dksX1_canBe_0 20 rfl rfl)
theorem dX1_canBe_23 : decode cX1_canBe 23 = .ok (.invokestatic 11, 3) := dk_184 0 11 (dk_at dksX1_canBe_1 0 rfl rfl)
theorem dX1_canBe_26 : decode cX1_canBe 26 = .ok (.goto 14, 3) := dk_167 0 14 (dk_at dksX1_canBe_1 3 rfl rfl)
theorem dX1_canBe_29 : decode cX1_canBe 29 = .ok (.iload_n 1, 1) := dk_27 (dk_at dksX1_canBe_1 6 rfl rfl)
theorem dX1_canBe_30 : decode cX1_canBe 30 = .ok (.i2l, 1) := dk_133 (dk_at dksX1_canBe_1 7 rfl rfl)
theorem dX1_canBe_31 : decode cX1_canBe 31 = .ok (.ldc2_w 7, 3) := dk_20 0 7 (dk_at dksX1_canBe_1 8 rfl rfl)
theorem dX1_canBe_34 : decode cX1_canBe 34 = .ok (.ldc2_w 334, 3) := dk_20 1 78 (dk_at dksX1_canBe_1 11 rfl rfl)
theorem dX1_canBe_37 : decode cX1_canBe 37 = .ok (.invokestatic 11, 3) := dk_184 0 11 (dk_at dksX1_canBe_1 14 rfl rfl)
theorem dX1_canBe_40 : decode cX1_canBe 40 = .ok (.ireturn, 1) := dk_172 (dk_at dksX1_canBe_1 17 rfl rfl)
abbrev cX1_cut : ByteArray := prog_17_method_68_code
def yX1_cut : MethodName := ⟨RX1, "cut", "(IZI)I"⟩
def dkwX1_cut_7 : List UInt8 := [167, 0, 13, 42, 180, 0, 65, 27, 92, 46, 4, 100, 79, 21, 4, 4, 100, 172]
abbrev dktX1_cut_7 : List UInt8 := dkwX1_cut_7 ++ []
def dkwX1_cut_6 : List UInt8 := [4, 96, 46, 79, 132, 5, 1, 167, 255, 152, 28, 153, 0, 16, 42, 180, 0, 68, 27, 92, 46, 4, 100, 79]
abbrev dktX1_cut_6 : List UInt8 := dkwX1_cut_6 ++ dktX1_cut_7
def dkwX1_cut_5 : List UInt8 := [21, 5, 42, 180, 0, 74, 21, 5, 4, 96, 46, 79, 42, 180, 0, 77, 21, 5, 42, 180, 0, 77, 21, 5]
abbrev dktX1_cut_5 : List UInt8 := dkwX1_cut_5 ++ dktX1_cut_6
def dkwX1_cut_4 : List UInt8 := [167, 0, 51, 42, 180, 0, 71, 21, 5, 42, 180, 0, 71, 21, 5, 4, 96, 46, 79, 42, 180, 0, 74]
abbrev dktX1_cut_4 : List UInt8 := dkwX1_cut_4 ++ dktX1_cut_5
def dkwX1_cut_3 : List UInt8 := [21, 5, 4, 96, 46, 79, 42, 180, 0, 83, 21, 5, 42, 180, 0, 83, 21, 5, 4, 96, 46, 79]
abbrev dktX1_cut_3 : List UInt8 := dkwX1_cut_3 ++ dktX1_cut_4
def dkwX1_cut_2 : List UInt8 := [104, 21, 4, 96, 4, 100, 162, 0, 96, 28, 153, 0, 38, 42, 180, 0, 80, 21, 5, 42, 180, 0, 80]
abbrev dktX1_cut_2 : List UInt8 := dkwX1_cut_2 ++ dktX1_cut_3
def dkwX1_cut_1 : List UInt8 := [167, 0, 9, 42, 180, 0, 65, 27, 46, 54, 4, 16, 9, 27, 104, 29, 96, 54, 5, 21, 5, 16, 9, 27]
abbrev dktX1_cut_1 : List UInt8 := dkwX1_cut_1 ++ dktX1_cut_2
def dkwX1_cut_0 : List UInt8 := [42, 27, 28, 29, 182, 1, 80, 154, 0, 5, 2, 172, 28, 153, 0, 12, 42, 180, 0, 68, 27, 46]
abbrev dktX1_cut_0 : List UInt8 := dkwX1_cut_0 ++ dktX1_cut_1
theorem dksX1_cut_0 : cX1_cut.data.toList.drop 0 = dktX1_cut_0 := by decide +kernel
theorem dksX1_cut_1 : cX1_cut.data.toList.drop 22 = dktX1_cut_1 := dk_seg dksX1_cut_0 22 rfl rfl
theorem dksX1_cut_2 : cX1_cut.data.toList.drop 46 = dktX1_cut_2 := dk_seg dksX1_cut_1 24 rfl rfl
theorem dksX1_cut_3 : cX1_cut.data.toList.drop 69 = dktX1_cut_3 := dk_seg dksX1_cut_2 23 rfl rfl
theorem dksX1_cut_4 : cX1_cut.data.toList.drop 91 = dktX1_cut_4 := dk_seg dksX1_cut_3 22 rfl rfl
theorem dksX1_cut_5 : cX1_cut.data.toList.drop 114 = dktX1_cut_5 := dk_seg dksX1_cut_4 23 rfl rfl
theorem dksX1_cut_6 : cX1_cut.data.toList.drop 138 = dktX1_cut_6 := dk_seg dksX1_cut_5 24 rfl rfl
theorem dksX1_cut_7 : cX1_cut.data.toList.drop 162 = dktX1_cut_7 := dk_seg dksX1_cut_6 24 rfl rfl
theorem dX1_cut_0 : decode cX1_cut 0 = .ok (.aload_n 0, 1) := dk_42 (dk_at dksX1_cut_0 0 rfl rfl)
theorem dX1_cut_1 : decode cX1_cut 1 = .ok (.iload_n 1, 1) := dk_27 (dk_at dksX1_cut_0 1 rfl rfl)
theorem dX1_cut_2 : decode cX1_cut 2 = .ok (.iload_n 2, 1) := dk_28 (dk_at dksX1_cut_0 2 rfl rfl)
theorem dX1_cut_3 : decode cX1_cut 3 = .ok (.iload_n 3, 1) := dk_29 (dk_at dksX1_cut_0 3 rfl rfl)
theorem dX1_cut_4 : decode cX1_cut 4 = .ok (.invokevirtual 336, 3) := dk_182 1 80 (dk_at dksX1_cut_0 4 rfl rfl)
theorem dX1_cut_7 : decode cX1_cut 7 = .ok (.ifCond .ne 5, 3) := dk_154 0 5 (dk_at dksX1_cut_0 7 rfl rfl)
theorem dX1_cut_10 : decode cX1_cut 10 = .ok (.iconst (-1), 1) := dk_2 (dk_at dksX1_cut_0 10 rfl rfl)
theorem dX1_cut_11 : decode cX1_cut 11 = .ok (.ireturn, 1) := dk_172 (dk_at dksX1_cut_0 11 rfl rfl)
theorem dX1_cut_12 : decode cX1_cut 12 = .ok (.iload_n 2, 1) := dk_28 (dk_at dksX1_cut_0 12 rfl rfl)
theorem dX1_cut_13 : decode cX1_cut 13 = .ok (.ifCond .eq 12, 3) := dk_153 0 12 (dk_at dksX1_cut_0 13 rfl rfl)
theorem dX1_cut_16 : decode cX1_cut 16 = .ok (.aload_n 0, 1) := dk_42 (dk_at dksX1_cut_0 16 rfl rfl)
theorem dX1_cut_17 : decode cX1_cut 17 = .ok (.getfield 68, 3) := dk_180 0 68 (dk_at dksX1_cut_0 17 rfl rfl)
theorem dX1_cut_20 : decode cX1_cut 20 = .ok (.iload_n 1, 1) := dk_27 (dk_at dksX1_cut_0 20 rfl rfl)
theorem dX1_cut_21 : decode cX1_cut 21 = .ok (.iaload, 1) := dk_46 (dk_at dksX1_cut_0 21 rfl rfl)
theorem dX1_cut_22 : decode cX1_cut 22 = .ok (.goto 9, 3) := dk_167 0 9 (dk_at dksX1_cut_1 0 rfl rfl)
theorem dX1_cut_25 : decode cX1_cut 25 = .ok (.aload_n 0, 1) := dk_42 (dk_at dksX1_cut_1 3 rfl rfl)
theorem dX1_cut_26 : decode cX1_cut 26 = .ok (.getfield 65, 3) := dk_180 0 65 (dk_at dksX1_cut_1 4 rfl rfl)
theorem dX1_cut_29 : decode cX1_cut 29 = .ok (.iload_n 1, 1) := dk_27 (dk_at dksX1_cut_1 7 rfl rfl)
theorem dX1_cut_30 : decode cX1_cut 30 = .ok (.iaload, 1) := dk_46 (dk_at dksX1_cut_1 8 rfl rfl)
theorem dX1_cut_31 : decode cX1_cut 31 = .ok (.istore 4, 2) := dk_54 4 (dk_at dksX1_cut_1 9 rfl rfl)
theorem dX1_cut_33 : decode cX1_cut 33 = .ok (.bipush 9, 2) := dk_16 9 (dk_at dksX1_cut_1 11 rfl rfl)
theorem dX1_cut_35 : decode cX1_cut 35 = .ok (.iload_n 1, 1) := dk_27 (dk_at dksX1_cut_1 13 rfl rfl)
theorem dX1_cut_36 : decode cX1_cut 36 = .ok (.imul, 1) := dk_104 (dk_at dksX1_cut_1 14 rfl rfl)
theorem dX1_cut_37 : decode cX1_cut 37 = .ok (.iload_n 3, 1) := dk_29 (dk_at dksX1_cut_1 15 rfl rfl)
theorem dX1_cut_38 : decode cX1_cut 38 = .ok (.iadd, 1) := dk_96 (dk_at dksX1_cut_1 16 rfl rfl)
theorem dX1_cut_39 : decode cX1_cut 39 = .ok (.istore 5, 2) := dk_54 5 (dk_at dksX1_cut_1 17 rfl rfl)
theorem dX1_cut_41 : decode cX1_cut 41 = .ok (.iload 5, 2) := dk_21 5 (dk_at dksX1_cut_1 19 rfl rfl)
theorem dX1_cut_43 : decode cX1_cut 43 = .ok (.bipush 9, 2) := dk_16 9 (dk_at dksX1_cut_1 21 rfl rfl)
theorem dX1_cut_45 : decode cX1_cut 45 = .ok (.iload_n 1, 1) := dk_27 (dk_at dksX1_cut_1 23 rfl rfl)
theorem dX1_cut_46 : decode cX1_cut 46 = .ok (.imul, 1) := dk_104 (dk_at dksX1_cut_2 0 rfl rfl)
theorem dX1_cut_47 : decode cX1_cut 47 = .ok (.iload 4, 2) := dk_21 4 (dk_at dksX1_cut_2 1 rfl rfl)
theorem dX1_cut_49 : decode cX1_cut 49 = .ok (.iadd, 1) := dk_96 (dk_at dksX1_cut_2 3 rfl rfl)
theorem dX1_cut_50 : decode cX1_cut 50 = .ok (.iconst 1, 1) := dk_4 (dk_at dksX1_cut_2 4 rfl rfl)
theorem dX1_cut_51 : decode cX1_cut 51 = .ok (.isub, 1) := dk_100 (dk_at dksX1_cut_2 5 rfl rfl)
theorem dX1_cut_52 : decode cX1_cut 52 = .ok (.if_icmp .ge 96, 3) := dk_162 0 96 (dk_at dksX1_cut_2 6 rfl rfl)
theorem dX1_cut_55 : decode cX1_cut 55 = .ok (.iload_n 2, 1) := dk_28 (dk_at dksX1_cut_2 9 rfl rfl)
theorem dX1_cut_56 : decode cX1_cut 56 = .ok (.ifCond .eq 38, 3) := dk_153 0 38 (dk_at dksX1_cut_2 10 rfl rfl)
theorem dX1_cut_59 : decode cX1_cut 59 = .ok (.aload_n 0, 1) := dk_42 (dk_at dksX1_cut_2 13 rfl rfl)
theorem dX1_cut_60 : decode cX1_cut 60 = .ok (.getfield 80, 3) := dk_180 0 80 (dk_at dksX1_cut_2 14 rfl rfl)
theorem dX1_cut_63 : decode cX1_cut 63 = .ok (.iload 5, 2) := dk_21 5 (dk_at dksX1_cut_2 17 rfl rfl)
theorem dX1_cut_65 : decode cX1_cut 65 = .ok (.aload_n 0, 1) := dk_42 (dk_at dksX1_cut_2 19 rfl rfl)
theorem dX1_cut_66 : decode cX1_cut 66 = .ok (.getfield 80, 3) := dk_180 0 80 (dk_at dksX1_cut_2 20 rfl rfl)
theorem dX1_cut_69 : decode cX1_cut 69 = .ok (.iload 5, 2) := dk_21 5 (dk_at dksX1_cut_3 0 rfl rfl)
theorem dX1_cut_71 : decode cX1_cut 71 = .ok (.iconst 1, 1) := dk_4 (dk_at dksX1_cut_3 2 rfl rfl)
theorem dX1_cut_72 : decode cX1_cut 72 = .ok (.iadd, 1) := dk_96 (dk_at dksX1_cut_3 3 rfl rfl)
theorem dX1_cut_73 : decode cX1_cut 73 = .ok (.iaload, 1) := dk_46 (dk_at dksX1_cut_3 4 rfl rfl)
theorem dX1_cut_74 : decode cX1_cut 74 = .ok (.iastore, 1) := dk_79 (dk_at dksX1_cut_3 5 rfl rfl)
theorem dX1_cut_75 : decode cX1_cut 75 = .ok (.aload_n 0, 1) := dk_42 (dk_at dksX1_cut_3 6 rfl rfl)
theorem dX1_cut_76 : decode cX1_cut 76 = .ok (.getfield 83, 3) := dk_180 0 83 (dk_at dksX1_cut_3 7 rfl rfl)
theorem dX1_cut_79 : decode cX1_cut 79 = .ok (.iload 5, 2) := dk_21 5 (dk_at dksX1_cut_3 10 rfl rfl)
theorem dX1_cut_81 : decode cX1_cut 81 = .ok (.aload_n 0, 1) := dk_42 (dk_at dksX1_cut_3 12 rfl rfl)
theorem dX1_cut_82 : decode cX1_cut 82 = .ok (.getfield 83, 3) := dk_180 0 83 (dk_at dksX1_cut_3 13 rfl rfl)
theorem dX1_cut_85 : decode cX1_cut 85 = .ok (.iload 5, 2) := dk_21 5 (dk_at dksX1_cut_3 16 rfl rfl)
theorem dX1_cut_87 : decode cX1_cut 87 = .ok (.iconst 1, 1) := dk_4 (dk_at dksX1_cut_3 18 rfl rfl)
theorem dX1_cut_88 : decode cX1_cut 88 = .ok (.iadd, 1) := dk_96 (dk_at dksX1_cut_3 19 rfl rfl)
theorem dX1_cut_89 : decode cX1_cut 89 = .ok (.iaload, 1) := dk_46 (dk_at dksX1_cut_3 20 rfl rfl)
theorem dX1_cut_90 : decode cX1_cut 90 = .ok (.iastore, 1) := dk_79 (dk_at dksX1_cut_3 21 rfl rfl)
theorem dX1_cut_91 : decode cX1_cut 91 = .ok (.goto 51, 3) := dk_167 0 51 (dk_at dksX1_cut_4 0 rfl rfl)
theorem dX1_cut_94 : decode cX1_cut 94 = .ok (.aload_n 0, 1) := dk_42 (dk_at dksX1_cut_4 3 rfl rfl)
theorem dX1_cut_95 : decode cX1_cut 95 = .ok (.getfield 71, 3) := dk_180 0 71 (dk_at dksX1_cut_4 4 rfl rfl)
theorem dX1_cut_98 : decode cX1_cut 98 = .ok (.iload 5, 2) := dk_21 5 (dk_at dksX1_cut_4 7 rfl rfl)
theorem dX1_cut_100 : decode cX1_cut 100 = .ok (.aload_n 0, 1) := dk_42 (dk_at dksX1_cut_4 9 rfl rfl)
theorem dX1_cut_101 : decode cX1_cut 101 = .ok (.getfield 71, 3) := dk_180 0 71 (dk_at dksX1_cut_4 10 rfl rfl)
theorem dX1_cut_104 : decode cX1_cut 104 = .ok (.iload 5, 2) := dk_21 5 (dk_at dksX1_cut_4 13 rfl rfl)
theorem dX1_cut_106 : decode cX1_cut 106 = .ok (.iconst 1, 1) := dk_4 (dk_at dksX1_cut_4 15 rfl rfl)
theorem dX1_cut_107 : decode cX1_cut 107 = .ok (.iadd, 1) := dk_96 (dk_at dksX1_cut_4 16 rfl rfl)
theorem dX1_cut_108 : decode cX1_cut 108 = .ok (.iaload, 1) := dk_46 (dk_at dksX1_cut_4 17 rfl rfl)
theorem dX1_cut_109 : decode cX1_cut 109 = .ok (.iastore, 1) := dk_79 (dk_at dksX1_cut_4 18 rfl rfl)
theorem dX1_cut_110 : decode cX1_cut 110 = .ok (.aload_n 0, 1) := dk_42 (dk_at dksX1_cut_4 19 rfl rfl)
theorem dX1_cut_111 : decode cX1_cut 111 = .ok (.getfield 74, 3) := dk_180 0 74 (dk_at dksX1_cut_4 20 rfl rfl)
theorem dX1_cut_114 : decode cX1_cut 114 = .ok (.iload 5, 2) := dk_21 5 (dk_at dksX1_cut_5 0 rfl rfl)
theorem dX1_cut_116 : decode cX1_cut 116 = .ok (.aload_n 0, 1) := dk_42 (dk_at dksX1_cut_5 2 rfl rfl)
theorem dX1_cut_117 : decode cX1_cut 117 = .ok (.getfield 74, 3) := dk_180 0 74 (dk_at dksX1_cut_5 3 rfl rfl)
theorem dX1_cut_120 : decode cX1_cut 120 = .ok (.iload 5, 2) := dk_21 5 (dk_at dksX1_cut_5 6 rfl rfl)
theorem dX1_cut_122 : decode cX1_cut 122 = .ok (.iconst 1, 1) := dk_4 (dk_at dksX1_cut_5 8 rfl rfl)
theorem dX1_cut_123 : decode cX1_cut 123 = .ok (.iadd, 1) := dk_96 (dk_at dksX1_cut_5 9 rfl rfl)
theorem dX1_cut_124 : decode cX1_cut 124 = .ok (.iaload, 1) := dk_46 (dk_at dksX1_cut_5 10 rfl rfl)
theorem dX1_cut_125 : decode cX1_cut 125 = .ok (.iastore, 1) := dk_79 (dk_at dksX1_cut_5 11 rfl rfl)
theorem dX1_cut_126 : decode cX1_cut 126 = .ok (.aload_n 0, 1) := dk_42 (dk_at dksX1_cut_5 12 rfl rfl)
theorem dX1_cut_127 : decode cX1_cut 127 = .ok (.getfield 77, 3) := dk_180 0 77 (dk_at dksX1_cut_5 13 rfl rfl)
theorem dX1_cut_130 : decode cX1_cut 130 = .ok (.iload 5, 2) := dk_21 5 (dk_at dksX1_cut_5 16 rfl rfl)
theorem dX1_cut_132 : decode cX1_cut 132 = .ok (.aload_n 0, 1) := dk_42 (dk_at dksX1_cut_5 18 rfl rfl)
theorem dX1_cut_133 : decode cX1_cut 133 = .ok (.getfield 77, 3) := dk_180 0 77 (dk_at dksX1_cut_5 19 rfl rfl)
theorem dX1_cut_136 : decode cX1_cut 136 = .ok (.iload 5, 2) := dk_21 5 (dk_at dksX1_cut_5 22 rfl rfl)
theorem dX1_cut_138 : decode cX1_cut 138 = .ok (.iconst 1, 1) := dk_4 (dk_at dksX1_cut_6 0 rfl rfl)
theorem dX1_cut_139 : decode cX1_cut 139 = .ok (.iadd, 1) := dk_96 (dk_at dksX1_cut_6 1 rfl rfl)
theorem dX1_cut_140 : decode cX1_cut 140 = .ok (.iaload, 1) := dk_46 (dk_at dksX1_cut_6 2 rfl rfl)
theorem dX1_cut_141 : decode cX1_cut 141 = .ok (.iastore, 1) := dk_79 (dk_at dksX1_cut_6 3 rfl rfl)
theorem dX1_cut_142 : decode cX1_cut 142 = .ok (.iinc 5 1, 3) := dk_132 5 1 (dk_at dksX1_cut_6 4 rfl rfl)
theorem dX1_cut_145 : decode cX1_cut 145 = .ok (.goto (-104), 3) := dk_167 255 152 (dk_at dksX1_cut_6 7 rfl rfl)
theorem dX1_cut_148 : decode cX1_cut 148 = .ok (.iload_n 2, 1) := dk_28 (dk_at dksX1_cut_6 10 rfl rfl)
theorem dX1_cut_149 : decode cX1_cut 149 = .ok (.ifCond .eq 16, 3) := dk_153 0 16 (dk_at dksX1_cut_6 11 rfl rfl)
theorem dX1_cut_152 : decode cX1_cut 152 = .ok (.aload_n 0, 1) := dk_42 (dk_at dksX1_cut_6 14 rfl rfl)
theorem dX1_cut_153 : decode cX1_cut 153 = .ok (.getfield 68, 3) := dk_180 0 68 (dk_at dksX1_cut_6 15 rfl rfl)
theorem dX1_cut_156 : decode cX1_cut 156 = .ok (.iload_n 1, 1) := dk_27 (dk_at dksX1_cut_6 18 rfl rfl)
theorem dX1_cut_157 : decode cX1_cut 157 = .ok (.dup2, 1) := dk_92 (dk_at dksX1_cut_6 19 rfl rfl)
theorem dX1_cut_158 : decode cX1_cut 158 = .ok (.iaload, 1) := dk_46 (dk_at dksX1_cut_6 20 rfl rfl)
theorem dX1_cut_159 : decode cX1_cut 159 = .ok (.iconst 1, 1) := dk_4 (dk_at dksX1_cut_6 21 rfl rfl)
theorem dX1_cut_160 : decode cX1_cut 160 = .ok (.isub, 1) := dk_100 (dk_at dksX1_cut_6 22 rfl rfl)
theorem dX1_cut_161 : decode cX1_cut 161 = .ok (.iastore, 1) := dk_79 (dk_at dksX1_cut_6 23 rfl rfl)
theorem dX1_cut_162 : decode cX1_cut 162 = .ok (.goto 13, 3) := dk_167 0 13 (dk_at dksX1_cut_7 0 rfl rfl)
theorem dX1_cut_165 : decode cX1_cut 165 = .ok (.aload_n 0, 1) := dk_42 (dk_at dksX1_cut_7 3 rfl rfl)
theorem dX1_cut_166 : decode cX1_cut 166 = .ok (.getfield 65, 3) := dk_180 0 65 (dk_at dksX1_cut_7 4 rfl rfl)
theorem dX1_cut_169 : decode cX1_cut 169 = .ok (.iload_n 1, 1) := dk_27 (dk_at dksX1_cut_7 7 rfl rfl)
theorem dX1_cut_170 : decode cX1_cut 170 = .ok (.dup2, 1) := dk_92 (dk_at dksX1_cut_7 8 rfl rfl)
theorem dX1_cut_171 : decode cX1_cut 171 = .ok (.iaload, 1) := dk_46 (dk_at dksX1_cut_7 9 rfl rfl)
theorem dX1_cut_172 : decode cX1_cut 172 = .ok (.iconst 1, 1) := dk_4 (dk_at dksX1_cut_7 10 rfl rfl)
theorem dX1_cut_173 : decode cX1_cut 173 = .ok (.isub, 1) := dk_100 (dk_at dksX1_cut_7 11 rfl rfl)
theorem dX1_cut_174 : decode cX1_cut 174 = .ok (.iastore, 1) := dk_79 (dk_at dksX1_cut_7 12 rfl rfl)
theorem dX1_cut_175 : decode cX1_cut 175 = .ok (.iload 4, 2) := dk_21 4 (dk_at dksX1_cut_7 13 rfl rfl)
theorem dX1_cut_177 : decode cX1_cut 177 = .ok (.iconst 1, 1) := dk_4 (dk_at dksX1_cut_7 15 rfl rfl)
theorem dX1_cut_178 : decode cX1_cut 178 = .ok (.isub, 1) := dk_100 (dk_at dksX1_cut_7 16 rfl rfl)
theorem dX1_cut_179 : decode cX1_cut 179 = .ok (.ireturn, 1) := dk_172 (dk_at dksX1_cut_7 17 rfl rfl)
abbrev cX1_move : ByteArray := prog_17_method_69_code
def yX1_move : MethodName := ⟨RX1, "move", "(II)I"⟩
def dkwX1_move_3 : List UInt8 := [42, 28, 16, 115, 182, 0, 237, 42, 28, 182, 1, 87, 153, 0, 7, 4, 167, 0, 4, 3, 172]
abbrev dktX1_move_3 : List UInt8 := dkwX1_move_3 ++ []
def dkwX1_move_2 : List UInt8 := [167, 255, 240, 27, 62, 29, 28, 164, 0, 17, 42, 29, 29, 4, 100, 182, 0, 237, 132, 3, 255, 167, 255, 240]
abbrev dktX1_move_2 : List UInt8 := dkwX1_move_2 ++ dktX1_move_3
def dkwX1_move_1 : List UInt8 := [16, 115, 27, 182, 0, 237, 27, 62, 29, 28, 162, 0, 17, 42, 29, 29, 4, 96, 182, 0, 237, 132, 3, 1]
abbrev dktX1_move_1 : List UInt8 := dkwX1_move_1 ++ dktX1_move_2
def dkwX1_move_0 : List UInt8 := [42, 27, 182, 0, 240, 153, 0, 16, 42, 28, 182, 0, 240, 153, 0, 8, 27, 28, 160, 0, 5, 2, 172, 42]
abbrev dktX1_move_0 : List UInt8 := dkwX1_move_0 ++ dktX1_move_1
theorem dksX1_move_0 : cX1_move.data.toList.drop 0 = dktX1_move_0 := by decide +kernel
theorem dksX1_move_1 : cX1_move.data.toList.drop 24 = dktX1_move_1 := dk_seg dksX1_move_0 24 rfl rfl
theorem dksX1_move_2 : cX1_move.data.toList.drop 48 = dktX1_move_2 := dk_seg dksX1_move_1 24 rfl rfl
theorem dksX1_move_3 : cX1_move.data.toList.drop 72 = dktX1_move_3 := dk_seg dksX1_move_2 24 rfl rfl
theorem dX1_move_0 : decode cX1_move 0 = .ok (.aload_n 0, 1) := dk_42 (dk_at dksX1_move_0 0 rfl rfl)
theorem dX1_move_1 : decode cX1_move 1 = .ok (.iload_n 1, 1) := dk_27 (dk_at dksX1_move_0 1 rfl rfl)
theorem dX1_move_2 : decode cX1_move 2 = .ok (.invokevirtual 240, 3) := dk_182 0 240 (dk_at dksX1_move_0 2 rfl rfl)
theorem dX1_move_5 : decode cX1_move 5 = .ok (.ifCond .eq 16, 3) := dk_153 0 16 (dk_at dksX1_move_0 5 rfl rfl)
theorem dX1_move_8 : decode cX1_move 8 = .ok (.aload_n 0, 1) := dk_42 (dk_at dksX1_move_0 8 rfl rfl)
theorem dX1_move_9 : decode cX1_move 9 = .ok (.iload_n 2, 1) := dk_28 (dk_at dksX1_move_0 9 rfl rfl)
theorem dX1_move_10 : decode cX1_move 10 = .ok (.invokevirtual 240, 3) := dk_182 0 240 (dk_at dksX1_move_0 10 rfl rfl)
theorem dX1_move_13 : decode cX1_move 13 = .ok (.ifCond .eq 8, 3) := dk_153 0 8 (dk_at dksX1_move_0 13 rfl rfl)
theorem dX1_move_16 : decode cX1_move 16 = .ok (.iload_n 1, 1) := dk_27 (dk_at dksX1_move_0 16 rfl rfl)
theorem dX1_move_17 : decode cX1_move 17 = .ok (.iload_n 2, 1) := dk_28 (dk_at dksX1_move_0 17 rfl rfl)
theorem dX1_move_18 : decode cX1_move 18 = .ok (.if_icmp .ne 5, 3) := dk_160 0 5 (dk_at dksX1_move_0 18 rfl rfl)
theorem dX1_move_21 : decode cX1_move 21 = .ok (.iconst (-1), 1) := dk_2 (dk_at dksX1_move_0 21 rfl rfl)
theorem dX1_move_22 : decode cX1_move 22 = .ok (.ireturn, 1) := dk_172 (dk_at dksX1_move_0 22 rfl rfl)
theorem dX1_move_23 : decode cX1_move 23 = .ok (.aload_n 0, 1) := dk_42 (dk_at dksX1_move_0 23 rfl rfl)
theorem dX1_move_24 : decode cX1_move 24 = .ok (.bipush 115, 2) := dk_16 115 (dk_at dksX1_move_1 0 rfl rfl)
theorem dX1_move_26 : decode cX1_move 26 = .ok (.iload_n 1, 1) := dk_27 (dk_at dksX1_move_1 2 rfl rfl)
theorem dX1_move_27 : decode cX1_move 27 = .ok (.invokevirtual 237, 3) := dk_182 0 237 (dk_at dksX1_move_1 3 rfl rfl)
theorem dX1_move_30 : decode cX1_move 30 = .ok (.iload_n 1, 1) := dk_27 (dk_at dksX1_move_1 6 rfl rfl)
theorem dX1_move_31 : decode cX1_move 31 = .ok (.istore_n 3, 1) := dk_62 (dk_at dksX1_move_1 7 rfl rfl)
theorem dX1_move_32 : decode cX1_move 32 = .ok (.iload_n 3, 1) := dk_29 (dk_at dksX1_move_1 8 rfl rfl)
theorem dX1_move_33 : decode cX1_move 33 = .ok (.iload_n 2, 1) := dk_28 (dk_at dksX1_move_1 9 rfl rfl)
theorem dX1_move_34 : decode cX1_move 34 = .ok (.if_icmp .ge 17, 3) := dk_162 0 17 (dk_at dksX1_move_1 10 rfl rfl)
theorem dX1_move_37 : decode cX1_move 37 = .ok (.aload_n 0, 1) := dk_42 (dk_at dksX1_move_1 13 rfl rfl)
theorem dX1_move_38 : decode cX1_move 38 = .ok (.iload_n 3, 1) := dk_29 (dk_at dksX1_move_1 14 rfl rfl)
theorem dX1_move_39 : decode cX1_move 39 = .ok (.iload_n 3, 1) := dk_29 (dk_at dksX1_move_1 15 rfl rfl)
theorem dX1_move_40 : decode cX1_move 40 = .ok (.iconst 1, 1) := dk_4 (dk_at dksX1_move_1 16 rfl rfl)
theorem dX1_move_41 : decode cX1_move 41 = .ok (.iadd, 1) := dk_96 (dk_at dksX1_move_1 17 rfl rfl)
theorem dX1_move_42 : decode cX1_move 42 = .ok (.invokevirtual 237, 3) := dk_182 0 237 (dk_at dksX1_move_1 18 rfl rfl)
theorem dX1_move_45 : decode cX1_move 45 = .ok (.iinc 3 1, 3) := dk_132 3 1 (dk_at dksX1_move_1 21 rfl rfl)
theorem dX1_move_48 : decode cX1_move 48 = .ok (.goto (-16), 3) := dk_167 255 240 (dk_at dksX1_move_2 0 rfl rfl)
theorem dX1_move_51 : decode cX1_move 51 = .ok (.iload_n 1, 1) := dk_27 (dk_at dksX1_move_2 3 rfl rfl)
theorem dX1_move_52 : decode cX1_move 52 = .ok (.istore_n 3, 1) := dk_62 (dk_at dksX1_move_2 4 rfl rfl)
theorem dX1_move_53 : decode cX1_move 53 = .ok (.iload_n 3, 1) := dk_29 (dk_at dksX1_move_2 5 rfl rfl)
theorem dX1_move_54 : decode cX1_move 54 = .ok (.iload_n 2, 1) := dk_28 (dk_at dksX1_move_2 6 rfl rfl)
theorem dX1_move_55 : decode cX1_move 55 = .ok (.if_icmp .le 17, 3) := dk_164 0 17 (dk_at dksX1_move_2 7 rfl rfl)
theorem dX1_move_58 : decode cX1_move 58 = .ok (.aload_n 0, 1) := dk_42 (dk_at dksX1_move_2 10 rfl rfl)
theorem dX1_move_59 : decode cX1_move 59 = .ok (.iload_n 3, 1) := dk_29 (dk_at dksX1_move_2 11 rfl rfl)
theorem dX1_move_60 : decode cX1_move 60 = .ok (.iload_n 3, 1) := dk_29 (dk_at dksX1_move_2 12 rfl rfl)
theorem dX1_move_61 : decode cX1_move 61 = .ok (.iconst 1, 1) := dk_4 (dk_at dksX1_move_2 13 rfl rfl)
theorem dX1_move_62 : decode cX1_move 62 = .ok (.isub, 1) := dk_100 (dk_at dksX1_move_2 14 rfl rfl)
theorem dX1_move_63 : decode cX1_move 63 = .ok (.invokevirtual 237, 3) := dk_182 0 237 (dk_at dksX1_move_2 15 rfl rfl)
theorem dX1_move_66 : decode cX1_move 66 = .ok (.iinc 3 (-1), 3) := dk_132 3 255 (dk_at dksX1_move_2 18 rfl rfl)
theorem dX1_move_69 : decode cX1_move 69 = .ok (.goto (-16), 3) := dk_167 255 240 (dk_at dksX1_move_2 21 rfl rfl)
theorem dX1_move_72 : decode cX1_move 72 = .ok (.aload_n 0, 1) := dk_42 (dk_at dksX1_move_3 0 rfl rfl)
theorem dX1_move_73 : decode cX1_move 73 = .ok (.iload_n 2, 1) := dk_28 (dk_at dksX1_move_3 1 rfl rfl)
theorem dX1_move_74 : decode cX1_move 74 = .ok (.bipush 115, 2) := dk_16 115 (dk_at dksX1_move_3 2 rfl rfl)
theorem dX1_move_76 : decode cX1_move 76 = .ok (.invokevirtual 237, 3) := dk_182 0 237 (dk_at dksX1_move_3 4 rfl rfl)
theorem dX1_move_79 : decode cX1_move 79 = .ok (.aload_n 0, 1) := dk_42 (dk_at dksX1_move_3 7 rfl rfl)
theorem dX1_move_80 : decode cX1_move 80 = .ok (.iload_n 2, 1) := dk_28 (dk_at dksX1_move_3 8 rfl rfl)
theorem dX1_move_81 : decode cX1_move 81 = .ok (.invokevirtual 343, 3) := dk_182 1 87 (dk_at dksX1_move_3 9 rfl rfl)
theorem dX1_move_84 : decode cX1_move 84 = .ok (.ifCond .eq 7, 3) := dk_153 0 7 (dk_at dksX1_move_3 12 rfl rfl)
theorem dX1_move_87 : decode cX1_move 87 = .ok (.iconst 1, 1) := dk_4 (dk_at dksX1_move_3 15 rfl rfl)
theorem dX1_move_88 : decode cX1_move 88 = .ok (.goto 4, 3) := dk_167 0 4 (dk_at dksX1_move_3 16 rfl rfl)
theorem dX1_move_91 : decode cX1_move 91 = .ok (.iconst 0, 1) := dk_3 (dk_at dksX1_move_3 19 rfl rfl)
theorem dX1_move_92 : decode cX1_move 92 = .ok (.ireturn, 1) := dk_172 (dk_at dksX1_move_3 20 rfl rfl)
abbrev cX1_isRightLine : ByteArray := prog_17_method_33_code
def yX1_isRightLine : MethodName := ⟨RX1, "isRightLine", "(I)Z"⟩
def dkwX1_isRightLine_0 : List UInt8 := [42, 182, 0, 201, 42, 180, 0, 86, 27, 51, 172]
abbrev dktX1_isRightLine_0 : List UInt8 := dkwX1_isRightLine_0 ++ []
theorem dksX1_isRightLine_0 : cX1_isRightLine.data.toList.drop 0 = dktX1_isRightLine_0 := by decide +kernel
theorem dX1_isRightLine_0 : decode cX1_isRightLine 0 = .ok (.aload_n 0, 1) := dk_42 (dk_at dksX1_isRightLine_0 0 rfl rfl)
theorem dX1_isRightLine_1 : decode cX1_isRightLine 1 = .ok (.invokevirtual 201, 3) := dk_182 0 201 (dk_at dksX1_isRightLine_0 1 rfl rfl)
theorem dX1_isRightLine_4 : decode cX1_isRightLine 4 = .ok (.aload_n 0, 1) := dk_42 (dk_at dksX1_isRightLine_0 4 rfl rfl)
theorem dX1_isRightLine_5 : decode cX1_isRightLine 5 = .ok (.getfield 86, 3) := dk_180 0 86 (dk_at dksX1_isRightLine_0 5 rfl rfl)
theorem dX1_isRightLine_8 : decode cX1_isRightLine 8 = .ok (.iload_n 1, 1) := dk_27 (dk_at dksX1_isRightLine_0 8 rfl rfl)
theorem dX1_isRightLine_9 : decode cX1_isRightLine 9 = .ok (.baload, 1) := dk_51 (dk_at dksX1_isRightLine_0 9 rfl rfl)
theorem dX1_isRightLine_10 : decode cX1_isRightLine 10 = .ok (.ireturn, 1) := dk_172 (dk_at dksX1_isRightLine_0 10 rfl rfl)
abbrev cX1_prune : ByteArray := prog_17_method_70_code
def yX1_prune : MethodName := ⟨RX1, "prune", "(I)I"⟩
def dkwX1_prune_3 : List UInt8 := [132, 4, 1, 132, 5, 1, 167, 255, 214, 42, 21, 4, 181, 0, 112, 42, 180, 0, 112, 172]
abbrev dktX1_prune_3 : List UInt8 := dkwX1_prune_3 ++ []
def dkwX1_prune_2 : List UInt8 := [184, 1, 93, 154, 0, 6, 167, 0, 21, 21, 4, 21, 5, 159, 0, 11, 42, 21, 4, 21, 5, 182, 0, 237]
abbrev dktX1_prune_2 : List UInt8 := dkwX1_prune_2 ++ dktX1_prune_3
def dkwX1_prune_1 : List UInt8 := [182, 1, 90, 65, 3, 54, 4, 3, 54, 5, 21, 5, 42, 180, 0, 112, 162, 0, 39, 32, 21, 5]
abbrev dktX1_prune_1 : List UInt8 := dkwX1_prune_1 ++ dktX1_prune_2
def dkwX1_prune_0 : List UInt8 := [42, 27, 182, 0, 240, 154, 0, 5, 2, 172, 42, 27, 182, 1, 87, 154, 0, 6, 16, 254, 172, 42, 27]
abbrev dktX1_prune_0 : List UInt8 := dkwX1_prune_0 ++ dktX1_prune_1
theorem dksX1_prune_0 : cX1_prune.data.toList.drop 0 = dktX1_prune_0 := by decide +kernel
theorem dksX1_prune_1 : cX1_prune.data.toList.drop 23 = dktX1_prune_1 := dk_seg dksX1_prune_0 23 rfl rfl
theorem dksX1_prune_2 : cX1_prune.data.toList.drop 45 = dktX1_prune_2 := dk_seg dksX1_prune_1 22 rfl rfl
theorem dksX1_prune_3 : cX1_prune.data.toList.drop 69 = dktX1_prune_3 := dk_seg dksX1_prune_2 24 rfl rfl
theorem dX1_prune_0 : decode cX1_prune 0 = .ok (.aload_n 0, 1) := dk_42 (dk_at dksX1_prune_0 0 rfl rfl)
theorem dX1_prune_1 : decode cX1_prune 1 = .ok (.iload_n 1, 1) := dk_27 (dk_at dksX1_prune_0 1 rfl rfl)
theorem dX1_prune_2 : decode cX1_prune 2 = .ok (.invokevirtual 240, 3) := dk_182 0 240 (dk_at dksX1_prune_0 2 rfl rfl)
theorem dX1_prune_5 : decode cX1_prune 5 = .ok (.ifCond .ne 5, 3) := dk_154 0 5 (dk_at dksX1_prune_0 5 rfl rfl)
theorem dX1_prune_8 : decode cX1_prune 8 = .ok (.iconst (-1), 1) := dk_2 (dk_at dksX1_prune_0 8 rfl rfl)
theorem dX1_prune_9 : decode cX1_prune 9 = .ok (.ireturn, 1) := dk_172 (dk_at dksX1_prune_0 9 rfl rfl)
theorem dX1_prune_10 : decode cX1_prune 10 = .ok (.aload_n 0, 1) := dk_42 (dk_at dksX1_prune_0 10 rfl rfl)
theorem dX1_prune_11 : decode cX1_prune 11 = .ok (.iload_n 1, 1) := dk_27 (dk_at dksX1_prune_0 11 rfl rfl)
theorem dX1_prune_12 : decode cX1_prune 12 = .ok (.invokevirtual 343, 3) := dk_182 1 87 (dk_at dksX1_prune_0 12 rfl rfl)
theorem dX1_prune_15 : decode cX1_prune 15 = .ok (.ifCond .ne 6, 3) := dk_154 0 6 (dk_at dksX1_prune_0 15 rfl rfl)
theorem dX1_prune_18 : decode cX1_prune 18 = .ok (.bipush (-2), 2) := dk_16 254 (dk_at dksX1_prune_0 18 rfl rfl)
theorem dX1_prune_20 : decode cX1_prune 20 = .ok (.ireturn, 1) := dk_172 (dk_at dksX1_prune_0 20 rfl rfl)
theorem dX1_prune_21 : decode cX1_prune 21 = .ok (.aload_n 0, 1) := dk_42 (dk_at dksX1_prune_0 21 rfl rfl)
theorem dX1_prune_22 : decode cX1_prune 22 = .ok (.iload_n 1, 1) := dk_27 (dk_at dksX1_prune_0 22 rfl rfl)
theorem dX1_prune_23 : decode cX1_prune 23 = .ok (.invokevirtual 346, 3) := dk_182 1 90 (dk_at dksX1_prune_1 0 rfl rfl)
theorem dX1_prune_26 : decode cX1_prune 26 = .ok (.lstore_n 2, 1) := dk_65 (dk_at dksX1_prune_1 3 rfl rfl)
theorem dX1_prune_27 : decode cX1_prune 27 = .ok (.iconst 0, 1) := dk_3 (dk_at dksX1_prune_1 4 rfl rfl)
theorem dX1_prune_28 : decode cX1_prune 28 = .ok (.istore 4, 2) := dk_54 4 (dk_at dksX1_prune_1 5 rfl rfl)
theorem dX1_prune_30 : decode cX1_prune 30 = .ok (.iconst 0, 1) := dk_3 (dk_at dksX1_prune_1 7 rfl rfl)
theorem dX1_prune_31 : decode cX1_prune 31 = .ok (.istore 5, 2) := dk_54 5 (dk_at dksX1_prune_1 8 rfl rfl)
theorem dX1_prune_33 : decode cX1_prune 33 = .ok (.iload 5, 2) := dk_21 5 (dk_at dksX1_prune_1 10 rfl rfl)
theorem dX1_prune_35 : decode cX1_prune 35 = .ok (.aload_n 0, 1) := dk_42 (dk_at dksX1_prune_1 12 rfl rfl)
theorem dX1_prune_36 : decode cX1_prune 36 = .ok (.getfield 112, 3) := dk_180 0 112 (dk_at dksX1_prune_1 13 rfl rfl)
theorem dX1_prune_39 : decode cX1_prune 39 = .ok (.if_icmp .ge 39, 3) := dk_162 0 39 (dk_at dksX1_prune_1 16 rfl rfl)
theorem dX1_prune_42 : decode cX1_prune 42 = .ok (.lload_n 2, 1) := dk_32 (dk_at dksX1_prune_1 19 rfl rfl)
theorem dX1_prune_43 : decode cX1_prune 43 = .ok (.iload 5, 2) := dk_21 5 (dk_at dksX1_prune_1 20 rfl rfl)
theorem dX1_prune_45 : decode cX1_prune 45 = .ok (.invokestatic 349, 3) := dk_184 1 93 (dk_at dksX1_prune_2 0 rfl rfl)
theorem dX1_prune_48 : decode cX1_prune 48 = .ok (.ifCond .ne 6, 3) := dk_154 0 6 (dk_at dksX1_prune_2 3 rfl rfl)
theorem dX1_prune_51 : decode cX1_prune 51 = .ok (.goto 21, 3) := dk_167 0 21 (dk_at dksX1_prune_2 6 rfl rfl)
theorem dX1_prune_54 : decode cX1_prune 54 = .ok (.iload 4, 2) := dk_21 4 (dk_at dksX1_prune_2 9 rfl rfl)
theorem dX1_prune_56 : decode cX1_prune 56 = .ok (.iload 5, 2) := dk_21 5 (dk_at dksX1_prune_2 11 rfl rfl)
theorem dX1_prune_58 : decode cX1_prune 58 = .ok (.if_icmp .eq 11, 3) := dk_159 0 11 (dk_at dksX1_prune_2 13 rfl rfl)
theorem dX1_prune_61 : decode cX1_prune 61 = .ok (.aload_n 0, 1) := dk_42 (dk_at dksX1_prune_2 16 rfl rfl)
theorem dX1_prune_62 : decode cX1_prune 62 = .ok (.iload 4, 2) := dk_21 4 (dk_at dksX1_prune_2 17 rfl rfl)
theorem dX1_prune_64 : decode cX1_prune 64 = .ok (.iload 5, 2) := dk_21 5 (dk_at dksX1_prune_2 19 rfl rfl)
theorem dX1_prune_66 : decode cX1_prune 66 = .ok (.invokevirtual 237, 3) := dk_182 0 237 (dk_at dksX1_prune_2 21 rfl rfl)
theorem dX1_prune_69 : decode cX1_prune 69 = .ok (.iinc 4 1, 3) := dk_132 4 1 (dk_at dksX1_prune_3 0 rfl rfl)
theorem dX1_prune_72 : decode cX1_prune 72 = .ok (.iinc 5 1, 3) := dk_132 5 1 (dk_at dksX1_prune_3 3 rfl rfl)
theorem dX1_prune_75 : decode cX1_prune 75 = .ok (.goto (-42), 3) := dk_167 255 214 (dk_at dksX1_prune_3 6 rfl rfl)
theorem dX1_prune_78 : decode cX1_prune 78 = .ok (.aload_n 0, 1) := dk_42 (dk_at dksX1_prune_3 9 rfl rfl)
theorem dX1_prune_79 : decode cX1_prune 79 = .ok (.iload 4, 2) := dk_21 4 (dk_at dksX1_prune_3 10 rfl rfl)
theorem dX1_prune_81 : decode cX1_prune 81 = .ok (.putfield 112, 3) := dk_181 0 112 (dk_at dksX1_prune_3 12 rfl rfl)
theorem dX1_prune_84 : decode cX1_prune 84 = .ok (.aload_n 0, 1) := dk_42 (dk_at dksX1_prune_3 15 rfl rfl)
theorem dX1_prune_85 : decode cX1_prune 85 = .ok (.getfield 112, 3) := dk_180 0 112 (dk_at dksX1_prune_3 16 rfl rfl)
theorem dX1_prune_88 : decode cX1_prune 88 = .ok (.ireturn, 1) := dk_172 (dk_at dksX1_prune_3 19 rfl rfl)
abbrev cX1_restsOf : ByteArray := prog_17_method_75_code
def yX1_restsOf : MethodName := ⟨RX1, "restsOf", "(I)J"⟩
def dkwX1_restsOf_1 : List UInt8 := [21, 4, 182, 1, 97, 129, 65, 132, 4, 255, 167, 255, 230, 32, 173]
abbrev dktX1_restsOf_1 : List UInt8 := dkwX1_restsOf_1 ++ []
def dkwX1_restsOf_0 : List UInt8 := [10, 27, 121, 65, 27, 54, 4, 21, 4, 155, 0, 27, 32, 21, 4, 184, 1, 93, 153, 0, 12, 32, 42]
abbrev dktX1_restsOf_0 : List UInt8 := dkwX1_restsOf_0 ++ dktX1_restsOf_1
theorem dksX1_restsOf_0 : cX1_restsOf.data.toList.drop 0 = dktX1_restsOf_0 := by decide +kernel
theorem dksX1_restsOf_1 : cX1_restsOf.data.toList.drop 23 = dktX1_restsOf_1 := dk_seg dksX1_restsOf_0 23 rfl rfl
theorem dX1_restsOf_0 : decode cX1_restsOf 0 = .ok (.lconst 1, 1) := dk_10 (dk_at dksX1_restsOf_0 0 rfl rfl)
theorem dX1_restsOf_1 : decode cX1_restsOf 1 = .ok (.iload_n 1, 1) := dk_27 (dk_at dksX1_restsOf_0 1 rfl rfl)
theorem dX1_restsOf_2 : decode cX1_restsOf 2 = .ok (.lshl, 1) := dk_121 (dk_at dksX1_restsOf_0 2 rfl rfl)
theorem dX1_restsOf_3 : decode cX1_restsOf 3 = .ok (.lstore_n 2, 1) := dk_65 (dk_at dksX1_restsOf_0 3 rfl rfl)
theorem dX1_restsOf_4 : decode cX1_restsOf 4 = .ok (.iload_n 1, 1) := dk_27 (dk_at dksX1_restsOf_0 4 rfl rfl)
theorem dX1_restsOf_5 : decode cX1_restsOf 5 = .ok (.istore 4, 2) := dk_54 4 (dk_at dksX1_restsOf_0 5 rfl rfl)
theorem dX1_restsOf_7 : decode cX1_restsOf 7 = .ok (.iload 4, 2) := dk_21 4 (dk_at dksX1_restsOf_0 7 rfl rfl)
theorem dX1_restsOf_9 : decode cX1_restsOf 9 = .ok (.ifCond .lt 27, 3) := dk_155 0 27 (dk_at dksX1_restsOf_0 9 rfl rfl)
theorem dX1_restsOf_12 : decode cX1_restsOf 12 = .ok (.lload_n 2, 1) := dk_32 (dk_at dksX1_restsOf_0 12 rfl rfl)
theorem dX1_restsOf_13 : decode cX1_restsOf 13 = .ok (.iload 4, 2) := dk_21 4 (dk_at dksX1_restsOf_0 13 rfl rfl)
theorem dX1_restsOf_15 : decode cX1_restsOf 15 = .ok (.invokestatic 349, 3) := dk_184 1 93 (dk_at dksX1_restsOf_0 15 rfl rfl)
theorem dX1_restsOf_18 : decode cX1_restsOf 18 = .ok (.ifCond .eq 12, 3) := dk_153 0 12 (dk_at dksX1_restsOf_0 18 rfl rfl)
theorem dX1_restsOf_21 : decode cX1_restsOf 21 = .ok (.lload_n 2, 1) := dk_32 (dk_at dksX1_restsOf_0 21 rfl rfl)
theorem dX1_restsOf_22 : decode cX1_restsOf 22 = .ok (.aload_n 0, 1) := dk_42 (dk_at dksX1_restsOf_0 22 rfl rfl)
theorem dX1_restsOf_23 : decode cX1_restsOf 23 = .ok (.iload 4, 2) := dk_21 4 (dk_at dksX1_restsOf_1 0 rfl rfl)
theorem dX1_restsOf_25 : decode cX1_restsOf 25 = .ok (.invokevirtual 353, 3) := dk_182 1 97 (dk_at dksX1_restsOf_1 2 rfl rfl)
theorem dX1_restsOf_28 : decode cX1_restsOf 28 = .ok (.lor, 1) := dk_129 (dk_at dksX1_restsOf_1 5 rfl rfl)
theorem dX1_restsOf_29 : decode cX1_restsOf 29 = .ok (.lstore_n 2, 1) := dk_65 (dk_at dksX1_restsOf_1 6 rfl rfl)
theorem dX1_restsOf_30 : decode cX1_restsOf 30 = .ok (.iinc 4 (-1), 3) := dk_132 4 255 (dk_at dksX1_restsOf_1 7 rfl rfl)
theorem dX1_restsOf_33 : decode cX1_restsOf 33 = .ok (.goto (-26), 3) := dk_167 255 230 (dk_at dksX1_restsOf_1 10 rfl rfl)
theorem dX1_restsOf_36 : decode cX1_restsOf 36 = .ok (.lload_n 2, 1) := dk_32 (dk_at dksX1_restsOf_1 13 rfl rfl)
theorem dX1_restsOf_37 : decode cX1_restsOf 37 = .ok (.lreturn, 1) := dk_173 (dk_at dksX1_restsOf_1 14 rfl rfl)
abbrev cX1_has : ByteArray := prog_17_method_73_code
def yX1_has : MethodName := ⟨RX1, "has", "(JI)Z"⟩
def dkwX1_has_0 : List UInt8 := [30, 28, 123, 10, 127, 10, 148, 154, 0, 7, 4, 167, 0, 4, 3, 172]
abbrev dktX1_has_0 : List UInt8 := dkwX1_has_0 ++ []
theorem dksX1_has_0 : cX1_has.data.toList.drop 0 = dktX1_has_0 := by decide +kernel
theorem dX1_has_0 : decode cX1_has 0 = .ok (.lload_n 0, 1) := dk_30 (dk_at dksX1_has_0 0 rfl rfl)
theorem dX1_has_1 : decode cX1_has 1 = .ok (.iload_n 2, 1) := dk_28 (dk_at dksX1_has_0 1 rfl rfl)
theorem dX1_has_2 : decode cX1_has 2 = .ok (.lshr, 1) := dk_123 (dk_at dksX1_has_0 2 rfl rfl)
theorem dX1_has_3 : decode cX1_has 3 = .ok (.lconst 1, 1) := dk_10 (dk_at dksX1_has_0 3 rfl rfl)
theorem dX1_has_4 : decode cX1_has 4 = .ok (.land, 1) := dk_127 (dk_at dksX1_has_0 4 rfl rfl)
theorem dX1_has_5 : decode cX1_has 5 = .ok (.lconst 1, 1) := dk_10 (dk_at dksX1_has_0 5 rfl rfl)
theorem dX1_has_6 : decode cX1_has 6 = .ok (.lcmp, 1) := dk_148 (dk_at dksX1_has_0 6 rfl rfl)
theorem dX1_has_7 : decode cX1_has 7 = .ok (.ifCond .ne 7, 3) := dk_154 0 7 (dk_at dksX1_has_0 7 rfl rfl)
theorem dX1_has_10 : decode cX1_has 10 = .ok (.iconst 1, 1) := dk_4 (dk_at dksX1_has_0 10 rfl rfl)
theorem dX1_has_11 : decode cX1_has 11 = .ok (.goto 4, 3) := dk_167 0 4 (dk_at dksX1_has_0 11 rfl rfl)
theorem dX1_has_14 : decode cX1_has 14 = .ok (.iconst 0, 1) := dk_3 (dk_at dksX1_has_0 14 rfl rfl)
theorem dX1_has_15 : decode cX1_has 15 = .ok (.ireturn, 1) := dk_172 (dk_at dksX1_has_0 15 rfl rfl)
abbrev cX1_props : ByteArray := prog_17_method_74_code
def yX1_props : MethodName := ⟨RX1, "props", "(I)J"⟩
def dkwX1_props_3 : List UInt8 := [42, 42, 180, 0, 80, 21, 4, 46, 27, 182, 0, 132, 121, 129, 65, 132, 4, 1, 167, 255, 220, 32, 173]
abbrev dktX1_props_3 : List UInt8 := dkwX1_props_3 ++ []
def dkwX1_props_2 : List UInt8 := [16, 9, 27, 104, 54, 4, 21, 4, 16, 9, 27, 104, 42, 180, 0, 68, 27, 46, 96, 162, 0, 26, 32, 10]
abbrev dktX1_props_2 : List UInt8 := dkwX1_props_2 ++ dktX1_props_3
def dkwX1_props_1 : List UInt8 := [32, 10, 42, 42, 180, 0, 71, 21, 4, 46, 27, 182, 0, 132, 121, 129, 65, 132, 4, 1, 167, 255, 220]
abbrev dktX1_props_1 : List UInt8 := dkwX1_props_1 ++ dktX1_props_2
def dkwX1_props_0 : List UInt8 := [9, 65, 16, 9, 27, 104, 54, 4, 21, 4, 16, 9, 27, 104, 42, 180, 0, 65, 27, 46, 96, 162, 0, 26]
abbrev dktX1_props_0 : List UInt8 := dkwX1_props_0 ++ dktX1_props_1
theorem dksX1_props_0 : cX1_props.data.toList.drop 0 = dktX1_props_0 := by decide +kernel
theorem dksX1_props_1 : cX1_props.data.toList.drop 24 = dktX1_props_1 := dk_seg dksX1_props_0 24 rfl rfl
theorem dksX1_props_2 : cX1_props.data.toList.drop 47 = dktX1_props_2 := dk_seg dksX1_props_1 23 rfl rfl
theorem dksX1_props_3 : cX1_props.data.toList.drop 71 = dktX1_props_3 := dk_seg dksX1_props_2 24 rfl rfl
theorem dX1_props_0 : decode cX1_props 0 = .ok (.lconst 0, 1) := dk_9 (dk_at dksX1_props_0 0 rfl rfl)
theorem dX1_props_1 : decode cX1_props 1 = .ok (.lstore_n 2, 1) := dk_65 (dk_at dksX1_props_0 1 rfl rfl)
theorem dX1_props_2 : decode cX1_props 2 = .ok (.bipush 9, 2) := dk_16 9 (dk_at dksX1_props_0 2 rfl rfl)
theorem dX1_props_4 : decode cX1_props 4 = .ok (.iload_n 1, 1) := dk_27 (dk_at dksX1_props_0 4 rfl rfl)
theorem dX1_props_5 : decode cX1_props 5 = .ok (.imul, 1) := dk_104 (dk_at dksX1_props_0 5 rfl rfl)
theorem dX1_props_6 : decode cX1_props 6 = .ok (.istore 4, 2) := dk_54 4 (dk_at dksX1_props_0 6 rfl rfl)
theorem dX1_props_8 : decode cX1_props 8 = .ok (.iload 4, 2) := dk_21 4 (dk_at dksX1_props_0 8 rfl rfl)
theorem dX1_props_10 : decode cX1_props 10 = .ok (.bipush 9, 2) := dk_16 9 (dk_at dksX1_props_0 10 rfl rfl)
theorem dX1_props_12 : decode cX1_props 12 = .ok (.iload_n 1, 1) := dk_27 (dk_at dksX1_props_0 12 rfl rfl)
theorem dX1_props_13 : decode cX1_props 13 = .ok (.imul, 1) := dk_104 (dk_at dksX1_props_0 13 rfl rfl)
theorem dX1_props_14 : decode cX1_props 14 = .ok (.aload_n 0, 1) := dk_42 (dk_at dksX1_props_0 14 rfl rfl)
theorem dX1_props_15 : decode cX1_props 15 = .ok (.getfield 65, 3) := dk_180 0 65 (dk_at dksX1_props_0 15 rfl rfl)
theorem dX1_props_18 : decode cX1_props 18 = .ok (.iload_n 1, 1) := dk_27 (dk_at dksX1_props_0 18 rfl rfl)
theorem dX1_props_19 : decode cX1_props 19 = .ok (.iaload, 1) := dk_46 (dk_at dksX1_props_0 19 rfl rfl)
theorem dX1_props_20 : decode cX1_props 20 = .ok (.iadd, 1) := dk_96 (dk_at dksX1_props_0 20 rfl rfl)
theorem dX1_props_21 : decode cX1_props 21 = .ok (.if_icmp .ge 26, 3) := dk_162 0 26 (dk_at dksX1_props_0 21 rfl rfl)
theorem dX1_props_24 : decode cX1_props 24 = .ok (.lload_n 2, 1) := dk_32 (dk_at dksX1_props_1 0 rfl rfl)
theorem dX1_props_25 : decode cX1_props 25 = .ok (.lconst 1, 1) := dk_10 (dk_at dksX1_props_1 1 rfl rfl)
theorem dX1_props_26 : decode cX1_props 26 = .ok (.aload_n 0, 1) := dk_42 (dk_at dksX1_props_1 2 rfl rfl)
theorem dX1_props_27 : decode cX1_props 27 = .ok (.aload_n 0, 1) := dk_42 (dk_at dksX1_props_1 3 rfl rfl)
theorem dX1_props_28 : decode cX1_props 28 = .ok (.getfield 71, 3) := dk_180 0 71 (dk_at dksX1_props_1 4 rfl rfl)
theorem dX1_props_31 : decode cX1_props 31 = .ok (.iload 4, 2) := dk_21 4 (dk_at dksX1_props_1 7 rfl rfl)
theorem dX1_props_33 : decode cX1_props 33 = .ok (.iaload, 1) := dk_46 (dk_at dksX1_props_1 9 rfl rfl)
theorem dX1_props_34 : decode cX1_props 34 = .ok (.iload_n 1, 1) := dk_27 (dk_at dksX1_props_1 10 rfl rfl)
theorem dX1_props_35 : decode cX1_props 35 = .ok (.invokevirtual 132, 3) := dk_182 0 132 (dk_at dksX1_props_1 11 rfl rfl)
theorem dX1_props_38 : decode cX1_props 38 = .ok (.lshl, 1) := dk_121 (dk_at dksX1_props_1 14 rfl rfl)
theorem dX1_props_39 : decode cX1_props 39 = .ok (.lor, 1) := dk_129 (dk_at dksX1_props_1 15 rfl rfl)
theorem dX1_props_40 : decode cX1_props 40 = .ok (.lstore_n 2, 1) := dk_65 (dk_at dksX1_props_1 16 rfl rfl)
theorem dX1_props_41 : decode cX1_props 41 = .ok (.iinc 4 1, 3) := dk_132 4 1 (dk_at dksX1_props_1 17 rfl rfl)
theorem dX1_props_44 : decode cX1_props 44 = .ok (.goto (-36), 3) := dk_167 255 220 (dk_at dksX1_props_1 20 rfl rfl)
theorem dX1_props_47 : decode cX1_props 47 = .ok (.bipush 9, 2) := dk_16 9 (dk_at dksX1_props_2 0 rfl rfl)
theorem dX1_props_49 : decode cX1_props 49 = .ok (.iload_n 1, 1) := dk_27 (dk_at dksX1_props_2 2 rfl rfl)
theorem dX1_props_50 : decode cX1_props 50 = .ok (.imul, 1) := dk_104 (dk_at dksX1_props_2 3 rfl rfl)
theorem dX1_props_51 : decode cX1_props 51 = .ok (.istore 4, 2) := dk_54 4 (dk_at dksX1_props_2 4 rfl rfl)
theorem dX1_props_53 : decode cX1_props 53 = .ok (.iload 4, 2) := dk_21 4 (dk_at dksX1_props_2 6 rfl rfl)
theorem dX1_props_55 : decode cX1_props 55 = .ok (.bipush 9, 2) := dk_16 9 (dk_at dksX1_props_2 8 rfl rfl)
theorem dX1_props_57 : decode cX1_props 57 = .ok (.iload_n 1, 1) := dk_27 (dk_at dksX1_props_2 10 rfl rfl)
theorem dX1_props_58 : decode cX1_props 58 = .ok (.imul, 1) := dk_104 (dk_at dksX1_props_2 11 rfl rfl)
theorem dX1_props_59 : decode cX1_props 59 = .ok (.aload_n 0, 1) := dk_42 (dk_at dksX1_props_2 12 rfl rfl)
theorem dX1_props_60 : decode cX1_props 60 = .ok (.getfield 68, 3) := dk_180 0 68 (dk_at dksX1_props_2 13 rfl rfl)
theorem dX1_props_63 : decode cX1_props 63 = .ok (.iload_n 1, 1) := dk_27 (dk_at dksX1_props_2 16 rfl rfl)
theorem dX1_props_64 : decode cX1_props 64 = .ok (.iaload, 1) := dk_46 (dk_at dksX1_props_2 17 rfl rfl)
theorem dX1_props_65 : decode cX1_props 65 = .ok (.iadd, 1) := dk_96 (dk_at dksX1_props_2 18 rfl rfl)
theorem dX1_props_66 : decode cX1_props 66 = .ok (.if_icmp .ge 26, 3) := dk_162 0 26 (dk_at dksX1_props_2 19 rfl rfl)
theorem dX1_props_69 : decode cX1_props 69 = .ok (.lload_n 2, 1) := dk_32 (dk_at dksX1_props_2 22 rfl rfl)
theorem dX1_props_70 : decode cX1_props 70 = .ok (.lconst 1, 1) := dk_10 (dk_at dksX1_props_2 23 rfl rfl)
theorem dX1_props_71 : decode cX1_props 71 = .ok (.aload_n 0, 1) := dk_42 (dk_at dksX1_props_3 0 rfl rfl)
theorem dX1_props_72 : decode cX1_props 72 = .ok (.aload_n 0, 1) := dk_42 (dk_at dksX1_props_3 1 rfl rfl)
theorem dX1_props_73 : decode cX1_props 73 = .ok (.getfield 80, 3) := dk_180 0 80 (dk_at dksX1_props_3 2 rfl rfl)
theorem dX1_props_76 : decode cX1_props 76 = .ok (.iload 4, 2) := dk_21 4 (dk_at dksX1_props_3 5 rfl rfl)
theorem dX1_props_78 : decode cX1_props 78 = .ok (.iaload, 1) := dk_46 (dk_at dksX1_props_3 7 rfl rfl)
theorem dX1_props_79 : decode cX1_props 79 = .ok (.iload_n 1, 1) := dk_27 (dk_at dksX1_props_3 8 rfl rfl)
theorem dX1_props_80 : decode cX1_props 80 = .ok (.invokevirtual 132, 3) := dk_182 0 132 (dk_at dksX1_props_3 9 rfl rfl)
theorem dX1_props_83 : decode cX1_props 83 = .ok (.lshl, 1) := dk_121 (dk_at dksX1_props_3 12 rfl rfl)
theorem dX1_props_84 : decode cX1_props 84 = .ok (.lor, 1) := dk_129 (dk_at dksX1_props_3 13 rfl rfl)
theorem dX1_props_85 : decode cX1_props 85 = .ok (.lstore_n 2, 1) := dk_65 (dk_at dksX1_props_3 14 rfl rfl)
theorem dX1_props_86 : decode cX1_props 86 = .ok (.iinc 4 1, 3) := dk_132 4 1 (dk_at dksX1_props_3 15 rfl rfl)
theorem dX1_props_89 : decode cX1_props 89 = .ok (.goto (-36), 3) := dk_167 255 220 (dk_at dksX1_props_3 18 rfl rfl)
theorem dX1_props_92 : decode cX1_props 92 = .ok (.lload_n 2, 1) := dk_32 (dk_at dksX1_props_3 21 rfl rfl)
theorem dX1_props_93 : decode cX1_props 93 = .ok (.lreturn, 1) := dk_173 (dk_at dksX1_props_3 22 rfl rfl)
abbrev cX1_drop : ByteArray := prog_17_method_71_code
def yX1_drop : MethodName := ⟨RX1, "drop", "()I"⟩
def dkwX1_drop_0 : List UInt8 := [42, 180, 0, 112, 154, 0, 5, 2, 172, 42, 89, 180, 0, 112, 4, 100, 181, 0, 112, 42, 180, 0, 112, 172]
abbrev dktX1_drop_0 : List UInt8 := dkwX1_drop_0 ++ []
theorem dksX1_drop_0 : cX1_drop.data.toList.drop 0 = dktX1_drop_0 := by decide +kernel
theorem dX1_drop_0 : decode cX1_drop 0 = .ok (.aload_n 0, 1) := dk_42 (dk_at dksX1_drop_0 0 rfl rfl)
theorem dX1_drop_1 : decode cX1_drop 1 = .ok (.getfield 112, 3) := dk_180 0 112 (dk_at dksX1_drop_0 1 rfl rfl)
theorem dX1_drop_4 : decode cX1_drop 4 = .ok (.ifCond .ne 5, 3) := dk_154 0 5 (dk_at dksX1_drop_0 4 rfl rfl)
theorem dX1_drop_7 : decode cX1_drop 7 = .ok (.iconst (-1), 1) := dk_2 (dk_at dksX1_drop_0 7 rfl rfl)
theorem dX1_drop_8 : decode cX1_drop 8 = .ok (.ireturn, 1) := dk_172 (dk_at dksX1_drop_0 8 rfl rfl)
theorem dX1_drop_9 : decode cX1_drop 9 = .ok (.aload_n 0, 1) := dk_42 (dk_at dksX1_drop_0 9 rfl rfl)
theorem dX1_drop_10 : decode cX1_drop 10 = .ok (.dup, 1) := dk_89 (dk_at dksX1_drop_0 10 rfl rfl)
theorem dX1_drop_11 : decode cX1_drop 11 = .ok (.getfield 112, 3) := dk_180 0 112 (dk_at dksX1_drop_0 11 rfl rfl)
theorem dX1_drop_14 : decode cX1_drop 14 = .ok (.iconst 1, 1) := dk_4 (dk_at dksX1_drop_0 14 rfl rfl)
theorem dX1_drop_15 : decode cX1_drop 15 = .ok (.isub, 1) := dk_100 (dk_at dksX1_drop_0 15 rfl rfl)
theorem dX1_drop_16 : decode cX1_drop 16 = .ok (.putfield 112, 3) := dk_181 0 112 (dk_at dksX1_drop_0 16 rfl rfl)
theorem dX1_drop_19 : decode cX1_drop 19 = .ok (.aload_n 0, 1) := dk_42 (dk_at dksX1_drop_0 19 rfl rfl)
theorem dX1_drop_20 : decode cX1_drop 20 = .ok (.getfield 112, 3) := dk_180 0 112 (dk_at dksX1_drop_0 20 rfl rfl)
theorem dX1_drop_23 : decode cX1_drop 23 = .ok (.ireturn, 1) := dk_172 (dk_at dksX1_drop_0 23 rfl rfl)
abbrev cX1_clear : ByteArray := prog_17_method_72_code
def yX1_clear : MethodName := ⟨RX1, "clear", "()I"⟩
def dkwX1_clear_0 : List UInt8 := [42, 180, 0, 112, 60, 42, 3, 181, 0, 112, 27, 172]
abbrev dktX1_clear_0 : List UInt8 := dkwX1_clear_0 ++ []
theorem dksX1_clear_0 : cX1_clear.data.toList.drop 0 = dktX1_clear_0 := by decide +kernel
theorem dX1_clear_0 : decode cX1_clear 0 = .ok (.aload_n 0, 1) := dk_42 (dk_at dksX1_clear_0 0 rfl rfl)
theorem dX1_clear_1 : decode cX1_clear 1 = .ok (.getfield 112, 3) := dk_180 0 112 (dk_at dksX1_clear_0 1 rfl rfl)
theorem dX1_clear_4 : decode cX1_clear 4 = .ok (.istore_n 1, 1) := dk_60 (dk_at dksX1_clear_0 4 rfl rfl)
theorem dX1_clear_5 : decode cX1_clear 5 = .ok (.aload_n 0, 1) := dk_42 (dk_at dksX1_clear_0 5 rfl rfl)
theorem dX1_clear_6 : decode cX1_clear 6 = .ok (.iconst 0, 1) := dk_3 (dk_at dksX1_clear_0 6 rfl rfl)
theorem dX1_clear_7 : decode cX1_clear 7 = .ok (.putfield 112, 3) := dk_181 0 112 (dk_at dksX1_clear_0 7 rfl rfl)
theorem dX1_clear_10 : decode cX1_clear 10 = .ok (.iload_n 1, 1) := dk_27 (dk_at dksX1_clear_0 10 rfl rfl)
theorem dX1_clear_11 : decode cX1_clear 11 = .ok (.ireturn, 1) := dk_172 (dk_at dksX1_clear_0 11 rfl rfl)
abbrev cX1_line : ByteArray := prog_17_method_79_code
def yX1_line : MethodName := ⟨RX1, "line", "(II)I"⟩
def dkwX1_line_4 : List UInt8 := [42, 180, 0, 90, 27, 46, 172, 2, 172]
abbrev dktX1_line_4 : List UInt8 := dkwX1_line_4 ++ []
def dkwX1_line_3 : List UInt8 := [180, 0, 62, 27, 46, 172, 42, 180, 0, 65, 27, 46, 172, 42, 180, 0, 68, 27, 46, 172, 42, 182, 0, 201]
abbrev dktX1_line_3 : List UInt8 := dkwX1_line_3 ++ dktX1_line_4
def dkwX1_line_2 : List UInt8 := [42, 180, 0, 53, 27, 46, 172, 42, 180, 0, 56, 27, 46, 172, 42, 180, 0, 59, 27, 46, 172, 42]
abbrev dktX1_line_2 : List UInt8 := dkwX1_line_2 ++ dktX1_line_3
def dkwX1_line_1 : List UInt8 := [170, 0, 0, 0, 94, 0, 0, 0, 0, 0, 0, 0, 6, 0, 0, 0, 41, 0, 0, 0, 48, 0, 0, 0, 55, 0, 0, 0, 62, 0, 0, 0, 69, 0, 0, 0, 76, 0, 0, 0, 83]
abbrev dktX1_line_1 : List UInt8 := dkwX1_line_1 ++ dktX1_line_2
def dkwX1_line_0 : List UInt8 := [42, 27, 182, 0, 240, 154, 0, 5, 2, 172, 28]
abbrev dktX1_line_0 : List UInt8 := dkwX1_line_0 ++ dktX1_line_1
theorem dksX1_line_0 : cX1_line.data.toList.drop 0 = dktX1_line_0 := by decide +kernel
theorem dksX1_line_1 : cX1_line.data.toList.drop 11 = dktX1_line_1 := dk_seg dksX1_line_0 11 rfl rfl
theorem dksX1_line_2 : cX1_line.data.toList.drop 52 = dktX1_line_2 := dk_seg dksX1_line_1 41 rfl rfl
theorem dksX1_line_3 : cX1_line.data.toList.drop 74 = dktX1_line_3 := dk_seg dksX1_line_2 22 rfl rfl
theorem dksX1_line_4 : cX1_line.data.toList.drop 98 = dktX1_line_4 := dk_seg dksX1_line_3 24 rfl rfl
theorem dX1_line_0 : decode cX1_line 0 = .ok (.aload_n 0, 1) := dk_42 (dk_at dksX1_line_0 0 rfl rfl)
theorem dX1_line_1 : decode cX1_line 1 = .ok (.iload_n 1, 1) := dk_27 (dk_at dksX1_line_0 1 rfl rfl)
theorem dX1_line_2 : decode cX1_line 2 = .ok (.invokevirtual 240, 3) := dk_182 0 240 (dk_at dksX1_line_0 2 rfl rfl)
theorem dX1_line_5 : decode cX1_line 5 = .ok (.ifCond .ne 5, 3) := dk_154 0 5 (dk_at dksX1_line_0 5 rfl rfl)
theorem dX1_line_8 : decode cX1_line 8 = .ok (.iconst (-1), 1) := dk_2 (dk_at dksX1_line_0 8 rfl rfl)
theorem dX1_line_9 : decode cX1_line 9 = .ok (.ireturn, 1) := dk_172 (dk_at dksX1_line_0 9 rfl rfl)
theorem dX1_line_10 : decode cX1_line 10 = .ok (.iload_n 2, 1) := dk_28 (dk_at dksX1_line_0 10 rfl rfl)
theorem dX1_line_11 : decode cX1_line 11 = .ok (.tableswitch 94 0 6 #[41, 48, 55, 62, 69, 76, 83], 41) := by decide +kernel
theorem dX1_line_52 : decode cX1_line 52 = .ok (.aload_n 0, 1) := dk_42 (dk_at dksX1_line_2 0 rfl rfl)
theorem dX1_line_53 : decode cX1_line 53 = .ok (.getfield 53, 3) := dk_180 0 53 (dk_at dksX1_line_2 1 rfl rfl)
theorem dX1_line_56 : decode cX1_line 56 = .ok (.iload_n 1, 1) := dk_27 (dk_at dksX1_line_2 4 rfl rfl)
theorem dX1_line_57 : decode cX1_line 57 = .ok (.iaload, 1) := dk_46 (dk_at dksX1_line_2 5 rfl rfl)
theorem dX1_line_58 : decode cX1_line 58 = .ok (.ireturn, 1) := dk_172 (dk_at dksX1_line_2 6 rfl rfl)
theorem dX1_line_59 : decode cX1_line 59 = .ok (.aload_n 0, 1) := dk_42 (dk_at dksX1_line_2 7 rfl rfl)
theorem dX1_line_60 : decode cX1_line 60 = .ok (.getfield 56, 3) := dk_180 0 56 (dk_at dksX1_line_2 8 rfl rfl)
theorem dX1_line_63 : decode cX1_line 63 = .ok (.iload_n 1, 1) := dk_27 (dk_at dksX1_line_2 11 rfl rfl)
theorem dX1_line_64 : decode cX1_line 64 = .ok (.iaload, 1) := dk_46 (dk_at dksX1_line_2 12 rfl rfl)
theorem dX1_line_65 : decode cX1_line 65 = .ok (.ireturn, 1) := dk_172 (dk_at dksX1_line_2 13 rfl rfl)
theorem dX1_line_66 : decode cX1_line 66 = .ok (.aload_n 0, 1) := dk_42 (dk_at dksX1_line_2 14 rfl rfl)
theorem dX1_line_67 : decode cX1_line 67 = .ok (.getfield 59, 3) := dk_180 0 59 (dk_at dksX1_line_2 15 rfl rfl)
theorem dX1_line_70 : decode cX1_line 70 = .ok (.iload_n 1, 1) := dk_27 (dk_at dksX1_line_2 18 rfl rfl)
theorem dX1_line_71 : decode cX1_line 71 = .ok (.iaload, 1) := dk_46 (dk_at dksX1_line_2 19 rfl rfl)
theorem dX1_line_72 : decode cX1_line 72 = .ok (.ireturn, 1) := dk_172 (dk_at dksX1_line_2 20 rfl rfl)
theorem dX1_line_73 : decode cX1_line 73 = .ok (.aload_n 0, 1) := dk_42 (dk_at dksX1_line_2 21 rfl rfl)
theorem dX1_line_74 : decode cX1_line 74 = .ok (.getfield 62, 3) := dk_180 0 62 (dk_at dksX1_line_3 0 rfl rfl)
theorem dX1_line_77 : decode cX1_line 77 = .ok (.iload_n 1, 1) := dk_27 (dk_at dksX1_line_3 3 rfl rfl)
theorem dX1_line_78 : decode cX1_line 78 = .ok (.iaload, 1) := dk_46 (dk_at dksX1_line_3 4 rfl rfl)
theorem dX1_line_79 : decode cX1_line 79 = .ok (.ireturn, 1) := dk_172 (dk_at dksX1_line_3 5 rfl rfl)
theorem dX1_line_80 : decode cX1_line 80 = .ok (.aload_n 0, 1) := dk_42 (dk_at dksX1_line_3 6 rfl rfl)
theorem dX1_line_81 : decode cX1_line 81 = .ok (.getfield 65, 3) := dk_180 0 65 (dk_at dksX1_line_3 7 rfl rfl)
theorem dX1_line_84 : decode cX1_line 84 = .ok (.iload_n 1, 1) := dk_27 (dk_at dksX1_line_3 10 rfl rfl)
theorem dX1_line_85 : decode cX1_line 85 = .ok (.iaload, 1) := dk_46 (dk_at dksX1_line_3 11 rfl rfl)
theorem dX1_line_86 : decode cX1_line 86 = .ok (.ireturn, 1) := dk_172 (dk_at dksX1_line_3 12 rfl rfl)
theorem dX1_line_87 : decode cX1_line 87 = .ok (.aload_n 0, 1) := dk_42 (dk_at dksX1_line_3 13 rfl rfl)
theorem dX1_line_88 : decode cX1_line 88 = .ok (.getfield 68, 3) := dk_180 0 68 (dk_at dksX1_line_3 14 rfl rfl)
theorem dX1_line_91 : decode cX1_line 91 = .ok (.iload_n 1, 1) := dk_27 (dk_at dksX1_line_3 17 rfl rfl)
theorem dX1_line_92 : decode cX1_line 92 = .ok (.iaload, 1) := dk_46 (dk_at dksX1_line_3 18 rfl rfl)
theorem dX1_line_93 : decode cX1_line 93 = .ok (.ireturn, 1) := dk_172 (dk_at dksX1_line_3 19 rfl rfl)
theorem dX1_line_94 : decode cX1_line 94 = .ok (.aload_n 0, 1) := dk_42 (dk_at dksX1_line_3 20 rfl rfl)
theorem dX1_line_95 : decode cX1_line 95 = .ok (.invokevirtual 201, 3) := dk_182 0 201 (dk_at dksX1_line_3 21 rfl rfl)
theorem dX1_line_98 : decode cX1_line 98 = .ok (.aload_n 0, 1) := dk_42 (dk_at dksX1_line_4 0 rfl rfl)
theorem dX1_line_99 : decode cX1_line 99 = .ok (.getfield 90, 3) := dk_180 0 90 (dk_at dksX1_line_4 1 rfl rfl)
theorem dX1_line_102 : decode cX1_line 102 = .ok (.iload_n 1, 1) := dk_27 (dk_at dksX1_line_4 4 rfl rfl)
theorem dX1_line_103 : decode cX1_line 103 = .ok (.iaload, 1) := dk_46 (dk_at dksX1_line_4 5 rfl rfl)
theorem dX1_line_104 : decode cX1_line 104 = .ok (.ireturn, 1) := dk_172 (dk_at dksX1_line_4 6 rfl rfl)
theorem dX1_line_105 : decode cX1_line 105 = .ok (.iconst (-1), 1) := dk_2 (dk_at dksX1_line_4 7 rfl rfl)
theorem dX1_line_106 : decode cX1_line 106 = .ok (.ireturn, 1) := dk_172 (dk_at dksX1_line_4 8 rfl rfl)
abbrev cX1_row : ByteArray := prog_17_method_80_code
def yX1_row : MethodName := ⟨RX1, "row", "(IZII)I"⟩
def dkwX1_row_6 : List UInt8 := [21, 6, 2, 160, 0, 8, 16, 254, 167, 0, 5, 21, 6, 172, 2, 172]
abbrev dktX1_row_6 : List UInt8 := dkwX1_row_6 ++ []
def dkwX1_row_5 : List UInt8 := [42, 180, 0, 80, 21, 5, 46, 167, 0, 10, 42, 180, 0, 71, 21, 5, 46, 27, 182, 0, 132, 54, 6]
abbrev dktX1_row_5 : List UInt8 := dkwX1_row_5 ++ dktX1_row_6
def dkwX1_row_4 : List UInt8 := [153, 0, 7, 3, 167, 0, 10, 42, 180, 0, 77, 21, 5, 46, 172, 42, 182, 0, 201, 42, 28, 153, 0, 13]
abbrev dktX1_row_4 : List UInt8 := dkwX1_row_4 ++ dktX1_row_5
def dkwX1_row_3 : List UInt8 := [153, 0, 13, 42, 180, 0, 83, 21, 5, 46, 167, 0, 10, 42, 180, 0, 74, 21, 5, 46, 172, 28]
abbrev dktX1_row_3 : List UInt8 := dkwX1_row_3 ++ dktX1_row_4
def dkwX1_row_2 : List UInt8 := [28, 153, 0, 13, 42, 180, 0, 80, 21, 5, 46, 167, 0, 10, 42, 180, 0, 71, 21, 5, 46, 172, 28]
abbrev dktX1_row_2 : List UInt8 := dkwX1_row_2 ++ dktX1_row_3
def dkwX1_row_1 : List UInt8 := [170, 0, 0, 0, 0, 136, 0, 0, 0, 0, 0, 0, 0, 3, 0, 0, 0, 30, 0, 0, 0, 52, 0, 0, 0, 74, 0, 0, 0, 90]
abbrev dktX1_row_1 : List UInt8 := dkwX1_row_1 ++ dktX1_row_2
def dkwX1_row_0 : List UInt8 := [42, 27, 28, 29, 182, 1, 80, 154, 0, 5, 2, 172, 16, 9, 27, 104, 29, 96, 54, 5, 21, 4]
abbrev dktX1_row_0 : List UInt8 := dkwX1_row_0 ++ dktX1_row_1
theorem dksX1_row_0 : cX1_row.data.toList.drop 0 = dktX1_row_0 := by decide +kernel
theorem dksX1_row_1 : cX1_row.data.toList.drop 22 = dktX1_row_1 := dk_seg dksX1_row_0 22 rfl rfl
theorem dksX1_row_2 : cX1_row.data.toList.drop 52 = dktX1_row_2 := dk_seg dksX1_row_1 30 rfl rfl
theorem dksX1_row_3 : cX1_row.data.toList.drop 75 = dktX1_row_3 := dk_seg dksX1_row_2 23 rfl rfl
theorem dksX1_row_4 : cX1_row.data.toList.drop 97 = dktX1_row_4 := dk_seg dksX1_row_3 22 rfl rfl
theorem dksX1_row_5 : cX1_row.data.toList.drop 121 = dktX1_row_5 := dk_seg dksX1_row_4 24 rfl rfl
theorem dksX1_row_6 : cX1_row.data.toList.drop 144 = dktX1_row_6 := dk_seg dksX1_row_5 23 rfl rfl
theorem dX1_row_0 : decode cX1_row 0 = .ok (.aload_n 0, 1) := dk_42 (dk_at dksX1_row_0 0 rfl rfl)
theorem dX1_row_1 : decode cX1_row 1 = .ok (.iload_n 1, 1) := dk_27 (dk_at dksX1_row_0 1 rfl rfl)
theorem dX1_row_2 : decode cX1_row 2 = .ok (.iload_n 2, 1) := dk_28 (dk_at dksX1_row_0 2 rfl rfl)
theorem dX1_row_3 : decode cX1_row 3 = .ok (.iload_n 3, 1) := dk_29 (dk_at dksX1_row_0 3 rfl rfl)
theorem dX1_row_4 : decode cX1_row 4 = .ok (.invokevirtual 336, 3) := dk_182 1 80 (dk_at dksX1_row_0 4 rfl rfl)
theorem dX1_row_7 : decode cX1_row 7 = .ok (.ifCond .ne 5, 3) := dk_154 0 5 (dk_at dksX1_row_0 7 rfl rfl)
theorem dX1_row_10 : decode cX1_row 10 = .ok (.iconst (-1), 1) := dk_2 (dk_at dksX1_row_0 10 rfl rfl)
theorem dX1_row_11 : decode cX1_row 11 = .ok (.ireturn, 1) := dk_172 (dk_at dksX1_row_0 11 rfl rfl)
theorem dX1_row_12 : decode cX1_row 12 = .ok (.bipush 9, 2) := dk_16 9 (dk_at dksX1_row_0 12 rfl rfl)
theorem dX1_row_14 : decode cX1_row 14 = .ok (.iload_n 1, 1) := dk_27 (dk_at dksX1_row_0 14 rfl rfl)
theorem dX1_row_15 : decode cX1_row 15 = .ok (.imul, 1) := dk_104 (dk_at dksX1_row_0 15 rfl rfl)
theorem dX1_row_16 : decode cX1_row 16 = .ok (.iload_n 3, 1) := dk_29 (dk_at dksX1_row_0 16 rfl rfl)
theorem dX1_row_17 : decode cX1_row 17 = .ok (.iadd, 1) := dk_96 (dk_at dksX1_row_0 17 rfl rfl)
theorem dX1_row_18 : decode cX1_row 18 = .ok (.istore 5, 2) := dk_54 5 (dk_at dksX1_row_0 18 rfl rfl)
theorem dX1_row_20 : decode cX1_row 20 = .ok (.iload 4, 2) := dk_21 4 (dk_at dksX1_row_0 20 rfl rfl)
theorem dX1_row_22 : decode cX1_row 22 = .ok (.tableswitch 136 0 3 #[30, 52, 74, 90], 30) := by decide +kernel
theorem dX1_row_52 : decode cX1_row 52 = .ok (.iload_n 2, 1) := dk_28 (dk_at dksX1_row_2 0 rfl rfl)
theorem dX1_row_53 : decode cX1_row 53 = .ok (.ifCond .eq 13, 3) := dk_153 0 13 (dk_at dksX1_row_2 1 rfl rfl)
theorem dX1_row_56 : decode cX1_row 56 = .ok (.aload_n 0, 1) := dk_42 (dk_at dksX1_row_2 4 rfl rfl)
theorem dX1_row_57 : decode cX1_row 57 = .ok (.getfield 80, 3) := dk_180 0 80 (dk_at dksX1_row_2 5 rfl rfl)
theorem dX1_row_60 : decode cX1_row 60 = .ok (.iload 5, 2) := dk_21 5 (dk_at dksX1_row_2 8 rfl rfl)
theorem dX1_row_62 : decode cX1_row 62 = .ok (.iaload, 1) := dk_46 (dk_at dksX1_row_2 10 rfl rfl)
theorem dX1_row_63 : decode cX1_row 63 = .ok (.goto 10, 3) := dk_167 0 10 (dk_at dksX1_row_2 11 rfl rfl)
theorem dX1_row_66 : decode cX1_row 66 = .ok (.aload_n 0, 1) := dk_42 (dk_at dksX1_row_2 14 rfl rfl)
theorem dX1_row_67 : decode cX1_row 67 = .ok (.getfield 71, 3) := dk_180 0 71 (dk_at dksX1_row_2 15 rfl rfl)
theorem dX1_row_70 : decode cX1_row 70 = .ok (.iload 5, 2) := dk_21 5 (dk_at dksX1_row_2 18 rfl rfl)
theorem dX1_row_72 : decode cX1_row 72 = .ok (.iaload, 1) := dk_46 (dk_at dksX1_row_2 20 rfl rfl)
theorem dX1_row_73 : decode cX1_row 73 = .ok (.ireturn, 1) := dk_172 (dk_at dksX1_row_2 21 rfl rfl)
theorem dX1_row_74 : decode cX1_row 74 = .ok (.iload_n 2, 1) := dk_28 (dk_at dksX1_row_2 22 rfl rfl)
theorem dX1_row_75 : decode cX1_row 75 = .ok (.ifCond .eq 13, 3) := dk_153 0 13 (dk_at dksX1_row_3 0 rfl rfl)
theorem dX1_row_78 : decode cX1_row 78 = .ok (.aload_n 0, 1) := dk_42 (dk_at dksX1_row_3 3 rfl rfl)
theorem dX1_row_79 : decode cX1_row 79 = .ok (.getfield 83, 3) := dk_180 0 83 (dk_at dksX1_row_3 4 rfl rfl)
theorem dX1_row_82 : decode cX1_row 82 = .ok (.iload 5, 2) := dk_21 5 (dk_at dksX1_row_3 7 rfl rfl)
theorem dX1_row_84 : decode cX1_row 84 = .ok (.iaload, 1) := dk_46 (dk_at dksX1_row_3 9 rfl rfl)
theorem dX1_row_85 : decode cX1_row 85 = .ok (.goto 10, 3) := dk_167 0 10 (dk_at dksX1_row_3 10 rfl rfl)
theorem dX1_row_88 : decode cX1_row 88 = .ok (.aload_n 0, 1) := dk_42 (dk_at dksX1_row_3 13 rfl rfl)
theorem dX1_row_89 : decode cX1_row 89 = .ok (.getfield 74, 3) := dk_180 0 74 (dk_at dksX1_row_3 14 rfl rfl)
theorem dX1_row_92 : decode cX1_row 92 = .ok (.iload 5, 2) := dk_21 5 (dk_at dksX1_row_3 17 rfl rfl)
theorem dX1_row_94 : decode cX1_row 94 = .ok (.iaload, 1) := dk_46 (dk_at dksX1_row_3 19 rfl rfl)
theorem dX1_row_95 : decode cX1_row 95 = .ok (.ireturn, 1) := dk_172 (dk_at dksX1_row_3 20 rfl rfl)
theorem dX1_row_96 : decode cX1_row 96 = .ok (.iload_n 2, 1) := dk_28 (dk_at dksX1_row_3 21 rfl rfl)
theorem dX1_row_97 : decode cX1_row 97 = .ok (.ifCond .eq 7, 3) := dk_153 0 7 (dk_at dksX1_row_4 0 rfl rfl)
theorem dX1_row_100 : decode cX1_row 100 = .ok (.iconst 0, 1) := dk_3 (dk_at dksX1_row_4 3 rfl rfl)
theorem dX1_row_101 : decode cX1_row 101 = .ok (.goto 10, 3) := dk_167 0 10 (dk_at dksX1_row_4 4 rfl rfl)
theorem dX1_row_104 : decode cX1_row 104 = .ok (.aload_n 0, 1) := dk_42 (dk_at dksX1_row_4 7 rfl rfl)
theorem dX1_row_105 : decode cX1_row 105 = .ok (.getfield 77, 3) := dk_180 0 77 (dk_at dksX1_row_4 8 rfl rfl)
theorem dX1_row_108 : decode cX1_row 108 = .ok (.iload 5, 2) := dk_21 5 (dk_at dksX1_row_4 11 rfl rfl)
theorem dX1_row_110 : decode cX1_row 110 = .ok (.iaload, 1) := dk_46 (dk_at dksX1_row_4 13 rfl rfl)
theorem dX1_row_111 : decode cX1_row 111 = .ok (.ireturn, 1) := dk_172 (dk_at dksX1_row_4 14 rfl rfl)
theorem dX1_row_112 : decode cX1_row 112 = .ok (.aload_n 0, 1) := dk_42 (dk_at dksX1_row_4 15 rfl rfl)
theorem dX1_row_113 : decode cX1_row 113 = .ok (.invokevirtual 201, 3) := dk_182 0 201 (dk_at dksX1_row_4 16 rfl rfl)
theorem dX1_row_116 : decode cX1_row 116 = .ok (.aload_n 0, 1) := dk_42 (dk_at dksX1_row_4 19 rfl rfl)
theorem dX1_row_117 : decode cX1_row 117 = .ok (.iload_n 2, 1) := dk_28 (dk_at dksX1_row_4 20 rfl rfl)
theorem dX1_row_118 : decode cX1_row 118 = .ok (.ifCond .eq 13, 3) := dk_153 0 13 (dk_at dksX1_row_4 21 rfl rfl)
theorem dX1_row_121 : decode cX1_row 121 = .ok (.aload_n 0, 1) := dk_42 (dk_at dksX1_row_5 0 rfl rfl)
theorem dX1_row_122 : decode cX1_row 122 = .ok (.getfield 80, 3) := dk_180 0 80 (dk_at dksX1_row_5 1 rfl rfl)
theorem dX1_row_125 : decode cX1_row 125 = .ok (.iload 5, 2) := dk_21 5 (dk_at dksX1_row_5 4 rfl rfl)
theorem dX1_row_127 : decode cX1_row 127 = .ok (.iaload, 1) := dk_46 (dk_at dksX1_row_5 6 rfl rfl)
theorem dX1_row_128 : decode cX1_row 128 = .ok (.goto 10, 3) := dk_167 0 10 (dk_at dksX1_row_5 7 rfl rfl)
theorem dX1_row_131 : decode cX1_row 131 = .ok (.aload_n 0, 1) := dk_42 (dk_at dksX1_row_5 10 rfl rfl)
theorem dX1_row_132 : decode cX1_row 132 = .ok (.getfield 71, 3) := dk_180 0 71 (dk_at dksX1_row_5 11 rfl rfl)
theorem dX1_row_135 : decode cX1_row 135 = .ok (.iload 5, 2) := dk_21 5 (dk_at dksX1_row_5 14 rfl rfl)
theorem dX1_row_137 : decode cX1_row 137 = .ok (.iaload, 1) := dk_46 (dk_at dksX1_row_5 16 rfl rfl)
theorem dX1_row_138 : decode cX1_row 138 = .ok (.iload_n 1, 1) := dk_27 (dk_at dksX1_row_5 17 rfl rfl)
theorem dX1_row_139 : decode cX1_row 139 = .ok (.invokevirtual 132, 3) := dk_182 0 132 (dk_at dksX1_row_5 18 rfl rfl)
theorem dX1_row_142 : decode cX1_row 142 = .ok (.istore 6, 2) := dk_54 6 (dk_at dksX1_row_5 21 rfl rfl)
theorem dX1_row_144 : decode cX1_row 144 = .ok (.iload 6, 2) := dk_21 6 (dk_at dksX1_row_6 0 rfl rfl)
theorem dX1_row_146 : decode cX1_row 146 = .ok (.iconst (-1), 1) := dk_2 (dk_at dksX1_row_6 2 rfl rfl)
theorem dX1_row_147 : decode cX1_row 147 = .ok (.if_icmp .ne 8, 3) := dk_160 0 8 (dk_at dksX1_row_6 3 rfl rfl)
theorem dX1_row_150 : decode cX1_row 150 = .ok (.bipush (-2), 2) := dk_16 254 (dk_at dksX1_row_6 6 rfl rfl)
theorem dX1_row_152 : decode cX1_row 152 = .ok (.goto 5, 3) := dk_167 0 5 (dk_at dksX1_row_6 8 rfl rfl)
theorem dX1_row_155 : decode cX1_row 155 = .ok (.iload 6, 2) := dk_21 6 (dk_at dksX1_row_6 11 rfl rfl)
theorem dX1_row_157 : decode cX1_row 157 = .ok (.ireturn, 1) := dk_172 (dk_at dksX1_row_6 13 rfl rfl)
theorem dX1_row_158 : decode cX1_row 158 = .ok (.iconst (-1), 1) := dk_2 (dk_at dksX1_row_6 14 rfl rfl)
theorem dX1_row_159 : decode cX1_row 159 = .ok (.ireturn, 1) := dk_172 (dk_at dksX1_row_6 15 rfl rfl)
abbrev cX1_right : ByteArray := prog_17_method_81_code
def yX1_right : MethodName := ⟨RX1, "right", "()J"⟩
def dkwX1_right_1 : List UInt8 := [153, 0, 9, 31, 10, 29, 121, 129, 64, 132, 3, 1, 167, 255, 230, 31, 173]
abbrev dktX1_right_1 : List UInt8 := dkwX1_right_1 ++ []
def dkwX1_right_0 : List UInt8 := [42, 182, 0, 201, 9, 64, 3, 62, 29, 42, 180, 0, 112, 162, 0, 24, 42, 180, 0, 86, 29, 51]
abbrev dktX1_right_0 : List UInt8 := dkwX1_right_0 ++ dktX1_right_1
theorem dksX1_right_0 : cX1_right.data.toList.drop 0 = dktX1_right_0 := by decide +kernel
theorem dksX1_right_1 : cX1_right.data.toList.drop 22 = dktX1_right_1 := dk_seg dksX1_right_0 22 rfl rfl
theorem dX1_right_0 : decode cX1_right 0 = .ok (.aload_n 0, 1) := dk_42 (dk_at dksX1_right_0 0 rfl rfl)
theorem dX1_right_1 : decode cX1_right 1 = .ok (.invokevirtual 201, 3) := dk_182 0 201 (dk_at dksX1_right_0 1 rfl rfl)
theorem dX1_right_4 : decode cX1_right 4 = .ok (.lconst 0, 1) := dk_9 (dk_at dksX1_right_0 4 rfl rfl)
theorem dX1_right_5 : decode cX1_right 5 = .ok (.lstore_n 1, 1) := dk_64 (dk_at dksX1_right_0 5 rfl rfl)
theorem dX1_right_6 : decode cX1_right 6 = .ok (.iconst 0, 1) := dk_3 (dk_at dksX1_right_0 6 rfl rfl)
theorem dX1_right_7 : decode cX1_right 7 = .ok (.istore_n 3, 1) := dk_62 (dk_at dksX1_right_0 7 rfl rfl)
theorem dX1_right_8 : decode cX1_right 8 = .ok (.iload_n 3, 1) := dk_29 (dk_at dksX1_right_0 8 rfl rfl)
theorem dX1_right_9 : decode cX1_right 9 = .ok (.aload_n 0, 1) := dk_42 (dk_at dksX1_right_0 9 rfl rfl)
theorem dX1_right_10 : decode cX1_right 10 = .ok (.getfield 112, 3) := dk_180 0 112 (dk_at dksX1_right_0 10 rfl rfl)
theorem dX1_right_13 : decode cX1_right 13 = .ok (.if_icmp .ge 24, 3) := dk_162 0 24 (dk_at dksX1_right_0 13 rfl rfl)
theorem dX1_right_16 : decode cX1_right 16 = .ok (.aload_n 0, 1) := dk_42 (dk_at dksX1_right_0 16 rfl rfl)
theorem dX1_right_17 : decode cX1_right 17 = .ok (.getfield 86, 3) := dk_180 0 86 (dk_at dksX1_right_0 17 rfl rfl)
theorem dX1_right_20 : decode cX1_right 20 = .ok (.iload_n 3, 1) := dk_29 (dk_at dksX1_right_0 20 rfl rfl)
theorem dX1_right_21 : decode cX1_right 21 = .ok (.baload, 1) := dk_51 (dk_at dksX1_right_0 21 rfl rfl)
theorem dX1_right_22 : decode cX1_right 22 = .ok (.ifCond .eq 9, 3) := dk_153 0 9 (dk_at dksX1_right_1 0 rfl rfl)
theorem dX1_right_25 : decode cX1_right 25 = .ok (.lload_n 1, 1) := dk_31 (dk_at dksX1_right_1 3 rfl rfl)
theorem dX1_right_26 : decode cX1_right 26 = .ok (.lconst 1, 1) := dk_10 (dk_at dksX1_right_1 4 rfl rfl)
theorem dX1_right_27 : decode cX1_right 27 = .ok (.iload_n 3, 1) := dk_29 (dk_at dksX1_right_1 5 rfl rfl)
theorem dX1_right_28 : decode cX1_right 28 = .ok (.lshl, 1) := dk_121 (dk_at dksX1_right_1 6 rfl rfl)
theorem dX1_right_29 : decode cX1_right 29 = .ok (.lor, 1) := dk_129 (dk_at dksX1_right_1 7 rfl rfl)
theorem dX1_right_30 : decode cX1_right 30 = .ok (.lstore_n 1, 1) := dk_64 (dk_at dksX1_right_1 8 rfl rfl)
theorem dX1_right_31 : decode cX1_right 31 = .ok (.iinc 3 1, 3) := dk_132 3 1 (dk_at dksX1_right_1 9 rfl rfl)
theorem dX1_right_34 : decode cX1_right 34 = .ok (.goto (-26), 3) := dk_167 255 230 (dk_at dksX1_right_1 12 rfl rfl)
theorem dX1_right_37 : decode cX1_right 37 = .ok (.lload_n 1, 1) := dk_31 (dk_at dksX1_right_1 15 rfl rfl)
theorem dX1_right_38 : decode cX1_right 38 = .ok (.lreturn, 1) := dk_173 (dk_at dksX1_right_1 16 rfl rfl)
abbrev cX1_rests : ByteArray := prog_17_method_82_code
def yX1_rests : MethodName := ⟨RX1, "rests", "(I)J"⟩
def dkwX1_rests_1 : List UInt8 := [182, 1, 90, 167, 0, 6, 20, 1, 105, 173]
abbrev dktX1_rests_1 : List UInt8 := dkwX1_rests_1 ++ []
def dkwX1_rests_0 : List UInt8 := [42, 27, 182, 0, 240, 154, 0, 7, 20, 1, 103, 173, 42, 27, 182, 1, 87, 153, 0, 11, 42, 27]
abbrev dktX1_rests_0 : List UInt8 := dkwX1_rests_0 ++ dktX1_rests_1
theorem dksX1_rests_0 : cX1_rests.data.toList.drop 0 = dktX1_rests_0 := by decide +kernel
theorem dksX1_rests_1 : cX1_rests.data.toList.drop 22 = dktX1_rests_1 := dk_seg dksX1_rests_0 22 rfl rfl
theorem dX1_rests_0 : decode cX1_rests 0 = .ok (.aload_n 0, 1) := dk_42 (dk_at dksX1_rests_0 0 rfl rfl)
theorem dX1_rests_1 : decode cX1_rests 1 = .ok (.iload_n 1, 1) := dk_27 (dk_at dksX1_rests_0 1 rfl rfl)
theorem dX1_rests_2 : decode cX1_rests 2 = .ok (.invokevirtual 240, 3) := dk_182 0 240 (dk_at dksX1_rests_0 2 rfl rfl)
theorem dX1_rests_5 : decode cX1_rests 5 = .ok (.ifCond .ne 7, 3) := dk_154 0 7 (dk_at dksX1_rests_0 5 rfl rfl)
theorem dX1_rests_8 : decode cX1_rests 8 = .ok (.ldc2_w 359, 3) := dk_20 1 103 (dk_at dksX1_rests_0 8 rfl rfl)
theorem dX1_rests_11 : decode cX1_rests 11 = .ok (.lreturn, 1) := dk_173 (dk_at dksX1_rests_0 11 rfl rfl)
theorem dX1_rests_12 : decode cX1_rests 12 = .ok (.aload_n 0, 1) := dk_42 (dk_at dksX1_rests_0 12 rfl rfl)
theorem dX1_rests_13 : decode cX1_rests 13 = .ok (.iload_n 1, 1) := dk_27 (dk_at dksX1_rests_0 13 rfl rfl)
theorem dX1_rests_14 : decode cX1_rests 14 = .ok (.invokevirtual 343, 3) := dk_182 1 87 (dk_at dksX1_rests_0 14 rfl rfl)
theorem dX1_rests_17 : decode cX1_rests 17 = .ok (.ifCond .eq 11, 3) := dk_153 0 11 (dk_at dksX1_rests_0 17 rfl rfl)
theorem dX1_rests_20 : decode cX1_rests 20 = .ok (.aload_n 0, 1) := dk_42 (dk_at dksX1_rests_0 20 rfl rfl)
theorem dX1_rests_21 : decode cX1_rests 21 = .ok (.iload_n 1, 1) := dk_27 (dk_at dksX1_rests_0 21 rfl rfl)
theorem dX1_rests_22 : decode cX1_rests 22 = .ok (.invokevirtual 346, 3) := dk_182 1 90 (dk_at dksX1_rests_1 0 rfl rfl)
theorem dX1_rests_25 : decode cX1_rests 25 = .ok (.goto 6, 3) := dk_167 0 6 (dk_at dksX1_rests_1 3 rfl rfl)
theorem dX1_rests_28 : decode cX1_rests 28 = .ok (.ldc2_w 361, 3) := dk_20 1 105 (dk_at dksX1_rests_1 6 rfl rfl)
theorem dX1_rests_31 : decode cX1_rests 31 = .ok (.lreturn, 1) := dk_173 (dk_at dksX1_rests_1 9 rfl rfl)
abbrev cX1_deep : ByteArray := prog_17_method_83_code
def yX1_deep : MethodName := ⟨RX1, "deep", "(I)I"⟩
def dkwX1_deep_1 : List UInt8 := [167, 0, 5, 16, 254, 172]
abbrev dktX1_deep_1 : List UInt8 := dkwX1_deep_1 ++ []
def dkwX1_deep_0 : List UInt8 := [42, 27, 182, 0, 240, 154, 0, 5, 2, 172, 42, 27, 182, 1, 87, 153, 0, 11, 42, 27, 182, 1, 107]
abbrev dktX1_deep_0 : List UInt8 := dkwX1_deep_0 ++ dktX1_deep_1
theorem dksX1_deep_0 : cX1_deep.data.toList.drop 0 = dktX1_deep_0 := by decide +kernel
theorem dksX1_deep_1 : cX1_deep.data.toList.drop 23 = dktX1_deep_1 := dk_seg dksX1_deep_0 23 rfl rfl
theorem dX1_deep_0 : decode cX1_deep 0 = .ok (.aload_n 0, 1) := dk_42 (dk_at dksX1_deep_0 0 rfl rfl)
theorem dX1_deep_1 : decode cX1_deep 1 = .ok (.iload_n 1, 1) := dk_27 (dk_at dksX1_deep_0 1 rfl rfl)
theorem dX1_deep_2 : decode cX1_deep 2 = .ok (.invokevirtual 240, 3) := dk_182 0 240 (dk_at dksX1_deep_0 2 rfl rfl)
theorem dX1_deep_5 : decode cX1_deep 5 = .ok (.ifCond .ne 5, 3) := dk_154 0 5 (dk_at dksX1_deep_0 5 rfl rfl)
theorem dX1_deep_8 : decode cX1_deep 8 = .ok (.iconst (-1), 1) := dk_2 (dk_at dksX1_deep_0 8 rfl rfl)
theorem dX1_deep_9 : decode cX1_deep 9 = .ok (.ireturn, 1) := dk_172 (dk_at dksX1_deep_0 9 rfl rfl)
theorem dX1_deep_10 : decode cX1_deep 10 = .ok (.aload_n 0, 1) := dk_42 (dk_at dksX1_deep_0 10 rfl rfl)
theorem dX1_deep_11 : decode cX1_deep 11 = .ok (.iload_n 1, 1) := dk_27 (dk_at dksX1_deep_0 11 rfl rfl)
theorem dX1_deep_12 : decode cX1_deep 12 = .ok (.invokevirtual 343, 3) := dk_182 1 87 (dk_at dksX1_deep_0 12 rfl rfl)
theorem dX1_deep_15 : decode cX1_deep 15 = .ok (.ifCond .eq 11, 3) := dk_153 0 11 (dk_at dksX1_deep_0 15 rfl rfl)
theorem dX1_deep_18 : decode cX1_deep 18 = .ok (.aload_n 0, 1) := dk_42 (dk_at dksX1_deep_0 18 rfl rfl)
theorem dX1_deep_19 : decode cX1_deep 19 = .ok (.iload_n 1, 1) := dk_27 (dk_at dksX1_deep_0 19 rfl rfl)
theorem dX1_deep_20 : decode cX1_deep 20 = .ok (.invokevirtual 363, 3) := dk_182 1 107 (dk_at dksX1_deep_0 20 rfl rfl)
theorem dX1_deep_23 : decode cX1_deep 23 = .ok (.goto 5, 3) := dk_167 0 5 (dk_at dksX1_deep_1 0 rfl rfl)
theorem dX1_deep_26 : decode cX1_deep 26 = .ok (.bipush (-2), 2) := dk_16 254 (dk_at dksX1_deep_1 3 rfl rfl)
theorem dX1_deep_28 : decode cX1_deep 28 = .ok (.ireturn, 1) := dk_172 (dk_at dksX1_deep_1 5 rfl rfl)
abbrev cX1_deepOf : ByteArray := prog_17_method_76_code
def yX1_deepOf : MethodName := ⟨RX1, "deepOf", "(I)I"⟩
def dkwX1_deepOf_4 : List UInt8 := [96, 79, 132, 7, 1, 167, 255, 201, 132, 4, 1, 167, 255, 158, 42, 180, 0, 109, 27, 46, 172]
abbrev dktX1_deepOf_4 : List UInt8 := dkwX1_deepOf_4 ++ []
def dkwX1_deepOf_3 : List UInt8 := [42, 180, 0, 109, 21, 4, 46, 164, 0, 19, 42, 180, 0, 109, 21, 4, 42, 180, 0, 109, 21, 7, 46, 4]
abbrev dktX1_deepOf_3 : List UInt8 := dkwX1_deepOf_3 ++ dktX1_deepOf_4
def dkwX1_deepOf_2 : List UInt8 := [21, 4, 162, 0, 54, 22, 5, 21, 7, 184, 1, 93, 153, 0, 38, 42, 180, 0, 109, 21, 7, 46, 4, 96]
abbrev dktX1_deepOf_2 : List UInt8 := dkwX1_deepOf_2 ++ dktX1_deepOf_3
def dkwX1_deepOf_1 : List UInt8 := [167, 0, 80, 42, 21, 4, 182, 1, 97, 55, 5, 42, 180, 0, 109, 21, 4, 3, 79, 3, 54, 7, 21, 7]
abbrev dktX1_deepOf_1 : List UInt8 := dkwX1_deepOf_1 ++ dktX1_deepOf_2
def dkwX1_deepOf_0 : List UInt8 := [42, 27, 182, 1, 90, 65, 3, 54, 4, 21, 4, 27, 163, 0, 98, 32, 21, 4, 184, 1, 93, 154, 0, 6]
abbrev dktX1_deepOf_0 : List UInt8 := dkwX1_deepOf_0 ++ dktX1_deepOf_1
theorem dksX1_deepOf_0 : cX1_deepOf.data.toList.drop 0 = dktX1_deepOf_0 := by decide +kernel
theorem dksX1_deepOf_1 : cX1_deepOf.data.toList.drop 24 = dktX1_deepOf_1 := dk_seg dksX1_deepOf_0 24 rfl rfl
theorem dksX1_deepOf_2 : cX1_deepOf.data.toList.drop 48 = dktX1_deepOf_2 := dk_seg dksX1_deepOf_1 24 rfl rfl
theorem dksX1_deepOf_3 : cX1_deepOf.data.toList.drop 72 = dktX1_deepOf_3 := dk_seg dksX1_deepOf_2 24 rfl rfl
theorem dksX1_deepOf_4 : cX1_deepOf.data.toList.drop 96 = dktX1_deepOf_4 := dk_seg dksX1_deepOf_3 24 rfl rfl
theorem dX1_deepOf_0 : decode cX1_deepOf 0 = .ok (.aload_n 0, 1) := dk_42 (dk_at dksX1_deepOf_0 0 rfl rfl)
theorem dX1_deepOf_1 : decode cX1_deepOf 1 = .ok (.iload_n 1, 1) := dk_27 (dk_at dksX1_deepOf_0 1 rfl rfl)
theorem dX1_deepOf_2 : decode cX1_deepOf 2 = .ok (.invokevirtual 346, 3) := dk_182 1 90 (dk_at dksX1_deepOf_0 2 rfl rfl)
theorem dX1_deepOf_5 : decode cX1_deepOf 5 = .ok (.lstore_n 2, 1) := dk_65 (dk_at dksX1_deepOf_0 5 rfl rfl)
theorem dX1_deepOf_6 : decode cX1_deepOf 6 = .ok (.iconst 0, 1) := dk_3 (dk_at dksX1_deepOf_0 6 rfl rfl)
theorem dX1_deepOf_7 : decode cX1_deepOf 7 = .ok (.istore 4, 2) := dk_54 4 (dk_at dksX1_deepOf_0 7 rfl rfl)
theorem dX1_deepOf_9 : decode cX1_deepOf 9 = .ok (.iload 4, 2) := dk_21 4 (dk_at dksX1_deepOf_0 9 rfl rfl)
theorem dX1_deepOf_11 : decode cX1_deepOf 11 = .ok (.iload_n 1, 1) := dk_27 (dk_at dksX1_deepOf_0 11 rfl rfl)
theorem dX1_deepOf_12 : decode cX1_deepOf 12 = .ok (.if_icmp .gt 98, 3) := dk_163 0 98 (dk_at dksX1_deepOf_0 12 rfl rfl)
theorem dX1_deepOf_15 : decode cX1_deepOf 15 = .ok (.lload_n 2, 1) := dk_32 (dk_at dksX1_deepOf_0 15 rfl rfl)
theorem dX1_deepOf_16 : decode cX1_deepOf 16 = .ok (.iload 4, 2) := dk_21 4 (dk_at dksX1_deepOf_0 16 rfl rfl)
theorem dX1_deepOf_18 : decode cX1_deepOf 18 = .ok (.invokestatic 349, 3) := dk_184 1 93 (dk_at dksX1_deepOf_0 18 rfl rfl)
theorem dX1_deepOf_21 : decode cX1_deepOf 21 = .ok (.ifCond .ne 6, 3) := dk_154 0 6 (dk_at dksX1_deepOf_0 21 rfl rfl)
theorem dX1_deepOf_24 : decode cX1_deepOf 24 = .ok (.goto 80, 3) := dk_167 0 80 (dk_at dksX1_deepOf_1 0 rfl rfl)
theorem dX1_deepOf_27 : decode cX1_deepOf 27 = .ok (.aload_n 0, 1) := dk_42 (dk_at dksX1_deepOf_1 3 rfl rfl)
theorem dX1_deepOf_28 : decode cX1_deepOf 28 = .ok (.iload 4, 2) := dk_21 4 (dk_at dksX1_deepOf_1 4 rfl rfl)
theorem dX1_deepOf_30 : decode cX1_deepOf 30 = .ok (.invokevirtual 353, 3) := dk_182 1 97 (dk_at dksX1_deepOf_1 6 rfl rfl)
theorem dX1_deepOf_33 : decode cX1_deepOf 33 = .ok (.lstore 5, 2) := dk_55 5 (dk_at dksX1_deepOf_1 9 rfl rfl)
theorem dX1_deepOf_35 : decode cX1_deepOf 35 = .ok (.aload_n 0, 1) := dk_42 (dk_at dksX1_deepOf_1 11 rfl rfl)
theorem dX1_deepOf_36 : decode cX1_deepOf 36 = .ok (.getfield 109, 3) := dk_180 0 109 (dk_at dksX1_deepOf_1 12 rfl rfl)
theorem dX1_deepOf_39 : decode cX1_deepOf 39 = .ok (.iload 4, 2) := dk_21 4 (dk_at dksX1_deepOf_1 15 rfl rfl)
theorem dX1_deepOf_41 : decode cX1_deepOf 41 = .ok (.iconst 0, 1) := dk_3 (dk_at dksX1_deepOf_1 17 rfl rfl)
theorem dX1_deepOf_42 : decode cX1_deepOf 42 = .ok (.iastore, 1) := dk_79 (dk_at dksX1_deepOf_1 18 rfl rfl)
theorem dX1_deepOf_43 : decode cX1_deepOf 43 = .ok (.iconst 0, 1) := dk_3 (dk_at dksX1_deepOf_1 19 rfl rfl)
theorem dX1_deepOf_44 : decode cX1_deepOf 44 = .ok (.istore 7, 2) := dk_54 7 (dk_at dksX1_deepOf_1 20 rfl rfl)
theorem dX1_deepOf_46 : decode cX1_deepOf 46 = .ok (.iload 7, 2) := dk_21 7 (dk_at dksX1_deepOf_1 22 rfl rfl)
theorem dX1_deepOf_48 : decode cX1_deepOf 48 = .ok (.iload 4, 2) := dk_21 4 (dk_at dksX1_deepOf_2 0 rfl rfl)
theorem dX1_deepOf_50 : decode cX1_deepOf 50 = .ok (.if_icmp .ge 54, 3) := dk_162 0 54 (dk_at dksX1_deepOf_2 2 rfl rfl)
theorem dX1_deepOf_53 : decode cX1_deepOf 53 = .ok (.lload 5, 2) := dk_22 5 (dk_at dksX1_deepOf_2 5 rfl rfl)
theorem dX1_deepOf_55 : decode cX1_deepOf 55 = .ok (.iload 7, 2) := dk_21 7 (dk_at dksX1_deepOf_2 7 rfl rfl)
theorem dX1_deepOf_57 : decode cX1_deepOf 57 = .ok (.invokestatic 349, 3) := dk_184 1 93 (dk_at dksX1_deepOf_2 9 rfl rfl)
theorem dX1_deepOf_60 : decode cX1_deepOf 60 = .ok (.ifCond .eq 38, 3) := dk_153 0 38 (dk_at dksX1_deepOf_2 12 rfl rfl)
theorem dX1_deepOf_63 : decode cX1_deepOf 63 = .ok (.aload_n 0, 1) := dk_42 (dk_at dksX1_deepOf_2 15 rfl rfl)
theorem dX1_deepOf_64 : decode cX1_deepOf 64 = .ok (.getfield 109, 3) := dk_180 0 109 (dk_at dksX1_deepOf_2 16 rfl rfl)
theorem dX1_deepOf_67 : decode cX1_deepOf 67 = .ok (.iload 7, 2) := dk_21 7 (dk_at dksX1_deepOf_2 19 rfl rfl)
theorem dX1_deepOf_69 : decode cX1_deepOf 69 = .ok (.iaload, 1) := dk_46 (dk_at dksX1_deepOf_2 21 rfl rfl)
theorem dX1_deepOf_70 : decode cX1_deepOf 70 = .ok (.iconst 1, 1) := dk_4 (dk_at dksX1_deepOf_2 22 rfl rfl)
theorem dX1_deepOf_71 : decode cX1_deepOf 71 = .ok (.iadd, 1) := dk_96 (dk_at dksX1_deepOf_2 23 rfl rfl)
theorem dX1_deepOf_72 : decode cX1_deepOf 72 = .ok (.aload_n 0, 1) := dk_42 (dk_at dksX1_deepOf_3 0 rfl rfl)
theorem dX1_deepOf_73 : decode cX1_deepOf 73 = .ok (.getfield 109, 3) := dk_180 0 109 (dk_at dksX1_deepOf_3 1 rfl rfl)
theorem dX1_deepOf_76 : decode cX1_deepOf 76 = .ok (.iload 4, 2) := dk_21 4 (dk_at dksX1_deepOf_3 4 rfl rfl)
theorem dX1_deepOf_78 : decode cX1_deepOf 78 = .ok (.iaload, 1) := dk_46 (dk_at dksX1_deepOf_3 6 rfl rfl)
theorem dX1_deepOf_79 : decode cX1_deepOf 79 = .ok (.if_icmp .le 19, 3) := dk_164 0 19 (dk_at dksX1_deepOf_3 7 rfl rfl)
theorem dX1_deepOf_82 : decode cX1_deepOf 82 = .ok (.aload_n 0, 1) := dk_42 (dk_at dksX1_deepOf_3 10 rfl rfl)
theorem dX1_deepOf_83 : decode cX1_deepOf 83 = .ok (.getfield 109, 3) := dk_180 0 109 (dk_at dksX1_deepOf_3 11 rfl rfl)
theorem dX1_deepOf_86 : decode cX1_deepOf 86 = .ok (.iload 4, 2) := dk_21 4 (dk_at dksX1_deepOf_3 14 rfl rfl)
theorem dX1_deepOf_88 : decode cX1_deepOf 88 = .ok (.aload_n 0, 1) := dk_42 (dk_at dksX1_deepOf_3 16 rfl rfl)
theorem dX1_deepOf_89 : decode cX1_deepOf 89 = .ok (.getfield 109, 3) := dk_180 0 109 (dk_at dksX1_deepOf_3 17 rfl rfl)
theorem dX1_deepOf_92 : decode cX1_deepOf 92 = .ok (.iload 7, 2) := dk_21 7 (dk_at dksX1_deepOf_3 20 rfl rfl)
theorem dX1_deepOf_94 : decode cX1_deepOf 94 = .ok (.iaload, 1) := dk_46 (dk_at dksX1_deepOf_3 22 rfl rfl)
theorem dX1_deepOf_95 : decode cX1_deepOf 95 = .ok (.iconst 1, 1) := dk_4 (dk_at dksX1_deepOf_3 23 rfl rfl)
theorem dX1_deepOf_96 : decode cX1_deepOf 96 = .ok (.iadd, 1) := dk_96 (dk_at dksX1_deepOf_4 0 rfl rfl)
theorem dX1_deepOf_97 : decode cX1_deepOf 97 = .ok (.iastore, 1) := dk_79 (dk_at dksX1_deepOf_4 1 rfl rfl)
theorem dX1_deepOf_98 : decode cX1_deepOf 98 = .ok (.iinc 7 1, 3) := dk_132 7 1 (dk_at dksX1_deepOf_4 2 rfl rfl)
theorem dX1_deepOf_101 : decode cX1_deepOf 101 = .ok (.goto (-55), 3) := dk_167 255 201 (dk_at dksX1_deepOf_4 5 rfl rfl)
theorem dX1_deepOf_104 : decode cX1_deepOf 104 = .ok (.iinc 4 1, 3) := dk_132 4 1 (dk_at dksX1_deepOf_4 8 rfl rfl)
theorem dX1_deepOf_107 : decode cX1_deepOf 107 = .ok (.goto (-98), 3) := dk_167 255 158 (dk_at dksX1_deepOf_4 11 rfl rfl)
theorem dX1_deepOf_110 : decode cX1_deepOf 110 = .ok (.aload_n 0, 1) := dk_42 (dk_at dksX1_deepOf_4 14 rfl rfl)
theorem dX1_deepOf_111 : decode cX1_deepOf 111 = .ok (.getfield 109, 3) := dk_180 0 109 (dk_at dksX1_deepOf_4 15 rfl rfl)
theorem dX1_deepOf_114 : decode cX1_deepOf 114 = .ok (.iload_n 1, 1) := dk_27 (dk_at dksX1_deepOf_4 18 rfl rfl)
theorem dX1_deepOf_115 : decode cX1_deepOf 115 = .ok (.iaload, 1) := dk_46 (dk_at dksX1_deepOf_4 19 rfl rfl)
theorem dX1_deepOf_116 : decode cX1_deepOf 116 = .ok (.ireturn, 1) := dk_172 (dk_at dksX1_deepOf_4 20 rfl rfl)
abbrev cX1_falls : ByteArray := prog_17_method_84_code
def yX1_falls : MethodName := ⟨RX1, "falls", "(I)J"⟩
def dkwX1_falls_6 : List UInt8 := [132, 4, 1, 167, 255, 152, 32, 173]
abbrev dktX1_falls_6 : List UInt8 := dkwX1_falls_6 ++ []
def dkwX1_falls_5 : List UInt8 := [4, 167, 0, 4, 3, 84, 42, 180, 0, 86, 21, 4, 51, 154, 0, 10, 32, 10, 21, 4, 121, 129, 65]
abbrev dktX1_falls_5 : List UInt8 := dkwX1_falls_5 ++ dktX1_falls_6
def dkwX1_falls_4 : List UInt8 := [42, 180, 0, 80, 16, 9, 21, 4, 104, 42, 180, 0, 68, 21, 4, 46, 21, 4, 182, 0, 172, 153, 0, 7]
abbrev dktX1_falls_4 : List UInt8 := dkwX1_falls_4 ++ dktX1_falls_5
def dkwX1_falls_3 : List UInt8 := [180, 0, 71, 16, 9, 21, 4, 104, 42, 180, 0, 65, 21, 4, 46, 21, 4, 182, 0, 172, 153, 0, 32, 42]
abbrev dktX1_falls_3 : List UInt8 := dkwX1_falls_3 ++ dktX1_falls_4
def dkwX1_falls_2 : List UInt8 := [162, 0, 101, 42, 180, 0, 86, 21, 4, 51, 154, 0, 6, 167, 0, 82, 42, 180, 0, 86, 21, 4, 42, 42]
abbrev dktX1_falls_2 : List UInt8 := dkwX1_falls_2 ++ dktX1_falls_3
def dkwX1_falls_1 : List UInt8 := [10, 27, 121, 65, 42, 180, 0, 86, 27, 3, 84, 27, 4, 96, 54, 4, 21, 4, 42, 180, 0, 112]
abbrev dktX1_falls_1 : List UInt8 := dkwX1_falls_1 ++ dktX1_falls_2
def dkwX1_falls_0 : List UInt8 := [42, 27, 182, 0, 240, 154, 0, 7, 20, 1, 103, 173, 42, 27, 182, 1, 87, 154, 0, 7, 20, 1, 105, 173]
abbrev dktX1_falls_0 : List UInt8 := dkwX1_falls_0 ++ dktX1_falls_1
theorem dksX1_falls_0 : cX1_falls.data.toList.drop 0 = dktX1_falls_0 := by decide +kernel
theorem dksX1_falls_1 : cX1_falls.data.toList.drop 24 = dktX1_falls_1 := dk_seg dksX1_falls_0 24 rfl rfl
theorem dksX1_falls_2 : cX1_falls.data.toList.drop 46 = dktX1_falls_2 := dk_seg dksX1_falls_1 22 rfl rfl
theorem dksX1_falls_3 : cX1_falls.data.toList.drop 70 = dktX1_falls_3 := dk_seg dksX1_falls_2 24 rfl rfl
theorem dksX1_falls_4 : cX1_falls.data.toList.drop 94 = dktX1_falls_4 := dk_seg dksX1_falls_3 24 rfl rfl
theorem dksX1_falls_5 : cX1_falls.data.toList.drop 118 = dktX1_falls_5 := dk_seg dksX1_falls_4 24 rfl rfl
theorem dksX1_falls_6 : cX1_falls.data.toList.drop 141 = dktX1_falls_6 := dk_seg dksX1_falls_5 23 rfl rfl
theorem dX1_falls_0 : decode cX1_falls 0 = .ok (.aload_n 0, 1) := dk_42 (dk_at dksX1_falls_0 0 rfl rfl)
theorem dX1_falls_1 : decode cX1_falls 1 = .ok (.iload_n 1, 1) := dk_27 (dk_at dksX1_falls_0 1 rfl rfl)
theorem dX1_falls_2 : decode cX1_falls 2 = .ok (.invokevirtual 240, 3) := dk_182 0 240 (dk_at dksX1_falls_0 2 rfl rfl)
theorem dX1_falls_5 : decode cX1_falls 5 = .ok (.ifCond .ne 7, 3) := dk_154 0 7 (dk_at dksX1_falls_0 5 rfl rfl)
theorem dX1_falls_8 : decode cX1_falls 8 = .ok (.ldc2_w 359, 3) := dk_20 1 103 (dk_at dksX1_falls_0 8 rfl rfl)
theorem dX1_falls_11 : decode cX1_falls 11 = .ok (.lreturn, 1) := dk_173 (dk_at dksX1_falls_0 11 rfl rfl)
theorem dX1_falls_12 : decode cX1_falls 12 = .ok (.aload_n 0, 1) := dk_42 (dk_at dksX1_falls_0 12 rfl rfl)
theorem dX1_falls_13 : decode cX1_falls 13 = .ok (.iload_n 1, 1) := dk_27 (dk_at dksX1_falls_0 13 rfl rfl)
theorem dX1_falls_14 : decode cX1_falls 14 = .ok (.invokevirtual 343, 3) := dk_182 1 87 (dk_at dksX1_falls_0 14 rfl rfl)
theorem dX1_falls_17 : decode cX1_falls 17 = .ok (.ifCond .ne 7, 3) := dk_154 0 7 (dk_at dksX1_falls_0 17 rfl rfl)
theorem dX1_falls_20 : decode cX1_falls 20 = .ok (.ldc2_w 361, 3) := dk_20 1 105 (dk_at dksX1_falls_0 20 rfl rfl)
theorem dX1_falls_23 : decode cX1_falls 23 = .ok (.lreturn, 1) := dk_173 (dk_at dksX1_falls_0 23 rfl rfl)
theorem dX1_falls_24 : decode cX1_falls 24 = .ok (.lconst 1, 1) := dk_10 (dk_at dksX1_falls_1 0 rfl rfl)
theorem dX1_falls_25 : decode cX1_falls 25 = .ok (.iload_n 1, 1) := dk_27 (dk_at dksX1_falls_1 1 rfl rfl)
theorem dX1_falls_26 : decode cX1_falls 26 = .ok (.lshl, 1) := dk_121 (dk_at dksX1_falls_1 2 rfl rfl)
theorem dX1_falls_27 : decode cX1_falls 27 = .ok (.lstore_n 2, 1) := dk_65 (dk_at dksX1_falls_1 3 rfl rfl)
theorem dX1_falls_28 : decode cX1_falls 28 = .ok (.aload_n 0, 1) := dk_42 (dk_at dksX1_falls_1 4 rfl rfl)
theorem dX1_falls_29 : decode cX1_falls 29 = .ok (.getfield 86, 3) := dk_180 0 86 (dk_at dksX1_falls_1 5 rfl rfl)
theorem dX1_falls_32 : decode cX1_falls 32 = .ok (.iload_n 1, 1) := dk_27 (dk_at dksX1_falls_1 8 rfl rfl)
theorem dX1_falls_33 : decode cX1_falls 33 = .ok (.iconst 0, 1) := dk_3 (dk_at dksX1_falls_1 9 rfl rfl)
theorem dX1_falls_34 : decode cX1_falls 34 = .ok (.bastore, 1) := dk_84 (dk_at dksX1_falls_1 10 rfl rfl)
theorem dX1_falls_35 : decode cX1_falls 35 = .ok (.iload_n 1, 1) := dk_27 (dk_at dksX1_falls_1 11 rfl rfl)
theorem dX1_falls_36 : decode cX1_falls 36 = .ok (.iconst 1, 1) := dk_4 (dk_at dksX1_falls_1 12 rfl rfl)
theorem dX1_falls_37 : decode cX1_falls 37 = .ok (.iadd, 1) := dk_96 (dk_at dksX1_falls_1 13 rfl rfl)
theorem dX1_falls_38 : decode cX1_falls 38 = .ok (.istore 4, 2) := dk_54 4 (dk_at dksX1_falls_1 14 rfl rfl)
theorem dX1_falls_40 : decode cX1_falls 40 = .ok (.iload 4, 2) := dk_21 4 (dk_at dksX1_falls_1 16 rfl rfl)
theorem dX1_falls_42 : decode cX1_falls 42 = .ok (.aload_n 0, 1) := dk_42 (dk_at dksX1_falls_1 18 rfl rfl)
theorem dX1_falls_43 : decode cX1_falls 43 = .ok (.getfield 112, 3) := dk_180 0 112 (dk_at dksX1_falls_1 19 rfl rfl)
theorem dX1_falls_46 : decode cX1_falls 46 = .ok (.if_icmp .ge 101, 3) := dk_162 0 101 (dk_at dksX1_falls_2 0 rfl rfl)
theorem dX1_falls_49 : decode cX1_falls 49 = .ok (.aload_n 0, 1) := dk_42 (dk_at dksX1_falls_2 3 rfl rfl)
theorem dX1_falls_50 : decode cX1_falls 50 = .ok (.getfield 86, 3) := dk_180 0 86 (dk_at dksX1_falls_2 4 rfl rfl)
theorem dX1_falls_53 : decode cX1_falls 53 = .ok (.iload 4, 2) := dk_21 4 (dk_at dksX1_falls_2 7 rfl rfl)
theorem dX1_falls_55 : decode cX1_falls 55 = .ok (.baload, 1) := dk_51 (dk_at dksX1_falls_2 9 rfl rfl)
theorem dX1_falls_56 : decode cX1_falls 56 = .ok (.ifCond .ne 6, 3) := dk_154 0 6 (dk_at dksX1_falls_2 10 rfl rfl)
theorem dX1_falls_59 : decode cX1_falls 59 = .ok (.goto 82, 3) := dk_167 0 82 (dk_at dksX1_falls_2 13 rfl rfl)
theorem dX1_falls_62 : decode cX1_falls 62 = .ok (.aload_n 0, 1) := dk_42 (dk_at dksX1_falls_2 16 rfl rfl)
theorem dX1_falls_63 : decode cX1_falls 63 = .ok (.getfield 86, 3) := dk_180 0 86 (dk_at dksX1_falls_2 17 rfl rfl)
theorem dX1_falls_66 : decode cX1_falls 66 = .ok (.iload 4, 2) := dk_21 4 (dk_at dksX1_falls_2 20 rfl rfl)
theorem dX1_falls_68 : decode cX1_falls 68 = .ok (.aload_n 0, 1) := dk_42 (dk_at dksX1_falls_2 22 rfl rfl)
theorem dX1_falls_69 : decode cX1_falls 69 = .ok (.aload_n 0, 1) := dk_42 (dk_at dksX1_falls_2 23 rfl rfl)
theorem dX1_falls_70 : decode cX1_falls 70 = .ok (.getfield 71, 3) := dk_180 0 71 (dk_at dksX1_falls_3 0 rfl rfl)
theorem dX1_falls_73 : decode cX1_falls 73 = .ok (.bipush 9, 2) := dk_16 9 (dk_at dksX1_falls_3 3 rfl rfl)
theorem dX1_falls_75 : decode cX1_falls 75 = .ok (.iload 4, 2) := dk_21 4 (dk_at dksX1_falls_3 5 rfl rfl)
theorem dX1_falls_77 : decode cX1_falls 77 = .ok (.imul, 1) := dk_104 (dk_at dksX1_falls_3 7 rfl rfl)
theorem dX1_falls_78 : decode cX1_falls 78 = .ok (.aload_n 0, 1) := dk_42 (dk_at dksX1_falls_3 8 rfl rfl)
theorem dX1_falls_79 : decode cX1_falls 79 = .ok (.getfield 65, 3) := dk_180 0 65 (dk_at dksX1_falls_3 9 rfl rfl)
theorem dX1_falls_82 : decode cX1_falls 82 = .ok (.iload 4, 2) := dk_21 4 (dk_at dksX1_falls_3 12 rfl rfl)
theorem dX1_falls_84 : decode cX1_falls 84 = .ok (.iaload, 1) := dk_46 (dk_at dksX1_falls_3 14 rfl rfl)
theorem dX1_falls_85 : decode cX1_falls 85 = .ok (.iload 4, 2) := dk_21 4 (dk_at dksX1_falls_3 15 rfl rfl)
theorem dX1_falls_87 : decode cX1_falls 87 = .ok (.invokevirtual 172, 3) := dk_182 0 172 (dk_at dksX1_falls_3 17 rfl rfl)
theorem dX1_falls_90 : decode cX1_falls 90 = .ok (.ifCond .eq 32, 3) := dk_153 0 32 (dk_at dksX1_falls_3 20 rfl rfl)
theorem dX1_falls_93 : decode cX1_falls 93 = .ok (.aload_n 0, 1) := dk_42 (dk_at dksX1_falls_3 23 rfl rfl)
theorem dX1_falls_94 : decode cX1_falls 94 = .ok (.aload_n 0, 1) := dk_42 (dk_at dksX1_falls_4 0 rfl rfl)
theorem dX1_falls_95 : decode cX1_falls 95 = .ok (.getfield 80, 3) := dk_180 0 80 (dk_at dksX1_falls_4 1 rfl rfl)
theorem dX1_falls_98 : decode cX1_falls 98 = .ok (.bipush 9, 2) := dk_16 9 (dk_at dksX1_falls_4 4 rfl rfl)
theorem dX1_falls_100 : decode cX1_falls 100 = .ok (.iload 4, 2) := dk_21 4 (dk_at dksX1_falls_4 6 rfl rfl)
theorem dX1_falls_102 : decode cX1_falls 102 = .ok (.imul, 1) := dk_104 (dk_at dksX1_falls_4 8 rfl rfl)
theorem dX1_falls_103 : decode cX1_falls 103 = .ok (.aload_n 0, 1) := dk_42 (dk_at dksX1_falls_4 9 rfl rfl)
theorem dX1_falls_104 : decode cX1_falls 104 = .ok (.getfield 68, 3) := dk_180 0 68 (dk_at dksX1_falls_4 10 rfl rfl)
theorem dX1_falls_107 : decode cX1_falls 107 = .ok (.iload 4, 2) := dk_21 4 (dk_at dksX1_falls_4 13 rfl rfl)
theorem dX1_falls_109 : decode cX1_falls 109 = .ok (.iaload, 1) := dk_46 (dk_at dksX1_falls_4 15 rfl rfl)
theorem dX1_falls_110 : decode cX1_falls 110 = .ok (.iload 4, 2) := dk_21 4 (dk_at dksX1_falls_4 16 rfl rfl)
theorem dX1_falls_112 : decode cX1_falls 112 = .ok (.invokevirtual 172, 3) := dk_182 0 172 (dk_at dksX1_falls_4 18 rfl rfl)
theorem dX1_falls_115 : decode cX1_falls 115 = .ok (.ifCond .eq 7, 3) := dk_153 0 7 (dk_at dksX1_falls_4 21 rfl rfl)
theorem dX1_falls_118 : decode cX1_falls 118 = .ok (.iconst 1, 1) := dk_4 (dk_at dksX1_falls_5 0 rfl rfl)
theorem dX1_falls_119 : decode cX1_falls 119 = .ok (.goto 4, 3) := dk_167 0 4 (dk_at dksX1_falls_5 1 rfl rfl)
theorem dX1_falls_122 : decode cX1_falls 122 = .ok (.iconst 0, 1) := dk_3 (dk_at dksX1_falls_5 4 rfl rfl)
theorem dX1_falls_123 : decode cX1_falls 123 = .ok (.bastore, 1) := dk_84 (dk_at dksX1_falls_5 5 rfl rfl)
theorem dX1_falls_124 : decode cX1_falls 124 = .ok (.aload_n 0, 1) := dk_42 (dk_at dksX1_falls_5 6 rfl rfl)
theorem dX1_falls_125 : decode cX1_falls 125 = .ok (.getfield 86, 3) := dk_180 0 86 (dk_at dksX1_falls_5 7 rfl rfl)
theorem dX1_falls_128 : decode cX1_falls 128 = .ok (.iload 4, 2) := dk_21 4 (dk_at dksX1_falls_5 10 rfl rfl)
theorem dX1_falls_130 : decode cX1_falls 130 = .ok (.baload, 1) := dk_51 (dk_at dksX1_falls_5 12 rfl rfl)
theorem dX1_falls_131 : decode cX1_falls 131 = .ok (.ifCond .ne 10, 3) := dk_154 0 10 (dk_at dksX1_falls_5 13 rfl rfl)
theorem dX1_falls_134 : decode cX1_falls 134 = .ok (.lload_n 2, 1) := dk_32 (dk_at dksX1_falls_5 16 rfl rfl)
theorem dX1_falls_135 : decode cX1_falls 135 = .ok (.lconst 1, 1) := dk_10 (dk_at dksX1_falls_5 17 rfl rfl)
theorem dX1_falls_136 : decode cX1_falls 136 = .ok (.iload 4, 2) := dk_21 4 (dk_at dksX1_falls_5 18 rfl rfl)
theorem dX1_falls_138 : decode cX1_falls 138 = .ok (.lshl, 1) := dk_121 (dk_at dksX1_falls_5 20 rfl rfl)
theorem dX1_falls_139 : decode cX1_falls 139 = .ok (.lor, 1) := dk_129 (dk_at dksX1_falls_5 21 rfl rfl)
theorem dX1_falls_140 : decode cX1_falls 140 = .ok (.lstore_n 2, 1) := dk_65 (dk_at dksX1_falls_5 22 rfl rfl)
theorem dX1_falls_141 : decode cX1_falls 141 = .ok (.iinc 4 1, 3) := dk_132 4 1 (dk_at dksX1_falls_6 0 rfl rfl)
theorem dX1_falls_144 : decode cX1_falls 144 = .ok (.goto (-104), 3) := dk_167 255 152 (dk_at dksX1_falls_6 3 rfl rfl)
theorem dX1_falls_147 : decode cX1_falls 147 = .ok (.lload_n 2, 1) := dk_32 (dk_at dksX1_falls_6 6 rfl rfl)
theorem dX1_falls_148 : decode cX1_falls 148 = .ok (.lreturn, 1) := dk_173 (dk_at dksX1_falls_6 7 rfl rfl)
abbrev cX1_cost : ByteArray := prog_17_method_85_code
def yX1_cost : MethodName := ⟨RX1, "cost", "(I)I"⟩
def dkwX1_cost_1 : List UInt8 := [167, 0, 5, 16, 254, 172]
abbrev dktX1_cost_1 : List UInt8 := dkwX1_cost_1 ++ []
def dkwX1_cost_0 : List UInt8 := [42, 27, 182, 0, 240, 154, 0, 5, 2, 172, 42, 27, 182, 1, 87, 153, 0, 11, 42, 27, 182, 1, 110]
abbrev dktX1_cost_0 : List UInt8 := dkwX1_cost_0 ++ dktX1_cost_1
theorem dksX1_cost_0 : cX1_cost.data.toList.drop 0 = dktX1_cost_0 := by decide +kernel
theorem dksX1_cost_1 : cX1_cost.data.toList.drop 23 = dktX1_cost_1 := dk_seg dksX1_cost_0 23 rfl rfl
theorem dX1_cost_0 : decode cX1_cost 0 = .ok (.aload_n 0, 1) := dk_42 (dk_at dksX1_cost_0 0 rfl rfl)
theorem dX1_cost_1 : decode cX1_cost 1 = .ok (.iload_n 1, 1) := dk_27 (dk_at dksX1_cost_0 1 rfl rfl)
theorem dX1_cost_2 : decode cX1_cost 2 = .ok (.invokevirtual 240, 3) := dk_182 0 240 (dk_at dksX1_cost_0 2 rfl rfl)
theorem dX1_cost_5 : decode cX1_cost 5 = .ok (.ifCond .ne 5, 3) := dk_154 0 5 (dk_at dksX1_cost_0 5 rfl rfl)
theorem dX1_cost_8 : decode cX1_cost 8 = .ok (.iconst (-1), 1) := dk_2 (dk_at dksX1_cost_0 8 rfl rfl)
theorem dX1_cost_9 : decode cX1_cost 9 = .ok (.ireturn, 1) := dk_172 (dk_at dksX1_cost_0 9 rfl rfl)
theorem dX1_cost_10 : decode cX1_cost 10 = .ok (.aload_n 0, 1) := dk_42 (dk_at dksX1_cost_0 10 rfl rfl)
theorem dX1_cost_11 : decode cX1_cost 11 = .ok (.iload_n 1, 1) := dk_27 (dk_at dksX1_cost_0 11 rfl rfl)
theorem dX1_cost_12 : decode cX1_cost 12 = .ok (.invokevirtual 343, 3) := dk_182 1 87 (dk_at dksX1_cost_0 12 rfl rfl)
theorem dX1_cost_15 : decode cX1_cost 15 = .ok (.ifCond .eq 11, 3) := dk_153 0 11 (dk_at dksX1_cost_0 15 rfl rfl)
theorem dX1_cost_18 : decode cX1_cost 18 = .ok (.aload_n 0, 1) := dk_42 (dk_at dksX1_cost_0 18 rfl rfl)
theorem dX1_cost_19 : decode cX1_cost 19 = .ok (.iload_n 1, 1) := dk_27 (dk_at dksX1_cost_0 19 rfl rfl)
theorem dX1_cost_20 : decode cX1_cost 20 = .ok (.invokevirtual 366, 3) := dk_182 1 110 (dk_at dksX1_cost_0 20 rfl rfl)
theorem dX1_cost_23 : decode cX1_cost 23 = .ok (.goto 5, 3) := dk_167 0 5 (dk_at dksX1_cost_1 0 rfl rfl)
theorem dX1_cost_26 : decode cX1_cost 26 = .ok (.bipush (-2), 2) := dk_16 254 (dk_at dksX1_cost_1 3 rfl rfl)
theorem dX1_cost_28 : decode cX1_cost 28 = .ok (.ireturn, 1) := dk_172 (dk_at dksX1_cost_1 5 rfl rfl)
abbrev cX1_costsOf : ByteArray := prog_17_method_78_code
def yX1_costsOf : MethodName := ⟨RX1, "costsOf", "(I)I"⟩
def dkwX1_costsOf_2 : List UInt8 := [108, 184, 1, 100, 96, 96, 61, 132, 3, 1, 167, 255, 205, 28, 172]
abbrev dktX1_costsOf_2 : List UInt8 := dkwX1_costsOf_2 ++ []
def dkwX1_costsOf_1 : List UInt8 := [180, 0, 53, 27, 46, 4, 100, 184, 1, 100, 42, 180, 0, 53, 27, 46, 4, 100, 42, 180, 0, 71, 29, 46]
abbrev dktX1_costsOf_1 : List UInt8 := dkwX1_costsOf_1 ++ dktX1_costsOf_2
def dkwX1_costsOf_0 : List UInt8 := [3, 61, 16, 9, 27, 104, 62, 29, 16, 9, 27, 104, 42, 180, 0, 65, 27, 46, 96, 162, 0, 42, 28, 42]
abbrev dktX1_costsOf_0 : List UInt8 := dkwX1_costsOf_0 ++ dktX1_costsOf_1
theorem dksX1_costsOf_0 : cX1_costsOf.data.toList.drop 0 = dktX1_costsOf_0 := by decide +kernel
theorem dksX1_costsOf_1 : cX1_costsOf.data.toList.drop 24 = dktX1_costsOf_1 := dk_seg dksX1_costsOf_0 24 rfl rfl
theorem dksX1_costsOf_2 : cX1_costsOf.data.toList.drop 48 = dktX1_costsOf_2 := dk_seg dksX1_costsOf_1 24 rfl rfl
theorem dX1_costsOf_0 : decode cX1_costsOf 0 = .ok (.iconst 0, 1) := dk_3 (dk_at dksX1_costsOf_0 0 rfl rfl)
theorem dX1_costsOf_1 : decode cX1_costsOf 1 = .ok (.istore_n 2, 1) := dk_61 (dk_at dksX1_costsOf_0 1 rfl rfl)
theorem dX1_costsOf_2 : decode cX1_costsOf 2 = .ok (.bipush 9, 2) := dk_16 9 (dk_at dksX1_costsOf_0 2 rfl rfl)
theorem dX1_costsOf_4 : decode cX1_costsOf 4 = .ok (.iload_n 1, 1) := dk_27 (dk_at dksX1_costsOf_0 4 rfl rfl)
theorem dX1_costsOf_5 : decode cX1_costsOf 5 = .ok (.imul, 1) := dk_104 (dk_at dksX1_costsOf_0 5 rfl rfl)
theorem dX1_costsOf_6 : decode cX1_costsOf 6 = .ok (.istore_n 3, 1) := dk_62 (dk_at dksX1_costsOf_0 6 rfl rfl)
theorem dX1_costsOf_7 : decode cX1_costsOf 7 = .ok (.iload_n 3, 1) := dk_29 (dk_at dksX1_costsOf_0 7 rfl rfl)
theorem dX1_costsOf_8 : decode cX1_costsOf 8 = .ok (.bipush 9, 2) := dk_16 9 (dk_at dksX1_costsOf_0 8 rfl rfl)
theorem dX1_costsOf_10 : decode cX1_costsOf 10 = .ok (.iload_n 1, 1) := dk_27 (dk_at dksX1_costsOf_0 10 rfl rfl)
theorem dX1_costsOf_11 : decode cX1_costsOf 11 = .ok (.imul, 1) := dk_104 (dk_at dksX1_costsOf_0 11 rfl rfl)
theorem dX1_costsOf_12 : decode cX1_costsOf 12 = .ok (.aload_n 0, 1) := dk_42 (dk_at dksX1_costsOf_0 12 rfl rfl)
theorem dX1_costsOf_13 : decode cX1_costsOf 13 = .ok (.getfield 65, 3) := dk_180 0 65 (dk_at dksX1_costsOf_0 13 rfl rfl)
theorem dX1_costsOf_16 : decode cX1_costsOf 16 = .ok (.iload_n 1, 1) := dk_27 (dk_at dksX1_costsOf_0 16 rfl rfl)
theorem dX1_costsOf_17 : decode cX1_costsOf 17 = .ok (.iaload, 1) := dk_46 (dk_at dksX1_costsOf_0 17 rfl rfl)
theorem dX1_costsOf_18 : decode cX1_costsOf 18 = .ok (.iadd, 1) := dk_96 (dk_at dksX1_costsOf_0 18 rfl rfl)
theorem dX1_costsOf_19 : decode cX1_costsOf 19 = .ok (.if_icmp .ge 42, 3) := dk_162 0 42 (dk_at dksX1_costsOf_0 19 rfl rfl)
theorem dX1_costsOf_22 : decode cX1_costsOf 22 = .ok (.iload_n 2, 1) := dk_28 (dk_at dksX1_costsOf_0 22 rfl rfl)
theorem dX1_costsOf_23 : decode cX1_costsOf 23 = .ok (.aload_n 0, 1) := dk_42 (dk_at dksX1_costsOf_0 23 rfl rfl)
theorem dX1_costsOf_24 : decode cX1_costsOf 24 = .ok (.getfield 53, 3) := dk_180 0 53 (dk_at dksX1_costsOf_1 0 rfl rfl)
theorem dX1_costsOf_27 : decode cX1_costsOf 27 = .ok (.iload_n 1, 1) := dk_27 (dk_at dksX1_costsOf_1 3 rfl rfl)
theorem dX1_costsOf_28 : decode cX1_costsOf 28 = .ok (.iaload, 1) := dk_46 (dk_at dksX1_costsOf_1 4 rfl rfl)
theorem dX1_costsOf_29 : decode cX1_costsOf 29 = .ok (.iconst 1, 1) := dk_4 (dk_at dksX1_costsOf_1 5 rfl rfl)
theorem dX1_costsOf_30 : decode cX1_costsOf 30 = .ok (.isub, 1) := dk_100 (dk_at dksX1_costsOf_1 6 rfl rfl)
theorem dX1_costsOf_31 : decode cX1_costsOf 31 = .ok (.invokestatic 356, 3) := dk_184 1 100 (dk_at dksX1_costsOf_1 7 rfl rfl)
theorem dX1_costsOf_34 : decode cX1_costsOf 34 = .ok (.aload_n 0, 1) := dk_42 (dk_at dksX1_costsOf_1 10 rfl rfl)
theorem dX1_costsOf_35 : decode cX1_costsOf 35 = .ok (.getfield 53, 3) := dk_180 0 53 (dk_at dksX1_costsOf_1 11 rfl rfl)
theorem dX1_costsOf_38 : decode cX1_costsOf 38 = .ok (.iload_n 1, 1) := dk_27 (dk_at dksX1_costsOf_1 14 rfl rfl)
theorem dX1_costsOf_39 : decode cX1_costsOf 39 = .ok (.iaload, 1) := dk_46 (dk_at dksX1_costsOf_1 15 rfl rfl)
theorem dX1_costsOf_40 : decode cX1_costsOf 40 = .ok (.iconst 1, 1) := dk_4 (dk_at dksX1_costsOf_1 16 rfl rfl)
theorem dX1_costsOf_41 : decode cX1_costsOf 41 = .ok (.isub, 1) := dk_100 (dk_at dksX1_costsOf_1 17 rfl rfl)
theorem dX1_costsOf_42 : decode cX1_costsOf 42 = .ok (.aload_n 0, 1) := dk_42 (dk_at dksX1_costsOf_1 18 rfl rfl)
theorem dX1_costsOf_43 : decode cX1_costsOf 43 = .ok (.getfield 71, 3) := dk_180 0 71 (dk_at dksX1_costsOf_1 19 rfl rfl)
theorem dX1_costsOf_46 : decode cX1_costsOf 46 = .ok (.iload_n 3, 1) := dk_29 (dk_at dksX1_costsOf_1 22 rfl rfl)
theorem dX1_costsOf_47 : decode cX1_costsOf 47 = .ok (.iaload, 1) := dk_46 (dk_at dksX1_costsOf_1 23 rfl rfl)
theorem dX1_costsOf_48 : decode cX1_costsOf 48 = .ok (.idiv, 1) := dk_108 (dk_at dksX1_costsOf_2 0 rfl rfl)
theorem dX1_costsOf_49 : decode cX1_costsOf 49 = .ok (.invokestatic 356, 3) := dk_184 1 100 (dk_at dksX1_costsOf_2 1 rfl rfl)
theorem dX1_costsOf_52 : decode cX1_costsOf 52 = .ok (.iadd, 1) := dk_96 (dk_at dksX1_costsOf_2 4 rfl rfl)
theorem dX1_costsOf_53 : decode cX1_costsOf 53 = .ok (.iadd, 1) := dk_96 (dk_at dksX1_costsOf_2 5 rfl rfl)
theorem dX1_costsOf_54 : decode cX1_costsOf 54 = .ok (.istore_n 2, 1) := dk_61 (dk_at dksX1_costsOf_2 6 rfl rfl)
theorem dX1_costsOf_55 : decode cX1_costsOf 55 = .ok (.iinc 3 1, 3) := dk_132 3 1 (dk_at dksX1_costsOf_2 7 rfl rfl)
theorem dX1_costsOf_58 : decode cX1_costsOf 58 = .ok (.goto (-51), 3) := dk_167 255 205 (dk_at dksX1_costsOf_2 10 rfl rfl)
theorem dX1_costsOf_61 : decode cX1_costsOf 61 = .ok (.iload_n 2, 1) := dk_28 (dk_at dksX1_costsOf_2 13 rfl rfl)
theorem dX1_costsOf_62 : decode cX1_costsOf 62 = .ok (.ireturn, 1) := dk_172 (dk_at dksX1_costsOf_2 14 rfl rfl)
abbrev cX1_costOf : ByteArray := prog_17_method_77_code
def yX1_costOf : MethodName := ⟨RX1, "costOf", "(I)I"⟩
def dkwX1_costOf_1 : List UInt8 := [27, 172]
abbrev dktX1_costOf_1 : List UInt8 := dkwX1_costOf_1 ++ []
def dkwX1_costOf_0 : List UInt8 := [16, 254, 60, 26, 61, 28, 158, 0, 18, 27, 4, 28, 5, 112, 96, 96, 60, 28, 5, 108, 61, 167, 255, 240]
abbrev dktX1_costOf_0 : List UInt8 := dkwX1_costOf_0 ++ dktX1_costOf_1
theorem dksX1_costOf_0 : cX1_costOf.data.toList.drop 0 = dktX1_costOf_0 := by decide +kernel
theorem dksX1_costOf_1 : cX1_costOf.data.toList.drop 24 = dktX1_costOf_1 := dk_seg dksX1_costOf_0 24 rfl rfl
theorem dX1_costOf_0 : decode cX1_costOf 0 = .ok (.bipush (-2), 2) := dk_16 254 (dk_at dksX1_costOf_0 0 rfl rfl)
theorem dX1_costOf_2 : decode cX1_costOf 2 = .ok (.istore_n 1, 1) := dk_60 (dk_at dksX1_costOf_0 2 rfl rfl)
theorem dX1_costOf_3 : decode cX1_costOf 3 = .ok (.iload_n 0, 1) := dk_26 (dk_at dksX1_costOf_0 3 rfl rfl)
theorem dX1_costOf_4 : decode cX1_costOf 4 = .ok (.istore_n 2, 1) := dk_61 (dk_at dksX1_costOf_0 4 rfl rfl)
theorem dX1_costOf_5 : decode cX1_costOf 5 = .ok (.iload_n 2, 1) := dk_28 (dk_at dksX1_costOf_0 5 rfl rfl)
theorem dX1_costOf_6 : decode cX1_costOf 6 = .ok (.ifCond .le 18, 3) := dk_158 0 18 (dk_at dksX1_costOf_0 6 rfl rfl)
theorem dX1_costOf_9 : decode cX1_costOf 9 = .ok (.iload_n 1, 1) := dk_27 (dk_at dksX1_costOf_0 9 rfl rfl)
theorem dX1_costOf_10 : decode cX1_costOf 10 = .ok (.iconst 1, 1) := dk_4 (dk_at dksX1_costOf_0 10 rfl rfl)
theorem dX1_costOf_11 : decode cX1_costOf 11 = .ok (.iload_n 2, 1) := dk_28 (dk_at dksX1_costOf_0 11 rfl rfl)
theorem dX1_costOf_12 : decode cX1_costOf 12 = .ok (.iconst 2, 1) := dk_5 (dk_at dksX1_costOf_0 12 rfl rfl)
theorem dX1_costOf_13 : decode cX1_costOf 13 = .ok (.irem, 1) := dk_112 (dk_at dksX1_costOf_0 13 rfl rfl)
theorem dX1_costOf_14 : decode cX1_costOf 14 = .ok (.iadd, 1) := dk_96 (dk_at dksX1_costOf_0 14 rfl rfl)
theorem dX1_costOf_15 : decode cX1_costOf 15 = .ok (.iadd, 1) := dk_96 (dk_at dksX1_costOf_0 15 rfl rfl)
theorem dX1_costOf_16 : decode cX1_costOf 16 = .ok (.istore_n 1, 1) := dk_60 (dk_at dksX1_costOf_0 16 rfl rfl)
theorem dX1_costOf_17 : decode cX1_costOf 17 = .ok (.iload_n 2, 1) := dk_28 (dk_at dksX1_costOf_0 17 rfl rfl)
theorem dX1_costOf_18 : decode cX1_costOf 18 = .ok (.iconst 2, 1) := dk_5 (dk_at dksX1_costOf_0 18 rfl rfl)
theorem dX1_costOf_19 : decode cX1_costOf 19 = .ok (.idiv, 1) := dk_108 (dk_at dksX1_costOf_0 19 rfl rfl)
theorem dX1_costOf_20 : decode cX1_costOf 20 = .ok (.istore_n 2, 1) := dk_61 (dk_at dksX1_costOf_0 20 rfl rfl)
theorem dX1_costOf_21 : decode cX1_costOf 21 = .ok (.goto (-16), 3) := dk_167 255 240 (dk_at dksX1_costOf_0 21 rfl rfl)
theorem dX1_costOf_24 : decode cX1_costOf 24 = .ok (.iload_n 1, 1) := dk_27 (dk_at dksX1_costOf_1 0 rfl rfl)
theorem dX1_costOf_25 : decode cX1_costOf 25 = .ok (.ireturn, 1) := dk_172 (dk_at dksX1_costOf_1 1 rfl rfl)
abbrev cX1_loose : ByteArray := prog_17_method_86_code
def yX1_loose : MethodName := ⟨RX1, "loose", "(II)I"⟩
def dkwX1_loose_3 : List UInt8 := [28, 96, 46, 133, 184, 0, 187, 153, 0, 6, 132, 3, 1, 132, 4, 1, 167, 255, 198, 29, 172]
abbrev dktX1_loose_3 : List UInt8 := dkwX1_loose_3 ++ []
def dkwX1_loose_2 : List UInt8 := [184, 0, 183, 153, 0, 34, 42, 180, 0, 53, 27, 46, 133, 21, 4, 133, 42, 180, 0, 71, 16, 9, 27, 104]
abbrev dktX1_loose_2 : List UInt8 := dkwX1_loose_2 ++ dktX1_loose_3
def dkwX1_loose_1 : List UInt8 := [62, 5, 54, 4, 21, 4, 17, 3, 231, 163, 0, 56, 42, 180, 0, 53, 27, 46, 133, 21, 4, 133]
abbrev dktX1_loose_1 : List UInt8 := dkwX1_loose_1 ++ dktX1_loose_2
def dkwX1_loose_0 : List UInt8 := [42, 27, 3, 28, 182, 1, 80, 154, 0, 5, 2, 172, 42, 27, 182, 1, 87, 154, 0, 6, 16, 254, 172, 3]
abbrev dktX1_loose_0 : List UInt8 := dkwX1_loose_0 ++ dktX1_loose_1
theorem dksX1_loose_0 : cX1_loose.data.toList.drop 0 = dktX1_loose_0 := by decide +kernel
theorem dksX1_loose_1 : cX1_loose.data.toList.drop 24 = dktX1_loose_1 := dk_seg dksX1_loose_0 24 rfl rfl
theorem dksX1_loose_2 : cX1_loose.data.toList.drop 46 = dktX1_loose_2 := dk_seg dksX1_loose_1 22 rfl rfl
theorem dksX1_loose_3 : cX1_loose.data.toList.drop 70 = dktX1_loose_3 := dk_seg dksX1_loose_2 24 rfl rfl
theorem dX1_loose_0 : decode cX1_loose 0 = .ok (.aload_n 0, 1) := dk_42 (dk_at dksX1_loose_0 0 rfl rfl)
theorem dX1_loose_1 : decode cX1_loose 1 = .ok (.iload_n 1, 1) := dk_27 (dk_at dksX1_loose_0 1 rfl rfl)
theorem dX1_loose_2 : decode cX1_loose 2 = .ok (.iconst 0, 1) := dk_3 (dk_at dksX1_loose_0 2 rfl rfl)
theorem dX1_loose_3 : decode cX1_loose 3 = .ok (.iload_n 2, 1) := dk_28 (dk_at dksX1_loose_0 3 rfl rfl)
theorem dX1_loose_4 : decode cX1_loose 4 = .ok (.invokevirtual 336, 3) := dk_182 1 80 (dk_at dksX1_loose_0 4 rfl rfl)
theorem dX1_loose_7 : decode cX1_loose 7 = .ok (.ifCond .ne 5, 3) := dk_154 0 5 (dk_at dksX1_loose_0 7 rfl rfl)
theorem dX1_loose_10 : decode cX1_loose 10 = .ok (.iconst (-1), 1) := dk_2 (dk_at dksX1_loose_0 10 rfl rfl)
theorem dX1_loose_11 : decode cX1_loose 11 = .ok (.ireturn, 1) := dk_172 (dk_at dksX1_loose_0 11 rfl rfl)
theorem dX1_loose_12 : decode cX1_loose 12 = .ok (.aload_n 0, 1) := dk_42 (dk_at dksX1_loose_0 12 rfl rfl)
theorem dX1_loose_13 : decode cX1_loose 13 = .ok (.iload_n 1, 1) := dk_27 (dk_at dksX1_loose_0 13 rfl rfl)
theorem dX1_loose_14 : decode cX1_loose 14 = .ok (.invokevirtual 343, 3) := dk_182 1 87 (dk_at dksX1_loose_0 14 rfl rfl)
theorem dX1_loose_17 : decode cX1_loose 17 = .ok (.ifCond .ne 6, 3) := dk_154 0 6 (dk_at dksX1_loose_0 17 rfl rfl)
theorem dX1_loose_20 : decode cX1_loose 20 = .ok (.bipush (-2), 2) := dk_16 254 (dk_at dksX1_loose_0 20 rfl rfl)
theorem dX1_loose_22 : decode cX1_loose 22 = .ok (.ireturn, 1) := dk_172 (dk_at dksX1_loose_0 22 rfl rfl)
theorem dX1_loose_23 : decode cX1_loose 23 = .ok (.iconst 0, 1) := dk_3 (dk_at dksX1_loose_0 23 rfl rfl)
theorem dX1_loose_24 : decode cX1_loose 24 = .ok (.istore_n 3, 1) := dk_62 (dk_at dksX1_loose_1 0 rfl rfl)
theorem dX1_loose_25 : decode cX1_loose 25 = .ok (.iconst 2, 1) := dk_5 (dk_at dksX1_loose_1 1 rfl rfl)
theorem dX1_loose_26 : decode cX1_loose 26 = .ok (.istore 4, 2) := dk_54 4 (dk_at dksX1_loose_1 2 rfl rfl)
theorem dX1_loose_28 : decode cX1_loose 28 = .ok (.iload 4, 2) := dk_21 4 (dk_at dksX1_loose_1 4 rfl rfl)
theorem dX1_loose_30 : decode cX1_loose 30 = .ok (.sipush 999, 3) := dk_17 3 231 (dk_at dksX1_loose_1 6 rfl rfl)
theorem dX1_loose_33 : decode cX1_loose 33 = .ok (.if_icmp .gt 56, 3) := dk_163 0 56 (dk_at dksX1_loose_1 9 rfl rfl)
theorem dX1_loose_36 : decode cX1_loose 36 = .ok (.aload_n 0, 1) := dk_42 (dk_at dksX1_loose_1 12 rfl rfl)
theorem dX1_loose_37 : decode cX1_loose 37 = .ok (.getfield 53, 3) := dk_180 0 53 (dk_at dksX1_loose_1 13 rfl rfl)
theorem dX1_loose_40 : decode cX1_loose 40 = .ok (.iload_n 1, 1) := dk_27 (dk_at dksX1_loose_1 16 rfl rfl)
theorem dX1_loose_41 : decode cX1_loose 41 = .ok (.iaload, 1) := dk_46 (dk_at dksX1_loose_1 17 rfl rfl)
theorem dX1_loose_42 : decode cX1_loose 42 = .ok (.i2l, 1) := dk_133 (dk_at dksX1_loose_1 18 rfl rfl)
theorem dX1_loose_43 : decode cX1_loose 43 = .ok (.iload 4, 2) := dk_21 4 (dk_at dksX1_loose_1 19 rfl rfl)
theorem dX1_loose_45 : decode cX1_loose 45 = .ok (.i2l, 1) := dk_133 (dk_at dksX1_loose_1 21 rfl rfl)
theorem dX1_loose_46 : decode cX1_loose 46 = .ok (.invokestatic 183, 3) := dk_184 0 183 (dk_at dksX1_loose_2 0 rfl rfl)
theorem dX1_loose_49 : decode cX1_loose 49 = .ok (.ifCond .eq 34, 3) := dk_153 0 34 (dk_at dksX1_loose_2 3 rfl rfl)
theorem dX1_loose_52 : decode cX1_loose 52 = .ok (.aload_n 0, 1) := dk_42 (dk_at dksX1_loose_2 6 rfl rfl)
theorem dX1_loose_53 : decode cX1_loose 53 = .ok (.getfield 53, 3) := dk_180 0 53 (dk_at dksX1_loose_2 7 rfl rfl)
theorem dX1_loose_56 : decode cX1_loose 56 = .ok (.iload_n 1, 1) := dk_27 (dk_at dksX1_loose_2 10 rfl rfl)
theorem dX1_loose_57 : decode cX1_loose 57 = .ok (.iaload, 1) := dk_46 (dk_at dksX1_loose_2 11 rfl rfl)
theorem dX1_loose_58 : decode cX1_loose 58 = .ok (.i2l, 1) := dk_133 (dk_at dksX1_loose_2 12 rfl rfl)
theorem dX1_loose_59 : decode cX1_loose 59 = .ok (.iload 4, 2) := dk_21 4 (dk_at dksX1_loose_2 13 rfl rfl)
theorem dX1_loose_61 : decode cX1_loose 61 = .ok (.i2l, 1) := dk_133 (dk_at dksX1_loose_2 15 rfl rfl)
theorem dX1_loose_62 : decode cX1_loose 62 = .ok (.aload_n 0, 1) := dk_42 (dk_at dksX1_loose_2 16 rfl rfl)
theorem dX1_loose_63 : decode cX1_loose 63 = .ok (.getfield 71, 3) := dk_180 0 71 (dk_at dksX1_loose_2 17 rfl rfl)
theorem dX1_loose_66 : decode cX1_loose 66 = .ok (.bipush 9, 2) := dk_16 9 (dk_at dksX1_loose_2 20 rfl rfl)
theorem dX1_loose_68 : decode cX1_loose 68 = .ok (.iload_n 1, 1) := dk_27 (dk_at dksX1_loose_2 22 rfl rfl)
theorem dX1_loose_69 : decode cX1_loose 69 = .ok (.imul, 1) := dk_104 (dk_at dksX1_loose_2 23 rfl rfl)
theorem dX1_loose_70 : decode cX1_loose 70 = .ok (.iload_n 2, 1) := dk_28 (dk_at dksX1_loose_3 0 rfl rfl)
theorem dX1_loose_71 : decode cX1_loose 71 = .ok (.iadd, 1) := dk_96 (dk_at dksX1_loose_3 1 rfl rfl)
theorem dX1_loose_72 : decode cX1_loose 72 = .ok (.iaload, 1) := dk_46 (dk_at dksX1_loose_3 2 rfl rfl)
theorem dX1_loose_73 : decode cX1_loose 73 = .ok (.i2l, 1) := dk_133 (dk_at dksX1_loose_3 3 rfl rfl)
theorem dX1_loose_74 : decode cX1_loose 74 = .ok (.invokestatic 187, 3) := dk_184 0 187 (dk_at dksX1_loose_3 4 rfl rfl)
theorem dX1_loose_77 : decode cX1_loose 77 = .ok (.ifCond .eq 6, 3) := dk_153 0 6 (dk_at dksX1_loose_3 7 rfl rfl)
theorem dX1_loose_80 : decode cX1_loose 80 = .ok (.iinc 3 1, 3) := dk_132 3 1 (dk_at dksX1_loose_3 10 rfl rfl)
theorem dX1_loose_83 : decode cX1_loose 83 = .ok (.iinc 4 1, 3) := dk_132 4 1 (dk_at dksX1_loose_3 13 rfl rfl)
theorem dX1_loose_86 : decode cX1_loose 86 = .ok (.goto (-58), 3) := dk_167 255 198 (dk_at dksX1_loose_3 16 rfl rfl)
theorem dX1_loose_89 : decode cX1_loose 89 = .ok (.iload_n 3, 1) := dk_29 (dk_at dksX1_loose_3 19 rfl rfl)
theorem dX1_loose_90 : decode cX1_loose 90 = .ok (.ireturn, 1) := dk_172 (dk_at dksX1_loose_3 20 rfl rfl)
abbrev cX1_shared : ByteArray := prog_17_method_87_code
def yX1_shared : MethodName := ⟨RX1, "shared", "(II)J"⟩
def dkwX1_shared_2 : List UInt8 := [28, 182, 1, 90, 127, 167, 0, 6, 20, 1, 105, 173]
abbrev dktX1_shared_2 : List UInt8 := dkwX1_shared_2 ++ []
def dkwX1_shared_1 : List UInt8 := [42, 180, 0, 86, 27, 51, 153, 0, 26, 42, 180, 0, 86, 28, 51, 153, 0, 17, 42, 27, 182, 1, 90, 42]
abbrev dktX1_shared_1 : List UInt8 := dkwX1_shared_1 ++ dktX1_shared_2
def dkwX1_shared_0 : List UInt8 := [42, 27, 182, 0, 240, 153, 0, 11, 42, 28, 182, 0, 240, 154, 0, 7, 20, 1, 103, 173, 42, 182, 0, 201]
abbrev dktX1_shared_0 : List UInt8 := dkwX1_shared_0 ++ dktX1_shared_1
theorem dksX1_shared_0 : cX1_shared.data.toList.drop 0 = dktX1_shared_0 := by decide +kernel
theorem dksX1_shared_1 : cX1_shared.data.toList.drop 24 = dktX1_shared_1 := dk_seg dksX1_shared_0 24 rfl rfl
theorem dksX1_shared_2 : cX1_shared.data.toList.drop 48 = dktX1_shared_2 := dk_seg dksX1_shared_1 24 rfl rfl
theorem dX1_shared_0 : decode cX1_shared 0 = .ok (.aload_n 0, 1) := dk_42 (dk_at dksX1_shared_0 0 rfl rfl)
theorem dX1_shared_1 : decode cX1_shared 1 = .ok (.iload_n 1, 1) := dk_27 (dk_at dksX1_shared_0 1 rfl rfl)
theorem dX1_shared_2 : decode cX1_shared 2 = .ok (.invokevirtual 240, 3) := dk_182 0 240 (dk_at dksX1_shared_0 2 rfl rfl)
theorem dX1_shared_5 : decode cX1_shared 5 = .ok (.ifCond .eq 11, 3) := dk_153 0 11 (dk_at dksX1_shared_0 5 rfl rfl)
theorem dX1_shared_8 : decode cX1_shared 8 = .ok (.aload_n 0, 1) := dk_42 (dk_at dksX1_shared_0 8 rfl rfl)
theorem dX1_shared_9 : decode cX1_shared 9 = .ok (.iload_n 2, 1) := dk_28 (dk_at dksX1_shared_0 9 rfl rfl)
theorem dX1_shared_10 : decode cX1_shared 10 = .ok (.invokevirtual 240, 3) := dk_182 0 240 (dk_at dksX1_shared_0 10 rfl rfl)
theorem dX1_shared_13 : decode cX1_shared 13 = .ok (.ifCond .ne 7, 3) := dk_154 0 7 (dk_at dksX1_shared_0 13 rfl rfl)
theorem dX1_shared_16 : decode cX1_shared 16 = .ok (.ldc2_w 359, 3) := dk_20 1 103 (dk_at dksX1_shared_0 16 rfl rfl)
theorem dX1_shared_19 : decode cX1_shared 19 = .ok (.lreturn, 1) := dk_173 (dk_at dksX1_shared_0 19 rfl rfl)
theorem dX1_shared_20 : decode cX1_shared 20 = .ok (.aload_n 0, 1) := dk_42 (dk_at dksX1_shared_0 20 rfl rfl)
theorem dX1_shared_21 : decode cX1_shared 21 = .ok (.invokevirtual 201, 3) := dk_182 0 201 (dk_at dksX1_shared_0 21 rfl rfl)
theorem dX1_shared_24 : decode cX1_shared 24 = .ok (.aload_n 0, 1) := dk_42 (dk_at dksX1_shared_1 0 rfl rfl)
theorem dX1_shared_25 : decode cX1_shared 25 = .ok (.getfield 86, 3) := dk_180 0 86 (dk_at dksX1_shared_1 1 rfl rfl)
theorem dX1_shared_28 : decode cX1_shared 28 = .ok (.iload_n 1, 1) := dk_27 (dk_at dksX1_shared_1 4 rfl rfl)
theorem dX1_shared_29 : decode cX1_shared 29 = .ok (.baload, 1) := dk_51 (dk_at dksX1_shared_1 5 rfl rfl)
theorem dX1_shared_30 : decode cX1_shared 30 = .ok (.ifCond .eq 26, 3) := dk_153 0 26 (dk_at dksX1_shared_1 6 rfl rfl)
theorem dX1_shared_33 : decode cX1_shared 33 = .ok (.aload_n 0, 1) := dk_42 (dk_at dksX1_shared_1 9 rfl rfl)
theorem dX1_shared_34 : decode cX1_shared 34 = .ok (.getfield 86, 3) := dk_180 0 86 (dk_at dksX1_shared_1 10 rfl rfl)
theorem dX1_shared_37 : decode cX1_shared 37 = .ok (.iload_n 2, 1) := dk_28 (dk_at dksX1_shared_1 13 rfl rfl)
theorem dX1_shared_38 : decode cX1_shared 38 = .ok (.baload, 1) := dk_51 (dk_at dksX1_shared_1 14 rfl rfl)
theorem dX1_shared_39 : decode cX1_shared 39 = .ok (.ifCond .eq 17, 3) := dk_153 0 17 (dk_at dksX1_shared_1 15 rfl rfl)
theorem dX1_shared_42 : decode cX1_shared 42 = .ok (.aload_n 0, 1) := dk_42 (dk_at dksX1_shared_1 18 rfl rfl)
theorem dX1_shared_43 : decode cX1_shared 43 = .ok (.iload_n 1, 1) := dk_27 (dk_at dksX1_shared_1 19 rfl rfl)
theorem dX1_shared_44 : decode cX1_shared 44 = .ok (.invokevirtual 346, 3) := dk_182 1 90 (dk_at dksX1_shared_1 20 rfl rfl)
theorem dX1_shared_47 : decode cX1_shared 47 = .ok (.aload_n 0, 1) := dk_42 (dk_at dksX1_shared_1 23 rfl rfl)
theorem dX1_shared_48 : decode cX1_shared 48 = .ok (.iload_n 2, 1) := dk_28 (dk_at dksX1_shared_2 0 rfl rfl)
theorem dX1_shared_49 : decode cX1_shared 49 = .ok (.invokevirtual 346, 3) := dk_182 1 90 (dk_at dksX1_shared_2 1 rfl rfl)
theorem dX1_shared_52 : decode cX1_shared 52 = .ok (.land, 1) := dk_127 (dk_at dksX1_shared_2 4 rfl rfl)
theorem dX1_shared_53 : decode cX1_shared 53 = .ok (.goto 6, 3) := dk_167 0 6 (dk_at dksX1_shared_2 5 rfl rfl)
theorem dX1_shared_56 : decode cX1_shared 56 = .ok (.ldc2_w 361, 3) := dk_20 1 105 (dk_at dksX1_shared_2 8 rfl rfl)
theorem dX1_shared_59 : decode cX1_shared 59 = .ok (.lreturn, 1) := dk_173 (dk_at dksX1_shared_2 11 rfl rfl)
abbrev cX1_proof : ByteArray := prog_17_method_88_code
def yX1_proof : MethodName := ⟨RX1, "proof", "(I)I"⟩
def dkwX1_proof_1 : List UInt8 := [28, 2, 160, 0, 8, 16, 254, 167, 0, 4, 28, 172]
abbrev dktX1_proof_1 : List UInt8 := dkwX1_proof_1 ++ []
def dkwX1_proof_0 : List UInt8 := [27, 133, 184, 0, 226, 154, 0, 5, 2, 172, 42, 182, 0, 201, 42, 27, 42, 180, 0, 112, 182, 0, 132, 61]
abbrev dktX1_proof_0 : List UInt8 := dkwX1_proof_0 ++ dktX1_proof_1
theorem dksX1_proof_0 : cX1_proof.data.toList.drop 0 = dktX1_proof_0 := by decide +kernel
theorem dksX1_proof_1 : cX1_proof.data.toList.drop 24 = dktX1_proof_1 := dk_seg dksX1_proof_0 24 rfl rfl
theorem dX1_proof_0 : decode cX1_proof 0 = .ok (.iload_n 1, 1) := dk_27 (dk_at dksX1_proof_0 0 rfl rfl)
theorem dX1_proof_1 : decode cX1_proof 1 = .ok (.i2l, 1) := dk_133 (dk_at dksX1_proof_0 1 rfl rfl)
theorem dX1_proof_2 : decode cX1_proof 2 = .ok (.invokestatic 226, 3) := dk_184 0 226 (dk_at dksX1_proof_0 2 rfl rfl)
theorem dX1_proof_5 : decode cX1_proof 5 = .ok (.ifCond .ne 5, 3) := dk_154 0 5 (dk_at dksX1_proof_0 5 rfl rfl)
theorem dX1_proof_8 : decode cX1_proof 8 = .ok (.iconst (-1), 1) := dk_2 (dk_at dksX1_proof_0 8 rfl rfl)
theorem dX1_proof_9 : decode cX1_proof 9 = .ok (.ireturn, 1) := dk_172 (dk_at dksX1_proof_0 9 rfl rfl)
theorem dX1_proof_10 : decode cX1_proof 10 = .ok (.aload_n 0, 1) := dk_42 (dk_at dksX1_proof_0 10 rfl rfl)
theorem dX1_proof_11 : decode cX1_proof 11 = .ok (.invokevirtual 201, 3) := dk_182 0 201 (dk_at dksX1_proof_0 11 rfl rfl)
theorem dX1_proof_14 : decode cX1_proof 14 = .ok (.aload_n 0, 1) := dk_42 (dk_at dksX1_proof_0 14 rfl rfl)
theorem dX1_proof_15 : decode cX1_proof 15 = .ok (.iload_n 1, 1) := dk_27 (dk_at dksX1_proof_0 15 rfl rfl)
theorem dX1_proof_16 : decode cX1_proof 16 = .ok (.aload_n 0, 1) := dk_42 (dk_at dksX1_proof_0 16 rfl rfl)
theorem dX1_proof_17 : decode cX1_proof 17 = .ok (.getfield 112, 3) := dk_180 0 112 (dk_at dksX1_proof_0 17 rfl rfl)
theorem dX1_proof_20 : decode cX1_proof 20 = .ok (.invokevirtual 132, 3) := dk_182 0 132 (dk_at dksX1_proof_0 20 rfl rfl)
theorem dX1_proof_23 : decode cX1_proof 23 = .ok (.istore_n 2, 1) := dk_61 (dk_at dksX1_proof_0 23 rfl rfl)
theorem dX1_proof_24 : decode cX1_proof 24 = .ok (.iload_n 2, 1) := dk_28 (dk_at dksX1_proof_1 0 rfl rfl)
theorem dX1_proof_25 : decode cX1_proof 25 = .ok (.iconst (-1), 1) := dk_2 (dk_at dksX1_proof_1 1 rfl rfl)
theorem dX1_proof_26 : decode cX1_proof 26 = .ok (.if_icmp .ne 8, 3) := dk_160 0 8 (dk_at dksX1_proof_1 2 rfl rfl)
theorem dX1_proof_29 : decode cX1_proof 29 = .ok (.bipush (-2), 2) := dk_16 254 (dk_at dksX1_proof_1 5 rfl rfl)
theorem dX1_proof_31 : decode cX1_proof 31 = .ok (.goto 4, 3) := dk_167 0 4 (dk_at dksX1_proof_1 7 rfl rfl)
theorem dX1_proof_34 : decode cX1_proof 34 = .ok (.iload_n 2, 1) := dk_28 (dk_at dksX1_proof_1 10 rfl rfl)
theorem dX1_proof_35 : decode cX1_proof 35 = .ok (.ireturn, 1) := dk_172 (dk_at dksX1_proof_1 11 rfl rfl)
abbrev cX1_prime : ByteArray := prog_17_method_89_code
def yX1_prime : MethodName := ⟨RX1, "prime", "(II)I"⟩
def dkwX1_prime_2 : List UInt8 := [167, 0, 4, 2, 172]
abbrev dktX1_prime_2 : List UInt8 := dkwX1_prime_2 ++ []
def dkwX1_prime_1 : List UInt8 := [160, 0, 10, 42, 180, 0, 37, 167, 0, 21, 28, 42, 180, 0, 37, 162, 0, 12, 42, 180, 0, 40, 28, 46]
abbrev dktX1_prime_1 : List UInt8 := dkwX1_prime_1 ++ dktX1_prime_2
def dkwX1_prime_0 : List UInt8 := [27, 133, 184, 0, 226, 153, 0, 8, 28, 2, 162, 0, 5, 2, 172, 42, 27, 133, 182, 0, 204, 28, 2]
abbrev dktX1_prime_0 : List UInt8 := dkwX1_prime_0 ++ dktX1_prime_1
theorem dksX1_prime_0 : cX1_prime.data.toList.drop 0 = dktX1_prime_0 := by decide +kernel
theorem dksX1_prime_1 : cX1_prime.data.toList.drop 23 = dktX1_prime_1 := dk_seg dksX1_prime_0 23 rfl rfl
theorem dksX1_prime_2 : cX1_prime.data.toList.drop 47 = dktX1_prime_2 := dk_seg dksX1_prime_1 24 rfl rfl
theorem dX1_prime_0 : decode cX1_prime 0 = .ok (.iload_n 1, 1) := dk_27 (dk_at dksX1_prime_0 0 rfl rfl)
theorem dX1_prime_1 : decode cX1_prime 1 = .ok (.i2l, 1) := dk_133 (dk_at dksX1_prime_0 1 rfl rfl)
theorem dX1_prime_2 : decode cX1_prime 2 = .ok (.invokestatic 226, 3) := dk_184 0 226 (dk_at dksX1_prime_0 2 rfl rfl)
theorem dX1_prime_5 : decode cX1_prime 5 = .ok (.ifCond .eq 8, 3) := dk_153 0 8 (dk_at dksX1_prime_0 5 rfl rfl)
theorem dX1_prime_8 : decode cX1_prime 8 = .ok (.iload_n 2, 1) := dk_28 (dk_at dksX1_prime_0 8 rfl rfl)
theorem dX1_prime_9 : decode cX1_prime 9 = .ok (.iconst (-1), 1) := dk_2 (dk_at dksX1_prime_0 9 rfl rfl)
theorem dX1_prime_10 : decode cX1_prime 10 = .ok (.if_icmp .ge 5, 3) := dk_162 0 5 (dk_at dksX1_prime_0 10 rfl rfl)
theorem dX1_prime_13 : decode cX1_prime 13 = .ok (.iconst (-1), 1) := dk_2 (dk_at dksX1_prime_0 13 rfl rfl)
theorem dX1_prime_14 : decode cX1_prime 14 = .ok (.ireturn, 1) := dk_172 (dk_at dksX1_prime_0 14 rfl rfl)
theorem dX1_prime_15 : decode cX1_prime 15 = .ok (.aload_n 0, 1) := dk_42 (dk_at dksX1_prime_0 15 rfl rfl)
theorem dX1_prime_16 : decode cX1_prime 16 = .ok (.iload_n 1, 1) := dk_27 (dk_at dksX1_prime_0 16 rfl rfl)
theorem dX1_prime_17 : decode cX1_prime 17 = .ok (.i2l, 1) := dk_133 (dk_at dksX1_prime_0 17 rfl rfl)
theorem dX1_prime_18 : decode cX1_prime 18 = .ok (.invokevirtual 204, 3) := dk_182 0 204 (dk_at dksX1_prime_0 18 rfl rfl)
theorem dX1_prime_21 : decode cX1_prime 21 = .ok (.iload_n 2, 1) := dk_28 (dk_at dksX1_prime_0 21 rfl rfl)
theorem dX1_prime_22 : decode cX1_prime 22 = .ok (.iconst (-1), 1) := dk_2 (dk_at dksX1_prime_0 22 rfl rfl)
theorem dX1_prime_23 : decode cX1_prime 23 = .ok (.if_icmp .ne 10, 3) := dk_160 0 10 (dk_at dksX1_prime_1 0 rfl rfl)
theorem dX1_prime_26 : decode cX1_prime 26 = .ok (.aload_n 0, 1) := dk_42 (dk_at dksX1_prime_1 3 rfl rfl)
theorem dX1_prime_27 : decode cX1_prime 27 = .ok (.getfield 37, 3) := dk_180 0 37 (dk_at dksX1_prime_1 4 rfl rfl)
theorem dX1_prime_30 : decode cX1_prime 30 = .ok (.goto 21, 3) := dk_167 0 21 (dk_at dksX1_prime_1 7 rfl rfl)
theorem dX1_prime_33 : decode cX1_prime 33 = .ok (.iload_n 2, 1) := dk_28 (dk_at dksX1_prime_1 10 rfl rfl)
theorem dX1_prime_34 : decode cX1_prime 34 = .ok (.aload_n 0, 1) := dk_42 (dk_at dksX1_prime_1 11 rfl rfl)
theorem dX1_prime_35 : decode cX1_prime 35 = .ok (.getfield 37, 3) := dk_180 0 37 (dk_at dksX1_prime_1 12 rfl rfl)
theorem dX1_prime_38 : decode cX1_prime 38 = .ok (.if_icmp .ge 12, 3) := dk_162 0 12 (dk_at dksX1_prime_1 15 rfl rfl)
theorem dX1_prime_41 : decode cX1_prime 41 = .ok (.aload_n 0, 1) := dk_42 (dk_at dksX1_prime_1 18 rfl rfl)
theorem dX1_prime_42 : decode cX1_prime 42 = .ok (.getfield 40, 3) := dk_180 0 40 (dk_at dksX1_prime_1 19 rfl rfl)
theorem dX1_prime_45 : decode cX1_prime 45 = .ok (.iload_n 2, 1) := dk_28 (dk_at dksX1_prime_1 22 rfl rfl)
theorem dX1_prime_46 : decode cX1_prime 46 = .ok (.iaload, 1) := dk_46 (dk_at dksX1_prime_1 23 rfl rfl)
theorem dX1_prime_47 : decode cX1_prime 47 = .ok (.goto 4, 3) := dk_167 0 4 (dk_at dksX1_prime_2 0 rfl rfl)
theorem dX1_prime_50 : decode cX1_prime 50 = .ok (.iconst (-1), 1) := dk_2 (dk_at dksX1_prime_2 3 rfl rfl)
theorem dX1_prime_51 : decode cX1_prime 51 = .ok (.ireturn, 1) := dk_172 (dk_at dksX1_prime_2 4 rfl rfl)
abbrev cX1_often : ByteArray := prog_17_method_90_code
def yX1_often : MethodName := ⟨RX1, "often", "(II)I"⟩
def dkwX1_often_1 : List UInt8 := [21, 4, 28, 112, 154, 0, 15, 132, 3, 1, 21, 4, 28, 108, 54, 4, 167, 255, 240, 29, 172]
abbrev dktX1_often_1 : List UInt8 := dkwX1_often_1 ++ []
def dkwX1_often_0 : List UInt8 := [27, 133, 184, 0, 226, 153, 0, 11, 28, 133, 184, 0, 226, 154, 0, 5, 2, 172, 3, 62, 27, 54, 4]
abbrev dktX1_often_0 : List UInt8 := dkwX1_often_0 ++ dktX1_often_1
theorem dksX1_often_0 : cX1_often.data.toList.drop 0 = dktX1_often_0 := by decide +kernel
theorem dksX1_often_1 : cX1_often.data.toList.drop 23 = dktX1_often_1 := dk_seg dksX1_often_0 23 rfl rfl
theorem dX1_often_0 : decode cX1_often 0 = .ok (.iload_n 1, 1) := dk_27 (dk_at dksX1_often_0 0 rfl rfl)
theorem dX1_often_1 : decode cX1_often 1 = .ok (.i2l, 1) := dk_133 (dk_at dksX1_often_0 1 rfl rfl)
theorem dX1_often_2 : decode cX1_often 2 = .ok (.invokestatic 226, 3) := dk_184 0 226 (dk_at dksX1_often_0 2 rfl rfl)
theorem dX1_often_5 : decode cX1_often 5 = .ok (.ifCond .eq 11, 3) := dk_153 0 11 (dk_at dksX1_often_0 5 rfl rfl)
theorem dX1_often_8 : decode cX1_often 8 = .ok (.iload_n 2, 1) := dk_28 (dk_at dksX1_often_0 8 rfl rfl)
theorem dX1_often_9 : decode cX1_often 9 = .ok (.i2l, 1) := dk_133 (dk_at dksX1_often_0 9 rfl rfl)
theorem dX1_often_10 : decode cX1_often 10 = .ok (.invokestatic 226, 3) := dk_184 0 226 (dk_at dksX1_often_0 10 rfl rfl)
theorem dX1_often_13 : decode cX1_often 13 = .ok (.ifCond .ne 5, 3) := dk_154 0 5 (dk_at dksX1_often_0 13 rfl rfl)
theorem dX1_often_16 : decode cX1_often 16 = .ok (.iconst (-1), 1) := dk_2 (dk_at dksX1_often_0 16 rfl rfl)
theorem dX1_often_17 : decode cX1_often 17 = .ok (.ireturn, 1) := dk_172 (dk_at dksX1_often_0 17 rfl rfl)
theorem dX1_often_18 : decode cX1_often 18 = .ok (.iconst 0, 1) := dk_3 (dk_at dksX1_often_0 18 rfl rfl)
theorem dX1_often_19 : decode cX1_often 19 = .ok (.istore_n 3, 1) := dk_62 (dk_at dksX1_often_0 19 rfl rfl)
theorem dX1_often_20 : decode cX1_often 20 = .ok (.iload_n 1, 1) := dk_27 (dk_at dksX1_often_0 20 rfl rfl)
theorem dX1_often_21 : decode cX1_often 21 = .ok (.istore 4, 2) := dk_54 4 (dk_at dksX1_often_0 21 rfl rfl)
theorem dX1_often_23 : decode cX1_often 23 = .ok (.iload 4, 2) := dk_21 4 (dk_at dksX1_often_1 0 rfl rfl)
theorem dX1_often_25 : decode cX1_often 25 = .ok (.iload_n 2, 1) := dk_28 (dk_at dksX1_often_1 2 rfl rfl)
theorem dX1_often_26 : decode cX1_often 26 = .ok (.irem, 1) := dk_112 (dk_at dksX1_often_1 3 rfl rfl)
theorem dX1_often_27 : decode cX1_often 27 = .ok (.ifCond .ne 15, 3) := dk_154 0 15 (dk_at dksX1_often_1 4 rfl rfl)
theorem dX1_often_30 : decode cX1_often 30 = .ok (.iinc 3 1, 3) := dk_132 3 1 (dk_at dksX1_often_1 7 rfl rfl)
theorem dX1_often_33 : decode cX1_often 33 = .ok (.iload 4, 2) := dk_21 4 (dk_at dksX1_often_1 10 rfl rfl)
theorem dX1_often_35 : decode cX1_often 35 = .ok (.iload_n 2, 1) := dk_28 (dk_at dksX1_often_1 12 rfl rfl)
theorem dX1_often_36 : decode cX1_often 36 = .ok (.idiv, 1) := dk_108 (dk_at dksX1_often_1 13 rfl rfl)
theorem dX1_often_37 : decode cX1_often 37 = .ok (.istore 4, 2) := dk_54 4 (dk_at dksX1_often_1 14 rfl rfl)
theorem dX1_often_39 : decode cX1_often 39 = .ok (.goto (-16), 3) := dk_167 255 240 (dk_at dksX1_often_1 16 rfl rfl)
theorem dX1_often_42 : decode cX1_often 42 = .ok (.iload_n 3, 1) := dk_29 (dk_at dksX1_often_1 19 rfl rfl)
theorem dX1_often_43 : decode cX1_often 43 = .ok (.ireturn, 1) := dk_172 (dk_at dksX1_often_1 20 rfl rfl)
abbrev cX1_next : ByteArray := prog_17_method_91_code
def yX1_next : MethodName := ⟨RX1, "next", "(I)I"⟩
def dkwX1_next_1 : List UInt8 := [154, 0, 9, 132, 2, 1, 167, 255, 245, 28, 172]
abbrev dktX1_next_1 : List UInt8 := dkwX1_next_1 ++ []
def dkwX1_next_0 : List UInt8 := [27, 133, 9, 20, 1, 113, 184, 0, 11, 154, 0, 5, 2, 172, 27, 4, 96, 61, 28, 133, 184, 0, 164]
abbrev dktX1_next_0 : List UInt8 := dkwX1_next_0 ++ dktX1_next_1
theorem dksX1_next_0 : cX1_next.data.toList.drop 0 = dktX1_next_0 := by decide +kernel
theorem dksX1_next_1 : cX1_next.data.toList.drop 23 = dktX1_next_1 := dk_seg dksX1_next_0 23 rfl rfl
theorem dX1_next_0 : decode cX1_next 0 = .ok (.iload_n 1, 1) := dk_27 (dk_at dksX1_next_0 0 rfl rfl)
theorem dX1_next_1 : decode cX1_next 1 = .ok (.i2l, 1) := dk_133 (dk_at dksX1_next_0 1 rfl rfl)
theorem dX1_next_2 : decode cX1_next 2 = .ok (.lconst 0, 1) := dk_9 (dk_at dksX1_next_0 2 rfl rfl)
theorem dX1_next_3 : decode cX1_next 3 = .ok (.ldc2_w 369, 3) := dk_20 1 113 (dk_at dksX1_next_0 3 rfl rfl)
theorem dX1_next_6 : decode cX1_next 6 = .ok (.invokestatic 11, 3) := dk_184 0 11 (dk_at dksX1_next_0 6 rfl rfl)
theorem dX1_next_9 : decode cX1_next 9 = .ok (.ifCond .ne 5, 3) := dk_154 0 5 (dk_at dksX1_next_0 9 rfl rfl)
theorem dX1_next_12 : decode cX1_next 12 = .ok (.iconst (-1), 1) := dk_2 (dk_at dksX1_next_0 12 rfl rfl)
theorem dX1_next_13 : decode cX1_next 13 = .ok (.ireturn, 1) := dk_172 (dk_at dksX1_next_0 13 rfl rfl)
theorem dX1_next_14 : decode cX1_next 14 = .ok (.iload_n 1, 1) := dk_27 (dk_at dksX1_next_0 14 rfl rfl)
theorem dX1_next_15 : decode cX1_next 15 = .ok (.iconst 1, 1) := dk_4 (dk_at dksX1_next_0 15 rfl rfl)
theorem dX1_next_16 : decode cX1_next 16 = .ok (.iadd, 1) := dk_96 (dk_at dksX1_next_0 16 rfl rfl)
theorem dX1_next_17 : decode cX1_next 17 = .ok (.istore_n 2, 1) := dk_61 (dk_at dksX1_next_0 17 rfl rfl)
theorem dX1_next_18 : decode cX1_next 18 = .ok (.iload_n 2, 1) := dk_28 (dk_at dksX1_next_0 18 rfl rfl)
theorem dX1_next_19 : decode cX1_next 19 = .ok (.i2l, 1) := dk_133 (dk_at dksX1_next_0 19 rfl rfl)
theorem dX1_next_20 : decode cX1_next 20 = .ok (.invokestatic 164, 3) := dk_184 0 164 (dk_at dksX1_next_0 20 rfl rfl)
theorem dX1_next_23 : decode cX1_next 23 = .ok (.ifCond .ne 9, 3) := dk_154 0 9 (dk_at dksX1_next_1 0 rfl rfl)
theorem dX1_next_26 : decode cX1_next 26 = .ok (.iinc 2 1, 3) := dk_132 2 1 (dk_at dksX1_next_1 3 rfl rfl)
theorem dX1_next_29 : decode cX1_next 29 = .ok (.goto (-11), 3) := dk_167 255 245 (dk_at dksX1_next_1 6 rfl rfl)
theorem dX1_next_32 : decode cX1_next 32 = .ok (.iload_n 2, 1) := dk_28 (dk_at dksX1_next_1 9 rfl rfl)
theorem dX1_next_33 : decode cX1_next 33 = .ok (.ireturn, 1) := dk_172 (dk_at dksX1_next_1 10 rfl rfl)
abbrev cX1_smooth : ByteArray := prog_17_method_93_code
def yX1_smooth : MethodName := ⟨RX1, "smooth", "(II)I"⟩
def dkwX1_smooth_1 : List UInt8 := [182, 1, 115, 136, 172]
abbrev dktX1_smooth_1 : List UInt8 := dkwX1_smooth_1 ++ []
def dkwX1_smooth_0 : List UInt8 := [27, 133, 184, 0, 226, 153, 0, 7, 28, 156, 0, 5, 2, 172, 42, 27, 133, 182, 0, 204, 42, 28]
abbrev dktX1_smooth_0 : List UInt8 := dkwX1_smooth_0 ++ dktX1_smooth_1
theorem dksX1_smooth_0 : cX1_smooth.data.toList.drop 0 = dktX1_smooth_0 := by decide +kernel
theorem dksX1_smooth_1 : cX1_smooth.data.toList.drop 22 = dktX1_smooth_1 := dk_seg dksX1_smooth_0 22 rfl rfl
theorem dX1_smooth_0 : decode cX1_smooth 0 = .ok (.iload_n 1, 1) := dk_27 (dk_at dksX1_smooth_0 0 rfl rfl)
theorem dX1_smooth_1 : decode cX1_smooth 1 = .ok (.i2l, 1) := dk_133 (dk_at dksX1_smooth_0 1 rfl rfl)
theorem dX1_smooth_2 : decode cX1_smooth 2 = .ok (.invokestatic 226, 3) := dk_184 0 226 (dk_at dksX1_smooth_0 2 rfl rfl)
theorem dX1_smooth_5 : decode cX1_smooth 5 = .ok (.ifCond .eq 7, 3) := dk_153 0 7 (dk_at dksX1_smooth_0 5 rfl rfl)
theorem dX1_smooth_8 : decode cX1_smooth 8 = .ok (.iload_n 2, 1) := dk_28 (dk_at dksX1_smooth_0 8 rfl rfl)
theorem dX1_smooth_9 : decode cX1_smooth 9 = .ok (.ifCond .ge 5, 3) := dk_156 0 5 (dk_at dksX1_smooth_0 9 rfl rfl)
theorem dX1_smooth_12 : decode cX1_smooth 12 = .ok (.iconst (-1), 1) := dk_2 (dk_at dksX1_smooth_0 12 rfl rfl)
theorem dX1_smooth_13 : decode cX1_smooth 13 = .ok (.ireturn, 1) := dk_172 (dk_at dksX1_smooth_0 13 rfl rfl)
theorem dX1_smooth_14 : decode cX1_smooth 14 = .ok (.aload_n 0, 1) := dk_42 (dk_at dksX1_smooth_0 14 rfl rfl)
theorem dX1_smooth_15 : decode cX1_smooth 15 = .ok (.iload_n 1, 1) := dk_27 (dk_at dksX1_smooth_0 15 rfl rfl)
theorem dX1_smooth_16 : decode cX1_smooth 16 = .ok (.i2l, 1) := dk_133 (dk_at dksX1_smooth_0 16 rfl rfl)
theorem dX1_smooth_17 : decode cX1_smooth 17 = .ok (.invokevirtual 204, 3) := dk_182 0 204 (dk_at dksX1_smooth_0 17 rfl rfl)
theorem dX1_smooth_20 : decode cX1_smooth 20 = .ok (.aload_n 0, 1) := dk_42 (dk_at dksX1_smooth_0 20 rfl rfl)
theorem dX1_smooth_21 : decode cX1_smooth 21 = .ok (.iload_n 2, 1) := dk_28 (dk_at dksX1_smooth_0 21 rfl rfl)
theorem dX1_smooth_22 : decode cX1_smooth 22 = .ok (.invokevirtual 371, 3) := dk_182 1 115 (dk_at dksX1_smooth_1 0 rfl rfl)
theorem dX1_smooth_25 : decode cX1_smooth 25 = .ok (.l2i, 1) := dk_136 (dk_at dksX1_smooth_1 3 rfl rfl)
theorem dX1_smooth_26 : decode cX1_smooth 26 = .ok (.ireturn, 1) := dk_172 (dk_at dksX1_smooth_1 4 rfl rfl)
abbrev cX1_smoothBy : ByteArray := prog_17_method_92_code
def yX1_smoothBy : MethodName := ⟨RX1, "smoothBy", "(I)J"⟩
def dkwX1_smoothBy_2 : List UInt8 := [21, 4, 46, 133, 105, 65, 132, 5, 1, 167, 255, 230, 132, 4, 1, 167, 255, 201, 32, 173]
abbrev dktX1_smoothBy_2 : List UInt8 := dkwX1_smoothBy_2 ++ []
def dkwX1_smoothBy_1 : List UInt8 := [163, 0, 35, 3, 54, 5, 21, 5, 42, 180, 0, 44, 21, 4, 46, 162, 0, 20, 32, 42, 180, 0, 40]
abbrev dktX1_smoothBy_1 : List UInt8 := dkwX1_smoothBy_1 ++ dktX1_smoothBy_2
def dkwX1_smoothBy_0 : List UInt8 := [10, 65, 3, 54, 4, 21, 4, 42, 180, 0, 37, 162, 0, 52, 42, 180, 0, 40, 21, 4, 46, 27]
abbrev dktX1_smoothBy_0 : List UInt8 := dkwX1_smoothBy_0 ++ dktX1_smoothBy_1
theorem dksX1_smoothBy_0 : cX1_smoothBy.data.toList.drop 0 = dktX1_smoothBy_0 := by decide +kernel
theorem dksX1_smoothBy_1 : cX1_smoothBy.data.toList.drop 22 = dktX1_smoothBy_1 := dk_seg dksX1_smoothBy_0 22 rfl rfl
theorem dksX1_smoothBy_2 : cX1_smoothBy.data.toList.drop 45 = dktX1_smoothBy_2 := dk_seg dksX1_smoothBy_1 23 rfl rfl
theorem dX1_smoothBy_0 : decode cX1_smoothBy 0 = .ok (.lconst 1, 1) := dk_10 (dk_at dksX1_smoothBy_0 0 rfl rfl)
theorem dX1_smoothBy_1 : decode cX1_smoothBy 1 = .ok (.lstore_n 2, 1) := dk_65 (dk_at dksX1_smoothBy_0 1 rfl rfl)
theorem dX1_smoothBy_2 : decode cX1_smoothBy 2 = .ok (.iconst 0, 1) := dk_3 (dk_at dksX1_smoothBy_0 2 rfl rfl)
theorem dX1_smoothBy_3 : decode cX1_smoothBy 3 = .ok (.istore 4, 2) := dk_54 4 (dk_at dksX1_smoothBy_0 3 rfl rfl)
theorem dX1_smoothBy_5 : decode cX1_smoothBy 5 = .ok (.iload 4, 2) := dk_21 4 (dk_at dksX1_smoothBy_0 5 rfl rfl)
theorem dX1_smoothBy_7 : decode cX1_smoothBy 7 = .ok (.aload_n 0, 1) := dk_42 (dk_at dksX1_smoothBy_0 7 rfl rfl)
theorem dX1_smoothBy_8 : decode cX1_smoothBy 8 = .ok (.getfield 37, 3) := dk_180 0 37 (dk_at dksX1_smoothBy_0 8 rfl rfl)
theorem dX1_smoothBy_11 : decode cX1_smoothBy 11 = .ok (.if_icmp .ge 52, 3) := dk_162 0 52 (dk_at dksX1_smoothBy_0 11 rfl rfl)
theorem dX1_smoothBy_14 : decode cX1_smoothBy 14 = .ok (.aload_n 0, 1) := dk_42 (dk_at dksX1_smoothBy_0 14 rfl rfl)
theorem dX1_smoothBy_15 : decode cX1_smoothBy 15 = .ok (.getfield 40, 3) := dk_180 0 40 (dk_at dksX1_smoothBy_0 15 rfl rfl)
theorem dX1_smoothBy_18 : decode cX1_smoothBy 18 = .ok (.iload 4, 2) := dk_21 4 (dk_at dksX1_smoothBy_0 18 rfl rfl)
theorem dX1_smoothBy_20 : decode cX1_smoothBy 20 = .ok (.iaload, 1) := dk_46 (dk_at dksX1_smoothBy_0 20 rfl rfl)
theorem dX1_smoothBy_21 : decode cX1_smoothBy 21 = .ok (.iload_n 1, 1) := dk_27 (dk_at dksX1_smoothBy_0 21 rfl rfl)
theorem dX1_smoothBy_22 : decode cX1_smoothBy 22 = .ok (.if_icmp .gt 35, 3) := dk_163 0 35 (dk_at dksX1_smoothBy_1 0 rfl rfl)
theorem dX1_smoothBy_25 : decode cX1_smoothBy 25 = .ok (.iconst 0, 1) := dk_3 (dk_at dksX1_smoothBy_1 3 rfl rfl)
theorem dX1_smoothBy_26 : decode cX1_smoothBy 26 = .ok (.istore 5, 2) := dk_54 5 (dk_at dksX1_smoothBy_1 4 rfl rfl)
theorem dX1_smoothBy_28 : decode cX1_smoothBy 28 = .ok (.iload 5, 2) := dk_21 5 (dk_at dksX1_smoothBy_1 6 rfl rfl)
theorem dX1_smoothBy_30 : decode cX1_smoothBy 30 = .ok (.aload_n 0, 1) := dk_42 (dk_at dksX1_smoothBy_1 8 rfl rfl)
theorem dX1_smoothBy_31 : decode cX1_smoothBy 31 = .ok (.getfield 44, 3) := dk_180 0 44 (dk_at dksX1_smoothBy_1 9 rfl rfl)
theorem dX1_smoothBy_34 : decode cX1_smoothBy 34 = .ok (.iload 4, 2) := dk_21 4 (dk_at dksX1_smoothBy_1 12 rfl rfl)
theorem dX1_smoothBy_36 : decode cX1_smoothBy 36 = .ok (.iaload, 1) := dk_46 (dk_at dksX1_smoothBy_1 14 rfl rfl)
theorem dX1_smoothBy_37 : decode cX1_smoothBy 37 = .ok (.if_icmp .ge 20, 3) := dk_162 0 20 (dk_at dksX1_smoothBy_1 15 rfl rfl)
theorem dX1_smoothBy_40 : decode cX1_smoothBy 40 = .ok (.lload_n 2, 1) := dk_32 (dk_at dksX1_smoothBy_1 18 rfl rfl)
theorem dX1_smoothBy_41 : decode cX1_smoothBy 41 = .ok (.aload_n 0, 1) := dk_42 (dk_at dksX1_smoothBy_1 19 rfl rfl)
theorem dX1_smoothBy_42 : decode cX1_smoothBy 42 = .ok (.getfield 40, 3) := dk_180 0 40 (dk_at dksX1_smoothBy_1 20 rfl rfl)
theorem dX1_smoothBy_45 : decode cX1_smoothBy 45 = .ok (.iload 4, 2) := dk_21 4 (dk_at dksX1_smoothBy_2 0 rfl rfl)
theorem dX1_smoothBy_47 : decode cX1_smoothBy 47 = .ok (.iaload, 1) := dk_46 (dk_at dksX1_smoothBy_2 2 rfl rfl)
theorem dX1_smoothBy_48 : decode cX1_smoothBy 48 = .ok (.i2l, 1) := dk_133 (dk_at dksX1_smoothBy_2 3 rfl rfl)
theorem dX1_smoothBy_49 : decode cX1_smoothBy 49 = .ok (.lmul, 1) := dk_105 (dk_at dksX1_smoothBy_2 4 rfl rfl)
theorem dX1_smoothBy_50 : decode cX1_smoothBy 50 = .ok (.lstore_n 2, 1) := dk_65 (dk_at dksX1_smoothBy_2 5 rfl rfl)
theorem dX1_smoothBy_51 : decode cX1_smoothBy 51 = .ok (.iinc 5 1, 3) := dk_132 5 1 (dk_at dksX1_smoothBy_2 6 rfl rfl)
theorem dX1_smoothBy_54 : decode cX1_smoothBy 54 = .ok (.goto (-26), 3) := dk_167 255 230 (dk_at dksX1_smoothBy_2 9 rfl rfl)
theorem dX1_smoothBy_57 : decode cX1_smoothBy 57 = .ok (.iinc 4 1, 3) := dk_132 4 1 (dk_at dksX1_smoothBy_2 12 rfl rfl)
theorem dX1_smoothBy_60 : decode cX1_smoothBy 60 = .ok (.goto (-55), 3) := dk_167 255 201 (dk_at dksX1_smoothBy_2 15 rfl rfl)
theorem dX1_smoothBy_63 : decode cX1_smoothBy 63 = .ok (.lload_n 2, 1) := dk_32 (dk_at dksX1_smoothBy_2 18 rfl rfl)
theorem dX1_smoothBy_64 : decode cX1_smoothBy 64 = .ok (.lreturn, 1) := dk_173 (dk_at dksX1_smoothBy_2 19 rfl rfl)
abbrev cX1_bound : ByteArray := prog_17_method_94_code
def yX1_bound : MethodName := ⟨RX1, "bound", "(I)I"⟩
def dkwX1_bound_2 : List UInt8 := [133, 148, 157, 0, 9, 132, 2, 1, 167, 255, 226, 42, 180, 0, 40, 28, 46, 172]
abbrev dktX1_bound_2 : List UInt8 := dkwX1_bound_2 ++ []
def dkwX1_bound_1 : List UInt8 := [3, 61, 42, 42, 180, 0, 40, 28, 46, 182, 1, 115, 42, 42, 180, 0, 40, 28, 46, 182, 1, 115, 105, 27]
abbrev dktX1_bound_1 : List UInt8 := dkwX1_bound_1 ++ dktX1_bound_2
def dkwX1_bound_0 : List UInt8 := [27, 133, 20, 0, 17, 20, 0, 9, 184, 0, 11, 154, 0, 5, 2, 172, 42, 27, 133, 10, 101, 182, 0, 204]
abbrev dktX1_bound_0 : List UInt8 := dkwX1_bound_0 ++ dktX1_bound_1
theorem dksX1_bound_0 : cX1_bound.data.toList.drop 0 = dktX1_bound_0 := by decide +kernel
theorem dksX1_bound_1 : cX1_bound.data.toList.drop 24 = dktX1_bound_1 := dk_seg dksX1_bound_0 24 rfl rfl
theorem dksX1_bound_2 : cX1_bound.data.toList.drop 48 = dktX1_bound_2 := dk_seg dksX1_bound_1 24 rfl rfl
theorem dX1_bound_0 : decode cX1_bound 0 = .ok (.iload_n 1, 1) := dk_27 (dk_at dksX1_bound_0 0 rfl rfl)
theorem dX1_bound_1 : decode cX1_bound 1 = .ok (.i2l, 1) := dk_133 (dk_at dksX1_bound_0 1 rfl rfl)
theorem dX1_bound_2 : decode cX1_bound 2 = .ok (.ldc2_w 17, 3) := dk_20 0 17 (dk_at dksX1_bound_0 2 rfl rfl)
theorem dX1_bound_5 : decode cX1_bound 5 = .ok (.ldc2_w 9, 3) := dk_20 0 9 (dk_at dksX1_bound_0 5 rfl rfl)
theorem dX1_bound_8 : decode cX1_bound 8 = .ok (.invokestatic 11, 3) := dk_184 0 11 (dk_at dksX1_bound_0 8 rfl rfl)
theorem dX1_bound_11 : decode cX1_bound 11 = .ok (.ifCond .ne 5, 3) := dk_154 0 5 (dk_at dksX1_bound_0 11 rfl rfl)
theorem dX1_bound_14 : decode cX1_bound 14 = .ok (.iconst (-1), 1) := dk_2 (dk_at dksX1_bound_0 14 rfl rfl)
theorem dX1_bound_15 : decode cX1_bound 15 = .ok (.ireturn, 1) := dk_172 (dk_at dksX1_bound_0 15 rfl rfl)
theorem dX1_bound_16 : decode cX1_bound 16 = .ok (.aload_n 0, 1) := dk_42 (dk_at dksX1_bound_0 16 rfl rfl)
theorem dX1_bound_17 : decode cX1_bound 17 = .ok (.iload_n 1, 1) := dk_27 (dk_at dksX1_bound_0 17 rfl rfl)
theorem dX1_bound_18 : decode cX1_bound 18 = .ok (.i2l, 1) := dk_133 (dk_at dksX1_bound_0 18 rfl rfl)
theorem dX1_bound_19 : decode cX1_bound 19 = .ok (.lconst 1, 1) := dk_10 (dk_at dksX1_bound_0 19 rfl rfl)
theorem dX1_bound_20 : decode cX1_bound 20 = .ok (.lsub, 1) := dk_101 (dk_at dksX1_bound_0 20 rfl rfl)
theorem dX1_bound_21 : decode cX1_bound 21 = .ok (.invokevirtual 204, 3) := dk_182 0 204 (dk_at dksX1_bound_0 21 rfl rfl)
theorem dX1_bound_24 : decode cX1_bound 24 = .ok (.iconst 0, 1) := dk_3 (dk_at dksX1_bound_1 0 rfl rfl)
theorem dX1_bound_25 : decode cX1_bound 25 = .ok (.istore_n 2, 1) := dk_61 (dk_at dksX1_bound_1 1 rfl rfl)
theorem dX1_bound_26 : decode cX1_bound 26 = .ok (.aload_n 0, 1) := dk_42 (dk_at dksX1_bound_1 2 rfl rfl)
theorem dX1_bound_27 : decode cX1_bound 27 = .ok (.aload_n 0, 1) := dk_42 (dk_at dksX1_bound_1 3 rfl rfl)
theorem dX1_bound_28 : decode cX1_bound 28 = .ok (.getfield 40, 3) := dk_180 0 40 (dk_at dksX1_bound_1 4 rfl rfl)
theorem dX1_bound_31 : decode cX1_bound 31 = .ok (.iload_n 2, 1) := dk_28 (dk_at dksX1_bound_1 7 rfl rfl)
theorem dX1_bound_32 : decode cX1_bound 32 = .ok (.iaload, 1) := dk_46 (dk_at dksX1_bound_1 8 rfl rfl)
theorem dX1_bound_33 : decode cX1_bound 33 = .ok (.invokevirtual 371, 3) := dk_182 1 115 (dk_at dksX1_bound_1 9 rfl rfl)
theorem dX1_bound_36 : decode cX1_bound 36 = .ok (.aload_n 0, 1) := dk_42 (dk_at dksX1_bound_1 12 rfl rfl)
theorem dX1_bound_37 : decode cX1_bound 37 = .ok (.aload_n 0, 1) := dk_42 (dk_at dksX1_bound_1 13 rfl rfl)
theorem dX1_bound_38 : decode cX1_bound 38 = .ok (.getfield 40, 3) := dk_180 0 40 (dk_at dksX1_bound_1 14 rfl rfl)
theorem dX1_bound_41 : decode cX1_bound 41 = .ok (.iload_n 2, 1) := dk_28 (dk_at dksX1_bound_1 17 rfl rfl)
theorem dX1_bound_42 : decode cX1_bound 42 = .ok (.iaload, 1) := dk_46 (dk_at dksX1_bound_1 18 rfl rfl)
theorem dX1_bound_43 : decode cX1_bound 43 = .ok (.invokevirtual 371, 3) := dk_182 1 115 (dk_at dksX1_bound_1 19 rfl rfl)
theorem dX1_bound_46 : decode cX1_bound 46 = .ok (.lmul, 1) := dk_105 (dk_at dksX1_bound_1 22 rfl rfl)
theorem dX1_bound_47 : decode cX1_bound 47 = .ok (.iload_n 1, 1) := dk_27 (dk_at dksX1_bound_1 23 rfl rfl)
theorem dX1_bound_48 : decode cX1_bound 48 = .ok (.i2l, 1) := dk_133 (dk_at dksX1_bound_2 0 rfl rfl)
theorem dX1_bound_49 : decode cX1_bound 49 = .ok (.lcmp, 1) := dk_148 (dk_at dksX1_bound_2 1 rfl rfl)
theorem dX1_bound_50 : decode cX1_bound 50 = .ok (.ifCond .gt 9, 3) := dk_157 0 9 (dk_at dksX1_bound_2 2 rfl rfl)
theorem dX1_bound_53 : decode cX1_bound 53 = .ok (.iinc 2 1, 3) := dk_132 2 1 (dk_at dksX1_bound_2 5 rfl rfl)
theorem dX1_bound_56 : decode cX1_bound 56 = .ok (.goto (-30), 3) := dk_167 255 226 (dk_at dksX1_bound_2 8 rfl rfl)
theorem dX1_bound_59 : decode cX1_bound 59 = .ok (.aload_n 0, 1) := dk_42 (dk_at dksX1_bound_2 11 rfl rfl)
theorem dX1_bound_60 : decode cX1_bound 60 = .ok (.getfield 40, 3) := dk_180 0 40 (dk_at dksX1_bound_2 12 rfl rfl)
theorem dX1_bound_63 : decode cX1_bound 63 = .ok (.iload_n 2, 1) := dk_28 (dk_at dksX1_bound_2 15 rfl rfl)
theorem dX1_bound_64 : decode cX1_bound 64 = .ok (.iaload, 1) := dk_46 (dk_at dksX1_bound_2 16 rfl rfl)
theorem dX1_bound_65 : decode cX1_bound 65 = .ok (.ireturn, 1) := dk_172 (dk_at dksX1_bound_2 17 rfl rfl)
abbrev cX1_chase : ByteArray := prog_17_method_95_code
def yX1_chase : MethodName := ⟨RX1, "chase", "(II)I"⟩
def dkwX1_chase_5 : List UInt8 := [167, 255, 173, 16, 254, 172]
abbrev dktX1_chase_5 : List UInt8 := dkwX1_chase_5 ++ []
def dkwX1_chase_4 : List UInt8 := [33, 101, 27, 133, 184, 0, 136, 55, 8, 22, 8, 10, 148, 153, 0, 7, 22, 8, 136, 172, 132, 7, 1]
abbrev dktX1_chase_4 : List UInt8 := dkwX1_chase_4 ++ dktX1_chase_5
def dkwX1_chase_3 : List UInt8 := [28, 133, 97, 27, 133, 113, 55, 5, 33, 22, 5, 148, 158, 0, 10, 33, 22, 5, 101, 167, 0, 7, 22, 5]
abbrev dktX1_chase_3 : List UInt8 := dkwX1_chase_3 ++ dktX1_chase_4
def dkwX1_chase_2 : List UInt8 := [133, 97, 27, 133, 113, 66, 22, 5, 22, 5, 105, 28, 133, 97, 27, 133, 113, 55, 5, 22, 5, 22, 5, 105]
abbrev dktX1_chase_2 : List UInt8 := dkwX1_chase_2 ++ dktX1_chase_3
def dkwX1_chase_1 : List UInt8 := [20, 0, 7, 66, 20, 0, 7, 55, 5, 3, 54, 7, 21, 7, 17, 3, 232, 162, 0, 81, 33, 33, 105, 28]
abbrev dktX1_chase_1 : List UInt8 := dkwX1_chase_1 ++ dktX1_chase_2
def dkwX1_chase_0 : List UInt8 := [27, 133, 184, 0, 226, 153, 0, 15, 28, 133, 10, 20, 1, 74, 184, 0, 11, 154, 0, 5, 2, 172]
abbrev dktX1_chase_0 : List UInt8 := dkwX1_chase_0 ++ dktX1_chase_1
theorem dksX1_chase_0 : cX1_chase.data.toList.drop 0 = dktX1_chase_0 := by decide +kernel
theorem dksX1_chase_1 : cX1_chase.data.toList.drop 22 = dktX1_chase_1 := dk_seg dksX1_chase_0 22 rfl rfl
theorem dksX1_chase_2 : cX1_chase.data.toList.drop 46 = dktX1_chase_2 := dk_seg dksX1_chase_1 24 rfl rfl
theorem dksX1_chase_3 : cX1_chase.data.toList.drop 70 = dktX1_chase_3 := dk_seg dksX1_chase_2 24 rfl rfl
theorem dksX1_chase_4 : cX1_chase.data.toList.drop 94 = dktX1_chase_4 := dk_seg dksX1_chase_3 24 rfl rfl
theorem dksX1_chase_5 : cX1_chase.data.toList.drop 117 = dktX1_chase_5 := dk_seg dksX1_chase_4 23 rfl rfl
theorem dX1_chase_0 : decode cX1_chase 0 = .ok (.iload_n 1, 1) := dk_27 (dk_at dksX1_chase_0 0 rfl rfl)
theorem dX1_chase_1 : decode cX1_chase 1 = .ok (.i2l, 1) := dk_133 (dk_at dksX1_chase_0 1 rfl rfl)
theorem dX1_chase_2 : decode cX1_chase 2 = .ok (.invokestatic 226, 3) := dk_184 0 226 (dk_at dksX1_chase_0 2 rfl rfl)
theorem dX1_chase_5 : decode cX1_chase 5 = .ok (.ifCond .eq 15, 3) := dk_153 0 15 (dk_at dksX1_chase_0 5 rfl rfl)
theorem dX1_chase_8 : decode cX1_chase 8 = .ok (.iload_n 2, 1) := dk_28 (dk_at dksX1_chase_0 8 rfl rfl)
theorem dX1_chase_9 : decode cX1_chase 9 = .ok (.i2l, 1) := dk_133 (dk_at dksX1_chase_0 9 rfl rfl)
theorem dX1_chase_10 : decode cX1_chase 10 = .ok (.lconst 1, 1) := dk_10 (dk_at dksX1_chase_0 10 rfl rfl)
theorem dX1_chase_11 : decode cX1_chase 11 = .ok (.ldc2_w 330, 3) := dk_20 1 74 (dk_at dksX1_chase_0 11 rfl rfl)
theorem dX1_chase_14 : decode cX1_chase 14 = .ok (.invokestatic 11, 3) := dk_184 0 11 (dk_at dksX1_chase_0 14 rfl rfl)
theorem dX1_chase_17 : decode cX1_chase 17 = .ok (.ifCond .ne 5, 3) := dk_154 0 5 (dk_at dksX1_chase_0 17 rfl rfl)
theorem dX1_chase_20 : decode cX1_chase 20 = .ok (.iconst (-1), 1) := dk_2 (dk_at dksX1_chase_0 20 rfl rfl)
theorem dX1_chase_21 : decode cX1_chase 21 = .ok (.ireturn, 1) := dk_172 (dk_at dksX1_chase_0 21 rfl rfl)
theorem dX1_chase_22 : decode cX1_chase 22 = .ok (.ldc2_w 7, 3) := dk_20 0 7 (dk_at dksX1_chase_1 0 rfl rfl)
theorem dX1_chase_25 : decode cX1_chase 25 = .ok (.lstore_n 3, 1) := dk_66 (dk_at dksX1_chase_1 3 rfl rfl)
theorem dX1_chase_26 : decode cX1_chase 26 = .ok (.ldc2_w 7, 3) := dk_20 0 7 (dk_at dksX1_chase_1 4 rfl rfl)
theorem dX1_chase_29 : decode cX1_chase 29 = .ok (.lstore 5, 2) := dk_55 5 (dk_at dksX1_chase_1 7 rfl rfl)
theorem dX1_chase_31 : decode cX1_chase 31 = .ok (.iconst 0, 1) := dk_3 (dk_at dksX1_chase_1 9 rfl rfl)
theorem dX1_chase_32 : decode cX1_chase 32 = .ok (.istore 7, 2) := dk_54 7 (dk_at dksX1_chase_1 10 rfl rfl)
theorem dX1_chase_34 : decode cX1_chase 34 = .ok (.iload 7, 2) := dk_21 7 (dk_at dksX1_chase_1 12 rfl rfl)
theorem dX1_chase_36 : decode cX1_chase 36 = .ok (.sipush 1000, 3) := dk_17 3 232 (dk_at dksX1_chase_1 14 rfl rfl)
theorem dX1_chase_39 : decode cX1_chase 39 = .ok (.if_icmp .ge 81, 3) := dk_162 0 81 (dk_at dksX1_chase_1 17 rfl rfl)
theorem dX1_chase_42 : decode cX1_chase 42 = .ok (.lload_n 3, 1) := dk_33 (dk_at dksX1_chase_1 20 rfl rfl)
theorem dX1_chase_43 : decode cX1_chase 43 = .ok (.lload_n 3, 1) := dk_33 (dk_at dksX1_chase_1 21 rfl rfl)
theorem dX1_chase_44 : decode cX1_chase 44 = .ok (.lmul, 1) := dk_105 (dk_at dksX1_chase_1 22 rfl rfl)
theorem dX1_chase_45 : decode cX1_chase 45 = .ok (.iload_n 2, 1) := dk_28 (dk_at dksX1_chase_1 23 rfl rfl)
theorem dX1_chase_46 : decode cX1_chase 46 = .ok (.i2l, 1) := dk_133 (dk_at dksX1_chase_2 0 rfl rfl)
theorem dX1_chase_47 : decode cX1_chase 47 = .ok (.ladd, 1) := dk_97 (dk_at dksX1_chase_2 1 rfl rfl)
theorem dX1_chase_48 : decode cX1_chase 48 = .ok (.iload_n 1, 1) := dk_27 (dk_at dksX1_chase_2 2 rfl rfl)
theorem dX1_chase_49 : decode cX1_chase 49 = .ok (.i2l, 1) := dk_133 (dk_at dksX1_chase_2 3 rfl rfl)
theorem dX1_chase_50 : decode cX1_chase 50 = .ok (.lrem, 1) := dk_113 (dk_at dksX1_chase_2 4 rfl rfl)
theorem dX1_chase_51 : decode cX1_chase 51 = .ok (.lstore_n 3, 1) := dk_66 (dk_at dksX1_chase_2 5 rfl rfl)
theorem dX1_chase_52 : decode cX1_chase 52 = .ok (.lload 5, 2) := dk_22 5 (dk_at dksX1_chase_2 6 rfl rfl)
theorem dX1_chase_54 : decode cX1_chase 54 = .ok (.lload 5, 2) := dk_22 5 (dk_at dksX1_chase_2 8 rfl rfl)
theorem dX1_chase_56 : decode cX1_chase 56 = .ok (.lmul, 1) := dk_105 (dk_at dksX1_chase_2 10 rfl rfl)
theorem dX1_chase_57 : decode cX1_chase 57 = .ok (.iload_n 2, 1) := dk_28 (dk_at dksX1_chase_2 11 rfl rfl)
theorem dX1_chase_58 : decode cX1_chase 58 = .ok (.i2l, 1) := dk_133 (dk_at dksX1_chase_2 12 rfl rfl)
theorem dX1_chase_59 : decode cX1_chase 59 = .ok (.ladd, 1) := dk_97 (dk_at dksX1_chase_2 13 rfl rfl)
theorem dX1_chase_60 : decode cX1_chase 60 = .ok (.iload_n 1, 1) := dk_27 (dk_at dksX1_chase_2 14 rfl rfl)
theorem dX1_chase_61 : decode cX1_chase 61 = .ok (.i2l, 1) := dk_133 (dk_at dksX1_chase_2 15 rfl rfl)
theorem dX1_chase_62 : decode cX1_chase 62 = .ok (.lrem, 1) := dk_113 (dk_at dksX1_chase_2 16 rfl rfl)
theorem dX1_chase_63 : decode cX1_chase 63 = .ok (.lstore 5, 2) := dk_55 5 (dk_at dksX1_chase_2 17 rfl rfl)
theorem dX1_chase_65 : decode cX1_chase 65 = .ok (.lload 5, 2) := dk_22 5 (dk_at dksX1_chase_2 19 rfl rfl)
theorem dX1_chase_67 : decode cX1_chase 67 = .ok (.lload 5, 2) := dk_22 5 (dk_at dksX1_chase_2 21 rfl rfl)
theorem dX1_chase_69 : decode cX1_chase 69 = .ok (.lmul, 1) := dk_105 (dk_at dksX1_chase_2 23 rfl rfl)
theorem dX1_chase_70 : decode cX1_chase 70 = .ok (.iload_n 2, 1) := dk_28 (dk_at dksX1_chase_3 0 rfl rfl)
theorem dX1_chase_71 : decode cX1_chase 71 = .ok (.i2l, 1) := dk_133 (dk_at dksX1_chase_3 1 rfl rfl)
theorem dX1_chase_72 : decode cX1_chase 72 = .ok (.ladd, 1) := dk_97 (dk_at dksX1_chase_3 2 rfl rfl)
theorem dX1_chase_73 : decode cX1_chase 73 = .ok (.iload_n 1, 1) := dk_27 (dk_at dksX1_chase_3 3 rfl rfl)
theorem dX1_chase_74 : decode cX1_chase 74 = .ok (.i2l, 1) := dk_133 (dk_at dksX1_chase_3 4 rfl rfl)
theorem dX1_chase_75 : decode cX1_chase 75 = .ok (.lrem, 1) := dk_113 (dk_at dksX1_chase_3 5 rfl rfl)
theorem dX1_chase_76 : decode cX1_chase 76 = .ok (.lstore 5, 2) := dk_55 5 (dk_at dksX1_chase_3 6 rfl rfl)
theorem dX1_chase_78 : decode cX1_chase 78 = .ok (.lload_n 3, 1) := dk_33 (dk_at dksX1_chase_3 8 rfl rfl)
theorem dX1_chase_79 : decode cX1_chase 79 = .ok (.lload 5, 2) := dk_22 5 (dk_at dksX1_chase_3 9 rfl rfl)
theorem dX1_chase_81 : decode cX1_chase 81 = .ok (.lcmp, 1) := dk_148 (dk_at dksX1_chase_3 11 rfl rfl)
theorem dX1_chase_82 : decode cX1_chase 82 = .ok (.ifCond .le 10, 3) := dk_158 0 10 (dk_at dksX1_chase_3 12 rfl rfl)
theorem dX1_chase_85 : decode cX1_chase 85 = .ok (.lload_n 3, 1) := dk_33 (dk_at dksX1_chase_3 15 rfl rfl)
theorem dX1_chase_86 : decode cX1_chase 86 = .ok (.lload 5, 2) := dk_22 5 (dk_at dksX1_chase_3 16 rfl rfl)
theorem dX1_chase_88 : decode cX1_chase 88 = .ok (.lsub, 1) := dk_101 (dk_at dksX1_chase_3 18 rfl rfl)
theorem dX1_chase_89 : decode cX1_chase 89 = .ok (.goto 7, 3) := dk_167 0 7 (dk_at dksX1_chase_3 19 rfl rfl)
theorem dX1_chase_92 : decode cX1_chase 92 = .ok (.lload 5, 2) := dk_22 5 (dk_at dksX1_chase_3 22 rfl rfl)
theorem dX1_chase_94 : decode cX1_chase 94 = .ok (.lload_n 3, 1) := dk_33 (dk_at dksX1_chase_4 0 rfl rfl)
theorem dX1_chase_95 : decode cX1_chase 95 = .ok (.lsub, 1) := dk_101 (dk_at dksX1_chase_4 1 rfl rfl)
theorem dX1_chase_96 : decode cX1_chase 96 = .ok (.iload_n 1, 1) := dk_27 (dk_at dksX1_chase_4 2 rfl rfl)
theorem dX1_chase_97 : decode cX1_chase 97 = .ok (.i2l, 1) := dk_133 (dk_at dksX1_chase_4 3 rfl rfl)
theorem dX1_chase_98 : decode cX1_chase 98 = .ok (.invokestatic 136, 3) := dk_184 0 136 (dk_at dksX1_chase_4 4 rfl rfl)
theorem dX1_chase_101 : decode cX1_chase 101 = .ok (.lstore 8, 2) := dk_55 8 (dk_at dksX1_chase_4 7 rfl rfl)
theorem dX1_chase_103 : decode cX1_chase 103 = .ok (.lload 8, 2) := dk_22 8 (dk_at dksX1_chase_4 9 rfl rfl)
theorem dX1_chase_105 : decode cX1_chase 105 = .ok (.lconst 1, 1) := dk_10 (dk_at dksX1_chase_4 11 rfl rfl)
theorem dX1_chase_106 : decode cX1_chase 106 = .ok (.lcmp, 1) := dk_148 (dk_at dksX1_chase_4 12 rfl rfl)
theorem dX1_chase_107 : decode cX1_chase 107 = .ok (.ifCond .eq 7, 3) := dk_153 0 7 (dk_at dksX1_chase_4 13 rfl rfl)
theorem dX1_chase_110 : decode cX1_chase 110 = .ok (.lload 8, 2) := dk_22 8 (dk_at dksX1_chase_4 16 rfl rfl)
theorem dX1_chase_112 : decode cX1_chase 112 = .ok (.l2i, 1) := dk_136 (dk_at dksX1_chase_4 18 rfl rfl)
theorem dX1_chase_113 : decode cX1_chase 113 = .ok (.ireturn, 1) := dk_172 (dk_at dksX1_chase_4 19 rfl rfl)
theorem dX1_chase_114 : decode cX1_chase 114 = .ok (.iinc 7 1, 3) := dk_132 7 1 (dk_at dksX1_chase_4 20 rfl rfl)
theorem dX1_chase_117 : decode cX1_chase 117 = .ok (.goto (-83), 3) := dk_167 255 173 (dk_at dksX1_chase_5 0 rfl rfl)
theorem dX1_chase_120 : decode cX1_chase 120 = .ok (.bipush (-2), 2) := dk_16 254 (dk_at dksX1_chase_5 3 rfl rfl)
theorem dX1_chase_122 : decode cX1_chase 122 = .ok (.ireturn, 1) := dk_172 (dk_at dksX1_chase_5 5 rfl rfl)
abbrev cX1_primes : ByteArray := prog_17_method_96_code
def yX1_primes : MethodName := ⟨RX1, "primes", "(II)I"⟩
def dkwX1_primes_2 : List UInt8 := [153, 0, 6, 132, 3, 1, 132, 4, 1, 167, 255, 235, 29, 172]
abbrev dktX1_primes_2 : List UInt8 := dkwX1_primes_2 ++ []
def dkwX1_primes_1 : List UInt8 := [161, 0, 5, 2, 172, 3, 62, 27, 54, 4, 21, 4, 28, 163, 0, 21, 21, 4, 133, 184, 0, 164]
abbrev dktX1_primes_1 : List UInt8 := dkwX1_primes_1 ++ dktX1_primes_2
def dkwX1_primes_0 : List UInt8 := [27, 155, 0, 24, 28, 27, 161, 0, 19, 28, 19, 1, 40, 163, 0, 12, 28, 27, 100, 17, 3, 232]
abbrev dktX1_primes_0 : List UInt8 := dkwX1_primes_0 ++ dktX1_primes_1
theorem dksX1_primes_0 : cX1_primes.data.toList.drop 0 = dktX1_primes_0 := by decide +kernel
theorem dksX1_primes_1 : cX1_primes.data.toList.drop 22 = dktX1_primes_1 := dk_seg dksX1_primes_0 22 rfl rfl
theorem dksX1_primes_2 : cX1_primes.data.toList.drop 44 = dktX1_primes_2 := dk_seg dksX1_primes_1 22 rfl rfl
theorem dX1_primes_0 : decode cX1_primes 0 = .ok (.iload_n 1, 1) := dk_27 (dk_at dksX1_primes_0 0 rfl rfl)
theorem dX1_primes_1 : decode cX1_primes 1 = .ok (.ifCond .lt 24, 3) := dk_155 0 24 (dk_at dksX1_primes_0 1 rfl rfl)
theorem dX1_primes_4 : decode cX1_primes 4 = .ok (.iload_n 2, 1) := dk_28 (dk_at dksX1_primes_0 4 rfl rfl)
theorem dX1_primes_5 : decode cX1_primes 5 = .ok (.iload_n 1, 1) := dk_27 (dk_at dksX1_primes_0 5 rfl rfl)
theorem dX1_primes_6 : decode cX1_primes 6 = .ok (.if_icmp .lt 19, 3) := dk_161 0 19 (dk_at dksX1_primes_0 6 rfl rfl)
theorem dX1_primes_9 : decode cX1_primes 9 = .ok (.iload_n 2, 1) := dk_28 (dk_at dksX1_primes_0 9 rfl rfl)
theorem dX1_primes_10 : decode cX1_primes 10 = .ok (.ldc_w 296, 3) := dk_19 1 40 (dk_at dksX1_primes_0 10 rfl rfl)
theorem dX1_primes_13 : decode cX1_primes 13 = .ok (.if_icmp .gt 12, 3) := dk_163 0 12 (dk_at dksX1_primes_0 13 rfl rfl)
theorem dX1_primes_16 : decode cX1_primes 16 = .ok (.iload_n 2, 1) := dk_28 (dk_at dksX1_primes_0 16 rfl rfl)
theorem dX1_primes_17 : decode cX1_primes 17 = .ok (.iload_n 1, 1) := dk_27 (dk_at dksX1_primes_0 17 rfl rfl)
theorem dX1_primes_18 : decode cX1_primes 18 = .ok (.isub, 1) := dk_100 (dk_at dksX1_primes_0 18 rfl rfl)
theorem dX1_primes_19 : decode cX1_primes 19 = .ok (.sipush 1000, 3) := dk_17 3 232 (dk_at dksX1_primes_0 19 rfl rfl)
theorem dX1_primes_22 : decode cX1_primes 22 = .ok (.if_icmp .lt 5, 3) := dk_161 0 5 (dk_at dksX1_primes_1 0 rfl rfl)
theorem dX1_primes_25 : decode cX1_primes 25 = .ok (.iconst (-1), 1) := dk_2 (dk_at dksX1_primes_1 3 rfl rfl)
theorem dX1_primes_26 : decode cX1_primes 26 = .ok (.ireturn, 1) := dk_172 (dk_at dksX1_primes_1 4 rfl rfl)
theorem dX1_primes_27 : decode cX1_primes 27 = .ok (.iconst 0, 1) := dk_3 (dk_at dksX1_primes_1 5 rfl rfl)
theorem dX1_primes_28 : decode cX1_primes 28 = .ok (.istore_n 3, 1) := dk_62 (dk_at dksX1_primes_1 6 rfl rfl)
theorem dX1_primes_29 : decode cX1_primes 29 = .ok (.iload_n 1, 1) := dk_27 (dk_at dksX1_primes_1 7 rfl rfl)
theorem dX1_primes_30 : decode cX1_primes 30 = .ok (.istore 4, 2) := dk_54 4 (dk_at dksX1_primes_1 8 rfl rfl)
theorem dX1_primes_32 : decode cX1_primes 32 = .ok (.iload 4, 2) := dk_21 4 (dk_at dksX1_primes_1 10 rfl rfl)
theorem dX1_primes_34 : decode cX1_primes 34 = .ok (.iload_n 2, 1) := dk_28 (dk_at dksX1_primes_1 12 rfl rfl)
theorem dX1_primes_35 : decode cX1_primes 35 = .ok (.if_icmp .gt 21, 3) := dk_163 0 21 (dk_at dksX1_primes_1 13 rfl rfl)
theorem dX1_primes_38 : decode cX1_primes 38 = .ok (.iload 4, 2) := dk_21 4 (dk_at dksX1_primes_1 16 rfl rfl)
theorem dX1_primes_40 : decode cX1_primes 40 = .ok (.i2l, 1) := dk_133 (dk_at dksX1_primes_1 18 rfl rfl)
theorem dX1_primes_41 : decode cX1_primes 41 = .ok (.invokestatic 164, 3) := dk_184 0 164 (dk_at dksX1_primes_1 19 rfl rfl)
theorem dX1_primes_44 : decode cX1_primes 44 = .ok (.ifCond .eq 6, 3) := dk_153 0 6 (dk_at dksX1_primes_2 0 rfl rfl)
theorem dX1_primes_47 : decode cX1_primes 47 = .ok (.iinc 3 1, 3) := dk_132 3 1 (dk_at dksX1_primes_2 3 rfl rfl)
theorem dX1_primes_50 : decode cX1_primes 50 = .ok (.iinc 4 1, 3) := dk_132 4 1 (dk_at dksX1_primes_2 6 rfl rfl)
theorem dX1_primes_53 : decode cX1_primes 53 = .ok (.goto (-21), 3) := dk_167 255 235 (dk_at dksX1_primes_2 9 rfl rfl)
theorem dX1_primes_56 : decode cX1_primes 56 = .ok (.iload_n 3, 1) := dk_29 (dk_at dksX1_primes_2 12 rfl rfl)
theorem dX1_primes_57 : decode cX1_primes 57 = .ok (.ireturn, 1) := dk_172 (dk_at dksX1_primes_2 13 rfl rfl)
abbrev cX1_passes : ByteArray := prog_17_method_99_code
def yX1_passes : MethodName := ⟨RX1, "passes", "(II)I"⟩
def dkwX1_passes_1 : List UInt8 := [161, 0, 5, 2, 172, 27, 133, 28, 133, 184, 1, 121, 153, 0, 7, 4, 167, 0, 4, 3, 172]
abbrev dktX1_passes_1 : List UInt8 := dkwX1_passes_1 ++ []
def dkwX1_passes_0 : List UInt8 := [27, 184, 1, 118, 153, 0, 22, 28, 133, 20, 0, 7, 20, 1, 78, 184, 0, 11, 153, 0, 8, 28, 27]
abbrev dktX1_passes_0 : List UInt8 := dkwX1_passes_0 ++ dktX1_passes_1
theorem dksX1_passes_0 : cX1_passes.data.toList.drop 0 = dktX1_passes_0 := by decide +kernel
theorem dksX1_passes_1 : cX1_passes.data.toList.drop 23 = dktX1_passes_1 := dk_seg dksX1_passes_0 23 rfl rfl
theorem dX1_passes_0 : decode cX1_passes 0 = .ok (.iload_n 1, 1) := dk_27 (dk_at dksX1_passes_0 0 rfl rfl)
theorem dX1_passes_1 : decode cX1_passes 1 = .ok (.invokestatic 374, 3) := dk_184 1 118 (dk_at dksX1_passes_0 1 rfl rfl)
theorem dX1_passes_4 : decode cX1_passes 4 = .ok (.ifCond .eq 22, 3) := dk_153 0 22 (dk_at dksX1_passes_0 4 rfl rfl)
theorem dX1_passes_7 : decode cX1_passes 7 = .ok (.iload_n 2, 1) := dk_28 (dk_at dksX1_passes_0 7 rfl rfl)
theorem dX1_passes_8 : decode cX1_passes 8 = .ok (.i2l, 1) := dk_133 (dk_at dksX1_passes_0 8 rfl rfl)
theorem dX1_passes_9 : decode cX1_passes 9 = .ok (.ldc2_w 7, 3) := dk_20 0 7 (dk_at dksX1_passes_0 9 rfl rfl)
theorem dX1_passes_12 : decode cX1_passes 12 = .ok (.ldc2_w 334, 3) := dk_20 1 78 (dk_at dksX1_passes_0 12 rfl rfl)
theorem dX1_passes_15 : decode cX1_passes 15 = .ok (.invokestatic 11, 3) := dk_184 0 11 (dk_at dksX1_passes_0 15 rfl rfl)
theorem dX1_passes_18 : decode cX1_passes 18 = .ok (.ifCond .eq 8, 3) := dk_153 0 8 (dk_at dksX1_passes_0 18 rfl rfl)
theorem dX1_passes_21 : decode cX1_passes 21 = .ok (.iload_n 2, 1) := dk_28 (dk_at dksX1_passes_0 21 rfl rfl)
theorem dX1_passes_22 : decode cX1_passes 22 = .ok (.iload_n 1, 1) := dk_27 (dk_at dksX1_passes_0 22 rfl rfl)
theorem dX1_passes_23 : decode cX1_passes 23 = .ok (.if_icmp .lt 5, 3) := dk_161 0 5 (dk_at dksX1_passes_1 0 rfl rfl)
theorem dX1_passes_26 : decode cX1_passes 26 = .ok (.iconst (-1), 1) := dk_2 (dk_at dksX1_passes_1 3 rfl rfl)
theorem dX1_passes_27 : decode cX1_passes 27 = .ok (.ireturn, 1) := dk_172 (dk_at dksX1_passes_1 4 rfl rfl)
theorem dX1_passes_28 : decode cX1_passes 28 = .ok (.iload_n 1, 1) := dk_27 (dk_at dksX1_passes_1 5 rfl rfl)
theorem dX1_passes_29 : decode cX1_passes 29 = .ok (.i2l, 1) := dk_133 (dk_at dksX1_passes_1 6 rfl rfl)
theorem dX1_passes_30 : decode cX1_passes 30 = .ok (.iload_n 2, 1) := dk_28 (dk_at dksX1_passes_1 7 rfl rfl)
theorem dX1_passes_31 : decode cX1_passes 31 = .ok (.i2l, 1) := dk_133 (dk_at dksX1_passes_1 8 rfl rfl)
theorem dX1_passes_32 : decode cX1_passes 32 = .ok (.invokestatic 377, 3) := dk_184 1 121 (dk_at dksX1_passes_1 9 rfl rfl)
theorem dX1_passes_35 : decode cX1_passes 35 = .ok (.ifCond .eq 7, 3) := dk_153 0 7 (dk_at dksX1_passes_1 12 rfl rfl)
theorem dX1_passes_38 : decode cX1_passes 38 = .ok (.iconst 1, 1) := dk_4 (dk_at dksX1_passes_1 15 rfl rfl)
theorem dX1_passes_39 : decode cX1_passes 39 = .ok (.goto 4, 3) := dk_167 0 4 (dk_at dksX1_passes_1 16 rfl rfl)
theorem dX1_passes_42 : decode cX1_passes 42 = .ok (.iconst 0, 1) := dk_3 (dk_at dksX1_passes_1 19 rfl rfl)
theorem dX1_passes_43 : decode cX1_passes 43 = .ok (.ireturn, 1) := dk_172 (dk_at dksX1_passes_1 20 rfl rfl)
abbrev cX1_isOdd : ByteArray := prog_17_method_97_code
def yX1_isOdd : MethodName := ⟨RX1, "isOdd", "(I)Z"⟩
def dkwX1_isOdd_1 : List UInt8 := [167, 0, 4, 3, 172]
abbrev dktX1_isOdd_1 : List UInt8 := dkwX1_isOdd_1 ++ []
def dkwX1_isOdd_0 : List UInt8 := [26, 133, 20, 0, 17, 20, 0, 9, 184, 0, 11, 153, 0, 14, 26, 5, 112, 4, 160, 0, 7, 4]
abbrev dktX1_isOdd_0 : List UInt8 := dkwX1_isOdd_0 ++ dktX1_isOdd_1
theorem dksX1_isOdd_0 : cX1_isOdd.data.toList.drop 0 = dktX1_isOdd_0 := by decide +kernel
theorem dksX1_isOdd_1 : cX1_isOdd.data.toList.drop 22 = dktX1_isOdd_1 := dk_seg dksX1_isOdd_0 22 rfl rfl
theorem dX1_isOdd_0 : decode cX1_isOdd 0 = .ok (.iload_n 0, 1) := dk_26 (dk_at dksX1_isOdd_0 0 rfl rfl)
theorem dX1_isOdd_1 : decode cX1_isOdd 1 = .ok (.i2l, 1) := dk_133 (dk_at dksX1_isOdd_0 1 rfl rfl)
theorem dX1_isOdd_2 : decode cX1_isOdd 2 = .ok (.ldc2_w 17, 3) := dk_20 0 17 (dk_at dksX1_isOdd_0 2 rfl rfl)
theorem dX1_isOdd_5 : decode cX1_isOdd 5 = .ok (.ldc2_w 9, 3) := dk_20 0 9 (dk_at dksX1_isOdd_0 5 rfl rfl)
theorem dX1_isOdd_8 : decode cX1_isOdd 8 = .ok (.invokestatic 11, 3) := dk_184 0 11 (dk_at dksX1_isOdd_0 8 rfl rfl)
theorem dX1_isOdd_11 : decode cX1_isOdd 11 = .ok (.ifCond .eq 14, 3) := dk_153 0 14 (dk_at dksX1_isOdd_0 11 rfl rfl)
theorem dX1_isOdd_14 : decode cX1_isOdd 14 = .ok (.iload_n 0, 1) := dk_26 (dk_at dksX1_isOdd_0 14 rfl rfl)
theorem dX1_isOdd_15 : decode cX1_isOdd 15 = .ok (.iconst 2, 1) := dk_5 (dk_at dksX1_isOdd_0 15 rfl rfl)
theorem dX1_isOdd_16 : decode cX1_isOdd 16 = .ok (.irem, 1) := dk_112 (dk_at dksX1_isOdd_0 16 rfl rfl)
theorem dX1_isOdd_17 : decode cX1_isOdd 17 = .ok (.iconst 1, 1) := dk_4 (dk_at dksX1_isOdd_0 17 rfl rfl)
theorem dX1_isOdd_18 : decode cX1_isOdd 18 = .ok (.if_icmp .ne 7, 3) := dk_160 0 7 (dk_at dksX1_isOdd_0 18 rfl rfl)
theorem dX1_isOdd_21 : decode cX1_isOdd 21 = .ok (.iconst 1, 1) := dk_4 (dk_at dksX1_isOdd_0 21 rfl rfl)
theorem dX1_isOdd_22 : decode cX1_isOdd 22 = .ok (.goto 4, 3) := dk_167 0 4 (dk_at dksX1_isOdd_1 0 rfl rfl)
theorem dX1_isOdd_25 : decode cX1_isOdd 25 = .ok (.iconst 0, 1) := dk_3 (dk_at dksX1_isOdd_1 3 rfl rfl)
theorem dX1_isOdd_26 : decode cX1_isOdd 26 = .ok (.ireturn, 1) := dk_172 (dk_at dksX1_isOdd_1 4 rfl rfl)
abbrev cX1_doesPass : ByteArray := prog_17_method_98_code
def yX1_doesPass : MethodName := ⟨RX1, "doesPass", "(JJ)Z"⟩
def dkwX1_doesPass_3 : List UInt8 := [55, 6, 22, 4, 20, 0, 7, 105, 55, 4, 167, 255, 219, 3, 172]
abbrev dktX1_doesPass_3 : List UInt8 := dkwX1_doesPass_3 ++ []
def dkwX1_doesPass_2 : List UInt8 := [10, 101, 148, 156, 0, 34, 22, 6, 30, 10, 101, 148, 154, 0, 5, 4, 172, 22, 6, 22, 6, 105, 30, 113]
abbrev dktX1_doesPass_2 : List UInt8 := dkwX1_doesPass_2 ++ dktX1_doesPass_3
def dkwX1_doesPass_1 : List UInt8 := [167, 255, 237, 32, 22, 4, 30, 184, 0, 152, 55, 6, 22, 6, 10, 148, 154, 0, 5, 4, 172, 22, 4, 30]
abbrev dktX1_doesPass_1 : List UInt8 := dkwX1_doesPass_1 ++ dktX1_doesPass_2
def dkwX1_doesPass_0 : List UInt8 := [30, 10, 101, 55, 4, 22, 4, 20, 0, 7, 113, 9, 148, 154, 0, 14, 22, 4, 20, 0, 7, 109, 55, 4]
abbrev dktX1_doesPass_0 : List UInt8 := dkwX1_doesPass_0 ++ dktX1_doesPass_1
theorem dksX1_doesPass_0 : cX1_doesPass.data.toList.drop 0 = dktX1_doesPass_0 := by decide +kernel
theorem dksX1_doesPass_1 : cX1_doesPass.data.toList.drop 24 = dktX1_doesPass_1 := dk_seg dksX1_doesPass_0 24 rfl rfl
theorem dksX1_doesPass_2 : cX1_doesPass.data.toList.drop 48 = dktX1_doesPass_2 := dk_seg dksX1_doesPass_1 24 rfl rfl
theorem dksX1_doesPass_3 : cX1_doesPass.data.toList.drop 72 = dktX1_doesPass_3 := dk_seg dksX1_doesPass_2 24 rfl rfl
theorem dX1_doesPass_0 : decode cX1_doesPass 0 = .ok (.lload_n 0, 1) := dk_30 (dk_at dksX1_doesPass_0 0 rfl rfl)
theorem dX1_doesPass_1 : decode cX1_doesPass 1 = .ok (.lconst 1, 1) := dk_10 (dk_at dksX1_doesPass_0 1 rfl rfl)
theorem dX1_doesPass_2 : decode cX1_doesPass 2 = .ok (.lsub, 1) := dk_101 (dk_at dksX1_doesPass_0 2 rfl rfl)
theorem dX1_doesPass_3 : decode cX1_doesPass 3 = .ok (.lstore 4, 2) := dk_55 4 (dk_at dksX1_doesPass_0 3 rfl rfl)
theorem dX1_doesPass_5 : decode cX1_doesPass 5 = .ok (.lload 4, 2) := dk_22 4 (dk_at dksX1_doesPass_0 5 rfl rfl)
theorem dX1_doesPass_7 : decode cX1_doesPass 7 = .ok (.ldc2_w 7, 3) := dk_20 0 7 (dk_at dksX1_doesPass_0 7 rfl rfl)
theorem dX1_doesPass_10 : decode cX1_doesPass 10 = .ok (.lrem, 1) := dk_113 (dk_at dksX1_doesPass_0 10 rfl rfl)
theorem dX1_doesPass_11 : decode cX1_doesPass 11 = .ok (.lconst 0, 1) := dk_9 (dk_at dksX1_doesPass_0 11 rfl rfl)
theorem dX1_doesPass_12 : decode cX1_doesPass 12 = .ok (.lcmp, 1) := dk_148 (dk_at dksX1_doesPass_0 12 rfl rfl)
theorem dX1_doesPass_13 : decode cX1_doesPass 13 = .ok (.ifCond .ne 14, 3) := dk_154 0 14 (dk_at dksX1_doesPass_0 13 rfl rfl)
theorem dX1_doesPass_16 : decode cX1_doesPass 16 = .ok (.lload 4, 2) := dk_22 4 (dk_at dksX1_doesPass_0 16 rfl rfl)
theorem dX1_doesPass_18 : decode cX1_doesPass 18 = .ok (.ldc2_w 7, 3) := dk_20 0 7 (dk_at dksX1_doesPass_0 18 rfl rfl)
theorem dX1_doesPass_21 : decode cX1_doesPass 21 = .ok (.ldiv, 1) := dk_109 (dk_at dksX1_doesPass_0 21 rfl rfl)
theorem dX1_doesPass_22 : decode cX1_doesPass 22 = .ok (.lstore 4, 2) := dk_55 4 (dk_at dksX1_doesPass_0 22 rfl rfl)
theorem dX1_doesPass_24 : decode cX1_doesPass 24 = .ok (.goto (-19), 3) := dk_167 255 237 (dk_at dksX1_doesPass_1 0 rfl rfl)
theorem dX1_doesPass_27 : decode cX1_doesPass 27 = .ok (.lload_n 2, 1) := dk_32 (dk_at dksX1_doesPass_1 3 rfl rfl)
theorem dX1_doesPass_28 : decode cX1_doesPass 28 = .ok (.lload 4, 2) := dk_22 4 (dk_at dksX1_doesPass_1 4 rfl rfl)
theorem dX1_doesPass_30 : decode cX1_doesPass 30 = .ok (.lload_n 0, 1) := dk_30 (dk_at dksX1_doesPass_1 6 rfl rfl)
theorem dX1_doesPass_31 : decode cX1_doesPass 31 = .ok (.invokestatic 152, 3) := dk_184 0 152 (dk_at dksX1_doesPass_1 7 rfl rfl)
theorem dX1_doesPass_34 : decode cX1_doesPass 34 = .ok (.lstore 6, 2) := dk_55 6 (dk_at dksX1_doesPass_1 10 rfl rfl)
theorem dX1_doesPass_36 : decode cX1_doesPass 36 = .ok (.lload 6, 2) := dk_22 6 (dk_at dksX1_doesPass_1 12 rfl rfl)
theorem dX1_doesPass_38 : decode cX1_doesPass 38 = .ok (.lconst 1, 1) := dk_10 (dk_at dksX1_doesPass_1 14 rfl rfl)
theorem dX1_doesPass_39 : decode cX1_doesPass 39 = .ok (.lcmp, 1) := dk_148 (dk_at dksX1_doesPass_1 15 rfl rfl)
theorem dX1_doesPass_40 : decode cX1_doesPass 40 = .ok (.ifCond .ne 5, 3) := dk_154 0 5 (dk_at dksX1_doesPass_1 16 rfl rfl)
theorem dX1_doesPass_43 : decode cX1_doesPass 43 = .ok (.iconst 1, 1) := dk_4 (dk_at dksX1_doesPass_1 19 rfl rfl)
theorem dX1_doesPass_44 : decode cX1_doesPass 44 = .ok (.ireturn, 1) := dk_172 (dk_at dksX1_doesPass_1 20 rfl rfl)
theorem dX1_doesPass_45 : decode cX1_doesPass 45 = .ok (.lload 4, 2) := dk_22 4 (dk_at dksX1_doesPass_1 21 rfl rfl)
theorem dX1_doesPass_47 : decode cX1_doesPass 47 = .ok (.lload_n 0, 1) := dk_30 (dk_at dksX1_doesPass_1 23 rfl rfl)
theorem dX1_doesPass_48 : decode cX1_doesPass 48 = .ok (.lconst 1, 1) := dk_10 (dk_at dksX1_doesPass_2 0 rfl rfl)
theorem dX1_doesPass_49 : decode cX1_doesPass 49 = .ok (.lsub, 1) := dk_101 (dk_at dksX1_doesPass_2 1 rfl rfl)
theorem dX1_doesPass_50 : decode cX1_doesPass 50 = .ok (.lcmp, 1) := dk_148 (dk_at dksX1_doesPass_2 2 rfl rfl)
theorem dX1_doesPass_51 : decode cX1_doesPass 51 = .ok (.ifCond .ge 34, 3) := dk_156 0 34 (dk_at dksX1_doesPass_2 3 rfl rfl)
theorem dX1_doesPass_54 : decode cX1_doesPass 54 = .ok (.lload 6, 2) := dk_22 6 (dk_at dksX1_doesPass_2 6 rfl rfl)
theorem dX1_doesPass_56 : decode cX1_doesPass 56 = .ok (.lload_n 0, 1) := dk_30 (dk_at dksX1_doesPass_2 8 rfl rfl)
theorem dX1_doesPass_57 : decode cX1_doesPass 57 = .ok (.lconst 1, 1) := dk_10 (dk_at dksX1_doesPass_2 9 rfl rfl)
theorem dX1_doesPass_58 : decode cX1_doesPass 58 = .ok (.lsub, 1) := dk_101 (dk_at dksX1_doesPass_2 10 rfl rfl)
theorem dX1_doesPass_59 : decode cX1_doesPass 59 = .ok (.lcmp, 1) := dk_148 (dk_at dksX1_doesPass_2 11 rfl rfl)
theorem dX1_doesPass_60 : decode cX1_doesPass 60 = .ok (.ifCond .ne 5, 3) := dk_154 0 5 (dk_at dksX1_doesPass_2 12 rfl rfl)
theorem dX1_doesPass_63 : decode cX1_doesPass 63 = .ok (.iconst 1, 1) := dk_4 (dk_at dksX1_doesPass_2 15 rfl rfl)
theorem dX1_doesPass_64 : decode cX1_doesPass 64 = .ok (.ireturn, 1) := dk_172 (dk_at dksX1_doesPass_2 16 rfl rfl)
theorem dX1_doesPass_65 : decode cX1_doesPass 65 = .ok (.lload 6, 2) := dk_22 6 (dk_at dksX1_doesPass_2 17 rfl rfl)
theorem dX1_doesPass_67 : decode cX1_doesPass 67 = .ok (.lload 6, 2) := dk_22 6 (dk_at dksX1_doesPass_2 19 rfl rfl)
theorem dX1_doesPass_69 : decode cX1_doesPass 69 = .ok (.lmul, 1) := dk_105 (dk_at dksX1_doesPass_2 21 rfl rfl)
theorem dX1_doesPass_70 : decode cX1_doesPass 70 = .ok (.lload_n 0, 1) := dk_30 (dk_at dksX1_doesPass_2 22 rfl rfl)
theorem dX1_doesPass_71 : decode cX1_doesPass 71 = .ok (.lrem, 1) := dk_113 (dk_at dksX1_doesPass_2 23 rfl rfl)
theorem dX1_doesPass_72 : decode cX1_doesPass 72 = .ok (.lstore 6, 2) := dk_55 6 (dk_at dksX1_doesPass_3 0 rfl rfl)
theorem dX1_doesPass_74 : decode cX1_doesPass 74 = .ok (.lload 4, 2) := dk_22 4 (dk_at dksX1_doesPass_3 2 rfl rfl)
theorem dX1_doesPass_76 : decode cX1_doesPass 76 = .ok (.ldc2_w 7, 3) := dk_20 0 7 (dk_at dksX1_doesPass_3 4 rfl rfl)
theorem dX1_doesPass_79 : decode cX1_doesPass 79 = .ok (.lmul, 1) := dk_105 (dk_at dksX1_doesPass_3 7 rfl rfl)
theorem dX1_doesPass_80 : decode cX1_doesPass 80 = .ok (.lstore 4, 2) := dk_55 4 (dk_at dksX1_doesPass_3 8 rfl rfl)
theorem dX1_doesPass_82 : decode cX1_doesPass 82 = .ok (.goto (-37), 3) := dk_167 255 219 (dk_at dksX1_doesPass_3 10 rfl rfl)
theorem dX1_doesPass_85 : decode cX1_doesPass 85 = .ok (.iconst 0, 1) := dk_3 (dk_at dksX1_doesPass_3 13 rfl rfl)
theorem dX1_doesPass_86 : decode cX1_doesPass 86 = .ok (.ireturn, 1) := dk_172 (dk_at dksX1_doesPass_3 14 rfl rfl)
abbrev cX1_fools : ByteArray := prog_17_method_100_code
def yX1_fools : MethodName := ⟨RX1, "fools", "(II)I"⟩
def dkwX1_fools_3 : List UInt8 := [167, 255, 213, 28, 154, 0, 7, 29, 167, 0, 5, 21, 4, 172]
abbrev dktX1_fools_3 : List UInt8 := dkwX1_fools_3 ++ []
def dkwX1_fools_2 : List UInt8 := [184, 1, 121, 153, 0, 9, 132, 3, 1, 167, 0, 12, 21, 4, 154, 0, 7, 21, 5, 54, 4, 132, 5, 1]
abbrev dktX1_fools_2 : List UInt8 := dkwX1_fools_2 ++ dktX1_fools_3
def dkwX1_fools_1 : List UInt8 := [5, 54, 5, 21, 5, 17, 3, 231, 163, 0, 41, 21, 5, 27, 162, 0, 35, 27, 133, 21, 5, 133]
abbrev dktX1_fools_1 : List UInt8 := dkwX1_fools_1 ++ dktX1_fools_2
def dkwX1_fools_0 : List UInt8 := [27, 184, 1, 118, 153, 0, 13, 28, 133, 9, 10, 184, 0, 11, 154, 0, 5, 2, 172, 3, 62, 3, 54, 4]
abbrev dktX1_fools_0 : List UInt8 := dkwX1_fools_0 ++ dktX1_fools_1
theorem dksX1_fools_0 : cX1_fools.data.toList.drop 0 = dktX1_fools_0 := by decide +kernel
theorem dksX1_fools_1 : cX1_fools.data.toList.drop 24 = dktX1_fools_1 := dk_seg dksX1_fools_0 24 rfl rfl
theorem dksX1_fools_2 : cX1_fools.data.toList.drop 46 = dktX1_fools_2 := dk_seg dksX1_fools_1 22 rfl rfl
theorem dksX1_fools_3 : cX1_fools.data.toList.drop 70 = dktX1_fools_3 := dk_seg dksX1_fools_2 24 rfl rfl
theorem dX1_fools_0 : decode cX1_fools 0 = .ok (.iload_n 1, 1) := dk_27 (dk_at dksX1_fools_0 0 rfl rfl)
theorem dX1_fools_1 : decode cX1_fools 1 = .ok (.invokestatic 374, 3) := dk_184 1 118 (dk_at dksX1_fools_0 1 rfl rfl)
theorem dX1_fools_4 : decode cX1_fools 4 = .ok (.ifCond .eq 13, 3) := dk_153 0 13 (dk_at dksX1_fools_0 4 rfl rfl)
theorem dX1_fools_7 : decode cX1_fools 7 = .ok (.iload_n 2, 1) := dk_28 (dk_at dksX1_fools_0 7 rfl rfl)
theorem dX1_fools_8 : decode cX1_fools 8 = .ok (.i2l, 1) := dk_133 (dk_at dksX1_fools_0 8 rfl rfl)
theorem dX1_fools_9 : decode cX1_fools 9 = .ok (.lconst 0, 1) := dk_9 (dk_at dksX1_fools_0 9 rfl rfl)
theorem dX1_fools_10 : decode cX1_fools 10 = .ok (.lconst 1, 1) := dk_10 (dk_at dksX1_fools_0 10 rfl rfl)
theorem dX1_fools_11 : decode cX1_fools 11 = .ok (.invokestatic 11, 3) := dk_184 0 11 (dk_at dksX1_fools_0 11 rfl rfl)
theorem dX1_fools_14 : decode cX1_fools 14 = .ok (.ifCond .ne 5, 3) := dk_154 0 5 (dk_at dksX1_fools_0 14 rfl rfl)
theorem dX1_fools_17 : decode cX1_fools 17 = .ok (.iconst (-1), 1) := dk_2 (dk_at dksX1_fools_0 17 rfl rfl)
theorem dX1_fools_18 : decode cX1_fools 18 = .ok (.ireturn, 1) := dk_172 (dk_at dksX1_fools_0 18 rfl rfl)
theorem dX1_fools_19 : decode cX1_fools 19 = .ok (.iconst 0, 1) := dk_3 (dk_at dksX1_fools_0 19 rfl rfl)
theorem dX1_fools_20 : decode cX1_fools 20 = .ok (.istore_n 3, 1) := dk_62 (dk_at dksX1_fools_0 20 rfl rfl)
theorem dX1_fools_21 : decode cX1_fools 21 = .ok (.iconst 0, 1) := dk_3 (dk_at dksX1_fools_0 21 rfl rfl)
theorem dX1_fools_22 : decode cX1_fools 22 = .ok (.istore 4, 2) := dk_54 4 (dk_at dksX1_fools_0 22 rfl rfl)
theorem dX1_fools_24 : decode cX1_fools 24 = .ok (.iconst 2, 1) := dk_5 (dk_at dksX1_fools_1 0 rfl rfl)
theorem dX1_fools_25 : decode cX1_fools 25 = .ok (.istore 5, 2) := dk_54 5 (dk_at dksX1_fools_1 1 rfl rfl)
theorem dX1_fools_27 : decode cX1_fools 27 = .ok (.iload 5, 2) := dk_21 5 (dk_at dksX1_fools_1 3 rfl rfl)
theorem dX1_fools_29 : decode cX1_fools 29 = .ok (.sipush 999, 3) := dk_17 3 231 (dk_at dksX1_fools_1 5 rfl rfl)
theorem dX1_fools_32 : decode cX1_fools 32 = .ok (.if_icmp .gt 41, 3) := dk_163 0 41 (dk_at dksX1_fools_1 8 rfl rfl)
theorem dX1_fools_35 : decode cX1_fools 35 = .ok (.iload 5, 2) := dk_21 5 (dk_at dksX1_fools_1 11 rfl rfl)
theorem dX1_fools_37 : decode cX1_fools 37 = .ok (.iload_n 1, 1) := dk_27 (dk_at dksX1_fools_1 13 rfl rfl)
theorem dX1_fools_38 : decode cX1_fools 38 = .ok (.if_icmp .ge 35, 3) := dk_162 0 35 (dk_at dksX1_fools_1 14 rfl rfl)
theorem dX1_fools_41 : decode cX1_fools 41 = .ok (.iload_n 1, 1) := dk_27 (dk_at dksX1_fools_1 17 rfl rfl)
theorem dX1_fools_42 : decode cX1_fools 42 = .ok (.i2l, 1) := dk_133 (dk_at dksX1_fools_1 18 rfl rfl)
theorem dX1_fools_43 : decode cX1_fools 43 = .ok (.iload 5, 2) := dk_21 5 (dk_at dksX1_fools_1 19 rfl rfl)
theorem dX1_fools_45 : decode cX1_fools 45 = .ok (.i2l, 1) := dk_133 (dk_at dksX1_fools_1 21 rfl rfl)
theorem dX1_fools_46 : decode cX1_fools 46 = .ok (.invokestatic 377, 3) := dk_184 1 121 (dk_at dksX1_fools_2 0 rfl rfl)
theorem dX1_fools_49 : decode cX1_fools 49 = .ok (.ifCond .eq 9, 3) := dk_153 0 9 (dk_at dksX1_fools_2 3 rfl rfl)
theorem dX1_fools_52 : decode cX1_fools 52 = .ok (.iinc 3 1, 3) := dk_132 3 1 (dk_at dksX1_fools_2 6 rfl rfl)
theorem dX1_fools_55 : decode cX1_fools 55 = .ok (.goto 12, 3) := dk_167 0 12 (dk_at dksX1_fools_2 9 rfl rfl)
theorem dX1_fools_58 : decode cX1_fools 58 = .ok (.iload 4, 2) := dk_21 4 (dk_at dksX1_fools_2 12 rfl rfl)
theorem dX1_fools_60 : decode cX1_fools 60 = .ok (.ifCond .ne 7, 3) := dk_154 0 7 (dk_at dksX1_fools_2 14 rfl rfl)
theorem dX1_fools_63 : decode cX1_fools 63 = .ok (.iload 5, 2) := dk_21 5 (dk_at dksX1_fools_2 17 rfl rfl)
theorem dX1_fools_65 : decode cX1_fools 65 = .ok (.istore 4, 2) := dk_54 4 (dk_at dksX1_fools_2 19 rfl rfl)
theorem dX1_fools_67 : decode cX1_fools 67 = .ok (.iinc 5 1, 3) := dk_132 5 1 (dk_at dksX1_fools_2 21 rfl rfl)
theorem dX1_fools_70 : decode cX1_fools 70 = .ok (.goto (-43), 3) := dk_167 255 213 (dk_at dksX1_fools_3 0 rfl rfl)
theorem dX1_fools_73 : decode cX1_fools 73 = .ok (.iload_n 2, 1) := dk_28 (dk_at dksX1_fools_3 3 rfl rfl)
theorem dX1_fools_74 : decode cX1_fools 74 = .ok (.ifCond .ne 7, 3) := dk_154 0 7 (dk_at dksX1_fools_3 4 rfl rfl)
theorem dX1_fools_77 : decode cX1_fools 77 = .ok (.iload_n 3, 1) := dk_29 (dk_at dksX1_fools_3 7 rfl rfl)
theorem dX1_fools_78 : decode cX1_fools 78 = .ok (.goto 5, 3) := dk_167 0 5 (dk_at dksX1_fools_3 8 rfl rfl)
theorem dX1_fools_81 : decode cX1_fools 81 = .ok (.iload 4, 2) := dk_21 4 (dk_at dksX1_fools_3 11 rfl rfl)
theorem dX1_fools_83 : decode cX1_fools 83 = .ok (.ireturn, 1) := dk_172 (dk_at dksX1_fools_3 13 rfl rfl)
abbrev cX1_power : ByteArray := prog_17_method_101_code
def yX1_power : MethodName := ⟨RX1, "power", "(III)I"⟩
def dkwX1_power_1 : List UInt8 := [184, 0, 152, 136, 172]
abbrev dktX1_power_1 : List UInt8 := dkwX1_power_1 ++ []
def dkwX1_power_0 : List UInt8 := [27, 155, 0, 12, 28, 155, 0, 8, 29, 4, 162, 0, 7, 2, 167, 0, 13, 27, 133, 28, 133, 29, 133]
abbrev dktX1_power_0 : List UInt8 := dkwX1_power_0 ++ dktX1_power_1
theorem dksX1_power_0 : cX1_power.data.toList.drop 0 = dktX1_power_0 := by decide +kernel
theorem dksX1_power_1 : cX1_power.data.toList.drop 23 = dktX1_power_1 := dk_seg dksX1_power_0 23 rfl rfl
theorem dX1_power_0 : decode cX1_power 0 = .ok (.iload_n 1, 1) := dk_27 (dk_at dksX1_power_0 0 rfl rfl)
theorem dX1_power_1 : decode cX1_power 1 = .ok (.ifCond .lt 12, 3) := dk_155 0 12 (dk_at dksX1_power_0 1 rfl rfl)
theorem dX1_power_4 : decode cX1_power 4 = .ok (.iload_n 2, 1) := dk_28 (dk_at dksX1_power_0 4 rfl rfl)
theorem dX1_power_5 : decode cX1_power 5 = .ok (.ifCond .lt 8, 3) := dk_155 0 8 (dk_at dksX1_power_0 5 rfl rfl)
theorem dX1_power_8 : decode cX1_power 8 = .ok (.iload_n 3, 1) := dk_29 (dk_at dksX1_power_0 8 rfl rfl)
theorem dX1_power_9 : decode cX1_power 9 = .ok (.iconst 1, 1) := dk_4 (dk_at dksX1_power_0 9 rfl rfl)
theorem dX1_power_10 : decode cX1_power 10 = .ok (.if_icmp .ge 7, 3) := dk_162 0 7 (dk_at dksX1_power_0 10 rfl rfl)
theorem dX1_power_13 : decode cX1_power 13 = .ok (.iconst (-1), 1) := dk_2 (dk_at dksX1_power_0 13 rfl rfl)
theorem dX1_power_14 : decode cX1_power 14 = .ok (.goto 13, 3) := dk_167 0 13 (dk_at dksX1_power_0 14 rfl rfl)
theorem dX1_power_17 : decode cX1_power 17 = .ok (.iload_n 1, 1) := dk_27 (dk_at dksX1_power_0 17 rfl rfl)
theorem dX1_power_18 : decode cX1_power 18 = .ok (.i2l, 1) := dk_133 (dk_at dksX1_power_0 18 rfl rfl)
theorem dX1_power_19 : decode cX1_power 19 = .ok (.iload_n 2, 1) := dk_28 (dk_at dksX1_power_0 19 rfl rfl)
theorem dX1_power_20 : decode cX1_power 20 = .ok (.i2l, 1) := dk_133 (dk_at dksX1_power_0 20 rfl rfl)
theorem dX1_power_21 : decode cX1_power 21 = .ok (.iload_n 3, 1) := dk_29 (dk_at dksX1_power_0 21 rfl rfl)
theorem dX1_power_22 : decode cX1_power 22 = .ok (.i2l, 1) := dk_133 (dk_at dksX1_power_0 22 rfl rfl)
theorem dX1_power_23 : decode cX1_power 23 = .ok (.invokestatic 152, 3) := dk_184 0 152 (dk_at dksX1_power_1 0 rfl rfl)
theorem dX1_power_26 : decode cX1_power 26 = .ok (.l2i, 1) := dk_136 (dk_at dksX1_power_1 3 rfl rfl)
theorem dX1_power_27 : decode cX1_power 27 = .ok (.ireturn, 1) := dk_172 (dk_at dksX1_power_1 4 rfl rfl)
abbrev cX1_order : ByteArray := prog_17_method_102_code
def yX1_order : MethodName := ⟨RX1, "order", "(II)I"⟩
def dkwX1_order_2 : List UInt8 := [153, 0, 19, 22, 4, 27, 133, 105, 28, 133, 113, 55, 4, 132, 3, 1, 167, 255, 236, 29, 172]
abbrev dktX1_order_2 : List UInt8 := dkwX1_order_2 ++ []
def dkwX1_order_1 : List UInt8 := [184, 0, 136, 10, 148, 153, 0, 6, 16, 254, 172, 4, 62, 27, 28, 112, 133, 55, 4, 22, 4, 10, 148]
abbrev dktX1_order_1 : List UInt8 := dkwX1_order_1 ++ dktX1_order_2
def dkwX1_order_0 : List UInt8 := [27, 155, 0, 17, 28, 133, 20, 0, 7, 20, 1, 124, 184, 0, 11, 154, 0, 5, 2, 172, 27, 133, 28, 133]
abbrev dktX1_order_0 : List UInt8 := dkwX1_order_0 ++ dktX1_order_1
theorem dksX1_order_0 : cX1_order.data.toList.drop 0 = dktX1_order_0 := by decide +kernel
theorem dksX1_order_1 : cX1_order.data.toList.drop 24 = dktX1_order_1 := dk_seg dksX1_order_0 24 rfl rfl
theorem dksX1_order_2 : cX1_order.data.toList.drop 47 = dktX1_order_2 := dk_seg dksX1_order_1 23 rfl rfl
theorem dX1_order_0 : decode cX1_order 0 = .ok (.iload_n 1, 1) := dk_27 (dk_at dksX1_order_0 0 rfl rfl)
theorem dX1_order_1 : decode cX1_order 1 = .ok (.ifCond .lt 17, 3) := dk_155 0 17 (dk_at dksX1_order_0 1 rfl rfl)
theorem dX1_order_4 : decode cX1_order 4 = .ok (.iload_n 2, 1) := dk_28 (dk_at dksX1_order_0 4 rfl rfl)
theorem dX1_order_5 : decode cX1_order 5 = .ok (.i2l, 1) := dk_133 (dk_at dksX1_order_0 5 rfl rfl)
theorem dX1_order_6 : decode cX1_order 6 = .ok (.ldc2_w 7, 3) := dk_20 0 7 (dk_at dksX1_order_0 6 rfl rfl)
theorem dX1_order_9 : decode cX1_order 9 = .ok (.ldc2_w 380, 3) := dk_20 1 124 (dk_at dksX1_order_0 9 rfl rfl)
theorem dX1_order_12 : decode cX1_order 12 = .ok (.invokestatic 11, 3) := dk_184 0 11 (dk_at dksX1_order_0 12 rfl rfl)
theorem dX1_order_15 : decode cX1_order 15 = .ok (.ifCond .ne 5, 3) := dk_154 0 5 (dk_at dksX1_order_0 15 rfl rfl)
theorem dX1_order_18 : decode cX1_order 18 = .ok (.iconst (-1), 1) := dk_2 (dk_at dksX1_order_0 18 rfl rfl)
theorem dX1_order_19 : decode cX1_order 19 = .ok (.ireturn, 1) := dk_172 (dk_at dksX1_order_0 19 rfl rfl)
theorem dX1_order_20 : decode cX1_order 20 = .ok (.iload_n 1, 1) := dk_27 (dk_at dksX1_order_0 20 rfl rfl)
theorem dX1_order_21 : decode cX1_order 21 = .ok (.i2l, 1) := dk_133 (dk_at dksX1_order_0 21 rfl rfl)
theorem dX1_order_22 : decode cX1_order 22 = .ok (.iload_n 2, 1) := dk_28 (dk_at dksX1_order_0 22 rfl rfl)
theorem dX1_order_23 : decode cX1_order 23 = .ok (.i2l, 1) := dk_133 (dk_at dksX1_order_0 23 rfl rfl)
theorem dX1_order_24 : decode cX1_order 24 = .ok (.invokestatic 136, 3) := dk_184 0 136 (dk_at dksX1_order_1 0 rfl rfl)
theorem dX1_order_27 : decode cX1_order 27 = .ok (.lconst 1, 1) := dk_10 (dk_at dksX1_order_1 3 rfl rfl)
theorem dX1_order_28 : decode cX1_order 28 = .ok (.lcmp, 1) := dk_148 (dk_at dksX1_order_1 4 rfl rfl)
theorem dX1_order_29 : decode cX1_order 29 = .ok (.ifCond .eq 6, 3) := dk_153 0 6 (dk_at dksX1_order_1 5 rfl rfl)
theorem dX1_order_32 : decode cX1_order 32 = .ok (.bipush (-2), 2) := dk_16 254 (dk_at dksX1_order_1 8 rfl rfl)
theorem dX1_order_34 : decode cX1_order 34 = .ok (.ireturn, 1) := dk_172 (dk_at dksX1_order_1 10 rfl rfl)
theorem dX1_order_35 : decode cX1_order 35 = .ok (.iconst 1, 1) := dk_4 (dk_at dksX1_order_1 11 rfl rfl)
theorem dX1_order_36 : decode cX1_order 36 = .ok (.istore_n 3, 1) := dk_62 (dk_at dksX1_order_1 12 rfl rfl)
theorem dX1_order_37 : decode cX1_order 37 = .ok (.iload_n 1, 1) := dk_27 (dk_at dksX1_order_1 13 rfl rfl)
theorem dX1_order_38 : decode cX1_order 38 = .ok (.iload_n 2, 1) := dk_28 (dk_at dksX1_order_1 14 rfl rfl)
theorem dX1_order_39 : decode cX1_order 39 = .ok (.irem, 1) := dk_112 (dk_at dksX1_order_1 15 rfl rfl)
theorem dX1_order_40 : decode cX1_order 40 = .ok (.i2l, 1) := dk_133 (dk_at dksX1_order_1 16 rfl rfl)
theorem dX1_order_41 : decode cX1_order 41 = .ok (.lstore 4, 2) := dk_55 4 (dk_at dksX1_order_1 17 rfl rfl)
theorem dX1_order_43 : decode cX1_order 43 = .ok (.lload 4, 2) := dk_22 4 (dk_at dksX1_order_1 19 rfl rfl)
theorem dX1_order_45 : decode cX1_order 45 = .ok (.lconst 1, 1) := dk_10 (dk_at dksX1_order_1 21 rfl rfl)
theorem dX1_order_46 : decode cX1_order 46 = .ok (.lcmp, 1) := dk_148 (dk_at dksX1_order_1 22 rfl rfl)
theorem dX1_order_47 : decode cX1_order 47 = .ok (.ifCond .eq 19, 3) := dk_153 0 19 (dk_at dksX1_order_2 0 rfl rfl)
theorem dX1_order_50 : decode cX1_order 50 = .ok (.lload 4, 2) := dk_22 4 (dk_at dksX1_order_2 3 rfl rfl)
theorem dX1_order_52 : decode cX1_order 52 = .ok (.iload_n 1, 1) := dk_27 (dk_at dksX1_order_2 5 rfl rfl)
theorem dX1_order_53 : decode cX1_order 53 = .ok (.i2l, 1) := dk_133 (dk_at dksX1_order_2 6 rfl rfl)
theorem dX1_order_54 : decode cX1_order 54 = .ok (.lmul, 1) := dk_105 (dk_at dksX1_order_2 7 rfl rfl)
theorem dX1_order_55 : decode cX1_order 55 = .ok (.iload_n 2, 1) := dk_28 (dk_at dksX1_order_2 8 rfl rfl)
theorem dX1_order_56 : decode cX1_order 56 = .ok (.i2l, 1) := dk_133 (dk_at dksX1_order_2 9 rfl rfl)
theorem dX1_order_57 : decode cX1_order 57 = .ok (.lrem, 1) := dk_113 (dk_at dksX1_order_2 10 rfl rfl)
theorem dX1_order_58 : decode cX1_order 58 = .ok (.lstore 4, 2) := dk_55 4 (dk_at dksX1_order_2 11 rfl rfl)
theorem dX1_order_60 : decode cX1_order 60 = .ok (.iinc 3 1, 3) := dk_132 3 1 (dk_at dksX1_order_2 13 rfl rfl)
theorem dX1_order_63 : decode cX1_order 63 = .ok (.goto (-20), 3) := dk_167 255 236 (dk_at dksX1_order_2 16 rfl rfl)
theorem dX1_order_66 : decode cX1_order 66 = .ok (.iload_n 3, 1) := dk_29 (dk_at dksX1_order_2 19 rfl rfl)
theorem dX1_order_67 : decode cX1_order 67 = .ok (.ireturn, 1) := dk_172 (dk_at dksX1_order_2 20 rfl rfl)
abbrev cX1_jacobi : ByteArray := prog_17_method_103_code
def yX1_jacobi : MethodName := ⟨RX1, "jacobi", "(II)I"⟩
def dkwX1_jacobi_0 : List UInt8 := [28, 4, 161, 0, 9, 28, 5, 112, 154, 0, 8, 16, 254, 167, 0, 10, 27, 133, 28, 133, 184, 0, 156, 172]
abbrev dktX1_jacobi_0 : List UInt8 := dkwX1_jacobi_0 ++ []
theorem dksX1_jacobi_0 : cX1_jacobi.data.toList.drop 0 = dktX1_jacobi_0 := by decide +kernel
theorem dX1_jacobi_0 : decode cX1_jacobi 0 = .ok (.iload_n 2, 1) := dk_28 (dk_at dksX1_jacobi_0 0 rfl rfl)
theorem dX1_jacobi_1 : decode cX1_jacobi 1 = .ok (.iconst 1, 1) := dk_4 (dk_at dksX1_jacobi_0 1 rfl rfl)
theorem dX1_jacobi_2 : decode cX1_jacobi 2 = .ok (.if_icmp .lt 9, 3) := dk_161 0 9 (dk_at dksX1_jacobi_0 2 rfl rfl)
theorem dX1_jacobi_5 : decode cX1_jacobi 5 = .ok (.iload_n 2, 1) := dk_28 (dk_at dksX1_jacobi_0 5 rfl rfl)
theorem dX1_jacobi_6 : decode cX1_jacobi 6 = .ok (.iconst 2, 1) := dk_5 (dk_at dksX1_jacobi_0 6 rfl rfl)
theorem dX1_jacobi_7 : decode cX1_jacobi 7 = .ok (.irem, 1) := dk_112 (dk_at dksX1_jacobi_0 7 rfl rfl)
theorem dX1_jacobi_8 : decode cX1_jacobi 8 = .ok (.ifCond .ne 8, 3) := dk_154 0 8 (dk_at dksX1_jacobi_0 8 rfl rfl)
theorem dX1_jacobi_11 : decode cX1_jacobi 11 = .ok (.bipush (-2), 2) := dk_16 254 (dk_at dksX1_jacobi_0 11 rfl rfl)
theorem dX1_jacobi_13 : decode cX1_jacobi 13 = .ok (.goto 10, 3) := dk_167 0 10 (dk_at dksX1_jacobi_0 13 rfl rfl)
theorem dX1_jacobi_16 : decode cX1_jacobi 16 = .ok (.iload_n 1, 1) := dk_27 (dk_at dksX1_jacobi_0 16 rfl rfl)
theorem dX1_jacobi_17 : decode cX1_jacobi 17 = .ok (.i2l, 1) := dk_133 (dk_at dksX1_jacobi_0 17 rfl rfl)
theorem dX1_jacobi_18 : decode cX1_jacobi 18 = .ok (.iload_n 2, 1) := dk_28 (dk_at dksX1_jacobi_0 18 rfl rfl)
theorem dX1_jacobi_19 : decode cX1_jacobi 19 = .ok (.i2l, 1) := dk_133 (dk_at dksX1_jacobi_0 19 rfl rfl)
theorem dX1_jacobi_20 : decode cX1_jacobi 20 = .ok (.invokestatic 156, 3) := dk_184 0 156 (dk_at dksX1_jacobi_0 20 rfl rfl)
theorem dX1_jacobi_23 : decode cX1_jacobi 23 = .ok (.ireturn, 1) := dk_172 (dk_at dksX1_jacobi_0 23 rfl rfl)
abbrev cX1_u : ByteArray := prog_17_method_104_code
def yX1_u : MethodName := ⟨RX1, "u", "(IIII)I"⟩
def dkwX1_u_2 : List UInt8 := [29, 133, 21, 4, 133, 182, 0, 160, 136, 172]
abbrev dktX1_u_2 : List UInt8 := dkwX1_u_2 ++ []
def dkwX1_u_1 : List UInt8 := [29, 155, 0, 16, 21, 4, 133, 10, 20, 0, 9, 184, 0, 11, 154, 0, 5, 2, 172, 42, 27, 133, 28, 133]
abbrev dktX1_u_1 : List UInt8 := dkwX1_u_1 ++ dktX1_u_2
def dkwX1_u_0 : List UInt8 := [27, 133, 10, 20, 1, 74, 184, 0, 11, 153, 0, 32, 28, 133, 10, 20, 1, 74, 184, 0, 11, 153, 0, 20]
abbrev dktX1_u_0 : List UInt8 := dkwX1_u_0 ++ dktX1_u_1
theorem dksX1_u_0 : cX1_u.data.toList.drop 0 = dktX1_u_0 := by decide +kernel
theorem dksX1_u_1 : cX1_u.data.toList.drop 24 = dktX1_u_1 := dk_seg dksX1_u_0 24 rfl rfl
theorem dksX1_u_2 : cX1_u.data.toList.drop 48 = dktX1_u_2 := dk_seg dksX1_u_1 24 rfl rfl
theorem dX1_u_0 : decode cX1_u 0 = .ok (.iload_n 1, 1) := dk_27 (dk_at dksX1_u_0 0 rfl rfl)
theorem dX1_u_1 : decode cX1_u 1 = .ok (.i2l, 1) := dk_133 (dk_at dksX1_u_0 1 rfl rfl)
theorem dX1_u_2 : decode cX1_u 2 = .ok (.lconst 1, 1) := dk_10 (dk_at dksX1_u_0 2 rfl rfl)
theorem dX1_u_3 : decode cX1_u 3 = .ok (.ldc2_w 330, 3) := dk_20 1 74 (dk_at dksX1_u_0 3 rfl rfl)
theorem dX1_u_6 : decode cX1_u 6 = .ok (.invokestatic 11, 3) := dk_184 0 11 (dk_at dksX1_u_0 6 rfl rfl)
theorem dX1_u_9 : decode cX1_u 9 = .ok (.ifCond .eq 32, 3) := dk_153 0 32 (dk_at dksX1_u_0 9 rfl rfl)
theorem dX1_u_12 : decode cX1_u 12 = .ok (.iload_n 2, 1) := dk_28 (dk_at dksX1_u_0 12 rfl rfl)
theorem dX1_u_13 : decode cX1_u 13 = .ok (.i2l, 1) := dk_133 (dk_at dksX1_u_0 13 rfl rfl)
theorem dX1_u_14 : decode cX1_u 14 = .ok (.lconst 1, 1) := dk_10 (dk_at dksX1_u_0 14 rfl rfl)
theorem dX1_u_15 : decode cX1_u 15 = .ok (.ldc2_w 330, 3) := dk_20 1 74 (dk_at dksX1_u_0 15 rfl rfl)
theorem dX1_u_18 : decode cX1_u 18 = .ok (.invokestatic 11, 3) := dk_184 0 11 (dk_at dksX1_u_0 18 rfl rfl)
theorem dX1_u_21 : decode cX1_u 21 = .ok (.ifCond .eq 20, 3) := dk_153 0 20 (dk_at dksX1_u_0 21 rfl rfl)
theorem dX1_u_24 : decode cX1_u 24 = .ok (.iload_n 3, 1) := dk_29 (dk_at dksX1_u_1 0 rfl rfl)
theorem dX1_u_25 : decode cX1_u 25 = .ok (.ifCond .lt 16, 3) := dk_155 0 16 (dk_at dksX1_u_1 1 rfl rfl)
theorem dX1_u_28 : decode cX1_u 28 = .ok (.iload 4, 2) := dk_21 4 (dk_at dksX1_u_1 4 rfl rfl)
theorem dX1_u_30 : decode cX1_u 30 = .ok (.i2l, 1) := dk_133 (dk_at dksX1_u_1 6 rfl rfl)
theorem dX1_u_31 : decode cX1_u 31 = .ok (.lconst 1, 1) := dk_10 (dk_at dksX1_u_1 7 rfl rfl)
theorem dX1_u_32 : decode cX1_u 32 = .ok (.ldc2_w 9, 3) := dk_20 0 9 (dk_at dksX1_u_1 8 rfl rfl)
theorem dX1_u_35 : decode cX1_u 35 = .ok (.invokestatic 11, 3) := dk_184 0 11 (dk_at dksX1_u_1 11 rfl rfl)
theorem dX1_u_38 : decode cX1_u 38 = .ok (.ifCond .ne 5, 3) := dk_154 0 5 (dk_at dksX1_u_1 14 rfl rfl)
theorem dX1_u_41 : decode cX1_u 41 = .ok (.iconst (-1), 1) := dk_2 (dk_at dksX1_u_1 17 rfl rfl)
theorem dX1_u_42 : decode cX1_u 42 = .ok (.ireturn, 1) := dk_172 (dk_at dksX1_u_1 18 rfl rfl)
theorem dX1_u_43 : decode cX1_u 43 = .ok (.aload_n 0, 1) := dk_42 (dk_at dksX1_u_1 19 rfl rfl)
theorem dX1_u_44 : decode cX1_u 44 = .ok (.iload_n 1, 1) := dk_27 (dk_at dksX1_u_1 20 rfl rfl)
theorem dX1_u_45 : decode cX1_u 45 = .ok (.i2l, 1) := dk_133 (dk_at dksX1_u_1 21 rfl rfl)
theorem dX1_u_46 : decode cX1_u 46 = .ok (.iload_n 2, 1) := dk_28 (dk_at dksX1_u_1 22 rfl rfl)
theorem dX1_u_47 : decode cX1_u 47 = .ok (.i2l, 1) := dk_133 (dk_at dksX1_u_1 23 rfl rfl)
theorem dX1_u_48 : decode cX1_u 48 = .ok (.iload_n 3, 1) := dk_29 (dk_at dksX1_u_2 0 rfl rfl)
theorem dX1_u_49 : decode cX1_u 49 = .ok (.i2l, 1) := dk_133 (dk_at dksX1_u_2 1 rfl rfl)
theorem dX1_u_50 : decode cX1_u 50 = .ok (.iload 4, 2) := dk_21 4 (dk_at dksX1_u_2 2 rfl rfl)
theorem dX1_u_52 : decode cX1_u 52 = .ok (.i2l, 1) := dk_133 (dk_at dksX1_u_2 4 rfl rfl)
theorem dX1_u_53 : decode cX1_u 53 = .ok (.invokevirtual 160, 3) := dk_182 0 160 (dk_at dksX1_u_2 5 rfl rfl)
theorem dX1_u_56 : decode cX1_u 56 = .ok (.l2i, 1) := dk_136 (dk_at dksX1_u_2 8 rfl rfl)
theorem dX1_u_57 : decode cX1_u 57 = .ok (.ireturn, 1) := dk_172 (dk_at dksX1_u_2 9 rfl rfl)
abbrev cX1_units : ByteArray := prog_17_method_105_code
def yX1_units : MethodName := ⟨RX1, "units", "(I)I"⟩
def dkwX1_units_2 : List UInt8 := [180, 0, 40, 21, 4, 46, 4, 100, 133, 105, 65, 132, 4, 1, 167, 255, 222, 32, 136, 172]
abbrev dktX1_units_2 : List UInt8 := dkwX1_units_2 ++ []
def dkwX1_units_1 : List UInt8 := [54, 4, 21, 4, 42, 180, 0, 37, 162, 0, 31, 32, 42, 180, 0, 40, 21, 4, 46, 133, 109, 42]
abbrev dktX1_units_1 : List UInt8 := dkwX1_units_1 ++ dktX1_units_2
def dkwX1_units_0 : List UInt8 := [27, 133, 10, 20, 0, 9, 184, 0, 11, 154, 0, 5, 2, 172, 42, 27, 133, 182, 0, 204, 27, 133, 65, 3]
abbrev dktX1_units_0 : List UInt8 := dkwX1_units_0 ++ dktX1_units_1
theorem dksX1_units_0 : cX1_units.data.toList.drop 0 = dktX1_units_0 := by decide +kernel
theorem dksX1_units_1 : cX1_units.data.toList.drop 24 = dktX1_units_1 := dk_seg dksX1_units_0 24 rfl rfl
theorem dksX1_units_2 : cX1_units.data.toList.drop 46 = dktX1_units_2 := dk_seg dksX1_units_1 22 rfl rfl
theorem dX1_units_0 : decode cX1_units 0 = .ok (.iload_n 1, 1) := dk_27 (dk_at dksX1_units_0 0 rfl rfl)
theorem dX1_units_1 : decode cX1_units 1 = .ok (.i2l, 1) := dk_133 (dk_at dksX1_units_0 1 rfl rfl)
theorem dX1_units_2 : decode cX1_units 2 = .ok (.lconst 1, 1) := dk_10 (dk_at dksX1_units_0 2 rfl rfl)
theorem dX1_units_3 : decode cX1_units 3 = .ok (.ldc2_w 9, 3) := dk_20 0 9 (dk_at dksX1_units_0 3 rfl rfl)
theorem dX1_units_6 : decode cX1_units 6 = .ok (.invokestatic 11, 3) := dk_184 0 11 (dk_at dksX1_units_0 6 rfl rfl)
theorem dX1_units_9 : decode cX1_units 9 = .ok (.ifCond .ne 5, 3) := dk_154 0 5 (dk_at dksX1_units_0 9 rfl rfl)
theorem dX1_units_12 : decode cX1_units 12 = .ok (.iconst (-1), 1) := dk_2 (dk_at dksX1_units_0 12 rfl rfl)
theorem dX1_units_13 : decode cX1_units 13 = .ok (.ireturn, 1) := dk_172 (dk_at dksX1_units_0 13 rfl rfl)
theorem dX1_units_14 : decode cX1_units 14 = .ok (.aload_n 0, 1) := dk_42 (dk_at dksX1_units_0 14 rfl rfl)
theorem dX1_units_15 : decode cX1_units 15 = .ok (.iload_n 1, 1) := dk_27 (dk_at dksX1_units_0 15 rfl rfl)
theorem dX1_units_16 : decode cX1_units 16 = .ok (.i2l, 1) := dk_133 (dk_at dksX1_units_0 16 rfl rfl)
theorem dX1_units_17 : decode cX1_units 17 = .ok (.invokevirtual 204, 3) := dk_182 0 204 (dk_at dksX1_units_0 17 rfl rfl)
theorem dX1_units_20 : decode cX1_units 20 = .ok (.iload_n 1, 1) := dk_27 (dk_at dksX1_units_0 20 rfl rfl)
theorem dX1_units_21 : decode cX1_units 21 = .ok (.i2l, 1) := dk_133 (dk_at dksX1_units_0 21 rfl rfl)
theorem dX1_units_22 : decode cX1_units 22 = .ok (.lstore_n 2, 1) := dk_65 (dk_at dksX1_units_0 22 rfl rfl)
theorem dX1_units_23 : decode cX1_units 23 = .ok (.iconst 0, 1) := dk_3 (dk_at dksX1_units_0 23 rfl rfl)
theorem dX1_units_24 : decode cX1_units 24 = .ok (.istore 4, 2) := dk_54 4 (dk_at dksX1_units_1 0 rfl rfl)
theorem dX1_units_26 : decode cX1_units 26 = .ok (.iload 4, 2) := dk_21 4 (dk_at dksX1_units_1 2 rfl rfl)
theorem dX1_units_28 : decode cX1_units 28 = .ok (.aload_n 0, 1) := dk_42 (dk_at dksX1_units_1 4 rfl rfl)
theorem dX1_units_29 : decode cX1_units 29 = .ok (.getfield 37, 3) := dk_180 0 37 (dk_at dksX1_units_1 5 rfl rfl)
theorem dX1_units_32 : decode cX1_units 32 = .ok (.if_icmp .ge 31, 3) := dk_162 0 31 (dk_at dksX1_units_1 8 rfl rfl)
theorem dX1_units_35 : decode cX1_units 35 = .ok (.lload_n 2, 1) := dk_32 (dk_at dksX1_units_1 11 rfl rfl)
theorem dX1_units_36 : decode cX1_units 36 = .ok (.aload_n 0, 1) := dk_42 (dk_at dksX1_units_1 12 rfl rfl)
theorem dX1_units_37 : decode cX1_units 37 = .ok (.getfield 40, 3) := dk_180 0 40 (dk_at dksX1_units_1 13 rfl rfl)
theorem dX1_units_40 : decode cX1_units 40 = .ok (.iload 4, 2) := dk_21 4 (dk_at dksX1_units_1 16 rfl rfl)
theorem dX1_units_42 : decode cX1_units 42 = .ok (.iaload, 1) := dk_46 (dk_at dksX1_units_1 18 rfl rfl)
theorem dX1_units_43 : decode cX1_units 43 = .ok (.i2l, 1) := dk_133 (dk_at dksX1_units_1 19 rfl rfl)
theorem dX1_units_44 : decode cX1_units 44 = .ok (.ldiv, 1) := dk_109 (dk_at dksX1_units_1 20 rfl rfl)
theorem dX1_units_45 : decode cX1_units 45 = .ok (.aload_n 0, 1) := dk_42 (dk_at dksX1_units_1 21 rfl rfl)
theorem dX1_units_46 : decode cX1_units 46 = .ok (.getfield 40, 3) := dk_180 0 40 (dk_at dksX1_units_2 0 rfl rfl)
theorem dX1_units_49 : decode cX1_units 49 = .ok (.iload 4, 2) := dk_21 4 (dk_at dksX1_units_2 3 rfl rfl)
theorem dX1_units_51 : decode cX1_units 51 = .ok (.iaload, 1) := dk_46 (dk_at dksX1_units_2 5 rfl rfl)
theorem dX1_units_52 : decode cX1_units 52 = .ok (.iconst 1, 1) := dk_4 (dk_at dksX1_units_2 6 rfl rfl)
theorem dX1_units_53 : decode cX1_units 53 = .ok (.isub, 1) := dk_100 (dk_at dksX1_units_2 7 rfl rfl)
theorem dX1_units_54 : decode cX1_units 54 = .ok (.i2l, 1) := dk_133 (dk_at dksX1_units_2 8 rfl rfl)
theorem dX1_units_55 : decode cX1_units 55 = .ok (.lmul, 1) := dk_105 (dk_at dksX1_units_2 9 rfl rfl)
theorem dX1_units_56 : decode cX1_units 56 = .ok (.lstore_n 2, 1) := dk_65 (dk_at dksX1_units_2 10 rfl rfl)
theorem dX1_units_57 : decode cX1_units 57 = .ok (.iinc 4 1, 3) := dk_132 4 1 (dk_at dksX1_units_2 11 rfl rfl)
theorem dX1_units_60 : decode cX1_units 60 = .ok (.goto (-34), 3) := dk_167 255 222 (dk_at dksX1_units_2 14 rfl rfl)
theorem dX1_units_63 : decode cX1_units 63 = .ok (.lload_n 2, 1) := dk_32 (dk_at dksX1_units_2 17 rfl rfl)
theorem dX1_units_64 : decode cX1_units 64 = .ok (.l2i, 1) := dk_136 (dk_at dksX1_units_2 18 rfl rfl)
theorem dX1_units_65 : decode cX1_units 65 = .ok (.ireturn, 1) := dk_172 (dk_at dksX1_units_2 19 rfl rfl)
abbrev cX1_count : ByteArray := prog_17_method_106_code
def yX1_count : MethodName := ⟨RX1, "count", "(I)I"⟩
def dkwX1_count_10 : List UInt8 := [132, 3, 1, 167, 255, 228, 28, 172, 2, 172]
abbrev dktX1_count_10 : List UInt8 := dkwX1_count_10 ++ []
def dkwX1_count_9 : List UInt8 := [180, 0, 112, 162, 0, 26, 42, 180, 0, 86, 29, 51, 153, 0, 11, 28, 42, 29, 182, 1, 110, 96, 61]
abbrev dktX1_count_9 : List UInt8 := dkwX1_count_9 ++ dktX1_count_10
def dkwX1_count_8 : List UInt8 := [28, 164, 0, 9, 42, 29, 182, 1, 107, 61, 132, 3, 1, 167, 255, 221, 28, 172, 3, 62, 29, 42]
abbrev dktX1_count_8 : List UInt8 := dkwX1_count_8 ++ dktX1_count_9
def dkwX1_count_7 : List UInt8 := [3, 62, 29, 42, 180, 0, 112, 162, 0, 33, 42, 180, 0, 86, 29, 51, 153, 0, 18, 42, 29, 182, 1, 107]
abbrev dktX1_count_7 : List UInt8 := dkwX1_count_7 ++ dktX1_count_8
def dkwX1_count_6 : List UInt8 := [180, 0, 53, 29, 46, 28, 164, 0, 10, 42, 180, 0, 53, 29, 46, 61, 132, 3, 1, 167, 255, 219, 28, 172]
abbrev dktX1_count_6 : List UInt8 := dkwX1_count_6 ++ dktX1_count_7
def dkwX1_count_5 : List UInt8 := [180, 0, 246, 172, 3, 62, 29, 42, 180, 0, 112, 162, 0, 35, 42, 180, 0, 86, 29, 51, 153, 0, 20, 42]
abbrev dktX1_count_5 : List UInt8 := dkwX1_count_5 ++ dktX1_count_6
def dkwX1_count_4 : List UInt8 := [180, 0, 65, 29, 46, 42, 180, 0, 68, 29, 46, 96, 96, 61, 132, 3, 1, 167, 255, 229, 28, 172, 42]
abbrev dktX1_count_4 : List UInt8 := dkwX1_count_4 ++ dktX1_count_5
def dkwX1_count_3 : List UInt8 := [132, 2, 1, 132, 3, 1, 167, 255, 233, 28, 172, 3, 62, 29, 42, 180, 0, 112, 162, 0, 25, 28, 42]
abbrev dktX1_count_3 : List UInt8 := dkwX1_count_3 ++ dktX1_count_4
def dkwX1_count_2 : List UInt8 := [42, 180, 0, 112, 172, 3, 62, 29, 42, 180, 0, 112, 162, 0, 21, 42, 180, 0, 86, 29, 51, 153, 0, 6]
abbrev dktX1_count_2 : List UInt8 := dkwX1_count_2 ++ dktX1_count_3
def dkwX1_count_1 : List UInt8 := [170, 0, 0, 0, 236, 0, 0, 0, 0, 0, 0, 0, 6, 0, 0, 0, 41, 0, 0, 0, 46, 0, 0, 0, 76, 0, 0, 0, 110, 0, 0, 0, 115, 0, 0, 0, 159, 0, 0, 0, 201]
abbrev dktX1_count_1 : List UInt8 := dkwX1_count_1 ++ dktX1_count_2
def dkwX1_count_0 : List UInt8 := [42, 182, 0, 201, 3, 61, 27]
abbrev dktX1_count_0 : List UInt8 := dkwX1_count_0 ++ dktX1_count_1
theorem dksX1_count_0 : cX1_count.data.toList.drop 0 = dktX1_count_0 := by decide +kernel
theorem dksX1_count_1 : cX1_count.data.toList.drop 7 = dktX1_count_1 := dk_seg dksX1_count_0 7 rfl rfl
theorem dksX1_count_2 : cX1_count.data.toList.drop 48 = dktX1_count_2 := dk_seg dksX1_count_1 41 rfl rfl
theorem dksX1_count_3 : cX1_count.data.toList.drop 72 = dktX1_count_3 := dk_seg dksX1_count_2 24 rfl rfl
theorem dksX1_count_4 : cX1_count.data.toList.drop 95 = dktX1_count_4 := dk_seg dksX1_count_3 23 rfl rfl
theorem dksX1_count_5 : cX1_count.data.toList.drop 118 = dktX1_count_5 := dk_seg dksX1_count_4 23 rfl rfl
theorem dksX1_count_6 : cX1_count.data.toList.drop 142 = dktX1_count_6 := dk_seg dksX1_count_5 24 rfl rfl
theorem dksX1_count_7 : cX1_count.data.toList.drop 166 = dktX1_count_7 := dk_seg dksX1_count_6 24 rfl rfl
theorem dksX1_count_8 : cX1_count.data.toList.drop 190 = dktX1_count_8 := dk_seg dksX1_count_7 24 rfl rfl
theorem dksX1_count_9 : cX1_count.data.toList.drop 212 = dktX1_count_9 := dk_seg dksX1_count_8 22 rfl rfl
theorem dksX1_count_10 : cX1_count.data.toList.drop 235 = dktX1_count_10 := dk_seg dksX1_count_9 23 rfl rfl
theorem dX1_count_0 : decode cX1_count 0 = .ok (.aload_n 0, 1) := dk_42 (dk_at dksX1_count_0 0 rfl rfl)
theorem dX1_count_1 : decode cX1_count 1 = .ok (.invokevirtual 201, 3) := dk_182 0 201 (dk_at dksX1_count_0 1 rfl rfl)
theorem dX1_count_4 : decode cX1_count 4 = .ok (.iconst 0, 1) := dk_3 (dk_at dksX1_count_0 4 rfl rfl)
theorem dX1_count_5 : decode cX1_count 5 = .ok (.istore_n 2, 1) := dk_61 (dk_at dksX1_count_0 5 rfl rfl)
theorem dX1_count_6 : decode cX1_count 6 = .ok (.iload_n 1, 1) := dk_27 (dk_at dksX1_count_0 6 rfl rfl)
theorem dX1_count_7 : decode cX1_count 7 = .ok (.tableswitch 236 0 6 #[41, 46, 76, 110, 115, 159, 201], 41) := by decide +kernel
theorem dX1_count_48 : decode cX1_count 48 = .ok (.aload_n 0, 1) := dk_42 (dk_at dksX1_count_2 0 rfl rfl)
theorem dX1_count_49 : decode cX1_count 49 = .ok (.getfield 112, 3) := dk_180 0 112 (dk_at dksX1_count_2 1 rfl rfl)
theorem dX1_count_52 : decode cX1_count 52 = .ok (.ireturn, 1) := dk_172 (dk_at dksX1_count_2 4 rfl rfl)
theorem dX1_count_53 : decode cX1_count 53 = .ok (.iconst 0, 1) := dk_3 (dk_at dksX1_count_2 5 rfl rfl)
theorem dX1_count_54 : decode cX1_count 54 = .ok (.istore_n 3, 1) := dk_62 (dk_at dksX1_count_2 6 rfl rfl)
theorem dX1_count_55 : decode cX1_count 55 = .ok (.iload_n 3, 1) := dk_29 (dk_at dksX1_count_2 7 rfl rfl)
theorem dX1_count_56 : decode cX1_count 56 = .ok (.aload_n 0, 1) := dk_42 (dk_at dksX1_count_2 8 rfl rfl)
theorem dX1_count_57 : decode cX1_count 57 = .ok (.getfield 112, 3) := dk_180 0 112 (dk_at dksX1_count_2 9 rfl rfl)
theorem dX1_count_60 : decode cX1_count 60 = .ok (.if_icmp .ge 21, 3) := dk_162 0 21 (dk_at dksX1_count_2 12 rfl rfl)
theorem dX1_count_63 : decode cX1_count 63 = .ok (.aload_n 0, 1) := dk_42 (dk_at dksX1_count_2 15 rfl rfl)
theorem dX1_count_64 : decode cX1_count 64 = .ok (.getfield 86, 3) := dk_180 0 86 (dk_at dksX1_count_2 16 rfl rfl)
theorem dX1_count_67 : decode cX1_count 67 = .ok (.iload_n 3, 1) := dk_29 (dk_at dksX1_count_2 19 rfl rfl)
theorem dX1_count_68 : decode cX1_count 68 = .ok (.baload, 1) := dk_51 (dk_at dksX1_count_2 20 rfl rfl)
theorem dX1_count_69 : decode cX1_count 69 = .ok (.ifCond .eq 6, 3) := dk_153 0 6 (dk_at dksX1_count_2 21 rfl rfl)
theorem dX1_count_72 : decode cX1_count 72 = .ok (.iinc 2 1, 3) := dk_132 2 1 (dk_at dksX1_count_3 0 rfl rfl)
theorem dX1_count_75 : decode cX1_count 75 = .ok (.iinc 3 1, 3) := dk_132 3 1 (dk_at dksX1_count_3 3 rfl rfl)
theorem dX1_count_78 : decode cX1_count 78 = .ok (.goto (-23), 3) := dk_167 255 233 (dk_at dksX1_count_3 6 rfl rfl)
theorem dX1_count_81 : decode cX1_count 81 = .ok (.iload_n 2, 1) := dk_28 (dk_at dksX1_count_3 9 rfl rfl)
theorem dX1_count_82 : decode cX1_count 82 = .ok (.ireturn, 1) := dk_172 (dk_at dksX1_count_3 10 rfl rfl)
theorem dX1_count_83 : decode cX1_count 83 = .ok (.iconst 0, 1) := dk_3 (dk_at dksX1_count_3 11 rfl rfl)
theorem dX1_count_84 : decode cX1_count 84 = .ok (.istore_n 3, 1) := dk_62 (dk_at dksX1_count_3 12 rfl rfl)
theorem dX1_count_85 : decode cX1_count 85 = .ok (.iload_n 3, 1) := dk_29 (dk_at dksX1_count_3 13 rfl rfl)
theorem dX1_count_86 : decode cX1_count 86 = .ok (.aload_n 0, 1) := dk_42 (dk_at dksX1_count_3 14 rfl rfl)
theorem dX1_count_87 : decode cX1_count 87 = .ok (.getfield 112, 3) := dk_180 0 112 (dk_at dksX1_count_3 15 rfl rfl)
theorem dX1_count_90 : decode cX1_count 90 = .ok (.if_icmp .ge 25, 3) := dk_162 0 25 (dk_at dksX1_count_3 18 rfl rfl)
theorem dX1_count_93 : decode cX1_count 93 = .ok (.iload_n 2, 1) := dk_28 (dk_at dksX1_count_3 21 rfl rfl)
theorem dX1_count_94 : decode cX1_count 94 = .ok (.aload_n 0, 1) := dk_42 (dk_at dksX1_count_3 22 rfl rfl)
theorem dX1_count_95 : decode cX1_count 95 = .ok (.getfield 65, 3) := dk_180 0 65 (dk_at dksX1_count_4 0 rfl rfl)
theorem dX1_count_98 : decode cX1_count 98 = .ok (.iload_n 3, 1) := dk_29 (dk_at dksX1_count_4 3 rfl rfl)
theorem dX1_count_99 : decode cX1_count 99 = .ok (.iaload, 1) := dk_46 (dk_at dksX1_count_4 4 rfl rfl)
theorem dX1_count_100 : decode cX1_count 100 = .ok (.aload_n 0, 1) := dk_42 (dk_at dksX1_count_4 5 rfl rfl)
theorem dX1_count_101 : decode cX1_count 101 = .ok (.getfield 68, 3) := dk_180 0 68 (dk_at dksX1_count_4 6 rfl rfl)
theorem dX1_count_104 : decode cX1_count 104 = .ok (.iload_n 3, 1) := dk_29 (dk_at dksX1_count_4 9 rfl rfl)
theorem dX1_count_105 : decode cX1_count 105 = .ok (.iaload, 1) := dk_46 (dk_at dksX1_count_4 10 rfl rfl)
theorem dX1_count_106 : decode cX1_count 106 = .ok (.iadd, 1) := dk_96 (dk_at dksX1_count_4 11 rfl rfl)
theorem dX1_count_107 : decode cX1_count 107 = .ok (.iadd, 1) := dk_96 (dk_at dksX1_count_4 12 rfl rfl)
theorem dX1_count_108 : decode cX1_count 108 = .ok (.istore_n 2, 1) := dk_61 (dk_at dksX1_count_4 13 rfl rfl)
theorem dX1_count_109 : decode cX1_count 109 = .ok (.iinc 3 1, 3) := dk_132 3 1 (dk_at dksX1_count_4 14 rfl rfl)
theorem dX1_count_112 : decode cX1_count 112 = .ok (.goto (-27), 3) := dk_167 255 229 (dk_at dksX1_count_4 17 rfl rfl)
theorem dX1_count_115 : decode cX1_count 115 = .ok (.iload_n 2, 1) := dk_28 (dk_at dksX1_count_4 20 rfl rfl)
theorem dX1_count_116 : decode cX1_count 116 = .ok (.ireturn, 1) := dk_172 (dk_at dksX1_count_4 21 rfl rfl)
theorem dX1_count_117 : decode cX1_count 117 = .ok (.aload_n 0, 1) := dk_42 (dk_at dksX1_count_4 22 rfl rfl)
theorem dX1_count_118 : decode cX1_count 118 = .ok (.getfield 246, 3) := dk_180 0 246 (dk_at dksX1_count_5 0 rfl rfl)
theorem dX1_count_121 : decode cX1_count 121 = .ok (.ireturn, 1) := dk_172 (dk_at dksX1_count_5 3 rfl rfl)
theorem dX1_count_122 : decode cX1_count 122 = .ok (.iconst 0, 1) := dk_3 (dk_at dksX1_count_5 4 rfl rfl)
theorem dX1_count_123 : decode cX1_count 123 = .ok (.istore_n 3, 1) := dk_62 (dk_at dksX1_count_5 5 rfl rfl)
theorem dX1_count_124 : decode cX1_count 124 = .ok (.iload_n 3, 1) := dk_29 (dk_at dksX1_count_5 6 rfl rfl)
theorem dX1_count_125 : decode cX1_count 125 = .ok (.aload_n 0, 1) := dk_42 (dk_at dksX1_count_5 7 rfl rfl)
theorem dX1_count_126 : decode cX1_count 126 = .ok (.getfield 112, 3) := dk_180 0 112 (dk_at dksX1_count_5 8 rfl rfl)
theorem dX1_count_129 : decode cX1_count 129 = .ok (.if_icmp .ge 35, 3) := dk_162 0 35 (dk_at dksX1_count_5 11 rfl rfl)
theorem dX1_count_132 : decode cX1_count 132 = .ok (.aload_n 0, 1) := dk_42 (dk_at dksX1_count_5 14 rfl rfl)
theorem dX1_count_133 : decode cX1_count 133 = .ok (.getfield 86, 3) := dk_180 0 86 (dk_at dksX1_count_5 15 rfl rfl)
theorem dX1_count_136 : decode cX1_count 136 = .ok (.iload_n 3, 1) := dk_29 (dk_at dksX1_count_5 18 rfl rfl)
theorem dX1_count_137 : decode cX1_count 137 = .ok (.baload, 1) := dk_51 (dk_at dksX1_count_5 19 rfl rfl)
theorem dX1_count_138 : decode cX1_count 138 = .ok (.ifCond .eq 20, 3) := dk_153 0 20 (dk_at dksX1_count_5 20 rfl rfl)
theorem dX1_count_141 : decode cX1_count 141 = .ok (.aload_n 0, 1) := dk_42 (dk_at dksX1_count_5 23 rfl rfl)
theorem dX1_count_142 : decode cX1_count 142 = .ok (.getfield 53, 3) := dk_180 0 53 (dk_at dksX1_count_6 0 rfl rfl)
theorem dX1_count_145 : decode cX1_count 145 = .ok (.iload_n 3, 1) := dk_29 (dk_at dksX1_count_6 3 rfl rfl)
theorem dX1_count_146 : decode cX1_count 146 = .ok (.iaload, 1) := dk_46 (dk_at dksX1_count_6 4 rfl rfl)
theorem dX1_count_147 : decode cX1_count 147 = .ok (.iload_n 2, 1) := dk_28 (dk_at dksX1_count_6 5 rfl rfl)
theorem dX1_count_148 : decode cX1_count 148 = .ok (.if_icmp .le 10, 3) := dk_164 0 10 (dk_at dksX1_count_6 6 rfl rfl)
theorem dX1_count_151 : decode cX1_count 151 = .ok (.aload_n 0, 1) := dk_42 (dk_at dksX1_count_6 9 rfl rfl)
theorem dX1_count_152 : decode cX1_count 152 = .ok (.getfield 53, 3) := dk_180 0 53 (dk_at dksX1_count_6 10 rfl rfl)
theorem dX1_count_155 : decode cX1_count 155 = .ok (.iload_n 3, 1) := dk_29 (dk_at dksX1_count_6 13 rfl rfl)
theorem dX1_count_156 : decode cX1_count 156 = .ok (.iaload, 1) := dk_46 (dk_at dksX1_count_6 14 rfl rfl)
theorem dX1_count_157 : decode cX1_count 157 = .ok (.istore_n 2, 1) := dk_61 (dk_at dksX1_count_6 15 rfl rfl)
theorem dX1_count_158 : decode cX1_count 158 = .ok (.iinc 3 1, 3) := dk_132 3 1 (dk_at dksX1_count_6 16 rfl rfl)
theorem dX1_count_161 : decode cX1_count 161 = .ok (.goto (-37), 3) := dk_167 255 219 (dk_at dksX1_count_6 19 rfl rfl)
theorem dX1_count_164 : decode cX1_count 164 = .ok (.iload_n 2, 1) := dk_28 (dk_at dksX1_count_6 22 rfl rfl)
theorem dX1_count_165 : decode cX1_count 165 = .ok (.ireturn, 1) := dk_172 (dk_at dksX1_count_6 23 rfl rfl)
theorem dX1_count_166 : decode cX1_count 166 = .ok (.iconst 0, 1) := dk_3 (dk_at dksX1_count_7 0 rfl rfl)
theorem dX1_count_167 : decode cX1_count 167 = .ok (.istore_n 3, 1) := dk_62 (dk_at dksX1_count_7 1 rfl rfl)
theorem dX1_count_168 : decode cX1_count 168 = .ok (.iload_n 3, 1) := dk_29 (dk_at dksX1_count_7 2 rfl rfl)
theorem dX1_count_169 : decode cX1_count 169 = .ok (.aload_n 0, 1) := dk_42 (dk_at dksX1_count_7 3 rfl rfl)
theorem dX1_count_170 : decode cX1_count 170 = .ok (.getfield 112, 3) := dk_180 0 112 (dk_at dksX1_count_7 4 rfl rfl)
theorem dX1_count_173 : decode cX1_count 173 = .ok (.if_icmp .ge 33, 3) := dk_162 0 33 (dk_at dksX1_count_7 7 rfl rfl)
theorem dX1_count_176 : decode cX1_count 176 = .ok (.aload_n 0, 1) := dk_42 (dk_at dksX1_count_7 10 rfl rfl)
theorem dX1_count_177 : decode cX1_count 177 = .ok (.getfield 86, 3) := dk_180 0 86 (dk_at dksX1_count_7 11 rfl rfl)
theorem dX1_count_180 : decode cX1_count 180 = .ok (.iload_n 3, 1) := dk_29 (dk_at dksX1_count_7 14 rfl rfl)
theorem dX1_count_181 : decode cX1_count 181 = .ok (.baload, 1) := dk_51 (dk_at dksX1_count_7 15 rfl rfl)
theorem dX1_count_182 : decode cX1_count 182 = .ok (.ifCond .eq 18, 3) := dk_153 0 18 (dk_at dksX1_count_7 16 rfl rfl)
theorem dX1_count_185 : decode cX1_count 185 = .ok (.aload_n 0, 1) := dk_42 (dk_at dksX1_count_7 19 rfl rfl)
theorem dX1_count_186 : decode cX1_count 186 = .ok (.iload_n 3, 1) := dk_29 (dk_at dksX1_count_7 20 rfl rfl)
theorem dX1_count_187 : decode cX1_count 187 = .ok (.invokevirtual 363, 3) := dk_182 1 107 (dk_at dksX1_count_7 21 rfl rfl)
theorem dX1_count_190 : decode cX1_count 190 = .ok (.iload_n 2, 1) := dk_28 (dk_at dksX1_count_8 0 rfl rfl)
theorem dX1_count_191 : decode cX1_count 191 = .ok (.if_icmp .le 9, 3) := dk_164 0 9 (dk_at dksX1_count_8 1 rfl rfl)
theorem dX1_count_194 : decode cX1_count 194 = .ok (.aload_n 0, 1) := dk_42 (dk_at dksX1_count_8 4 rfl rfl)
theorem dX1_count_195 : decode cX1_count 195 = .ok (.iload_n 3, 1) := dk_29 (dk_at dksX1_count_8 5 rfl rfl)
theorem dX1_count_196 : decode cX1_count 196 = .ok (.invokevirtual 363, 3) := dk_182 1 107 (dk_at dksX1_count_8 6 rfl rfl)
theorem dX1_count_199 : decode cX1_count 199 = .ok (.istore_n 2, 1) := dk_61 (dk_at dksX1_count_8 9 rfl rfl)
theorem dX1_count_200 : decode cX1_count 200 = .ok (.iinc 3 1, 3) := dk_132 3 1 (dk_at dksX1_count_8 10 rfl rfl)
theorem dX1_count_203 : decode cX1_count 203 = .ok (.goto (-35), 3) := dk_167 255 221 (dk_at dksX1_count_8 13 rfl rfl)
theorem dX1_count_206 : decode cX1_count 206 = .ok (.iload_n 2, 1) := dk_28 (dk_at dksX1_count_8 16 rfl rfl)
theorem dX1_count_207 : decode cX1_count 207 = .ok (.ireturn, 1) := dk_172 (dk_at dksX1_count_8 17 rfl rfl)
theorem dX1_count_208 : decode cX1_count 208 = .ok (.iconst 0, 1) := dk_3 (dk_at dksX1_count_8 18 rfl rfl)
theorem dX1_count_209 : decode cX1_count 209 = .ok (.istore_n 3, 1) := dk_62 (dk_at dksX1_count_8 19 rfl rfl)
theorem dX1_count_210 : decode cX1_count 210 = .ok (.iload_n 3, 1) := dk_29 (dk_at dksX1_count_8 20 rfl rfl)
theorem dX1_count_211 : decode cX1_count 211 = .ok (.aload_n 0, 1) := dk_42 (dk_at dksX1_count_8 21 rfl rfl)
theorem dX1_count_212 : decode cX1_count 212 = .ok (.getfield 112, 3) := dk_180 0 112 (dk_at dksX1_count_9 0 rfl rfl)
theorem dX1_count_215 : decode cX1_count 215 = .ok (.if_icmp .ge 26, 3) := dk_162 0 26 (dk_at dksX1_count_9 3 rfl rfl)
theorem dX1_count_218 : decode cX1_count 218 = .ok (.aload_n 0, 1) := dk_42 (dk_at dksX1_count_9 6 rfl rfl)
theorem dX1_count_219 : decode cX1_count 219 = .ok (.getfield 86, 3) := dk_180 0 86 (dk_at dksX1_count_9 7 rfl rfl)
theorem dX1_count_222 : decode cX1_count 222 = .ok (.iload_n 3, 1) := dk_29 (dk_at dksX1_count_9 10 rfl rfl)
theorem dX1_count_223 : decode cX1_count 223 = .ok (.baload, 1) := dk_51 (dk_at dksX1_count_9 11 rfl rfl)
theorem dX1_count_224 : decode cX1_count 224 = .ok (.ifCond .eq 11, 3) := dk_153 0 11 (dk_at dksX1_count_9 12 rfl rfl)
theorem dX1_count_227 : decode cX1_count 227 = .ok (.iload_n 2, 1) := dk_28 (dk_at dksX1_count_9 15 rfl rfl)
theorem dX1_count_228 : decode cX1_count 228 = .ok (.aload_n 0, 1) := dk_42 (dk_at dksX1_count_9 16 rfl rfl)
theorem dX1_count_229 : decode cX1_count 229 = .ok (.iload_n 3, 1) := dk_29 (dk_at dksX1_count_9 17 rfl rfl)
theorem dX1_count_230 : decode cX1_count 230 = .ok (.invokevirtual 366, 3) := dk_182 1 110 (dk_at dksX1_count_9 18 rfl rfl)
theorem dX1_count_233 : decode cX1_count 233 = .ok (.iadd, 1) := dk_96 (dk_at dksX1_count_9 21 rfl rfl)
theorem dX1_count_234 : decode cX1_count 234 = .ok (.istore_n 2, 1) := dk_61 (dk_at dksX1_count_9 22 rfl rfl)
theorem dX1_count_235 : decode cX1_count 235 = .ok (.iinc 3 1, 3) := dk_132 3 1 (dk_at dksX1_count_10 0 rfl rfl)
theorem dX1_count_238 : decode cX1_count 238 = .ok (.goto (-28), 3) := dk_167 255 228 (dk_at dksX1_count_10 3 rfl rfl)
theorem dX1_count_241 : decode cX1_count 241 = .ok (.iload_n 2, 1) := dk_28 (dk_at dksX1_count_10 6 rfl rfl)
theorem dX1_count_242 : decode cX1_count 242 = .ok (.ireturn, 1) := dk_172 (dk_at dksX1_count_10 7 rfl rfl)
theorem dX1_count_243 : decode cX1_count 243 = .ok (.iconst (-1), 1) := dk_2 (dk_at dksX1_count_10 8 rfl rfl)
theorem dX1_count_244 : decode cX1_count 244 = .ok (.ireturn, 1) := dk_172 (dk_at dksX1_count_10 9 rfl rfl)
theorem q88 : (Jvm.Cond.initialized "PrimeProofsModel") ∈ lw_all := lw_g (lw_at lw_m1 5 rfl) rfl
theorem q839 : (Jvm.Cond.selects "PrimeProofsModel" ({ cls := "java/lang/Object", name := "getClass", desc := "()Ljava/lang/Class;" } : Jvm.MethodName) ({ cls := "java/lang/Object", name := "getClass", desc := "()Ljava/lang/Class;" } : Jvm.MethodName)) ∈ lw_all := lw_g (lw_at lw_m4 36 rfl) rfl
theorem q1667 : (Jvm.Cond.instantiable "PrimeProofsModel" (35 : Nat)) ∈ lw_all := lw_g (lw_at lw_m7 144 rfl) rfl
theorem q1669 : (Jvm.Cond.instanceMethod ({ cls := "PrimeProofsModel", name := "<init>", desc := "()V" } : Jvm.MethodName)) ∈ lw_all := lw_g (lw_at lw_m7 146 rfl) rfl
theorem q1670 : (Jvm.Cond.code ({ cls := "PrimeProofsModel", name := "<init>", desc := "()V" } : Jvm.MethodName) prog_17_method_11_code (1 : Nat) (Option.none : Option Jvm.ClassFile.FieldType)) ∈ lw_all := lw_g (lw_at lw_m7 147 rfl) rfl
theorem q1671 : (Jvm.Cond.methodLink "PrimeProofsModel" (47 : Nat) ({ cls := "java/lang/Object", name := "<init>", desc := "()V" } : Jvm.MethodName)) ∈ lw_all := lw_g (lw_at lw_m7 148 rfl) rfl
theorem q1672 : (Jvm.Cond.fieldLink "PrimeProofsModel" (27 : Nat) "PrimeProofsModel" "so" "[J") ∈ lw_all := lw_g (lw_at lw_m7 149 rfl) rfl
theorem q1673 : (Jvm.Cond.fieldLink "PrimeProofsModel" (30 : Nat) "PrimeProofsModel" "by" "[J") ∈ lw_all := lw_g (lw_at lw_m7 150 rfl) rfl
theorem q1674 : (Jvm.Cond.fieldLink "PrimeProofsModel" (23 : Nat) "PrimeProofsModel" "then" "[J") ∈ lw_all := lw_g (lw_at lw_m7 151 rfl) rfl
theorem q1675 : (Jvm.Cond.fieldLink "PrimeProofsModel" (40 : Nat) "PrimeProofsModel" "factor" "[I") ∈ lw_all := lw_g (lw_at lw_m7 152 rfl) rfl
theorem q1676 : (Jvm.Cond.fieldLink "PrimeProofsModel" (44 : Nat) "PrimeProofsModel" "power" "[I") ∈ lw_all := lw_g (lw_at lw_m7 153 rfl) rfl
theorem q1677 : (Jvm.Cond.fieldLink "PrimeProofsModel" (37 : Nat) "PrimeProofsModel" "factors" "I") ∈ lw_all := lw_g (lw_at lw_m7 154 rfl) rfl
theorem q1678 : (Jvm.Cond.fieldLink "PrimeProofsModel" (112 : Nat) "PrimeProofsModel" "many" "I") ∈ lw_all := lw_g (lw_at lw_m7 155 rfl) rfl
theorem q1679 : (Jvm.Cond.fieldLink "PrimeProofsModel" (53 : Nat) "PrimeProofsModel" "lineN" "[I") ∈ lw_all := lw_g (lw_at lw_m7 156 rfl) rfl
theorem q1680 : (Jvm.Cond.fieldLink "PrimeProofsModel" (56 : Nat) "PrimeProofsModel" "lineSort" "[I") ∈ lw_all := lw_g (lw_at lw_m7 157 rfl) rfl
theorem q1681 : (Jvm.Cond.fieldLink "PrimeProofsModel" (59 : Nat) "PrimeProofsModel" "lineP" "[I") ∈ lw_all := lw_g (lw_at lw_m7 158 rfl) rfl
theorem q1682 : (Jvm.Cond.fieldLink "PrimeProofsModel" (62 : Nat) "PrimeProofsModel" "lineQ" "[I") ∈ lw_all := lw_g (lw_at lw_m7 159 rfl) rfl
theorem q1683 : (Jvm.Cond.fieldLink "PrimeProofsModel" (65 : Nat) "PrimeProofsModel" "downs" "[I") ∈ lw_all := lw_g (lw_at lw_m7 160 rfl) rfl
theorem q1684 : (Jvm.Cond.fieldLink "PrimeProofsModel" (68 : Nat) "PrimeProofsModel" "ups" "[I") ∈ lw_all := lw_g (lw_at lw_m7 161 rfl) rfl
theorem q1685 : (Jvm.Cond.fieldLink "PrimeProofsModel" (71 : Nat) "PrimeProofsModel" "downQ" "[I") ∈ lw_all := lw_g (lw_at lw_m7 162 rfl) rfl
theorem q1686 : (Jvm.Cond.fieldLink "PrimeProofsModel" (74 : Nat) "PrimeProofsModel" "downE" "[I") ∈ lw_all := lw_g (lw_at lw_m7 163 rfl) rfl
theorem q1687 : (Jvm.Cond.fieldLink "PrimeProofsModel" (77 : Nat) "PrimeProofsModel" "downA" "[I") ∈ lw_all := lw_g (lw_at lw_m7 164 rfl) rfl
theorem q1688 : (Jvm.Cond.fieldLink "PrimeProofsModel" (80 : Nat) "PrimeProofsModel" "upQ" "[I") ∈ lw_all := lw_g (lw_at lw_m7 165 rfl) rfl
theorem q1689 : (Jvm.Cond.fieldLink "PrimeProofsModel" (83 : Nat) "PrimeProofsModel" "upE" "[I") ∈ lw_all := lw_g (lw_at lw_m7 166 rfl) rfl
theorem q1690 : (Jvm.Cond.fieldLink "PrimeProofsModel" (86 : Nat) "PrimeProofsModel" "isRight" "[Z") ∈ lw_all := lw_g (lw_at lw_m7 167 rfl) rfl
theorem q1691 : (Jvm.Cond.fieldLink "PrimeProofsModel" (90 : Nat) "PrimeProofsModel" "faults" "[I") ∈ lw_all := lw_g (lw_at lw_m7 168 rfl) rfl
theorem q1692 : (Jvm.Cond.fieldLink "PrimeProofsModel" (93 : Nat) "PrimeProofsModel" "waitN" "[I") ∈ lw_all := lw_g (lw_at lw_m7 169 rfl) rfl
theorem q1693 : (Jvm.Cond.fieldLink "PrimeProofsModel" (96 : Nat) "PrimeProofsModel" "waitSort" "[I") ∈ lw_all := lw_g (lw_at lw_m7 170 rfl) rfl
theorem q1694 : (Jvm.Cond.fieldLink "PrimeProofsModel" (99 : Nat) "PrimeProofsModel" "tape" "[I") ∈ lw_all := lw_g (lw_at lw_m7 171 rfl) rfl
theorem q1695 : (Jvm.Cond.fieldLink "PrimeProofsModel" (246 : Nat) "PrimeProofsModel" "taped" "I") ∈ lw_all := lw_g (lw_at lw_m7 172 rfl) rfl
theorem q1696 : (Jvm.Cond.fieldLink "PrimeProofsModel" (266 : Nat) "PrimeProofsModel" "token" "I") ∈ lw_all := lw_g (lw_at lw_m7 173 rfl) rfl
theorem q1697 : (Jvm.Cond.fieldLink "PrimeProofsModel" (260 : Nat) "PrimeProofsModel" "at" "I") ∈ lw_all := lw_g (lw_at lw_m7 174 rfl) rfl
theorem q1698 : (Jvm.Cond.fieldLink "PrimeProofsModel" (269 : Nat) "PrimeProofsModel" "word" "I") ∈ lw_all := lw_g (lw_at lw_m7 175 rfl) rfl
theorem q1699 : (Jvm.Cond.fieldLink "PrimeProofsModel" (281 : Nat) "PrimeProofsModel" "number" "J") ∈ lw_all := lw_g (lw_at lw_m7 176 rfl) rfl
theorem q1700 : (Jvm.Cond.fieldLink "PrimeProofsModel" (263 : Nat) "PrimeProofsModel" "next" "I") ∈ lw_all := lw_g (lw_at lw_m7 177 rfl) rfl
theorem q1701 : (Jvm.Cond.fieldLink "PrimeProofsModel" (287 : Nat) "PrimeProofsModel" "wrong" "I") ∈ lw_all := lw_g (lw_at lw_m7 178 rfl) rfl
theorem q1702 : (Jvm.Cond.fieldLink "PrimeProofsModel" (102 : Nat) "PrimeProofsModel" "words" "[B") ∈ lw_all := lw_g (lw_at lw_m7 179 rfl) rfl
theorem q1703 : (Jvm.Cond.fieldLink "PrimeProofsModel" (106 : Nat) "PrimeProofsModel" "signs" "[I") ∈ lw_all := lw_g (lw_at lw_m7 180 rfl) rfl
theorem q1704 : (Jvm.Cond.fieldLink "PrimeProofsModel" (315 : Nat) "PrimeProofsModel" "signMany" "I") ∈ lw_all := lw_g (lw_at lw_m7 181 rfl) rfl
theorem q1705 : (Jvm.Cond.fieldLink "PrimeProofsModel" (109 : Nat) "PrimeProofsModel" "deeps" "[I") ∈ lw_all := lw_g (lw_at lw_m7 182 rfl) rfl
theorem q1706 : (Jvm.Cond.lays "PrimeProofsModel" "PrimeProofsModel" "thrown" "I") ∈ lw_all := lw_g (lw_at lw_m7 183 rfl) rfl
theorem q1707 : (Jvm.Cond.soleField "PrimeProofsModel" "thrown") ∈ lw_all := lw_g (lw_at lw_m7 184 rfl) rfl
theorem q1708 : (Jvm.Cond.laysFinal "PrimeProofsModel" "PrimeProofsModel" "so" "[J") ∈ lw_all := lw_g (lw_at lw_m7 185 rfl) rfl
theorem q1709 : (Jvm.Cond.soleField "PrimeProofsModel" "so") ∈ lw_all := lw_g (lw_at lw_m7 186 rfl) rfl
theorem q1710 : (Jvm.Cond.laysFinal "PrimeProofsModel" "PrimeProofsModel" "by" "[J") ∈ lw_all := lw_g (lw_at lw_m7 187 rfl) rfl
theorem q1711 : (Jvm.Cond.soleField "PrimeProofsModel" "by") ∈ lw_all := lw_g (lw_at lw_m7 188 rfl) rfl
theorem q1712 : (Jvm.Cond.laysFinal "PrimeProofsModel" "PrimeProofsModel" "then" "[J") ∈ lw_all := lw_g (lw_at lw_m7 189 rfl) rfl
theorem q1713 : (Jvm.Cond.soleField "PrimeProofsModel" "then") ∈ lw_all := lw_g (lw_at lw_m7 190 rfl) rfl
theorem q1714 : (Jvm.Cond.laysFinal "PrimeProofsModel" "PrimeProofsModel" "factor" "[I") ∈ lw_all := lw_g (lw_at lw_m7 191 rfl) rfl
theorem q1715 : (Jvm.Cond.soleField "PrimeProofsModel" "factor") ∈ lw_all := lw_g (lw_at lw_m7 192 rfl) rfl
theorem q1716 : (Jvm.Cond.laysFinal "PrimeProofsModel" "PrimeProofsModel" "power" "[I") ∈ lw_all := lw_g (lw_at lw_m7 193 rfl) rfl
theorem q1717 : (Jvm.Cond.soleField "PrimeProofsModel" "power") ∈ lw_all := lw_g (lw_at lw_m7 194 rfl) rfl
theorem q1718 : (Jvm.Cond.lays "PrimeProofsModel" "PrimeProofsModel" "factors" "I") ∈ lw_all := lw_g (lw_at lw_m7 195 rfl) rfl
theorem q1719 : (Jvm.Cond.soleField "PrimeProofsModel" "factors") ∈ lw_all := lw_g (lw_at lw_m7 196 rfl) rfl
theorem q1720 : (Jvm.Cond.lays "PrimeProofsModel" "PrimeProofsModel" "many" "I") ∈ lw_all := lw_g (lw_at lw_m7 197 rfl) rfl
theorem q1721 : (Jvm.Cond.soleField "PrimeProofsModel" "many") ∈ lw_all := lw_g (lw_at lw_m7 198 rfl) rfl
theorem q1722 : (Jvm.Cond.laysFinal "PrimeProofsModel" "PrimeProofsModel" "lineN" "[I") ∈ lw_all := lw_g (lw_at lw_m7 199 rfl) rfl
theorem q1723 : (Jvm.Cond.soleField "PrimeProofsModel" "lineN") ∈ lw_all := lw_g (lw_at lw_m7 200 rfl) rfl
theorem q1724 : (Jvm.Cond.laysFinal "PrimeProofsModel" "PrimeProofsModel" "lineSort" "[I") ∈ lw_all := lw_g (lw_at lw_m7 201 rfl) rfl
theorem q1725 : (Jvm.Cond.soleField "PrimeProofsModel" "lineSort") ∈ lw_all := lw_g (lw_at lw_m7 202 rfl) rfl
theorem q1726 : (Jvm.Cond.laysFinal "PrimeProofsModel" "PrimeProofsModel" "lineP" "[I") ∈ lw_all := lw_g (lw_at lw_m7 203 rfl) rfl
theorem q1727 : (Jvm.Cond.soleField "PrimeProofsModel" "lineP") ∈ lw_all := lw_g (lw_at lw_m7 204 rfl) rfl
theorem q1728 : (Jvm.Cond.laysFinal "PrimeProofsModel" "PrimeProofsModel" "lineQ" "[I") ∈ lw_all := lw_g (lw_at lw_m7 205 rfl) rfl
theorem q1729 : (Jvm.Cond.soleField "PrimeProofsModel" "lineQ") ∈ lw_all := lw_g (lw_at lw_m7 206 rfl) rfl
theorem q1730 : (Jvm.Cond.laysFinal "PrimeProofsModel" "PrimeProofsModel" "downs" "[I") ∈ lw_all := lw_g (lw_at lw_m7 207 rfl) rfl
theorem q1731 : (Jvm.Cond.soleField "PrimeProofsModel" "downs") ∈ lw_all := lw_g (lw_at lw_m7 208 rfl) rfl
theorem q1732 : (Jvm.Cond.laysFinal "PrimeProofsModel" "PrimeProofsModel" "ups" "[I") ∈ lw_all := lw_g (lw_at lw_m7 209 rfl) rfl
theorem q1733 : (Jvm.Cond.soleField "PrimeProofsModel" "ups") ∈ lw_all := lw_g (lw_at lw_m7 210 rfl) rfl
theorem q1734 : (Jvm.Cond.laysFinal "PrimeProofsModel" "PrimeProofsModel" "downQ" "[I") ∈ lw_all := lw_g (lw_at lw_m7 211 rfl) rfl
theorem q1735 : (Jvm.Cond.soleField "PrimeProofsModel" "downQ") ∈ lw_all := lw_g (lw_at lw_m7 212 rfl) rfl
theorem q1736 : (Jvm.Cond.laysFinal "PrimeProofsModel" "PrimeProofsModel" "downE" "[I") ∈ lw_all := lw_g (lw_at lw_m7 213 rfl) rfl
theorem q1737 : (Jvm.Cond.soleField "PrimeProofsModel" "downE") ∈ lw_all := lw_g (lw_at lw_m7 214 rfl) rfl
theorem q1738 : (Jvm.Cond.laysFinal "PrimeProofsModel" "PrimeProofsModel" "downA" "[I") ∈ lw_all := lw_g (lw_at lw_m7 215 rfl) rfl
theorem q1739 : (Jvm.Cond.soleField "PrimeProofsModel" "downA") ∈ lw_all := lw_g (lw_at lw_m7 216 rfl) rfl
theorem q1740 : (Jvm.Cond.laysFinal "PrimeProofsModel" "PrimeProofsModel" "upQ" "[I") ∈ lw_all := lw_g (lw_at lw_m7 217 rfl) rfl
theorem q1741 : (Jvm.Cond.soleField "PrimeProofsModel" "upQ") ∈ lw_all := lw_g (lw_at lw_m7 218 rfl) rfl
theorem q1742 : (Jvm.Cond.laysFinal "PrimeProofsModel" "PrimeProofsModel" "upE" "[I") ∈ lw_all := lw_g (lw_at lw_m7 219 rfl) rfl
theorem q1743 : (Jvm.Cond.soleField "PrimeProofsModel" "upE") ∈ lw_all := lw_g (lw_at lw_m7 220 rfl) rfl
theorem q1744 : (Jvm.Cond.laysFinal "PrimeProofsModel" "PrimeProofsModel" "isRight" "[Z") ∈ lw_all := lw_g (lw_at lw_m7 221 rfl) rfl
theorem q1745 : (Jvm.Cond.soleField "PrimeProofsModel" "isRight") ∈ lw_all := lw_g (lw_at lw_m7 222 rfl) rfl
theorem q1746 : (Jvm.Cond.laysFinal "PrimeProofsModel" "PrimeProofsModel" "faults" "[I") ∈ lw_all := lw_g (lw_at lw_m7 223 rfl) rfl
theorem q1747 : (Jvm.Cond.soleField "PrimeProofsModel" "faults") ∈ lw_all := lw_g (lw_at lw_m7 224 rfl) rfl
theorem q1748 : (Jvm.Cond.laysFinal "PrimeProofsModel" "PrimeProofsModel" "waitN" "[I") ∈ lw_all := lw_g (lw_at lw_m7 225 rfl) rfl
theorem q1749 : (Jvm.Cond.soleField "PrimeProofsModel" "waitN") ∈ lw_all := lw_g (lw_at lw_m7 226 rfl) rfl
theorem q1750 : (Jvm.Cond.laysFinal "PrimeProofsModel" "PrimeProofsModel" "waitSort" "[I") ∈ lw_all := lw_g (lw_at lw_m7 227 rfl) rfl
theorem q1751 : (Jvm.Cond.soleField "PrimeProofsModel" "waitSort") ∈ lw_all := lw_g (lw_at lw_m7 228 rfl) rfl
theorem q1752 : (Jvm.Cond.laysFinal "PrimeProofsModel" "PrimeProofsModel" "tape" "[I") ∈ lw_all := lw_g (lw_at lw_m7 229 rfl) rfl
theorem q1753 : (Jvm.Cond.soleField "PrimeProofsModel" "tape") ∈ lw_all := lw_g (lw_at lw_m7 230 rfl) rfl
theorem q1754 : (Jvm.Cond.lays "PrimeProofsModel" "PrimeProofsModel" "taped" "I") ∈ lw_all := lw_g (lw_at lw_m7 231 rfl) rfl
theorem q1755 : (Jvm.Cond.soleField "PrimeProofsModel" "taped") ∈ lw_all := lw_g (lw_at lw_m7 232 rfl) rfl
theorem q1756 : (Jvm.Cond.lays "PrimeProofsModel" "PrimeProofsModel" "token" "I") ∈ lw_all := lw_g (lw_at lw_m7 233 rfl) rfl
theorem q1757 : (Jvm.Cond.soleField "PrimeProofsModel" "token") ∈ lw_all := lw_g (lw_at lw_m7 234 rfl) rfl
theorem q1758 : (Jvm.Cond.lays "PrimeProofsModel" "PrimeProofsModel" "at" "I") ∈ lw_all := lw_g (lw_at lw_m7 235 rfl) rfl
theorem q1759 : (Jvm.Cond.soleField "PrimeProofsModel" "at") ∈ lw_all := lw_g (lw_at lw_m7 236 rfl) rfl
theorem q1760 : (Jvm.Cond.lays "PrimeProofsModel" "PrimeProofsModel" "word" "I") ∈ lw_all := lw_g (lw_at lw_m7 237 rfl) rfl
theorem q1761 : (Jvm.Cond.soleField "PrimeProofsModel" "word") ∈ lw_all := lw_g (lw_at lw_m7 238 rfl) rfl
theorem q1762 : (Jvm.Cond.lays "PrimeProofsModel" "PrimeProofsModel" "number" "J") ∈ lw_all := lw_g (lw_at lw_m7 239 rfl) rfl
theorem q1763 : (Jvm.Cond.soleField "PrimeProofsModel" "number") ∈ lw_all := lw_g (lw_at lw_m8 0 rfl) rfl
theorem q1764 : (Jvm.Cond.lays "PrimeProofsModel" "PrimeProofsModel" "next" "I") ∈ lw_all := lw_g (lw_at lw_m8 1 rfl) rfl
theorem q1765 : (Jvm.Cond.soleField "PrimeProofsModel" "next") ∈ lw_all := lw_g (lw_at lw_m8 2 rfl) rfl
theorem q1766 : (Jvm.Cond.lays "PrimeProofsModel" "PrimeProofsModel" "wrong" "I") ∈ lw_all := lw_g (lw_at lw_m8 3 rfl) rfl
theorem q1767 : (Jvm.Cond.soleField "PrimeProofsModel" "wrong") ∈ lw_all := lw_g (lw_at lw_m8 4 rfl) rfl
theorem q1768 : (Jvm.Cond.laysFinal "PrimeProofsModel" "PrimeProofsModel" "words" "[B") ∈ lw_all := lw_g (lw_at lw_m8 5 rfl) rfl
theorem q1769 : (Jvm.Cond.soleField "PrimeProofsModel" "words") ∈ lw_all := lw_g (lw_at lw_m8 6 rfl) rfl
theorem q1770 : (Jvm.Cond.laysFinal "PrimeProofsModel" "PrimeProofsModel" "signs" "[I") ∈ lw_all := lw_g (lw_at lw_m8 7 rfl) rfl
theorem q1771 : (Jvm.Cond.soleField "PrimeProofsModel" "signs") ∈ lw_all := lw_g (lw_at lw_m8 8 rfl) rfl
theorem q1772 : (Jvm.Cond.lays "PrimeProofsModel" "PrimeProofsModel" "signMany" "I") ∈ lw_all := lw_g (lw_at lw_m8 9 rfl) rfl
theorem q1773 : (Jvm.Cond.soleField "PrimeProofsModel" "signMany") ∈ lw_all := lw_g (lw_at lw_m8 10 rfl) rfl
theorem q1774 : (Jvm.Cond.laysFinal "PrimeProofsModel" "PrimeProofsModel" "deeps" "[I") ∈ lw_all := lw_g (lw_at lw_m8 11 rfl) rfl
theorem q1775 : (Jvm.Cond.soleField "PrimeProofsModel" "deeps") ∈ lw_all := lw_g (lw_at lw_m8 12 rfl) rfl
theorem q1776 : (Jvm.Cond.superclass "PrimeProofsModel" "java/lang/Object") ∈ lw_all := lw_g (lw_at lw_m8 13 rfl) rfl
theorem q1779 : (Jvm.Cond.instanceMethod ({ cls := "PrimeProofsModel", name := "find", desc := "(II)I" } : Jvm.MethodName)) ∈ lw_all := lw_g (lw_at lw_m8 16 rfl) rfl
theorem q1780 : (Jvm.Cond.selects "PrimeProofsModel" ({ cls := "PrimeProofsModel", name := "find", desc := "(II)I" } : Jvm.MethodName) ({ cls := "PrimeProofsModel", name := "find", desc := "(II)I" } : Jvm.MethodName)) ∈ lw_all := lw_g (lw_at lw_m8 17 rfl) rfl
theorem q1781 : (Jvm.Cond.code ({ cls := "PrimeProofsModel", name := "find", desc := "(II)I" } : Jvm.MethodName) prog_17_method_41_code (9 : Nat) (Option.some Jvm.ClassFile.FieldType.int)) ∈ lw_all := lw_g (lw_at lw_m8 18 rfl) rfl
theorem q1782 : (Jvm.Cond.constantLong "PrimeProofsModel" (21 : Nat) (4 : Int64)) ∈ lw_all := lw_g (lw_at lw_m8 19 rfl) rfl
theorem q1783 : (Jvm.Cond.methodLink "PrimeProofsModel" (11 : Nat) ({ cls := "PrimeProofsModel", name := "in", desc := "(JJJ)Z" } : Jvm.MethodName)) ∈ lw_all := lw_g (lw_at lw_m8 20 rfl) rfl
theorem q1784 : (Jvm.Cond.static ({ cls := "PrimeProofsModel", name := "in", desc := "(JJJ)Z" } : Jvm.MethodName)) ∈ lw_all := lw_g (lw_at lw_m8 21 rfl) rfl
theorem q1785 : (Jvm.Cond.code ({ cls := "PrimeProofsModel", name := "in", desc := "(JJJ)Z" } : Jvm.MethodName) prog_17_method_2_code (6 : Nat) (Option.some Jvm.ClassFile.FieldType.boolean)) ∈ lw_all := lw_g (lw_at lw_m8 22 rfl) rfl
theorem q1786 : (Jvm.Cond.methodLink "PrimeProofsModel" (226 : Nat) ({ cls := "PrimeProofsModel", name := "isNumber", desc := "(J)Z" } : Jvm.MethodName)) ∈ lw_all := lw_g (lw_at lw_m8 23 rfl) rfl
theorem q1787 : (Jvm.Cond.static ({ cls := "PrimeProofsModel", name := "isNumber", desc := "(J)Z" } : Jvm.MethodName)) ∈ lw_all := lw_g (lw_at lw_m8 24 rfl) rfl
theorem q1788 : (Jvm.Cond.code ({ cls := "PrimeProofsModel", name := "isNumber", desc := "(J)Z" } : Jvm.MethodName) prog_17_method_3_code (2 : Nat) (Option.some Jvm.ClassFile.FieldType.boolean)) ∈ lw_all := lw_g (lw_at lw_m8 25 rfl) rfl
theorem q1789 : (Jvm.Cond.constantLong "PrimeProofsModel" (7 : Nat) (2 : Int64)) ∈ lw_all := lw_g (lw_at lw_m8 26 rfl) rfl
theorem q1790 : (Jvm.Cond.constantLong "PrimeProofsModel" (9 : Nat) (1000000000 : Int64)) ∈ lw_all := lw_g (lw_at lw_m8 27 rfl) rfl
theorem q1791 : (Jvm.Cond.methodLink "PrimeProofsModel" (201 : Nat) ({ cls := "PrimeProofsModel", name := "laysRight", desc := "()V" } : Jvm.MethodName)) ∈ lw_all := lw_g (lw_at lw_m8 28 rfl) rfl
theorem q1792 : (Jvm.Cond.privateMethod ({ cls := "PrimeProofsModel", name := "laysRight", desc := "()V" } : Jvm.MethodName)) ∈ lw_tbl := lw_at lw_m8 29 rfl
theorem q1793 : (Jvm.Cond.instanceMethod ({ cls := "PrimeProofsModel", name := "laysRight", desc := "()V" } : Jvm.MethodName)) ∈ lw_all := lw_g (lw_at lw_m8 30 rfl) rfl
theorem q1794 : (Jvm.Cond.code ({ cls := "PrimeProofsModel", name := "laysRight", desc := "()V" } : Jvm.MethodName) prog_17_method_32_code (2 : Nat) (Option.none : Option Jvm.ClassFile.FieldType)) ∈ lw_all := lw_g (lw_at lw_m8 31 rfl) rfl
theorem q1795 : (Jvm.Cond.methodLink "PrimeProofsModel" (197 : Nat) ({ cls := "PrimeProofsModel", name := "faultOf", desc := "(I)I" } : Jvm.MethodName)) ∈ lw_all := lw_g (lw_at lw_m8 32 rfl) rfl
theorem q1796 : (Jvm.Cond.privateMethod ({ cls := "PrimeProofsModel", name := "faultOf", desc := "(I)I" } : Jvm.MethodName)) ∈ lw_tbl := lw_at lw_m8 33 rfl
theorem q1797 : (Jvm.Cond.instanceMethod ({ cls := "PrimeProofsModel", name := "faultOf", desc := "(I)I" } : Jvm.MethodName)) ∈ lw_all := lw_g (lw_at lw_m8 34 rfl) rfl
theorem q1798 : (Jvm.Cond.code ({ cls := "PrimeProofsModel", name := "faultOf", desc := "(I)I" } : Jvm.MethodName) prog_17_method_31_code (6 : Nat) (Option.some Jvm.ClassFile.FieldType.int)) ∈ lw_all := lw_g (lw_at lw_m8 35 rfl) rfl
theorem q1799 : (Jvm.Cond.methodLink "PrimeProofsModel" (164 : Nat) ({ cls := "PrimeProofsModel", name := "isPrime", desc := "(J)Z" } : Jvm.MethodName)) ∈ lw_all := lw_g (lw_at lw_m8 36 rfl) rfl
theorem q1800 : (Jvm.Cond.static ({ cls := "PrimeProofsModel", name := "isPrime", desc := "(J)Z" } : Jvm.MethodName)) ∈ lw_all := lw_g (lw_at lw_m8 37 rfl) rfl
theorem q1801 : (Jvm.Cond.code ({ cls := "PrimeProofsModel", name := "isPrime", desc := "(J)Z" } : Jvm.MethodName) prog_17_method_6_code (4 : Nat) (Option.some Jvm.ClassFile.FieldType.boolean)) ∈ lw_all := lw_g (lw_at lw_m8 38 rfl) rfl
theorem q1802 : (Jvm.Cond.methodLink "PrimeProofsModel" (168 : Nat) ({ cls := "PrimeProofsModel", name := "areTwice", desc := "([III)Z" } : Jvm.MethodName)) ∈ lw_all := lw_g (lw_at lw_m8 39 rfl) rfl
theorem q1803 : (Jvm.Cond.static ({ cls := "PrimeProofsModel", name := "areTwice", desc := "([III)Z" } : Jvm.MethodName)) ∈ lw_all := lw_g (lw_at lw_m8 40 rfl) rfl
theorem q1804 : (Jvm.Cond.code ({ cls := "PrimeProofsModel", name := "areTwice", desc := "([III)Z" } : Jvm.MethodName) prog_17_method_23_code (5 : Nat) (Option.some Jvm.ClassFile.FieldType.boolean)) ∈ lw_all := lw_g (lw_at lw_m8 41 rfl) rfl
theorem q1805 : (Jvm.Cond.methodLink "PrimeProofsModel" (172 : Nat) ({ cls := "PrimeProofsModel", name := "hasAll", desc := "([IIII)Z" } : Jvm.MethodName)) ∈ lw_all := lw_g (lw_at lw_m8 42 rfl) rfl
theorem q1806 : (Jvm.Cond.privateMethod ({ cls := "PrimeProofsModel", name := "hasAll", desc := "([IIII)Z" } : Jvm.MethodName)) ∈ lw_tbl := lw_at lw_m8 43 rfl
theorem q1807 : (Jvm.Cond.instanceMethod ({ cls := "PrimeProofsModel", name := "hasAll", desc := "([IIII)Z" } : Jvm.MethodName)) ∈ lw_all := lw_g (lw_at lw_m8 44 rfl) rfl
theorem q1808 : (Jvm.Cond.code ({ cls := "PrimeProofsModel", name := "hasAll", desc := "([IIII)Z" } : Jvm.MethodName) prog_17_method_24_code (6 : Nat) (Option.some Jvm.ClassFile.FieldType.boolean)) ∈ lw_all := lw_g (lw_at lw_m8 45 rfl) rfl
theorem q1809 : (Jvm.Cond.methodLink "PrimeProofsModel" (132 : Nat) ({ cls := "PrimeProofsModel", name := "lineFor", desc := "(II)I" } : Jvm.MethodName)) ∈ lw_all := lw_g (lw_at lw_m8 46 rfl) rfl
theorem q1810 : (Jvm.Cond.privateMethod ({ cls := "PrimeProofsModel", name := "lineFor", desc := "(II)I" } : Jvm.MethodName)) ∈ lw_tbl := lw_at lw_m8 47 rfl
theorem q1811 : (Jvm.Cond.instanceMethod ({ cls := "PrimeProofsModel", name := "lineFor", desc := "(II)I" } : Jvm.MethodName)) ∈ lw_all := lw_g (lw_at lw_m8 48 rfl) rfl
theorem q1812 : (Jvm.Cond.code ({ cls := "PrimeProofsModel", name := "lineFor", desc := "(II)I" } : Jvm.MethodName) prog_17_method_22_code (4 : Nat) (Option.some Jvm.ClassFile.FieldType.int)) ∈ lw_all := lw_g (lw_at lw_m8 49 rfl) rfl
theorem q1813 : (Jvm.Cond.methodLink "PrimeProofsModel" (176 : Nat) ({ cls := "PrimeProofsModel", name := "isFit", desc := "(I)Z" } : Jvm.MethodName)) ∈ lw_all := lw_g (lw_at lw_m8 50 rfl) rfl
theorem q1814 : (Jvm.Cond.privateMethod ({ cls := "PrimeProofsModel", name := "isFit", desc := "(I)Z" } : Jvm.MethodName)) ∈ lw_tbl := lw_at lw_m8 51 rfl
theorem q1815 : (Jvm.Cond.instanceMethod ({ cls := "PrimeProofsModel", name := "isFit", desc := "(I)Z" } : Jvm.MethodName)) ∈ lw_all := lw_g (lw_at lw_m8 52 rfl) rfl
theorem q1816 : (Jvm.Cond.code ({ cls := "PrimeProofsModel", name := "isFit", desc := "(I)Z" } : Jvm.MethodName) prog_17_method_26_code (8 : Nat) (Option.some Jvm.ClassFile.FieldType.boolean)) ∈ lw_all := lw_g (lw_at lw_m8 53 rfl) rfl
theorem q1817 : (Jvm.Cond.methodLink "PrimeProofsModel" (142 : Nat) ({ cls := "PrimeProofsModel", name := "below", desc := "(I)J" } : Jvm.MethodName)) ∈ lw_all := lw_g (lw_at lw_m8 54 rfl) rfl
theorem q1818 : (Jvm.Cond.privateMethod ({ cls := "PrimeProofsModel", name := "below", desc := "(I)J" } : Jvm.MethodName)) ∈ lw_tbl := lw_at lw_m8 55 rfl
theorem q1819 : (Jvm.Cond.instanceMethod ({ cls := "PrimeProofsModel", name := "below", desc := "(I)J" } : Jvm.MethodName)) ∈ lw_all := lw_g (lw_at lw_m8 56 rfl) rfl
theorem q1820 : (Jvm.Cond.code ({ cls := "PrimeProofsModel", name := "below", desc := "(I)J" } : Jvm.MethodName) prog_17_method_20_code (2 : Nat) (Option.some Jvm.ClassFile.FieldType.long)) ∈ lw_all := lw_g (lw_at lw_m8 57 rfl) rfl
theorem q1821 : (Jvm.Cond.methodLink "PrimeProofsModel" (128 : Nat) ({ cls := "PrimeProofsModel", name := "product", desc := "([I[III)J" } : Jvm.MethodName)) ∈ lw_all := lw_g (lw_at lw_m8 58 rfl) rfl
theorem q1822 : (Jvm.Cond.privateMethod ({ cls := "PrimeProofsModel", name := "product", desc := "([I[III)J" } : Jvm.MethodName)) ∈ lw_tbl := lw_at lw_m8 59 rfl
theorem q1823 : (Jvm.Cond.instanceMethod ({ cls := "PrimeProofsModel", name := "product", desc := "([I[III)J" } : Jvm.MethodName)) ∈ lw_all := lw_g (lw_at lw_m8 60 rfl) rfl
theorem q1824 : (Jvm.Cond.code ({ cls := "PrimeProofsModel", name := "product", desc := "([I[III)J" } : Jvm.MethodName) prog_17_method_19_code (9 : Nat) (Option.some Jvm.ClassFile.FieldType.long)) ∈ lw_all := lw_g (lw_at lw_m8 61 rfl) rfl
theorem q1825 : (Jvm.Cond.constantLong "PrimeProofsModel" (126 : Nat) (4000000000 : Int64)) ∈ lw_all := lw_g (lw_at lw_m8 62 rfl) rfl
theorem q1826 : (Jvm.Cond.methodLink "PrimeProofsModel" (146 : Nat) ({ cls := "PrimeProofsModel", name := "above", desc := "(I)J" } : Jvm.MethodName)) ∈ lw_all := lw_g (lw_at lw_m8 63 rfl) rfl
theorem q1827 : (Jvm.Cond.privateMethod ({ cls := "PrimeProofsModel", name := "above", desc := "(I)J" } : Jvm.MethodName)) ∈ lw_tbl := lw_at lw_m8 64 rfl
theorem q1828 : (Jvm.Cond.instanceMethod ({ cls := "PrimeProofsModel", name := "above", desc := "(I)J" } : Jvm.MethodName)) ∈ lw_all := lw_g (lw_at lw_m8 65 rfl) rfl
theorem q1829 : (Jvm.Cond.code ({ cls := "PrimeProofsModel", name := "above", desc := "(I)J" } : Jvm.MethodName) prog_17_method_21_code (2 : Nat) (Option.some Jvm.ClassFile.FieldType.long)) ∈ lw_all := lw_g (lw_at lw_m8 66 rfl) rfl
theorem q1830 : (Jvm.Cond.methodLink "PrimeProofsModel" (180 : Nat) ({ cls := "PrimeProofsModel", name := "isEnough", desc := "(I)Z" } : Jvm.MethodName)) ∈ lw_all := lw_g (lw_at lw_m8 67 rfl) rfl
theorem q1831 : (Jvm.Cond.privateMethod ({ cls := "PrimeProofsModel", name := "isEnough", desc := "(I)Z" } : Jvm.MethodName)) ∈ lw_tbl := lw_at lw_m8 68 rfl
theorem q1832 : (Jvm.Cond.instanceMethod ({ cls := "PrimeProofsModel", name := "isEnough", desc := "(I)Z" } : Jvm.MethodName)) ∈ lw_all := lw_g (lw_at lw_m8 69 rfl) rfl
theorem q1833 : (Jvm.Cond.code ({ cls := "PrimeProofsModel", name := "isEnough", desc := "(I)Z" } : Jvm.MethodName) prog_17_method_27_code (4 : Nat) (Option.some Jvm.ClassFile.FieldType.boolean)) ∈ lw_all := lw_g (lw_at lw_m8 70 rfl) rfl
theorem q1834 : (Jvm.Cond.methodLink "PrimeProofsModel" (149 : Nat) ({ cls := "PrimeProofsModel", name := "isLittle", desc := "(JJJ)Z" } : Jvm.MethodName)) ∈ lw_all := lw_g (lw_at lw_m8 71 rfl) rfl
theorem q1835 : (Jvm.Cond.static ({ cls := "PrimeProofsModel", name := "isLittle", desc := "(JJJ)Z" } : Jvm.MethodName)) ∈ lw_all := lw_g (lw_at lw_m8 72 rfl) rfl
theorem q1836 : (Jvm.Cond.code ({ cls := "PrimeProofsModel", name := "isLittle", desc := "(JJJ)Z" } : Jvm.MethodName) prog_17_method_25_code (10 : Nat) (Option.some Jvm.ClassFile.FieldType.boolean)) ∈ lw_all := lw_g (lw_at lw_m8 73 rfl) rfl
theorem q1837 : (Jvm.Cond.methodLink "PrimeProofsModel" (136 : Nat) ({ cls := "PrimeProofsModel", name := "common", desc := "(JJ)J" } : Jvm.MethodName)) ∈ lw_all := lw_g (lw_at lw_m8 74 rfl) rfl
theorem q1838 : (Jvm.Cond.static ({ cls := "PrimeProofsModel", name := "common", desc := "(JJ)J" } : Jvm.MethodName)) ∈ lw_all := lw_g (lw_at lw_m8 75 rfl) rfl
theorem q1839 : (Jvm.Cond.code ({ cls := "PrimeProofsModel", name := "common", desc := "(JJ)J" } : Jvm.MethodName) prog_17_method_4_code (10 : Nat) (Option.some Jvm.ClassFile.FieldType.long)) ∈ lw_all := lw_g (lw_at lw_m8 76 rfl) rfl
theorem q1840 : (Jvm.Cond.constantLong "PrimeProofsModel" (140 : Nat) (40000 : Int64)) ∈ lw_all := lw_g (lw_at lw_m8 77 rfl) rfl
theorem q1841 : (Jvm.Cond.methodLink "PrimeProofsModel" (183 : Nat) ({ cls := "PrimeProofsModel", name := "isOneBy", desc := "(JJ)Z" } : Jvm.MethodName)) ∈ lw_all := lw_g (lw_at lw_m8 78 rfl) rfl
theorem q1842 : (Jvm.Cond.static ({ cls := "PrimeProofsModel", name := "isOneBy", desc := "(JJ)Z" } : Jvm.MethodName)) ∈ lw_all := lw_g (lw_at lw_m8 79 rfl) rfl
theorem q1843 : (Jvm.Cond.code ({ cls := "PrimeProofsModel", name := "isOneBy", desc := "(JJ)Z" } : Jvm.MethodName) prog_17_method_28_code (4 : Nat) (Option.some Jvm.ClassFile.FieldType.boolean)) ∈ lw_all := lw_g (lw_at lw_m8 80 rfl) rfl
theorem q1844 : (Jvm.Cond.methodLink "PrimeProofsModel" (152 : Nat) ({ cls := "PrimeProofsModel", name := "powerOf", desc := "(JJJ)J" } : Jvm.MethodName)) ∈ lw_all := lw_g (lw_at lw_m8 81 rfl) rfl
theorem q1845 : (Jvm.Cond.static ({ cls := "PrimeProofsModel", name := "powerOf", desc := "(JJJ)J" } : Jvm.MethodName)) ∈ lw_all := lw_g (lw_at lw_m8 82 rfl) rfl
theorem q1846 : (Jvm.Cond.code ({ cls := "PrimeProofsModel", name := "powerOf", desc := "(JJJ)J" } : Jvm.MethodName) prog_17_method_5_code (12 : Nat) (Option.some Jvm.ClassFile.FieldType.long)) ∈ lw_all := lw_g (lw_at lw_m8 83 rfl) rfl
theorem q1847 : (Jvm.Cond.methodLink "PrimeProofsModel" (187 : Nat) ({ cls := "PrimeProofsModel", name := "isApartBy", desc := "(JJJ)Z" } : Jvm.MethodName)) ∈ lw_all := lw_g (lw_at lw_m8 84 rfl) rfl
theorem q1848 : (Jvm.Cond.static ({ cls := "PrimeProofsModel", name := "isApartBy", desc := "(JJJ)Z" } : Jvm.MethodName)) ∈ lw_all := lw_g (lw_at lw_m8 85 rfl) rfl
theorem q1849 : (Jvm.Cond.code ({ cls := "PrimeProofsModel", name := "isApartBy", desc := "(JJJ)Z" } : Jvm.MethodName) prog_17_method_29_code (8 : Nat) (Option.some Jvm.ClassFile.FieldType.boolean)) ∈ lw_all := lw_g (lw_at lw_m8 86 rfl) rfl
theorem q1850 : (Jvm.Cond.methodLink "PrimeProofsModel" (190 : Nat) ({ cls := "PrimeProofsModel", name := "hasPair", desc := "(I)Z" } : Jvm.MethodName)) ∈ lw_all := lw_g (lw_at lw_m8 87 rfl) rfl
theorem q1851 : (Jvm.Cond.static ({ cls := "PrimeProofsModel", name := "hasPair", desc := "(I)Z" } : Jvm.MethodName)) ∈ lw_all := lw_g (lw_at lw_m8 88 rfl) rfl
theorem q1852 : (Jvm.Cond.code ({ cls := "PrimeProofsModel", name := "hasPair", desc := "(I)Z" } : Jvm.MethodName) prog_17_method_14_code (1 : Nat) (Option.some Jvm.ClassFile.FieldType.boolean)) ∈ lw_all := lw_g (lw_at lw_m8 89 rfl) rfl
theorem q1853 : (Jvm.Cond.methodLink "PrimeProofsModel" (193 : Nat) ({ cls := "PrimeProofsModel", name := "wrongPair", desc := "(IJJ)I" } : Jvm.MethodName)) ∈ lw_all := lw_g (lw_at lw_m8 90 rfl) rfl
theorem q1854 : (Jvm.Cond.privateMethod ({ cls := "PrimeProofsModel", name := "wrongPair", desc := "(IJJ)I" } : Jvm.MethodName)) ∈ lw_tbl := lw_at lw_m8 91 rfl
theorem q1855 : (Jvm.Cond.instanceMethod ({ cls := "PrimeProofsModel", name := "wrongPair", desc := "(IJJ)I" } : Jvm.MethodName)) ∈ lw_all := lw_g (lw_at lw_m8 92 rfl) rfl
theorem q1856 : (Jvm.Cond.code ({ cls := "PrimeProofsModel", name := "wrongPair", desc := "(IJJ)I" } : Jvm.MethodName) prog_17_method_30_code (9 : Nat) (Option.some Jvm.ClassFile.FieldType.int)) ∈ lw_all := lw_g (lw_at lw_m8 93 rfl) rfl
theorem q1857 : (Jvm.Cond.methodLink "PrimeProofsModel" (156 : Nat) ({ cls := "PrimeProofsModel", name := "signOf", desc := "(JJ)I" } : Jvm.MethodName)) ∈ lw_all := lw_g (lw_at lw_m8 94 rfl) rfl
theorem q1858 : (Jvm.Cond.static ({ cls := "PrimeProofsModel", name := "signOf", desc := "(JJ)I" } : Jvm.MethodName)) ∈ lw_all := lw_g (lw_at lw_m8 95 rfl) rfl
theorem q1859 : (Jvm.Cond.code ({ cls := "PrimeProofsModel", name := "signOf", desc := "(JJ)I" } : Jvm.MethodName) prog_17_method_7_code (11 : Nat) (Option.some Jvm.ClassFile.FieldType.int)) ∈ lw_all := lw_g (lw_at lw_m8 96 rfl) rfl
theorem q1860 : (Jvm.Cond.constantLong "PrimeProofsModel" (15 : Nat) (8 : Int64)) ∈ lw_all := lw_g (lw_at lw_m8 97 rfl) rfl
theorem q1861 : (Jvm.Cond.constantLong "PrimeProofsModel" (17 : Nat) (3 : Int64)) ∈ lw_all := lw_g (lw_at lw_m8 98 rfl) rfl
theorem q1862 : (Jvm.Cond.constantLong "PrimeProofsModel" (19 : Nat) (5 : Int64)) ∈ lw_all := lw_g (lw_at lw_m8 99 rfl) rfl
theorem q1863 : (Jvm.Cond.methodLink "PrimeProofsModel" (160 : Nat) ({ cls := "PrimeProofsModel", name := "sequence", desc := "(JJJJ)J" } : Jvm.MethodName)) ∈ lw_all := lw_g (lw_at lw_m8 100 rfl) rfl
theorem q1864 : (Jvm.Cond.privateMethod ({ cls := "PrimeProofsModel", name := "sequence", desc := "(JJJJ)J" } : Jvm.MethodName)) ∈ lw_tbl := lw_at lw_m8 101 rfl
theorem q1865 : (Jvm.Cond.instanceMethod ({ cls := "PrimeProofsModel", name := "sequence", desc := "(JJJJ)J" } : Jvm.MethodName)) ∈ lw_all := lw_g (lw_at lw_m8 102 rfl) rfl
theorem q1866 : (Jvm.Cond.code ({ cls := "PrimeProofsModel", name := "sequence", desc := "(JJJJ)J" } : Jvm.MethodName) prog_17_method_9_code (11 : Nat) (Option.some Jvm.ClassFile.FieldType.long)) ∈ lw_all := lw_g (lw_at lw_m8 103 rfl) rfl
theorem q1867 : (Jvm.Cond.methodLink "PrimeProofsModel" (33 : Nat) ({ cls := "PrimeProofsModel", name := "times", desc := "([J[JJ)V" } : Jvm.MethodName)) ∈ lw_all := lw_g (lw_at lw_m8 104 rfl) rfl
theorem q1868 : (Jvm.Cond.privateMethod ({ cls := "PrimeProofsModel", name := "times", desc := "([J[JJ)V" } : Jvm.MethodName)) ∈ lw_tbl := lw_at lw_m8 105 rfl
theorem q1869 : (Jvm.Cond.instanceMethod ({ cls := "PrimeProofsModel", name := "times", desc := "([J[JJ)V" } : Jvm.MethodName)) ∈ lw_all := lw_g (lw_at lw_m8 106 rfl) rfl
theorem q1870 : (Jvm.Cond.code ({ cls := "PrimeProofsModel", name := "times", desc := "([J[JJ)V" } : Jvm.MethodName) prog_17_method_8_code (7 : Nat) (Option.none : Option Jvm.ClassFile.FieldType)) ∈ lw_all := lw_g (lw_at lw_m8 107 rfl) rfl
theorem q1871 : (Jvm.Cond.methodLink "PrimeProofsModel" (229 : Nat) ({ cls := "PrimeProofsModel", name := "works", desc := "(II)Z" } : Jvm.MethodName)) ∈ lw_all := lw_g (lw_at lw_m8 108 rfl) rfl
theorem q1872 : (Jvm.Cond.privateMethod ({ cls := "PrimeProofsModel", name := "works", desc := "(II)Z" } : Jvm.MethodName)) ∈ lw_tbl := lw_at lw_m8 109 rfl
theorem q1873 : (Jvm.Cond.instanceMethod ({ cls := "PrimeProofsModel", name := "works", desc := "(II)Z" } : Jvm.MethodName)) ∈ lw_all := lw_g (lw_at lw_m8 110 rfl) rfl
theorem q1874 : (Jvm.Cond.code ({ cls := "PrimeProofsModel", name := "works", desc := "(II)Z" } : Jvm.MethodName) prog_17_method_39_code (3 : Nat) (Option.some Jvm.ClassFile.FieldType.boolean)) ∈ lw_all := lw_g (lw_at lw_m8 111 rfl) rfl
theorem q1875 : (Jvm.Cond.methodLink "PrimeProofsModel" (115 : Nat) ({ cls := "PrimeProofsModel", name := "begins", desc := "(III)V" } : Jvm.MethodName)) ∈ lw_all := lw_g (lw_at lw_m8 112 rfl) rfl
theorem q1876 : (Jvm.Cond.privateMethod ({ cls := "PrimeProofsModel", name := "begins", desc := "(III)V" } : Jvm.MethodName)) ∈ lw_tbl := lw_at lw_m8 113 rfl
theorem q1877 : (Jvm.Cond.instanceMethod ({ cls := "PrimeProofsModel", name := "begins", desc := "(III)V" } : Jvm.MethodName)) ∈ lw_all := lw_g (lw_at lw_m8 114 rfl) rfl
theorem q1878 : (Jvm.Cond.code ({ cls := "PrimeProofsModel", name := "begins", desc := "(III)V" } : Jvm.MethodName) prog_17_method_15_code (4 : Nat) (Option.none : Option Jvm.ClassFile.FieldType)) ∈ lw_all := lw_g (lw_at lw_m8 115 rfl) rfl
theorem q1879 : (Jvm.Cond.methodLink "PrimeProofsModel" (216 : Nat) ({ cls := "PrimeProofsModel", name := "laysRows", desc := "(I)V" } : Jvm.MethodName)) ∈ lw_all := lw_g (lw_at lw_m8 116 rfl) rfl
theorem q1880 : (Jvm.Cond.privateMethod ({ cls := "PrimeProofsModel", name := "laysRows", desc := "(I)V" } : Jvm.MethodName)) ∈ lw_tbl := lw_at lw_m8 117 rfl
theorem q1881 : (Jvm.Cond.instanceMethod ({ cls := "PrimeProofsModel", name := "laysRows", desc := "(I)V" } : Jvm.MethodName)) ∈ lw_all := lw_g (lw_at lw_m8 118 rfl) rfl
theorem q1882 : (Jvm.Cond.code ({ cls := "PrimeProofsModel", name := "laysRows", desc := "(I)V" } : Jvm.MethodName) prog_17_method_35_code (5 : Nat) (Option.none : Option Jvm.ClassFile.FieldType)) ∈ lw_all := lw_g (lw_at lw_m8 119 rfl) rfl
theorem q1883 : (Jvm.Cond.methodLink "PrimeProofsModel" (204 : Nat) ({ cls := "PrimeProofsModel", name := "laysFactors", desc := "(J)V" } : Jvm.MethodName)) ∈ lw_all := lw_g (lw_at lw_m8 120 rfl) rfl
theorem q1884 : (Jvm.Cond.privateMethod ({ cls := "PrimeProofsModel", name := "laysFactors", desc := "(J)V" } : Jvm.MethodName)) ∈ lw_tbl := lw_at lw_m8 121 rfl
theorem q1885 : (Jvm.Cond.instanceMethod ({ cls := "PrimeProofsModel", name := "laysFactors", desc := "(J)V" } : Jvm.MethodName)) ∈ lw_all := lw_g (lw_at lw_m8 122 rfl) rfl
theorem q1886 : (Jvm.Cond.code ({ cls := "PrimeProofsModel", name := "laysFactors", desc := "(J)V" } : Jvm.MethodName) prog_17_method_10_code (7 : Nat) (Option.none : Option Jvm.ClassFile.FieldType)) ∈ lw_all := lw_g (lw_at lw_m8 123 rfl) rfl
theorem q1887 : (Jvm.Cond.methodLink "PrimeProofsModel" (208 : Nat) ({ cls := "PrimeProofsModel", name := "rowsOf", desc := "(IZII)V" } : Jvm.MethodName)) ∈ lw_all := lw_g (lw_at lw_m8 124 rfl) rfl
theorem q1888 : (Jvm.Cond.privateMethod ({ cls := "PrimeProofsModel", name := "rowsOf", desc := "(IZII)V" } : Jvm.MethodName)) ∈ lw_tbl := lw_at lw_m8 125 rfl
theorem q1889 : (Jvm.Cond.instanceMethod ({ cls := "PrimeProofsModel", name := "rowsOf", desc := "(IZII)V" } : Jvm.MethodName)) ∈ lw_all := lw_g (lw_at lw_m8 126 rfl) rfl
theorem q1890 : (Jvm.Cond.code ({ cls := "PrimeProofsModel", name := "rowsOf", desc := "(IZII)V" } : Jvm.MethodName) prog_17_method_34_code (5 : Nat) (Option.none : Option Jvm.ClassFile.FieldType)) ∈ lw_all := lw_g (lw_at lw_m8 127 rfl) rfl
theorem q1891 : (Jvm.Cond.methodLink "PrimeProofsModel" (123 : Nat) ({ cls := "PrimeProofsModel", name := "addsUp", desc := "(III)V" } : Jvm.MethodName)) ∈ lw_all := lw_g (lw_at lw_m8 128 rfl) rfl
theorem q1892 : (Jvm.Cond.privateMethod ({ cls := "PrimeProofsModel", name := "addsUp", desc := "(III)V" } : Jvm.MethodName)) ∈ lw_tbl := lw_at lw_m8 129 rfl
theorem q1893 : (Jvm.Cond.instanceMethod ({ cls := "PrimeProofsModel", name := "addsUp", desc := "(III)V" } : Jvm.MethodName)) ∈ lw_all := lw_g (lw_at lw_m8 130 rfl) rfl
theorem q1894 : (Jvm.Cond.code ({ cls := "PrimeProofsModel", name := "addsUp", desc := "(III)V" } : Jvm.MethodName) prog_17_method_17_code (5 : Nat) (Option.none : Option Jvm.ClassFile.FieldType)) ∈ lw_all := lw_g (lw_at lw_m8 131 rfl) rfl
theorem q1895 : (Jvm.Cond.methodLink "PrimeProofsModel" (119 : Nat) ({ cls := "PrimeProofsModel", name := "addsDown", desc := "(IIII)V" } : Jvm.MethodName)) ∈ lw_all := lw_g (lw_at lw_m8 132 rfl) rfl
theorem q1896 : (Jvm.Cond.privateMethod ({ cls := "PrimeProofsModel", name := "addsDown", desc := "(IIII)V" } : Jvm.MethodName)) ∈ lw_tbl := lw_at lw_m8 133 rfl
theorem q1897 : (Jvm.Cond.instanceMethod ({ cls := "PrimeProofsModel", name := "addsDown", desc := "(IIII)V" } : Jvm.MethodName)) ∈ lw_all := lw_g (lw_at lw_m8 134 rfl) rfl
theorem q1898 : (Jvm.Cond.code ({ cls := "PrimeProofsModel", name := "addsDown", desc := "(IIII)V" } : Jvm.MethodName) prog_17_method_16_code (6 : Nat) (Option.none : Option Jvm.ClassFile.FieldType)) ∈ lw_all := lw_g (lw_at lw_m8 135 rfl) rfl
theorem q1899 : (Jvm.Cond.methodLink "PrimeProofsModel" (212 : Nat) ({ cls := "PrimeProofsModel", name := "turns", desc := "(II)V" } : Jvm.MethodName)) ∈ lw_all := lw_g (lw_at lw_m8 136 rfl) rfl
theorem q1900 : (Jvm.Cond.privateMethod ({ cls := "PrimeProofsModel", name := "turns", desc := "(II)V" } : Jvm.MethodName)) ∈ lw_tbl := lw_at lw_m8 137 rfl
theorem q1901 : (Jvm.Cond.instanceMethod ({ cls := "PrimeProofsModel", name := "turns", desc := "(II)V" } : Jvm.MethodName)) ∈ lw_all := lw_g (lw_at lw_m8 138 rfl) rfl
theorem q1902 : (Jvm.Cond.code ({ cls := "PrimeProofsModel", name := "turns", desc := "(II)V" } : Jvm.MethodName) prog_17_method_36_code (7 : Nat) (Option.none : Option Jvm.ClassFile.FieldType)) ∈ lw_all := lw_g (lw_at lw_m8 139 rfl) rfl
theorem q1903 : (Jvm.Cond.methodLink "PrimeProofsModel" (220 : Nat) ({ cls := "PrimeProofsModel", name := "laysBases", desc := "(I)Z" } : Jvm.MethodName)) ∈ lw_all := lw_g (lw_at lw_m8 140 rfl) rfl
theorem q1904 : (Jvm.Cond.privateMethod ({ cls := "PrimeProofsModel", name := "laysBases", desc := "(I)Z" } : Jvm.MethodName)) ∈ lw_tbl := lw_at lw_m8 141 rfl
theorem q1905 : (Jvm.Cond.instanceMethod ({ cls := "PrimeProofsModel", name := "laysBases", desc := "(I)Z" } : Jvm.MethodName)) ∈ lw_all := lw_g (lw_at lw_m8 142 rfl) rfl
theorem q1906 : (Jvm.Cond.code ({ cls := "PrimeProofsModel", name := "laysBases", desc := "(I)Z" } : Jvm.MethodName) prog_17_method_37_code (7 : Nat) (Option.some Jvm.ClassFile.FieldType.boolean)) ∈ lw_all := lw_g (lw_at lw_m8 143 rfl) rfl
theorem q1907 : (Jvm.Cond.methodLink "PrimeProofsModel" (223 : Nat) ({ cls := "PrimeProofsModel", name := "laysPair", desc := "(I)Z" } : Jvm.MethodName)) ∈ lw_all := lw_g (lw_at lw_m8 144 rfl) rfl
theorem q1908 : (Jvm.Cond.privateMethod ({ cls := "PrimeProofsModel", name := "laysPair", desc := "(I)Z" } : Jvm.MethodName)) ∈ lw_tbl := lw_at lw_m8 145 rfl
theorem q1909 : (Jvm.Cond.instanceMethod ({ cls := "PrimeProofsModel", name := "laysPair", desc := "(I)Z" } : Jvm.MethodName)) ∈ lw_all := lw_g (lw_at lw_m8 146 rfl) rfl
theorem q1910 : (Jvm.Cond.code ({ cls := "PrimeProofsModel", name := "laysPair", desc := "(I)Z" } : Jvm.MethodName) prog_17_method_38_code (4 : Nat) (Option.some Jvm.ClassFile.FieldType.boolean)) ∈ lw_all := lw_g (lw_at lw_m8 147 rfl) rfl
theorem q1911 : (Jvm.Cond.methodLink "PrimeProofsModel" (233 : Nat) ({ cls := "PrimeProofsModel", name := "missing", desc := "()I" } : Jvm.MethodName)) ∈ lw_all := lw_g (lw_at lw_m8 148 rfl) rfl
theorem q1912 : (Jvm.Cond.privateMethod ({ cls := "PrimeProofsModel", name := "missing", desc := "()I" } : Jvm.MethodName)) ∈ lw_tbl := lw_at lw_m8 149 rfl
theorem q1913 : (Jvm.Cond.instanceMethod ({ cls := "PrimeProofsModel", name := "missing", desc := "()I" } : Jvm.MethodName)) ∈ lw_all := lw_g (lw_at lw_m8 150 rfl) rfl
theorem q1914 : (Jvm.Cond.code ({ cls := "PrimeProofsModel", name := "missing", desc := "()I" } : Jvm.MethodName) prog_17_method_40_code (2 : Nat) (Option.some Jvm.ClassFile.FieldType.int)) ∈ lw_all := lw_g (lw_at lw_m8 151 rfl) rfl
theorem q1915 : (Jvm.Cond.methodLink "PrimeProofsModel" (237 : Nat) ({ cls := "PrimeProofsModel", name := "becomes", desc := "(II)V" } : Jvm.MethodName)) ∈ lw_all := lw_g (lw_at lw_m8 152 rfl) rfl
theorem q1916 : (Jvm.Cond.privateMethod ({ cls := "PrimeProofsModel", name := "becomes", desc := "(II)V" } : Jvm.MethodName)) ∈ lw_tbl := lw_at lw_m8 153 rfl
theorem q1917 : (Jvm.Cond.instanceMethod ({ cls := "PrimeProofsModel", name := "becomes", desc := "(II)V" } : Jvm.MethodName)) ∈ lw_all := lw_g (lw_at lw_m8 154 rfl) rfl
theorem q1918 : (Jvm.Cond.code ({ cls := "PrimeProofsModel", name := "becomes", desc := "(II)V" } : Jvm.MethodName) prog_17_method_18_code (4 : Nat) (Option.none : Option Jvm.ClassFile.FieldType)) ∈ lw_all := lw_g (lw_at lw_m8 155 rfl) rfl
theorem q1920 : (Jvm.Cond.instanceMethod ({ cls := "PrimeProofsModel", name := "mend", desc := "(I)I" } : Jvm.MethodName)) ∈ lw_all := lw_g (lw_at lw_m8 157 rfl) rfl
theorem q1921 : (Jvm.Cond.selects "PrimeProofsModel" ({ cls := "PrimeProofsModel", name := "mend", desc := "(I)I" } : Jvm.MethodName) ({ cls := "PrimeProofsModel", name := "mend", desc := "(I)I" } : Jvm.MethodName)) ∈ lw_all := lw_g (lw_at lw_m8 158 rfl) rfl
theorem q1922 : (Jvm.Cond.code ({ cls := "PrimeProofsModel", name := "mend", desc := "(I)I" } : Jvm.MethodName) prog_17_method_42_code (2 : Nat) (Option.some Jvm.ClassFile.FieldType.int)) ∈ lw_all := lw_g (lw_at lw_m8 159 rfl) rfl
theorem q1923 : (Jvm.Cond.methodLink "PrimeProofsModel" (240 : Nat) ({ cls := "PrimeProofsModel", name := "isLine", desc := "(I)Z" } : Jvm.MethodName)) ∈ lw_all := lw_g (lw_at lw_m8 160 rfl) rfl
theorem q1924 : (Jvm.Cond.privateMethod ({ cls := "PrimeProofsModel", name := "isLine", desc := "(I)Z" } : Jvm.MethodName)) ∈ lw_tbl := lw_at lw_m8 161 rfl
theorem q1925 : (Jvm.Cond.instanceMethod ({ cls := "PrimeProofsModel", name := "isLine", desc := "(I)Z" } : Jvm.MethodName)) ∈ lw_all := lw_g (lw_at lw_m8 162 rfl) rfl
theorem q1926 : (Jvm.Cond.code ({ cls := "PrimeProofsModel", name := "isLine", desc := "(I)Z" } : Jvm.MethodName) prog_17_method_12_code (2 : Nat) (Option.some Jvm.ClassFile.FieldType.boolean)) ∈ lw_all := lw_g (lw_at lw_m8 163 rfl) rfl
theorem q1928 : (Jvm.Cond.instanceMethod ({ cls := "PrimeProofsModel", name := "needs", desc := "(II)I" } : Jvm.MethodName)) ∈ lw_all := lw_g (lw_at lw_m8 165 rfl) rfl
theorem q1929 : (Jvm.Cond.selects "PrimeProofsModel" ({ cls := "PrimeProofsModel", name := "needs", desc := "(II)I" } : Jvm.MethodName) ({ cls := "PrimeProofsModel", name := "needs", desc := "(II)I" } : Jvm.MethodName)) ∈ lw_all := lw_g (lw_at lw_m8 166 rfl) rfl
theorem q1930 : (Jvm.Cond.code ({ cls := "PrimeProofsModel", name := "needs", desc := "(II)I" } : Jvm.MethodName) prog_17_method_43_code (3 : Nat) (Option.some Jvm.ClassFile.FieldType.int)) ∈ lw_all := lw_g (lw_at lw_m8 167 rfl) rfl
theorem q1932 : (Jvm.Cond.instanceMethod ({ cls := "PrimeProofsModel", name := "fewest", desc := "(I)I" } : Jvm.MethodName)) ∈ lw_all := lw_g (lw_at lw_m8 169 rfl) rfl
theorem q1933 : (Jvm.Cond.selects "PrimeProofsModel" ({ cls := "PrimeProofsModel", name := "fewest", desc := "(I)I" } : Jvm.MethodName) ({ cls := "PrimeProofsModel", name := "fewest", desc := "(I)I" } : Jvm.MethodName)) ∈ lw_all := lw_g (lw_at lw_m8 170 rfl) rfl
theorem q1934 : (Jvm.Cond.code ({ cls := "PrimeProofsModel", name := "fewest", desc := "(I)I" } : Jvm.MethodName) prog_17_method_44_code (7 : Nat) (Option.some Jvm.ClassFile.FieldType.int)) ∈ lw_all := lw_g (lw_at lw_m8 171 rfl) rfl
theorem q1935 : (Jvm.Cond.methodLink "PrimeProofsModel" (243 : Nat) ({ cls := "PrimeProofsModel", name := "needs", desc := "(II)I" } : Jvm.MethodName)) ∈ lw_all := lw_g (lw_at lw_m8 172 rfl) rfl
theorem q1937 : (Jvm.Cond.instanceMethod ({ cls := "PrimeProofsModel", name := "feed", desc := "(IIIII)I" } : Jvm.MethodName)) ∈ lw_all := lw_g (lw_at lw_m8 174 rfl) rfl
theorem q1938 : (Jvm.Cond.selects "PrimeProofsModel" ({ cls := "PrimeProofsModel", name := "feed", desc := "(IIIII)I" } : Jvm.MethodName) ({ cls := "PrimeProofsModel", name := "feed", desc := "(IIIII)I" } : Jvm.MethodName)) ∈ lw_all := lw_g (lw_at lw_m8 175 rfl) rfl
theorem q1939 : (Jvm.Cond.code ({ cls := "PrimeProofsModel", name := "feed", desc := "(IIIII)I" } : Jvm.MethodName) prog_17_method_45_code (8 : Nat) (Option.some Jvm.ClassFile.FieldType.int)) ∈ lw_all := lw_g (lw_at lw_m8 176 rfl) rfl
theorem q1941 : (Jvm.Cond.instanceMethod ({ cls := "PrimeProofsModel", name := "back", desc := "(I)I" } : Jvm.MethodName)) ∈ lw_all := lw_g (lw_at lw_m8 178 rfl) rfl
theorem q1942 : (Jvm.Cond.selects "PrimeProofsModel" ({ cls := "PrimeProofsModel", name := "back", desc := "(I)I" } : Jvm.MethodName) ({ cls := "PrimeProofsModel", name := "back", desc := "(I)I" } : Jvm.MethodName)) ∈ lw_all := lw_g (lw_at lw_m8 179 rfl) rfl
theorem q1943 : (Jvm.Cond.code ({ cls := "PrimeProofsModel", name := "back", desc := "(I)I" } : Jvm.MethodName) prog_17_method_46_code (2 : Nat) (Option.some Jvm.ClassFile.FieldType.int)) ∈ lw_all := lw_g (lw_at lw_m8 180 rfl) rfl
theorem q1945 : (Jvm.Cond.instanceMethod ({ cls := "PrimeProofsModel", name := "read", desc := "()I" } : Jvm.MethodName)) ∈ lw_all := lw_g (lw_at lw_m8 182 rfl) rfl
theorem q1946 : (Jvm.Cond.selects "PrimeProofsModel" ({ cls := "PrimeProofsModel", name := "read", desc := "()I" } : Jvm.MethodName) ({ cls := "PrimeProofsModel", name := "read", desc := "()I" } : Jvm.MethodName)) ∈ lw_all := lw_g (lw_at lw_m8 183 rfl) rfl
theorem q1947 : (Jvm.Cond.code ({ cls := "PrimeProofsModel", name := "read", desc := "()I" } : Jvm.MethodName) prog_17_method_58_code (2 : Nat) (Option.some Jvm.ClassFile.FieldType.int)) ∈ lw_all := lw_g (lw_at lw_m8 184 rfl) rfl
theorem q1948 : (Jvm.Cond.methodLink "PrimeProofsModel" (293 : Nat) ({ cls := "PrimeProofsModel", name := "goesOn", desc := "()V" } : Jvm.MethodName)) ∈ lw_all := lw_g (lw_at lw_m8 185 rfl) rfl
theorem q1949 : (Jvm.Cond.privateMethod ({ cls := "PrimeProofsModel", name := "goesOn", desc := "()V" } : Jvm.MethodName)) ∈ lw_tbl := lw_at lw_m8 186 rfl
theorem q1950 : (Jvm.Cond.instanceMethod ({ cls := "PrimeProofsModel", name := "goesOn", desc := "()V" } : Jvm.MethodName)) ∈ lw_all := lw_g (lw_at lw_m8 187 rfl) rfl
theorem q1951 : (Jvm.Cond.code ({ cls := "PrimeProofsModel", name := "goesOn", desc := "()V" } : Jvm.MethodName) prog_17_method_51_code (4 : Nat) (Option.none : Option Jvm.ClassFile.FieldType)) ∈ lw_all := lw_g (lw_at lw_m8 188 rfl) rfl
theorem q1952 : (Jvm.Cond.methodLink "PrimeProofsModel" (272 : Nat) ({ cls := "PrimeProofsModel", name := "isLetter", desc := "(I)Z" } : Jvm.MethodName)) ∈ lw_all := lw_g (lw_at lw_m8 189 rfl) rfl
theorem q1953 : (Jvm.Cond.privateMethod ({ cls := "PrimeProofsModel", name := "isLetter", desc := "(I)Z" } : Jvm.MethodName)) ∈ lw_tbl := lw_at lw_m8 190 rfl
theorem q1954 : (Jvm.Cond.instanceMethod ({ cls := "PrimeProofsModel", name := "isLetter", desc := "(I)Z" } : Jvm.MethodName)) ∈ lw_all := lw_g (lw_at lw_m8 191 rfl) rfl
theorem q1955 : (Jvm.Cond.code ({ cls := "PrimeProofsModel", name := "isLetter", desc := "(I)Z" } : Jvm.MethodName) prog_17_method_47_code (2 : Nat) (Option.some Jvm.ClassFile.FieldType.boolean)) ∈ lw_all := lw_g (lw_at lw_m8 192 rfl) rfl
theorem q1956 : (Jvm.Cond.constantLong "PrimeProofsModel" (249 : Nat) (97 : Int64)) ∈ lw_all := lw_g (lw_at lw_m8 193 rfl) rfl
theorem q1957 : (Jvm.Cond.constantLong "PrimeProofsModel" (251 : Nat) (122 : Int64)) ∈ lw_all := lw_g (lw_at lw_m8 194 rfl) rfl
theorem q1958 : (Jvm.Cond.methodLink "PrimeProofsModel" (275 : Nat) ({ cls := "PrimeProofsModel", name := "isWord", desc := "(I)Z" } : Jvm.MethodName)) ∈ lw_all := lw_g (lw_at lw_m8 195 rfl) rfl
theorem q1959 : (Jvm.Cond.privateMethod ({ cls := "PrimeProofsModel", name := "isWord", desc := "(I)Z" } : Jvm.MethodName)) ∈ lw_tbl := lw_at lw_m8 196 rfl
theorem q1960 : (Jvm.Cond.instanceMethod ({ cls := "PrimeProofsModel", name := "isWord", desc := "(I)Z" } : Jvm.MethodName)) ∈ lw_all := lw_g (lw_at lw_m8 197 rfl) rfl
theorem q1961 : (Jvm.Cond.code ({ cls := "PrimeProofsModel", name := "isWord", desc := "(I)Z" } : Jvm.MethodName) prog_17_method_50_code (4 : Nat) (Option.some Jvm.ClassFile.FieldType.boolean)) ∈ lw_all := lw_g (lw_at lw_m8 198 rfl) rfl
theorem q1962 : (Jvm.Cond.methodLink "PrimeProofsModel" (257 : Nat) ({ cls := "PrimeProofsModel", name := "wordFrom", desc := "(I)I" } : Jvm.MethodName)) ∈ lw_all := lw_g (lw_at lw_m8 199 rfl) rfl
theorem q1963 : (Jvm.Cond.privateMethod ({ cls := "PrimeProofsModel", name := "wordFrom", desc := "(I)I" } : Jvm.MethodName)) ∈ lw_tbl := lw_at lw_m8 200 rfl
theorem q1964 : (Jvm.Cond.instanceMethod ({ cls := "PrimeProofsModel", name := "wordFrom", desc := "(I)I" } : Jvm.MethodName)) ∈ lw_all := lw_g (lw_at lw_m8 201 rfl) rfl
theorem q1965 : (Jvm.Cond.code ({ cls := "PrimeProofsModel", name := "wordFrom", desc := "(I)I" } : Jvm.MethodName) prog_17_method_49_code (4 : Nat) (Option.some Jvm.ClassFile.FieldType.int)) ∈ lw_all := lw_g (lw_at lw_m8 202 rfl) rfl
theorem q1966 : (Jvm.Cond.methodLink "PrimeProofsModel" (278 : Nat) ({ cls := "PrimeProofsModel", name := "isDigit", desc := "(I)Z" } : Jvm.MethodName)) ∈ lw_all := lw_g (lw_at lw_m8 203 rfl) rfl
theorem q1967 : (Jvm.Cond.privateMethod ({ cls := "PrimeProofsModel", name := "isDigit", desc := "(I)Z" } : Jvm.MethodName)) ∈ lw_tbl := lw_at lw_m8 204 rfl
theorem q1968 : (Jvm.Cond.instanceMethod ({ cls := "PrimeProofsModel", name := "isDigit", desc := "(I)Z" } : Jvm.MethodName)) ∈ lw_all := lw_g (lw_at lw_m8 205 rfl) rfl
theorem q1969 : (Jvm.Cond.code ({ cls := "PrimeProofsModel", name := "isDigit", desc := "(I)Z" } : Jvm.MethodName) prog_17_method_48_code (2 : Nat) (Option.some Jvm.ClassFile.FieldType.boolean)) ∈ lw_all := lw_g (lw_at lw_m8 206 rfl) rfl
theorem q1970 : (Jvm.Cond.constantLong "PrimeProofsModel" (253 : Nat) (48 : Int64)) ∈ lw_all := lw_g (lw_at lw_m8 207 rfl) rfl
theorem q1971 : (Jvm.Cond.constantLong "PrimeProofsModel" (255 : Nat) (57 : Int64)) ∈ lw_all := lw_g (lw_at lw_m8 208 rfl) rfl
theorem q1972 : (Jvm.Cond.constantLong "PrimeProofsModel" (285 : Nat) (10 : Int64)) ∈ lw_all := lw_g (lw_at lw_m8 209 rfl) rfl
theorem q1973 : (Jvm.Cond.methodLink "PrimeProofsModel" (312 : Nat) ({ cls := "PrimeProofsModel", name := "readsLine", desc := "(I)V" } : Jvm.MethodName)) ∈ lw_all := lw_g (lw_at lw_m8 210 rfl) rfl
theorem q1974 : (Jvm.Cond.privateMethod ({ cls := "PrimeProofsModel", name := "readsLine", desc := "(I)V" } : Jvm.MethodName)) ∈ lw_tbl := lw_at lw_m8 211 rfl
theorem q1975 : (Jvm.Cond.instanceMethod ({ cls := "PrimeProofsModel", name := "readsLine", desc := "(I)V" } : Jvm.MethodName)) ∈ lw_all := lw_g (lw_at lw_m8 212 rfl) rfl
theorem q1976 : (Jvm.Cond.code ({ cls := "PrimeProofsModel", name := "readsLine", desc := "(I)V" } : Jvm.MethodName) prog_17_method_57_code (5 : Nat) (Option.none : Option Jvm.ClassFile.FieldType)) ∈ lw_all := lw_g (lw_at lw_m8 213 rfl) rfl
theorem q1977 : (Jvm.Cond.methodLink "PrimeProofsModel" (290 : Nat) ({ cls := "PrimeProofsModel", name := "fails", desc := "()V" } : Jvm.MethodName)) ∈ lw_all := lw_g (lw_at lw_m8 214 rfl) rfl
theorem q1978 : (Jvm.Cond.privateMethod ({ cls := "PrimeProofsModel", name := "fails", desc := "()V" } : Jvm.MethodName)) ∈ lw_tbl := lw_at lw_m8 215 rfl
theorem q1979 : (Jvm.Cond.instanceMethod ({ cls := "PrimeProofsModel", name := "fails", desc := "()V" } : Jvm.MethodName)) ∈ lw_all := lw_g (lw_at lw_m8 216 rfl) rfl
theorem q1980 : (Jvm.Cond.code ({ cls := "PrimeProofsModel", name := "fails", desc := "()V" } : Jvm.MethodName) prog_17_method_52_code (1 : Nat) (Option.none : Option Jvm.ClassFile.FieldType)) ∈ lw_all := lw_g (lw_at lw_m8 217 rfl) rfl
theorem q1981 : (Jvm.Cond.constant "PrimeProofsModel" (296 : Nat) (1000000000 : Int32)) ∈ lw_all := lw_g (lw_at lw_m8 218 rfl) rfl
theorem q1982 : (Jvm.Cond.methodLink "PrimeProofsModel" (297 : Nat) ({ cls := "PrimeProofsModel", name := "needsInt", desc := "(II)I" } : Jvm.MethodName)) ∈ lw_all := lw_g (lw_at lw_m8 219 rfl) rfl
theorem q1983 : (Jvm.Cond.privateMethod ({ cls := "PrimeProofsModel", name := "needsInt", desc := "(II)I" } : Jvm.MethodName)) ∈ lw_tbl := lw_at lw_m8 220 rfl
theorem q1984 : (Jvm.Cond.instanceMethod ({ cls := "PrimeProofsModel", name := "needsInt", desc := "(II)I" } : Jvm.MethodName)) ∈ lw_all := lw_g (lw_at lw_m8 221 rfl) rfl
theorem q1985 : (Jvm.Cond.code ({ cls := "PrimeProofsModel", name := "needsInt", desc := "(II)I" } : Jvm.MethodName) prog_17_method_54_code (4 : Nat) (Option.some Jvm.ClassFile.FieldType.int)) ∈ lw_all := lw_g (lw_at lw_m8 222 rfl) rfl
theorem q1986 : (Jvm.Cond.methodLink "PrimeProofsModel" (300 : Nat) ({ cls := "PrimeProofsModel", name := "needsWord", desc := "(I)V" } : Jvm.MethodName)) ∈ lw_all := lw_g (lw_at lw_m8 223 rfl) rfl
theorem q1987 : (Jvm.Cond.privateMethod ({ cls := "PrimeProofsModel", name := "needsWord", desc := "(I)V" } : Jvm.MethodName)) ∈ lw_tbl := lw_at lw_m8 224 rfl
theorem q1988 : (Jvm.Cond.instanceMethod ({ cls := "PrimeProofsModel", name := "needsWord", desc := "(I)V" } : Jvm.MethodName)) ∈ lw_all := lw_g (lw_at lw_m8 225 rfl) rfl
theorem q1989 : (Jvm.Cond.code ({ cls := "PrimeProofsModel", name := "needsWord", desc := "(I)V" } : Jvm.MethodName) prog_17_method_53_code (2 : Nat) (Option.none : Option Jvm.ClassFile.FieldType)) ∈ lw_all := lw_g (lw_at lw_m8 226 rfl) rfl
theorem q1990 : (Jvm.Cond.methodLink "PrimeProofsModel" (303 : Nat) ({ cls := "PrimeProofsModel", name := "hasDowns", desc := "(I)Z" } : Jvm.MethodName)) ∈ lw_all := lw_g (lw_at lw_m8 227 rfl) rfl
theorem q1991 : (Jvm.Cond.static ({ cls := "PrimeProofsModel", name := "hasDowns", desc := "(I)Z" } : Jvm.MethodName)) ∈ lw_all := lw_g (lw_at lw_m8 228 rfl) rfl
theorem q1992 : (Jvm.Cond.code ({ cls := "PrimeProofsModel", name := "hasDowns", desc := "(I)Z" } : Jvm.MethodName) prog_17_method_13_code (1 : Nat) (Option.some Jvm.ClassFile.FieldType.boolean)) ∈ lw_all := lw_g (lw_at lw_m8 229 rfl) rfl
theorem q1993 : (Jvm.Cond.methodLink "PrimeProofsModel" (306 : Nat) ({ cls := "PrimeProofsModel", name := "readsDowns", desc := "(II)V" } : Jvm.MethodName)) ∈ lw_all := lw_g (lw_at lw_m8 230 rfl) rfl
theorem q1994 : (Jvm.Cond.privateMethod ({ cls := "PrimeProofsModel", name := "readsDowns", desc := "(II)V" } : Jvm.MethodName)) ∈ lw_tbl := lw_at lw_m8 231 rfl
theorem q1995 : (Jvm.Cond.instanceMethod ({ cls := "PrimeProofsModel", name := "readsDowns", desc := "(II)V" } : Jvm.MethodName)) ∈ lw_all := lw_g (lw_at lw_m8 232 rfl) rfl
theorem q1996 : (Jvm.Cond.code ({ cls := "PrimeProofsModel", name := "readsDowns", desc := "(II)V" } : Jvm.MethodName) prog_17_method_55_code (6 : Nat) (Option.none : Option Jvm.ClassFile.FieldType)) ∈ lw_all := lw_g (lw_at lw_m8 233 rfl) rfl
theorem q1997 : (Jvm.Cond.methodLink "PrimeProofsModel" (309 : Nat) ({ cls := "PrimeProofsModel", name := "readsUps", desc := "(I)V" } : Jvm.MethodName)) ∈ lw_all := lw_g (lw_at lw_m8 234 rfl) rfl
theorem q1998 : (Jvm.Cond.privateMethod ({ cls := "PrimeProofsModel", name := "readsUps", desc := "(I)V" } : Jvm.MethodName)) ∈ lw_tbl := lw_at lw_m8 235 rfl
theorem q1999 : (Jvm.Cond.instanceMethod ({ cls := "PrimeProofsModel", name := "readsUps", desc := "(I)V" } : Jvm.MethodName)) ∈ lw_all := lw_g (lw_at lw_m8 236 rfl) rfl
theorem q2000 : (Jvm.Cond.code ({ cls := "PrimeProofsModel", name := "readsUps", desc := "(I)V" } : Jvm.MethodName) prog_17_method_56_code (4 : Nat) (Option.none : Option Jvm.ClassFile.FieldType)) ∈ lw_all := lw_g (lw_at lw_m8 237 rfl) rfl
theorem q2002 : (Jvm.Cond.instanceMethod ({ cls := "PrimeProofsModel", name := "spell", desc := "(II)I" } : Jvm.MethodName)) ∈ lw_all := lw_g (lw_at lw_m8 239 rfl) rfl
theorem q2003 : (Jvm.Cond.selects "PrimeProofsModel" ({ cls := "PrimeProofsModel", name := "spell", desc := "(II)I" } : Jvm.MethodName) ({ cls := "PrimeProofsModel", name := "spell", desc := "(II)I" } : Jvm.MethodName)) ∈ lw_all := lw_g (lw_at lw_m9 0 rfl) rfl
theorem q2004 : (Jvm.Cond.code ({ cls := "PrimeProofsModel", name := "spell", desc := "(II)I" } : Jvm.MethodName) prog_17_method_63_code (3 : Nat) (Option.some Jvm.ClassFile.FieldType.int)) ∈ lw_all := lw_g (lw_at lw_m9 1 rfl) rfl
theorem q2005 : (Jvm.Cond.methodLink "PrimeProofsModel" (327 : Nat) ({ cls := "PrimeProofsModel", name := "writesLine", desc := "(I)V" } : Jvm.MethodName)) ∈ lw_all := lw_g (lw_at lw_m9 2 rfl) rfl
theorem q2006 : (Jvm.Cond.privateMethod ({ cls := "PrimeProofsModel", name := "writesLine", desc := "(I)V" } : Jvm.MethodName)) ∈ lw_tbl := lw_at lw_m9 3 rfl
theorem q2007 : (Jvm.Cond.instanceMethod ({ cls := "PrimeProofsModel", name := "writesLine", desc := "(I)V" } : Jvm.MethodName)) ∈ lw_all := lw_g (lw_at lw_m9 4 rfl) rfl
theorem q2008 : (Jvm.Cond.code ({ cls := "PrimeProofsModel", name := "writesLine", desc := "(I)V" } : Jvm.MethodName) prog_17_method_62_code (4 : Nat) (Option.none : Option Jvm.ClassFile.FieldType)) ∈ lw_all := lw_g (lw_at lw_m9 5 rfl) rfl
theorem q2009 : (Jvm.Cond.methodLink "PrimeProofsModel" (321 : Nat) ({ cls := "PrimeProofsModel", name := "writesWord", desc := "(I)V" } : Jvm.MethodName)) ∈ lw_all := lw_g (lw_at lw_m9 6 rfl) rfl
theorem q2010 : (Jvm.Cond.privateMethod ({ cls := "PrimeProofsModel", name := "writesWord", desc := "(I)V" } : Jvm.MethodName)) ∈ lw_tbl := lw_at lw_m9 7 rfl
theorem q2011 : (Jvm.Cond.instanceMethod ({ cls := "PrimeProofsModel", name := "writesWord", desc := "(I)V" } : Jvm.MethodName)) ∈ lw_all := lw_g (lw_at lw_m9 8 rfl) rfl
theorem q2012 : (Jvm.Cond.code ({ cls := "PrimeProofsModel", name := "writesWord", desc := "(I)V" } : Jvm.MethodName) prog_17_method_59_code (3 : Nat) (Option.none : Option Jvm.ClassFile.FieldType)) ∈ lw_all := lw_g (lw_at lw_m9 9 rfl) rfl
theorem q2013 : (Jvm.Cond.methodLink "PrimeProofsModel" (318 : Nat) ({ cls := "PrimeProofsModel", name := "writesSign", desc := "(I)V" } : Jvm.MethodName)) ∈ lw_all := lw_g (lw_at lw_m9 10 rfl) rfl
theorem q2014 : (Jvm.Cond.privateMethod ({ cls := "PrimeProofsModel", name := "writesSign", desc := "(I)V" } : Jvm.MethodName)) ∈ lw_tbl := lw_at lw_m9 11 rfl
theorem q2015 : (Jvm.Cond.instanceMethod ({ cls := "PrimeProofsModel", name := "writesSign", desc := "(I)V" } : Jvm.MethodName)) ∈ lw_all := lw_g (lw_at lw_m9 12 rfl) rfl
theorem q2016 : (Jvm.Cond.code ({ cls := "PrimeProofsModel", name := "writesSign", desc := "(I)V" } : Jvm.MethodName) prog_17_method_60_code (2 : Nat) (Option.none : Option Jvm.ClassFile.FieldType)) ∈ lw_all := lw_g (lw_at lw_m9 13 rfl) rfl
theorem q2017 : (Jvm.Cond.methodLink "PrimeProofsModel" (324 : Nat) ({ cls := "PrimeProofsModel", name := "writes", desc := "(I)V" } : Jvm.MethodName)) ∈ lw_all := lw_g (lw_at lw_m9 14 rfl) rfl
theorem q2018 : (Jvm.Cond.privateMethod ({ cls := "PrimeProofsModel", name := "writes", desc := "(I)V" } : Jvm.MethodName)) ∈ lw_tbl := lw_at lw_m9 15 rfl
theorem q2019 : (Jvm.Cond.instanceMethod ({ cls := "PrimeProofsModel", name := "writes", desc := "(I)V" } : Jvm.MethodName)) ∈ lw_all := lw_g (lw_at lw_m9 16 rfl) rfl
theorem q2020 : (Jvm.Cond.code ({ cls := "PrimeProofsModel", name := "writes", desc := "(I)V" } : Jvm.MethodName) prog_17_method_61_code (3 : Nat) (Option.none : Option Jvm.ClassFile.FieldType)) ∈ lw_all := lw_g (lw_at lw_m9 17 rfl) rfl
theorem q2022 : (Jvm.Cond.instanceMethod ({ cls := "PrimeProofsModel", name := "set", desc := "(III)I" } : Jvm.MethodName)) ∈ lw_all := lw_g (lw_at lw_m9 19 rfl) rfl
theorem q2023 : (Jvm.Cond.selects "PrimeProofsModel" ({ cls := "PrimeProofsModel", name := "set", desc := "(III)I" } : Jvm.MethodName) ({ cls := "PrimeProofsModel", name := "set", desc := "(III)I" } : Jvm.MethodName)) ∈ lw_all := lw_g (lw_at lw_m9 20 rfl) rfl
theorem q2024 : (Jvm.Cond.code ({ cls := "PrimeProofsModel", name := "set", desc := "(III)I" } : Jvm.MethodName) prog_17_method_64_code (5 : Nat) (Option.some Jvm.ClassFile.FieldType.int)) ∈ lw_all := lw_g (lw_at lw_m9 21 rfl) rfl
theorem q2025 : (Jvm.Cond.constantLong "PrimeProofsModel" (330 : Nat) (99 : Int64)) ∈ lw_all := lw_g (lw_at lw_m9 22 rfl) rfl
theorem q2027 : (Jvm.Cond.instanceMethod ({ cls := "PrimeProofsModel", name := "alter", desc := "(IZIII)I" } : Jvm.MethodName)) ∈ lw_all := lw_g (lw_at lw_m9 24 rfl) rfl
theorem q2028 : (Jvm.Cond.selects "PrimeProofsModel" ({ cls := "PrimeProofsModel", name := "alter", desc := "(IZIII)I" } : Jvm.MethodName) ({ cls := "PrimeProofsModel", name := "alter", desc := "(IZIII)I" } : Jvm.MethodName)) ∈ lw_all := lw_g (lw_at lw_m9 25 rfl) rfl
theorem q2029 : (Jvm.Cond.code ({ cls := "PrimeProofsModel", name := "alter", desc := "(IZIII)I" } : Jvm.MethodName) prog_17_method_67_code (8 : Nat) (Option.some Jvm.ClassFile.FieldType.int)) ∈ lw_all := lw_g (lw_at lw_m9 26 rfl) rfl
theorem q2030 : (Jvm.Cond.methodLink "PrimeProofsModel" (336 : Nat) ({ cls := "PrimeProofsModel", name := "isRow", desc := "(IZI)Z" } : Jvm.MethodName)) ∈ lw_all := lw_g (lw_at lw_m9 27 rfl) rfl
theorem q2031 : (Jvm.Cond.privateMethod ({ cls := "PrimeProofsModel", name := "isRow", desc := "(IZI)Z" } : Jvm.MethodName)) ∈ lw_tbl := lw_at lw_m9 28 rfl
theorem q2032 : (Jvm.Cond.instanceMethod ({ cls := "PrimeProofsModel", name := "isRow", desc := "(IZI)Z" } : Jvm.MethodName)) ∈ lw_all := lw_g (lw_at lw_m9 29 rfl) rfl
theorem q2033 : (Jvm.Cond.code ({ cls := "PrimeProofsModel", name := "isRow", desc := "(IZI)Z" } : Jvm.MethodName) prog_17_method_65_code (4 : Nat) (Option.some Jvm.ClassFile.FieldType.boolean)) ∈ lw_all := lw_g (lw_at lw_m9 30 rfl) rfl
theorem q2034 : (Jvm.Cond.methodLink "PrimeProofsModel" (340 : Nat) ({ cls := "PrimeProofsModel", name := "canBe", desc := "(II)Z" } : Jvm.MethodName)) ∈ lw_all := lw_g (lw_at lw_m9 31 rfl) rfl
theorem q2035 : (Jvm.Cond.static ({ cls := "PrimeProofsModel", name := "canBe", desc := "(II)Z" } : Jvm.MethodName)) ∈ lw_all := lw_g (lw_at lw_m9 32 rfl) rfl
theorem q2036 : (Jvm.Cond.code ({ cls := "PrimeProofsModel", name := "canBe", desc := "(II)Z" } : Jvm.MethodName) prog_17_method_66_code (2 : Nat) (Option.some Jvm.ClassFile.FieldType.boolean)) ∈ lw_all := lw_g (lw_at lw_m9 33 rfl) rfl
theorem q2037 : (Jvm.Cond.constantLong "PrimeProofsModel" (332 : Nat) (30 : Int64)) ∈ lw_all := lw_g (lw_at lw_m9 34 rfl) rfl
theorem q2038 : (Jvm.Cond.constantLong "PrimeProofsModel" (334 : Nat) (999 : Int64)) ∈ lw_all := lw_g (lw_at lw_m9 35 rfl) rfl
theorem q2040 : (Jvm.Cond.instanceMethod ({ cls := "PrimeProofsModel", name := "cut", desc := "(IZI)I" } : Jvm.MethodName)) ∈ lw_all := lw_g (lw_at lw_m9 37 rfl) rfl
theorem q2041 : (Jvm.Cond.selects "PrimeProofsModel" ({ cls := "PrimeProofsModel", name := "cut", desc := "(IZI)I" } : Jvm.MethodName) ({ cls := "PrimeProofsModel", name := "cut", desc := "(IZI)I" } : Jvm.MethodName)) ∈ lw_all := lw_g (lw_at lw_m9 38 rfl) rfl
theorem q2042 : (Jvm.Cond.code ({ cls := "PrimeProofsModel", name := "cut", desc := "(IZI)I" } : Jvm.MethodName) prog_17_method_68_code (6 : Nat) (Option.some Jvm.ClassFile.FieldType.int)) ∈ lw_all := lw_g (lw_at lw_m9 39 rfl) rfl
theorem q2044 : (Jvm.Cond.instanceMethod ({ cls := "PrimeProofsModel", name := "move", desc := "(II)I" } : Jvm.MethodName)) ∈ lw_all := lw_g (lw_at lw_m9 41 rfl) rfl
theorem q2045 : (Jvm.Cond.selects "PrimeProofsModel" ({ cls := "PrimeProofsModel", name := "move", desc := "(II)I" } : Jvm.MethodName) ({ cls := "PrimeProofsModel", name := "move", desc := "(II)I" } : Jvm.MethodName)) ∈ lw_all := lw_g (lw_at lw_m9 42 rfl) rfl
theorem q2046 : (Jvm.Cond.code ({ cls := "PrimeProofsModel", name := "move", desc := "(II)I" } : Jvm.MethodName) prog_17_method_69_code (4 : Nat) (Option.some Jvm.ClassFile.FieldType.int)) ∈ lw_all := lw_g (lw_at lw_m9 43 rfl) rfl
theorem q2047 : (Jvm.Cond.methodLink "PrimeProofsModel" (343 : Nat) ({ cls := "PrimeProofsModel", name := "isRightLine", desc := "(I)Z" } : Jvm.MethodName)) ∈ lw_all := lw_g (lw_at lw_m9 44 rfl) rfl
theorem q2048 : (Jvm.Cond.privateMethod ({ cls := "PrimeProofsModel", name := "isRightLine", desc := "(I)Z" } : Jvm.MethodName)) ∈ lw_tbl := lw_at lw_m9 45 rfl
theorem q2049 : (Jvm.Cond.instanceMethod ({ cls := "PrimeProofsModel", name := "isRightLine", desc := "(I)Z" } : Jvm.MethodName)) ∈ lw_all := lw_g (lw_at lw_m9 46 rfl) rfl
theorem q2050 : (Jvm.Cond.code ({ cls := "PrimeProofsModel", name := "isRightLine", desc := "(I)Z" } : Jvm.MethodName) prog_17_method_33_code (2 : Nat) (Option.some Jvm.ClassFile.FieldType.boolean)) ∈ lw_all := lw_g (lw_at lw_m9 47 rfl) rfl
theorem q2052 : (Jvm.Cond.instanceMethod ({ cls := "PrimeProofsModel", name := "prune", desc := "(I)I" } : Jvm.MethodName)) ∈ lw_all := lw_g (lw_at lw_m9 49 rfl) rfl
theorem q2053 : (Jvm.Cond.selects "PrimeProofsModel" ({ cls := "PrimeProofsModel", name := "prune", desc := "(I)I" } : Jvm.MethodName) ({ cls := "PrimeProofsModel", name := "prune", desc := "(I)I" } : Jvm.MethodName)) ∈ lw_all := lw_g (lw_at lw_m9 50 rfl) rfl
theorem q2054 : (Jvm.Cond.code ({ cls := "PrimeProofsModel", name := "prune", desc := "(I)I" } : Jvm.MethodName) prog_17_method_70_code (6 : Nat) (Option.some Jvm.ClassFile.FieldType.int)) ∈ lw_all := lw_g (lw_at lw_m9 51 rfl) rfl
theorem q2055 : (Jvm.Cond.methodLink "PrimeProofsModel" (346 : Nat) ({ cls := "PrimeProofsModel", name := "restsOf", desc := "(I)J" } : Jvm.MethodName)) ∈ lw_all := lw_g (lw_at lw_m9 52 rfl) rfl
theorem q2056 : (Jvm.Cond.privateMethod ({ cls := "PrimeProofsModel", name := "restsOf", desc := "(I)J" } : Jvm.MethodName)) ∈ lw_tbl := lw_at lw_m9 53 rfl
theorem q2057 : (Jvm.Cond.instanceMethod ({ cls := "PrimeProofsModel", name := "restsOf", desc := "(I)J" } : Jvm.MethodName)) ∈ lw_all := lw_g (lw_at lw_m9 54 rfl) rfl
theorem q2058 : (Jvm.Cond.code ({ cls := "PrimeProofsModel", name := "restsOf", desc := "(I)J" } : Jvm.MethodName) prog_17_method_75_code (5 : Nat) (Option.some Jvm.ClassFile.FieldType.long)) ∈ lw_all := lw_g (lw_at lw_m9 55 rfl) rfl
theorem q2059 : (Jvm.Cond.methodLink "PrimeProofsModel" (349 : Nat) ({ cls := "PrimeProofsModel", name := "has", desc := "(JI)Z" } : Jvm.MethodName)) ∈ lw_all := lw_g (lw_at lw_m9 56 rfl) rfl
theorem q2060 : (Jvm.Cond.static ({ cls := "PrimeProofsModel", name := "has", desc := "(JI)Z" } : Jvm.MethodName)) ∈ lw_all := lw_g (lw_at lw_m9 57 rfl) rfl
theorem q2061 : (Jvm.Cond.code ({ cls := "PrimeProofsModel", name := "has", desc := "(JI)Z" } : Jvm.MethodName) prog_17_method_73_code (3 : Nat) (Option.some Jvm.ClassFile.FieldType.boolean)) ∈ lw_all := lw_g (lw_at lw_m9 58 rfl) rfl
theorem q2062 : (Jvm.Cond.methodLink "PrimeProofsModel" (353 : Nat) ({ cls := "PrimeProofsModel", name := "props", desc := "(I)J" } : Jvm.MethodName)) ∈ lw_all := lw_g (lw_at lw_m9 59 rfl) rfl
theorem q2063 : (Jvm.Cond.privateMethod ({ cls := "PrimeProofsModel", name := "props", desc := "(I)J" } : Jvm.MethodName)) ∈ lw_tbl := lw_at lw_m9 60 rfl
theorem q2064 : (Jvm.Cond.instanceMethod ({ cls := "PrimeProofsModel", name := "props", desc := "(I)J" } : Jvm.MethodName)) ∈ lw_all := lw_g (lw_at lw_m9 61 rfl) rfl
theorem q2065 : (Jvm.Cond.code ({ cls := "PrimeProofsModel", name := "props", desc := "(I)J" } : Jvm.MethodName) prog_17_method_74_code (5 : Nat) (Option.some Jvm.ClassFile.FieldType.long)) ∈ lw_all := lw_g (lw_at lw_m9 62 rfl) rfl
theorem q2067 : (Jvm.Cond.instanceMethod ({ cls := "PrimeProofsModel", name := "drop", desc := "()I" } : Jvm.MethodName)) ∈ lw_all := lw_g (lw_at lw_m9 64 rfl) rfl
theorem q2068 : (Jvm.Cond.selects "PrimeProofsModel" ({ cls := "PrimeProofsModel", name := "drop", desc := "()I" } : Jvm.MethodName) ({ cls := "PrimeProofsModel", name := "drop", desc := "()I" } : Jvm.MethodName)) ∈ lw_all := lw_g (lw_at lw_m9 65 rfl) rfl
theorem q2069 : (Jvm.Cond.code ({ cls := "PrimeProofsModel", name := "drop", desc := "()I" } : Jvm.MethodName) prog_17_method_71_code (1 : Nat) (Option.some Jvm.ClassFile.FieldType.int)) ∈ lw_all := lw_g (lw_at lw_m9 66 rfl) rfl
theorem q2071 : (Jvm.Cond.instanceMethod ({ cls := "PrimeProofsModel", name := "clear", desc := "()I" } : Jvm.MethodName)) ∈ lw_all := lw_g (lw_at lw_m9 68 rfl) rfl
theorem q2072 : (Jvm.Cond.selects "PrimeProofsModel" ({ cls := "PrimeProofsModel", name := "clear", desc := "()I" } : Jvm.MethodName) ({ cls := "PrimeProofsModel", name := "clear", desc := "()I" } : Jvm.MethodName)) ∈ lw_all := lw_g (lw_at lw_m9 69 rfl) rfl
theorem q2073 : (Jvm.Cond.code ({ cls := "PrimeProofsModel", name := "clear", desc := "()I" } : Jvm.MethodName) prog_17_method_72_code (2 : Nat) (Option.some Jvm.ClassFile.FieldType.int)) ∈ lw_all := lw_g (lw_at lw_m9 70 rfl) rfl
theorem q2075 : (Jvm.Cond.instanceMethod ({ cls := "PrimeProofsModel", name := "line", desc := "(II)I" } : Jvm.MethodName)) ∈ lw_all := lw_g (lw_at lw_m9 72 rfl) rfl
theorem q2076 : (Jvm.Cond.selects "PrimeProofsModel" ({ cls := "PrimeProofsModel", name := "line", desc := "(II)I" } : Jvm.MethodName) ({ cls := "PrimeProofsModel", name := "line", desc := "(II)I" } : Jvm.MethodName)) ∈ lw_all := lw_g (lw_at lw_m9 73 rfl) rfl
theorem q2077 : (Jvm.Cond.code ({ cls := "PrimeProofsModel", name := "line", desc := "(II)I" } : Jvm.MethodName) prog_17_method_79_code (3 : Nat) (Option.some Jvm.ClassFile.FieldType.int)) ∈ lw_all := lw_g (lw_at lw_m9 74 rfl) rfl
theorem q2079 : (Jvm.Cond.instanceMethod ({ cls := "PrimeProofsModel", name := "row", desc := "(IZII)I" } : Jvm.MethodName)) ∈ lw_all := lw_g (lw_at lw_m9 76 rfl) rfl
theorem q2080 : (Jvm.Cond.selects "PrimeProofsModel" ({ cls := "PrimeProofsModel", name := "row", desc := "(IZII)I" } : Jvm.MethodName) ({ cls := "PrimeProofsModel", name := "row", desc := "(IZII)I" } : Jvm.MethodName)) ∈ lw_all := lw_g (lw_at lw_m9 77 rfl) rfl
theorem q2081 : (Jvm.Cond.code ({ cls := "PrimeProofsModel", name := "row", desc := "(IZII)I" } : Jvm.MethodName) prog_17_method_80_code (7 : Nat) (Option.some Jvm.ClassFile.FieldType.int)) ∈ lw_all := lw_g (lw_at lw_m9 78 rfl) rfl
theorem q2083 : (Jvm.Cond.instanceMethod ({ cls := "PrimeProofsModel", name := "right", desc := "()J" } : Jvm.MethodName)) ∈ lw_all := lw_g (lw_at lw_m9 80 rfl) rfl
theorem q2084 : (Jvm.Cond.selects "PrimeProofsModel" ({ cls := "PrimeProofsModel", name := "right", desc := "()J" } : Jvm.MethodName) ({ cls := "PrimeProofsModel", name := "right", desc := "()J" } : Jvm.MethodName)) ∈ lw_all := lw_g (lw_at lw_m9 81 rfl) rfl
theorem q2085 : (Jvm.Cond.code ({ cls := "PrimeProofsModel", name := "right", desc := "()J" } : Jvm.MethodName) prog_17_method_81_code (4 : Nat) (Option.some Jvm.ClassFile.FieldType.long)) ∈ lw_all := lw_g (lw_at lw_m9 82 rfl) rfl
theorem q2087 : (Jvm.Cond.instanceMethod ({ cls := "PrimeProofsModel", name := "rests", desc := "(I)J" } : Jvm.MethodName)) ∈ lw_all := lw_g (lw_at lw_m9 84 rfl) rfl
theorem q2088 : (Jvm.Cond.selects "PrimeProofsModel" ({ cls := "PrimeProofsModel", name := "rests", desc := "(I)J" } : Jvm.MethodName) ({ cls := "PrimeProofsModel", name := "rests", desc := "(I)J" } : Jvm.MethodName)) ∈ lw_all := lw_g (lw_at lw_m9 85 rfl) rfl
theorem q2089 : (Jvm.Cond.code ({ cls := "PrimeProofsModel", name := "rests", desc := "(I)J" } : Jvm.MethodName) prog_17_method_82_code (2 : Nat) (Option.some Jvm.ClassFile.FieldType.long)) ∈ lw_all := lw_g (lw_at lw_m9 86 rfl) rfl
theorem q2090 : (Jvm.Cond.constantLong "PrimeProofsModel" (359 : Nat) (-1 : Int64)) ∈ lw_all := lw_g (lw_at lw_m9 87 rfl) rfl
theorem q2091 : (Jvm.Cond.constantLong "PrimeProofsModel" (361 : Nat) (-2 : Int64)) ∈ lw_all := lw_g (lw_at lw_m9 88 rfl) rfl
theorem q2093 : (Jvm.Cond.instanceMethod ({ cls := "PrimeProofsModel", name := "deep", desc := "(I)I" } : Jvm.MethodName)) ∈ lw_all := lw_g (lw_at lw_m9 90 rfl) rfl
theorem q2094 : (Jvm.Cond.selects "PrimeProofsModel" ({ cls := "PrimeProofsModel", name := "deep", desc := "(I)I" } : Jvm.MethodName) ({ cls := "PrimeProofsModel", name := "deep", desc := "(I)I" } : Jvm.MethodName)) ∈ lw_all := lw_g (lw_at lw_m9 91 rfl) rfl
theorem q2095 : (Jvm.Cond.code ({ cls := "PrimeProofsModel", name := "deep", desc := "(I)I" } : Jvm.MethodName) prog_17_method_83_code (2 : Nat) (Option.some Jvm.ClassFile.FieldType.int)) ∈ lw_all := lw_g (lw_at lw_m9 92 rfl) rfl
theorem q2096 : (Jvm.Cond.methodLink "PrimeProofsModel" (363 : Nat) ({ cls := "PrimeProofsModel", name := "deepOf", desc := "(I)I" } : Jvm.MethodName)) ∈ lw_all := lw_g (lw_at lw_m9 93 rfl) rfl
theorem q2097 : (Jvm.Cond.privateMethod ({ cls := "PrimeProofsModel", name := "deepOf", desc := "(I)I" } : Jvm.MethodName)) ∈ lw_tbl := lw_at lw_m9 94 rfl
theorem q2098 : (Jvm.Cond.instanceMethod ({ cls := "PrimeProofsModel", name := "deepOf", desc := "(I)I" } : Jvm.MethodName)) ∈ lw_all := lw_g (lw_at lw_m9 95 rfl) rfl
theorem q2099 : (Jvm.Cond.code ({ cls := "PrimeProofsModel", name := "deepOf", desc := "(I)I" } : Jvm.MethodName) prog_17_method_76_code (8 : Nat) (Option.some Jvm.ClassFile.FieldType.int)) ∈ lw_all := lw_g (lw_at lw_m9 96 rfl) rfl
theorem q2101 : (Jvm.Cond.instanceMethod ({ cls := "PrimeProofsModel", name := "falls", desc := "(I)J" } : Jvm.MethodName)) ∈ lw_all := lw_g (lw_at lw_m9 98 rfl) rfl
theorem q2102 : (Jvm.Cond.selects "PrimeProofsModel" ({ cls := "PrimeProofsModel", name := "falls", desc := "(I)J" } : Jvm.MethodName) ({ cls := "PrimeProofsModel", name := "falls", desc := "(I)J" } : Jvm.MethodName)) ∈ lw_all := lw_g (lw_at lw_m9 99 rfl) rfl
theorem q2103 : (Jvm.Cond.code ({ cls := "PrimeProofsModel", name := "falls", desc := "(I)J" } : Jvm.MethodName) prog_17_method_84_code (5 : Nat) (Option.some Jvm.ClassFile.FieldType.long)) ∈ lw_all := lw_g (lw_at lw_m9 100 rfl) rfl
theorem q2105 : (Jvm.Cond.instanceMethod ({ cls := "PrimeProofsModel", name := "cost", desc := "(I)I" } : Jvm.MethodName)) ∈ lw_all := lw_g (lw_at lw_m9 102 rfl) rfl
theorem q2106 : (Jvm.Cond.selects "PrimeProofsModel" ({ cls := "PrimeProofsModel", name := "cost", desc := "(I)I" } : Jvm.MethodName) ({ cls := "PrimeProofsModel", name := "cost", desc := "(I)I" } : Jvm.MethodName)) ∈ lw_all := lw_g (lw_at lw_m9 103 rfl) rfl
theorem q2107 : (Jvm.Cond.code ({ cls := "PrimeProofsModel", name := "cost", desc := "(I)I" } : Jvm.MethodName) prog_17_method_85_code (2 : Nat) (Option.some Jvm.ClassFile.FieldType.int)) ∈ lw_all := lw_g (lw_at lw_m9 104 rfl) rfl
theorem q2108 : (Jvm.Cond.methodLink "PrimeProofsModel" (366 : Nat) ({ cls := "PrimeProofsModel", name := "costsOf", desc := "(I)I" } : Jvm.MethodName)) ∈ lw_all := lw_g (lw_at lw_m9 105 rfl) rfl
theorem q2109 : (Jvm.Cond.privateMethod ({ cls := "PrimeProofsModel", name := "costsOf", desc := "(I)I" } : Jvm.MethodName)) ∈ lw_tbl := lw_at lw_m9 106 rfl
theorem q2110 : (Jvm.Cond.instanceMethod ({ cls := "PrimeProofsModel", name := "costsOf", desc := "(I)I" } : Jvm.MethodName)) ∈ lw_all := lw_g (lw_at lw_m9 107 rfl) rfl
theorem q2111 : (Jvm.Cond.code ({ cls := "PrimeProofsModel", name := "costsOf", desc := "(I)I" } : Jvm.MethodName) prog_17_method_78_code (4 : Nat) (Option.some Jvm.ClassFile.FieldType.int)) ∈ lw_all := lw_g (lw_at lw_m9 108 rfl) rfl
theorem q2112 : (Jvm.Cond.methodLink "PrimeProofsModel" (356 : Nat) ({ cls := "PrimeProofsModel", name := "costOf", desc := "(I)I" } : Jvm.MethodName)) ∈ lw_all := lw_g (lw_at lw_m9 109 rfl) rfl
theorem q2113 : (Jvm.Cond.static ({ cls := "PrimeProofsModel", name := "costOf", desc := "(I)I" } : Jvm.MethodName)) ∈ lw_all := lw_g (lw_at lw_m9 110 rfl) rfl
theorem q2114 : (Jvm.Cond.code ({ cls := "PrimeProofsModel", name := "costOf", desc := "(I)I" } : Jvm.MethodName) prog_17_method_77_code (3 : Nat) (Option.some Jvm.ClassFile.FieldType.int)) ∈ lw_all := lw_g (lw_at lw_m9 111 rfl) rfl
theorem q2116 : (Jvm.Cond.instanceMethod ({ cls := "PrimeProofsModel", name := "loose", desc := "(II)I" } : Jvm.MethodName)) ∈ lw_all := lw_g (lw_at lw_m9 113 rfl) rfl
theorem q2117 : (Jvm.Cond.selects "PrimeProofsModel" ({ cls := "PrimeProofsModel", name := "loose", desc := "(II)I" } : Jvm.MethodName) ({ cls := "PrimeProofsModel", name := "loose", desc := "(II)I" } : Jvm.MethodName)) ∈ lw_all := lw_g (lw_at lw_m9 114 rfl) rfl
theorem q2118 : (Jvm.Cond.code ({ cls := "PrimeProofsModel", name := "loose", desc := "(II)I" } : Jvm.MethodName) prog_17_method_86_code (5 : Nat) (Option.some Jvm.ClassFile.FieldType.int)) ∈ lw_all := lw_g (lw_at lw_m9 115 rfl) rfl
theorem q2120 : (Jvm.Cond.instanceMethod ({ cls := "PrimeProofsModel", name := "shared", desc := "(II)J" } : Jvm.MethodName)) ∈ lw_all := lw_g (lw_at lw_m9 117 rfl) rfl
theorem q2121 : (Jvm.Cond.selects "PrimeProofsModel" ({ cls := "PrimeProofsModel", name := "shared", desc := "(II)J" } : Jvm.MethodName) ({ cls := "PrimeProofsModel", name := "shared", desc := "(II)J" } : Jvm.MethodName)) ∈ lw_all := lw_g (lw_at lw_m9 118 rfl) rfl
theorem q2122 : (Jvm.Cond.code ({ cls := "PrimeProofsModel", name := "shared", desc := "(II)J" } : Jvm.MethodName) prog_17_method_87_code (3 : Nat) (Option.some Jvm.ClassFile.FieldType.long)) ∈ lw_all := lw_g (lw_at lw_m9 119 rfl) rfl
theorem q2124 : (Jvm.Cond.instanceMethod ({ cls := "PrimeProofsModel", name := "proof", desc := "(I)I" } : Jvm.MethodName)) ∈ lw_all := lw_g (lw_at lw_m9 121 rfl) rfl
theorem q2125 : (Jvm.Cond.selects "PrimeProofsModel" ({ cls := "PrimeProofsModel", name := "proof", desc := "(I)I" } : Jvm.MethodName) ({ cls := "PrimeProofsModel", name := "proof", desc := "(I)I" } : Jvm.MethodName)) ∈ lw_all := lw_g (lw_at lw_m9 122 rfl) rfl
theorem q2126 : (Jvm.Cond.code ({ cls := "PrimeProofsModel", name := "proof", desc := "(I)I" } : Jvm.MethodName) prog_17_method_88_code (3 : Nat) (Option.some Jvm.ClassFile.FieldType.int)) ∈ lw_all := lw_g (lw_at lw_m9 123 rfl) rfl
theorem q2128 : (Jvm.Cond.instanceMethod ({ cls := "PrimeProofsModel", name := "prime", desc := "(II)I" } : Jvm.MethodName)) ∈ lw_all := lw_g (lw_at lw_m9 125 rfl) rfl
theorem q2129 : (Jvm.Cond.selects "PrimeProofsModel" ({ cls := "PrimeProofsModel", name := "prime", desc := "(II)I" } : Jvm.MethodName) ({ cls := "PrimeProofsModel", name := "prime", desc := "(II)I" } : Jvm.MethodName)) ∈ lw_all := lw_g (lw_at lw_m9 126 rfl) rfl
theorem q2130 : (Jvm.Cond.code ({ cls := "PrimeProofsModel", name := "prime", desc := "(II)I" } : Jvm.MethodName) prog_17_method_89_code (3 : Nat) (Option.some Jvm.ClassFile.FieldType.int)) ∈ lw_all := lw_g (lw_at lw_m9 127 rfl) rfl
theorem q2132 : (Jvm.Cond.instanceMethod ({ cls := "PrimeProofsModel", name := "often", desc := "(II)I" } : Jvm.MethodName)) ∈ lw_all := lw_g (lw_at lw_m9 129 rfl) rfl
theorem q2133 : (Jvm.Cond.selects "PrimeProofsModel" ({ cls := "PrimeProofsModel", name := "often", desc := "(II)I" } : Jvm.MethodName) ({ cls := "PrimeProofsModel", name := "often", desc := "(II)I" } : Jvm.MethodName)) ∈ lw_all := lw_g (lw_at lw_m9 130 rfl) rfl
theorem q2134 : (Jvm.Cond.code ({ cls := "PrimeProofsModel", name := "often", desc := "(II)I" } : Jvm.MethodName) prog_17_method_90_code (5 : Nat) (Option.some Jvm.ClassFile.FieldType.int)) ∈ lw_all := lw_g (lw_at lw_m9 131 rfl) rfl
theorem q2136 : (Jvm.Cond.instanceMethod ({ cls := "PrimeProofsModel", name := "next", desc := "(I)I" } : Jvm.MethodName)) ∈ lw_all := lw_g (lw_at lw_m9 133 rfl) rfl
theorem q2137 : (Jvm.Cond.selects "PrimeProofsModel" ({ cls := "PrimeProofsModel", name := "next", desc := "(I)I" } : Jvm.MethodName) ({ cls := "PrimeProofsModel", name := "next", desc := "(I)I" } : Jvm.MethodName)) ∈ lw_all := lw_g (lw_at lw_m9 134 rfl) rfl
theorem q2138 : (Jvm.Cond.code ({ cls := "PrimeProofsModel", name := "next", desc := "(I)I" } : Jvm.MethodName) prog_17_method_91_code (3 : Nat) (Option.some Jvm.ClassFile.FieldType.int)) ∈ lw_all := lw_g (lw_at lw_m9 135 rfl) rfl
theorem q2139 : (Jvm.Cond.constantLong "PrimeProofsModel" (369 : Nat) (999999936 : Int64)) ∈ lw_all := lw_g (lw_at lw_m9 136 rfl) rfl
theorem q2141 : (Jvm.Cond.instanceMethod ({ cls := "PrimeProofsModel", name := "smooth", desc := "(II)I" } : Jvm.MethodName)) ∈ lw_all := lw_g (lw_at lw_m9 138 rfl) rfl
theorem q2142 : (Jvm.Cond.selects "PrimeProofsModel" ({ cls := "PrimeProofsModel", name := "smooth", desc := "(II)I" } : Jvm.MethodName) ({ cls := "PrimeProofsModel", name := "smooth", desc := "(II)I" } : Jvm.MethodName)) ∈ lw_all := lw_g (lw_at lw_m9 139 rfl) rfl
theorem q2143 : (Jvm.Cond.code ({ cls := "PrimeProofsModel", name := "smooth", desc := "(II)I" } : Jvm.MethodName) prog_17_method_93_code (3 : Nat) (Option.some Jvm.ClassFile.FieldType.int)) ∈ lw_all := lw_g (lw_at lw_m9 140 rfl) rfl
theorem q2144 : (Jvm.Cond.methodLink "PrimeProofsModel" (371 : Nat) ({ cls := "PrimeProofsModel", name := "smoothBy", desc := "(I)J" } : Jvm.MethodName)) ∈ lw_all := lw_g (lw_at lw_m9 141 rfl) rfl
theorem q2145 : (Jvm.Cond.privateMethod ({ cls := "PrimeProofsModel", name := "smoothBy", desc := "(I)J" } : Jvm.MethodName)) ∈ lw_tbl := lw_at lw_m9 142 rfl
theorem q2146 : (Jvm.Cond.instanceMethod ({ cls := "PrimeProofsModel", name := "smoothBy", desc := "(I)J" } : Jvm.MethodName)) ∈ lw_all := lw_g (lw_at lw_m9 143 rfl) rfl
theorem q2147 : (Jvm.Cond.code ({ cls := "PrimeProofsModel", name := "smoothBy", desc := "(I)J" } : Jvm.MethodName) prog_17_method_92_code (6 : Nat) (Option.some Jvm.ClassFile.FieldType.long)) ∈ lw_all := lw_g (lw_at lw_m9 144 rfl) rfl
theorem q2149 : (Jvm.Cond.instanceMethod ({ cls := "PrimeProofsModel", name := "bound", desc := "(I)I" } : Jvm.MethodName)) ∈ lw_all := lw_g (lw_at lw_m9 146 rfl) rfl
theorem q2150 : (Jvm.Cond.selects "PrimeProofsModel" ({ cls := "PrimeProofsModel", name := "bound", desc := "(I)I" } : Jvm.MethodName) ({ cls := "PrimeProofsModel", name := "bound", desc := "(I)I" } : Jvm.MethodName)) ∈ lw_all := lw_g (lw_at lw_m9 147 rfl) rfl
theorem q2151 : (Jvm.Cond.code ({ cls := "PrimeProofsModel", name := "bound", desc := "(I)I" } : Jvm.MethodName) prog_17_method_94_code (3 : Nat) (Option.some Jvm.ClassFile.FieldType.int)) ∈ lw_all := lw_g (lw_at lw_m9 148 rfl) rfl
theorem q2153 : (Jvm.Cond.instanceMethod ({ cls := "PrimeProofsModel", name := "chase", desc := "(II)I" } : Jvm.MethodName)) ∈ lw_all := lw_g (lw_at lw_m9 150 rfl) rfl
theorem q2154 : (Jvm.Cond.selects "PrimeProofsModel" ({ cls := "PrimeProofsModel", name := "chase", desc := "(II)I" } : Jvm.MethodName) ({ cls := "PrimeProofsModel", name := "chase", desc := "(II)I" } : Jvm.MethodName)) ∈ lw_all := lw_g (lw_at lw_m9 151 rfl) rfl
theorem q2155 : (Jvm.Cond.code ({ cls := "PrimeProofsModel", name := "chase", desc := "(II)I" } : Jvm.MethodName) prog_17_method_95_code (10 : Nat) (Option.some Jvm.ClassFile.FieldType.int)) ∈ lw_all := lw_g (lw_at lw_m9 152 rfl) rfl
theorem q2157 : (Jvm.Cond.instanceMethod ({ cls := "PrimeProofsModel", name := "primes", desc := "(II)I" } : Jvm.MethodName)) ∈ lw_all := lw_g (lw_at lw_m9 154 rfl) rfl
theorem q2158 : (Jvm.Cond.selects "PrimeProofsModel" ({ cls := "PrimeProofsModel", name := "primes", desc := "(II)I" } : Jvm.MethodName) ({ cls := "PrimeProofsModel", name := "primes", desc := "(II)I" } : Jvm.MethodName)) ∈ lw_all := lw_g (lw_at lw_m9 155 rfl) rfl
theorem q2159 : (Jvm.Cond.code ({ cls := "PrimeProofsModel", name := "primes", desc := "(II)I" } : Jvm.MethodName) prog_17_method_96_code (5 : Nat) (Option.some Jvm.ClassFile.FieldType.int)) ∈ lw_all := lw_g (lw_at lw_m9 156 rfl) rfl
theorem q2161 : (Jvm.Cond.instanceMethod ({ cls := "PrimeProofsModel", name := "passes", desc := "(II)I" } : Jvm.MethodName)) ∈ lw_all := lw_g (lw_at lw_m9 158 rfl) rfl
theorem q2162 : (Jvm.Cond.selects "PrimeProofsModel" ({ cls := "PrimeProofsModel", name := "passes", desc := "(II)I" } : Jvm.MethodName) ({ cls := "PrimeProofsModel", name := "passes", desc := "(II)I" } : Jvm.MethodName)) ∈ lw_all := lw_g (lw_at lw_m9 159 rfl) rfl
theorem q2163 : (Jvm.Cond.code ({ cls := "PrimeProofsModel", name := "passes", desc := "(II)I" } : Jvm.MethodName) prog_17_method_99_code (3 : Nat) (Option.some Jvm.ClassFile.FieldType.int)) ∈ lw_all := lw_g (lw_at lw_m9 160 rfl) rfl
theorem q2164 : (Jvm.Cond.methodLink "PrimeProofsModel" (374 : Nat) ({ cls := "PrimeProofsModel", name := "isOdd", desc := "(I)Z" } : Jvm.MethodName)) ∈ lw_all := lw_g (lw_at lw_m9 161 rfl) rfl
theorem q2165 : (Jvm.Cond.static ({ cls := "PrimeProofsModel", name := "isOdd", desc := "(I)Z" } : Jvm.MethodName)) ∈ lw_all := lw_g (lw_at lw_m9 162 rfl) rfl
theorem q2166 : (Jvm.Cond.code ({ cls := "PrimeProofsModel", name := "isOdd", desc := "(I)Z" } : Jvm.MethodName) prog_17_method_97_code (1 : Nat) (Option.some Jvm.ClassFile.FieldType.boolean)) ∈ lw_all := lw_g (lw_at lw_m9 163 rfl) rfl
theorem q2167 : (Jvm.Cond.methodLink "PrimeProofsModel" (377 : Nat) ({ cls := "PrimeProofsModel", name := "doesPass", desc := "(JJ)Z" } : Jvm.MethodName)) ∈ lw_all := lw_g (lw_at lw_m9 164 rfl) rfl
theorem q2168 : (Jvm.Cond.static ({ cls := "PrimeProofsModel", name := "doesPass", desc := "(JJ)Z" } : Jvm.MethodName)) ∈ lw_all := lw_g (lw_at lw_m9 165 rfl) rfl
theorem q2169 : (Jvm.Cond.code ({ cls := "PrimeProofsModel", name := "doesPass", desc := "(JJ)Z" } : Jvm.MethodName) prog_17_method_98_code (8 : Nat) (Option.some Jvm.ClassFile.FieldType.boolean)) ∈ lw_all := lw_g (lw_at lw_m9 166 rfl) rfl
theorem q2171 : (Jvm.Cond.instanceMethod ({ cls := "PrimeProofsModel", name := "fools", desc := "(II)I" } : Jvm.MethodName)) ∈ lw_all := lw_g (lw_at lw_m9 168 rfl) rfl
theorem q2172 : (Jvm.Cond.selects "PrimeProofsModel" ({ cls := "PrimeProofsModel", name := "fools", desc := "(II)I" } : Jvm.MethodName) ({ cls := "PrimeProofsModel", name := "fools", desc := "(II)I" } : Jvm.MethodName)) ∈ lw_all := lw_g (lw_at lw_m9 169 rfl) rfl
theorem q2173 : (Jvm.Cond.code ({ cls := "PrimeProofsModel", name := "fools", desc := "(II)I" } : Jvm.MethodName) prog_17_method_100_code (6 : Nat) (Option.some Jvm.ClassFile.FieldType.int)) ∈ lw_all := lw_g (lw_at lw_m9 170 rfl) rfl
theorem q2175 : (Jvm.Cond.instanceMethod ({ cls := "PrimeProofsModel", name := "power", desc := "(III)I" } : Jvm.MethodName)) ∈ lw_all := lw_g (lw_at lw_m9 172 rfl) rfl
theorem q2176 : (Jvm.Cond.selects "PrimeProofsModel" ({ cls := "PrimeProofsModel", name := "power", desc := "(III)I" } : Jvm.MethodName) ({ cls := "PrimeProofsModel", name := "power", desc := "(III)I" } : Jvm.MethodName)) ∈ lw_all := lw_g (lw_at lw_m9 173 rfl) rfl
theorem q2177 : (Jvm.Cond.code ({ cls := "PrimeProofsModel", name := "power", desc := "(III)I" } : Jvm.MethodName) prog_17_method_101_code (4 : Nat) (Option.some Jvm.ClassFile.FieldType.int)) ∈ lw_all := lw_g (lw_at lw_m9 174 rfl) rfl
theorem q2179 : (Jvm.Cond.instanceMethod ({ cls := "PrimeProofsModel", name := "order", desc := "(II)I" } : Jvm.MethodName)) ∈ lw_all := lw_g (lw_at lw_m9 176 rfl) rfl
theorem q2180 : (Jvm.Cond.selects "PrimeProofsModel" ({ cls := "PrimeProofsModel", name := "order", desc := "(II)I" } : Jvm.MethodName) ({ cls := "PrimeProofsModel", name := "order", desc := "(II)I" } : Jvm.MethodName)) ∈ lw_all := lw_g (lw_at lw_m9 177 rfl) rfl
theorem q2181 : (Jvm.Cond.code ({ cls := "PrimeProofsModel", name := "order", desc := "(II)I" } : Jvm.MethodName) prog_17_method_102_code (6 : Nat) (Option.some Jvm.ClassFile.FieldType.int)) ∈ lw_all := lw_g (lw_at lw_m9 178 rfl) rfl
theorem q2182 : (Jvm.Cond.constantLong "PrimeProofsModel" (380 : Nat) (1000000 : Int64)) ∈ lw_all := lw_g (lw_at lw_m9 179 rfl) rfl
theorem q2184 : (Jvm.Cond.instanceMethod ({ cls := "PrimeProofsModel", name := "jacobi", desc := "(II)I" } : Jvm.MethodName)) ∈ lw_all := lw_g (lw_at lw_m9 181 rfl) rfl
theorem q2185 : (Jvm.Cond.selects "PrimeProofsModel" ({ cls := "PrimeProofsModel", name := "jacobi", desc := "(II)I" } : Jvm.MethodName) ({ cls := "PrimeProofsModel", name := "jacobi", desc := "(II)I" } : Jvm.MethodName)) ∈ lw_all := lw_g (lw_at lw_m9 182 rfl) rfl
theorem q2186 : (Jvm.Cond.code ({ cls := "PrimeProofsModel", name := "jacobi", desc := "(II)I" } : Jvm.MethodName) prog_17_method_103_code (3 : Nat) (Option.some Jvm.ClassFile.FieldType.int)) ∈ lw_all := lw_g (lw_at lw_m9 183 rfl) rfl
theorem q2188 : (Jvm.Cond.instanceMethod ({ cls := "PrimeProofsModel", name := "u", desc := "(IIII)I" } : Jvm.MethodName)) ∈ lw_all := lw_g (lw_at lw_m9 185 rfl) rfl
theorem q2189 : (Jvm.Cond.selects "PrimeProofsModel" ({ cls := "PrimeProofsModel", name := "u", desc := "(IIII)I" } : Jvm.MethodName) ({ cls := "PrimeProofsModel", name := "u", desc := "(IIII)I" } : Jvm.MethodName)) ∈ lw_all := lw_g (lw_at lw_m9 186 rfl) rfl
theorem q2190 : (Jvm.Cond.code ({ cls := "PrimeProofsModel", name := "u", desc := "(IIII)I" } : Jvm.MethodName) prog_17_method_104_code (5 : Nat) (Option.some Jvm.ClassFile.FieldType.int)) ∈ lw_all := lw_g (lw_at lw_m9 187 rfl) rfl
theorem q2192 : (Jvm.Cond.instanceMethod ({ cls := "PrimeProofsModel", name := "units", desc := "(I)I" } : Jvm.MethodName)) ∈ lw_all := lw_g (lw_at lw_m9 189 rfl) rfl
theorem q2193 : (Jvm.Cond.selects "PrimeProofsModel" ({ cls := "PrimeProofsModel", name := "units", desc := "(I)I" } : Jvm.MethodName) ({ cls := "PrimeProofsModel", name := "units", desc := "(I)I" } : Jvm.MethodName)) ∈ lw_all := lw_g (lw_at lw_m9 190 rfl) rfl
theorem q2194 : (Jvm.Cond.code ({ cls := "PrimeProofsModel", name := "units", desc := "(I)I" } : Jvm.MethodName) prog_17_method_105_code (5 : Nat) (Option.some Jvm.ClassFile.FieldType.int)) ∈ lw_all := lw_g (lw_at lw_m9 191 rfl) rfl
theorem q2196 : (Jvm.Cond.instanceMethod ({ cls := "PrimeProofsModel", name := "count", desc := "(I)I" } : Jvm.MethodName)) ∈ lw_all := lw_g (lw_at lw_m9 193 rfl) rfl
theorem q2197 : (Jvm.Cond.selects "PrimeProofsModel" ({ cls := "PrimeProofsModel", name := "count", desc := "(I)I" } : Jvm.MethodName) ({ cls := "PrimeProofsModel", name := "count", desc := "(I)I" } : Jvm.MethodName)) ∈ lw_all := lw_g (lw_at lw_m9 194 rfl) rfl
theorem q2198 : (Jvm.Cond.code ({ cls := "PrimeProofsModel", name := "count", desc := "(I)I" } : Jvm.MethodName) prog_17_method_106_code (4 : Nat) (Option.some Jvm.ClassFile.FieldType.int)) ∈ lw_all := lw_g (lw_at lw_m9 195 rfl) rfl
theorem q2222 : (Jvm.Cond.castable "PrimeProofsModel" "java/lang/Object") ∈ lw_tbl := lw_at lw_m9 219 rfl
theorem in_X1 : ∀ w ∈ wsX10, w ∈ lw_all := lw_in wsX10 [1706, 1708, 1710, 1712, 1714, 1716, 1718, 1720, 1722, 1724, 1726, 1728, 1730, 1732, 1734, 1736, 1738, 1740, 1742, 1744, 1746, 1748, 1750, 1752, 1754, 1756, 1758, 1760, 1762, 1764, 1766, 1768, 1770, 1772, 1774] (by decide +kernel) (by decide +kernel)
