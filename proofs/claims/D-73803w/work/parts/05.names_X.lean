/-! PrimeProofs$Rows$Each -/
set_option maxRecDepth 100000
def RX2 : String := "PrimeProofs$Rows$Each"
def TX2 : u_T := fun k => match k with
  | 0 => ("PrimeProofs$Rows$Each", "next", "I", false)
  | _ => ("PrimeProofs$Rows$Each", "this$0", "LPrimeProofs$Rows;", true)
def tyX2 : Nat → FieldType := fun k => match k with
  | 0 => .int
  | _ => .object "PrimeProofs$Rows"
abbrev wsX20 : List Cond := u_ws RX2 TX2 2
theorem nmX2 : ∀ a, a < 2 → ∀ b, b < 2 → a ≠ b → (TX2 a).2.1 ≠ (TX2 b).2.1 := by decide +kernel
theorem tyX2_ok : ∀ k, k < 2 → parseFieldDescriptor (TX2 k).2.2.1 = some (tyX2 k) := by decide +kernel
abbrev cX2_init : ByteArray := prog_14_method_1_code
def yX2_init : MethodName := ⟨RX2, "<init>", "(LPrimeProofs$Rows;)V"⟩
def dkwX2_init_0 : List UInt8 := [42, 43, 181, 0, 1, 42, 183, 0, 7, 177]
abbrev dktX2_init_0 : List UInt8 := dkwX2_init_0 ++ []
theorem dksX2_init_0 : cX2_init.data.toList.drop 0 = dktX2_init_0 := by decide +kernel
theorem dX2_init_0 : decode cX2_init 0 = .ok (.aload_n 0, 1) := dk_42 (dk_at dksX2_init_0 0 rfl rfl)
theorem dX2_init_1 : decode cX2_init 1 = .ok (.aload_n 1, 1) := dk_43 (dk_at dksX2_init_0 1 rfl rfl)
theorem dX2_init_2 : decode cX2_init 2 = .ok (.putfield 1, 3) := dk_181 0 1 (dk_at dksX2_init_0 2 rfl rfl)
theorem dX2_init_5 : decode cX2_init 5 = .ok (.aload_n 0, 1) := dk_42 (dk_at dksX2_init_0 5 rfl rfl)
theorem dX2_init_6 : decode cX2_init 6 = .ok (.invokespecial 7, 3) := dk_183 0 7 (dk_at dksX2_init_0 6 rfl rfl)
theorem dX2_init_9 : decode cX2_init 9 = .ok (.return_, 1) := dk_177 (dk_at dksX2_init_0 9 rfl rfl)
abbrev cX2_hasNext : ByteArray := prog_14_method_2_code
def yX2_hasNext : MethodName := ⟨RX2, "hasNext", "()Z"⟩
def dkwX2_hasNext_0 : List UInt8 := [42, 180, 0, 13, 42, 180, 0, 1, 180, 0, 17, 162, 0, 7, 4, 167, 0, 4, 3, 172]
abbrev dktX2_hasNext_0 : List UInt8 := dkwX2_hasNext_0 ++ []
theorem dksX2_hasNext_0 : cX2_hasNext.data.toList.drop 0 = dktX2_hasNext_0 := by decide +kernel
theorem dX2_hasNext_0 : decode cX2_hasNext 0 = .ok (.aload_n 0, 1) := dk_42 (dk_at dksX2_hasNext_0 0 rfl rfl)
theorem dX2_hasNext_1 : decode cX2_hasNext 1 = .ok (.getfield 13, 3) := dk_180 0 13 (dk_at dksX2_hasNext_0 1 rfl rfl)
theorem dX2_hasNext_4 : decode cX2_hasNext 4 = .ok (.aload_n 0, 1) := dk_42 (dk_at dksX2_hasNext_0 4 rfl rfl)
theorem dX2_hasNext_5 : decode cX2_hasNext 5 = .ok (.getfield 1, 3) := dk_180 0 1 (dk_at dksX2_hasNext_0 5 rfl rfl)
theorem dX2_hasNext_8 : decode cX2_hasNext 8 = .ok (.getfield 17, 3) := dk_180 0 17 (dk_at dksX2_hasNext_0 8 rfl rfl)
theorem dX2_hasNext_11 : decode cX2_hasNext 11 = .ok (.if_icmp .ge 7, 3) := dk_162 0 7 (dk_at dksX2_hasNext_0 11 rfl rfl)
theorem dX2_hasNext_14 : decode cX2_hasNext 14 = .ok (.iconst 1, 1) := dk_4 (dk_at dksX2_hasNext_0 14 rfl rfl)
theorem dX2_hasNext_15 : decode cX2_hasNext 15 = .ok (.goto 4, 3) := dk_167 0 4 (dk_at dksX2_hasNext_0 15 rfl rfl)
theorem dX2_hasNext_18 : decode cX2_hasNext 18 = .ok (.iconst 0, 1) := dk_3 (dk_at dksX2_hasNext_0 18 rfl rfl)
theorem dX2_hasNext_19 : decode cX2_hasNext 19 = .ok (.ireturn, 1) := dk_172 (dk_at dksX2_hasNext_0 19 rfl rfl)
abbrev cX2_next : ByteArray := prog_14_method_4_code
def yX2_next : MethodName := ⟨RX2, "next", "()Ljava/lang/Object;"⟩
theorem dX2_next_0 : decode cX2_next 0 = .ok (.aload_n 0, 1) := by decide +kernel
theorem dX2_next_1 : decode cX2_next 1 = .ok (.invokevirtual 26, 3) := by decide +kernel
theorem dX2_next_4 : decode cX2_next 4 = .ok (.areturn, 1) := by decide +kernel
abbrev cX2_next_2 : ByteArray := prog_14_method_3_code
def yX2_next_2 : MethodName := ⟨RX2, "next", "()LPrimeProofs$Row;"⟩
def dkwX2_next_2_1 : List UInt8 := [176]
abbrev dktX2_next_2_1 : List UInt8 := dkwX2_next_2_1 ++ []
def dkwX2_next_2_0 : List UInt8 := [42, 89, 180, 0, 13, 4, 96, 181, 0, 13, 42, 180, 0, 1, 180, 0, 22, 42, 180, 0, 13, 4, 100, 50]
abbrev dktX2_next_2_0 : List UInt8 := dkwX2_next_2_0 ++ dktX2_next_2_1
theorem dksX2_next_2_0 : cX2_next_2.data.toList.drop 0 = dktX2_next_2_0 := by decide +kernel
theorem dksX2_next_2_1 : cX2_next_2.data.toList.drop 24 = dktX2_next_2_1 := dk_seg dksX2_next_2_0 24 rfl rfl
theorem dX2_next_2_0 : decode cX2_next_2 0 = .ok (.aload_n 0, 1) := dk_42 (dk_at dksX2_next_2_0 0 rfl rfl)
theorem dX2_next_2_1 : decode cX2_next_2 1 = .ok (.dup, 1) := dk_89 (dk_at dksX2_next_2_0 1 rfl rfl)
theorem dX2_next_2_2 : decode cX2_next_2 2 = .ok (.getfield 13, 3) := dk_180 0 13 (dk_at dksX2_next_2_0 2 rfl rfl)
theorem dX2_next_2_5 : decode cX2_next_2 5 = .ok (.iconst 1, 1) := dk_4 (dk_at dksX2_next_2_0 5 rfl rfl)
theorem dX2_next_2_6 : decode cX2_next_2 6 = .ok (.iadd, 1) := dk_96 (dk_at dksX2_next_2_0 6 rfl rfl)
theorem dX2_next_2_7 : decode cX2_next_2 7 = .ok (.putfield 13, 3) := dk_181 0 13 (dk_at dksX2_next_2_0 7 rfl rfl)
theorem dX2_next_2_10 : decode cX2_next_2 10 = .ok (.aload_n 0, 1) := dk_42 (dk_at dksX2_next_2_0 10 rfl rfl)
theorem dX2_next_2_11 : decode cX2_next_2 11 = .ok (.getfield 1, 3) := dk_180 0 1 (dk_at dksX2_next_2_0 11 rfl rfl)
theorem dX2_next_2_14 : decode cX2_next_2 14 = .ok (.getfield 22, 3) := dk_180 0 22 (dk_at dksX2_next_2_0 14 rfl rfl)
theorem dX2_next_2_17 : decode cX2_next_2 17 = .ok (.aload_n 0, 1) := dk_42 (dk_at dksX2_next_2_0 17 rfl rfl)
theorem dX2_next_2_18 : decode cX2_next_2 18 = .ok (.getfield 13, 3) := dk_180 0 13 (dk_at dksX2_next_2_0 18 rfl rfl)
theorem dX2_next_2_21 : decode cX2_next_2 21 = .ok (.iconst 1, 1) := dk_4 (dk_at dksX2_next_2_0 21 rfl rfl)
theorem dX2_next_2_22 : decode cX2_next_2 22 = .ok (.isub, 1) := dk_100 (dk_at dksX2_next_2_0 22 rfl rfl)
theorem dX2_next_2_23 : decode cX2_next_2 23 = .ok (.aaload, 1) := dk_50 (dk_at dksX2_next_2_0 23 rfl rfl)
theorem dX2_next_2_24 : decode cX2_next_2 24 = .ok (.areturn, 1) := dk_176 (dk_at dksX2_next_2_1 0 rfl rfl)
theorem q91 : (Jvm.Cond.initialized "PrimeProofs$Rows$Each") ∈ lw_all := lw_g (lw_at lw_m1 8 rfl) rfl
theorem q250 : (Jvm.Cond.instantiable "PrimeProofs$Rows$Each" (2 : Nat)) ∈ lw_all := lw_g (lw_at lw_m1 167 rfl) rfl
theorem q252 : (Jvm.Cond.instanceMethod ({ cls := "PrimeProofs$Rows$Each", name := "<init>", desc := "(LPrimeProofs$Rows;)V" } : Jvm.MethodName)) ∈ lw_all := lw_g (lw_at lw_m1 169 rfl) rfl
theorem q253 : (Jvm.Cond.code ({ cls := "PrimeProofs$Rows$Each", name := "<init>", desc := "(LPrimeProofs$Rows;)V" } : Jvm.MethodName) prog_14_method_1_code (2 : Nat) (Option.none : Option Jvm.ClassFile.FieldType)) ∈ lw_all := lw_g (lw_at lw_m1 170 rfl) rfl
theorem q254 : (Jvm.Cond.methodLink "PrimeProofs$Rows$Each" (7 : Nat) ({ cls := "java/lang/Object", name := "<init>", desc := "()V" } : Jvm.MethodName)) ∈ lw_all := lw_g (lw_at lw_m1 171 rfl) rfl
theorem q255 : (Jvm.Cond.fieldLink "PrimeProofs$Rows$Each" (13 : Nat) "PrimeProofs$Rows$Each" "next" "I") ∈ lw_all := lw_g (lw_at lw_m1 172 rfl) rfl
theorem q256 : (Jvm.Cond.fieldLink "PrimeProofs$Rows$Each" (1 : Nat) "PrimeProofs$Rows$Each" "this$0" "LPrimeProofs$Rows;") ∈ lw_all := lw_g (lw_at lw_m1 173 rfl) rfl
theorem q257 : (Jvm.Cond.lays "PrimeProofs$Rows$Each" "PrimeProofs$Rows$Each" "next" "I") ∈ lw_all := lw_g (lw_at lw_m1 174 rfl) rfl
theorem q258 : (Jvm.Cond.soleField "PrimeProofs$Rows$Each" "next") ∈ lw_all := lw_g (lw_at lw_m1 175 rfl) rfl
theorem q259 : (Jvm.Cond.laysFinal "PrimeProofs$Rows$Each" "PrimeProofs$Rows$Each" "this$0" "LPrimeProofs$Rows;") ∈ lw_all := lw_g (lw_at lw_m1 176 rfl) rfl
theorem q260 : (Jvm.Cond.soleField "PrimeProofs$Rows$Each" "this$0") ∈ lw_all := lw_g (lw_at lw_m1 177 rfl) rfl
theorem q261 : (Jvm.Cond.superclass "PrimeProofs$Rows$Each" "java/lang/Object") ∈ lw_all := lw_g (lw_at lw_m1 178 rfl) rfl
theorem q266 : (Jvm.Cond.castable "PrimeProofs$Rows$Each" "java/util/Iterator") ∈ lw_tbl := lw_at lw_m1 183 rfl
theorem q267 : (Jvm.Cond.selects "PrimeProofs$Rows$Each" ({ cls := "java/util/Iterator", name := "hasNext", desc := "()Z" } : Jvm.MethodName) ({ cls := "PrimeProofs$Rows$Each", name := "hasNext", desc := "()Z" } : Jvm.MethodName)) ∈ lw_all := lw_g (lw_at lw_m1 184 rfl) rfl
theorem q268 : (Jvm.Cond.unhidden "PrimeProofs$Rows$Each" "hasNext" "()Z") ∈ lw_tbl := lw_at lw_m1 185 rfl
theorem q269 : (Jvm.Cond.instanceMethod ({ cls := "PrimeProofs$Rows$Each", name := "hasNext", desc := "()Z" } : Jvm.MethodName)) ∈ lw_all := lw_g (lw_at lw_m1 186 rfl) rfl
theorem q270 : (Jvm.Cond.publicMethod ({ cls := "PrimeProofs$Rows$Each", name := "hasNext", desc := "()Z" } : Jvm.MethodName)) ∈ lw_tbl := lw_at lw_m1 187 rfl
theorem q271 : (Jvm.Cond.code ({ cls := "PrimeProofs$Rows$Each", name := "hasNext", desc := "()Z" } : Jvm.MethodName) prog_14_method_2_code (1 : Nat) (Option.some Jvm.ClassFile.FieldType.boolean)) ∈ lw_all := lw_g (lw_at lw_m1 188 rfl) rfl
theorem q282 : (Jvm.Cond.selects "PrimeProofs$Rows$Each" ({ cls := "java/util/Iterator", name := "next", desc := "()Ljava/lang/Object;" } : Jvm.MethodName) ({ cls := "PrimeProofs$Rows$Each", name := "next", desc := "()Ljava/lang/Object;" } : Jvm.MethodName)) ∈ lw_all := lw_g (lw_at lw_m1 199 rfl) rfl
theorem q283 : (Jvm.Cond.unhidden "PrimeProofs$Rows$Each" "next" "()Ljava/lang/Object;") ∈ lw_tbl := lw_at lw_m1 200 rfl
theorem q284 : (Jvm.Cond.instanceMethod ({ cls := "PrimeProofs$Rows$Each", name := "next", desc := "()Ljava/lang/Object;" } : Jvm.MethodName)) ∈ lw_all := lw_g (lw_at lw_m1 201 rfl) rfl
theorem q285 : (Jvm.Cond.publicMethod ({ cls := "PrimeProofs$Rows$Each", name := "next", desc := "()Ljava/lang/Object;" } : Jvm.MethodName)) ∈ lw_tbl := lw_at lw_m1 202 rfl
theorem q286 : (Jvm.Cond.code ({ cls := "PrimeProofs$Rows$Each", name := "next", desc := "()Ljava/lang/Object;" } : Jvm.MethodName) prog_14_method_4_code (1 : Nat) (Option.some (Jvm.ClassFile.FieldType.object "java/lang/Object"))) ∈ lw_all := lw_g (lw_at lw_m1 203 rfl) rfl
theorem q287 : (Jvm.Cond.methodLink "PrimeProofs$Rows$Each" (26 : Nat) ({ cls := "PrimeProofs$Rows$Each", name := "next", desc := "()LPrimeProofs$Row;" } : Jvm.MethodName)) ∈ lw_all := lw_g (lw_at lw_m1 204 rfl) rfl
theorem q288 : (Jvm.Cond.instanceMethod ({ cls := "PrimeProofs$Rows$Each", name := "next", desc := "()LPrimeProofs$Row;" } : Jvm.MethodName)) ∈ lw_all := lw_g (lw_at lw_m1 205 rfl) rfl
theorem q289 : (Jvm.Cond.selects "PrimeProofs$Rows$Each" ({ cls := "PrimeProofs$Rows$Each", name := "next", desc := "()LPrimeProofs$Row;" } : Jvm.MethodName) ({ cls := "PrimeProofs$Rows$Each", name := "next", desc := "()LPrimeProofs$Row;" } : Jvm.MethodName)) ∈ lw_all := lw_g (lw_at lw_m1 206 rfl) rfl
theorem q290 : (Jvm.Cond.code ({ cls := "PrimeProofs$Rows$Each", name := "next", desc := "()LPrimeProofs$Row;" } : Jvm.MethodName) prog_14_method_3_code (1 : Nat) (Option.some (Jvm.ClassFile.FieldType.object "PrimeProofs$Row"))) ∈ lw_all := lw_g (lw_at lw_m1 207 rfl) rfl
theorem q516 : (Jvm.Cond.fieldLinkNest "PrimeProofs$Rows$Each" (22 : Nat) "PrimeProofs$Rows" "row" "[LPrimeProofs$Row;" "PrimeProofs") ∈ lw_tbl := lw_at lw_m2 193 rfl
theorem q520 : (Jvm.Cond.fieldLinkNest "PrimeProofs$Rows$Each" (17 : Nat) "PrimeProofs$Rows" "many" "I" "PrimeProofs") ∈ lw_tbl := lw_at lw_m2 197 rfl
theorem q837 : (Jvm.Cond.selects "PrimeProofs$Rows$Each" ({ cls := "java/lang/Object", name := "getClass", desc := "()Ljava/lang/Class;" } : Jvm.MethodName) ({ cls := "java/lang/Object", name := "getClass", desc := "()Ljava/lang/Class;" } : Jvm.MethodName)) ∈ lw_all := lw_g (lw_at lw_m4 34 rfl) rfl
theorem q2223 : (Jvm.Cond.castable "PrimeProofs$Rows$Each" "java/lang/Object") ∈ lw_tbl := lw_at lw_m9 220 rfl
theorem in_X2 : ∀ w ∈ wsX20, w ∈ lw_all := lw_in wsX20 [257, 259] (by decide +kernel) (by decide +kernel)

/-! PrimeProofs$Climber -/
set_option maxRecDepth 100000
def RX3 : String := "PrimeProofs$Climber"
abbrev cX3_init : ByteArray := prog_5_method_1_code
def yX3_init : MethodName := ⟨RX3, "<init>", "()V"⟩
theorem dX3_init_0 : decode cX3_init 0 = .ok (.aload_n 0, 1) := by decide +kernel
theorem dX3_init_1 : decode cX3_init 1 = .ok (.invokespecial 1, 3) := by decide +kernel
theorem dX3_init_4 : decode cX3_init 4 = .ok (.return_, 1) := by decide +kernel
abbrev cX3_climbs : ByteArray := prog_5_method_5_code
def yX3_climbs : MethodName := ⟨RX3, "climbs", "(J)J"⟩
def dkwX3_climbs_1 : List UInt8 := [123, 10, 127, 10, 148, 154, 0, 7, 42, 182, 0, 12, 132, 3, 255, 167, 255, 220, 42, 182, 0, 15, 173]
abbrev dktX3_climbs_1 : List UInt8 := dkwX3_climbs_1 ++ []
def dkwX3_climbs_0 : List UInt8 := [16, 62, 62, 29, 155, 0, 38, 31, 29, 123, 9, 148, 154, 0, 6, 167, 0, 21, 42, 182, 0, 7, 31, 29]
abbrev dktX3_climbs_0 : List UInt8 := dkwX3_climbs_0 ++ dktX3_climbs_1
theorem dksX3_climbs_0 : cX3_climbs.data.toList.drop 0 = dktX3_climbs_0 := by decide +kernel
theorem dksX3_climbs_1 : cX3_climbs.data.toList.drop 24 = dktX3_climbs_1 := dk_seg dksX3_climbs_0 24 rfl rfl
theorem dX3_climbs_0 : decode cX3_climbs 0 = .ok (.bipush 62, 2) := dk_16 62 (dk_at dksX3_climbs_0 0 rfl rfl)
theorem dX3_climbs_2 : decode cX3_climbs 2 = .ok (.istore_n 3, 1) := dk_62 (dk_at dksX3_climbs_0 2 rfl rfl)
theorem dX3_climbs_3 : decode cX3_climbs 3 = .ok (.iload_n 3, 1) := dk_29 (dk_at dksX3_climbs_0 3 rfl rfl)
theorem dX3_climbs_4 : decode cX3_climbs 4 = .ok (.ifCond .lt 38, 3) := dk_155 0 38 (dk_at dksX3_climbs_0 4 rfl rfl)
theorem dX3_climbs_7 : decode cX3_climbs 7 = .ok (.lload_n 1, 1) := dk_31 (dk_at dksX3_climbs_0 7 rfl rfl)
theorem dX3_climbs_8 : decode cX3_climbs 8 = .ok (.iload_n 3, 1) := dk_29 (dk_at dksX3_climbs_0 8 rfl rfl)
theorem dX3_climbs_9 : decode cX3_climbs 9 = .ok (.lshr, 1) := dk_123 (dk_at dksX3_climbs_0 9 rfl rfl)
theorem dX3_climbs_10 : decode cX3_climbs 10 = .ok (.lconst 0, 1) := dk_9 (dk_at dksX3_climbs_0 10 rfl rfl)
theorem dX3_climbs_11 : decode cX3_climbs 11 = .ok (.lcmp, 1) := dk_148 (dk_at dksX3_climbs_0 11 rfl rfl)
theorem dX3_climbs_12 : decode cX3_climbs 12 = .ok (.ifCond .ne 6, 3) := dk_154 0 6 (dk_at dksX3_climbs_0 12 rfl rfl)
theorem dX3_climbs_15 : decode cX3_climbs 15 = .ok (.goto 21, 3) := dk_167 0 21 (dk_at dksX3_climbs_0 15 rfl rfl)
theorem dX3_climbs_18 : decode cX3_climbs 18 = .ok (.aload_n 0, 1) := dk_42 (dk_at dksX3_climbs_0 18 rfl rfl)
theorem dX3_climbs_19 : decode cX3_climbs 19 = .ok (.invokevirtual 7, 3) := dk_182 0 7 (dk_at dksX3_climbs_0 19 rfl rfl)
theorem dX3_climbs_22 : decode cX3_climbs 22 = .ok (.lload_n 1, 1) := dk_31 (dk_at dksX3_climbs_0 22 rfl rfl)
theorem dX3_climbs_23 : decode cX3_climbs 23 = .ok (.iload_n 3, 1) := dk_29 (dk_at dksX3_climbs_0 23 rfl rfl)
theorem dX3_climbs_24 : decode cX3_climbs 24 = .ok (.lshr, 1) := dk_123 (dk_at dksX3_climbs_1 0 rfl rfl)
theorem dX3_climbs_25 : decode cX3_climbs 25 = .ok (.lconst 1, 1) := dk_10 (dk_at dksX3_climbs_1 1 rfl rfl)
theorem dX3_climbs_26 : decode cX3_climbs 26 = .ok (.land, 1) := dk_127 (dk_at dksX3_climbs_1 2 rfl rfl)
theorem dX3_climbs_27 : decode cX3_climbs 27 = .ok (.lconst 1, 1) := dk_10 (dk_at dksX3_climbs_1 3 rfl rfl)
theorem dX3_climbs_28 : decode cX3_climbs 28 = .ok (.lcmp, 1) := dk_148 (dk_at dksX3_climbs_1 4 rfl rfl)
theorem dX3_climbs_29 : decode cX3_climbs 29 = .ok (.ifCond .ne 7, 3) := dk_154 0 7 (dk_at dksX3_climbs_1 5 rfl rfl)
theorem dX3_climbs_32 : decode cX3_climbs 32 = .ok (.aload_n 0, 1) := dk_42 (dk_at dksX3_climbs_1 8 rfl rfl)
theorem dX3_climbs_33 : decode cX3_climbs 33 = .ok (.invokevirtual 12, 3) := dk_182 0 12 (dk_at dksX3_climbs_1 9 rfl rfl)
theorem dX3_climbs_36 : decode cX3_climbs 36 = .ok (.iinc 3 (-1), 3) := dk_132 3 255 (dk_at dksX3_climbs_1 12 rfl rfl)
theorem dX3_climbs_39 : decode cX3_climbs 39 = .ok (.goto (-36), 3) := dk_167 255 220 (dk_at dksX3_climbs_1 15 rfl rfl)
theorem dX3_climbs_42 : decode cX3_climbs 42 = .ok (.aload_n 0, 1) := dk_42 (dk_at dksX3_climbs_1 18 rfl rfl)
theorem dX3_climbs_43 : decode cX3_climbs 43 = .ok (.invokevirtual 15, 3) := dk_182 0 15 (dk_at dksX3_climbs_1 19 rfl rfl)
theorem dX3_climbs_46 : decode cX3_climbs 46 = .ok (.lreturn, 1) := dk_173 (dk_at dksX3_climbs_1 22 rfl rfl)
theorem q93 : (Jvm.Cond.initialized "PrimeProofs$Climber") ∈ lw_all := lw_g (lw_at lw_m1 10 rfl) rfl
theorem q376 : (Jvm.Cond.instanceMethod ({ cls := "PrimeProofs$Climber", name := "<init>", desc := "()V" } : Jvm.MethodName)) ∈ lw_all := lw_g (lw_at lw_m2 53 rfl) rfl
theorem q377 : (Jvm.Cond.code ({ cls := "PrimeProofs$Climber", name := "<init>", desc := "()V" } : Jvm.MethodName) prog_5_method_1_code (1 : Nat) (Option.none : Option Jvm.ClassFile.FieldType)) ∈ lw_all := lw_g (lw_at lw_m2 54 rfl) rfl
theorem q378 : (Jvm.Cond.methodLink "PrimeProofs$Climber" (1 : Nat) ({ cls := "java/lang/Object", name := "<init>", desc := "()V" } : Jvm.MethodName)) ∈ lw_all := lw_g (lw_at lw_m2 55 rfl) rfl
theorem q391 : (Jvm.Cond.declares ({ cls := "PrimeProofs$Climber", name := "climbs", desc := "(J)J" } : Jvm.MethodName)) ∈ lw_tbl := lw_at lw_m2 68 rfl
theorem q393 : (Jvm.Cond.instanceMethod ({ cls := "PrimeProofs$Climber", name := "climbs", desc := "(J)J" } : Jvm.MethodName)) ∈ lw_all := lw_g (lw_at lw_m2 70 rfl) rfl
theorem q394 : (Jvm.Cond.code ({ cls := "PrimeProofs$Climber", name := "climbs", desc := "(J)J" } : Jvm.MethodName) prog_5_method_5_code (4 : Nat) (Option.some Jvm.ClassFile.FieldType.long)) ∈ lw_all := lw_g (lw_at lw_m2 71 rfl) rfl
theorem q395 : (Jvm.Cond.methodLink "PrimeProofs$Climber" (7 : Nat) ({ cls := "PrimeProofs$Climber", name := "doubles", desc := "()V" } : Jvm.MethodName)) ∈ lw_all := lw_g (lw_at lw_m2 72 rfl) rfl
theorem q396 : (Jvm.Cond.declares ({ cls := "PrimeProofs$Climber", name := "doubles", desc := "()V" } : Jvm.MethodName)) ∈ lw_tbl := lw_at lw_m2 73 rfl
theorem q397 : (Jvm.Cond.sameMethod "PrimeProofs$Climber" "PrimeProofs$Climber" "doubles" "()V") ∈ lw_all := lw_g (lw_at lw_m2 74 rfl) rfl
theorem q413 : (Jvm.Cond.methodLink "PrimeProofs$Climber" (12 : Nat) ({ cls := "PrimeProofs$Climber", name := "goesOn", desc := "()V" } : Jvm.MethodName)) ∈ lw_all := lw_g (lw_at lw_m2 90 rfl) rfl
theorem q414 : (Jvm.Cond.declares ({ cls := "PrimeProofs$Climber", name := "goesOn", desc := "()V" } : Jvm.MethodName)) ∈ lw_tbl := lw_at lw_m2 91 rfl
theorem q415 : (Jvm.Cond.sameMethod "PrimeProofs$Climber" "PrimeProofs$Climber" "goesOn" "()V") ∈ lw_all := lw_g (lw_at lw_m2 92 rfl) rfl
theorem q422 : (Jvm.Cond.methodLink "PrimeProofs$Climber" (15 : Nat) ({ cls := "PrimeProofs$Climber", name := "told", desc := "()J" } : Jvm.MethodName)) ∈ lw_all := lw_g (lw_at lw_m2 99 rfl) rfl
theorem q423 : (Jvm.Cond.declares ({ cls := "PrimeProofs$Climber", name := "told", desc := "()J" } : Jvm.MethodName)) ∈ lw_tbl := lw_at lw_m2 100 rfl
theorem q424 : (Jvm.Cond.sameMethod "PrimeProofs$Climber" "PrimeProofs$Climber" "told" "()J") ∈ lw_all := lw_g (lw_at lw_m2 101 rfl) rfl

/-! PrimeProofs$1 -/
set_option maxRecDepth 100000
def RX4 : String := "PrimeProofs$1"
def TX4 : u_T := fun k => match k with
  | 0 => ("PrimeProofs$1", "x", "J", false)
  | 1 => ("PrimeProofs$1", "val$m", "J", true)
  | _ => ("PrimeProofs$1", "val$base", "J", true)
def tyX4 : Nat → FieldType := fun k => match k with
  | 0 => .long
  | 1 => .long
  | _ => .long
abbrev wsX40 : List Cond := u_ws RX4 TX4 3
theorem nmX4 : ∀ a, a < 3 → ∀ b, b < 3 → a ≠ b → (TX4 a).2.1 ≠ (TX4 b).2.1 := by decide +kernel
theorem tyX4_ok : ∀ k, k < 3 → parseFieldDescriptor (TX4 k).2.2.1 = some (tyX4 k) := by decide +kernel
abbrev cX4_init : ByteArray := prog_2_method_1_code
def yX4_init : MethodName := ⟨RX4, "<init>", "(JJ)V"⟩
def dkwX4_init_1 : List UInt8 := [177]
abbrev dktX4_init_1 : List UInt8 := dkwX4_init_1 ++ []
def dkwX4_init_0 : List UInt8 := [42, 31, 181, 0, 1, 42, 33, 181, 0, 7, 42, 183, 0, 10, 42, 10, 42, 180, 0, 1, 113, 181, 0, 16]
abbrev dktX4_init_0 : List UInt8 := dkwX4_init_0 ++ dktX4_init_1
theorem dksX4_init_0 : cX4_init.data.toList.drop 0 = dktX4_init_0 := by decide +kernel
theorem dksX4_init_1 : cX4_init.data.toList.drop 24 = dktX4_init_1 := dk_seg dksX4_init_0 24 rfl rfl
theorem dX4_init_0 : decode cX4_init 0 = .ok (.aload_n 0, 1) := dk_42 (dk_at dksX4_init_0 0 rfl rfl)
theorem dX4_init_1 : decode cX4_init 1 = .ok (.lload_n 1, 1) := dk_31 (dk_at dksX4_init_0 1 rfl rfl)
theorem dX4_init_2 : decode cX4_init 2 = .ok (.putfield 1, 3) := dk_181 0 1 (dk_at dksX4_init_0 2 rfl rfl)
theorem dX4_init_5 : decode cX4_init 5 = .ok (.aload_n 0, 1) := dk_42 (dk_at dksX4_init_0 5 rfl rfl)
theorem dX4_init_6 : decode cX4_init 6 = .ok (.lload_n 3, 1) := dk_33 (dk_at dksX4_init_0 6 rfl rfl)
theorem dX4_init_7 : decode cX4_init 7 = .ok (.putfield 7, 3) := dk_181 0 7 (dk_at dksX4_init_0 7 rfl rfl)
theorem dX4_init_10 : decode cX4_init 10 = .ok (.aload_n 0, 1) := dk_42 (dk_at dksX4_init_0 10 rfl rfl)
theorem dX4_init_11 : decode cX4_init 11 = .ok (.invokespecial 10, 3) := dk_183 0 10 (dk_at dksX4_init_0 11 rfl rfl)
theorem dX4_init_14 : decode cX4_init 14 = .ok (.aload_n 0, 1) := dk_42 (dk_at dksX4_init_0 14 rfl rfl)
theorem dX4_init_15 : decode cX4_init 15 = .ok (.lconst 1, 1) := dk_10 (dk_at dksX4_init_0 15 rfl rfl)
theorem dX4_init_16 : decode cX4_init 16 = .ok (.aload_n 0, 1) := dk_42 (dk_at dksX4_init_0 16 rfl rfl)
theorem dX4_init_17 : decode cX4_init 17 = .ok (.getfield 1, 3) := dk_180 0 1 (dk_at dksX4_init_0 17 rfl rfl)
theorem dX4_init_20 : decode cX4_init 20 = .ok (.lrem, 1) := dk_113 (dk_at dksX4_init_0 20 rfl rfl)
theorem dX4_init_21 : decode cX4_init 21 = .ok (.putfield 16, 3) := dk_181 0 16 (dk_at dksX4_init_0 21 rfl rfl)
theorem dX4_init_24 : decode cX4_init 24 = .ok (.return_, 1) := dk_177 (dk_at dksX4_init_1 0 rfl rfl)
abbrev cX4_doubles : ByteArray := prog_2_method_2_code
def yX4_doubles : MethodName := ⟨RX4, "doubles", "()V"⟩
def dkwX4_doubles_0 : List UInt8 := [42, 42, 180, 0, 16, 42, 180, 0, 16, 105, 42, 180, 0, 1, 113, 181, 0, 16, 177]
abbrev dktX4_doubles_0 : List UInt8 := dkwX4_doubles_0 ++ []
theorem dksX4_doubles_0 : cX4_doubles.data.toList.drop 0 = dktX4_doubles_0 := by decide +kernel
theorem dX4_doubles_0 : decode cX4_doubles 0 = .ok (.aload_n 0, 1) := dk_42 (dk_at dksX4_doubles_0 0 rfl rfl)
theorem dX4_doubles_1 : decode cX4_doubles 1 = .ok (.aload_n 0, 1) := dk_42 (dk_at dksX4_doubles_0 1 rfl rfl)
theorem dX4_doubles_2 : decode cX4_doubles 2 = .ok (.getfield 16, 3) := dk_180 0 16 (dk_at dksX4_doubles_0 2 rfl rfl)
theorem dX4_doubles_5 : decode cX4_doubles 5 = .ok (.aload_n 0, 1) := dk_42 (dk_at dksX4_doubles_0 5 rfl rfl)
theorem dX4_doubles_6 : decode cX4_doubles 6 = .ok (.getfield 16, 3) := dk_180 0 16 (dk_at dksX4_doubles_0 6 rfl rfl)
theorem dX4_doubles_9 : decode cX4_doubles 9 = .ok (.lmul, 1) := dk_105 (dk_at dksX4_doubles_0 9 rfl rfl)
theorem dX4_doubles_10 : decode cX4_doubles 10 = .ok (.aload_n 0, 1) := dk_42 (dk_at dksX4_doubles_0 10 rfl rfl)
theorem dX4_doubles_11 : decode cX4_doubles 11 = .ok (.getfield 1, 3) := dk_180 0 1 (dk_at dksX4_doubles_0 11 rfl rfl)
theorem dX4_doubles_14 : decode cX4_doubles 14 = .ok (.lrem, 1) := dk_113 (dk_at dksX4_doubles_0 14 rfl rfl)
theorem dX4_doubles_15 : decode cX4_doubles 15 = .ok (.putfield 16, 3) := dk_181 0 16 (dk_at dksX4_doubles_0 15 rfl rfl)
theorem dX4_doubles_18 : decode cX4_doubles 18 = .ok (.return_, 1) := dk_177 (dk_at dksX4_doubles_0 18 rfl rfl)
abbrev cX4_goesOn : ByteArray := prog_2_method_3_code
def yX4_goesOn : MethodName := ⟨RX4, "goesOn", "()V"⟩
def dkwX4_goesOn_0 : List UInt8 := [42, 42, 180, 0, 16, 42, 180, 0, 7, 42, 180, 0, 1, 113, 105, 42, 180, 0, 1, 113, 181, 0, 16, 177]
abbrev dktX4_goesOn_0 : List UInt8 := dkwX4_goesOn_0 ++ []
theorem dksX4_goesOn_0 : cX4_goesOn.data.toList.drop 0 = dktX4_goesOn_0 := by decide +kernel
theorem dX4_goesOn_0 : decode cX4_goesOn 0 = .ok (.aload_n 0, 1) := dk_42 (dk_at dksX4_goesOn_0 0 rfl rfl)
theorem dX4_goesOn_1 : decode cX4_goesOn 1 = .ok (.aload_n 0, 1) := dk_42 (dk_at dksX4_goesOn_0 1 rfl rfl)
theorem dX4_goesOn_2 : decode cX4_goesOn 2 = .ok (.getfield 16, 3) := dk_180 0 16 (dk_at dksX4_goesOn_0 2 rfl rfl)
theorem dX4_goesOn_5 : decode cX4_goesOn 5 = .ok (.aload_n 0, 1) := dk_42 (dk_at dksX4_goesOn_0 5 rfl rfl)
theorem dX4_goesOn_6 : decode cX4_goesOn 6 = .ok (.getfield 7, 3) := dk_180 0 7 (dk_at dksX4_goesOn_0 6 rfl rfl)
theorem dX4_goesOn_9 : decode cX4_goesOn 9 = .ok (.aload_n 0, 1) := dk_42 (dk_at dksX4_goesOn_0 9 rfl rfl)
theorem dX4_goesOn_10 : decode cX4_goesOn 10 = .ok (.getfield 1, 3) := dk_180 0 1 (dk_at dksX4_goesOn_0 10 rfl rfl)
theorem dX4_goesOn_13 : decode cX4_goesOn 13 = .ok (.lrem, 1) := dk_113 (dk_at dksX4_goesOn_0 13 rfl rfl)
theorem dX4_goesOn_14 : decode cX4_goesOn 14 = .ok (.lmul, 1) := dk_105 (dk_at dksX4_goesOn_0 14 rfl rfl)
theorem dX4_goesOn_15 : decode cX4_goesOn 15 = .ok (.aload_n 0, 1) := dk_42 (dk_at dksX4_goesOn_0 15 rfl rfl)
theorem dX4_goesOn_16 : decode cX4_goesOn 16 = .ok (.getfield 1, 3) := dk_180 0 1 (dk_at dksX4_goesOn_0 16 rfl rfl)
theorem dX4_goesOn_19 : decode cX4_goesOn 19 = .ok (.lrem, 1) := dk_113 (dk_at dksX4_goesOn_0 19 rfl rfl)
theorem dX4_goesOn_20 : decode cX4_goesOn 20 = .ok (.putfield 16, 3) := dk_181 0 16 (dk_at dksX4_goesOn_0 20 rfl rfl)
theorem dX4_goesOn_23 : decode cX4_goesOn 23 = .ok (.return_, 1) := dk_177 (dk_at dksX4_goesOn_0 23 rfl rfl)
abbrev cX4_told : ByteArray := prog_2_method_4_code
def yX4_told : MethodName := ⟨RX4, "told", "()J"⟩
theorem dX4_told_0 : decode cX4_told 0 = .ok (.aload_n 0, 1) := by decide +kernel
theorem dX4_told_1 : decode cX4_told 1 = .ok (.getfield 16, 3) := by decide +kernel
theorem dX4_told_4 : decode cX4_told 4 = .ok (.lreturn, 1) := by decide +kernel
theorem q94 : (Jvm.Cond.initialized "PrimeProofs$1") ∈ lw_all := lw_g (lw_at lw_m1 11 rfl) rfl
theorem q371 : (Jvm.Cond.instantiable "PrimeProofs$1" (3 : Nat)) ∈ lw_all := lw_g (lw_at lw_m2 48 rfl) rfl
theorem q373 : (Jvm.Cond.instanceMethod ({ cls := "PrimeProofs$1", name := "<init>", desc := "(JJ)V" } : Jvm.MethodName)) ∈ lw_all := lw_g (lw_at lw_m2 50 rfl) rfl
theorem q374 : (Jvm.Cond.code ({ cls := "PrimeProofs$1", name := "<init>", desc := "(JJ)V" } : Jvm.MethodName) prog_2_method_1_code (5 : Nat) (Option.none : Option Jvm.ClassFile.FieldType)) ∈ lw_all := lw_g (lw_at lw_m2 51 rfl) rfl
theorem q375 : (Jvm.Cond.methodLinkNest "PrimeProofs$1" (10 : Nat) ({ cls := "PrimeProofs$Climber", name := "<init>", desc := "()V" } : Jvm.MethodName) "PrimeProofs") ∈ lw_tbl := lw_at lw_m2 52 rfl
theorem q379 : (Jvm.Cond.fieldLink "PrimeProofs$1" (16 : Nat) "PrimeProofs$1" "x" "J") ∈ lw_all := lw_g (lw_at lw_m2 56 rfl) rfl
theorem q380 : (Jvm.Cond.fieldLink "PrimeProofs$1" (1 : Nat) "PrimeProofs$1" "val$m" "J") ∈ lw_all := lw_g (lw_at lw_m2 57 rfl) rfl
theorem q381 : (Jvm.Cond.fieldLink "PrimeProofs$1" (7 : Nat) "PrimeProofs$1" "val$base" "J") ∈ lw_all := lw_g (lw_at lw_m2 58 rfl) rfl
theorem q382 : (Jvm.Cond.lays "PrimeProofs$1" "PrimeProofs$1" "x" "J") ∈ lw_all := lw_g (lw_at lw_m2 59 rfl) rfl
theorem q383 : (Jvm.Cond.soleField "PrimeProofs$1" "x") ∈ lw_all := lw_g (lw_at lw_m2 60 rfl) rfl
theorem q384 : (Jvm.Cond.laysFinal "PrimeProofs$1" "PrimeProofs$1" "val$m" "J") ∈ lw_all := lw_g (lw_at lw_m2 61 rfl) rfl
theorem q385 : (Jvm.Cond.soleField "PrimeProofs$1" "val$m") ∈ lw_all := lw_g (lw_at lw_m2 62 rfl) rfl
theorem q386 : (Jvm.Cond.laysFinal "PrimeProofs$1" "PrimeProofs$1" "val$base" "J") ∈ lw_all := lw_g (lw_at lw_m2 63 rfl) rfl
theorem q387 : (Jvm.Cond.soleField "PrimeProofs$1" "val$base") ∈ lw_all := lw_g (lw_at lw_m2 64 rfl) rfl
theorem q388 : (Jvm.Cond.superclass "PrimeProofs$1" "PrimeProofs$Climber") ∈ lw_all := lw_g (lw_at lw_m2 65 rfl) rfl
theorem q390 : (Jvm.Cond.sameMethod "PrimeProofs$1" "PrimeProofs$Climber" "climbs" "(J)J") ∈ lw_all := lw_g (lw_at lw_m2 67 rfl) rfl
theorem q392 : (Jvm.Cond.selects "PrimeProofs$1" ({ cls := "PrimeProofs$1", name := "climbs", desc := "(J)J" } : Jvm.MethodName) ({ cls := "PrimeProofs$Climber", name := "climbs", desc := "(J)J" } : Jvm.MethodName)) ∈ lw_all := lw_g (lw_at lw_m2 69 rfl) rfl
theorem q398 : (Jvm.Cond.selects "PrimeProofs$1" ({ cls := "PrimeProofs$Climber", name := "doubles", desc := "()V" } : Jvm.MethodName) ({ cls := "PrimeProofs$1", name := "doubles", desc := "()V" } : Jvm.MethodName)) ∈ lw_all := lw_g (lw_at lw_m2 75 rfl) rfl
theorem q399 : (Jvm.Cond.instanceMethod ({ cls := "PrimeProofs$1", name := "doubles", desc := "()V" } : Jvm.MethodName)) ∈ lw_all := lw_g (lw_at lw_m2 76 rfl) rfl
theorem q400 : (Jvm.Cond.code ({ cls := "PrimeProofs$1", name := "doubles", desc := "()V" } : Jvm.MethodName) prog_2_method_2_code (1 : Nat) (Option.none : Option Jvm.ClassFile.FieldType)) ∈ lw_all := lw_g (lw_at lw_m2 77 rfl) rfl
theorem q416 : (Jvm.Cond.selects "PrimeProofs$1" ({ cls := "PrimeProofs$Climber", name := "goesOn", desc := "()V" } : Jvm.MethodName) ({ cls := "PrimeProofs$1", name := "goesOn", desc := "()V" } : Jvm.MethodName)) ∈ lw_all := lw_g (lw_at lw_m2 93 rfl) rfl
theorem q417 : (Jvm.Cond.instanceMethod ({ cls := "PrimeProofs$1", name := "goesOn", desc := "()V" } : Jvm.MethodName)) ∈ lw_all := lw_g (lw_at lw_m2 94 rfl) rfl
theorem q418 : (Jvm.Cond.code ({ cls := "PrimeProofs$1", name := "goesOn", desc := "()V" } : Jvm.MethodName) prog_2_method_3_code (1 : Nat) (Option.none : Option Jvm.ClassFile.FieldType)) ∈ lw_all := lw_g (lw_at lw_m2 95 rfl) rfl
theorem q425 : (Jvm.Cond.selects "PrimeProofs$1" ({ cls := "PrimeProofs$Climber", name := "told", desc := "()J" } : Jvm.MethodName) ({ cls := "PrimeProofs$1", name := "told", desc := "()J" } : Jvm.MethodName)) ∈ lw_all := lw_g (lw_at lw_m2 102 rfl) rfl
theorem q426 : (Jvm.Cond.instanceMethod ({ cls := "PrimeProofs$1", name := "told", desc := "()J" } : Jvm.MethodName)) ∈ lw_all := lw_g (lw_at lw_m2 103 rfl) rfl
theorem q427 : (Jvm.Cond.code ({ cls := "PrimeProofs$1", name := "told", desc := "()J" } : Jvm.MethodName) prog_2_method_4_code (1 : Nat) (Option.some Jvm.ClassFile.FieldType.long)) ∈ lw_all := lw_g (lw_at lw_m2 104 rfl) rfl
theorem q827 : (Jvm.Cond.selects "PrimeProofs$1" ({ cls := "java/lang/Object", name := "getClass", desc := "()Ljava/lang/Class;" } : Jvm.MethodName) ({ cls := "java/lang/Object", name := "getClass", desc := "()Ljava/lang/Class;" } : Jvm.MethodName)) ∈ lw_all := lw_g (lw_at lw_m4 24 rfl) rfl
theorem q2224 : (Jvm.Cond.castable "PrimeProofs$1" "java/lang/Object") ∈ lw_tbl := lw_at lw_m9 221 rfl
theorem in_X4 : ∀ w ∈ wsX40, w ∈ lw_all := lw_in wsX40 [382, 384, 386] (by decide +kernel) (by decide +kernel)

/-! PrimeProofs$1Sequence -/
set_option maxRecDepth 100000
def RX5 : String := "PrimeProofs$1Sequence"
def TX5 : u_T := fun k => match k with
  | 0 => ("PrimeProofs$1Sequence", "one", "J", false)
  | 1 => ("PrimeProofs$1Sequence", "next", "J", false)
  | 2 => ("PrimeProofs$1Sequence", "val$m", "J", true)
  | 3 => ("PrimeProofs$1Sequence", "val$p", "J", true)
  | _ => ("PrimeProofs$1Sequence", "val$q", "J", true)
def tyX5 : Nat → FieldType := fun k => match k with
  | 0 => .long
  | 1 => .long
  | 2 => .long
  | 3 => .long
  | _ => .long
abbrev wsX50 : List Cond := u_ws RX5 TX5 5
theorem nmX5 : ∀ a, a < 5 → ∀ b, b < 5 → a ≠ b → (TX5 a).2.1 ≠ (TX5 b).2.1 := by decide +kernel
theorem tyX5_ok : ∀ k, k < 5 → parseFieldDescriptor (TX5 k).2.2.1 = some (tyX5 k) := by decide +kernel
abbrev cX5_doubles : ByteArray := prog_3_method_3_code
def yX5_doubles : MethodName := ⟨RX5, "doubles", "()V"⟩
def dkwX5_doubles_3 : List UInt8 := [180, 0, 1, 113, 101, 182, 0, 33, 181, 0, 19, 177]
abbrev dktX5_doubles_3 : List UInt8 := dkwX5_doubles_3 ++ []
def dkwX5_doubles_2 : List UInt8 := [180, 0, 1, 113, 42, 42, 180, 0, 10, 182, 0, 33, 31, 31, 105, 42, 180, 0, 1, 113, 105, 42]
abbrev dktX5_doubles_2 : List UInt8 := dkwX5_doubles_2 ++ dktX5_doubles_3
def dkwX5_doubles_1 : List UInt8 := [182, 0, 33, 105, 42, 180, 0, 1, 113, 181, 0, 28, 42, 42, 42, 180, 0, 19, 42, 180, 0, 19, 105, 42]
abbrev dktX5_doubles_1 : List UInt8 := dkwX5_doubles_1 ++ dktX5_doubles_2
def dkwX5_doubles_0 : List UInt8 := [42, 180, 0, 28, 64, 42, 31, 42, 20, 0, 31, 42, 180, 0, 19, 105, 42, 180, 0, 7, 31, 105, 101]
abbrev dktX5_doubles_0 : List UInt8 := dkwX5_doubles_0 ++ dktX5_doubles_1
theorem dksX5_doubles_0 : cX5_doubles.data.toList.drop 0 = dktX5_doubles_0 := by decide +kernel
theorem dksX5_doubles_1 : cX5_doubles.data.toList.drop 23 = dktX5_doubles_1 := dk_seg dksX5_doubles_0 23 rfl rfl
theorem dksX5_doubles_2 : cX5_doubles.data.toList.drop 47 = dktX5_doubles_2 := dk_seg dksX5_doubles_1 24 rfl rfl
theorem dksX5_doubles_3 : cX5_doubles.data.toList.drop 69 = dktX5_doubles_3 := dk_seg dksX5_doubles_2 22 rfl rfl
theorem dX5_doubles_0 : decode cX5_doubles 0 = .ok (.aload_n 0, 1) := dk_42 (dk_at dksX5_doubles_0 0 rfl rfl)
theorem dX5_doubles_1 : decode cX5_doubles 1 = .ok (.getfield 28, 3) := dk_180 0 28 (dk_at dksX5_doubles_0 1 rfl rfl)
theorem dX5_doubles_4 : decode cX5_doubles 4 = .ok (.lstore_n 1, 1) := dk_64 (dk_at dksX5_doubles_0 4 rfl rfl)
theorem dX5_doubles_5 : decode cX5_doubles 5 = .ok (.aload_n 0, 1) := dk_42 (dk_at dksX5_doubles_0 5 rfl rfl)
theorem dX5_doubles_6 : decode cX5_doubles 6 = .ok (.lload_n 1, 1) := dk_31 (dk_at dksX5_doubles_0 6 rfl rfl)
theorem dX5_doubles_7 : decode cX5_doubles 7 = .ok (.aload_n 0, 1) := dk_42 (dk_at dksX5_doubles_0 7 rfl rfl)
theorem dX5_doubles_8 : decode cX5_doubles 8 = .ok (.ldc2_w 31, 3) := dk_20 0 31 (dk_at dksX5_doubles_0 8 rfl rfl)
theorem dX5_doubles_11 : decode cX5_doubles 11 = .ok (.aload_n 0, 1) := dk_42 (dk_at dksX5_doubles_0 11 rfl rfl)
theorem dX5_doubles_12 : decode cX5_doubles 12 = .ok (.getfield 19, 3) := dk_180 0 19 (dk_at dksX5_doubles_0 12 rfl rfl)
theorem dX5_doubles_15 : decode cX5_doubles 15 = .ok (.lmul, 1) := dk_105 (dk_at dksX5_doubles_0 15 rfl rfl)
theorem dX5_doubles_16 : decode cX5_doubles 16 = .ok (.aload_n 0, 1) := dk_42 (dk_at dksX5_doubles_0 16 rfl rfl)
theorem dX5_doubles_17 : decode cX5_doubles 17 = .ok (.getfield 7, 3) := dk_180 0 7 (dk_at dksX5_doubles_0 17 rfl rfl)
theorem dX5_doubles_20 : decode cX5_doubles 20 = .ok (.lload_n 1, 1) := dk_31 (dk_at dksX5_doubles_0 20 rfl rfl)
theorem dX5_doubles_21 : decode cX5_doubles 21 = .ok (.lmul, 1) := dk_105 (dk_at dksX5_doubles_0 21 rfl rfl)
theorem dX5_doubles_22 : decode cX5_doubles 22 = .ok (.lsub, 1) := dk_101 (dk_at dksX5_doubles_0 22 rfl rfl)
theorem dX5_doubles_23 : decode cX5_doubles 23 = .ok (.invokevirtual 33, 3) := dk_182 0 33 (dk_at dksX5_doubles_1 0 rfl rfl)
theorem dX5_doubles_26 : decode cX5_doubles 26 = .ok (.lmul, 1) := dk_105 (dk_at dksX5_doubles_1 3 rfl rfl)
theorem dX5_doubles_27 : decode cX5_doubles 27 = .ok (.aload_n 0, 1) := dk_42 (dk_at dksX5_doubles_1 4 rfl rfl)
theorem dX5_doubles_28 : decode cX5_doubles 28 = .ok (.getfield 1, 3) := dk_180 0 1 (dk_at dksX5_doubles_1 5 rfl rfl)
theorem dX5_doubles_31 : decode cX5_doubles 31 = .ok (.lrem, 1) := dk_113 (dk_at dksX5_doubles_1 8 rfl rfl)
theorem dX5_doubles_32 : decode cX5_doubles 32 = .ok (.putfield 28, 3) := dk_181 0 28 (dk_at dksX5_doubles_1 9 rfl rfl)
theorem dX5_doubles_35 : decode cX5_doubles 35 = .ok (.aload_n 0, 1) := dk_42 (dk_at dksX5_doubles_1 12 rfl rfl)
theorem dX5_doubles_36 : decode cX5_doubles 36 = .ok (.aload_n 0, 1) := dk_42 (dk_at dksX5_doubles_1 13 rfl rfl)
theorem dX5_doubles_37 : decode cX5_doubles 37 = .ok (.aload_n 0, 1) := dk_42 (dk_at dksX5_doubles_1 14 rfl rfl)
theorem dX5_doubles_38 : decode cX5_doubles 38 = .ok (.getfield 19, 3) := dk_180 0 19 (dk_at dksX5_doubles_1 15 rfl rfl)
theorem dX5_doubles_41 : decode cX5_doubles 41 = .ok (.aload_n 0, 1) := dk_42 (dk_at dksX5_doubles_1 18 rfl rfl)
theorem dX5_doubles_42 : decode cX5_doubles 42 = .ok (.getfield 19, 3) := dk_180 0 19 (dk_at dksX5_doubles_1 19 rfl rfl)
theorem dX5_doubles_45 : decode cX5_doubles 45 = .ok (.lmul, 1) := dk_105 (dk_at dksX5_doubles_1 22 rfl rfl)
theorem dX5_doubles_46 : decode cX5_doubles 46 = .ok (.aload_n 0, 1) := dk_42 (dk_at dksX5_doubles_1 23 rfl rfl)
theorem dX5_doubles_47 : decode cX5_doubles 47 = .ok (.getfield 1, 3) := dk_180 0 1 (dk_at dksX5_doubles_2 0 rfl rfl)
theorem dX5_doubles_50 : decode cX5_doubles 50 = .ok (.lrem, 1) := dk_113 (dk_at dksX5_doubles_2 3 rfl rfl)
theorem dX5_doubles_51 : decode cX5_doubles 51 = .ok (.aload_n 0, 1) := dk_42 (dk_at dksX5_doubles_2 4 rfl rfl)
theorem dX5_doubles_52 : decode cX5_doubles 52 = .ok (.aload_n 0, 1) := dk_42 (dk_at dksX5_doubles_2 5 rfl rfl)
theorem dX5_doubles_53 : decode cX5_doubles 53 = .ok (.getfield 10, 3) := dk_180 0 10 (dk_at dksX5_doubles_2 6 rfl rfl)
theorem dX5_doubles_56 : decode cX5_doubles 56 = .ok (.invokevirtual 33, 3) := dk_182 0 33 (dk_at dksX5_doubles_2 9 rfl rfl)
theorem dX5_doubles_59 : decode cX5_doubles 59 = .ok (.lload_n 1, 1) := dk_31 (dk_at dksX5_doubles_2 12 rfl rfl)
theorem dX5_doubles_60 : decode cX5_doubles 60 = .ok (.lload_n 1, 1) := dk_31 (dk_at dksX5_doubles_2 13 rfl rfl)
theorem dX5_doubles_61 : decode cX5_doubles 61 = .ok (.lmul, 1) := dk_105 (dk_at dksX5_doubles_2 14 rfl rfl)
theorem dX5_doubles_62 : decode cX5_doubles 62 = .ok (.aload_n 0, 1) := dk_42 (dk_at dksX5_doubles_2 15 rfl rfl)
theorem dX5_doubles_63 : decode cX5_doubles 63 = .ok (.getfield 1, 3) := dk_180 0 1 (dk_at dksX5_doubles_2 16 rfl rfl)
theorem dX5_doubles_66 : decode cX5_doubles 66 = .ok (.lrem, 1) := dk_113 (dk_at dksX5_doubles_2 19 rfl rfl)
theorem dX5_doubles_67 : decode cX5_doubles 67 = .ok (.lmul, 1) := dk_105 (dk_at dksX5_doubles_2 20 rfl rfl)
theorem dX5_doubles_68 : decode cX5_doubles 68 = .ok (.aload_n 0, 1) := dk_42 (dk_at dksX5_doubles_2 21 rfl rfl)
theorem dX5_doubles_69 : decode cX5_doubles 69 = .ok (.getfield 1, 3) := dk_180 0 1 (dk_at dksX5_doubles_3 0 rfl rfl)
theorem dX5_doubles_72 : decode cX5_doubles 72 = .ok (.lrem, 1) := dk_113 (dk_at dksX5_doubles_3 3 rfl rfl)
theorem dX5_doubles_73 : decode cX5_doubles 73 = .ok (.lsub, 1) := dk_101 (dk_at dksX5_doubles_3 4 rfl rfl)
theorem dX5_doubles_74 : decode cX5_doubles 74 = .ok (.invokevirtual 33, 3) := dk_182 0 33 (dk_at dksX5_doubles_3 5 rfl rfl)
theorem dX5_doubles_77 : decode cX5_doubles 77 = .ok (.putfield 19, 3) := dk_181 0 19 (dk_at dksX5_doubles_3 8 rfl rfl)
theorem dX5_doubles_80 : decode cX5_doubles 80 = .ok (.return_, 1) := dk_177 (dk_at dksX5_doubles_3 11 rfl rfl)
abbrev cX5_rest : ByteArray := prog_3_method_2_code
def yX5_rest : MethodName := ⟨RX5, "rest", "(J)J"⟩
def dkwX5_rest_0 : List UInt8 := [31, 42, 180, 0, 1, 184, 0, 22, 173]
abbrev dktX5_rest_0 : List UInt8 := dkwX5_rest_0 ++ []
theorem dksX5_rest_0 : cX5_rest.data.toList.drop 0 = dktX5_rest_0 := by decide +kernel
theorem dX5_rest_0 : decode cX5_rest 0 = .ok (.lload_n 1, 1) := dk_31 (dk_at dksX5_rest_0 0 rfl rfl)
theorem dX5_rest_1 : decode cX5_rest 1 = .ok (.aload_n 0, 1) := dk_42 (dk_at dksX5_rest_0 1 rfl rfl)
theorem dX5_rest_2 : decode cX5_rest 2 = .ok (.getfield 1, 3) := dk_180 0 1 (dk_at dksX5_rest_0 2 rfl rfl)
theorem dX5_rest_5 : decode cX5_rest 5 = .ok (.invokestatic 22, 3) := dk_184 0 22 (dk_at dksX5_rest_0 5 rfl rfl)
theorem dX5_rest_8 : decode cX5_rest 8 = .ok (.lreturn, 1) := dk_173 (dk_at dksX5_rest_0 8 rfl rfl)
abbrev cX5_goesOn : ByteArray := prog_3_method_4_code
def yX5_goesOn : MethodName := ⟨RX5, "goesOn", "()V"⟩
def dkwX5_goesOn_1 : List UInt8 := [42, 180, 0, 10, 31, 105, 101, 182, 0, 33, 181, 0, 19, 177]
abbrev dktX5_goesOn_1 : List UInt8 := dkwX5_goesOn_1 ++ []
def dkwX5_goesOn_0 : List UInt8 := [42, 180, 0, 28, 64, 42, 42, 180, 0, 19, 181, 0, 28, 42, 42, 42, 180, 0, 7, 42, 180, 0, 19, 105]
abbrev dktX5_goesOn_0 : List UInt8 := dkwX5_goesOn_0 ++ dktX5_goesOn_1
theorem dksX5_goesOn_0 : cX5_goesOn.data.toList.drop 0 = dktX5_goesOn_0 := by decide +kernel
theorem dksX5_goesOn_1 : cX5_goesOn.data.toList.drop 24 = dktX5_goesOn_1 := dk_seg dksX5_goesOn_0 24 rfl rfl
theorem dX5_goesOn_0 : decode cX5_goesOn 0 = .ok (.aload_n 0, 1) := dk_42 (dk_at dksX5_goesOn_0 0 rfl rfl)
theorem dX5_goesOn_1 : decode cX5_goesOn 1 = .ok (.getfield 28, 3) := dk_180 0 28 (dk_at dksX5_goesOn_0 1 rfl rfl)
theorem dX5_goesOn_4 : decode cX5_goesOn 4 = .ok (.lstore_n 1, 1) := dk_64 (dk_at dksX5_goesOn_0 4 rfl rfl)
theorem dX5_goesOn_5 : decode cX5_goesOn 5 = .ok (.aload_n 0, 1) := dk_42 (dk_at dksX5_goesOn_0 5 rfl rfl)
theorem dX5_goesOn_6 : decode cX5_goesOn 6 = .ok (.aload_n 0, 1) := dk_42 (dk_at dksX5_goesOn_0 6 rfl rfl)
theorem dX5_goesOn_7 : decode cX5_goesOn 7 = .ok (.getfield 19, 3) := dk_180 0 19 (dk_at dksX5_goesOn_0 7 rfl rfl)
theorem dX5_goesOn_10 : decode cX5_goesOn 10 = .ok (.putfield 28, 3) := dk_181 0 28 (dk_at dksX5_goesOn_0 10 rfl rfl)
theorem dX5_goesOn_13 : decode cX5_goesOn 13 = .ok (.aload_n 0, 1) := dk_42 (dk_at dksX5_goesOn_0 13 rfl rfl)
theorem dX5_goesOn_14 : decode cX5_goesOn 14 = .ok (.aload_n 0, 1) := dk_42 (dk_at dksX5_goesOn_0 14 rfl rfl)
theorem dX5_goesOn_15 : decode cX5_goesOn 15 = .ok (.aload_n 0, 1) := dk_42 (dk_at dksX5_goesOn_0 15 rfl rfl)
theorem dX5_goesOn_16 : decode cX5_goesOn 16 = .ok (.getfield 7, 3) := dk_180 0 7 (dk_at dksX5_goesOn_0 16 rfl rfl)
theorem dX5_goesOn_19 : decode cX5_goesOn 19 = .ok (.aload_n 0, 1) := dk_42 (dk_at dksX5_goesOn_0 19 rfl rfl)
theorem dX5_goesOn_20 : decode cX5_goesOn 20 = .ok (.getfield 19, 3) := dk_180 0 19 (dk_at dksX5_goesOn_0 20 rfl rfl)
theorem dX5_goesOn_23 : decode cX5_goesOn 23 = .ok (.lmul, 1) := dk_105 (dk_at dksX5_goesOn_0 23 rfl rfl)
theorem dX5_goesOn_24 : decode cX5_goesOn 24 = .ok (.aload_n 0, 1) := dk_42 (dk_at dksX5_goesOn_1 0 rfl rfl)
theorem dX5_goesOn_25 : decode cX5_goesOn 25 = .ok (.getfield 10, 3) := dk_180 0 10 (dk_at dksX5_goesOn_1 1 rfl rfl)
theorem dX5_goesOn_28 : decode cX5_goesOn 28 = .ok (.lload_n 1, 1) := dk_31 (dk_at dksX5_goesOn_1 4 rfl rfl)
theorem dX5_goesOn_29 : decode cX5_goesOn 29 = .ok (.lmul, 1) := dk_105 (dk_at dksX5_goesOn_1 5 rfl rfl)
theorem dX5_goesOn_30 : decode cX5_goesOn 30 = .ok (.lsub, 1) := dk_101 (dk_at dksX5_goesOn_1 6 rfl rfl)
theorem dX5_goesOn_31 : decode cX5_goesOn 31 = .ok (.invokevirtual 33, 3) := dk_182 0 33 (dk_at dksX5_goesOn_1 7 rfl rfl)
theorem dX5_goesOn_34 : decode cX5_goesOn 34 = .ok (.putfield 19, 3) := dk_181 0 19 (dk_at dksX5_goesOn_1 10 rfl rfl)
theorem dX5_goesOn_37 : decode cX5_goesOn 37 = .ok (.return_, 1) := dk_177 (dk_at dksX5_goesOn_1 13 rfl rfl)
abbrev cX5_told : ByteArray := prog_3_method_5_code
def yX5_told : MethodName := ⟨RX5, "told", "()J"⟩
theorem dX5_told_0 : decode cX5_told 0 = .ok (.aload_n 0, 1) := by decide +kernel
theorem dX5_told_1 : decode cX5_told 1 = .ok (.getfield 28, 3) := by decide +kernel
theorem dX5_told_4 : decode cX5_told 4 = .ok (.lreturn, 1) := by decide +kernel
abbrev cX5_init : ByteArray := prog_3_method_1_code
def yX5_init : MethodName := ⟨RX5, "<init>", "(JJJ)V"⟩
def dkwX5_init_1 : List UInt8 := [180, 0, 1, 113, 181, 0, 19, 177]
abbrev dktX5_init_1 : List UInt8 := dkwX5_init_1 ++ []
def dkwX5_init_0 : List UInt8 := [42, 31, 181, 0, 1, 42, 33, 181, 0, 7, 42, 22, 5, 181, 0, 10, 42, 183, 0, 13, 42, 10, 42]
abbrev dktX5_init_0 : List UInt8 := dkwX5_init_0 ++ dktX5_init_1
theorem dksX5_init_0 : cX5_init.data.toList.drop 0 = dktX5_init_0 := by decide +kernel
theorem dksX5_init_1 : cX5_init.data.toList.drop 23 = dktX5_init_1 := dk_seg dksX5_init_0 23 rfl rfl
theorem dX5_init_0 : decode cX5_init 0 = .ok (.aload_n 0, 1) := dk_42 (dk_at dksX5_init_0 0 rfl rfl)
theorem dX5_init_1 : decode cX5_init 1 = .ok (.lload_n 1, 1) := dk_31 (dk_at dksX5_init_0 1 rfl rfl)
theorem dX5_init_2 : decode cX5_init 2 = .ok (.putfield 1, 3) := dk_181 0 1 (dk_at dksX5_init_0 2 rfl rfl)
theorem dX5_init_5 : decode cX5_init 5 = .ok (.aload_n 0, 1) := dk_42 (dk_at dksX5_init_0 5 rfl rfl)
theorem dX5_init_6 : decode cX5_init 6 = .ok (.lload_n 3, 1) := dk_33 (dk_at dksX5_init_0 6 rfl rfl)
theorem dX5_init_7 : decode cX5_init 7 = .ok (.putfield 7, 3) := dk_181 0 7 (dk_at dksX5_init_0 7 rfl rfl)
theorem dX5_init_10 : decode cX5_init 10 = .ok (.aload_n 0, 1) := dk_42 (dk_at dksX5_init_0 10 rfl rfl)
theorem dX5_init_11 : decode cX5_init 11 = .ok (.lload 5, 2) := dk_22 5 (dk_at dksX5_init_0 11 rfl rfl)
theorem dX5_init_13 : decode cX5_init 13 = .ok (.putfield 10, 3) := dk_181 0 10 (dk_at dksX5_init_0 13 rfl rfl)
theorem dX5_init_16 : decode cX5_init 16 = .ok (.aload_n 0, 1) := dk_42 (dk_at dksX5_init_0 16 rfl rfl)
theorem dX5_init_17 : decode cX5_init 17 = .ok (.invokespecial 13, 3) := dk_183 0 13 (dk_at dksX5_init_0 17 rfl rfl)
theorem dX5_init_20 : decode cX5_init 20 = .ok (.aload_n 0, 1) := dk_42 (dk_at dksX5_init_0 20 rfl rfl)
theorem dX5_init_21 : decode cX5_init 21 = .ok (.lconst 1, 1) := dk_10 (dk_at dksX5_init_0 21 rfl rfl)
theorem dX5_init_22 : decode cX5_init 22 = .ok (.aload_n 0, 1) := dk_42 (dk_at dksX5_init_0 22 rfl rfl)
theorem dX5_init_23 : decode cX5_init 23 = .ok (.getfield 1, 3) := dk_180 0 1 (dk_at dksX5_init_1 0 rfl rfl)
theorem dX5_init_26 : decode cX5_init 26 = .ok (.lrem, 1) := dk_113 (dk_at dksX5_init_1 3 rfl rfl)
theorem dX5_init_27 : decode cX5_init 27 = .ok (.putfield 19, 3) := dk_181 0 19 (dk_at dksX5_init_1 4 rfl rfl)
theorem dX5_init_30 : decode cX5_init 30 = .ok (.return_, 1) := dk_177 (dk_at dksX5_init_1 7 rfl rfl)
theorem q95 : (Jvm.Cond.initialized "PrimeProofs$1Sequence") ∈ lw_all := lw_g (lw_at lw_m1 12 rfl) rfl
theorem q401 : (Jvm.Cond.selects "PrimeProofs$1Sequence" ({ cls := "PrimeProofs$Climber", name := "doubles", desc := "()V" } : Jvm.MethodName) ({ cls := "PrimeProofs$1Sequence", name := "doubles", desc := "()V" } : Jvm.MethodName)) ∈ lw_all := lw_g (lw_at lw_m2 78 rfl) rfl
theorem q402 : (Jvm.Cond.instanceMethod ({ cls := "PrimeProofs$1Sequence", name := "doubles", desc := "()V" } : Jvm.MethodName)) ∈ lw_all := lw_g (lw_at lw_m2 79 rfl) rfl
theorem q403 : (Jvm.Cond.code ({ cls := "PrimeProofs$1Sequence", name := "doubles", desc := "()V" } : Jvm.MethodName) prog_3_method_3_code (3 : Nat) (Option.none : Option Jvm.ClassFile.FieldType)) ∈ lw_all := lw_g (lw_at lw_m2 80 rfl) rfl
theorem q404 : (Jvm.Cond.constantLong "PrimeProofs$1Sequence" (31 : Nat) (2 : Int64)) ∈ lw_all := lw_g (lw_at lw_m2 81 rfl) rfl
theorem q405 : (Jvm.Cond.methodLink "PrimeProofs$1Sequence" (33 : Nat) ({ cls := "PrimeProofs$1Sequence", name := "rest", desc := "(J)J" } : Jvm.MethodName)) ∈ lw_all := lw_g (lw_at lw_m2 82 rfl) rfl
theorem q406 : (Jvm.Cond.privateMethod ({ cls := "PrimeProofs$1Sequence", name := "rest", desc := "(J)J" } : Jvm.MethodName)) ∈ lw_tbl := lw_at lw_m2 83 rfl
theorem q407 : (Jvm.Cond.instanceMethod ({ cls := "PrimeProofs$1Sequence", name := "rest", desc := "(J)J" } : Jvm.MethodName)) ∈ lw_all := lw_g (lw_at lw_m2 84 rfl) rfl
theorem q408 : (Jvm.Cond.instantiable "PrimeProofs$1Sequence" (5 : Nat)) ∈ lw_all := lw_g (lw_at lw_m2 85 rfl) rfl
theorem q409 : (Jvm.Cond.code ({ cls := "PrimeProofs$1Sequence", name := "rest", desc := "(J)J" } : Jvm.MethodName) prog_3_method_2_code (3 : Nat) (Option.some Jvm.ClassFile.FieldType.long)) ∈ lw_all := lw_g (lw_at lw_m2 86 rfl) rfl
theorem q410 : (Jvm.Cond.methodLink "PrimeProofs$1Sequence" (22 : Nat) ({ cls := "java/lang/Math", name := "floorMod", desc := "(JJ)J" } : Jvm.MethodName)) ∈ lw_all := lw_g (lw_at lw_m2 87 rfl) rfl
theorem q419 : (Jvm.Cond.selects "PrimeProofs$1Sequence" ({ cls := "PrimeProofs$Climber", name := "goesOn", desc := "()V" } : Jvm.MethodName) ({ cls := "PrimeProofs$1Sequence", name := "goesOn", desc := "()V" } : Jvm.MethodName)) ∈ lw_all := lw_g (lw_at lw_m2 96 rfl) rfl
theorem q420 : (Jvm.Cond.instanceMethod ({ cls := "PrimeProofs$1Sequence", name := "goesOn", desc := "()V" } : Jvm.MethodName)) ∈ lw_all := lw_g (lw_at lw_m2 97 rfl) rfl
theorem q421 : (Jvm.Cond.code ({ cls := "PrimeProofs$1Sequence", name := "goesOn", desc := "()V" } : Jvm.MethodName) prog_3_method_4_code (3 : Nat) (Option.none : Option Jvm.ClassFile.FieldType)) ∈ lw_all := lw_g (lw_at lw_m2 98 rfl) rfl
theorem q428 : (Jvm.Cond.selects "PrimeProofs$1Sequence" ({ cls := "PrimeProofs$Climber", name := "told", desc := "()J" } : Jvm.MethodName) ({ cls := "PrimeProofs$1Sequence", name := "told", desc := "()J" } : Jvm.MethodName)) ∈ lw_all := lw_g (lw_at lw_m2 105 rfl) rfl
theorem q429 : (Jvm.Cond.instanceMethod ({ cls := "PrimeProofs$1Sequence", name := "told", desc := "()J" } : Jvm.MethodName)) ∈ lw_all := lw_g (lw_at lw_m2 106 rfl) rfl
theorem q430 : (Jvm.Cond.code ({ cls := "PrimeProofs$1Sequence", name := "told", desc := "()J" } : Jvm.MethodName) prog_3_method_5_code (1 : Nat) (Option.some Jvm.ClassFile.FieldType.long)) ∈ lw_all := lw_g (lw_at lw_m2 107 rfl) rfl
theorem q473 : (Jvm.Cond.instanceMethod ({ cls := "PrimeProofs$1Sequence", name := "<init>", desc := "(JJJ)V" } : Jvm.MethodName)) ∈ lw_all := lw_g (lw_at lw_m2 150 rfl) rfl
theorem q474 : (Jvm.Cond.code ({ cls := "PrimeProofs$1Sequence", name := "<init>", desc := "(JJJ)V" } : Jvm.MethodName) prog_3_method_1_code (7 : Nat) (Option.none : Option Jvm.ClassFile.FieldType)) ∈ lw_all := lw_g (lw_at lw_m2 151 rfl) rfl
theorem q475 : (Jvm.Cond.methodLinkNest "PrimeProofs$1Sequence" (13 : Nat) ({ cls := "PrimeProofs$Climber", name := "<init>", desc := "()V" } : Jvm.MethodName) "PrimeProofs") ∈ lw_tbl := lw_at lw_m2 152 rfl
theorem q476 : (Jvm.Cond.fieldLink "PrimeProofs$1Sequence" (28 : Nat) "PrimeProofs$1Sequence" "one" "J") ∈ lw_all := lw_g (lw_at lw_m2 153 rfl) rfl
theorem q477 : (Jvm.Cond.fieldLink "PrimeProofs$1Sequence" (19 : Nat) "PrimeProofs$1Sequence" "next" "J") ∈ lw_all := lw_g (lw_at lw_m2 154 rfl) rfl
theorem q478 : (Jvm.Cond.fieldLink "PrimeProofs$1Sequence" (1 : Nat) "PrimeProofs$1Sequence" "val$m" "J") ∈ lw_all := lw_g (lw_at lw_m2 155 rfl) rfl
theorem q479 : (Jvm.Cond.fieldLink "PrimeProofs$1Sequence" (7 : Nat) "PrimeProofs$1Sequence" "val$p" "J") ∈ lw_all := lw_g (lw_at lw_m2 156 rfl) rfl
theorem q480 : (Jvm.Cond.fieldLink "PrimeProofs$1Sequence" (10 : Nat) "PrimeProofs$1Sequence" "val$q" "J") ∈ lw_all := lw_g (lw_at lw_m2 157 rfl) rfl
theorem q481 : (Jvm.Cond.lays "PrimeProofs$1Sequence" "PrimeProofs$1Sequence" "one" "J") ∈ lw_all := lw_g (lw_at lw_m2 158 rfl) rfl
theorem q482 : (Jvm.Cond.soleField "PrimeProofs$1Sequence" "one") ∈ lw_all := lw_g (lw_at lw_m2 159 rfl) rfl
theorem q483 : (Jvm.Cond.lays "PrimeProofs$1Sequence" "PrimeProofs$1Sequence" "next" "J") ∈ lw_all := lw_g (lw_at lw_m2 160 rfl) rfl
theorem q484 : (Jvm.Cond.soleField "PrimeProofs$1Sequence" "next") ∈ lw_all := lw_g (lw_at lw_m2 161 rfl) rfl
theorem q485 : (Jvm.Cond.laysFinal "PrimeProofs$1Sequence" "PrimeProofs$1Sequence" "val$m" "J") ∈ lw_all := lw_g (lw_at lw_m2 162 rfl) rfl
theorem q486 : (Jvm.Cond.soleField "PrimeProofs$1Sequence" "val$m") ∈ lw_all := lw_g (lw_at lw_m2 163 rfl) rfl
theorem q487 : (Jvm.Cond.laysFinal "PrimeProofs$1Sequence" "PrimeProofs$1Sequence" "val$p" "J") ∈ lw_all := lw_g (lw_at lw_m2 164 rfl) rfl
theorem q488 : (Jvm.Cond.soleField "PrimeProofs$1Sequence" "val$p") ∈ lw_all := lw_g (lw_at lw_m2 165 rfl) rfl
theorem q489 : (Jvm.Cond.laysFinal "PrimeProofs$1Sequence" "PrimeProofs$1Sequence" "val$q" "J") ∈ lw_all := lw_g (lw_at lw_m2 166 rfl) rfl
theorem q490 : (Jvm.Cond.soleField "PrimeProofs$1Sequence" "val$q") ∈ lw_all := lw_g (lw_at lw_m2 167 rfl) rfl
theorem q491 : (Jvm.Cond.superclass "PrimeProofs$1Sequence" "PrimeProofs$Climber") ∈ lw_all := lw_g (lw_at lw_m2 168 rfl) rfl
theorem q493 : (Jvm.Cond.sameMethod "PrimeProofs$1Sequence" "PrimeProofs$Climber" "climbs" "(J)J") ∈ lw_all := lw_g (lw_at lw_m2 170 rfl) rfl
theorem q494 : (Jvm.Cond.selects "PrimeProofs$1Sequence" ({ cls := "PrimeProofs$1Sequence", name := "climbs", desc := "(J)J" } : Jvm.MethodName) ({ cls := "PrimeProofs$Climber", name := "climbs", desc := "(J)J" } : Jvm.MethodName)) ∈ lw_all := lw_g (lw_at lw_m2 171 rfl) rfl
theorem q828 : (Jvm.Cond.selects "PrimeProofs$1Sequence" ({ cls := "java/lang/Object", name := "getClass", desc := "()Ljava/lang/Class;" } : Jvm.MethodName) ({ cls := "java/lang/Object", name := "getClass", desc := "()Ljava/lang/Class;" } : Jvm.MethodName)) ∈ lw_all := lw_g (lw_at lw_m4 25 rfl) rfl
theorem q2225 : (Jvm.Cond.castable "PrimeProofs$1Sequence" "java/lang/Object") ∈ lw_tbl := lw_at lw_m9 222 rfl
theorem in_X5 : ∀ w ∈ wsX50, w ∈ lw_all := lw_in wsX50 [481, 483, 485, 487, 489] (by decide +kernel) (by decide +kernel)

/-! PrimeProofs$Line -/
set_option maxRecDepth 100000
def RX6 : String := "PrimeProofs$Line"
abbrev cX6_fault : ByteArray := prog_7_method_6_code
def yX6_fault : MethodName := ⟨RX6, "fault", "(I)I"⟩
def dkwX6_fault_8 : List UInt8 := [153, 0, 10, 42, 182, 0, 87, 167, 0, 4, 3, 172]
abbrev dktX6_fault_8 : List UInt8 := dkwX6_fault_8 ++ []
def dkwX6_fault_7 : List UInt8 := [192, 0, 50, 78, 42, 45, 182, 0, 81, 154, 0, 6, 16, 6, 172, 167, 255, 226, 42, 182, 0, 84]
abbrev dktX6_fault_7 : List UInt8 := dkwX6_fault_7 ++ dktX6_fault_8
def dkwX6_fault_6 : List UInt8 := [180, 0, 18, 182, 0, 37, 77, 44, 185, 0, 41, 1, 0, 153, 0, 27, 44, 185, 0, 46, 1, 0]
abbrev dktX6_fault_6 : List UInt8 := dkwX6_fault_6 ++ dktX6_fault_7
def dkwX6_fault_5 : List UInt8 := [185, 0, 46, 1, 0, 192, 0, 50, 78, 42, 45, 182, 0, 77, 154, 0, 5, 8, 172, 167, 255, 227, 42]
abbrev dktX6_fault_5 : List UInt8 := dkwX6_fault_5 ++ dktX6_fault_6
def dkwX6_fault_4 : List UInt8 := [7, 172, 42, 180, 0, 18, 182, 0, 37, 77, 44, 185, 0, 41, 1, 0, 153, 0, 26, 44]
abbrev dktX6_fault_4 : List UInt8 := dkwX6_fault_4 ++ dktX6_fault_5
def dkwX6_fault_3 : List UInt8 := [182, 0, 67, 154, 0, 5, 5, 172, 42, 182, 0, 71, 154, 0, 5, 6, 172, 42, 182, 0, 74, 154, 0, 5]
abbrev dktX6_fault_3 : List UInt8 := dkwX6_fault_3 ++ dktX6_fault_4
def dkwX6_fault_2 : List UInt8 := [154, 0, 5, 4, 172, 42, 42, 180, 0, 18, 27, 182, 0, 67, 153, 0, 15, 42, 42, 180, 0, 22, 27]
abbrev dktX6_fault_2 : List UInt8 := dkwX6_fault_2 ++ dktX6_fault_3
def dkwX6_fault_1 : List UInt8 := [184, 0, 61, 153, 0, 7, 3, 167, 0, 4, 4, 172, 42, 180, 0, 25, 20, 0, 65, 113, 9, 148]
abbrev dktX6_fault_1 : List UInt8 := dkwX6_fault_1 ++ dktX6_fault_2
def dkwX6_fault_0 : List UInt8 := [42, 180, 0, 29, 154, 0, 30, 42, 180, 0, 25, 20, 0, 59, 148, 156, 0, 17, 42, 180, 0, 25]
abbrev dktX6_fault_0 : List UInt8 := dkwX6_fault_0 ++ dktX6_fault_1
theorem dksX6_fault_0 : cX6_fault.data.toList.drop 0 = dktX6_fault_0 := by decide +kernel
theorem dksX6_fault_1 : cX6_fault.data.toList.drop 22 = dktX6_fault_1 := dk_seg dksX6_fault_0 22 rfl rfl
theorem dksX6_fault_2 : cX6_fault.data.toList.drop 44 = dktX6_fault_2 := dk_seg dksX6_fault_1 22 rfl rfl
theorem dksX6_fault_3 : cX6_fault.data.toList.drop 67 = dktX6_fault_3 := dk_seg dksX6_fault_2 23 rfl rfl
theorem dksX6_fault_4 : cX6_fault.data.toList.drop 91 = dktX6_fault_4 := dk_seg dksX6_fault_3 24 rfl rfl
theorem dksX6_fault_5 : cX6_fault.data.toList.drop 111 = dktX6_fault_5 := dk_seg dksX6_fault_4 20 rfl rfl
theorem dksX6_fault_6 : cX6_fault.data.toList.drop 134 = dktX6_fault_6 := dk_seg dksX6_fault_5 23 rfl rfl
theorem dksX6_fault_7 : cX6_fault.data.toList.drop 156 = dktX6_fault_7 := dk_seg dksX6_fault_6 22 rfl rfl
theorem dksX6_fault_8 : cX6_fault.data.toList.drop 178 = dktX6_fault_8 := dk_seg dksX6_fault_7 22 rfl rfl
theorem dX6_fault_0 : decode cX6_fault 0 = .ok (.aload_n 0, 1) := dk_42 (dk_at dksX6_fault_0 0 rfl rfl)
theorem dX6_fault_1 : decode cX6_fault 1 = .ok (.getfield 29, 3) := dk_180 0 29 (dk_at dksX6_fault_0 1 rfl rfl)
theorem dX6_fault_4 : decode cX6_fault 4 = .ok (.ifCond .ne 30, 3) := dk_154 0 30 (dk_at dksX6_fault_0 4 rfl rfl)
theorem dX6_fault_7 : decode cX6_fault 7 = .ok (.aload_n 0, 1) := dk_42 (dk_at dksX6_fault_0 7 rfl rfl)
theorem dX6_fault_8 : decode cX6_fault 8 = .ok (.getfield 25, 3) := dk_180 0 25 (dk_at dksX6_fault_0 8 rfl rfl)
theorem dX6_fault_11 : decode cX6_fault 11 = .ok (.ldc2_w 59, 3) := dk_20 0 59 (dk_at dksX6_fault_0 11 rfl rfl)
theorem dX6_fault_14 : decode cX6_fault 14 = .ok (.lcmp, 1) := dk_148 (dk_at dksX6_fault_0 14 rfl rfl)
theorem dX6_fault_15 : decode cX6_fault 15 = .ok (.ifCond .ge 17, 3) := dk_156 0 17 (dk_at dksX6_fault_0 15 rfl rfl)
theorem dX6_fault_18 : decode cX6_fault 18 = .ok (.aload_n 0, 1) := dk_42 (dk_at dksX6_fault_0 18 rfl rfl)
theorem dX6_fault_19 : decode cX6_fault 19 = .ok (.getfield 25, 3) := dk_180 0 25 (dk_at dksX6_fault_0 19 rfl rfl)
theorem dX6_fault_22 : decode cX6_fault 22 = .ok (.invokestatic 61, 3) := dk_184 0 61 (dk_at dksX6_fault_1 0 rfl rfl)
theorem dX6_fault_25 : decode cX6_fault 25 = .ok (.ifCond .eq 7, 3) := dk_153 0 7 (dk_at dksX6_fault_1 3 rfl rfl)
theorem dX6_fault_28 : decode cX6_fault 28 = .ok (.iconst 0, 1) := dk_3 (dk_at dksX6_fault_1 6 rfl rfl)
theorem dX6_fault_29 : decode cX6_fault 29 = .ok (.goto 4, 3) := dk_167 0 4 (dk_at dksX6_fault_1 7 rfl rfl)
theorem dX6_fault_32 : decode cX6_fault 32 = .ok (.iconst 1, 1) := dk_4 (dk_at dksX6_fault_1 10 rfl rfl)
theorem dX6_fault_33 : decode cX6_fault 33 = .ok (.ireturn, 1) := dk_172 (dk_at dksX6_fault_1 11 rfl rfl)
theorem dX6_fault_34 : decode cX6_fault 34 = .ok (.aload_n 0, 1) := dk_42 (dk_at dksX6_fault_1 12 rfl rfl)
theorem dX6_fault_35 : decode cX6_fault 35 = .ok (.getfield 25, 3) := dk_180 0 25 (dk_at dksX6_fault_1 13 rfl rfl)
theorem dX6_fault_38 : decode cX6_fault 38 = .ok (.ldc2_w 65, 3) := dk_20 0 65 (dk_at dksX6_fault_1 16 rfl rfl)
theorem dX6_fault_41 : decode cX6_fault 41 = .ok (.lrem, 1) := dk_113 (dk_at dksX6_fault_1 19 rfl rfl)
theorem dX6_fault_42 : decode cX6_fault 42 = .ok (.lconst 0, 1) := dk_9 (dk_at dksX6_fault_1 20 rfl rfl)
theorem dX6_fault_43 : decode cX6_fault 43 = .ok (.lcmp, 1) := dk_148 (dk_at dksX6_fault_1 21 rfl rfl)
theorem dX6_fault_44 : decode cX6_fault 44 = .ok (.ifCond .ne 5, 3) := dk_154 0 5 (dk_at dksX6_fault_2 0 rfl rfl)
theorem dX6_fault_47 : decode cX6_fault 47 = .ok (.iconst 1, 1) := dk_4 (dk_at dksX6_fault_2 3 rfl rfl)
theorem dX6_fault_48 : decode cX6_fault 48 = .ok (.ireturn, 1) := dk_172 (dk_at dksX6_fault_2 4 rfl rfl)
theorem dX6_fault_49 : decode cX6_fault 49 = .ok (.aload_n 0, 1) := dk_42 (dk_at dksX6_fault_2 5 rfl rfl)
theorem dX6_fault_50 : decode cX6_fault 50 = .ok (.aload_n 0, 1) := dk_42 (dk_at dksX6_fault_2 6 rfl rfl)
theorem dX6_fault_51 : decode cX6_fault 51 = .ok (.getfield 18, 3) := dk_180 0 18 (dk_at dksX6_fault_2 7 rfl rfl)
theorem dX6_fault_54 : decode cX6_fault 54 = .ok (.iload_n 1, 1) := dk_27 (dk_at dksX6_fault_2 10 rfl rfl)
theorem dX6_fault_55 : decode cX6_fault 55 = .ok (.invokevirtual 67, 3) := dk_182 0 67 (dk_at dksX6_fault_2 11 rfl rfl)
theorem dX6_fault_58 : decode cX6_fault 58 = .ok (.ifCond .eq 15, 3) := dk_153 0 15 (dk_at dksX6_fault_2 14 rfl rfl)
theorem dX6_fault_61 : decode cX6_fault 61 = .ok (.aload_n 0, 1) := dk_42 (dk_at dksX6_fault_2 17 rfl rfl)
theorem dX6_fault_62 : decode cX6_fault 62 = .ok (.aload_n 0, 1) := dk_42 (dk_at dksX6_fault_2 18 rfl rfl)
theorem dX6_fault_63 : decode cX6_fault 63 = .ok (.getfield 22, 3) := dk_180 0 22 (dk_at dksX6_fault_2 19 rfl rfl)
theorem dX6_fault_66 : decode cX6_fault 66 = .ok (.iload_n 1, 1) := dk_27 (dk_at dksX6_fault_2 22 rfl rfl)
theorem dX6_fault_67 : decode cX6_fault 67 = .ok (.invokevirtual 67, 3) := dk_182 0 67 (dk_at dksX6_fault_3 0 rfl rfl)
theorem dX6_fault_70 : decode cX6_fault 70 = .ok (.ifCond .ne 5, 3) := dk_154 0 5 (dk_at dksX6_fault_3 3 rfl rfl)
theorem dX6_fault_73 : decode cX6_fault 73 = .ok (.iconst 2, 1) := dk_5 (dk_at dksX6_fault_3 6 rfl rfl)
theorem dX6_fault_74 : decode cX6_fault 74 = .ok (.ireturn, 1) := dk_172 (dk_at dksX6_fault_3 7 rfl rfl)
theorem dX6_fault_75 : decode cX6_fault 75 = .ok (.aload_n 0, 1) := dk_42 (dk_at dksX6_fault_3 8 rfl rfl)
theorem dX6_fault_76 : decode cX6_fault 76 = .ok (.invokevirtual 71, 3) := dk_182 0 71 (dk_at dksX6_fault_3 9 rfl rfl)
theorem dX6_fault_79 : decode cX6_fault 79 = .ok (.ifCond .ne 5, 3) := dk_154 0 5 (dk_at dksX6_fault_3 12 rfl rfl)
theorem dX6_fault_82 : decode cX6_fault 82 = .ok (.iconst 3, 1) := dk_6 (dk_at dksX6_fault_3 15 rfl rfl)
theorem dX6_fault_83 : decode cX6_fault 83 = .ok (.ireturn, 1) := dk_172 (dk_at dksX6_fault_3 16 rfl rfl)
theorem dX6_fault_84 : decode cX6_fault 84 = .ok (.aload_n 0, 1) := dk_42 (dk_at dksX6_fault_3 17 rfl rfl)
theorem dX6_fault_85 : decode cX6_fault 85 = .ok (.invokevirtual 74, 3) := dk_182 0 74 (dk_at dksX6_fault_3 18 rfl rfl)
theorem dX6_fault_88 : decode cX6_fault 88 = .ok (.ifCond .ne 5, 3) := dk_154 0 5 (dk_at dksX6_fault_3 21 rfl rfl)
theorem dX6_fault_91 : decode cX6_fault 91 = .ok (.iconst 4, 1) := dk_7 (dk_at dksX6_fault_4 0 rfl rfl)
theorem dX6_fault_92 : decode cX6_fault 92 = .ok (.ireturn, 1) := dk_172 (dk_at dksX6_fault_4 1 rfl rfl)
theorem dX6_fault_93 : decode cX6_fault 93 = .ok (.aload_n 0, 1) := dk_42 (dk_at dksX6_fault_4 2 rfl rfl)
theorem dX6_fault_94 : decode cX6_fault 94 = .ok (.getfield 18, 3) := dk_180 0 18 (dk_at dksX6_fault_4 3 rfl rfl)
theorem dX6_fault_97 : decode cX6_fault 97 = .ok (.invokevirtual 37, 3) := dk_182 0 37 (dk_at dksX6_fault_4 6 rfl rfl)
theorem dX6_fault_100 : decode cX6_fault 100 = .ok (.astore_n 2, 1) := dk_77 (dk_at dksX6_fault_4 9 rfl rfl)
theorem dX6_fault_101 : decode cX6_fault 101 = .ok (.aload_n 2, 1) := dk_44 (dk_at dksX6_fault_4 10 rfl rfl)
theorem dX6_fault_102 : decode cX6_fault 102 = .ok (.invokeinterface 41 1, 5) := by decide +kernel
theorem dX6_fault_107 : decode cX6_fault 107 = .ok (.ifCond .eq 26, 3) := dk_153 0 26 (dk_at dksX6_fault_4 16 rfl rfl)
theorem dX6_fault_110 : decode cX6_fault 110 = .ok (.aload_n 2, 1) := dk_44 (dk_at dksX6_fault_4 19 rfl rfl)
theorem dX6_fault_111 : decode cX6_fault 111 = .ok (.invokeinterface 46 1, 5) := by decide +kernel
theorem dX6_fault_116 : decode cX6_fault 116 = .ok (.checkcast 50, 3) := dk_192 0 50 (dk_at dksX6_fault_5 5 rfl rfl)
theorem dX6_fault_119 : decode cX6_fault 119 = .ok (.astore_n 3, 1) := dk_78 (dk_at dksX6_fault_5 8 rfl rfl)
theorem dX6_fault_120 : decode cX6_fault 120 = .ok (.aload_n 0, 1) := dk_42 (dk_at dksX6_fault_5 9 rfl rfl)
theorem dX6_fault_121 : decode cX6_fault 121 = .ok (.aload_n 3, 1) := dk_45 (dk_at dksX6_fault_5 10 rfl rfl)
theorem dX6_fault_122 : decode cX6_fault 122 = .ok (.invokevirtual 77, 3) := dk_182 0 77 (dk_at dksX6_fault_5 11 rfl rfl)
theorem dX6_fault_125 : decode cX6_fault 125 = .ok (.ifCond .ne 5, 3) := dk_154 0 5 (dk_at dksX6_fault_5 14 rfl rfl)
theorem dX6_fault_128 : decode cX6_fault 128 = .ok (.iconst 5, 1) := dk_8 (dk_at dksX6_fault_5 17 rfl rfl)
theorem dX6_fault_129 : decode cX6_fault 129 = .ok (.ireturn, 1) := dk_172 (dk_at dksX6_fault_5 18 rfl rfl)
theorem dX6_fault_130 : decode cX6_fault 130 = .ok (.goto (-29), 3) := dk_167 255 227 (dk_at dksX6_fault_5 19 rfl rfl)
theorem dX6_fault_133 : decode cX6_fault 133 = .ok (.aload_n 0, 1) := dk_42 (dk_at dksX6_fault_5 22 rfl rfl)
theorem dX6_fault_134 : decode cX6_fault 134 = .ok (.getfield 18, 3) := dk_180 0 18 (dk_at dksX6_fault_6 0 rfl rfl)
theorem dX6_fault_137 : decode cX6_fault 137 = .ok (.invokevirtual 37, 3) := dk_182 0 37 (dk_at dksX6_fault_6 3 rfl rfl)
theorem dX6_fault_140 : decode cX6_fault 140 = .ok (.astore_n 2, 1) := dk_77 (dk_at dksX6_fault_6 6 rfl rfl)
theorem dX6_fault_141 : decode cX6_fault 141 = .ok (.aload_n 2, 1) := dk_44 (dk_at dksX6_fault_6 7 rfl rfl)
theorem dX6_fault_142 : decode cX6_fault 142 = .ok (.invokeinterface 41 1, 5) := by decide +kernel
theorem dX6_fault_147 : decode cX6_fault 147 = .ok (.ifCond .eq 27, 3) := dk_153 0 27 (dk_at dksX6_fault_6 13 rfl rfl)
theorem dX6_fault_150 : decode cX6_fault 150 = .ok (.aload_n 2, 1) := dk_44 (dk_at dksX6_fault_6 16 rfl rfl)
theorem dX6_fault_151 : decode cX6_fault 151 = .ok (.invokeinterface 46 1, 5) := by decide +kernel
theorem dX6_fault_156 : decode cX6_fault 156 = .ok (.checkcast 50, 3) := dk_192 0 50 (dk_at dksX6_fault_7 0 rfl rfl)
theorem dX6_fault_159 : decode cX6_fault 159 = .ok (.astore_n 3, 1) := dk_78 (dk_at dksX6_fault_7 3 rfl rfl)
theorem dX6_fault_160 : decode cX6_fault 160 = .ok (.aload_n 0, 1) := dk_42 (dk_at dksX6_fault_7 4 rfl rfl)
theorem dX6_fault_161 : decode cX6_fault 161 = .ok (.aload_n 3, 1) := dk_45 (dk_at dksX6_fault_7 5 rfl rfl)
theorem dX6_fault_162 : decode cX6_fault 162 = .ok (.invokevirtual 81, 3) := dk_182 0 81 (dk_at dksX6_fault_7 6 rfl rfl)
theorem dX6_fault_165 : decode cX6_fault 165 = .ok (.ifCond .ne 6, 3) := dk_154 0 6 (dk_at dksX6_fault_7 9 rfl rfl)
theorem dX6_fault_168 : decode cX6_fault 168 = .ok (.bipush 6, 2) := dk_16 6 (dk_at dksX6_fault_7 12 rfl rfl)
theorem dX6_fault_170 : decode cX6_fault 170 = .ok (.ireturn, 1) := dk_172 (dk_at dksX6_fault_7 14 rfl rfl)
theorem dX6_fault_171 : decode cX6_fault 171 = .ok (.goto (-30), 3) := dk_167 255 226 (dk_at dksX6_fault_7 15 rfl rfl)
theorem dX6_fault_174 : decode cX6_fault 174 = .ok (.aload_n 0, 1) := dk_42 (dk_at dksX6_fault_7 18 rfl rfl)
theorem dX6_fault_175 : decode cX6_fault 175 = .ok (.invokevirtual 84, 3) := dk_182 0 84 (dk_at dksX6_fault_7 19 rfl rfl)
theorem dX6_fault_178 : decode cX6_fault 178 = .ok (.ifCond .eq 10, 3) := dk_153 0 10 (dk_at dksX6_fault_8 0 rfl rfl)
theorem dX6_fault_181 : decode cX6_fault 181 = .ok (.aload_n 0, 1) := dk_42 (dk_at dksX6_fault_8 3 rfl rfl)
theorem dX6_fault_182 : decode cX6_fault 182 = .ok (.invokevirtual 87, 3) := dk_182 0 87 (dk_at dksX6_fault_8 4 rfl rfl)
theorem dX6_fault_185 : decode cX6_fault 185 = .ok (.goto 4, 3) := dk_167 0 4 (dk_at dksX6_fault_8 7 rfl rfl)
theorem dX6_fault_188 : decode cX6_fault 188 = .ok (.iconst 0, 1) := dk_3 (dk_at dksX6_fault_8 10 rfl rfl)
theorem dX6_fault_189 : decode cX6_fault 189 = .ok (.ireturn, 1) := dk_172 (dk_at dksX6_fault_8 11 rfl rfl)
abbrev cX6_isBacked : ByteArray := prog_7_method_5_code
def yX6_isBacked : MethodName := ⟨RX6, "isBacked", "(LPrimeProofs$Rows;I)Z"⟩
def dkwX6_isBacked_2 : List UInt8 := [156, 0, 5, 3, 172, 167, 255, 218, 4, 172]
abbrev dktX6_isBacked_2 : List UInt8 := dkwX6_isBacked_2 ++ []
def dkwX6_isBacked_1 : List UInt8 := [185, 0, 46, 1, 0, 192, 0, 50, 58, 4, 42, 180, 0, 3, 25, 4, 180, 0, 52, 28, 182, 0, 55]
abbrev dktX6_isBacked_1 : List UInt8 := dkwX6_isBacked_1 ++ dktX6_isBacked_2
def dkwX6_isBacked_0 : List UInt8 := [43, 182, 0, 33, 153, 0, 5, 3, 172, 43, 182, 0, 37, 78, 45, 185, 0, 41, 1, 0, 153, 0, 35, 45]
abbrev dktX6_isBacked_0 : List UInt8 := dkwX6_isBacked_0 ++ dktX6_isBacked_1
theorem dksX6_isBacked_0 : cX6_isBacked.data.toList.drop 0 = dktX6_isBacked_0 := by decide +kernel
theorem dksX6_isBacked_1 : cX6_isBacked.data.toList.drop 24 = dktX6_isBacked_1 := dk_seg dksX6_isBacked_0 24 rfl rfl
theorem dksX6_isBacked_2 : cX6_isBacked.data.toList.drop 47 = dktX6_isBacked_2 := dk_seg dksX6_isBacked_1 23 rfl rfl
theorem dX6_isBacked_0 : decode cX6_isBacked 0 = .ok (.aload_n 1, 1) := dk_43 (dk_at dksX6_isBacked_0 0 rfl rfl)
theorem dX6_isBacked_1 : decode cX6_isBacked 1 = .ok (.invokevirtual 33, 3) := dk_182 0 33 (dk_at dksX6_isBacked_0 1 rfl rfl)
theorem dX6_isBacked_4 : decode cX6_isBacked 4 = .ok (.ifCond .eq 5, 3) := dk_153 0 5 (dk_at dksX6_isBacked_0 4 rfl rfl)
theorem dX6_isBacked_7 : decode cX6_isBacked 7 = .ok (.iconst 0, 1) := dk_3 (dk_at dksX6_isBacked_0 7 rfl rfl)
theorem dX6_isBacked_8 : decode cX6_isBacked 8 = .ok (.ireturn, 1) := dk_172 (dk_at dksX6_isBacked_0 8 rfl rfl)
theorem dX6_isBacked_9 : decode cX6_isBacked 9 = .ok (.aload_n 1, 1) := dk_43 (dk_at dksX6_isBacked_0 9 rfl rfl)
theorem dX6_isBacked_10 : decode cX6_isBacked 10 = .ok (.invokevirtual 37, 3) := dk_182 0 37 (dk_at dksX6_isBacked_0 10 rfl rfl)
theorem dX6_isBacked_13 : decode cX6_isBacked 13 = .ok (.astore_n 3, 1) := dk_78 (dk_at dksX6_isBacked_0 13 rfl rfl)
theorem dX6_isBacked_14 : decode cX6_isBacked 14 = .ok (.aload_n 3, 1) := dk_45 (dk_at dksX6_isBacked_0 14 rfl rfl)
theorem dX6_isBacked_15 : decode cX6_isBacked 15 = .ok (.invokeinterface 41 1, 5) := by decide +kernel
theorem dX6_isBacked_20 : decode cX6_isBacked 20 = .ok (.ifCond .eq 35, 3) := dk_153 0 35 (dk_at dksX6_isBacked_0 20 rfl rfl)
theorem dX6_isBacked_23 : decode cX6_isBacked 23 = .ok (.aload_n 3, 1) := dk_45 (dk_at dksX6_isBacked_0 23 rfl rfl)
theorem dX6_isBacked_24 : decode cX6_isBacked 24 = .ok (.invokeinterface 46 1, 5) := by decide +kernel
theorem dX6_isBacked_29 : decode cX6_isBacked 29 = .ok (.checkcast 50, 3) := dk_192 0 50 (dk_at dksX6_isBacked_1 5 rfl rfl)
theorem dX6_isBacked_32 : decode cX6_isBacked 32 = .ok (.astore 4, 2) := dk_58 4 (dk_at dksX6_isBacked_1 8 rfl rfl)
theorem dX6_isBacked_34 : decode cX6_isBacked 34 = .ok (.aload_n 0, 1) := dk_42 (dk_at dksX6_isBacked_1 10 rfl rfl)
theorem dX6_isBacked_35 : decode cX6_isBacked 35 = .ok (.getfield 3, 3) := dk_180 0 3 (dk_at dksX6_isBacked_1 11 rfl rfl)
theorem dX6_isBacked_38 : decode cX6_isBacked 38 = .ok (.aload 4, 2) := dk_25 4 (dk_at dksX6_isBacked_1 14 rfl rfl)
theorem dX6_isBacked_40 : decode cX6_isBacked 40 = .ok (.getfield 52, 3) := dk_180 0 52 (dk_at dksX6_isBacked_1 16 rfl rfl)
theorem dX6_isBacked_43 : decode cX6_isBacked 43 = .ok (.iload_n 2, 1) := dk_28 (dk_at dksX6_isBacked_1 19 rfl rfl)
theorem dX6_isBacked_44 : decode cX6_isBacked 44 = .ok (.invokevirtual 55, 3) := dk_182 0 55 (dk_at dksX6_isBacked_1 20 rfl rfl)
theorem dX6_isBacked_47 : decode cX6_isBacked 47 = .ok (.ifCond .ge 5, 3) := dk_156 0 5 (dk_at dksX6_isBacked_2 0 rfl rfl)
theorem dX6_isBacked_50 : decode cX6_isBacked 50 = .ok (.iconst 0, 1) := dk_3 (dk_at dksX6_isBacked_2 3 rfl rfl)
theorem dX6_isBacked_51 : decode cX6_isBacked 51 = .ok (.ireturn, 1) := dk_172 (dk_at dksX6_isBacked_2 4 rfl rfl)
theorem dX6_isBacked_52 : decode cX6_isBacked 52 = .ok (.goto (-38), 3) := dk_167 255 218 (dk_at dksX6_isBacked_2 5 rfl rfl)
theorem dX6_isBacked_55 : decode cX6_isBacked 55 = .ok (.iconst 1, 1) := dk_4 (dk_at dksX6_isBacked_2 8 rfl rfl)
theorem dX6_isBacked_56 : decode cX6_isBacked 56 = .ok (.ireturn, 1) := dk_172 (dk_at dksX6_isBacked_2 9 rfl rfl)
abbrev cX6_isEnough : ByteArray := prog_7_method_3_code
def yX6_isEnough : MethodName := ⟨RX6, "isEnough", "()Z"⟩
theorem dX6_isEnough_0 : decode cX6_isEnough 0 = .ok (.iconst 1, 1) := by decide +kernel
theorem dX6_isEnough_1 : decode cX6_isEnough 1 = .ok (.ireturn, 1) := by decide +kernel
abbrev cX6_isOne : ByteArray := prog_7_method_7_code
def yX6_isOne : MethodName := ⟨RX6, "isOne", "(LPrimeProofs$Row;)Z"⟩
def dkwX6_isOne_1 : List UInt8 := [167, 0, 4, 3, 172]
abbrev dktX6_isOne_1 : List UInt8 := dkwX6_isOne_1 ++ []
def dkwX6_isOne_0 : List UInt8 := [43, 180, 0, 91, 133, 42, 180, 0, 25, 10, 101, 42, 180, 0, 25, 184, 0, 94, 10, 148, 154, 0, 7, 4]
abbrev dktX6_isOne_0 : List UInt8 := dkwX6_isOne_0 ++ dktX6_isOne_1
theorem dksX6_isOne_0 : cX6_isOne.data.toList.drop 0 = dktX6_isOne_0 := by decide +kernel
theorem dksX6_isOne_1 : cX6_isOne.data.toList.drop 24 = dktX6_isOne_1 := dk_seg dksX6_isOne_0 24 rfl rfl
theorem dX6_isOne_0 : decode cX6_isOne 0 = .ok (.aload_n 1, 1) := dk_43 (dk_at dksX6_isOne_0 0 rfl rfl)
theorem dX6_isOne_1 : decode cX6_isOne 1 = .ok (.getfield 91, 3) := dk_180 0 91 (dk_at dksX6_isOne_0 1 rfl rfl)
theorem dX6_isOne_4 : decode cX6_isOne 4 = .ok (.i2l, 1) := dk_133 (dk_at dksX6_isOne_0 4 rfl rfl)
theorem dX6_isOne_5 : decode cX6_isOne 5 = .ok (.aload_n 0, 1) := dk_42 (dk_at dksX6_isOne_0 5 rfl rfl)
theorem dX6_isOne_6 : decode cX6_isOne 6 = .ok (.getfield 25, 3) := dk_180 0 25 (dk_at dksX6_isOne_0 6 rfl rfl)
theorem dX6_isOne_9 : decode cX6_isOne 9 = .ok (.lconst 1, 1) := dk_10 (dk_at dksX6_isOne_0 9 rfl rfl)
theorem dX6_isOne_10 : decode cX6_isOne 10 = .ok (.lsub, 1) := dk_101 (dk_at dksX6_isOne_0 10 rfl rfl)
theorem dX6_isOne_11 : decode cX6_isOne 11 = .ok (.aload_n 0, 1) := dk_42 (dk_at dksX6_isOne_0 11 rfl rfl)
theorem dX6_isOne_12 : decode cX6_isOne 12 = .ok (.getfield 25, 3) := dk_180 0 25 (dk_at dksX6_isOne_0 12 rfl rfl)
theorem dX6_isOne_15 : decode cX6_isOne 15 = .ok (.invokestatic 94, 3) := dk_184 0 94 (dk_at dksX6_isOne_0 15 rfl rfl)
theorem dX6_isOne_18 : decode cX6_isOne 18 = .ok (.lconst 1, 1) := dk_10 (dk_at dksX6_isOne_0 18 rfl rfl)
theorem dX6_isOne_19 : decode cX6_isOne 19 = .ok (.lcmp, 1) := dk_148 (dk_at dksX6_isOne_0 19 rfl rfl)
theorem dX6_isOne_20 : decode cX6_isOne 20 = .ok (.ifCond .ne 7, 3) := dk_154 0 7 (dk_at dksX6_isOne_0 20 rfl rfl)
theorem dX6_isOne_23 : decode cX6_isOne 23 = .ok (.iconst 1, 1) := dk_4 (dk_at dksX6_isOne_0 23 rfl rfl)
theorem dX6_isOne_24 : decode cX6_isOne 24 = .ok (.goto 4, 3) := dk_167 0 4 (dk_at dksX6_isOne_1 0 rfl rfl)
theorem dX6_isOne_27 : decode cX6_isOne 27 = .ok (.iconst 0, 1) := dk_3 (dk_at dksX6_isOne_1 3 rfl rfl)
theorem dX6_isOne_28 : decode cX6_isOne 28 = .ok (.ireturn, 1) := dk_172 (dk_at dksX6_isOne_1 4 rfl rfl)
abbrev cX6_isFar : ByteArray := prog_7_method_8_code
def yX6_isFar : MethodName := ⟨RX6, "isFar", "(LPrimeProofs$Row;)Z"⟩
def dkwX6_isFar_2 : List UInt8 := [3, 172]
abbrev dktX6_isFar_2 : List UInt8 := dkwX6_isFar_2 ++ []
def dkwX6_isFar_1 : List UInt8 := [101, 42, 180, 0, 25, 184, 0, 98, 42, 180, 0, 25, 184, 0, 104, 10, 148, 154, 0, 7, 4, 167, 0, 4]
abbrev dktX6_isFar_1 : List UInt8 := dkwX6_isFar_1 ++ dktX6_isFar_2
def dkwX6_isFar_0 : List UInt8 := [43, 180, 0, 91, 133, 42, 180, 0, 25, 10, 101, 43, 180, 0, 52, 109, 42, 180, 0, 25, 184, 0, 94, 10]
abbrev dktX6_isFar_0 : List UInt8 := dkwX6_isFar_0 ++ dktX6_isFar_1
theorem dksX6_isFar_0 : cX6_isFar.data.toList.drop 0 = dktX6_isFar_0 := by decide +kernel
theorem dksX6_isFar_1 : cX6_isFar.data.toList.drop 24 = dktX6_isFar_1 := dk_seg dksX6_isFar_0 24 rfl rfl
theorem dksX6_isFar_2 : cX6_isFar.data.toList.drop 48 = dktX6_isFar_2 := dk_seg dksX6_isFar_1 24 rfl rfl
theorem dX6_isFar_0 : decode cX6_isFar 0 = .ok (.aload_n 1, 1) := dk_43 (dk_at dksX6_isFar_0 0 rfl rfl)
theorem dX6_isFar_1 : decode cX6_isFar 1 = .ok (.getfield 91, 3) := dk_180 0 91 (dk_at dksX6_isFar_0 1 rfl rfl)
theorem dX6_isFar_4 : decode cX6_isFar 4 = .ok (.i2l, 1) := dk_133 (dk_at dksX6_isFar_0 4 rfl rfl)
theorem dX6_isFar_5 : decode cX6_isFar 5 = .ok (.aload_n 0, 1) := dk_42 (dk_at dksX6_isFar_0 5 rfl rfl)
theorem dX6_isFar_6 : decode cX6_isFar 6 = .ok (.getfield 25, 3) := dk_180 0 25 (dk_at dksX6_isFar_0 6 rfl rfl)
theorem dX6_isFar_9 : decode cX6_isFar 9 = .ok (.lconst 1, 1) := dk_10 (dk_at dksX6_isFar_0 9 rfl rfl)
theorem dX6_isFar_10 : decode cX6_isFar 10 = .ok (.lsub, 1) := dk_101 (dk_at dksX6_isFar_0 10 rfl rfl)
theorem dX6_isFar_11 : decode cX6_isFar 11 = .ok (.aload_n 1, 1) := dk_43 (dk_at dksX6_isFar_0 11 rfl rfl)
theorem dX6_isFar_12 : decode cX6_isFar 12 = .ok (.getfield 52, 3) := dk_180 0 52 (dk_at dksX6_isFar_0 12 rfl rfl)
theorem dX6_isFar_15 : decode cX6_isFar 15 = .ok (.ldiv, 1) := dk_109 (dk_at dksX6_isFar_0 15 rfl rfl)
theorem dX6_isFar_16 : decode cX6_isFar 16 = .ok (.aload_n 0, 1) := dk_42 (dk_at dksX6_isFar_0 16 rfl rfl)
theorem dX6_isFar_17 : decode cX6_isFar 17 = .ok (.getfield 25, 3) := dk_180 0 25 (dk_at dksX6_isFar_0 17 rfl rfl)
theorem dX6_isFar_20 : decode cX6_isFar 20 = .ok (.invokestatic 94, 3) := dk_184 0 94 (dk_at dksX6_isFar_0 20 rfl rfl)
theorem dX6_isFar_23 : decode cX6_isFar 23 = .ok (.lconst 1, 1) := dk_10 (dk_at dksX6_isFar_0 23 rfl rfl)
theorem dX6_isFar_24 : decode cX6_isFar 24 = .ok (.lsub, 1) := dk_101 (dk_at dksX6_isFar_1 0 rfl rfl)
theorem dX6_isFar_25 : decode cX6_isFar 25 = .ok (.aload_n 0, 1) := dk_42 (dk_at dksX6_isFar_1 1 rfl rfl)
theorem dX6_isFar_26 : decode cX6_isFar 26 = .ok (.getfield 25, 3) := dk_180 0 25 (dk_at dksX6_isFar_1 2 rfl rfl)
theorem dX6_isFar_29 : decode cX6_isFar 29 = .ok (.invokestatic 98, 3) := dk_184 0 98 (dk_at dksX6_isFar_1 5 rfl rfl)
theorem dX6_isFar_32 : decode cX6_isFar 32 = .ok (.aload_n 0, 1) := dk_42 (dk_at dksX6_isFar_1 8 rfl rfl)
theorem dX6_isFar_33 : decode cX6_isFar 33 = .ok (.getfield 25, 3) := dk_180 0 25 (dk_at dksX6_isFar_1 9 rfl rfl)
theorem dX6_isFar_36 : decode cX6_isFar 36 = .ok (.invokestatic 104, 3) := dk_184 0 104 (dk_at dksX6_isFar_1 12 rfl rfl)
theorem dX6_isFar_39 : decode cX6_isFar 39 = .ok (.lconst 1, 1) := dk_10 (dk_at dksX6_isFar_1 15 rfl rfl)
theorem dX6_isFar_40 : decode cX6_isFar 40 = .ok (.lcmp, 1) := dk_148 (dk_at dksX6_isFar_1 16 rfl rfl)
theorem dX6_isFar_41 : decode cX6_isFar 41 = .ok (.ifCond .ne 7, 3) := dk_154 0 7 (dk_at dksX6_isFar_1 17 rfl rfl)
theorem dX6_isFar_44 : decode cX6_isFar 44 = .ok (.iconst 1, 1) := dk_4 (dk_at dksX6_isFar_1 20 rfl rfl)
theorem dX6_isFar_45 : decode cX6_isFar 45 = .ok (.goto 4, 3) := dk_167 0 4 (dk_at dksX6_isFar_1 21 rfl rfl)
theorem dX6_isFar_48 : decode cX6_isFar 48 = .ok (.iconst 0, 1) := dk_3 (dk_at dksX6_isFar_2 0 rfl rfl)
theorem dX6_isFar_49 : decode cX6_isFar 49 = .ok (.ireturn, 1) := dk_172 (dk_at dksX6_isFar_2 1 rfl rfl)
abbrev cX6_hasPair : ByteArray := prog_7_method_4_code
def yX6_hasPair : MethodName := ⟨RX6, "hasPair", "()Z"⟩
def dkwX6_hasPair_0 : List UInt8 := [42, 180, 0, 29, 6, 159, 0, 11, 42, 180, 0, 29, 7, 160, 0, 7, 4, 167, 0, 4, 3, 172]
abbrev dktX6_hasPair_0 : List UInt8 := dkwX6_hasPair_0 ++ []
theorem dksX6_hasPair_0 : cX6_hasPair.data.toList.drop 0 = dktX6_hasPair_0 := by decide +kernel
theorem dX6_hasPair_0 : decode cX6_hasPair 0 = .ok (.aload_n 0, 1) := dk_42 (dk_at dksX6_hasPair_0 0 rfl rfl)
theorem dX6_hasPair_1 : decode cX6_hasPair 1 = .ok (.getfield 29, 3) := dk_180 0 29 (dk_at dksX6_hasPair_0 1 rfl rfl)
theorem dX6_hasPair_4 : decode cX6_hasPair 4 = .ok (.iconst 3, 1) := dk_6 (dk_at dksX6_hasPair_0 4 rfl rfl)
theorem dX6_hasPair_5 : decode cX6_hasPair 5 = .ok (.if_icmp .eq 11, 3) := dk_159 0 11 (dk_at dksX6_hasPair_0 5 rfl rfl)
theorem dX6_hasPair_8 : decode cX6_hasPair 8 = .ok (.aload_n 0, 1) := dk_42 (dk_at dksX6_hasPair_0 8 rfl rfl)
theorem dX6_hasPair_9 : decode cX6_hasPair 9 = .ok (.getfield 29, 3) := dk_180 0 29 (dk_at dksX6_hasPair_0 9 rfl rfl)
theorem dX6_hasPair_12 : decode cX6_hasPair 12 = .ok (.iconst 4, 1) := dk_7 (dk_at dksX6_hasPair_0 12 rfl rfl)
theorem dX6_hasPair_13 : decode cX6_hasPair 13 = .ok (.if_icmp .ne 7, 3) := dk_160 0 7 (dk_at dksX6_hasPair_0 13 rfl rfl)
theorem dX6_hasPair_16 : decode cX6_hasPair 16 = .ok (.iconst 1, 1) := dk_4 (dk_at dksX6_hasPair_0 16 rfl rfl)
theorem dX6_hasPair_17 : decode cX6_hasPair 17 = .ok (.goto 4, 3) := dk_167 0 4 (dk_at dksX6_hasPair_0 17 rfl rfl)
theorem dX6_hasPair_20 : decode cX6_hasPair 20 = .ok (.iconst 0, 1) := dk_3 (dk_at dksX6_hasPair_0 20 rfl rfl)
theorem dX6_hasPair_21 : decode cX6_hasPair 21 = .ok (.ireturn, 1) := dk_172 (dk_at dksX6_hasPair_0 21 rfl rfl)
abbrev cX6_pairFault : ByteArray := prog_7_method_9_code
def yX6_pairFault : MethodName := ⟨RX6, "pairFault", "()I"⟩
def dkwX6_pairFault_6 : List UInt8 := [180, 0, 25, 184, 0, 104, 10, 148, 153, 0, 6, 16, 9, 172, 167, 255, 194, 3, 172]
abbrev dktX6_pairFault_6 : List UInt8 := dkwX6_pairFault_6 ++ []
def dkwX6_pairFault_5 : List UInt8 := [180, 0, 112, 133, 42, 180, 0, 25, 10, 97, 44, 180, 0, 52, 109, 42, 180, 0, 25, 184, 0, 118, 42]
abbrev dktX6_pairFault_5 : List UInt8 := dkwX6_pairFault_5 ++ dktX6_pairFault_6
def dkwX6_pairFault_4 : List UInt8 := [185, 0, 41, 1, 0, 153, 0, 59, 43, 185, 0, 46, 1, 0, 192, 0, 50, 77, 42, 180, 0, 107, 133, 42]
abbrev dktX6_pairFault_4 : List UInt8 := dkwX6_pairFault_4 ++ dktX6_pairFault_5
def dkwX6_pairFault_3 : List UInt8 := [180, 0, 25, 184, 0, 118, 9, 148, 153, 0, 6, 16, 8, 172, 42, 180, 0, 22, 182, 0, 37, 76, 43]
abbrev dktX6_pairFault_3 : List UInt8 := dkwX6_pairFault_3 ++ dktX6_pairFault_4
def dkwX6_pairFault_2 : List UInt8 := [153, 0, 6, 16, 7, 172, 42, 180, 0, 107, 133, 42, 180, 0, 112, 133, 42, 180, 0, 25, 10, 97, 42]
abbrev dktX6_pairFault_2 : List UInt8 := dkwX6_pairFault_2 ++ dktX6_pairFault_3
def dkwX6_pairFault_1 : List UInt8 := [180, 0, 25, 184, 0, 114, 2, 160, 0, 20, 42, 180, 0, 112, 133, 42, 180, 0, 25, 184, 0, 104, 10, 148]
abbrev dktX6_pairFault_1 : List UInt8 := dkwX6_pairFault_1 ++ dktX6_pairFault_2
def dkwX6_pairFault_0 : List UInt8 := [42, 180, 0, 107, 133, 42, 180, 0, 107, 133, 105, 20, 0, 110, 42, 180, 0, 112, 133, 105, 101, 42]
abbrev dktX6_pairFault_0 : List UInt8 := dkwX6_pairFault_0 ++ dktX6_pairFault_1
theorem dksX6_pairFault_0 : cX6_pairFault.data.toList.drop 0 = dktX6_pairFault_0 := by decide +kernel
theorem dksX6_pairFault_1 : cX6_pairFault.data.toList.drop 22 = dktX6_pairFault_1 := dk_seg dksX6_pairFault_0 22 rfl rfl
theorem dksX6_pairFault_2 : cX6_pairFault.data.toList.drop 46 = dktX6_pairFault_2 := dk_seg dksX6_pairFault_1 24 rfl rfl
theorem dksX6_pairFault_3 : cX6_pairFault.data.toList.drop 69 = dktX6_pairFault_3 := dk_seg dksX6_pairFault_2 23 rfl rfl
theorem dksX6_pairFault_4 : cX6_pairFault.data.toList.drop 92 = dktX6_pairFault_4 := dk_seg dksX6_pairFault_3 23 rfl rfl
theorem dksX6_pairFault_5 : cX6_pairFault.data.toList.drop 116 = dktX6_pairFault_5 := dk_seg dksX6_pairFault_4 24 rfl rfl
theorem dksX6_pairFault_6 : cX6_pairFault.data.toList.drop 139 = dktX6_pairFault_6 := dk_seg dksX6_pairFault_5 23 rfl rfl
theorem dX6_pairFault_0 : decode cX6_pairFault 0 = .ok (.aload_n 0, 1) := dk_42 (dk_at dksX6_pairFault_0 0 rfl rfl)
theorem dX6_pairFault_1 : decode cX6_pairFault 1 = .ok (.getfield 107, 3) := dk_180 0 107 (dk_at dksX6_pairFault_0 1 rfl rfl)
theorem dX6_pairFault_4 : decode cX6_pairFault 4 = .ok (.i2l, 1) := dk_133 (dk_at dksX6_pairFault_0 4 rfl rfl)
theorem dX6_pairFault_5 : decode cX6_pairFault 5 = .ok (.aload_n 0, 1) := dk_42 (dk_at dksX6_pairFault_0 5 rfl rfl)
theorem dX6_pairFault_6 : decode cX6_pairFault 6 = .ok (.getfield 107, 3) := dk_180 0 107 (dk_at dksX6_pairFault_0 6 rfl rfl)
theorem dX6_pairFault_9 : decode cX6_pairFault 9 = .ok (.i2l, 1) := dk_133 (dk_at dksX6_pairFault_0 9 rfl rfl)
theorem dX6_pairFault_10 : decode cX6_pairFault 10 = .ok (.lmul, 1) := dk_105 (dk_at dksX6_pairFault_0 10 rfl rfl)
theorem dX6_pairFault_11 : decode cX6_pairFault 11 = .ok (.ldc2_w 110, 3) := dk_20 0 110 (dk_at dksX6_pairFault_0 11 rfl rfl)
theorem dX6_pairFault_14 : decode cX6_pairFault 14 = .ok (.aload_n 0, 1) := dk_42 (dk_at dksX6_pairFault_0 14 rfl rfl)
theorem dX6_pairFault_15 : decode cX6_pairFault 15 = .ok (.getfield 112, 3) := dk_180 0 112 (dk_at dksX6_pairFault_0 15 rfl rfl)
theorem dX6_pairFault_18 : decode cX6_pairFault 18 = .ok (.i2l, 1) := dk_133 (dk_at dksX6_pairFault_0 18 rfl rfl)
theorem dX6_pairFault_19 : decode cX6_pairFault 19 = .ok (.lmul, 1) := dk_105 (dk_at dksX6_pairFault_0 19 rfl rfl)
theorem dX6_pairFault_20 : decode cX6_pairFault 20 = .ok (.lsub, 1) := dk_101 (dk_at dksX6_pairFault_0 20 rfl rfl)
theorem dX6_pairFault_21 : decode cX6_pairFault 21 = .ok (.aload_n 0, 1) := dk_42 (dk_at dksX6_pairFault_0 21 rfl rfl)
theorem dX6_pairFault_22 : decode cX6_pairFault 22 = .ok (.getfield 25, 3) := dk_180 0 25 (dk_at dksX6_pairFault_1 0 rfl rfl)
theorem dX6_pairFault_25 : decode cX6_pairFault 25 = .ok (.invokestatic 114, 3) := dk_184 0 114 (dk_at dksX6_pairFault_1 3 rfl rfl)
theorem dX6_pairFault_28 : decode cX6_pairFault 28 = .ok (.iconst (-1), 1) := dk_2 (dk_at dksX6_pairFault_1 6 rfl rfl)
theorem dX6_pairFault_29 : decode cX6_pairFault 29 = .ok (.if_icmp .ne 20, 3) := dk_160 0 20 (dk_at dksX6_pairFault_1 7 rfl rfl)
theorem dX6_pairFault_32 : decode cX6_pairFault 32 = .ok (.aload_n 0, 1) := dk_42 (dk_at dksX6_pairFault_1 10 rfl rfl)
theorem dX6_pairFault_33 : decode cX6_pairFault 33 = .ok (.getfield 112, 3) := dk_180 0 112 (dk_at dksX6_pairFault_1 11 rfl rfl)
theorem dX6_pairFault_36 : decode cX6_pairFault 36 = .ok (.i2l, 1) := dk_133 (dk_at dksX6_pairFault_1 14 rfl rfl)
theorem dX6_pairFault_37 : decode cX6_pairFault 37 = .ok (.aload_n 0, 1) := dk_42 (dk_at dksX6_pairFault_1 15 rfl rfl)
theorem dX6_pairFault_38 : decode cX6_pairFault 38 = .ok (.getfield 25, 3) := dk_180 0 25 (dk_at dksX6_pairFault_1 16 rfl rfl)
theorem dX6_pairFault_41 : decode cX6_pairFault 41 = .ok (.invokestatic 104, 3) := dk_184 0 104 (dk_at dksX6_pairFault_1 19 rfl rfl)
theorem dX6_pairFault_44 : decode cX6_pairFault 44 = .ok (.lconst 1, 1) := dk_10 (dk_at dksX6_pairFault_1 22 rfl rfl)
theorem dX6_pairFault_45 : decode cX6_pairFault 45 = .ok (.lcmp, 1) := dk_148 (dk_at dksX6_pairFault_1 23 rfl rfl)
theorem dX6_pairFault_46 : decode cX6_pairFault 46 = .ok (.ifCond .eq 6, 3) := dk_153 0 6 (dk_at dksX6_pairFault_2 0 rfl rfl)
theorem dX6_pairFault_49 : decode cX6_pairFault 49 = .ok (.bipush 7, 2) := dk_16 7 (dk_at dksX6_pairFault_2 3 rfl rfl)
theorem dX6_pairFault_51 : decode cX6_pairFault 51 = .ok (.ireturn, 1) := dk_172 (dk_at dksX6_pairFault_2 5 rfl rfl)
theorem dX6_pairFault_52 : decode cX6_pairFault 52 = .ok (.aload_n 0, 1) := dk_42 (dk_at dksX6_pairFault_2 6 rfl rfl)
theorem dX6_pairFault_53 : decode cX6_pairFault 53 = .ok (.getfield 107, 3) := dk_180 0 107 (dk_at dksX6_pairFault_2 7 rfl rfl)
theorem dX6_pairFault_56 : decode cX6_pairFault 56 = .ok (.i2l, 1) := dk_133 (dk_at dksX6_pairFault_2 10 rfl rfl)
theorem dX6_pairFault_57 : decode cX6_pairFault 57 = .ok (.aload_n 0, 1) := dk_42 (dk_at dksX6_pairFault_2 11 rfl rfl)
theorem dX6_pairFault_58 : decode cX6_pairFault 58 = .ok (.getfield 112, 3) := dk_180 0 112 (dk_at dksX6_pairFault_2 12 rfl rfl)
theorem dX6_pairFault_61 : decode cX6_pairFault 61 = .ok (.i2l, 1) := dk_133 (dk_at dksX6_pairFault_2 15 rfl rfl)
theorem dX6_pairFault_62 : decode cX6_pairFault 62 = .ok (.aload_n 0, 1) := dk_42 (dk_at dksX6_pairFault_2 16 rfl rfl)
theorem dX6_pairFault_63 : decode cX6_pairFault 63 = .ok (.getfield 25, 3) := dk_180 0 25 (dk_at dksX6_pairFault_2 17 rfl rfl)
theorem dX6_pairFault_66 : decode cX6_pairFault 66 = .ok (.lconst 1, 1) := dk_10 (dk_at dksX6_pairFault_2 20 rfl rfl)
theorem dX6_pairFault_67 : decode cX6_pairFault 67 = .ok (.ladd, 1) := dk_97 (dk_at dksX6_pairFault_2 21 rfl rfl)
theorem dX6_pairFault_68 : decode cX6_pairFault 68 = .ok (.aload_n 0, 1) := dk_42 (dk_at dksX6_pairFault_2 22 rfl rfl)
theorem dX6_pairFault_69 : decode cX6_pairFault 69 = .ok (.getfield 25, 3) := dk_180 0 25 (dk_at dksX6_pairFault_3 0 rfl rfl)
theorem dX6_pairFault_72 : decode cX6_pairFault 72 = .ok (.invokestatic 118, 3) := dk_184 0 118 (dk_at dksX6_pairFault_3 3 rfl rfl)
theorem dX6_pairFault_75 : decode cX6_pairFault 75 = .ok (.lconst 0, 1) := dk_9 (dk_at dksX6_pairFault_3 6 rfl rfl)
theorem dX6_pairFault_76 : decode cX6_pairFault 76 = .ok (.lcmp, 1) := dk_148 (dk_at dksX6_pairFault_3 7 rfl rfl)
theorem dX6_pairFault_77 : decode cX6_pairFault 77 = .ok (.ifCond .eq 6, 3) := dk_153 0 6 (dk_at dksX6_pairFault_3 8 rfl rfl)
theorem dX6_pairFault_80 : decode cX6_pairFault 80 = .ok (.bipush 8, 2) := dk_16 8 (dk_at dksX6_pairFault_3 11 rfl rfl)
theorem dX6_pairFault_82 : decode cX6_pairFault 82 = .ok (.ireturn, 1) := dk_172 (dk_at dksX6_pairFault_3 13 rfl rfl)
theorem dX6_pairFault_83 : decode cX6_pairFault 83 = .ok (.aload_n 0, 1) := dk_42 (dk_at dksX6_pairFault_3 14 rfl rfl)
theorem dX6_pairFault_84 : decode cX6_pairFault 84 = .ok (.getfield 22, 3) := dk_180 0 22 (dk_at dksX6_pairFault_3 15 rfl rfl)
theorem dX6_pairFault_87 : decode cX6_pairFault 87 = .ok (.invokevirtual 37, 3) := dk_182 0 37 (dk_at dksX6_pairFault_3 18 rfl rfl)
theorem dX6_pairFault_90 : decode cX6_pairFault 90 = .ok (.astore_n 1, 1) := dk_76 (dk_at dksX6_pairFault_3 21 rfl rfl)
theorem dX6_pairFault_91 : decode cX6_pairFault 91 = .ok (.aload_n 1, 1) := dk_43 (dk_at dksX6_pairFault_3 22 rfl rfl)
theorem dX6_pairFault_92 : decode cX6_pairFault 92 = .ok (.invokeinterface 41 1, 5) := by decide +kernel
theorem dX6_pairFault_97 : decode cX6_pairFault 97 = .ok (.ifCond .eq 59, 3) := dk_153 0 59 (dk_at dksX6_pairFault_4 5 rfl rfl)
theorem dX6_pairFault_100 : decode cX6_pairFault 100 = .ok (.aload_n 1, 1) := dk_43 (dk_at dksX6_pairFault_4 8 rfl rfl)
theorem dX6_pairFault_101 : decode cX6_pairFault 101 = .ok (.invokeinterface 46 1, 5) := by decide +kernel
theorem dX6_pairFault_106 : decode cX6_pairFault 106 = .ok (.checkcast 50, 3) := dk_192 0 50 (dk_at dksX6_pairFault_4 14 rfl rfl)
theorem dX6_pairFault_109 : decode cX6_pairFault 109 = .ok (.astore_n 2, 1) := dk_77 (dk_at dksX6_pairFault_4 17 rfl rfl)
theorem dX6_pairFault_110 : decode cX6_pairFault 110 = .ok (.aload_n 0, 1) := dk_42 (dk_at dksX6_pairFault_4 18 rfl rfl)
theorem dX6_pairFault_111 : decode cX6_pairFault 111 = .ok (.getfield 107, 3) := dk_180 0 107 (dk_at dksX6_pairFault_4 19 rfl rfl)
theorem dX6_pairFault_114 : decode cX6_pairFault 114 = .ok (.i2l, 1) := dk_133 (dk_at dksX6_pairFault_4 22 rfl rfl)
theorem dX6_pairFault_115 : decode cX6_pairFault 115 = .ok (.aload_n 0, 1) := dk_42 (dk_at dksX6_pairFault_4 23 rfl rfl)
theorem dX6_pairFault_116 : decode cX6_pairFault 116 = .ok (.getfield 112, 3) := dk_180 0 112 (dk_at dksX6_pairFault_5 0 rfl rfl)
theorem dX6_pairFault_119 : decode cX6_pairFault 119 = .ok (.i2l, 1) := dk_133 (dk_at dksX6_pairFault_5 3 rfl rfl)
theorem dX6_pairFault_120 : decode cX6_pairFault 120 = .ok (.aload_n 0, 1) := dk_42 (dk_at dksX6_pairFault_5 4 rfl rfl)
theorem dX6_pairFault_121 : decode cX6_pairFault 121 = .ok (.getfield 25, 3) := dk_180 0 25 (dk_at dksX6_pairFault_5 5 rfl rfl)
theorem dX6_pairFault_124 : decode cX6_pairFault 124 = .ok (.lconst 1, 1) := dk_10 (dk_at dksX6_pairFault_5 8 rfl rfl)
theorem dX6_pairFault_125 : decode cX6_pairFault 125 = .ok (.ladd, 1) := dk_97 (dk_at dksX6_pairFault_5 9 rfl rfl)
theorem dX6_pairFault_126 : decode cX6_pairFault 126 = .ok (.aload_n 2, 1) := dk_44 (dk_at dksX6_pairFault_5 10 rfl rfl)
theorem dX6_pairFault_127 : decode cX6_pairFault 127 = .ok (.getfield 52, 3) := dk_180 0 52 (dk_at dksX6_pairFault_5 11 rfl rfl)
theorem dX6_pairFault_130 : decode cX6_pairFault 130 = .ok (.ldiv, 1) := dk_109 (dk_at dksX6_pairFault_5 14 rfl rfl)
theorem dX6_pairFault_131 : decode cX6_pairFault 131 = .ok (.aload_n 0, 1) := dk_42 (dk_at dksX6_pairFault_5 15 rfl rfl)
theorem dX6_pairFault_132 : decode cX6_pairFault 132 = .ok (.getfield 25, 3) := dk_180 0 25 (dk_at dksX6_pairFault_5 16 rfl rfl)
theorem dX6_pairFault_135 : decode cX6_pairFault 135 = .ok (.invokestatic 118, 3) := dk_184 0 118 (dk_at dksX6_pairFault_5 19 rfl rfl)
theorem dX6_pairFault_138 : decode cX6_pairFault 138 = .ok (.aload_n 0, 1) := dk_42 (dk_at dksX6_pairFault_5 22 rfl rfl)
theorem dX6_pairFault_139 : decode cX6_pairFault 139 = .ok (.getfield 25, 3) := dk_180 0 25 (dk_at dksX6_pairFault_6 0 rfl rfl)
theorem dX6_pairFault_142 : decode cX6_pairFault 142 = .ok (.invokestatic 104, 3) := dk_184 0 104 (dk_at dksX6_pairFault_6 3 rfl rfl)
theorem dX6_pairFault_145 : decode cX6_pairFault 145 = .ok (.lconst 1, 1) := dk_10 (dk_at dksX6_pairFault_6 6 rfl rfl)
theorem dX6_pairFault_146 : decode cX6_pairFault 146 = .ok (.lcmp, 1) := dk_148 (dk_at dksX6_pairFault_6 7 rfl rfl)
theorem dX6_pairFault_147 : decode cX6_pairFault 147 = .ok (.ifCond .eq 6, 3) := dk_153 0 6 (dk_at dksX6_pairFault_6 8 rfl rfl)
theorem dX6_pairFault_150 : decode cX6_pairFault 150 = .ok (.bipush 9, 2) := dk_16 9 (dk_at dksX6_pairFault_6 11 rfl rfl)
theorem dX6_pairFault_152 : decode cX6_pairFault 152 = .ok (.ireturn, 1) := dk_172 (dk_at dksX6_pairFault_6 13 rfl rfl)
theorem dX6_pairFault_153 : decode cX6_pairFault 153 = .ok (.goto (-62), 3) := dk_167 255 194 (dk_at dksX6_pairFault_6 14 rfl rfl)
theorem dX6_pairFault_156 : decode cX6_pairFault 156 = .ok (.iconst 0, 1) := dk_3 (dk_at dksX6_pairFault_6 17 rfl rfl)
theorem dX6_pairFault_157 : decode cX6_pairFault 157 = .ok (.ireturn, 1) := dk_172 (dk_at dksX6_pairFault_6 18 rfl rfl)
abbrev cX6_init : ByteArray := prog_7_method_1_code
def yX6_init : MethodName := ⟨RX6, "<init>", "(LPrimeProofs;JI)V"⟩
def dkwX6_init_1 : List UInt8 := [89, 183, 0, 17, 181, 0, 22, 42, 32, 181, 0, 25, 42, 21, 4, 181, 0, 29, 177]
abbrev dktX6_init_1 : List UInt8 := dkwX6_init_1 ++ []
def dkwX6_init_0 : List UInt8 := [42, 43, 181, 0, 3, 42, 183, 0, 9, 42, 187, 0, 15, 89, 183, 0, 17, 181, 0, 18, 42, 187, 0, 15]
abbrev dktX6_init_0 : List UInt8 := dkwX6_init_0 ++ dktX6_init_1
theorem dksX6_init_0 : cX6_init.data.toList.drop 0 = dktX6_init_0 := by decide +kernel
theorem dksX6_init_1 : cX6_init.data.toList.drop 24 = dktX6_init_1 := dk_seg dksX6_init_0 24 rfl rfl
theorem dX6_init_0 : decode cX6_init 0 = .ok (.aload_n 0, 1) := dk_42 (dk_at dksX6_init_0 0 rfl rfl)
theorem dX6_init_1 : decode cX6_init 1 = .ok (.aload_n 1, 1) := dk_43 (dk_at dksX6_init_0 1 rfl rfl)
theorem dX6_init_2 : decode cX6_init 2 = .ok (.putfield 3, 3) := dk_181 0 3 (dk_at dksX6_init_0 2 rfl rfl)
theorem dX6_init_5 : decode cX6_init 5 = .ok (.aload_n 0, 1) := dk_42 (dk_at dksX6_init_0 5 rfl rfl)
theorem dX6_init_6 : decode cX6_init 6 = .ok (.invokespecial 9, 3) := dk_183 0 9 (dk_at dksX6_init_0 6 rfl rfl)
theorem dX6_init_9 : decode cX6_init 9 = .ok (.aload_n 0, 1) := dk_42 (dk_at dksX6_init_0 9 rfl rfl)
theorem dX6_init_10 : decode cX6_init 10 = .ok (.new 15, 3) := dk_187 0 15 (dk_at dksX6_init_0 10 rfl rfl)
theorem dX6_init_13 : decode cX6_init 13 = .ok (.dup, 1) := dk_89 (dk_at dksX6_init_0 13 rfl rfl)
theorem dX6_init_14 : decode cX6_init 14 = .ok (.invokespecial 17, 3) := dk_183 0 17 (dk_at dksX6_init_0 14 rfl rfl)
theorem dX6_init_17 : decode cX6_init 17 = .ok (.putfield 18, 3) := dk_181 0 18 (dk_at dksX6_init_0 17 rfl rfl)
theorem dX6_init_20 : decode cX6_init 20 = .ok (.aload_n 0, 1) := dk_42 (dk_at dksX6_init_0 20 rfl rfl)
theorem dX6_init_21 : decode cX6_init 21 = .ok (.new 15, 3) := dk_187 0 15 (dk_at dksX6_init_0 21 rfl rfl)
theorem dX6_init_24 : decode cX6_init 24 = .ok (.dup, 1) := dk_89 (dk_at dksX6_init_1 0 rfl rfl)
theorem dX6_init_25 : decode cX6_init 25 = .ok (.invokespecial 17, 3) := dk_183 0 17 (dk_at dksX6_init_1 1 rfl rfl)
theorem dX6_init_28 : decode cX6_init 28 = .ok (.putfield 22, 3) := dk_181 0 22 (dk_at dksX6_init_1 4 rfl rfl)
theorem dX6_init_31 : decode cX6_init 31 = .ok (.aload_n 0, 1) := dk_42 (dk_at dksX6_init_1 7 rfl rfl)
theorem dX6_init_32 : decode cX6_init 32 = .ok (.lload_n 2, 1) := dk_32 (dk_at dksX6_init_1 8 rfl rfl)
theorem dX6_init_33 : decode cX6_init 33 = .ok (.putfield 25, 3) := dk_181 0 25 (dk_at dksX6_init_1 9 rfl rfl)
theorem dX6_init_36 : decode cX6_init 36 = .ok (.aload_n 0, 1) := dk_42 (dk_at dksX6_init_1 12 rfl rfl)
theorem dX6_init_37 : decode cX6_init 37 = .ok (.iload 4, 2) := dk_21 4 (dk_at dksX6_init_1 13 rfl rfl)
theorem dX6_init_39 : decode cX6_init 39 = .ok (.putfield 29, 3) := dk_181 0 29 (dk_at dksX6_init_1 15 rfl rfl)
theorem dX6_init_42 : decode cX6_init 42 = .ok (.return_, 1) := dk_177 (dk_at dksX6_init_1 18 rfl rfl)
abbrev cX6_isFound : ByteArray := prog_7_method_15_code
def yX6_isFound : MethodName := ⟨RX6, "isFound", "()Z"⟩
def dkwX6_isFound_1 : List UInt8 := [153, 0, 7, 4, 167, 0, 4, 3, 172]
abbrev dktX6_isFound_1 : List UInt8 := dkwX6_isFound_1 ++ []
def dkwX6_isFound_0 : List UInt8 := [42, 182, 0, 133, 42, 182, 0, 136, 153, 0, 21, 42, 182, 0, 84, 153, 0, 10, 42, 182, 0, 139]
abbrev dktX6_isFound_0 : List UInt8 := dkwX6_isFound_0 ++ dktX6_isFound_1
theorem dksX6_isFound_0 : cX6_isFound.data.toList.drop 0 = dktX6_isFound_0 := by decide +kernel
theorem dksX6_isFound_1 : cX6_isFound.data.toList.drop 22 = dktX6_isFound_1 := dk_seg dksX6_isFound_0 22 rfl rfl
theorem dX6_isFound_0 : decode cX6_isFound 0 = .ok (.aload_n 0, 1) := dk_42 (dk_at dksX6_isFound_0 0 rfl rfl)
theorem dX6_isFound_1 : decode cX6_isFound 1 = .ok (.invokevirtual 133, 3) := dk_182 0 133 (dk_at dksX6_isFound_0 1 rfl rfl)
theorem dX6_isFound_4 : decode cX6_isFound 4 = .ok (.aload_n 0, 1) := dk_42 (dk_at dksX6_isFound_0 4 rfl rfl)
theorem dX6_isFound_5 : decode cX6_isFound 5 = .ok (.invokevirtual 136, 3) := dk_182 0 136 (dk_at dksX6_isFound_0 5 rfl rfl)
theorem dX6_isFound_8 : decode cX6_isFound 8 = .ok (.ifCond .eq 21, 3) := dk_153 0 21 (dk_at dksX6_isFound_0 8 rfl rfl)
theorem dX6_isFound_11 : decode cX6_isFound 11 = .ok (.aload_n 0, 1) := dk_42 (dk_at dksX6_isFound_0 11 rfl rfl)
theorem dX6_isFound_12 : decode cX6_isFound 12 = .ok (.invokevirtual 84, 3) := dk_182 0 84 (dk_at dksX6_isFound_0 12 rfl rfl)
theorem dX6_isFound_15 : decode cX6_isFound 15 = .ok (.ifCond .eq 10, 3) := dk_153 0 10 (dk_at dksX6_isFound_0 15 rfl rfl)
theorem dX6_isFound_18 : decode cX6_isFound 18 = .ok (.aload_n 0, 1) := dk_42 (dk_at dksX6_isFound_0 18 rfl rfl)
theorem dX6_isFound_19 : decode cX6_isFound 19 = .ok (.invokevirtual 139, 3) := dk_182 0 139 (dk_at dksX6_isFound_0 19 rfl rfl)
theorem dX6_isFound_22 : decode cX6_isFound 22 = .ok (.ifCond .eq 7, 3) := dk_153 0 7 (dk_at dksX6_isFound_1 0 rfl rfl)
theorem dX6_isFound_25 : decode cX6_isFound 25 = .ok (.iconst 1, 1) := dk_4 (dk_at dksX6_isFound_1 3 rfl rfl)
theorem dX6_isFound_26 : decode cX6_isFound 26 = .ok (.goto 4, 3) := dk_167 0 4 (dk_at dksX6_isFound_1 4 rfl rfl)
theorem dX6_isFound_29 : decode cX6_isFound 29 = .ok (.iconst 0, 1) := dk_3 (dk_at dksX6_isFound_1 7 rfl rfl)
theorem dX6_isFound_30 : decode cX6_isFound 30 = .ok (.ireturn, 1) := dk_172 (dk_at dksX6_isFound_1 8 rfl rfl)
abbrev cX6_laysAll : ByteArray := prog_7_method_11_code
def yX6_laysAll : MethodName := ⟨RX6, "laysAll", "(LPrimeProofs$Rows;J)V"⟩
def dkwX6_laysAll_1 : List UInt8 := [185, 0, 46, 1, 0, 192, 0, 50, 58, 5, 43, 25, 5, 182, 0, 126, 87, 167, 255, 227, 177]
abbrev dktX6_laysAll_1 : List UInt8 := dkwX6_laysAll_1 ++ []
def dkwX6_laysAll_0 : List UInt8 := [32, 184, 0, 122, 182, 0, 37, 58, 4, 25, 4, 185, 0, 41, 1, 0, 153, 0, 25, 25, 4]
abbrev dktX6_laysAll_0 : List UInt8 := dkwX6_laysAll_0 ++ dktX6_laysAll_1
theorem dksX6_laysAll_0 : cX6_laysAll.data.toList.drop 0 = dktX6_laysAll_0 := by decide +kernel
theorem dksX6_laysAll_1 : cX6_laysAll.data.toList.drop 21 = dktX6_laysAll_1 := dk_seg dksX6_laysAll_0 21 rfl rfl
theorem dX6_laysAll_0 : decode cX6_laysAll 0 = .ok (.lload_n 2, 1) := dk_32 (dk_at dksX6_laysAll_0 0 rfl rfl)
theorem dX6_laysAll_1 : decode cX6_laysAll 1 = .ok (.invokestatic 122, 3) := dk_184 0 122 (dk_at dksX6_laysAll_0 1 rfl rfl)
theorem dX6_laysAll_4 : decode cX6_laysAll 4 = .ok (.invokevirtual 37, 3) := dk_182 0 37 (dk_at dksX6_laysAll_0 4 rfl rfl)
theorem dX6_laysAll_7 : decode cX6_laysAll 7 = .ok (.astore 4, 2) := dk_58 4 (dk_at dksX6_laysAll_0 7 rfl rfl)
theorem dX6_laysAll_9 : decode cX6_laysAll 9 = .ok (.aload 4, 2) := dk_25 4 (dk_at dksX6_laysAll_0 9 rfl rfl)
theorem dX6_laysAll_11 : decode cX6_laysAll 11 = .ok (.invokeinterface 41 1, 5) := by decide +kernel
theorem dX6_laysAll_16 : decode cX6_laysAll 16 = .ok (.ifCond .eq 25, 3) := dk_153 0 25 (dk_at dksX6_laysAll_0 16 rfl rfl)
theorem dX6_laysAll_19 : decode cX6_laysAll 19 = .ok (.aload 4, 2) := dk_25 4 (dk_at dksX6_laysAll_0 19 rfl rfl)
theorem dX6_laysAll_21 : decode cX6_laysAll 21 = .ok (.invokeinterface 46 1, 5) := by decide +kernel
theorem dX6_laysAll_26 : decode cX6_laysAll 26 = .ok (.checkcast 50, 3) := dk_192 0 50 (dk_at dksX6_laysAll_1 5 rfl rfl)
theorem dX6_laysAll_29 : decode cX6_laysAll 29 = .ok (.astore 5, 2) := dk_58 5 (dk_at dksX6_laysAll_1 8 rfl rfl)
theorem dX6_laysAll_31 : decode cX6_laysAll 31 = .ok (.aload_n 1, 1) := dk_43 (dk_at dksX6_laysAll_1 10 rfl rfl)
theorem dX6_laysAll_32 : decode cX6_laysAll 32 = .ok (.aload 5, 2) := dk_25 5 (dk_at dksX6_laysAll_1 11 rfl rfl)
theorem dX6_laysAll_34 : decode cX6_laysAll 34 = .ok (.invokevirtual 126, 3) := dk_182 0 126 (dk_at dksX6_laysAll_1 13 rfl rfl)
theorem dX6_laysAll_37 : decode cX6_laysAll 37 = .ok (.pop, 1) := dk_87 (dk_at dksX6_laysAll_1 16 rfl rfl)
theorem dX6_laysAll_38 : decode cX6_laysAll 38 = .ok (.goto (-29), 3) := dk_167 255 227 (dk_at dksX6_laysAll_1 17 rfl rfl)
theorem dX6_laysAll_41 : decode cX6_laysAll 41 = .ok (.return_, 1) := dk_177 (dk_at dksX6_laysAll_1 20 rfl rfl)
abbrev cX6_findsBases : ByteArray := prog_7_method_13_code
def yX6_findsBases : MethodName := ⟨RX6, "findsBases", "()Z"⟩
def dkwX6_findsBases_1 : List UInt8 := [192, 0, 50, 77, 42, 44, 182, 0, 130, 154, 0, 5, 3, 172, 167, 255, 227, 4, 172]
abbrev dktX6_findsBases_1 : List UInt8 := dkwX6_findsBases_1 ++ []
def dkwX6_findsBases_0 : List UInt8 := [42, 180, 0, 18, 182, 0, 37, 76, 43, 185, 0, 41, 1, 0, 153, 0, 26, 43, 185, 0, 46, 1, 0]
abbrev dktX6_findsBases_0 : List UInt8 := dkwX6_findsBases_0 ++ dktX6_findsBases_1
theorem dksX6_findsBases_0 : cX6_findsBases.data.toList.drop 0 = dktX6_findsBases_0 := by decide +kernel
theorem dksX6_findsBases_1 : cX6_findsBases.data.toList.drop 23 = dktX6_findsBases_1 := dk_seg dksX6_findsBases_0 23 rfl rfl
theorem dX6_findsBases_0 : decode cX6_findsBases 0 = .ok (.aload_n 0, 1) := dk_42 (dk_at dksX6_findsBases_0 0 rfl rfl)
theorem dX6_findsBases_1 : decode cX6_findsBases 1 = .ok (.getfield 18, 3) := dk_180 0 18 (dk_at dksX6_findsBases_0 1 rfl rfl)
theorem dX6_findsBases_4 : decode cX6_findsBases 4 = .ok (.invokevirtual 37, 3) := dk_182 0 37 (dk_at dksX6_findsBases_0 4 rfl rfl)
theorem dX6_findsBases_7 : decode cX6_findsBases 7 = .ok (.astore_n 1, 1) := dk_76 (dk_at dksX6_findsBases_0 7 rfl rfl)
theorem dX6_findsBases_8 : decode cX6_findsBases 8 = .ok (.aload_n 1, 1) := dk_43 (dk_at dksX6_findsBases_0 8 rfl rfl)
theorem dX6_findsBases_9 : decode cX6_findsBases 9 = .ok (.invokeinterface 41 1, 5) := by decide +kernel
theorem dX6_findsBases_14 : decode cX6_findsBases 14 = .ok (.ifCond .eq 26, 3) := dk_153 0 26 (dk_at dksX6_findsBases_0 14 rfl rfl)
theorem dX6_findsBases_17 : decode cX6_findsBases 17 = .ok (.aload_n 1, 1) := dk_43 (dk_at dksX6_findsBases_0 17 rfl rfl)
theorem dX6_findsBases_18 : decode cX6_findsBases 18 = .ok (.invokeinterface 46 1, 5) := by decide +kernel
theorem dX6_findsBases_23 : decode cX6_findsBases 23 = .ok (.checkcast 50, 3) := dk_192 0 50 (dk_at dksX6_findsBases_1 0 rfl rfl)
theorem dX6_findsBases_26 : decode cX6_findsBases 26 = .ok (.astore_n 2, 1) := dk_77 (dk_at dksX6_findsBases_1 3 rfl rfl)
theorem dX6_findsBases_27 : decode cX6_findsBases 27 = .ok (.aload_n 0, 1) := dk_42 (dk_at dksX6_findsBases_1 4 rfl rfl)
theorem dX6_findsBases_28 : decode cX6_findsBases 28 = .ok (.aload_n 2, 1) := dk_44 (dk_at dksX6_findsBases_1 5 rfl rfl)
theorem dX6_findsBases_29 : decode cX6_findsBases 29 = .ok (.invokevirtual 130, 3) := dk_182 0 130 (dk_at dksX6_findsBases_1 6 rfl rfl)
theorem dX6_findsBases_32 : decode cX6_findsBases 32 = .ok (.ifCond .ne 5, 3) := dk_154 0 5 (dk_at dksX6_findsBases_1 9 rfl rfl)
theorem dX6_findsBases_35 : decode cX6_findsBases 35 = .ok (.iconst 0, 1) := dk_3 (dk_at dksX6_findsBases_1 12 rfl rfl)
theorem dX6_findsBases_36 : decode cX6_findsBases 36 = .ok (.ireturn, 1) := dk_172 (dk_at dksX6_findsBases_1 13 rfl rfl)
theorem dX6_findsBases_37 : decode cX6_findsBases 37 = .ok (.goto (-29), 3) := dk_167 255 227 (dk_at dksX6_findsBases_1 14 rfl rfl)
theorem dX6_findsBases_40 : decode cX6_findsBases 40 = .ok (.iconst 1, 1) := dk_4 (dk_at dksX6_findsBases_1 17 rfl rfl)
theorem dX6_findsBases_41 : decode cX6_findsBases 41 = .ok (.ireturn, 1) := dk_172 (dk_at dksX6_findsBases_1 18 rfl rfl)
abbrev cX6_findsBase : ByteArray := prog_7_method_12_code
def yX6_findsBase : MethodName := ⟨RX6, "findsBase", "(LPrimeProofs$Row;)Z"⟩
def dkwX6_findsBase_1 : List UInt8 := [43, 182, 0, 81, 153, 0, 5, 4, 172, 43, 89, 180, 0, 91, 4, 96, 181, 0, 91, 167, 255, 218, 3, 172]
abbrev dktX6_findsBase_1 : List UInt8 := dkwX6_findsBase_1 ++ []
def dkwX6_findsBase_0 : List UInt8 := [43, 5, 181, 0, 91, 43, 180, 0, 91, 17, 3, 231, 163, 0, 34, 42, 43, 182, 0, 77, 153, 0, 13, 42]
abbrev dktX6_findsBase_0 : List UInt8 := dkwX6_findsBase_0 ++ dktX6_findsBase_1
theorem dksX6_findsBase_0 : cX6_findsBase.data.toList.drop 0 = dktX6_findsBase_0 := by decide +kernel
theorem dksX6_findsBase_1 : cX6_findsBase.data.toList.drop 24 = dktX6_findsBase_1 := dk_seg dksX6_findsBase_0 24 rfl rfl
theorem dX6_findsBase_0 : decode cX6_findsBase 0 = .ok (.aload_n 1, 1) := dk_43 (dk_at dksX6_findsBase_0 0 rfl rfl)
theorem dX6_findsBase_1 : decode cX6_findsBase 1 = .ok (.iconst 2, 1) := dk_5 (dk_at dksX6_findsBase_0 1 rfl rfl)
theorem dX6_findsBase_2 : decode cX6_findsBase 2 = .ok (.putfield 91, 3) := dk_181 0 91 (dk_at dksX6_findsBase_0 2 rfl rfl)
theorem dX6_findsBase_5 : decode cX6_findsBase 5 = .ok (.aload_n 1, 1) := dk_43 (dk_at dksX6_findsBase_0 5 rfl rfl)
theorem dX6_findsBase_6 : decode cX6_findsBase 6 = .ok (.getfield 91, 3) := dk_180 0 91 (dk_at dksX6_findsBase_0 6 rfl rfl)
theorem dX6_findsBase_9 : decode cX6_findsBase 9 = .ok (.sipush 999, 3) := dk_17 3 231 (dk_at dksX6_findsBase_0 9 rfl rfl)
theorem dX6_findsBase_12 : decode cX6_findsBase 12 = .ok (.if_icmp .gt 34, 3) := dk_163 0 34 (dk_at dksX6_findsBase_0 12 rfl rfl)
theorem dX6_findsBase_15 : decode cX6_findsBase 15 = .ok (.aload_n 0, 1) := dk_42 (dk_at dksX6_findsBase_0 15 rfl rfl)
theorem dX6_findsBase_16 : decode cX6_findsBase 16 = .ok (.aload_n 1, 1) := dk_43 (dk_at dksX6_findsBase_0 16 rfl rfl)
theorem dX6_findsBase_17 : decode cX6_findsBase 17 = .ok (.invokevirtual 77, 3) := dk_182 0 77 (dk_at dksX6_findsBase_0 17 rfl rfl)
theorem dX6_findsBase_20 : decode cX6_findsBase 20 = .ok (.ifCond .eq 13, 3) := dk_153 0 13 (dk_at dksX6_findsBase_0 20 rfl rfl)
theorem dX6_findsBase_23 : decode cX6_findsBase 23 = .ok (.aload_n 0, 1) := dk_42 (dk_at dksX6_findsBase_0 23 rfl rfl)
theorem dX6_findsBase_24 : decode cX6_findsBase 24 = .ok (.aload_n 1, 1) := dk_43 (dk_at dksX6_findsBase_1 0 rfl rfl)
theorem dX6_findsBase_25 : decode cX6_findsBase 25 = .ok (.invokevirtual 81, 3) := dk_182 0 81 (dk_at dksX6_findsBase_1 1 rfl rfl)
theorem dX6_findsBase_28 : decode cX6_findsBase 28 = .ok (.ifCond .eq 5, 3) := dk_153 0 5 (dk_at dksX6_findsBase_1 4 rfl rfl)
theorem dX6_findsBase_31 : decode cX6_findsBase 31 = .ok (.iconst 1, 1) := dk_4 (dk_at dksX6_findsBase_1 7 rfl rfl)
theorem dX6_findsBase_32 : decode cX6_findsBase 32 = .ok (.ireturn, 1) := dk_172 (dk_at dksX6_findsBase_1 8 rfl rfl)
theorem dX6_findsBase_33 : decode cX6_findsBase 33 = .ok (.aload_n 1, 1) := dk_43 (dk_at dksX6_findsBase_1 9 rfl rfl)
theorem dX6_findsBase_34 : decode cX6_findsBase 34 = .ok (.dup, 1) := dk_89 (dk_at dksX6_findsBase_1 10 rfl rfl)
theorem dX6_findsBase_35 : decode cX6_findsBase 35 = .ok (.getfield 91, 3) := dk_180 0 91 (dk_at dksX6_findsBase_1 11 rfl rfl)
theorem dX6_findsBase_38 : decode cX6_findsBase 38 = .ok (.iconst 1, 1) := dk_4 (dk_at dksX6_findsBase_1 14 rfl rfl)
theorem dX6_findsBase_39 : decode cX6_findsBase 39 = .ok (.iadd, 1) := dk_96 (dk_at dksX6_findsBase_1 15 rfl rfl)
theorem dX6_findsBase_40 : decode cX6_findsBase 40 = .ok (.putfield 91, 3) := dk_181 0 91 (dk_at dksX6_findsBase_1 16 rfl rfl)
theorem dX6_findsBase_43 : decode cX6_findsBase 43 = .ok (.goto (-38), 3) := dk_167 255 218 (dk_at dksX6_findsBase_1 19 rfl rfl)
theorem dX6_findsBase_46 : decode cX6_findsBase 46 = .ok (.iconst 0, 1) := dk_3 (dk_at dksX6_findsBase_1 22 rfl rfl)
theorem dX6_findsBase_47 : decode cX6_findsBase 47 = .ok (.ireturn, 1) := dk_172 (dk_at dksX6_findsBase_1 23 rfl rfl)
abbrev cX6_findsPair : ByteArray := prog_7_method_14_code
def yX6_findsPair : MethodName := ⟨RX6, "findsPair", "()Z"⟩
def dkwX6_findsPair_2 : List UInt8 := [167, 255, 228, 42, 89, 180, 0, 107, 4, 96, 181, 0, 107, 167, 255, 201, 3, 172]
abbrev dktX6_findsPair_2 : List UInt8 := dkwX6_findsPair_2 ++ []
def dkwX6_findsPair_1 : List UInt8 := [16, 99, 163, 0, 25, 42, 182, 0, 87, 154, 0, 5, 4, 172, 42, 89, 180, 0, 112, 4, 96, 181, 0, 112]
abbrev dktX6_findsPair_1 : List UInt8 := dkwX6_findsPair_1 ++ dktX6_findsPair_2
def dkwX6_findsPair_0 : List UInt8 := [42, 4, 181, 0, 107, 42, 180, 0, 107, 16, 99, 163, 0, 52, 42, 4, 181, 0, 112, 42, 180, 0, 112]
abbrev dktX6_findsPair_0 : List UInt8 := dkwX6_findsPair_0 ++ dktX6_findsPair_1
theorem dksX6_findsPair_0 : cX6_findsPair.data.toList.drop 0 = dktX6_findsPair_0 := by decide +kernel
theorem dksX6_findsPair_1 : cX6_findsPair.data.toList.drop 23 = dktX6_findsPair_1 := dk_seg dksX6_findsPair_0 23 rfl rfl
theorem dksX6_findsPair_2 : cX6_findsPair.data.toList.drop 47 = dktX6_findsPair_2 := dk_seg dksX6_findsPair_1 24 rfl rfl
theorem dX6_findsPair_0 : decode cX6_findsPair 0 = .ok (.aload_n 0, 1) := dk_42 (dk_at dksX6_findsPair_0 0 rfl rfl)
theorem dX6_findsPair_1 : decode cX6_findsPair 1 = .ok (.iconst 1, 1) := dk_4 (dk_at dksX6_findsPair_0 1 rfl rfl)
theorem dX6_findsPair_2 : decode cX6_findsPair 2 = .ok (.putfield 107, 3) := dk_181 0 107 (dk_at dksX6_findsPair_0 2 rfl rfl)
theorem dX6_findsPair_5 : decode cX6_findsPair 5 = .ok (.aload_n 0, 1) := dk_42 (dk_at dksX6_findsPair_0 5 rfl rfl)
theorem dX6_findsPair_6 : decode cX6_findsPair 6 = .ok (.getfield 107, 3) := dk_180 0 107 (dk_at dksX6_findsPair_0 6 rfl rfl)
theorem dX6_findsPair_9 : decode cX6_findsPair 9 = .ok (.bipush 99, 2) := dk_16 99 (dk_at dksX6_findsPair_0 9 rfl rfl)
theorem dX6_findsPair_11 : decode cX6_findsPair 11 = .ok (.if_icmp .gt 52, 3) := dk_163 0 52 (dk_at dksX6_findsPair_0 11 rfl rfl)
theorem dX6_findsPair_14 : decode cX6_findsPair 14 = .ok (.aload_n 0, 1) := dk_42 (dk_at dksX6_findsPair_0 14 rfl rfl)
theorem dX6_findsPair_15 : decode cX6_findsPair 15 = .ok (.iconst 1, 1) := dk_4 (dk_at dksX6_findsPair_0 15 rfl rfl)
theorem dX6_findsPair_16 : decode cX6_findsPair 16 = .ok (.putfield 112, 3) := dk_181 0 112 (dk_at dksX6_findsPair_0 16 rfl rfl)
theorem dX6_findsPair_19 : decode cX6_findsPair 19 = .ok (.aload_n 0, 1) := dk_42 (dk_at dksX6_findsPair_0 19 rfl rfl)
theorem dX6_findsPair_20 : decode cX6_findsPair 20 = .ok (.getfield 112, 3) := dk_180 0 112 (dk_at dksX6_findsPair_0 20 rfl rfl)
theorem dX6_findsPair_23 : decode cX6_findsPair 23 = .ok (.bipush 99, 2) := dk_16 99 (dk_at dksX6_findsPair_1 0 rfl rfl)
theorem dX6_findsPair_25 : decode cX6_findsPair 25 = .ok (.if_icmp .gt 25, 3) := dk_163 0 25 (dk_at dksX6_findsPair_1 2 rfl rfl)
theorem dX6_findsPair_28 : decode cX6_findsPair 28 = .ok (.aload_n 0, 1) := dk_42 (dk_at dksX6_findsPair_1 5 rfl rfl)
theorem dX6_findsPair_29 : decode cX6_findsPair 29 = .ok (.invokevirtual 87, 3) := dk_182 0 87 (dk_at dksX6_findsPair_1 6 rfl rfl)
theorem dX6_findsPair_32 : decode cX6_findsPair 32 = .ok (.ifCond .ne 5, 3) := dk_154 0 5 (dk_at dksX6_findsPair_1 9 rfl rfl)
theorem dX6_findsPair_35 : decode cX6_findsPair 35 = .ok (.iconst 1, 1) := dk_4 (dk_at dksX6_findsPair_1 12 rfl rfl)
theorem dX6_findsPair_36 : decode cX6_findsPair 36 = .ok (.ireturn, 1) := dk_172 (dk_at dksX6_findsPair_1 13 rfl rfl)
theorem dX6_findsPair_37 : decode cX6_findsPair 37 = .ok (.aload_n 0, 1) := dk_42 (dk_at dksX6_findsPair_1 14 rfl rfl)
theorem dX6_findsPair_38 : decode cX6_findsPair 38 = .ok (.dup, 1) := dk_89 (dk_at dksX6_findsPair_1 15 rfl rfl)
theorem dX6_findsPair_39 : decode cX6_findsPair 39 = .ok (.getfield 112, 3) := dk_180 0 112 (dk_at dksX6_findsPair_1 16 rfl rfl)
theorem dX6_findsPair_42 : decode cX6_findsPair 42 = .ok (.iconst 1, 1) := dk_4 (dk_at dksX6_findsPair_1 19 rfl rfl)
theorem dX6_findsPair_43 : decode cX6_findsPair 43 = .ok (.iadd, 1) := dk_96 (dk_at dksX6_findsPair_1 20 rfl rfl)
theorem dX6_findsPair_44 : decode cX6_findsPair 44 = .ok (.putfield 112, 3) := dk_181 0 112 (dk_at dksX6_findsPair_1 21 rfl rfl)
theorem dX6_findsPair_47 : decode cX6_findsPair 47 = .ok (.goto (-28), 3) := dk_167 255 228 (dk_at dksX6_findsPair_2 0 rfl rfl)
theorem dX6_findsPair_50 : decode cX6_findsPair 50 = .ok (.aload_n 0, 1) := dk_42 (dk_at dksX6_findsPair_2 3 rfl rfl)
theorem dX6_findsPair_51 : decode cX6_findsPair 51 = .ok (.dup, 1) := dk_89 (dk_at dksX6_findsPair_2 4 rfl rfl)
theorem dX6_findsPair_52 : decode cX6_findsPair 52 = .ok (.getfield 107, 3) := dk_180 0 107 (dk_at dksX6_findsPair_2 5 rfl rfl)
theorem dX6_findsPair_55 : decode cX6_findsPair 55 = .ok (.iconst 1, 1) := dk_4 (dk_at dksX6_findsPair_2 8 rfl rfl)
theorem dX6_findsPair_56 : decode cX6_findsPair 56 = .ok (.iadd, 1) := dk_96 (dk_at dksX6_findsPair_2 9 rfl rfl)
theorem dX6_findsPair_57 : decode cX6_findsPair 57 = .ok (.putfield 107, 3) := dk_181 0 107 (dk_at dksX6_findsPair_2 10 rfl rfl)
theorem dX6_findsPair_60 : decode cX6_findsPair 60 = .ok (.goto (-55), 3) := dk_167 255 201 (dk_at dksX6_findsPair_2 13 rfl rfl)
theorem dX6_findsPair_63 : decode cX6_findsPair 63 = .ok (.iconst 0, 1) := dk_3 (dk_at dksX6_findsPair_2 16 rfl rfl)
theorem dX6_findsPair_64 : decode cX6_findsPair 64 = .ok (.ireturn, 1) := dk_172 (dk_at dksX6_findsPair_2 17 rfl rfl)
theorem q96 : (Jvm.Cond.initialized "PrimeProofs$Line") ∈ lw_all := lw_g (lw_at lw_m1 13 rfl) rfl
theorem q224 : (Jvm.Cond.instanceMethod ({ cls := "PrimeProofs$Line", name := "fault", desc := "(I)I" } : Jvm.MethodName)) ∈ lw_all := lw_g (lw_at lw_m1 141 rfl) rfl
theorem q225 : (Jvm.Cond.sameMethod "PrimeProofs$Line" "PrimeProofs$Line" "fault" "(I)I") ∈ lw_all := lw_g (lw_at lw_m1 142 rfl) rfl
theorem q231 : (Jvm.Cond.code ({ cls := "PrimeProofs$Line", name := "fault", desc := "(I)I" } : Jvm.MethodName) prog_7_method_6_code (4 : Nat) (Option.some Jvm.ClassFile.FieldType.int)) ∈ lw_all := lw_g (lw_at lw_m1 148 rfl) rfl
theorem q232 : (Jvm.Cond.constantLong "PrimeProofs$Line" (59 : Nat) (100 : Int64)) ∈ lw_all := lw_g (lw_at lw_m1 149 rfl) rfl
theorem q233 : (Jvm.Cond.methodLinkNest "PrimeProofs$Line" (61 : Nat) ({ cls := "PrimeProofs", name := "isPrime", desc := "(J)Z" } : Jvm.MethodName) "PrimeProofs") ∈ lw_tbl := lw_at lw_m1 150 rfl
theorem q236 : (Jvm.Cond.constantLong "PrimeProofs$Line" (65 : Nat) (2 : Int64)) ∈ lw_all := lw_g (lw_at lw_m1 153 rfl) rfl
theorem q237 : (Jvm.Cond.methodLink "PrimeProofs$Line" (67 : Nat) ({ cls := "PrimeProofs$Line", name := "isBacked", desc := "(LPrimeProofs$Rows;I)Z" } : Jvm.MethodName)) ∈ lw_all := lw_g (lw_at lw_m1 154 rfl) rfl
theorem q238 : (Jvm.Cond.privateMethod ({ cls := "PrimeProofs$Line", name := "isBacked", desc := "(LPrimeProofs$Rows;I)Z" } : Jvm.MethodName)) ∈ lw_tbl := lw_at lw_m1 155 rfl
theorem q239 : (Jvm.Cond.instanceMethod ({ cls := "PrimeProofs$Line", name := "isBacked", desc := "(LPrimeProofs$Rows;I)Z" } : Jvm.MethodName)) ∈ lw_all := lw_g (lw_at lw_m1 156 rfl) rfl
theorem q240 : (Jvm.Cond.code ({ cls := "PrimeProofs$Line", name := "isBacked", desc := "(LPrimeProofs$Rows;I)Z" } : Jvm.MethodName) prog_7_method_5_code (5 : Nat) (Option.some Jvm.ClassFile.FieldType.boolean)) ∈ lw_all := lw_g (lw_at lw_m1 157 rfl) rfl
theorem q241 : (Jvm.Cond.methodLink "PrimeProofs$Line" (33 : Nat) ({ cls := "PrimeProofs$Rows", name := "hasTwice", desc := "()Z" } : Jvm.MethodName)) ∈ lw_all := lw_g (lw_at lw_m1 158 rfl) rfl
theorem q245 : (Jvm.Cond.methodLink "PrimeProofs$Line" (37 : Nat) ({ cls := "PrimeProofs$Rows", name := "iterator", desc := "()Ljava/util/Iterator;" } : Jvm.MethodName)) ∈ lw_all := lw_g (lw_at lw_m1 162 rfl) rfl
theorem q262 : (Jvm.Cond.interfaceEntry "PrimeProofs$Line" (41 : Nat)) ∈ lw_tbl := lw_at lw_m1 179 rfl
theorem q263 : (Jvm.Cond.methodLink "PrimeProofs$Line" (41 : Nat) ({ cls := "java/util/Iterator", name := "hasNext", desc := "()Z" } : Jvm.MethodName)) ∈ lw_all := lw_g (lw_at lw_m1 180 rfl) rfl
theorem q278 : (Jvm.Cond.interfaceEntry "PrimeProofs$Line" (46 : Nat)) ∈ lw_tbl := lw_at lw_m1 195 rfl
theorem q279 : (Jvm.Cond.methodLink "PrimeProofs$Line" (46 : Nat) ({ cls := "java/util/Iterator", name := "next", desc := "()Ljava/lang/Object;" } : Jvm.MethodName)) ∈ lw_all := lw_g (lw_at lw_m1 196 rfl) rfl
theorem q300 : (Jvm.Cond.classLink "PrimeProofs$Line" (50 : Nat) "PrimeProofs$Row") ∈ lw_all := lw_g (lw_at lw_m1 217 rfl) rfl
theorem q301 : (Jvm.Cond.methodLinkNest "PrimeProofs$Line" (55 : Nat) ({ cls := "PrimeProofs", name := "restOn", desc := "(JI)I" } : Jvm.MethodName) "PrimeProofs") ∈ lw_tbl := lw_at lw_m1 218 rfl
theorem q305 : (Jvm.Cond.methodLink "PrimeProofs$Line" (71 : Nat) ({ cls := "PrimeProofs$Line", name := "isWhole", desc := "()Z" } : Jvm.MethodName)) ∈ lw_all := lw_g (lw_at lw_m1 222 rfl) rfl
theorem q306 : (Jvm.Cond.declares ({ cls := "PrimeProofs$Line", name := "isWhole", desc := "()Z" } : Jvm.MethodName)) ∈ lw_tbl := lw_at lw_m1 223 rfl
theorem q307 : (Jvm.Cond.sameMethod "PrimeProofs$Line" "PrimeProofs$Line" "isWhole" "()Z") ∈ lw_all := lw_g (lw_at lw_m1 224 rfl) rfl
theorem q340 : (Jvm.Cond.methodLink "PrimeProofs$Line" (74 : Nat) ({ cls := "PrimeProofs$Line", name := "isEnough", desc := "()Z" } : Jvm.MethodName)) ∈ lw_all := lw_g (lw_at lw_m2 17 rfl) rfl
theorem q341 : (Jvm.Cond.instanceMethod ({ cls := "PrimeProofs$Line", name := "isEnough", desc := "()Z" } : Jvm.MethodName)) ∈ lw_all := lw_g (lw_at lw_m2 18 rfl) rfl
theorem q342 : (Jvm.Cond.sameMethod "PrimeProofs$Line" "PrimeProofs$Line" "isEnough" "()Z") ∈ lw_all := lw_g (lw_at lw_m2 19 rfl) rfl
theorem q357 : (Jvm.Cond.code ({ cls := "PrimeProofs$Line", name := "isEnough", desc := "()Z" } : Jvm.MethodName) prog_7_method_3_code (1 : Nat) (Option.some Jvm.ClassFile.FieldType.boolean)) ∈ lw_all := lw_g (lw_at lw_m2 34 rfl) rfl
theorem q358 : (Jvm.Cond.methodLink "PrimeProofs$Line" (77 : Nat) ({ cls := "PrimeProofs$Line", name := "isOne", desc := "(LPrimeProofs$Row;)Z" } : Jvm.MethodName)) ∈ lw_all := lw_g (lw_at lw_m2 35 rfl) rfl
theorem q359 : (Jvm.Cond.instanceMethod ({ cls := "PrimeProofs$Line", name := "isOne", desc := "(LPrimeProofs$Row;)Z" } : Jvm.MethodName)) ∈ lw_all := lw_g (lw_at lw_m2 36 rfl) rfl
theorem q360 : (Jvm.Cond.sameMethod "PrimeProofs$Line" "PrimeProofs$Line" "isOne" "(LPrimeProofs$Row;)Z") ∈ lw_all := lw_g (lw_at lw_m2 37 rfl) rfl
theorem q366 : (Jvm.Cond.code ({ cls := "PrimeProofs$Line", name := "isOne", desc := "(LPrimeProofs$Row;)Z" } : Jvm.MethodName) prog_7_method_7_code (2 : Nat) (Option.some Jvm.ClassFile.FieldType.boolean)) ∈ lw_all := lw_g (lw_at lw_m2 43 rfl) rfl
theorem q367 : (Jvm.Cond.methodLinkNest "PrimeProofs$Line" (94 : Nat) ({ cls := "PrimeProofs", name := "powerOf", desc := "(JJJ)J" } : Jvm.MethodName) "PrimeProofs") ∈ lw_tbl := lw_at lw_m2 44 rfl
theorem q431 : (Jvm.Cond.methodLink "PrimeProofs$Line" (81 : Nat) ({ cls := "PrimeProofs$Line", name := "isFar", desc := "(LPrimeProofs$Row;)Z" } : Jvm.MethodName)) ∈ lw_all := lw_g (lw_at lw_m2 108 rfl) rfl
theorem q432 : (Jvm.Cond.instanceMethod ({ cls := "PrimeProofs$Line", name := "isFar", desc := "(LPrimeProofs$Row;)Z" } : Jvm.MethodName)) ∈ lw_all := lw_g (lw_at lw_m2 109 rfl) rfl
theorem q433 : (Jvm.Cond.sameMethod "PrimeProofs$Line" "PrimeProofs$Line" "isFar" "(LPrimeProofs$Row;)Z") ∈ lw_all := lw_g (lw_at lw_m2 110 rfl) rfl
theorem q439 : (Jvm.Cond.code ({ cls := "PrimeProofs$Line", name := "isFar", desc := "(LPrimeProofs$Row;)Z" } : Jvm.MethodName) prog_7_method_8_code (2 : Nat) (Option.some Jvm.ClassFile.FieldType.boolean)) ∈ lw_all := lw_g (lw_at lw_m2 116 rfl) rfl
theorem q440 : (Jvm.Cond.methodLink "PrimeProofs$Line" (98 : Nat) ({ cls := "java/lang/Math", name := "floorMod", desc := "(JJ)J" } : Jvm.MethodName)) ∈ lw_all := lw_g (lw_at lw_m2 117 rfl) rfl
theorem q441 : (Jvm.Cond.methodLinkNest "PrimeProofs$Line" (104 : Nat) ({ cls := "PrimeProofs", name := "common", desc := "(JJ)J" } : Jvm.MethodName) "PrimeProofs") ∈ lw_tbl := lw_at lw_m2 118 rfl
theorem q442 : (Jvm.Cond.methodLink "PrimeProofs$Line" (84 : Nat) ({ cls := "PrimeProofs$Line", name := "hasPair", desc := "()Z" } : Jvm.MethodName)) ∈ lw_all := lw_g (lw_at lw_m2 119 rfl) rfl
theorem q443 : (Jvm.Cond.instanceMethod ({ cls := "PrimeProofs$Line", name := "hasPair", desc := "()Z" } : Jvm.MethodName)) ∈ lw_all := lw_g (lw_at lw_m2 120 rfl) rfl
theorem q444 : (Jvm.Cond.sameMethod "PrimeProofs$Line" "PrimeProofs$Line" "hasPair" "()Z") ∈ lw_all := lw_g (lw_at lw_m2 121 rfl) rfl
theorem q450 : (Jvm.Cond.code ({ cls := "PrimeProofs$Line", name := "hasPair", desc := "()Z" } : Jvm.MethodName) prog_7_method_4_code (1 : Nat) (Option.some Jvm.ClassFile.FieldType.boolean)) ∈ lw_all := lw_g (lw_at lw_m2 127 rfl) rfl
theorem q451 : (Jvm.Cond.methodLink "PrimeProofs$Line" (87 : Nat) ({ cls := "PrimeProofs$Line", name := "pairFault", desc := "()I" } : Jvm.MethodName)) ∈ lw_all := lw_g (lw_at lw_m2 128 rfl) rfl
theorem q452 : (Jvm.Cond.instanceMethod ({ cls := "PrimeProofs$Line", name := "pairFault", desc := "()I" } : Jvm.MethodName)) ∈ lw_all := lw_g (lw_at lw_m2 129 rfl) rfl
theorem q453 : (Jvm.Cond.sameMethod "PrimeProofs$Line" "PrimeProofs$Line" "pairFault" "()I") ∈ lw_all := lw_g (lw_at lw_m2 130 rfl) rfl
theorem q459 : (Jvm.Cond.code ({ cls := "PrimeProofs$Line", name := "pairFault", desc := "()I" } : Jvm.MethodName) prog_7_method_9_code (3 : Nat) (Option.some Jvm.ClassFile.FieldType.int)) ∈ lw_all := lw_g (lw_at lw_m2 136 rfl) rfl
theorem q460 : (Jvm.Cond.constantLong "PrimeProofs$Line" (110 : Nat) (4 : Int64)) ∈ lw_all := lw_g (lw_at lw_m2 137 rfl) rfl
theorem q461 : (Jvm.Cond.methodLinkNest "PrimeProofs$Line" (114 : Nat) ({ cls := "PrimeProofs", name := "jacobiOf", desc := "(JJ)I" } : Jvm.MethodName) "PrimeProofs") ∈ lw_tbl := lw_at lw_m2 138 rfl
theorem q468 : (Jvm.Cond.methodLinkNest "PrimeProofs$Line" (118 : Nat) ({ cls := "PrimeProofs", name := "sequenceOf", desc := "(JJJJ)J" } : Jvm.MethodName) "PrimeProofs") ∈ lw_tbl := lw_at lw_m2 145 rfl
theorem q505 : (Jvm.Cond.instanceMethod ({ cls := "PrimeProofs$Line", name := "<init>", desc := "(LPrimeProofs;JI)V" } : Jvm.MethodName)) ∈ lw_all := lw_g (lw_at lw_m2 182 rfl) rfl
theorem q506 : (Jvm.Cond.code ({ cls := "PrimeProofs$Line", name := "<init>", desc := "(LPrimeProofs;JI)V" } : Jvm.MethodName) prog_7_method_1_code (5 : Nat) (Option.none : Option Jvm.ClassFile.FieldType)) ∈ lw_all := lw_g (lw_at lw_m2 183 rfl) rfl
theorem q507 : (Jvm.Cond.methodLink "PrimeProofs$Line" (9 : Nat) ({ cls := "java/lang/Object", name := "<init>", desc := "()V" } : Jvm.MethodName)) ∈ lw_all := lw_g (lw_at lw_m2 184 rfl) rfl
theorem q508 : (Jvm.Cond.classLink "PrimeProofs$Line" (15 : Nat) "PrimeProofs$Rows") ∈ lw_all := lw_g (lw_at lw_m2 185 rfl) rfl
theorem q510 : (Jvm.Cond.methodLinkNest "PrimeProofs$Line" (17 : Nat) ({ cls := "PrimeProofs$Rows", name := "<init>", desc := "()V" } : Jvm.MethodName) "PrimeProofs") ∈ lw_tbl := lw_at lw_m2 187 rfl
theorem q532 : (Jvm.Cond.fieldLink "PrimeProofs$Line" (25 : Nat) "PrimeProofs$Line" "n" "J") ∈ lw_all := lw_g (lw_at lw_m2 209 rfl) rfl
theorem q542 : (Jvm.Cond.fieldLink "PrimeProofs$Line" (29 : Nat) "PrimeProofs$Line" "sort" "I") ∈ lw_all := lw_g (lw_at lw_m2 219 rfl) rfl
theorem q544 : (Jvm.Cond.fieldLink "PrimeProofs$Line" (107 : Nat) "PrimeProofs$Line" "p" "I") ∈ lw_all := lw_g (lw_at lw_m2 221 rfl) rfl
theorem q547 : (Jvm.Cond.fieldLink "PrimeProofs$Line" (112 : Nat) "PrimeProofs$Line" "q" "I") ∈ lw_all := lw_g (lw_at lw_m2 224 rfl) rfl
theorem q550 : (Jvm.Cond.fieldLink "PrimeProofs$Line" (18 : Nat) "PrimeProofs$Line" "down" "LPrimeProofs$Rows;") ∈ lw_all := lw_g (lw_at lw_m2 227 rfl) rfl
theorem q559 : (Jvm.Cond.fieldLink "PrimeProofs$Line" (22 : Nat) "PrimeProofs$Line" "up" "LPrimeProofs$Rows;") ∈ lw_all := lw_g (lw_at lw_m2 236 rfl) rfl
theorem q566 : (Jvm.Cond.fieldLink "PrimeProofs$Line" (3 : Nat) "PrimeProofs$Line" "this$0" "LPrimeProofs;") ∈ lw_all := lw_g (lw_at lw_m3 3 rfl) rfl
theorem q570 : (Jvm.Cond.soleField "PrimeProofs$Line" "n") ∈ lw_all := lw_g (lw_at lw_m3 7 rfl) rfl
theorem q572 : (Jvm.Cond.soleField "PrimeProofs$Line" "sort") ∈ lw_all := lw_g (lw_at lw_m3 9 rfl) rfl
theorem q574 : (Jvm.Cond.soleField "PrimeProofs$Line" "p") ∈ lw_all := lw_g (lw_at lw_m3 11 rfl) rfl
theorem q576 : (Jvm.Cond.soleField "PrimeProofs$Line" "q") ∈ lw_all := lw_g (lw_at lw_m3 13 rfl) rfl
theorem q578 : (Jvm.Cond.soleField "PrimeProofs$Line" "down") ∈ lw_all := lw_g (lw_at lw_m3 15 rfl) rfl
theorem q580 : (Jvm.Cond.soleField "PrimeProofs$Line" "up") ∈ lw_all := lw_g (lw_at lw_m3 17 rfl) rfl
theorem q582 : (Jvm.Cond.soleField "PrimeProofs$Line" "this$0") ∈ lw_all := lw_g (lw_at lw_m3 19 rfl) rfl
theorem q658 : (Jvm.Cond.instanceMethod ({ cls := "PrimeProofs$Line", name := "isFound", desc := "()Z" } : Jvm.MethodName)) ∈ lw_all := lw_g (lw_at lw_m3 95 rfl) rfl
theorem q659 : (Jvm.Cond.sameMethod "PrimeProofs$Line" "PrimeProofs$Line" "isFound" "()Z") ∈ lw_all := lw_g (lw_at lw_m3 96 rfl) rfl
theorem q665 : (Jvm.Cond.code ({ cls := "PrimeProofs$Line", name := "isFound", desc := "()Z" } : Jvm.MethodName) prog_7_method_15_code (1 : Nat) (Option.some Jvm.ClassFile.FieldType.boolean)) ∈ lw_all := lw_g (lw_at lw_m3 102 rfl) rfl
theorem q666 : (Jvm.Cond.methodLink "PrimeProofs$Line" (133 : Nat) ({ cls := "PrimeProofs$Line", name := "lays", desc := "()V" } : Jvm.MethodName)) ∈ lw_all := lw_g (lw_at lw_m3 103 rfl) rfl
theorem q667 : (Jvm.Cond.declares ({ cls := "PrimeProofs$Line", name := "lays", desc := "()V" } : Jvm.MethodName)) ∈ lw_tbl := lw_at lw_m3 104 rfl
theorem q668 : (Jvm.Cond.sameMethod "PrimeProofs$Line" "PrimeProofs$Line" "lays" "()V") ∈ lw_all := lw_g (lw_at lw_m3 105 rfl) rfl
theorem q684 : (Jvm.Cond.fieldLink "PrimeProofs$Line" (52 : Nat) "PrimeProofs$Row" "q" "J") ∈ lw_all := lw_g (lw_at lw_m3 121 rfl) rfl
theorem q692 : (Jvm.Cond.fieldLink "PrimeProofs$Line" (91 : Nat) "PrimeProofs$Row" "base" "I") ∈ lw_all := lw_g (lw_at lw_m3 129 rfl) rfl
theorem q712 : (Jvm.Cond.declares ({ cls := "PrimeProofs$Line", name := "laysAll", desc := "(LPrimeProofs$Rows;J)V" } : Jvm.MethodName)) ∈ lw_tbl := lw_at lw_m3 149 rfl
theorem q714 : (Jvm.Cond.instanceMethod ({ cls := "PrimeProofs$Line", name := "laysAll", desc := "(LPrimeProofs$Rows;J)V" } : Jvm.MethodName)) ∈ lw_all := lw_g (lw_at lw_m3 151 rfl) rfl
theorem q715 : (Jvm.Cond.code ({ cls := "PrimeProofs$Line", name := "laysAll", desc := "(LPrimeProofs$Rows;J)V" } : Jvm.MethodName) prog_7_method_11_code (6 : Nat) (Option.none : Option Jvm.ClassFile.FieldType)) ∈ lw_all := lw_g (lw_at lw_m3 152 rfl) rfl
theorem q716 : (Jvm.Cond.methodLinkNest "PrimeProofs$Line" (122 : Nat) ({ cls := "PrimeProofs", name := "factors", desc := "(J)LPrimeProofs$Rows;" } : Jvm.MethodName) "PrimeProofs") ∈ lw_tbl := lw_at lw_m3 153 rfl
theorem q717 : (Jvm.Cond.methodLink "PrimeProofs$Line" (126 : Nat) ({ cls := "PrimeProofs$Rows", name := "adds", desc := "(LPrimeProofs$Row;)LPrimeProofs$Rows;" } : Jvm.MethodName)) ∈ lw_all := lw_g (lw_at lw_m3 154 rfl) rfl
theorem q733 : (Jvm.Cond.methodLink "PrimeProofs$Line" (136 : Nat) ({ cls := "PrimeProofs$Line", name := "findsBases", desc := "()Z" } : Jvm.MethodName)) ∈ lw_all := lw_g (lw_at lw_m3 170 rfl) rfl
theorem q734 : (Jvm.Cond.instanceMethod ({ cls := "PrimeProofs$Line", name := "findsBases", desc := "()Z" } : Jvm.MethodName)) ∈ lw_all := lw_g (lw_at lw_m3 171 rfl) rfl
theorem q735 : (Jvm.Cond.sameMethod "PrimeProofs$Line" "PrimeProofs$Line" "findsBases" "()Z") ∈ lw_all := lw_g (lw_at lw_m3 172 rfl) rfl
theorem q750 : (Jvm.Cond.declares ({ cls := "PrimeProofs$Line", name := "isOne", desc := "(LPrimeProofs$Row;)Z" } : Jvm.MethodName)) ∈ lw_tbl := lw_at lw_m3 187 rfl
theorem q754 : (Jvm.Cond.declares ({ cls := "PrimeProofs$Line", name := "isFar", desc := "(LPrimeProofs$Row;)Z" } : Jvm.MethodName)) ∈ lw_tbl := lw_at lw_m3 191 rfl
theorem q757 : (Jvm.Cond.code ({ cls := "PrimeProofs$Line", name := "findsBases", desc := "()Z" } : Jvm.MethodName) prog_7_method_13_code (3 : Nat) (Option.some Jvm.ClassFile.FieldType.boolean)) ∈ lw_all := lw_g (lw_at lw_m3 194 rfl) rfl
theorem q758 : (Jvm.Cond.methodLink "PrimeProofs$Line" (130 : Nat) ({ cls := "PrimeProofs$Line", name := "findsBase", desc := "(LPrimeProofs$Row;)Z" } : Jvm.MethodName)) ∈ lw_all := lw_g (lw_at lw_m3 195 rfl) rfl
theorem q759 : (Jvm.Cond.instanceMethod ({ cls := "PrimeProofs$Line", name := "findsBase", desc := "(LPrimeProofs$Row;)Z" } : Jvm.MethodName)) ∈ lw_all := lw_g (lw_at lw_m3 196 rfl) rfl
theorem q760 : (Jvm.Cond.sameMethod "PrimeProofs$Line" "PrimeProofs$Line" "findsBase" "(LPrimeProofs$Row;)Z") ∈ lw_all := lw_g (lw_at lw_m3 197 rfl) rfl
theorem q766 : (Jvm.Cond.code ({ cls := "PrimeProofs$Line", name := "findsBase", desc := "(LPrimeProofs$Row;)Z" } : Jvm.MethodName) prog_7_method_12_code (2 : Nat) (Option.some Jvm.ClassFile.FieldType.boolean)) ∈ lw_all := lw_g (lw_at lw_m3 203 rfl) rfl
theorem q767 : (Jvm.Cond.methodLink "PrimeProofs$Line" (139 : Nat) ({ cls := "PrimeProofs$Line", name := "findsPair", desc := "()Z" } : Jvm.MethodName)) ∈ lw_all := lw_g (lw_at lw_m3 204 rfl) rfl
theorem q768 : (Jvm.Cond.instanceMethod ({ cls := "PrimeProofs$Line", name := "findsPair", desc := "()Z" } : Jvm.MethodName)) ∈ lw_all := lw_g (lw_at lw_m3 205 rfl) rfl
theorem q769 : (Jvm.Cond.sameMethod "PrimeProofs$Line" "PrimeProofs$Line" "findsPair" "()Z") ∈ lw_all := lw_g (lw_at lw_m3 206 rfl) rfl
theorem q775 : (Jvm.Cond.code ({ cls := "PrimeProofs$Line", name := "findsPair", desc := "()Z" } : Jvm.MethodName) prog_7_method_14_code (1 : Nat) (Option.some Jvm.ClassFile.FieldType.boolean)) ∈ lw_all := lw_g (lw_at lw_m3 212 rfl) rfl
theorem q2199 : (Jvm.Cond.sameMethod "PrimeProofs$Line" "PrimeProofs$Line" "isBacked" "(LPrimeProofs$Rows;I)Z") ∈ lw_all := lw_g (lw_at lw_m9 196 rfl) rfl

/-! PrimeProofs$Small -/
set_option maxRecDepth 100000
def RX7 : String := "PrimeProofs$Small"
def TX7 : u_T := fun k => match k with
  | 0 => ("PrimeProofs$Line", "n", "J", false)
  | 1 => ("PrimeProofs$Line", "sort", "I", true)
  | 2 => ("PrimeProofs$Line", "p", "I", false)
  | 3 => ("PrimeProofs$Line", "q", "I", false)
  | 4 => ("PrimeProofs$Line", "down", "LPrimeProofs$Rows;", true)
  | 5 => ("PrimeProofs$Line", "up", "LPrimeProofs$Rows;", true)
  | 6 => ("PrimeProofs$Line", "this$0", "LPrimeProofs;", true)
  | _ => ("PrimeProofs$Small", "this$0", "LPrimeProofs;", true)
def tyX7 : Nat → FieldType := fun k => match k with
  | 0 => .long
  | 1 => .int
  | 2 => .int
  | 3 => .int
  | 4 => .object "PrimeProofs$Rows"
  | 5 => .object "PrimeProofs$Rows"
  | 6 => .object "PrimeProofs"
  | _ => .object "PrimeProofs"
abbrev wsX70 : List Cond := u_ws RX7 TX7 8
-- two fields of one name: no nmX7
theorem tyX7_ok : ∀ k, k < 8 → parseFieldDescriptor (TX7 k).2.2.1 = some (tyX7 k) := by decide +kernel
abbrev cX7_isWhole : ByteArray := prog_15_method_2_code
def yX7_isWhole : MethodName := ⟨RX7, "isWhole", "()Z"⟩
theorem dX7_isWhole_0 : decode cX7_isWhole 0 = .ok (.iconst 1, 1) := by decide +kernel
theorem dX7_isWhole_1 : decode cX7_isWhole 1 = .ok (.ireturn, 1) := by decide +kernel
abbrev cX7_init : ByteArray := prog_15_method_1_code
def yX7_init : MethodName := ⟨RX7, "<init>", "(LPrimeProofs;J)V"⟩
def dkwX7_init_0 : List UInt8 := [42, 43, 181, 0, 3, 42, 43, 32, 3, 183, 0, 9, 177]
abbrev dktX7_init_0 : List UInt8 := dkwX7_init_0 ++ []
theorem dksX7_init_0 : cX7_init.data.toList.drop 0 = dktX7_init_0 := by decide +kernel
theorem dX7_init_0 : decode cX7_init 0 = .ok (.aload_n 0, 1) := dk_42 (dk_at dksX7_init_0 0 rfl rfl)
theorem dX7_init_1 : decode cX7_init 1 = .ok (.aload_n 1, 1) := dk_43 (dk_at dksX7_init_0 1 rfl rfl)
theorem dX7_init_2 : decode cX7_init 2 = .ok (.putfield 3, 3) := dk_181 0 3 (dk_at dksX7_init_0 2 rfl rfl)
theorem dX7_init_5 : decode cX7_init 5 = .ok (.aload_n 0, 1) := dk_42 (dk_at dksX7_init_0 5 rfl rfl)
theorem dX7_init_6 : decode cX7_init 6 = .ok (.aload_n 1, 1) := dk_43 (dk_at dksX7_init_0 6 rfl rfl)
theorem dX7_init_7 : decode cX7_init 7 = .ok (.lload_n 2, 1) := dk_32 (dk_at dksX7_init_0 7 rfl rfl)
theorem dX7_init_8 : decode cX7_init 8 = .ok (.iconst 0, 1) := dk_3 (dk_at dksX7_init_0 8 rfl rfl)
theorem dX7_init_9 : decode cX7_init 9 = .ok (.invokespecial 9, 3) := dk_183 0 9 (dk_at dksX7_init_0 9 rfl rfl)
theorem dX7_init_12 : decode cX7_init 12 = .ok (.return_, 1) := dk_177 (dk_at dksX7_init_0 12 rfl rfl)
abbrev cX7_lays : ByteArray := prog_15_method_3_code
def yX7_lays : MethodName := ⟨RX7, "lays", "()V"⟩
theorem dX7_lays_0 : decode cX7_lays 0 = .ok (.return_, 1) := by decide +kernel
theorem q97 : (Jvm.Cond.initialized "PrimeProofs$Small") ∈ lw_all := lw_g (lw_at lw_m1 14 rfl) rfl
theorem q230 : (Jvm.Cond.selects "PrimeProofs$Small" ({ cls := "PrimeProofs$Line", name := "fault", desc := "(I)I" } : Jvm.MethodName) ({ cls := "PrimeProofs$Line", name := "fault", desc := "(I)I" } : Jvm.MethodName)) ∈ lw_all := lw_g (lw_at lw_m1 147 rfl) rfl
theorem q337 : (Jvm.Cond.selects "PrimeProofs$Small" ({ cls := "PrimeProofs$Line", name := "isWhole", desc := "()Z" } : Jvm.MethodName) ({ cls := "PrimeProofs$Small", name := "isWhole", desc := "()Z" } : Jvm.MethodName)) ∈ lw_all := lw_g (lw_at lw_m2 14 rfl) rfl
theorem q338 : (Jvm.Cond.instanceMethod ({ cls := "PrimeProofs$Small", name := "isWhole", desc := "()Z" } : Jvm.MethodName)) ∈ lw_all := lw_g (lw_at lw_m2 15 rfl) rfl
theorem q339 : (Jvm.Cond.code ({ cls := "PrimeProofs$Small", name := "isWhole", desc := "()Z" } : Jvm.MethodName) prog_15_method_2_code (1 : Nat) (Option.some Jvm.ClassFile.FieldType.boolean)) ∈ lw_all := lw_g (lw_at lw_m2 16 rfl) rfl
theorem q356 : (Jvm.Cond.selects "PrimeProofs$Small" ({ cls := "PrimeProofs$Line", name := "isEnough", desc := "()Z" } : Jvm.MethodName) ({ cls := "PrimeProofs$Line", name := "isEnough", desc := "()Z" } : Jvm.MethodName)) ∈ lw_all := lw_g (lw_at lw_m2 33 rfl) rfl
theorem q365 : (Jvm.Cond.selects "PrimeProofs$Small" ({ cls := "PrimeProofs$Line", name := "isOne", desc := "(LPrimeProofs$Row;)Z" } : Jvm.MethodName) ({ cls := "PrimeProofs$Line", name := "isOne", desc := "(LPrimeProofs$Row;)Z" } : Jvm.MethodName)) ∈ lw_all := lw_g (lw_at lw_m2 42 rfl) rfl
theorem q438 : (Jvm.Cond.selects "PrimeProofs$Small" ({ cls := "PrimeProofs$Line", name := "isFar", desc := "(LPrimeProofs$Row;)Z" } : Jvm.MethodName) ({ cls := "PrimeProofs$Line", name := "isFar", desc := "(LPrimeProofs$Row;)Z" } : Jvm.MethodName)) ∈ lw_all := lw_g (lw_at lw_m2 115 rfl) rfl
theorem q449 : (Jvm.Cond.selects "PrimeProofs$Small" ({ cls := "PrimeProofs$Line", name := "hasPair", desc := "()Z" } : Jvm.MethodName) ({ cls := "PrimeProofs$Line", name := "hasPair", desc := "()Z" } : Jvm.MethodName)) ∈ lw_all := lw_g (lw_at lw_m2 126 rfl) rfl
theorem q458 : (Jvm.Cond.selects "PrimeProofs$Small" ({ cls := "PrimeProofs$Line", name := "pairFault", desc := "()I" } : Jvm.MethodName) ({ cls := "PrimeProofs$Line", name := "pairFault", desc := "()I" } : Jvm.MethodName)) ∈ lw_all := lw_g (lw_at lw_m2 135 rfl) rfl
theorem q500 : (Jvm.Cond.instantiable "PrimeProofs$Small" (8 : Nat)) ∈ lw_all := lw_g (lw_at lw_m2 177 rfl) rfl
theorem q502 : (Jvm.Cond.instanceMethod ({ cls := "PrimeProofs$Small", name := "<init>", desc := "(LPrimeProofs;J)V" } : Jvm.MethodName)) ∈ lw_all := lw_g (lw_at lw_m2 179 rfl) rfl
theorem q503 : (Jvm.Cond.code ({ cls := "PrimeProofs$Small", name := "<init>", desc := "(LPrimeProofs;J)V" } : Jvm.MethodName) prog_15_method_1_code (4 : Nat) (Option.none : Option Jvm.ClassFile.FieldType)) ∈ lw_all := lw_g (lw_at lw_m2 180 rfl) rfl
theorem q504 : (Jvm.Cond.methodLink "PrimeProofs$Small" (9 : Nat) ({ cls := "PrimeProofs$Line", name := "<init>", desc := "(LPrimeProofs;JI)V" } : Jvm.MethodName)) ∈ lw_all := lw_g (lw_at lw_m2 181 rfl) rfl
theorem q531 : (Jvm.Cond.fieldLink "PrimeProofs$Small" (3 : Nat) "PrimeProofs$Small" "this$0" "LPrimeProofs;") ∈ lw_all := lw_g (lw_at lw_m2 208 rfl) rfl
theorem q567 : (Jvm.Cond.laysFinal "PrimeProofs$Small" "PrimeProofs$Small" "this$0" "LPrimeProofs;") ∈ lw_all := lw_g (lw_at lw_m3 4 rfl) rfl
theorem q568 : (Jvm.Cond.soleField "PrimeProofs$Small" "this$0") ∈ lw_all := lw_g (lw_at lw_m3 5 rfl) rfl
theorem q569 : (Jvm.Cond.lays "PrimeProofs$Small" "PrimeProofs$Line" "n" "J") ∈ lw_all := lw_g (lw_at lw_m3 6 rfl) rfl
theorem q571 : (Jvm.Cond.laysFinal "PrimeProofs$Small" "PrimeProofs$Line" "sort" "I") ∈ lw_all := lw_g (lw_at lw_m3 8 rfl) rfl
theorem q573 : (Jvm.Cond.lays "PrimeProofs$Small" "PrimeProofs$Line" "p" "I") ∈ lw_all := lw_g (lw_at lw_m3 10 rfl) rfl
theorem q575 : (Jvm.Cond.lays "PrimeProofs$Small" "PrimeProofs$Line" "q" "I") ∈ lw_all := lw_g (lw_at lw_m3 12 rfl) rfl
theorem q577 : (Jvm.Cond.laysFinal "PrimeProofs$Small" "PrimeProofs$Line" "down" "LPrimeProofs$Rows;") ∈ lw_all := lw_g (lw_at lw_m3 14 rfl) rfl
theorem q579 : (Jvm.Cond.laysFinal "PrimeProofs$Small" "PrimeProofs$Line" "up" "LPrimeProofs$Rows;") ∈ lw_all := lw_g (lw_at lw_m3 16 rfl) rfl
theorem q581 : (Jvm.Cond.laysFinal "PrimeProofs$Small" "PrimeProofs$Line" "this$0" "LPrimeProofs;") ∈ lw_all := lw_g (lw_at lw_m3 18 rfl) rfl
theorem q583 : (Jvm.Cond.superclass "PrimeProofs$Small" "PrimeProofs$Line") ∈ lw_all := lw_g (lw_at lw_m3 20 rfl) rfl
theorem q664 : (Jvm.Cond.selects "PrimeProofs$Small" ({ cls := "PrimeProofs$Line", name := "isFound", desc := "()Z" } : Jvm.MethodName) ({ cls := "PrimeProofs$Line", name := "isFound", desc := "()Z" } : Jvm.MethodName)) ∈ lw_all := lw_g (lw_at lw_m3 101 rfl) rfl
theorem q730 : (Jvm.Cond.selects "PrimeProofs$Small" ({ cls := "PrimeProofs$Line", name := "lays", desc := "()V" } : Jvm.MethodName) ({ cls := "PrimeProofs$Small", name := "lays", desc := "()V" } : Jvm.MethodName)) ∈ lw_all := lw_g (lw_at lw_m3 167 rfl) rfl
theorem q731 : (Jvm.Cond.instanceMethod ({ cls := "PrimeProofs$Small", name := "lays", desc := "()V" } : Jvm.MethodName)) ∈ lw_all := lw_g (lw_at lw_m3 168 rfl) rfl
theorem q732 : (Jvm.Cond.code ({ cls := "PrimeProofs$Small", name := "lays", desc := "()V" } : Jvm.MethodName) prog_15_method_3_code (1 : Nat) (Option.none : Option Jvm.ClassFile.FieldType)) ∈ lw_all := lw_g (lw_at lw_m3 169 rfl) rfl
theorem q756 : (Jvm.Cond.selects "PrimeProofs$Small" ({ cls := "PrimeProofs$Line", name := "findsBases", desc := "()Z" } : Jvm.MethodName) ({ cls := "PrimeProofs$Line", name := "findsBases", desc := "()Z" } : Jvm.MethodName)) ∈ lw_all := lw_g (lw_at lw_m3 193 rfl) rfl
theorem q765 : (Jvm.Cond.selects "PrimeProofs$Small" ({ cls := "PrimeProofs$Line", name := "findsBase", desc := "(LPrimeProofs$Row;)Z" } : Jvm.MethodName) ({ cls := "PrimeProofs$Line", name := "findsBase", desc := "(LPrimeProofs$Row;)Z" } : Jvm.MethodName)) ∈ lw_all := lw_g (lw_at lw_m3 202 rfl) rfl
theorem q774 : (Jvm.Cond.selects "PrimeProofs$Small" ({ cls := "PrimeProofs$Line", name := "findsPair", desc := "()Z" } : Jvm.MethodName) ({ cls := "PrimeProofs$Line", name := "findsPair", desc := "()Z" } : Jvm.MethodName)) ∈ lw_all := lw_g (lw_at lw_m3 211 rfl) rfl
theorem q838 : (Jvm.Cond.selects "PrimeProofs$Small" ({ cls := "java/lang/Object", name := "getClass", desc := "()Ljava/lang/Class;" } : Jvm.MethodName) ({ cls := "java/lang/Object", name := "getClass", desc := "()Ljava/lang/Class;" } : Jvm.MethodName)) ∈ lw_all := lw_g (lw_at lw_m4 35 rfl) rfl
theorem q2218 : (Jvm.Cond.castable "PrimeProofs$Small" "PrimeProofs$Line") ∈ lw_tbl := lw_at lw_m9 215 rfl
theorem q2226 : (Jvm.Cond.castable "PrimeProofs$Small" "java/lang/Object") ∈ lw_tbl := lw_at lw_m9 223 rfl
theorem in_X7 : ∀ w ∈ wsX70, w ∈ lw_all := lw_in wsX70 [569, 571, 573, 575, 577, 579, 581, 567] (by decide +kernel) (by decide +kernel)

/-! PrimeProofs$Rows -/
set_option maxRecDepth 100000
def RX8 : String := "PrimeProofs$Rows"
def TX8 : u_T := fun k => match k with
  | 0 => ("PrimeProofs$Rows", "row", "[LPrimeProofs$Row;", true)
  | _ => ("PrimeProofs$Rows", "many", "I", false)
def tyX8 : Nat → FieldType := fun k => match k with
  | 0 => .array (.object "PrimeProofs$Row")
  | _ => .int
abbrev wsX80 : List Cond := u_ws RX8 TX8 2
theorem nmX8 : ∀ a, a < 2 → ∀ b, b < 2 → a ≠ b → (TX8 a).2.1 ≠ (TX8 b).2.1 := by decide +kernel
theorem tyX8_ok : ∀ k, k < 2 → parseFieldDescriptor (TX8 k).2.2.1 = some (tyX8 k) := by decide +kernel
abbrev cX8_hasTwice : ByteArray := prog_13_method_6_code
def yX8_hasTwice : MethodName := ⟨RX8, "hasTwice", "()Z"⟩
def dkwX8_hasTwice_2 : List UInt8 := [132, 1, 1, 167, 255, 208, 3, 172]
abbrev dktX8_hasTwice_2 : List UInt8 := dkwX8_hasTwice_2 ++ []
def dkwX8_hasTwice_1 : List UInt8 := [180, 0, 45, 42, 180, 0, 11, 28, 50, 180, 0, 45, 148, 154, 0, 5, 4, 172, 132, 2, 1, 167, 255, 224]
abbrev dktX8_hasTwice_1 : List UInt8 := dkwX8_hasTwice_1 ++ dktX8_hasTwice_2
def dkwX8_hasTwice_0 : List UInt8 := [3, 60, 27, 42, 180, 0, 22, 162, 0, 46, 3, 61, 28, 27, 162, 0, 33, 42, 180, 0, 11, 27, 50]
abbrev dktX8_hasTwice_0 : List UInt8 := dkwX8_hasTwice_0 ++ dktX8_hasTwice_1
theorem dksX8_hasTwice_0 : cX8_hasTwice.data.toList.drop 0 = dktX8_hasTwice_0 := by decide +kernel
theorem dksX8_hasTwice_1 : cX8_hasTwice.data.toList.drop 23 = dktX8_hasTwice_1 := dk_seg dksX8_hasTwice_0 23 rfl rfl
theorem dksX8_hasTwice_2 : cX8_hasTwice.data.toList.drop 47 = dktX8_hasTwice_2 := dk_seg dksX8_hasTwice_1 24 rfl rfl
theorem dX8_hasTwice_0 : decode cX8_hasTwice 0 = .ok (.iconst 0, 1) := dk_3 (dk_at dksX8_hasTwice_0 0 rfl rfl)
theorem dX8_hasTwice_1 : decode cX8_hasTwice 1 = .ok (.istore_n 1, 1) := dk_60 (dk_at dksX8_hasTwice_0 1 rfl rfl)
theorem dX8_hasTwice_2 : decode cX8_hasTwice 2 = .ok (.iload_n 1, 1) := dk_27 (dk_at dksX8_hasTwice_0 2 rfl rfl)
theorem dX8_hasTwice_3 : decode cX8_hasTwice 3 = .ok (.aload_n 0, 1) := dk_42 (dk_at dksX8_hasTwice_0 3 rfl rfl)
theorem dX8_hasTwice_4 : decode cX8_hasTwice 4 = .ok (.getfield 22, 3) := dk_180 0 22 (dk_at dksX8_hasTwice_0 4 rfl rfl)
theorem dX8_hasTwice_7 : decode cX8_hasTwice 7 = .ok (.if_icmp .ge 46, 3) := dk_162 0 46 (dk_at dksX8_hasTwice_0 7 rfl rfl)
theorem dX8_hasTwice_10 : decode cX8_hasTwice 10 = .ok (.iconst 0, 1) := dk_3 (dk_at dksX8_hasTwice_0 10 rfl rfl)
theorem dX8_hasTwice_11 : decode cX8_hasTwice 11 = .ok (.istore_n 2, 1) := dk_61 (dk_at dksX8_hasTwice_0 11 rfl rfl)
theorem dX8_hasTwice_12 : decode cX8_hasTwice 12 = .ok (.iload_n 2, 1) := dk_28 (dk_at dksX8_hasTwice_0 12 rfl rfl)
theorem dX8_hasTwice_13 : decode cX8_hasTwice 13 = .ok (.iload_n 1, 1) := dk_27 (dk_at dksX8_hasTwice_0 13 rfl rfl)
theorem dX8_hasTwice_14 : decode cX8_hasTwice 14 = .ok (.if_icmp .ge 33, 3) := dk_162 0 33 (dk_at dksX8_hasTwice_0 14 rfl rfl)
theorem dX8_hasTwice_17 : decode cX8_hasTwice 17 = .ok (.aload_n 0, 1) := dk_42 (dk_at dksX8_hasTwice_0 17 rfl rfl)
theorem dX8_hasTwice_18 : decode cX8_hasTwice 18 = .ok (.getfield 11, 3) := dk_180 0 11 (dk_at dksX8_hasTwice_0 18 rfl rfl)
theorem dX8_hasTwice_21 : decode cX8_hasTwice 21 = .ok (.iload_n 1, 1) := dk_27 (dk_at dksX8_hasTwice_0 21 rfl rfl)
theorem dX8_hasTwice_22 : decode cX8_hasTwice 22 = .ok (.aaload, 1) := dk_50 (dk_at dksX8_hasTwice_0 22 rfl rfl)
theorem dX8_hasTwice_23 : decode cX8_hasTwice 23 = .ok (.getfield 45, 3) := dk_180 0 45 (dk_at dksX8_hasTwice_1 0 rfl rfl)
theorem dX8_hasTwice_26 : decode cX8_hasTwice 26 = .ok (.aload_n 0, 1) := dk_42 (dk_at dksX8_hasTwice_1 3 rfl rfl)
theorem dX8_hasTwice_27 : decode cX8_hasTwice 27 = .ok (.getfield 11, 3) := dk_180 0 11 (dk_at dksX8_hasTwice_1 4 rfl rfl)
theorem dX8_hasTwice_30 : decode cX8_hasTwice 30 = .ok (.iload_n 2, 1) := dk_28 (dk_at dksX8_hasTwice_1 7 rfl rfl)
theorem dX8_hasTwice_31 : decode cX8_hasTwice 31 = .ok (.aaload, 1) := dk_50 (dk_at dksX8_hasTwice_1 8 rfl rfl)
theorem dX8_hasTwice_32 : decode cX8_hasTwice 32 = .ok (.getfield 45, 3) := dk_180 0 45 (dk_at dksX8_hasTwice_1 9 rfl rfl)
theorem dX8_hasTwice_35 : decode cX8_hasTwice 35 = .ok (.lcmp, 1) := dk_148 (dk_at dksX8_hasTwice_1 12 rfl rfl)
theorem dX8_hasTwice_36 : decode cX8_hasTwice 36 = .ok (.ifCond .ne 5, 3) := dk_154 0 5 (dk_at dksX8_hasTwice_1 13 rfl rfl)
theorem dX8_hasTwice_39 : decode cX8_hasTwice 39 = .ok (.iconst 1, 1) := dk_4 (dk_at dksX8_hasTwice_1 16 rfl rfl)
theorem dX8_hasTwice_40 : decode cX8_hasTwice 40 = .ok (.ireturn, 1) := dk_172 (dk_at dksX8_hasTwice_1 17 rfl rfl)
theorem dX8_hasTwice_41 : decode cX8_hasTwice 41 = .ok (.iinc 2 1, 3) := dk_132 2 1 (dk_at dksX8_hasTwice_1 18 rfl rfl)
theorem dX8_hasTwice_44 : decode cX8_hasTwice 44 = .ok (.goto (-32), 3) := dk_167 255 224 (dk_at dksX8_hasTwice_1 21 rfl rfl)
theorem dX8_hasTwice_47 : decode cX8_hasTwice 47 = .ok (.iinc 1 1, 3) := dk_132 1 1 (dk_at dksX8_hasTwice_2 0 rfl rfl)
theorem dX8_hasTwice_50 : decode cX8_hasTwice 50 = .ok (.goto (-48), 3) := dk_167 255 208 (dk_at dksX8_hasTwice_2 3 rfl rfl)
theorem dX8_hasTwice_53 : decode cX8_hasTwice 53 = .ok (.iconst 0, 1) := dk_3 (dk_at dksX8_hasTwice_2 6 rfl rfl)
theorem dX8_hasTwice_54 : decode cX8_hasTwice 54 = .ok (.ireturn, 1) := dk_172 (dk_at dksX8_hasTwice_2 7 rfl rfl)
abbrev cX8_iterator : ByteArray := prog_13_method_2_code
def yX8_iterator : MethodName := ⟨RX8, "iterator", "()Ljava/util/Iterator;"⟩
def dkwX8_iterator_0 : List UInt8 := [187, 0, 17, 89, 42, 183, 0, 19, 176]
abbrev dktX8_iterator_0 : List UInt8 := dkwX8_iterator_0 ++ []
theorem dksX8_iterator_0 : cX8_iterator.data.toList.drop 0 = dktX8_iterator_0 := by decide +kernel
theorem dX8_iterator_0 : decode cX8_iterator 0 = .ok (.new 17, 3) := dk_187 0 17 (dk_at dksX8_iterator_0 0 rfl rfl)
theorem dX8_iterator_3 : decode cX8_iterator 3 = .ok (.dup, 1) := dk_89 (dk_at dksX8_iterator_0 3 rfl rfl)
theorem dX8_iterator_4 : decode cX8_iterator 4 = .ok (.aload_n 0, 1) := dk_42 (dk_at dksX8_iterator_0 4 rfl rfl)
theorem dX8_iterator_5 : decode cX8_iterator 5 = .ok (.invokespecial 19, 3) := dk_183 0 19 (dk_at dksX8_iterator_0 5 rfl rfl)
theorem dX8_iterator_8 : decode cX8_iterator 8 = .ok (.areturn, 1) := dk_176 (dk_at dksX8_iterator_0 8 rfl rfl)
abbrev cX8_product : ByteArray := prog_13_method_5_code
def yX8_product : MethodName := ⟨RX8, "product", "()J"⟩
def dkwX8_product_2 : List UInt8 := [180, 0, 45, 105, 184, 0, 49, 64, 132, 5, 1, 167, 255, 229, 167, 255, 203, 31, 173]
abbrev dktX8_product_2 : List UInt8 := dkwX8_product_2 ++ []
def dkwX8_product_1 : List UInt8 := [192, 0, 9, 58, 4, 3, 54, 5, 21, 5, 25, 4, 180, 0, 40, 162, 0, 23, 20, 0, 43, 31, 25, 4]
abbrev dktX8_product_1 : List UInt8 := dkwX8_product_1 ++ dktX8_product_2
def dkwX8_product_0 : List UInt8 := [10, 64, 42, 182, 0, 26, 78, 45, 185, 0, 30, 1, 0, 153, 0, 50, 45, 185, 0, 36, 1, 0]
abbrev dktX8_product_0 : List UInt8 := dkwX8_product_0 ++ dktX8_product_1
theorem dksX8_product_0 : cX8_product.data.toList.drop 0 = dktX8_product_0 := by decide +kernel
theorem dksX8_product_1 : cX8_product.data.toList.drop 22 = dktX8_product_1 := dk_seg dksX8_product_0 22 rfl rfl
theorem dksX8_product_2 : cX8_product.data.toList.drop 46 = dktX8_product_2 := dk_seg dksX8_product_1 24 rfl rfl
theorem dX8_product_0 : decode cX8_product 0 = .ok (.lconst 1, 1) := dk_10 (dk_at dksX8_product_0 0 rfl rfl)
theorem dX8_product_1 : decode cX8_product 1 = .ok (.lstore_n 1, 1) := dk_64 (dk_at dksX8_product_0 1 rfl rfl)
theorem dX8_product_2 : decode cX8_product 2 = .ok (.aload_n 0, 1) := dk_42 (dk_at dksX8_product_0 2 rfl rfl)
theorem dX8_product_3 : decode cX8_product 3 = .ok (.invokevirtual 26, 3) := dk_182 0 26 (dk_at dksX8_product_0 3 rfl rfl)
theorem dX8_product_6 : decode cX8_product 6 = .ok (.astore_n 3, 1) := dk_78 (dk_at dksX8_product_0 6 rfl rfl)
theorem dX8_product_7 : decode cX8_product 7 = .ok (.aload_n 3, 1) := dk_45 (dk_at dksX8_product_0 7 rfl rfl)
theorem dX8_product_8 : decode cX8_product 8 = .ok (.invokeinterface 30 1, 5) := by decide +kernel
theorem dX8_product_13 : decode cX8_product 13 = .ok (.ifCond .eq 50, 3) := dk_153 0 50 (dk_at dksX8_product_0 13 rfl rfl)
theorem dX8_product_16 : decode cX8_product 16 = .ok (.aload_n 3, 1) := dk_45 (dk_at dksX8_product_0 16 rfl rfl)
theorem dX8_product_17 : decode cX8_product 17 = .ok (.invokeinterface 36 1, 5) := by decide +kernel
theorem dX8_product_22 : decode cX8_product 22 = .ok (.checkcast 9, 3) := dk_192 0 9 (dk_at dksX8_product_1 0 rfl rfl)
theorem dX8_product_25 : decode cX8_product 25 = .ok (.astore 4, 2) := dk_58 4 (dk_at dksX8_product_1 3 rfl rfl)
theorem dX8_product_27 : decode cX8_product 27 = .ok (.iconst 0, 1) := dk_3 (dk_at dksX8_product_1 5 rfl rfl)
theorem dX8_product_28 : decode cX8_product 28 = .ok (.istore 5, 2) := dk_54 5 (dk_at dksX8_product_1 6 rfl rfl)
theorem dX8_product_30 : decode cX8_product 30 = .ok (.iload 5, 2) := dk_21 5 (dk_at dksX8_product_1 8 rfl rfl)
theorem dX8_product_32 : decode cX8_product 32 = .ok (.aload 4, 2) := dk_25 4 (dk_at dksX8_product_1 10 rfl rfl)
theorem dX8_product_34 : decode cX8_product 34 = .ok (.getfield 40, 3) := dk_180 0 40 (dk_at dksX8_product_1 12 rfl rfl)
theorem dX8_product_37 : decode cX8_product 37 = .ok (.if_icmp .ge 23, 3) := dk_162 0 23 (dk_at dksX8_product_1 15 rfl rfl)
theorem dX8_product_40 : decode cX8_product 40 = .ok (.ldc2_w 43, 3) := dk_20 0 43 (dk_at dksX8_product_1 18 rfl rfl)
theorem dX8_product_43 : decode cX8_product 43 = .ok (.lload_n 1, 1) := dk_31 (dk_at dksX8_product_1 21 rfl rfl)
theorem dX8_product_44 : decode cX8_product 44 = .ok (.aload 4, 2) := dk_25 4 (dk_at dksX8_product_1 22 rfl rfl)
theorem dX8_product_46 : decode cX8_product 46 = .ok (.getfield 45, 3) := dk_180 0 45 (dk_at dksX8_product_2 0 rfl rfl)
theorem dX8_product_49 : decode cX8_product 49 = .ok (.lmul, 1) := dk_105 (dk_at dksX8_product_2 3 rfl rfl)
theorem dX8_product_50 : decode cX8_product 50 = .ok (.invokestatic 49, 3) := dk_184 0 49 (dk_at dksX8_product_2 4 rfl rfl)
theorem dX8_product_53 : decode cX8_product 53 = .ok (.lstore_n 1, 1) := dk_64 (dk_at dksX8_product_2 7 rfl rfl)
theorem dX8_product_54 : decode cX8_product 54 = .ok (.iinc 5 1, 3) := dk_132 5 1 (dk_at dksX8_product_2 8 rfl rfl)
theorem dX8_product_57 : decode cX8_product 57 = .ok (.goto (-27), 3) := dk_167 255 229 (dk_at dksX8_product_2 11 rfl rfl)
theorem dX8_product_60 : decode cX8_product 60 = .ok (.goto (-53), 3) := dk_167 255 203 (dk_at dksX8_product_2 14 rfl rfl)
theorem dX8_product_63 : decode cX8_product 63 = .ok (.lload_n 1, 1) := dk_31 (dk_at dksX8_product_2 17 rfl rfl)
theorem dX8_product_64 : decode cX8_product 64 = .ok (.lreturn, 1) := dk_173 (dk_at dksX8_product_2 18 rfl rfl)
abbrev cX8_init : ByteArray := prog_13_method_1_code
def yX8_init : MethodName := ⟨RX8, "<init>", "()V"⟩
def dkwX8_init_0 : List UInt8 := [42, 183, 0, 3, 42, 16, 9, 189, 0, 9, 181, 0, 11, 177]
abbrev dktX8_init_0 : List UInt8 := dkwX8_init_0 ++ []
theorem dksX8_init_0 : cX8_init.data.toList.drop 0 = dktX8_init_0 := by decide +kernel
theorem dX8_init_0 : decode cX8_init 0 = .ok (.aload_n 0, 1) := dk_42 (dk_at dksX8_init_0 0 rfl rfl)
theorem dX8_init_1 : decode cX8_init 1 = .ok (.invokespecial 3, 3) := dk_183 0 3 (dk_at dksX8_init_0 1 rfl rfl)
theorem dX8_init_4 : decode cX8_init 4 = .ok (.aload_n 0, 1) := dk_42 (dk_at dksX8_init_0 4 rfl rfl)
theorem dX8_init_5 : decode cX8_init 5 = .ok (.bipush 9, 2) := dk_16 9 (dk_at dksX8_init_0 5 rfl rfl)
theorem dX8_init_7 : decode cX8_init 7 = .ok (.anewarray 9, 3) := dk_189 0 9 (dk_at dksX8_init_0 7 rfl rfl)
theorem dX8_init_10 : decode cX8_init 10 = .ok (.putfield 11, 3) := dk_181 0 11 (dk_at dksX8_init_0 10 rfl rfl)
theorem dX8_init_13 : decode cX8_init 13 = .ok (.return_, 1) := dk_177 (dk_at dksX8_init_0 13 rfl rfl)
abbrev cX8_adds : ByteArray := prog_13_method_3_code
def yX8_adds : MethodName := ⟨RX8, "adds", "(LPrimeProofs$Row;)LPrimeProofs$Rows;"⟩
def dkwX8_adds_0 : List UInt8 := [42, 180, 0, 11, 42, 180, 0, 22, 43, 83, 42, 89, 180, 0, 22, 4, 96, 181, 0, 22, 42, 176]
abbrev dktX8_adds_0 : List UInt8 := dkwX8_adds_0 ++ []
theorem dksX8_adds_0 : cX8_adds.data.toList.drop 0 = dktX8_adds_0 := by decide +kernel
theorem dX8_adds_0 : decode cX8_adds 0 = .ok (.aload_n 0, 1) := dk_42 (dk_at dksX8_adds_0 0 rfl rfl)
theorem dX8_adds_1 : decode cX8_adds 1 = .ok (.getfield 11, 3) := dk_180 0 11 (dk_at dksX8_adds_0 1 rfl rfl)
theorem dX8_adds_4 : decode cX8_adds 4 = .ok (.aload_n 0, 1) := dk_42 (dk_at dksX8_adds_0 4 rfl rfl)
theorem dX8_adds_5 : decode cX8_adds 5 = .ok (.getfield 22, 3) := dk_180 0 22 (dk_at dksX8_adds_0 5 rfl rfl)
theorem dX8_adds_8 : decode cX8_adds 8 = .ok (.aload_n 1, 1) := dk_43 (dk_at dksX8_adds_0 8 rfl rfl)
theorem dX8_adds_9 : decode cX8_adds 9 = .ok (.aastore, 1) := dk_83 (dk_at dksX8_adds_0 9 rfl rfl)
theorem dX8_adds_10 : decode cX8_adds 10 = .ok (.aload_n 0, 1) := dk_42 (dk_at dksX8_adds_0 10 rfl rfl)
theorem dX8_adds_11 : decode cX8_adds 11 = .ok (.dup, 1) := dk_89 (dk_at dksX8_adds_0 11 rfl rfl)
theorem dX8_adds_12 : decode cX8_adds 12 = .ok (.getfield 22, 3) := dk_180 0 22 (dk_at dksX8_adds_0 12 rfl rfl)
theorem dX8_adds_15 : decode cX8_adds 15 = .ok (.iconst 1, 1) := dk_4 (dk_at dksX8_adds_0 15 rfl rfl)
theorem dX8_adds_16 : decode cX8_adds 16 = .ok (.iadd, 1) := dk_96 (dk_at dksX8_adds_0 16 rfl rfl)
theorem dX8_adds_17 : decode cX8_adds 17 = .ok (.putfield 22, 3) := dk_181 0 22 (dk_at dksX8_adds_0 17 rfl rfl)
theorem dX8_adds_20 : decode cX8_adds 20 = .ok (.aload_n 0, 1) := dk_42 (dk_at dksX8_adds_0 20 rfl rfl)
theorem dX8_adds_21 : decode cX8_adds 21 = .ok (.areturn, 1) := dk_176 (dk_at dksX8_adds_0 21 rfl rfl)
abbrev cX8_cuts : ByteArray := prog_13_method_4_code
def yX8_cuts : MethodName := ⟨RX8, "cuts", "(I)V"⟩
def dkwX8_cuts_1 : List UInt8 := [50, 83, 132, 2, 1, 167, 255, 231, 42, 89, 180, 0, 22, 4, 100, 181, 0, 22, 177]
abbrev dktX8_cuts_1 : List UInt8 := dkwX8_cuts_1 ++ []
def dkwX8_cuts_0 : List UInt8 := [27, 4, 96, 61, 28, 42, 180, 0, 22, 162, 0, 23, 42, 180, 0, 11, 28, 4, 100, 42, 180, 0, 11, 28]
abbrev dktX8_cuts_0 : List UInt8 := dkwX8_cuts_0 ++ dktX8_cuts_1
theorem dksX8_cuts_0 : cX8_cuts.data.toList.drop 0 = dktX8_cuts_0 := by decide +kernel
theorem dksX8_cuts_1 : cX8_cuts.data.toList.drop 24 = dktX8_cuts_1 := dk_seg dksX8_cuts_0 24 rfl rfl
theorem dX8_cuts_0 : decode cX8_cuts 0 = .ok (.iload_n 1, 1) := dk_27 (dk_at dksX8_cuts_0 0 rfl rfl)
theorem dX8_cuts_1 : decode cX8_cuts 1 = .ok (.iconst 1, 1) := dk_4 (dk_at dksX8_cuts_0 1 rfl rfl)
theorem dX8_cuts_2 : decode cX8_cuts 2 = .ok (.iadd, 1) := dk_96 (dk_at dksX8_cuts_0 2 rfl rfl)
theorem dX8_cuts_3 : decode cX8_cuts 3 = .ok (.istore_n 2, 1) := dk_61 (dk_at dksX8_cuts_0 3 rfl rfl)
theorem dX8_cuts_4 : decode cX8_cuts 4 = .ok (.iload_n 2, 1) := dk_28 (dk_at dksX8_cuts_0 4 rfl rfl)
theorem dX8_cuts_5 : decode cX8_cuts 5 = .ok (.aload_n 0, 1) := dk_42 (dk_at dksX8_cuts_0 5 rfl rfl)
theorem dX8_cuts_6 : decode cX8_cuts 6 = .ok (.getfield 22, 3) := dk_180 0 22 (dk_at dksX8_cuts_0 6 rfl rfl)
theorem dX8_cuts_9 : decode cX8_cuts 9 = .ok (.if_icmp .ge 23, 3) := dk_162 0 23 (dk_at dksX8_cuts_0 9 rfl rfl)
theorem dX8_cuts_12 : decode cX8_cuts 12 = .ok (.aload_n 0, 1) := dk_42 (dk_at dksX8_cuts_0 12 rfl rfl)
theorem dX8_cuts_13 : decode cX8_cuts 13 = .ok (.getfield 11, 3) := dk_180 0 11 (dk_at dksX8_cuts_0 13 rfl rfl)
theorem dX8_cuts_16 : decode cX8_cuts 16 = .ok (.iload_n 2, 1) := dk_28 (dk_at dksX8_cuts_0 16 rfl rfl)
theorem dX8_cuts_17 : decode cX8_cuts 17 = .ok (.iconst 1, 1) := dk_4 (dk_at dksX8_cuts_0 17 rfl rfl)
theorem dX8_cuts_18 : decode cX8_cuts 18 = .ok (.isub, 1) := dk_100 (dk_at dksX8_cuts_0 18 rfl rfl)
theorem dX8_cuts_19 : decode cX8_cuts 19 = .ok (.aload_n 0, 1) := dk_42 (dk_at dksX8_cuts_0 19 rfl rfl)
theorem dX8_cuts_20 : decode cX8_cuts 20 = .ok (.getfield 11, 3) := dk_180 0 11 (dk_at dksX8_cuts_0 20 rfl rfl)
theorem dX8_cuts_23 : decode cX8_cuts 23 = .ok (.iload_n 2, 1) := dk_28 (dk_at dksX8_cuts_0 23 rfl rfl)
theorem dX8_cuts_24 : decode cX8_cuts 24 = .ok (.aaload, 1) := dk_50 (dk_at dksX8_cuts_1 0 rfl rfl)
theorem dX8_cuts_25 : decode cX8_cuts 25 = .ok (.aastore, 1) := dk_83 (dk_at dksX8_cuts_1 1 rfl rfl)
theorem dX8_cuts_26 : decode cX8_cuts 26 = .ok (.iinc 2 1, 3) := dk_132 2 1 (dk_at dksX8_cuts_1 2 rfl rfl)
theorem dX8_cuts_29 : decode cX8_cuts 29 = .ok (.goto (-25), 3) := dk_167 255 231 (dk_at dksX8_cuts_1 5 rfl rfl)
theorem dX8_cuts_32 : decode cX8_cuts 32 = .ok (.aload_n 0, 1) := dk_42 (dk_at dksX8_cuts_1 8 rfl rfl)
theorem dX8_cuts_33 : decode cX8_cuts 33 = .ok (.dup, 1) := dk_89 (dk_at dksX8_cuts_1 9 rfl rfl)
theorem dX8_cuts_34 : decode cX8_cuts 34 = .ok (.getfield 22, 3) := dk_180 0 22 (dk_at dksX8_cuts_1 10 rfl rfl)
theorem dX8_cuts_37 : decode cX8_cuts 37 = .ok (.iconst 1, 1) := dk_4 (dk_at dksX8_cuts_1 13 rfl rfl)
theorem dX8_cuts_38 : decode cX8_cuts 38 = .ok (.isub, 1) := dk_100 (dk_at dksX8_cuts_1 14 rfl rfl)
theorem dX8_cuts_39 : decode cX8_cuts 39 = .ok (.putfield 22, 3) := dk_181 0 22 (dk_at dksX8_cuts_1 15 rfl rfl)
theorem dX8_cuts_42 : decode cX8_cuts 42 = .ok (.return_, 1) := dk_177 (dk_at dksX8_cuts_1 18 rfl rfl)
theorem q98 : (Jvm.Cond.initialized "PrimeProofs$Rows") ∈ lw_all := lw_g (lw_at lw_m1 15 rfl) rfl
theorem q242 : (Jvm.Cond.instanceMethod ({ cls := "PrimeProofs$Rows", name := "hasTwice", desc := "()Z" } : Jvm.MethodName)) ∈ lw_all := lw_g (lw_at lw_m1 159 rfl) rfl
theorem q243 : (Jvm.Cond.selects "PrimeProofs$Rows" ({ cls := "PrimeProofs$Rows", name := "hasTwice", desc := "()Z" } : Jvm.MethodName) ({ cls := "PrimeProofs$Rows", name := "hasTwice", desc := "()Z" } : Jvm.MethodName)) ∈ lw_all := lw_g (lw_at lw_m1 160 rfl) rfl
theorem q244 : (Jvm.Cond.code ({ cls := "PrimeProofs$Rows", name := "hasTwice", desc := "()Z" } : Jvm.MethodName) prog_13_method_6_code (3 : Nat) (Option.some Jvm.ClassFile.FieldType.boolean)) ∈ lw_all := lw_g (lw_at lw_m1 161 rfl) rfl
theorem q246 : (Jvm.Cond.instanceMethod ({ cls := "PrimeProofs$Rows", name := "iterator", desc := "()Ljava/util/Iterator;" } : Jvm.MethodName)) ∈ lw_all := lw_g (lw_at lw_m1 163 rfl) rfl
theorem q247 : (Jvm.Cond.selects "PrimeProofs$Rows" ({ cls := "PrimeProofs$Rows", name := "iterator", desc := "()Ljava/util/Iterator;" } : Jvm.MethodName) ({ cls := "PrimeProofs$Rows", name := "iterator", desc := "()Ljava/util/Iterator;" } : Jvm.MethodName)) ∈ lw_all := lw_g (lw_at lw_m1 164 rfl) rfl
theorem q248 : (Jvm.Cond.code ({ cls := "PrimeProofs$Rows", name := "iterator", desc := "()Ljava/util/Iterator;" } : Jvm.MethodName) prog_13_method_2_code (1 : Nat) (Option.some (Jvm.ClassFile.FieldType.object "java/util/Iterator"))) ∈ lw_all := lw_g (lw_at lw_m1 165 rfl) rfl
theorem q249 : (Jvm.Cond.classLink "PrimeProofs$Rows" (17 : Nat) "PrimeProofs$Rows$Each") ∈ lw_all := lw_g (lw_at lw_m1 166 rfl) rfl
theorem q251 : (Jvm.Cond.methodLinkNest "PrimeProofs$Rows" (19 : Nat) ({ cls := "PrimeProofs$Rows$Each", name := "<init>", desc := "(LPrimeProofs$Rows;)V" } : Jvm.MethodName) "PrimeProofs") ∈ lw_tbl := lw_at lw_m1 168 rfl
theorem q312 : (Jvm.Cond.instanceMethod ({ cls := "PrimeProofs$Rows", name := "product", desc := "()J" } : Jvm.MethodName)) ∈ lw_all := lw_g (lw_at lw_m1 229 rfl) rfl
theorem q313 : (Jvm.Cond.selects "PrimeProofs$Rows" ({ cls := "PrimeProofs$Rows", name := "product", desc := "()J" } : Jvm.MethodName) ({ cls := "PrimeProofs$Rows", name := "product", desc := "()J" } : Jvm.MethodName)) ∈ lw_all := lw_g (lw_at lw_m1 230 rfl) rfl
theorem q314 : (Jvm.Cond.code ({ cls := "PrimeProofs$Rows", name := "product", desc := "()J" } : Jvm.MethodName) prog_13_method_5_code (6 : Nat) (Option.some Jvm.ClassFile.FieldType.long)) ∈ lw_all := lw_g (lw_at lw_m1 231 rfl) rfl
theorem q315 : (Jvm.Cond.methodLink "PrimeProofs$Rows" (26 : Nat) ({ cls := "PrimeProofs$Rows", name := "iterator", desc := "()Ljava/util/Iterator;" } : Jvm.MethodName)) ∈ lw_all := lw_g (lw_at lw_m1 232 rfl) rfl
theorem q316 : (Jvm.Cond.interfaceEntry "PrimeProofs$Rows" (30 : Nat)) ∈ lw_tbl := lw_at lw_m1 233 rfl
theorem q317 : (Jvm.Cond.methodLink "PrimeProofs$Rows" (30 : Nat) ({ cls := "java/util/Iterator", name := "hasNext", desc := "()Z" } : Jvm.MethodName)) ∈ lw_all := lw_g (lw_at lw_m1 234 rfl) rfl
theorem q318 : (Jvm.Cond.interfaceEntry "PrimeProofs$Rows" (36 : Nat)) ∈ lw_tbl := lw_at lw_m1 235 rfl
theorem q319 : (Jvm.Cond.methodLink "PrimeProofs$Rows" (36 : Nat) ({ cls := "java/util/Iterator", name := "next", desc := "()Ljava/lang/Object;" } : Jvm.MethodName)) ∈ lw_all := lw_g (lw_at lw_m1 236 rfl) rfl
theorem q320 : (Jvm.Cond.classLink "PrimeProofs$Rows" (9 : Nat) "PrimeProofs$Row") ∈ lw_all := lw_g (lw_at lw_m1 237 rfl) rfl
theorem q321 : (Jvm.Cond.constantLong "PrimeProofs$Rows" (43 : Nat) (4000000000 : Int64)) ∈ lw_all := lw_g (lw_at lw_m1 238 rfl) rfl
theorem q322 : (Jvm.Cond.methodLink "PrimeProofs$Rows" (49 : Nat) ({ cls := "java/lang/Math", name := "min", desc := "(JJ)J" } : Jvm.MethodName)) ∈ lw_all := lw_g (lw_at lw_m1 239 rfl) rfl
theorem q509 : (Jvm.Cond.instantiable "PrimeProofs$Rows" (2 : Nat)) ∈ lw_all := lw_g (lw_at lw_m2 186 rfl) rfl
theorem q511 : (Jvm.Cond.instanceMethod ({ cls := "PrimeProofs$Rows", name := "<init>", desc := "()V" } : Jvm.MethodName)) ∈ lw_all := lw_g (lw_at lw_m2 188 rfl) rfl
theorem q512 : (Jvm.Cond.code ({ cls := "PrimeProofs$Rows", name := "<init>", desc := "()V" } : Jvm.MethodName) prog_13_method_1_code (1 : Nat) (Option.none : Option Jvm.ClassFile.FieldType)) ∈ lw_all := lw_g (lw_at lw_m2 189 rfl) rfl
theorem q513 : (Jvm.Cond.methodLink "PrimeProofs$Rows" (3 : Nat) ({ cls := "java/lang/Object", name := "<init>", desc := "()V" } : Jvm.MethodName)) ∈ lw_all := lw_g (lw_at lw_m2 190 rfl) rfl
theorem q515 : (Jvm.Cond.fieldLink "PrimeProofs$Rows" (11 : Nat) "PrimeProofs$Rows" "row" "[LPrimeProofs$Row;") ∈ lw_all := lw_g (lw_at lw_m2 192 rfl) rfl
theorem q521 : (Jvm.Cond.fieldLink "PrimeProofs$Rows" (22 : Nat) "PrimeProofs$Rows" "many" "I") ∈ lw_all := lw_g (lw_at lw_m2 198 rfl) rfl
theorem q526 : (Jvm.Cond.laysFinal "PrimeProofs$Rows" "PrimeProofs$Rows" "row" "[LPrimeProofs$Row;") ∈ lw_all := lw_g (lw_at lw_m2 203 rfl) rfl
theorem q527 : (Jvm.Cond.soleField "PrimeProofs$Rows" "row") ∈ lw_all := lw_g (lw_at lw_m2 204 rfl) rfl
theorem q528 : (Jvm.Cond.lays "PrimeProofs$Rows" "PrimeProofs$Rows" "many" "I") ∈ lw_all := lw_g (lw_at lw_m2 205 rfl) rfl
theorem q529 : (Jvm.Cond.soleField "PrimeProofs$Rows" "many") ∈ lw_all := lw_g (lw_at lw_m2 206 rfl) rfl
theorem q530 : (Jvm.Cond.superclass "PrimeProofs$Rows" "java/lang/Object") ∈ lw_all := lw_g (lw_at lw_m2 207 rfl) rfl
theorem q685 : (Jvm.Cond.fieldLink "PrimeProofs$Rows" (45 : Nat) "PrimeProofs$Row" "q" "J") ∈ lw_all := lw_g (lw_at lw_m3 122 rfl) rfl
theorem q688 : (Jvm.Cond.fieldLink "PrimeProofs$Rows" (40 : Nat) "PrimeProofs$Row" "exponent" "I") ∈ lw_all := lw_g (lw_at lw_m3 125 rfl) rfl
theorem q702 : (Jvm.Cond.instanceMethod ({ cls := "PrimeProofs$Rows", name := "adds", desc := "(LPrimeProofs$Row;)LPrimeProofs$Rows;" } : Jvm.MethodName)) ∈ lw_all := lw_g (lw_at lw_m3 139 rfl) rfl
theorem q703 : (Jvm.Cond.selects "PrimeProofs$Rows" ({ cls := "PrimeProofs$Rows", name := "adds", desc := "(LPrimeProofs$Row;)LPrimeProofs$Rows;" } : Jvm.MethodName) ({ cls := "PrimeProofs$Rows", name := "adds", desc := "(LPrimeProofs$Row;)LPrimeProofs$Rows;" } : Jvm.MethodName)) ∈ lw_all := lw_g (lw_at lw_m3 140 rfl) rfl
theorem q704 : (Jvm.Cond.code ({ cls := "PrimeProofs$Rows", name := "adds", desc := "(LPrimeProofs$Row;)LPrimeProofs$Rows;" } : Jvm.MethodName) prog_13_method_3_code (2 : Nat) (Option.some (Jvm.ClassFile.FieldType.object "PrimeProofs$Rows"))) ∈ lw_all := lw_g (lw_at lw_m3 141 rfl) rfl
theorem q836 : (Jvm.Cond.selects "PrimeProofs$Rows" ({ cls := "java/lang/Object", name := "getClass", desc := "()Ljava/lang/Class;" } : Jvm.MethodName) ({ cls := "java/lang/Object", name := "getClass", desc := "()Ljava/lang/Class;" } : Jvm.MethodName)) ∈ lw_all := lw_g (lw_at lw_m4 33 rfl) rfl
theorem q1370 : (Jvm.Cond.instanceMethod ({ cls := "PrimeProofs$Rows", name := "cuts", desc := "(I)V" } : Jvm.MethodName)) ∈ lw_all := lw_g (lw_at lw_m6 87 rfl) rfl
theorem q1371 : (Jvm.Cond.selects "PrimeProofs$Rows" ({ cls := "PrimeProofs$Rows", name := "cuts", desc := "(I)V" } : Jvm.MethodName) ({ cls := "PrimeProofs$Rows", name := "cuts", desc := "(I)V" } : Jvm.MethodName)) ∈ lw_all := lw_g (lw_at lw_m6 88 rfl) rfl
theorem q1372 : (Jvm.Cond.code ({ cls := "PrimeProofs$Rows", name := "cuts", desc := "(I)V" } : Jvm.MethodName) prog_13_method_4_code (3 : Nat) (Option.none : Option Jvm.ClassFile.FieldType)) ∈ lw_all := lw_g (lw_at lw_m6 89 rfl) rfl
theorem q2227 : (Jvm.Cond.castable "PrimeProofs$Rows" "java/lang/Object") ∈ lw_tbl := lw_at lw_m9 224 rfl
theorem in_X8 : ∀ w ∈ wsX80, w ∈ lw_all := lw_in wsX80 [526, 528] (by decide +kernel) (by decide +kernel)

/-! PrimeProofs$Pratt -/
set_option maxRecDepth 100000
def RX9 : String := "PrimeProofs$Pratt"
def TX9 : u_T := fun k => match k with
  | 0 => ("PrimeProofs$Line", "n", "J", false)
  | 1 => ("PrimeProofs$Line", "sort", "I", true)
  | 2 => ("PrimeProofs$Line", "p", "I", false)
  | 3 => ("PrimeProofs$Line", "q", "I", false)
  | 4 => ("PrimeProofs$Line", "down", "LPrimeProofs$Rows;", true)
  | 5 => ("PrimeProofs$Line", "up", "LPrimeProofs$Rows;", true)
  | 6 => ("PrimeProofs$Line", "this$0", "LPrimeProofs;", true)
  | _ => ("PrimeProofs$Pratt", "this$0", "LPrimeProofs;", true)
def tyX9 : Nat → FieldType := fun k => match k with
  | 0 => .long
  | 1 => .int
  | 2 => .int
  | 3 => .int
  | 4 => .object "PrimeProofs$Rows"
  | 5 => .object "PrimeProofs$Rows"
  | 6 => .object "PrimeProofs"
  | _ => .object "PrimeProofs"
abbrev wsX90 : List Cond := u_ws RX9 TX9 8
-- two fields of one name: no nmX9
theorem tyX9_ok : ∀ k, k < 8 → parseFieldDescriptor (TX9 k).2.2.1 = some (tyX9 k) := by decide +kernel
abbrev cX9_isWhole : ByteArray := prog_10_method_2_code
def yX9_isWhole : MethodName := ⟨RX9, "isWhole", "()Z"⟩
def dkwX9_isWhole_0 : List UInt8 := [42, 180, 0, 15, 182, 0, 19, 42, 180, 0, 25, 10, 101, 148, 154, 0, 7, 4, 167, 0, 4, 3, 172]
abbrev dktX9_isWhole_0 : List UInt8 := dkwX9_isWhole_0 ++ []
theorem dksX9_isWhole_0 : cX9_isWhole.data.toList.drop 0 = dktX9_isWhole_0 := by decide +kernel
theorem dX9_isWhole_0 : decode cX9_isWhole 0 = .ok (.aload_n 0, 1) := dk_42 (dk_at dksX9_isWhole_0 0 rfl rfl)
theorem dX9_isWhole_1 : decode cX9_isWhole 1 = .ok (.getfield 15, 3) := dk_180 0 15 (dk_at dksX9_isWhole_0 1 rfl rfl)
theorem dX9_isWhole_4 : decode cX9_isWhole 4 = .ok (.invokevirtual 19, 3) := dk_182 0 19 (dk_at dksX9_isWhole_0 4 rfl rfl)
theorem dX9_isWhole_7 : decode cX9_isWhole 7 = .ok (.aload_n 0, 1) := dk_42 (dk_at dksX9_isWhole_0 7 rfl rfl)
theorem dX9_isWhole_8 : decode cX9_isWhole 8 = .ok (.getfield 25, 3) := dk_180 0 25 (dk_at dksX9_isWhole_0 8 rfl rfl)
theorem dX9_isWhole_11 : decode cX9_isWhole 11 = .ok (.lconst 1, 1) := dk_10 (dk_at dksX9_isWhole_0 11 rfl rfl)
theorem dX9_isWhole_12 : decode cX9_isWhole 12 = .ok (.lsub, 1) := dk_101 (dk_at dksX9_isWhole_0 12 rfl rfl)
theorem dX9_isWhole_13 : decode cX9_isWhole 13 = .ok (.lcmp, 1) := dk_148 (dk_at dksX9_isWhole_0 13 rfl rfl)
theorem dX9_isWhole_14 : decode cX9_isWhole 14 = .ok (.ifCond .ne 7, 3) := dk_154 0 7 (dk_at dksX9_isWhole_0 14 rfl rfl)
theorem dX9_isWhole_17 : decode cX9_isWhole 17 = .ok (.iconst 1, 1) := dk_4 (dk_at dksX9_isWhole_0 17 rfl rfl)
theorem dX9_isWhole_18 : decode cX9_isWhole 18 = .ok (.goto 4, 3) := dk_167 0 4 (dk_at dksX9_isWhole_0 18 rfl rfl)
theorem dX9_isWhole_21 : decode cX9_isWhole 21 = .ok (.iconst 0, 1) := dk_3 (dk_at dksX9_isWhole_0 21 rfl rfl)
theorem dX9_isWhole_22 : decode cX9_isWhole 22 = .ok (.ireturn, 1) := dk_172 (dk_at dksX9_isWhole_0 22 rfl rfl)
abbrev cX9_init : ByteArray := prog_10_method_1_code
def yX9_init : MethodName := ⟨RX9, "<init>", "(LPrimeProofs;J)V"⟩
def dkwX9_init_0 : List UInt8 := [42, 43, 181, 0, 3, 42, 43, 32, 4, 183, 0, 9, 177]
abbrev dktX9_init_0 : List UInt8 := dkwX9_init_0 ++ []
theorem dksX9_init_0 : cX9_init.data.toList.drop 0 = dktX9_init_0 := by decide +kernel
theorem dX9_init_0 : decode cX9_init 0 = .ok (.aload_n 0, 1) := dk_42 (dk_at dksX9_init_0 0 rfl rfl)
theorem dX9_init_1 : decode cX9_init 1 = .ok (.aload_n 1, 1) := dk_43 (dk_at dksX9_init_0 1 rfl rfl)
theorem dX9_init_2 : decode cX9_init 2 = .ok (.putfield 3, 3) := dk_181 0 3 (dk_at dksX9_init_0 2 rfl rfl)
theorem dX9_init_5 : decode cX9_init 5 = .ok (.aload_n 0, 1) := dk_42 (dk_at dksX9_init_0 5 rfl rfl)
theorem dX9_init_6 : decode cX9_init 6 = .ok (.aload_n 1, 1) := dk_43 (dk_at dksX9_init_0 6 rfl rfl)
theorem dX9_init_7 : decode cX9_init 7 = .ok (.lload_n 2, 1) := dk_32 (dk_at dksX9_init_0 7 rfl rfl)
theorem dX9_init_8 : decode cX9_init 8 = .ok (.iconst 1, 1) := dk_4 (dk_at dksX9_init_0 8 rfl rfl)
theorem dX9_init_9 : decode cX9_init 9 = .ok (.invokespecial 9, 3) := dk_183 0 9 (dk_at dksX9_init_0 9 rfl rfl)
theorem dX9_init_12 : decode cX9_init 12 = .ok (.return_, 1) := dk_177 (dk_at dksX9_init_0 12 rfl rfl)
abbrev cX9_lays : ByteArray := prog_10_method_3_code
def yX9_lays : MethodName := ⟨RX9, "lays", "()V"⟩
def dkwX9_lays_0 : List UInt8 := [42, 42, 180, 0, 15, 42, 180, 0, 25, 10, 101, 182, 0, 29, 177]
abbrev dktX9_lays_0 : List UInt8 := dkwX9_lays_0 ++ []
theorem dksX9_lays_0 : cX9_lays.data.toList.drop 0 = dktX9_lays_0 := by decide +kernel
theorem dX9_lays_0 : decode cX9_lays 0 = .ok (.aload_n 0, 1) := dk_42 (dk_at dksX9_lays_0 0 rfl rfl)
theorem dX9_lays_1 : decode cX9_lays 1 = .ok (.aload_n 0, 1) := dk_42 (dk_at dksX9_lays_0 1 rfl rfl)
theorem dX9_lays_2 : decode cX9_lays 2 = .ok (.getfield 15, 3) := dk_180 0 15 (dk_at dksX9_lays_0 2 rfl rfl)
theorem dX9_lays_5 : decode cX9_lays 5 = .ok (.aload_n 0, 1) := dk_42 (dk_at dksX9_lays_0 5 rfl rfl)
theorem dX9_lays_6 : decode cX9_lays 6 = .ok (.getfield 25, 3) := dk_180 0 25 (dk_at dksX9_lays_0 6 rfl rfl)
theorem dX9_lays_9 : decode cX9_lays 9 = .ok (.lconst 1, 1) := dk_10 (dk_at dksX9_lays_0 9 rfl rfl)
theorem dX9_lays_10 : decode cX9_lays 10 = .ok (.lsub, 1) := dk_101 (dk_at dksX9_lays_0 10 rfl rfl)
theorem dX9_lays_11 : decode cX9_lays 11 = .ok (.invokevirtual 29, 3) := dk_182 0 29 (dk_at dksX9_lays_0 11 rfl rfl)
theorem dX9_lays_14 : decode cX9_lays 14 = .ok (.return_, 1) := dk_177 (dk_at dksX9_lays_0 14 rfl rfl)
abbrev cX9_findsBases : ByteArray := prog_10_method_4_code
def yX9_findsBases : MethodName := ⟨RX9, "findsBases", "()Z"⟩
def dkwX9_findsBases_4 : List UInt8 := [3, 172]
abbrev dktX9_findsBases_4 : List UInt8 := dkwX9_findsBases_4 ++ []
def dkwX9_findsBases_3 : List UInt8 := [153, 0, 7, 4, 167, 0, 4, 3, 61, 167, 255, 202, 28, 153, 0, 5, 4, 172, 132, 1, 1, 167, 255, 173]
abbrev dktX9_findsBases_3 : List UInt8 := dkwX9_findsBases_3 ++ dktX9_findsBases_4
def dkwX9_findsBases_2 : List UInt8 := [181, 0, 49, 28, 153, 0, 25, 42, 25, 4, 182, 0, 53, 153, 0, 16, 42, 25, 4, 182, 0, 57]
abbrev dktX9_findsBases_2 : List UInt8 := dkwX9_findsBases_2 ++ dktX9_findsBases_3
def dkwX9_findsBases_1 : List UInt8 := [185, 0, 37, 1, 0, 153, 0, 51, 45, 185, 0, 43, 1, 0, 192, 0, 47, 58, 4, 25, 4, 27]
abbrev dktX9_findsBases_1 : List UInt8 := dkwX9_findsBases_1 ++ dktX9_findsBases_2
def dkwX9_findsBases_0 : List UInt8 := [5, 60, 27, 17, 3, 231, 163, 0, 82, 4, 61, 42, 180, 0, 15, 182, 0, 33, 78, 45]
abbrev dktX9_findsBases_0 : List UInt8 := dkwX9_findsBases_0 ++ dktX9_findsBases_1
theorem dksX9_findsBases_0 : cX9_findsBases.data.toList.drop 0 = dktX9_findsBases_0 := by decide +kernel
theorem dksX9_findsBases_1 : cX9_findsBases.data.toList.drop 20 = dktX9_findsBases_1 := dk_seg dksX9_findsBases_0 20 rfl rfl
theorem dksX9_findsBases_2 : cX9_findsBases.data.toList.drop 42 = dktX9_findsBases_2 := dk_seg dksX9_findsBases_1 22 rfl rfl
theorem dksX9_findsBases_3 : cX9_findsBases.data.toList.drop 64 = dktX9_findsBases_3 := dk_seg dksX9_findsBases_2 22 rfl rfl
theorem dksX9_findsBases_4 : cX9_findsBases.data.toList.drop 88 = dktX9_findsBases_4 := dk_seg dksX9_findsBases_3 24 rfl rfl
theorem dX9_findsBases_0 : decode cX9_findsBases 0 = .ok (.iconst 2, 1) := dk_5 (dk_at dksX9_findsBases_0 0 rfl rfl)
theorem dX9_findsBases_1 : decode cX9_findsBases 1 = .ok (.istore_n 1, 1) := dk_60 (dk_at dksX9_findsBases_0 1 rfl rfl)
theorem dX9_findsBases_2 : decode cX9_findsBases 2 = .ok (.iload_n 1, 1) := dk_27 (dk_at dksX9_findsBases_0 2 rfl rfl)
theorem dX9_findsBases_3 : decode cX9_findsBases 3 = .ok (.sipush 999, 3) := dk_17 3 231 (dk_at dksX9_findsBases_0 3 rfl rfl)
theorem dX9_findsBases_6 : decode cX9_findsBases 6 = .ok (.if_icmp .gt 82, 3) := dk_163 0 82 (dk_at dksX9_findsBases_0 6 rfl rfl)
theorem dX9_findsBases_9 : decode cX9_findsBases 9 = .ok (.iconst 1, 1) := dk_4 (dk_at dksX9_findsBases_0 9 rfl rfl)
theorem dX9_findsBases_10 : decode cX9_findsBases 10 = .ok (.istore_n 2, 1) := dk_61 (dk_at dksX9_findsBases_0 10 rfl rfl)
theorem dX9_findsBases_11 : decode cX9_findsBases 11 = .ok (.aload_n 0, 1) := dk_42 (dk_at dksX9_findsBases_0 11 rfl rfl)
theorem dX9_findsBases_12 : decode cX9_findsBases 12 = .ok (.getfield 15, 3) := dk_180 0 15 (dk_at dksX9_findsBases_0 12 rfl rfl)
theorem dX9_findsBases_15 : decode cX9_findsBases 15 = .ok (.invokevirtual 33, 3) := dk_182 0 33 (dk_at dksX9_findsBases_0 15 rfl rfl)
theorem dX9_findsBases_18 : decode cX9_findsBases 18 = .ok (.astore_n 3, 1) := dk_78 (dk_at dksX9_findsBases_0 18 rfl rfl)
theorem dX9_findsBases_19 : decode cX9_findsBases 19 = .ok (.aload_n 3, 1) := dk_45 (dk_at dksX9_findsBases_0 19 rfl rfl)
theorem dX9_findsBases_20 : decode cX9_findsBases 20 = .ok (.invokeinterface 37 1, 5) := by decide +kernel
theorem dX9_findsBases_25 : decode cX9_findsBases 25 = .ok (.ifCond .eq 51, 3) := dk_153 0 51 (dk_at dksX9_findsBases_1 5 rfl rfl)
theorem dX9_findsBases_28 : decode cX9_findsBases 28 = .ok (.aload_n 3, 1) := dk_45 (dk_at dksX9_findsBases_1 8 rfl rfl)
theorem dX9_findsBases_29 : decode cX9_findsBases 29 = .ok (.invokeinterface 43 1, 5) := by decide +kernel
theorem dX9_findsBases_34 : decode cX9_findsBases 34 = .ok (.checkcast 47, 3) := dk_192 0 47 (dk_at dksX9_findsBases_1 14 rfl rfl)
theorem dX9_findsBases_37 : decode cX9_findsBases 37 = .ok (.astore 4, 2) := dk_58 4 (dk_at dksX9_findsBases_1 17 rfl rfl)
theorem dX9_findsBases_39 : decode cX9_findsBases 39 = .ok (.aload 4, 2) := dk_25 4 (dk_at dksX9_findsBases_1 19 rfl rfl)
theorem dX9_findsBases_41 : decode cX9_findsBases 41 = .ok (.iload_n 1, 1) := dk_27 (dk_at dksX9_findsBases_1 21 rfl rfl)
theorem dX9_findsBases_42 : decode cX9_findsBases 42 = .ok (.putfield 49, 3) := dk_181 0 49 (dk_at dksX9_findsBases_2 0 rfl rfl)
theorem dX9_findsBases_45 : decode cX9_findsBases 45 = .ok (.iload_n 2, 1) := dk_28 (dk_at dksX9_findsBases_2 3 rfl rfl)
theorem dX9_findsBases_46 : decode cX9_findsBases 46 = .ok (.ifCond .eq 25, 3) := dk_153 0 25 (dk_at dksX9_findsBases_2 4 rfl rfl)
theorem dX9_findsBases_49 : decode cX9_findsBases 49 = .ok (.aload_n 0, 1) := dk_42 (dk_at dksX9_findsBases_2 7 rfl rfl)
theorem dX9_findsBases_50 : decode cX9_findsBases 50 = .ok (.aload 4, 2) := dk_25 4 (dk_at dksX9_findsBases_2 8 rfl rfl)
theorem dX9_findsBases_52 : decode cX9_findsBases 52 = .ok (.invokevirtual 53, 3) := dk_182 0 53 (dk_at dksX9_findsBases_2 10 rfl rfl)
theorem dX9_findsBases_55 : decode cX9_findsBases 55 = .ok (.ifCond .eq 16, 3) := dk_153 0 16 (dk_at dksX9_findsBases_2 13 rfl rfl)
theorem dX9_findsBases_58 : decode cX9_findsBases 58 = .ok (.aload_n 0, 1) := dk_42 (dk_at dksX9_findsBases_2 16 rfl rfl)
theorem dX9_findsBases_59 : decode cX9_findsBases 59 = .ok (.aload 4, 2) := dk_25 4 (dk_at dksX9_findsBases_2 17 rfl rfl)
theorem dX9_findsBases_61 : decode cX9_findsBases 61 = .ok (.invokevirtual 57, 3) := dk_182 0 57 (dk_at dksX9_findsBases_2 19 rfl rfl)
theorem dX9_findsBases_64 : decode cX9_findsBases 64 = .ok (.ifCond .eq 7, 3) := dk_153 0 7 (dk_at dksX9_findsBases_3 0 rfl rfl)
theorem dX9_findsBases_67 : decode cX9_findsBases 67 = .ok (.iconst 1, 1) := dk_4 (dk_at dksX9_findsBases_3 3 rfl rfl)
theorem dX9_findsBases_68 : decode cX9_findsBases 68 = .ok (.goto 4, 3) := dk_167 0 4 (dk_at dksX9_findsBases_3 4 rfl rfl)
theorem dX9_findsBases_71 : decode cX9_findsBases 71 = .ok (.iconst 0, 1) := dk_3 (dk_at dksX9_findsBases_3 7 rfl rfl)
theorem dX9_findsBases_72 : decode cX9_findsBases 72 = .ok (.istore_n 2, 1) := dk_61 (dk_at dksX9_findsBases_3 8 rfl rfl)
theorem dX9_findsBases_73 : decode cX9_findsBases 73 = .ok (.goto (-54), 3) := dk_167 255 202 (dk_at dksX9_findsBases_3 9 rfl rfl)
theorem dX9_findsBases_76 : decode cX9_findsBases 76 = .ok (.iload_n 2, 1) := dk_28 (dk_at dksX9_findsBases_3 12 rfl rfl)
theorem dX9_findsBases_77 : decode cX9_findsBases 77 = .ok (.ifCond .eq 5, 3) := dk_153 0 5 (dk_at dksX9_findsBases_3 13 rfl rfl)
theorem dX9_findsBases_80 : decode cX9_findsBases 80 = .ok (.iconst 1, 1) := dk_4 (dk_at dksX9_findsBases_3 16 rfl rfl)
theorem dX9_findsBases_81 : decode cX9_findsBases 81 = .ok (.ireturn, 1) := dk_172 (dk_at dksX9_findsBases_3 17 rfl rfl)
theorem dX9_findsBases_82 : decode cX9_findsBases 82 = .ok (.iinc 1 1, 3) := dk_132 1 1 (dk_at dksX9_findsBases_3 18 rfl rfl)
theorem dX9_findsBases_85 : decode cX9_findsBases 85 = .ok (.goto (-83), 3) := dk_167 255 173 (dk_at dksX9_findsBases_3 21 rfl rfl)
theorem dX9_findsBases_88 : decode cX9_findsBases 88 = .ok (.iconst 0, 1) := dk_3 (dk_at dksX9_findsBases_4 0 rfl rfl)
theorem dX9_findsBases_89 : decode cX9_findsBases 89 = .ok (.ireturn, 1) := dk_172 (dk_at dksX9_findsBases_4 1 rfl rfl)
theorem q99 : (Jvm.Cond.initialized "PrimeProofs$Pratt") ∈ lw_all := lw_g (lw_at lw_m1 16 rfl) rfl
theorem q229 : (Jvm.Cond.selects "PrimeProofs$Pratt" ({ cls := "PrimeProofs$Line", name := "fault", desc := "(I)I" } : Jvm.MethodName) ({ cls := "PrimeProofs$Line", name := "fault", desc := "(I)I" } : Jvm.MethodName)) ∈ lw_all := lw_g (lw_at lw_m1 146 rfl) rfl
theorem q333 : (Jvm.Cond.selects "PrimeProofs$Pratt" ({ cls := "PrimeProofs$Line", name := "isWhole", desc := "()Z" } : Jvm.MethodName) ({ cls := "PrimeProofs$Pratt", name := "isWhole", desc := "()Z" } : Jvm.MethodName)) ∈ lw_all := lw_g (lw_at lw_m2 10 rfl) rfl
theorem q334 : (Jvm.Cond.instanceMethod ({ cls := "PrimeProofs$Pratt", name := "isWhole", desc := "()Z" } : Jvm.MethodName)) ∈ lw_all := lw_g (lw_at lw_m2 11 rfl) rfl
theorem q335 : (Jvm.Cond.code ({ cls := "PrimeProofs$Pratt", name := "isWhole", desc := "()Z" } : Jvm.MethodName) prog_10_method_2_code (1 : Nat) (Option.some Jvm.ClassFile.FieldType.boolean)) ∈ lw_all := lw_g (lw_at lw_m2 12 rfl) rfl
theorem q336 : (Jvm.Cond.methodLink "PrimeProofs$Pratt" (19 : Nat) ({ cls := "PrimeProofs$Rows", name := "product", desc := "()J" } : Jvm.MethodName)) ∈ lw_all := lw_g (lw_at lw_m2 13 rfl) rfl
theorem q355 : (Jvm.Cond.selects "PrimeProofs$Pratt" ({ cls := "PrimeProofs$Line", name := "isEnough", desc := "()Z" } : Jvm.MethodName) ({ cls := "PrimeProofs$Line", name := "isEnough", desc := "()Z" } : Jvm.MethodName)) ∈ lw_all := lw_g (lw_at lw_m2 32 rfl) rfl
theorem q364 : (Jvm.Cond.selects "PrimeProofs$Pratt" ({ cls := "PrimeProofs$Line", name := "isOne", desc := "(LPrimeProofs$Row;)Z" } : Jvm.MethodName) ({ cls := "PrimeProofs$Line", name := "isOne", desc := "(LPrimeProofs$Row;)Z" } : Jvm.MethodName)) ∈ lw_all := lw_g (lw_at lw_m2 41 rfl) rfl
theorem q437 : (Jvm.Cond.selects "PrimeProofs$Pratt" ({ cls := "PrimeProofs$Line", name := "isFar", desc := "(LPrimeProofs$Row;)Z" } : Jvm.MethodName) ({ cls := "PrimeProofs$Line", name := "isFar", desc := "(LPrimeProofs$Row;)Z" } : Jvm.MethodName)) ∈ lw_all := lw_g (lw_at lw_m2 114 rfl) rfl
theorem q448 : (Jvm.Cond.selects "PrimeProofs$Pratt" ({ cls := "PrimeProofs$Line", name := "hasPair", desc := "()Z" } : Jvm.MethodName) ({ cls := "PrimeProofs$Line", name := "hasPair", desc := "()Z" } : Jvm.MethodName)) ∈ lw_all := lw_g (lw_at lw_m2 125 rfl) rfl
theorem q457 : (Jvm.Cond.selects "PrimeProofs$Pratt" ({ cls := "PrimeProofs$Line", name := "pairFault", desc := "()I" } : Jvm.MethodName) ({ cls := "PrimeProofs$Line", name := "pairFault", desc := "()I" } : Jvm.MethodName)) ∈ lw_all := lw_g (lw_at lw_m2 134 rfl) rfl
theorem q539 : (Jvm.Cond.fieldLink "PrimeProofs$Pratt" (25 : Nat) "PrimeProofs$Pratt" "n" "J") ∈ lw_all := lw_g (lw_at lw_m2 216 rfl) rfl
theorem q540 : (Jvm.Cond.sameField "PrimeProofs$Pratt" "PrimeProofs$Line" "n" "J") ∈ lw_all := lw_g (lw_at lw_m2 217 rfl) rfl
theorem q551 : (Jvm.Cond.fieldLink "PrimeProofs$Pratt" (15 : Nat) "PrimeProofs$Pratt" "down" "LPrimeProofs$Rows;") ∈ lw_all := lw_g (lw_at lw_m2 228 rfl) rfl
theorem q552 : (Jvm.Cond.sameField "PrimeProofs$Pratt" "PrimeProofs$Line" "down" "LPrimeProofs$Rows;") ∈ lw_all := lw_g (lw_at lw_m2 229 rfl) rfl
theorem q585 : (Jvm.Cond.instantiable "PrimeProofs$Pratt" (8 : Nat)) ∈ lw_all := lw_g (lw_at lw_m3 22 rfl) rfl
theorem q587 : (Jvm.Cond.instanceMethod ({ cls := "PrimeProofs$Pratt", name := "<init>", desc := "(LPrimeProofs;J)V" } : Jvm.MethodName)) ∈ lw_all := lw_g (lw_at lw_m3 24 rfl) rfl
theorem q588 : (Jvm.Cond.code ({ cls := "PrimeProofs$Pratt", name := "<init>", desc := "(LPrimeProofs;J)V" } : Jvm.MethodName) prog_10_method_1_code (4 : Nat) (Option.none : Option Jvm.ClassFile.FieldType)) ∈ lw_all := lw_g (lw_at lw_m3 25 rfl) rfl
theorem q589 : (Jvm.Cond.methodLink "PrimeProofs$Pratt" (9 : Nat) ({ cls := "PrimeProofs$Line", name := "<init>", desc := "(LPrimeProofs;JI)V" } : Jvm.MethodName)) ∈ lw_all := lw_g (lw_at lw_m3 26 rfl) rfl
theorem q590 : (Jvm.Cond.fieldLink "PrimeProofs$Pratt" (3 : Nat) "PrimeProofs$Pratt" "this$0" "LPrimeProofs;") ∈ lw_all := lw_g (lw_at lw_m3 27 rfl) rfl
theorem q591 : (Jvm.Cond.laysFinal "PrimeProofs$Pratt" "PrimeProofs$Pratt" "this$0" "LPrimeProofs;") ∈ lw_all := lw_g (lw_at lw_m3 28 rfl) rfl
theorem q592 : (Jvm.Cond.soleField "PrimeProofs$Pratt" "this$0") ∈ lw_all := lw_g (lw_at lw_m3 29 rfl) rfl
theorem q593 : (Jvm.Cond.lays "PrimeProofs$Pratt" "PrimeProofs$Line" "n" "J") ∈ lw_all := lw_g (lw_at lw_m3 30 rfl) rfl
theorem q594 : (Jvm.Cond.laysFinal "PrimeProofs$Pratt" "PrimeProofs$Line" "sort" "I") ∈ lw_all := lw_g (lw_at lw_m3 31 rfl) rfl
theorem q595 : (Jvm.Cond.lays "PrimeProofs$Pratt" "PrimeProofs$Line" "p" "I") ∈ lw_all := lw_g (lw_at lw_m3 32 rfl) rfl
theorem q596 : (Jvm.Cond.lays "PrimeProofs$Pratt" "PrimeProofs$Line" "q" "I") ∈ lw_all := lw_g (lw_at lw_m3 33 rfl) rfl
theorem q597 : (Jvm.Cond.laysFinal "PrimeProofs$Pratt" "PrimeProofs$Line" "down" "LPrimeProofs$Rows;") ∈ lw_all := lw_g (lw_at lw_m3 34 rfl) rfl
theorem q598 : (Jvm.Cond.laysFinal "PrimeProofs$Pratt" "PrimeProofs$Line" "up" "LPrimeProofs$Rows;") ∈ lw_all := lw_g (lw_at lw_m3 35 rfl) rfl
theorem q599 : (Jvm.Cond.laysFinal "PrimeProofs$Pratt" "PrimeProofs$Line" "this$0" "LPrimeProofs;") ∈ lw_all := lw_g (lw_at lw_m3 36 rfl) rfl
theorem q600 : (Jvm.Cond.superclass "PrimeProofs$Pratt" "PrimeProofs$Line") ∈ lw_all := lw_g (lw_at lw_m3 37 rfl) rfl
theorem q663 : (Jvm.Cond.selects "PrimeProofs$Pratt" ({ cls := "PrimeProofs$Line", name := "isFound", desc := "()Z" } : Jvm.MethodName) ({ cls := "PrimeProofs$Line", name := "isFound", desc := "()Z" } : Jvm.MethodName)) ∈ lw_all := lw_g (lw_at lw_m3 100 rfl) rfl
theorem q691 : (Jvm.Cond.fieldLink "PrimeProofs$Pratt" (49 : Nat) "PrimeProofs$Row" "base" "I") ∈ lw_all := lw_g (lw_at lw_m3 128 rfl) rfl
theorem q724 : (Jvm.Cond.selects "PrimeProofs$Pratt" ({ cls := "PrimeProofs$Line", name := "lays", desc := "()V" } : Jvm.MethodName) ({ cls := "PrimeProofs$Pratt", name := "lays", desc := "()V" } : Jvm.MethodName)) ∈ lw_all := lw_g (lw_at lw_m3 161 rfl) rfl
theorem q725 : (Jvm.Cond.instanceMethod ({ cls := "PrimeProofs$Pratt", name := "lays", desc := "()V" } : Jvm.MethodName)) ∈ lw_all := lw_g (lw_at lw_m3 162 rfl) rfl
theorem q726 : (Jvm.Cond.code ({ cls := "PrimeProofs$Pratt", name := "lays", desc := "()V" } : Jvm.MethodName) prog_10_method_3_code (1 : Nat) (Option.none : Option Jvm.ClassFile.FieldType)) ∈ lw_all := lw_g (lw_at lw_m3 163 rfl) rfl
theorem q727 : (Jvm.Cond.methodLink "PrimeProofs$Pratt" (29 : Nat) ({ cls := "PrimeProofs$Pratt", name := "laysAll", desc := "(LPrimeProofs$Rows;J)V" } : Jvm.MethodName)) ∈ lw_all := lw_g (lw_at lw_m3 164 rfl) rfl
theorem q728 : (Jvm.Cond.sameMethod "PrimeProofs$Pratt" "PrimeProofs$Line" "laysAll" "(LPrimeProofs$Rows;J)V") ∈ lw_all := lw_g (lw_at lw_m3 165 rfl) rfl
theorem q729 : (Jvm.Cond.selects "PrimeProofs$Pratt" ({ cls := "PrimeProofs$Pratt", name := "laysAll", desc := "(LPrimeProofs$Rows;J)V" } : Jvm.MethodName) ({ cls := "PrimeProofs$Line", name := "laysAll", desc := "(LPrimeProofs$Rows;J)V" } : Jvm.MethodName)) ∈ lw_all := lw_g (lw_at lw_m3 166 rfl) rfl
theorem q739 : (Jvm.Cond.selects "PrimeProofs$Pratt" ({ cls := "PrimeProofs$Line", name := "findsBases", desc := "()Z" } : Jvm.MethodName) ({ cls := "PrimeProofs$Pratt", name := "findsBases", desc := "()Z" } : Jvm.MethodName)) ∈ lw_all := lw_g (lw_at lw_m3 176 rfl) rfl
theorem q740 : (Jvm.Cond.instanceMethod ({ cls := "PrimeProofs$Pratt", name := "findsBases", desc := "()Z" } : Jvm.MethodName)) ∈ lw_all := lw_g (lw_at lw_m3 177 rfl) rfl
theorem q741 : (Jvm.Cond.code ({ cls := "PrimeProofs$Pratt", name := "findsBases", desc := "()Z" } : Jvm.MethodName) prog_10_method_4_code (5 : Nat) (Option.some Jvm.ClassFile.FieldType.boolean)) ∈ lw_all := lw_g (lw_at lw_m3 178 rfl) rfl
theorem q742 : (Jvm.Cond.methodLink "PrimeProofs$Pratt" (33 : Nat) ({ cls := "PrimeProofs$Rows", name := "iterator", desc := "()Ljava/util/Iterator;" } : Jvm.MethodName)) ∈ lw_all := lw_g (lw_at lw_m3 179 rfl) rfl
theorem q743 : (Jvm.Cond.interfaceEntry "PrimeProofs$Pratt" (37 : Nat)) ∈ lw_tbl := lw_at lw_m3 180 rfl
theorem q744 : (Jvm.Cond.methodLink "PrimeProofs$Pratt" (37 : Nat) ({ cls := "java/util/Iterator", name := "hasNext", desc := "()Z" } : Jvm.MethodName)) ∈ lw_all := lw_g (lw_at lw_m3 181 rfl) rfl
theorem q745 : (Jvm.Cond.interfaceEntry "PrimeProofs$Pratt" (43 : Nat)) ∈ lw_tbl := lw_at lw_m3 182 rfl
theorem q746 : (Jvm.Cond.methodLink "PrimeProofs$Pratt" (43 : Nat) ({ cls := "java/util/Iterator", name := "next", desc := "()Ljava/lang/Object;" } : Jvm.MethodName)) ∈ lw_all := lw_g (lw_at lw_m3 183 rfl) rfl
theorem q747 : (Jvm.Cond.classLink "PrimeProofs$Pratt" (47 : Nat) "PrimeProofs$Row") ∈ lw_all := lw_g (lw_at lw_m3 184 rfl) rfl
theorem q748 : (Jvm.Cond.methodLink "PrimeProofs$Pratt" (53 : Nat) ({ cls := "PrimeProofs$Pratt", name := "isOne", desc := "(LPrimeProofs$Row;)Z" } : Jvm.MethodName)) ∈ lw_all := lw_g (lw_at lw_m3 185 rfl) rfl
theorem q749 : (Jvm.Cond.sameMethod "PrimeProofs$Pratt" "PrimeProofs$Line" "isOne" "(LPrimeProofs$Row;)Z") ∈ lw_all := lw_g (lw_at lw_m3 186 rfl) rfl
theorem q751 : (Jvm.Cond.selects "PrimeProofs$Pratt" ({ cls := "PrimeProofs$Pratt", name := "isOne", desc := "(LPrimeProofs$Row;)Z" } : Jvm.MethodName) ({ cls := "PrimeProofs$Line", name := "isOne", desc := "(LPrimeProofs$Row;)Z" } : Jvm.MethodName)) ∈ lw_all := lw_g (lw_at lw_m3 188 rfl) rfl
theorem q752 : (Jvm.Cond.methodLink "PrimeProofs$Pratt" (57 : Nat) ({ cls := "PrimeProofs$Pratt", name := "isFar", desc := "(LPrimeProofs$Row;)Z" } : Jvm.MethodName)) ∈ lw_all := lw_g (lw_at lw_m3 189 rfl) rfl
theorem q753 : (Jvm.Cond.sameMethod "PrimeProofs$Pratt" "PrimeProofs$Line" "isFar" "(LPrimeProofs$Row;)Z") ∈ lw_all := lw_g (lw_at lw_m3 190 rfl) rfl
theorem q755 : (Jvm.Cond.selects "PrimeProofs$Pratt" ({ cls := "PrimeProofs$Pratt", name := "isFar", desc := "(LPrimeProofs$Row;)Z" } : Jvm.MethodName) ({ cls := "PrimeProofs$Line", name := "isFar", desc := "(LPrimeProofs$Row;)Z" } : Jvm.MethodName)) ∈ lw_all := lw_g (lw_at lw_m3 192 rfl) rfl
theorem q764 : (Jvm.Cond.selects "PrimeProofs$Pratt" ({ cls := "PrimeProofs$Line", name := "findsBase", desc := "(LPrimeProofs$Row;)Z" } : Jvm.MethodName) ({ cls := "PrimeProofs$Line", name := "findsBase", desc := "(LPrimeProofs$Row;)Z" } : Jvm.MethodName)) ∈ lw_all := lw_g (lw_at lw_m3 201 rfl) rfl
theorem q773 : (Jvm.Cond.selects "PrimeProofs$Pratt" ({ cls := "PrimeProofs$Line", name := "findsPair", desc := "()Z" } : Jvm.MethodName) ({ cls := "PrimeProofs$Line", name := "findsPair", desc := "()Z" } : Jvm.MethodName)) ∈ lw_all := lw_g (lw_at lw_m3 210 rfl) rfl
theorem q833 : (Jvm.Cond.selects "PrimeProofs$Pratt" ({ cls := "java/lang/Object", name := "getClass", desc := "()Ljava/lang/Class;" } : Jvm.MethodName) ({ cls := "java/lang/Object", name := "getClass", desc := "()Ljava/lang/Class;" } : Jvm.MethodName)) ∈ lw_all := lw_g (lw_at lw_m4 30 rfl) rfl
theorem q2217 : (Jvm.Cond.castable "PrimeProofs$Pratt" "PrimeProofs$Line") ∈ lw_tbl := lw_at lw_m9 214 rfl
theorem q2228 : (Jvm.Cond.castable "PrimeProofs$Pratt" "java/lang/Object") ∈ lw_tbl := lw_at lw_m9 225 rfl
theorem in_X9 : ∀ w ∈ wsX90, w ∈ lw_all := lw_in wsX90 [593, 594, 595, 596, 597, 598, 599, 591] (by decide +kernel) (by decide +kernel)

/-! PrimeProofs$Part -/
set_option maxRecDepth 100000
def RX10 : String := "PrimeProofs$Part"
def TX10 : u_T := fun k => match k with
  | 0 => ("PrimeProofs$Line", "n", "J", false)
  | 1 => ("PrimeProofs$Line", "sort", "I", true)
  | 2 => ("PrimeProofs$Line", "p", "I", false)
  | 3 => ("PrimeProofs$Line", "q", "I", false)
  | 4 => ("PrimeProofs$Line", "down", "LPrimeProofs$Rows;", true)
  | 5 => ("PrimeProofs$Line", "up", "LPrimeProofs$Rows;", true)
  | 6 => ("PrimeProofs$Line", "this$0", "LPrimeProofs;", true)
  | _ => ("PrimeProofs$Part", "this$0", "LPrimeProofs;", true)
def tyX10 : Nat → FieldType := fun k => match k with
  | 0 => .long
  | 1 => .int
  | 2 => .int
  | 3 => .int
  | 4 => .object "PrimeProofs$Rows"
  | 5 => .object "PrimeProofs$Rows"
  | 6 => .object "PrimeProofs"
  | _ => .object "PrimeProofs"
abbrev wsX100 : List Cond := u_ws RX10 TX10 8
-- two fields of one name: no nmX10
theorem tyX10_ok : ∀ k, k < 8 → parseFieldDescriptor (TX10 k).2.2.1 = some (tyX10 k) := by decide +kernel
abbrev cX10_isWhole : ByteArray := prog_9_method_2_code
def yX10_isWhole : MethodName := ⟨RX10, "isWhole", "()Z"⟩
def dkwX10_isWhole_1 : List UInt8 := [172]
abbrev dktX10_isWhole_1 : List UInt8 := dkwX10_isWhole_1 ++ []
def dkwX10_isWhole_0 : List UInt8 := [42, 180, 0, 15, 10, 101, 42, 180, 0, 19, 182, 0, 23, 113, 9, 148, 154, 0, 7, 4, 167, 0, 4, 3]
abbrev dktX10_isWhole_0 : List UInt8 := dkwX10_isWhole_0 ++ dktX10_isWhole_1
theorem dksX10_isWhole_0 : cX10_isWhole.data.toList.drop 0 = dktX10_isWhole_0 := by decide +kernel
theorem dksX10_isWhole_1 : cX10_isWhole.data.toList.drop 24 = dktX10_isWhole_1 := dk_seg dksX10_isWhole_0 24 rfl rfl
theorem dX10_isWhole_0 : decode cX10_isWhole 0 = .ok (.aload_n 0, 1) := dk_42 (dk_at dksX10_isWhole_0 0 rfl rfl)
theorem dX10_isWhole_1 : decode cX10_isWhole 1 = .ok (.getfield 15, 3) := dk_180 0 15 (dk_at dksX10_isWhole_0 1 rfl rfl)
theorem dX10_isWhole_4 : decode cX10_isWhole 4 = .ok (.lconst 1, 1) := dk_10 (dk_at dksX10_isWhole_0 4 rfl rfl)
theorem dX10_isWhole_5 : decode cX10_isWhole 5 = .ok (.lsub, 1) := dk_101 (dk_at dksX10_isWhole_0 5 rfl rfl)
theorem dX10_isWhole_6 : decode cX10_isWhole 6 = .ok (.aload_n 0, 1) := dk_42 (dk_at dksX10_isWhole_0 6 rfl rfl)
theorem dX10_isWhole_7 : decode cX10_isWhole 7 = .ok (.getfield 19, 3) := dk_180 0 19 (dk_at dksX10_isWhole_0 7 rfl rfl)
theorem dX10_isWhole_10 : decode cX10_isWhole 10 = .ok (.invokevirtual 23, 3) := dk_182 0 23 (dk_at dksX10_isWhole_0 10 rfl rfl)
theorem dX10_isWhole_13 : decode cX10_isWhole 13 = .ok (.lrem, 1) := dk_113 (dk_at dksX10_isWhole_0 13 rfl rfl)
theorem dX10_isWhole_14 : decode cX10_isWhole 14 = .ok (.lconst 0, 1) := dk_9 (dk_at dksX10_isWhole_0 14 rfl rfl)
theorem dX10_isWhole_15 : decode cX10_isWhole 15 = .ok (.lcmp, 1) := dk_148 (dk_at dksX10_isWhole_0 15 rfl rfl)
theorem dX10_isWhole_16 : decode cX10_isWhole 16 = .ok (.ifCond .ne 7, 3) := dk_154 0 7 (dk_at dksX10_isWhole_0 16 rfl rfl)
theorem dX10_isWhole_19 : decode cX10_isWhole 19 = .ok (.iconst 1, 1) := dk_4 (dk_at dksX10_isWhole_0 19 rfl rfl)
theorem dX10_isWhole_20 : decode cX10_isWhole 20 = .ok (.goto 4, 3) := dk_167 0 4 (dk_at dksX10_isWhole_0 20 rfl rfl)
theorem dX10_isWhole_23 : decode cX10_isWhole 23 = .ok (.iconst 0, 1) := dk_3 (dk_at dksX10_isWhole_0 23 rfl rfl)
theorem dX10_isWhole_24 : decode cX10_isWhole 24 = .ok (.ireturn, 1) := dk_172 (dk_at dksX10_isWhole_1 0 rfl rfl)
abbrev cX10_isEnough : ByteArray := prog_9_method_3_code
def yX10_isEnough : MethodName := ⟨RX10, "isEnough", "()Z"⟩
def dkwX10_isEnough_1 : List UInt8 := [167, 0, 4, 3, 172]
abbrev dktX10_isEnough_1 : List UInt8 := dkwX10_isEnough_1 ++ []
def dkwX10_isEnough_0 : List UInt8 := [42, 180, 0, 19, 182, 0, 23, 42, 180, 0, 19, 182, 0, 23, 105, 42, 180, 0, 15, 148, 158, 0, 7, 4]
abbrev dktX10_isEnough_0 : List UInt8 := dkwX10_isEnough_0 ++ dktX10_isEnough_1
theorem dksX10_isEnough_0 : cX10_isEnough.data.toList.drop 0 = dktX10_isEnough_0 := by decide +kernel
theorem dksX10_isEnough_1 : cX10_isEnough.data.toList.drop 24 = dktX10_isEnough_1 := dk_seg dksX10_isEnough_0 24 rfl rfl
theorem dX10_isEnough_0 : decode cX10_isEnough 0 = .ok (.aload_n 0, 1) := dk_42 (dk_at dksX10_isEnough_0 0 rfl rfl)
theorem dX10_isEnough_1 : decode cX10_isEnough 1 = .ok (.getfield 19, 3) := dk_180 0 19 (dk_at dksX10_isEnough_0 1 rfl rfl)
theorem dX10_isEnough_4 : decode cX10_isEnough 4 = .ok (.invokevirtual 23, 3) := dk_182 0 23 (dk_at dksX10_isEnough_0 4 rfl rfl)
theorem dX10_isEnough_7 : decode cX10_isEnough 7 = .ok (.aload_n 0, 1) := dk_42 (dk_at dksX10_isEnough_0 7 rfl rfl)
theorem dX10_isEnough_8 : decode cX10_isEnough 8 = .ok (.getfield 19, 3) := dk_180 0 19 (dk_at dksX10_isEnough_0 8 rfl rfl)
theorem dX10_isEnough_11 : decode cX10_isEnough 11 = .ok (.invokevirtual 23, 3) := dk_182 0 23 (dk_at dksX10_isEnough_0 11 rfl rfl)
theorem dX10_isEnough_14 : decode cX10_isEnough 14 = .ok (.lmul, 1) := dk_105 (dk_at dksX10_isEnough_0 14 rfl rfl)
theorem dX10_isEnough_15 : decode cX10_isEnough 15 = .ok (.aload_n 0, 1) := dk_42 (dk_at dksX10_isEnough_0 15 rfl rfl)
theorem dX10_isEnough_16 : decode cX10_isEnough 16 = .ok (.getfield 15, 3) := dk_180 0 15 (dk_at dksX10_isEnough_0 16 rfl rfl)
theorem dX10_isEnough_19 : decode cX10_isEnough 19 = .ok (.lcmp, 1) := dk_148 (dk_at dksX10_isEnough_0 19 rfl rfl)
theorem dX10_isEnough_20 : decode cX10_isEnough 20 = .ok (.ifCond .le 7, 3) := dk_158 0 7 (dk_at dksX10_isEnough_0 20 rfl rfl)
theorem dX10_isEnough_23 : decode cX10_isEnough 23 = .ok (.iconst 1, 1) := dk_4 (dk_at dksX10_isEnough_0 23 rfl rfl)
theorem dX10_isEnough_24 : decode cX10_isEnough 24 = .ok (.goto 4, 3) := dk_167 0 4 (dk_at dksX10_isEnough_1 0 rfl rfl)
theorem dX10_isEnough_27 : decode cX10_isEnough 27 = .ok (.iconst 0, 1) := dk_3 (dk_at dksX10_isEnough_1 3 rfl rfl)
theorem dX10_isEnough_28 : decode cX10_isEnough 28 = .ok (.ireturn, 1) := dk_172 (dk_at dksX10_isEnough_1 4 rfl rfl)
abbrev cX10_init : ByteArray := prog_9_method_1_code
def yX10_init : MethodName := ⟨RX10, "<init>", "(LPrimeProofs;J)V"⟩
def dkwX10_init_0 : List UInt8 := [42, 43, 181, 0, 3, 42, 43, 32, 5, 183, 0, 9, 177]
abbrev dktX10_init_0 : List UInt8 := dkwX10_init_0 ++ []
theorem dksX10_init_0 : cX10_init.data.toList.drop 0 = dktX10_init_0 := by decide +kernel
theorem dX10_init_0 : decode cX10_init 0 = .ok (.aload_n 0, 1) := dk_42 (dk_at dksX10_init_0 0 rfl rfl)
theorem dX10_init_1 : decode cX10_init 1 = .ok (.aload_n 1, 1) := dk_43 (dk_at dksX10_init_0 1 rfl rfl)
theorem dX10_init_2 : decode cX10_init 2 = .ok (.putfield 3, 3) := dk_181 0 3 (dk_at dksX10_init_0 2 rfl rfl)
theorem dX10_init_5 : decode cX10_init 5 = .ok (.aload_n 0, 1) := dk_42 (dk_at dksX10_init_0 5 rfl rfl)
theorem dX10_init_6 : decode cX10_init 6 = .ok (.aload_n 1, 1) := dk_43 (dk_at dksX10_init_0 6 rfl rfl)
theorem dX10_init_7 : decode cX10_init 7 = .ok (.lload_n 2, 1) := dk_32 (dk_at dksX10_init_0 7 rfl rfl)
theorem dX10_init_8 : decode cX10_init 8 = .ok (.iconst 2, 1) := dk_5 (dk_at dksX10_init_0 8 rfl rfl)
theorem dX10_init_9 : decode cX10_init 9 = .ok (.invokespecial 9, 3) := dk_183 0 9 (dk_at dksX10_init_0 9 rfl rfl)
theorem dX10_init_12 : decode cX10_init 12 = .ok (.return_, 1) := dk_177 (dk_at dksX10_init_0 12 rfl rfl)
abbrev cX10_lays : ByteArray := prog_9_method_4_code
def yX10_lays : MethodName := ⟨RX10, "lays", "()V"⟩
def dkwX10_lays_2 : List UInt8 := [167, 255, 228, 177]
abbrev dktX10_lays_2 : List UInt8 := dkwX10_lays_2 ++ []
def dkwX10_lays_1 : List UInt8 := [182, 0, 37, 154, 0, 23, 42, 180, 0, 19, 43, 180, 0, 41, 28, 50, 182, 0, 45, 87, 132, 2, 255]
abbrev dktX10_lays_1 : List UInt8 := dkwX10_lays_1 ++ dktX10_lays_2
def dkwX10_lays_0 : List UInt8 := [42, 180, 0, 15, 10, 101, 184, 0, 29, 76, 43, 180, 0, 33, 4, 100, 61, 28, 155, 0, 30, 42]
abbrev dktX10_lays_0 : List UInt8 := dkwX10_lays_0 ++ dktX10_lays_1
theorem dksX10_lays_0 : cX10_lays.data.toList.drop 0 = dktX10_lays_0 := by decide +kernel
theorem dksX10_lays_1 : cX10_lays.data.toList.drop 22 = dktX10_lays_1 := dk_seg dksX10_lays_0 22 rfl rfl
theorem dksX10_lays_2 : cX10_lays.data.toList.drop 45 = dktX10_lays_2 := dk_seg dksX10_lays_1 23 rfl rfl
theorem dX10_lays_0 : decode cX10_lays 0 = .ok (.aload_n 0, 1) := dk_42 (dk_at dksX10_lays_0 0 rfl rfl)
theorem dX10_lays_1 : decode cX10_lays 1 = .ok (.getfield 15, 3) := dk_180 0 15 (dk_at dksX10_lays_0 1 rfl rfl)
theorem dX10_lays_4 : decode cX10_lays 4 = .ok (.lconst 1, 1) := dk_10 (dk_at dksX10_lays_0 4 rfl rfl)
theorem dX10_lays_5 : decode cX10_lays 5 = .ok (.lsub, 1) := dk_101 (dk_at dksX10_lays_0 5 rfl rfl)
theorem dX10_lays_6 : decode cX10_lays 6 = .ok (.invokestatic 29, 3) := dk_184 0 29 (dk_at dksX10_lays_0 6 rfl rfl)
theorem dX10_lays_9 : decode cX10_lays 9 = .ok (.astore_n 1, 1) := dk_76 (dk_at dksX10_lays_0 9 rfl rfl)
theorem dX10_lays_10 : decode cX10_lays 10 = .ok (.aload_n 1, 1) := dk_43 (dk_at dksX10_lays_0 10 rfl rfl)
theorem dX10_lays_11 : decode cX10_lays 11 = .ok (.getfield 33, 3) := dk_180 0 33 (dk_at dksX10_lays_0 11 rfl rfl)
theorem dX10_lays_14 : decode cX10_lays 14 = .ok (.iconst 1, 1) := dk_4 (dk_at dksX10_lays_0 14 rfl rfl)
theorem dX10_lays_15 : decode cX10_lays 15 = .ok (.isub, 1) := dk_100 (dk_at dksX10_lays_0 15 rfl rfl)
theorem dX10_lays_16 : decode cX10_lays 16 = .ok (.istore_n 2, 1) := dk_61 (dk_at dksX10_lays_0 16 rfl rfl)
theorem dX10_lays_17 : decode cX10_lays 17 = .ok (.iload_n 2, 1) := dk_28 (dk_at dksX10_lays_0 17 rfl rfl)
theorem dX10_lays_18 : decode cX10_lays 18 = .ok (.ifCond .lt 30, 3) := dk_155 0 30 (dk_at dksX10_lays_0 18 rfl rfl)
theorem dX10_lays_21 : decode cX10_lays 21 = .ok (.aload_n 0, 1) := dk_42 (dk_at dksX10_lays_0 21 rfl rfl)
theorem dX10_lays_22 : decode cX10_lays 22 = .ok (.invokevirtual 37, 3) := dk_182 0 37 (dk_at dksX10_lays_1 0 rfl rfl)
theorem dX10_lays_25 : decode cX10_lays 25 = .ok (.ifCond .ne 23, 3) := dk_154 0 23 (dk_at dksX10_lays_1 3 rfl rfl)
theorem dX10_lays_28 : decode cX10_lays 28 = .ok (.aload_n 0, 1) := dk_42 (dk_at dksX10_lays_1 6 rfl rfl)
theorem dX10_lays_29 : decode cX10_lays 29 = .ok (.getfield 19, 3) := dk_180 0 19 (dk_at dksX10_lays_1 7 rfl rfl)
theorem dX10_lays_32 : decode cX10_lays 32 = .ok (.aload_n 1, 1) := dk_43 (dk_at dksX10_lays_1 10 rfl rfl)
theorem dX10_lays_33 : decode cX10_lays 33 = .ok (.getfield 41, 3) := dk_180 0 41 (dk_at dksX10_lays_1 11 rfl rfl)
theorem dX10_lays_36 : decode cX10_lays 36 = .ok (.iload_n 2, 1) := dk_28 (dk_at dksX10_lays_1 14 rfl rfl)
theorem dX10_lays_37 : decode cX10_lays 37 = .ok (.aaload, 1) := dk_50 (dk_at dksX10_lays_1 15 rfl rfl)
theorem dX10_lays_38 : decode cX10_lays 38 = .ok (.invokevirtual 45, 3) := dk_182 0 45 (dk_at dksX10_lays_1 16 rfl rfl)
theorem dX10_lays_41 : decode cX10_lays 41 = .ok (.pop, 1) := dk_87 (dk_at dksX10_lays_1 19 rfl rfl)
theorem dX10_lays_42 : decode cX10_lays 42 = .ok (.iinc 2 (-1), 3) := dk_132 2 255 (dk_at dksX10_lays_1 20 rfl rfl)
theorem dX10_lays_45 : decode cX10_lays 45 = .ok (.goto (-28), 3) := dk_167 255 228 (dk_at dksX10_lays_2 0 rfl rfl)
theorem dX10_lays_48 : decode cX10_lays 48 = .ok (.return_, 1) := dk_177 (dk_at dksX10_lays_2 3 rfl rfl)
theorem q100 : (Jvm.Cond.initialized "PrimeProofs$Part") ∈ lw_all := lw_g (lw_at lw_m1 17 rfl) rfl
theorem q228 : (Jvm.Cond.selects "PrimeProofs$Part" ({ cls := "PrimeProofs$Line", name := "fault", desc := "(I)I" } : Jvm.MethodName) ({ cls := "PrimeProofs$Line", name := "fault", desc := "(I)I" } : Jvm.MethodName)) ∈ lw_all := lw_g (lw_at lw_m1 145 rfl) rfl
theorem q329 : (Jvm.Cond.selects "PrimeProofs$Part" ({ cls := "PrimeProofs$Line", name := "isWhole", desc := "()Z" } : Jvm.MethodName) ({ cls := "PrimeProofs$Part", name := "isWhole", desc := "()Z" } : Jvm.MethodName)) ∈ lw_all := lw_g (lw_at lw_m2 6 rfl) rfl
theorem q330 : (Jvm.Cond.instanceMethod ({ cls := "PrimeProofs$Part", name := "isWhole", desc := "()Z" } : Jvm.MethodName)) ∈ lw_all := lw_g (lw_at lw_m2 7 rfl) rfl
theorem q331 : (Jvm.Cond.code ({ cls := "PrimeProofs$Part", name := "isWhole", desc := "()Z" } : Jvm.MethodName) prog_9_method_2_code (1 : Nat) (Option.some Jvm.ClassFile.FieldType.boolean)) ∈ lw_all := lw_g (lw_at lw_m2 8 rfl) rfl
theorem q332 : (Jvm.Cond.methodLink "PrimeProofs$Part" (23 : Nat) ({ cls := "PrimeProofs$Rows", name := "product", desc := "()J" } : Jvm.MethodName)) ∈ lw_all := lw_g (lw_at lw_m2 9 rfl) rfl
theorem q352 : (Jvm.Cond.selects "PrimeProofs$Part" ({ cls := "PrimeProofs$Line", name := "isEnough", desc := "()Z" } : Jvm.MethodName) ({ cls := "PrimeProofs$Part", name := "isEnough", desc := "()Z" } : Jvm.MethodName)) ∈ lw_all := lw_g (lw_at lw_m2 29 rfl) rfl
theorem q353 : (Jvm.Cond.instanceMethod ({ cls := "PrimeProofs$Part", name := "isEnough", desc := "()Z" } : Jvm.MethodName)) ∈ lw_all := lw_g (lw_at lw_m2 30 rfl) rfl
theorem q354 : (Jvm.Cond.code ({ cls := "PrimeProofs$Part", name := "isEnough", desc := "()Z" } : Jvm.MethodName) prog_9_method_3_code (1 : Nat) (Option.some Jvm.ClassFile.FieldType.boolean)) ∈ lw_all := lw_g (lw_at lw_m2 31 rfl) rfl
theorem q363 : (Jvm.Cond.selects "PrimeProofs$Part" ({ cls := "PrimeProofs$Line", name := "isOne", desc := "(LPrimeProofs$Row;)Z" } : Jvm.MethodName) ({ cls := "PrimeProofs$Line", name := "isOne", desc := "(LPrimeProofs$Row;)Z" } : Jvm.MethodName)) ∈ lw_all := lw_g (lw_at lw_m2 40 rfl) rfl
theorem q436 : (Jvm.Cond.selects "PrimeProofs$Part" ({ cls := "PrimeProofs$Line", name := "isFar", desc := "(LPrimeProofs$Row;)Z" } : Jvm.MethodName) ({ cls := "PrimeProofs$Line", name := "isFar", desc := "(LPrimeProofs$Row;)Z" } : Jvm.MethodName)) ∈ lw_all := lw_g (lw_at lw_m2 113 rfl) rfl
theorem q447 : (Jvm.Cond.selects "PrimeProofs$Part" ({ cls := "PrimeProofs$Line", name := "hasPair", desc := "()Z" } : Jvm.MethodName) ({ cls := "PrimeProofs$Line", name := "hasPair", desc := "()Z" } : Jvm.MethodName)) ∈ lw_all := lw_g (lw_at lw_m2 124 rfl) rfl
theorem q456 : (Jvm.Cond.selects "PrimeProofs$Part" ({ cls := "PrimeProofs$Line", name := "pairFault", desc := "()I" } : Jvm.MethodName) ({ cls := "PrimeProofs$Line", name := "pairFault", desc := "()I" } : Jvm.MethodName)) ∈ lw_all := lw_g (lw_at lw_m2 133 rfl) rfl
theorem q517 : (Jvm.Cond.fieldLinkNest "PrimeProofs$Part" (41 : Nat) "PrimeProofs$Rows" "row" "[LPrimeProofs$Row;" "PrimeProofs") ∈ lw_tbl := lw_at lw_m2 194 rfl
theorem q522 : (Jvm.Cond.fieldLinkNest "PrimeProofs$Part" (33 : Nat) "PrimeProofs$Rows" "many" "I" "PrimeProofs") ∈ lw_tbl := lw_at lw_m2 199 rfl
theorem q535 : (Jvm.Cond.fieldLink "PrimeProofs$Part" (15 : Nat) "PrimeProofs$Part" "n" "J") ∈ lw_all := lw_g (lw_at lw_m2 212 rfl) rfl
theorem q536 : (Jvm.Cond.sameField "PrimeProofs$Part" "PrimeProofs$Line" "n" "J") ∈ lw_all := lw_g (lw_at lw_m2 213 rfl) rfl
theorem q555 : (Jvm.Cond.fieldLink "PrimeProofs$Part" (19 : Nat) "PrimeProofs$Part" "down" "LPrimeProofs$Rows;") ∈ lw_all := lw_g (lw_at lw_m2 232 rfl) rfl
theorem q556 : (Jvm.Cond.sameField "PrimeProofs$Part" "PrimeProofs$Line" "down" "LPrimeProofs$Rows;") ∈ lw_all := lw_g (lw_at lw_m2 233 rfl) rfl
theorem q602 : (Jvm.Cond.instantiable "PrimeProofs$Part" (8 : Nat)) ∈ lw_all := lw_g (lw_at lw_m3 39 rfl) rfl
theorem q604 : (Jvm.Cond.instanceMethod ({ cls := "PrimeProofs$Part", name := "<init>", desc := "(LPrimeProofs;J)V" } : Jvm.MethodName)) ∈ lw_all := lw_g (lw_at lw_m3 41 rfl) rfl
theorem q605 : (Jvm.Cond.code ({ cls := "PrimeProofs$Part", name := "<init>", desc := "(LPrimeProofs;J)V" } : Jvm.MethodName) prog_9_method_1_code (4 : Nat) (Option.none : Option Jvm.ClassFile.FieldType)) ∈ lw_all := lw_g (lw_at lw_m3 42 rfl) rfl
theorem q606 : (Jvm.Cond.methodLink "PrimeProofs$Part" (9 : Nat) ({ cls := "PrimeProofs$Line", name := "<init>", desc := "(LPrimeProofs;JI)V" } : Jvm.MethodName)) ∈ lw_all := lw_g (lw_at lw_m3 43 rfl) rfl
theorem q607 : (Jvm.Cond.fieldLink "PrimeProofs$Part" (3 : Nat) "PrimeProofs$Part" "this$0" "LPrimeProofs;") ∈ lw_all := lw_g (lw_at lw_m3 44 rfl) rfl
theorem q608 : (Jvm.Cond.laysFinal "PrimeProofs$Part" "PrimeProofs$Part" "this$0" "LPrimeProofs;") ∈ lw_all := lw_g (lw_at lw_m3 45 rfl) rfl
theorem q609 : (Jvm.Cond.soleField "PrimeProofs$Part" "this$0") ∈ lw_all := lw_g (lw_at lw_m3 46 rfl) rfl
theorem q610 : (Jvm.Cond.lays "PrimeProofs$Part" "PrimeProofs$Line" "n" "J") ∈ lw_all := lw_g (lw_at lw_m3 47 rfl) rfl
theorem q611 : (Jvm.Cond.laysFinal "PrimeProofs$Part" "PrimeProofs$Line" "sort" "I") ∈ lw_all := lw_g (lw_at lw_m3 48 rfl) rfl
theorem q612 : (Jvm.Cond.lays "PrimeProofs$Part" "PrimeProofs$Line" "p" "I") ∈ lw_all := lw_g (lw_at lw_m3 49 rfl) rfl
theorem q613 : (Jvm.Cond.lays "PrimeProofs$Part" "PrimeProofs$Line" "q" "I") ∈ lw_all := lw_g (lw_at lw_m3 50 rfl) rfl
theorem q614 : (Jvm.Cond.laysFinal "PrimeProofs$Part" "PrimeProofs$Line" "down" "LPrimeProofs$Rows;") ∈ lw_all := lw_g (lw_at lw_m3 51 rfl) rfl
theorem q615 : (Jvm.Cond.laysFinal "PrimeProofs$Part" "PrimeProofs$Line" "up" "LPrimeProofs$Rows;") ∈ lw_all := lw_g (lw_at lw_m3 52 rfl) rfl
theorem q616 : (Jvm.Cond.laysFinal "PrimeProofs$Part" "PrimeProofs$Line" "this$0" "LPrimeProofs;") ∈ lw_all := lw_g (lw_at lw_m3 53 rfl) rfl
theorem q617 : (Jvm.Cond.superclass "PrimeProofs$Part" "PrimeProofs$Line") ∈ lw_all := lw_g (lw_at lw_m3 54 rfl) rfl
theorem q662 : (Jvm.Cond.selects "PrimeProofs$Part" ({ cls := "PrimeProofs$Line", name := "isFound", desc := "()Z" } : Jvm.MethodName) ({ cls := "PrimeProofs$Line", name := "isFound", desc := "()Z" } : Jvm.MethodName)) ∈ lw_all := lw_g (lw_at lw_m3 99 rfl) rfl
theorem q718 : (Jvm.Cond.selects "PrimeProofs$Part" ({ cls := "PrimeProofs$Line", name := "lays", desc := "()V" } : Jvm.MethodName) ({ cls := "PrimeProofs$Part", name := "lays", desc := "()V" } : Jvm.MethodName)) ∈ lw_all := lw_g (lw_at lw_m3 155 rfl) rfl
theorem q719 : (Jvm.Cond.instanceMethod ({ cls := "PrimeProofs$Part", name := "lays", desc := "()V" } : Jvm.MethodName)) ∈ lw_all := lw_g (lw_at lw_m3 156 rfl) rfl
theorem q720 : (Jvm.Cond.code ({ cls := "PrimeProofs$Part", name := "lays", desc := "()V" } : Jvm.MethodName) prog_9_method_4_code (3 : Nat) (Option.none : Option Jvm.ClassFile.FieldType)) ∈ lw_all := lw_g (lw_at lw_m3 157 rfl) rfl
theorem q721 : (Jvm.Cond.methodLinkNest "PrimeProofs$Part" (29 : Nat) ({ cls := "PrimeProofs", name := "factors", desc := "(J)LPrimeProofs$Rows;" } : Jvm.MethodName) "PrimeProofs") ∈ lw_tbl := lw_at lw_m3 158 rfl
theorem q722 : (Jvm.Cond.methodLink "PrimeProofs$Part" (37 : Nat) ({ cls := "PrimeProofs$Part", name := "isEnough", desc := "()Z" } : Jvm.MethodName)) ∈ lw_all := lw_g (lw_at lw_m3 159 rfl) rfl
theorem q723 : (Jvm.Cond.methodLink "PrimeProofs$Part" (45 : Nat) ({ cls := "PrimeProofs$Rows", name := "adds", desc := "(LPrimeProofs$Row;)LPrimeProofs$Rows;" } : Jvm.MethodName)) ∈ lw_all := lw_g (lw_at lw_m3 160 rfl) rfl
theorem q738 : (Jvm.Cond.selects "PrimeProofs$Part" ({ cls := "PrimeProofs$Line", name := "findsBases", desc := "()Z" } : Jvm.MethodName) ({ cls := "PrimeProofs$Line", name := "findsBases", desc := "()Z" } : Jvm.MethodName)) ∈ lw_all := lw_g (lw_at lw_m3 175 rfl) rfl
theorem q763 : (Jvm.Cond.selects "PrimeProofs$Part" ({ cls := "PrimeProofs$Line", name := "findsBase", desc := "(LPrimeProofs$Row;)Z" } : Jvm.MethodName) ({ cls := "PrimeProofs$Line", name := "findsBase", desc := "(LPrimeProofs$Row;)Z" } : Jvm.MethodName)) ∈ lw_all := lw_g (lw_at lw_m3 200 rfl) rfl
theorem q772 : (Jvm.Cond.selects "PrimeProofs$Part" ({ cls := "PrimeProofs$Line", name := "findsPair", desc := "()Z" } : Jvm.MethodName) ({ cls := "PrimeProofs$Line", name := "findsPair", desc := "()Z" } : Jvm.MethodName)) ∈ lw_all := lw_g (lw_at lw_m3 209 rfl) rfl
theorem q832 : (Jvm.Cond.selects "PrimeProofs$Part" ({ cls := "java/lang/Object", name := "getClass", desc := "()Ljava/lang/Class;" } : Jvm.MethodName) ({ cls := "java/lang/Object", name := "getClass", desc := "()Ljava/lang/Class;" } : Jvm.MethodName)) ∈ lw_all := lw_g (lw_at lw_m4 29 rfl) rfl
theorem q2201 : (Jvm.Cond.selects "PrimeProofs$Part" ({ cls := "PrimeProofs$Part", name := "isEnough", desc := "()Z" } : Jvm.MethodName) ({ cls := "PrimeProofs$Part", name := "isEnough", desc := "()Z" } : Jvm.MethodName)) ∈ lw_all := lw_g (lw_at lw_m9 198 rfl) rfl
theorem q2216 : (Jvm.Cond.castable "PrimeProofs$Part" "PrimeProofs$Line") ∈ lw_tbl := lw_at lw_m9 213 rfl
theorem q2229 : (Jvm.Cond.castable "PrimeProofs$Part" "java/lang/Object") ∈ lw_tbl := lw_at lw_m9 226 rfl
theorem in_X10 : ∀ w ∈ wsX100, w ∈ lw_all := lw_in wsX100 [610, 611, 612, 613, 614, 615, 616, 608] (by decide +kernel) (by decide +kernel)

/-! PrimeProofs$Lucas -/
set_option maxRecDepth 100000
def RX11 : String := "PrimeProofs$Lucas"
def TX11 : u_T := fun k => match k with
  | 0 => ("PrimeProofs$Line", "n", "J", false)
  | 1 => ("PrimeProofs$Line", "sort", "I", true)
  | 2 => ("PrimeProofs$Line", "p", "I", false)
  | 3 => ("PrimeProofs$Line", "q", "I", false)
  | 4 => ("PrimeProofs$Line", "down", "LPrimeProofs$Rows;", true)
  | 5 => ("PrimeProofs$Line", "up", "LPrimeProofs$Rows;", true)
  | 6 => ("PrimeProofs$Line", "this$0", "LPrimeProofs;", true)
  | _ => ("PrimeProofs$Lucas", "this$0", "LPrimeProofs;", true)
def tyX11 : Nat → FieldType := fun k => match k with
  | 0 => .long
  | 1 => .int
  | 2 => .int
  | 3 => .int
  | 4 => .object "PrimeProofs$Rows"
  | 5 => .object "PrimeProofs$Rows"
  | 6 => .object "PrimeProofs"
  | _ => .object "PrimeProofs"
abbrev wsX110 : List Cond := u_ws RX11 TX11 8
-- two fields of one name: no nmX11
theorem tyX11_ok : ∀ k, k < 8 → parseFieldDescriptor (TX11 k).2.2.1 = some (tyX11 k) := by decide +kernel
abbrev cX11_isWhole : ByteArray := prog_8_method_2_code
def yX11_isWhole : MethodName := ⟨RX11, "isWhole", "()Z"⟩
def dkwX11_isWhole_0 : List UInt8 := [42, 180, 0, 15, 182, 0, 19, 42, 180, 0, 25, 10, 97, 148, 154, 0, 7, 4, 167, 0, 4, 3, 172]
abbrev dktX11_isWhole_0 : List UInt8 := dkwX11_isWhole_0 ++ []
theorem dksX11_isWhole_0 : cX11_isWhole.data.toList.drop 0 = dktX11_isWhole_0 := by decide +kernel
theorem dX11_isWhole_0 : decode cX11_isWhole 0 = .ok (.aload_n 0, 1) := dk_42 (dk_at dksX11_isWhole_0 0 rfl rfl)
theorem dX11_isWhole_1 : decode cX11_isWhole 1 = .ok (.getfield 15, 3) := dk_180 0 15 (dk_at dksX11_isWhole_0 1 rfl rfl)
theorem dX11_isWhole_4 : decode cX11_isWhole 4 = .ok (.invokevirtual 19, 3) := dk_182 0 19 (dk_at dksX11_isWhole_0 4 rfl rfl)
theorem dX11_isWhole_7 : decode cX11_isWhole 7 = .ok (.aload_n 0, 1) := dk_42 (dk_at dksX11_isWhole_0 7 rfl rfl)
theorem dX11_isWhole_8 : decode cX11_isWhole 8 = .ok (.getfield 25, 3) := dk_180 0 25 (dk_at dksX11_isWhole_0 8 rfl rfl)
theorem dX11_isWhole_11 : decode cX11_isWhole 11 = .ok (.lconst 1, 1) := dk_10 (dk_at dksX11_isWhole_0 11 rfl rfl)
theorem dX11_isWhole_12 : decode cX11_isWhole 12 = .ok (.ladd, 1) := dk_97 (dk_at dksX11_isWhole_0 12 rfl rfl)
theorem dX11_isWhole_13 : decode cX11_isWhole 13 = .ok (.lcmp, 1) := dk_148 (dk_at dksX11_isWhole_0 13 rfl rfl)
theorem dX11_isWhole_14 : decode cX11_isWhole 14 = .ok (.ifCond .ne 7, 3) := dk_154 0 7 (dk_at dksX11_isWhole_0 14 rfl rfl)
theorem dX11_isWhole_17 : decode cX11_isWhole 17 = .ok (.iconst 1, 1) := dk_4 (dk_at dksX11_isWhole_0 17 rfl rfl)
theorem dX11_isWhole_18 : decode cX11_isWhole 18 = .ok (.goto 4, 3) := dk_167 0 4 (dk_at dksX11_isWhole_0 18 rfl rfl)
theorem dX11_isWhole_21 : decode cX11_isWhole 21 = .ok (.iconst 0, 1) := dk_3 (dk_at dksX11_isWhole_0 21 rfl rfl)
theorem dX11_isWhole_22 : decode cX11_isWhole 22 = .ok (.ireturn, 1) := dk_172 (dk_at dksX11_isWhole_0 22 rfl rfl)
abbrev cX11_init : ByteArray := prog_8_method_1_code
def yX11_init : MethodName := ⟨RX11, "<init>", "(LPrimeProofs;J)V"⟩
def dkwX11_init_0 : List UInt8 := [42, 43, 181, 0, 3, 42, 43, 32, 6, 183, 0, 9, 177]
abbrev dktX11_init_0 : List UInt8 := dkwX11_init_0 ++ []
theorem dksX11_init_0 : cX11_init.data.toList.drop 0 = dktX11_init_0 := by decide +kernel
theorem dX11_init_0 : decode cX11_init 0 = .ok (.aload_n 0, 1) := dk_42 (dk_at dksX11_init_0 0 rfl rfl)
theorem dX11_init_1 : decode cX11_init 1 = .ok (.aload_n 1, 1) := dk_43 (dk_at dksX11_init_0 1 rfl rfl)
theorem dX11_init_2 : decode cX11_init 2 = .ok (.putfield 3, 3) := dk_181 0 3 (dk_at dksX11_init_0 2 rfl rfl)
theorem dX11_init_5 : decode cX11_init 5 = .ok (.aload_n 0, 1) := dk_42 (dk_at dksX11_init_0 5 rfl rfl)
theorem dX11_init_6 : decode cX11_init 6 = .ok (.aload_n 1, 1) := dk_43 (dk_at dksX11_init_0 6 rfl rfl)
theorem dX11_init_7 : decode cX11_init 7 = .ok (.lload_n 2, 1) := dk_32 (dk_at dksX11_init_0 7 rfl rfl)
theorem dX11_init_8 : decode cX11_init 8 = .ok (.iconst 3, 1) := dk_6 (dk_at dksX11_init_0 8 rfl rfl)
theorem dX11_init_9 : decode cX11_init 9 = .ok (.invokespecial 9, 3) := dk_183 0 9 (dk_at dksX11_init_0 9 rfl rfl)
theorem dX11_init_12 : decode cX11_init 12 = .ok (.return_, 1) := dk_177 (dk_at dksX11_init_0 12 rfl rfl)
abbrev cX11_lays : ByteArray := prog_8_method_3_code
def yX11_lays : MethodName := ⟨RX11, "lays", "()V"⟩
def dkwX11_lays_0 : List UInt8 := [42, 42, 180, 0, 15, 42, 180, 0, 25, 10, 97, 182, 0, 29, 177]
abbrev dktX11_lays_0 : List UInt8 := dkwX11_lays_0 ++ []
theorem dksX11_lays_0 : cX11_lays.data.toList.drop 0 = dktX11_lays_0 := by decide +kernel
theorem dX11_lays_0 : decode cX11_lays 0 = .ok (.aload_n 0, 1) := dk_42 (dk_at dksX11_lays_0 0 rfl rfl)
theorem dX11_lays_1 : decode cX11_lays 1 = .ok (.aload_n 0, 1) := dk_42 (dk_at dksX11_lays_0 1 rfl rfl)
theorem dX11_lays_2 : decode cX11_lays 2 = .ok (.getfield 15, 3) := dk_180 0 15 (dk_at dksX11_lays_0 2 rfl rfl)
theorem dX11_lays_5 : decode cX11_lays 5 = .ok (.aload_n 0, 1) := dk_42 (dk_at dksX11_lays_0 5 rfl rfl)
theorem dX11_lays_6 : decode cX11_lays 6 = .ok (.getfield 25, 3) := dk_180 0 25 (dk_at dksX11_lays_0 6 rfl rfl)
theorem dX11_lays_9 : decode cX11_lays 9 = .ok (.lconst 1, 1) := dk_10 (dk_at dksX11_lays_0 9 rfl rfl)
theorem dX11_lays_10 : decode cX11_lays 10 = .ok (.ladd, 1) := dk_97 (dk_at dksX11_lays_0 10 rfl rfl)
theorem dX11_lays_11 : decode cX11_lays 11 = .ok (.invokevirtual 29, 3) := dk_182 0 29 (dk_at dksX11_lays_0 11 rfl rfl)
theorem dX11_lays_14 : decode cX11_lays 14 = .ok (.return_, 1) := dk_177 (dk_at dksX11_lays_0 14 rfl rfl)
theorem q101 : (Jvm.Cond.initialized "PrimeProofs$Lucas") ∈ lw_all := lw_g (lw_at lw_m1 18 rfl) rfl
theorem q227 : (Jvm.Cond.selects "PrimeProofs$Lucas" ({ cls := "PrimeProofs$Line", name := "fault", desc := "(I)I" } : Jvm.MethodName) ({ cls := "PrimeProofs$Line", name := "fault", desc := "(I)I" } : Jvm.MethodName)) ∈ lw_all := lw_g (lw_at lw_m1 144 rfl) rfl
theorem q325 : (Jvm.Cond.selects "PrimeProofs$Lucas" ({ cls := "PrimeProofs$Line", name := "isWhole", desc := "()Z" } : Jvm.MethodName) ({ cls := "PrimeProofs$Lucas", name := "isWhole", desc := "()Z" } : Jvm.MethodName)) ∈ lw_all := lw_g (lw_at lw_m2 2 rfl) rfl
theorem q326 : (Jvm.Cond.instanceMethod ({ cls := "PrimeProofs$Lucas", name := "isWhole", desc := "()Z" } : Jvm.MethodName)) ∈ lw_all := lw_g (lw_at lw_m2 3 rfl) rfl
theorem q327 : (Jvm.Cond.code ({ cls := "PrimeProofs$Lucas", name := "isWhole", desc := "()Z" } : Jvm.MethodName) prog_8_method_2_code (1 : Nat) (Option.some Jvm.ClassFile.FieldType.boolean)) ∈ lw_all := lw_g (lw_at lw_m2 4 rfl) rfl
theorem q328 : (Jvm.Cond.methodLink "PrimeProofs$Lucas" (19 : Nat) ({ cls := "PrimeProofs$Rows", name := "product", desc := "()J" } : Jvm.MethodName)) ∈ lw_all := lw_g (lw_at lw_m2 5 rfl) rfl
theorem q351 : (Jvm.Cond.selects "PrimeProofs$Lucas" ({ cls := "PrimeProofs$Line", name := "isEnough", desc := "()Z" } : Jvm.MethodName) ({ cls := "PrimeProofs$Line", name := "isEnough", desc := "()Z" } : Jvm.MethodName)) ∈ lw_all := lw_g (lw_at lw_m2 28 rfl) rfl
theorem q362 : (Jvm.Cond.selects "PrimeProofs$Lucas" ({ cls := "PrimeProofs$Line", name := "isOne", desc := "(LPrimeProofs$Row;)Z" } : Jvm.MethodName) ({ cls := "PrimeProofs$Line", name := "isOne", desc := "(LPrimeProofs$Row;)Z" } : Jvm.MethodName)) ∈ lw_all := lw_g (lw_at lw_m2 39 rfl) rfl
theorem q435 : (Jvm.Cond.selects "PrimeProofs$Lucas" ({ cls := "PrimeProofs$Line", name := "isFar", desc := "(LPrimeProofs$Row;)Z" } : Jvm.MethodName) ({ cls := "PrimeProofs$Line", name := "isFar", desc := "(LPrimeProofs$Row;)Z" } : Jvm.MethodName)) ∈ lw_all := lw_g (lw_at lw_m2 112 rfl) rfl
theorem q446 : (Jvm.Cond.selects "PrimeProofs$Lucas" ({ cls := "PrimeProofs$Line", name := "hasPair", desc := "()Z" } : Jvm.MethodName) ({ cls := "PrimeProofs$Line", name := "hasPair", desc := "()Z" } : Jvm.MethodName)) ∈ lw_all := lw_g (lw_at lw_m2 123 rfl) rfl
theorem q455 : (Jvm.Cond.selects "PrimeProofs$Lucas" ({ cls := "PrimeProofs$Line", name := "pairFault", desc := "()I" } : Jvm.MethodName) ({ cls := "PrimeProofs$Line", name := "pairFault", desc := "()I" } : Jvm.MethodName)) ∈ lw_all := lw_g (lw_at lw_m2 132 rfl) rfl
theorem q537 : (Jvm.Cond.fieldLink "PrimeProofs$Lucas" (25 : Nat) "PrimeProofs$Lucas" "n" "J") ∈ lw_all := lw_g (lw_at lw_m2 214 rfl) rfl
theorem q538 : (Jvm.Cond.sameField "PrimeProofs$Lucas" "PrimeProofs$Line" "n" "J") ∈ lw_all := lw_g (lw_at lw_m2 215 rfl) rfl
theorem q560 : (Jvm.Cond.fieldLink "PrimeProofs$Lucas" (15 : Nat) "PrimeProofs$Lucas" "up" "LPrimeProofs$Rows;") ∈ lw_all := lw_g (lw_at lw_m2 237 rfl) rfl
theorem q561 : (Jvm.Cond.sameField "PrimeProofs$Lucas" "PrimeProofs$Line" "up" "LPrimeProofs$Rows;") ∈ lw_all := lw_g (lw_at lw_m2 238 rfl) rfl
theorem q619 : (Jvm.Cond.instantiable "PrimeProofs$Lucas" (8 : Nat)) ∈ lw_all := lw_g (lw_at lw_m3 56 rfl) rfl
theorem q621 : (Jvm.Cond.instanceMethod ({ cls := "PrimeProofs$Lucas", name := "<init>", desc := "(LPrimeProofs;J)V" } : Jvm.MethodName)) ∈ lw_all := lw_g (lw_at lw_m3 58 rfl) rfl
theorem q622 : (Jvm.Cond.code ({ cls := "PrimeProofs$Lucas", name := "<init>", desc := "(LPrimeProofs;J)V" } : Jvm.MethodName) prog_8_method_1_code (4 : Nat) (Option.none : Option Jvm.ClassFile.FieldType)) ∈ lw_all := lw_g (lw_at lw_m3 59 rfl) rfl
theorem q623 : (Jvm.Cond.methodLink "PrimeProofs$Lucas" (9 : Nat) ({ cls := "PrimeProofs$Line", name := "<init>", desc := "(LPrimeProofs;JI)V" } : Jvm.MethodName)) ∈ lw_all := lw_g (lw_at lw_m3 60 rfl) rfl
theorem q624 : (Jvm.Cond.fieldLink "PrimeProofs$Lucas" (3 : Nat) "PrimeProofs$Lucas" "this$0" "LPrimeProofs;") ∈ lw_all := lw_g (lw_at lw_m3 61 rfl) rfl
theorem q625 : (Jvm.Cond.laysFinal "PrimeProofs$Lucas" "PrimeProofs$Lucas" "this$0" "LPrimeProofs;") ∈ lw_all := lw_g (lw_at lw_m3 62 rfl) rfl
theorem q626 : (Jvm.Cond.soleField "PrimeProofs$Lucas" "this$0") ∈ lw_all := lw_g (lw_at lw_m3 63 rfl) rfl
theorem q627 : (Jvm.Cond.lays "PrimeProofs$Lucas" "PrimeProofs$Line" "n" "J") ∈ lw_all := lw_g (lw_at lw_m3 64 rfl) rfl
theorem q628 : (Jvm.Cond.laysFinal "PrimeProofs$Lucas" "PrimeProofs$Line" "sort" "I") ∈ lw_all := lw_g (lw_at lw_m3 65 rfl) rfl
theorem q629 : (Jvm.Cond.lays "PrimeProofs$Lucas" "PrimeProofs$Line" "p" "I") ∈ lw_all := lw_g (lw_at lw_m3 66 rfl) rfl
theorem q630 : (Jvm.Cond.lays "PrimeProofs$Lucas" "PrimeProofs$Line" "q" "I") ∈ lw_all := lw_g (lw_at lw_m3 67 rfl) rfl
theorem q631 : (Jvm.Cond.laysFinal "PrimeProofs$Lucas" "PrimeProofs$Line" "down" "LPrimeProofs$Rows;") ∈ lw_all := lw_g (lw_at lw_m3 68 rfl) rfl
theorem q632 : (Jvm.Cond.laysFinal "PrimeProofs$Lucas" "PrimeProofs$Line" "up" "LPrimeProofs$Rows;") ∈ lw_all := lw_g (lw_at lw_m3 69 rfl) rfl
theorem q633 : (Jvm.Cond.laysFinal "PrimeProofs$Lucas" "PrimeProofs$Line" "this$0" "LPrimeProofs;") ∈ lw_all := lw_g (lw_at lw_m3 70 rfl) rfl
theorem q634 : (Jvm.Cond.superclass "PrimeProofs$Lucas" "PrimeProofs$Line") ∈ lw_all := lw_g (lw_at lw_m3 71 rfl) rfl
theorem q661 : (Jvm.Cond.selects "PrimeProofs$Lucas" ({ cls := "PrimeProofs$Line", name := "isFound", desc := "()Z" } : Jvm.MethodName) ({ cls := "PrimeProofs$Line", name := "isFound", desc := "()Z" } : Jvm.MethodName)) ∈ lw_all := lw_g (lw_at lw_m3 98 rfl) rfl
theorem q707 : (Jvm.Cond.selects "PrimeProofs$Lucas" ({ cls := "PrimeProofs$Line", name := "lays", desc := "()V" } : Jvm.MethodName) ({ cls := "PrimeProofs$Lucas", name := "lays", desc := "()V" } : Jvm.MethodName)) ∈ lw_all := lw_g (lw_at lw_m3 144 rfl) rfl
theorem q708 : (Jvm.Cond.instanceMethod ({ cls := "PrimeProofs$Lucas", name := "lays", desc := "()V" } : Jvm.MethodName)) ∈ lw_all := lw_g (lw_at lw_m3 145 rfl) rfl
theorem q709 : (Jvm.Cond.code ({ cls := "PrimeProofs$Lucas", name := "lays", desc := "()V" } : Jvm.MethodName) prog_8_method_3_code (1 : Nat) (Option.none : Option Jvm.ClassFile.FieldType)) ∈ lw_all := lw_g (lw_at lw_m3 146 rfl) rfl
theorem q710 : (Jvm.Cond.methodLink "PrimeProofs$Lucas" (29 : Nat) ({ cls := "PrimeProofs$Lucas", name := "laysAll", desc := "(LPrimeProofs$Rows;J)V" } : Jvm.MethodName)) ∈ lw_all := lw_g (lw_at lw_m3 147 rfl) rfl
theorem q711 : (Jvm.Cond.sameMethod "PrimeProofs$Lucas" "PrimeProofs$Line" "laysAll" "(LPrimeProofs$Rows;J)V") ∈ lw_all := lw_g (lw_at lw_m3 148 rfl) rfl
theorem q713 : (Jvm.Cond.selects "PrimeProofs$Lucas" ({ cls := "PrimeProofs$Lucas", name := "laysAll", desc := "(LPrimeProofs$Rows;J)V" } : Jvm.MethodName) ({ cls := "PrimeProofs$Line", name := "laysAll", desc := "(LPrimeProofs$Rows;J)V" } : Jvm.MethodName)) ∈ lw_all := lw_g (lw_at lw_m3 150 rfl) rfl
theorem q737 : (Jvm.Cond.selects "PrimeProofs$Lucas" ({ cls := "PrimeProofs$Line", name := "findsBases", desc := "()Z" } : Jvm.MethodName) ({ cls := "PrimeProofs$Line", name := "findsBases", desc := "()Z" } : Jvm.MethodName)) ∈ lw_all := lw_g (lw_at lw_m3 174 rfl) rfl
theorem q762 : (Jvm.Cond.selects "PrimeProofs$Lucas" ({ cls := "PrimeProofs$Line", name := "findsBase", desc := "(LPrimeProofs$Row;)Z" } : Jvm.MethodName) ({ cls := "PrimeProofs$Line", name := "findsBase", desc := "(LPrimeProofs$Row;)Z" } : Jvm.MethodName)) ∈ lw_all := lw_g (lw_at lw_m3 199 rfl) rfl
theorem q771 : (Jvm.Cond.selects "PrimeProofs$Lucas" ({ cls := "PrimeProofs$Line", name := "findsPair", desc := "()Z" } : Jvm.MethodName) ({ cls := "PrimeProofs$Line", name := "findsPair", desc := "()Z" } : Jvm.MethodName)) ∈ lw_all := lw_g (lw_at lw_m3 208 rfl) rfl
theorem q831 : (Jvm.Cond.selects "PrimeProofs$Lucas" ({ cls := "java/lang/Object", name := "getClass", desc := "()Ljava/lang/Class;" } : Jvm.MethodName) ({ cls := "java/lang/Object", name := "getClass", desc := "()Ljava/lang/Class;" } : Jvm.MethodName)) ∈ lw_all := lw_g (lw_at lw_m4 28 rfl) rfl
theorem q2215 : (Jvm.Cond.castable "PrimeProofs$Lucas" "PrimeProofs$Line") ∈ lw_tbl := lw_at lw_m9 212 rfl
theorem q2230 : (Jvm.Cond.castable "PrimeProofs$Lucas" "java/lang/Object") ∈ lw_tbl := lw_at lw_m9 227 rfl
theorem in_X11 : ∀ w ∈ wsX110, w ∈ lw_all := lw_in wsX110 [627, 628, 629, 630, 631, 632, 633, 625] (by decide +kernel) (by decide +kernel)

/-! PrimeProofs$Both -/
set_option maxRecDepth 100000
def RX12 : String := "PrimeProofs$Both"
def TX12 : u_T := fun k => match k with
  | 0 => ("PrimeProofs$Line", "n", "J", false)
  | 1 => ("PrimeProofs$Line", "sort", "I", true)
  | 2 => ("PrimeProofs$Line", "p", "I", false)
  | 3 => ("PrimeProofs$Line", "q", "I", false)
  | 4 => ("PrimeProofs$Line", "down", "LPrimeProofs$Rows;", true)
  | 5 => ("PrimeProofs$Line", "up", "LPrimeProofs$Rows;", true)
  | 6 => ("PrimeProofs$Line", "this$0", "LPrimeProofs;", true)
  | _ => ("PrimeProofs$Both", "this$0", "LPrimeProofs;", true)
def tyX12 : Nat → FieldType := fun k => match k with
  | 0 => .long
  | 1 => .int
  | 2 => .int
  | 3 => .int
  | 4 => .object "PrimeProofs$Rows"
  | 5 => .object "PrimeProofs$Rows"
  | 6 => .object "PrimeProofs"
  | _ => .object "PrimeProofs"
abbrev wsX120 : List Cond := u_ws RX12 TX12 8
-- two fields of one name: no nmX12
theorem tyX12_ok : ∀ k, k < 8 → parseFieldDescriptor (TX12 k).2.2.1 = some (tyX12 k) := by decide +kernel
abbrev cX12_isWhole : ByteArray := prog_4_method_2_code
def yX12_isWhole : MethodName := ⟨RX12, "isWhole", "()Z"⟩
def dkwX12_isWhole_1 : List UInt8 := [97, 42, 180, 0, 29, 182, 0, 23, 113, 9, 148, 154, 0, 7, 4, 167, 0, 4, 3, 172]
abbrev dktX12_isWhole_1 : List UInt8 := dkwX12_isWhole_1 ++ []
def dkwX12_isWhole_0 : List UInt8 := [42, 180, 0, 15, 10, 101, 42, 180, 0, 19, 182, 0, 23, 113, 9, 148, 154, 0, 26, 42, 180, 0, 15, 10]
abbrev dktX12_isWhole_0 : List UInt8 := dkwX12_isWhole_0 ++ dktX12_isWhole_1
theorem dksX12_isWhole_0 : cX12_isWhole.data.toList.drop 0 = dktX12_isWhole_0 := by decide +kernel
theorem dksX12_isWhole_1 : cX12_isWhole.data.toList.drop 24 = dktX12_isWhole_1 := dk_seg dksX12_isWhole_0 24 rfl rfl
theorem dX12_isWhole_0 : decode cX12_isWhole 0 = .ok (.aload_n 0, 1) := dk_42 (dk_at dksX12_isWhole_0 0 rfl rfl)
theorem dX12_isWhole_1 : decode cX12_isWhole 1 = .ok (.getfield 15, 3) := dk_180 0 15 (dk_at dksX12_isWhole_0 1 rfl rfl)
theorem dX12_isWhole_4 : decode cX12_isWhole 4 = .ok (.lconst 1, 1) := dk_10 (dk_at dksX12_isWhole_0 4 rfl rfl)
theorem dX12_isWhole_5 : decode cX12_isWhole 5 = .ok (.lsub, 1) := dk_101 (dk_at dksX12_isWhole_0 5 rfl rfl)
theorem dX12_isWhole_6 : decode cX12_isWhole 6 = .ok (.aload_n 0, 1) := dk_42 (dk_at dksX12_isWhole_0 6 rfl rfl)
theorem dX12_isWhole_7 : decode cX12_isWhole 7 = .ok (.getfield 19, 3) := dk_180 0 19 (dk_at dksX12_isWhole_0 7 rfl rfl)
theorem dX12_isWhole_10 : decode cX12_isWhole 10 = .ok (.invokevirtual 23, 3) := dk_182 0 23 (dk_at dksX12_isWhole_0 10 rfl rfl)
theorem dX12_isWhole_13 : decode cX12_isWhole 13 = .ok (.lrem, 1) := dk_113 (dk_at dksX12_isWhole_0 13 rfl rfl)
theorem dX12_isWhole_14 : decode cX12_isWhole 14 = .ok (.lconst 0, 1) := dk_9 (dk_at dksX12_isWhole_0 14 rfl rfl)
theorem dX12_isWhole_15 : decode cX12_isWhole 15 = .ok (.lcmp, 1) := dk_148 (dk_at dksX12_isWhole_0 15 rfl rfl)
theorem dX12_isWhole_16 : decode cX12_isWhole 16 = .ok (.ifCond .ne 26, 3) := dk_154 0 26 (dk_at dksX12_isWhole_0 16 rfl rfl)
theorem dX12_isWhole_19 : decode cX12_isWhole 19 = .ok (.aload_n 0, 1) := dk_42 (dk_at dksX12_isWhole_0 19 rfl rfl)
theorem dX12_isWhole_20 : decode cX12_isWhole 20 = .ok (.getfield 15, 3) := dk_180 0 15 (dk_at dksX12_isWhole_0 20 rfl rfl)
theorem dX12_isWhole_23 : decode cX12_isWhole 23 = .ok (.lconst 1, 1) := dk_10 (dk_at dksX12_isWhole_0 23 rfl rfl)
theorem dX12_isWhole_24 : decode cX12_isWhole 24 = .ok (.ladd, 1) := dk_97 (dk_at dksX12_isWhole_1 0 rfl rfl)
theorem dX12_isWhole_25 : decode cX12_isWhole 25 = .ok (.aload_n 0, 1) := dk_42 (dk_at dksX12_isWhole_1 1 rfl rfl)
theorem dX12_isWhole_26 : decode cX12_isWhole 26 = .ok (.getfield 29, 3) := dk_180 0 29 (dk_at dksX12_isWhole_1 2 rfl rfl)
theorem dX12_isWhole_29 : decode cX12_isWhole 29 = .ok (.invokevirtual 23, 3) := dk_182 0 23 (dk_at dksX12_isWhole_1 5 rfl rfl)
theorem dX12_isWhole_32 : decode cX12_isWhole 32 = .ok (.lrem, 1) := dk_113 (dk_at dksX12_isWhole_1 8 rfl rfl)
theorem dX12_isWhole_33 : decode cX12_isWhole 33 = .ok (.lconst 0, 1) := dk_9 (dk_at dksX12_isWhole_1 9 rfl rfl)
theorem dX12_isWhole_34 : decode cX12_isWhole 34 = .ok (.lcmp, 1) := dk_148 (dk_at dksX12_isWhole_1 10 rfl rfl)
theorem dX12_isWhole_35 : decode cX12_isWhole 35 = .ok (.ifCond .ne 7, 3) := dk_154 0 7 (dk_at dksX12_isWhole_1 11 rfl rfl)
theorem dX12_isWhole_38 : decode cX12_isWhole 38 = .ok (.iconst 1, 1) := dk_4 (dk_at dksX12_isWhole_1 14 rfl rfl)
theorem dX12_isWhole_39 : decode cX12_isWhole 39 = .ok (.goto 4, 3) := dk_167 0 4 (dk_at dksX12_isWhole_1 15 rfl rfl)
theorem dX12_isWhole_42 : decode cX12_isWhole 42 = .ok (.iconst 0, 1) := dk_3 (dk_at dksX12_isWhole_1 18 rfl rfl)
theorem dX12_isWhole_43 : decode cX12_isWhole 43 = .ok (.ireturn, 1) := dk_172 (dk_at dksX12_isWhole_1 19 rfl rfl)
abbrev cX12_isEnough : ByteArray := prog_4_method_3_code
def yX12_isEnough : MethodName := ⟨RX12, "isEnough", "()Z"⟩
def dkwX12_isEnough_4 : List UInt8 := [172]
abbrev dktX12_isEnough_4 : List UInt8 := dkwX12_isEnough_4 ++ []
def dkwX12_isEnough_3 : List UInt8 := [180, 0, 15, 148, 153, 0, 15, 42, 180, 0, 15, 22, 7, 113, 9, 148, 153, 0, 7, 4, 167, 0, 4, 3]
abbrev dktX12_isEnough_3 : List UInt8 := dkwX12_isEnough_3 ++ dktX12_isEnough_4
def dkwX12_isEnough_2 : List UInt8 := [157, 0, 5, 3, 172, 42, 180, 0, 15, 22, 5, 113, 55, 7, 22, 7, 10, 148, 158, 0, 25, 22, 7, 42]
abbrev dktX12_isEnough_2 : List UInt8 := dkwX12_isEnough_2 ++ dktX12_isEnough_3
def dkwX12_isEnough_1 : List UInt8 := [105, 55, 5, 22, 5, 20, 0, 36, 148, 157, 0, 18, 22, 5, 22, 5, 105, 42, 180, 0, 15, 148]
abbrev dktX12_isEnough_1 : List UInt8 := dkwX12_isEnough_1 ++ dktX12_isEnough_2
def dkwX12_isEnough_0 : List UInt8 := [42, 180, 0, 19, 182, 0, 23, 64, 42, 180, 0, 29, 182, 0, 23, 66, 31, 31, 33, 184, 0, 32, 109, 33]
abbrev dktX12_isEnough_0 : List UInt8 := dkwX12_isEnough_0 ++ dktX12_isEnough_1
theorem dksX12_isEnough_0 : cX12_isEnough.data.toList.drop 0 = dktX12_isEnough_0 := by decide +kernel
theorem dksX12_isEnough_1 : cX12_isEnough.data.toList.drop 24 = dktX12_isEnough_1 := dk_seg dksX12_isEnough_0 24 rfl rfl
theorem dksX12_isEnough_2 : cX12_isEnough.data.toList.drop 46 = dktX12_isEnough_2 := dk_seg dksX12_isEnough_1 22 rfl rfl
theorem dksX12_isEnough_3 : cX12_isEnough.data.toList.drop 70 = dktX12_isEnough_3 := dk_seg dksX12_isEnough_2 24 rfl rfl
theorem dksX12_isEnough_4 : cX12_isEnough.data.toList.drop 94 = dktX12_isEnough_4 := dk_seg dksX12_isEnough_3 24 rfl rfl
theorem dX12_isEnough_0 : decode cX12_isEnough 0 = .ok (.aload_n 0, 1) := dk_42 (dk_at dksX12_isEnough_0 0 rfl rfl)
theorem dX12_isEnough_1 : decode cX12_isEnough 1 = .ok (.getfield 19, 3) := dk_180 0 19 (dk_at dksX12_isEnough_0 1 rfl rfl)
theorem dX12_isEnough_4 : decode cX12_isEnough 4 = .ok (.invokevirtual 23, 3) := dk_182 0 23 (dk_at dksX12_isEnough_0 4 rfl rfl)
theorem dX12_isEnough_7 : decode cX12_isEnough 7 = .ok (.lstore_n 1, 1) := dk_64 (dk_at dksX12_isEnough_0 7 rfl rfl)
theorem dX12_isEnough_8 : decode cX12_isEnough 8 = .ok (.aload_n 0, 1) := dk_42 (dk_at dksX12_isEnough_0 8 rfl rfl)
theorem dX12_isEnough_9 : decode cX12_isEnough 9 = .ok (.getfield 29, 3) := dk_180 0 29 (dk_at dksX12_isEnough_0 9 rfl rfl)
theorem dX12_isEnough_12 : decode cX12_isEnough 12 = .ok (.invokevirtual 23, 3) := dk_182 0 23 (dk_at dksX12_isEnough_0 12 rfl rfl)
theorem dX12_isEnough_15 : decode cX12_isEnough 15 = .ok (.lstore_n 3, 1) := dk_66 (dk_at dksX12_isEnough_0 15 rfl rfl)
theorem dX12_isEnough_16 : decode cX12_isEnough 16 = .ok (.lload_n 1, 1) := dk_31 (dk_at dksX12_isEnough_0 16 rfl rfl)
theorem dX12_isEnough_17 : decode cX12_isEnough 17 = .ok (.lload_n 1, 1) := dk_31 (dk_at dksX12_isEnough_0 17 rfl rfl)
theorem dX12_isEnough_18 : decode cX12_isEnough 18 = .ok (.lload_n 3, 1) := dk_33 (dk_at dksX12_isEnough_0 18 rfl rfl)
theorem dX12_isEnough_19 : decode cX12_isEnough 19 = .ok (.invokestatic 32, 3) := dk_184 0 32 (dk_at dksX12_isEnough_0 19 rfl rfl)
theorem dX12_isEnough_22 : decode cX12_isEnough 22 = .ok (.ldiv, 1) := dk_109 (dk_at dksX12_isEnough_0 22 rfl rfl)
theorem dX12_isEnough_23 : decode cX12_isEnough 23 = .ok (.lload_n 3, 1) := dk_33 (dk_at dksX12_isEnough_0 23 rfl rfl)
theorem dX12_isEnough_24 : decode cX12_isEnough 24 = .ok (.lmul, 1) := dk_105 (dk_at dksX12_isEnough_1 0 rfl rfl)
theorem dX12_isEnough_25 : decode cX12_isEnough 25 = .ok (.lstore 5, 2) := dk_55 5 (dk_at dksX12_isEnough_1 1 rfl rfl)
theorem dX12_isEnough_27 : decode cX12_isEnough 27 = .ok (.lload 5, 2) := dk_22 5 (dk_at dksX12_isEnough_1 3 rfl rfl)
theorem dX12_isEnough_29 : decode cX12_isEnough 29 = .ok (.ldc2_w 36, 3) := dk_20 0 36 (dk_at dksX12_isEnough_1 5 rfl rfl)
theorem dX12_isEnough_32 : decode cX12_isEnough 32 = .ok (.lcmp, 1) := dk_148 (dk_at dksX12_isEnough_1 8 rfl rfl)
theorem dX12_isEnough_33 : decode cX12_isEnough 33 = .ok (.ifCond .gt 18, 3) := dk_157 0 18 (dk_at dksX12_isEnough_1 9 rfl rfl)
theorem dX12_isEnough_36 : decode cX12_isEnough 36 = .ok (.lload 5, 2) := dk_22 5 (dk_at dksX12_isEnough_1 12 rfl rfl)
theorem dX12_isEnough_38 : decode cX12_isEnough 38 = .ok (.lload 5, 2) := dk_22 5 (dk_at dksX12_isEnough_1 14 rfl rfl)
theorem dX12_isEnough_40 : decode cX12_isEnough 40 = .ok (.lmul, 1) := dk_105 (dk_at dksX12_isEnough_1 16 rfl rfl)
theorem dX12_isEnough_41 : decode cX12_isEnough 41 = .ok (.aload_n 0, 1) := dk_42 (dk_at dksX12_isEnough_1 17 rfl rfl)
theorem dX12_isEnough_42 : decode cX12_isEnough 42 = .ok (.getfield 15, 3) := dk_180 0 15 (dk_at dksX12_isEnough_1 18 rfl rfl)
theorem dX12_isEnough_45 : decode cX12_isEnough 45 = .ok (.lcmp, 1) := dk_148 (dk_at dksX12_isEnough_1 21 rfl rfl)
theorem dX12_isEnough_46 : decode cX12_isEnough 46 = .ok (.ifCond .gt 5, 3) := dk_157 0 5 (dk_at dksX12_isEnough_2 0 rfl rfl)
theorem dX12_isEnough_49 : decode cX12_isEnough 49 = .ok (.iconst 0, 1) := dk_3 (dk_at dksX12_isEnough_2 3 rfl rfl)
theorem dX12_isEnough_50 : decode cX12_isEnough 50 = .ok (.ireturn, 1) := dk_172 (dk_at dksX12_isEnough_2 4 rfl rfl)
theorem dX12_isEnough_51 : decode cX12_isEnough 51 = .ok (.aload_n 0, 1) := dk_42 (dk_at dksX12_isEnough_2 5 rfl rfl)
theorem dX12_isEnough_52 : decode cX12_isEnough 52 = .ok (.getfield 15, 3) := dk_180 0 15 (dk_at dksX12_isEnough_2 6 rfl rfl)
theorem dX12_isEnough_55 : decode cX12_isEnough 55 = .ok (.lload 5, 2) := dk_22 5 (dk_at dksX12_isEnough_2 9 rfl rfl)
theorem dX12_isEnough_57 : decode cX12_isEnough 57 = .ok (.lrem, 1) := dk_113 (dk_at dksX12_isEnough_2 11 rfl rfl)
theorem dX12_isEnough_58 : decode cX12_isEnough 58 = .ok (.lstore 7, 2) := dk_55 7 (dk_at dksX12_isEnough_2 12 rfl rfl)
theorem dX12_isEnough_60 : decode cX12_isEnough 60 = .ok (.lload 7, 2) := dk_22 7 (dk_at dksX12_isEnough_2 14 rfl rfl)
theorem dX12_isEnough_62 : decode cX12_isEnough 62 = .ok (.lconst 1, 1) := dk_10 (dk_at dksX12_isEnough_2 16 rfl rfl)
theorem dX12_isEnough_63 : decode cX12_isEnough 63 = .ok (.lcmp, 1) := dk_148 (dk_at dksX12_isEnough_2 17 rfl rfl)
theorem dX12_isEnough_64 : decode cX12_isEnough 64 = .ok (.ifCond .le 25, 3) := dk_158 0 25 (dk_at dksX12_isEnough_2 18 rfl rfl)
theorem dX12_isEnough_67 : decode cX12_isEnough 67 = .ok (.lload 7, 2) := dk_22 7 (dk_at dksX12_isEnough_2 21 rfl rfl)
theorem dX12_isEnough_69 : decode cX12_isEnough 69 = .ok (.aload_n 0, 1) := dk_42 (dk_at dksX12_isEnough_2 23 rfl rfl)
theorem dX12_isEnough_70 : decode cX12_isEnough 70 = .ok (.getfield 15, 3) := dk_180 0 15 (dk_at dksX12_isEnough_3 0 rfl rfl)
theorem dX12_isEnough_73 : decode cX12_isEnough 73 = .ok (.lcmp, 1) := dk_148 (dk_at dksX12_isEnough_3 3 rfl rfl)
theorem dX12_isEnough_74 : decode cX12_isEnough 74 = .ok (.ifCond .eq 15, 3) := dk_153 0 15 (dk_at dksX12_isEnough_3 4 rfl rfl)
theorem dX12_isEnough_77 : decode cX12_isEnough 77 = .ok (.aload_n 0, 1) := dk_42 (dk_at dksX12_isEnough_3 7 rfl rfl)
theorem dX12_isEnough_78 : decode cX12_isEnough 78 = .ok (.getfield 15, 3) := dk_180 0 15 (dk_at dksX12_isEnough_3 8 rfl rfl)
theorem dX12_isEnough_81 : decode cX12_isEnough 81 = .ok (.lload 7, 2) := dk_22 7 (dk_at dksX12_isEnough_3 11 rfl rfl)
theorem dX12_isEnough_83 : decode cX12_isEnough 83 = .ok (.lrem, 1) := dk_113 (dk_at dksX12_isEnough_3 13 rfl rfl)
theorem dX12_isEnough_84 : decode cX12_isEnough 84 = .ok (.lconst 0, 1) := dk_9 (dk_at dksX12_isEnough_3 14 rfl rfl)
theorem dX12_isEnough_85 : decode cX12_isEnough 85 = .ok (.lcmp, 1) := dk_148 (dk_at dksX12_isEnough_3 15 rfl rfl)
theorem dX12_isEnough_86 : decode cX12_isEnough 86 = .ok (.ifCond .eq 7, 3) := dk_153 0 7 (dk_at dksX12_isEnough_3 16 rfl rfl)
theorem dX12_isEnough_89 : decode cX12_isEnough 89 = .ok (.iconst 1, 1) := dk_4 (dk_at dksX12_isEnough_3 19 rfl rfl)
theorem dX12_isEnough_90 : decode cX12_isEnough 90 = .ok (.goto 4, 3) := dk_167 0 4 (dk_at dksX12_isEnough_3 20 rfl rfl)
theorem dX12_isEnough_93 : decode cX12_isEnough 93 = .ok (.iconst 0, 1) := dk_3 (dk_at dksX12_isEnough_3 23 rfl rfl)
theorem dX12_isEnough_94 : decode cX12_isEnough 94 = .ok (.ireturn, 1) := dk_172 (dk_at dksX12_isEnough_4 0 rfl rfl)
abbrev cX12_init : ByteArray := prog_4_method_1_code
def yX12_init : MethodName := ⟨RX12, "<init>", "(LPrimeProofs;J)V"⟩
def dkwX12_init_0 : List UInt8 := [42, 43, 181, 0, 3, 42, 43, 32, 7, 183, 0, 9, 177]
abbrev dktX12_init_0 : List UInt8 := dkwX12_init_0 ++ []
theorem dksX12_init_0 : cX12_init.data.toList.drop 0 = dktX12_init_0 := by decide +kernel
theorem dX12_init_0 : decode cX12_init 0 = .ok (.aload_n 0, 1) := dk_42 (dk_at dksX12_init_0 0 rfl rfl)
theorem dX12_init_1 : decode cX12_init 1 = .ok (.aload_n 1, 1) := dk_43 (dk_at dksX12_init_0 1 rfl rfl)
theorem dX12_init_2 : decode cX12_init 2 = .ok (.putfield 3, 3) := dk_181 0 3 (dk_at dksX12_init_0 2 rfl rfl)
theorem dX12_init_5 : decode cX12_init 5 = .ok (.aload_n 0, 1) := dk_42 (dk_at dksX12_init_0 5 rfl rfl)
theorem dX12_init_6 : decode cX12_init 6 = .ok (.aload_n 1, 1) := dk_43 (dk_at dksX12_init_0 6 rfl rfl)
theorem dX12_init_7 : decode cX12_init 7 = .ok (.lload_n 2, 1) := dk_32 (dk_at dksX12_init_0 7 rfl rfl)
theorem dX12_init_8 : decode cX12_init 8 = .ok (.iconst 4, 1) := dk_7 (dk_at dksX12_init_0 8 rfl rfl)
theorem dX12_init_9 : decode cX12_init 9 = .ok (.invokespecial 9, 3) := dk_183 0 9 (dk_at dksX12_init_0 9 rfl rfl)
theorem dX12_init_12 : decode cX12_init 12 = .ok (.return_, 1) := dk_177 (dk_at dksX12_init_0 12 rfl rfl)
abbrev cX12_lays : ByteArray := prog_4_method_4_code
def yX12_lays : MethodName := ⟨RX12, "lays", "()V"⟩
def dkwX12_lays_5 : List UInt8 := [167, 255, 176, 177]
abbrev dktX12_lays_5 : List UInt8 := dkwX12_lays_5 ++ []
def dkwX12_lays_4 : List UInt8 := [21, 4, 50, 182, 0, 54, 87, 132, 4, 255, 21, 5, 154, 0, 7, 4, 167, 0, 4, 3, 54, 5]
abbrev dktX12_lays_4 : List UInt8 := dkwX12_lays_4 ++ dktX12_lays_5
def dkwX12_lays_3 : List UInt8 := [43, 180, 0, 50, 29, 50, 182, 0, 54, 87, 132, 3, 255, 167, 0, 21, 42, 180, 0, 29, 44, 180, 0, 50]
abbrev dktX12_lays_3 : List UInt8 := dkwX12_lays_3 ++ dktX12_lays_4
def dkwX12_lays_2 : List UInt8 := [182, 0, 46, 154, 0, 70, 29, 155, 0, 33, 21, 5, 154, 0, 8, 21, 4, 156, 0, 23, 42, 180, 0, 19]
abbrev dktX12_lays_2 : List UInt8 := dkwX12_lays_2 ++ dktX12_lays_3
def dkwX12_lays_1 : List UInt8 := [4, 100, 62, 44, 180, 0, 42, 4, 100, 54, 4, 4, 54, 5, 29, 156, 0, 8, 21, 4, 155, 0, 77, 42]
abbrev dktX12_lays_1 : List UInt8 := dkwX12_lays_1 ++ dktX12_lays_2
def dkwX12_lays_0 : List UInt8 := [42, 180, 0, 15, 10, 101, 184, 0, 38, 76, 42, 180, 0, 15, 10, 97, 184, 0, 38, 77, 43, 180, 0, 42]
abbrev dktX12_lays_0 : List UInt8 := dkwX12_lays_0 ++ dktX12_lays_1
theorem dksX12_lays_0 : cX12_lays.data.toList.drop 0 = dktX12_lays_0 := by decide +kernel
theorem dksX12_lays_1 : cX12_lays.data.toList.drop 24 = dktX12_lays_1 := dk_seg dksX12_lays_0 24 rfl rfl
theorem dksX12_lays_2 : cX12_lays.data.toList.drop 48 = dktX12_lays_2 := dk_seg dksX12_lays_1 24 rfl rfl
theorem dksX12_lays_3 : cX12_lays.data.toList.drop 72 = dktX12_lays_3 := dk_seg dksX12_lays_2 24 rfl rfl
theorem dksX12_lays_4 : cX12_lays.data.toList.drop 96 = dktX12_lays_4 := dk_seg dksX12_lays_3 24 rfl rfl
theorem dksX12_lays_5 : cX12_lays.data.toList.drop 118 = dktX12_lays_5 := dk_seg dksX12_lays_4 22 rfl rfl
theorem dX12_lays_0 : decode cX12_lays 0 = .ok (.aload_n 0, 1) := dk_42 (dk_at dksX12_lays_0 0 rfl rfl)
theorem dX12_lays_1 : decode cX12_lays 1 = .ok (.getfield 15, 3) := dk_180 0 15 (dk_at dksX12_lays_0 1 rfl rfl)
theorem dX12_lays_4 : decode cX12_lays 4 = .ok (.lconst 1, 1) := dk_10 (dk_at dksX12_lays_0 4 rfl rfl)
theorem dX12_lays_5 : decode cX12_lays 5 = .ok (.lsub, 1) := dk_101 (dk_at dksX12_lays_0 5 rfl rfl)
theorem dX12_lays_6 : decode cX12_lays 6 = .ok (.invokestatic 38, 3) := dk_184 0 38 (dk_at dksX12_lays_0 6 rfl rfl)
theorem dX12_lays_9 : decode cX12_lays 9 = .ok (.astore_n 1, 1) := dk_76 (dk_at dksX12_lays_0 9 rfl rfl)
theorem dX12_lays_10 : decode cX12_lays 10 = .ok (.aload_n 0, 1) := dk_42 (dk_at dksX12_lays_0 10 rfl rfl)
theorem dX12_lays_11 : decode cX12_lays 11 = .ok (.getfield 15, 3) := dk_180 0 15 (dk_at dksX12_lays_0 11 rfl rfl)
theorem dX12_lays_14 : decode cX12_lays 14 = .ok (.lconst 1, 1) := dk_10 (dk_at dksX12_lays_0 14 rfl rfl)
theorem dX12_lays_15 : decode cX12_lays 15 = .ok (.ladd, 1) := dk_97 (dk_at dksX12_lays_0 15 rfl rfl)
theorem dX12_lays_16 : decode cX12_lays 16 = .ok (.invokestatic 38, 3) := dk_184 0 38 (dk_at dksX12_lays_0 16 rfl rfl)
theorem dX12_lays_19 : decode cX12_lays 19 = .ok (.astore_n 2, 1) := dk_77 (dk_at dksX12_lays_0 19 rfl rfl)
theorem dX12_lays_20 : decode cX12_lays 20 = .ok (.aload_n 1, 1) := dk_43 (dk_at dksX12_lays_0 20 rfl rfl)
theorem dX12_lays_21 : decode cX12_lays 21 = .ok (.getfield 42, 3) := dk_180 0 42 (dk_at dksX12_lays_0 21 rfl rfl)
theorem dX12_lays_24 : decode cX12_lays 24 = .ok (.iconst 1, 1) := dk_4 (dk_at dksX12_lays_1 0 rfl rfl)
theorem dX12_lays_25 : decode cX12_lays 25 = .ok (.isub, 1) := dk_100 (dk_at dksX12_lays_1 1 rfl rfl)
theorem dX12_lays_26 : decode cX12_lays 26 = .ok (.istore_n 3, 1) := dk_62 (dk_at dksX12_lays_1 2 rfl rfl)
theorem dX12_lays_27 : decode cX12_lays 27 = .ok (.aload_n 2, 1) := dk_44 (dk_at dksX12_lays_1 3 rfl rfl)
theorem dX12_lays_28 : decode cX12_lays 28 = .ok (.getfield 42, 3) := dk_180 0 42 (dk_at dksX12_lays_1 4 rfl rfl)
theorem dX12_lays_31 : decode cX12_lays 31 = .ok (.iconst 1, 1) := dk_4 (dk_at dksX12_lays_1 7 rfl rfl)
theorem dX12_lays_32 : decode cX12_lays 32 = .ok (.isub, 1) := dk_100 (dk_at dksX12_lays_1 8 rfl rfl)
theorem dX12_lays_33 : decode cX12_lays 33 = .ok (.istore 4, 2) := dk_54 4 (dk_at dksX12_lays_1 9 rfl rfl)
theorem dX12_lays_35 : decode cX12_lays 35 = .ok (.iconst 1, 1) := dk_4 (dk_at dksX12_lays_1 11 rfl rfl)
theorem dX12_lays_36 : decode cX12_lays 36 = .ok (.istore 5, 2) := dk_54 5 (dk_at dksX12_lays_1 12 rfl rfl)
theorem dX12_lays_38 : decode cX12_lays 38 = .ok (.iload_n 3, 1) := dk_29 (dk_at dksX12_lays_1 14 rfl rfl)
theorem dX12_lays_39 : decode cX12_lays 39 = .ok (.ifCond .ge 8, 3) := dk_156 0 8 (dk_at dksX12_lays_1 15 rfl rfl)
theorem dX12_lays_42 : decode cX12_lays 42 = .ok (.iload 4, 2) := dk_21 4 (dk_at dksX12_lays_1 18 rfl rfl)
theorem dX12_lays_44 : decode cX12_lays 44 = .ok (.ifCond .lt 77, 3) := dk_155 0 77 (dk_at dksX12_lays_1 20 rfl rfl)
theorem dX12_lays_47 : decode cX12_lays 47 = .ok (.aload_n 0, 1) := dk_42 (dk_at dksX12_lays_1 23 rfl rfl)
theorem dX12_lays_48 : decode cX12_lays 48 = .ok (.invokevirtual 46, 3) := dk_182 0 46 (dk_at dksX12_lays_2 0 rfl rfl)
theorem dX12_lays_51 : decode cX12_lays 51 = .ok (.ifCond .ne 70, 3) := dk_154 0 70 (dk_at dksX12_lays_2 3 rfl rfl)
theorem dX12_lays_54 : decode cX12_lays 54 = .ok (.iload_n 3, 1) := dk_29 (dk_at dksX12_lays_2 6 rfl rfl)
theorem dX12_lays_55 : decode cX12_lays 55 = .ok (.ifCond .lt 33, 3) := dk_155 0 33 (dk_at dksX12_lays_2 7 rfl rfl)
theorem dX12_lays_58 : decode cX12_lays 58 = .ok (.iload 5, 2) := dk_21 5 (dk_at dksX12_lays_2 10 rfl rfl)
theorem dX12_lays_60 : decode cX12_lays 60 = .ok (.ifCond .ne 8, 3) := dk_154 0 8 (dk_at dksX12_lays_2 12 rfl rfl)
theorem dX12_lays_63 : decode cX12_lays 63 = .ok (.iload 4, 2) := dk_21 4 (dk_at dksX12_lays_2 15 rfl rfl)
theorem dX12_lays_65 : decode cX12_lays 65 = .ok (.ifCond .ge 23, 3) := dk_156 0 23 (dk_at dksX12_lays_2 17 rfl rfl)
theorem dX12_lays_68 : decode cX12_lays 68 = .ok (.aload_n 0, 1) := dk_42 (dk_at dksX12_lays_2 20 rfl rfl)
theorem dX12_lays_69 : decode cX12_lays 69 = .ok (.getfield 19, 3) := dk_180 0 19 (dk_at dksX12_lays_2 21 rfl rfl)
theorem dX12_lays_72 : decode cX12_lays 72 = .ok (.aload_n 1, 1) := dk_43 (dk_at dksX12_lays_3 0 rfl rfl)
theorem dX12_lays_73 : decode cX12_lays 73 = .ok (.getfield 50, 3) := dk_180 0 50 (dk_at dksX12_lays_3 1 rfl rfl)
theorem dX12_lays_76 : decode cX12_lays 76 = .ok (.iload_n 3, 1) := dk_29 (dk_at dksX12_lays_3 4 rfl rfl)
theorem dX12_lays_77 : decode cX12_lays 77 = .ok (.aaload, 1) := dk_50 (dk_at dksX12_lays_3 5 rfl rfl)
theorem dX12_lays_78 : decode cX12_lays 78 = .ok (.invokevirtual 54, 3) := dk_182 0 54 (dk_at dksX12_lays_3 6 rfl rfl)
theorem dX12_lays_81 : decode cX12_lays 81 = .ok (.pop, 1) := dk_87 (dk_at dksX12_lays_3 9 rfl rfl)
theorem dX12_lays_82 : decode cX12_lays 82 = .ok (.iinc 3 (-1), 3) := dk_132 3 255 (dk_at dksX12_lays_3 10 rfl rfl)
theorem dX12_lays_85 : decode cX12_lays 85 = .ok (.goto 21, 3) := dk_167 0 21 (dk_at dksX12_lays_3 13 rfl rfl)
theorem dX12_lays_88 : decode cX12_lays 88 = .ok (.aload_n 0, 1) := dk_42 (dk_at dksX12_lays_3 16 rfl rfl)
theorem dX12_lays_89 : decode cX12_lays 89 = .ok (.getfield 29, 3) := dk_180 0 29 (dk_at dksX12_lays_3 17 rfl rfl)
theorem dX12_lays_92 : decode cX12_lays 92 = .ok (.aload_n 2, 1) := dk_44 (dk_at dksX12_lays_3 20 rfl rfl)
theorem dX12_lays_93 : decode cX12_lays 93 = .ok (.getfield 50, 3) := dk_180 0 50 (dk_at dksX12_lays_3 21 rfl rfl)
theorem dX12_lays_96 : decode cX12_lays 96 = .ok (.iload 4, 2) := dk_21 4 (dk_at dksX12_lays_4 0 rfl rfl)
theorem dX12_lays_98 : decode cX12_lays 98 = .ok (.aaload, 1) := dk_50 (dk_at dksX12_lays_4 2 rfl rfl)
theorem dX12_lays_99 : decode cX12_lays 99 = .ok (.invokevirtual 54, 3) := dk_182 0 54 (dk_at dksX12_lays_4 3 rfl rfl)
theorem dX12_lays_102 : decode cX12_lays 102 = .ok (.pop, 1) := dk_87 (dk_at dksX12_lays_4 6 rfl rfl)
theorem dX12_lays_103 : decode cX12_lays 103 = .ok (.iinc 4 (-1), 3) := dk_132 4 255 (dk_at dksX12_lays_4 7 rfl rfl)
theorem dX12_lays_106 : decode cX12_lays 106 = .ok (.iload 5, 2) := dk_21 5 (dk_at dksX12_lays_4 10 rfl rfl)
theorem dX12_lays_108 : decode cX12_lays 108 = .ok (.ifCond .ne 7, 3) := dk_154 0 7 (dk_at dksX12_lays_4 12 rfl rfl)
theorem dX12_lays_111 : decode cX12_lays 111 = .ok (.iconst 1, 1) := dk_4 (dk_at dksX12_lays_4 15 rfl rfl)
theorem dX12_lays_112 : decode cX12_lays 112 = .ok (.goto 4, 3) := dk_167 0 4 (dk_at dksX12_lays_4 16 rfl rfl)
theorem dX12_lays_115 : decode cX12_lays 115 = .ok (.iconst 0, 1) := dk_3 (dk_at dksX12_lays_4 19 rfl rfl)
theorem dX12_lays_116 : decode cX12_lays 116 = .ok (.istore 5, 2) := dk_54 5 (dk_at dksX12_lays_4 20 rfl rfl)
theorem dX12_lays_118 : decode cX12_lays 118 = .ok (.goto (-80), 3) := dk_167 255 176 (dk_at dksX12_lays_5 0 rfl rfl)
theorem dX12_lays_121 : decode cX12_lays 121 = .ok (.return_, 1) := dk_177 (dk_at dksX12_lays_5 3 rfl rfl)
theorem q102 : (Jvm.Cond.initialized "PrimeProofs$Both") ∈ lw_all := lw_g (lw_at lw_m1 19 rfl) rfl
theorem q226 : (Jvm.Cond.selects "PrimeProofs$Both" ({ cls := "PrimeProofs$Line", name := "fault", desc := "(I)I" } : Jvm.MethodName) ({ cls := "PrimeProofs$Line", name := "fault", desc := "(I)I" } : Jvm.MethodName)) ∈ lw_all := lw_g (lw_at lw_m1 143 rfl) rfl
theorem q308 : (Jvm.Cond.selects "PrimeProofs$Both" ({ cls := "PrimeProofs$Line", name := "isWhole", desc := "()Z" } : Jvm.MethodName) ({ cls := "PrimeProofs$Both", name := "isWhole", desc := "()Z" } : Jvm.MethodName)) ∈ lw_all := lw_g (lw_at lw_m1 225 rfl) rfl
theorem q309 : (Jvm.Cond.instanceMethod ({ cls := "PrimeProofs$Both", name := "isWhole", desc := "()Z" } : Jvm.MethodName)) ∈ lw_all := lw_g (lw_at lw_m1 226 rfl) rfl
theorem q310 : (Jvm.Cond.code ({ cls := "PrimeProofs$Both", name := "isWhole", desc := "()Z" } : Jvm.MethodName) prog_4_method_2_code (1 : Nat) (Option.some Jvm.ClassFile.FieldType.boolean)) ∈ lw_all := lw_g (lw_at lw_m1 227 rfl) rfl
theorem q311 : (Jvm.Cond.methodLink "PrimeProofs$Both" (23 : Nat) ({ cls := "PrimeProofs$Rows", name := "product", desc := "()J" } : Jvm.MethodName)) ∈ lw_all := lw_g (lw_at lw_m1 228 rfl) rfl
theorem q343 : (Jvm.Cond.selects "PrimeProofs$Both" ({ cls := "PrimeProofs$Line", name := "isEnough", desc := "()Z" } : Jvm.MethodName) ({ cls := "PrimeProofs$Both", name := "isEnough", desc := "()Z" } : Jvm.MethodName)) ∈ lw_all := lw_g (lw_at lw_m2 20 rfl) rfl
theorem q344 : (Jvm.Cond.instanceMethod ({ cls := "PrimeProofs$Both", name := "isEnough", desc := "()Z" } : Jvm.MethodName)) ∈ lw_all := lw_g (lw_at lw_m2 21 rfl) rfl
theorem q345 : (Jvm.Cond.code ({ cls := "PrimeProofs$Both", name := "isEnough", desc := "()Z" } : Jvm.MethodName) prog_4_method_3_code (9 : Nat) (Option.some Jvm.ClassFile.FieldType.boolean)) ∈ lw_all := lw_g (lw_at lw_m2 22 rfl) rfl
theorem q346 : (Jvm.Cond.methodLinkNest "PrimeProofs$Both" (32 : Nat) ({ cls := "PrimeProofs", name := "common", desc := "(JJ)J" } : Jvm.MethodName) "PrimeProofs") ∈ lw_tbl := lw_at lw_m2 23 rfl
theorem q350 : (Jvm.Cond.constantLong "PrimeProofs$Both" (36 : Nat) (1000000000 : Int64)) ∈ lw_all := lw_g (lw_at lw_m2 27 rfl) rfl
theorem q361 : (Jvm.Cond.selects "PrimeProofs$Both" ({ cls := "PrimeProofs$Line", name := "isOne", desc := "(LPrimeProofs$Row;)Z" } : Jvm.MethodName) ({ cls := "PrimeProofs$Line", name := "isOne", desc := "(LPrimeProofs$Row;)Z" } : Jvm.MethodName)) ∈ lw_all := lw_g (lw_at lw_m2 38 rfl) rfl
theorem q434 : (Jvm.Cond.selects "PrimeProofs$Both" ({ cls := "PrimeProofs$Line", name := "isFar", desc := "(LPrimeProofs$Row;)Z" } : Jvm.MethodName) ({ cls := "PrimeProofs$Line", name := "isFar", desc := "(LPrimeProofs$Row;)Z" } : Jvm.MethodName)) ∈ lw_all := lw_g (lw_at lw_m2 111 rfl) rfl
theorem q445 : (Jvm.Cond.selects "PrimeProofs$Both" ({ cls := "PrimeProofs$Line", name := "hasPair", desc := "()Z" } : Jvm.MethodName) ({ cls := "PrimeProofs$Line", name := "hasPair", desc := "()Z" } : Jvm.MethodName)) ∈ lw_all := lw_g (lw_at lw_m2 122 rfl) rfl
theorem q454 : (Jvm.Cond.selects "PrimeProofs$Both" ({ cls := "PrimeProofs$Line", name := "pairFault", desc := "()I" } : Jvm.MethodName) ({ cls := "PrimeProofs$Line", name := "pairFault", desc := "()I" } : Jvm.MethodName)) ∈ lw_all := lw_g (lw_at lw_m2 131 rfl) rfl
theorem q518 : (Jvm.Cond.fieldLinkNest "PrimeProofs$Both" (50 : Nat) "PrimeProofs$Rows" "row" "[LPrimeProofs$Row;" "PrimeProofs") ∈ lw_tbl := lw_at lw_m2 195 rfl
theorem q523 : (Jvm.Cond.fieldLinkNest "PrimeProofs$Both" (42 : Nat) "PrimeProofs$Rows" "many" "I" "PrimeProofs") ∈ lw_tbl := lw_at lw_m2 200 rfl
theorem q533 : (Jvm.Cond.fieldLink "PrimeProofs$Both" (15 : Nat) "PrimeProofs$Both" "n" "J") ∈ lw_all := lw_g (lw_at lw_m2 210 rfl) rfl
theorem q534 : (Jvm.Cond.sameField "PrimeProofs$Both" "PrimeProofs$Line" "n" "J") ∈ lw_all := lw_g (lw_at lw_m2 211 rfl) rfl
theorem q553 : (Jvm.Cond.fieldLink "PrimeProofs$Both" (19 : Nat) "PrimeProofs$Both" "down" "LPrimeProofs$Rows;") ∈ lw_all := lw_g (lw_at lw_m2 230 rfl) rfl
theorem q554 : (Jvm.Cond.sameField "PrimeProofs$Both" "PrimeProofs$Line" "down" "LPrimeProofs$Rows;") ∈ lw_all := lw_g (lw_at lw_m2 231 rfl) rfl
theorem q562 : (Jvm.Cond.fieldLink "PrimeProofs$Both" (29 : Nat) "PrimeProofs$Both" "up" "LPrimeProofs$Rows;") ∈ lw_all := lw_g (lw_at lw_m2 239 rfl) rfl
theorem q563 : (Jvm.Cond.sameField "PrimeProofs$Both" "PrimeProofs$Line" "up" "LPrimeProofs$Rows;") ∈ lw_all := lw_g (lw_at lw_m3 0 rfl) rfl
theorem q636 : (Jvm.Cond.instantiable "PrimeProofs$Both" (8 : Nat)) ∈ lw_all := lw_g (lw_at lw_m3 73 rfl) rfl
theorem q638 : (Jvm.Cond.instanceMethod ({ cls := "PrimeProofs$Both", name := "<init>", desc := "(LPrimeProofs;J)V" } : Jvm.MethodName)) ∈ lw_all := lw_g (lw_at lw_m3 75 rfl) rfl
theorem q639 : (Jvm.Cond.code ({ cls := "PrimeProofs$Both", name := "<init>", desc := "(LPrimeProofs;J)V" } : Jvm.MethodName) prog_4_method_1_code (4 : Nat) (Option.none : Option Jvm.ClassFile.FieldType)) ∈ lw_all := lw_g (lw_at lw_m3 76 rfl) rfl
theorem q640 : (Jvm.Cond.methodLink "PrimeProofs$Both" (9 : Nat) ({ cls := "PrimeProofs$Line", name := "<init>", desc := "(LPrimeProofs;JI)V" } : Jvm.MethodName)) ∈ lw_all := lw_g (lw_at lw_m3 77 rfl) rfl
theorem q641 : (Jvm.Cond.fieldLink "PrimeProofs$Both" (3 : Nat) "PrimeProofs$Both" "this$0" "LPrimeProofs;") ∈ lw_all := lw_g (lw_at lw_m3 78 rfl) rfl
theorem q642 : (Jvm.Cond.laysFinal "PrimeProofs$Both" "PrimeProofs$Both" "this$0" "LPrimeProofs;") ∈ lw_all := lw_g (lw_at lw_m3 79 rfl) rfl
theorem q643 : (Jvm.Cond.soleField "PrimeProofs$Both" "this$0") ∈ lw_all := lw_g (lw_at lw_m3 80 rfl) rfl
theorem q644 : (Jvm.Cond.lays "PrimeProofs$Both" "PrimeProofs$Line" "n" "J") ∈ lw_all := lw_g (lw_at lw_m3 81 rfl) rfl
theorem q645 : (Jvm.Cond.laysFinal "PrimeProofs$Both" "PrimeProofs$Line" "sort" "I") ∈ lw_all := lw_g (lw_at lw_m3 82 rfl) rfl
theorem q646 : (Jvm.Cond.lays "PrimeProofs$Both" "PrimeProofs$Line" "p" "I") ∈ lw_all := lw_g (lw_at lw_m3 83 rfl) rfl
theorem q647 : (Jvm.Cond.lays "PrimeProofs$Both" "PrimeProofs$Line" "q" "I") ∈ lw_all := lw_g (lw_at lw_m3 84 rfl) rfl
theorem q648 : (Jvm.Cond.laysFinal "PrimeProofs$Both" "PrimeProofs$Line" "down" "LPrimeProofs$Rows;") ∈ lw_all := lw_g (lw_at lw_m3 85 rfl) rfl
theorem q649 : (Jvm.Cond.laysFinal "PrimeProofs$Both" "PrimeProofs$Line" "up" "LPrimeProofs$Rows;") ∈ lw_all := lw_g (lw_at lw_m3 86 rfl) rfl
theorem q650 : (Jvm.Cond.laysFinal "PrimeProofs$Both" "PrimeProofs$Line" "this$0" "LPrimeProofs;") ∈ lw_all := lw_g (lw_at lw_m3 87 rfl) rfl
theorem q651 : (Jvm.Cond.superclass "PrimeProofs$Both" "PrimeProofs$Line") ∈ lw_all := lw_g (lw_at lw_m3 88 rfl) rfl
theorem q660 : (Jvm.Cond.selects "PrimeProofs$Both" ({ cls := "PrimeProofs$Line", name := "isFound", desc := "()Z" } : Jvm.MethodName) ({ cls := "PrimeProofs$Line", name := "isFound", desc := "()Z" } : Jvm.MethodName)) ∈ lw_all := lw_g (lw_at lw_m3 97 rfl) rfl
theorem q669 : (Jvm.Cond.selects "PrimeProofs$Both" ({ cls := "PrimeProofs$Line", name := "lays", desc := "()V" } : Jvm.MethodName) ({ cls := "PrimeProofs$Both", name := "lays", desc := "()V" } : Jvm.MethodName)) ∈ lw_all := lw_g (lw_at lw_m3 106 rfl) rfl
theorem q670 : (Jvm.Cond.instanceMethod ({ cls := "PrimeProofs$Both", name := "lays", desc := "()V" } : Jvm.MethodName)) ∈ lw_all := lw_g (lw_at lw_m3 107 rfl) rfl
theorem q671 : (Jvm.Cond.code ({ cls := "PrimeProofs$Both", name := "lays", desc := "()V" } : Jvm.MethodName) prog_4_method_4_code (6 : Nat) (Option.none : Option Jvm.ClassFile.FieldType)) ∈ lw_all := lw_g (lw_at lw_m3 108 rfl) rfl
theorem q672 : (Jvm.Cond.methodLinkNest "PrimeProofs$Both" (38 : Nat) ({ cls := "PrimeProofs", name := "factors", desc := "(J)LPrimeProofs$Rows;" } : Jvm.MethodName) "PrimeProofs") ∈ lw_tbl := lw_at lw_m3 109 rfl
theorem q705 : (Jvm.Cond.methodLink "PrimeProofs$Both" (46 : Nat) ({ cls := "PrimeProofs$Both", name := "isEnough", desc := "()Z" } : Jvm.MethodName)) ∈ lw_all := lw_g (lw_at lw_m3 142 rfl) rfl
theorem q706 : (Jvm.Cond.methodLink "PrimeProofs$Both" (54 : Nat) ({ cls := "PrimeProofs$Rows", name := "adds", desc := "(LPrimeProofs$Row;)LPrimeProofs$Rows;" } : Jvm.MethodName)) ∈ lw_all := lw_g (lw_at lw_m3 143 rfl) rfl
theorem q736 : (Jvm.Cond.selects "PrimeProofs$Both" ({ cls := "PrimeProofs$Line", name := "findsBases", desc := "()Z" } : Jvm.MethodName) ({ cls := "PrimeProofs$Line", name := "findsBases", desc := "()Z" } : Jvm.MethodName)) ∈ lw_all := lw_g (lw_at lw_m3 173 rfl) rfl
theorem q761 : (Jvm.Cond.selects "PrimeProofs$Both" ({ cls := "PrimeProofs$Line", name := "findsBase", desc := "(LPrimeProofs$Row;)Z" } : Jvm.MethodName) ({ cls := "PrimeProofs$Line", name := "findsBase", desc := "(LPrimeProofs$Row;)Z" } : Jvm.MethodName)) ∈ lw_all := lw_g (lw_at lw_m3 198 rfl) rfl
theorem q770 : (Jvm.Cond.selects "PrimeProofs$Both" ({ cls := "PrimeProofs$Line", name := "findsPair", desc := "()Z" } : Jvm.MethodName) ({ cls := "PrimeProofs$Line", name := "findsPair", desc := "()Z" } : Jvm.MethodName)) ∈ lw_all := lw_g (lw_at lw_m3 207 rfl) rfl
theorem q829 : (Jvm.Cond.selects "PrimeProofs$Both" ({ cls := "java/lang/Object", name := "getClass", desc := "()Ljava/lang/Class;" } : Jvm.MethodName) ({ cls := "java/lang/Object", name := "getClass", desc := "()Ljava/lang/Class;" } : Jvm.MethodName)) ∈ lw_all := lw_g (lw_at lw_m4 26 rfl) rfl
theorem q2200 : (Jvm.Cond.selects "PrimeProofs$Both" ({ cls := "PrimeProofs$Both", name := "isEnough", desc := "()Z" } : Jvm.MethodName) ({ cls := "PrimeProofs$Both", name := "isEnough", desc := "()Z" } : Jvm.MethodName)) ∈ lw_all := lw_g (lw_at lw_m9 197 rfl) rfl
theorem q2214 : (Jvm.Cond.castable "PrimeProofs$Both" "PrimeProofs$Line") ∈ lw_tbl := lw_at lw_m9 211 rfl
theorem q2231 : (Jvm.Cond.castable "PrimeProofs$Both" "java/lang/Object") ∈ lw_tbl := lw_at lw_m9 228 rfl
theorem in_X12 : ∀ w ∈ wsX120, w ∈ lw_all := lw_in wsX120 [644, 645, 646, 647, 648, 649, 650, 642] (by decide +kernel) (by decide +kernel)

/-! PrimeProofs$Row -/
set_option maxRecDepth 100000
def RX13 : String := "PrimeProofs$Row"
def TX13 : u_T := fun k => match k with
  | 0 => ("PrimeProofs$Row", "q", "J", false)
  | 1 => ("PrimeProofs$Row", "exponent", "I", false)
  | _ => ("PrimeProofs$Row", "base", "I", false)
def tyX13 : Nat → FieldType := fun k => match k with
  | 0 => .long
  | 1 => .int
  | _ => .int
abbrev wsX130 : List Cond := u_ws RX13 TX13 3
theorem nmX13 : ∀ a, a < 3 → ∀ b, b < 3 → a ≠ b → (TX13 a).2.1 ≠ (TX13 b).2.1 := by decide +kernel
theorem tyX13_ok : ∀ k, k < 3 → parseFieldDescriptor (TX13 k).2.2.1 = some (tyX13 k) := by decide +kernel
abbrev cX13_init : ByteArray := prog_12_method_1_code
def yX13_init : MethodName := ⟨RX13, "<init>", "(JII)V"⟩
def dkwX13_init_0 : List UInt8 := [42, 183, 0, 1, 42, 31, 181, 0, 7, 42, 29, 181, 0, 13, 42, 21, 4, 181, 0, 17, 177]
abbrev dktX13_init_0 : List UInt8 := dkwX13_init_0 ++ []
theorem dksX13_init_0 : cX13_init.data.toList.drop 0 = dktX13_init_0 := by decide +kernel
theorem dX13_init_0 : decode cX13_init 0 = .ok (.aload_n 0, 1) := dk_42 (dk_at dksX13_init_0 0 rfl rfl)
theorem dX13_init_1 : decode cX13_init 1 = .ok (.invokespecial 1, 3) := dk_183 0 1 (dk_at dksX13_init_0 1 rfl rfl)
theorem dX13_init_4 : decode cX13_init 4 = .ok (.aload_n 0, 1) := dk_42 (dk_at dksX13_init_0 4 rfl rfl)
theorem dX13_init_5 : decode cX13_init 5 = .ok (.lload_n 1, 1) := dk_31 (dk_at dksX13_init_0 5 rfl rfl)
theorem dX13_init_6 : decode cX13_init 6 = .ok (.putfield 7, 3) := dk_181 0 7 (dk_at dksX13_init_0 6 rfl rfl)
theorem dX13_init_9 : decode cX13_init 9 = .ok (.aload_n 0, 1) := dk_42 (dk_at dksX13_init_0 9 rfl rfl)
theorem dX13_init_10 : decode cX13_init 10 = .ok (.iload_n 3, 1) := dk_29 (dk_at dksX13_init_0 10 rfl rfl)
theorem dX13_init_11 : decode cX13_init 11 = .ok (.putfield 13, 3) := dk_181 0 13 (dk_at dksX13_init_0 11 rfl rfl)
theorem dX13_init_14 : decode cX13_init 14 = .ok (.aload_n 0, 1) := dk_42 (dk_at dksX13_init_0 14 rfl rfl)
theorem dX13_init_15 : decode cX13_init 15 = .ok (.iload 4, 2) := dk_21 4 (dk_at dksX13_init_0 15 rfl rfl)
theorem dX13_init_17 : decode cX13_init 17 = .ok (.putfield 17, 3) := dk_181 0 17 (dk_at dksX13_init_0 17 rfl rfl)
theorem dX13_init_20 : decode cX13_init 20 = .ok (.return_, 1) := dk_177 (dk_at dksX13_init_0 20 rfl rfl)
theorem q103 : (Jvm.Cond.initialized "PrimeProofs$Row") ∈ lw_all := lw_g (lw_at lw_m1 20 rfl) rfl
theorem q678 : (Jvm.Cond.instantiable "PrimeProofs$Row" (3 : Nat)) ∈ lw_all := lw_g (lw_at lw_m3 115 rfl) rfl
theorem q680 : (Jvm.Cond.instanceMethod ({ cls := "PrimeProofs$Row", name := "<init>", desc := "(JII)V" } : Jvm.MethodName)) ∈ lw_all := lw_g (lw_at lw_m3 117 rfl) rfl
theorem q681 : (Jvm.Cond.code ({ cls := "PrimeProofs$Row", name := "<init>", desc := "(JII)V" } : Jvm.MethodName) prog_12_method_1_code (5 : Nat) (Option.none : Option Jvm.ClassFile.FieldType)) ∈ lw_all := lw_g (lw_at lw_m3 118 rfl) rfl
theorem q682 : (Jvm.Cond.methodLink "PrimeProofs$Row" (1 : Nat) ({ cls := "java/lang/Object", name := "<init>", desc := "()V" } : Jvm.MethodName)) ∈ lw_all := lw_g (lw_at lw_m3 119 rfl) rfl
theorem q683 : (Jvm.Cond.fieldLink "PrimeProofs$Row" (7 : Nat) "PrimeProofs$Row" "q" "J") ∈ lw_all := lw_g (lw_at lw_m3 120 rfl) rfl
theorem q687 : (Jvm.Cond.fieldLink "PrimeProofs$Row" (13 : Nat) "PrimeProofs$Row" "exponent" "I") ∈ lw_all := lw_g (lw_at lw_m3 124 rfl) rfl
theorem q690 : (Jvm.Cond.fieldLink "PrimeProofs$Row" (17 : Nat) "PrimeProofs$Row" "base" "I") ∈ lw_all := lw_g (lw_at lw_m3 127 rfl) rfl
theorem q694 : (Jvm.Cond.lays "PrimeProofs$Row" "PrimeProofs$Row" "q" "J") ∈ lw_all := lw_g (lw_at lw_m3 131 rfl) rfl
theorem q695 : (Jvm.Cond.soleField "PrimeProofs$Row" "q") ∈ lw_all := lw_g (lw_at lw_m3 132 rfl) rfl
theorem q696 : (Jvm.Cond.lays "PrimeProofs$Row" "PrimeProofs$Row" "exponent" "I") ∈ lw_all := lw_g (lw_at lw_m3 133 rfl) rfl
theorem q697 : (Jvm.Cond.soleField "PrimeProofs$Row" "exponent") ∈ lw_all := lw_g (lw_at lw_m3 134 rfl) rfl
theorem q698 : (Jvm.Cond.lays "PrimeProofs$Row" "PrimeProofs$Row" "base" "I") ∈ lw_all := lw_g (lw_at lw_m3 135 rfl) rfl
theorem q699 : (Jvm.Cond.soleField "PrimeProofs$Row" "base") ∈ lw_all := lw_g (lw_at lw_m3 136 rfl) rfl
theorem q700 : (Jvm.Cond.superclass "PrimeProofs$Row" "java/lang/Object") ∈ lw_all := lw_g (lw_at lw_m3 137 rfl) rfl
theorem q835 : (Jvm.Cond.selects "PrimeProofs$Row" ({ cls := "java/lang/Object", name := "getClass", desc := "()Ljava/lang/Class;" } : Jvm.MethodName) ({ cls := "java/lang/Object", name := "getClass", desc := "()Ljava/lang/Class;" } : Jvm.MethodName)) ∈ lw_all := lw_g (lw_at lw_m4 32 rfl) rfl
theorem q2219 : (Jvm.Cond.castable "PrimeProofs$Row" "java/lang/Object") ∈ lw_tbl := lw_at lw_m9 216 rfl
theorem in_X13 : ∀ w ∈ wsX130, w ∈ lw_all := lw_in wsX130 [694, 696, 698] (by decide +kernel) (by decide +kernel)

/-! PrimeProofs$Reader -/
set_option maxRecDepth 100000
def RX14 : String := "PrimeProofs$Reader"
def TX14 : u_T := fun k => match k with
  | 0 => ("PrimeProofs$Reader", "at", "I", false)
  | 1 => ("PrimeProofs$Reader", "place", "I", false)
  | 2 => ("PrimeProofs$Reader", "sort", "I", false)
  | 3 => ("PrimeProofs$Reader", "word", "Ljava/lang/String;", false)
  | 4 => ("PrimeProofs$Reader", "value", "J", false)
  | _ => ("PrimeProofs$Reader", "this$0", "LPrimeProofs;", true)
def tyX14 : Nat → FieldType := fun k => match k with
  | 0 => .int
  | 1 => .int
  | 2 => .int
  | 3 => .object "java/lang/String"
  | 4 => .long
  | _ => .object "PrimeProofs"
abbrev wsX140 : List Cond := u_ws RX14 TX14 6
theorem nmX14 : ∀ a, a < 6 → ∀ b, b < 6 → a ≠ b → (TX14 a).2.1 ≠ (TX14 b).2.1 := by decide +kernel
theorem tyX14_ok : ∀ k, k < 6 → parseFieldDescriptor (TX14 k).2.2.1 = some (tyX14 k) := by decide +kernel
abbrev cX14_init : ByteArray := prog_11_method_1_code
def yX14_init : MethodName := ⟨RX14, "<init>", "(LPrimeProofs;)V"⟩
def dkwX14_init_0 : List UInt8 := [42, 43, 181, 0, 3, 42, 183, 0, 9, 42, 18, 15, 181, 0, 17, 177]
abbrev dktX14_init_0 : List UInt8 := dkwX14_init_0 ++ []
theorem dksX14_init_0 : cX14_init.data.toList.drop 0 = dktX14_init_0 := by decide +kernel
theorem dX14_init_0 : decode cX14_init 0 = .ok (.aload_n 0, 1) := dk_42 (dk_at dksX14_init_0 0 rfl rfl)
theorem dX14_init_1 : decode cX14_init 1 = .ok (.aload_n 1, 1) := dk_43 (dk_at dksX14_init_0 1 rfl rfl)
theorem dX14_init_2 : decode cX14_init 2 = .ok (.putfield 3, 3) := dk_181 0 3 (dk_at dksX14_init_0 2 rfl rfl)
theorem dX14_init_5 : decode cX14_init 5 = .ok (.aload_n 0, 1) := dk_42 (dk_at dksX14_init_0 5 rfl rfl)
theorem dX14_init_6 : decode cX14_init 6 = .ok (.invokespecial 9, 3) := dk_183 0 9 (dk_at dksX14_init_0 6 rfl rfl)
theorem dX14_init_9 : decode cX14_init 9 = .ok (.aload_n 0, 1) := dk_42 (dk_at dksX14_init_0 9 rfl rfl)
theorem dX14_init_10 : decode cX14_init 10 = .ok (.ldc 15, 2) := dk_18 15 (dk_at dksX14_init_0 10 rfl rfl)
theorem dX14_init_12 : decode cX14_init 12 = .ok (.putfield 17, 3) := dk_181 0 17 (dk_at dksX14_init_0 12 rfl rfl)
theorem dX14_init_15 : decode cX14_init 15 = .ok (.return_, 1) := dk_177 (dk_at dksX14_init_0 15 rfl rfl)
abbrev cX14_reads : ByteArray := prog_11_method_14_code
def yX14_reads : MethodName := ⟨RX14, "reads", "()Ljava/util/ArrayList;"⟩
def dkwX14_reads_1 : List UInt8 := [182, 0, 190, 87, 167, 255, 240, 43, 176]
abbrev dktX14_reads_1 : List UInt8 := dkwX14_reads_1 ++ []
def dkwX14_reads_0 : List UInt8 := [187, 0, 183, 89, 183, 0, 185, 76, 42, 182, 0, 100, 42, 180, 0, 42, 153, 0, 15, 43, 42, 182, 0, 186]
abbrev dktX14_reads_0 : List UInt8 := dkwX14_reads_0 ++ dktX14_reads_1
theorem dksX14_reads_0 : cX14_reads.data.toList.drop 0 = dktX14_reads_0 := by decide +kernel
theorem dksX14_reads_1 : cX14_reads.data.toList.drop 24 = dktX14_reads_1 := dk_seg dksX14_reads_0 24 rfl rfl
theorem dX14_reads_0 : decode cX14_reads 0 = .ok (.new 183, 3) := dk_187 0 183 (dk_at dksX14_reads_0 0 rfl rfl)
theorem dX14_reads_3 : decode cX14_reads 3 = .ok (.dup, 1) := dk_89 (dk_at dksX14_reads_0 3 rfl rfl)
theorem dX14_reads_4 : decode cX14_reads 4 = .ok (.invokespecial 185, 3) := dk_183 0 185 (dk_at dksX14_reads_0 4 rfl rfl)
theorem dX14_reads_7 : decode cX14_reads 7 = .ok (.astore_n 1, 1) := dk_76 (dk_at dksX14_reads_0 7 rfl rfl)
theorem dX14_reads_8 : decode cX14_reads 8 = .ok (.aload_n 0, 1) := dk_42 (dk_at dksX14_reads_0 8 rfl rfl)
theorem dX14_reads_9 : decode cX14_reads 9 = .ok (.invokevirtual 100, 3) := dk_182 0 100 (dk_at dksX14_reads_0 9 rfl rfl)
theorem dX14_reads_12 : decode cX14_reads 12 = .ok (.aload_n 0, 1) := dk_42 (dk_at dksX14_reads_0 12 rfl rfl)
theorem dX14_reads_13 : decode cX14_reads 13 = .ok (.getfield 42, 3) := dk_180 0 42 (dk_at dksX14_reads_0 13 rfl rfl)
theorem dX14_reads_16 : decode cX14_reads 16 = .ok (.ifCond .eq 15, 3) := dk_153 0 15 (dk_at dksX14_reads_0 16 rfl rfl)
theorem dX14_reads_19 : decode cX14_reads 19 = .ok (.aload_n 1, 1) := dk_43 (dk_at dksX14_reads_0 19 rfl rfl)
theorem dX14_reads_20 : decode cX14_reads 20 = .ok (.aload_n 0, 1) := dk_42 (dk_at dksX14_reads_0 20 rfl rfl)
theorem dX14_reads_21 : decode cX14_reads 21 = .ok (.invokevirtual 186, 3) := dk_182 0 186 (dk_at dksX14_reads_0 21 rfl rfl)
theorem dX14_reads_24 : decode cX14_reads 24 = .ok (.invokevirtual 190, 3) := dk_182 0 190 (dk_at dksX14_reads_1 0 rfl rfl)
theorem dX14_reads_27 : decode cX14_reads 27 = .ok (.pop, 1) := dk_87 (dk_at dksX14_reads_1 3 rfl rfl)
theorem dX14_reads_28 : decode cX14_reads 28 = .ok (.goto (-16), 3) := dk_167 255 240 (dk_at dksX14_reads_1 4 rfl rfl)
theorem dX14_reads_31 : decode cX14_reads 31 = .ok (.aload_n 1, 1) := dk_43 (dk_at dksX14_reads_1 7 rfl rfl)
theorem dX14_reads_32 : decode cX14_reads 32 = .ok (.areturn, 1) := dk_176 (dk_at dksX14_reads_1 8 rfl rfl)
abbrev cX14_sees : ByteArray := prog_11_method_2_code
def yX14_sees : MethodName := ⟨RX14, "sees", "()V"⟩
def dkwX14_sees_10 : List UInt8 := [180, 0, 42, 4, 159, 0, 11, 42, 180, 0, 42, 5, 160, 0, 7, 42, 182, 0, 55, 177]
abbrev dktX14_sees_10 : List UInt8 := dkwX14_sees_10 ++ []
def dkwX14_sees_9 : List UInt8 := [182, 0, 35, 153, 0, 9, 42, 18, 15, 181, 0, 17, 42, 89, 180, 0, 21, 4, 96, 181, 0, 21, 42]
abbrev dktX14_sees_9 : List UInt8 := dkwX14_sees_9 ++ dktX14_sees_10
def dkwX14_sees_8 : List UInt8 := [180, 0, 28, 42, 180, 0, 21, 51, 17, 0, 255, 126, 146, 184, 0, 49, 181, 0, 17, 42, 42, 180, 0, 21]
abbrev dktX14_sees_8 : List UInt8 := dkwX14_sees_8 ++ dktX14_sees_9
def dkwX14_sees_7 : List UInt8 := [18, 15, 181, 0, 17, 42, 9, 181, 0, 45, 42, 180, 0, 42, 6, 160, 0, 54, 42, 42, 180, 0, 3]
abbrev dktX14_sees_7 : List UInt8 := dkwX14_sees_7 ++ dktX14_sees_8
def dkwX14_sees_6 : List UInt8 := [167, 0, 19, 42, 42, 180, 0, 21, 182, 0, 39, 153, 0, 7, 5, 167, 0, 4, 4, 181, 0, 42, 42]
abbrev dktX14_sees_6 : List UInt8 := dkwX14_sees_6 ++ dktX14_sees_7
def dkwX14_sees_5 : List UInt8 := [182, 0, 35, 153, 0, 18, 28, 153, 0, 18, 42, 42, 180, 0, 21, 182, 0, 35, 153, 0, 7, 6]
abbrev dktX14_sees_5 : List UInt8 := dkwX14_sees_5 ++ dktX14_sees_6
def dkwX14_sees_4 : List UInt8 := [180, 0, 21, 42, 180, 0, 3, 180, 0, 25, 160, 0, 7, 3, 167, 0, 49, 42, 42, 180, 0, 21]
abbrev dktX14_sees_4 : List UInt8 := dkwX14_sees_4 ++ dktX14_sees_5
def dkwX14_sees_3 : List UInt8 := [160, 0, 20, 42, 42, 180, 0, 21, 4, 100, 182, 0, 35, 153, 0, 7, 4, 167, 0, 4, 3, 61, 42, 42]
abbrev dktX14_sees_3 : List UInt8 := dkwX14_sees_3 ++ dktX14_sees_4
def dkwX14_sees_2 : List UInt8 := [167, 255, 215, 42, 42, 180, 0, 21, 181, 0, 32, 42, 180, 0, 21, 158, 0, 28, 42, 180, 0, 21, 27]
abbrev dktX14_sees_2 : List UInt8 := dkwX14_sees_2 ++ dktX14_sees_3
def dkwX14_sees_1 : List UInt8 := [180, 0, 28, 42, 180, 0, 21, 51, 16, 32, 160, 0, 16, 42, 89, 180, 0, 21, 4, 96, 181, 0, 21]
abbrev dktX14_sees_1 : List UInt8 := dkwX14_sees_1 ++ dktX14_sees_2
def dkwX14_sees_0 : List UInt8 := [42, 180, 0, 21, 60, 42, 180, 0, 21, 42, 180, 0, 3, 180, 0, 25, 162, 0, 33, 42, 180, 0, 3]
abbrev dktX14_sees_0 : List UInt8 := dkwX14_sees_0 ++ dktX14_sees_1
theorem dksX14_sees_0 : cX14_sees.data.toList.drop 0 = dktX14_sees_0 := by decide +kernel
theorem dksX14_sees_1 : cX14_sees.data.toList.drop 23 = dktX14_sees_1 := dk_seg dksX14_sees_0 23 rfl rfl
theorem dksX14_sees_2 : cX14_sees.data.toList.drop 46 = dktX14_sees_2 := dk_seg dksX14_sees_1 23 rfl rfl
theorem dksX14_sees_3 : cX14_sees.data.toList.drop 69 = dktX14_sees_3 := dk_seg dksX14_sees_2 23 rfl rfl
theorem dksX14_sees_4 : cX14_sees.data.toList.drop 93 = dktX14_sees_4 := dk_seg dksX14_sees_3 24 rfl rfl
theorem dksX14_sees_5 : cX14_sees.data.toList.drop 115 = dktX14_sees_5 := dk_seg dksX14_sees_4 22 rfl rfl
theorem dksX14_sees_6 : cX14_sees.data.toList.drop 137 = dktX14_sees_6 := dk_seg dksX14_sees_5 22 rfl rfl
theorem dksX14_sees_7 : cX14_sees.data.toList.drop 160 = dktX14_sees_7 := dk_seg dksX14_sees_6 23 rfl rfl
theorem dksX14_sees_8 : cX14_sees.data.toList.drop 183 = dktX14_sees_8 := dk_seg dksX14_sees_7 23 rfl rfl
theorem dksX14_sees_9 : cX14_sees.data.toList.drop 207 = dktX14_sees_9 := dk_seg dksX14_sees_8 24 rfl rfl
theorem dksX14_sees_10 : cX14_sees.data.toList.drop 230 = dktX14_sees_10 := dk_seg dksX14_sees_9 23 rfl rfl
theorem dX14_sees_0 : decode cX14_sees 0 = .ok (.aload_n 0, 1) := dk_42 (dk_at dksX14_sees_0 0 rfl rfl)
theorem dX14_sees_1 : decode cX14_sees 1 = .ok (.getfield 21, 3) := dk_180 0 21 (dk_at dksX14_sees_0 1 rfl rfl)
theorem dX14_sees_4 : decode cX14_sees 4 = .ok (.istore_n 1, 1) := dk_60 (dk_at dksX14_sees_0 4 rfl rfl)
theorem dX14_sees_5 : decode cX14_sees 5 = .ok (.aload_n 0, 1) := dk_42 (dk_at dksX14_sees_0 5 rfl rfl)
theorem dX14_sees_6 : decode cX14_sees 6 = .ok (.getfield 21, 3) := dk_180 0 21 (dk_at dksX14_sees_0 6 rfl rfl)
theorem dX14_sees_9 : decode cX14_sees 9 = .ok (.aload_n 0, 1) := dk_42 (dk_at dksX14_sees_0 9 rfl rfl)
theorem dX14_sees_10 : decode cX14_sees 10 = .ok (.getfield 3, 3) := dk_180 0 3 (dk_at dksX14_sees_0 10 rfl rfl)
theorem dX14_sees_13 : decode cX14_sees 13 = .ok (.getfield 25, 3) := dk_180 0 25 (dk_at dksX14_sees_0 13 rfl rfl)
theorem dX14_sees_16 : decode cX14_sees 16 = .ok (.if_icmp .ge 33, 3) := dk_162 0 33 (dk_at dksX14_sees_0 16 rfl rfl)
theorem dX14_sees_19 : decode cX14_sees 19 = .ok (.aload_n 0, 1) := dk_42 (dk_at dksX14_sees_0 19 rfl rfl)
theorem dX14_sees_20 : decode cX14_sees 20 = .ok (.getfield 3, 3) := dk_180 0 3 (dk_at dksX14_sees_0 20 rfl rfl)
theorem dX14_sees_23 : decode cX14_sees 23 = .ok (.getfield 28, 3) := dk_180 0 28 (dk_at dksX14_sees_1 0 rfl rfl)
theorem dX14_sees_26 : decode cX14_sees 26 = .ok (.aload_n 0, 1) := dk_42 (dk_at dksX14_sees_1 3 rfl rfl)
theorem dX14_sees_27 : decode cX14_sees 27 = .ok (.getfield 21, 3) := dk_180 0 21 (dk_at dksX14_sees_1 4 rfl rfl)
theorem dX14_sees_30 : decode cX14_sees 30 = .ok (.baload, 1) := dk_51 (dk_at dksX14_sees_1 7 rfl rfl)
theorem dX14_sees_31 : decode cX14_sees 31 = .ok (.bipush 32, 2) := dk_16 32 (dk_at dksX14_sees_1 8 rfl rfl)
theorem dX14_sees_33 : decode cX14_sees 33 = .ok (.if_icmp .ne 16, 3) := dk_160 0 16 (dk_at dksX14_sees_1 10 rfl rfl)
theorem dX14_sees_36 : decode cX14_sees 36 = .ok (.aload_n 0, 1) := dk_42 (dk_at dksX14_sees_1 13 rfl rfl)
theorem dX14_sees_37 : decode cX14_sees 37 = .ok (.dup, 1) := dk_89 (dk_at dksX14_sees_1 14 rfl rfl)
theorem dX14_sees_38 : decode cX14_sees 38 = .ok (.getfield 21, 3) := dk_180 0 21 (dk_at dksX14_sees_1 15 rfl rfl)
theorem dX14_sees_41 : decode cX14_sees 41 = .ok (.iconst 1, 1) := dk_4 (dk_at dksX14_sees_1 18 rfl rfl)
theorem dX14_sees_42 : decode cX14_sees 42 = .ok (.iadd, 1) := dk_96 (dk_at dksX14_sees_1 19 rfl rfl)
theorem dX14_sees_43 : decode cX14_sees 43 = .ok (.putfield 21, 3) := dk_181 0 21 (dk_at dksX14_sees_1 20 rfl rfl)
theorem dX14_sees_46 : decode cX14_sees 46 = .ok (.goto (-41), 3) := dk_167 255 215 (dk_at dksX14_sees_2 0 rfl rfl)
theorem dX14_sees_49 : decode cX14_sees 49 = .ok (.aload_n 0, 1) := dk_42 (dk_at dksX14_sees_2 3 rfl rfl)
theorem dX14_sees_50 : decode cX14_sees 50 = .ok (.aload_n 0, 1) := dk_42 (dk_at dksX14_sees_2 4 rfl rfl)
theorem dX14_sees_51 : decode cX14_sees 51 = .ok (.getfield 21, 3) := dk_180 0 21 (dk_at dksX14_sees_2 5 rfl rfl)
theorem dX14_sees_54 : decode cX14_sees 54 = .ok (.putfield 32, 3) := dk_181 0 32 (dk_at dksX14_sees_2 8 rfl rfl)
theorem dX14_sees_57 : decode cX14_sees 57 = .ok (.aload_n 0, 1) := dk_42 (dk_at dksX14_sees_2 11 rfl rfl)
theorem dX14_sees_58 : decode cX14_sees 58 = .ok (.getfield 21, 3) := dk_180 0 21 (dk_at dksX14_sees_2 12 rfl rfl)
theorem dX14_sees_61 : decode cX14_sees 61 = .ok (.ifCond .le 28, 3) := dk_158 0 28 (dk_at dksX14_sees_2 15 rfl rfl)
theorem dX14_sees_64 : decode cX14_sees 64 = .ok (.aload_n 0, 1) := dk_42 (dk_at dksX14_sees_2 18 rfl rfl)
theorem dX14_sees_65 : decode cX14_sees 65 = .ok (.getfield 21, 3) := dk_180 0 21 (dk_at dksX14_sees_2 19 rfl rfl)
theorem dX14_sees_68 : decode cX14_sees 68 = .ok (.iload_n 1, 1) := dk_27 (dk_at dksX14_sees_2 22 rfl rfl)
theorem dX14_sees_69 : decode cX14_sees 69 = .ok (.if_icmp .ne 20, 3) := dk_160 0 20 (dk_at dksX14_sees_3 0 rfl rfl)
theorem dX14_sees_72 : decode cX14_sees 72 = .ok (.aload_n 0, 1) := dk_42 (dk_at dksX14_sees_3 3 rfl rfl)
theorem dX14_sees_73 : decode cX14_sees 73 = .ok (.aload_n 0, 1) := dk_42 (dk_at dksX14_sees_3 4 rfl rfl)
theorem dX14_sees_74 : decode cX14_sees 74 = .ok (.getfield 21, 3) := dk_180 0 21 (dk_at dksX14_sees_3 5 rfl rfl)
theorem dX14_sees_77 : decode cX14_sees 77 = .ok (.iconst 1, 1) := dk_4 (dk_at dksX14_sees_3 8 rfl rfl)
theorem dX14_sees_78 : decode cX14_sees 78 = .ok (.isub, 1) := dk_100 (dk_at dksX14_sees_3 9 rfl rfl)
theorem dX14_sees_79 : decode cX14_sees 79 = .ok (.invokevirtual 35, 3) := dk_182 0 35 (dk_at dksX14_sees_3 10 rfl rfl)
theorem dX14_sees_82 : decode cX14_sees 82 = .ok (.ifCond .eq 7, 3) := dk_153 0 7 (dk_at dksX14_sees_3 13 rfl rfl)
theorem dX14_sees_85 : decode cX14_sees 85 = .ok (.iconst 1, 1) := dk_4 (dk_at dksX14_sees_3 16 rfl rfl)
theorem dX14_sees_86 : decode cX14_sees 86 = .ok (.goto 4, 3) := dk_167 0 4 (dk_at dksX14_sees_3 17 rfl rfl)
theorem dX14_sees_89 : decode cX14_sees 89 = .ok (.iconst 0, 1) := dk_3 (dk_at dksX14_sees_3 20 rfl rfl)
theorem dX14_sees_90 : decode cX14_sees 90 = .ok (.istore_n 2, 1) := dk_61 (dk_at dksX14_sees_3 21 rfl rfl)
theorem dX14_sees_91 : decode cX14_sees 91 = .ok (.aload_n 0, 1) := dk_42 (dk_at dksX14_sees_3 22 rfl rfl)
theorem dX14_sees_92 : decode cX14_sees 92 = .ok (.aload_n 0, 1) := dk_42 (dk_at dksX14_sees_3 23 rfl rfl)
theorem dX14_sees_93 : decode cX14_sees 93 = .ok (.getfield 21, 3) := dk_180 0 21 (dk_at dksX14_sees_4 0 rfl rfl)
theorem dX14_sees_96 : decode cX14_sees 96 = .ok (.aload_n 0, 1) := dk_42 (dk_at dksX14_sees_4 3 rfl rfl)
theorem dX14_sees_97 : decode cX14_sees 97 = .ok (.getfield 3, 3) := dk_180 0 3 (dk_at dksX14_sees_4 4 rfl rfl)
theorem dX14_sees_100 : decode cX14_sees 100 = .ok (.getfield 25, 3) := dk_180 0 25 (dk_at dksX14_sees_4 7 rfl rfl)
theorem dX14_sees_103 : decode cX14_sees 103 = .ok (.if_icmp .ne 7, 3) := dk_160 0 7 (dk_at dksX14_sees_4 10 rfl rfl)
theorem dX14_sees_106 : decode cX14_sees 106 = .ok (.iconst 0, 1) := dk_3 (dk_at dksX14_sees_4 13 rfl rfl)
theorem dX14_sees_107 : decode cX14_sees 107 = .ok (.goto 49, 3) := dk_167 0 49 (dk_at dksX14_sees_4 14 rfl rfl)
theorem dX14_sees_110 : decode cX14_sees 110 = .ok (.aload_n 0, 1) := dk_42 (dk_at dksX14_sees_4 17 rfl rfl)
theorem dX14_sees_111 : decode cX14_sees 111 = .ok (.aload_n 0, 1) := dk_42 (dk_at dksX14_sees_4 18 rfl rfl)
theorem dX14_sees_112 : decode cX14_sees 112 = .ok (.getfield 21, 3) := dk_180 0 21 (dk_at dksX14_sees_4 19 rfl rfl)
theorem dX14_sees_115 : decode cX14_sees 115 = .ok (.invokevirtual 35, 3) := dk_182 0 35 (dk_at dksX14_sees_5 0 rfl rfl)
theorem dX14_sees_118 : decode cX14_sees 118 = .ok (.ifCond .eq 18, 3) := dk_153 0 18 (dk_at dksX14_sees_5 3 rfl rfl)
theorem dX14_sees_121 : decode cX14_sees 121 = .ok (.iload_n 2, 1) := dk_28 (dk_at dksX14_sees_5 6 rfl rfl)
theorem dX14_sees_122 : decode cX14_sees 122 = .ok (.ifCond .eq 18, 3) := dk_153 0 18 (dk_at dksX14_sees_5 7 rfl rfl)
theorem dX14_sees_125 : decode cX14_sees 125 = .ok (.aload_n 0, 1) := dk_42 (dk_at dksX14_sees_5 10 rfl rfl)
theorem dX14_sees_126 : decode cX14_sees 126 = .ok (.aload_n 0, 1) := dk_42 (dk_at dksX14_sees_5 11 rfl rfl)
theorem dX14_sees_127 : decode cX14_sees 127 = .ok (.getfield 21, 3) := dk_180 0 21 (dk_at dksX14_sees_5 12 rfl rfl)
theorem dX14_sees_130 : decode cX14_sees 130 = .ok (.invokevirtual 35, 3) := dk_182 0 35 (dk_at dksX14_sees_5 15 rfl rfl)
theorem dX14_sees_133 : decode cX14_sees 133 = .ok (.ifCond .eq 7, 3) := dk_153 0 7 (dk_at dksX14_sees_5 18 rfl rfl)
theorem dX14_sees_136 : decode cX14_sees 136 = .ok (.iconst 3, 1) := dk_6 (dk_at dksX14_sees_5 21 rfl rfl)
theorem dX14_sees_137 : decode cX14_sees 137 = .ok (.goto 19, 3) := dk_167 0 19 (dk_at dksX14_sees_6 0 rfl rfl)
theorem dX14_sees_140 : decode cX14_sees 140 = .ok (.aload_n 0, 1) := dk_42 (dk_at dksX14_sees_6 3 rfl rfl)
theorem dX14_sees_141 : decode cX14_sees 141 = .ok (.aload_n 0, 1) := dk_42 (dk_at dksX14_sees_6 4 rfl rfl)
theorem dX14_sees_142 : decode cX14_sees 142 = .ok (.getfield 21, 3) := dk_180 0 21 (dk_at dksX14_sees_6 5 rfl rfl)
theorem dX14_sees_145 : decode cX14_sees 145 = .ok (.invokevirtual 39, 3) := dk_182 0 39 (dk_at dksX14_sees_6 8 rfl rfl)
theorem dX14_sees_148 : decode cX14_sees 148 = .ok (.ifCond .eq 7, 3) := dk_153 0 7 (dk_at dksX14_sees_6 11 rfl rfl)
theorem dX14_sees_151 : decode cX14_sees 151 = .ok (.iconst 2, 1) := dk_5 (dk_at dksX14_sees_6 14 rfl rfl)
theorem dX14_sees_152 : decode cX14_sees 152 = .ok (.goto 4, 3) := dk_167 0 4 (dk_at dksX14_sees_6 15 rfl rfl)
theorem dX14_sees_155 : decode cX14_sees 155 = .ok (.iconst 1, 1) := dk_4 (dk_at dksX14_sees_6 18 rfl rfl)
theorem dX14_sees_156 : decode cX14_sees 156 = .ok (.putfield 42, 3) := dk_181 0 42 (dk_at dksX14_sees_6 19 rfl rfl)
theorem dX14_sees_159 : decode cX14_sees 159 = .ok (.aload_n 0, 1) := dk_42 (dk_at dksX14_sees_6 22 rfl rfl)
theorem dX14_sees_160 : decode cX14_sees 160 = .ok (.ldc 15, 2) := dk_18 15 (dk_at dksX14_sees_7 0 rfl rfl)
theorem dX14_sees_162 : decode cX14_sees 162 = .ok (.putfield 17, 3) := dk_181 0 17 (dk_at dksX14_sees_7 2 rfl rfl)
theorem dX14_sees_165 : decode cX14_sees 165 = .ok (.aload_n 0, 1) := dk_42 (dk_at dksX14_sees_7 5 rfl rfl)
theorem dX14_sees_166 : decode cX14_sees 166 = .ok (.lconst 0, 1) := dk_9 (dk_at dksX14_sees_7 6 rfl rfl)
theorem dX14_sees_167 : decode cX14_sees 167 = .ok (.putfield 45, 3) := dk_181 0 45 (dk_at dksX14_sees_7 7 rfl rfl)
theorem dX14_sees_170 : decode cX14_sees 170 = .ok (.aload_n 0, 1) := dk_42 (dk_at dksX14_sees_7 10 rfl rfl)
theorem dX14_sees_171 : decode cX14_sees 171 = .ok (.getfield 42, 3) := dk_180 0 42 (dk_at dksX14_sees_7 11 rfl rfl)
theorem dX14_sees_174 : decode cX14_sees 174 = .ok (.iconst 3, 1) := dk_6 (dk_at dksX14_sees_7 14 rfl rfl)
theorem dX14_sees_175 : decode cX14_sees 175 = .ok (.if_icmp .ne 54, 3) := dk_160 0 54 (dk_at dksX14_sees_7 15 rfl rfl)
theorem dX14_sees_178 : decode cX14_sees 178 = .ok (.aload_n 0, 1) := dk_42 (dk_at dksX14_sees_7 18 rfl rfl)
theorem dX14_sees_179 : decode cX14_sees 179 = .ok (.aload_n 0, 1) := dk_42 (dk_at dksX14_sees_7 19 rfl rfl)
theorem dX14_sees_180 : decode cX14_sees 180 = .ok (.getfield 3, 3) := dk_180 0 3 (dk_at dksX14_sees_7 20 rfl rfl)
theorem dX14_sees_183 : decode cX14_sees 183 = .ok (.getfield 28, 3) := dk_180 0 28 (dk_at dksX14_sees_8 0 rfl rfl)
theorem dX14_sees_186 : decode cX14_sees 186 = .ok (.aload_n 0, 1) := dk_42 (dk_at dksX14_sees_8 3 rfl rfl)
theorem dX14_sees_187 : decode cX14_sees 187 = .ok (.getfield 21, 3) := dk_180 0 21 (dk_at dksX14_sees_8 4 rfl rfl)
theorem dX14_sees_190 : decode cX14_sees 190 = .ok (.baload, 1) := dk_51 (dk_at dksX14_sees_8 7 rfl rfl)
theorem dX14_sees_191 : decode cX14_sees 191 = .ok (.sipush 255, 3) := dk_17 0 255 (dk_at dksX14_sees_8 8 rfl rfl)
theorem dX14_sees_194 : decode cX14_sees 194 = .ok (.iand, 1) := dk_126 (dk_at dksX14_sees_8 11 rfl rfl)
theorem dX14_sees_195 : decode cX14_sees 195 = .ok (.i2c, 1) := dk_146 (dk_at dksX14_sees_8 12 rfl rfl)
theorem dX14_sees_196 : decode cX14_sees 196 = .ok (.invokestatic 49, 3) := dk_184 0 49 (dk_at dksX14_sees_8 13 rfl rfl)
theorem dX14_sees_199 : decode cX14_sees 199 = .ok (.putfield 17, 3) := dk_181 0 17 (dk_at dksX14_sees_8 16 rfl rfl)
theorem dX14_sees_202 : decode cX14_sees 202 = .ok (.aload_n 0, 1) := dk_42 (dk_at dksX14_sees_8 19 rfl rfl)
theorem dX14_sees_203 : decode cX14_sees 203 = .ok (.aload_n 0, 1) := dk_42 (dk_at dksX14_sees_8 20 rfl rfl)
theorem dX14_sees_204 : decode cX14_sees 204 = .ok (.getfield 21, 3) := dk_180 0 21 (dk_at dksX14_sees_8 21 rfl rfl)
theorem dX14_sees_207 : decode cX14_sees 207 = .ok (.invokevirtual 35, 3) := dk_182 0 35 (dk_at dksX14_sees_9 0 rfl rfl)
theorem dX14_sees_210 : decode cX14_sees 210 = .ok (.ifCond .eq 9, 3) := dk_153 0 9 (dk_at dksX14_sees_9 3 rfl rfl)
theorem dX14_sees_213 : decode cX14_sees 213 = .ok (.aload_n 0, 1) := dk_42 (dk_at dksX14_sees_9 6 rfl rfl)
theorem dX14_sees_214 : decode cX14_sees 214 = .ok (.ldc 15, 2) := dk_18 15 (dk_at dksX14_sees_9 7 rfl rfl)
theorem dX14_sees_216 : decode cX14_sees 216 = .ok (.putfield 17, 3) := dk_181 0 17 (dk_at dksX14_sees_9 9 rfl rfl)
theorem dX14_sees_219 : decode cX14_sees 219 = .ok (.aload_n 0, 1) := dk_42 (dk_at dksX14_sees_9 12 rfl rfl)
theorem dX14_sees_220 : decode cX14_sees 220 = .ok (.dup, 1) := dk_89 (dk_at dksX14_sees_9 13 rfl rfl)
theorem dX14_sees_221 : decode cX14_sees 221 = .ok (.getfield 21, 3) := dk_180 0 21 (dk_at dksX14_sees_9 14 rfl rfl)
theorem dX14_sees_224 : decode cX14_sees 224 = .ok (.iconst 1, 1) := dk_4 (dk_at dksX14_sees_9 17 rfl rfl)
theorem dX14_sees_225 : decode cX14_sees 225 = .ok (.iadd, 1) := dk_96 (dk_at dksX14_sees_9 18 rfl rfl)
theorem dX14_sees_226 : decode cX14_sees 226 = .ok (.putfield 21, 3) := dk_181 0 21 (dk_at dksX14_sees_9 19 rfl rfl)
theorem dX14_sees_229 : decode cX14_sees 229 = .ok (.aload_n 0, 1) := dk_42 (dk_at dksX14_sees_9 22 rfl rfl)
theorem dX14_sees_230 : decode cX14_sees 230 = .ok (.getfield 42, 3) := dk_180 0 42 (dk_at dksX14_sees_10 0 rfl rfl)
theorem dX14_sees_233 : decode cX14_sees 233 = .ok (.iconst 1, 1) := dk_4 (dk_at dksX14_sees_10 3 rfl rfl)
theorem dX14_sees_234 : decode cX14_sees 234 = .ok (.if_icmp .eq 11, 3) := dk_159 0 11 (dk_at dksX14_sees_10 4 rfl rfl)
theorem dX14_sees_237 : decode cX14_sees 237 = .ok (.aload_n 0, 1) := dk_42 (dk_at dksX14_sees_10 7 rfl rfl)
theorem dX14_sees_238 : decode cX14_sees 238 = .ok (.getfield 42, 3) := dk_180 0 42 (dk_at dksX14_sees_10 8 rfl rfl)
theorem dX14_sees_241 : decode cX14_sees 241 = .ok (.iconst 2, 1) := dk_5 (dk_at dksX14_sees_10 11 rfl rfl)
theorem dX14_sees_242 : decode cX14_sees 242 = .ok (.if_icmp .ne 7, 3) := dk_160 0 7 (dk_at dksX14_sees_10 12 rfl rfl)
theorem dX14_sees_245 : decode cX14_sees 245 = .ok (.aload_n 0, 1) := dk_42 (dk_at dksX14_sees_10 15 rfl rfl)
theorem dX14_sees_246 : decode cX14_sees 246 = .ok (.invokevirtual 55, 3) := dk_182 0 55 (dk_at dksX14_sees_10 16 rfl rfl)
theorem dX14_sees_249 : decode cX14_sees 249 = .ok (.return_, 1) := dk_177 (dk_at dksX14_sees_10 19 rfl rfl)
abbrev cX14_isTold : ByteArray := prog_11_method_6_code
def yX14_isTold : MethodName := ⟨RX14, "isTold", "(I)Z"⟩
def dkwX14_isTold_0 : List UInt8 := [42, 27, 182, 0, 39, 154, 0, 11, 42, 27, 182, 0, 58, 153, 0, 7, 4, 167, 0, 4, 3, 172]
abbrev dktX14_isTold_0 : List UInt8 := dkwX14_isTold_0 ++ []
theorem dksX14_isTold_0 : cX14_isTold.data.toList.drop 0 = dktX14_isTold_0 := by decide +kernel
theorem dX14_isTold_0 : decode cX14_isTold 0 = .ok (.aload_n 0, 1) := dk_42 (dk_at dksX14_isTold_0 0 rfl rfl)
theorem dX14_isTold_1 : decode cX14_isTold 1 = .ok (.iload_n 1, 1) := dk_27 (dk_at dksX14_isTold_0 1 rfl rfl)
theorem dX14_isTold_2 : decode cX14_isTold 2 = .ok (.invokevirtual 39, 3) := dk_182 0 39 (dk_at dksX14_isTold_0 2 rfl rfl)
theorem dX14_isTold_5 : decode cX14_isTold 5 = .ok (.ifCond .ne 11, 3) := dk_154 0 11 (dk_at dksX14_isTold_0 5 rfl rfl)
theorem dX14_isTold_8 : decode cX14_isTold 8 = .ok (.aload_n 0, 1) := dk_42 (dk_at dksX14_isTold_0 8 rfl rfl)
theorem dX14_isTold_9 : decode cX14_isTold 9 = .ok (.iload_n 1, 1) := dk_27 (dk_at dksX14_isTold_0 9 rfl rfl)
theorem dX14_isTold_10 : decode cX14_isTold 10 = .ok (.invokevirtual 58, 3) := dk_182 0 58 (dk_at dksX14_isTold_0 10 rfl rfl)
theorem dX14_isTold_13 : decode cX14_isTold 13 = .ok (.ifCond .eq 7, 3) := dk_153 0 7 (dk_at dksX14_isTold_0 13 rfl rfl)
theorem dX14_isTold_16 : decode cX14_isTold 16 = .ok (.iconst 1, 1) := dk_4 (dk_at dksX14_isTold_0 16 rfl rfl)
theorem dX14_isTold_17 : decode cX14_isTold 17 = .ok (.goto 4, 3) := dk_167 0 4 (dk_at dksX14_isTold_0 17 rfl rfl)
theorem dX14_isTold_20 : decode cX14_isTold 20 = .ok (.iconst 0, 1) := dk_3 (dk_at dksX14_isTold_0 20 rfl rfl)
theorem dX14_isTold_21 : decode cX14_isTold 21 = .ok (.ireturn, 1) := dk_172 (dk_at dksX14_isTold_0 21 rfl rfl)
abbrev cX14_isDigit : ByteArray := prog_11_method_4_code
def yX14_isDigit : MethodName := ⟨RX14, "isDigit", "(I)Z"⟩
def dkwX14_isDigit_1 : List UInt8 := [16, 57, 163, 0, 7, 4, 167, 0, 4, 3, 172]
abbrev dktX14_isDigit_1 : List UInt8 := dkwX14_isDigit_1 ++ []
def dkwX14_isDigit_0 : List UInt8 := [42, 180, 0, 3, 180, 0, 28, 27, 51, 16, 48, 161, 0, 21, 42, 180, 0, 3, 180, 0, 28, 27, 51]
abbrev dktX14_isDigit_0 : List UInt8 := dkwX14_isDigit_0 ++ dktX14_isDigit_1
theorem dksX14_isDigit_0 : cX14_isDigit.data.toList.drop 0 = dktX14_isDigit_0 := by decide +kernel
theorem dksX14_isDigit_1 : cX14_isDigit.data.toList.drop 23 = dktX14_isDigit_1 := dk_seg dksX14_isDigit_0 23 rfl rfl
theorem dX14_isDigit_0 : decode cX14_isDigit 0 = .ok (.aload_n 0, 1) := dk_42 (dk_at dksX14_isDigit_0 0 rfl rfl)
theorem dX14_isDigit_1 : decode cX14_isDigit 1 = .ok (.getfield 3, 3) := dk_180 0 3 (dk_at dksX14_isDigit_0 1 rfl rfl)
theorem dX14_isDigit_4 : decode cX14_isDigit 4 = .ok (.getfield 28, 3) := dk_180 0 28 (dk_at dksX14_isDigit_0 4 rfl rfl)
theorem dX14_isDigit_7 : decode cX14_isDigit 7 = .ok (.iload_n 1, 1) := dk_27 (dk_at dksX14_isDigit_0 7 rfl rfl)
theorem dX14_isDigit_8 : decode cX14_isDigit 8 = .ok (.baload, 1) := dk_51 (dk_at dksX14_isDigit_0 8 rfl rfl)
theorem dX14_isDigit_9 : decode cX14_isDigit 9 = .ok (.bipush 48, 2) := dk_16 48 (dk_at dksX14_isDigit_0 9 rfl rfl)
theorem dX14_isDigit_11 : decode cX14_isDigit 11 = .ok (.if_icmp .lt 21, 3) := dk_161 0 21 (dk_at dksX14_isDigit_0 11 rfl rfl)
theorem dX14_isDigit_14 : decode cX14_isDigit 14 = .ok (.aload_n 0, 1) := dk_42 (dk_at dksX14_isDigit_0 14 rfl rfl)
theorem dX14_isDigit_15 : decode cX14_isDigit 15 = .ok (.getfield 3, 3) := dk_180 0 3 (dk_at dksX14_isDigit_0 15 rfl rfl)
theorem dX14_isDigit_18 : decode cX14_isDigit 18 = .ok (.getfield 28, 3) := dk_180 0 28 (dk_at dksX14_isDigit_0 18 rfl rfl)
theorem dX14_isDigit_21 : decode cX14_isDigit 21 = .ok (.iload_n 1, 1) := dk_27 (dk_at dksX14_isDigit_0 21 rfl rfl)
theorem dX14_isDigit_22 : decode cX14_isDigit 22 = .ok (.baload, 1) := dk_51 (dk_at dksX14_isDigit_0 22 rfl rfl)
theorem dX14_isDigit_23 : decode cX14_isDigit 23 = .ok (.bipush 57, 2) := dk_16 57 (dk_at dksX14_isDigit_1 0 rfl rfl)
theorem dX14_isDigit_25 : decode cX14_isDigit 25 = .ok (.if_icmp .gt 7, 3) := dk_163 0 7 (dk_at dksX14_isDigit_1 2 rfl rfl)
theorem dX14_isDigit_28 : decode cX14_isDigit 28 = .ok (.iconst 1, 1) := dk_4 (dk_at dksX14_isDigit_1 5 rfl rfl)
theorem dX14_isDigit_29 : decode cX14_isDigit 29 = .ok (.goto 4, 3) := dk_167 0 4 (dk_at dksX14_isDigit_1 6 rfl rfl)
theorem dX14_isDigit_32 : decode cX14_isDigit 32 = .ok (.iconst 0, 1) := dk_3 (dk_at dksX14_isDigit_1 9 rfl rfl)
theorem dX14_isDigit_33 : decode cX14_isDigit 33 = .ok (.ireturn, 1) := dk_172 (dk_at dksX14_isDigit_1 10 rfl rfl)
abbrev cX14_isLetter : ByteArray := prog_11_method_5_code
def yX14_isLetter : MethodName := ⟨RX14, "isLetter", "(I)Z"⟩
def dkwX14_isLetter_1 : List UInt8 := [16, 122, 163, 0, 7, 4, 167, 0, 4, 3, 172]
abbrev dktX14_isLetter_1 : List UInt8 := dkwX14_isLetter_1 ++ []
def dkwX14_isLetter_0 : List UInt8 := [42, 180, 0, 3, 180, 0, 28, 27, 51, 16, 97, 161, 0, 21, 42, 180, 0, 3, 180, 0, 28, 27, 51]
abbrev dktX14_isLetter_0 : List UInt8 := dkwX14_isLetter_0 ++ dktX14_isLetter_1
theorem dksX14_isLetter_0 : cX14_isLetter.data.toList.drop 0 = dktX14_isLetter_0 := by decide +kernel
theorem dksX14_isLetter_1 : cX14_isLetter.data.toList.drop 23 = dktX14_isLetter_1 := dk_seg dksX14_isLetter_0 23 rfl rfl
theorem dX14_isLetter_0 : decode cX14_isLetter 0 = .ok (.aload_n 0, 1) := dk_42 (dk_at dksX14_isLetter_0 0 rfl rfl)
theorem dX14_isLetter_1 : decode cX14_isLetter 1 = .ok (.getfield 3, 3) := dk_180 0 3 (dk_at dksX14_isLetter_0 1 rfl rfl)
theorem dX14_isLetter_4 : decode cX14_isLetter 4 = .ok (.getfield 28, 3) := dk_180 0 28 (dk_at dksX14_isLetter_0 4 rfl rfl)
theorem dX14_isLetter_7 : decode cX14_isLetter 7 = .ok (.iload_n 1, 1) := dk_27 (dk_at dksX14_isLetter_0 7 rfl rfl)
theorem dX14_isLetter_8 : decode cX14_isLetter 8 = .ok (.baload, 1) := dk_51 (dk_at dksX14_isLetter_0 8 rfl rfl)
theorem dX14_isLetter_9 : decode cX14_isLetter 9 = .ok (.bipush 97, 2) := dk_16 97 (dk_at dksX14_isLetter_0 9 rfl rfl)
theorem dX14_isLetter_11 : decode cX14_isLetter 11 = .ok (.if_icmp .lt 21, 3) := dk_161 0 21 (dk_at dksX14_isLetter_0 11 rfl rfl)
theorem dX14_isLetter_14 : decode cX14_isLetter 14 = .ok (.aload_n 0, 1) := dk_42 (dk_at dksX14_isLetter_0 14 rfl rfl)
theorem dX14_isLetter_15 : decode cX14_isLetter 15 = .ok (.getfield 3, 3) := dk_180 0 3 (dk_at dksX14_isLetter_0 15 rfl rfl)
theorem dX14_isLetter_18 : decode cX14_isLetter 18 = .ok (.getfield 28, 3) := dk_180 0 28 (dk_at dksX14_isLetter_0 18 rfl rfl)
theorem dX14_isLetter_21 : decode cX14_isLetter 21 = .ok (.iload_n 1, 1) := dk_27 (dk_at dksX14_isLetter_0 21 rfl rfl)
theorem dX14_isLetter_22 : decode cX14_isLetter 22 = .ok (.baload, 1) := dk_51 (dk_at dksX14_isLetter_0 22 rfl rfl)
theorem dX14_isLetter_23 : decode cX14_isLetter 23 = .ok (.bipush 122, 2) := dk_16 122 (dk_at dksX14_isLetter_1 0 rfl rfl)
theorem dX14_isLetter_25 : decode cX14_isLetter 25 = .ok (.if_icmp .gt 7, 3) := dk_163 0 7 (dk_at dksX14_isLetter_1 2 rfl rfl)
theorem dX14_isLetter_28 : decode cX14_isLetter 28 = .ok (.iconst 1, 1) := dk_4 (dk_at dksX14_isLetter_1 5 rfl rfl)
theorem dX14_isLetter_29 : decode cX14_isLetter 29 = .ok (.goto 4, 3) := dk_167 0 4 (dk_at dksX14_isLetter_1 6 rfl rfl)
theorem dX14_isLetter_32 : decode cX14_isLetter 32 = .ok (.iconst 0, 1) := dk_3 (dk_at dksX14_isLetter_1 9 rfl rfl)
theorem dX14_isLetter_33 : decode cX14_isLetter 33 = .ok (.ireturn, 1) := dk_172 (dk_at dksX14_isLetter_1 10 rfl rfl)
abbrev cX14_runs : ByteArray := prog_11_method_3_code
def yX14_runs : MethodName := ⟨RX14, "runs", "()V"⟩
def dkwX14_runs_7 : List UInt8 := [180, 0, 17, 28, 182, 0, 81, 133, 97, 20, 0, 85, 101, 181, 0, 45, 132, 2, 1, 167, 255, 206, 177]
abbrev dktX14_runs_7 : List UInt8 := dkwX14_runs_7 ++ []
def dkwX14_runs_6 : List UInt8 := [182, 0, 75, 162, 0, 41, 28, 16, 11, 162, 0, 35, 42, 20, 0, 79, 42, 180, 0, 45, 105, 42]
abbrev dktX14_runs_6 : List UInt8 := dkwX14_runs_6 ++ dktX14_runs_7
def dkwX14_runs_5 : List UInt8 := [182, 0, 75, 16, 10, 164, 0, 8, 42, 6, 181, 0, 42, 3, 61, 27, 153, 0, 52, 28, 42, 180, 0, 17]
abbrev dktX14_runs_5 : List UInt8 := dkwX14_runs_5 ++ dktX14_runs_6
def dkwX14_runs_4 : List UInt8 := [181, 0, 17, 42, 89, 180, 0, 21, 4, 96, 181, 0, 21, 167, 255, 166, 27, 153, 0, 20, 42, 180, 0, 17]
abbrev dktX14_runs_4 : List UInt8 := dkwX14_runs_4 ++ dktX14_runs_5
def dkwX14_runs_3 : List UInt8 := [182, 0, 64, 42, 180, 0, 3, 180, 0, 28, 42, 180, 0, 21, 51, 146, 182, 0, 68, 182, 0, 71]
abbrev dktX14_runs_3 : List UInt8 := dkwX14_runs_3 ++ dktX14_runs_4
def dkwX14_runs_2 : List UInt8 := [42, 42, 180, 0, 21, 182, 0, 58, 153, 0, 53, 187, 0, 61, 89, 183, 0, 63, 42, 90, 180, 0, 17]
abbrev dktX14_runs_2 : List UInt8 := dkwX14_runs_2 ++ dktX14_runs_3
def dkwX14_runs_1 : List UInt8 := [180, 0, 25, 162, 0, 82, 27, 153, 0, 17, 42, 42, 180, 0, 21, 182, 0, 39, 153, 0, 67, 167, 0, 14]
abbrev dktX14_runs_1 : List UInt8 := dkwX14_runs_1 ++ dktX14_runs_2
def dkwX14_runs_0 : List UInt8 := [42, 180, 0, 42, 5, 160, 0, 7, 4, 167, 0, 4, 3, 60, 42, 180, 0, 21, 42, 180, 0, 3]
abbrev dktX14_runs_0 : List UInt8 := dkwX14_runs_0 ++ dktX14_runs_1
theorem dksX14_runs_0 : cX14_runs.data.toList.drop 0 = dktX14_runs_0 := by decide +kernel
theorem dksX14_runs_1 : cX14_runs.data.toList.drop 22 = dktX14_runs_1 := dk_seg dksX14_runs_0 22 rfl rfl
theorem dksX14_runs_2 : cX14_runs.data.toList.drop 46 = dktX14_runs_2 := dk_seg dksX14_runs_1 24 rfl rfl
theorem dksX14_runs_3 : cX14_runs.data.toList.drop 69 = dktX14_runs_3 := dk_seg dksX14_runs_2 23 rfl rfl
theorem dksX14_runs_4 : cX14_runs.data.toList.drop 91 = dktX14_runs_4 := dk_seg dksX14_runs_3 22 rfl rfl
theorem dksX14_runs_5 : cX14_runs.data.toList.drop 115 = dktX14_runs_5 := dk_seg dksX14_runs_4 24 rfl rfl
theorem dksX14_runs_6 : cX14_runs.data.toList.drop 139 = dktX14_runs_6 := dk_seg dksX14_runs_5 24 rfl rfl
theorem dksX14_runs_7 : cX14_runs.data.toList.drop 161 = dktX14_runs_7 := dk_seg dksX14_runs_6 22 rfl rfl
theorem dX14_runs_0 : decode cX14_runs 0 = .ok (.aload_n 0, 1) := dk_42 (dk_at dksX14_runs_0 0 rfl rfl)
theorem dX14_runs_1 : decode cX14_runs 1 = .ok (.getfield 42, 3) := dk_180 0 42 (dk_at dksX14_runs_0 1 rfl rfl)
theorem dX14_runs_4 : decode cX14_runs 4 = .ok (.iconst 2, 1) := dk_5 (dk_at dksX14_runs_0 4 rfl rfl)
theorem dX14_runs_5 : decode cX14_runs 5 = .ok (.if_icmp .ne 7, 3) := dk_160 0 7 (dk_at dksX14_runs_0 5 rfl rfl)
theorem dX14_runs_8 : decode cX14_runs 8 = .ok (.iconst 1, 1) := dk_4 (dk_at dksX14_runs_0 8 rfl rfl)
theorem dX14_runs_9 : decode cX14_runs 9 = .ok (.goto 4, 3) := dk_167 0 4 (dk_at dksX14_runs_0 9 rfl rfl)
theorem dX14_runs_12 : decode cX14_runs 12 = .ok (.iconst 0, 1) := dk_3 (dk_at dksX14_runs_0 12 rfl rfl)
theorem dX14_runs_13 : decode cX14_runs 13 = .ok (.istore_n 1, 1) := dk_60 (dk_at dksX14_runs_0 13 rfl rfl)
theorem dX14_runs_14 : decode cX14_runs 14 = .ok (.aload_n 0, 1) := dk_42 (dk_at dksX14_runs_0 14 rfl rfl)
theorem dX14_runs_15 : decode cX14_runs 15 = .ok (.getfield 21, 3) := dk_180 0 21 (dk_at dksX14_runs_0 15 rfl rfl)
theorem dX14_runs_18 : decode cX14_runs 18 = .ok (.aload_n 0, 1) := dk_42 (dk_at dksX14_runs_0 18 rfl rfl)
theorem dX14_runs_19 : decode cX14_runs 19 = .ok (.getfield 3, 3) := dk_180 0 3 (dk_at dksX14_runs_0 19 rfl rfl)
theorem dX14_runs_22 : decode cX14_runs 22 = .ok (.getfield 25, 3) := dk_180 0 25 (dk_at dksX14_runs_1 0 rfl rfl)
theorem dX14_runs_25 : decode cX14_runs 25 = .ok (.if_icmp .ge 82, 3) := dk_162 0 82 (dk_at dksX14_runs_1 3 rfl rfl)
theorem dX14_runs_28 : decode cX14_runs 28 = .ok (.iload_n 1, 1) := dk_27 (dk_at dksX14_runs_1 6 rfl rfl)
theorem dX14_runs_29 : decode cX14_runs 29 = .ok (.ifCond .eq 17, 3) := dk_153 0 17 (dk_at dksX14_runs_1 7 rfl rfl)
theorem dX14_runs_32 : decode cX14_runs 32 = .ok (.aload_n 0, 1) := dk_42 (dk_at dksX14_runs_1 10 rfl rfl)
theorem dX14_runs_33 : decode cX14_runs 33 = .ok (.aload_n 0, 1) := dk_42 (dk_at dksX14_runs_1 11 rfl rfl)
theorem dX14_runs_34 : decode cX14_runs 34 = .ok (.getfield 21, 3) := dk_180 0 21 (dk_at dksX14_runs_1 12 rfl rfl)
theorem dX14_runs_37 : decode cX14_runs 37 = .ok (.invokevirtual 39, 3) := dk_182 0 39 (dk_at dksX14_runs_1 15 rfl rfl)
theorem dX14_runs_40 : decode cX14_runs 40 = .ok (.ifCond .eq 67, 3) := dk_153 0 67 (dk_at dksX14_runs_1 18 rfl rfl)
theorem dX14_runs_43 : decode cX14_runs 43 = .ok (.goto 14, 3) := dk_167 0 14 (dk_at dksX14_runs_1 21 rfl rfl)
theorem dX14_runs_46 : decode cX14_runs 46 = .ok (.aload_n 0, 1) := dk_42 (dk_at dksX14_runs_2 0 rfl rfl)
theorem dX14_runs_47 : decode cX14_runs 47 = .ok (.aload_n 0, 1) := dk_42 (dk_at dksX14_runs_2 1 rfl rfl)
theorem dX14_runs_48 : decode cX14_runs 48 = .ok (.getfield 21, 3) := dk_180 0 21 (dk_at dksX14_runs_2 2 rfl rfl)
theorem dX14_runs_51 : decode cX14_runs 51 = .ok (.invokevirtual 58, 3) := dk_182 0 58 (dk_at dksX14_runs_2 5 rfl rfl)
theorem dX14_runs_54 : decode cX14_runs 54 = .ok (.ifCond .eq 53, 3) := dk_153 0 53 (dk_at dksX14_runs_2 8 rfl rfl)
theorem dX14_runs_57 : decode cX14_runs 57 = .ok (.new 61, 3) := dk_187 0 61 (dk_at dksX14_runs_2 11 rfl rfl)
theorem dX14_runs_60 : decode cX14_runs 60 = .ok (.dup, 1) := dk_89 (dk_at dksX14_runs_2 14 rfl rfl)
theorem dX14_runs_61 : decode cX14_runs 61 = .ok (.invokespecial 63, 3) := dk_183 0 63 (dk_at dksX14_runs_2 15 rfl rfl)
theorem dX14_runs_64 : decode cX14_runs 64 = .ok (.aload_n 0, 1) := dk_42 (dk_at dksX14_runs_2 18 rfl rfl)
theorem dX14_runs_65 : decode cX14_runs 65 = .ok (.dup_x1, 1) := dk_90 (dk_at dksX14_runs_2 19 rfl rfl)
theorem dX14_runs_66 : decode cX14_runs 66 = .ok (.getfield 17, 3) := dk_180 0 17 (dk_at dksX14_runs_2 20 rfl rfl)
theorem dX14_runs_69 : decode cX14_runs 69 = .ok (.invokevirtual 64, 3) := dk_182 0 64 (dk_at dksX14_runs_3 0 rfl rfl)
theorem dX14_runs_72 : decode cX14_runs 72 = .ok (.aload_n 0, 1) := dk_42 (dk_at dksX14_runs_3 3 rfl rfl)
theorem dX14_runs_73 : decode cX14_runs 73 = .ok (.getfield 3, 3) := dk_180 0 3 (dk_at dksX14_runs_3 4 rfl rfl)
theorem dX14_runs_76 : decode cX14_runs 76 = .ok (.getfield 28, 3) := dk_180 0 28 (dk_at dksX14_runs_3 7 rfl rfl)
theorem dX14_runs_79 : decode cX14_runs 79 = .ok (.aload_n 0, 1) := dk_42 (dk_at dksX14_runs_3 10 rfl rfl)
theorem dX14_runs_80 : decode cX14_runs 80 = .ok (.getfield 21, 3) := dk_180 0 21 (dk_at dksX14_runs_3 11 rfl rfl)
theorem dX14_runs_83 : decode cX14_runs 83 = .ok (.baload, 1) := dk_51 (dk_at dksX14_runs_3 14 rfl rfl)
theorem dX14_runs_84 : decode cX14_runs 84 = .ok (.i2c, 1) := dk_146 (dk_at dksX14_runs_3 15 rfl rfl)
theorem dX14_runs_85 : decode cX14_runs 85 = .ok (.invokevirtual 68, 3) := dk_182 0 68 (dk_at dksX14_runs_3 16 rfl rfl)
theorem dX14_runs_88 : decode cX14_runs 88 = .ok (.invokevirtual 71, 3) := dk_182 0 71 (dk_at dksX14_runs_3 19 rfl rfl)
theorem dX14_runs_91 : decode cX14_runs 91 = .ok (.putfield 17, 3) := dk_181 0 17 (dk_at dksX14_runs_4 0 rfl rfl)
theorem dX14_runs_94 : decode cX14_runs 94 = .ok (.aload_n 0, 1) := dk_42 (dk_at dksX14_runs_4 3 rfl rfl)
theorem dX14_runs_95 : decode cX14_runs 95 = .ok (.dup, 1) := dk_89 (dk_at dksX14_runs_4 4 rfl rfl)
theorem dX14_runs_96 : decode cX14_runs 96 = .ok (.getfield 21, 3) := dk_180 0 21 (dk_at dksX14_runs_4 5 rfl rfl)
theorem dX14_runs_99 : decode cX14_runs 99 = .ok (.iconst 1, 1) := dk_4 (dk_at dksX14_runs_4 8 rfl rfl)
theorem dX14_runs_100 : decode cX14_runs 100 = .ok (.iadd, 1) := dk_96 (dk_at dksX14_runs_4 9 rfl rfl)
theorem dX14_runs_101 : decode cX14_runs 101 = .ok (.putfield 21, 3) := dk_181 0 21 (dk_at dksX14_runs_4 10 rfl rfl)
theorem dX14_runs_104 : decode cX14_runs 104 = .ok (.goto (-90), 3) := dk_167 255 166 (dk_at dksX14_runs_4 13 rfl rfl)
theorem dX14_runs_107 : decode cX14_runs 107 = .ok (.iload_n 1, 1) := dk_27 (dk_at dksX14_runs_4 16 rfl rfl)
theorem dX14_runs_108 : decode cX14_runs 108 = .ok (.ifCond .eq 20, 3) := dk_153 0 20 (dk_at dksX14_runs_4 17 rfl rfl)
theorem dX14_runs_111 : decode cX14_runs 111 = .ok (.aload_n 0, 1) := dk_42 (dk_at dksX14_runs_4 20 rfl rfl)
theorem dX14_runs_112 : decode cX14_runs 112 = .ok (.getfield 17, 3) := dk_180 0 17 (dk_at dksX14_runs_4 21 rfl rfl)
theorem dX14_runs_115 : decode cX14_runs 115 = .ok (.invokevirtual 75, 3) := dk_182 0 75 (dk_at dksX14_runs_5 0 rfl rfl)
theorem dX14_runs_118 : decode cX14_runs 118 = .ok (.bipush 10, 2) := dk_16 10 (dk_at dksX14_runs_5 3 rfl rfl)
theorem dX14_runs_120 : decode cX14_runs 120 = .ok (.if_icmp .le 8, 3) := dk_164 0 8 (dk_at dksX14_runs_5 5 rfl rfl)
theorem dX14_runs_123 : decode cX14_runs 123 = .ok (.aload_n 0, 1) := dk_42 (dk_at dksX14_runs_5 8 rfl rfl)
theorem dX14_runs_124 : decode cX14_runs 124 = .ok (.iconst 3, 1) := dk_6 (dk_at dksX14_runs_5 9 rfl rfl)
theorem dX14_runs_125 : decode cX14_runs 125 = .ok (.putfield 42, 3) := dk_181 0 42 (dk_at dksX14_runs_5 10 rfl rfl)
theorem dX14_runs_128 : decode cX14_runs 128 = .ok (.iconst 0, 1) := dk_3 (dk_at dksX14_runs_5 13 rfl rfl)
theorem dX14_runs_129 : decode cX14_runs 129 = .ok (.istore_n 2, 1) := dk_61 (dk_at dksX14_runs_5 14 rfl rfl)
theorem dX14_runs_130 : decode cX14_runs 130 = .ok (.iload_n 1, 1) := dk_27 (dk_at dksX14_runs_5 15 rfl rfl)
theorem dX14_runs_131 : decode cX14_runs 131 = .ok (.ifCond .eq 52, 3) := dk_153 0 52 (dk_at dksX14_runs_5 16 rfl rfl)
theorem dX14_runs_134 : decode cX14_runs 134 = .ok (.iload_n 2, 1) := dk_28 (dk_at dksX14_runs_5 19 rfl rfl)
theorem dX14_runs_135 : decode cX14_runs 135 = .ok (.aload_n 0, 1) := dk_42 (dk_at dksX14_runs_5 20 rfl rfl)
theorem dX14_runs_136 : decode cX14_runs 136 = .ok (.getfield 17, 3) := dk_180 0 17 (dk_at dksX14_runs_5 21 rfl rfl)
theorem dX14_runs_139 : decode cX14_runs 139 = .ok (.invokevirtual 75, 3) := dk_182 0 75 (dk_at dksX14_runs_6 0 rfl rfl)
theorem dX14_runs_142 : decode cX14_runs 142 = .ok (.if_icmp .ge 41, 3) := dk_162 0 41 (dk_at dksX14_runs_6 3 rfl rfl)
theorem dX14_runs_145 : decode cX14_runs 145 = .ok (.iload_n 2, 1) := dk_28 (dk_at dksX14_runs_6 6 rfl rfl)
theorem dX14_runs_146 : decode cX14_runs 146 = .ok (.bipush 11, 2) := dk_16 11 (dk_at dksX14_runs_6 7 rfl rfl)
theorem dX14_runs_148 : decode cX14_runs 148 = .ok (.if_icmp .ge 35, 3) := dk_162 0 35 (dk_at dksX14_runs_6 9 rfl rfl)
theorem dX14_runs_151 : decode cX14_runs 151 = .ok (.aload_n 0, 1) := dk_42 (dk_at dksX14_runs_6 12 rfl rfl)
theorem dX14_runs_152 : decode cX14_runs 152 = .ok (.ldc2_w 79, 3) := dk_20 0 79 (dk_at dksX14_runs_6 13 rfl rfl)
theorem dX14_runs_155 : decode cX14_runs 155 = .ok (.aload_n 0, 1) := dk_42 (dk_at dksX14_runs_6 16 rfl rfl)
theorem dX14_runs_156 : decode cX14_runs 156 = .ok (.getfield 45, 3) := dk_180 0 45 (dk_at dksX14_runs_6 17 rfl rfl)
theorem dX14_runs_159 : decode cX14_runs 159 = .ok (.lmul, 1) := dk_105 (dk_at dksX14_runs_6 20 rfl rfl)
theorem dX14_runs_160 : decode cX14_runs 160 = .ok (.aload_n 0, 1) := dk_42 (dk_at dksX14_runs_6 21 rfl rfl)
theorem dX14_runs_161 : decode cX14_runs 161 = .ok (.getfield 17, 3) := dk_180 0 17 (dk_at dksX14_runs_7 0 rfl rfl)
theorem dX14_runs_164 : decode cX14_runs 164 = .ok (.iload_n 2, 1) := dk_28 (dk_at dksX14_runs_7 3 rfl rfl)
theorem dX14_runs_165 : decode cX14_runs 165 = .ok (.invokevirtual 81, 3) := dk_182 0 81 (dk_at dksX14_runs_7 4 rfl rfl)
theorem dX14_runs_168 : decode cX14_runs 168 = .ok (.i2l, 1) := dk_133 (dk_at dksX14_runs_7 7 rfl rfl)
theorem dX14_runs_169 : decode cX14_runs 169 = .ok (.ladd, 1) := dk_97 (dk_at dksX14_runs_7 8 rfl rfl)
theorem dX14_runs_170 : decode cX14_runs 170 = .ok (.ldc2_w 85, 3) := dk_20 0 85 (dk_at dksX14_runs_7 9 rfl rfl)
theorem dX14_runs_173 : decode cX14_runs 173 = .ok (.lsub, 1) := dk_101 (dk_at dksX14_runs_7 12 rfl rfl)
theorem dX14_runs_174 : decode cX14_runs 174 = .ok (.putfield 45, 3) := dk_181 0 45 (dk_at dksX14_runs_7 13 rfl rfl)
theorem dX14_runs_177 : decode cX14_runs 177 = .ok (.iinc 2 1, 3) := dk_132 2 1 (dk_at dksX14_runs_7 16 rfl rfl)
theorem dX14_runs_180 : decode cX14_runs 180 = .ok (.goto (-50), 3) := dk_167 255 206 (dk_at dksX14_runs_7 19 rfl rfl)
theorem dX14_runs_183 : decode cX14_runs 183 = .ok (.return_, 1) := dk_177 (dk_at dksX14_runs_7 22 rfl rfl)
abbrev cX14_one : ByteArray := prog_11_method_13_code
def yX14_one : MethodName := ⟨RX14, "one", "()LPrimeProofs$Line;"⟩
def dkwX14_one_10 : List UInt8 := [167, 0, 4, 3, 182, 0, 96, 42, 182, 0, 100, 44, 176]
abbrev dktX14_one_10 : List UInt8 := dkwX14_one_10 ++ []
def dkwX14_one_9 : List UInt8 := [42, 42, 180, 0, 42, 6, 160, 0, 19, 42, 180, 0, 17, 18, 181, 182, 0, 92, 153, 0, 7, 4]
abbrev dktX14_one_9 : List UInt8 := dkwX14_one_9 ++ dktX14_one_10
def dkwX14_one_8 : List UInt8 := [4, 3, 182, 0, 168, 42, 18, 180, 182, 0, 139, 42, 44, 180, 0, 176, 3, 3, 182, 0, 168, 167, 0, 3]
abbrev dktX14_one_8 : List UInt8 := dkwX14_one_8 ++ dktX14_one_9
def dkwX14_one_7 : List UInt8 := [3, 3, 182, 0, 168, 167, 0, 43, 42, 44, 182, 0, 172, 42, 18, 179, 182, 0, 139, 42, 44, 180, 0, 164]
abbrev dktX14_one_7 : List UInt8 := dkwX14_one_7 ++ dktX14_one_8
def dkwX14_one_6 : List UInt8 := [4, 3, 182, 0, 168, 167, 0, 67, 42, 44, 182, 0, 172, 42, 18, 162, 182, 0, 139, 42, 44, 180, 0, 176]
abbrev dktX14_one_6 : List UInt8 := dkwX14_one_6 ++ dktX14_one_7
def dkwX14_one_5 : List UInt8 := [42, 44, 180, 0, 164, 3, 29, 182, 0, 168, 167, 0, 86, 42, 18, 162, 182, 0, 139, 42, 44, 180, 0, 164]
abbrev dktX14_one_5 : List UInt8 := dkwX14_one_5 ++ dktX14_one_6
def dkwX14_one_4 : List UInt8 := [42, 18, 160, 182, 0, 139, 42, 20, 0, 112, 20, 0, 124, 182, 0, 116, 136, 62, 42, 18, 162, 182, 0, 139]
abbrev dktX14_one_4 : List UInt8 := dkwX14_one_4 ++ dktX14_one_5
def dkwX14_one_3 : List UInt8 := [170, 0, 0, 0, 149, 0, 0, 0, 1, 0, 0, 0, 4, 0, 0, 0, 29, 0, 0, 0, 66, 0, 0, 0, 85, 0, 0, 0, 109]
abbrev dktX14_one_3 : List UInt8 := dkwX14_one_3 ++ dktX14_one_4
def dkwX14_one_2 : List UInt8 := [182, 0, 116, 27, 182, 0, 156, 77, 27]
abbrev dktX14_one_2 : List UInt8 := dkwX14_one_2 ++ dktX14_one_3
def dkwX14_one_1 : List UInt8 := [167, 0, 4, 3, 182, 0, 96, 42, 182, 0, 100, 42, 180, 0, 3, 42, 20, 0, 112, 20, 0, 114]
abbrev dktX14_one_1 : List UInt8 := dkwX14_one_1 ++ dktX14_one_2
def dkwX14_one_0 : List UInt8 := [42, 180, 0, 42, 4, 160, 0, 10, 42, 182, 0, 153, 167, 0, 4, 2, 60, 42, 27, 2, 159, 0, 7, 4]
abbrev dktX14_one_0 : List UInt8 := dkwX14_one_0 ++ dktX14_one_1
theorem dksX14_one_0 : cX14_one.data.toList.drop 0 = dktX14_one_0 := by decide +kernel
theorem dksX14_one_1 : cX14_one.data.toList.drop 24 = dktX14_one_1 := dk_seg dksX14_one_0 24 rfl rfl
theorem dksX14_one_2 : cX14_one.data.toList.drop 46 = dktX14_one_2 := dk_seg dksX14_one_1 22 rfl rfl
theorem dksX14_one_3 : cX14_one.data.toList.drop 55 = dktX14_one_3 := dk_seg dksX14_one_2 9 rfl rfl
theorem dksX14_one_4 : cX14_one.data.toList.drop 84 = dktX14_one_4 := dk_seg dksX14_one_3 29 rfl rfl
theorem dksX14_one_5 : cX14_one.data.toList.drop 108 = dktX14_one_5 := dk_seg dksX14_one_4 24 rfl rfl
theorem dksX14_one_6 : cX14_one.data.toList.drop 132 = dktX14_one_6 := dk_seg dksX14_one_5 24 rfl rfl
theorem dksX14_one_7 : cX14_one.data.toList.drop 156 = dktX14_one_7 := dk_seg dksX14_one_6 24 rfl rfl
theorem dksX14_one_8 : cX14_one.data.toList.drop 180 = dktX14_one_8 := dk_seg dksX14_one_7 24 rfl rfl
theorem dksX14_one_9 : cX14_one.data.toList.drop 204 = dktX14_one_9 := dk_seg dksX14_one_8 24 rfl rfl
theorem dksX14_one_10 : cX14_one.data.toList.drop 226 = dktX14_one_10 := dk_seg dksX14_one_9 22 rfl rfl
theorem dX14_one_0 : decode cX14_one 0 = .ok (.aload_n 0, 1) := dk_42 (dk_at dksX14_one_0 0 rfl rfl)
theorem dX14_one_1 : decode cX14_one 1 = .ok (.getfield 42, 3) := dk_180 0 42 (dk_at dksX14_one_0 1 rfl rfl)
theorem dX14_one_4 : decode cX14_one 4 = .ok (.iconst 1, 1) := dk_4 (dk_at dksX14_one_0 4 rfl rfl)
theorem dX14_one_5 : decode cX14_one 5 = .ok (.if_icmp .ne 10, 3) := dk_160 0 10 (dk_at dksX14_one_0 5 rfl rfl)
theorem dX14_one_8 : decode cX14_one 8 = .ok (.aload_n 0, 1) := dk_42 (dk_at dksX14_one_0 8 rfl rfl)
theorem dX14_one_9 : decode cX14_one 9 = .ok (.invokevirtual 153, 3) := dk_182 0 153 (dk_at dksX14_one_0 9 rfl rfl)
theorem dX14_one_12 : decode cX14_one 12 = .ok (.goto 4, 3) := dk_167 0 4 (dk_at dksX14_one_0 12 rfl rfl)
theorem dX14_one_15 : decode cX14_one 15 = .ok (.iconst (-1), 1) := dk_2 (dk_at dksX14_one_0 15 rfl rfl)
theorem dX14_one_16 : decode cX14_one 16 = .ok (.istore_n 1, 1) := dk_60 (dk_at dksX14_one_0 16 rfl rfl)
theorem dX14_one_17 : decode cX14_one 17 = .ok (.aload_n 0, 1) := dk_42 (dk_at dksX14_one_0 17 rfl rfl)
theorem dX14_one_18 : decode cX14_one 18 = .ok (.iload_n 1, 1) := dk_27 (dk_at dksX14_one_0 18 rfl rfl)
theorem dX14_one_19 : decode cX14_one 19 = .ok (.iconst (-1), 1) := dk_2 (dk_at dksX14_one_0 19 rfl rfl)
theorem dX14_one_20 : decode cX14_one 20 = .ok (.if_icmp .eq 7, 3) := dk_159 0 7 (dk_at dksX14_one_0 20 rfl rfl)
theorem dX14_one_23 : decode cX14_one 23 = .ok (.iconst 1, 1) := dk_4 (dk_at dksX14_one_0 23 rfl rfl)
theorem dX14_one_24 : decode cX14_one 24 = .ok (.goto 4, 3) := dk_167 0 4 (dk_at dksX14_one_1 0 rfl rfl)
theorem dX14_one_27 : decode cX14_one 27 = .ok (.iconst 0, 1) := dk_3 (dk_at dksX14_one_1 3 rfl rfl)
theorem dX14_one_28 : decode cX14_one 28 = .ok (.invokevirtual 96, 3) := dk_182 0 96 (dk_at dksX14_one_1 4 rfl rfl)
theorem dX14_one_31 : decode cX14_one 31 = .ok (.aload_n 0, 1) := dk_42 (dk_at dksX14_one_1 7 rfl rfl)
theorem dX14_one_32 : decode cX14_one 32 = .ok (.invokevirtual 100, 3) := dk_182 0 100 (dk_at dksX14_one_1 8 rfl rfl)
theorem dX14_one_35 : decode cX14_one 35 = .ok (.aload_n 0, 1) := dk_42 (dk_at dksX14_one_1 11 rfl rfl)
theorem dX14_one_36 : decode cX14_one 36 = .ok (.getfield 3, 3) := dk_180 0 3 (dk_at dksX14_one_1 12 rfl rfl)
theorem dX14_one_39 : decode cX14_one 39 = .ok (.aload_n 0, 1) := dk_42 (dk_at dksX14_one_1 15 rfl rfl)
theorem dX14_one_40 : decode cX14_one 40 = .ok (.ldc2_w 112, 3) := dk_20 0 112 (dk_at dksX14_one_1 16 rfl rfl)
theorem dX14_one_43 : decode cX14_one 43 = .ok (.ldc2_w 114, 3) := dk_20 0 114 (dk_at dksX14_one_1 19 rfl rfl)
theorem dX14_one_46 : decode cX14_one 46 = .ok (.invokevirtual 116, 3) := dk_182 0 116 (dk_at dksX14_one_2 0 rfl rfl)
theorem dX14_one_49 : decode cX14_one 49 = .ok (.iload_n 1, 1) := dk_27 (dk_at dksX14_one_2 3 rfl rfl)
theorem dX14_one_50 : decode cX14_one 50 = .ok (.invokevirtual 156, 3) := dk_182 0 156 (dk_at dksX14_one_2 4 rfl rfl)
theorem dX14_one_53 : decode cX14_one 53 = .ok (.astore_n 2, 1) := dk_77 (dk_at dksX14_one_2 7 rfl rfl)
theorem dX14_one_54 : decode cX14_one 54 = .ok (.iload_n 1, 1) := dk_27 (dk_at dksX14_one_2 8 rfl rfl)
theorem dX14_one_55 : decode cX14_one 55 = .ok (.tableswitch 149 1 4 #[29, 66, 85, 109], 29) := by decide +kernel
theorem dX14_one_84 : decode cX14_one 84 = .ok (.aload_n 0, 1) := dk_42 (dk_at dksX14_one_4 0 rfl rfl)
theorem dX14_one_85 : decode cX14_one 85 = .ok (.ldc 160, 2) := dk_18 160 (dk_at dksX14_one_4 1 rfl rfl)
theorem dX14_one_87 : decode cX14_one 87 = .ok (.invokevirtual 139, 3) := dk_182 0 139 (dk_at dksX14_one_4 3 rfl rfl)
theorem dX14_one_90 : decode cX14_one 90 = .ok (.aload_n 0, 1) := dk_42 (dk_at dksX14_one_4 6 rfl rfl)
theorem dX14_one_91 : decode cX14_one 91 = .ok (.ldc2_w 112, 3) := dk_20 0 112 (dk_at dksX14_one_4 7 rfl rfl)
theorem dX14_one_94 : decode cX14_one 94 = .ok (.ldc2_w 124, 3) := dk_20 0 124 (dk_at dksX14_one_4 10 rfl rfl)
theorem dX14_one_97 : decode cX14_one 97 = .ok (.invokevirtual 116, 3) := dk_182 0 116 (dk_at dksX14_one_4 13 rfl rfl)
theorem dX14_one_100 : decode cX14_one 100 = .ok (.l2i, 1) := dk_136 (dk_at dksX14_one_4 16 rfl rfl)
theorem dX14_one_101 : decode cX14_one 101 = .ok (.istore_n 3, 1) := dk_62 (dk_at dksX14_one_4 17 rfl rfl)
theorem dX14_one_102 : decode cX14_one 102 = .ok (.aload_n 0, 1) := dk_42 (dk_at dksX14_one_4 18 rfl rfl)
theorem dX14_one_103 : decode cX14_one 103 = .ok (.ldc 162, 2) := dk_18 162 (dk_at dksX14_one_4 19 rfl rfl)
theorem dX14_one_105 : decode cX14_one 105 = .ok (.invokevirtual 139, 3) := dk_182 0 139 (dk_at dksX14_one_4 21 rfl rfl)
theorem dX14_one_108 : decode cX14_one 108 = .ok (.aload_n 0, 1) := dk_42 (dk_at dksX14_one_5 0 rfl rfl)
theorem dX14_one_109 : decode cX14_one 109 = .ok (.aload_n 2, 1) := dk_44 (dk_at dksX14_one_5 1 rfl rfl)
theorem dX14_one_110 : decode cX14_one 110 = .ok (.getfield 164, 3) := dk_180 0 164 (dk_at dksX14_one_5 2 rfl rfl)
theorem dX14_one_113 : decode cX14_one 113 = .ok (.iconst 0, 1) := dk_3 (dk_at dksX14_one_5 5 rfl rfl)
theorem dX14_one_114 : decode cX14_one 114 = .ok (.iload_n 3, 1) := dk_29 (dk_at dksX14_one_5 6 rfl rfl)
theorem dX14_one_115 : decode cX14_one 115 = .ok (.invokevirtual 168, 3) := dk_182 0 168 (dk_at dksX14_one_5 7 rfl rfl)
theorem dX14_one_118 : decode cX14_one 118 = .ok (.goto 86, 3) := dk_167 0 86 (dk_at dksX14_one_5 10 rfl rfl)
theorem dX14_one_121 : decode cX14_one 121 = .ok (.aload_n 0, 1) := dk_42 (dk_at dksX14_one_5 13 rfl rfl)
theorem dX14_one_122 : decode cX14_one 122 = .ok (.ldc 162, 2) := dk_18 162 (dk_at dksX14_one_5 14 rfl rfl)
theorem dX14_one_124 : decode cX14_one 124 = .ok (.invokevirtual 139, 3) := dk_182 0 139 (dk_at dksX14_one_5 16 rfl rfl)
theorem dX14_one_127 : decode cX14_one 127 = .ok (.aload_n 0, 1) := dk_42 (dk_at dksX14_one_5 19 rfl rfl)
theorem dX14_one_128 : decode cX14_one 128 = .ok (.aload_n 2, 1) := dk_44 (dk_at dksX14_one_5 20 rfl rfl)
theorem dX14_one_129 : decode cX14_one 129 = .ok (.getfield 164, 3) := dk_180 0 164 (dk_at dksX14_one_5 21 rfl rfl)
theorem dX14_one_132 : decode cX14_one 132 = .ok (.iconst 1, 1) := dk_4 (dk_at dksX14_one_6 0 rfl rfl)
theorem dX14_one_133 : decode cX14_one 133 = .ok (.iconst 0, 1) := dk_3 (dk_at dksX14_one_6 1 rfl rfl)
theorem dX14_one_134 : decode cX14_one 134 = .ok (.invokevirtual 168, 3) := dk_182 0 168 (dk_at dksX14_one_6 2 rfl rfl)
theorem dX14_one_137 : decode cX14_one 137 = .ok (.goto 67, 3) := dk_167 0 67 (dk_at dksX14_one_6 5 rfl rfl)
theorem dX14_one_140 : decode cX14_one 140 = .ok (.aload_n 0, 1) := dk_42 (dk_at dksX14_one_6 8 rfl rfl)
theorem dX14_one_141 : decode cX14_one 141 = .ok (.aload_n 2, 1) := dk_44 (dk_at dksX14_one_6 9 rfl rfl)
theorem dX14_one_142 : decode cX14_one 142 = .ok (.invokevirtual 172, 3) := dk_182 0 172 (dk_at dksX14_one_6 10 rfl rfl)
theorem dX14_one_145 : decode cX14_one 145 = .ok (.aload_n 0, 1) := dk_42 (dk_at dksX14_one_6 13 rfl rfl)
theorem dX14_one_146 : decode cX14_one 146 = .ok (.ldc 162, 2) := dk_18 162 (dk_at dksX14_one_6 14 rfl rfl)
theorem dX14_one_148 : decode cX14_one 148 = .ok (.invokevirtual 139, 3) := dk_182 0 139 (dk_at dksX14_one_6 16 rfl rfl)
theorem dX14_one_151 : decode cX14_one 151 = .ok (.aload_n 0, 1) := dk_42 (dk_at dksX14_one_6 19 rfl rfl)
theorem dX14_one_152 : decode cX14_one 152 = .ok (.aload_n 2, 1) := dk_44 (dk_at dksX14_one_6 20 rfl rfl)
theorem dX14_one_153 : decode cX14_one 153 = .ok (.getfield 176, 3) := dk_180 0 176 (dk_at dksX14_one_6 21 rfl rfl)
theorem dX14_one_156 : decode cX14_one 156 = .ok (.iconst 0, 1) := dk_3 (dk_at dksX14_one_7 0 rfl rfl)
theorem dX14_one_157 : decode cX14_one 157 = .ok (.iconst 0, 1) := dk_3 (dk_at dksX14_one_7 1 rfl rfl)
theorem dX14_one_158 : decode cX14_one 158 = .ok (.invokevirtual 168, 3) := dk_182 0 168 (dk_at dksX14_one_7 2 rfl rfl)
theorem dX14_one_161 : decode cX14_one 161 = .ok (.goto 43, 3) := dk_167 0 43 (dk_at dksX14_one_7 5 rfl rfl)
theorem dX14_one_164 : decode cX14_one 164 = .ok (.aload_n 0, 1) := dk_42 (dk_at dksX14_one_7 8 rfl rfl)
theorem dX14_one_165 : decode cX14_one 165 = .ok (.aload_n 2, 1) := dk_44 (dk_at dksX14_one_7 9 rfl rfl)
theorem dX14_one_166 : decode cX14_one 166 = .ok (.invokevirtual 172, 3) := dk_182 0 172 (dk_at dksX14_one_7 10 rfl rfl)
theorem dX14_one_169 : decode cX14_one 169 = .ok (.aload_n 0, 1) := dk_42 (dk_at dksX14_one_7 13 rfl rfl)
theorem dX14_one_170 : decode cX14_one 170 = .ok (.ldc 179, 2) := dk_18 179 (dk_at dksX14_one_7 14 rfl rfl)
theorem dX14_one_172 : decode cX14_one 172 = .ok (.invokevirtual 139, 3) := dk_182 0 139 (dk_at dksX14_one_7 16 rfl rfl)
theorem dX14_one_175 : decode cX14_one 175 = .ok (.aload_n 0, 1) := dk_42 (dk_at dksX14_one_7 19 rfl rfl)
theorem dX14_one_176 : decode cX14_one 176 = .ok (.aload_n 2, 1) := dk_44 (dk_at dksX14_one_7 20 rfl rfl)
theorem dX14_one_177 : decode cX14_one 177 = .ok (.getfield 164, 3) := dk_180 0 164 (dk_at dksX14_one_7 21 rfl rfl)
theorem dX14_one_180 : decode cX14_one 180 = .ok (.iconst 1, 1) := dk_4 (dk_at dksX14_one_8 0 rfl rfl)
theorem dX14_one_181 : decode cX14_one 181 = .ok (.iconst 0, 1) := dk_3 (dk_at dksX14_one_8 1 rfl rfl)
theorem dX14_one_182 : decode cX14_one 182 = .ok (.invokevirtual 168, 3) := dk_182 0 168 (dk_at dksX14_one_8 2 rfl rfl)
theorem dX14_one_185 : decode cX14_one 185 = .ok (.aload_n 0, 1) := dk_42 (dk_at dksX14_one_8 5 rfl rfl)
theorem dX14_one_186 : decode cX14_one 186 = .ok (.ldc 180, 2) := dk_18 180 (dk_at dksX14_one_8 6 rfl rfl)
theorem dX14_one_188 : decode cX14_one 188 = .ok (.invokevirtual 139, 3) := dk_182 0 139 (dk_at dksX14_one_8 8 rfl rfl)
theorem dX14_one_191 : decode cX14_one 191 = .ok (.aload_n 0, 1) := dk_42 (dk_at dksX14_one_8 11 rfl rfl)
theorem dX14_one_192 : decode cX14_one 192 = .ok (.aload_n 2, 1) := dk_44 (dk_at dksX14_one_8 12 rfl rfl)
theorem dX14_one_193 : decode cX14_one 193 = .ok (.getfield 176, 3) := dk_180 0 176 (dk_at dksX14_one_8 13 rfl rfl)
theorem dX14_one_196 : decode cX14_one 196 = .ok (.iconst 0, 1) := dk_3 (dk_at dksX14_one_8 16 rfl rfl)
theorem dX14_one_197 : decode cX14_one 197 = .ok (.iconst 0, 1) := dk_3 (dk_at dksX14_one_8 17 rfl rfl)
theorem dX14_one_198 : decode cX14_one 198 = .ok (.invokevirtual 168, 3) := dk_182 0 168 (dk_at dksX14_one_8 18 rfl rfl)
theorem dX14_one_201 : decode cX14_one 201 = .ok (.goto 3, 3) := dk_167 0 3 (dk_at dksX14_one_8 21 rfl rfl)
theorem dX14_one_204 : decode cX14_one 204 = .ok (.aload_n 0, 1) := dk_42 (dk_at dksX14_one_9 0 rfl rfl)
theorem dX14_one_205 : decode cX14_one 205 = .ok (.aload_n 0, 1) := dk_42 (dk_at dksX14_one_9 1 rfl rfl)
theorem dX14_one_206 : decode cX14_one 206 = .ok (.getfield 42, 3) := dk_180 0 42 (dk_at dksX14_one_9 2 rfl rfl)
theorem dX14_one_209 : decode cX14_one 209 = .ok (.iconst 3, 1) := dk_6 (dk_at dksX14_one_9 5 rfl rfl)
theorem dX14_one_210 : decode cX14_one 210 = .ok (.if_icmp .ne 19, 3) := dk_160 0 19 (dk_at dksX14_one_9 6 rfl rfl)
theorem dX14_one_213 : decode cX14_one 213 = .ok (.aload_n 0, 1) := dk_42 (dk_at dksX14_one_9 9 rfl rfl)
theorem dX14_one_214 : decode cX14_one 214 = .ok (.getfield 17, 3) := dk_180 0 17 (dk_at dksX14_one_9 10 rfl rfl)
theorem dX14_one_217 : decode cX14_one 217 = .ok (.ldc 181, 2) := dk_18 181 (dk_at dksX14_one_9 13 rfl rfl)
theorem dX14_one_219 : decode cX14_one 219 = .ok (.invokevirtual 92, 3) := dk_182 0 92 (dk_at dksX14_one_9 15 rfl rfl)
theorem dX14_one_222 : decode cX14_one 222 = .ok (.ifCond .eq 7, 3) := dk_153 0 7 (dk_at dksX14_one_9 18 rfl rfl)
theorem dX14_one_225 : decode cX14_one 225 = .ok (.iconst 1, 1) := dk_4 (dk_at dksX14_one_9 21 rfl rfl)
theorem dX14_one_226 : decode cX14_one 226 = .ok (.goto 4, 3) := dk_167 0 4 (dk_at dksX14_one_10 0 rfl rfl)
theorem dX14_one_229 : decode cX14_one 229 = .ok (.iconst 0, 1) := dk_3 (dk_at dksX14_one_10 3 rfl rfl)
theorem dX14_one_230 : decode cX14_one 230 = .ok (.invokevirtual 96, 3) := dk_182 0 96 (dk_at dksX14_one_10 4 rfl rfl)
theorem dX14_one_233 : decode cX14_one 233 = .ok (.aload_n 0, 1) := dk_42 (dk_at dksX14_one_10 7 rfl rfl)
theorem dX14_one_234 : decode cX14_one 234 = .ok (.invokevirtual 100, 3) := dk_182 0 100 (dk_at dksX14_one_10 8 rfl rfl)
theorem dX14_one_237 : decode cX14_one 237 = .ok (.aload_n 2, 1) := dk_44 (dk_at dksX14_one_10 11 rfl rfl)
theorem dX14_one_238 : decode cX14_one 238 = .ok (.areturn, 1) := dk_176 (dk_at dksX14_one_10 12 rfl rfl)
abbrev cX14_sortOf : ByteArray := prog_11_method_11_code
def yX14_sortOf : MethodName := ⟨RX14, "sortOf", "()I"⟩
def dkwX14_sortOf_1 : List UInt8 := [60, 132, 2, 1, 167, 255, 232, 27, 172]
abbrev dktX14_sortOf_1 : List UInt8 := dkwX14_sortOf_1 ++ []
def dkwX14_sortOf_0 : List UInt8 := [2, 60, 3, 61, 28, 7, 163, 0, 25, 28, 184, 0, 133, 42, 180, 0, 17, 182, 0, 92, 153, 0, 5, 28]
abbrev dktX14_sortOf_0 : List UInt8 := dkwX14_sortOf_0 ++ dktX14_sortOf_1
theorem dksX14_sortOf_0 : cX14_sortOf.data.toList.drop 0 = dktX14_sortOf_0 := by decide +kernel
theorem dksX14_sortOf_1 : cX14_sortOf.data.toList.drop 24 = dktX14_sortOf_1 := dk_seg dksX14_sortOf_0 24 rfl rfl
theorem dX14_sortOf_0 : decode cX14_sortOf 0 = .ok (.iconst (-1), 1) := dk_2 (dk_at dksX14_sortOf_0 0 rfl rfl)
theorem dX14_sortOf_1 : decode cX14_sortOf 1 = .ok (.istore_n 1, 1) := dk_60 (dk_at dksX14_sortOf_0 1 rfl rfl)
theorem dX14_sortOf_2 : decode cX14_sortOf 2 = .ok (.iconst 0, 1) := dk_3 (dk_at dksX14_sortOf_0 2 rfl rfl)
theorem dX14_sortOf_3 : decode cX14_sortOf 3 = .ok (.istore_n 2, 1) := dk_61 (dk_at dksX14_sortOf_0 3 rfl rfl)
theorem dX14_sortOf_4 : decode cX14_sortOf 4 = .ok (.iload_n 2, 1) := dk_28 (dk_at dksX14_sortOf_0 4 rfl rfl)
theorem dX14_sortOf_5 : decode cX14_sortOf 5 = .ok (.iconst 4, 1) := dk_7 (dk_at dksX14_sortOf_0 5 rfl rfl)
theorem dX14_sortOf_6 : decode cX14_sortOf 6 = .ok (.if_icmp .gt 25, 3) := dk_163 0 25 (dk_at dksX14_sortOf_0 6 rfl rfl)
theorem dX14_sortOf_9 : decode cX14_sortOf 9 = .ok (.iload_n 2, 1) := dk_28 (dk_at dksX14_sortOf_0 9 rfl rfl)
theorem dX14_sortOf_10 : decode cX14_sortOf 10 = .ok (.invokestatic 133, 3) := dk_184 0 133 (dk_at dksX14_sortOf_0 10 rfl rfl)
theorem dX14_sortOf_13 : decode cX14_sortOf 13 = .ok (.aload_n 0, 1) := dk_42 (dk_at dksX14_sortOf_0 13 rfl rfl)
theorem dX14_sortOf_14 : decode cX14_sortOf 14 = .ok (.getfield 17, 3) := dk_180 0 17 (dk_at dksX14_sortOf_0 14 rfl rfl)
theorem dX14_sortOf_17 : decode cX14_sortOf 17 = .ok (.invokevirtual 92, 3) := dk_182 0 92 (dk_at dksX14_sortOf_0 17 rfl rfl)
theorem dX14_sortOf_20 : decode cX14_sortOf 20 = .ok (.ifCond .eq 5, 3) := dk_153 0 5 (dk_at dksX14_sortOf_0 20 rfl rfl)
theorem dX14_sortOf_23 : decode cX14_sortOf 23 = .ok (.iload_n 2, 1) := dk_28 (dk_at dksX14_sortOf_0 23 rfl rfl)
theorem dX14_sortOf_24 : decode cX14_sortOf 24 = .ok (.istore_n 1, 1) := dk_60 (dk_at dksX14_sortOf_1 0 rfl rfl)
theorem dX14_sortOf_25 : decode cX14_sortOf 25 = .ok (.iinc 2 1, 3) := dk_132 2 1 (dk_at dksX14_sortOf_1 1 rfl rfl)
theorem dX14_sortOf_28 : decode cX14_sortOf 28 = .ok (.goto (-24), 3) := dk_167 255 232 (dk_at dksX14_sortOf_1 4 rfl rfl)
theorem dX14_sortOf_31 : decode cX14_sortOf 31 = .ok (.iload_n 1, 1) := dk_27 (dk_at dksX14_sortOf_1 7 rfl rfl)
theorem dX14_sortOf_32 : decode cX14_sortOf 32 = .ok (.ireturn, 1) := dk_172 (dk_at dksX14_sortOf_1 8 rfl rfl)
abbrev cX14_must : ByteArray := prog_11_method_7_code
def yX14_must : MethodName := ⟨RX14, "must", "(Z)V"⟩
def dkwX14_must_0 : List UInt8 := [27, 154, 0, 15, 187, 0, 87, 89, 42, 180, 0, 32, 183, 0, 89, 191, 177]
abbrev dktX14_must_0 : List UInt8 := dkwX14_must_0 ++ []
theorem dksX14_must_0 : cX14_must.data.toList.drop 0 = dktX14_must_0 := by decide +kernel
theorem dX14_must_0 : decode cX14_must 0 = .ok (.iload_n 1, 1) := dk_27 (dk_at dksX14_must_0 0 rfl rfl)
theorem dX14_must_1 : decode cX14_must 1 = .ok (.ifCond .ne 15, 3) := dk_154 0 15 (dk_at dksX14_must_0 1 rfl rfl)
theorem dX14_must_4 : decode cX14_must 4 = .ok (.new 87, 3) := dk_187 0 87 (dk_at dksX14_must_0 4 rfl rfl)
theorem dX14_must_7 : decode cX14_must 7 = .ok (.dup, 1) := dk_89 (dk_at dksX14_must_0 7 rfl rfl)
theorem dX14_must_8 : decode cX14_must 8 = .ok (.aload_n 0, 1) := dk_42 (dk_at dksX14_must_0 8 rfl rfl)
theorem dX14_must_9 : decode cX14_must 9 = .ok (.getfield 32, 3) := dk_180 0 32 (dk_at dksX14_must_0 9 rfl rfl)
theorem dX14_must_12 : decode cX14_must 12 = .ok (.invokespecial 89, 3) := dk_183 0 89 (dk_at dksX14_must_0 12 rfl rfl)
theorem dX14_must_15 : decode cX14_must 15 = .ok (.athrow, 1) := dk_191 (dk_at dksX14_must_0 15 rfl rfl)
theorem dX14_must_16 : decode cX14_must 16 = .ok (.return_, 1) := dk_177 (dk_at dksX14_must_0 16 rfl rfl)
abbrev cX14_number : ByteArray := prog_11_method_9_code
def yX14_number : MethodName := ⟨RX14, "number", "(JJ)J"⟩
def dkwX14_number_1 : List UInt8 := [167, 0, 4, 3, 182, 0, 96, 42, 180, 0, 45, 55, 5, 42, 182, 0, 100, 22, 5, 173]
abbrev dktX14_number_1 : List UInt8 := dkwX14_number_1 ++ []
def dkwX14_number_0 : List UInt8 := [42, 42, 180, 0, 42, 5, 160, 0, 19, 42, 180, 0, 45, 31, 33, 184, 0, 103, 153, 0, 7, 4]
abbrev dktX14_number_0 : List UInt8 := dkwX14_number_0 ++ dktX14_number_1
theorem dksX14_number_0 : cX14_number.data.toList.drop 0 = dktX14_number_0 := by decide +kernel
theorem dksX14_number_1 : cX14_number.data.toList.drop 22 = dktX14_number_1 := dk_seg dksX14_number_0 22 rfl rfl
theorem dX14_number_0 : decode cX14_number 0 = .ok (.aload_n 0, 1) := dk_42 (dk_at dksX14_number_0 0 rfl rfl)
theorem dX14_number_1 : decode cX14_number 1 = .ok (.aload_n 0, 1) := dk_42 (dk_at dksX14_number_0 1 rfl rfl)
theorem dX14_number_2 : decode cX14_number 2 = .ok (.getfield 42, 3) := dk_180 0 42 (dk_at dksX14_number_0 2 rfl rfl)
theorem dX14_number_5 : decode cX14_number 5 = .ok (.iconst 2, 1) := dk_5 (dk_at dksX14_number_0 5 rfl rfl)
theorem dX14_number_6 : decode cX14_number 6 = .ok (.if_icmp .ne 19, 3) := dk_160 0 19 (dk_at dksX14_number_0 6 rfl rfl)
theorem dX14_number_9 : decode cX14_number 9 = .ok (.aload_n 0, 1) := dk_42 (dk_at dksX14_number_0 9 rfl rfl)
theorem dX14_number_10 : decode cX14_number 10 = .ok (.getfield 45, 3) := dk_180 0 45 (dk_at dksX14_number_0 10 rfl rfl)
theorem dX14_number_13 : decode cX14_number 13 = .ok (.lload_n 1, 1) := dk_31 (dk_at dksX14_number_0 13 rfl rfl)
theorem dX14_number_14 : decode cX14_number 14 = .ok (.lload_n 3, 1) := dk_33 (dk_at dksX14_number_0 14 rfl rfl)
theorem dX14_number_15 : decode cX14_number 15 = .ok (.invokestatic 103, 3) := dk_184 0 103 (dk_at dksX14_number_0 15 rfl rfl)
theorem dX14_number_18 : decode cX14_number 18 = .ok (.ifCond .eq 7, 3) := dk_153 0 7 (dk_at dksX14_number_0 18 rfl rfl)
theorem dX14_number_21 : decode cX14_number 21 = .ok (.iconst 1, 1) := dk_4 (dk_at dksX14_number_0 21 rfl rfl)
theorem dX14_number_22 : decode cX14_number 22 = .ok (.goto 4, 3) := dk_167 0 4 (dk_at dksX14_number_1 0 rfl rfl)
theorem dX14_number_25 : decode cX14_number 25 = .ok (.iconst 0, 1) := dk_3 (dk_at dksX14_number_1 3 rfl rfl)
theorem dX14_number_26 : decode cX14_number 26 = .ok (.invokevirtual 96, 3) := dk_182 0 96 (dk_at dksX14_number_1 4 rfl rfl)
theorem dX14_number_29 : decode cX14_number 29 = .ok (.aload_n 0, 1) := dk_42 (dk_at dksX14_number_1 7 rfl rfl)
theorem dX14_number_30 : decode cX14_number 30 = .ok (.getfield 45, 3) := dk_180 0 45 (dk_at dksX14_number_1 8 rfl rfl)
theorem dX14_number_33 : decode cX14_number 33 = .ok (.lstore 5, 2) := dk_55 5 (dk_at dksX14_number_1 11 rfl rfl)
theorem dX14_number_35 : decode cX14_number 35 = .ok (.aload_n 0, 1) := dk_42 (dk_at dksX14_number_1 13 rfl rfl)
theorem dX14_number_36 : decode cX14_number 36 = .ok (.invokevirtual 100, 3) := dk_182 0 100 (dk_at dksX14_number_1 14 rfl rfl)
theorem dX14_number_39 : decode cX14_number 39 = .ok (.lload 5, 2) := dk_22 5 (dk_at dksX14_number_1 17 rfl rfl)
theorem dX14_number_41 : decode cX14_number 41 = .ok (.lreturn, 1) := dk_173 (dk_at dksX14_number_1 19 rfl rfl)
abbrev cX14_takes : ByteArray := prog_11_method_8_code
def yX14_takes : MethodName := ⟨RX14, "takes", "(Ljava/lang/String;)V"⟩
def dkwX14_takes_1 : List UInt8 := [3, 182, 0, 96, 42, 182, 0, 100, 177]
abbrev dktX14_takes_1 : List UInt8 := dkwX14_takes_1 ++ []
def dkwX14_takes_0 : List UInt8 := [42, 42, 180, 0, 42, 4, 160, 0, 18, 42, 180, 0, 17, 43, 182, 0, 92, 153, 0, 7, 4, 167, 0, 4]
abbrev dktX14_takes_0 : List UInt8 := dkwX14_takes_0 ++ dktX14_takes_1
theorem dksX14_takes_0 : cX14_takes.data.toList.drop 0 = dktX14_takes_0 := by decide +kernel
theorem dksX14_takes_1 : cX14_takes.data.toList.drop 24 = dktX14_takes_1 := dk_seg dksX14_takes_0 24 rfl rfl
theorem dX14_takes_0 : decode cX14_takes 0 = .ok (.aload_n 0, 1) := dk_42 (dk_at dksX14_takes_0 0 rfl rfl)
theorem dX14_takes_1 : decode cX14_takes 1 = .ok (.aload_n 0, 1) := dk_42 (dk_at dksX14_takes_0 1 rfl rfl)
theorem dX14_takes_2 : decode cX14_takes 2 = .ok (.getfield 42, 3) := dk_180 0 42 (dk_at dksX14_takes_0 2 rfl rfl)
theorem dX14_takes_5 : decode cX14_takes 5 = .ok (.iconst 1, 1) := dk_4 (dk_at dksX14_takes_0 5 rfl rfl)
theorem dX14_takes_6 : decode cX14_takes 6 = .ok (.if_icmp .ne 18, 3) := dk_160 0 18 (dk_at dksX14_takes_0 6 rfl rfl)
theorem dX14_takes_9 : decode cX14_takes 9 = .ok (.aload_n 0, 1) := dk_42 (dk_at dksX14_takes_0 9 rfl rfl)
theorem dX14_takes_10 : decode cX14_takes 10 = .ok (.getfield 17, 3) := dk_180 0 17 (dk_at dksX14_takes_0 10 rfl rfl)
theorem dX14_takes_13 : decode cX14_takes 13 = .ok (.aload_n 1, 1) := dk_43 (dk_at dksX14_takes_0 13 rfl rfl)
theorem dX14_takes_14 : decode cX14_takes 14 = .ok (.invokevirtual 92, 3) := dk_182 0 92 (dk_at dksX14_takes_0 14 rfl rfl)
theorem dX14_takes_17 : decode cX14_takes 17 = .ok (.ifCond .eq 7, 3) := dk_153 0 7 (dk_at dksX14_takes_0 17 rfl rfl)
theorem dX14_takes_20 : decode cX14_takes 20 = .ok (.iconst 1, 1) := dk_4 (dk_at dksX14_takes_0 20 rfl rfl)
theorem dX14_takes_21 : decode cX14_takes 21 = .ok (.goto 4, 3) := dk_167 0 4 (dk_at dksX14_takes_0 21 rfl rfl)
theorem dX14_takes_24 : decode cX14_takes 24 = .ok (.iconst 0, 1) := dk_3 (dk_at dksX14_takes_1 0 rfl rfl)
theorem dX14_takes_25 : decode cX14_takes 25 = .ok (.invokevirtual 96, 3) := dk_182 0 96 (dk_at dksX14_takes_1 1 rfl rfl)
theorem dX14_takes_28 : decode cX14_takes 28 = .ok (.aload_n 0, 1) := dk_42 (dk_at dksX14_takes_1 4 rfl rfl)
theorem dX14_takes_29 : decode cX14_takes 29 = .ok (.invokevirtual 100, 3) := dk_182 0 100 (dk_at dksX14_takes_1 5 rfl rfl)
theorem dX14_takes_32 : decode cX14_takes 32 = .ok (.return_, 1) := dk_177 (dk_at dksX14_takes_1 8 rfl rfl)
abbrev cX14_rows : ByteArray := prog_11_method_10_code
def yX14_rows : MethodName := ⟨RX14, "rows", "(LPrimeProofs$Rows;ZI)V"⟩
def dkwX14_rows_3 : List UInt8 := [182, 0, 129, 87, 167, 255, 181, 177]
abbrev dktX14_rows_3 : List UInt8 := dkwX14_rows_3 ++ []
def dkwX14_rows_2 : List UInt8 := [21, 6, 28, 153, 0, 17, 42, 20, 0, 112, 20, 0, 124, 182, 0, 116, 136, 167, 0, 4, 29, 183, 0, 126]
abbrev dktX14_rows_2 : List UInt8 := dkwX14_rows_2 ++ dktX14_rows_3
def dkwX14_rows_1 : List UInt8 := [182, 0, 116, 55, 4, 42, 10, 20, 0, 120, 182, 0, 116, 136, 54, 6, 43, 187, 0, 122, 89, 22, 4]
abbrev dktX14_rows_1 : List UInt8 := dkwX14_rows_1 ++ dktX14_rows_2
def dkwX14_rows_0 : List UInt8 := [42, 180, 0, 42, 5, 160, 0, 73, 43, 180, 0, 107, 16, 9, 162, 0, 64, 42, 20, 0, 112, 20, 0, 114]
abbrev dktX14_rows_0 : List UInt8 := dkwX14_rows_0 ++ dktX14_rows_1
theorem dksX14_rows_0 : cX14_rows.data.toList.drop 0 = dktX14_rows_0 := by decide +kernel
theorem dksX14_rows_1 : cX14_rows.data.toList.drop 24 = dktX14_rows_1 := dk_seg dksX14_rows_0 24 rfl rfl
theorem dksX14_rows_2 : cX14_rows.data.toList.drop 47 = dktX14_rows_2 := dk_seg dksX14_rows_1 23 rfl rfl
theorem dksX14_rows_3 : cX14_rows.data.toList.drop 71 = dktX14_rows_3 := dk_seg dksX14_rows_2 24 rfl rfl
theorem dX14_rows_0 : decode cX14_rows 0 = .ok (.aload_n 0, 1) := dk_42 (dk_at dksX14_rows_0 0 rfl rfl)
theorem dX14_rows_1 : decode cX14_rows 1 = .ok (.getfield 42, 3) := dk_180 0 42 (dk_at dksX14_rows_0 1 rfl rfl)
theorem dX14_rows_4 : decode cX14_rows 4 = .ok (.iconst 2, 1) := dk_5 (dk_at dksX14_rows_0 4 rfl rfl)
theorem dX14_rows_5 : decode cX14_rows 5 = .ok (.if_icmp .ne 73, 3) := dk_160 0 73 (dk_at dksX14_rows_0 5 rfl rfl)
theorem dX14_rows_8 : decode cX14_rows 8 = .ok (.aload_n 1, 1) := dk_43 (dk_at dksX14_rows_0 8 rfl rfl)
theorem dX14_rows_9 : decode cX14_rows 9 = .ok (.getfield 107, 3) := dk_180 0 107 (dk_at dksX14_rows_0 9 rfl rfl)
theorem dX14_rows_12 : decode cX14_rows 12 = .ok (.bipush 9, 2) := dk_16 9 (dk_at dksX14_rows_0 12 rfl rfl)
theorem dX14_rows_14 : decode cX14_rows 14 = .ok (.if_icmp .ge 64, 3) := dk_162 0 64 (dk_at dksX14_rows_0 14 rfl rfl)
theorem dX14_rows_17 : decode cX14_rows 17 = .ok (.aload_n 0, 1) := dk_42 (dk_at dksX14_rows_0 17 rfl rfl)
theorem dX14_rows_18 : decode cX14_rows 18 = .ok (.ldc2_w 112, 3) := dk_20 0 112 (dk_at dksX14_rows_0 18 rfl rfl)
theorem dX14_rows_21 : decode cX14_rows 21 = .ok (.ldc2_w 114, 3) := dk_20 0 114 (dk_at dksX14_rows_0 21 rfl rfl)
theorem dX14_rows_24 : decode cX14_rows 24 = .ok (.invokevirtual 116, 3) := dk_182 0 116 (dk_at dksX14_rows_1 0 rfl rfl)
theorem dX14_rows_27 : decode cX14_rows 27 = .ok (.lstore 4, 2) := dk_55 4 (dk_at dksX14_rows_1 3 rfl rfl)
theorem dX14_rows_29 : decode cX14_rows 29 = .ok (.aload_n 0, 1) := dk_42 (dk_at dksX14_rows_1 5 rfl rfl)
theorem dX14_rows_30 : decode cX14_rows 30 = .ok (.lconst 1, 1) := dk_10 (dk_at dksX14_rows_1 6 rfl rfl)
theorem dX14_rows_31 : decode cX14_rows 31 = .ok (.ldc2_w 120, 3) := dk_20 0 120 (dk_at dksX14_rows_1 7 rfl rfl)
theorem dX14_rows_34 : decode cX14_rows 34 = .ok (.invokevirtual 116, 3) := dk_182 0 116 (dk_at dksX14_rows_1 10 rfl rfl)
theorem dX14_rows_37 : decode cX14_rows 37 = .ok (.l2i, 1) := dk_136 (dk_at dksX14_rows_1 13 rfl rfl)
theorem dX14_rows_38 : decode cX14_rows 38 = .ok (.istore 6, 2) := dk_54 6 (dk_at dksX14_rows_1 14 rfl rfl)
theorem dX14_rows_40 : decode cX14_rows 40 = .ok (.aload_n 1, 1) := dk_43 (dk_at dksX14_rows_1 16 rfl rfl)
theorem dX14_rows_41 : decode cX14_rows 41 = .ok (.new 122, 3) := dk_187 0 122 (dk_at dksX14_rows_1 17 rfl rfl)
theorem dX14_rows_44 : decode cX14_rows 44 = .ok (.dup, 1) := dk_89 (dk_at dksX14_rows_1 20 rfl rfl)
theorem dX14_rows_45 : decode cX14_rows 45 = .ok (.lload 4, 2) := dk_22 4 (dk_at dksX14_rows_1 21 rfl rfl)
theorem dX14_rows_47 : decode cX14_rows 47 = .ok (.iload 6, 2) := dk_21 6 (dk_at dksX14_rows_2 0 rfl rfl)
theorem dX14_rows_49 : decode cX14_rows 49 = .ok (.iload_n 2, 1) := dk_28 (dk_at dksX14_rows_2 2 rfl rfl)
theorem dX14_rows_50 : decode cX14_rows 50 = .ok (.ifCond .eq 17, 3) := dk_153 0 17 (dk_at dksX14_rows_2 3 rfl rfl)
theorem dX14_rows_53 : decode cX14_rows 53 = .ok (.aload_n 0, 1) := dk_42 (dk_at dksX14_rows_2 6 rfl rfl)
theorem dX14_rows_54 : decode cX14_rows 54 = .ok (.ldc2_w 112, 3) := dk_20 0 112 (dk_at dksX14_rows_2 7 rfl rfl)
theorem dX14_rows_57 : decode cX14_rows 57 = .ok (.ldc2_w 124, 3) := dk_20 0 124 (dk_at dksX14_rows_2 10 rfl rfl)
theorem dX14_rows_60 : decode cX14_rows 60 = .ok (.invokevirtual 116, 3) := dk_182 0 116 (dk_at dksX14_rows_2 13 rfl rfl)
theorem dX14_rows_63 : decode cX14_rows 63 = .ok (.l2i, 1) := dk_136 (dk_at dksX14_rows_2 16 rfl rfl)
theorem dX14_rows_64 : decode cX14_rows 64 = .ok (.goto 4, 3) := dk_167 0 4 (dk_at dksX14_rows_2 17 rfl rfl)
theorem dX14_rows_67 : decode cX14_rows 67 = .ok (.iload_n 3, 1) := dk_29 (dk_at dksX14_rows_2 20 rfl rfl)
theorem dX14_rows_68 : decode cX14_rows 68 = .ok (.invokespecial 126, 3) := dk_183 0 126 (dk_at dksX14_rows_2 21 rfl rfl)
theorem dX14_rows_71 : decode cX14_rows 71 = .ok (.invokevirtual 129, 3) := dk_182 0 129 (dk_at dksX14_rows_3 0 rfl rfl)
theorem dX14_rows_74 : decode cX14_rows 74 = .ok (.pop, 1) := dk_87 (dk_at dksX14_rows_3 3 rfl rfl)
theorem dX14_rows_75 : decode cX14_rows 75 = .ok (.goto (-75), 3) := dk_167 255 181 (dk_at dksX14_rows_3 4 rfl rfl)
theorem dX14_rows_78 : decode cX14_rows 78 = .ok (.return_, 1) := dk_177 (dk_at dksX14_rows_3 7 rfl rfl)
abbrev cX14_pair : ByteArray := prog_11_method_12_code
def yX14_pair : MethodName := ⟨RX14, "pair", "(LPrimeProofs$Line;)V"⟩
def dkwX14_pair_1 : List UInt8 := [20, 0, 143, 182, 0, 116, 136, 181, 0, 150, 177]
abbrev dktX14_pair_1 : List UInt8 := dkwX14_pair_1 ++ []
def dkwX14_pair_0 : List UInt8 := [42, 18, 137, 182, 0, 139, 43, 42, 10, 20, 0, 143, 182, 0, 116, 136, 181, 0, 145, 43, 42, 10]
abbrev dktX14_pair_0 : List UInt8 := dkwX14_pair_0 ++ dktX14_pair_1
theorem dksX14_pair_0 : cX14_pair.data.toList.drop 0 = dktX14_pair_0 := by decide +kernel
theorem dksX14_pair_1 : cX14_pair.data.toList.drop 22 = dktX14_pair_1 := dk_seg dksX14_pair_0 22 rfl rfl
theorem dX14_pair_0 : decode cX14_pair 0 = .ok (.aload_n 0, 1) := dk_42 (dk_at dksX14_pair_0 0 rfl rfl)
theorem dX14_pair_1 : decode cX14_pair 1 = .ok (.ldc 137, 2) := dk_18 137 (dk_at dksX14_pair_0 1 rfl rfl)
theorem dX14_pair_3 : decode cX14_pair 3 = .ok (.invokevirtual 139, 3) := dk_182 0 139 (dk_at dksX14_pair_0 3 rfl rfl)
theorem dX14_pair_6 : decode cX14_pair 6 = .ok (.aload_n 1, 1) := dk_43 (dk_at dksX14_pair_0 6 rfl rfl)
theorem dX14_pair_7 : decode cX14_pair 7 = .ok (.aload_n 0, 1) := dk_42 (dk_at dksX14_pair_0 7 rfl rfl)
theorem dX14_pair_8 : decode cX14_pair 8 = .ok (.lconst 1, 1) := dk_10 (dk_at dksX14_pair_0 8 rfl rfl)
theorem dX14_pair_9 : decode cX14_pair 9 = .ok (.ldc2_w 143, 3) := dk_20 0 143 (dk_at dksX14_pair_0 9 rfl rfl)
theorem dX14_pair_12 : decode cX14_pair 12 = .ok (.invokevirtual 116, 3) := dk_182 0 116 (dk_at dksX14_pair_0 12 rfl rfl)
theorem dX14_pair_15 : decode cX14_pair 15 = .ok (.l2i, 1) := dk_136 (dk_at dksX14_pair_0 15 rfl rfl)
theorem dX14_pair_16 : decode cX14_pair 16 = .ok (.putfield 145, 3) := dk_181 0 145 (dk_at dksX14_pair_0 16 rfl rfl)
theorem dX14_pair_19 : decode cX14_pair 19 = .ok (.aload_n 1, 1) := dk_43 (dk_at dksX14_pair_0 19 rfl rfl)
theorem dX14_pair_20 : decode cX14_pair 20 = .ok (.aload_n 0, 1) := dk_42 (dk_at dksX14_pair_0 20 rfl rfl)
theorem dX14_pair_21 : decode cX14_pair 21 = .ok (.lconst 1, 1) := dk_10 (dk_at dksX14_pair_0 21 rfl rfl)
theorem dX14_pair_22 : decode cX14_pair 22 = .ok (.ldc2_w 143, 3) := dk_20 0 143 (dk_at dksX14_pair_1 0 rfl rfl)
theorem dX14_pair_25 : decode cX14_pair 25 = .ok (.invokevirtual 116, 3) := dk_182 0 116 (dk_at dksX14_pair_1 3 rfl rfl)
theorem dX14_pair_28 : decode cX14_pair 28 = .ok (.l2i, 1) := dk_136 (dk_at dksX14_pair_1 6 rfl rfl)
theorem dX14_pair_29 : decode cX14_pair 29 = .ok (.putfield 150, 3) := dk_181 0 150 (dk_at dksX14_pair_1 7 rfl rfl)
theorem dX14_pair_32 : decode cX14_pair 32 = .ok (.return_, 1) := dk_177 (dk_at dksX14_pair_1 10 rfl rfl)
theorem q107 : (Jvm.Cond.initialized "PrimeProofs$Reader") ∈ lw_all := lw_g (lw_at lw_m1 24 rfl) rfl
theorem q159 : (Jvm.Cond.fieldLinkNest "PrimeProofs$Reader" (28 : Nat) "PrimeProofs" "tape" "[B" "PrimeProofs") ∈ lw_tbl := lw_at lw_m1 76 rfl
theorem q161 : (Jvm.Cond.fieldLinkNest "PrimeProofs$Reader" (25 : Nat) "PrimeProofs" "taped" "I" "PrimeProofs") ∈ lw_tbl := lw_at lw_m1 78 rfl
theorem q524 : (Jvm.Cond.fieldLinkNest "PrimeProofs$Reader" (107 : Nat) "PrimeProofs$Rows" "many" "I" "PrimeProofs") ∈ lw_tbl := lw_at lw_m2 201 rfl
theorem q545 : (Jvm.Cond.fieldLink "PrimeProofs$Reader" (145 : Nat) "PrimeProofs$Line" "p" "I") ∈ lw_all := lw_g (lw_at lw_m2 222 rfl) rfl
theorem q548 : (Jvm.Cond.fieldLink "PrimeProofs$Reader" (150 : Nat) "PrimeProofs$Line" "q" "I") ∈ lw_all := lw_g (lw_at lw_m2 225 rfl) rfl
theorem q557 : (Jvm.Cond.fieldLink "PrimeProofs$Reader" (164 : Nat) "PrimeProofs$Line" "down" "LPrimeProofs$Rows;") ∈ lw_all := lw_g (lw_at lw_m2 234 rfl) rfl
theorem q564 : (Jvm.Cond.fieldLink "PrimeProofs$Reader" (176 : Nat) "PrimeProofs$Line" "up" "LPrimeProofs$Rows;") ∈ lw_all := lw_g (lw_at lw_m3 1 rfl) rfl
theorem q834 : (Jvm.Cond.selects "PrimeProofs$Reader" ({ cls := "java/lang/Object", name := "getClass", desc := "()Ljava/lang/Class;" } : Jvm.MethodName) ({ cls := "java/lang/Object", name := "getClass", desc := "()Ljava/lang/Class;" } : Jvm.MethodName)) ∈ lw_all := lw_g (lw_at lw_m4 31 rfl) rfl
theorem q900 : (Jvm.Cond.instantiable "PrimeProofs$Reader" (6 : Nat)) ∈ lw_all := lw_g (lw_at lw_m4 97 rfl) rfl
theorem q902 : (Jvm.Cond.instanceMethod ({ cls := "PrimeProofs$Reader", name := "<init>", desc := "(LPrimeProofs;)V" } : Jvm.MethodName)) ∈ lw_all := lw_g (lw_at lw_m4 99 rfl) rfl
theorem q903 : (Jvm.Cond.code ({ cls := "PrimeProofs$Reader", name := "<init>", desc := "(LPrimeProofs;)V" } : Jvm.MethodName) prog_11_method_1_code (2 : Nat) (Option.none : Option Jvm.ClassFile.FieldType)) ∈ lw_all := lw_g (lw_at lw_m4 100 rfl) rfl
theorem q904 : (Jvm.Cond.methodLink "PrimeProofs$Reader" (9 : Nat) ({ cls := "java/lang/Object", name := "<init>", desc := "()V" } : Jvm.MethodName)) ∈ lw_all := lw_g (lw_at lw_m4 101 rfl) rfl
theorem q905 : (Jvm.Cond.stringRef "PrimeProofs$Reader" (15 : Nat) "") ∈ lw_tbl := lw_at lw_m4 102 rfl
theorem q906 : (Jvm.Cond.fieldLink "PrimeProofs$Reader" (21 : Nat) "PrimeProofs$Reader" "at" "I") ∈ lw_all := lw_g (lw_at lw_m4 103 rfl) rfl
theorem q907 : (Jvm.Cond.fieldLink "PrimeProofs$Reader" (32 : Nat) "PrimeProofs$Reader" "place" "I") ∈ lw_all := lw_g (lw_at lw_m4 104 rfl) rfl
theorem q908 : (Jvm.Cond.fieldLink "PrimeProofs$Reader" (42 : Nat) "PrimeProofs$Reader" "sort" "I") ∈ lw_all := lw_g (lw_at lw_m4 105 rfl) rfl
theorem q909 : (Jvm.Cond.fieldLink "PrimeProofs$Reader" (17 : Nat) "PrimeProofs$Reader" "word" "Ljava/lang/String;") ∈ lw_all := lw_g (lw_at lw_m4 106 rfl) rfl
theorem q910 : (Jvm.Cond.fieldLink "PrimeProofs$Reader" (45 : Nat) "PrimeProofs$Reader" "value" "J") ∈ lw_all := lw_g (lw_at lw_m4 107 rfl) rfl
theorem q911 : (Jvm.Cond.fieldLink "PrimeProofs$Reader" (3 : Nat) "PrimeProofs$Reader" "this$0" "LPrimeProofs;") ∈ lw_all := lw_g (lw_at lw_m4 108 rfl) rfl
theorem q912 : (Jvm.Cond.lays "PrimeProofs$Reader" "PrimeProofs$Reader" "at" "I") ∈ lw_all := lw_g (lw_at lw_m4 109 rfl) rfl
theorem q913 : (Jvm.Cond.soleField "PrimeProofs$Reader" "at") ∈ lw_all := lw_g (lw_at lw_m4 110 rfl) rfl
theorem q914 : (Jvm.Cond.lays "PrimeProofs$Reader" "PrimeProofs$Reader" "place" "I") ∈ lw_all := lw_g (lw_at lw_m4 111 rfl) rfl
theorem q915 : (Jvm.Cond.soleField "PrimeProofs$Reader" "place") ∈ lw_all := lw_g (lw_at lw_m4 112 rfl) rfl
theorem q916 : (Jvm.Cond.lays "PrimeProofs$Reader" "PrimeProofs$Reader" "sort" "I") ∈ lw_all := lw_g (lw_at lw_m4 113 rfl) rfl
theorem q917 : (Jvm.Cond.soleField "PrimeProofs$Reader" "sort") ∈ lw_all := lw_g (lw_at lw_m4 114 rfl) rfl
theorem q918 : (Jvm.Cond.lays "PrimeProofs$Reader" "PrimeProofs$Reader" "word" "Ljava/lang/String;") ∈ lw_all := lw_g (lw_at lw_m4 115 rfl) rfl
theorem q919 : (Jvm.Cond.soleField "PrimeProofs$Reader" "word") ∈ lw_all := lw_g (lw_at lw_m4 116 rfl) rfl
theorem q920 : (Jvm.Cond.lays "PrimeProofs$Reader" "PrimeProofs$Reader" "value" "J") ∈ lw_all := lw_g (lw_at lw_m4 117 rfl) rfl
theorem q921 : (Jvm.Cond.soleField "PrimeProofs$Reader" "value") ∈ lw_all := lw_g (lw_at lw_m4 118 rfl) rfl
theorem q922 : (Jvm.Cond.laysFinal "PrimeProofs$Reader" "PrimeProofs$Reader" "this$0" "LPrimeProofs;") ∈ lw_all := lw_g (lw_at lw_m4 119 rfl) rfl
theorem q923 : (Jvm.Cond.soleField "PrimeProofs$Reader" "this$0") ∈ lw_all := lw_g (lw_at lw_m4 120 rfl) rfl
theorem q924 : (Jvm.Cond.superclass "PrimeProofs$Reader" "java/lang/Object") ∈ lw_all := lw_g (lw_at lw_m4 121 rfl) rfl
theorem q926 : (Jvm.Cond.instanceMethod ({ cls := "PrimeProofs$Reader", name := "reads", desc := "()Ljava/util/ArrayList;" } : Jvm.MethodName)) ∈ lw_all := lw_g (lw_at lw_m4 123 rfl) rfl
theorem q927 : (Jvm.Cond.selects "PrimeProofs$Reader" ({ cls := "PrimeProofs$Reader", name := "reads", desc := "()Ljava/util/ArrayList;" } : Jvm.MethodName) ({ cls := "PrimeProofs$Reader", name := "reads", desc := "()Ljava/util/ArrayList;" } : Jvm.MethodName)) ∈ lw_all := lw_g (lw_at lw_m4 124 rfl) rfl
theorem q928 : (Jvm.Cond.code ({ cls := "PrimeProofs$Reader", name := "reads", desc := "()Ljava/util/ArrayList;" } : Jvm.MethodName) prog_11_method_14_code (2 : Nat) (Option.some (Jvm.ClassFile.FieldType.object "java/util/ArrayList"))) ∈ lw_all := lw_g (lw_at lw_m4 125 rfl) rfl
theorem q929 : (Jvm.Cond.classLink "PrimeProofs$Reader" (183 : Nat) "java/util/ArrayList") ∈ lw_all := lw_g (lw_at lw_m4 126 rfl) rfl
theorem q930 : (Jvm.Cond.methodLink "PrimeProofs$Reader" (185 : Nat) ({ cls := "java/util/ArrayList", name := "<init>", desc := "()V" } : Jvm.MethodName)) ∈ lw_all := lw_g (lw_at lw_m4 127 rfl) rfl
theorem q931 : (Jvm.Cond.methodLink "PrimeProofs$Reader" (100 : Nat) ({ cls := "PrimeProofs$Reader", name := "sees", desc := "()V" } : Jvm.MethodName)) ∈ lw_all := lw_g (lw_at lw_m4 128 rfl) rfl
theorem q932 : (Jvm.Cond.privateMethod ({ cls := "PrimeProofs$Reader", name := "sees", desc := "()V" } : Jvm.MethodName)) ∈ lw_tbl := lw_at lw_m4 129 rfl
theorem q933 : (Jvm.Cond.instanceMethod ({ cls := "PrimeProofs$Reader", name := "sees", desc := "()V" } : Jvm.MethodName)) ∈ lw_all := lw_g (lw_at lw_m4 130 rfl) rfl
theorem q934 : (Jvm.Cond.code ({ cls := "PrimeProofs$Reader", name := "sees", desc := "()V" } : Jvm.MethodName) prog_11_method_2_code (3 : Nat) (Option.none : Option Jvm.ClassFile.FieldType)) ∈ lw_all := lw_g (lw_at lw_m4 131 rfl) rfl
theorem q935 : (Jvm.Cond.methodLink "PrimeProofs$Reader" (35 : Nat) ({ cls := "PrimeProofs$Reader", name := "isTold", desc := "(I)Z" } : Jvm.MethodName)) ∈ lw_all := lw_g (lw_at lw_m4 132 rfl) rfl
theorem q936 : (Jvm.Cond.privateMethod ({ cls := "PrimeProofs$Reader", name := "isTold", desc := "(I)Z" } : Jvm.MethodName)) ∈ lw_tbl := lw_at lw_m4 133 rfl
theorem q937 : (Jvm.Cond.instanceMethod ({ cls := "PrimeProofs$Reader", name := "isTold", desc := "(I)Z" } : Jvm.MethodName)) ∈ lw_all := lw_g (lw_at lw_m4 134 rfl) rfl
theorem q938 : (Jvm.Cond.code ({ cls := "PrimeProofs$Reader", name := "isTold", desc := "(I)Z" } : Jvm.MethodName) prog_11_method_6_code (2 : Nat) (Option.some Jvm.ClassFile.FieldType.boolean)) ∈ lw_all := lw_g (lw_at lw_m4 135 rfl) rfl
theorem q939 : (Jvm.Cond.methodLink "PrimeProofs$Reader" (39 : Nat) ({ cls := "PrimeProofs$Reader", name := "isDigit", desc := "(I)Z" } : Jvm.MethodName)) ∈ lw_all := lw_g (lw_at lw_m4 136 rfl) rfl
theorem q940 : (Jvm.Cond.privateMethod ({ cls := "PrimeProofs$Reader", name := "isDigit", desc := "(I)Z" } : Jvm.MethodName)) ∈ lw_tbl := lw_at lw_m4 137 rfl
theorem q941 : (Jvm.Cond.instanceMethod ({ cls := "PrimeProofs$Reader", name := "isDigit", desc := "(I)Z" } : Jvm.MethodName)) ∈ lw_all := lw_g (lw_at lw_m4 138 rfl) rfl
theorem q942 : (Jvm.Cond.code ({ cls := "PrimeProofs$Reader", name := "isDigit", desc := "(I)Z" } : Jvm.MethodName) prog_11_method_4_code (2 : Nat) (Option.some Jvm.ClassFile.FieldType.boolean)) ∈ lw_all := lw_g (lw_at lw_m4 139 rfl) rfl
theorem q943 : (Jvm.Cond.methodLink "PrimeProofs$Reader" (58 : Nat) ({ cls := "PrimeProofs$Reader", name := "isLetter", desc := "(I)Z" } : Jvm.MethodName)) ∈ lw_all := lw_g (lw_at lw_m4 140 rfl) rfl
theorem q944 : (Jvm.Cond.privateMethod ({ cls := "PrimeProofs$Reader", name := "isLetter", desc := "(I)Z" } : Jvm.MethodName)) ∈ lw_tbl := lw_at lw_m4 141 rfl
theorem q945 : (Jvm.Cond.instanceMethod ({ cls := "PrimeProofs$Reader", name := "isLetter", desc := "(I)Z" } : Jvm.MethodName)) ∈ lw_all := lw_g (lw_at lw_m4 142 rfl) rfl
theorem q946 : (Jvm.Cond.code ({ cls := "PrimeProofs$Reader", name := "isLetter", desc := "(I)Z" } : Jvm.MethodName) prog_11_method_5_code (2 : Nat) (Option.some Jvm.ClassFile.FieldType.boolean)) ∈ lw_all := lw_g (lw_at lw_m4 143 rfl) rfl
theorem q947 : (Jvm.Cond.methodLink "PrimeProofs$Reader" (49 : Nat) ({ cls := "java/lang/String", name := "valueOf", desc := "(C)Ljava/lang/String;" } : Jvm.MethodName)) ∈ lw_all := lw_g (lw_at lw_m4 144 rfl) rfl
theorem q990 : (Jvm.Cond.methodLink "PrimeProofs$Reader" (55 : Nat) ({ cls := "PrimeProofs$Reader", name := "runs", desc := "()V" } : Jvm.MethodName)) ∈ lw_all := lw_g (lw_at lw_m4 187 rfl) rfl
theorem q991 : (Jvm.Cond.privateMethod ({ cls := "PrimeProofs$Reader", name := "runs", desc := "()V" } : Jvm.MethodName)) ∈ lw_tbl := lw_at lw_m4 188 rfl
theorem q992 : (Jvm.Cond.instanceMethod ({ cls := "PrimeProofs$Reader", name := "runs", desc := "()V" } : Jvm.MethodName)) ∈ lw_all := lw_g (lw_at lw_m4 189 rfl) rfl
theorem q993 : (Jvm.Cond.code ({ cls := "PrimeProofs$Reader", name := "runs", desc := "()V" } : Jvm.MethodName) prog_11_method_3_code (3 : Nat) (Option.none : Option Jvm.ClassFile.FieldType)) ∈ lw_all := lw_g (lw_at lw_m4 190 rfl) rfl
theorem q994 : (Jvm.Cond.classLink "PrimeProofs$Reader" (61 : Nat) "java/lang/StringBuilder") ∈ lw_all := lw_g (lw_at lw_m4 191 rfl) rfl
theorem q996 : (Jvm.Cond.methodLink "PrimeProofs$Reader" (63 : Nat) ({ cls := "java/lang/StringBuilder", name := "<init>", desc := "()V" } : Jvm.MethodName)) ∈ lw_all := lw_g (lw_at lw_m4 193 rfl) rfl
theorem q1024 : (Jvm.Cond.methodLink "PrimeProofs$Reader" (64 : Nat) ({ cls := "java/lang/StringBuilder", name := "append", desc := "(Ljava/lang/String;)Ljava/lang/StringBuilder;" } : Jvm.MethodName)) ∈ lw_all := lw_g (lw_at lw_m4 221 rfl) rfl
theorem q1116 : (Jvm.Cond.methodLink "PrimeProofs$Reader" (68 : Nat) ({ cls := "java/lang/StringBuilder", name := "append", desc := "(C)Ljava/lang/StringBuilder;" } : Jvm.MethodName)) ∈ lw_all := lw_g (lw_at lw_m5 73 rfl) rfl
theorem q1134 : (Jvm.Cond.methodLink "PrimeProofs$Reader" (71 : Nat) ({ cls := "java/lang/StringBuilder", name := "toString", desc := "()Ljava/lang/String;" } : Jvm.MethodName)) ∈ lw_all := lw_g (lw_at lw_m5 91 rfl) rfl
theorem q1181 : (Jvm.Cond.methodLink "PrimeProofs$Reader" (75 : Nat) ({ cls := "java/lang/String", name := "length", desc := "()I" } : Jvm.MethodName)) ∈ lw_all := lw_g (lw_at lw_m5 138 rfl) rfl
theorem q1182 : (Jvm.Cond.constantLong "PrimeProofs$Reader" (79 : Nat) (10 : Int64)) ∈ lw_all := lw_g (lw_at lw_m5 139 rfl) rfl
theorem q1183 : (Jvm.Cond.methodLink "PrimeProofs$Reader" (81 : Nat) ({ cls := "java/lang/String", name := "charAt", desc := "(I)C" } : Jvm.MethodName)) ∈ lw_all := lw_g (lw_at lw_m5 140 rfl) rfl
theorem q1198 : (Jvm.Cond.constantLong "PrimeProofs$Reader" (85 : Nat) (48 : Int64)) ∈ lw_all := lw_g (lw_at lw_m5 155 rfl) rfl
theorem q1199 : (Jvm.Cond.methodLink "PrimeProofs$Reader" (186 : Nat) ({ cls := "PrimeProofs$Reader", name := "one", desc := "()LPrimeProofs$Line;" } : Jvm.MethodName)) ∈ lw_all := lw_g (lw_at lw_m5 156 rfl) rfl
theorem q1200 : (Jvm.Cond.privateMethod ({ cls := "PrimeProofs$Reader", name := "one", desc := "()LPrimeProofs$Line;" } : Jvm.MethodName)) ∈ lw_tbl := lw_at lw_m5 157 rfl
theorem q1201 : (Jvm.Cond.instanceMethod ({ cls := "PrimeProofs$Reader", name := "one", desc := "()LPrimeProofs$Line;" } : Jvm.MethodName)) ∈ lw_all := lw_g (lw_at lw_m5 158 rfl) rfl
theorem q1202 : (Jvm.Cond.code ({ cls := "PrimeProofs$Reader", name := "one", desc := "()LPrimeProofs$Line;" } : Jvm.MethodName) prog_11_method_13_code (4 : Nat) (Option.some (Jvm.ClassFile.FieldType.object "PrimeProofs$Line"))) ∈ lw_all := lw_g (lw_at lw_m5 159 rfl) rfl
theorem q1203 : (Jvm.Cond.methodLink "PrimeProofs$Reader" (153 : Nat) ({ cls := "PrimeProofs$Reader", name := "sortOf", desc := "()I" } : Jvm.MethodName)) ∈ lw_all := lw_g (lw_at lw_m5 160 rfl) rfl
theorem q1204 : (Jvm.Cond.privateMethod ({ cls := "PrimeProofs$Reader", name := "sortOf", desc := "()I" } : Jvm.MethodName)) ∈ lw_tbl := lw_at lw_m5 161 rfl
theorem q1205 : (Jvm.Cond.instanceMethod ({ cls := "PrimeProofs$Reader", name := "sortOf", desc := "()I" } : Jvm.MethodName)) ∈ lw_all := lw_g (lw_at lw_m5 162 rfl) rfl
theorem q1206 : (Jvm.Cond.code ({ cls := "PrimeProofs$Reader", name := "sortOf", desc := "()I" } : Jvm.MethodName) prog_11_method_11_code (3 : Nat) (Option.some Jvm.ClassFile.FieldType.int)) ∈ lw_all := lw_g (lw_at lw_m5 163 rfl) rfl
theorem q1207 : (Jvm.Cond.methodLinkNest "PrimeProofs$Reader" (133 : Nat) ({ cls := "PrimeProofs", name := "wordOf", desc := "(I)Ljava/lang/String;" } : Jvm.MethodName) "PrimeProofs") ∈ lw_tbl := lw_at lw_m5 164 rfl
theorem q1215 : (Jvm.Cond.methodLink "PrimeProofs$Reader" (92 : Nat) ({ cls := "java/lang/String", name := "equals", desc := "(Ljava/lang/Object;)Z" } : Jvm.MethodName)) ∈ lw_all := lw_g (lw_at lw_m5 172 rfl) rfl
theorem q1222 : (Jvm.Cond.methodLink "PrimeProofs$Reader" (96 : Nat) ({ cls := "PrimeProofs$Reader", name := "must", desc := "(Z)V" } : Jvm.MethodName)) ∈ lw_all := lw_g (lw_at lw_m5 179 rfl) rfl
theorem q1223 : (Jvm.Cond.privateMethod ({ cls := "PrimeProofs$Reader", name := "must", desc := "(Z)V" } : Jvm.MethodName)) ∈ lw_tbl := lw_at lw_m5 180 rfl
theorem q1224 : (Jvm.Cond.instanceMethod ({ cls := "PrimeProofs$Reader", name := "must", desc := "(Z)V" } : Jvm.MethodName)) ∈ lw_all := lw_g (lw_at lw_m5 181 rfl) rfl
theorem q1225 : (Jvm.Cond.code ({ cls := "PrimeProofs$Reader", name := "must", desc := "(Z)V" } : Jvm.MethodName) prog_11_method_7_code (2 : Nat) (Option.none : Option Jvm.ClassFile.FieldType)) ∈ lw_all := lw_g (lw_at lw_m5 182 rfl) rfl
theorem q1226 : (Jvm.Cond.classLink "PrimeProofs$Reader" (87 : Nat) "PrimeProofs$Fault") ∈ lw_all := lw_g (lw_at lw_m5 183 rfl) rfl
theorem q1263 : (Jvm.Cond.methodLink "PrimeProofs$Reader" (89 : Nat) ({ cls := "PrimeProofs$Fault", name := "<init>", desc := "(I)V" } : Jvm.MethodName)) ∈ lw_all := lw_g (lw_at lw_m5 220 rfl) rfl
theorem q1289 : (Jvm.Cond.constantLong "PrimeProofs$Reader" (112 : Nat) (2 : Int64)) ∈ lw_all := lw_g (lw_at lw_m6 6 rfl) rfl
theorem q1290 : (Jvm.Cond.constantLong "PrimeProofs$Reader" (114 : Nat) (1000000000 : Int64)) ∈ lw_all := lw_g (lw_at lw_m6 7 rfl) rfl
theorem q1291 : (Jvm.Cond.methodLink "PrimeProofs$Reader" (116 : Nat) ({ cls := "PrimeProofs$Reader", name := "number", desc := "(JJ)J" } : Jvm.MethodName)) ∈ lw_all := lw_g (lw_at lw_m6 8 rfl) rfl
theorem q1292 : (Jvm.Cond.privateMethod ({ cls := "PrimeProofs$Reader", name := "number", desc := "(JJ)J" } : Jvm.MethodName)) ∈ lw_tbl := lw_at lw_m6 9 rfl
theorem q1293 : (Jvm.Cond.instanceMethod ({ cls := "PrimeProofs$Reader", name := "number", desc := "(JJ)J" } : Jvm.MethodName)) ∈ lw_all := lw_g (lw_at lw_m6 10 rfl) rfl
theorem q1294 : (Jvm.Cond.code ({ cls := "PrimeProofs$Reader", name := "number", desc := "(JJ)J" } : Jvm.MethodName) prog_11_method_9_code (7 : Nat) (Option.some Jvm.ClassFile.FieldType.long)) ∈ lw_all := lw_g (lw_at lw_m6 11 rfl) rfl
theorem q1295 : (Jvm.Cond.methodLinkNest "PrimeProofs$Reader" (103 : Nat) ({ cls := "PrimeProofs", name := "isIn", desc := "(JJJ)Z" } : Jvm.MethodName) "PrimeProofs") ∈ lw_tbl := lw_at lw_m6 12 rfl
theorem q1296 : (Jvm.Cond.methodLinkNest "PrimeProofs$Reader" (156 : Nat) ({ cls := "PrimeProofs", name := "made", desc := "(JI)LPrimeProofs$Line;" } : Jvm.MethodName) "PrimeProofs") ∈ lw_tbl := lw_at lw_m6 13 rfl
theorem q1297 : (Jvm.Cond.stringRef "PrimeProofs$Reader" (160 : Nat) "base") ∈ lw_tbl := lw_at lw_m6 14 rfl
theorem q1298 : (Jvm.Cond.methodLink "PrimeProofs$Reader" (139 : Nat) ({ cls := "PrimeProofs$Reader", name := "takes", desc := "(Ljava/lang/String;)V" } : Jvm.MethodName)) ∈ lw_all := lw_g (lw_at lw_m6 15 rfl) rfl
theorem q1299 : (Jvm.Cond.privateMethod ({ cls := "PrimeProofs$Reader", name := "takes", desc := "(Ljava/lang/String;)V" } : Jvm.MethodName)) ∈ lw_tbl := lw_at lw_m6 16 rfl
theorem q1300 : (Jvm.Cond.instanceMethod ({ cls := "PrimeProofs$Reader", name := "takes", desc := "(Ljava/lang/String;)V" } : Jvm.MethodName)) ∈ lw_all := lw_g (lw_at lw_m6 17 rfl) rfl
theorem q1301 : (Jvm.Cond.code ({ cls := "PrimeProofs$Reader", name := "takes", desc := "(Ljava/lang/String;)V" } : Jvm.MethodName) prog_11_method_8_code (2 : Nat) (Option.none : Option Jvm.ClassFile.FieldType)) ∈ lw_all := lw_g (lw_at lw_m6 18 rfl) rfl
theorem q1302 : (Jvm.Cond.constantLong "PrimeProofs$Reader" (124 : Nat) (999 : Int64)) ∈ lw_all := lw_g (lw_at lw_m6 19 rfl) rfl
theorem q1303 : (Jvm.Cond.stringRef "PrimeProofs$Reader" (162 : Nat) "by") ∈ lw_tbl := lw_at lw_m6 20 rfl
theorem q1304 : (Jvm.Cond.methodLink "PrimeProofs$Reader" (168 : Nat) ({ cls := "PrimeProofs$Reader", name := "rows", desc := "(LPrimeProofs$Rows;ZI)V" } : Jvm.MethodName)) ∈ lw_all := lw_g (lw_at lw_m6 21 rfl) rfl
theorem q1305 : (Jvm.Cond.privateMethod ({ cls := "PrimeProofs$Reader", name := "rows", desc := "(LPrimeProofs$Rows;ZI)V" } : Jvm.MethodName)) ∈ lw_tbl := lw_at lw_m6 22 rfl
theorem q1306 : (Jvm.Cond.instanceMethod ({ cls := "PrimeProofs$Reader", name := "rows", desc := "(LPrimeProofs$Rows;ZI)V" } : Jvm.MethodName)) ∈ lw_all := lw_g (lw_at lw_m6 23 rfl) rfl
theorem q1307 : (Jvm.Cond.code ({ cls := "PrimeProofs$Reader", name := "rows", desc := "(LPrimeProofs$Rows;ZI)V" } : Jvm.MethodName) prog_11_method_10_code (7 : Nat) (Option.none : Option Jvm.ClassFile.FieldType)) ∈ lw_all := lw_g (lw_at lw_m6 24 rfl) rfl
theorem q1308 : (Jvm.Cond.constantLong "PrimeProofs$Reader" (120 : Nat) (30 : Int64)) ∈ lw_all := lw_g (lw_at lw_m6 25 rfl) rfl
theorem q1309 : (Jvm.Cond.classLink "PrimeProofs$Reader" (122 : Nat) "PrimeProofs$Row") ∈ lw_all := lw_g (lw_at lw_m6 26 rfl) rfl
theorem q1310 : (Jvm.Cond.methodLink "PrimeProofs$Reader" (126 : Nat) ({ cls := "PrimeProofs$Row", name := "<init>", desc := "(JII)V" } : Jvm.MethodName)) ∈ lw_all := lw_g (lw_at lw_m6 27 rfl) rfl
theorem q1311 : (Jvm.Cond.methodLink "PrimeProofs$Reader" (129 : Nat) ({ cls := "PrimeProofs$Rows", name := "adds", desc := "(LPrimeProofs$Row;)LPrimeProofs$Rows;" } : Jvm.MethodName)) ∈ lw_all := lw_g (lw_at lw_m6 28 rfl) rfl
theorem q1312 : (Jvm.Cond.methodLink "PrimeProofs$Reader" (172 : Nat) ({ cls := "PrimeProofs$Reader", name := "pair", desc := "(LPrimeProofs$Line;)V" } : Jvm.MethodName)) ∈ lw_all := lw_g (lw_at lw_m6 29 rfl) rfl
theorem q1313 : (Jvm.Cond.privateMethod ({ cls := "PrimeProofs$Reader", name := "pair", desc := "(LPrimeProofs$Line;)V" } : Jvm.MethodName)) ∈ lw_tbl := lw_at lw_m6 30 rfl
theorem q1314 : (Jvm.Cond.instanceMethod ({ cls := "PrimeProofs$Reader", name := "pair", desc := "(LPrimeProofs$Line;)V" } : Jvm.MethodName)) ∈ lw_all := lw_g (lw_at lw_m6 31 rfl) rfl
theorem q1315 : (Jvm.Cond.code ({ cls := "PrimeProofs$Reader", name := "pair", desc := "(LPrimeProofs$Line;)V" } : Jvm.MethodName) prog_11_method_12_code (2 : Nat) (Option.none : Option Jvm.ClassFile.FieldType)) ∈ lw_all := lw_g (lw_at lw_m6 32 rfl) rfl
theorem q1316 : (Jvm.Cond.stringRef "PrimeProofs$Reader" (137 : Nat) "with") ∈ lw_tbl := lw_at lw_m6 33 rfl
theorem q1317 : (Jvm.Cond.constantLong "PrimeProofs$Reader" (143 : Nat) (99 : Int64)) ∈ lw_all := lw_g (lw_at lw_m6 34 rfl) rfl
theorem q1318 : (Jvm.Cond.stringRef "PrimeProofs$Reader" (179 : Nat) "down") ∈ lw_tbl := lw_at lw_m6 35 rfl
theorem q1319 : (Jvm.Cond.stringRef "PrimeProofs$Reader" (180 : Nat) "up") ∈ lw_tbl := lw_at lw_m6 36 rfl
theorem q1320 : (Jvm.Cond.stringRef "PrimeProofs$Reader" (181 : Nat) ";") ∈ lw_tbl := lw_at lw_m6 37 rfl
theorem q1321 : (Jvm.Cond.methodLink "PrimeProofs$Reader" (190 : Nat) ({ cls := "java/util/ArrayList", name := "add", desc := "(Ljava/lang/Object;)Z" } : Jvm.MethodName)) ∈ lw_all := lw_g (lw_at lw_m6 38 rfl) rfl
theorem q2232 : (Jvm.Cond.castable "PrimeProofs$Reader" "java/lang/Object") ∈ lw_tbl := lw_at lw_m9 229 rfl
theorem in_X14 : ∀ w ∈ wsX140, w ∈ lw_all := lw_in wsX140 [912, 914, 916, 918, 920, 922] (by decide +kernel) (by decide +kernel)

/-! PrimeProofs$Fault -/
set_option maxRecDepth 100000
def RX15 : String := "PrimeProofs$Fault"
def TX15 : u_T := fun k => match k with
  | 0 => ("java/lang/Throwable", "cause", "Ljava/lang/Throwable;", false)
  | 1 => ("java/lang/Throwable", "stackTrace", "[Ljava/lang/StackTraceElement;", false)
  | 2 => ("java/lang/Throwable", "suppressedExceptions", "Ljava/util/List;", false)
  | 3 => ("java/lang/Throwable", "detailMessage", "Ljava/lang/String;", false)
  | 4 => ("java/lang/Throwable", "backtrace", "Ljava/lang/Object;", false)
  | 5 => ("java/lang/Throwable", "depth", "I", false)
  | _ => ("PrimeProofs$Fault", "place", "I", true)
def tyX15 : Nat → FieldType := fun k => match k with
  | 0 => .object "java/lang/Throwable"
  | 1 => .array (.object "java/lang/StackTraceElement")
  | 2 => .object "java/util/List"
  | 3 => .object "java/lang/String"
  | 4 => .object "java/lang/Object"
  | 5 => .int
  | _ => .int
abbrev wsX150 : List Cond := u_ws RX15 TX15 7
theorem nmX15 : ∀ a, a < 7 → ∀ b, b < 7 → a ≠ b → (TX15 a).2.1 ≠ (TX15 b).2.1 := by decide +kernel
theorem tyX15_ok : ∀ k, k < 7 → parseFieldDescriptor (TX15 k).2.2.1 = some (tyX15 k) := by decide +kernel
abbrev cX15_init : ByteArray := prog_6_method_1_code
def yX15_init : MethodName := ⟨RX15, "<init>", "(I)V"⟩
def dkwX15_init_0 : List UInt8 := [42, 1, 1, 3, 3, 183, 0, 1, 42, 27, 181, 0, 7, 177]
abbrev dktX15_init_0 : List UInt8 := dkwX15_init_0 ++ []
theorem dksX15_init_0 : cX15_init.data.toList.drop 0 = dktX15_init_0 := by decide +kernel
theorem dX15_init_0 : decode cX15_init 0 = .ok (.aload_n 0, 1) := dk_42 (dk_at dksX15_init_0 0 rfl rfl)
theorem dX15_init_1 : decode cX15_init 1 = .ok (.aconst_null, 1) := dk_1 (dk_at dksX15_init_0 1 rfl rfl)
theorem dX15_init_2 : decode cX15_init 2 = .ok (.aconst_null, 1) := dk_1 (dk_at dksX15_init_0 2 rfl rfl)
theorem dX15_init_3 : decode cX15_init 3 = .ok (.iconst 0, 1) := dk_3 (dk_at dksX15_init_0 3 rfl rfl)
theorem dX15_init_4 : decode cX15_init 4 = .ok (.iconst 0, 1) := dk_3 (dk_at dksX15_init_0 4 rfl rfl)
theorem dX15_init_5 : decode cX15_init 5 = .ok (.invokespecial 1, 3) := dk_183 0 1 (dk_at dksX15_init_0 5 rfl rfl)
theorem dX15_init_8 : decode cX15_init 8 = .ok (.aload_n 0, 1) := dk_42 (dk_at dksX15_init_0 8 rfl rfl)
theorem dX15_init_9 : decode cX15_init 9 = .ok (.iload_n 1, 1) := dk_27 (dk_at dksX15_init_0 9 rfl rfl)
theorem dX15_init_10 : decode cX15_init 10 = .ok (.putfield 7, 3) := dk_181 0 7 (dk_at dksX15_init_0 10 rfl rfl)
theorem dX15_init_13 : decode cX15_init 13 = .ok (.return_, 1) := dk_177 (dk_at dksX15_init_0 13 rfl rfl)
theorem q115 : (Jvm.Cond.initialized "PrimeProofs$Fault") ∈ lw_all := lw_g (lw_at lw_m1 32 rfl) rfl
theorem q830 : (Jvm.Cond.selects "PrimeProofs$Fault" ({ cls := "java/lang/Object", name := "getClass", desc := "()Ljava/lang/Class;" } : Jvm.MethodName) ({ cls := "java/lang/Object", name := "getClass", desc := "()Ljava/lang/Class;" } : Jvm.MethodName)) ∈ lw_all := lw_g (lw_at lw_m4 27 rfl) rfl
theorem q1227 : (Jvm.Cond.instantiable "PrimeProofs$Fault" (7 : Nat)) ∈ lw_all := lw_g (lw_at lw_m5 184 rfl) rfl
theorem q1228 : (Jvm.Cond.castable "PrimeProofs$Fault" "PrimeProofs$Fault") ∈ lw_tbl := lw_at lw_m5 185 rfl
theorem q1233 : (Jvm.Cond.selects "PrimeProofs$Fault" ({ cls := "java/lang/Throwable", name := "fillInStackTrace", desc := "(I)Ljava/lang/Throwable;" } : Jvm.MethodName) ({ cls := "java/lang/Throwable", name := "fillInStackTrace", desc := "(I)Ljava/lang/Throwable;" } : Jvm.MethodName)) ∈ lw_all := lw_g (lw_at lw_m5 190 rfl) rfl
theorem q1234 : (Jvm.Cond.selects "PrimeProofs$Fault" ({ cls := "java/lang/Throwable", name := "fillInStackTrace", desc := "()Ljava/lang/Throwable;" } : Jvm.MethodName) ({ cls := "java/lang/Throwable", name := "fillInStackTrace", desc := "()Ljava/lang/Throwable;" } : Jvm.MethodName)) ∈ lw_all := lw_g (lw_at lw_m5 191 rfl) rfl
theorem q1235 : (Jvm.Cond.lays "PrimeProofs$Fault" "java/lang/Throwable" "cause" "Ljava/lang/Throwable;") ∈ lw_all := lw_g (lw_at lw_m5 192 rfl) rfl
theorem q1237 : (Jvm.Cond.lays "PrimeProofs$Fault" "java/lang/Throwable" "stackTrace" "[Ljava/lang/StackTraceElement;") ∈ lw_all := lw_g (lw_at lw_m5 194 rfl) rfl
theorem q1239 : (Jvm.Cond.lays "PrimeProofs$Fault" "java/lang/Throwable" "suppressedExceptions" "Ljava/util/List;") ∈ lw_all := lw_g (lw_at lw_m5 196 rfl) rfl
theorem q1241 : (Jvm.Cond.lays "PrimeProofs$Fault" "java/lang/Throwable" "detailMessage" "Ljava/lang/String;") ∈ lw_all := lw_g (lw_at lw_m5 198 rfl) rfl
theorem q1243 : (Jvm.Cond.lays "PrimeProofs$Fault" "java/lang/Throwable" "backtrace" "Ljava/lang/Object;") ∈ lw_all := lw_g (lw_at lw_m5 200 rfl) rfl
theorem q1264 : (Jvm.Cond.instanceMethod ({ cls := "PrimeProofs$Fault", name := "<init>", desc := "(I)V" } : Jvm.MethodName)) ∈ lw_all := lw_g (lw_at lw_m5 221 rfl) rfl
theorem q1265 : (Jvm.Cond.code ({ cls := "PrimeProofs$Fault", name := "<init>", desc := "(I)V" } : Jvm.MethodName) prog_6_method_1_code (2 : Nat) (Option.none : Option Jvm.ClassFile.FieldType)) ∈ lw_all := lw_g (lw_at lw_m5 222 rfl) rfl
theorem q1266 : (Jvm.Cond.methodLink "PrimeProofs$Fault" (1 : Nat) ({ cls := "java/lang/Exception", name := "<init>", desc := "(Ljava/lang/String;Ljava/lang/Throwable;ZZ)V" } : Jvm.MethodName)) ∈ lw_all := lw_g (lw_at lw_m5 223 rfl) rfl
theorem q1272 : (Jvm.Cond.fieldLink "PrimeProofs$Fault" (7 : Nat) "PrimeProofs$Fault" "place" "I") ∈ lw_all := lw_g (lw_at lw_m5 229 rfl) rfl
theorem q1279 : (Jvm.Cond.laysFinal "PrimeProofs$Fault" "PrimeProofs$Fault" "place" "I") ∈ lw_all := lw_g (lw_at lw_m5 236 rfl) rfl
theorem q1280 : (Jvm.Cond.soleField "PrimeProofs$Fault" "place") ∈ lw_all := lw_g (lw_at lw_m5 237 rfl) rfl
theorem q1285 : (Jvm.Cond.lays "PrimeProofs$Fault" "java/lang/Throwable" "depth" "I") ∈ lw_all := lw_g (lw_at lw_m6 2 rfl) rfl
theorem q1288 : (Jvm.Cond.superclass "PrimeProofs$Fault" "java/lang/Exception") ∈ lw_all := lw_g (lw_at lw_m6 5 rfl) rfl
theorem q2235 : (Jvm.Cond.castable "PrimeProofs$Fault" "java/lang/Object") ∈ lw_tbl := lw_at lw_m9 232 rfl
theorem in_X15 : ∀ w ∈ wsX150, w ∈ lw_all := lw_in wsX150 [1235, 1237, 1239, 1241, 1243, 1285, 1279] (by decide +kernel) (by decide +kernel)

