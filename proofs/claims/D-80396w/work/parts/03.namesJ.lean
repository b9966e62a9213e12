/-! java/lang/Double -/
set_option maxRecDepth 100000
def RJ0 : String := "java/lang/Double"
abbrev cJ0_doubleToLongBits : ByteArray := prog_15_method_23_code
def yJ0_doubleToLongBits : MethodName := ⟨RJ0, "doubleToLongBits", "(D)J"⟩
def dkwJ0_doubleToLongBits_0 : List UInt8 := [38, 184, 0, 122, 154, 0, 8, 38, 184, 0, 134, 173, 20, 0, 137, 173]
abbrev dktJ0_doubleToLongBits_0 : List UInt8 := dkwJ0_doubleToLongBits_0 ++ []
theorem dksJ0_doubleToLongBits_0 : cJ0_doubleToLongBits.data.toList.drop 0 = dktJ0_doubleToLongBits_0 := by decide +kernel
theorem dJ0_doubleToLongBits_0 : decode cJ0_doubleToLongBits 0 = .ok (.dload_n 0, 1) := dk_38 (dk_at dksJ0_doubleToLongBits_0 0 rfl rfl)
theorem dJ0_doubleToLongBits_1 : decode cJ0_doubleToLongBits 1 = .ok (.invokestatic 122, 3) := dk_184 0 122 (dk_at dksJ0_doubleToLongBits_0 1 rfl rfl)
theorem dJ0_doubleToLongBits_4 : decode cJ0_doubleToLongBits 4 = .ok (.ifCond .ne 8, 3) := dk_154 0 8 (dk_at dksJ0_doubleToLongBits_0 4 rfl rfl)
theorem dJ0_doubleToLongBits_7 : decode cJ0_doubleToLongBits 7 = .ok (.dload_n 0, 1) := dk_38 (dk_at dksJ0_doubleToLongBits_0 7 rfl rfl)
theorem dJ0_doubleToLongBits_8 : decode cJ0_doubleToLongBits 8 = .ok (.invokestatic 134, 3) := dk_184 0 134 (dk_at dksJ0_doubleToLongBits_0 8 rfl rfl)
theorem dJ0_doubleToLongBits_11 : decode cJ0_doubleToLongBits 11 = .ok (.lreturn, 1) := dk_173 (dk_at dksJ0_doubleToLongBits_0 11 rfl rfl)
theorem dJ0_doubleToLongBits_12 : decode cJ0_doubleToLongBits 12 = .ok (.ldc2_w 137, 3) := dk_20 0 137 (dk_at dksJ0_doubleToLongBits_0 12 rfl rfl)
theorem dJ0_doubleToLongBits_15 : decode cJ0_doubleToLongBits 15 = .ok (.lreturn, 1) := dk_173 (dk_at dksJ0_doubleToLongBits_0 15 rfl rfl)
abbrev cJ0_isNaN : ByteArray := prog_15_method_6_code
def yJ0_isNaN : MethodName := ⟨RJ0, "isNaN", "(D)Z"⟩
def dkwJ0_isNaN_0 : List UInt8 := [38, 38, 151, 153, 0, 7, 4, 167, 0, 4, 3, 172]
abbrev dktJ0_isNaN_0 : List UInt8 := dkwJ0_isNaN_0 ++ []
theorem dksJ0_isNaN_0 : cJ0_isNaN.data.toList.drop 0 = dktJ0_isNaN_0 := by decide +kernel
theorem dJ0_isNaN_0 : decode cJ0_isNaN 0 = .ok (.dload_n 0, 1) := dk_38 (dk_at dksJ0_isNaN_0 0 rfl rfl)
theorem dJ0_isNaN_1 : decode cJ0_isNaN 1 = .ok (.dload_n 0, 1) := dk_38 (dk_at dksJ0_isNaN_0 1 rfl rfl)
theorem dJ0_isNaN_2 : decode cJ0_isNaN 2 = .ok (.dcmp .l, 1) := dk_151 (dk_at dksJ0_isNaN_0 2 rfl rfl)
theorem dJ0_isNaN_3 : decode cJ0_isNaN 3 = .ok (.ifCond .eq 7, 3) := dk_153 0 7 (dk_at dksJ0_isNaN_0 3 rfl rfl)
theorem dJ0_isNaN_6 : decode cJ0_isNaN 6 = .ok (.iconst 1, 1) := dk_4 (dk_at dksJ0_isNaN_0 6 rfl rfl)
theorem dJ0_isNaN_7 : decode cJ0_isNaN 7 = .ok (.goto 4, 3) := dk_167 0 4 (dk_at dksJ0_isNaN_0 7 rfl rfl)
theorem dJ0_isNaN_10 : decode cJ0_isNaN 10 = .ok (.iconst 0, 1) := dk_3 (dk_at dksJ0_isNaN_0 10 rfl rfl)
theorem dJ0_isNaN_11 : decode cJ0_isNaN 11 = .ok (.ireturn, 1) := dk_172 (dk_at dksJ0_isNaN_0 11 rfl rfl)
theorem q52 : (Jvm.Cond.initialized "java/lang/Double") ∈ lw_all := lw_g (lw_at lw_m1 9 rfl) rfl
theorem q113 : (Jvm.Cond.static ({ cls := "java/lang/Double", name := "longBitsToDouble", desc := "(J)D" } : Jvm.MethodName)) ∈ lw_all := lw_g (lw_at lw_m1 70 rfl) rfl
theorem q114 : (Jvm.Cond.native ({ cls := "java/lang/Double", name := "longBitsToDouble", desc := "(J)D" } : Jvm.MethodName)) ∈ lw_all := lw_g (lw_at lw_m1 71 rfl) rfl
theorem q156 : (Jvm.Cond.static ({ cls := "java/lang/Double", name := "doubleToRawLongBits", desc := "(D)J" } : Jvm.MethodName)) ∈ lw_all := lw_g (lw_at lw_m1 113 rfl) rfl
theorem q157 : (Jvm.Cond.native ({ cls := "java/lang/Double", name := "doubleToRawLongBits", desc := "(D)J" } : Jvm.MethodName)) ∈ lw_all := lw_g (lw_at lw_m1 114 rfl) rfl
theorem q276 : (Jvm.Cond.static ({ cls := "java/lang/Double", name := "doubleToLongBits", desc := "(D)J" } : Jvm.MethodName)) ∈ lw_all := lw_g (lw_at lw_m1 233 rfl) rfl
theorem q277 : (Jvm.Cond.code ({ cls := "java/lang/Double", name := "doubleToLongBits", desc := "(D)J" } : Jvm.MethodName) prog_15_method_23_code (2 : Nat) (Option.some Jvm.ClassFile.FieldType.long)) ∈ lw_all := lw_g (lw_at lw_m1 234 rfl) rfl
theorem q278 : (Jvm.Cond.methodLink "java/lang/Double" (122 : Nat) ({ cls := "java/lang/Double", name := "isNaN", desc := "(D)Z" } : Jvm.MethodName)) ∈ lw_all := lw_g (lw_at lw_m1 235 rfl) rfl
theorem q279 : (Jvm.Cond.static ({ cls := "java/lang/Double", name := "isNaN", desc := "(D)Z" } : Jvm.MethodName)) ∈ lw_all := lw_g (lw_at lw_m1 236 rfl) rfl
theorem q280 : (Jvm.Cond.code ({ cls := "java/lang/Double", name := "isNaN", desc := "(D)Z" } : Jvm.MethodName) prog_15_method_6_code (2 : Nat) (Option.some Jvm.ClassFile.FieldType.boolean)) ∈ lw_all := lw_g (lw_at lw_m1 237 rfl) rfl
theorem q281 : (Jvm.Cond.methodLink "java/lang/Double" (134 : Nat) ({ cls := "java/lang/Double", name := "doubleToRawLongBits", desc := "(D)J" } : Jvm.MethodName)) ∈ lw_all := lw_g (lw_at lw_m1 238 rfl) rfl
theorem q282 : (Jvm.Cond.constantLong "java/lang/Double" (137 : Nat) (9221120237041090560 : Int64)) ∈ lw_all := lw_g (lw_at lw_m1 239 rfl) rfl
/-! java/lang/Float -/
set_option maxRecDepth 100000
def RJ1 : String := "java/lang/Float"
abbrev cJ1_floatToIntBits : ByteArray := prog_17_method_24_code
def yJ1_floatToIntBits : MethodName := ⟨RJ1, "floatToIntBits", "(F)I"⟩
def dkwJ1_floatToIntBits_0 : List UInt8 := [34, 184, 0, 59, 154, 0, 8, 34, 184, 0, 74, 172, 18, 77, 172]
abbrev dktJ1_floatToIntBits_0 : List UInt8 := dkwJ1_floatToIntBits_0 ++ []
theorem dksJ1_floatToIntBits_0 : cJ1_floatToIntBits.data.toList.drop 0 = dktJ1_floatToIntBits_0 := by decide +kernel
theorem dJ1_floatToIntBits_0 : decode cJ1_floatToIntBits 0 = .ok (.fload_n 0, 1) := dk_34 (dk_at dksJ1_floatToIntBits_0 0 rfl rfl)
theorem dJ1_floatToIntBits_1 : decode cJ1_floatToIntBits 1 = .ok (.invokestatic 59, 3) := dk_184 0 59 (dk_at dksJ1_floatToIntBits_0 1 rfl rfl)
theorem dJ1_floatToIntBits_4 : decode cJ1_floatToIntBits 4 = .ok (.ifCond .ne 8, 3) := dk_154 0 8 (dk_at dksJ1_floatToIntBits_0 4 rfl rfl)
theorem dJ1_floatToIntBits_7 : decode cJ1_floatToIntBits 7 = .ok (.fload_n 0, 1) := dk_34 (dk_at dksJ1_floatToIntBits_0 7 rfl rfl)
theorem dJ1_floatToIntBits_8 : decode cJ1_floatToIntBits 8 = .ok (.invokestatic 74, 3) := dk_184 0 74 (dk_at dksJ1_floatToIntBits_0 8 rfl rfl)
theorem dJ1_floatToIntBits_11 : decode cJ1_floatToIntBits 11 = .ok (.ireturn, 1) := dk_172 (dk_at dksJ1_floatToIntBits_0 11 rfl rfl)
theorem dJ1_floatToIntBits_12 : decode cJ1_floatToIntBits 12 = .ok (.ldc 77, 2) := dk_18 77 (dk_at dksJ1_floatToIntBits_0 12 rfl rfl)
theorem dJ1_floatToIntBits_14 : decode cJ1_floatToIntBits 14 = .ok (.ireturn, 1) := dk_172 (dk_at dksJ1_floatToIntBits_0 14 rfl rfl)
abbrev cJ1_isNaN : ByteArray := prog_17_method_6_code
def yJ1_isNaN : MethodName := ⟨RJ1, "isNaN", "(F)Z"⟩
def dkwJ1_isNaN_0 : List UInt8 := [34, 34, 149, 153, 0, 7, 4, 167, 0, 4, 3, 172]
abbrev dktJ1_isNaN_0 : List UInt8 := dkwJ1_isNaN_0 ++ []
theorem dksJ1_isNaN_0 : cJ1_isNaN.data.toList.drop 0 = dktJ1_isNaN_0 := by decide +kernel
theorem dJ1_isNaN_0 : decode cJ1_isNaN 0 = .ok (.fload_n 0, 1) := dk_34 (dk_at dksJ1_isNaN_0 0 rfl rfl)
theorem dJ1_isNaN_1 : decode cJ1_isNaN 1 = .ok (.fload_n 0, 1) := dk_34 (dk_at dksJ1_isNaN_0 1 rfl rfl)
theorem dJ1_isNaN_2 : decode cJ1_isNaN 2 = .ok (.fcmp .l, 1) := dk_149 (dk_at dksJ1_isNaN_0 2 rfl rfl)
theorem dJ1_isNaN_3 : decode cJ1_isNaN 3 = .ok (.ifCond .eq 7, 3) := dk_153 0 7 (dk_at dksJ1_isNaN_0 3 rfl rfl)
theorem dJ1_isNaN_6 : decode cJ1_isNaN 6 = .ok (.iconst 1, 1) := dk_4 (dk_at dksJ1_isNaN_0 6 rfl rfl)
theorem dJ1_isNaN_7 : decode cJ1_isNaN 7 = .ok (.goto 4, 3) := dk_167 0 4 (dk_at dksJ1_isNaN_0 7 rfl rfl)
theorem dJ1_isNaN_10 : decode cJ1_isNaN 10 = .ok (.iconst 0, 1) := dk_3 (dk_at dksJ1_isNaN_0 10 rfl rfl)
theorem dJ1_isNaN_11 : decode cJ1_isNaN 11 = .ok (.ireturn, 1) := dk_172 (dk_at dksJ1_isNaN_0 11 rfl rfl)
theorem q53 : (Jvm.Cond.initialized "java/lang/Float") ∈ lw_all := lw_g (lw_at lw_m1 10 rfl) rfl
theorem q125 : (Jvm.Cond.static ({ cls := "java/lang/Float", name := "intBitsToFloat", desc := "(I)F" } : Jvm.MethodName)) ∈ lw_all := lw_g (lw_at lw_m1 82 rfl) rfl
theorem q126 : (Jvm.Cond.native ({ cls := "java/lang/Float", name := "intBitsToFloat", desc := "(I)F" } : Jvm.MethodName)) ∈ lw_all := lw_g (lw_at lw_m1 83 rfl) rfl
theorem q290 : (Jvm.Cond.static ({ cls := "java/lang/Float", name := "floatToIntBits", desc := "(F)I" } : Jvm.MethodName)) ∈ lw_all := lw_g (lw_at lw_m2 7 rfl) rfl
theorem q291 : (Jvm.Cond.code ({ cls := "java/lang/Float", name := "floatToIntBits", desc := "(F)I" } : Jvm.MethodName) prog_17_method_24_code (1 : Nat) (Option.some Jvm.ClassFile.FieldType.int)) ∈ lw_all := lw_g (lw_at lw_m2 8 rfl) rfl
theorem q292 : (Jvm.Cond.methodLink "java/lang/Float" (59 : Nat) ({ cls := "java/lang/Float", name := "isNaN", desc := "(F)Z" } : Jvm.MethodName)) ∈ lw_all := lw_g (lw_at lw_m2 9 rfl) rfl
theorem q293 : (Jvm.Cond.static ({ cls := "java/lang/Float", name := "isNaN", desc := "(F)Z" } : Jvm.MethodName)) ∈ lw_all := lw_g (lw_at lw_m2 10 rfl) rfl
theorem q294 : (Jvm.Cond.code ({ cls := "java/lang/Float", name := "isNaN", desc := "(F)Z" } : Jvm.MethodName) prog_17_method_6_code (1 : Nat) (Option.some Jvm.ClassFile.FieldType.boolean)) ∈ lw_all := lw_g (lw_at lw_m2 11 rfl) rfl
theorem q295 : (Jvm.Cond.methodLink "java/lang/Float" (74 : Nat) ({ cls := "java/lang/Float", name := "floatToRawIntBits", desc := "(F)I" } : Jvm.MethodName)) ∈ lw_all := lw_g (lw_at lw_m2 12 rfl) rfl
theorem q296 : (Jvm.Cond.static ({ cls := "java/lang/Float", name := "floatToRawIntBits", desc := "(F)I" } : Jvm.MethodName)) ∈ lw_all := lw_g (lw_at lw_m2 13 rfl) rfl
theorem q297 : (Jvm.Cond.native ({ cls := "java/lang/Float", name := "floatToRawIntBits", desc := "(F)I" } : Jvm.MethodName)) ∈ lw_all := lw_g (lw_at lw_m2 14 rfl) rfl
theorem q298 : (Jvm.Cond.constant "java/lang/Float" (77 : Nat) (2143289344 : Int32)) ∈ lw_all := lw_g (lw_at lw_m2 15 rfl) rfl
/-! java/lang/Math -/
set_option maxRecDepth 100000
def RJ2 : String := "java/lang/Math"
abbrev cJ2_getExponent : ByteArray := prog_21_method_92_code
def yJ2_getExponent : MethodName := ⟨RJ2, "getExponent", "(D)I"⟩
def dkwJ2_getExponent_0 : List UInt8 := [38, 184, 0, 79, 20, 0, 87, 127, 16, 52, 123, 20, 1, 66, 101, 136, 172]
abbrev dktJ2_getExponent_0 : List UInt8 := dkwJ2_getExponent_0 ++ []
theorem dksJ2_getExponent_0 : cJ2_getExponent.data.toList.drop 0 = dktJ2_getExponent_0 := by decide +kernel
theorem dJ2_getExponent_0 : decode cJ2_getExponent 0 = .ok (.dload_n 0, 1) := dk_38 (dk_at dksJ2_getExponent_0 0 rfl rfl)
theorem dJ2_getExponent_1 : decode cJ2_getExponent 1 = .ok (.invokestatic 79, 3) := dk_184 0 79 (dk_at dksJ2_getExponent_0 1 rfl rfl)
theorem dJ2_getExponent_4 : decode cJ2_getExponent 4 = .ok (.ldc2_w 87, 3) := dk_20 0 87 (dk_at dksJ2_getExponent_0 4 rfl rfl)
theorem dJ2_getExponent_7 : decode cJ2_getExponent 7 = .ok (.land, 1) := dk_127 (dk_at dksJ2_getExponent_0 7 rfl rfl)
theorem dJ2_getExponent_8 : decode cJ2_getExponent 8 = .ok (.bipush 52, 2) := dk_16 52 (dk_at dksJ2_getExponent_0 8 rfl rfl)
theorem dJ2_getExponent_10 : decode cJ2_getExponent 10 = .ok (.lshr, 1) := dk_123 (dk_at dksJ2_getExponent_0 10 rfl rfl)
theorem dJ2_getExponent_11 : decode cJ2_getExponent 11 = .ok (.ldc2_w 322, 3) := dk_20 1 66 (dk_at dksJ2_getExponent_0 11 rfl rfl)
theorem dJ2_getExponent_14 : decode cJ2_getExponent 14 = .ok (.lsub, 1) := dk_101 (dk_at dksJ2_getExponent_0 14 rfl rfl)
theorem dJ2_getExponent_15 : decode cJ2_getExponent 15 = .ok (.l2i, 1) := dk_136 (dk_at dksJ2_getExponent_0 15 rfl rfl)
theorem dJ2_getExponent_16 : decode cJ2_getExponent 16 = .ok (.ireturn, 1) := dk_172 (dk_at dksJ2_getExponent_0 16 rfl rfl)
abbrev cJ2_scalb : ByteArray := prog_21_method_99_code
def yJ2_scalb : MethodName := ⟨RJ2, "scalb", "(DI)D"⟩
def dkwJ2_scalb_4 : List UInt8 := [153, 0, 16, 38, 24, 6, 107, 71, 28, 21, 5, 100, 61, 167, 255, 242, 38, 175]
abbrev dktJ2_scalb_4 : List UInt8 := dkwJ2_scalb_4 ++ []
def dkwJ2_scalb_3 : List UInt8 := [17, 1, 255, 126, 21, 8, 100, 54, 4, 38, 21, 4, 184, 1, 30, 107, 71, 28, 21, 4, 100, 61, 28]
abbrev dktJ2_scalb_3 : List UInt8 := dkwJ2_scalb_3 ++ dktJ2_scalb_4
def dkwJ2_scalb_2 : List UInt8 := [61, 17, 2, 0, 54, 5, 178, 1, 86, 57, 6, 28, 16, 8, 122, 16, 23, 124, 54, 8, 28, 21, 8, 96]
abbrev dktJ2_scalb_2 : List UInt8 := dkwJ2_scalb_2 ++ dktJ2_scalb_3
def dkwJ2_scalb_1 : List UInt8 := [184, 1, 77, 61, 17, 254, 0, 54, 5, 178, 1, 80, 57, 6, 167, 0, 21, 28, 17, 8, 51, 184, 1, 84]
abbrev dktJ2_scalb_1 : List UInt8 := dkwJ2_scalb_1 ++ dktJ2_scalb_2
def dkwJ2_scalb_0 : List UInt8 := [17, 8, 51, 62, 3, 54, 4, 3, 54, 5, 20, 0, 238, 57, 6, 28, 156, 0, 24, 28, 17, 247, 205]
abbrev dktJ2_scalb_0 : List UInt8 := dkwJ2_scalb_0 ++ dktJ2_scalb_1
theorem dksJ2_scalb_0 : cJ2_scalb.data.toList.drop 0 = dktJ2_scalb_0 := by decide +kernel
theorem dksJ2_scalb_1 : cJ2_scalb.data.toList.drop 23 = dktJ2_scalb_1 := dk_seg dksJ2_scalb_0 23 rfl rfl
theorem dksJ2_scalb_2 : cJ2_scalb.data.toList.drop 47 = dktJ2_scalb_2 := dk_seg dksJ2_scalb_1 24 rfl rfl
theorem dksJ2_scalb_3 : cJ2_scalb.data.toList.drop 71 = dktJ2_scalb_3 := dk_seg dksJ2_scalb_2 24 rfl rfl
theorem dksJ2_scalb_4 : cJ2_scalb.data.toList.drop 94 = dktJ2_scalb_4 := dk_seg dksJ2_scalb_3 23 rfl rfl
theorem dJ2_scalb_0 : decode cJ2_scalb 0 = .ok (.sipush 2099, 3) := dk_17 8 51 (dk_at dksJ2_scalb_0 0 rfl rfl)
theorem dJ2_scalb_3 : decode cJ2_scalb 3 = .ok (.istore_n 3, 1) := dk_62 (dk_at dksJ2_scalb_0 3 rfl rfl)
theorem dJ2_scalb_4 : decode cJ2_scalb 4 = .ok (.iconst 0, 1) := dk_3 (dk_at dksJ2_scalb_0 4 rfl rfl)
theorem dJ2_scalb_5 : decode cJ2_scalb 5 = .ok (.istore 4, 2) := dk_54 4 (dk_at dksJ2_scalb_0 5 rfl rfl)
theorem dJ2_scalb_7 : decode cJ2_scalb 7 = .ok (.iconst 0, 1) := dk_3 (dk_at dksJ2_scalb_0 7 rfl rfl)
theorem dJ2_scalb_8 : decode cJ2_scalb 8 = .ok (.istore 5, 2) := dk_54 5 (dk_at dksJ2_scalb_0 8 rfl rfl)
theorem dJ2_scalb_10 : decode cJ2_scalb 10 = .ok (.ldc2_w 238, 3) := dk_20 0 238 (dk_at dksJ2_scalb_0 10 rfl rfl)
theorem dJ2_scalb_13 : decode cJ2_scalb 13 = .ok (.dstore 6, 2) := dk_57 6 (dk_at dksJ2_scalb_0 13 rfl rfl)
theorem dJ2_scalb_15 : decode cJ2_scalb 15 = .ok (.iload_n 2, 1) := dk_28 (dk_at dksJ2_scalb_0 15 rfl rfl)
theorem dJ2_scalb_16 : decode cJ2_scalb 16 = .ok (.ifCond .ge 24, 3) := dk_156 0 24 (dk_at dksJ2_scalb_0 16 rfl rfl)
theorem dJ2_scalb_19 : decode cJ2_scalb 19 = .ok (.iload_n 2, 1) := dk_28 (dk_at dksJ2_scalb_0 19 rfl rfl)
theorem dJ2_scalb_20 : decode cJ2_scalb 20 = .ok (.sipush (-2099), 3) := dk_17 247 205 (dk_at dksJ2_scalb_0 20 rfl rfl)
theorem dJ2_scalb_23 : decode cJ2_scalb 23 = .ok (.invokestatic 333, 3) := dk_184 1 77 (dk_at dksJ2_scalb_1 0 rfl rfl)
theorem dJ2_scalb_26 : decode cJ2_scalb 26 = .ok (.istore_n 2, 1) := dk_61 (dk_at dksJ2_scalb_1 3 rfl rfl)
theorem dJ2_scalb_27 : decode cJ2_scalb 27 = .ok (.sipush (-512), 3) := dk_17 254 0 (dk_at dksJ2_scalb_1 4 rfl rfl)
theorem dJ2_scalb_30 : decode cJ2_scalb 30 = .ok (.istore 5, 2) := dk_54 5 (dk_at dksJ2_scalb_1 7 rfl rfl)
theorem dJ2_scalb_32 : decode cJ2_scalb 32 = .ok (.getstatic 336, 3) := dk_178 1 80 (dk_at dksJ2_scalb_1 9 rfl rfl)
theorem dJ2_scalb_35 : decode cJ2_scalb 35 = .ok (.dstore 6, 2) := dk_57 6 (dk_at dksJ2_scalb_1 12 rfl rfl)
theorem dJ2_scalb_37 : decode cJ2_scalb 37 = .ok (.goto 21, 3) := dk_167 0 21 (dk_at dksJ2_scalb_1 14 rfl rfl)
theorem dJ2_scalb_40 : decode cJ2_scalb 40 = .ok (.iload_n 2, 1) := dk_28 (dk_at dksJ2_scalb_1 17 rfl rfl)
theorem dJ2_scalb_41 : decode cJ2_scalb 41 = .ok (.sipush 2099, 3) := dk_17 8 51 (dk_at dksJ2_scalb_1 18 rfl rfl)
theorem dJ2_scalb_44 : decode cJ2_scalb 44 = .ok (.invokestatic 340, 3) := dk_184 1 84 (dk_at dksJ2_scalb_1 21 rfl rfl)
theorem dJ2_scalb_47 : decode cJ2_scalb 47 = .ok (.istore_n 2, 1) := dk_61 (dk_at dksJ2_scalb_2 0 rfl rfl)
theorem dJ2_scalb_48 : decode cJ2_scalb 48 = .ok (.sipush 512, 3) := dk_17 2 0 (dk_at dksJ2_scalb_2 1 rfl rfl)
theorem dJ2_scalb_51 : decode cJ2_scalb 51 = .ok (.istore 5, 2) := dk_54 5 (dk_at dksJ2_scalb_2 4 rfl rfl)
theorem dJ2_scalb_53 : decode cJ2_scalb 53 = .ok (.getstatic 342, 3) := dk_178 1 86 (dk_at dksJ2_scalb_2 6 rfl rfl)
theorem dJ2_scalb_56 : decode cJ2_scalb 56 = .ok (.dstore 6, 2) := dk_57 6 (dk_at dksJ2_scalb_2 9 rfl rfl)
theorem dJ2_scalb_58 : decode cJ2_scalb 58 = .ok (.iload_n 2, 1) := dk_28 (dk_at dksJ2_scalb_2 11 rfl rfl)
theorem dJ2_scalb_59 : decode cJ2_scalb 59 = .ok (.bipush 8, 2) := dk_16 8 (dk_at dksJ2_scalb_2 12 rfl rfl)
theorem dJ2_scalb_61 : decode cJ2_scalb 61 = .ok (.ishr, 1) := dk_122 (dk_at dksJ2_scalb_2 14 rfl rfl)
theorem dJ2_scalb_62 : decode cJ2_scalb 62 = .ok (.bipush 23, 2) := dk_16 23 (dk_at dksJ2_scalb_2 15 rfl rfl)
theorem dJ2_scalb_64 : decode cJ2_scalb 64 = .ok (.iushr, 1) := dk_124 (dk_at dksJ2_scalb_2 17 rfl rfl)
theorem dJ2_scalb_65 : decode cJ2_scalb 65 = .ok (.istore 8, 2) := dk_54 8 (dk_at dksJ2_scalb_2 18 rfl rfl)
theorem dJ2_scalb_67 : decode cJ2_scalb 67 = .ok (.iload_n 2, 1) := dk_28 (dk_at dksJ2_scalb_2 20 rfl rfl)
theorem dJ2_scalb_68 : decode cJ2_scalb 68 = .ok (.iload 8, 2) := dk_21 8 (dk_at dksJ2_scalb_2 21 rfl rfl)
theorem dJ2_scalb_70 : decode cJ2_scalb 70 = .ok (.iadd, 1) := dk_96 (dk_at dksJ2_scalb_2 23 rfl rfl)
theorem dJ2_scalb_71 : decode cJ2_scalb 71 = .ok (.sipush 511, 3) := dk_17 1 255 (dk_at dksJ2_scalb_3 0 rfl rfl)
theorem dJ2_scalb_74 : decode cJ2_scalb 74 = .ok (.iand, 1) := dk_126 (dk_at dksJ2_scalb_3 3 rfl rfl)
theorem dJ2_scalb_75 : decode cJ2_scalb 75 = .ok (.iload 8, 2) := dk_21 8 (dk_at dksJ2_scalb_3 4 rfl rfl)
theorem dJ2_scalb_77 : decode cJ2_scalb 77 = .ok (.isub, 1) := dk_100 (dk_at dksJ2_scalb_3 6 rfl rfl)
theorem dJ2_scalb_78 : decode cJ2_scalb 78 = .ok (.istore 4, 2) := dk_54 4 (dk_at dksJ2_scalb_3 7 rfl rfl)
theorem dJ2_scalb_80 : decode cJ2_scalb 80 = .ok (.dload_n 0, 1) := dk_38 (dk_at dksJ2_scalb_3 9 rfl rfl)
theorem dJ2_scalb_81 : decode cJ2_scalb 81 = .ok (.iload 4, 2) := dk_21 4 (dk_at dksJ2_scalb_3 10 rfl rfl)
theorem dJ2_scalb_83 : decode cJ2_scalb 83 = .ok (.invokestatic 286, 3) := dk_184 1 30 (dk_at dksJ2_scalb_3 12 rfl rfl)
theorem dJ2_scalb_86 : decode cJ2_scalb 86 = .ok (.dmul, 1) := dk_107 (dk_at dksJ2_scalb_3 15 rfl rfl)
theorem dJ2_scalb_87 : decode cJ2_scalb 87 = .ok (.dstore_n 0, 1) := dk_71 (dk_at dksJ2_scalb_3 16 rfl rfl)
theorem dJ2_scalb_88 : decode cJ2_scalb 88 = .ok (.iload_n 2, 1) := dk_28 (dk_at dksJ2_scalb_3 17 rfl rfl)
theorem dJ2_scalb_89 : decode cJ2_scalb 89 = .ok (.iload 4, 2) := dk_21 4 (dk_at dksJ2_scalb_3 18 rfl rfl)
theorem dJ2_scalb_91 : decode cJ2_scalb 91 = .ok (.isub, 1) := dk_100 (dk_at dksJ2_scalb_3 20 rfl rfl)
theorem dJ2_scalb_92 : decode cJ2_scalb 92 = .ok (.istore_n 2, 1) := dk_61 (dk_at dksJ2_scalb_3 21 rfl rfl)
theorem dJ2_scalb_93 : decode cJ2_scalb 93 = .ok (.iload_n 2, 1) := dk_28 (dk_at dksJ2_scalb_3 22 rfl rfl)
theorem dJ2_scalb_94 : decode cJ2_scalb 94 = .ok (.ifCond .eq 16, 3) := dk_153 0 16 (dk_at dksJ2_scalb_4 0 rfl rfl)
theorem dJ2_scalb_97 : decode cJ2_scalb 97 = .ok (.dload_n 0, 1) := dk_38 (dk_at dksJ2_scalb_4 3 rfl rfl)
theorem dJ2_scalb_98 : decode cJ2_scalb 98 = .ok (.dload 6, 2) := dk_24 6 (dk_at dksJ2_scalb_4 4 rfl rfl)
theorem dJ2_scalb_100 : decode cJ2_scalb 100 = .ok (.dmul, 1) := dk_107 (dk_at dksJ2_scalb_4 6 rfl rfl)
theorem dJ2_scalb_101 : decode cJ2_scalb 101 = .ok (.dstore_n 0, 1) := dk_71 (dk_at dksJ2_scalb_4 7 rfl rfl)
theorem dJ2_scalb_102 : decode cJ2_scalb 102 = .ok (.iload_n 2, 1) := dk_28 (dk_at dksJ2_scalb_4 8 rfl rfl)
theorem dJ2_scalb_103 : decode cJ2_scalb 103 = .ok (.iload 5, 2) := dk_21 5 (dk_at dksJ2_scalb_4 9 rfl rfl)
theorem dJ2_scalb_105 : decode cJ2_scalb 105 = .ok (.isub, 1) := dk_100 (dk_at dksJ2_scalb_4 11 rfl rfl)
theorem dJ2_scalb_106 : decode cJ2_scalb 106 = .ok (.istore_n 2, 1) := dk_61 (dk_at dksJ2_scalb_4 12 rfl rfl)
theorem dJ2_scalb_107 : decode cJ2_scalb 107 = .ok (.goto (-14), 3) := dk_167 255 242 (dk_at dksJ2_scalb_4 13 rfl rfl)
theorem dJ2_scalb_110 : decode cJ2_scalb 110 = .ok (.dload_n 0, 1) := dk_38 (dk_at dksJ2_scalb_4 16 rfl rfl)
theorem dJ2_scalb_111 : decode cJ2_scalb 111 = .ok (.dreturn, 1) := dk_175 (dk_at dksJ2_scalb_4 17 rfl rfl)
abbrev cJ2_max : ByteArray := prog_21_method_65_code
def yJ2_max : MethodName := ⟨RJ2, "max", "(II)I"⟩
def dkwJ2_max_0 : List UInt8 := [26, 27, 161, 0, 7, 26, 167, 0, 4, 27, 172]
abbrev dktJ2_max_0 : List UInt8 := dkwJ2_max_0 ++ []
theorem dksJ2_max_0 : cJ2_max.data.toList.drop 0 = dktJ2_max_0 := by decide +kernel
theorem dJ2_max_0 : decode cJ2_max 0 = .ok (.iload_n 0, 1) := dk_26 (dk_at dksJ2_max_0 0 rfl rfl)
theorem dJ2_max_1 : decode cJ2_max 1 = .ok (.iload_n 1, 1) := dk_27 (dk_at dksJ2_max_0 1 rfl rfl)
theorem dJ2_max_2 : decode cJ2_max 2 = .ok (.if_icmp .lt 7, 3) := dk_161 0 7 (dk_at dksJ2_max_0 2 rfl rfl)
theorem dJ2_max_5 : decode cJ2_max 5 = .ok (.iload_n 0, 1) := dk_26 (dk_at dksJ2_max_0 5 rfl rfl)
theorem dJ2_max_6 : decode cJ2_max 6 = .ok (.goto 4, 3) := dk_167 0 4 (dk_at dksJ2_max_0 6 rfl rfl)
theorem dJ2_max_9 : decode cJ2_max 9 = .ok (.iload_n 1, 1) := dk_27 (dk_at dksJ2_max_0 9 rfl rfl)
theorem dJ2_max_10 : decode cJ2_max 10 = .ok (.ireturn, 1) := dk_172 (dk_at dksJ2_max_0 10 rfl rfl)
abbrev cJ2_min : ByteArray := prog_21_method_69_code
def yJ2_min : MethodName := ⟨RJ2, "min", "(II)I"⟩
def dkwJ2_min_0 : List UInt8 := [26, 27, 163, 0, 7, 26, 167, 0, 4, 27, 172]
abbrev dktJ2_min_0 : List UInt8 := dkwJ2_min_0 ++ []
theorem dksJ2_min_0 : cJ2_min.data.toList.drop 0 = dktJ2_min_0 := by decide +kernel
theorem dJ2_min_0 : decode cJ2_min 0 = .ok (.iload_n 0, 1) := dk_26 (dk_at dksJ2_min_0 0 rfl rfl)
theorem dJ2_min_1 : decode cJ2_min 1 = .ok (.iload_n 1, 1) := dk_27 (dk_at dksJ2_min_0 1 rfl rfl)
theorem dJ2_min_2 : decode cJ2_min 2 = .ok (.if_icmp .gt 7, 3) := dk_163 0 7 (dk_at dksJ2_min_0 2 rfl rfl)
theorem dJ2_min_5 : decode cJ2_min 5 = .ok (.iload_n 0, 1) := dk_26 (dk_at dksJ2_min_0 5 rfl rfl)
theorem dJ2_min_6 : decode cJ2_min 6 = .ok (.goto 4, 3) := dk_167 0 4 (dk_at dksJ2_min_0 6 rfl rfl)
theorem dJ2_min_9 : decode cJ2_min 9 = .ok (.iload_n 1, 1) := dk_27 (dk_at dksJ2_min_0 9 rfl rfl)
theorem dJ2_min_10 : decode cJ2_min 10 = .ok (.ireturn, 1) := dk_172 (dk_at dksJ2_min_0 10 rfl rfl)
abbrev cJ2_powerOfTwoD : ByteArray := prog_21_method_101_code
def yJ2_powerOfTwoD : MethodName := ⟨RJ2, "powerOfTwoD", "(I)D"⟩
def dkwJ2_powerOfTwoD_1 : List UInt8 := [183, 0, 249, 191, 26, 133, 20, 1, 66, 97, 16, 52, 121, 20, 0, 87, 127, 184, 0, 166, 175]
abbrev dktJ2_powerOfTwoD_1 : List UInt8 := dkwJ2_powerOfTwoD_1 ++ []
def dkwJ2_powerOfTwoD_0 : List UInt8 := [178, 0, 243, 154, 0, 25, 26, 17, 252, 2, 161, 0, 10, 26, 17, 3, 255, 164, 0, 11, 187, 0, 247, 89]
abbrev dktJ2_powerOfTwoD_0 : List UInt8 := dkwJ2_powerOfTwoD_0 ++ dktJ2_powerOfTwoD_1
theorem dksJ2_powerOfTwoD_0 : cJ2_powerOfTwoD.data.toList.drop 0 = dktJ2_powerOfTwoD_0 := by decide +kernel
theorem dksJ2_powerOfTwoD_1 : cJ2_powerOfTwoD.data.toList.drop 24 = dktJ2_powerOfTwoD_1 := dk_seg dksJ2_powerOfTwoD_0 24 rfl rfl
theorem dJ2_powerOfTwoD_0 : decode cJ2_powerOfTwoD 0 = .ok (.getstatic 243, 3) := dk_178 0 243 (dk_at dksJ2_powerOfTwoD_0 0 rfl rfl)
theorem dJ2_powerOfTwoD_3 : decode cJ2_powerOfTwoD 3 = .ok (.ifCond .ne 25, 3) := dk_154 0 25 (dk_at dksJ2_powerOfTwoD_0 3 rfl rfl)
theorem dJ2_powerOfTwoD_6 : decode cJ2_powerOfTwoD 6 = .ok (.iload_n 0, 1) := dk_26 (dk_at dksJ2_powerOfTwoD_0 6 rfl rfl)
theorem dJ2_powerOfTwoD_7 : decode cJ2_powerOfTwoD 7 = .ok (.sipush (-1022), 3) := dk_17 252 2 (dk_at dksJ2_powerOfTwoD_0 7 rfl rfl)
theorem dJ2_powerOfTwoD_10 : decode cJ2_powerOfTwoD 10 = .ok (.if_icmp .lt 10, 3) := dk_161 0 10 (dk_at dksJ2_powerOfTwoD_0 10 rfl rfl)
theorem dJ2_powerOfTwoD_13 : decode cJ2_powerOfTwoD 13 = .ok (.iload_n 0, 1) := dk_26 (dk_at dksJ2_powerOfTwoD_0 13 rfl rfl)
theorem dJ2_powerOfTwoD_14 : decode cJ2_powerOfTwoD 14 = .ok (.sipush 1023, 3) := dk_17 3 255 (dk_at dksJ2_powerOfTwoD_0 14 rfl rfl)
theorem dJ2_powerOfTwoD_17 : decode cJ2_powerOfTwoD 17 = .ok (.if_icmp .le 11, 3) := dk_164 0 11 (dk_at dksJ2_powerOfTwoD_0 17 rfl rfl)
theorem dJ2_powerOfTwoD_20 : decode cJ2_powerOfTwoD 20 = .ok (.new 247, 3) := dk_187 0 247 (dk_at dksJ2_powerOfTwoD_0 20 rfl rfl)
theorem dJ2_powerOfTwoD_23 : decode cJ2_powerOfTwoD 23 = .ok (.dup, 1) := dk_89 (dk_at dksJ2_powerOfTwoD_0 23 rfl rfl)
theorem dJ2_powerOfTwoD_24 : decode cJ2_powerOfTwoD 24 = .ok (.invokespecial 249, 3) := dk_183 0 249 (dk_at dksJ2_powerOfTwoD_1 0 rfl rfl)
theorem dJ2_powerOfTwoD_27 : decode cJ2_powerOfTwoD 27 = .ok (.athrow, 1) := dk_191 (dk_at dksJ2_powerOfTwoD_1 3 rfl rfl)
theorem dJ2_powerOfTwoD_28 : decode cJ2_powerOfTwoD 28 = .ok (.iload_n 0, 1) := dk_26 (dk_at dksJ2_powerOfTwoD_1 4 rfl rfl)
theorem dJ2_powerOfTwoD_29 : decode cJ2_powerOfTwoD 29 = .ok (.i2l, 1) := dk_133 (dk_at dksJ2_powerOfTwoD_1 5 rfl rfl)
theorem dJ2_powerOfTwoD_30 : decode cJ2_powerOfTwoD 30 = .ok (.ldc2_w 322, 3) := dk_20 1 66 (dk_at dksJ2_powerOfTwoD_1 6 rfl rfl)
theorem dJ2_powerOfTwoD_33 : decode cJ2_powerOfTwoD 33 = .ok (.ladd, 1) := dk_97 (dk_at dksJ2_powerOfTwoD_1 9 rfl rfl)
theorem dJ2_powerOfTwoD_34 : decode cJ2_powerOfTwoD 34 = .ok (.bipush 52, 2) := dk_16 52 (dk_at dksJ2_powerOfTwoD_1 10 rfl rfl)
theorem dJ2_powerOfTwoD_36 : decode cJ2_powerOfTwoD 36 = .ok (.lshl, 1) := dk_121 (dk_at dksJ2_powerOfTwoD_1 12 rfl rfl)
theorem dJ2_powerOfTwoD_37 : decode cJ2_powerOfTwoD 37 = .ok (.ldc2_w 87, 3) := dk_20 0 87 (dk_at dksJ2_powerOfTwoD_1 13 rfl rfl)
theorem dJ2_powerOfTwoD_40 : decode cJ2_powerOfTwoD 40 = .ok (.land, 1) := dk_127 (dk_at dksJ2_powerOfTwoD_1 16 rfl rfl)
theorem dJ2_powerOfTwoD_41 : decode cJ2_powerOfTwoD 41 = .ok (.invokestatic 166, 3) := dk_184 0 166 (dk_at dksJ2_powerOfTwoD_1 17 rfl rfl)
theorem dJ2_powerOfTwoD_44 : decode cJ2_powerOfTwoD 44 = .ok (.dreturn, 1) := dk_175 (dk_at dksJ2_powerOfTwoD_1 20 rfl rfl)
abbrev cJ2_max_2 : ByteArray := prog_21_method_66_code
def yJ2_max_2 : MethodName := ⟨RJ2, "max", "(JJ)J"⟩
def dkwJ2_max_2_0 : List UInt8 := [30, 32, 148, 155, 0, 7, 30, 167, 0, 4, 32, 173]
abbrev dktJ2_max_2_0 : List UInt8 := dkwJ2_max_2_0 ++ []
theorem dksJ2_max_2_0 : cJ2_max_2.data.toList.drop 0 = dktJ2_max_2_0 := by decide +kernel
theorem dJ2_max_2_0 : decode cJ2_max_2 0 = .ok (.lload_n 0, 1) := dk_30 (dk_at dksJ2_max_2_0 0 rfl rfl)
theorem dJ2_max_2_1 : decode cJ2_max_2 1 = .ok (.lload_n 2, 1) := dk_32 (dk_at dksJ2_max_2_0 1 rfl rfl)
theorem dJ2_max_2_2 : decode cJ2_max_2 2 = .ok (.lcmp, 1) := dk_148 (dk_at dksJ2_max_2_0 2 rfl rfl)
theorem dJ2_max_2_3 : decode cJ2_max_2 3 = .ok (.ifCond .lt 7, 3) := dk_155 0 7 (dk_at dksJ2_max_2_0 3 rfl rfl)
theorem dJ2_max_2_6 : decode cJ2_max_2 6 = .ok (.lload_n 0, 1) := dk_30 (dk_at dksJ2_max_2_0 6 rfl rfl)
theorem dJ2_max_2_7 : decode cJ2_max_2 7 = .ok (.goto 4, 3) := dk_167 0 4 (dk_at dksJ2_max_2_0 7 rfl rfl)
theorem dJ2_max_2_10 : decode cJ2_max_2 10 = .ok (.lload_n 2, 1) := dk_32 (dk_at dksJ2_max_2_0 10 rfl rfl)
theorem dJ2_max_2_11 : decode cJ2_max_2 11 = .ok (.lreturn, 1) := dk_173 (dk_at dksJ2_max_2_0 11 rfl rfl)
abbrev cJ2_scalb_2 : ByteArray := prog_21_method_100_code
def yJ2_scalb_2 : MethodName := ⟨RJ2, "scalb", "(FI)F"⟩
def dkwJ2_scalb_2_1 : List UInt8 := [107, 144, 174]
abbrev dktJ2_scalb_2_1 : List UInt8 := dkwJ2_scalb_2_1 ++ []
def dkwJ2_scalb_2_0 : List UInt8 := [17, 1, 22, 61, 27, 17, 1, 22, 184, 1, 84, 17, 254, 234, 184, 1, 77, 60, 34, 141, 27, 184, 1, 30]
abbrev dktJ2_scalb_2_0 : List UInt8 := dkwJ2_scalb_2_0 ++ dktJ2_scalb_2_1
theorem dksJ2_scalb_2_0 : cJ2_scalb_2.data.toList.drop 0 = dktJ2_scalb_2_0 := by decide +kernel
theorem dksJ2_scalb_2_1 : cJ2_scalb_2.data.toList.drop 24 = dktJ2_scalb_2_1 := dk_seg dksJ2_scalb_2_0 24 rfl rfl
theorem dJ2_scalb_2_0 : decode cJ2_scalb_2 0 = .ok (.sipush 278, 3) := dk_17 1 22 (dk_at dksJ2_scalb_2_0 0 rfl rfl)
theorem dJ2_scalb_2_3 : decode cJ2_scalb_2 3 = .ok (.istore_n 2, 1) := dk_61 (dk_at dksJ2_scalb_2_0 3 rfl rfl)
theorem dJ2_scalb_2_4 : decode cJ2_scalb_2 4 = .ok (.iload_n 1, 1) := dk_27 (dk_at dksJ2_scalb_2_0 4 rfl rfl)
theorem dJ2_scalb_2_5 : decode cJ2_scalb_2 5 = .ok (.sipush 278, 3) := dk_17 1 22 (dk_at dksJ2_scalb_2_0 5 rfl rfl)
theorem dJ2_scalb_2_8 : decode cJ2_scalb_2 8 = .ok (.invokestatic 340, 3) := dk_184 1 84 (dk_at dksJ2_scalb_2_0 8 rfl rfl)
theorem dJ2_scalb_2_11 : decode cJ2_scalb_2 11 = .ok (.sipush (-278), 3) := dk_17 254 234 (dk_at dksJ2_scalb_2_0 11 rfl rfl)
theorem dJ2_scalb_2_14 : decode cJ2_scalb_2 14 = .ok (.invokestatic 333, 3) := dk_184 1 77 (dk_at dksJ2_scalb_2_0 14 rfl rfl)
theorem dJ2_scalb_2_17 : decode cJ2_scalb_2 17 = .ok (.istore_n 1, 1) := dk_60 (dk_at dksJ2_scalb_2_0 17 rfl rfl)
theorem dJ2_scalb_2_18 : decode cJ2_scalb_2 18 = .ok (.fload_n 0, 1) := dk_34 (dk_at dksJ2_scalb_2_0 18 rfl rfl)
theorem dJ2_scalb_2_19 : decode cJ2_scalb_2 19 = .ok (.f2d, 1) := dk_141 (dk_at dksJ2_scalb_2_0 19 rfl rfl)
theorem dJ2_scalb_2_20 : decode cJ2_scalb_2 20 = .ok (.iload_n 1, 1) := dk_27 (dk_at dksJ2_scalb_2_0 20 rfl rfl)
theorem dJ2_scalb_2_21 : decode cJ2_scalb_2 21 = .ok (.invokestatic 286, 3) := dk_184 1 30 (dk_at dksJ2_scalb_2_0 21 rfl rfl)
theorem dJ2_scalb_2_24 : decode cJ2_scalb_2 24 = .ok (.dmul, 1) := dk_107 (dk_at dksJ2_scalb_2_1 0 rfl rfl)
theorem dJ2_scalb_2_25 : decode cJ2_scalb_2 25 = .ok (.d2f, 1) := dk_144 (dk_at dksJ2_scalb_2_1 1 rfl rfl)
theorem dJ2_scalb_2_26 : decode cJ2_scalb_2 26 = .ok (.freturn, 1) := dk_174 (dk_at dksJ2_scalb_2_1 2 rfl rfl)
abbrev cJ2_copySign : ByteArray := prog_21_method_89_code
def yJ2_copySign : MethodName := ⟨RJ2, "copySign", "(DD)D"⟩
def dkwJ2_copySign_0 : List UInt8 := [40, 184, 0, 79, 20, 0, 128, 127, 38, 184, 0, 79, 20, 0, 135, 127, 129, 184, 0, 166, 175]
abbrev dktJ2_copySign_0 : List UInt8 := dkwJ2_copySign_0 ++ []
theorem dksJ2_copySign_0 : cJ2_copySign.data.toList.drop 0 = dktJ2_copySign_0 := by decide +kernel
theorem dJ2_copySign_0 : decode cJ2_copySign 0 = .ok (.dload_n 2, 1) := dk_40 (dk_at dksJ2_copySign_0 0 rfl rfl)
theorem dJ2_copySign_1 : decode cJ2_copySign 1 = .ok (.invokestatic 79, 3) := dk_184 0 79 (dk_at dksJ2_copySign_0 1 rfl rfl)
theorem dJ2_copySign_4 : decode cJ2_copySign 4 = .ok (.ldc2_w 128, 3) := dk_20 0 128 (dk_at dksJ2_copySign_0 4 rfl rfl)
theorem dJ2_copySign_7 : decode cJ2_copySign 7 = .ok (.land, 1) := dk_127 (dk_at dksJ2_copySign_0 7 rfl rfl)
theorem dJ2_copySign_8 : decode cJ2_copySign 8 = .ok (.dload_n 0, 1) := dk_38 (dk_at dksJ2_copySign_0 8 rfl rfl)
theorem dJ2_copySign_9 : decode cJ2_copySign 9 = .ok (.invokestatic 79, 3) := dk_184 0 79 (dk_at dksJ2_copySign_0 9 rfl rfl)
theorem dJ2_copySign_12 : decode cJ2_copySign 12 = .ok (.ldc2_w 135, 3) := dk_20 0 135 (dk_at dksJ2_copySign_0 12 rfl rfl)
theorem dJ2_copySign_15 : decode cJ2_copySign 15 = .ok (.land, 1) := dk_127 (dk_at dksJ2_copySign_0 15 rfl rfl)
theorem dJ2_copySign_16 : decode cJ2_copySign 16 = .ok (.lor, 1) := dk_129 (dk_at dksJ2_copySign_0 16 rfl rfl)
theorem dJ2_copySign_17 : decode cJ2_copySign 17 = .ok (.invokestatic 166, 3) := dk_184 0 166 (dk_at dksJ2_copySign_0 17 rfl rfl)
theorem dJ2_copySign_20 : decode cJ2_copySign 20 = .ok (.dreturn, 1) := dk_175 (dk_at dksJ2_copySign_0 20 rfl rfl)
abbrev cJ2_abs : ByteArray := prog_21_method_64_code
def yJ2_abs : MethodName := ⟨RJ2, "abs", "(D)D"⟩
def dkwJ2_abs_0 : List UInt8 := [38, 184, 0, 79, 20, 0, 135, 127, 184, 0, 166, 175]
abbrev dktJ2_abs_0 : List UInt8 := dkwJ2_abs_0 ++ []
theorem dksJ2_abs_0 : cJ2_abs.data.toList.drop 0 = dktJ2_abs_0 := by decide +kernel
theorem dJ2_abs_0 : decode cJ2_abs 0 = .ok (.dload_n 0, 1) := dk_38 (dk_at dksJ2_abs_0 0 rfl rfl)
theorem dJ2_abs_1 : decode cJ2_abs 1 = .ok (.invokestatic 79, 3) := dk_184 0 79 (dk_at dksJ2_abs_0 1 rfl rfl)
theorem dJ2_abs_4 : decode cJ2_abs 4 = .ok (.ldc2_w 135, 3) := dk_20 0 135 (dk_at dksJ2_abs_0 4 rfl rfl)
theorem dJ2_abs_7 : decode cJ2_abs 7 = .ok (.land, 1) := dk_127 (dk_at dksJ2_abs_0 7 rfl rfl)
theorem dJ2_abs_8 : decode cJ2_abs 8 = .ok (.invokestatic 166, 3) := dk_184 0 166 (dk_at dksJ2_abs_0 8 rfl rfl)
theorem dJ2_abs_11 : decode cJ2_abs 11 = .ok (.dreturn, 1) := dk_175 (dk_at dksJ2_abs_0 11 rfl rfl)
abbrev cJ2_signum : ByteArray := prog_21_method_81_code
def yJ2_signum : MethodName := ⟨RJ2, "signum", "(D)D"⟩
def dkwJ2_signum_0 : List UInt8 := [38, 14, 151, 153, 0, 10, 38, 184, 0, 205, 153, 0, 7, 38, 167, 0, 8, 15, 38, 184, 1, 43, 175]
abbrev dktJ2_signum_0 : List UInt8 := dkwJ2_signum_0 ++ []
theorem dksJ2_signum_0 : cJ2_signum.data.toList.drop 0 = dktJ2_signum_0 := by decide +kernel
theorem dJ2_signum_0 : decode cJ2_signum 0 = .ok (.dload_n 0, 1) := dk_38 (dk_at dksJ2_signum_0 0 rfl rfl)
theorem dJ2_signum_1 : decode cJ2_signum 1 = .ok (.dconst 0, 1) := dk_14 (dk_at dksJ2_signum_0 1 rfl rfl)
theorem dJ2_signum_2 : decode cJ2_signum 2 = .ok (.dcmp .l, 1) := dk_151 (dk_at dksJ2_signum_0 2 rfl rfl)
theorem dJ2_signum_3 : decode cJ2_signum 3 = .ok (.ifCond .eq 10, 3) := dk_153 0 10 (dk_at dksJ2_signum_0 3 rfl rfl)
theorem dJ2_signum_6 : decode cJ2_signum 6 = .ok (.dload_n 0, 1) := dk_38 (dk_at dksJ2_signum_0 6 rfl rfl)
theorem dJ2_signum_7 : decode cJ2_signum 7 = .ok (.invokestatic 205, 3) := dk_184 0 205 (dk_at dksJ2_signum_0 7 rfl rfl)
theorem dJ2_signum_10 : decode cJ2_signum 10 = .ok (.ifCond .eq 7, 3) := dk_153 0 7 (dk_at dksJ2_signum_0 10 rfl rfl)
theorem dJ2_signum_13 : decode cJ2_signum 13 = .ok (.dload_n 0, 1) := dk_38 (dk_at dksJ2_signum_0 13 rfl rfl)
theorem dJ2_signum_14 : decode cJ2_signum 14 = .ok (.goto 8, 3) := dk_167 0 8 (dk_at dksJ2_signum_0 14 rfl rfl)
theorem dJ2_signum_17 : decode cJ2_signum 17 = .ok (.dconst 1, 1) := dk_15 (dk_at dksJ2_signum_0 17 rfl rfl)
theorem dJ2_signum_18 : decode cJ2_signum 18 = .ok (.dload_n 0, 1) := dk_38 (dk_at dksJ2_signum_0 18 rfl rfl)
theorem dJ2_signum_19 : decode cJ2_signum 19 = .ok (.invokestatic 299, 3) := dk_184 1 43 (dk_at dksJ2_signum_0 19 rfl rfl)
theorem dJ2_signum_22 : decode cJ2_signum 22 = .ok (.dreturn, 1) := dk_175 (dk_at dksJ2_signum_0 22 rfl rfl)
abbrev cJ2_nextUp : ByteArray := prog_21_method_95_code
def yJ2_nextUp : MethodName := ⟨RJ2, "nextUp", "(D)D"⟩
def dkwJ2_nextUp_1 : List UInt8 := [167, 0, 6, 20, 0, 130, 97, 184, 0, 166, 175, 38, 175]
abbrev dktJ2_nextUp_1 : List UInt8 := dkwJ2_nextUp_1 ++ []
def dkwJ2_nextUp_0 : List UInt8 := [38, 20, 1, 71, 152, 156, 0, 29, 38, 14, 99, 184, 0, 79, 65, 32, 32, 9, 148, 155, 0, 7, 10]
abbrev dktJ2_nextUp_0 : List UInt8 := dkwJ2_nextUp_0 ++ dktJ2_nextUp_1
theorem dksJ2_nextUp_0 : cJ2_nextUp.data.toList.drop 0 = dktJ2_nextUp_0 := by decide +kernel
theorem dksJ2_nextUp_1 : cJ2_nextUp.data.toList.drop 23 = dktJ2_nextUp_1 := dk_seg dksJ2_nextUp_0 23 rfl rfl
theorem dJ2_nextUp_0 : decode cJ2_nextUp 0 = .ok (.dload_n 0, 1) := dk_38 (dk_at dksJ2_nextUp_0 0 rfl rfl)
theorem dJ2_nextUp_1 : decode cJ2_nextUp 1 = .ok (.ldc2_w 327, 3) := dk_20 1 71 (dk_at dksJ2_nextUp_0 1 rfl rfl)
theorem dJ2_nextUp_4 : decode cJ2_nextUp 4 = .ok (.dcmp .g, 1) := dk_152 (dk_at dksJ2_nextUp_0 4 rfl rfl)
theorem dJ2_nextUp_5 : decode cJ2_nextUp 5 = .ok (.ifCond .ge 29, 3) := dk_156 0 29 (dk_at dksJ2_nextUp_0 5 rfl rfl)
theorem dJ2_nextUp_8 : decode cJ2_nextUp 8 = .ok (.dload_n 0, 1) := dk_38 (dk_at dksJ2_nextUp_0 8 rfl rfl)
theorem dJ2_nextUp_9 : decode cJ2_nextUp 9 = .ok (.dconst 0, 1) := dk_14 (dk_at dksJ2_nextUp_0 9 rfl rfl)
theorem dJ2_nextUp_10 : decode cJ2_nextUp 10 = .ok (.dadd, 1) := dk_99 (dk_at dksJ2_nextUp_0 10 rfl rfl)
theorem dJ2_nextUp_11 : decode cJ2_nextUp 11 = .ok (.invokestatic 79, 3) := dk_184 0 79 (dk_at dksJ2_nextUp_0 11 rfl rfl)
theorem dJ2_nextUp_14 : decode cJ2_nextUp 14 = .ok (.lstore_n 2, 1) := dk_65 (dk_at dksJ2_nextUp_0 14 rfl rfl)
theorem dJ2_nextUp_15 : decode cJ2_nextUp 15 = .ok (.lload_n 2, 1) := dk_32 (dk_at dksJ2_nextUp_0 15 rfl rfl)
theorem dJ2_nextUp_16 : decode cJ2_nextUp 16 = .ok (.lload_n 2, 1) := dk_32 (dk_at dksJ2_nextUp_0 16 rfl rfl)
theorem dJ2_nextUp_17 : decode cJ2_nextUp 17 = .ok (.lconst 0, 1) := dk_9 (dk_at dksJ2_nextUp_0 17 rfl rfl)
theorem dJ2_nextUp_18 : decode cJ2_nextUp 18 = .ok (.lcmp, 1) := dk_148 (dk_at dksJ2_nextUp_0 18 rfl rfl)
theorem dJ2_nextUp_19 : decode cJ2_nextUp 19 = .ok (.ifCond .lt 7, 3) := dk_155 0 7 (dk_at dksJ2_nextUp_0 19 rfl rfl)
theorem dJ2_nextUp_22 : decode cJ2_nextUp 22 = .ok (.lconst 1, 1) := dk_10 (dk_at dksJ2_nextUp_0 22 rfl rfl)
theorem dJ2_nextUp_23 : decode cJ2_nextUp 23 = .ok (.goto 6, 3) := dk_167 0 6 (dk_at dksJ2_nextUp_1 0 rfl rfl)
theorem dJ2_nextUp_26 : decode cJ2_nextUp 26 = .ok (.ldc2_w 130, 3) := dk_20 0 130 (dk_at dksJ2_nextUp_1 3 rfl rfl)
theorem dJ2_nextUp_29 : decode cJ2_nextUp 29 = .ok (.ladd, 1) := dk_97 (dk_at dksJ2_nextUp_1 6 rfl rfl)
theorem dJ2_nextUp_30 : decode cJ2_nextUp 30 = .ok (.invokestatic 166, 3) := dk_184 0 166 (dk_at dksJ2_nextUp_1 7 rfl rfl)
theorem dJ2_nextUp_33 : decode cJ2_nextUp 33 = .ok (.dreturn, 1) := dk_175 (dk_at dksJ2_nextUp_1 10 rfl rfl)
theorem dJ2_nextUp_34 : decode cJ2_nextUp 34 = .ok (.dload_n 0, 1) := dk_38 (dk_at dksJ2_nextUp_1 11 rfl rfl)
theorem dJ2_nextUp_35 : decode cJ2_nextUp 35 = .ok (.dreturn, 1) := dk_175 (dk_at dksJ2_nextUp_1 12 rfl rfl)
abbrev cJ2_nextUp_2 : ByteArray := prog_21_method_96_code
def yJ2_nextUp_2 : MethodName := ⟨RJ2, "nextUp", "(F)F"⟩
def dkwJ2_nextUp_2_1 : List UInt8 := [2, 96, 184, 0, 162, 174, 34, 174]
abbrev dktJ2_nextUp_2_1 : List UInt8 := dkwJ2_nextUp_2_1 ++ []
def dkwJ2_nextUp_2_0 : List UInt8 := [34, 19, 1, 73, 150, 156, 0, 25, 34, 11, 98, 184, 0, 68, 60, 27, 27, 155, 0, 7, 4, 167, 0, 4]
abbrev dktJ2_nextUp_2_0 : List UInt8 := dkwJ2_nextUp_2_0 ++ dktJ2_nextUp_2_1
theorem dksJ2_nextUp_2_0 : cJ2_nextUp_2.data.toList.drop 0 = dktJ2_nextUp_2_0 := by decide +kernel
theorem dksJ2_nextUp_2_1 : cJ2_nextUp_2.data.toList.drop 24 = dktJ2_nextUp_2_1 := dk_seg dksJ2_nextUp_2_0 24 rfl rfl
theorem dJ2_nextUp_2_0 : decode cJ2_nextUp_2 0 = .ok (.fload_n 0, 1) := dk_34 (dk_at dksJ2_nextUp_2_0 0 rfl rfl)
theorem dJ2_nextUp_2_1 : decode cJ2_nextUp_2 1 = .ok (.ldc_w 329, 3) := dk_19 1 73 (dk_at dksJ2_nextUp_2_0 1 rfl rfl)
theorem dJ2_nextUp_2_4 : decode cJ2_nextUp_2 4 = .ok (.fcmp .g, 1) := dk_150 (dk_at dksJ2_nextUp_2_0 4 rfl rfl)
theorem dJ2_nextUp_2_5 : decode cJ2_nextUp_2 5 = .ok (.ifCond .ge 25, 3) := dk_156 0 25 (dk_at dksJ2_nextUp_2_0 5 rfl rfl)
theorem dJ2_nextUp_2_8 : decode cJ2_nextUp_2 8 = .ok (.fload_n 0, 1) := dk_34 (dk_at dksJ2_nextUp_2_0 8 rfl rfl)
theorem dJ2_nextUp_2_9 : decode cJ2_nextUp_2 9 = .ok (.fconst 0, 1) := dk_11 (dk_at dksJ2_nextUp_2_0 9 rfl rfl)
theorem dJ2_nextUp_2_10 : decode cJ2_nextUp_2 10 = .ok (.fadd, 1) := dk_98 (dk_at dksJ2_nextUp_2_0 10 rfl rfl)
theorem dJ2_nextUp_2_11 : decode cJ2_nextUp_2 11 = .ok (.invokestatic 68, 3) := dk_184 0 68 (dk_at dksJ2_nextUp_2_0 11 rfl rfl)
theorem dJ2_nextUp_2_14 : decode cJ2_nextUp_2 14 = .ok (.istore_n 1, 1) := dk_60 (dk_at dksJ2_nextUp_2_0 14 rfl rfl)
theorem dJ2_nextUp_2_15 : decode cJ2_nextUp_2 15 = .ok (.iload_n 1, 1) := dk_27 (dk_at dksJ2_nextUp_2_0 15 rfl rfl)
theorem dJ2_nextUp_2_16 : decode cJ2_nextUp_2 16 = .ok (.iload_n 1, 1) := dk_27 (dk_at dksJ2_nextUp_2_0 16 rfl rfl)
theorem dJ2_nextUp_2_17 : decode cJ2_nextUp_2 17 = .ok (.ifCond .lt 7, 3) := dk_155 0 7 (dk_at dksJ2_nextUp_2_0 17 rfl rfl)
theorem dJ2_nextUp_2_20 : decode cJ2_nextUp_2 20 = .ok (.iconst 1, 1) := dk_4 (dk_at dksJ2_nextUp_2_0 20 rfl rfl)
theorem dJ2_nextUp_2_21 : decode cJ2_nextUp_2 21 = .ok (.goto 4, 3) := dk_167 0 4 (dk_at dksJ2_nextUp_2_0 21 rfl rfl)
theorem dJ2_nextUp_2_24 : decode cJ2_nextUp_2 24 = .ok (.iconst (-1), 1) := dk_2 (dk_at dksJ2_nextUp_2_1 0 rfl rfl)
theorem dJ2_nextUp_2_25 : decode cJ2_nextUp_2 25 = .ok (.iadd, 1) := dk_96 (dk_at dksJ2_nextUp_2_1 1 rfl rfl)
theorem dJ2_nextUp_2_26 : decode cJ2_nextUp_2 26 = .ok (.invokestatic 162, 3) := dk_184 0 162 (dk_at dksJ2_nextUp_2_1 2 rfl rfl)
theorem dJ2_nextUp_2_29 : decode cJ2_nextUp_2 29 = .ok (.freturn, 1) := dk_174 (dk_at dksJ2_nextUp_2_1 5 rfl rfl)
theorem dJ2_nextUp_2_30 : decode cJ2_nextUp_2 30 = .ok (.fload_n 0, 1) := dk_34 (dk_at dksJ2_nextUp_2_1 6 rfl rfl)
theorem dJ2_nextUp_2_31 : decode cJ2_nextUp_2 31 = .ok (.freturn, 1) := dk_174 (dk_at dksJ2_nextUp_2_1 7 rfl rfl)
abbrev cJ2_ulp : ByteArray := prog_21_method_79_code
def yJ2_ulp : MethodName := ⟨RJ2, "ulp", "(D)D"⟩
def dkwJ2_ulp_4 : List UInt8 := [17, 252, 2, 161, 0, 10, 28, 184, 1, 30, 167, 0, 13, 10, 28, 17, 251, 206, 100, 121, 184, 0, 166, 175]
abbrev dktJ2_ulp_4 : List UInt8 := dkwJ2_ulp_4 ++ []
def dkwJ2_ulp_3 : List UInt8 := [163, 0, 10, 28, 17, 252, 2, 162, 0, 11, 187, 0, 247, 89, 183, 0, 249, 191, 28, 16, 52, 100, 61, 28]
abbrev dktJ2_ulp_3 : List UInt8 := dkwJ2_ulp_3 ++ dktJ2_ulp_4
def dkwJ2_ulp_2 : List UInt8 := [38, 184, 1, 26, 167, 0, 66, 20, 1, 28, 167, 0, 60, 178, 0, 243, 154, 0, 25, 28, 17, 3, 255]
abbrev dktJ2_ulp_2 : List UInt8 := dkwJ2_ulp_2 ++ dktJ2_ulp_3
def dkwJ2_ulp_1 : List UInt8 := [171, 0, 0, 0, 0, 39, 0, 0, 0, 2, 255, 255, 252, 1, 0, 0, 0, 33, 0, 0, 4, 0, 0, 0, 0, 26]
abbrev dktJ2_ulp_1 : List UInt8 := dkwJ2_ulp_1 ++ dktJ2_ulp_2
def dkwJ2_ulp_0 : List UInt8 := [38, 184, 1, 22, 61, 28]
abbrev dktJ2_ulp_0 : List UInt8 := dkwJ2_ulp_0 ++ dktJ2_ulp_1
theorem dksJ2_ulp_0 : cJ2_ulp.data.toList.drop 0 = dktJ2_ulp_0 := by decide +kernel
theorem dksJ2_ulp_1 : cJ2_ulp.data.toList.drop 6 = dktJ2_ulp_1 := dk_seg dksJ2_ulp_0 6 rfl rfl
theorem dksJ2_ulp_2 : cJ2_ulp.data.toList.drop 32 = dktJ2_ulp_2 := dk_seg dksJ2_ulp_1 26 rfl rfl
theorem dksJ2_ulp_3 : cJ2_ulp.data.toList.drop 55 = dktJ2_ulp_3 := dk_seg dksJ2_ulp_2 23 rfl rfl
theorem dksJ2_ulp_4 : cJ2_ulp.data.toList.drop 79 = dktJ2_ulp_4 := dk_seg dksJ2_ulp_3 24 rfl rfl
theorem dJ2_ulp_0 : decode cJ2_ulp 0 = .ok (.dload_n 0, 1) := dk_38 (dk_at dksJ2_ulp_0 0 rfl rfl)
theorem dJ2_ulp_1 : decode cJ2_ulp 1 = .ok (.invokestatic 278, 3) := dk_184 1 22 (dk_at dksJ2_ulp_0 1 rfl rfl)
theorem dJ2_ulp_4 : decode cJ2_ulp 4 = .ok (.istore_n 2, 1) := dk_61 (dk_at dksJ2_ulp_0 4 rfl rfl)
theorem dJ2_ulp_5 : decode cJ2_ulp 5 = .ok (.iload_n 2, 1) := dk_28 (dk_at dksJ2_ulp_0 5 rfl rfl)
theorem dJ2_ulp_6 : decode cJ2_ulp 6 = .ok (.lookupswitch 39 #[(-1023, 33), (1024, 26)], 26) := by decide +kernel
theorem dJ2_ulp_32 : decode cJ2_ulp 32 = .ok (.dload_n 0, 1) := dk_38 (dk_at dksJ2_ulp_2 0 rfl rfl)
theorem dJ2_ulp_33 : decode cJ2_ulp 33 = .ok (.invokestatic 282, 3) := dk_184 1 26 (dk_at dksJ2_ulp_2 1 rfl rfl)
theorem dJ2_ulp_36 : decode cJ2_ulp 36 = .ok (.goto 66, 3) := dk_167 0 66 (dk_at dksJ2_ulp_2 4 rfl rfl)
theorem dJ2_ulp_39 : decode cJ2_ulp 39 = .ok (.ldc2_w 284, 3) := dk_20 1 28 (dk_at dksJ2_ulp_2 7 rfl rfl)
theorem dJ2_ulp_42 : decode cJ2_ulp 42 = .ok (.goto 60, 3) := dk_167 0 60 (dk_at dksJ2_ulp_2 10 rfl rfl)
theorem dJ2_ulp_45 : decode cJ2_ulp 45 = .ok (.getstatic 243, 3) := dk_178 0 243 (dk_at dksJ2_ulp_2 13 rfl rfl)
theorem dJ2_ulp_48 : decode cJ2_ulp 48 = .ok (.ifCond .ne 25, 3) := dk_154 0 25 (dk_at dksJ2_ulp_2 16 rfl rfl)
theorem dJ2_ulp_51 : decode cJ2_ulp 51 = .ok (.iload_n 2, 1) := dk_28 (dk_at dksJ2_ulp_2 19 rfl rfl)
theorem dJ2_ulp_52 : decode cJ2_ulp 52 = .ok (.sipush 1023, 3) := dk_17 3 255 (dk_at dksJ2_ulp_2 20 rfl rfl)
theorem dJ2_ulp_55 : decode cJ2_ulp 55 = .ok (.if_icmp .gt 10, 3) := dk_163 0 10 (dk_at dksJ2_ulp_3 0 rfl rfl)
theorem dJ2_ulp_58 : decode cJ2_ulp 58 = .ok (.iload_n 2, 1) := dk_28 (dk_at dksJ2_ulp_3 3 rfl rfl)
theorem dJ2_ulp_59 : decode cJ2_ulp 59 = .ok (.sipush (-1022), 3) := dk_17 252 2 (dk_at dksJ2_ulp_3 4 rfl rfl)
theorem dJ2_ulp_62 : decode cJ2_ulp 62 = .ok (.if_icmp .ge 11, 3) := dk_162 0 11 (dk_at dksJ2_ulp_3 7 rfl rfl)
theorem dJ2_ulp_65 : decode cJ2_ulp 65 = .ok (.new 247, 3) := dk_187 0 247 (dk_at dksJ2_ulp_3 10 rfl rfl)
theorem dJ2_ulp_68 : decode cJ2_ulp 68 = .ok (.dup, 1) := dk_89 (dk_at dksJ2_ulp_3 13 rfl rfl)
theorem dJ2_ulp_69 : decode cJ2_ulp 69 = .ok (.invokespecial 249, 3) := dk_183 0 249 (dk_at dksJ2_ulp_3 14 rfl rfl)
theorem dJ2_ulp_72 : decode cJ2_ulp 72 = .ok (.athrow, 1) := dk_191 (dk_at dksJ2_ulp_3 17 rfl rfl)
theorem dJ2_ulp_73 : decode cJ2_ulp 73 = .ok (.iload_n 2, 1) := dk_28 (dk_at dksJ2_ulp_3 18 rfl rfl)
theorem dJ2_ulp_74 : decode cJ2_ulp 74 = .ok (.bipush 52, 2) := dk_16 52 (dk_at dksJ2_ulp_3 19 rfl rfl)
theorem dJ2_ulp_76 : decode cJ2_ulp 76 = .ok (.isub, 1) := dk_100 (dk_at dksJ2_ulp_3 21 rfl rfl)
theorem dJ2_ulp_77 : decode cJ2_ulp 77 = .ok (.istore_n 2, 1) := dk_61 (dk_at dksJ2_ulp_3 22 rfl rfl)
theorem dJ2_ulp_78 : decode cJ2_ulp 78 = .ok (.iload_n 2, 1) := dk_28 (dk_at dksJ2_ulp_3 23 rfl rfl)
theorem dJ2_ulp_79 : decode cJ2_ulp 79 = .ok (.sipush (-1022), 3) := dk_17 252 2 (dk_at dksJ2_ulp_4 0 rfl rfl)
theorem dJ2_ulp_82 : decode cJ2_ulp 82 = .ok (.if_icmp .lt 10, 3) := dk_161 0 10 (dk_at dksJ2_ulp_4 3 rfl rfl)
theorem dJ2_ulp_85 : decode cJ2_ulp 85 = .ok (.iload_n 2, 1) := dk_28 (dk_at dksJ2_ulp_4 6 rfl rfl)
theorem dJ2_ulp_86 : decode cJ2_ulp 86 = .ok (.invokestatic 286, 3) := dk_184 1 30 (dk_at dksJ2_ulp_4 7 rfl rfl)
theorem dJ2_ulp_89 : decode cJ2_ulp 89 = .ok (.goto 13, 3) := dk_167 0 13 (dk_at dksJ2_ulp_4 10 rfl rfl)
theorem dJ2_ulp_92 : decode cJ2_ulp 92 = .ok (.lconst 1, 1) := dk_10 (dk_at dksJ2_ulp_4 13 rfl rfl)
theorem dJ2_ulp_93 : decode cJ2_ulp 93 = .ok (.iload_n 2, 1) := dk_28 (dk_at dksJ2_ulp_4 14 rfl rfl)
theorem dJ2_ulp_94 : decode cJ2_ulp 94 = .ok (.sipush (-1074), 3) := dk_17 251 206 (dk_at dksJ2_ulp_4 15 rfl rfl)
theorem dJ2_ulp_97 : decode cJ2_ulp 97 = .ok (.isub, 1) := dk_100 (dk_at dksJ2_ulp_4 18 rfl rfl)
theorem dJ2_ulp_98 : decode cJ2_ulp 98 = .ok (.lshl, 1) := dk_121 (dk_at dksJ2_ulp_4 19 rfl rfl)
theorem dJ2_ulp_99 : decode cJ2_ulp 99 = .ok (.invokestatic 166, 3) := dk_184 0 166 (dk_at dksJ2_ulp_4 20 rfl rfl)
theorem dJ2_ulp_102 : decode cJ2_ulp 102 = .ok (.dreturn, 1) := dk_175 (dk_at dksJ2_ulp_4 23 rfl rfl)
abbrev cJ2_ulp_2 : ByteArray := prog_21_method_80_code
def yJ2_ulp_2 : MethodName := ⟨RJ2, "ulp", "(F)F"⟩
def dkwJ2_ulp_2_4 : List UInt8 := [16, 130, 161, 0, 10, 27, 184, 1, 40, 167, 0, 13, 4, 27, 17, 255, 107, 100, 120, 184, 0, 162, 174]
abbrev dktJ2_ulp_2_4 : List UInt8 := dkwJ2_ulp_2_4 ++ []
def dkwJ2_ulp_2_3 : List UInt8 := [163, 0, 9, 27, 16, 130, 162, 0, 11, 187, 0, 247, 89, 183, 0, 249, 191, 27, 16, 23, 100, 60, 27]
abbrev dktJ2_ulp_2_3 : List UInt8 := dkwJ2_ulp_2_3 ++ dktJ2_ulp_2_4
def dkwJ2_ulp_2_2 : List UInt8 := [34, 184, 1, 36, 167, 0, 63, 19, 1, 39, 167, 0, 57, 178, 0, 243, 154, 0, 23, 27, 16, 127]
abbrev dktJ2_ulp_2_2 : List UInt8 := dkwJ2_ulp_2_2 ++ dktJ2_ulp_2_3
def dkwJ2_ulp_2_1 : List UInt8 := [171, 0, 0, 0, 0, 39, 0, 0, 0, 2, 255, 255, 255, 129, 0, 0, 0, 33, 0, 0, 0, 128, 0, 0, 0, 26]
abbrev dktJ2_ulp_2_1 : List UInt8 := dkwJ2_ulp_2_1 ++ dktJ2_ulp_2_2
def dkwJ2_ulp_2_0 : List UInt8 := [34, 184, 1, 34, 60, 27]
abbrev dktJ2_ulp_2_0 : List UInt8 := dkwJ2_ulp_2_0 ++ dktJ2_ulp_2_1
theorem dksJ2_ulp_2_0 : cJ2_ulp_2.data.toList.drop 0 = dktJ2_ulp_2_0 := by decide +kernel
theorem dksJ2_ulp_2_1 : cJ2_ulp_2.data.toList.drop 6 = dktJ2_ulp_2_1 := dk_seg dksJ2_ulp_2_0 6 rfl rfl
theorem dksJ2_ulp_2_2 : cJ2_ulp_2.data.toList.drop 32 = dktJ2_ulp_2_2 := dk_seg dksJ2_ulp_2_1 26 rfl rfl
theorem dksJ2_ulp_2_3 : cJ2_ulp_2.data.toList.drop 54 = dktJ2_ulp_2_3 := dk_seg dksJ2_ulp_2_2 22 rfl rfl
theorem dksJ2_ulp_2_4 : cJ2_ulp_2.data.toList.drop 77 = dktJ2_ulp_2_4 := dk_seg dksJ2_ulp_2_3 23 rfl rfl
theorem dJ2_ulp_2_0 : decode cJ2_ulp_2 0 = .ok (.fload_n 0, 1) := dk_34 (dk_at dksJ2_ulp_2_0 0 rfl rfl)
theorem dJ2_ulp_2_1 : decode cJ2_ulp_2 1 = .ok (.invokestatic 290, 3) := dk_184 1 34 (dk_at dksJ2_ulp_2_0 1 rfl rfl)
theorem dJ2_ulp_2_4 : decode cJ2_ulp_2 4 = .ok (.istore_n 1, 1) := dk_60 (dk_at dksJ2_ulp_2_0 4 rfl rfl)
theorem dJ2_ulp_2_5 : decode cJ2_ulp_2 5 = .ok (.iload_n 1, 1) := dk_27 (dk_at dksJ2_ulp_2_0 5 rfl rfl)
theorem dJ2_ulp_2_6 : decode cJ2_ulp_2 6 = .ok (.lookupswitch 39 #[(-127, 33), (128, 26)], 26) := by decide +kernel
theorem dJ2_ulp_2_32 : decode cJ2_ulp_2 32 = .ok (.fload_n 0, 1) := dk_34 (dk_at dksJ2_ulp_2_2 0 rfl rfl)
theorem dJ2_ulp_2_33 : decode cJ2_ulp_2 33 = .ok (.invokestatic 292, 3) := dk_184 1 36 (dk_at dksJ2_ulp_2_2 1 rfl rfl)
theorem dJ2_ulp_2_36 : decode cJ2_ulp_2 36 = .ok (.goto 63, 3) := dk_167 0 63 (dk_at dksJ2_ulp_2_2 4 rfl rfl)
theorem dJ2_ulp_2_39 : decode cJ2_ulp_2 39 = .ok (.ldc_w 295, 3) := dk_19 1 39 (dk_at dksJ2_ulp_2_2 7 rfl rfl)
theorem dJ2_ulp_2_42 : decode cJ2_ulp_2 42 = .ok (.goto 57, 3) := dk_167 0 57 (dk_at dksJ2_ulp_2_2 10 rfl rfl)
theorem dJ2_ulp_2_45 : decode cJ2_ulp_2 45 = .ok (.getstatic 243, 3) := dk_178 0 243 (dk_at dksJ2_ulp_2_2 13 rfl rfl)
theorem dJ2_ulp_2_48 : decode cJ2_ulp_2 48 = .ok (.ifCond .ne 23, 3) := dk_154 0 23 (dk_at dksJ2_ulp_2_2 16 rfl rfl)
theorem dJ2_ulp_2_51 : decode cJ2_ulp_2 51 = .ok (.iload_n 1, 1) := dk_27 (dk_at dksJ2_ulp_2_2 19 rfl rfl)
theorem dJ2_ulp_2_52 : decode cJ2_ulp_2 52 = .ok (.bipush 127, 2) := dk_16 127 (dk_at dksJ2_ulp_2_2 20 rfl rfl)
theorem dJ2_ulp_2_54 : decode cJ2_ulp_2 54 = .ok (.if_icmp .gt 9, 3) := dk_163 0 9 (dk_at dksJ2_ulp_2_3 0 rfl rfl)
theorem dJ2_ulp_2_57 : decode cJ2_ulp_2 57 = .ok (.iload_n 1, 1) := dk_27 (dk_at dksJ2_ulp_2_3 3 rfl rfl)
theorem dJ2_ulp_2_58 : decode cJ2_ulp_2 58 = .ok (.bipush (-126), 2) := dk_16 130 (dk_at dksJ2_ulp_2_3 4 rfl rfl)
theorem dJ2_ulp_2_60 : decode cJ2_ulp_2 60 = .ok (.if_icmp .ge 11, 3) := dk_162 0 11 (dk_at dksJ2_ulp_2_3 6 rfl rfl)
theorem dJ2_ulp_2_63 : decode cJ2_ulp_2 63 = .ok (.new 247, 3) := dk_187 0 247 (dk_at dksJ2_ulp_2_3 9 rfl rfl)
theorem dJ2_ulp_2_66 : decode cJ2_ulp_2 66 = .ok (.dup, 1) := dk_89 (dk_at dksJ2_ulp_2_3 12 rfl rfl)
theorem dJ2_ulp_2_67 : decode cJ2_ulp_2 67 = .ok (.invokespecial 249, 3) := dk_183 0 249 (dk_at dksJ2_ulp_2_3 13 rfl rfl)
theorem dJ2_ulp_2_70 : decode cJ2_ulp_2 70 = .ok (.athrow, 1) := dk_191 (dk_at dksJ2_ulp_2_3 16 rfl rfl)
theorem dJ2_ulp_2_71 : decode cJ2_ulp_2 71 = .ok (.iload_n 1, 1) := dk_27 (dk_at dksJ2_ulp_2_3 17 rfl rfl)
theorem dJ2_ulp_2_72 : decode cJ2_ulp_2 72 = .ok (.bipush 23, 2) := dk_16 23 (dk_at dksJ2_ulp_2_3 18 rfl rfl)
theorem dJ2_ulp_2_74 : decode cJ2_ulp_2 74 = .ok (.isub, 1) := dk_100 (dk_at dksJ2_ulp_2_3 20 rfl rfl)
theorem dJ2_ulp_2_75 : decode cJ2_ulp_2 75 = .ok (.istore_n 1, 1) := dk_60 (dk_at dksJ2_ulp_2_3 21 rfl rfl)
theorem dJ2_ulp_2_76 : decode cJ2_ulp_2 76 = .ok (.iload_n 1, 1) := dk_27 (dk_at dksJ2_ulp_2_3 22 rfl rfl)
theorem dJ2_ulp_2_77 : decode cJ2_ulp_2 77 = .ok (.bipush (-126), 2) := dk_16 130 (dk_at dksJ2_ulp_2_4 0 rfl rfl)
theorem dJ2_ulp_2_79 : decode cJ2_ulp_2 79 = .ok (.if_icmp .lt 10, 3) := dk_161 0 10 (dk_at dksJ2_ulp_2_4 2 rfl rfl)
theorem dJ2_ulp_2_82 : decode cJ2_ulp_2 82 = .ok (.iload_n 1, 1) := dk_27 (dk_at dksJ2_ulp_2_4 5 rfl rfl)
theorem dJ2_ulp_2_83 : decode cJ2_ulp_2 83 = .ok (.invokestatic 296, 3) := dk_184 1 40 (dk_at dksJ2_ulp_2_4 6 rfl rfl)
theorem dJ2_ulp_2_86 : decode cJ2_ulp_2 86 = .ok (.goto 13, 3) := dk_167 0 13 (dk_at dksJ2_ulp_2_4 9 rfl rfl)
theorem dJ2_ulp_2_89 : decode cJ2_ulp_2 89 = .ok (.iconst 1, 1) := dk_4 (dk_at dksJ2_ulp_2_4 12 rfl rfl)
theorem dJ2_ulp_2_90 : decode cJ2_ulp_2 90 = .ok (.iload_n 1, 1) := dk_27 (dk_at dksJ2_ulp_2_4 13 rfl rfl)
theorem dJ2_ulp_2_91 : decode cJ2_ulp_2 91 = .ok (.sipush (-149), 3) := dk_17 255 107 (dk_at dksJ2_ulp_2_4 14 rfl rfl)
theorem dJ2_ulp_2_94 : decode cJ2_ulp_2 94 = .ok (.isub, 1) := dk_100 (dk_at dksJ2_ulp_2_4 17 rfl rfl)
theorem dJ2_ulp_2_95 : decode cJ2_ulp_2 95 = .ok (.ishl, 1) := dk_120 (dk_at dksJ2_ulp_2_4 18 rfl rfl)
theorem dJ2_ulp_2_96 : decode cJ2_ulp_2 96 = .ok (.invokestatic 162, 3) := dk_184 0 162 (dk_at dksJ2_ulp_2_4 19 rfl rfl)
theorem dJ2_ulp_2_99 : decode cJ2_ulp_2 99 = .ok (.freturn, 1) := dk_174 (dk_at dksJ2_ulp_2_4 22 rfl rfl)
abbrev cJ2_getExponent_2 : ByteArray := prog_21_method_91_code
def yJ2_getExponent_2 : MethodName := ⟨RJ2, "getExponent", "(F)I"⟩
def dkwJ2_getExponent_2_0 : List UInt8 := [34, 184, 0, 68, 18, 76, 126, 16, 23, 122, 16, 127, 100, 172]
abbrev dktJ2_getExponent_2_0 : List UInt8 := dkwJ2_getExponent_2_0 ++ []
theorem dksJ2_getExponent_2_0 : cJ2_getExponent_2.data.toList.drop 0 = dktJ2_getExponent_2_0 := by decide +kernel
theorem dJ2_getExponent_2_0 : decode cJ2_getExponent_2 0 = .ok (.fload_n 0, 1) := dk_34 (dk_at dksJ2_getExponent_2_0 0 rfl rfl)
theorem dJ2_getExponent_2_1 : decode cJ2_getExponent_2 1 = .ok (.invokestatic 68, 3) := dk_184 0 68 (dk_at dksJ2_getExponent_2_0 1 rfl rfl)
theorem dJ2_getExponent_2_4 : decode cJ2_getExponent_2 4 = .ok (.ldc 76, 2) := dk_18 76 (dk_at dksJ2_getExponent_2_0 4 rfl rfl)
theorem dJ2_getExponent_2_6 : decode cJ2_getExponent_2 6 = .ok (.iand, 1) := dk_126 (dk_at dksJ2_getExponent_2_0 6 rfl rfl)
theorem dJ2_getExponent_2_7 : decode cJ2_getExponent_2 7 = .ok (.bipush 23, 2) := dk_16 23 (dk_at dksJ2_getExponent_2_0 7 rfl rfl)
theorem dJ2_getExponent_2_9 : decode cJ2_getExponent_2 9 = .ok (.ishr, 1) := dk_122 (dk_at dksJ2_getExponent_2_0 9 rfl rfl)
theorem dJ2_getExponent_2_10 : decode cJ2_getExponent_2 10 = .ok (.bipush 127, 2) := dk_16 127 (dk_at dksJ2_getExponent_2_0 10 rfl rfl)
theorem dJ2_getExponent_2_12 : decode cJ2_getExponent_2 12 = .ok (.isub, 1) := dk_100 (dk_at dksJ2_getExponent_2_0 12 rfl rfl)
theorem dJ2_getExponent_2_13 : decode cJ2_getExponent_2 13 = .ok (.ireturn, 1) := dk_172 (dk_at dksJ2_getExponent_2_0 13 rfl rfl)
abbrev cJ2_abs_2 : ByteArray := prog_21_method_63_code
def yJ2_abs_2 : MethodName := ⟨RJ2, "abs", "(F)F"⟩
def dkwJ2_abs_2_0 : List UInt8 := [34, 184, 0, 68, 18, 134, 126, 184, 0, 162, 174]
abbrev dktJ2_abs_2_0 : List UInt8 := dkwJ2_abs_2_0 ++ []
theorem dksJ2_abs_2_0 : cJ2_abs_2.data.toList.drop 0 = dktJ2_abs_2_0 := by decide +kernel
theorem dJ2_abs_2_0 : decode cJ2_abs_2 0 = .ok (.fload_n 0, 1) := dk_34 (dk_at dksJ2_abs_2_0 0 rfl rfl)
theorem dJ2_abs_2_1 : decode cJ2_abs_2 1 = .ok (.invokestatic 68, 3) := dk_184 0 68 (dk_at dksJ2_abs_2_0 1 rfl rfl)
theorem dJ2_abs_2_4 : decode cJ2_abs_2 4 = .ok (.ldc 134, 2) := dk_18 134 (dk_at dksJ2_abs_2_0 4 rfl rfl)
theorem dJ2_abs_2_6 : decode cJ2_abs_2 6 = .ok (.iand, 1) := dk_126 (dk_at dksJ2_abs_2_0 6 rfl rfl)
theorem dJ2_abs_2_7 : decode cJ2_abs_2 7 = .ok (.invokestatic 162, 3) := dk_184 0 162 (dk_at dksJ2_abs_2_0 7 rfl rfl)
theorem dJ2_abs_2_10 : decode cJ2_abs_2 10 = .ok (.freturn, 1) := dk_174 (dk_at dksJ2_abs_2_0 10 rfl rfl)
abbrev cJ2_powerOfTwoF : ByteArray := prog_21_method_102_code
def yJ2_powerOfTwoF : MethodName := ⟨RJ2, "powerOfTwoF", "(I)F"⟩
def dkwJ2_powerOfTwoF_1 : List UInt8 := [183, 0, 249, 191, 26, 16, 127, 96, 16, 23, 120, 18, 76, 126, 184, 0, 162, 174]
abbrev dktJ2_powerOfTwoF_1 : List UInt8 := dkwJ2_powerOfTwoF_1 ++ []
def dkwJ2_powerOfTwoF_0 : List UInt8 := [178, 0, 243, 154, 0, 23, 26, 16, 130, 161, 0, 9, 26, 16, 127, 164, 0, 11, 187, 0, 247, 89]
abbrev dktJ2_powerOfTwoF_0 : List UInt8 := dkwJ2_powerOfTwoF_0 ++ dktJ2_powerOfTwoF_1
theorem dksJ2_powerOfTwoF_0 : cJ2_powerOfTwoF.data.toList.drop 0 = dktJ2_powerOfTwoF_0 := by decide +kernel
theorem dksJ2_powerOfTwoF_1 : cJ2_powerOfTwoF.data.toList.drop 22 = dktJ2_powerOfTwoF_1 := dk_seg dksJ2_powerOfTwoF_0 22 rfl rfl
theorem dJ2_powerOfTwoF_0 : decode cJ2_powerOfTwoF 0 = .ok (.getstatic 243, 3) := dk_178 0 243 (dk_at dksJ2_powerOfTwoF_0 0 rfl rfl)
theorem dJ2_powerOfTwoF_3 : decode cJ2_powerOfTwoF 3 = .ok (.ifCond .ne 23, 3) := dk_154 0 23 (dk_at dksJ2_powerOfTwoF_0 3 rfl rfl)
theorem dJ2_powerOfTwoF_6 : decode cJ2_powerOfTwoF 6 = .ok (.iload_n 0, 1) := dk_26 (dk_at dksJ2_powerOfTwoF_0 6 rfl rfl)
theorem dJ2_powerOfTwoF_7 : decode cJ2_powerOfTwoF 7 = .ok (.bipush (-126), 2) := dk_16 130 (dk_at dksJ2_powerOfTwoF_0 7 rfl rfl)
theorem dJ2_powerOfTwoF_9 : decode cJ2_powerOfTwoF 9 = .ok (.if_icmp .lt 9, 3) := dk_161 0 9 (dk_at dksJ2_powerOfTwoF_0 9 rfl rfl)
theorem dJ2_powerOfTwoF_12 : decode cJ2_powerOfTwoF 12 = .ok (.iload_n 0, 1) := dk_26 (dk_at dksJ2_powerOfTwoF_0 12 rfl rfl)
theorem dJ2_powerOfTwoF_13 : decode cJ2_powerOfTwoF 13 = .ok (.bipush 127, 2) := dk_16 127 (dk_at dksJ2_powerOfTwoF_0 13 rfl rfl)
theorem dJ2_powerOfTwoF_15 : decode cJ2_powerOfTwoF 15 = .ok (.if_icmp .le 11, 3) := dk_164 0 11 (dk_at dksJ2_powerOfTwoF_0 15 rfl rfl)
theorem dJ2_powerOfTwoF_18 : decode cJ2_powerOfTwoF 18 = .ok (.new 247, 3) := dk_187 0 247 (dk_at dksJ2_powerOfTwoF_0 18 rfl rfl)
theorem dJ2_powerOfTwoF_21 : decode cJ2_powerOfTwoF 21 = .ok (.dup, 1) := dk_89 (dk_at dksJ2_powerOfTwoF_0 21 rfl rfl)
theorem dJ2_powerOfTwoF_22 : decode cJ2_powerOfTwoF 22 = .ok (.invokespecial 249, 3) := dk_183 0 249 (dk_at dksJ2_powerOfTwoF_1 0 rfl rfl)
theorem dJ2_powerOfTwoF_25 : decode cJ2_powerOfTwoF 25 = .ok (.athrow, 1) := dk_191 (dk_at dksJ2_powerOfTwoF_1 3 rfl rfl)
theorem dJ2_powerOfTwoF_26 : decode cJ2_powerOfTwoF 26 = .ok (.iload_n 0, 1) := dk_26 (dk_at dksJ2_powerOfTwoF_1 4 rfl rfl)
theorem dJ2_powerOfTwoF_27 : decode cJ2_powerOfTwoF 27 = .ok (.bipush 127, 2) := dk_16 127 (dk_at dksJ2_powerOfTwoF_1 5 rfl rfl)
theorem dJ2_powerOfTwoF_29 : decode cJ2_powerOfTwoF 29 = .ok (.iadd, 1) := dk_96 (dk_at dksJ2_powerOfTwoF_1 7 rfl rfl)
theorem dJ2_powerOfTwoF_30 : decode cJ2_powerOfTwoF 30 = .ok (.bipush 23, 2) := dk_16 23 (dk_at dksJ2_powerOfTwoF_1 8 rfl rfl)
theorem dJ2_powerOfTwoF_32 : decode cJ2_powerOfTwoF 32 = .ok (.ishl, 1) := dk_120 (dk_at dksJ2_powerOfTwoF_1 10 rfl rfl)
theorem dJ2_powerOfTwoF_33 : decode cJ2_powerOfTwoF 33 = .ok (.ldc 76, 2) := dk_18 76 (dk_at dksJ2_powerOfTwoF_1 11 rfl rfl)
theorem dJ2_powerOfTwoF_35 : decode cJ2_powerOfTwoF 35 = .ok (.iand, 1) := dk_126 (dk_at dksJ2_powerOfTwoF_1 13 rfl rfl)
theorem dJ2_powerOfTwoF_36 : decode cJ2_powerOfTwoF 36 = .ok (.invokestatic 162, 3) := dk_184 0 162 (dk_at dksJ2_powerOfTwoF_1 14 rfl rfl)
theorem dJ2_powerOfTwoF_39 : decode cJ2_powerOfTwoF 39 = .ok (.freturn, 1) := dk_174 (dk_at dksJ2_powerOfTwoF_1 17 rfl rfl)
abbrev cJ2_multiplyHigh : ByteArray := prog_21_method_45_code
def yJ2_multiplyHigh : MethodName := ⟨RJ2, "multiplyHigh", "(JJ)J"⟩
def dkwJ2_multiplyHigh_3 : List UInt8 := [22, 4, 22, 8, 105, 22, 18, 97, 22, 16, 16, 32, 123, 97, 173]
abbrev dktJ2_multiplyHigh_3 : List UInt8 := dkwJ2_multiplyHigh_3 ++ []
def dkwJ2_multiplyHigh_2 : List UInt8 := [20, 0, 138, 127, 55, 16, 22, 14, 16, 32, 123, 55, 18, 22, 16, 22, 6, 22, 8, 105, 97, 55, 16]
abbrev dktJ2_multiplyHigh_2 : List UInt8 := dkwJ2_multiplyHigh_2 ++ dktJ2_multiplyHigh_3
def dkwJ2_multiplyHigh_1 : List UInt8 := [55, 10, 22, 6, 22, 10, 105, 55, 12, 22, 4, 22, 10, 105, 22, 12, 16, 32, 125, 97, 55, 14, 22, 14]
abbrev dktJ2_multiplyHigh_1 : List UInt8 := dkwJ2_multiplyHigh_1 ++ dktJ2_multiplyHigh_2
def dkwJ2_multiplyHigh_0 : List UInt8 := [30, 16, 32, 123, 55, 4, 30, 20, 0, 138, 127, 55, 6, 32, 16, 32, 123, 55, 8, 32, 20, 0, 138, 127]
abbrev dktJ2_multiplyHigh_0 : List UInt8 := dkwJ2_multiplyHigh_0 ++ dktJ2_multiplyHigh_1
theorem dksJ2_multiplyHigh_0 : cJ2_multiplyHigh.data.toList.drop 0 = dktJ2_multiplyHigh_0 := by decide +kernel
theorem dksJ2_multiplyHigh_1 : cJ2_multiplyHigh.data.toList.drop 24 = dktJ2_multiplyHigh_1 := dk_seg dksJ2_multiplyHigh_0 24 rfl rfl
theorem dksJ2_multiplyHigh_2 : cJ2_multiplyHigh.data.toList.drop 48 = dktJ2_multiplyHigh_2 := dk_seg dksJ2_multiplyHigh_1 24 rfl rfl
theorem dksJ2_multiplyHigh_3 : cJ2_multiplyHigh.data.toList.drop 71 = dktJ2_multiplyHigh_3 := dk_seg dksJ2_multiplyHigh_2 23 rfl rfl
theorem dJ2_multiplyHigh_0 : decode cJ2_multiplyHigh 0 = .ok (.lload_n 0, 1) := dk_30 (dk_at dksJ2_multiplyHigh_0 0 rfl rfl)
theorem dJ2_multiplyHigh_1 : decode cJ2_multiplyHigh 1 = .ok (.bipush 32, 2) := dk_16 32 (dk_at dksJ2_multiplyHigh_0 1 rfl rfl)
theorem dJ2_multiplyHigh_3 : decode cJ2_multiplyHigh 3 = .ok (.lshr, 1) := dk_123 (dk_at dksJ2_multiplyHigh_0 3 rfl rfl)
theorem dJ2_multiplyHigh_4 : decode cJ2_multiplyHigh 4 = .ok (.lstore 4, 2) := dk_55 4 (dk_at dksJ2_multiplyHigh_0 4 rfl rfl)
theorem dJ2_multiplyHigh_6 : decode cJ2_multiplyHigh 6 = .ok (.lload_n 0, 1) := dk_30 (dk_at dksJ2_multiplyHigh_0 6 rfl rfl)
theorem dJ2_multiplyHigh_7 : decode cJ2_multiplyHigh 7 = .ok (.ldc2_w 138, 3) := dk_20 0 138 (dk_at dksJ2_multiplyHigh_0 7 rfl rfl)
theorem dJ2_multiplyHigh_10 : decode cJ2_multiplyHigh 10 = .ok (.land, 1) := dk_127 (dk_at dksJ2_multiplyHigh_0 10 rfl rfl)
theorem dJ2_multiplyHigh_11 : decode cJ2_multiplyHigh 11 = .ok (.lstore 6, 2) := dk_55 6 (dk_at dksJ2_multiplyHigh_0 11 rfl rfl)
theorem dJ2_multiplyHigh_13 : decode cJ2_multiplyHigh 13 = .ok (.lload_n 2, 1) := dk_32 (dk_at dksJ2_multiplyHigh_0 13 rfl rfl)
theorem dJ2_multiplyHigh_14 : decode cJ2_multiplyHigh 14 = .ok (.bipush 32, 2) := dk_16 32 (dk_at dksJ2_multiplyHigh_0 14 rfl rfl)
theorem dJ2_multiplyHigh_16 : decode cJ2_multiplyHigh 16 = .ok (.lshr, 1) := dk_123 (dk_at dksJ2_multiplyHigh_0 16 rfl rfl)
theorem dJ2_multiplyHigh_17 : decode cJ2_multiplyHigh 17 = .ok (.lstore 8, 2) := dk_55 8 (dk_at dksJ2_multiplyHigh_0 17 rfl rfl)
theorem dJ2_multiplyHigh_19 : decode cJ2_multiplyHigh 19 = .ok (.lload_n 2, 1) := dk_32 (dk_at dksJ2_multiplyHigh_0 19 rfl rfl)
theorem dJ2_multiplyHigh_20 : decode cJ2_multiplyHigh 20 = .ok (.ldc2_w 138, 3) := dk_20 0 138 (dk_at dksJ2_multiplyHigh_0 20 rfl rfl)
theorem dJ2_multiplyHigh_23 : decode cJ2_multiplyHigh 23 = .ok (.land, 1) := dk_127 (dk_at dksJ2_multiplyHigh_0 23 rfl rfl)
theorem dJ2_multiplyHigh_24 : decode cJ2_multiplyHigh 24 = .ok (.lstore 10, 2) := dk_55 10 (dk_at dksJ2_multiplyHigh_1 0 rfl rfl)
theorem dJ2_multiplyHigh_26 : decode cJ2_multiplyHigh 26 = .ok (.lload 6, 2) := dk_22 6 (dk_at dksJ2_multiplyHigh_1 2 rfl rfl)
theorem dJ2_multiplyHigh_28 : decode cJ2_multiplyHigh 28 = .ok (.lload 10, 2) := dk_22 10 (dk_at dksJ2_multiplyHigh_1 4 rfl rfl)
theorem dJ2_multiplyHigh_30 : decode cJ2_multiplyHigh 30 = .ok (.lmul, 1) := dk_105 (dk_at dksJ2_multiplyHigh_1 6 rfl rfl)
theorem dJ2_multiplyHigh_31 : decode cJ2_multiplyHigh 31 = .ok (.lstore 12, 2) := dk_55 12 (dk_at dksJ2_multiplyHigh_1 7 rfl rfl)
theorem dJ2_multiplyHigh_33 : decode cJ2_multiplyHigh 33 = .ok (.lload 4, 2) := dk_22 4 (dk_at dksJ2_multiplyHigh_1 9 rfl rfl)
theorem dJ2_multiplyHigh_35 : decode cJ2_multiplyHigh 35 = .ok (.lload 10, 2) := dk_22 10 (dk_at dksJ2_multiplyHigh_1 11 rfl rfl)
theorem dJ2_multiplyHigh_37 : decode cJ2_multiplyHigh 37 = .ok (.lmul, 1) := dk_105 (dk_at dksJ2_multiplyHigh_1 13 rfl rfl)
theorem dJ2_multiplyHigh_38 : decode cJ2_multiplyHigh 38 = .ok (.lload 12, 2) := dk_22 12 (dk_at dksJ2_multiplyHigh_1 14 rfl rfl)
theorem dJ2_multiplyHigh_40 : decode cJ2_multiplyHigh 40 = .ok (.bipush 32, 2) := dk_16 32 (dk_at dksJ2_multiplyHigh_1 16 rfl rfl)
theorem dJ2_multiplyHigh_42 : decode cJ2_multiplyHigh 42 = .ok (.lushr, 1) := dk_125 (dk_at dksJ2_multiplyHigh_1 18 rfl rfl)
theorem dJ2_multiplyHigh_43 : decode cJ2_multiplyHigh 43 = .ok (.ladd, 1) := dk_97 (dk_at dksJ2_multiplyHigh_1 19 rfl rfl)
theorem dJ2_multiplyHigh_44 : decode cJ2_multiplyHigh 44 = .ok (.lstore 14, 2) := dk_55 14 (dk_at dksJ2_multiplyHigh_1 20 rfl rfl)
theorem dJ2_multiplyHigh_46 : decode cJ2_multiplyHigh 46 = .ok (.lload 14, 2) := dk_22 14 (dk_at dksJ2_multiplyHigh_1 22 rfl rfl)
theorem dJ2_multiplyHigh_48 : decode cJ2_multiplyHigh 48 = .ok (.ldc2_w 138, 3) := dk_20 0 138 (dk_at dksJ2_multiplyHigh_2 0 rfl rfl)
theorem dJ2_multiplyHigh_51 : decode cJ2_multiplyHigh 51 = .ok (.land, 1) := dk_127 (dk_at dksJ2_multiplyHigh_2 3 rfl rfl)
theorem dJ2_multiplyHigh_52 : decode cJ2_multiplyHigh 52 = .ok (.lstore 16, 2) := dk_55 16 (dk_at dksJ2_multiplyHigh_2 4 rfl rfl)
theorem dJ2_multiplyHigh_54 : decode cJ2_multiplyHigh 54 = .ok (.lload 14, 2) := dk_22 14 (dk_at dksJ2_multiplyHigh_2 6 rfl rfl)
theorem dJ2_multiplyHigh_56 : decode cJ2_multiplyHigh 56 = .ok (.bipush 32, 2) := dk_16 32 (dk_at dksJ2_multiplyHigh_2 8 rfl rfl)
theorem dJ2_multiplyHigh_58 : decode cJ2_multiplyHigh 58 = .ok (.lshr, 1) := dk_123 (dk_at dksJ2_multiplyHigh_2 10 rfl rfl)
theorem dJ2_multiplyHigh_59 : decode cJ2_multiplyHigh 59 = .ok (.lstore 18, 2) := dk_55 18 (dk_at dksJ2_multiplyHigh_2 11 rfl rfl)
theorem dJ2_multiplyHigh_61 : decode cJ2_multiplyHigh 61 = .ok (.lload 16, 2) := dk_22 16 (dk_at dksJ2_multiplyHigh_2 13 rfl rfl)
theorem dJ2_multiplyHigh_63 : decode cJ2_multiplyHigh 63 = .ok (.lload 6, 2) := dk_22 6 (dk_at dksJ2_multiplyHigh_2 15 rfl rfl)
theorem dJ2_multiplyHigh_65 : decode cJ2_multiplyHigh 65 = .ok (.lload 8, 2) := dk_22 8 (dk_at dksJ2_multiplyHigh_2 17 rfl rfl)
theorem dJ2_multiplyHigh_67 : decode cJ2_multiplyHigh 67 = .ok (.lmul, 1) := dk_105 (dk_at dksJ2_multiplyHigh_2 19 rfl rfl)
theorem dJ2_multiplyHigh_68 : decode cJ2_multiplyHigh 68 = .ok (.ladd, 1) := dk_97 (dk_at dksJ2_multiplyHigh_2 20 rfl rfl)
theorem dJ2_multiplyHigh_69 : decode cJ2_multiplyHigh 69 = .ok (.lstore 16, 2) := dk_55 16 (dk_at dksJ2_multiplyHigh_2 21 rfl rfl)
theorem dJ2_multiplyHigh_71 : decode cJ2_multiplyHigh 71 = .ok (.lload 4, 2) := dk_22 4 (dk_at dksJ2_multiplyHigh_3 0 rfl rfl)
theorem dJ2_multiplyHigh_73 : decode cJ2_multiplyHigh 73 = .ok (.lload 8, 2) := dk_22 8 (dk_at dksJ2_multiplyHigh_3 2 rfl rfl)
theorem dJ2_multiplyHigh_75 : decode cJ2_multiplyHigh 75 = .ok (.lmul, 1) := dk_105 (dk_at dksJ2_multiplyHigh_3 4 rfl rfl)
theorem dJ2_multiplyHigh_76 : decode cJ2_multiplyHigh 76 = .ok (.lload 18, 2) := dk_22 18 (dk_at dksJ2_multiplyHigh_3 5 rfl rfl)
theorem dJ2_multiplyHigh_78 : decode cJ2_multiplyHigh 78 = .ok (.ladd, 1) := dk_97 (dk_at dksJ2_multiplyHigh_3 7 rfl rfl)
theorem dJ2_multiplyHigh_79 : decode cJ2_multiplyHigh 79 = .ok (.lload 16, 2) := dk_22 16 (dk_at dksJ2_multiplyHigh_3 8 rfl rfl)
theorem dJ2_multiplyHigh_81 : decode cJ2_multiplyHigh 81 = .ok (.bipush 32, 2) := dk_16 32 (dk_at dksJ2_multiplyHigh_3 10 rfl rfl)
theorem dJ2_multiplyHigh_83 : decode cJ2_multiplyHigh 83 = .ok (.lshr, 1) := dk_123 (dk_at dksJ2_multiplyHigh_3 12 rfl rfl)
theorem dJ2_multiplyHigh_84 : decode cJ2_multiplyHigh 84 = .ok (.ladd, 1) := dk_97 (dk_at dksJ2_multiplyHigh_3 13 rfl rfl)
theorem dJ2_multiplyHigh_85 : decode cJ2_multiplyHigh 85 = .ok (.lreturn, 1) := dk_173 (dk_at dksJ2_multiplyHigh_3 14 rfl rfl)
abbrev cJ2_abs_3 : ByteArray := prog_21_method_61_code
def yJ2_abs_3 : MethodName := ⟨RJ2, "abs", "(J)J"⟩
def dkwJ2_abs_3_0 : List UInt8 := [30, 9, 148, 156, 0, 8, 30, 117, 167, 0, 4, 30, 173]
abbrev dktJ2_abs_3_0 : List UInt8 := dkwJ2_abs_3_0 ++ []
theorem dksJ2_abs_3_0 : cJ2_abs_3.data.toList.drop 0 = dktJ2_abs_3_0 := by decide +kernel
theorem dJ2_abs_3_0 : decode cJ2_abs_3 0 = .ok (.lload_n 0, 1) := dk_30 (dk_at dksJ2_abs_3_0 0 rfl rfl)
theorem dJ2_abs_3_1 : decode cJ2_abs_3 1 = .ok (.lconst 0, 1) := dk_9 (dk_at dksJ2_abs_3_0 1 rfl rfl)
theorem dJ2_abs_3_2 : decode cJ2_abs_3 2 = .ok (.lcmp, 1) := dk_148 (dk_at dksJ2_abs_3_0 2 rfl rfl)
theorem dJ2_abs_3_3 : decode cJ2_abs_3 3 = .ok (.ifCond .ge 8, 3) := dk_156 0 8 (dk_at dksJ2_abs_3_0 3 rfl rfl)
theorem dJ2_abs_3_6 : decode cJ2_abs_3 6 = .ok (.lload_n 0, 1) := dk_30 (dk_at dksJ2_abs_3_0 6 rfl rfl)
theorem dJ2_abs_3_7 : decode cJ2_abs_3 7 = .ok (.lneg, 1) := dk_117 (dk_at dksJ2_abs_3_0 7 rfl rfl)
theorem dJ2_abs_3_8 : decode cJ2_abs_3 8 = .ok (.goto 4, 3) := dk_167 0 4 (dk_at dksJ2_abs_3_0 8 rfl rfl)
theorem dJ2_abs_3_11 : decode cJ2_abs_3 11 = .ok (.lload_n 0, 1) := dk_30 (dk_at dksJ2_abs_3_0 11 rfl rfl)
theorem dJ2_abs_3_12 : decode cJ2_abs_3 12 = .ok (.lreturn, 1) := dk_173 (dk_at dksJ2_abs_3_0 12 rfl rfl)
abbrev cJ2_ceil : ByteArray := prog_21_method_16_code
def yJ2_ceil : MethodName := ⟨RJ2, "ceil", "(D)D"⟩
theorem dJ2_ceil_0 : decode cJ2_ceil 0 = .ok (.dload_n 0, 1) := by decide +kernel
theorem dJ2_ceil_1 : decode cJ2_ceil 1 = .ok (.invokestatic 53, 3) := by decide +kernel
theorem dJ2_ceil_4 : decode cJ2_ceil 4 = .ok (.dreturn, 1) := by decide +kernel
abbrev cJ2_floor : ByteArray := prog_21_method_17_code
def yJ2_floor : MethodName := ⟨RJ2, "floor", "(D)D"⟩
theorem dJ2_floor_0 : decode cJ2_floor 0 = .ok (.dload_n 0, 1) := by decide +kernel
theorem dJ2_floor_1 : decode cJ2_floor 1 = .ok (.invokestatic 56, 3) := by decide +kernel
theorem dJ2_floor_4 : decode cJ2_floor 4 = .ok (.dreturn, 1) := by decide +kernel
abbrev cJ2_rint : ByteArray := prog_21_method_18_code
def yJ2_rint : MethodName := ⟨RJ2, "rint", "(D)D"⟩
theorem dJ2_rint_0 : decode cJ2_rint 0 = .ok (.dload_n 0, 1) := by decide +kernel
theorem dJ2_rint_1 : decode cJ2_rint 1 = .ok (.invokestatic 59, 3) := by decide +kernel
theorem dJ2_rint_4 : decode cJ2_rint 4 = .ok (.dreturn, 1) := by decide +kernel
abbrev cJ2_abs_4 : ByteArray := prog_21_method_59_code
def yJ2_abs_4 : MethodName := ⟨RJ2, "abs", "(I)I"⟩
def dkwJ2_abs_4_0 : List UInt8 := [26, 156, 0, 8, 26, 116, 167, 0, 4, 26, 172]
abbrev dktJ2_abs_4_0 : List UInt8 := dkwJ2_abs_4_0 ++ []
theorem dksJ2_abs_4_0 : cJ2_abs_4.data.toList.drop 0 = dktJ2_abs_4_0 := by decide +kernel
theorem dJ2_abs_4_0 : decode cJ2_abs_4 0 = .ok (.iload_n 0, 1) := dk_26 (dk_at dksJ2_abs_4_0 0 rfl rfl)
theorem dJ2_abs_4_1 : decode cJ2_abs_4 1 = .ok (.ifCond .ge 8, 3) := dk_156 0 8 (dk_at dksJ2_abs_4_0 1 rfl rfl)
theorem dJ2_abs_4_4 : decode cJ2_abs_4 4 = .ok (.iload_n 0, 1) := dk_26 (dk_at dksJ2_abs_4_0 4 rfl rfl)
theorem dJ2_abs_4_5 : decode cJ2_abs_4 5 = .ok (.ineg, 1) := dk_116 (dk_at dksJ2_abs_4_0 5 rfl rfl)
theorem dJ2_abs_4_6 : decode cJ2_abs_4 6 = .ok (.goto 4, 3) := dk_167 0 4 (dk_at dksJ2_abs_4_0 6 rfl rfl)
theorem dJ2_abs_4_9 : decode cJ2_abs_4 9 = .ok (.iload_n 0, 1) := dk_26 (dk_at dksJ2_abs_4_0 9 rfl rfl)
theorem dJ2_abs_4_10 : decode cJ2_abs_4 10 = .ok (.ireturn, 1) := dk_172 (dk_at dksJ2_abs_4_0 10 rfl rfl)
theorem q54 : (Jvm.Cond.initialized "java/lang/Math") ∈ lw_all := lw_g (lw_at lw_m1 11 rfl) rfl
theorem q153 : (Jvm.Cond.static ({ cls := "java/lang/Math", name := "getExponent", desc := "(D)I" } : Jvm.MethodName)) ∈ lw_all := lw_g (lw_at lw_m1 110 rfl) rfl
theorem q154 : (Jvm.Cond.code ({ cls := "java/lang/Math", name := "getExponent", desc := "(D)I" } : Jvm.MethodName) prog_21_method_92_code (2 : Nat) (Option.some Jvm.ClassFile.FieldType.int)) ∈ lw_all := lw_g (lw_at lw_m1 111 rfl) rfl
theorem q155 : (Jvm.Cond.methodLink "java/lang/Math" (79 : Nat) ({ cls := "java/lang/Double", name := "doubleToRawLongBits", desc := "(D)J" } : Jvm.MethodName)) ∈ lw_all := lw_g (lw_at lw_m1 112 rfl) rfl
theorem q158 : (Jvm.Cond.constantLong "java/lang/Math" (87 : Nat) (9218868437227405312 : Int64)) ∈ lw_all := lw_g (lw_at lw_m1 115 rfl) rfl
theorem q159 : (Jvm.Cond.constantLong "java/lang/Math" (322 : Nat) (1023 : Int64)) ∈ lw_all := lw_g (lw_at lw_m1 116 rfl) rfl
theorem q161 : (Jvm.Cond.static ({ cls := "java/lang/Math", name := "scalb", desc := "(DI)D" } : Jvm.MethodName)) ∈ lw_all := lw_g (lw_at lw_m1 118 rfl) rfl
theorem q162 : (Jvm.Cond.code ({ cls := "java/lang/Math", name := "scalb", desc := "(DI)D" } : Jvm.MethodName) prog_21_method_99_code (9 : Nat) (Option.some Jvm.ClassFile.FieldType.double)) ∈ lw_all := lw_g (lw_at lw_m1 119 rfl) rfl
theorem q163 : (Jvm.Cond.constantDouble "java/lang/Math" (238 : Nat) (9221120237041090560 : UInt64)) ∈ lw_all := lw_g (lw_at lw_m1 120 rfl) rfl
theorem q164 : (Jvm.Cond.methodLink "java/lang/Math" (333 : Nat) ({ cls := "java/lang/Math", name := "max", desc := "(II)I" } : Jvm.MethodName)) ∈ lw_all := lw_g (lw_at lw_m1 121 rfl) rfl
theorem q165 : (Jvm.Cond.static ({ cls := "java/lang/Math", name := "max", desc := "(II)I" } : Jvm.MethodName)) ∈ lw_all := lw_g (lw_at lw_m1 122 rfl) rfl
theorem q166 : (Jvm.Cond.code ({ cls := "java/lang/Math", name := "max", desc := "(II)I" } : Jvm.MethodName) prog_21_method_65_code (2 : Nat) (Option.some Jvm.ClassFile.FieldType.int)) ∈ lw_all := lw_g (lw_at lw_m1 123 rfl) rfl
theorem q167 : (Jvm.Cond.fieldLink "java/lang/Math" (336 : Nat) "java/lang/Math" "twoToTheDoubleScaleDown" "D") ∈ lw_all := lw_g (lw_at lw_m1 124 rfl) rfl
theorem q168 : (Jvm.Cond.laysStatic "java/lang/Math" "twoToTheDoubleScaleDown" "D") ∈ lw_tbl := lw_at lw_m1 125 rfl
theorem q169 : (Jvm.Cond.methodLink "java/lang/Math" (340 : Nat) ({ cls := "java/lang/Math", name := "min", desc := "(II)I" } : Jvm.MethodName)) ∈ lw_all := lw_g (lw_at lw_m1 126 rfl) rfl
theorem q170 : (Jvm.Cond.static ({ cls := "java/lang/Math", name := "min", desc := "(II)I" } : Jvm.MethodName)) ∈ lw_all := lw_g (lw_at lw_m1 127 rfl) rfl
theorem q171 : (Jvm.Cond.code ({ cls := "java/lang/Math", name := "min", desc := "(II)I" } : Jvm.MethodName) prog_21_method_69_code (2 : Nat) (Option.some Jvm.ClassFile.FieldType.int)) ∈ lw_all := lw_g (lw_at lw_m1 128 rfl) rfl
theorem q172 : (Jvm.Cond.fieldLink "java/lang/Math" (342 : Nat) "java/lang/Math" "twoToTheDoubleScaleUp" "D") ∈ lw_all := lw_g (lw_at lw_m1 129 rfl) rfl
theorem q173 : (Jvm.Cond.laysStatic "java/lang/Math" "twoToTheDoubleScaleUp" "D") ∈ lw_tbl := lw_at lw_m1 130 rfl
theorem q174 : (Jvm.Cond.methodLink "java/lang/Math" (286 : Nat) ({ cls := "java/lang/Math", name := "powerOfTwoD", desc := "(I)D" } : Jvm.MethodName)) ∈ lw_all := lw_g (lw_at lw_m1 131 rfl) rfl
theorem q175 : (Jvm.Cond.static ({ cls := "java/lang/Math", name := "powerOfTwoD", desc := "(I)D" } : Jvm.MethodName)) ∈ lw_all := lw_g (lw_at lw_m1 132 rfl) rfl
theorem q176 : (Jvm.Cond.code ({ cls := "java/lang/Math", name := "powerOfTwoD", desc := "(I)D" } : Jvm.MethodName) prog_21_method_101_code (1 : Nat) (Option.some Jvm.ClassFile.FieldType.double)) ∈ lw_all := lw_g (lw_at lw_m1 133 rfl) rfl
theorem q177 : (Jvm.Cond.fieldLink "java/lang/Math" (243 : Nat) "java/lang/Math" "$assertionsDisabled" "Z") ∈ lw_all := lw_g (lw_at lw_m1 134 rfl) rfl
theorem q178 : (Jvm.Cond.laysStatic "java/lang/Math" "$assertionsDisabled" "Z") ∈ lw_tbl := lw_at lw_m1 135 rfl
theorem q179 : (Jvm.Cond.methodLink "java/lang/Math" (166 : Nat) ({ cls := "java/lang/Double", name := "longBitsToDouble", desc := "(J)D" } : Jvm.MethodName)) ∈ lw_all := lw_g (lw_at lw_m1 136 rfl) rfl
theorem q230 : (Jvm.Cond.static ({ cls := "java/lang/Math", name := "max", desc := "(JJ)J" } : Jvm.MethodName)) ∈ lw_all := lw_g (lw_at lw_m1 187 rfl) rfl
theorem q231 : (Jvm.Cond.code ({ cls := "java/lang/Math", name := "max", desc := "(JJ)J" } : Jvm.MethodName) prog_21_method_66_code (4 : Nat) (Option.some Jvm.ClassFile.FieldType.long)) ∈ lw_all := lw_g (lw_at lw_m1 188 rfl) rfl
theorem q314 : (Jvm.Cond.static ({ cls := "java/lang/Math", name := "scalb", desc := "(FI)F" } : Jvm.MethodName)) ∈ lw_all := lw_g (lw_at lw_m2 31 rfl) rfl
theorem q315 : (Jvm.Cond.code ({ cls := "java/lang/Math", name := "scalb", desc := "(FI)F" } : Jvm.MethodName) prog_21_method_100_code (3 : Nat) (Option.some Jvm.ClassFile.FieldType.float)) ∈ lw_all := lw_g (lw_at lw_m2 32 rfl) rfl
theorem q329 : (Jvm.Cond.static ({ cls := "java/lang/Math", name := "copySign", desc := "(DD)D" } : Jvm.MethodName)) ∈ lw_all := lw_g (lw_at lw_m2 46 rfl) rfl
theorem q330 : (Jvm.Cond.code ({ cls := "java/lang/Math", name := "copySign", desc := "(DD)D" } : Jvm.MethodName) prog_21_method_89_code (4 : Nat) (Option.some Jvm.ClassFile.FieldType.double)) ∈ lw_all := lw_g (lw_at lw_m2 47 rfl) rfl
theorem q331 : (Jvm.Cond.constantLong "java/lang/Math" (128 : Nat) (-9223372036854775808 : Int64)) ∈ lw_all := lw_g (lw_at lw_m2 48 rfl) rfl
theorem q332 : (Jvm.Cond.constantLong "java/lang/Math" (135 : Nat) (9223372036854775807 : Int64)) ∈ lw_all := lw_g (lw_at lw_m2 49 rfl) rfl
theorem q334 : (Jvm.Cond.static ({ cls := "java/lang/Math", name := "abs", desc := "(D)D" } : Jvm.MethodName)) ∈ lw_all := lw_g (lw_at lw_m2 51 rfl) rfl
theorem q335 : (Jvm.Cond.code ({ cls := "java/lang/Math", name := "abs", desc := "(D)D" } : Jvm.MethodName) prog_21_method_64_code (2 : Nat) (Option.some Jvm.ClassFile.FieldType.double)) ∈ lw_all := lw_g (lw_at lw_m2 52 rfl) rfl
theorem q358 : (Jvm.Cond.static ({ cls := "java/lang/Math", name := "signum", desc := "(D)D" } : Jvm.MethodName)) ∈ lw_all := lw_g (lw_at lw_m2 75 rfl) rfl
theorem q359 : (Jvm.Cond.code ({ cls := "java/lang/Math", name := "signum", desc := "(D)D" } : Jvm.MethodName) prog_21_method_81_code (2 : Nat) (Option.some Jvm.ClassFile.FieldType.double)) ∈ lw_all := lw_g (lw_at lw_m2 76 rfl) rfl
theorem q360 : (Jvm.Cond.methodLink "java/lang/Math" (205 : Nat) ({ cls := "java/lang/Double", name := "isNaN", desc := "(D)Z" } : Jvm.MethodName)) ∈ lw_all := lw_g (lw_at lw_m2 77 rfl) rfl
theorem q361 : (Jvm.Cond.methodLink "java/lang/Math" (299 : Nat) ({ cls := "java/lang/Math", name := "copySign", desc := "(DD)D" } : Jvm.MethodName)) ∈ lw_all := lw_g (lw_at lw_m2 78 rfl) rfl
theorem q372 : (Jvm.Cond.static ({ cls := "java/lang/Math", name := "nextUp", desc := "(D)D" } : Jvm.MethodName)) ∈ lw_all := lw_g (lw_at lw_m2 89 rfl) rfl
theorem q373 : (Jvm.Cond.code ({ cls := "java/lang/Math", name := "nextUp", desc := "(D)D" } : Jvm.MethodName) prog_21_method_95_code (4 : Nat) (Option.some Jvm.ClassFile.FieldType.double)) ∈ lw_all := lw_g (lw_at lw_m2 90 rfl) rfl
theorem q374 : (Jvm.Cond.constantDouble "java/lang/Math" (327 : Nat) (9218868437227405312 : UInt64)) ∈ lw_all := lw_g (lw_at lw_m2 91 rfl) rfl
theorem q375 : (Jvm.Cond.constantLong "java/lang/Math" (130 : Nat) (-1 : Int64)) ∈ lw_all := lw_g (lw_at lw_m2 92 rfl) rfl
theorem q382 : (Jvm.Cond.static ({ cls := "java/lang/Math", name := "nextUp", desc := "(F)F" } : Jvm.MethodName)) ∈ lw_all := lw_g (lw_at lw_m2 99 rfl) rfl
theorem q383 : (Jvm.Cond.code ({ cls := "java/lang/Math", name := "nextUp", desc := "(F)F" } : Jvm.MethodName) prog_21_method_96_code (2 : Nat) (Option.some Jvm.ClassFile.FieldType.float)) ∈ lw_all := lw_g (lw_at lw_m2 100 rfl) rfl
theorem q384 : (Jvm.Cond.constantFloat "java/lang/Math" (329 : Nat) (2139095040 : UInt32)) ∈ lw_all := lw_g (lw_at lw_m2 101 rfl) rfl
theorem q385 : (Jvm.Cond.methodLink "java/lang/Math" (68 : Nat) ({ cls := "java/lang/Float", name := "floatToRawIntBits", desc := "(F)I" } : Jvm.MethodName)) ∈ lw_all := lw_g (lw_at lw_m2 102 rfl) rfl
theorem q386 : (Jvm.Cond.methodLink "java/lang/Math" (162 : Nat) ({ cls := "java/lang/Float", name := "intBitsToFloat", desc := "(I)F" } : Jvm.MethodName)) ∈ lw_all := lw_g (lw_at lw_m2 103 rfl) rfl
theorem q406 : (Jvm.Cond.static ({ cls := "java/lang/Math", name := "ulp", desc := "(D)D" } : Jvm.MethodName)) ∈ lw_all := lw_g (lw_at lw_m2 123 rfl) rfl
theorem q407 : (Jvm.Cond.code ({ cls := "java/lang/Math", name := "ulp", desc := "(D)D" } : Jvm.MethodName) prog_21_method_79_code (3 : Nat) (Option.some Jvm.ClassFile.FieldType.double)) ∈ lw_all := lw_g (lw_at lw_m2 124 rfl) rfl
theorem q408 : (Jvm.Cond.methodLink "java/lang/Math" (278 : Nat) ({ cls := "java/lang/Math", name := "getExponent", desc := "(D)I" } : Jvm.MethodName)) ∈ lw_all := lw_g (lw_at lw_m2 125 rfl) rfl
theorem q409 : (Jvm.Cond.methodLink "java/lang/Math" (282 : Nat) ({ cls := "java/lang/Math", name := "abs", desc := "(D)D" } : Jvm.MethodName)) ∈ lw_all := lw_g (lw_at lw_m2 126 rfl) rfl
theorem q410 : (Jvm.Cond.constantDouble "java/lang/Math" (284 : Nat) (1 : UInt64)) ∈ lw_all := lw_g (lw_at lw_m2 127 rfl) rfl
theorem q417 : (Jvm.Cond.static ({ cls := "java/lang/Math", name := "ulp", desc := "(F)F" } : Jvm.MethodName)) ∈ lw_all := lw_g (lw_at lw_m2 134 rfl) rfl
theorem q418 : (Jvm.Cond.code ({ cls := "java/lang/Math", name := "ulp", desc := "(F)F" } : Jvm.MethodName) prog_21_method_80_code (2 : Nat) (Option.some Jvm.ClassFile.FieldType.float)) ∈ lw_all := lw_g (lw_at lw_m2 135 rfl) rfl
theorem q419 : (Jvm.Cond.methodLink "java/lang/Math" (290 : Nat) ({ cls := "java/lang/Math", name := "getExponent", desc := "(F)I" } : Jvm.MethodName)) ∈ lw_all := lw_g (lw_at lw_m2 136 rfl) rfl
theorem q420 : (Jvm.Cond.static ({ cls := "java/lang/Math", name := "getExponent", desc := "(F)I" } : Jvm.MethodName)) ∈ lw_all := lw_g (lw_at lw_m2 137 rfl) rfl
theorem q421 : (Jvm.Cond.code ({ cls := "java/lang/Math", name := "getExponent", desc := "(F)I" } : Jvm.MethodName) prog_21_method_91_code (1 : Nat) (Option.some Jvm.ClassFile.FieldType.int)) ∈ lw_all := lw_g (lw_at lw_m2 138 rfl) rfl
theorem q422 : (Jvm.Cond.constant "java/lang/Math" (76 : Nat) (2139095040 : Int32)) ∈ lw_all := lw_g (lw_at lw_m2 139 rfl) rfl
theorem q423 : (Jvm.Cond.methodLink "java/lang/Math" (292 : Nat) ({ cls := "java/lang/Math", name := "abs", desc := "(F)F" } : Jvm.MethodName)) ∈ lw_all := lw_g (lw_at lw_m2 140 rfl) rfl
theorem q424 : (Jvm.Cond.static ({ cls := "java/lang/Math", name := "abs", desc := "(F)F" } : Jvm.MethodName)) ∈ lw_all := lw_g (lw_at lw_m2 141 rfl) rfl
theorem q425 : (Jvm.Cond.code ({ cls := "java/lang/Math", name := "abs", desc := "(F)F" } : Jvm.MethodName) prog_21_method_63_code (1 : Nat) (Option.some Jvm.ClassFile.FieldType.float)) ∈ lw_all := lw_g (lw_at lw_m2 142 rfl) rfl
theorem q426 : (Jvm.Cond.constant "java/lang/Math" (134 : Nat) (2147483647 : Int32)) ∈ lw_all := lw_g (lw_at lw_m2 143 rfl) rfl
theorem q427 : (Jvm.Cond.constantFloat "java/lang/Math" (295 : Nat) (1 : UInt32)) ∈ lw_all := lw_g (lw_at lw_m2 144 rfl) rfl
theorem q428 : (Jvm.Cond.methodLink "java/lang/Math" (296 : Nat) ({ cls := "java/lang/Math", name := "powerOfTwoF", desc := "(I)F" } : Jvm.MethodName)) ∈ lw_all := lw_g (lw_at lw_m2 145 rfl) rfl
theorem q429 : (Jvm.Cond.static ({ cls := "java/lang/Math", name := "powerOfTwoF", desc := "(I)F" } : Jvm.MethodName)) ∈ lw_all := lw_g (lw_at lw_m2 146 rfl) rfl
theorem q430 : (Jvm.Cond.code ({ cls := "java/lang/Math", name := "powerOfTwoF", desc := "(I)F" } : Jvm.MethodName) prog_21_method_102_code (1 : Nat) (Option.some Jvm.ClassFile.FieldType.float)) ∈ lw_all := lw_g (lw_at lw_m2 147 rfl) rfl
theorem q445 : (Jvm.Cond.static ({ cls := "java/lang/Math", name := "multiplyHigh", desc := "(JJ)J" } : Jvm.MethodName)) ∈ lw_all := lw_g (lw_at lw_m2 162 rfl) rfl
theorem q446 : (Jvm.Cond.code ({ cls := "java/lang/Math", name := "multiplyHigh", desc := "(JJ)J" } : Jvm.MethodName) prog_21_method_45_code (20 : Nat) (Option.some Jvm.ClassFile.FieldType.long)) ∈ lw_all := lw_g (lw_at lw_m2 163 rfl) rfl
theorem q447 : (Jvm.Cond.constantLong "java/lang/Math" (138 : Nat) (4294967295 : Int64)) ∈ lw_all := lw_g (lw_at lw_m2 164 rfl) rfl
theorem q567 : (Jvm.Cond.static ({ cls := "java/lang/Math", name := "abs", desc := "(J)J" } : Jvm.MethodName)) ∈ lw_all := lw_g (lw_at lw_m3 44 rfl) rfl
theorem q568 : (Jvm.Cond.code ({ cls := "java/lang/Math", name := "abs", desc := "(J)J" } : Jvm.MethodName) prog_21_method_61_code (2 : Nat) (Option.some Jvm.ClassFile.FieldType.long)) ∈ lw_all := lw_g (lw_at lw_m3 45 rfl) rfl
theorem q580 : (Jvm.Cond.static ({ cls := "java/lang/Math", name := "ceil", desc := "(D)D" } : Jvm.MethodName)) ∈ lw_all := lw_g (lw_at lw_m3 57 rfl) rfl
theorem q581 : (Jvm.Cond.code ({ cls := "java/lang/Math", name := "ceil", desc := "(D)D" } : Jvm.MethodName) prog_21_method_16_code (2 : Nat) (Option.some Jvm.ClassFile.FieldType.double)) ∈ lw_all := lw_g (lw_at lw_m3 58 rfl) rfl
theorem q582 : (Jvm.Cond.methodLink "java/lang/Math" (53 : Nat) ({ cls := "java/lang/StrictMath", name := "ceil", desc := "(D)D" } : Jvm.MethodName)) ∈ lw_all := lw_g (lw_at lw_m3 59 rfl) rfl
theorem q597 : (Jvm.Cond.static ({ cls := "java/lang/Math", name := "floor", desc := "(D)D" } : Jvm.MethodName)) ∈ lw_all := lw_g (lw_at lw_m3 74 rfl) rfl
theorem q598 : (Jvm.Cond.code ({ cls := "java/lang/Math", name := "floor", desc := "(D)D" } : Jvm.MethodName) prog_21_method_17_code (2 : Nat) (Option.some Jvm.ClassFile.FieldType.double)) ∈ lw_all := lw_g (lw_at lw_m3 75 rfl) rfl
theorem q599 : (Jvm.Cond.methodLink "java/lang/Math" (56 : Nat) ({ cls := "java/lang/StrictMath", name := "floor", desc := "(D)D" } : Jvm.MethodName)) ∈ lw_all := lw_g (lw_at lw_m3 76 rfl) rfl
theorem q604 : (Jvm.Cond.static ({ cls := "java/lang/Math", name := "rint", desc := "(D)D" } : Jvm.MethodName)) ∈ lw_all := lw_g (lw_at lw_m3 81 rfl) rfl
theorem q605 : (Jvm.Cond.code ({ cls := "java/lang/Math", name := "rint", desc := "(D)D" } : Jvm.MethodName) prog_21_method_18_code (2 : Nat) (Option.some Jvm.ClassFile.FieldType.double)) ∈ lw_all := lw_g (lw_at lw_m3 82 rfl) rfl
theorem q606 : (Jvm.Cond.methodLink "java/lang/Math" (59 : Nat) ({ cls := "java/lang/StrictMath", name := "rint", desc := "(D)D" } : Jvm.MethodName)) ∈ lw_all := lw_g (lw_at lw_m3 83 rfl) rfl
theorem q888 : (Jvm.Cond.static ({ cls := "java/lang/Math", name := "abs", desc := "(I)I" } : Jvm.MethodName)) ∈ lw_all := lw_g (lw_at lw_m4 125 rfl) rfl
theorem q889 : (Jvm.Cond.code ({ cls := "java/lang/Math", name := "abs", desc := "(I)I" } : Jvm.MethodName) prog_21_method_59_code (1 : Nat) (Option.some Jvm.ClassFile.FieldType.int)) ∈ lw_all := lw_g (lw_at lw_m4 126 rfl) rfl
/-! java/lang/Long -/
set_option maxRecDepth 100000
def RJ3 : String := "java/lang/Long"
abbrev cJ3_numberOfLeadingZeros : ByteArray := prog_20_method_48_code
def yJ3_numberOfLeadingZeros : MethodName := ⟨RJ3, "numberOfLeadingZeros", "(J)I"⟩
def dkwJ3_numberOfLeadingZeros_1 : List UInt8 := [184, 1, 52, 172]
abbrev dktJ3_numberOfLeadingZeros_1 : List UInt8 := dkwJ3_numberOfLeadingZeros_1 ++ []
def dkwJ3_numberOfLeadingZeros_0 : List UInt8 := [30, 16, 32, 125, 136, 61, 28, 154, 0, 14, 16, 32, 30, 136, 184, 1, 52, 96, 167, 0, 7, 28]
abbrev dktJ3_numberOfLeadingZeros_0 : List UInt8 := dkwJ3_numberOfLeadingZeros_0 ++ dktJ3_numberOfLeadingZeros_1
theorem dksJ3_numberOfLeadingZeros_0 : cJ3_numberOfLeadingZeros.data.toList.drop 0 = dktJ3_numberOfLeadingZeros_0 := by decide +kernel
theorem dksJ3_numberOfLeadingZeros_1 : cJ3_numberOfLeadingZeros.data.toList.drop 22 = dktJ3_numberOfLeadingZeros_1 := dk_seg dksJ3_numberOfLeadingZeros_0 22 rfl rfl
theorem dJ3_numberOfLeadingZeros_0 : decode cJ3_numberOfLeadingZeros 0 = .ok (.lload_n 0, 1) := dk_30 (dk_at dksJ3_numberOfLeadingZeros_0 0 rfl rfl)
theorem dJ3_numberOfLeadingZeros_1 : decode cJ3_numberOfLeadingZeros 1 = .ok (.bipush 32, 2) := dk_16 32 (dk_at dksJ3_numberOfLeadingZeros_0 1 rfl rfl)
theorem dJ3_numberOfLeadingZeros_3 : decode cJ3_numberOfLeadingZeros 3 = .ok (.lushr, 1) := dk_125 (dk_at dksJ3_numberOfLeadingZeros_0 3 rfl rfl)
theorem dJ3_numberOfLeadingZeros_4 : decode cJ3_numberOfLeadingZeros 4 = .ok (.l2i, 1) := dk_136 (dk_at dksJ3_numberOfLeadingZeros_0 4 rfl rfl)
theorem dJ3_numberOfLeadingZeros_5 : decode cJ3_numberOfLeadingZeros 5 = .ok (.istore_n 2, 1) := dk_61 (dk_at dksJ3_numberOfLeadingZeros_0 5 rfl rfl)
theorem dJ3_numberOfLeadingZeros_6 : decode cJ3_numberOfLeadingZeros 6 = .ok (.iload_n 2, 1) := dk_28 (dk_at dksJ3_numberOfLeadingZeros_0 6 rfl rfl)
theorem dJ3_numberOfLeadingZeros_7 : decode cJ3_numberOfLeadingZeros 7 = .ok (.ifCond .ne 14, 3) := dk_154 0 14 (dk_at dksJ3_numberOfLeadingZeros_0 7 rfl rfl)
theorem dJ3_numberOfLeadingZeros_10 : decode cJ3_numberOfLeadingZeros 10 = .ok (.bipush 32, 2) := dk_16 32 (dk_at dksJ3_numberOfLeadingZeros_0 10 rfl rfl)
theorem dJ3_numberOfLeadingZeros_12 : decode cJ3_numberOfLeadingZeros 12 = .ok (.lload_n 0, 1) := dk_30 (dk_at dksJ3_numberOfLeadingZeros_0 12 rfl rfl)
theorem dJ3_numberOfLeadingZeros_13 : decode cJ3_numberOfLeadingZeros 13 = .ok (.l2i, 1) := dk_136 (dk_at dksJ3_numberOfLeadingZeros_0 13 rfl rfl)
theorem dJ3_numberOfLeadingZeros_14 : decode cJ3_numberOfLeadingZeros 14 = .ok (.invokestatic 308, 3) := dk_184 1 52 (dk_at dksJ3_numberOfLeadingZeros_0 14 rfl rfl)
theorem dJ3_numberOfLeadingZeros_17 : decode cJ3_numberOfLeadingZeros 17 = .ok (.iadd, 1) := dk_96 (dk_at dksJ3_numberOfLeadingZeros_0 17 rfl rfl)
theorem dJ3_numberOfLeadingZeros_18 : decode cJ3_numberOfLeadingZeros 18 = .ok (.goto 7, 3) := dk_167 0 7 (dk_at dksJ3_numberOfLeadingZeros_0 18 rfl rfl)
theorem dJ3_numberOfLeadingZeros_21 : decode cJ3_numberOfLeadingZeros 21 = .ok (.iload_n 2, 1) := dk_28 (dk_at dksJ3_numberOfLeadingZeros_0 21 rfl rfl)
theorem dJ3_numberOfLeadingZeros_22 : decode cJ3_numberOfLeadingZeros 22 = .ok (.invokestatic 308, 3) := dk_184 1 52 (dk_at dksJ3_numberOfLeadingZeros_1 0 rfl rfl)
theorem dJ3_numberOfLeadingZeros_25 : decode cJ3_numberOfLeadingZeros 25 = .ok (.ireturn, 1) := dk_172 (dk_at dksJ3_numberOfLeadingZeros_1 3 rfl rfl)
abbrev cJ3_compareUnsigned : ByteArray := prog_20_method_43_code
def yJ3_compareUnsigned : MethodName := ⟨RJ3, "compareUnsigned", "(JJ)I"⟩
def dkwJ3_compareUnsigned_0 : List UInt8 := [30, 20, 0, 168, 97, 32, 20, 0, 168, 97, 184, 1, 46, 172]
abbrev dktJ3_compareUnsigned_0 : List UInt8 := dkwJ3_compareUnsigned_0 ++ []
theorem dksJ3_compareUnsigned_0 : cJ3_compareUnsigned.data.toList.drop 0 = dktJ3_compareUnsigned_0 := by decide +kernel
theorem dJ3_compareUnsigned_0 : decode cJ3_compareUnsigned 0 = .ok (.lload_n 0, 1) := dk_30 (dk_at dksJ3_compareUnsigned_0 0 rfl rfl)
theorem dJ3_compareUnsigned_1 : decode cJ3_compareUnsigned 1 = .ok (.ldc2_w 168, 3) := dk_20 0 168 (dk_at dksJ3_compareUnsigned_0 1 rfl rfl)
theorem dJ3_compareUnsigned_4 : decode cJ3_compareUnsigned 4 = .ok (.ladd, 1) := dk_97 (dk_at dksJ3_compareUnsigned_0 4 rfl rfl)
theorem dJ3_compareUnsigned_5 : decode cJ3_compareUnsigned 5 = .ok (.lload_n 2, 1) := dk_32 (dk_at dksJ3_compareUnsigned_0 5 rfl rfl)
theorem dJ3_compareUnsigned_6 : decode cJ3_compareUnsigned 6 = .ok (.ldc2_w 168, 3) := dk_20 0 168 (dk_at dksJ3_compareUnsigned_0 6 rfl rfl)
theorem dJ3_compareUnsigned_9 : decode cJ3_compareUnsigned 9 = .ok (.ladd, 1) := dk_97 (dk_at dksJ3_compareUnsigned_0 9 rfl rfl)
theorem dJ3_compareUnsigned_10 : decode cJ3_compareUnsigned 10 = .ok (.invokestatic 302, 3) := dk_184 1 46 (dk_at dksJ3_compareUnsigned_0 10 rfl rfl)
theorem dJ3_compareUnsigned_13 : decode cJ3_compareUnsigned 13 = .ok (.ireturn, 1) := dk_172 (dk_at dksJ3_compareUnsigned_0 13 rfl rfl)
abbrev cJ3_compare : ByteArray := prog_20_method_42_code
def yJ3_compare : MethodName := ⟨RJ3, "compare", "(JJ)I"⟩
def dkwJ3_compare_0 : List UInt8 := [30, 32, 148, 156, 0, 7, 2, 167, 0, 14, 30, 32, 148, 154, 0, 7, 3, 167, 0, 4, 4, 172]
abbrev dktJ3_compare_0 : List UInt8 := dkwJ3_compare_0 ++ []
theorem dksJ3_compare_0 : cJ3_compare.data.toList.drop 0 = dktJ3_compare_0 := by decide +kernel
theorem dJ3_compare_0 : decode cJ3_compare 0 = .ok (.lload_n 0, 1) := dk_30 (dk_at dksJ3_compare_0 0 rfl rfl)
theorem dJ3_compare_1 : decode cJ3_compare 1 = .ok (.lload_n 2, 1) := dk_32 (dk_at dksJ3_compare_0 1 rfl rfl)
theorem dJ3_compare_2 : decode cJ3_compare 2 = .ok (.lcmp, 1) := dk_148 (dk_at dksJ3_compare_0 2 rfl rfl)
theorem dJ3_compare_3 : decode cJ3_compare 3 = .ok (.ifCond .ge 7, 3) := dk_156 0 7 (dk_at dksJ3_compare_0 3 rfl rfl)
theorem dJ3_compare_6 : decode cJ3_compare 6 = .ok (.iconst (-1), 1) := dk_2 (dk_at dksJ3_compare_0 6 rfl rfl)
theorem dJ3_compare_7 : decode cJ3_compare 7 = .ok (.goto 14, 3) := dk_167 0 14 (dk_at dksJ3_compare_0 7 rfl rfl)
theorem dJ3_compare_10 : decode cJ3_compare 10 = .ok (.lload_n 0, 1) := dk_30 (dk_at dksJ3_compare_0 10 rfl rfl)
theorem dJ3_compare_11 : decode cJ3_compare 11 = .ok (.lload_n 2, 1) := dk_32 (dk_at dksJ3_compare_0 11 rfl rfl)
theorem dJ3_compare_12 : decode cJ3_compare 12 = .ok (.lcmp, 1) := dk_148 (dk_at dksJ3_compare_0 12 rfl rfl)
theorem dJ3_compare_13 : decode cJ3_compare 13 = .ok (.ifCond .ne 7, 3) := dk_154 0 7 (dk_at dksJ3_compare_0 13 rfl rfl)
theorem dJ3_compare_16 : decode cJ3_compare 16 = .ok (.iconst 0, 1) := dk_3 (dk_at dksJ3_compare_0 16 rfl rfl)
theorem dJ3_compare_17 : decode cJ3_compare 17 = .ok (.goto 4, 3) := dk_167 0 4 (dk_at dksJ3_compare_0 17 rfl rfl)
theorem dJ3_compare_20 : decode cJ3_compare 20 = .ok (.iconst 1, 1) := dk_4 (dk_at dksJ3_compare_0 20 rfl rfl)
theorem dJ3_compare_21 : decode cJ3_compare 21 = .ok (.ireturn, 1) := dk_172 (dk_at dksJ3_compare_0 21 rfl rfl)
abbrev cJ3_numberOfTrailingZeros : ByteArray := prog_20_method_49_code
def yJ3_numberOfTrailingZeros : MethodName := ⟨RJ3, "numberOfTrailingZeros", "(J)I"⟩
def dkwJ3_numberOfTrailingZeros_1 : List UInt8 := [184, 1, 55, 172]
abbrev dktJ3_numberOfTrailingZeros_1 : List UInt8 := dkwJ3_numberOfTrailingZeros_1 ++ []
def dkwJ3_numberOfTrailingZeros_0 : List UInt8 := [30, 136, 61, 28, 154, 0, 17, 16, 32, 30, 16, 32, 125, 136, 184, 1, 55, 96, 167, 0, 7, 28]
abbrev dktJ3_numberOfTrailingZeros_0 : List UInt8 := dkwJ3_numberOfTrailingZeros_0 ++ dktJ3_numberOfTrailingZeros_1
theorem dksJ3_numberOfTrailingZeros_0 : cJ3_numberOfTrailingZeros.data.toList.drop 0 = dktJ3_numberOfTrailingZeros_0 := by decide +kernel
theorem dksJ3_numberOfTrailingZeros_1 : cJ3_numberOfTrailingZeros.data.toList.drop 22 = dktJ3_numberOfTrailingZeros_1 := dk_seg dksJ3_numberOfTrailingZeros_0 22 rfl rfl
theorem dJ3_numberOfTrailingZeros_0 : decode cJ3_numberOfTrailingZeros 0 = .ok (.lload_n 0, 1) := dk_30 (dk_at dksJ3_numberOfTrailingZeros_0 0 rfl rfl)
theorem dJ3_numberOfTrailingZeros_1 : decode cJ3_numberOfTrailingZeros 1 = .ok (.l2i, 1) := dk_136 (dk_at dksJ3_numberOfTrailingZeros_0 1 rfl rfl)
theorem dJ3_numberOfTrailingZeros_2 : decode cJ3_numberOfTrailingZeros 2 = .ok (.istore_n 2, 1) := dk_61 (dk_at dksJ3_numberOfTrailingZeros_0 2 rfl rfl)
theorem dJ3_numberOfTrailingZeros_3 : decode cJ3_numberOfTrailingZeros 3 = .ok (.iload_n 2, 1) := dk_28 (dk_at dksJ3_numberOfTrailingZeros_0 3 rfl rfl)
theorem dJ3_numberOfTrailingZeros_4 : decode cJ3_numberOfTrailingZeros 4 = .ok (.ifCond .ne 17, 3) := dk_154 0 17 (dk_at dksJ3_numberOfTrailingZeros_0 4 rfl rfl)
theorem dJ3_numberOfTrailingZeros_7 : decode cJ3_numberOfTrailingZeros 7 = .ok (.bipush 32, 2) := dk_16 32 (dk_at dksJ3_numberOfTrailingZeros_0 7 rfl rfl)
theorem dJ3_numberOfTrailingZeros_9 : decode cJ3_numberOfTrailingZeros 9 = .ok (.lload_n 0, 1) := dk_30 (dk_at dksJ3_numberOfTrailingZeros_0 9 rfl rfl)
theorem dJ3_numberOfTrailingZeros_10 : decode cJ3_numberOfTrailingZeros 10 = .ok (.bipush 32, 2) := dk_16 32 (dk_at dksJ3_numberOfTrailingZeros_0 10 rfl rfl)
theorem dJ3_numberOfTrailingZeros_12 : decode cJ3_numberOfTrailingZeros 12 = .ok (.lushr, 1) := dk_125 (dk_at dksJ3_numberOfTrailingZeros_0 12 rfl rfl)
theorem dJ3_numberOfTrailingZeros_13 : decode cJ3_numberOfTrailingZeros 13 = .ok (.l2i, 1) := dk_136 (dk_at dksJ3_numberOfTrailingZeros_0 13 rfl rfl)
theorem dJ3_numberOfTrailingZeros_14 : decode cJ3_numberOfTrailingZeros 14 = .ok (.invokestatic 311, 3) := dk_184 1 55 (dk_at dksJ3_numberOfTrailingZeros_0 14 rfl rfl)
theorem dJ3_numberOfTrailingZeros_17 : decode cJ3_numberOfTrailingZeros 17 = .ok (.iadd, 1) := dk_96 (dk_at dksJ3_numberOfTrailingZeros_0 17 rfl rfl)
theorem dJ3_numberOfTrailingZeros_18 : decode cJ3_numberOfTrailingZeros 18 = .ok (.goto 7, 3) := dk_167 0 7 (dk_at dksJ3_numberOfTrailingZeros_0 18 rfl rfl)
theorem dJ3_numberOfTrailingZeros_21 : decode cJ3_numberOfTrailingZeros 21 = .ok (.iload_n 2, 1) := dk_28 (dk_at dksJ3_numberOfTrailingZeros_0 21 rfl rfl)
theorem dJ3_numberOfTrailingZeros_22 : decode cJ3_numberOfTrailingZeros 22 = .ok (.invokestatic 311, 3) := dk_184 1 55 (dk_at dksJ3_numberOfTrailingZeros_1 0 rfl rfl)
theorem dJ3_numberOfTrailingZeros_25 : decode cJ3_numberOfTrailingZeros 25 = .ok (.ireturn, 1) := dk_172 (dk_at dksJ3_numberOfTrailingZeros_1 3 rfl rfl)
theorem q55 : (Jvm.Cond.initialized "java/lang/Long") ∈ lw_all := lw_g (lw_at lw_m1 12 rfl) rfl
theorem q207 : (Jvm.Cond.static ({ cls := "java/lang/Long", name := "numberOfLeadingZeros", desc := "(J)I" } : Jvm.MethodName)) ∈ lw_all := lw_g (lw_at lw_m1 164 rfl) rfl
theorem q208 : (Jvm.Cond.code ({ cls := "java/lang/Long", name := "numberOfLeadingZeros", desc := "(J)I" } : Jvm.MethodName) prog_20_method_48_code (3 : Nat) (Option.some Jvm.ClassFile.FieldType.int)) ∈ lw_all := lw_g (lw_at lw_m1 165 rfl) rfl
theorem q209 : (Jvm.Cond.methodLink "java/lang/Long" (308 : Nat) ({ cls := "java/lang/Integer", name := "numberOfLeadingZeros", desc := "(I)I" } : Jvm.MethodName)) ∈ lw_all := lw_g (lw_at lw_m1 166 rfl) rfl
theorem q260 : (Jvm.Cond.static ({ cls := "java/lang/Long", name := "compareUnsigned", desc := "(JJ)I" } : Jvm.MethodName)) ∈ lw_all := lw_g (lw_at lw_m1 217 rfl) rfl
theorem q261 : (Jvm.Cond.code ({ cls := "java/lang/Long", name := "compareUnsigned", desc := "(JJ)I" } : Jvm.MethodName) prog_20_method_43_code (4 : Nat) (Option.some Jvm.ClassFile.FieldType.int)) ∈ lw_all := lw_g (lw_at lw_m1 218 rfl) rfl
theorem q262 : (Jvm.Cond.constantLong "java/lang/Long" (168 : Nat) (-9223372036854775808 : Int64)) ∈ lw_all := lw_g (lw_at lw_m1 219 rfl) rfl
theorem q263 : (Jvm.Cond.methodLink "java/lang/Long" (302 : Nat) ({ cls := "java/lang/Long", name := "compare", desc := "(JJ)I" } : Jvm.MethodName)) ∈ lw_all := lw_g (lw_at lw_m1 220 rfl) rfl
theorem q264 : (Jvm.Cond.static ({ cls := "java/lang/Long", name := "compare", desc := "(JJ)I" } : Jvm.MethodName)) ∈ lw_all := lw_g (lw_at lw_m1 221 rfl) rfl
theorem q265 : (Jvm.Cond.code ({ cls := "java/lang/Long", name := "compare", desc := "(JJ)I" } : Jvm.MethodName) prog_20_method_42_code (4 : Nat) (Option.some Jvm.ClassFile.FieldType.int)) ∈ lw_all := lw_g (lw_at lw_m1 222 rfl) rfl
theorem q629 : (Jvm.Cond.static ({ cls := "java/lang/Long", name := "numberOfTrailingZeros", desc := "(J)I" } : Jvm.MethodName)) ∈ lw_all := lw_g (lw_at lw_m3 106 rfl) rfl
theorem q630 : (Jvm.Cond.code ({ cls := "java/lang/Long", name := "numberOfTrailingZeros", desc := "(J)I" } : Jvm.MethodName) prog_20_method_49_code (3 : Nat) (Option.some Jvm.ClassFile.FieldType.int)) ∈ lw_all := lw_g (lw_at lw_m3 107 rfl) rfl
theorem q631 : (Jvm.Cond.methodLink "java/lang/Long" (311 : Nat) ({ cls := "java/lang/Integer", name := "numberOfTrailingZeros", desc := "(I)I" } : Jvm.MethodName)) ∈ lw_all := lw_g (lw_at lw_m3 108 rfl) rfl
/-! java/lang/Integer -/
set_option maxRecDepth 100000
def RJ4 : String := "java/lang/Integer"
abbrev cJ4_numberOfLeadingZeros : ByteArray := prog_19_method_47_code
def yJ4_numberOfLeadingZeros : MethodName := ⟨RJ4, "numberOfLeadingZeros", "(I)I"⟩
def dkwJ4_numberOfLeadingZeros_3 : List UInt8 := [5, 124, 59, 27, 26, 4, 124, 100, 172]
abbrev dktJ4_numberOfLeadingZeros_3 : List UInt8 := dkwJ4_numberOfLeadingZeros_3 ++ []
def dkwJ4_numberOfLeadingZeros_2 : List UInt8 := [124, 59, 26, 16, 16, 161, 0, 10, 132, 1, 252, 26, 7, 124, 59, 26, 7, 161, 0, 10, 132, 1, 254, 26]
abbrev dktJ4_numberOfLeadingZeros_2 : List UInt8 := dkwJ4_numberOfLeadingZeros_2 ++ dktJ4_numberOfLeadingZeros_3
def dkwJ4_numberOfLeadingZeros_1 : List UInt8 := [161, 0, 11, 132, 1, 240, 26, 16, 16, 124, 59, 26, 17, 1, 0, 161, 0, 11, 132, 1, 248, 26, 16, 8]
abbrev dktJ4_numberOfLeadingZeros_1 : List UInt8 := dkwJ4_numberOfLeadingZeros_1 ++ dktJ4_numberOfLeadingZeros_2
def dkwJ4_numberOfLeadingZeros_0 : List UInt8 := [26, 157, 0, 14, 26, 154, 0, 8, 16, 32, 167, 0, 4, 3, 172, 16, 31, 60, 26, 19, 1, 8]
abbrev dktJ4_numberOfLeadingZeros_0 : List UInt8 := dkwJ4_numberOfLeadingZeros_0 ++ dktJ4_numberOfLeadingZeros_1
theorem dksJ4_numberOfLeadingZeros_0 : cJ4_numberOfLeadingZeros.data.toList.drop 0 = dktJ4_numberOfLeadingZeros_0 := by decide +kernel
theorem dksJ4_numberOfLeadingZeros_1 : cJ4_numberOfLeadingZeros.data.toList.drop 22 = dktJ4_numberOfLeadingZeros_1 := dk_seg dksJ4_numberOfLeadingZeros_0 22 rfl rfl
theorem dksJ4_numberOfLeadingZeros_2 : cJ4_numberOfLeadingZeros.data.toList.drop 46 = dktJ4_numberOfLeadingZeros_2 := dk_seg dksJ4_numberOfLeadingZeros_1 24 rfl rfl
theorem dksJ4_numberOfLeadingZeros_3 : cJ4_numberOfLeadingZeros.data.toList.drop 70 = dktJ4_numberOfLeadingZeros_3 := dk_seg dksJ4_numberOfLeadingZeros_2 24 rfl rfl
theorem dJ4_numberOfLeadingZeros_0 : decode cJ4_numberOfLeadingZeros 0 = .ok (.iload_n 0, 1) := dk_26 (dk_at dksJ4_numberOfLeadingZeros_0 0 rfl rfl)
theorem dJ4_numberOfLeadingZeros_1 : decode cJ4_numberOfLeadingZeros 1 = .ok (.ifCond .gt 14, 3) := dk_157 0 14 (dk_at dksJ4_numberOfLeadingZeros_0 1 rfl rfl)
theorem dJ4_numberOfLeadingZeros_4 : decode cJ4_numberOfLeadingZeros 4 = .ok (.iload_n 0, 1) := dk_26 (dk_at dksJ4_numberOfLeadingZeros_0 4 rfl rfl)
theorem dJ4_numberOfLeadingZeros_5 : decode cJ4_numberOfLeadingZeros 5 = .ok (.ifCond .ne 8, 3) := dk_154 0 8 (dk_at dksJ4_numberOfLeadingZeros_0 5 rfl rfl)
theorem dJ4_numberOfLeadingZeros_8 : decode cJ4_numberOfLeadingZeros 8 = .ok (.bipush 32, 2) := dk_16 32 (dk_at dksJ4_numberOfLeadingZeros_0 8 rfl rfl)
theorem dJ4_numberOfLeadingZeros_10 : decode cJ4_numberOfLeadingZeros 10 = .ok (.goto 4, 3) := dk_167 0 4 (dk_at dksJ4_numberOfLeadingZeros_0 10 rfl rfl)
theorem dJ4_numberOfLeadingZeros_13 : decode cJ4_numberOfLeadingZeros 13 = .ok (.iconst 0, 1) := dk_3 (dk_at dksJ4_numberOfLeadingZeros_0 13 rfl rfl)
theorem dJ4_numberOfLeadingZeros_14 : decode cJ4_numberOfLeadingZeros 14 = .ok (.ireturn, 1) := dk_172 (dk_at dksJ4_numberOfLeadingZeros_0 14 rfl rfl)
theorem dJ4_numberOfLeadingZeros_15 : decode cJ4_numberOfLeadingZeros 15 = .ok (.bipush 31, 2) := dk_16 31 (dk_at dksJ4_numberOfLeadingZeros_0 15 rfl rfl)
theorem dJ4_numberOfLeadingZeros_17 : decode cJ4_numberOfLeadingZeros 17 = .ok (.istore_n 1, 1) := dk_60 (dk_at dksJ4_numberOfLeadingZeros_0 17 rfl rfl)
theorem dJ4_numberOfLeadingZeros_18 : decode cJ4_numberOfLeadingZeros 18 = .ok (.iload_n 0, 1) := dk_26 (dk_at dksJ4_numberOfLeadingZeros_0 18 rfl rfl)
theorem dJ4_numberOfLeadingZeros_19 : decode cJ4_numberOfLeadingZeros 19 = .ok (.ldc_w 264, 3) := dk_19 1 8 (dk_at dksJ4_numberOfLeadingZeros_0 19 rfl rfl)
theorem dJ4_numberOfLeadingZeros_22 : decode cJ4_numberOfLeadingZeros 22 = .ok (.if_icmp .lt 11, 3) := dk_161 0 11 (dk_at dksJ4_numberOfLeadingZeros_1 0 rfl rfl)
theorem dJ4_numberOfLeadingZeros_25 : decode cJ4_numberOfLeadingZeros 25 = .ok (.iinc 1 (-16), 3) := dk_132 1 240 (dk_at dksJ4_numberOfLeadingZeros_1 3 rfl rfl)
theorem dJ4_numberOfLeadingZeros_28 : decode cJ4_numberOfLeadingZeros 28 = .ok (.iload_n 0, 1) := dk_26 (dk_at dksJ4_numberOfLeadingZeros_1 6 rfl rfl)
theorem dJ4_numberOfLeadingZeros_29 : decode cJ4_numberOfLeadingZeros 29 = .ok (.bipush 16, 2) := dk_16 16 (dk_at dksJ4_numberOfLeadingZeros_1 7 rfl rfl)
theorem dJ4_numberOfLeadingZeros_31 : decode cJ4_numberOfLeadingZeros 31 = .ok (.iushr, 1) := dk_124 (dk_at dksJ4_numberOfLeadingZeros_1 9 rfl rfl)
theorem dJ4_numberOfLeadingZeros_32 : decode cJ4_numberOfLeadingZeros 32 = .ok (.istore_n 0, 1) := dk_59 (dk_at dksJ4_numberOfLeadingZeros_1 10 rfl rfl)
theorem dJ4_numberOfLeadingZeros_33 : decode cJ4_numberOfLeadingZeros 33 = .ok (.iload_n 0, 1) := dk_26 (dk_at dksJ4_numberOfLeadingZeros_1 11 rfl rfl)
theorem dJ4_numberOfLeadingZeros_34 : decode cJ4_numberOfLeadingZeros 34 = .ok (.sipush 256, 3) := dk_17 1 0 (dk_at dksJ4_numberOfLeadingZeros_1 12 rfl rfl)
theorem dJ4_numberOfLeadingZeros_37 : decode cJ4_numberOfLeadingZeros 37 = .ok (.if_icmp .lt 11, 3) := dk_161 0 11 (dk_at dksJ4_numberOfLeadingZeros_1 15 rfl rfl)
theorem dJ4_numberOfLeadingZeros_40 : decode cJ4_numberOfLeadingZeros 40 = .ok (.iinc 1 (-8), 3) := dk_132 1 248 (dk_at dksJ4_numberOfLeadingZeros_1 18 rfl rfl)
theorem dJ4_numberOfLeadingZeros_43 : decode cJ4_numberOfLeadingZeros 43 = .ok (.iload_n 0, 1) := dk_26 (dk_at dksJ4_numberOfLeadingZeros_1 21 rfl rfl)
theorem dJ4_numberOfLeadingZeros_44 : decode cJ4_numberOfLeadingZeros 44 = .ok (.bipush 8, 2) := dk_16 8 (dk_at dksJ4_numberOfLeadingZeros_1 22 rfl rfl)
theorem dJ4_numberOfLeadingZeros_46 : decode cJ4_numberOfLeadingZeros 46 = .ok (.iushr, 1) := dk_124 (dk_at dksJ4_numberOfLeadingZeros_2 0 rfl rfl)
theorem dJ4_numberOfLeadingZeros_47 : decode cJ4_numberOfLeadingZeros 47 = .ok (.istore_n 0, 1) := dk_59 (dk_at dksJ4_numberOfLeadingZeros_2 1 rfl rfl)
theorem dJ4_numberOfLeadingZeros_48 : decode cJ4_numberOfLeadingZeros 48 = .ok (.iload_n 0, 1) := dk_26 (dk_at dksJ4_numberOfLeadingZeros_2 2 rfl rfl)
theorem dJ4_numberOfLeadingZeros_49 : decode cJ4_numberOfLeadingZeros 49 = .ok (.bipush 16, 2) := dk_16 16 (dk_at dksJ4_numberOfLeadingZeros_2 3 rfl rfl)
theorem dJ4_numberOfLeadingZeros_51 : decode cJ4_numberOfLeadingZeros 51 = .ok (.if_icmp .lt 10, 3) := dk_161 0 10 (dk_at dksJ4_numberOfLeadingZeros_2 5 rfl rfl)
theorem dJ4_numberOfLeadingZeros_54 : decode cJ4_numberOfLeadingZeros 54 = .ok (.iinc 1 (-4), 3) := dk_132 1 252 (dk_at dksJ4_numberOfLeadingZeros_2 8 rfl rfl)
theorem dJ4_numberOfLeadingZeros_57 : decode cJ4_numberOfLeadingZeros 57 = .ok (.iload_n 0, 1) := dk_26 (dk_at dksJ4_numberOfLeadingZeros_2 11 rfl rfl)
theorem dJ4_numberOfLeadingZeros_58 : decode cJ4_numberOfLeadingZeros 58 = .ok (.iconst 4, 1) := dk_7 (dk_at dksJ4_numberOfLeadingZeros_2 12 rfl rfl)
theorem dJ4_numberOfLeadingZeros_59 : decode cJ4_numberOfLeadingZeros 59 = .ok (.iushr, 1) := dk_124 (dk_at dksJ4_numberOfLeadingZeros_2 13 rfl rfl)
theorem dJ4_numberOfLeadingZeros_60 : decode cJ4_numberOfLeadingZeros 60 = .ok (.istore_n 0, 1) := dk_59 (dk_at dksJ4_numberOfLeadingZeros_2 14 rfl rfl)
theorem dJ4_numberOfLeadingZeros_61 : decode cJ4_numberOfLeadingZeros 61 = .ok (.iload_n 0, 1) := dk_26 (dk_at dksJ4_numberOfLeadingZeros_2 15 rfl rfl)
theorem dJ4_numberOfLeadingZeros_62 : decode cJ4_numberOfLeadingZeros 62 = .ok (.iconst 4, 1) := dk_7 (dk_at dksJ4_numberOfLeadingZeros_2 16 rfl rfl)
theorem dJ4_numberOfLeadingZeros_63 : decode cJ4_numberOfLeadingZeros 63 = .ok (.if_icmp .lt 10, 3) := dk_161 0 10 (dk_at dksJ4_numberOfLeadingZeros_2 17 rfl rfl)
theorem dJ4_numberOfLeadingZeros_66 : decode cJ4_numberOfLeadingZeros 66 = .ok (.iinc 1 (-2), 3) := dk_132 1 254 (dk_at dksJ4_numberOfLeadingZeros_2 20 rfl rfl)
theorem dJ4_numberOfLeadingZeros_69 : decode cJ4_numberOfLeadingZeros 69 = .ok (.iload_n 0, 1) := dk_26 (dk_at dksJ4_numberOfLeadingZeros_2 23 rfl rfl)
theorem dJ4_numberOfLeadingZeros_70 : decode cJ4_numberOfLeadingZeros 70 = .ok (.iconst 2, 1) := dk_5 (dk_at dksJ4_numberOfLeadingZeros_3 0 rfl rfl)
theorem dJ4_numberOfLeadingZeros_71 : decode cJ4_numberOfLeadingZeros 71 = .ok (.iushr, 1) := dk_124 (dk_at dksJ4_numberOfLeadingZeros_3 1 rfl rfl)
theorem dJ4_numberOfLeadingZeros_72 : decode cJ4_numberOfLeadingZeros 72 = .ok (.istore_n 0, 1) := dk_59 (dk_at dksJ4_numberOfLeadingZeros_3 2 rfl rfl)
theorem dJ4_numberOfLeadingZeros_73 : decode cJ4_numberOfLeadingZeros 73 = .ok (.iload_n 1, 1) := dk_27 (dk_at dksJ4_numberOfLeadingZeros_3 3 rfl rfl)
theorem dJ4_numberOfLeadingZeros_74 : decode cJ4_numberOfLeadingZeros 74 = .ok (.iload_n 0, 1) := dk_26 (dk_at dksJ4_numberOfLeadingZeros_3 4 rfl rfl)
theorem dJ4_numberOfLeadingZeros_75 : decode cJ4_numberOfLeadingZeros 75 = .ok (.iconst 1, 1) := dk_4 (dk_at dksJ4_numberOfLeadingZeros_3 5 rfl rfl)
theorem dJ4_numberOfLeadingZeros_76 : decode cJ4_numberOfLeadingZeros 76 = .ok (.iushr, 1) := dk_124 (dk_at dksJ4_numberOfLeadingZeros_3 6 rfl rfl)
theorem dJ4_numberOfLeadingZeros_77 : decode cJ4_numberOfLeadingZeros 77 = .ok (.isub, 1) := dk_100 (dk_at dksJ4_numberOfLeadingZeros_3 7 rfl rfl)
theorem dJ4_numberOfLeadingZeros_78 : decode cJ4_numberOfLeadingZeros 78 = .ok (.ireturn, 1) := dk_172 (dk_at dksJ4_numberOfLeadingZeros_3 8 rfl rfl)
abbrev cJ4_numberOfTrailingZeros : ByteArray := prog_19_method_48_code
def yJ4_numberOfTrailingZeros : MethodName := ⟨RJ4, "numberOfTrailingZeros", "(I)I"⟩
def dkwJ4_numberOfTrailingZeros_3 : List UInt8 := [5, 124, 59, 27, 26, 4, 124, 96, 172]
abbrev dktJ4_numberOfTrailingZeros_3 : List UInt8 := dkwJ4_numberOfTrailingZeros_3 ++ []
def dkwJ4_numberOfTrailingZeros_2 : List UInt8 := [124, 59, 26, 16, 16, 164, 0, 10, 132, 1, 4, 26, 7, 124, 59, 26, 7, 164, 0, 10, 132, 1, 2, 26]
abbrev dktJ4_numberOfTrailingZeros_2 : List UInt8 := dkwJ4_numberOfTrailingZeros_2 ++ dktJ4_numberOfTrailingZeros_3
def dkwJ4_numberOfTrailingZeros_1 : List UInt8 := [164, 0, 11, 132, 1, 16, 26, 16, 16, 124, 59, 26, 17, 1, 0, 164, 0, 11, 132, 1, 8, 26, 16, 8]
abbrev dktJ4_numberOfTrailingZeros_1 : List UInt8 := dkwJ4_numberOfTrailingZeros_1 ++ dktJ4_numberOfTrailingZeros_2
def dkwJ4_numberOfTrailingZeros_0 : List UInt8 := [26, 2, 130, 26, 4, 100, 126, 59, 26, 157, 0, 8, 26, 16, 32, 126, 172, 4, 60, 26, 19, 1, 8]
abbrev dktJ4_numberOfTrailingZeros_0 : List UInt8 := dkwJ4_numberOfTrailingZeros_0 ++ dktJ4_numberOfTrailingZeros_1
theorem dksJ4_numberOfTrailingZeros_0 : cJ4_numberOfTrailingZeros.data.toList.drop 0 = dktJ4_numberOfTrailingZeros_0 := by decide +kernel
theorem dksJ4_numberOfTrailingZeros_1 : cJ4_numberOfTrailingZeros.data.toList.drop 23 = dktJ4_numberOfTrailingZeros_1 := dk_seg dksJ4_numberOfTrailingZeros_0 23 rfl rfl
theorem dksJ4_numberOfTrailingZeros_2 : cJ4_numberOfTrailingZeros.data.toList.drop 47 = dktJ4_numberOfTrailingZeros_2 := dk_seg dksJ4_numberOfTrailingZeros_1 24 rfl rfl
theorem dksJ4_numberOfTrailingZeros_3 : cJ4_numberOfTrailingZeros.data.toList.drop 71 = dktJ4_numberOfTrailingZeros_3 := dk_seg dksJ4_numberOfTrailingZeros_2 24 rfl rfl
theorem dJ4_numberOfTrailingZeros_0 : decode cJ4_numberOfTrailingZeros 0 = .ok (.iload_n 0, 1) := dk_26 (dk_at dksJ4_numberOfTrailingZeros_0 0 rfl rfl)
theorem dJ4_numberOfTrailingZeros_1 : decode cJ4_numberOfTrailingZeros 1 = .ok (.iconst (-1), 1) := dk_2 (dk_at dksJ4_numberOfTrailingZeros_0 1 rfl rfl)
theorem dJ4_numberOfTrailingZeros_2 : decode cJ4_numberOfTrailingZeros 2 = .ok (.ixor, 1) := dk_130 (dk_at dksJ4_numberOfTrailingZeros_0 2 rfl rfl)
theorem dJ4_numberOfTrailingZeros_3 : decode cJ4_numberOfTrailingZeros 3 = .ok (.iload_n 0, 1) := dk_26 (dk_at dksJ4_numberOfTrailingZeros_0 3 rfl rfl)
theorem dJ4_numberOfTrailingZeros_4 : decode cJ4_numberOfTrailingZeros 4 = .ok (.iconst 1, 1) := dk_4 (dk_at dksJ4_numberOfTrailingZeros_0 4 rfl rfl)
theorem dJ4_numberOfTrailingZeros_5 : decode cJ4_numberOfTrailingZeros 5 = .ok (.isub, 1) := dk_100 (dk_at dksJ4_numberOfTrailingZeros_0 5 rfl rfl)
theorem dJ4_numberOfTrailingZeros_6 : decode cJ4_numberOfTrailingZeros 6 = .ok (.iand, 1) := dk_126 (dk_at dksJ4_numberOfTrailingZeros_0 6 rfl rfl)
theorem dJ4_numberOfTrailingZeros_7 : decode cJ4_numberOfTrailingZeros 7 = .ok (.istore_n 0, 1) := dk_59 (dk_at dksJ4_numberOfTrailingZeros_0 7 rfl rfl)
theorem dJ4_numberOfTrailingZeros_8 : decode cJ4_numberOfTrailingZeros 8 = .ok (.iload_n 0, 1) := dk_26 (dk_at dksJ4_numberOfTrailingZeros_0 8 rfl rfl)
theorem dJ4_numberOfTrailingZeros_9 : decode cJ4_numberOfTrailingZeros 9 = .ok (.ifCond .gt 8, 3) := dk_157 0 8 (dk_at dksJ4_numberOfTrailingZeros_0 9 rfl rfl)
theorem dJ4_numberOfTrailingZeros_12 : decode cJ4_numberOfTrailingZeros 12 = .ok (.iload_n 0, 1) := dk_26 (dk_at dksJ4_numberOfTrailingZeros_0 12 rfl rfl)
theorem dJ4_numberOfTrailingZeros_13 : decode cJ4_numberOfTrailingZeros 13 = .ok (.bipush 32, 2) := dk_16 32 (dk_at dksJ4_numberOfTrailingZeros_0 13 rfl rfl)
theorem dJ4_numberOfTrailingZeros_15 : decode cJ4_numberOfTrailingZeros 15 = .ok (.iand, 1) := dk_126 (dk_at dksJ4_numberOfTrailingZeros_0 15 rfl rfl)
theorem dJ4_numberOfTrailingZeros_16 : decode cJ4_numberOfTrailingZeros 16 = .ok (.ireturn, 1) := dk_172 (dk_at dksJ4_numberOfTrailingZeros_0 16 rfl rfl)
theorem dJ4_numberOfTrailingZeros_17 : decode cJ4_numberOfTrailingZeros 17 = .ok (.iconst 1, 1) := dk_4 (dk_at dksJ4_numberOfTrailingZeros_0 17 rfl rfl)
theorem dJ4_numberOfTrailingZeros_18 : decode cJ4_numberOfTrailingZeros 18 = .ok (.istore_n 1, 1) := dk_60 (dk_at dksJ4_numberOfTrailingZeros_0 18 rfl rfl)
theorem dJ4_numberOfTrailingZeros_19 : decode cJ4_numberOfTrailingZeros 19 = .ok (.iload_n 0, 1) := dk_26 (dk_at dksJ4_numberOfTrailingZeros_0 19 rfl rfl)
theorem dJ4_numberOfTrailingZeros_20 : decode cJ4_numberOfTrailingZeros 20 = .ok (.ldc_w 264, 3) := dk_19 1 8 (dk_at dksJ4_numberOfTrailingZeros_0 20 rfl rfl)
theorem dJ4_numberOfTrailingZeros_23 : decode cJ4_numberOfTrailingZeros 23 = .ok (.if_icmp .le 11, 3) := dk_164 0 11 (dk_at dksJ4_numberOfTrailingZeros_1 0 rfl rfl)
theorem dJ4_numberOfTrailingZeros_26 : decode cJ4_numberOfTrailingZeros 26 = .ok (.iinc 1 16, 3) := dk_132 1 16 (dk_at dksJ4_numberOfTrailingZeros_1 3 rfl rfl)
theorem dJ4_numberOfTrailingZeros_29 : decode cJ4_numberOfTrailingZeros 29 = .ok (.iload_n 0, 1) := dk_26 (dk_at dksJ4_numberOfTrailingZeros_1 6 rfl rfl)
theorem dJ4_numberOfTrailingZeros_30 : decode cJ4_numberOfTrailingZeros 30 = .ok (.bipush 16, 2) := dk_16 16 (dk_at dksJ4_numberOfTrailingZeros_1 7 rfl rfl)
theorem dJ4_numberOfTrailingZeros_32 : decode cJ4_numberOfTrailingZeros 32 = .ok (.iushr, 1) := dk_124 (dk_at dksJ4_numberOfTrailingZeros_1 9 rfl rfl)
theorem dJ4_numberOfTrailingZeros_33 : decode cJ4_numberOfTrailingZeros 33 = .ok (.istore_n 0, 1) := dk_59 (dk_at dksJ4_numberOfTrailingZeros_1 10 rfl rfl)
theorem dJ4_numberOfTrailingZeros_34 : decode cJ4_numberOfTrailingZeros 34 = .ok (.iload_n 0, 1) := dk_26 (dk_at dksJ4_numberOfTrailingZeros_1 11 rfl rfl)
theorem dJ4_numberOfTrailingZeros_35 : decode cJ4_numberOfTrailingZeros 35 = .ok (.sipush 256, 3) := dk_17 1 0 (dk_at dksJ4_numberOfTrailingZeros_1 12 rfl rfl)
theorem dJ4_numberOfTrailingZeros_38 : decode cJ4_numberOfTrailingZeros 38 = .ok (.if_icmp .le 11, 3) := dk_164 0 11 (dk_at dksJ4_numberOfTrailingZeros_1 15 rfl rfl)
theorem dJ4_numberOfTrailingZeros_41 : decode cJ4_numberOfTrailingZeros 41 = .ok (.iinc 1 8, 3) := dk_132 1 8 (dk_at dksJ4_numberOfTrailingZeros_1 18 rfl rfl)
theorem dJ4_numberOfTrailingZeros_44 : decode cJ4_numberOfTrailingZeros 44 = .ok (.iload_n 0, 1) := dk_26 (dk_at dksJ4_numberOfTrailingZeros_1 21 rfl rfl)
theorem dJ4_numberOfTrailingZeros_45 : decode cJ4_numberOfTrailingZeros 45 = .ok (.bipush 8, 2) := dk_16 8 (dk_at dksJ4_numberOfTrailingZeros_1 22 rfl rfl)
theorem dJ4_numberOfTrailingZeros_47 : decode cJ4_numberOfTrailingZeros 47 = .ok (.iushr, 1) := dk_124 (dk_at dksJ4_numberOfTrailingZeros_2 0 rfl rfl)
theorem dJ4_numberOfTrailingZeros_48 : decode cJ4_numberOfTrailingZeros 48 = .ok (.istore_n 0, 1) := dk_59 (dk_at dksJ4_numberOfTrailingZeros_2 1 rfl rfl)
theorem dJ4_numberOfTrailingZeros_49 : decode cJ4_numberOfTrailingZeros 49 = .ok (.iload_n 0, 1) := dk_26 (dk_at dksJ4_numberOfTrailingZeros_2 2 rfl rfl)
theorem dJ4_numberOfTrailingZeros_50 : decode cJ4_numberOfTrailingZeros 50 = .ok (.bipush 16, 2) := dk_16 16 (dk_at dksJ4_numberOfTrailingZeros_2 3 rfl rfl)
theorem dJ4_numberOfTrailingZeros_52 : decode cJ4_numberOfTrailingZeros 52 = .ok (.if_icmp .le 10, 3) := dk_164 0 10 (dk_at dksJ4_numberOfTrailingZeros_2 5 rfl rfl)
theorem dJ4_numberOfTrailingZeros_55 : decode cJ4_numberOfTrailingZeros 55 = .ok (.iinc 1 4, 3) := dk_132 1 4 (dk_at dksJ4_numberOfTrailingZeros_2 8 rfl rfl)
theorem dJ4_numberOfTrailingZeros_58 : decode cJ4_numberOfTrailingZeros 58 = .ok (.iload_n 0, 1) := dk_26 (dk_at dksJ4_numberOfTrailingZeros_2 11 rfl rfl)
theorem dJ4_numberOfTrailingZeros_59 : decode cJ4_numberOfTrailingZeros 59 = .ok (.iconst 4, 1) := dk_7 (dk_at dksJ4_numberOfTrailingZeros_2 12 rfl rfl)
theorem dJ4_numberOfTrailingZeros_60 : decode cJ4_numberOfTrailingZeros 60 = .ok (.iushr, 1) := dk_124 (dk_at dksJ4_numberOfTrailingZeros_2 13 rfl rfl)
theorem dJ4_numberOfTrailingZeros_61 : decode cJ4_numberOfTrailingZeros 61 = .ok (.istore_n 0, 1) := dk_59 (dk_at dksJ4_numberOfTrailingZeros_2 14 rfl rfl)
theorem dJ4_numberOfTrailingZeros_62 : decode cJ4_numberOfTrailingZeros 62 = .ok (.iload_n 0, 1) := dk_26 (dk_at dksJ4_numberOfTrailingZeros_2 15 rfl rfl)
theorem dJ4_numberOfTrailingZeros_63 : decode cJ4_numberOfTrailingZeros 63 = .ok (.iconst 4, 1) := dk_7 (dk_at dksJ4_numberOfTrailingZeros_2 16 rfl rfl)
theorem dJ4_numberOfTrailingZeros_64 : decode cJ4_numberOfTrailingZeros 64 = .ok (.if_icmp .le 10, 3) := dk_164 0 10 (dk_at dksJ4_numberOfTrailingZeros_2 17 rfl rfl)
theorem dJ4_numberOfTrailingZeros_67 : decode cJ4_numberOfTrailingZeros 67 = .ok (.iinc 1 2, 3) := dk_132 1 2 (dk_at dksJ4_numberOfTrailingZeros_2 20 rfl rfl)
theorem dJ4_numberOfTrailingZeros_70 : decode cJ4_numberOfTrailingZeros 70 = .ok (.iload_n 0, 1) := dk_26 (dk_at dksJ4_numberOfTrailingZeros_2 23 rfl rfl)
theorem dJ4_numberOfTrailingZeros_71 : decode cJ4_numberOfTrailingZeros 71 = .ok (.iconst 2, 1) := dk_5 (dk_at dksJ4_numberOfTrailingZeros_3 0 rfl rfl)
theorem dJ4_numberOfTrailingZeros_72 : decode cJ4_numberOfTrailingZeros 72 = .ok (.iushr, 1) := dk_124 (dk_at dksJ4_numberOfTrailingZeros_3 1 rfl rfl)
theorem dJ4_numberOfTrailingZeros_73 : decode cJ4_numberOfTrailingZeros 73 = .ok (.istore_n 0, 1) := dk_59 (dk_at dksJ4_numberOfTrailingZeros_3 2 rfl rfl)
theorem dJ4_numberOfTrailingZeros_74 : decode cJ4_numberOfTrailingZeros 74 = .ok (.iload_n 1, 1) := dk_27 (dk_at dksJ4_numberOfTrailingZeros_3 3 rfl rfl)
theorem dJ4_numberOfTrailingZeros_75 : decode cJ4_numberOfTrailingZeros 75 = .ok (.iload_n 0, 1) := dk_26 (dk_at dksJ4_numberOfTrailingZeros_3 4 rfl rfl)
theorem dJ4_numberOfTrailingZeros_76 : decode cJ4_numberOfTrailingZeros 76 = .ok (.iconst 1, 1) := dk_4 (dk_at dksJ4_numberOfTrailingZeros_3 5 rfl rfl)
theorem dJ4_numberOfTrailingZeros_77 : decode cJ4_numberOfTrailingZeros 77 = .ok (.iushr, 1) := dk_124 (dk_at dksJ4_numberOfTrailingZeros_3 6 rfl rfl)
theorem dJ4_numberOfTrailingZeros_78 : decode cJ4_numberOfTrailingZeros 78 = .ok (.iadd, 1) := dk_96 (dk_at dksJ4_numberOfTrailingZeros_3 7 rfl rfl)
theorem dJ4_numberOfTrailingZeros_79 : decode cJ4_numberOfTrailingZeros 79 = .ok (.ireturn, 1) := dk_172 (dk_at dksJ4_numberOfTrailingZeros_3 8 rfl rfl)
abbrev cJ4_compareUnsigned : ByteArray := prog_19_method_41_code
def yJ4_compareUnsigned : MethodName := ⟨RJ4, "compareUnsigned", "(II)I"⟩
def dkwJ4_compareUnsigned_0 : List UInt8 := [26, 18, 127, 96, 27, 18, 127, 96, 184, 1, 3, 172]
abbrev dktJ4_compareUnsigned_0 : List UInt8 := dkwJ4_compareUnsigned_0 ++ []
theorem dksJ4_compareUnsigned_0 : cJ4_compareUnsigned.data.toList.drop 0 = dktJ4_compareUnsigned_0 := by decide +kernel
theorem dJ4_compareUnsigned_0 : decode cJ4_compareUnsigned 0 = .ok (.iload_n 0, 1) := dk_26 (dk_at dksJ4_compareUnsigned_0 0 rfl rfl)
theorem dJ4_compareUnsigned_1 : decode cJ4_compareUnsigned 1 = .ok (.ldc 127, 2) := dk_18 127 (dk_at dksJ4_compareUnsigned_0 1 rfl rfl)
theorem dJ4_compareUnsigned_3 : decode cJ4_compareUnsigned 3 = .ok (.iadd, 1) := dk_96 (dk_at dksJ4_compareUnsigned_0 3 rfl rfl)
theorem dJ4_compareUnsigned_4 : decode cJ4_compareUnsigned 4 = .ok (.iload_n 1, 1) := dk_27 (dk_at dksJ4_compareUnsigned_0 4 rfl rfl)
theorem dJ4_compareUnsigned_5 : decode cJ4_compareUnsigned 5 = .ok (.ldc 127, 2) := dk_18 127 (dk_at dksJ4_compareUnsigned_0 5 rfl rfl)
theorem dJ4_compareUnsigned_7 : decode cJ4_compareUnsigned 7 = .ok (.iadd, 1) := dk_96 (dk_at dksJ4_compareUnsigned_0 7 rfl rfl)
theorem dJ4_compareUnsigned_8 : decode cJ4_compareUnsigned 8 = .ok (.invokestatic 259, 3) := dk_184 1 3 (dk_at dksJ4_compareUnsigned_0 8 rfl rfl)
theorem dJ4_compareUnsigned_11 : decode cJ4_compareUnsigned 11 = .ok (.ireturn, 1) := dk_172 (dk_at dksJ4_compareUnsigned_0 11 rfl rfl)
abbrev cJ4_compare : ByteArray := prog_19_method_40_code
def yJ4_compare : MethodName := ⟨RJ4, "compare", "(II)I"⟩
def dkwJ4_compare_0 : List UInt8 := [26, 27, 162, 0, 7, 2, 167, 0, 13, 26, 27, 160, 0, 7, 3, 167, 0, 4, 4, 172]
abbrev dktJ4_compare_0 : List UInt8 := dkwJ4_compare_0 ++ []
theorem dksJ4_compare_0 : cJ4_compare.data.toList.drop 0 = dktJ4_compare_0 := by decide +kernel
theorem dJ4_compare_0 : decode cJ4_compare 0 = .ok (.iload_n 0, 1) := dk_26 (dk_at dksJ4_compare_0 0 rfl rfl)
theorem dJ4_compare_1 : decode cJ4_compare 1 = .ok (.iload_n 1, 1) := dk_27 (dk_at dksJ4_compare_0 1 rfl rfl)
theorem dJ4_compare_2 : decode cJ4_compare 2 = .ok (.if_icmp .ge 7, 3) := dk_162 0 7 (dk_at dksJ4_compare_0 2 rfl rfl)
theorem dJ4_compare_5 : decode cJ4_compare 5 = .ok (.iconst (-1), 1) := dk_2 (dk_at dksJ4_compare_0 5 rfl rfl)
theorem dJ4_compare_6 : decode cJ4_compare 6 = .ok (.goto 13, 3) := dk_167 0 13 (dk_at dksJ4_compare_0 6 rfl rfl)
theorem dJ4_compare_9 : decode cJ4_compare 9 = .ok (.iload_n 0, 1) := dk_26 (dk_at dksJ4_compare_0 9 rfl rfl)
theorem dJ4_compare_10 : decode cJ4_compare 10 = .ok (.iload_n 1, 1) := dk_27 (dk_at dksJ4_compare_0 10 rfl rfl)
theorem dJ4_compare_11 : decode cJ4_compare 11 = .ok (.if_icmp .ne 7, 3) := dk_160 0 7 (dk_at dksJ4_compare_0 11 rfl rfl)
theorem dJ4_compare_14 : decode cJ4_compare 14 = .ok (.iconst 0, 1) := dk_3 (dk_at dksJ4_compare_0 14 rfl rfl)
theorem dJ4_compare_15 : decode cJ4_compare 15 = .ok (.goto 4, 3) := dk_167 0 4 (dk_at dksJ4_compare_0 15 rfl rfl)
theorem dJ4_compare_18 : decode cJ4_compare 18 = .ok (.iconst 1, 1) := dk_4 (dk_at dksJ4_compare_0 18 rfl rfl)
theorem dJ4_compare_19 : decode cJ4_compare 19 = .ok (.ireturn, 1) := dk_172 (dk_at dksJ4_compare_0 19 rfl rfl)
theorem q56 : (Jvm.Cond.initialized "java/lang/Integer") ∈ lw_all := lw_g (lw_at lw_m1 13 rfl) rfl
theorem q210 : (Jvm.Cond.static ({ cls := "java/lang/Integer", name := "numberOfLeadingZeros", desc := "(I)I" } : Jvm.MethodName)) ∈ lw_all := lw_g (lw_at lw_m1 167 rfl) rfl
theorem q211 : (Jvm.Cond.code ({ cls := "java/lang/Integer", name := "numberOfLeadingZeros", desc := "(I)I" } : Jvm.MethodName) prog_19_method_47_code (2 : Nat) (Option.some Jvm.ClassFile.FieldType.int)) ∈ lw_all := lw_g (lw_at lw_m1 168 rfl) rfl
theorem q212 : (Jvm.Cond.constant "java/lang/Integer" (264 : Nat) (65536 : Int32)) ∈ lw_all := lw_g (lw_at lw_m1 169 rfl) rfl
theorem q632 : (Jvm.Cond.static ({ cls := "java/lang/Integer", name := "numberOfTrailingZeros", desc := "(I)I" } : Jvm.MethodName)) ∈ lw_all := lw_g (lw_at lw_m3 109 rfl) rfl
theorem q633 : (Jvm.Cond.code ({ cls := "java/lang/Integer", name := "numberOfTrailingZeros", desc := "(I)I" } : Jvm.MethodName) prog_19_method_48_code (2 : Nat) (Option.some Jvm.ClassFile.FieldType.int)) ∈ lw_all := lw_g (lw_at lw_m3 110 rfl) rfl
theorem q755 : (Jvm.Cond.static ({ cls := "java/lang/Integer", name := "compareUnsigned", desc := "(II)I" } : Jvm.MethodName)) ∈ lw_all := lw_g (lw_at lw_m3 232 rfl) rfl
theorem q756 : (Jvm.Cond.code ({ cls := "java/lang/Integer", name := "compareUnsigned", desc := "(II)I" } : Jvm.MethodName) prog_19_method_41_code (2 : Nat) (Option.some Jvm.ClassFile.FieldType.int)) ∈ lw_all := lw_g (lw_at lw_m3 233 rfl) rfl
theorem q757 : (Jvm.Cond.constant "java/lang/Integer" (127 : Nat) (-2147483648 : Int32)) ∈ lw_all := lw_g (lw_at lw_m3 234 rfl) rfl
theorem q758 : (Jvm.Cond.methodLink "java/lang/Integer" (259 : Nat) ({ cls := "java/lang/Integer", name := "compare", desc := "(II)I" } : Jvm.MethodName)) ∈ lw_all := lw_g (lw_at lw_m3 235 rfl) rfl
theorem q759 : (Jvm.Cond.static ({ cls := "java/lang/Integer", name := "compare", desc := "(II)I" } : Jvm.MethodName)) ∈ lw_all := lw_g (lw_at lw_m3 236 rfl) rfl
theorem q760 : (Jvm.Cond.code ({ cls := "java/lang/Integer", name := "compare", desc := "(II)I" } : Jvm.MethodName) prog_19_method_40_code (2 : Nat) (Option.some Jvm.ClassFile.FieldType.int)) ∈ lw_all := lw_g (lw_at lw_m3 237 rfl) rfl
/-! java/lang/StrictMath -/
set_option maxRecDepth 100000
def RJ5 : String := "java/lang/StrictMath"
abbrev cJ5_ceil : ByteArray := prog_26_method_16_code
def yJ5_ceil : MethodName := ⟨RJ5, "ceil", "(D)D"⟩
def dkwJ5_ceil_0 : List UInt8 := [38, 20, 0, 58, 15, 15, 184, 0, 60, 175]
abbrev dktJ5_ceil_0 : List UInt8 := dkwJ5_ceil_0 ++ []
theorem dksJ5_ceil_0 : cJ5_ceil.data.toList.drop 0 = dktJ5_ceil_0 := by decide +kernel
theorem dJ5_ceil_0 : decode cJ5_ceil 0 = .ok (.dload_n 0, 1) := dk_38 (dk_at dksJ5_ceil_0 0 rfl rfl)
theorem dJ5_ceil_1 : decode cJ5_ceil 1 = .ok (.ldc2_w 58, 3) := dk_20 0 58 (dk_at dksJ5_ceil_0 1 rfl rfl)
theorem dJ5_ceil_4 : decode cJ5_ceil 4 = .ok (.dconst 1, 1) := dk_15 (dk_at dksJ5_ceil_0 4 rfl rfl)
theorem dJ5_ceil_5 : decode cJ5_ceil 5 = .ok (.dconst 1, 1) := dk_15 (dk_at dksJ5_ceil_0 5 rfl rfl)
theorem dJ5_ceil_6 : decode cJ5_ceil 6 = .ok (.invokestatic 60, 3) := dk_184 0 60 (dk_at dksJ5_ceil_0 6 rfl rfl)
theorem dJ5_ceil_9 : decode cJ5_ceil 9 = .ok (.dreturn, 1) := dk_175 (dk_at dksJ5_ceil_0 9 rfl rfl)
abbrev cJ5_floorOrCeil : ByteArray := prog_26_method_18_code
def yJ5_floorOrCeil : MethodName := ⟨RJ5, "floorOrCeil", "(DDDD)D"⟩
def dkwJ5_floorOrCeil_5 : List UInt8 := [24, 13, 24, 6, 99, 57, 13, 24, 13, 175]
abbrev dktJ5_floorOrCeil_5 : List UInt8 := dkwJ5_floorOrCeil_5 ++ []
def dkwJ5_floorOrCeil_4 : List UInt8 := [175, 22, 9, 22, 11, 20, 0, 87, 131, 127, 184, 0, 89, 57, 13, 24, 6, 38, 107, 14, 151, 158, 0, 10]
abbrev dktJ5_floorOrCeil_4 : List UInt8 := dkwJ5_floorOrCeil_4 ++ dktJ5_floorOrCeil_5
def dkwJ5_floorOrCeil_3 : List UInt8 := [184, 0, 77, 55, 9, 20, 0, 85, 21, 8, 123, 55, 11, 22, 11, 22, 9, 127, 9, 148, 154, 0, 5, 38]
abbrev dktJ5_floorOrCeil_3 : List UInt8 := dkwJ5_floorOrCeil_3 ++ dktJ5_floorOrCeil_4
def dkwJ5_floorOrCeil_2 : List UInt8 := [154, 0, 23, 21, 8, 155, 0, 10, 21, 8, 16, 51, 164, 0, 11, 187, 0, 74, 89, 183, 0, 76, 191, 38]
abbrev dktJ5_floorOrCeil_2 : List UInt8 := dkwJ5_floorOrCeil_2 ++ dktJ5_floorOrCeil_3
def dkwJ5_floorOrCeil_1 : List UInt8 := [156, 0, 7, 40, 167, 0, 5, 24, 4, 175, 21, 8, 16, 52, 161, 0, 5, 38, 175, 178, 0, 70]
abbrev dktJ5_floorOrCeil_1 : List UInt8 := dkwJ5_floorOrCeil_1 ++ dktJ5_floorOrCeil_2
def dkwJ5_floorOrCeil_0 : List UInt8 := [38, 184, 0, 66, 54, 8, 21, 8, 156, 0, 26, 38, 14, 151, 154, 0, 7, 38, 167, 0, 15, 38, 14, 152]
abbrev dktJ5_floorOrCeil_0 : List UInt8 := dkwJ5_floorOrCeil_0 ++ dktJ5_floorOrCeil_1
theorem dksJ5_floorOrCeil_0 : cJ5_floorOrCeil.data.toList.drop 0 = dktJ5_floorOrCeil_0 := by decide +kernel
theorem dksJ5_floorOrCeil_1 : cJ5_floorOrCeil.data.toList.drop 24 = dktJ5_floorOrCeil_1 := dk_seg dksJ5_floorOrCeil_0 24 rfl rfl
theorem dksJ5_floorOrCeil_2 : cJ5_floorOrCeil.data.toList.drop 46 = dktJ5_floorOrCeil_2 := dk_seg dksJ5_floorOrCeil_1 22 rfl rfl
theorem dksJ5_floorOrCeil_3 : cJ5_floorOrCeil.data.toList.drop 70 = dktJ5_floorOrCeil_3 := dk_seg dksJ5_floorOrCeil_2 24 rfl rfl
theorem dksJ5_floorOrCeil_4 : cJ5_floorOrCeil.data.toList.drop 94 = dktJ5_floorOrCeil_4 := dk_seg dksJ5_floorOrCeil_3 24 rfl rfl
theorem dksJ5_floorOrCeil_5 : cJ5_floorOrCeil.data.toList.drop 118 = dktJ5_floorOrCeil_5 := dk_seg dksJ5_floorOrCeil_4 24 rfl rfl
theorem dJ5_floorOrCeil_0 : decode cJ5_floorOrCeil 0 = .ok (.dload_n 0, 1) := dk_38 (dk_at dksJ5_floorOrCeil_0 0 rfl rfl)
theorem dJ5_floorOrCeil_1 : decode cJ5_floorOrCeil 1 = .ok (.invokestatic 66, 3) := dk_184 0 66 (dk_at dksJ5_floorOrCeil_0 1 rfl rfl)
theorem dJ5_floorOrCeil_4 : decode cJ5_floorOrCeil 4 = .ok (.istore 8, 2) := dk_54 8 (dk_at dksJ5_floorOrCeil_0 4 rfl rfl)
theorem dJ5_floorOrCeil_6 : decode cJ5_floorOrCeil 6 = .ok (.iload 8, 2) := dk_21 8 (dk_at dksJ5_floorOrCeil_0 6 rfl rfl)
theorem dJ5_floorOrCeil_8 : decode cJ5_floorOrCeil 8 = .ok (.ifCond .ge 26, 3) := dk_156 0 26 (dk_at dksJ5_floorOrCeil_0 8 rfl rfl)
theorem dJ5_floorOrCeil_11 : decode cJ5_floorOrCeil 11 = .ok (.dload_n 0, 1) := dk_38 (dk_at dksJ5_floorOrCeil_0 11 rfl rfl)
theorem dJ5_floorOrCeil_12 : decode cJ5_floorOrCeil 12 = .ok (.dconst 0, 1) := dk_14 (dk_at dksJ5_floorOrCeil_0 12 rfl rfl)
theorem dJ5_floorOrCeil_13 : decode cJ5_floorOrCeil 13 = .ok (.dcmp .l, 1) := dk_151 (dk_at dksJ5_floorOrCeil_0 13 rfl rfl)
theorem dJ5_floorOrCeil_14 : decode cJ5_floorOrCeil 14 = .ok (.ifCond .ne 7, 3) := dk_154 0 7 (dk_at dksJ5_floorOrCeil_0 14 rfl rfl)
theorem dJ5_floorOrCeil_17 : decode cJ5_floorOrCeil 17 = .ok (.dload_n 0, 1) := dk_38 (dk_at dksJ5_floorOrCeil_0 17 rfl rfl)
theorem dJ5_floorOrCeil_18 : decode cJ5_floorOrCeil 18 = .ok (.goto 15, 3) := dk_167 0 15 (dk_at dksJ5_floorOrCeil_0 18 rfl rfl)
theorem dJ5_floorOrCeil_21 : decode cJ5_floorOrCeil 21 = .ok (.dload_n 0, 1) := dk_38 (dk_at dksJ5_floorOrCeil_0 21 rfl rfl)
theorem dJ5_floorOrCeil_22 : decode cJ5_floorOrCeil 22 = .ok (.dconst 0, 1) := dk_14 (dk_at dksJ5_floorOrCeil_0 22 rfl rfl)
theorem dJ5_floorOrCeil_23 : decode cJ5_floorOrCeil 23 = .ok (.dcmp .g, 1) := dk_152 (dk_at dksJ5_floorOrCeil_0 23 rfl rfl)
theorem dJ5_floorOrCeil_24 : decode cJ5_floorOrCeil 24 = .ok (.ifCond .ge 7, 3) := dk_156 0 7 (dk_at dksJ5_floorOrCeil_1 0 rfl rfl)
theorem dJ5_floorOrCeil_27 : decode cJ5_floorOrCeil 27 = .ok (.dload_n 2, 1) := dk_40 (dk_at dksJ5_floorOrCeil_1 3 rfl rfl)
theorem dJ5_floorOrCeil_28 : decode cJ5_floorOrCeil 28 = .ok (.goto 5, 3) := dk_167 0 5 (dk_at dksJ5_floorOrCeil_1 4 rfl rfl)
theorem dJ5_floorOrCeil_31 : decode cJ5_floorOrCeil 31 = .ok (.dload 4, 2) := dk_24 4 (dk_at dksJ5_floorOrCeil_1 7 rfl rfl)
theorem dJ5_floorOrCeil_33 : decode cJ5_floorOrCeil 33 = .ok (.dreturn, 1) := dk_175 (dk_at dksJ5_floorOrCeil_1 9 rfl rfl)
theorem dJ5_floorOrCeil_34 : decode cJ5_floorOrCeil 34 = .ok (.iload 8, 2) := dk_21 8 (dk_at dksJ5_floorOrCeil_1 10 rfl rfl)
theorem dJ5_floorOrCeil_36 : decode cJ5_floorOrCeil 36 = .ok (.bipush 52, 2) := dk_16 52 (dk_at dksJ5_floorOrCeil_1 12 rfl rfl)
theorem dJ5_floorOrCeil_38 : decode cJ5_floorOrCeil 38 = .ok (.if_icmp .lt 5, 3) := dk_161 0 5 (dk_at dksJ5_floorOrCeil_1 14 rfl rfl)
theorem dJ5_floorOrCeil_41 : decode cJ5_floorOrCeil 41 = .ok (.dload_n 0, 1) := dk_38 (dk_at dksJ5_floorOrCeil_1 17 rfl rfl)
theorem dJ5_floorOrCeil_42 : decode cJ5_floorOrCeil 42 = .ok (.dreturn, 1) := dk_175 (dk_at dksJ5_floorOrCeil_1 18 rfl rfl)
theorem dJ5_floorOrCeil_43 : decode cJ5_floorOrCeil 43 = .ok (.getstatic 70, 3) := dk_178 0 70 (dk_at dksJ5_floorOrCeil_1 19 rfl rfl)
theorem dJ5_floorOrCeil_46 : decode cJ5_floorOrCeil 46 = .ok (.ifCond .ne 23, 3) := dk_154 0 23 (dk_at dksJ5_floorOrCeil_2 0 rfl rfl)
theorem dJ5_floorOrCeil_49 : decode cJ5_floorOrCeil 49 = .ok (.iload 8, 2) := dk_21 8 (dk_at dksJ5_floorOrCeil_2 3 rfl rfl)
theorem dJ5_floorOrCeil_51 : decode cJ5_floorOrCeil 51 = .ok (.ifCond .lt 10, 3) := dk_155 0 10 (dk_at dksJ5_floorOrCeil_2 5 rfl rfl)
theorem dJ5_floorOrCeil_54 : decode cJ5_floorOrCeil 54 = .ok (.iload 8, 2) := dk_21 8 (dk_at dksJ5_floorOrCeil_2 8 rfl rfl)
theorem dJ5_floorOrCeil_56 : decode cJ5_floorOrCeil 56 = .ok (.bipush 51, 2) := dk_16 51 (dk_at dksJ5_floorOrCeil_2 10 rfl rfl)
theorem dJ5_floorOrCeil_58 : decode cJ5_floorOrCeil 58 = .ok (.if_icmp .le 11, 3) := dk_164 0 11 (dk_at dksJ5_floorOrCeil_2 12 rfl rfl)
theorem dJ5_floorOrCeil_61 : decode cJ5_floorOrCeil 61 = .ok (.new 74, 3) := dk_187 0 74 (dk_at dksJ5_floorOrCeil_2 15 rfl rfl)
theorem dJ5_floorOrCeil_64 : decode cJ5_floorOrCeil 64 = .ok (.dup, 1) := dk_89 (dk_at dksJ5_floorOrCeil_2 18 rfl rfl)
theorem dJ5_floorOrCeil_65 : decode cJ5_floorOrCeil 65 = .ok (.invokespecial 76, 3) := dk_183 0 76 (dk_at dksJ5_floorOrCeil_2 19 rfl rfl)
theorem dJ5_floorOrCeil_68 : decode cJ5_floorOrCeil 68 = .ok (.athrow, 1) := dk_191 (dk_at dksJ5_floorOrCeil_2 22 rfl rfl)
theorem dJ5_floorOrCeil_69 : decode cJ5_floorOrCeil 69 = .ok (.dload_n 0, 1) := dk_38 (dk_at dksJ5_floorOrCeil_2 23 rfl rfl)
theorem dJ5_floorOrCeil_70 : decode cJ5_floorOrCeil 70 = .ok (.invokestatic 77, 3) := dk_184 0 77 (dk_at dksJ5_floorOrCeil_3 0 rfl rfl)
theorem dJ5_floorOrCeil_73 : decode cJ5_floorOrCeil 73 = .ok (.lstore 9, 2) := dk_55 9 (dk_at dksJ5_floorOrCeil_3 3 rfl rfl)
theorem dJ5_floorOrCeil_75 : decode cJ5_floorOrCeil 75 = .ok (.ldc2_w 85, 3) := dk_20 0 85 (dk_at dksJ5_floorOrCeil_3 5 rfl rfl)
theorem dJ5_floorOrCeil_78 : decode cJ5_floorOrCeil 78 = .ok (.iload 8, 2) := dk_21 8 (dk_at dksJ5_floorOrCeil_3 8 rfl rfl)
theorem dJ5_floorOrCeil_80 : decode cJ5_floorOrCeil 80 = .ok (.lshr, 1) := dk_123 (dk_at dksJ5_floorOrCeil_3 10 rfl rfl)
theorem dJ5_floorOrCeil_81 : decode cJ5_floorOrCeil 81 = .ok (.lstore 11, 2) := dk_55 11 (dk_at dksJ5_floorOrCeil_3 11 rfl rfl)
theorem dJ5_floorOrCeil_83 : decode cJ5_floorOrCeil 83 = .ok (.lload 11, 2) := dk_22 11 (dk_at dksJ5_floorOrCeil_3 13 rfl rfl)
theorem dJ5_floorOrCeil_85 : decode cJ5_floorOrCeil 85 = .ok (.lload 9, 2) := dk_22 9 (dk_at dksJ5_floorOrCeil_3 15 rfl rfl)
theorem dJ5_floorOrCeil_87 : decode cJ5_floorOrCeil 87 = .ok (.land, 1) := dk_127 (dk_at dksJ5_floorOrCeil_3 17 rfl rfl)
theorem dJ5_floorOrCeil_88 : decode cJ5_floorOrCeil 88 = .ok (.lconst 0, 1) := dk_9 (dk_at dksJ5_floorOrCeil_3 18 rfl rfl)
theorem dJ5_floorOrCeil_89 : decode cJ5_floorOrCeil 89 = .ok (.lcmp, 1) := dk_148 (dk_at dksJ5_floorOrCeil_3 19 rfl rfl)
theorem dJ5_floorOrCeil_90 : decode cJ5_floorOrCeil 90 = .ok (.ifCond .ne 5, 3) := dk_154 0 5 (dk_at dksJ5_floorOrCeil_3 20 rfl rfl)
theorem dJ5_floorOrCeil_93 : decode cJ5_floorOrCeil 93 = .ok (.dload_n 0, 1) := dk_38 (dk_at dksJ5_floorOrCeil_3 23 rfl rfl)
theorem dJ5_floorOrCeil_94 : decode cJ5_floorOrCeil 94 = .ok (.dreturn, 1) := dk_175 (dk_at dksJ5_floorOrCeil_4 0 rfl rfl)
theorem dJ5_floorOrCeil_95 : decode cJ5_floorOrCeil 95 = .ok (.lload 9, 2) := dk_22 9 (dk_at dksJ5_floorOrCeil_4 1 rfl rfl)
theorem dJ5_floorOrCeil_97 : decode cJ5_floorOrCeil 97 = .ok (.lload 11, 2) := dk_22 11 (dk_at dksJ5_floorOrCeil_4 3 rfl rfl)
theorem dJ5_floorOrCeil_99 : decode cJ5_floorOrCeil 99 = .ok (.ldc2_w 87, 3) := dk_20 0 87 (dk_at dksJ5_floorOrCeil_4 5 rfl rfl)
theorem dJ5_floorOrCeil_102 : decode cJ5_floorOrCeil 102 = .ok (.lxor, 1) := dk_131 (dk_at dksJ5_floorOrCeil_4 8 rfl rfl)
theorem dJ5_floorOrCeil_103 : decode cJ5_floorOrCeil 103 = .ok (.land, 1) := dk_127 (dk_at dksJ5_floorOrCeil_4 9 rfl rfl)
theorem dJ5_floorOrCeil_104 : decode cJ5_floorOrCeil 104 = .ok (.invokestatic 89, 3) := dk_184 0 89 (dk_at dksJ5_floorOrCeil_4 10 rfl rfl)
theorem dJ5_floorOrCeil_107 : decode cJ5_floorOrCeil 107 = .ok (.dstore 13, 2) := dk_57 13 (dk_at dksJ5_floorOrCeil_4 13 rfl rfl)
theorem dJ5_floorOrCeil_109 : decode cJ5_floorOrCeil 109 = .ok (.dload 6, 2) := dk_24 6 (dk_at dksJ5_floorOrCeil_4 15 rfl rfl)
theorem dJ5_floorOrCeil_111 : decode cJ5_floorOrCeil 111 = .ok (.dload_n 0, 1) := dk_38 (dk_at dksJ5_floorOrCeil_4 17 rfl rfl)
theorem dJ5_floorOrCeil_112 : decode cJ5_floorOrCeil 112 = .ok (.dmul, 1) := dk_107 (dk_at dksJ5_floorOrCeil_4 18 rfl rfl)
theorem dJ5_floorOrCeil_113 : decode cJ5_floorOrCeil 113 = .ok (.dconst 0, 1) := dk_14 (dk_at dksJ5_floorOrCeil_4 19 rfl rfl)
theorem dJ5_floorOrCeil_114 : decode cJ5_floorOrCeil 114 = .ok (.dcmp .l, 1) := dk_151 (dk_at dksJ5_floorOrCeil_4 20 rfl rfl)
theorem dJ5_floorOrCeil_115 : decode cJ5_floorOrCeil 115 = .ok (.ifCond .le 10, 3) := dk_158 0 10 (dk_at dksJ5_floorOrCeil_4 21 rfl rfl)
theorem dJ5_floorOrCeil_118 : decode cJ5_floorOrCeil 118 = .ok (.dload 13, 2) := dk_24 13 (dk_at dksJ5_floorOrCeil_5 0 rfl rfl)
theorem dJ5_floorOrCeil_120 : decode cJ5_floorOrCeil 120 = .ok (.dload 6, 2) := dk_24 6 (dk_at dksJ5_floorOrCeil_5 2 rfl rfl)
theorem dJ5_floorOrCeil_122 : decode cJ5_floorOrCeil 122 = .ok (.dadd, 1) := dk_99 (dk_at dksJ5_floorOrCeil_5 4 rfl rfl)
theorem dJ5_floorOrCeil_123 : decode cJ5_floorOrCeil 123 = .ok (.dstore 13, 2) := dk_57 13 (dk_at dksJ5_floorOrCeil_5 5 rfl rfl)
theorem dJ5_floorOrCeil_125 : decode cJ5_floorOrCeil 125 = .ok (.dload 13, 2) := dk_24 13 (dk_at dksJ5_floorOrCeil_5 7 rfl rfl)
theorem dJ5_floorOrCeil_127 : decode cJ5_floorOrCeil 127 = .ok (.dreturn, 1) := dk_175 (dk_at dksJ5_floorOrCeil_5 9 rfl rfl)
abbrev cJ5_floor : ByteArray := prog_26_method_17_code
def yJ5_floor : MethodName := ⟨RJ5, "floor", "(D)D"⟩
def dkwJ5_floor_0 : List UInt8 := [38, 20, 0, 64, 14, 20, 0, 64, 184, 0, 60, 175]
abbrev dktJ5_floor_0 : List UInt8 := dkwJ5_floor_0 ++ []
theorem dksJ5_floor_0 : cJ5_floor.data.toList.drop 0 = dktJ5_floor_0 := by decide +kernel
theorem dJ5_floor_0 : decode cJ5_floor 0 = .ok (.dload_n 0, 1) := dk_38 (dk_at dksJ5_floor_0 0 rfl rfl)
theorem dJ5_floor_1 : decode cJ5_floor 1 = .ok (.ldc2_w 64, 3) := dk_20 0 64 (dk_at dksJ5_floor_0 1 rfl rfl)
theorem dJ5_floor_4 : decode cJ5_floor 4 = .ok (.dconst 0, 1) := dk_14 (dk_at dksJ5_floor_0 4 rfl rfl)
theorem dJ5_floor_5 : decode cJ5_floor 5 = .ok (.ldc2_w 64, 3) := dk_20 0 64 (dk_at dksJ5_floor_0 5 rfl rfl)
theorem dJ5_floor_8 : decode cJ5_floor 8 = .ok (.invokestatic 60, 3) := dk_184 0 60 (dk_at dksJ5_floor_0 8 rfl rfl)
theorem dJ5_floor_11 : decode cJ5_floor 11 = .ok (.dreturn, 1) := dk_175 (dk_at dksJ5_floor_0 11 rfl rfl)
abbrev cJ5_rint : ByteArray := prog_26_method_19_code
def yJ5_rint : MethodName := ⟨RJ5, "rint", "(D)D"⟩
def dkwJ5_rint_1 : List UInt8 := [99, 40, 103, 71, 24, 4, 38, 107, 175]
abbrev dktJ5_rint_1 : List UInt8 := dkwJ5_rint_1 ++ []
def dkwJ5_rint_0 : List UInt8 := [20, 0, 93, 73, 15, 38, 184, 0, 95, 57, 4, 38, 184, 0, 98, 71, 38, 40, 152, 156, 0, 9, 40, 38]
abbrev dktJ5_rint_0 : List UInt8 := dkwJ5_rint_0 ++ dktJ5_rint_1
theorem dksJ5_rint_0 : cJ5_rint.data.toList.drop 0 = dktJ5_rint_0 := by decide +kernel
theorem dksJ5_rint_1 : cJ5_rint.data.toList.drop 24 = dktJ5_rint_1 := dk_seg dksJ5_rint_0 24 rfl rfl
theorem dJ5_rint_0 : decode cJ5_rint 0 = .ok (.ldc2_w 93, 3) := dk_20 0 93 (dk_at dksJ5_rint_0 0 rfl rfl)
theorem dJ5_rint_3 : decode cJ5_rint 3 = .ok (.dstore_n 2, 1) := dk_73 (dk_at dksJ5_rint_0 3 rfl rfl)
theorem dJ5_rint_4 : decode cJ5_rint 4 = .ok (.dconst 1, 1) := dk_15 (dk_at dksJ5_rint_0 4 rfl rfl)
theorem dJ5_rint_5 : decode cJ5_rint 5 = .ok (.dload_n 0, 1) := dk_38 (dk_at dksJ5_rint_0 5 rfl rfl)
theorem dJ5_rint_6 : decode cJ5_rint 6 = .ok (.invokestatic 95, 3) := dk_184 0 95 (dk_at dksJ5_rint_0 6 rfl rfl)
theorem dJ5_rint_9 : decode cJ5_rint 9 = .ok (.dstore 4, 2) := dk_57 4 (dk_at dksJ5_rint_0 9 rfl rfl)
theorem dJ5_rint_11 : decode cJ5_rint 11 = .ok (.dload_n 0, 1) := dk_38 (dk_at dksJ5_rint_0 11 rfl rfl)
theorem dJ5_rint_12 : decode cJ5_rint 12 = .ok (.invokestatic 98, 3) := dk_184 0 98 (dk_at dksJ5_rint_0 12 rfl rfl)
theorem dJ5_rint_15 : decode cJ5_rint 15 = .ok (.dstore_n 0, 1) := dk_71 (dk_at dksJ5_rint_0 15 rfl rfl)
theorem dJ5_rint_16 : decode cJ5_rint 16 = .ok (.dload_n 0, 1) := dk_38 (dk_at dksJ5_rint_0 16 rfl rfl)
theorem dJ5_rint_17 : decode cJ5_rint 17 = .ok (.dload_n 2, 1) := dk_40 (dk_at dksJ5_rint_0 17 rfl rfl)
theorem dJ5_rint_18 : decode cJ5_rint 18 = .ok (.dcmp .g, 1) := dk_152 (dk_at dksJ5_rint_0 18 rfl rfl)
theorem dJ5_rint_19 : decode cJ5_rint 19 = .ok (.ifCond .ge 9, 3) := dk_156 0 9 (dk_at dksJ5_rint_0 19 rfl rfl)
theorem dJ5_rint_22 : decode cJ5_rint 22 = .ok (.dload_n 2, 1) := dk_40 (dk_at dksJ5_rint_0 22 rfl rfl)
theorem dJ5_rint_23 : decode cJ5_rint 23 = .ok (.dload_n 0, 1) := dk_38 (dk_at dksJ5_rint_0 23 rfl rfl)
theorem dJ5_rint_24 : decode cJ5_rint 24 = .ok (.dadd, 1) := dk_99 (dk_at dksJ5_rint_1 0 rfl rfl)
theorem dJ5_rint_25 : decode cJ5_rint 25 = .ok (.dload_n 2, 1) := dk_40 (dk_at dksJ5_rint_1 1 rfl rfl)
theorem dJ5_rint_26 : decode cJ5_rint 26 = .ok (.dsub, 1) := dk_103 (dk_at dksJ5_rint_1 2 rfl rfl)
theorem dJ5_rint_27 : decode cJ5_rint 27 = .ok (.dstore_n 0, 1) := dk_71 (dk_at dksJ5_rint_1 3 rfl rfl)
theorem dJ5_rint_28 : decode cJ5_rint 28 = .ok (.dload 4, 2) := dk_24 4 (dk_at dksJ5_rint_1 4 rfl rfl)
theorem dJ5_rint_30 : decode cJ5_rint 30 = .ok (.dload_n 0, 1) := dk_38 (dk_at dksJ5_rint_1 6 rfl rfl)
theorem dJ5_rint_31 : decode cJ5_rint 31 = .ok (.dmul, 1) := dk_107 (dk_at dksJ5_rint_1 7 rfl rfl)
theorem dJ5_rint_32 : decode cJ5_rint 32 = .ok (.dreturn, 1) := dk_175 (dk_at dksJ5_rint_1 8 rfl rfl)
theorem q57 : (Jvm.Cond.initialized "java/lang/StrictMath") ∈ lw_all := lw_g (lw_at lw_m1 14 rfl) rfl
theorem q583 : (Jvm.Cond.static ({ cls := "java/lang/StrictMath", name := "ceil", desc := "(D)D" } : Jvm.MethodName)) ∈ lw_all := lw_g (lw_at lw_m3 60 rfl) rfl
theorem q584 : (Jvm.Cond.code ({ cls := "java/lang/StrictMath", name := "ceil", desc := "(D)D" } : Jvm.MethodName) prog_26_method_16_code (2 : Nat) (Option.some Jvm.ClassFile.FieldType.double)) ∈ lw_all := lw_g (lw_at lw_m3 61 rfl) rfl
theorem q585 : (Jvm.Cond.constantDouble "java/lang/StrictMath" (58 : Nat) (9223372036854775808 : UInt64)) ∈ lw_all := lw_g (lw_at lw_m3 62 rfl) rfl
theorem q586 : (Jvm.Cond.methodLink "java/lang/StrictMath" (60 : Nat) ({ cls := "java/lang/StrictMath", name := "floorOrCeil", desc := "(DDDD)D" } : Jvm.MethodName)) ∈ lw_all := lw_g (lw_at lw_m3 63 rfl) rfl
theorem q587 : (Jvm.Cond.static ({ cls := "java/lang/StrictMath", name := "floorOrCeil", desc := "(DDDD)D" } : Jvm.MethodName)) ∈ lw_all := lw_g (lw_at lw_m3 64 rfl) rfl
theorem q588 : (Jvm.Cond.code ({ cls := "java/lang/StrictMath", name := "floorOrCeil", desc := "(DDDD)D" } : Jvm.MethodName) prog_26_method_18_code (15 : Nat) (Option.some Jvm.ClassFile.FieldType.double)) ∈ lw_all := lw_g (lw_at lw_m3 65 rfl) rfl
theorem q589 : (Jvm.Cond.methodLink "java/lang/StrictMath" (66 : Nat) ({ cls := "java/lang/Math", name := "getExponent", desc := "(D)I" } : Jvm.MethodName)) ∈ lw_all := lw_g (lw_at lw_m3 66 rfl) rfl
theorem q590 : (Jvm.Cond.fieldLink "java/lang/StrictMath" (70 : Nat) "java/lang/StrictMath" "$assertionsDisabled" "Z") ∈ lw_all := lw_g (lw_at lw_m3 67 rfl) rfl
theorem q591 : (Jvm.Cond.laysStatic "java/lang/StrictMath" "$assertionsDisabled" "Z") ∈ lw_tbl := lw_at lw_m3 68 rfl
theorem q592 : (Jvm.Cond.methodLink "java/lang/StrictMath" (77 : Nat) ({ cls := "java/lang/Double", name := "doubleToRawLongBits", desc := "(D)J" } : Jvm.MethodName)) ∈ lw_all := lw_g (lw_at lw_m3 69 rfl) rfl
theorem q593 : (Jvm.Cond.constantLong "java/lang/StrictMath" (85 : Nat) (4503599627370495 : Int64)) ∈ lw_all := lw_g (lw_at lw_m3 70 rfl) rfl
theorem q594 : (Jvm.Cond.constantLong "java/lang/StrictMath" (87 : Nat) (-1 : Int64)) ∈ lw_all := lw_g (lw_at lw_m3 71 rfl) rfl
theorem q595 : (Jvm.Cond.methodLink "java/lang/StrictMath" (89 : Nat) ({ cls := "java/lang/Double", name := "longBitsToDouble", desc := "(J)D" } : Jvm.MethodName)) ∈ lw_all := lw_g (lw_at lw_m3 72 rfl) rfl
theorem q600 : (Jvm.Cond.static ({ cls := "java/lang/StrictMath", name := "floor", desc := "(D)D" } : Jvm.MethodName)) ∈ lw_all := lw_g (lw_at lw_m3 77 rfl) rfl
theorem q601 : (Jvm.Cond.code ({ cls := "java/lang/StrictMath", name := "floor", desc := "(D)D" } : Jvm.MethodName) prog_26_method_17_code (2 : Nat) (Option.some Jvm.ClassFile.FieldType.double)) ∈ lw_all := lw_g (lw_at lw_m3 78 rfl) rfl
theorem q602 : (Jvm.Cond.constantDouble "java/lang/StrictMath" (64 : Nat) (13830554455654793216 : UInt64)) ∈ lw_all := lw_g (lw_at lw_m3 79 rfl) rfl
theorem q607 : (Jvm.Cond.static ({ cls := "java/lang/StrictMath", name := "rint", desc := "(D)D" } : Jvm.MethodName)) ∈ lw_all := lw_g (lw_at lw_m3 84 rfl) rfl
theorem q608 : (Jvm.Cond.code ({ cls := "java/lang/StrictMath", name := "rint", desc := "(D)D" } : Jvm.MethodName) prog_26_method_19_code (6 : Nat) (Option.some Jvm.ClassFile.FieldType.double)) ∈ lw_all := lw_g (lw_at lw_m3 85 rfl) rfl
theorem q609 : (Jvm.Cond.constantDouble "java/lang/StrictMath" (93 : Nat) (4841369599423283200 : UInt64)) ∈ lw_all := lw_g (lw_at lw_m3 86 rfl) rfl
theorem q610 : (Jvm.Cond.methodLink "java/lang/StrictMath" (95 : Nat) ({ cls := "java/lang/Math", name := "copySign", desc := "(DD)D" } : Jvm.MethodName)) ∈ lw_all := lw_g (lw_at lw_m3 87 rfl) rfl
theorem q611 : (Jvm.Cond.methodLink "java/lang/StrictMath" (98 : Nat) ({ cls := "java/lang/Math", name := "abs", desc := "(D)D" } : Jvm.MethodName)) ∈ lw_all := lw_g (lw_at lw_m3 88 rfl) rfl
/-! java/lang/Throwable -/
set_option maxRecDepth 100000
def RJ6 : String := "java/lang/Throwable"
def TJ6 : u_T := fun k => match k with
  | 0 => ("java/lang/Throwable", "cause", "Ljava/lang/Throwable;", false)
  | 1 => ("java/lang/Throwable", "stackTrace", "[Ljava/lang/StackTraceElement;", false)
  | 2 => ("java/lang/Throwable", "suppressedExceptions", "Ljava/util/List;", false)
  | 3 => ("java/lang/Throwable", "detailMessage", "Ljava/lang/String;", false)
  | _ => ("java/lang/Throwable", "backtrace", "Ljava/lang/Object;", false)
def tyJ6 : Nat → FieldType := fun k => match k with
  | 0 => .object "java/lang/Throwable"
  | 1 => .array (.object "java/lang/StackTraceElement")
  | 2 => .object "java/util/List"
  | 3 => .object "java/lang/String"
  | _ => .object "java/lang/Object"
abbrev wsJ60 : List Cond := u_ws RJ6 TJ6 5
theorem nmJ6 : ∀ a, a < 5 → ∀ b, b < 5 → a ≠ b → (TJ6 a).2.1 ≠ (TJ6 b).2.1 := by decide +kernel
theorem tyJ6_ok : ∀ k, k < 5 → parseFieldDescriptor (TJ6 k).2.2.1 = some (tyJ6 k) := by decide +kernel
abbrev cJ6_init : ByteArray := prog_29_method_2_code
def yJ6_init : MethodName := ⟨RJ6, "<init>", "(Ljava/lang/String;)V"⟩
def dkwJ6_init_1 : List UInt8 := [182, 0, 27, 87, 42, 43, 181, 0, 31, 177]
abbrev dktJ6_init_1 : List UInt8 := dkwJ6_init_1 ++ []
def dkwJ6_init_0 : List UInt8 := [42, 183, 0, 1, 42, 42, 181, 0, 7, 42, 178, 0, 13, 181, 0, 17, 42, 178, 0, 20, 181, 0, 24, 42]
abbrev dktJ6_init_0 : List UInt8 := dkwJ6_init_0 ++ dktJ6_init_1
theorem dksJ6_init_0 : cJ6_init.data.toList.drop 0 = dktJ6_init_0 := by decide +kernel
theorem dksJ6_init_1 : cJ6_init.data.toList.drop 24 = dktJ6_init_1 := dk_seg dksJ6_init_0 24 rfl rfl
theorem dJ6_init_0 : decode cJ6_init 0 = .ok (.aload_n 0, 1) := dk_42 (dk_at dksJ6_init_0 0 rfl rfl)
theorem dJ6_init_1 : decode cJ6_init 1 = .ok (.invokespecial 1, 3) := dk_183 0 1 (dk_at dksJ6_init_0 1 rfl rfl)
theorem dJ6_init_4 : decode cJ6_init 4 = .ok (.aload_n 0, 1) := dk_42 (dk_at dksJ6_init_0 4 rfl rfl)
theorem dJ6_init_5 : decode cJ6_init 5 = .ok (.aload_n 0, 1) := dk_42 (dk_at dksJ6_init_0 5 rfl rfl)
theorem dJ6_init_6 : decode cJ6_init 6 = .ok (.putfield 7, 3) := dk_181 0 7 (dk_at dksJ6_init_0 6 rfl rfl)
theorem dJ6_init_9 : decode cJ6_init 9 = .ok (.aload_n 0, 1) := dk_42 (dk_at dksJ6_init_0 9 rfl rfl)
theorem dJ6_init_10 : decode cJ6_init 10 = .ok (.getstatic 13, 3) := dk_178 0 13 (dk_at dksJ6_init_0 10 rfl rfl)
theorem dJ6_init_13 : decode cJ6_init 13 = .ok (.putfield 17, 3) := dk_181 0 17 (dk_at dksJ6_init_0 13 rfl rfl)
theorem dJ6_init_16 : decode cJ6_init 16 = .ok (.aload_n 0, 1) := dk_42 (dk_at dksJ6_init_0 16 rfl rfl)
theorem dJ6_init_17 : decode cJ6_init 17 = .ok (.getstatic 20, 3) := dk_178 0 20 (dk_at dksJ6_init_0 17 rfl rfl)
theorem dJ6_init_20 : decode cJ6_init 20 = .ok (.putfield 24, 3) := dk_181 0 24 (dk_at dksJ6_init_0 20 rfl rfl)
theorem dJ6_init_23 : decode cJ6_init 23 = .ok (.aload_n 0, 1) := dk_42 (dk_at dksJ6_init_0 23 rfl rfl)
theorem dJ6_init_24 : decode cJ6_init 24 = .ok (.invokevirtual 27, 3) := dk_182 0 27 (dk_at dksJ6_init_1 0 rfl rfl)
theorem dJ6_init_27 : decode cJ6_init 27 = .ok (.pop, 1) := dk_87 (dk_at dksJ6_init_1 3 rfl rfl)
theorem dJ6_init_28 : decode cJ6_init 28 = .ok (.aload_n 0, 1) := dk_42 (dk_at dksJ6_init_1 4 rfl rfl)
theorem dJ6_init_29 : decode cJ6_init 29 = .ok (.aload_n 1, 1) := dk_43 (dk_at dksJ6_init_1 5 rfl rfl)
theorem dJ6_init_30 : decode cJ6_init 30 = .ok (.putfield 31, 3) := dk_181 0 31 (dk_at dksJ6_init_1 6 rfl rfl)
theorem dJ6_init_33 : decode cJ6_init 33 = .ok (.return_, 1) := dk_177 (dk_at dksJ6_init_1 9 rfl rfl)
abbrev cJ6_init_2 : ByteArray := prog_29_method_1_code
def yJ6_init_2 : MethodName := ⟨RJ6, "<init>", "()V"⟩
def dkwJ6_init_2_1 : List UInt8 := [182, 0, 27, 87, 177]
abbrev dktJ6_init_2_1 : List UInt8 := dkwJ6_init_2_1 ++ []
def dkwJ6_init_2_0 : List UInt8 := [42, 183, 0, 1, 42, 42, 181, 0, 7, 42, 178, 0, 13, 181, 0, 17, 42, 178, 0, 20, 181, 0, 24, 42]
abbrev dktJ6_init_2_0 : List UInt8 := dkwJ6_init_2_0 ++ dktJ6_init_2_1
theorem dksJ6_init_2_0 : cJ6_init_2.data.toList.drop 0 = dktJ6_init_2_0 := by decide +kernel
theorem dksJ6_init_2_1 : cJ6_init_2.data.toList.drop 24 = dktJ6_init_2_1 := dk_seg dksJ6_init_2_0 24 rfl rfl
theorem dJ6_init_2_0 : decode cJ6_init_2 0 = .ok (.aload_n 0, 1) := dk_42 (dk_at dksJ6_init_2_0 0 rfl rfl)
theorem dJ6_init_2_1 : decode cJ6_init_2 1 = .ok (.invokespecial 1, 3) := dk_183 0 1 (dk_at dksJ6_init_2_0 1 rfl rfl)
theorem dJ6_init_2_4 : decode cJ6_init_2 4 = .ok (.aload_n 0, 1) := dk_42 (dk_at dksJ6_init_2_0 4 rfl rfl)
theorem dJ6_init_2_5 : decode cJ6_init_2 5 = .ok (.aload_n 0, 1) := dk_42 (dk_at dksJ6_init_2_0 5 rfl rfl)
theorem dJ6_init_2_6 : decode cJ6_init_2 6 = .ok (.putfield 7, 3) := dk_181 0 7 (dk_at dksJ6_init_2_0 6 rfl rfl)
theorem dJ6_init_2_9 : decode cJ6_init_2 9 = .ok (.aload_n 0, 1) := dk_42 (dk_at dksJ6_init_2_0 9 rfl rfl)
theorem dJ6_init_2_10 : decode cJ6_init_2 10 = .ok (.getstatic 13, 3) := dk_178 0 13 (dk_at dksJ6_init_2_0 10 rfl rfl)
theorem dJ6_init_2_13 : decode cJ6_init_2 13 = .ok (.putfield 17, 3) := dk_181 0 17 (dk_at dksJ6_init_2_0 13 rfl rfl)
theorem dJ6_init_2_16 : decode cJ6_init_2 16 = .ok (.aload_n 0, 1) := dk_42 (dk_at dksJ6_init_2_0 16 rfl rfl)
theorem dJ6_init_2_17 : decode cJ6_init_2 17 = .ok (.getstatic 20, 3) := dk_178 0 20 (dk_at dksJ6_init_2_0 17 rfl rfl)
theorem dJ6_init_2_20 : decode cJ6_init_2 20 = .ok (.putfield 24, 3) := dk_181 0 24 (dk_at dksJ6_init_2_0 20 rfl rfl)
theorem dJ6_init_2_23 : decode cJ6_init_2 23 = .ok (.aload_n 0, 1) := dk_42 (dk_at dksJ6_init_2_0 23 rfl rfl)
theorem dJ6_init_2_24 : decode cJ6_init_2 24 = .ok (.invokevirtual 27, 3) := dk_182 0 27 (dk_at dksJ6_init_2_1 0 rfl rfl)
theorem dJ6_init_2_27 : decode cJ6_init_2 27 = .ok (.pop, 1) := dk_87 (dk_at dksJ6_init_2_1 3 rfl rfl)
theorem dJ6_init_2_28 : decode cJ6_init_2 28 = .ok (.return_, 1) := dk_177 (dk_at dksJ6_init_2_1 4 rfl rfl)
theorem q58 : (Jvm.Cond.initialized "java/lang/Throwable") ∈ lw_all := lw_g (lw_at lw_m1 15 rfl) rfl
theorem q649 : (Jvm.Cond.instanceMethod ({ cls := "java/lang/Throwable", name := "<init>", desc := "(Ljava/lang/String;)V" } : Jvm.MethodName)) ∈ lw_all := lw_g (lw_at lw_m3 126 rfl) rfl
theorem q650 : (Jvm.Cond.code ({ cls := "java/lang/Throwable", name := "<init>", desc := "(Ljava/lang/String;)V" } : Jvm.MethodName) prog_29_method_2_code (2 : Nat) (Option.none : Option Jvm.ClassFile.FieldType)) ∈ lw_all := lw_g (lw_at lw_m3 127 rfl) rfl
theorem q651 : (Jvm.Cond.methodLink "java/lang/Throwable" (1 : Nat) ({ cls := "java/lang/Object", name := "<init>", desc := "()V" } : Jvm.MethodName)) ∈ lw_all := lw_g (lw_at lw_m3 128 rfl) rfl
theorem q654 : (Jvm.Cond.fieldLink "java/lang/Throwable" (13 : Nat) "java/lang/Throwable" "UNASSIGNED_STACK" "[Ljava/lang/StackTraceElement;") ∈ lw_all := lw_g (lw_at lw_m3 131 rfl) rfl
theorem q655 : (Jvm.Cond.laysStatic "java/lang/Throwable" "UNASSIGNED_STACK" "[Ljava/lang/StackTraceElement;") ∈ lw_tbl := lw_at lw_m3 132 rfl
theorem q656 : (Jvm.Cond.fieldLink "java/lang/Throwable" (20 : Nat) "java/lang/Throwable" "SUPPRESSED_SENTINEL" "Ljava/util/List;") ∈ lw_all := lw_g (lw_at lw_m3 133 rfl) rfl
theorem q657 : (Jvm.Cond.laysStatic "java/lang/Throwable" "SUPPRESSED_SENTINEL" "Ljava/util/List;") ∈ lw_tbl := lw_at lw_m3 134 rfl
theorem q658 : (Jvm.Cond.methodLink "java/lang/Throwable" (27 : Nat) ({ cls := "java/lang/Throwable", name := "fillInStackTrace", desc := "()Ljava/lang/Throwable;" } : Jvm.MethodName)) ∈ lw_all := lw_g (lw_at lw_m3 135 rfl) rfl
theorem q659 : (Jvm.Cond.instanceMethod ({ cls := "java/lang/Throwable", name := "fillInStackTrace", desc := "()Ljava/lang/Throwable;" } : Jvm.MethodName)) ∈ lw_all := lw_g (lw_at lw_m3 136 rfl) rfl
theorem q660 : (Jvm.Cond.sameMethod "java/lang/Throwable" "java/lang/Throwable" "fillInStackTrace" "()Ljava/lang/Throwable;") ∈ lw_all := lw_g (lw_at lw_m3 137 rfl) rfl
theorem q677 : (Jvm.Cond.declares ({ cls := "java/lang/Throwable", name := "fillInStackTrace", desc := "()Ljava/lang/Throwable;" } : Jvm.MethodName)) ∈ lw_tbl := lw_at lw_m3 154 rfl
theorem q681 : (Jvm.Cond.codeSync ({ cls := "java/lang/Throwable", name := "fillInStackTrace", desc := "()Ljava/lang/Throwable;" } : Jvm.MethodName) prog_29_method_18_code (1 : Nat) (Option.some (Jvm.ClassFile.FieldType.object "java/lang/Throwable"))) ∈ lw_all := lw_g (lw_at lw_m3 158 rfl) rfl
theorem q682 : (Jvm.Cond.methodLink "java/lang/Throwable" (202 : Nat) ({ cls := "java/lang/Throwable", name := "fillInStackTrace", desc := "(I)Ljava/lang/Throwable;" } : Jvm.MethodName)) ∈ lw_all := lw_g (lw_at lw_m3 159 rfl) rfl
theorem q683 : (Jvm.Cond.privateMethod ({ cls := "java/lang/Throwable", name := "fillInStackTrace", desc := "(I)Ljava/lang/Throwable;" } : Jvm.MethodName)) ∈ lw_tbl := lw_at lw_m3 160 rfl
theorem q684 : (Jvm.Cond.instanceMethod ({ cls := "java/lang/Throwable", name := "fillInStackTrace", desc := "(I)Ljava/lang/Throwable;" } : Jvm.MethodName)) ∈ lw_all := lw_g (lw_at lw_m3 161 rfl) rfl
theorem q685 : (Jvm.Cond.instantiable "java/lang/Throwable" (6 : Nat)) ∈ lw_all := lw_g (lw_at lw_m3 162 rfl) rfl
theorem q686 : (Jvm.Cond.native ({ cls := "java/lang/Throwable", name := "fillInStackTrace", desc := "(I)Ljava/lang/Throwable;" } : Jvm.MethodName)) ∈ lw_all := lw_g (lw_at lw_m3 163 rfl) rfl
theorem q687 : (Jvm.Cond.fieldLink "java/lang/Throwable" (198 : Nat) "java/lang/Throwable" "backtrace" "Ljava/lang/Object;") ∈ lw_all := lw_g (lw_at lw_m3 164 rfl) rfl
theorem q688 : (Jvm.Cond.fieldLink "java/lang/Throwable" (31 : Nat) "java/lang/Throwable" "detailMessage" "Ljava/lang/String;") ∈ lw_all := lw_g (lw_at lw_m3 165 rfl) rfl
theorem q689 : (Jvm.Cond.fieldLink "java/lang/Throwable" (7 : Nat) "java/lang/Throwable" "cause" "Ljava/lang/Throwable;") ∈ lw_all := lw_g (lw_at lw_m3 166 rfl) rfl
theorem q690 : (Jvm.Cond.fieldLink "java/lang/Throwable" (17 : Nat) "java/lang/Throwable" "stackTrace" "[Ljava/lang/StackTraceElement;") ∈ lw_all := lw_g (lw_at lw_m3 167 rfl) rfl
theorem q691 : (Jvm.Cond.fieldLink "java/lang/Throwable" (24 : Nat) "java/lang/Throwable" "suppressedExceptions" "Ljava/util/List;") ∈ lw_all := lw_g (lw_at lw_m3 168 rfl) rfl
theorem q693 : (Jvm.Cond.soleField "java/lang/Throwable" "backtrace") ∈ lw_all := lw_g (lw_at lw_m3 170 rfl) rfl
theorem q695 : (Jvm.Cond.soleField "java/lang/Throwable" "detailMessage") ∈ lw_all := lw_g (lw_at lw_m3 172 rfl) rfl
theorem q697 : (Jvm.Cond.soleField "java/lang/Throwable" "cause") ∈ lw_all := lw_g (lw_at lw_m3 174 rfl) rfl
theorem q699 : (Jvm.Cond.soleField "java/lang/Throwable" "stackTrace") ∈ lw_all := lw_g (lw_at lw_m3 176 rfl) rfl
theorem q701 : (Jvm.Cond.soleField "java/lang/Throwable" "depth") ∈ lw_all := lw_g (lw_at lw_m3 178 rfl) rfl
theorem q703 : (Jvm.Cond.soleField "java/lang/Throwable" "suppressedExceptions") ∈ lw_all := lw_g (lw_at lw_m3 180 rfl) rfl
theorem q710 : (Jvm.Cond.declares ({ cls := "java/lang/Throwable", name := "<init>", desc := "()V" } : Jvm.MethodName)) ∈ lw_tbl := lw_at lw_m3 187 rfl
theorem q711 : (Jvm.Cond.declares ({ cls := "java/lang/Throwable", name := "<init>", desc := "(Ljava/lang/String;)V" } : Jvm.MethodName)) ∈ lw_tbl := lw_at lw_m3 188 rfl
theorem q713 : (Jvm.Cond.lays "java/lang/Throwable" "java/lang/Throwable" "cause" "Ljava/lang/Throwable;") ∈ lw_all := lw_g (lw_at lw_m3 190 rfl) rfl
theorem q714 : (Jvm.Cond.lays "java/lang/Throwable" "java/lang/Throwable" "stackTrace" "[Ljava/lang/StackTraceElement;") ∈ lw_all := lw_g (lw_at lw_m3 191 rfl) rfl
theorem q715 : (Jvm.Cond.lays "java/lang/Throwable" "java/lang/Throwable" "suppressedExceptions" "Ljava/util/List;") ∈ lw_all := lw_g (lw_at lw_m3 192 rfl) rfl
theorem q716 : (Jvm.Cond.lays "java/lang/Throwable" "java/lang/Throwable" "detailMessage" "Ljava/lang/String;") ∈ lw_all := lw_g (lw_at lw_m3 193 rfl) rfl
theorem q717 : (Jvm.Cond.lays "java/lang/Throwable" "java/lang/Throwable" "backtrace" "Ljava/lang/Object;") ∈ lw_all := lw_g (lw_at lw_m3 194 rfl) rfl
theorem q718 : (Jvm.Cond.fieldLink "java/lang/Throwable" (198 : Nat) "java/lang/Throwable" "backtrace" "Ljava/lang/Object;") ∈ lw_all := lw_g (lw_at lw_m3 195 rfl) rfl
theorem q719 : (Jvm.Cond.superclass "java/lang/Throwable" "java/lang/Object") ∈ lw_all := lw_g (lw_at lw_m3 196 rfl) rfl
theorem q720 : (Jvm.Cond.instanceMethod ({ cls := "java/lang/Throwable", name := "<init>", desc := "()V" } : Jvm.MethodName)) ∈ lw_all := lw_g (lw_at lw_m3 197 rfl) rfl
theorem q721 : (Jvm.Cond.code ({ cls := "java/lang/Throwable", name := "<init>", desc := "()V" } : Jvm.MethodName) prog_29_method_1_code (1 : Nat) (Option.none : Option Jvm.ClassFile.FieldType)) ∈ lw_all := lw_g (lw_at lw_m3 198 rfl) rfl
theorem q1586 : (Jvm.Cond.sameMethod "java/lang/Throwable" "java/lang/Throwable" "fillInStackTrace" "(I)Ljava/lang/Throwable;") ∈ lw_all := lw_g (lw_at lw_m7 103 rfl) rfl
theorem in_J6 : ∀ w ∈ wsJ60, w ∈ lw_all := lw_in wsJ60 [713, 714, 715, 716, 717] (by decide +kernel) (by decide +kernel)
/-! java/lang/Exception -/
set_option maxRecDepth 100000
def RJ7 : String := "java/lang/Exception"
abbrev cJ7_init : ByteArray := prog_16_method_2_code
def yJ7_init : MethodName := ⟨RJ7, "<init>", "(Ljava/lang/String;)V"⟩
def dkwJ7_init_0 : List UInt8 := [42, 43, 183, 0, 7, 177]
abbrev dktJ7_init_0 : List UInt8 := dkwJ7_init_0 ++ []
theorem dksJ7_init_0 : cJ7_init.data.toList.drop 0 = dktJ7_init_0 := by decide +kernel
theorem dJ7_init_0 : decode cJ7_init 0 = .ok (.aload_n 0, 1) := dk_42 (dk_at dksJ7_init_0 0 rfl rfl)
theorem dJ7_init_1 : decode cJ7_init 1 = .ok (.aload_n 1, 1) := dk_43 (dk_at dksJ7_init_0 1 rfl rfl)
theorem dJ7_init_2 : decode cJ7_init 2 = .ok (.invokespecial 7, 3) := dk_183 0 7 (dk_at dksJ7_init_0 2 rfl rfl)
theorem dJ7_init_5 : decode cJ7_init 5 = .ok (.return_, 1) := dk_177 (dk_at dksJ7_init_0 5 rfl rfl)
abbrev cJ7_init_2 : ByteArray := prog_16_method_1_code
def yJ7_init_2 : MethodName := ⟨RJ7, "<init>", "()V"⟩
theorem dJ7_init_2_0 : decode cJ7_init_2 0 = .ok (.aload_n 0, 1) := by decide +kernel
theorem dJ7_init_2_1 : decode cJ7_init_2 1 = .ok (.invokespecial 1, 3) := by decide +kernel
theorem dJ7_init_2_4 : decode cJ7_init_2 4 = .ok (.return_, 1) := by decide +kernel
theorem q59 : (Jvm.Cond.initialized "java/lang/Exception") ∈ lw_all := lw_g (lw_at lw_m1 16 rfl) rfl
theorem q646 : (Jvm.Cond.instanceMethod ({ cls := "java/lang/Exception", name := "<init>", desc := "(Ljava/lang/String;)V" } : Jvm.MethodName)) ∈ lw_all := lw_g (lw_at lw_m3 123 rfl) rfl
theorem q647 : (Jvm.Cond.code ({ cls := "java/lang/Exception", name := "<init>", desc := "(Ljava/lang/String;)V" } : Jvm.MethodName) prog_16_method_2_code (2 : Nat) (Option.none : Option Jvm.ClassFile.FieldType)) ∈ lw_all := lw_g (lw_at lw_m3 124 rfl) rfl
theorem q648 : (Jvm.Cond.methodLink "java/lang/Exception" (7 : Nat) ({ cls := "java/lang/Throwable", name := "<init>", desc := "(Ljava/lang/String;)V" } : Jvm.MethodName)) ∈ lw_all := lw_g (lw_at lw_m3 125 rfl) rfl
theorem q680 : (Jvm.Cond.superclass "java/lang/Exception" "java/lang/Throwable") ∈ lw_all := lw_g (lw_at lw_m3 157 rfl) rfl
theorem q708 : (Jvm.Cond.declares ({ cls := "java/lang/Exception", name := "<init>", desc := "()V" } : Jvm.MethodName)) ∈ lw_tbl := lw_at lw_m3 185 rfl
theorem q709 : (Jvm.Cond.declares ({ cls := "java/lang/Exception", name := "<init>", desc := "(Ljava/lang/String;)V" } : Jvm.MethodName)) ∈ lw_tbl := lw_at lw_m3 186 rfl
theorem q863 : (Jvm.Cond.instanceMethod ({ cls := "java/lang/Exception", name := "<init>", desc := "()V" } : Jvm.MethodName)) ∈ lw_all := lw_g (lw_at lw_m4 100 rfl) rfl
theorem q864 : (Jvm.Cond.code ({ cls := "java/lang/Exception", name := "<init>", desc := "()V" } : Jvm.MethodName) prog_16_method_1_code (1 : Nat) (Option.none : Option Jvm.ClassFile.FieldType)) ∈ lw_all := lw_g (lw_at lw_m4 101 rfl) rfl
theorem q865 : (Jvm.Cond.methodLink "java/lang/Exception" (1 : Nat) ({ cls := "java/lang/Throwable", name := "<init>", desc := "()V" } : Jvm.MethodName)) ∈ lw_all := lw_g (lw_at lw_m4 102 rfl) rfl
/-! java/lang/RuntimeException -/
set_option maxRecDepth 100000
def RJ8 : String := "java/lang/RuntimeException"
abbrev cJ8_init : ByteArray := prog_25_method_2_code
def yJ8_init : MethodName := ⟨RJ8, "<init>", "(Ljava/lang/String;)V"⟩
def dkwJ8_init_0 : List UInt8 := [42, 43, 183, 0, 7, 177]
abbrev dktJ8_init_0 : List UInt8 := dkwJ8_init_0 ++ []
theorem dksJ8_init_0 : cJ8_init.data.toList.drop 0 = dktJ8_init_0 := by decide +kernel
theorem dJ8_init_0 : decode cJ8_init 0 = .ok (.aload_n 0, 1) := dk_42 (dk_at dksJ8_init_0 0 rfl rfl)
theorem dJ8_init_1 : decode cJ8_init 1 = .ok (.aload_n 1, 1) := dk_43 (dk_at dksJ8_init_0 1 rfl rfl)
theorem dJ8_init_2 : decode cJ8_init 2 = .ok (.invokespecial 7, 3) := dk_183 0 7 (dk_at dksJ8_init_0 2 rfl rfl)
theorem dJ8_init_5 : decode cJ8_init 5 = .ok (.return_, 1) := dk_177 (dk_at dksJ8_init_0 5 rfl rfl)
abbrev cJ8_init_2 : ByteArray := prog_25_method_1_code
def yJ8_init_2 : MethodName := ⟨RJ8, "<init>", "()V"⟩
theorem dJ8_init_2_0 : decode cJ8_init_2 0 = .ok (.aload_n 0, 1) := by decide +kernel
theorem dJ8_init_2_1 : decode cJ8_init_2 1 = .ok (.invokespecial 1, 3) := by decide +kernel
theorem dJ8_init_2_4 : decode cJ8_init_2 4 = .ok (.return_, 1) := by decide +kernel
theorem q60 : (Jvm.Cond.initialized "java/lang/RuntimeException") ∈ lw_all := lw_g (lw_at lw_m1 17 rfl) rfl
theorem q643 : (Jvm.Cond.instanceMethod ({ cls := "java/lang/RuntimeException", name := "<init>", desc := "(Ljava/lang/String;)V" } : Jvm.MethodName)) ∈ lw_all := lw_g (lw_at lw_m3 120 rfl) rfl
theorem q644 : (Jvm.Cond.code ({ cls := "java/lang/RuntimeException", name := "<init>", desc := "(Ljava/lang/String;)V" } : Jvm.MethodName) prog_25_method_2_code (2 : Nat) (Option.none : Option Jvm.ClassFile.FieldType)) ∈ lw_all := lw_g (lw_at lw_m3 121 rfl) rfl
theorem q645 : (Jvm.Cond.methodLink "java/lang/RuntimeException" (7 : Nat) ({ cls := "java/lang/Exception", name := "<init>", desc := "(Ljava/lang/String;)V" } : Jvm.MethodName)) ∈ lw_all := lw_g (lw_at lw_m3 122 rfl) rfl
theorem q676 : (Jvm.Cond.sameMethod "java/lang/RuntimeException" "java/lang/Throwable" "fillInStackTrace" "()Ljava/lang/Throwable;") ∈ lw_all := lw_g (lw_at lw_m3 153 rfl) rfl
theorem q679 : (Jvm.Cond.superclass "java/lang/RuntimeException" "java/lang/Exception") ∈ lw_all := lw_g (lw_at lw_m3 156 rfl) rfl
theorem q706 : (Jvm.Cond.declares ({ cls := "java/lang/RuntimeException", name := "<init>", desc := "()V" } : Jvm.MethodName)) ∈ lw_tbl := lw_at lw_m3 183 rfl
theorem q707 : (Jvm.Cond.declares ({ cls := "java/lang/RuntimeException", name := "<init>", desc := "(Ljava/lang/String;)V" } : Jvm.MethodName)) ∈ lw_tbl := lw_at lw_m3 184 rfl
theorem q1034 : (Jvm.Cond.instanceMethod ({ cls := "java/lang/RuntimeException", name := "<init>", desc := "()V" } : Jvm.MethodName)) ∈ lw_all := lw_g (lw_at lw_m5 31 rfl) rfl
theorem q1035 : (Jvm.Cond.code ({ cls := "java/lang/RuntimeException", name := "<init>", desc := "()V" } : Jvm.MethodName) prog_25_method_1_code (1 : Nat) (Option.none : Option Jvm.ClassFile.FieldType)) ∈ lw_all := lw_g (lw_at lw_m5 32 rfl) rfl
theorem q1036 : (Jvm.Cond.methodLink "java/lang/RuntimeException" (1 : Nat) ({ cls := "java/lang/Exception", name := "<init>", desc := "()V" } : Jvm.MethodName)) ∈ lw_all := lw_g (lw_at lw_m5 33 rfl) rfl
theorem q1051 : (Jvm.Cond.castable "java/lang/RuntimeException" "java/lang/Throwable") ∈ lw_tbl := lw_at lw_m5 48 rfl
/-! java/lang/ArithmeticException -/
set_option maxRecDepth 100000
def RJ9 : String := "java/lang/ArithmeticException"
def TJ9 : u_T := fun k => match k with
  | 0 => ("java/lang/Throwable", "backtrace", "Ljava/lang/Object;", false)
  | 1 => ("java/lang/Throwable", "detailMessage", "Ljava/lang/String;", false)
  | 2 => ("java/lang/Throwable", "cause", "Ljava/lang/Throwable;", false)
  | 3 => ("java/lang/Throwable", "stackTrace", "[Ljava/lang/StackTraceElement;", false)
  | 4 => ("java/lang/Throwable", "depth", "I", false)
  | _ => ("java/lang/Throwable", "suppressedExceptions", "Ljava/util/List;", false)
def tyJ9 : Nat → FieldType := fun k => match k with
  | 0 => .object "java/lang/Object"
  | 1 => .object "java/lang/String"
  | 2 => .object "java/lang/Throwable"
  | 3 => .array (.object "java/lang/StackTraceElement")
  | 4 => .int
  | _ => .object "java/util/List"
abbrev wsJ90 : List Cond := u_ws RJ9 TJ9 6
theorem nmJ9 : ∀ a, a < 6 → ∀ b, b < 6 → a ≠ b → (TJ9 a).2.1 ≠ (TJ9 b).2.1 := by decide +kernel
theorem tyJ9_ok : ∀ k, k < 6 → parseFieldDescriptor (TJ9 k).2.2.1 = some (tyJ9 k) := by decide +kernel
abbrev cJ9_init : ByteArray := prog_11_method_2_code
def yJ9_init : MethodName := ⟨RJ9, "<init>", "(Ljava/lang/String;)V"⟩
def dkwJ9_init_0 : List UInt8 := [42, 43, 183, 0, 7, 177]
abbrev dktJ9_init_0 : List UInt8 := dkwJ9_init_0 ++ []
theorem dksJ9_init_0 : cJ9_init.data.toList.drop 0 = dktJ9_init_0 := by decide +kernel
theorem dJ9_init_0 : decode cJ9_init 0 = .ok (.aload_n 0, 1) := dk_42 (dk_at dksJ9_init_0 0 rfl rfl)
theorem dJ9_init_1 : decode cJ9_init 1 = .ok (.aload_n 1, 1) := dk_43 (dk_at dksJ9_init_0 1 rfl rfl)
theorem dJ9_init_2 : decode cJ9_init 2 = .ok (.invokespecial 7, 3) := dk_183 0 7 (dk_at dksJ9_init_0 2 rfl rfl)
theorem dJ9_init_5 : decode cJ9_init 5 = .ok (.return_, 1) := dk_177 (dk_at dksJ9_init_0 5 rfl rfl)
theorem q61 : (Jvm.Cond.initialized "java/lang/ArithmeticException") ∈ lw_all := lw_g (lw_at lw_m1 18 rfl) rfl
theorem q639 : (Jvm.Cond.instantiable "java/lang/ArithmeticException" (6 : Nat)) ∈ lw_all := lw_g (lw_at lw_m3 116 rfl) rfl
theorem q640 : (Jvm.Cond.instanceMethod ({ cls := "java/lang/ArithmeticException", name := "<init>", desc := "(Ljava/lang/String;)V" } : Jvm.MethodName)) ∈ lw_all := lw_g (lw_at lw_m3 117 rfl) rfl
theorem q641 : (Jvm.Cond.code ({ cls := "java/lang/ArithmeticException", name := "<init>", desc := "(Ljava/lang/String;)V" } : Jvm.MethodName) prog_11_method_2_code (2 : Nat) (Option.none : Option Jvm.ClassFile.FieldType)) ∈ lw_all := lw_g (lw_at lw_m3 118 rfl) rfl
theorem q642 : (Jvm.Cond.methodLink "java/lang/ArithmeticException" (7 : Nat) ({ cls := "java/lang/RuntimeException", name := "<init>", desc := "(Ljava/lang/String;)V" } : Jvm.MethodName)) ∈ lw_all := lw_g (lw_at lw_m3 119 rfl) rfl
theorem q662 : (Jvm.Cond.selects "java/lang/ArithmeticException" ({ cls := "java/lang/Throwable", name := "fillInStackTrace", desc := "()Ljava/lang/Throwable;" } : Jvm.MethodName) ({ cls := "java/lang/Throwable", name := "fillInStackTrace", desc := "()Ljava/lang/Throwable;" } : Jvm.MethodName)) ∈ lw_all := lw_g (lw_at lw_m3 139 rfl) rfl
theorem q692 : (Jvm.Cond.lays "java/lang/ArithmeticException" "java/lang/Throwable" "backtrace" "Ljava/lang/Object;") ∈ lw_all := lw_g (lw_at lw_m3 169 rfl) rfl
theorem q694 : (Jvm.Cond.lays "java/lang/ArithmeticException" "java/lang/Throwable" "detailMessage" "Ljava/lang/String;") ∈ lw_all := lw_g (lw_at lw_m3 171 rfl) rfl
theorem q696 : (Jvm.Cond.lays "java/lang/ArithmeticException" "java/lang/Throwable" "cause" "Ljava/lang/Throwable;") ∈ lw_all := lw_g (lw_at lw_m3 173 rfl) rfl
theorem q698 : (Jvm.Cond.lays "java/lang/ArithmeticException" "java/lang/Throwable" "stackTrace" "[Ljava/lang/StackTraceElement;") ∈ lw_all := lw_g (lw_at lw_m3 175 rfl) rfl
theorem q700 : (Jvm.Cond.lays "java/lang/ArithmeticException" "java/lang/Throwable" "depth" "I") ∈ lw_all := lw_g (lw_at lw_m3 177 rfl) rfl
theorem q702 : (Jvm.Cond.lays "java/lang/ArithmeticException" "java/lang/Throwable" "suppressedExceptions" "Ljava/util/List;") ∈ lw_all := lw_g (lw_at lw_m3 179 rfl) rfl
theorem q704 : (Jvm.Cond.superclass "java/lang/ArithmeticException" "java/lang/RuntimeException") ∈ lw_all := lw_g (lw_at lw_m3 181 rfl) rfl
theorem q705 : (Jvm.Cond.castable "java/lang/ArithmeticException" "java/lang/ArithmeticException") ∈ lw_tbl := lw_at lw_m3 182 rfl
theorem q712 : (Jvm.Cond.selects "java/lang/ArithmeticException" ({ cls := "java/lang/Throwable", name := "fillInStackTrace", desc := "(I)Ljava/lang/Throwable;" } : Jvm.MethodName) ({ cls := "java/lang/Throwable", name := "fillInStackTrace", desc := "(I)Ljava/lang/Throwable;" } : Jvm.MethodName)) ∈ lw_all := lw_g (lw_at lw_m3 189 rfl) rfl
theorem in_J9 : ∀ w ∈ wsJ90, w ∈ lw_all := lw_in wsJ90 [692, 694, 696, 698, 700, 702] (by decide +kernel) (by decide +kernel)
/-! java/lang/String -/
set_option maxRecDepth 100000
def RJ10 : String := "java/lang/String"
def TJ10 : u_T := fun k => match k with
  | 0 => ("java/lang/String", "value", "[B", true)
  | _ => ("java/lang/String", "coder", "B", true)
def tyJ10 : Nat → FieldType := fun k => match k with
  | 0 => .array .byte
  | _ => .byte
abbrev wsJ100 : List Cond := u_ws RJ10 TJ10 2
theorem nmJ10 : ∀ a, a < 2 → ∀ b, b < 2 → a ≠ b → (TJ10 a).2.1 ≠ (TJ10 b).2.1 := by decide +kernel
theorem tyJ10_ok : ∀ k, k < 2 → parseFieldDescriptor (TJ10 k).2.2.1 = some (tyJ10 k) := by decide +kernel
theorem q62 : (Jvm.Cond.initialized "java/lang/String") ∈ lw_all := lw_g (lw_at lw_m1 19 rfl) rfl
theorem q722 : (Jvm.Cond.instantiable "java/lang/String" (4 : Nat)) ∈ lw_all := lw_g (lw_at lw_m3 199 rfl) rfl
theorem q724 : (Jvm.Cond.laysFinal "java/lang/String" "java/lang/String" "value" "[B") ∈ lw_all := lw_g (lw_at lw_m3 201 rfl) rfl
theorem q725 : (Jvm.Cond.soleField "java/lang/String" "value") ∈ lw_all := lw_g (lw_at lw_m3 202 rfl) rfl
theorem q726 : (Jvm.Cond.laysFinal "java/lang/String" "java/lang/String" "coder" "B") ∈ lw_all := lw_g (lw_at lw_m3 203 rfl) rfl
theorem q727 : (Jvm.Cond.soleField "java/lang/String" "coder") ∈ lw_all := lw_g (lw_at lw_m3 204 rfl) rfl
theorem in_J10 : ∀ w ∈ wsJ100, w ∈ lw_all := lw_in wsJ100 [724, 726] (by decide +kernel) (by decide +kernel)
/-! java/lang/IndexOutOfBoundsException -/
set_option maxRecDepth 100000
def RJ11 : String := "java/lang/IndexOutOfBoundsException"
abbrev cJ11_init : ByteArray := prog_18_method_2_code
def yJ11_init : MethodName := ⟨RJ11, "<init>", "(Ljava/lang/String;)V"⟩
def dkwJ11_init_0 : List UInt8 := [42, 43, 183, 0, 7, 177]
abbrev dktJ11_init_0 : List UInt8 := dkwJ11_init_0 ++ []
theorem dksJ11_init_0 : cJ11_init.data.toList.drop 0 = dktJ11_init_0 := by decide +kernel
theorem dJ11_init_0 : decode cJ11_init 0 = .ok (.aload_n 0, 1) := dk_42 (dk_at dksJ11_init_0 0 rfl rfl)
theorem dJ11_init_1 : decode cJ11_init 1 = .ok (.aload_n 1, 1) := dk_43 (dk_at dksJ11_init_0 1 rfl rfl)
theorem dJ11_init_2 : decode cJ11_init 2 = .ok (.invokespecial 7, 3) := dk_183 0 7 (dk_at dksJ11_init_0 2 rfl rfl)
theorem dJ11_init_5 : decode cJ11_init 5 = .ok (.return_, 1) := dk_177 (dk_at dksJ11_init_0 5 rfl rfl)
theorem q63 : (Jvm.Cond.initialized "java/lang/IndexOutOfBoundsException") ∈ lw_all := lw_g (lw_at lw_m1 20 rfl) rfl
theorem q774 : (Jvm.Cond.instanceMethod ({ cls := "java/lang/IndexOutOfBoundsException", name := "<init>", desc := "(Ljava/lang/String;)V" } : Jvm.MethodName)) ∈ lw_all := lw_g (lw_at lw_m4 11 rfl) rfl
theorem q775 : (Jvm.Cond.code ({ cls := "java/lang/IndexOutOfBoundsException", name := "<init>", desc := "(Ljava/lang/String;)V" } : Jvm.MethodName) prog_18_method_2_code (2 : Nat) (Option.none : Option Jvm.ClassFile.FieldType)) ∈ lw_all := lw_g (lw_at lw_m4 12 rfl) rfl
theorem q776 : (Jvm.Cond.methodLink "java/lang/IndexOutOfBoundsException" (7 : Nat) ({ cls := "java/lang/RuntimeException", name := "<init>", desc := "(Ljava/lang/String;)V" } : Jvm.MethodName)) ∈ lw_all := lw_g (lw_at lw_m4 13 rfl) rfl
theorem q785 : (Jvm.Cond.declares ({ cls := "java/lang/IndexOutOfBoundsException", name := "<init>", desc := "()V" } : Jvm.MethodName)) ∈ lw_tbl := lw_at lw_m4 22 rfl
theorem q786 : (Jvm.Cond.declares ({ cls := "java/lang/IndexOutOfBoundsException", name := "<init>", desc := "(Ljava/lang/String;)V" } : Jvm.MethodName)) ∈ lw_tbl := lw_at lw_m4 23 rfl
/-! java/lang/ArrayIndexOutOfBoundsException -/
set_option maxRecDepth 100000
def RJ12 : String := "java/lang/ArrayIndexOutOfBoundsException"
def TJ12 : u_T := fun k => match k with
  | 0 => ("java/lang/Throwable", "backtrace", "Ljava/lang/Object;", false)
  | 1 => ("java/lang/Throwable", "detailMessage", "Ljava/lang/String;", false)
  | 2 => ("java/lang/Throwable", "cause", "Ljava/lang/Throwable;", false)
  | 3 => ("java/lang/Throwable", "stackTrace", "[Ljava/lang/StackTraceElement;", false)
  | 4 => ("java/lang/Throwable", "depth", "I", false)
  | _ => ("java/lang/Throwable", "suppressedExceptions", "Ljava/util/List;", false)
def tyJ12 : Nat → FieldType := fun k => match k with
  | 0 => .object "java/lang/Object"
  | 1 => .object "java/lang/String"
  | 2 => .object "java/lang/Throwable"
  | 3 => .array (.object "java/lang/StackTraceElement")
  | 4 => .int
  | _ => .object "java/util/List"
abbrev wsJ120 : List Cond := u_ws RJ12 TJ12 6
theorem nmJ12 : ∀ a, a < 6 → ∀ b, b < 6 → a ≠ b → (TJ12 a).2.1 ≠ (TJ12 b).2.1 := by decide +kernel
theorem tyJ12_ok : ∀ k, k < 6 → parseFieldDescriptor (TJ12 k).2.2.1 = some (tyJ12 k) := by decide +kernel
abbrev cJ12_init : ByteArray := prog_12_method_2_code
def yJ12_init : MethodName := ⟨RJ12, "<init>", "(Ljava/lang/String;)V"⟩
def dkwJ12_init_0 : List UInt8 := [42, 43, 183, 0, 7, 177]
abbrev dktJ12_init_0 : List UInt8 := dkwJ12_init_0 ++ []
theorem dksJ12_init_0 : cJ12_init.data.toList.drop 0 = dktJ12_init_0 := by decide +kernel
theorem dJ12_init_0 : decode cJ12_init 0 = .ok (.aload_n 0, 1) := dk_42 (dk_at dksJ12_init_0 0 rfl rfl)
theorem dJ12_init_1 : decode cJ12_init 1 = .ok (.aload_n 1, 1) := dk_43 (dk_at dksJ12_init_0 1 rfl rfl)
theorem dJ12_init_2 : decode cJ12_init 2 = .ok (.invokespecial 7, 3) := dk_183 0 7 (dk_at dksJ12_init_0 2 rfl rfl)
theorem dJ12_init_5 : decode cJ12_init 5 = .ok (.return_, 1) := dk_177 (dk_at dksJ12_init_0 5 rfl rfl)
theorem q64 : (Jvm.Cond.initialized "java/lang/ArrayIndexOutOfBoundsException") ∈ lw_all := lw_g (lw_at lw_m1 21 rfl) rfl
theorem q663 : (Jvm.Cond.selects "java/lang/ArrayIndexOutOfBoundsException" ({ cls := "java/lang/Throwable", name := "fillInStackTrace", desc := "()Ljava/lang/Throwable;" } : Jvm.MethodName) ({ cls := "java/lang/Throwable", name := "fillInStackTrace", desc := "()Ljava/lang/Throwable;" } : Jvm.MethodName)) ∈ lw_all := lw_g (lw_at lw_m3 140 rfl) rfl
theorem q770 : (Jvm.Cond.instantiable "java/lang/ArrayIndexOutOfBoundsException" (6 : Nat)) ∈ lw_all := lw_g (lw_at lw_m4 7 rfl) rfl
theorem q771 : (Jvm.Cond.instanceMethod ({ cls := "java/lang/ArrayIndexOutOfBoundsException", name := "<init>", desc := "(Ljava/lang/String;)V" } : Jvm.MethodName)) ∈ lw_all := lw_g (lw_at lw_m4 8 rfl) rfl
theorem q772 : (Jvm.Cond.code ({ cls := "java/lang/ArrayIndexOutOfBoundsException", name := "<init>", desc := "(Ljava/lang/String;)V" } : Jvm.MethodName) prog_12_method_2_code (2 : Nat) (Option.none : Option Jvm.ClassFile.FieldType)) ∈ lw_all := lw_g (lw_at lw_m4 9 rfl) rfl
theorem q773 : (Jvm.Cond.methodLink "java/lang/ArrayIndexOutOfBoundsException" (7 : Nat) ({ cls := "java/lang/IndexOutOfBoundsException", name := "<init>", desc := "(Ljava/lang/String;)V" } : Jvm.MethodName)) ∈ lw_all := lw_g (lw_at lw_m4 10 rfl) rfl
theorem q777 : (Jvm.Cond.lays "java/lang/ArrayIndexOutOfBoundsException" "java/lang/Throwable" "backtrace" "Ljava/lang/Object;") ∈ lw_all := lw_g (lw_at lw_m4 14 rfl) rfl
theorem q778 : (Jvm.Cond.lays "java/lang/ArrayIndexOutOfBoundsException" "java/lang/Throwable" "detailMessage" "Ljava/lang/String;") ∈ lw_all := lw_g (lw_at lw_m4 15 rfl) rfl
theorem q779 : (Jvm.Cond.lays "java/lang/ArrayIndexOutOfBoundsException" "java/lang/Throwable" "cause" "Ljava/lang/Throwable;") ∈ lw_all := lw_g (lw_at lw_m4 16 rfl) rfl
theorem q780 : (Jvm.Cond.lays "java/lang/ArrayIndexOutOfBoundsException" "java/lang/Throwable" "stackTrace" "[Ljava/lang/StackTraceElement;") ∈ lw_all := lw_g (lw_at lw_m4 17 rfl) rfl
theorem q781 : (Jvm.Cond.lays "java/lang/ArrayIndexOutOfBoundsException" "java/lang/Throwable" "depth" "I") ∈ lw_all := lw_g (lw_at lw_m4 18 rfl) rfl
theorem q782 : (Jvm.Cond.lays "java/lang/ArrayIndexOutOfBoundsException" "java/lang/Throwable" "suppressedExceptions" "Ljava/util/List;") ∈ lw_all := lw_g (lw_at lw_m4 19 rfl) rfl
theorem q783 : (Jvm.Cond.superclass "java/lang/ArrayIndexOutOfBoundsException" "java/lang/IndexOutOfBoundsException") ∈ lw_all := lw_g (lw_at lw_m4 20 rfl) rfl
theorem q784 : (Jvm.Cond.castable "java/lang/ArrayIndexOutOfBoundsException" "java/lang/ArrayIndexOutOfBoundsException") ∈ lw_tbl := lw_at lw_m4 21 rfl
theorem q787 : (Jvm.Cond.selects "java/lang/ArrayIndexOutOfBoundsException" ({ cls := "java/lang/Throwable", name := "fillInStackTrace", desc := "(I)Ljava/lang/Throwable;" } : Jvm.MethodName) ({ cls := "java/lang/Throwable", name := "fillInStackTrace", desc := "(I)Ljava/lang/Throwable;" } : Jvm.MethodName)) ∈ lw_all := lw_g (lw_at lw_m4 24 rfl) rfl
theorem q1588 : (Jvm.Cond.castable "java/lang/ArrayIndexOutOfBoundsException" "java/lang/IndexOutOfBoundsException") ∈ lw_tbl := lw_at lw_m7 105 rfl
theorem in_J12 : ∀ w ∈ wsJ120, w ∈ lw_all := lw_in wsJ120 [777, 778, 779, 780, 781, 782] (by decide +kernel) (by decide +kernel)
/-! java/lang/NegativeArraySizeException -/
set_option maxRecDepth 100000
def RJ13 : String := "java/lang/NegativeArraySizeException"
def TJ13 : u_T := fun k => match k with
  | 0 => ("java/lang/Throwable", "backtrace", "Ljava/lang/Object;", false)
  | 1 => ("java/lang/Throwable", "detailMessage", "Ljava/lang/String;", false)
  | 2 => ("java/lang/Throwable", "cause", "Ljava/lang/Throwable;", false)
  | 3 => ("java/lang/Throwable", "stackTrace", "[Ljava/lang/StackTraceElement;", false)
  | 4 => ("java/lang/Throwable", "depth", "I", false)
  | _ => ("java/lang/Throwable", "suppressedExceptions", "Ljava/util/List;", false)
def tyJ13 : Nat → FieldType := fun k => match k with
  | 0 => .object "java/lang/Object"
  | 1 => .object "java/lang/String"
  | 2 => .object "java/lang/Throwable"
  | 3 => .array (.object "java/lang/StackTraceElement")
  | 4 => .int
  | _ => .object "java/util/List"
abbrev wsJ130 : List Cond := u_ws RJ13 TJ13 6
theorem nmJ13 : ∀ a, a < 6 → ∀ b, b < 6 → a ≠ b → (TJ13 a).2.1 ≠ (TJ13 b).2.1 := by decide +kernel
theorem tyJ13_ok : ∀ k, k < 6 → parseFieldDescriptor (TJ13 k).2.2.1 = some (tyJ13 k) := by decide +kernel
abbrev cJ13_init : ByteArray := prog_22_method_2_code
def yJ13_init : MethodName := ⟨RJ13, "<init>", "(Ljava/lang/String;)V"⟩
def dkwJ13_init_0 : List UInt8 := [42, 43, 183, 0, 7, 177]
abbrev dktJ13_init_0 : List UInt8 := dkwJ13_init_0 ++ []
theorem dksJ13_init_0 : cJ13_init.data.toList.drop 0 = dktJ13_init_0 := by decide +kernel
theorem dJ13_init_0 : decode cJ13_init 0 = .ok (.aload_n 0, 1) := dk_42 (dk_at dksJ13_init_0 0 rfl rfl)
theorem dJ13_init_1 : decode cJ13_init 1 = .ok (.aload_n 1, 1) := dk_43 (dk_at dksJ13_init_0 1 rfl rfl)
theorem dJ13_init_2 : decode cJ13_init 2 = .ok (.invokespecial 7, 3) := dk_183 0 7 (dk_at dksJ13_init_0 2 rfl rfl)
theorem dJ13_init_5 : decode cJ13_init 5 = .ok (.return_, 1) := dk_177 (dk_at dksJ13_init_0 5 rfl rfl)
theorem q66 : (Jvm.Cond.initialized "java/lang/NegativeArraySizeException") ∈ lw_all := lw_g (lw_at lw_m1 23 rfl) rfl
theorem q666 : (Jvm.Cond.selects "java/lang/NegativeArraySizeException" ({ cls := "java/lang/Throwable", name := "fillInStackTrace", desc := "()Ljava/lang/Throwable;" } : Jvm.MethodName) ({ cls := "java/lang/Throwable", name := "fillInStackTrace", desc := "()Ljava/lang/Throwable;" } : Jvm.MethodName)) ∈ lw_all := lw_g (lw_at lw_m3 143 rfl) rfl
theorem q1001 : (Jvm.Cond.instantiable "java/lang/NegativeArraySizeException" (6 : Nat)) ∈ lw_all := lw_g (lw_at lw_m4 238 rfl) rfl
theorem q1002 : (Jvm.Cond.instanceMethod ({ cls := "java/lang/NegativeArraySizeException", name := "<init>", desc := "(Ljava/lang/String;)V" } : Jvm.MethodName)) ∈ lw_all := lw_g (lw_at lw_m4 239 rfl) rfl
theorem q1003 : (Jvm.Cond.code ({ cls := "java/lang/NegativeArraySizeException", name := "<init>", desc := "(Ljava/lang/String;)V" } : Jvm.MethodName) prog_22_method_2_code (2 : Nat) (Option.none : Option Jvm.ClassFile.FieldType)) ∈ lw_all := lw_g (lw_at lw_m5 0 rfl) rfl
theorem q1004 : (Jvm.Cond.methodLink "java/lang/NegativeArraySizeException" (7 : Nat) ({ cls := "java/lang/RuntimeException", name := "<init>", desc := "(Ljava/lang/String;)V" } : Jvm.MethodName)) ∈ lw_all := lw_g (lw_at lw_m5 1 rfl) rfl
theorem q1005 : (Jvm.Cond.lays "java/lang/NegativeArraySizeException" "java/lang/Throwable" "backtrace" "Ljava/lang/Object;") ∈ lw_all := lw_g (lw_at lw_m5 2 rfl) rfl
theorem q1006 : (Jvm.Cond.lays "java/lang/NegativeArraySizeException" "java/lang/Throwable" "detailMessage" "Ljava/lang/String;") ∈ lw_all := lw_g (lw_at lw_m5 3 rfl) rfl
theorem q1007 : (Jvm.Cond.lays "java/lang/NegativeArraySizeException" "java/lang/Throwable" "cause" "Ljava/lang/Throwable;") ∈ lw_all := lw_g (lw_at lw_m5 4 rfl) rfl
theorem q1008 : (Jvm.Cond.lays "java/lang/NegativeArraySizeException" "java/lang/Throwable" "stackTrace" "[Ljava/lang/StackTraceElement;") ∈ lw_all := lw_g (lw_at lw_m5 5 rfl) rfl
theorem q1009 : (Jvm.Cond.lays "java/lang/NegativeArraySizeException" "java/lang/Throwable" "depth" "I") ∈ lw_all := lw_g (lw_at lw_m5 6 rfl) rfl
theorem q1010 : (Jvm.Cond.lays "java/lang/NegativeArraySizeException" "java/lang/Throwable" "suppressedExceptions" "Ljava/util/List;") ∈ lw_all := lw_g (lw_at lw_m5 7 rfl) rfl
theorem q1011 : (Jvm.Cond.superclass "java/lang/NegativeArraySizeException" "java/lang/RuntimeException") ∈ lw_all := lw_g (lw_at lw_m5 8 rfl) rfl
theorem q1012 : (Jvm.Cond.castable "java/lang/NegativeArraySizeException" "java/lang/NegativeArraySizeException") ∈ lw_tbl := lw_at lw_m5 9 rfl
theorem q1013 : (Jvm.Cond.selects "java/lang/NegativeArraySizeException" ({ cls := "java/lang/Throwable", name := "fillInStackTrace", desc := "(I)Ljava/lang/Throwable;" } : Jvm.MethodName) ({ cls := "java/lang/Throwable", name := "fillInStackTrace", desc := "(I)Ljava/lang/Throwable;" } : Jvm.MethodName)) ∈ lw_all := lw_g (lw_at lw_m5 10 rfl) rfl
theorem in_J13 : ∀ w ∈ wsJ130, w ∈ lw_all := lw_in wsJ130 [1005, 1006, 1007, 1008, 1009, 1010] (by decide +kernel) (by decide +kernel)
/-! java/lang/NullPointerException -/
set_option maxRecDepth 100000
def RJ14 : String := "java/lang/NullPointerException"
def TJ14 : u_T := fun k => match k with
  | 0 => ("java/lang/Throwable", "backtrace", "Ljava/lang/Object;", false)
  | 1 => ("java/lang/Throwable", "detailMessage", "Ljava/lang/String;", false)
  | 2 => ("java/lang/Throwable", "cause", "Ljava/lang/Throwable;", false)
  | 3 => ("java/lang/Throwable", "stackTrace", "[Ljava/lang/StackTraceElement;", false)
  | 4 => ("java/lang/Throwable", "depth", "I", false)
  | 5 => ("java/lang/Throwable", "suppressedExceptions", "Ljava/util/List;", false)
  | 6 => ("java/lang/NullPointerException", "extendedMessageState", "I", false)
  | _ => ("java/lang/NullPointerException", "extendedMessage", "Ljava/lang/String;", false)
def tyJ14 : Nat → FieldType := fun k => match k with
  | 0 => .object "java/lang/Object"
  | 1 => .object "java/lang/String"
  | 2 => .object "java/lang/Throwable"
  | 3 => .array (.object "java/lang/StackTraceElement")
  | 4 => .int
  | 5 => .object "java/util/List"
  | 6 => .int
  | _ => .object "java/lang/String"
abbrev wsJ140 : List Cond := u_ws RJ14 TJ14 8
theorem nmJ14 : ∀ a, a < 8 → ∀ b, b < 8 → a ≠ b → (TJ14 a).2.1 ≠ (TJ14 b).2.1 := by decide +kernel
theorem tyJ14_ok : ∀ k, k < 8 → parseFieldDescriptor (TJ14 k).2.2.1 = some (tyJ14 k) := by decide +kernel
abbrev cJ14_init : ByteArray := prog_23_method_1_code
def yJ14_init : MethodName := ⟨RJ14, "<init>", "()V"⟩
theorem dJ14_init_0 : decode cJ14_init 0 = .ok (.aload_n 0, 1) := by decide +kernel
theorem dJ14_init_1 : decode cJ14_init 1 = .ok (.invokespecial 1, 3) := by decide +kernel
theorem dJ14_init_4 : decode cJ14_init 4 = .ok (.return_, 1) := by decide +kernel
theorem q67 : (Jvm.Cond.initialized "java/lang/NullPointerException") ∈ lw_all := lw_g (lw_at lw_m1 24 rfl) rfl
theorem q667 : (Jvm.Cond.selects "java/lang/NullPointerException" ({ cls := "java/lang/Throwable", name := "fillInStackTrace", desc := "()Ljava/lang/Throwable;" } : Jvm.MethodName) ({ cls := "java/lang/NullPointerException", name := "fillInStackTrace", desc := "()Ljava/lang/Throwable;" } : Jvm.MethodName)) ∈ lw_all := lw_g (lw_at lw_m3 144 rfl) rfl
theorem q668 : (Jvm.Cond.instanceMethod ({ cls := "java/lang/NullPointerException", name := "fillInStackTrace", desc := "()Ljava/lang/Throwable;" } : Jvm.MethodName)) ∈ lw_all := lw_g (lw_at lw_m3 145 rfl) rfl
theorem q669 : (Jvm.Cond.codeSync ({ cls := "java/lang/NullPointerException", name := "fillInStackTrace", desc := "()Ljava/lang/Throwable;" } : Jvm.MethodName) prog_23_method_3_code (1 : Nat) (Option.some (Jvm.ClassFile.FieldType.object "java/lang/Throwable"))) ∈ lw_all := lw_g (lw_at lw_m3 146 rfl) rfl
theorem q670 : (Jvm.Cond.methodLink "java/lang/NullPointerException" (16 : Nat) ({ cls := "java/lang/NullPointerException", name := "getExtendedNPEMessage", desc := "()Ljava/lang/String;" } : Jvm.MethodName)) ∈ lw_all := lw_g (lw_at lw_m3 147 rfl) rfl
theorem q671 : (Jvm.Cond.privateMethod ({ cls := "java/lang/NullPointerException", name := "getExtendedNPEMessage", desc := "()Ljava/lang/String;" } : Jvm.MethodName)) ∈ lw_tbl := lw_at lw_m3 148 rfl
theorem q672 : (Jvm.Cond.instanceMethod ({ cls := "java/lang/NullPointerException", name := "getExtendedNPEMessage", desc := "()Ljava/lang/String;" } : Jvm.MethodName)) ∈ lw_all := lw_g (lw_at lw_m3 149 rfl) rfl
theorem q673 : (Jvm.Cond.instantiable "java/lang/NullPointerException" (8 : Nat)) ∈ lw_all := lw_g (lw_at lw_m3 150 rfl) rfl
theorem q674 : (Jvm.Cond.native ({ cls := "java/lang/NullPointerException", name := "getExtendedNPEMessage", desc := "()Ljava/lang/String;" } : Jvm.MethodName)) ∈ lw_all := lw_g (lw_at lw_m3 151 rfl) rfl
theorem q675 : (Jvm.Cond.methodLink "java/lang/NullPointerException" (24 : Nat) ({ cls := "java/lang/RuntimeException", name := "fillInStackTrace", desc := "()Ljava/lang/Throwable;" } : Jvm.MethodName)) ∈ lw_all := lw_g (lw_at lw_m3 152 rfl) rfl
theorem q678 : (Jvm.Cond.superclass "java/lang/NullPointerException" "java/lang/RuntimeException") ∈ lw_all := lw_g (lw_at lw_m3 155 rfl) rfl
theorem q1031 : (Jvm.Cond.instanceMethod ({ cls := "java/lang/NullPointerException", name := "<init>", desc := "()V" } : Jvm.MethodName)) ∈ lw_all := lw_g (lw_at lw_m5 28 rfl) rfl
theorem q1032 : (Jvm.Cond.code ({ cls := "java/lang/NullPointerException", name := "<init>", desc := "()V" } : Jvm.MethodName) prog_23_method_1_code (1 : Nat) (Option.none : Option Jvm.ClassFile.FieldType)) ∈ lw_all := lw_g (lw_at lw_m5 29 rfl) rfl
theorem q1033 : (Jvm.Cond.methodLink "java/lang/NullPointerException" (1 : Nat) ({ cls := "java/lang/RuntimeException", name := "<init>", desc := "()V" } : Jvm.MethodName)) ∈ lw_all := lw_g (lw_at lw_m5 30 rfl) rfl
theorem q1037 : (Jvm.Cond.fieldLink "java/lang/NullPointerException" (10 : Nat) "java/lang/NullPointerException" "extendedMessageState" "I") ∈ lw_all := lw_g (lw_at lw_m5 34 rfl) rfl
theorem q1038 : (Jvm.Cond.fieldLink "java/lang/NullPointerException" (20 : Nat) "java/lang/NullPointerException" "extendedMessage" "Ljava/lang/String;") ∈ lw_all := lw_g (lw_at lw_m5 35 rfl) rfl
theorem q1039 : (Jvm.Cond.lays "java/lang/NullPointerException" "java/lang/NullPointerException" "extendedMessageState" "I") ∈ lw_all := lw_g (lw_at lw_m5 36 rfl) rfl
theorem q1040 : (Jvm.Cond.soleField "java/lang/NullPointerException" "extendedMessageState") ∈ lw_all := lw_g (lw_at lw_m5 37 rfl) rfl
theorem q1041 : (Jvm.Cond.lays "java/lang/NullPointerException" "java/lang/NullPointerException" "extendedMessage" "Ljava/lang/String;") ∈ lw_all := lw_g (lw_at lw_m5 38 rfl) rfl
theorem q1042 : (Jvm.Cond.soleField "java/lang/NullPointerException" "extendedMessage") ∈ lw_all := lw_g (lw_at lw_m5 39 rfl) rfl
theorem q1043 : (Jvm.Cond.lays "java/lang/NullPointerException" "java/lang/Throwable" "backtrace" "Ljava/lang/Object;") ∈ lw_all := lw_g (lw_at lw_m5 40 rfl) rfl
theorem q1044 : (Jvm.Cond.lays "java/lang/NullPointerException" "java/lang/Throwable" "detailMessage" "Ljava/lang/String;") ∈ lw_all := lw_g (lw_at lw_m5 41 rfl) rfl
theorem q1045 : (Jvm.Cond.lays "java/lang/NullPointerException" "java/lang/Throwable" "cause" "Ljava/lang/Throwable;") ∈ lw_all := lw_g (lw_at lw_m5 42 rfl) rfl
theorem q1046 : (Jvm.Cond.lays "java/lang/NullPointerException" "java/lang/Throwable" "stackTrace" "[Ljava/lang/StackTraceElement;") ∈ lw_all := lw_g (lw_at lw_m5 43 rfl) rfl
theorem q1047 : (Jvm.Cond.lays "java/lang/NullPointerException" "java/lang/Throwable" "depth" "I") ∈ lw_all := lw_g (lw_at lw_m5 44 rfl) rfl
theorem q1048 : (Jvm.Cond.lays "java/lang/NullPointerException" "java/lang/Throwable" "suppressedExceptions" "Ljava/util/List;") ∈ lw_all := lw_g (lw_at lw_m5 45 rfl) rfl
theorem q1049 : (Jvm.Cond.castable "java/lang/NullPointerException" "java/lang/NullPointerException") ∈ lw_tbl := lw_at lw_m5 46 rfl
theorem q1050 : (Jvm.Cond.selects "java/lang/NullPointerException" ({ cls := "java/lang/Throwable", name := "fillInStackTrace", desc := "(I)Ljava/lang/Throwable;" } : Jvm.MethodName) ({ cls := "java/lang/Throwable", name := "fillInStackTrace", desc := "(I)Ljava/lang/Throwable;" } : Jvm.MethodName)) ∈ lw_all := lw_g (lw_at lw_m5 47 rfl) rfl
theorem in_J14 : ∀ w ∈ wsJ140, w ∈ lw_all := lw_in wsJ140 [1043, 1044, 1045, 1046, 1047, 1048, 1039, 1041] (by decide +kernel) (by decide +kernel)
/-! java/lang/ClassCastException -/
set_option maxRecDepth 100000
def RJ15 : String := "java/lang/ClassCastException"
def TJ15 : u_T := fun k => match k with
  | 0 => ("java/lang/Throwable", "backtrace", "Ljava/lang/Object;", false)
  | 1 => ("java/lang/Throwable", "detailMessage", "Ljava/lang/String;", false)
  | 2 => ("java/lang/Throwable", "cause", "Ljava/lang/Throwable;", false)
  | 3 => ("java/lang/Throwable", "stackTrace", "[Ljava/lang/StackTraceElement;", false)
  | 4 => ("java/lang/Throwable", "depth", "I", false)
  | _ => ("java/lang/Throwable", "suppressedExceptions", "Ljava/util/List;", false)
def tyJ15 : Nat → FieldType := fun k => match k with
  | 0 => .object "java/lang/Object"
  | 1 => .object "java/lang/String"
  | 2 => .object "java/lang/Throwable"
  | 3 => .array (.object "java/lang/StackTraceElement")
  | 4 => .int
  | _ => .object "java/util/List"
abbrev wsJ150 : List Cond := u_ws RJ15 TJ15 6
theorem nmJ15 : ∀ a, a < 6 → ∀ b, b < 6 → a ≠ b → (TJ15 a).2.1 ≠ (TJ15 b).2.1 := by decide +kernel
theorem tyJ15_ok : ∀ k, k < 6 → parseFieldDescriptor (TJ15 k).2.2.1 = some (tyJ15 k) := by decide +kernel
abbrev cJ15_init : ByteArray := prog_14_method_2_code
def yJ15_init : MethodName := ⟨RJ15, "<init>", "(Ljava/lang/String;)V"⟩
def dkwJ15_init_0 : List UInt8 := [42, 43, 183, 0, 7, 177]
abbrev dktJ15_init_0 : List UInt8 := dkwJ15_init_0 ++ []
theorem dksJ15_init_0 : cJ15_init.data.toList.drop 0 = dktJ15_init_0 := by decide +kernel
theorem dJ15_init_0 : decode cJ15_init 0 = .ok (.aload_n 0, 1) := dk_42 (dk_at dksJ15_init_0 0 rfl rfl)
theorem dJ15_init_1 : decode cJ15_init 1 = .ok (.aload_n 1, 1) := dk_43 (dk_at dksJ15_init_0 1 rfl rfl)
theorem dJ15_init_2 : decode cJ15_init 2 = .ok (.invokespecial 7, 3) := dk_183 0 7 (dk_at dksJ15_init_0 2 rfl rfl)
theorem dJ15_init_5 : decode cJ15_init 5 = .ok (.return_, 1) := dk_177 (dk_at dksJ15_init_0 5 rfl rfl)
theorem q68 : (Jvm.Cond.initialized "java/lang/ClassCastException") ∈ lw_all := lw_g (lw_at lw_m1 25 rfl) rfl
theorem q665 : (Jvm.Cond.selects "java/lang/ClassCastException" ({ cls := "java/lang/Throwable", name := "fillInStackTrace", desc := "()Ljava/lang/Throwable;" } : Jvm.MethodName) ({ cls := "java/lang/Throwable", name := "fillInStackTrace", desc := "()Ljava/lang/Throwable;" } : Jvm.MethodName)) ∈ lw_all := lw_g (lw_at lw_m3 142 rfl) rfl
theorem q1053 : (Jvm.Cond.instantiable "java/lang/ClassCastException" (6 : Nat)) ∈ lw_all := lw_g (lw_at lw_m5 50 rfl) rfl
theorem q1054 : (Jvm.Cond.instanceMethod ({ cls := "java/lang/ClassCastException", name := "<init>", desc := "(Ljava/lang/String;)V" } : Jvm.MethodName)) ∈ lw_all := lw_g (lw_at lw_m5 51 rfl) rfl
theorem q1055 : (Jvm.Cond.code ({ cls := "java/lang/ClassCastException", name := "<init>", desc := "(Ljava/lang/String;)V" } : Jvm.MethodName) prog_14_method_2_code (2 : Nat) (Option.none : Option Jvm.ClassFile.FieldType)) ∈ lw_all := lw_g (lw_at lw_m5 52 rfl) rfl
theorem q1056 : (Jvm.Cond.methodLink "java/lang/ClassCastException" (7 : Nat) ({ cls := "java/lang/RuntimeException", name := "<init>", desc := "(Ljava/lang/String;)V" } : Jvm.MethodName)) ∈ lw_all := lw_g (lw_at lw_m5 53 rfl) rfl
theorem q1057 : (Jvm.Cond.lays "java/lang/ClassCastException" "java/lang/Throwable" "backtrace" "Ljava/lang/Object;") ∈ lw_all := lw_g (lw_at lw_m5 54 rfl) rfl
theorem q1058 : (Jvm.Cond.lays "java/lang/ClassCastException" "java/lang/Throwable" "detailMessage" "Ljava/lang/String;") ∈ lw_all := lw_g (lw_at lw_m5 55 rfl) rfl
theorem q1059 : (Jvm.Cond.lays "java/lang/ClassCastException" "java/lang/Throwable" "cause" "Ljava/lang/Throwable;") ∈ lw_all := lw_g (lw_at lw_m5 56 rfl) rfl
theorem q1060 : (Jvm.Cond.lays "java/lang/ClassCastException" "java/lang/Throwable" "stackTrace" "[Ljava/lang/StackTraceElement;") ∈ lw_all := lw_g (lw_at lw_m5 57 rfl) rfl
theorem q1061 : (Jvm.Cond.lays "java/lang/ClassCastException" "java/lang/Throwable" "depth" "I") ∈ lw_all := lw_g (lw_at lw_m5 58 rfl) rfl
theorem q1062 : (Jvm.Cond.lays "java/lang/ClassCastException" "java/lang/Throwable" "suppressedExceptions" "Ljava/util/List;") ∈ lw_all := lw_g (lw_at lw_m5 59 rfl) rfl
theorem q1063 : (Jvm.Cond.superclass "java/lang/ClassCastException" "java/lang/RuntimeException") ∈ lw_all := lw_g (lw_at lw_m5 60 rfl) rfl
theorem q1064 : (Jvm.Cond.castable "java/lang/ClassCastException" "java/lang/ClassCastException") ∈ lw_tbl := lw_at lw_m5 61 rfl
theorem q1065 : (Jvm.Cond.selects "java/lang/ClassCastException" ({ cls := "java/lang/Throwable", name := "fillInStackTrace", desc := "(I)Ljava/lang/Throwable;" } : Jvm.MethodName) ({ cls := "java/lang/Throwable", name := "fillInStackTrace", desc := "(I)Ljava/lang/Throwable;" } : Jvm.MethodName)) ∈ lw_all := lw_g (lw_at lw_m5 62 rfl) rfl
theorem in_J15 : ∀ w ∈ wsJ150, w ∈ lw_all := lw_in wsJ150 [1057, 1058, 1059, 1060, 1061, 1062] (by decide +kernel) (by decide +kernel)
/-! java/lang/ArrayStoreException -/
set_option maxRecDepth 100000
def RJ16 : String := "java/lang/ArrayStoreException"
def TJ16 : u_T := fun k => match k with
  | 0 => ("java/lang/Throwable", "backtrace", "Ljava/lang/Object;", false)
  | 1 => ("java/lang/Throwable", "detailMessage", "Ljava/lang/String;", false)
  | 2 => ("java/lang/Throwable", "cause", "Ljava/lang/Throwable;", false)
  | 3 => ("java/lang/Throwable", "stackTrace", "[Ljava/lang/StackTraceElement;", false)
  | 4 => ("java/lang/Throwable", "depth", "I", false)
  | _ => ("java/lang/Throwable", "suppressedExceptions", "Ljava/util/List;", false)
def tyJ16 : Nat → FieldType := fun k => match k with
  | 0 => .object "java/lang/Object"
  | 1 => .object "java/lang/String"
  | 2 => .object "java/lang/Throwable"
  | 3 => .array (.object "java/lang/StackTraceElement")
  | 4 => .int
  | _ => .object "java/util/List"
abbrev wsJ160 : List Cond := u_ws RJ16 TJ16 6
theorem nmJ16 : ∀ a, a < 6 → ∀ b, b < 6 → a ≠ b → (TJ16 a).2.1 ≠ (TJ16 b).2.1 := by decide +kernel
theorem tyJ16_ok : ∀ k, k < 6 → parseFieldDescriptor (TJ16 k).2.2.1 = some (tyJ16 k) := by decide +kernel
abbrev cJ16_init : ByteArray := prog_13_method_2_code
def yJ16_init : MethodName := ⟨RJ16, "<init>", "(Ljava/lang/String;)V"⟩
def dkwJ16_init_0 : List UInt8 := [42, 43, 183, 0, 7, 177]
abbrev dktJ16_init_0 : List UInt8 := dkwJ16_init_0 ++ []
theorem dksJ16_init_0 : cJ16_init.data.toList.drop 0 = dktJ16_init_0 := by decide +kernel
theorem dJ16_init_0 : decode cJ16_init 0 = .ok (.aload_n 0, 1) := dk_42 (dk_at dksJ16_init_0 0 rfl rfl)
theorem dJ16_init_1 : decode cJ16_init 1 = .ok (.aload_n 1, 1) := dk_43 (dk_at dksJ16_init_0 1 rfl rfl)
theorem dJ16_init_2 : decode cJ16_init 2 = .ok (.invokespecial 7, 3) := dk_183 0 7 (dk_at dksJ16_init_0 2 rfl rfl)
theorem dJ16_init_5 : decode cJ16_init 5 = .ok (.return_, 1) := dk_177 (dk_at dksJ16_init_0 5 rfl rfl)
theorem q69 : (Jvm.Cond.initialized "java/lang/ArrayStoreException") ∈ lw_all := lw_g (lw_at lw_m1 26 rfl) rfl
theorem q664 : (Jvm.Cond.selects "java/lang/ArrayStoreException" ({ cls := "java/lang/Throwable", name := "fillInStackTrace", desc := "()Ljava/lang/Throwable;" } : Jvm.MethodName) ({ cls := "java/lang/Throwable", name := "fillInStackTrace", desc := "()Ljava/lang/Throwable;" } : Jvm.MethodName)) ∈ lw_all := lw_g (lw_at lw_m3 141 rfl) rfl
theorem q1085 : (Jvm.Cond.instantiable "java/lang/ArrayStoreException" (6 : Nat)) ∈ lw_all := lw_g (lw_at lw_m5 82 rfl) rfl
theorem q1086 : (Jvm.Cond.instanceMethod ({ cls := "java/lang/ArrayStoreException", name := "<init>", desc := "(Ljava/lang/String;)V" } : Jvm.MethodName)) ∈ lw_all := lw_g (lw_at lw_m5 83 rfl) rfl
theorem q1087 : (Jvm.Cond.code ({ cls := "java/lang/ArrayStoreException", name := "<init>", desc := "(Ljava/lang/String;)V" } : Jvm.MethodName) prog_13_method_2_code (2 : Nat) (Option.none : Option Jvm.ClassFile.FieldType)) ∈ lw_all := lw_g (lw_at lw_m5 84 rfl) rfl
theorem q1088 : (Jvm.Cond.methodLink "java/lang/ArrayStoreException" (7 : Nat) ({ cls := "java/lang/RuntimeException", name := "<init>", desc := "(Ljava/lang/String;)V" } : Jvm.MethodName)) ∈ lw_all := lw_g (lw_at lw_m5 85 rfl) rfl
theorem q1089 : (Jvm.Cond.lays "java/lang/ArrayStoreException" "java/lang/Throwable" "backtrace" "Ljava/lang/Object;") ∈ lw_all := lw_g (lw_at lw_m5 86 rfl) rfl
theorem q1090 : (Jvm.Cond.lays "java/lang/ArrayStoreException" "java/lang/Throwable" "detailMessage" "Ljava/lang/String;") ∈ lw_all := lw_g (lw_at lw_m5 87 rfl) rfl
theorem q1091 : (Jvm.Cond.lays "java/lang/ArrayStoreException" "java/lang/Throwable" "cause" "Ljava/lang/Throwable;") ∈ lw_all := lw_g (lw_at lw_m5 88 rfl) rfl
theorem q1092 : (Jvm.Cond.lays "java/lang/ArrayStoreException" "java/lang/Throwable" "stackTrace" "[Ljava/lang/StackTraceElement;") ∈ lw_all := lw_g (lw_at lw_m5 89 rfl) rfl
theorem q1093 : (Jvm.Cond.lays "java/lang/ArrayStoreException" "java/lang/Throwable" "depth" "I") ∈ lw_all := lw_g (lw_at lw_m5 90 rfl) rfl
theorem q1094 : (Jvm.Cond.lays "java/lang/ArrayStoreException" "java/lang/Throwable" "suppressedExceptions" "Ljava/util/List;") ∈ lw_all := lw_g (lw_at lw_m5 91 rfl) rfl
theorem q1095 : (Jvm.Cond.superclass "java/lang/ArrayStoreException" "java/lang/RuntimeException") ∈ lw_all := lw_g (lw_at lw_m5 92 rfl) rfl
theorem q1096 : (Jvm.Cond.castable "java/lang/ArrayStoreException" "java/lang/ArrayStoreException") ∈ lw_tbl := lw_at lw_m5 93 rfl
theorem q1097 : (Jvm.Cond.selects "java/lang/ArrayStoreException" ({ cls := "java/lang/Throwable", name := "fillInStackTrace", desc := "(I)Ljava/lang/Throwable;" } : Jvm.MethodName) ({ cls := "java/lang/Throwable", name := "fillInStackTrace", desc := "(I)Ljava/lang/Throwable;" } : Jvm.MethodName)) ∈ lw_all := lw_g (lw_at lw_m5 94 rfl) rfl
theorem in_J16 : ∀ w ∈ wsJ160, w ∈ lw_all := lw_in wsJ160 [1089, 1090, 1091, 1092, 1093, 1094] (by decide +kernel) (by decide +kernel)
/-! java/lang/Object -/
set_option maxRecDepth 100000
def RJ17 : String := "java/lang/Object"
abbrev cJ17_init : ByteArray := object_method_1_code
def yJ17_init : MethodName := ⟨RJ17, "<init>", "()V"⟩
theorem dJ17_init_0 : decode cJ17_init 0 = .ok (.return_, 1) := by decide +kernel
theorem q652 : (Jvm.Cond.instanceMethod ({ cls := "java/lang/Object", name := "<init>", desc := "()V" } : Jvm.MethodName)) ∈ lw_all := lw_g (lw_at lw_m3 129 rfl) rfl
theorem q653 : (Jvm.Cond.code ({ cls := "java/lang/Object", name := "<init>", desc := "()V" } : Jvm.MethodName) object_method_1_code (1 : Nat) (Option.none : Option Jvm.ClassFile.FieldType)) ∈ lw_all := lw_g (lw_at lw_m3 130 rfl) rfl
theorem q723 : (Jvm.Cond.arrayClass Jvm.ClassFile.FieldType.byte) ∈ lw_all := lw_g (lw_at lw_m3 200 rfl) rfl
set_option maxRecDepth 100000
theorem q921 : (Jvm.Cond.arrayClass Jvm.ClassFile.FieldType.int) ∈ lw_all := lw_g (lw_at lw_m4 158 rfl) rfl
theorem q942 : (Jvm.Cond.arrayOver (Jvm.ClassFile.FieldType.object "FloatClasses$Holder")) ∈ lw_tbl := lw_at lw_m4 179 rfl
theorem q1020 : (Jvm.Cond.arrayClass Jvm.ClassFile.FieldType.float) ∈ lw_all := lw_g (lw_at lw_m5 17 rfl) rfl
theorem q1021 : (Jvm.Cond.arrayClass Jvm.ClassFile.FieldType.double) ∈ lw_all := lw_g (lw_at lw_m5 18 rfl) rfl
theorem q1208 : (Jvm.Cond.arrayClass Jvm.ClassFile.FieldType.long) ∈ lw_all := lw_g (lw_at lw_m5 205 rfl) rfl
theorem q70 : (Jvm.Cond.initialized "java/lang/System") ∈ lw_all := lw_g (lw_at lw_m1 27 rfl) rfl
set_option maxRecDepth 100000
theorem q1100 : (Jvm.Cond.static ({ cls := "java/lang/System", name := "arraycopy", desc := "(Ljava/lang/Object;ILjava/lang/Object;II)V" } : Jvm.MethodName)) ∈ lw_all := lw_g (lw_at lw_m5 97 rfl) rfl
theorem q1101 : (Jvm.Cond.native ({ cls := "java/lang/System", name := "arraycopy", desc := "(Ljava/lang/Object;ILjava/lang/Object;II)V" } : Jvm.MethodName)) ∈ lw_all := lw_g (lw_at lw_m5 98 rfl) rfl
theorem q51 : (Jvm.Cond.initialized "java/lang/Number") ∈ lw_all := lw_g (lw_at lw_m1 8 rfl) rfl
set_option maxRecDepth 100000
