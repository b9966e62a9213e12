/-! FloatClasses -/
set_option maxRecDepth 100000
def RX0 : String := "FloatClasses"
def TX0 : u_T := fun k => match k with
  | 0 => ("FloatClasses", "doubles", "LFloatClasses$Doubles;", true)
  | 1 => ("FloatClasses", "floats", "LFloatClasses$Floats;", true)
  | 2 => ("FloatClasses", "failed", "I", false)
  | 3 => ("FloatClasses", "counts", "[I", true)
  | 4 => ("FloatClasses", "above", "LFloatClasses$Natural;", true)
  | 5 => ("FloatClasses", "below", "LFloatClasses$Natural;", true)
  | 6 => ("FloatClasses", "none", "[I", true)
  | 7 => ("FloatClasses", "few", "[I", true)
  | 8 => ("FloatClasses", "lots", "[I", true)
  | 9 => ("FloatClasses", "text", "[I", true)
  | 10 => ("FloatClasses", "size", "I", false)
  | 11 => ("FloatClasses", "reader", "LFloatClasses$Reader;", true)
  | _ => ("FloatClasses", "rows", "[LFloatClasses$Holder;", true)
def tyX0 : Nat → FieldType := fun k => match k with
  | 0 => .object "FloatClasses$Doubles"
  | 1 => .object "FloatClasses$Floats"
  | 2 => .int
  | 3 => .array .int
  | 4 => .object "FloatClasses$Natural"
  | 5 => .object "FloatClasses$Natural"
  | 6 => .array .int
  | 7 => .array .int
  | 8 => .array .int
  | 9 => .array .int
  | 10 => .int
  | 11 => .object "FloatClasses$Reader"
  | _ => .array (.object "FloatClasses$Holder")
abbrev wsX00 : List Cond := u_ws RX0 TX0 13
set_option maxRecDepth 100000 in
theorem nmX0 : ∀ a, a < 13 → ∀ b, b < 13 → a ≠ b → (TX0 a).2.1 ≠ (TX0 b).2.1 := by decide +kernel
set_option maxRecDepth 100000 in
theorem tyX0_ok : ∀ k, k < 13 → parseFieldDescriptor (TX0 k).2.2.1 = some (tyX0 k) := by decide +kernel
abbrev cX0_decode : ByteArray := prog_1_method_20_code
def yX0_decode : MethodName := ⟨RX0, "decode", "(IJI)J"⟩
def dkwX0_decode_3 : List UInt8 := [25, 5, 24, 6, 185, 0, 180, 3, 0, 133, 173]
abbrev dktX0_decode_3 : List UInt8 := dkwX0_decode_3 ++ []
def dkwX0_decode_2 : List UInt8 := [21, 4, 154, 0, 21, 24, 6, 25, 5, 24, 6, 185, 0, 180, 3, 0, 184, 0, 134, 143, 167, 0, 13]
abbrev dktX0_decode_2 : List UInt8 := dkwX0_decode_2 ++ dktX0_decode_3
def dkwX0_decode_1 : List UInt8 := [58, 5, 25, 5, 32, 185, 0, 51, 3, 0, 57, 6, 24, 6, 14, 151, 154, 0, 7, 9, 167, 0, 36]
abbrev dktX0_decode_1 : List UInt8 := dkwX0_decode_1 ++ dktX0_decode_2
def dkwX0_decode_0 : List UInt8 := [42, 27, 32, 21, 4, 133, 9, 10, 184, 0, 172, 182, 0, 176, 153, 0, 5, 9, 173, 42, 27, 182, 0, 47]
abbrev dktX0_decode_0 : List UInt8 := dkwX0_decode_0 ++ dktX0_decode_1
theorem dksX0_decode_0 : cX0_decode.data.toList.drop 0 = dktX0_decode_0 := by decide +kernel
theorem dksX0_decode_1 : cX0_decode.data.toList.drop 24 = dktX0_decode_1 := dk_seg dksX0_decode_0 24 rfl rfl
theorem dksX0_decode_2 : cX0_decode.data.toList.drop 47 = dktX0_decode_2 := dk_seg dksX0_decode_1 23 rfl rfl
theorem dksX0_decode_3 : cX0_decode.data.toList.drop 70 = dktX0_decode_3 := dk_seg dksX0_decode_2 23 rfl rfl
theorem dX0_decode_0 : decode cX0_decode 0 = .ok (.aload_n 0, 1) := dk_42 (dk_at dksX0_decode_0 0 rfl rfl)
theorem dX0_decode_1 : decode cX0_decode 1 = .ok (.iload_n 1, 1) := dk_27 (dk_at dksX0_decode_0 1 rfl rfl)
theorem dX0_decode_2 : decode cX0_decode 2 = .ok (.lload_n 2, 1) := dk_32 (dk_at dksX0_decode_0 2 rfl rfl)
theorem dX0_decode_3 : decode cX0_decode 3 = .ok (.iload 4, 2) := dk_21 4 (dk_at dksX0_decode_0 3 rfl rfl)
theorem dX0_decode_5 : decode cX0_decode 5 = .ok (.i2l, 1) := dk_133 (dk_at dksX0_decode_0 5 rfl rfl)
theorem dX0_decode_6 : decode cX0_decode 6 = .ok (.lconst 0, 1) := dk_9 (dk_at dksX0_decode_0 6 rfl rfl)
theorem dX0_decode_7 : decode cX0_decode 7 = .ok (.lconst 1, 1) := dk_10 (dk_at dksX0_decode_0 7 rfl rfl)
theorem dX0_decode_8 : decode cX0_decode 8 = .ok (.invokestatic 172, 3) := dk_184 0 172 (dk_at dksX0_decode_0 8 rfl rfl)
theorem dX0_decode_11 : decode cX0_decode 11 = .ok (.invokevirtual 176, 3) := dk_182 0 176 (dk_at dksX0_decode_0 11 rfl rfl)
theorem dX0_decode_14 : decode cX0_decode 14 = .ok (.ifCond .eq 5, 3) := dk_153 0 5 (dk_at dksX0_decode_0 14 rfl rfl)
theorem dX0_decode_17 : decode cX0_decode 17 = .ok (.lconst 0, 1) := dk_9 (dk_at dksX0_decode_0 17 rfl rfl)
theorem dX0_decode_18 : decode cX0_decode 18 = .ok (.lreturn, 1) := dk_173 (dk_at dksX0_decode_0 18 rfl rfl)
theorem dX0_decode_19 : decode cX0_decode 19 = .ok (.aload_n 0, 1) := dk_42 (dk_at dksX0_decode_0 19 rfl rfl)
theorem dX0_decode_20 : decode cX0_decode 20 = .ok (.iload_n 1, 1) := dk_27 (dk_at dksX0_decode_0 20 rfl rfl)
theorem dX0_decode_21 : decode cX0_decode 21 = .ok (.invokevirtual 47, 3) := dk_182 0 47 (dk_at dksX0_decode_0 21 rfl rfl)
theorem dX0_decode_24 : decode cX0_decode 24 = .ok (.astore 5, 2) := dk_58 5 (dk_at dksX0_decode_1 0 rfl rfl)
theorem dX0_decode_26 : decode cX0_decode 26 = .ok (.aload 5, 2) := dk_25 5 (dk_at dksX0_decode_1 2 rfl rfl)
theorem dX0_decode_28 : decode cX0_decode 28 = .ok (.lload_n 2, 1) := dk_32 (dk_at dksX0_decode_1 4 rfl rfl)
theorem dX0_decode_29 : decode cX0_decode 29 = .ok (.invokeinterface 51 3, 5) := by decide +kernel
theorem dX0_decode_34 : decode cX0_decode 34 = .ok (.dstore 6, 2) := dk_57 6 (dk_at dksX0_decode_1 10 rfl rfl)
theorem dX0_decode_36 : decode cX0_decode 36 = .ok (.dload 6, 2) := dk_24 6 (dk_at dksX0_decode_1 12 rfl rfl)
theorem dX0_decode_38 : decode cX0_decode 38 = .ok (.dconst 0, 1) := dk_14 (dk_at dksX0_decode_1 14 rfl rfl)
theorem dX0_decode_39 : decode cX0_decode 39 = .ok (.dcmp .l, 1) := dk_151 (dk_at dksX0_decode_1 15 rfl rfl)
theorem dX0_decode_40 : decode cX0_decode 40 = .ok (.ifCond .ne 7, 3) := dk_154 0 7 (dk_at dksX0_decode_1 16 rfl rfl)
theorem dX0_decode_43 : decode cX0_decode 43 = .ok (.lconst 0, 1) := dk_9 (dk_at dksX0_decode_1 19 rfl rfl)
theorem dX0_decode_44 : decode cX0_decode 44 = .ok (.goto 36, 3) := dk_167 0 36 (dk_at dksX0_decode_1 20 rfl rfl)
theorem dX0_decode_47 : decode cX0_decode 47 = .ok (.iload 4, 2) := dk_21 4 (dk_at dksX0_decode_2 0 rfl rfl)
theorem dX0_decode_49 : decode cX0_decode 49 = .ok (.ifCond .ne 21, 3) := dk_154 0 21 (dk_at dksX0_decode_2 2 rfl rfl)
theorem dX0_decode_52 : decode cX0_decode 52 = .ok (.dload 6, 2) := dk_24 6 (dk_at dksX0_decode_2 5 rfl rfl)
theorem dX0_decode_54 : decode cX0_decode 54 = .ok (.aload 5, 2) := dk_25 5 (dk_at dksX0_decode_2 7 rfl rfl)
theorem dX0_decode_56 : decode cX0_decode 56 = .ok (.dload 6, 2) := dk_24 6 (dk_at dksX0_decode_2 9 rfl rfl)
theorem dX0_decode_58 : decode cX0_decode 58 = .ok (.invokeinterface 180 3, 5) := by decide +kernel
theorem dX0_decode_63 : decode cX0_decode 63 = .ok (.invokestatic 134, 3) := dk_184 0 134 (dk_at dksX0_decode_2 16 rfl rfl)
theorem dX0_decode_66 : decode cX0_decode 66 = .ok (.d2l, 1) := dk_143 (dk_at dksX0_decode_2 19 rfl rfl)
theorem dX0_decode_67 : decode cX0_decode 67 = .ok (.goto 13, 3) := dk_167 0 13 (dk_at dksX0_decode_2 20 rfl rfl)
theorem dX0_decode_70 : decode cX0_decode 70 = .ok (.aload 5, 2) := dk_25 5 (dk_at dksX0_decode_3 0 rfl rfl)
theorem dX0_decode_72 : decode cX0_decode 72 = .ok (.dload 6, 2) := dk_24 6 (dk_at dksX0_decode_3 2 rfl rfl)
theorem dX0_decode_74 : decode cX0_decode 74 = .ok (.invokeinterface 180 3, 5) := by decide +kernel
theorem dX0_decode_79 : decode cX0_decode 79 = .ok (.i2l, 1) := dk_133 (dk_at dksX0_decode_3 9 rfl rfl)
theorem dX0_decode_80 : decode cX0_decode 80 = .ok (.lreturn, 1) := dk_173 (dk_at dksX0_decode_3 10 rfl rfl)
abbrev cX0_isIn : ByteArray := prog_1_method_1_code
def yX0_isIn : MethodName := ⟨RX0, "isIn", "(JJJ)Z"⟩
def dkwX0_isIn_0 : List UInt8 := [30, 32, 148, 155, 0, 14, 30, 22, 4, 148, 157, 0, 7, 4, 167, 0, 4, 3, 172]
abbrev dktX0_isIn_0 : List UInt8 := dkwX0_isIn_0 ++ []
theorem dksX0_isIn_0 : cX0_isIn.data.toList.drop 0 = dktX0_isIn_0 := by decide +kernel
theorem dX0_isIn_0 : decode cX0_isIn 0 = .ok (.lload_n 0, 1) := dk_30 (dk_at dksX0_isIn_0 0 rfl rfl)
theorem dX0_isIn_1 : decode cX0_isIn 1 = .ok (.lload_n 2, 1) := dk_32 (dk_at dksX0_isIn_0 1 rfl rfl)
theorem dX0_isIn_2 : decode cX0_isIn 2 = .ok (.lcmp, 1) := dk_148 (dk_at dksX0_isIn_0 2 rfl rfl)
theorem dX0_isIn_3 : decode cX0_isIn 3 = .ok (.ifCond .lt 14, 3) := dk_155 0 14 (dk_at dksX0_isIn_0 3 rfl rfl)
theorem dX0_isIn_6 : decode cX0_isIn 6 = .ok (.lload_n 0, 1) := dk_30 (dk_at dksX0_isIn_0 6 rfl rfl)
theorem dX0_isIn_7 : decode cX0_isIn 7 = .ok (.lload 4, 2) := dk_22 4 (dk_at dksX0_isIn_0 7 rfl rfl)
theorem dX0_isIn_9 : decode cX0_isIn 9 = .ok (.lcmp, 1) := dk_148 (dk_at dksX0_isIn_0 9 rfl rfl)
theorem dX0_isIn_10 : decode cX0_isIn 10 = .ok (.ifCond .gt 7, 3) := dk_157 0 7 (dk_at dksX0_isIn_0 10 rfl rfl)
theorem dX0_isIn_13 : decode cX0_isIn 13 = .ok (.iconst 1, 1) := dk_4 (dk_at dksX0_isIn_0 13 rfl rfl)
theorem dX0_isIn_14 : decode cX0_isIn 14 = .ok (.goto 4, 3) := dk_167 0 4 (dk_at dksX0_isIn_0 14 rfl rfl)
theorem dX0_isIn_17 : decode cX0_isIn 17 = .ok (.iconst 0, 1) := dk_3 (dk_at dksX0_isIn_0 17 rfl rfl)
theorem dX0_isIn_18 : decode cX0_isIn 18 = .ok (.ireturn, 1) := dk_172 (dk_at dksX0_isIn_0 18 rfl rfl)
abbrev cX0_lacks : ByteArray := prog_1_method_9_code
def yX0_lacks : MethodName := ⟨RX0, "lacks", "(IJZ)Z"⟩
def dkwX0_lacks_2 : List UInt8 := [154, 0, 10, 42, 16, 7, 182, 0, 35, 87, 42, 180, 0, 27, 158, 0, 7, 4, 167, 0, 4, 3, 172]
abbrev dktX0_lacks_2 : List UInt8 := dkwX0_lacks_2 ++ []
def dkwX0_lacks_1 : List UInt8 := [4, 172, 42, 27, 182, 0, 47, 42, 27, 182, 0, 47, 32, 185, 0, 51, 3, 0, 185, 0, 57, 3, 0]
abbrev dktX0_lacks_1 : List UInt8 := dkwX0_lacks_1 ++ dktX0_lacks_2
def dkwX0_lacks_0 : List UInt8 := [42, 21, 4, 153, 0, 14, 27, 184, 0, 39, 153, 0, 7, 4, 167, 0, 4, 3, 182, 0, 43, 153, 0, 5]
abbrev dktX0_lacks_0 : List UInt8 := dkwX0_lacks_0 ++ dktX0_lacks_1
theorem dksX0_lacks_0 : cX0_lacks.data.toList.drop 0 = dktX0_lacks_0 := by decide +kernel
theorem dksX0_lacks_1 : cX0_lacks.data.toList.drop 24 = dktX0_lacks_1 := dk_seg dksX0_lacks_0 24 rfl rfl
theorem dksX0_lacks_2 : cX0_lacks.data.toList.drop 47 = dktX0_lacks_2 := dk_seg dksX0_lacks_1 23 rfl rfl
theorem dX0_lacks_0 : decode cX0_lacks 0 = .ok (.aload_n 0, 1) := dk_42 (dk_at dksX0_lacks_0 0 rfl rfl)
theorem dX0_lacks_1 : decode cX0_lacks 1 = .ok (.iload 4, 2) := dk_21 4 (dk_at dksX0_lacks_0 1 rfl rfl)
theorem dX0_lacks_3 : decode cX0_lacks 3 = .ok (.ifCond .eq 14, 3) := dk_153 0 14 (dk_at dksX0_lacks_0 3 rfl rfl)
theorem dX0_lacks_6 : decode cX0_lacks 6 = .ok (.iload_n 1, 1) := dk_27 (dk_at dksX0_lacks_0 6 rfl rfl)
theorem dX0_lacks_7 : decode cX0_lacks 7 = .ok (.invokestatic 39, 3) := dk_184 0 39 (dk_at dksX0_lacks_0 7 rfl rfl)
theorem dX0_lacks_10 : decode cX0_lacks 10 = .ok (.ifCond .eq 7, 3) := dk_153 0 7 (dk_at dksX0_lacks_0 10 rfl rfl)
theorem dX0_lacks_13 : decode cX0_lacks 13 = .ok (.iconst 1, 1) := dk_4 (dk_at dksX0_lacks_0 13 rfl rfl)
theorem dX0_lacks_14 : decode cX0_lacks 14 = .ok (.goto 4, 3) := dk_167 0 4 (dk_at dksX0_lacks_0 14 rfl rfl)
theorem dX0_lacks_17 : decode cX0_lacks 17 = .ok (.iconst 0, 1) := dk_3 (dk_at dksX0_lacks_0 17 rfl rfl)
theorem dX0_lacks_18 : decode cX0_lacks 18 = .ok (.invokevirtual 43, 3) := dk_182 0 43 (dk_at dksX0_lacks_0 18 rfl rfl)
theorem dX0_lacks_21 : decode cX0_lacks 21 = .ok (.ifCond .eq 5, 3) := dk_153 0 5 (dk_at dksX0_lacks_0 21 rfl rfl)
theorem dX0_lacks_24 : decode cX0_lacks 24 = .ok (.iconst 1, 1) := dk_4 (dk_at dksX0_lacks_1 0 rfl rfl)
theorem dX0_lacks_25 : decode cX0_lacks 25 = .ok (.ireturn, 1) := dk_172 (dk_at dksX0_lacks_1 1 rfl rfl)
theorem dX0_lacks_26 : decode cX0_lacks 26 = .ok (.aload_n 0, 1) := dk_42 (dk_at dksX0_lacks_1 2 rfl rfl)
theorem dX0_lacks_27 : decode cX0_lacks 27 = .ok (.iload_n 1, 1) := dk_27 (dk_at dksX0_lacks_1 3 rfl rfl)
theorem dX0_lacks_28 : decode cX0_lacks 28 = .ok (.invokevirtual 47, 3) := dk_182 0 47 (dk_at dksX0_lacks_1 4 rfl rfl)
theorem dX0_lacks_31 : decode cX0_lacks 31 = .ok (.aload_n 0, 1) := dk_42 (dk_at dksX0_lacks_1 7 rfl rfl)
theorem dX0_lacks_32 : decode cX0_lacks 32 = .ok (.iload_n 1, 1) := dk_27 (dk_at dksX0_lacks_1 8 rfl rfl)
theorem dX0_lacks_33 : decode cX0_lacks 33 = .ok (.invokevirtual 47, 3) := dk_182 0 47 (dk_at dksX0_lacks_1 9 rfl rfl)
theorem dX0_lacks_36 : decode cX0_lacks 36 = .ok (.lload_n 2, 1) := dk_32 (dk_at dksX0_lacks_1 12 rfl rfl)
theorem dX0_lacks_37 : decode cX0_lacks 37 = .ok (.invokeinterface 51 3, 5) := by decide +kernel
theorem dX0_lacks_42 : decode cX0_lacks 42 = .ok (.invokeinterface 57 3, 5) := by decide +kernel
theorem dX0_lacks_47 : decode cX0_lacks 47 = .ok (.ifCond .ne 10, 3) := dk_154 0 10 (dk_at dksX0_lacks_2 0 rfl rfl)
theorem dX0_lacks_50 : decode cX0_lacks 50 = .ok (.aload_n 0, 1) := dk_42 (dk_at dksX0_lacks_2 3 rfl rfl)
theorem dX0_lacks_51 : decode cX0_lacks 51 = .ok (.bipush 7, 2) := dk_16 7 (dk_at dksX0_lacks_2 4 rfl rfl)
theorem dX0_lacks_53 : decode cX0_lacks 53 = .ok (.invokevirtual 35, 3) := dk_182 0 35 (dk_at dksX0_lacks_2 6 rfl rfl)
theorem dX0_lacks_56 : decode cX0_lacks 56 = .ok (.pop, 1) := dk_87 (dk_at dksX0_lacks_2 9 rfl rfl)
theorem dX0_lacks_57 : decode cX0_lacks 57 = .ok (.aload_n 0, 1) := dk_42 (dk_at dksX0_lacks_2 10 rfl rfl)
theorem dX0_lacks_58 : decode cX0_lacks 58 = .ok (.getfield 27, 3) := dk_180 0 27 (dk_at dksX0_lacks_2 11 rfl rfl)
theorem dX0_lacks_61 : decode cX0_lacks 61 = .ok (.ifCond .le 7, 3) := dk_158 0 7 (dk_at dksX0_lacks_2 14 rfl rfl)
theorem dX0_lacks_64 : decode cX0_lacks 64 = .ok (.iconst 1, 1) := dk_4 (dk_at dksX0_lacks_2 17 rfl rfl)
theorem dX0_lacks_65 : decode cX0_lacks 65 = .ok (.goto 4, 3) := dk_167 0 4 (dk_at dksX0_lacks_2 18 rfl rfl)
theorem dX0_lacks_68 : decode cX0_lacks 68 = .ok (.iconst 0, 1) := dk_3 (dk_at dksX0_lacks_2 21 rfl rfl)
theorem dX0_lacks_69 : decode cX0_lacks 69 = .ok (.ireturn, 1) := dk_172 (dk_at dksX0_lacks_2 22 rfl rfl)
abbrev cX0_isKind : ByteArray := prog_1_method_8_code
def yX0_isKind : MethodName := ⟨RX0, "isKind", "(I)Z"⟩
def dkwX0_isKind_0 : List UInt8 := [26, 153, 0, 8, 26, 4, 160, 0, 7, 4, 167, 0, 4, 3, 172]
abbrev dktX0_isKind_0 : List UInt8 := dkwX0_isKind_0 ++ []
theorem dksX0_isKind_0 : cX0_isKind.data.toList.drop 0 = dktX0_isKind_0 := by decide +kernel
theorem dX0_isKind_0 : decode cX0_isKind 0 = .ok (.iload_n 0, 1) := dk_26 (dk_at dksX0_isKind_0 0 rfl rfl)
theorem dX0_isKind_1 : decode cX0_isKind 1 = .ok (.ifCond .eq 8, 3) := dk_153 0 8 (dk_at dksX0_isKind_0 1 rfl rfl)
theorem dX0_isKind_4 : decode cX0_isKind 4 = .ok (.iload_n 0, 1) := dk_26 (dk_at dksX0_isKind_0 4 rfl rfl)
theorem dX0_isKind_5 : decode cX0_isKind 5 = .ok (.iconst 1, 1) := dk_4 (dk_at dksX0_isKind_0 5 rfl rfl)
theorem dX0_isKind_6 : decode cX0_isKind 6 = .ok (.if_icmp .ne 7, 3) := dk_160 0 7 (dk_at dksX0_isKind_0 6 rfl rfl)
theorem dX0_isKind_9 : decode cX0_isKind 9 = .ok (.iconst 1, 1) := dk_4 (dk_at dksX0_isKind_0 9 rfl rfl)
theorem dX0_isKind_10 : decode cX0_isKind 10 = .ok (.goto 4, 3) := dk_167 0 4 (dk_at dksX0_isKind_0 10 rfl rfl)
theorem dX0_isKind_13 : decode cX0_isKind 13 = .ok (.iconst 0, 1) := dk_3 (dk_at dksX0_isKind_0 13 rfl rfl)
theorem dX0_isKind_14 : decode cX0_isKind 14 = .ok (.ireturn, 1) := dk_172 (dk_at dksX0_isKind_0 14 rfl rfl)
abbrev cX0_isRefused : ByteArray := prog_1_method_7_code
def yX0_isRefused : MethodName := ⟨RX0, "isRefused", "(Z)Z"⟩
def dkwX0_isRefused_1 : List UInt8 := [3, 172]
abbrev dktX0_isRefused_1 : List UInt8 := dkwX0_isRefused_1 ++ []
def dkwX0_isRefused_0 : List UInt8 := [42, 3, 181, 0, 27, 27, 154, 0, 10, 42, 16, 9, 182, 0, 35, 87, 27, 154, 0, 7, 4, 167, 0, 4]
abbrev dktX0_isRefused_0 : List UInt8 := dkwX0_isRefused_0 ++ dktX0_isRefused_1
theorem dksX0_isRefused_0 : cX0_isRefused.data.toList.drop 0 = dktX0_isRefused_0 := by decide +kernel
theorem dksX0_isRefused_1 : cX0_isRefused.data.toList.drop 24 = dktX0_isRefused_1 := dk_seg dksX0_isRefused_0 24 rfl rfl
theorem dX0_isRefused_0 : decode cX0_isRefused 0 = .ok (.aload_n 0, 1) := dk_42 (dk_at dksX0_isRefused_0 0 rfl rfl)
theorem dX0_isRefused_1 : decode cX0_isRefused 1 = .ok (.iconst 0, 1) := dk_3 (dk_at dksX0_isRefused_0 1 rfl rfl)
theorem dX0_isRefused_2 : decode cX0_isRefused 2 = .ok (.putfield 27, 3) := dk_181 0 27 (dk_at dksX0_isRefused_0 2 rfl rfl)
theorem dX0_isRefused_5 : decode cX0_isRefused 5 = .ok (.iload_n 1, 1) := dk_27 (dk_at dksX0_isRefused_0 5 rfl rfl)
theorem dX0_isRefused_6 : decode cX0_isRefused 6 = .ok (.ifCond .ne 10, 3) := dk_154 0 10 (dk_at dksX0_isRefused_0 6 rfl rfl)
theorem dX0_isRefused_9 : decode cX0_isRefused 9 = .ok (.aload_n 0, 1) := dk_42 (dk_at dksX0_isRefused_0 9 rfl rfl)
theorem dX0_isRefused_10 : decode cX0_isRefused 10 = .ok (.bipush 9, 2) := dk_16 9 (dk_at dksX0_isRefused_0 10 rfl rfl)
theorem dX0_isRefused_12 : decode cX0_isRefused 12 = .ok (.invokevirtual 35, 3) := dk_182 0 35 (dk_at dksX0_isRefused_0 12 rfl rfl)
theorem dX0_isRefused_15 : decode cX0_isRefused 15 = .ok (.pop, 1) := dk_87 (dk_at dksX0_isRefused_0 15 rfl rfl)
theorem dX0_isRefused_16 : decode cX0_isRefused 16 = .ok (.iload_n 1, 1) := dk_27 (dk_at dksX0_isRefused_0 16 rfl rfl)
theorem dX0_isRefused_17 : decode cX0_isRefused 17 = .ok (.ifCond .ne 7, 3) := dk_154 0 7 (dk_at dksX0_isRefused_0 17 rfl rfl)
theorem dX0_isRefused_20 : decode cX0_isRefused 20 = .ok (.iconst 1, 1) := dk_4 (dk_at dksX0_isRefused_0 20 rfl rfl)
theorem dX0_isRefused_21 : decode cX0_isRefused 21 = .ok (.goto 4, 3) := dk_167 0 4 (dk_at dksX0_isRefused_0 21 rfl rfl)
theorem dX0_isRefused_24 : decode cX0_isRefused 24 = .ok (.iconst 0, 1) := dk_3 (dk_at dksX0_isRefused_1 0 rfl rfl)
theorem dX0_isRefused_25 : decode cX0_isRefused 25 = .ok (.ireturn, 1) := dk_172 (dk_at dksX0_isRefused_1 1 rfl rfl)
abbrev cX0_fails : ByteArray := prog_1_method_6_code
def yX0_fails : MethodName := ⟨RX0, "fails", "(I)I"⟩
def dkwX0_fails_0 : List UInt8 := [42, 27, 181, 0, 27, 42, 180, 0, 31, 27, 92, 46, 4, 96, 79, 3, 172]
abbrev dktX0_fails_0 : List UInt8 := dkwX0_fails_0 ++ []
theorem dksX0_fails_0 : cX0_fails.data.toList.drop 0 = dktX0_fails_0 := by decide +kernel
theorem dX0_fails_0 : decode cX0_fails 0 = .ok (.aload_n 0, 1) := dk_42 (dk_at dksX0_fails_0 0 rfl rfl)
theorem dX0_fails_1 : decode cX0_fails 1 = .ok (.iload_n 1, 1) := dk_27 (dk_at dksX0_fails_0 1 rfl rfl)
theorem dX0_fails_2 : decode cX0_fails 2 = .ok (.putfield 27, 3) := dk_181 0 27 (dk_at dksX0_fails_0 2 rfl rfl)
theorem dX0_fails_5 : decode cX0_fails 5 = .ok (.aload_n 0, 1) := dk_42 (dk_at dksX0_fails_0 5 rfl rfl)
theorem dX0_fails_6 : decode cX0_fails 6 = .ok (.getfield 31, 3) := dk_180 0 31 (dk_at dksX0_fails_0 6 rfl rfl)
theorem dX0_fails_9 : decode cX0_fails 9 = .ok (.iload_n 1, 1) := dk_27 (dk_at dksX0_fails_0 9 rfl rfl)
theorem dX0_fails_10 : decode cX0_fails 10 = .ok (.dup2, 1) := dk_92 (dk_at dksX0_fails_0 10 rfl rfl)
theorem dX0_fails_11 : decode cX0_fails 11 = .ok (.iaload, 1) := dk_46 (dk_at dksX0_fails_0 11 rfl rfl)
theorem dX0_fails_12 : decode cX0_fails 12 = .ok (.iconst 1, 1) := dk_4 (dk_at dksX0_fails_0 12 rfl rfl)
theorem dX0_fails_13 : decode cX0_fails 13 = .ok (.iadd, 1) := dk_96 (dk_at dksX0_fails_0 13 rfl rfl)
theorem dX0_fails_14 : decode cX0_fails 14 = .ok (.iastore, 1) := dk_79 (dk_at dksX0_fails_0 14 rfl rfl)
theorem dX0_fails_15 : decode cX0_fails 15 = .ok (.iconst 0, 1) := dk_3 (dk_at dksX0_fails_0 15 rfl rfl)
theorem dX0_fails_16 : decode cX0_fails 16 = .ok (.ireturn, 1) := dk_172 (dk_at dksX0_fails_0 16 rfl rfl)
abbrev cX0_reals : ByteArray := prog_1_method_5_code
def yX0_reals : MethodName := ⟨RX0, "reals", "(I)LFloatClasses$Reals;"⟩
def dkwX0_reals_0 : List UInt8 := [27, 154, 0, 10, 42, 180, 0, 17, 167, 0, 7, 42, 180, 0, 23, 176]
abbrev dktX0_reals_0 : List UInt8 := dkwX0_reals_0 ++ []
theorem dksX0_reals_0 : cX0_reals.data.toList.drop 0 = dktX0_reals_0 := by decide +kernel
theorem dX0_reals_0 : decode cX0_reals 0 = .ok (.iload_n 1, 1) := dk_27 (dk_at dksX0_reals_0 0 rfl rfl)
theorem dX0_reals_1 : decode cX0_reals 1 = .ok (.ifCond .ne 10, 3) := dk_154 0 10 (dk_at dksX0_reals_0 1 rfl rfl)
theorem dX0_reals_4 : decode cX0_reals 4 = .ok (.aload_n 0, 1) := dk_42 (dk_at dksX0_reals_0 4 rfl rfl)
theorem dX0_reals_5 : decode cX0_reals 5 = .ok (.getfield 17, 3) := dk_180 0 17 (dk_at dksX0_reals_0 5 rfl rfl)
theorem dX0_reals_8 : decode cX0_reals 8 = .ok (.goto 7, 3) := dk_167 0 7 (dk_at dksX0_reals_0 8 rfl rfl)
theorem dX0_reals_11 : decode cX0_reals 11 = .ok (.aload_n 0, 1) := dk_42 (dk_at dksX0_reals_0 11 rfl rfl)
theorem dX0_reals_12 : decode cX0_reals 12 = .ok (.getfield 23, 3) := dk_180 0 23 (dk_at dksX0_reals_0 12 rfl rfl)
theorem dX0_reals_15 : decode cX0_reals 15 = .ok (.areturn, 1) := dk_176 (dk_at dksX0_reals_0 15 rfl rfl)
abbrev cX0_isEndless : ByteArray := prog_1_method_2_code
def yX0_isEndless : MethodName := ⟨RX0, "isEndless", "(D)Z"⟩
def dkwX0_isEndless_0 : List UInt8 := [38, 20, 0, 3, 151, 157, 0, 11, 38, 20, 0, 5, 152, 156, 0, 7, 4, 167, 0, 4, 3, 172]
abbrev dktX0_isEndless_0 : List UInt8 := dkwX0_isEndless_0 ++ []
theorem dksX0_isEndless_0 : cX0_isEndless.data.toList.drop 0 = dktX0_isEndless_0 := by decide +kernel
theorem dX0_isEndless_0 : decode cX0_isEndless 0 = .ok (.dload_n 0, 1) := dk_38 (dk_at dksX0_isEndless_0 0 rfl rfl)
theorem dX0_isEndless_1 : decode cX0_isEndless 1 = .ok (.ldc2_w 3, 3) := dk_20 0 3 (dk_at dksX0_isEndless_0 1 rfl rfl)
theorem dX0_isEndless_4 : decode cX0_isEndless 4 = .ok (.dcmp .l, 1) := dk_151 (dk_at dksX0_isEndless_0 4 rfl rfl)
theorem dX0_isEndless_5 : decode cX0_isEndless 5 = .ok (.ifCond .gt 11, 3) := dk_157 0 11 (dk_at dksX0_isEndless_0 5 rfl rfl)
theorem dX0_isEndless_8 : decode cX0_isEndless 8 = .ok (.dload_n 0, 1) := dk_38 (dk_at dksX0_isEndless_0 8 rfl rfl)
theorem dX0_isEndless_9 : decode cX0_isEndless 9 = .ok (.ldc2_w 5, 3) := dk_20 0 5 (dk_at dksX0_isEndless_0 9 rfl rfl)
theorem dX0_isEndless_12 : decode cX0_isEndless 12 = .ok (.dcmp .g, 1) := dk_152 (dk_at dksX0_isEndless_0 12 rfl rfl)
theorem dX0_isEndless_13 : decode cX0_isEndless 13 = .ok (.ifCond .ge 7, 3) := dk_156 0 7 (dk_at dksX0_isEndless_0 13 rfl rfl)
theorem dX0_isEndless_16 : decode cX0_isEndless 16 = .ok (.iconst 1, 1) := dk_4 (dk_at dksX0_isEndless_0 16 rfl rfl)
theorem dX0_isEndless_17 : decode cX0_isEndless 17 = .ok (.goto 4, 3) := dk_167 0 4 (dk_at dksX0_isEndless_0 17 rfl rfl)
theorem dX0_isEndless_20 : decode cX0_isEndless 20 = .ok (.iconst 0, 1) := dk_3 (dk_at dksX0_isEndless_0 20 rfl rfl)
theorem dX0_isEndless_21 : decode cX0_isEndless 21 = .ok (.ireturn, 1) := dk_172 (dk_at dksX0_isEndless_0 21 rfl rfl)
abbrev cX0_exponentOf : ByteArray := prog_1_method_4_code
def yX0_exponentOf : MethodName := ⟨RX0, "exponentOf", "(D)I"⟩
def dkwX0_exponentOf_1 : List UInt8 := [184, 0, 7, 16, 100, 100, 172]
abbrev dktX0_exponentOf_1 : List UInt8 := dkwX0_exponentOf_1 ++ []
def dkwX0_exponentOf_0 : List UInt8 := [38, 184, 0, 7, 61, 28, 17, 252, 2, 161, 0, 7, 28, 167, 0, 15, 38, 16, 100, 184, 0, 13]
abbrev dktX0_exponentOf_0 : List UInt8 := dkwX0_exponentOf_0 ++ dktX0_exponentOf_1
theorem dksX0_exponentOf_0 : cX0_exponentOf.data.toList.drop 0 = dktX0_exponentOf_0 := by decide +kernel
theorem dksX0_exponentOf_1 : cX0_exponentOf.data.toList.drop 22 = dktX0_exponentOf_1 := dk_seg dksX0_exponentOf_0 22 rfl rfl
theorem dX0_exponentOf_0 : decode cX0_exponentOf 0 = .ok (.dload_n 0, 1) := dk_38 (dk_at dksX0_exponentOf_0 0 rfl rfl)
theorem dX0_exponentOf_1 : decode cX0_exponentOf 1 = .ok (.invokestatic 7, 3) := dk_184 0 7 (dk_at dksX0_exponentOf_0 1 rfl rfl)
theorem dX0_exponentOf_4 : decode cX0_exponentOf 4 = .ok (.istore_n 2, 1) := dk_61 (dk_at dksX0_exponentOf_0 4 rfl rfl)
theorem dX0_exponentOf_5 : decode cX0_exponentOf 5 = .ok (.iload_n 2, 1) := dk_28 (dk_at dksX0_exponentOf_0 5 rfl rfl)
theorem dX0_exponentOf_6 : decode cX0_exponentOf 6 = .ok (.sipush (-1022), 3) := dk_17 252 2 (dk_at dksX0_exponentOf_0 6 rfl rfl)
theorem dX0_exponentOf_9 : decode cX0_exponentOf 9 = .ok (.if_icmp .lt 7, 3) := dk_161 0 7 (dk_at dksX0_exponentOf_0 9 rfl rfl)
theorem dX0_exponentOf_12 : decode cX0_exponentOf 12 = .ok (.iload_n 2, 1) := dk_28 (dk_at dksX0_exponentOf_0 12 rfl rfl)
theorem dX0_exponentOf_13 : decode cX0_exponentOf 13 = .ok (.goto 15, 3) := dk_167 0 15 (dk_at dksX0_exponentOf_0 13 rfl rfl)
theorem dX0_exponentOf_16 : decode cX0_exponentOf 16 = .ok (.dload_n 0, 1) := dk_38 (dk_at dksX0_exponentOf_0 16 rfl rfl)
theorem dX0_exponentOf_17 : decode cX0_exponentOf 17 = .ok (.bipush 100, 2) := dk_16 100 (dk_at dksX0_exponentOf_0 17 rfl rfl)
theorem dX0_exponentOf_19 : decode cX0_exponentOf 19 = .ok (.invokestatic 13, 3) := dk_184 0 13 (dk_at dksX0_exponentOf_0 19 rfl rfl)
theorem dX0_exponentOf_22 : decode cX0_exponentOf 22 = .ok (.invokestatic 7, 3) := dk_184 0 7 (dk_at dksX0_exponentOf_1 0 rfl rfl)
theorem dX0_exponentOf_25 : decode cX0_exponentOf 25 = .ok (.bipush 100, 2) := dk_16 100 (dk_at dksX0_exponentOf_1 3 rfl rfl)
theorem dX0_exponentOf_27 : decode cX0_exponentOf 27 = .ok (.isub, 1) := dk_100 (dk_at dksX0_exponentOf_1 5 rfl rfl)
theorem dX0_exponentOf_28 : decode cX0_exponentOf 28 = .ok (.ireturn, 1) := dk_172 (dk_at dksX0_exponentOf_1 6 rfl rfl)
abbrev cX0_scaledDown : ByteArray := prog_1_method_13_code
def yX0_scaledDown : MethodName := ⟨RX0, "scaledDown", "(DI)D"⟩
def dkwX0_scaledDown_0 : List UInt8 := [38, 28, 116, 5, 108, 184, 0, 13, 28, 116, 28, 116, 5, 108, 100, 184, 0, 13, 175]
abbrev dktX0_scaledDown_0 : List UInt8 := dkwX0_scaledDown_0 ++ []
theorem dksX0_scaledDown_0 : cX0_scaledDown.data.toList.drop 0 = dktX0_scaledDown_0 := by decide +kernel
theorem dX0_scaledDown_0 : decode cX0_scaledDown 0 = .ok (.dload_n 0, 1) := dk_38 (dk_at dksX0_scaledDown_0 0 rfl rfl)
theorem dX0_scaledDown_1 : decode cX0_scaledDown 1 = .ok (.iload_n 2, 1) := dk_28 (dk_at dksX0_scaledDown_0 1 rfl rfl)
theorem dX0_scaledDown_2 : decode cX0_scaledDown 2 = .ok (.ineg, 1) := dk_116 (dk_at dksX0_scaledDown_0 2 rfl rfl)
theorem dX0_scaledDown_3 : decode cX0_scaledDown 3 = .ok (.iconst 2, 1) := dk_5 (dk_at dksX0_scaledDown_0 3 rfl rfl)
theorem dX0_scaledDown_4 : decode cX0_scaledDown 4 = .ok (.idiv, 1) := dk_108 (dk_at dksX0_scaledDown_0 4 rfl rfl)
theorem dX0_scaledDown_5 : decode cX0_scaledDown 5 = .ok (.invokestatic 13, 3) := dk_184 0 13 (dk_at dksX0_scaledDown_0 5 rfl rfl)
theorem dX0_scaledDown_8 : decode cX0_scaledDown 8 = .ok (.iload_n 2, 1) := dk_28 (dk_at dksX0_scaledDown_0 8 rfl rfl)
theorem dX0_scaledDown_9 : decode cX0_scaledDown 9 = .ok (.ineg, 1) := dk_116 (dk_at dksX0_scaledDown_0 9 rfl rfl)
theorem dX0_scaledDown_10 : decode cX0_scaledDown 10 = .ok (.iload_n 2, 1) := dk_28 (dk_at dksX0_scaledDown_0 10 rfl rfl)
theorem dX0_scaledDown_11 : decode cX0_scaledDown 11 = .ok (.ineg, 1) := dk_116 (dk_at dksX0_scaledDown_0 11 rfl rfl)
theorem dX0_scaledDown_12 : decode cX0_scaledDown 12 = .ok (.iconst 2, 1) := dk_5 (dk_at dksX0_scaledDown_0 12 rfl rfl)
theorem dX0_scaledDown_13 : decode cX0_scaledDown 13 = .ok (.idiv, 1) := dk_108 (dk_at dksX0_scaledDown_0 13 rfl rfl)
theorem dX0_scaledDown_14 : decode cX0_scaledDown 14 = .ok (.isub, 1) := dk_100 (dk_at dksX0_scaledDown_0 14 rfl rfl)
theorem dX0_scaledDown_15 : decode cX0_scaledDown 15 = .ok (.invokestatic 13, 3) := dk_184 0 13 (dk_at dksX0_scaledDown_0 15 rfl rfl)
theorem dX0_scaledDown_18 : decode cX0_scaledDown 18 = .ok (.dreturn, 1) := dk_175 (dk_at dksX0_scaledDown_0 18 rfl rfl)
abbrev cX0_encode : ByteArray := prog_1_method_21_code
def yX0_encode : MethodName := ⟨RX0, "encode", "(IJI)J"⟩
def dkwX0_encode_2 : List UInt8 := [133, 184, 0, 127, 185, 0, 183, 3, 0, 173]
abbrev dktX0_encode_2 : List UInt8 := dkwX0_encode_2 ++ []
def dkwX0_encode_1 : List UInt8 := [9, 148, 156, 0, 7, 4, 167, 0, 4, 3, 32, 9, 148, 156, 0, 8, 32, 117, 167, 0, 4, 32, 21, 4]
abbrev dktX0_encode_1 : List UInt8 := dkwX0_encode_1 ++ dktX0_encode_2
def dkwX0_encode_0 : List UInt8 := [42, 27, 184, 0, 39, 182, 0, 43, 153, 0, 5, 9, 173, 42, 27, 182, 0, 47, 42, 27, 182, 0, 47, 32]
abbrev dktX0_encode_0 : List UInt8 := dkwX0_encode_0 ++ dktX0_encode_1
theorem dksX0_encode_0 : cX0_encode.data.toList.drop 0 = dktX0_encode_0 := by decide +kernel
theorem dksX0_encode_1 : cX0_encode.data.toList.drop 24 = dktX0_encode_1 := dk_seg dksX0_encode_0 24 rfl rfl
theorem dksX0_encode_2 : cX0_encode.data.toList.drop 48 = dktX0_encode_2 := dk_seg dksX0_encode_1 24 rfl rfl
theorem dX0_encode_0 : decode cX0_encode 0 = .ok (.aload_n 0, 1) := dk_42 (dk_at dksX0_encode_0 0 rfl rfl)
theorem dX0_encode_1 : decode cX0_encode 1 = .ok (.iload_n 1, 1) := dk_27 (dk_at dksX0_encode_0 1 rfl rfl)
theorem dX0_encode_2 : decode cX0_encode 2 = .ok (.invokestatic 39, 3) := dk_184 0 39 (dk_at dksX0_encode_0 2 rfl rfl)
theorem dX0_encode_5 : decode cX0_encode 5 = .ok (.invokevirtual 43, 3) := dk_182 0 43 (dk_at dksX0_encode_0 5 rfl rfl)
theorem dX0_encode_8 : decode cX0_encode 8 = .ok (.ifCond .eq 5, 3) := dk_153 0 5 (dk_at dksX0_encode_0 8 rfl rfl)
theorem dX0_encode_11 : decode cX0_encode 11 = .ok (.lconst 0, 1) := dk_9 (dk_at dksX0_encode_0 11 rfl rfl)
theorem dX0_encode_12 : decode cX0_encode 12 = .ok (.lreturn, 1) := dk_173 (dk_at dksX0_encode_0 12 rfl rfl)
theorem dX0_encode_13 : decode cX0_encode 13 = .ok (.aload_n 0, 1) := dk_42 (dk_at dksX0_encode_0 13 rfl rfl)
theorem dX0_encode_14 : decode cX0_encode 14 = .ok (.iload_n 1, 1) := dk_27 (dk_at dksX0_encode_0 14 rfl rfl)
theorem dX0_encode_15 : decode cX0_encode 15 = .ok (.invokevirtual 47, 3) := dk_182 0 47 (dk_at dksX0_encode_0 15 rfl rfl)
theorem dX0_encode_18 : decode cX0_encode 18 = .ok (.aload_n 0, 1) := dk_42 (dk_at dksX0_encode_0 18 rfl rfl)
theorem dX0_encode_19 : decode cX0_encode 19 = .ok (.iload_n 1, 1) := dk_27 (dk_at dksX0_encode_0 19 rfl rfl)
theorem dX0_encode_20 : decode cX0_encode 20 = .ok (.invokevirtual 47, 3) := dk_182 0 47 (dk_at dksX0_encode_0 20 rfl rfl)
theorem dX0_encode_23 : decode cX0_encode 23 = .ok (.lload_n 2, 1) := dk_32 (dk_at dksX0_encode_0 23 rfl rfl)
theorem dX0_encode_24 : decode cX0_encode 24 = .ok (.lconst 0, 1) := dk_9 (dk_at dksX0_encode_1 0 rfl rfl)
theorem dX0_encode_25 : decode cX0_encode 25 = .ok (.lcmp, 1) := dk_148 (dk_at dksX0_encode_1 1 rfl rfl)
theorem dX0_encode_26 : decode cX0_encode 26 = .ok (.ifCond .ge 7, 3) := dk_156 0 7 (dk_at dksX0_encode_1 2 rfl rfl)
theorem dX0_encode_29 : decode cX0_encode 29 = .ok (.iconst 1, 1) := dk_4 (dk_at dksX0_encode_1 5 rfl rfl)
theorem dX0_encode_30 : decode cX0_encode 30 = .ok (.goto 4, 3) := dk_167 0 4 (dk_at dksX0_encode_1 6 rfl rfl)
theorem dX0_encode_33 : decode cX0_encode 33 = .ok (.iconst 0, 1) := dk_3 (dk_at dksX0_encode_1 9 rfl rfl)
theorem dX0_encode_34 : decode cX0_encode 34 = .ok (.lload_n 2, 1) := dk_32 (dk_at dksX0_encode_1 10 rfl rfl)
theorem dX0_encode_35 : decode cX0_encode 35 = .ok (.lconst 0, 1) := dk_9 (dk_at dksX0_encode_1 11 rfl rfl)
theorem dX0_encode_36 : decode cX0_encode 36 = .ok (.lcmp, 1) := dk_148 (dk_at dksX0_encode_1 12 rfl rfl)
theorem dX0_encode_37 : decode cX0_encode 37 = .ok (.ifCond .ge 8, 3) := dk_156 0 8 (dk_at dksX0_encode_1 13 rfl rfl)
theorem dX0_encode_40 : decode cX0_encode 40 = .ok (.lload_n 2, 1) := dk_32 (dk_at dksX0_encode_1 16 rfl rfl)
theorem dX0_encode_41 : decode cX0_encode 41 = .ok (.lneg, 1) := dk_117 (dk_at dksX0_encode_1 17 rfl rfl)
theorem dX0_encode_42 : decode cX0_encode 42 = .ok (.goto 4, 3) := dk_167 0 4 (dk_at dksX0_encode_1 18 rfl rfl)
theorem dX0_encode_45 : decode cX0_encode 45 = .ok (.lload_n 2, 1) := dk_32 (dk_at dksX0_encode_1 21 rfl rfl)
theorem dX0_encode_46 : decode cX0_encode 46 = .ok (.iload 4, 2) := dk_21 4 (dk_at dksX0_encode_1 22 rfl rfl)
theorem dX0_encode_48 : decode cX0_encode 48 = .ok (.i2l, 1) := dk_133 (dk_at dksX0_encode_2 0 rfl rfl)
theorem dX0_encode_49 : decode cX0_encode 49 = .ok (.invokestatic 127, 3) := dk_184 0 127 (dk_at dksX0_encode_2 1 rfl rfl)
theorem dX0_encode_52 : decode cX0_encode 52 = .ok (.invokeinterface 183 3, 5) := by decide +kernel
theorem dX0_encode_57 : decode cX0_encode 57 = .ok (.lreturn, 1) := dk_173 (dk_at dksX0_encode_2 9 rfl rfl)
abbrev cX0_round : ByteArray := prog_1_method_10_code
def yX0_round : MethodName := ⟨RX0, "round", "(LFloatClasses$Reals;ZJJ)D"⟩
def dkwX0_round_5 : List UInt8 := [185, 0, 84, 4, 0, 57, 6, 27, 153, 0, 9, 24, 6, 119, 167, 0, 5, 24, 6, 175]
abbrev dktX0_round_5 : List UInt8 := dkwX0_round_5 ++ []
def dkwX0_round_4 : List UInt8 := [22, 12, 20, 0, 87, 148, 157, 0, 22, 42, 32, 22, 12, 136, 184, 0, 89, 138, 22, 10, 136]
abbrev dktX0_round_4 : List UInt8 := dkwX0_round_4 ++ dktX0_round_5
def dkwX0_round_3 : List UInt8 := [22, 12, 9, 148, 157, 0, 19, 42, 32, 138, 22, 4, 136, 185, 0, 84, 4, 0, 57, 6, 167, 0, 31]
abbrev dktX0_round_3 : List UInt8 := dkwX0_round_3 ++ dktX0_round_4
def dkwX0_round_2 : List UInt8 := [22, 10, 22, 4, 101, 55, 12, 22, 8, 20, 0, 80, 148, 158, 0, 11, 20, 0, 82, 57, 6, 167, 0, 54]
abbrev dktX0_round_2 : List UInt8 := dkwX0_round_2 ++ dktX0_round_3
def dkwX0_round_1 : List UInt8 := [22, 8, 42, 185, 0, 69, 1, 0, 133, 101, 10, 97, 42, 185, 0, 73, 1, 0, 133, 184, 0, 76, 55, 10]
abbrev dktX0_round_1 : List UInt8 := dkwX0_round_1 ++ dktX0_round_2
def dkwX0_round_0 : List UInt8 := [14, 57, 6, 32, 9, 148, 153, 0, 116, 22, 4, 20, 0, 61, 97, 32, 184, 0, 63, 133, 101, 55, 8]
abbrev dktX0_round_0 : List UInt8 := dkwX0_round_0 ++ dktX0_round_1
theorem dksX0_round_0 : cX0_round.data.toList.drop 0 = dktX0_round_0 := by decide +kernel
theorem dksX0_round_1 : cX0_round.data.toList.drop 23 = dktX0_round_1 := dk_seg dksX0_round_0 23 rfl rfl
theorem dksX0_round_2 : cX0_round.data.toList.drop 47 = dktX0_round_2 := dk_seg dksX0_round_1 24 rfl rfl
theorem dksX0_round_3 : cX0_round.data.toList.drop 71 = dktX0_round_3 := dk_seg dksX0_round_2 24 rfl rfl
theorem dksX0_round_4 : cX0_round.data.toList.drop 94 = dktX0_round_4 := dk_seg dksX0_round_3 23 rfl rfl
theorem dksX0_round_5 : cX0_round.data.toList.drop 115 = dktX0_round_5 := dk_seg dksX0_round_4 21 rfl rfl
theorem dX0_round_0 : decode cX0_round 0 = .ok (.dconst 0, 1) := dk_14 (dk_at dksX0_round_0 0 rfl rfl)
theorem dX0_round_1 : decode cX0_round 1 = .ok (.dstore 6, 2) := dk_57 6 (dk_at dksX0_round_0 1 rfl rfl)
theorem dX0_round_3 : decode cX0_round 3 = .ok (.lload_n 2, 1) := dk_32 (dk_at dksX0_round_0 3 rfl rfl)
theorem dX0_round_4 : decode cX0_round 4 = .ok (.lconst 0, 1) := dk_9 (dk_at dksX0_round_0 4 rfl rfl)
theorem dX0_round_5 : decode cX0_round 5 = .ok (.lcmp, 1) := dk_148 (dk_at dksX0_round_0 5 rfl rfl)
theorem dX0_round_6 : decode cX0_round 6 = .ok (.ifCond .eq 116, 3) := dk_153 0 116 (dk_at dksX0_round_0 6 rfl rfl)
theorem dX0_round_9 : decode cX0_round 9 = .ok (.lload 4, 2) := dk_22 4 (dk_at dksX0_round_0 9 rfl rfl)
theorem dX0_round_11 : decode cX0_round 11 = .ok (.ldc2_w 61, 3) := dk_20 0 61 (dk_at dksX0_round_0 11 rfl rfl)
theorem dX0_round_14 : decode cX0_round 14 = .ok (.ladd, 1) := dk_97 (dk_at dksX0_round_0 14 rfl rfl)
theorem dX0_round_15 : decode cX0_round 15 = .ok (.lload_n 2, 1) := dk_32 (dk_at dksX0_round_0 15 rfl rfl)
theorem dX0_round_16 : decode cX0_round 16 = .ok (.invokestatic 63, 3) := dk_184 0 63 (dk_at dksX0_round_0 16 rfl rfl)
theorem dX0_round_19 : decode cX0_round 19 = .ok (.i2l, 1) := dk_133 (dk_at dksX0_round_0 19 rfl rfl)
theorem dX0_round_20 : decode cX0_round 20 = .ok (.lsub, 1) := dk_101 (dk_at dksX0_round_0 20 rfl rfl)
theorem dX0_round_21 : decode cX0_round 21 = .ok (.lstore 8, 2) := dk_55 8 (dk_at dksX0_round_0 21 rfl rfl)
theorem dX0_round_23 : decode cX0_round 23 = .ok (.lload 8, 2) := dk_22 8 (dk_at dksX0_round_1 0 rfl rfl)
theorem dX0_round_25 : decode cX0_round 25 = .ok (.aload_n 0, 1) := dk_42 (dk_at dksX0_round_1 2 rfl rfl)
theorem dX0_round_26 : decode cX0_round 26 = .ok (.invokeinterface 69 1, 5) := by decide +kernel
theorem dX0_round_31 : decode cX0_round 31 = .ok (.i2l, 1) := dk_133 (dk_at dksX0_round_1 8 rfl rfl)
theorem dX0_round_32 : decode cX0_round 32 = .ok (.lsub, 1) := dk_101 (dk_at dksX0_round_1 9 rfl rfl)
theorem dX0_round_33 : decode cX0_round 33 = .ok (.lconst 1, 1) := dk_10 (dk_at dksX0_round_1 10 rfl rfl)
theorem dX0_round_34 : decode cX0_round 34 = .ok (.ladd, 1) := dk_97 (dk_at dksX0_round_1 11 rfl rfl)
theorem dX0_round_35 : decode cX0_round 35 = .ok (.aload_n 0, 1) := dk_42 (dk_at dksX0_round_1 12 rfl rfl)
theorem dX0_round_36 : decode cX0_round 36 = .ok (.invokeinterface 73 1, 5) := by decide +kernel
theorem dX0_round_41 : decode cX0_round 41 = .ok (.i2l, 1) := dk_133 (dk_at dksX0_round_1 18 rfl rfl)
theorem dX0_round_42 : decode cX0_round 42 = .ok (.invokestatic 76, 3) := dk_184 0 76 (dk_at dksX0_round_1 19 rfl rfl)
theorem dX0_round_45 : decode cX0_round 45 = .ok (.lstore 10, 2) := dk_55 10 (dk_at dksX0_round_1 22 rfl rfl)
theorem dX0_round_47 : decode cX0_round 47 = .ok (.lload 10, 2) := dk_22 10 (dk_at dksX0_round_2 0 rfl rfl)
theorem dX0_round_49 : decode cX0_round 49 = .ok (.lload 4, 2) := dk_22 4 (dk_at dksX0_round_2 2 rfl rfl)
theorem dX0_round_51 : decode cX0_round 51 = .ok (.lsub, 1) := dk_101 (dk_at dksX0_round_2 4 rfl rfl)
theorem dX0_round_52 : decode cX0_round 52 = .ok (.lstore 12, 2) := dk_55 12 (dk_at dksX0_round_2 5 rfl rfl)
theorem dX0_round_54 : decode cX0_round 54 = .ok (.lload 8, 2) := dk_22 8 (dk_at dksX0_round_2 7 rfl rfl)
theorem dX0_round_56 : decode cX0_round 56 = .ok (.ldc2_w 80, 3) := dk_20 0 80 (dk_at dksX0_round_2 9 rfl rfl)
theorem dX0_round_59 : decode cX0_round 59 = .ok (.lcmp, 1) := dk_148 (dk_at dksX0_round_2 12 rfl rfl)
theorem dX0_round_60 : decode cX0_round 60 = .ok (.ifCond .le 11, 3) := dk_158 0 11 (dk_at dksX0_round_2 13 rfl rfl)
theorem dX0_round_63 : decode cX0_round 63 = .ok (.ldc2_w 82, 3) := dk_20 0 82 (dk_at dksX0_round_2 16 rfl rfl)
theorem dX0_round_66 : decode cX0_round 66 = .ok (.dstore 6, 2) := dk_57 6 (dk_at dksX0_round_2 19 rfl rfl)
theorem dX0_round_68 : decode cX0_round 68 = .ok (.goto 54, 3) := dk_167 0 54 (dk_at dksX0_round_2 21 rfl rfl)
theorem dX0_round_71 : decode cX0_round 71 = .ok (.lload 12, 2) := dk_22 12 (dk_at dksX0_round_3 0 rfl rfl)
theorem dX0_round_73 : decode cX0_round 73 = .ok (.lconst 0, 1) := dk_9 (dk_at dksX0_round_3 2 rfl rfl)
theorem dX0_round_74 : decode cX0_round 74 = .ok (.lcmp, 1) := dk_148 (dk_at dksX0_round_3 3 rfl rfl)
theorem dX0_round_75 : decode cX0_round 75 = .ok (.ifCond .gt 19, 3) := dk_157 0 19 (dk_at dksX0_round_3 4 rfl rfl)
theorem dX0_round_78 : decode cX0_round 78 = .ok (.aload_n 0, 1) := dk_42 (dk_at dksX0_round_3 7 rfl rfl)
theorem dX0_round_79 : decode cX0_round 79 = .ok (.lload_n 2, 1) := dk_32 (dk_at dksX0_round_3 8 rfl rfl)
theorem dX0_round_80 : decode cX0_round 80 = .ok (.l2d, 1) := dk_138 (dk_at dksX0_round_3 9 rfl rfl)
theorem dX0_round_81 : decode cX0_round 81 = .ok (.lload 4, 2) := dk_22 4 (dk_at dksX0_round_3 10 rfl rfl)
theorem dX0_round_83 : decode cX0_round 83 = .ok (.l2i, 1) := dk_136 (dk_at dksX0_round_3 12 rfl rfl)
theorem dX0_round_84 : decode cX0_round 84 = .ok (.invokeinterface 84 4, 5) := by decide +kernel
theorem dX0_round_89 : decode cX0_round 89 = .ok (.dstore 6, 2) := dk_57 6 (dk_at dksX0_round_3 18 rfl rfl)
theorem dX0_round_91 : decode cX0_round 91 = .ok (.goto 31, 3) := dk_167 0 31 (dk_at dksX0_round_3 20 rfl rfl)
theorem dX0_round_94 : decode cX0_round 94 = .ok (.lload 12, 2) := dk_22 12 (dk_at dksX0_round_4 0 rfl rfl)
theorem dX0_round_96 : decode cX0_round 96 = .ok (.ldc2_w 87, 3) := dk_20 0 87 (dk_at dksX0_round_4 2 rfl rfl)
theorem dX0_round_99 : decode cX0_round 99 = .ok (.lcmp, 1) := dk_148 (dk_at dksX0_round_4 5 rfl rfl)
theorem dX0_round_100 : decode cX0_round 100 = .ok (.ifCond .gt 22, 3) := dk_157 0 22 (dk_at dksX0_round_4 6 rfl rfl)
theorem dX0_round_103 : decode cX0_round 103 = .ok (.aload_n 0, 1) := dk_42 (dk_at dksX0_round_4 9 rfl rfl)
theorem dX0_round_104 : decode cX0_round 104 = .ok (.lload_n 2, 1) := dk_32 (dk_at dksX0_round_4 10 rfl rfl)
theorem dX0_round_105 : decode cX0_round 105 = .ok (.lload 12, 2) := dk_22 12 (dk_at dksX0_round_4 11 rfl rfl)
theorem dX0_round_107 : decode cX0_round 107 = .ok (.l2i, 1) := dk_136 (dk_at dksX0_round_4 13 rfl rfl)
theorem dX0_round_108 : decode cX0_round 108 = .ok (.invokestatic 89, 3) := dk_184 0 89 (dk_at dksX0_round_4 14 rfl rfl)
theorem dX0_round_111 : decode cX0_round 111 = .ok (.l2d, 1) := dk_138 (dk_at dksX0_round_4 17 rfl rfl)
theorem dX0_round_112 : decode cX0_round 112 = .ok (.lload 10, 2) := dk_22 10 (dk_at dksX0_round_4 18 rfl rfl)
theorem dX0_round_114 : decode cX0_round 114 = .ok (.l2i, 1) := dk_136 (dk_at dksX0_round_4 20 rfl rfl)
theorem dX0_round_115 : decode cX0_round 115 = .ok (.invokeinterface 84 4, 5) := by decide +kernel
theorem dX0_round_120 : decode cX0_round 120 = .ok (.dstore 6, 2) := dk_57 6 (dk_at dksX0_round_5 5 rfl rfl)
theorem dX0_round_122 : decode cX0_round 122 = .ok (.iload_n 1, 1) := dk_27 (dk_at dksX0_round_5 7 rfl rfl)
theorem dX0_round_123 : decode cX0_round 123 = .ok (.ifCond .eq 9, 3) := dk_153 0 9 (dk_at dksX0_round_5 8 rfl rfl)
theorem dX0_round_126 : decode cX0_round 126 = .ok (.dload 6, 2) := dk_24 6 (dk_at dksX0_round_5 11 rfl rfl)
theorem dX0_round_128 : decode cX0_round 128 = .ok (.dneg, 1) := dk_119 (dk_at dksX0_round_5 13 rfl rfl)
theorem dX0_round_129 : decode cX0_round 129 = .ok (.goto 5, 3) := dk_167 0 5 (dk_at dksX0_round_5 14 rfl rfl)
theorem dX0_round_132 : decode cX0_round 132 = .ok (.dload 6, 2) := dk_24 6 (dk_at dksX0_round_5 17 rfl rfl)
theorem dX0_round_134 : decode cX0_round 134 = .ok (.dreturn, 1) := dk_175 (dk_at dksX0_round_5 19 rfl rfl)
abbrev cX0_kept : ByteArray := prog_1_method_11_code
def yX0_kept : MethodName := ⟨RX0, "kept", "(JI)J"⟩
def dkwX0_kept_2 : List UInt8 := [21, 7, 154, 0, 17, 33, 10, 127, 10, 148, 154, 0, 9, 33, 10, 97, 167, 0, 4, 33, 173]
abbrev dktX0_kept_2 : List UInt8 := dkwX0_kept_2 ++ []
def dkwX0_kept_1 : List UInt8 := [30, 33, 28, 121, 101, 55, 5, 22, 5, 10, 28, 4, 100, 121, 184, 0, 93, 54, 7, 21, 7, 157, 0, 16]
abbrev dktX0_kept_1 : List UInt8 := dkwX0_kept_1 ++ dktX0_kept_2
def dkwX0_kept_0 : List UInt8 := [28, 16, 64, 160, 0, 7, 9, 167, 0, 6, 30, 28, 125, 66, 28, 16, 64, 160, 0, 7, 30, 167, 0, 8]
abbrev dktX0_kept_0 : List UInt8 := dkwX0_kept_0 ++ dktX0_kept_1
theorem dksX0_kept_0 : cX0_kept.data.toList.drop 0 = dktX0_kept_0 := by decide +kernel
theorem dksX0_kept_1 : cX0_kept.data.toList.drop 24 = dktX0_kept_1 := dk_seg dksX0_kept_0 24 rfl rfl
theorem dksX0_kept_2 : cX0_kept.data.toList.drop 48 = dktX0_kept_2 := dk_seg dksX0_kept_1 24 rfl rfl
theorem dX0_kept_0 : decode cX0_kept 0 = .ok (.iload_n 2, 1) := dk_28 (dk_at dksX0_kept_0 0 rfl rfl)
theorem dX0_kept_1 : decode cX0_kept 1 = .ok (.bipush 64, 2) := dk_16 64 (dk_at dksX0_kept_0 1 rfl rfl)
theorem dX0_kept_3 : decode cX0_kept 3 = .ok (.if_icmp .ne 7, 3) := dk_160 0 7 (dk_at dksX0_kept_0 3 rfl rfl)
theorem dX0_kept_6 : decode cX0_kept 6 = .ok (.lconst 0, 1) := dk_9 (dk_at dksX0_kept_0 6 rfl rfl)
theorem dX0_kept_7 : decode cX0_kept 7 = .ok (.goto 6, 3) := dk_167 0 6 (dk_at dksX0_kept_0 7 rfl rfl)
theorem dX0_kept_10 : decode cX0_kept 10 = .ok (.lload_n 0, 1) := dk_30 (dk_at dksX0_kept_0 10 rfl rfl)
theorem dX0_kept_11 : decode cX0_kept 11 = .ok (.iload_n 2, 1) := dk_28 (dk_at dksX0_kept_0 11 rfl rfl)
theorem dX0_kept_12 : decode cX0_kept 12 = .ok (.lushr, 1) := dk_125 (dk_at dksX0_kept_0 12 rfl rfl)
theorem dX0_kept_13 : decode cX0_kept 13 = .ok (.lstore_n 3, 1) := dk_66 (dk_at dksX0_kept_0 13 rfl rfl)
theorem dX0_kept_14 : decode cX0_kept 14 = .ok (.iload_n 2, 1) := dk_28 (dk_at dksX0_kept_0 14 rfl rfl)
theorem dX0_kept_15 : decode cX0_kept 15 = .ok (.bipush 64, 2) := dk_16 64 (dk_at dksX0_kept_0 15 rfl rfl)
theorem dX0_kept_17 : decode cX0_kept 17 = .ok (.if_icmp .ne 7, 3) := dk_160 0 7 (dk_at dksX0_kept_0 17 rfl rfl)
theorem dX0_kept_20 : decode cX0_kept 20 = .ok (.lload_n 0, 1) := dk_30 (dk_at dksX0_kept_0 20 rfl rfl)
theorem dX0_kept_21 : decode cX0_kept 21 = .ok (.goto 8, 3) := dk_167 0 8 (dk_at dksX0_kept_0 21 rfl rfl)
theorem dX0_kept_24 : decode cX0_kept 24 = .ok (.lload_n 0, 1) := dk_30 (dk_at dksX0_kept_1 0 rfl rfl)
theorem dX0_kept_25 : decode cX0_kept 25 = .ok (.lload_n 3, 1) := dk_33 (dk_at dksX0_kept_1 1 rfl rfl)
theorem dX0_kept_26 : decode cX0_kept 26 = .ok (.iload_n 2, 1) := dk_28 (dk_at dksX0_kept_1 2 rfl rfl)
theorem dX0_kept_27 : decode cX0_kept 27 = .ok (.lshl, 1) := dk_121 (dk_at dksX0_kept_1 3 rfl rfl)
theorem dX0_kept_28 : decode cX0_kept 28 = .ok (.lsub, 1) := dk_101 (dk_at dksX0_kept_1 4 rfl rfl)
theorem dX0_kept_29 : decode cX0_kept 29 = .ok (.lstore 5, 2) := dk_55 5 (dk_at dksX0_kept_1 5 rfl rfl)
theorem dX0_kept_31 : decode cX0_kept 31 = .ok (.lload 5, 2) := dk_22 5 (dk_at dksX0_kept_1 7 rfl rfl)
theorem dX0_kept_33 : decode cX0_kept 33 = .ok (.lconst 1, 1) := dk_10 (dk_at dksX0_kept_1 9 rfl rfl)
theorem dX0_kept_34 : decode cX0_kept 34 = .ok (.iload_n 2, 1) := dk_28 (dk_at dksX0_kept_1 10 rfl rfl)
theorem dX0_kept_35 : decode cX0_kept 35 = .ok (.iconst 1, 1) := dk_4 (dk_at dksX0_kept_1 11 rfl rfl)
theorem dX0_kept_36 : decode cX0_kept 36 = .ok (.isub, 1) := dk_100 (dk_at dksX0_kept_1 12 rfl rfl)
theorem dX0_kept_37 : decode cX0_kept 37 = .ok (.lshl, 1) := dk_121 (dk_at dksX0_kept_1 13 rfl rfl)
theorem dX0_kept_38 : decode cX0_kept 38 = .ok (.invokestatic 93, 3) := dk_184 0 93 (dk_at dksX0_kept_1 14 rfl rfl)
theorem dX0_kept_41 : decode cX0_kept 41 = .ok (.istore 7, 2) := dk_54 7 (dk_at dksX0_kept_1 17 rfl rfl)
theorem dX0_kept_43 : decode cX0_kept 43 = .ok (.iload 7, 2) := dk_21 7 (dk_at dksX0_kept_1 19 rfl rfl)
theorem dX0_kept_45 : decode cX0_kept 45 = .ok (.ifCond .gt 16, 3) := dk_157 0 16 (dk_at dksX0_kept_1 21 rfl rfl)
theorem dX0_kept_48 : decode cX0_kept 48 = .ok (.iload 7, 2) := dk_21 7 (dk_at dksX0_kept_2 0 rfl rfl)
theorem dX0_kept_50 : decode cX0_kept 50 = .ok (.ifCond .ne 17, 3) := dk_154 0 17 (dk_at dksX0_kept_2 2 rfl rfl)
theorem dX0_kept_53 : decode cX0_kept 53 = .ok (.lload_n 3, 1) := dk_33 (dk_at dksX0_kept_2 5 rfl rfl)
theorem dX0_kept_54 : decode cX0_kept 54 = .ok (.lconst 1, 1) := dk_10 (dk_at dksX0_kept_2 6 rfl rfl)
theorem dX0_kept_55 : decode cX0_kept 55 = .ok (.land, 1) := dk_127 (dk_at dksX0_kept_2 7 rfl rfl)
theorem dX0_kept_56 : decode cX0_kept 56 = .ok (.lconst 1, 1) := dk_10 (dk_at dksX0_kept_2 8 rfl rfl)
theorem dX0_kept_57 : decode cX0_kept 57 = .ok (.lcmp, 1) := dk_148 (dk_at dksX0_kept_2 9 rfl rfl)
theorem dX0_kept_58 : decode cX0_kept 58 = .ok (.ifCond .ne 9, 3) := dk_154 0 9 (dk_at dksX0_kept_2 10 rfl rfl)
theorem dX0_kept_61 : decode cX0_kept 61 = .ok (.lload_n 3, 1) := dk_33 (dk_at dksX0_kept_2 13 rfl rfl)
theorem dX0_kept_62 : decode cX0_kept 62 = .ok (.lconst 1, 1) := dk_10 (dk_at dksX0_kept_2 14 rfl rfl)
theorem dX0_kept_63 : decode cX0_kept 63 = .ok (.ladd, 1) := dk_97 (dk_at dksX0_kept_2 15 rfl rfl)
theorem dX0_kept_64 : decode cX0_kept 64 = .ok (.goto 4, 3) := dk_167 0 4 (dk_at dksX0_kept_2 16 rfl rfl)
theorem dX0_kept_67 : decode cX0_kept 67 = .ok (.lload_n 3, 1) := dk_33 (dk_at dksX0_kept_2 19 rfl rfl)
theorem dX0_kept_68 : decode cX0_kept 68 = .ok (.lreturn, 1) := dk_173 (dk_at dksX0_kept_2 20 rfl rfl)
abbrev cX0_exponent : ByteArray := prog_1_method_22_code
def yX0_exponent : MethodName := ⟨RX0, "exponent", "(IJ)I"⟩
def dkwX0_exponent_1 : List UInt8 := [57, 4, 24, 4, 14, 151, 154, 0, 7, 3, 167, 0, 10, 24, 4, 184, 0, 131, 4, 96, 172]
abbrev dktX0_exponent_1 : List UInt8 := dkwX0_exponent_1 ++ []
def dkwX0_exponent_0 : List UInt8 := [42, 27, 32, 4, 182, 0, 176, 153, 0, 5, 3, 172, 42, 27, 182, 0, 47, 32, 185, 0, 51, 3, 0]
abbrev dktX0_exponent_0 : List UInt8 := dkwX0_exponent_0 ++ dktX0_exponent_1
theorem dksX0_exponent_0 : cX0_exponent.data.toList.drop 0 = dktX0_exponent_0 := by decide +kernel
theorem dksX0_exponent_1 : cX0_exponent.data.toList.drop 23 = dktX0_exponent_1 := dk_seg dksX0_exponent_0 23 rfl rfl
theorem dX0_exponent_0 : decode cX0_exponent 0 = .ok (.aload_n 0, 1) := dk_42 (dk_at dksX0_exponent_0 0 rfl rfl)
theorem dX0_exponent_1 : decode cX0_exponent 1 = .ok (.iload_n 1, 1) := dk_27 (dk_at dksX0_exponent_0 1 rfl rfl)
theorem dX0_exponent_2 : decode cX0_exponent 2 = .ok (.lload_n 2, 1) := dk_32 (dk_at dksX0_exponent_0 2 rfl rfl)
theorem dX0_exponent_3 : decode cX0_exponent 3 = .ok (.iconst 1, 1) := dk_4 (dk_at dksX0_exponent_0 3 rfl rfl)
theorem dX0_exponent_4 : decode cX0_exponent 4 = .ok (.invokevirtual 176, 3) := dk_182 0 176 (dk_at dksX0_exponent_0 4 rfl rfl)
theorem dX0_exponent_7 : decode cX0_exponent 7 = .ok (.ifCond .eq 5, 3) := dk_153 0 5 (dk_at dksX0_exponent_0 7 rfl rfl)
theorem dX0_exponent_10 : decode cX0_exponent 10 = .ok (.iconst 0, 1) := dk_3 (dk_at dksX0_exponent_0 10 rfl rfl)
theorem dX0_exponent_11 : decode cX0_exponent 11 = .ok (.ireturn, 1) := dk_172 (dk_at dksX0_exponent_0 11 rfl rfl)
theorem dX0_exponent_12 : decode cX0_exponent 12 = .ok (.aload_n 0, 1) := dk_42 (dk_at dksX0_exponent_0 12 rfl rfl)
theorem dX0_exponent_13 : decode cX0_exponent 13 = .ok (.iload_n 1, 1) := dk_27 (dk_at dksX0_exponent_0 13 rfl rfl)
theorem dX0_exponent_14 : decode cX0_exponent 14 = .ok (.invokevirtual 47, 3) := dk_182 0 47 (dk_at dksX0_exponent_0 14 rfl rfl)
theorem dX0_exponent_17 : decode cX0_exponent 17 = .ok (.lload_n 2, 1) := dk_32 (dk_at dksX0_exponent_0 17 rfl rfl)
theorem dX0_exponent_18 : decode cX0_exponent 18 = .ok (.invokeinterface 51 3, 5) := by decide +kernel
theorem dX0_exponent_23 : decode cX0_exponent 23 = .ok (.dstore 4, 2) := dk_57 4 (dk_at dksX0_exponent_1 0 rfl rfl)
theorem dX0_exponent_25 : decode cX0_exponent 25 = .ok (.dload 4, 2) := dk_24 4 (dk_at dksX0_exponent_1 2 rfl rfl)
theorem dX0_exponent_27 : decode cX0_exponent 27 = .ok (.dconst 0, 1) := dk_14 (dk_at dksX0_exponent_1 4 rfl rfl)
theorem dX0_exponent_28 : decode cX0_exponent 28 = .ok (.dcmp .l, 1) := dk_151 (dk_at dksX0_exponent_1 5 rfl rfl)
theorem dX0_exponent_29 : decode cX0_exponent 29 = .ok (.ifCond .ne 7, 3) := dk_154 0 7 (dk_at dksX0_exponent_1 6 rfl rfl)
theorem dX0_exponent_32 : decode cX0_exponent 32 = .ok (.iconst 0, 1) := dk_3 (dk_at dksX0_exponent_1 9 rfl rfl)
theorem dX0_exponent_33 : decode cX0_exponent 33 = .ok (.goto 10, 3) := dk_167 0 10 (dk_at dksX0_exponent_1 10 rfl rfl)
theorem dX0_exponent_36 : decode cX0_exponent 36 = .ok (.dload 4, 2) := dk_24 4 (dk_at dksX0_exponent_1 13 rfl rfl)
theorem dX0_exponent_38 : decode cX0_exponent 38 = .ok (.invokestatic 131, 3) := dk_184 0 131 (dk_at dksX0_exponent_1 15 rfl rfl)
theorem dX0_exponent_41 : decode cX0_exponent 41 = .ok (.iconst 1, 1) := dk_4 (dk_at dksX0_exponent_1 18 rfl rfl)
theorem dX0_exponent_42 : decode cX0_exponent 42 = .ok (.iadd, 1) := dk_96 (dk_at dksX0_exponent_1 19 rfl rfl)
theorem dX0_exponent_43 : decode cX0_exponent 43 = .ok (.ireturn, 1) := dk_172 (dk_at dksX0_exponent_1 20 rfl rfl)
abbrev cX0_scale : ByteArray := prog_1_method_23_code
def yX0_scale : MethodName := ⟨RX0, "scale", "(IJI)J"⟩
def dkwX0_scale_3 : List UInt8 := [21, 4, 184, 0, 13, 185, 0, 183, 3, 0, 173]
abbrev dktX0_scale_3 : List UInt8 := dkwX0_scale_3 ++ []
def dkwX0_scale_2 : List UInt8 := [21, 4, 182, 0, 188, 167, 0, 23, 24, 6, 24, 6, 151, 153, 0, 8, 24, 6, 167, 0, 10, 24, 6]
abbrev dktX0_scale_2 : List UInt8 := dkwX0_scale_2 ++ dktX0_scale_3
def dkwX0_scale_1 : List UInt8 := [185, 0, 51, 3, 0, 57, 6, 25, 5, 25, 5, 193, 0, 186, 153, 0, 18, 25, 5, 192, 0, 186, 24, 6]
abbrev dktX0_scale_1 : List UInt8 := dkwX0_scale_1 ++ dktX0_scale_2
def dkwX0_scale_0 : List UInt8 := [42, 27, 184, 0, 39, 182, 0, 43, 153, 0, 5, 9, 173, 42, 27, 182, 0, 47, 58, 5, 25, 5, 32]
abbrev dktX0_scale_0 : List UInt8 := dkwX0_scale_0 ++ dktX0_scale_1
theorem dksX0_scale_0 : cX0_scale.data.toList.drop 0 = dktX0_scale_0 := by decide +kernel
theorem dksX0_scale_1 : cX0_scale.data.toList.drop 23 = dktX0_scale_1 := dk_seg dksX0_scale_0 23 rfl rfl
theorem dksX0_scale_2 : cX0_scale.data.toList.drop 47 = dktX0_scale_2 := dk_seg dksX0_scale_1 24 rfl rfl
theorem dksX0_scale_3 : cX0_scale.data.toList.drop 70 = dktX0_scale_3 := dk_seg dksX0_scale_2 23 rfl rfl
theorem dX0_scale_0 : decode cX0_scale 0 = .ok (.aload_n 0, 1) := dk_42 (dk_at dksX0_scale_0 0 rfl rfl)
theorem dX0_scale_1 : decode cX0_scale 1 = .ok (.iload_n 1, 1) := dk_27 (dk_at dksX0_scale_0 1 rfl rfl)
theorem dX0_scale_2 : decode cX0_scale 2 = .ok (.invokestatic 39, 3) := dk_184 0 39 (dk_at dksX0_scale_0 2 rfl rfl)
theorem dX0_scale_5 : decode cX0_scale 5 = .ok (.invokevirtual 43, 3) := dk_182 0 43 (dk_at dksX0_scale_0 5 rfl rfl)
theorem dX0_scale_8 : decode cX0_scale 8 = .ok (.ifCond .eq 5, 3) := dk_153 0 5 (dk_at dksX0_scale_0 8 rfl rfl)
theorem dX0_scale_11 : decode cX0_scale 11 = .ok (.lconst 0, 1) := dk_9 (dk_at dksX0_scale_0 11 rfl rfl)
theorem dX0_scale_12 : decode cX0_scale 12 = .ok (.lreturn, 1) := dk_173 (dk_at dksX0_scale_0 12 rfl rfl)
theorem dX0_scale_13 : decode cX0_scale 13 = .ok (.aload_n 0, 1) := dk_42 (dk_at dksX0_scale_0 13 rfl rfl)
theorem dX0_scale_14 : decode cX0_scale 14 = .ok (.iload_n 1, 1) := dk_27 (dk_at dksX0_scale_0 14 rfl rfl)
theorem dX0_scale_15 : decode cX0_scale 15 = .ok (.invokevirtual 47, 3) := dk_182 0 47 (dk_at dksX0_scale_0 15 rfl rfl)
theorem dX0_scale_18 : decode cX0_scale 18 = .ok (.astore 5, 2) := dk_58 5 (dk_at dksX0_scale_0 18 rfl rfl)
theorem dX0_scale_20 : decode cX0_scale 20 = .ok (.aload 5, 2) := dk_25 5 (dk_at dksX0_scale_0 20 rfl rfl)
theorem dX0_scale_22 : decode cX0_scale 22 = .ok (.lload_n 2, 1) := dk_32 (dk_at dksX0_scale_0 22 rfl rfl)
theorem dX0_scale_23 : decode cX0_scale 23 = .ok (.invokeinterface 51 3, 5) := by decide +kernel
theorem dX0_scale_28 : decode cX0_scale 28 = .ok (.dstore 6, 2) := dk_57 6 (dk_at dksX0_scale_1 5 rfl rfl)
theorem dX0_scale_30 : decode cX0_scale 30 = .ok (.aload 5, 2) := dk_25 5 (dk_at dksX0_scale_1 7 rfl rfl)
theorem dX0_scale_32 : decode cX0_scale 32 = .ok (.aload 5, 2) := dk_25 5 (dk_at dksX0_scale_1 9 rfl rfl)
theorem dX0_scale_34 : decode cX0_scale 34 = .ok (.instanceof 186, 3) := dk_193 0 186 (dk_at dksX0_scale_1 11 rfl rfl)
theorem dX0_scale_37 : decode cX0_scale 37 = .ok (.ifCond .eq 18, 3) := dk_153 0 18 (dk_at dksX0_scale_1 14 rfl rfl)
theorem dX0_scale_40 : decode cX0_scale 40 = .ok (.aload 5, 2) := dk_25 5 (dk_at dksX0_scale_1 17 rfl rfl)
theorem dX0_scale_42 : decode cX0_scale 42 = .ok (.checkcast 186, 3) := dk_192 0 186 (dk_at dksX0_scale_1 19 rfl rfl)
theorem dX0_scale_45 : decode cX0_scale 45 = .ok (.dload 6, 2) := dk_24 6 (dk_at dksX0_scale_1 22 rfl rfl)
theorem dX0_scale_47 : decode cX0_scale 47 = .ok (.iload 4, 2) := dk_21 4 (dk_at dksX0_scale_2 0 rfl rfl)
theorem dX0_scale_49 : decode cX0_scale 49 = .ok (.invokevirtual 188, 3) := dk_182 0 188 (dk_at dksX0_scale_2 2 rfl rfl)
theorem dX0_scale_52 : decode cX0_scale 52 = .ok (.goto 23, 3) := dk_167 0 23 (dk_at dksX0_scale_2 5 rfl rfl)
theorem dX0_scale_55 : decode cX0_scale 55 = .ok (.dload 6, 2) := dk_24 6 (dk_at dksX0_scale_2 8 rfl rfl)
theorem dX0_scale_57 : decode cX0_scale 57 = .ok (.dload 6, 2) := dk_24 6 (dk_at dksX0_scale_2 10 rfl rfl)
theorem dX0_scale_59 : decode cX0_scale 59 = .ok (.dcmp .l, 1) := dk_151 (dk_at dksX0_scale_2 12 rfl rfl)
theorem dX0_scale_60 : decode cX0_scale 60 = .ok (.ifCond .eq 8, 3) := dk_153 0 8 (dk_at dksX0_scale_2 13 rfl rfl)
theorem dX0_scale_63 : decode cX0_scale 63 = .ok (.dload 6, 2) := dk_24 6 (dk_at dksX0_scale_2 16 rfl rfl)
theorem dX0_scale_65 : decode cX0_scale 65 = .ok (.goto 10, 3) := dk_167 0 10 (dk_at dksX0_scale_2 18 rfl rfl)
theorem dX0_scale_68 : decode cX0_scale 68 = .ok (.dload 6, 2) := dk_24 6 (dk_at dksX0_scale_2 21 rfl rfl)
theorem dX0_scale_70 : decode cX0_scale 70 = .ok (.iload 4, 2) := dk_21 4 (dk_at dksX0_scale_3 0 rfl rfl)
theorem dX0_scale_72 : decode cX0_scale 72 = .ok (.invokestatic 13, 3) := dk_184 0 13 (dk_at dksX0_scale_3 2 rfl rfl)
theorem dX0_scale_75 : decode cX0_scale 75 = .ok (.invokeinterface 183 3, 5) := by decide +kernel
theorem dX0_scale_80 : decode cX0_scale 80 = .ok (.lreturn, 1) := dk_173 (dk_at dksX0_scale_3 10 rfl rfl)
abbrev cX0_sort : ByteArray := prog_1_method_24_code
def yX0_sort : MethodName := ⟨RX0, "sort", "(IJ)I"⟩
def dkwX0_sort_1 : List UInt8 := [182, 0, 47, 32, 185, 0, 51, 3, 0, 185, 0, 191, 3, 0, 172]
abbrev dktX0_sort_1 : List UInt8 := dkwX0_sort_1 ++ []
def dkwX0_sort_0 : List UInt8 := [42, 27, 184, 0, 39, 182, 0, 43, 153, 0, 7, 3, 167, 0, 24, 42, 27, 182, 0, 47, 42, 27]
abbrev dktX0_sort_0 : List UInt8 := dkwX0_sort_0 ++ dktX0_sort_1
theorem dksX0_sort_0 : cX0_sort.data.toList.drop 0 = dktX0_sort_0 := by decide +kernel
theorem dksX0_sort_1 : cX0_sort.data.toList.drop 22 = dktX0_sort_1 := dk_seg dksX0_sort_0 22 rfl rfl
theorem dX0_sort_0 : decode cX0_sort 0 = .ok (.aload_n 0, 1) := dk_42 (dk_at dksX0_sort_0 0 rfl rfl)
theorem dX0_sort_1 : decode cX0_sort 1 = .ok (.iload_n 1, 1) := dk_27 (dk_at dksX0_sort_0 1 rfl rfl)
theorem dX0_sort_2 : decode cX0_sort 2 = .ok (.invokestatic 39, 3) := dk_184 0 39 (dk_at dksX0_sort_0 2 rfl rfl)
theorem dX0_sort_5 : decode cX0_sort 5 = .ok (.invokevirtual 43, 3) := dk_182 0 43 (dk_at dksX0_sort_0 5 rfl rfl)
theorem dX0_sort_8 : decode cX0_sort 8 = .ok (.ifCond .eq 7, 3) := dk_153 0 7 (dk_at dksX0_sort_0 8 rfl rfl)
theorem dX0_sort_11 : decode cX0_sort 11 = .ok (.iconst 0, 1) := dk_3 (dk_at dksX0_sort_0 11 rfl rfl)
theorem dX0_sort_12 : decode cX0_sort 12 = .ok (.goto 24, 3) := dk_167 0 24 (dk_at dksX0_sort_0 12 rfl rfl)
theorem dX0_sort_15 : decode cX0_sort 15 = .ok (.aload_n 0, 1) := dk_42 (dk_at dksX0_sort_0 15 rfl rfl)
theorem dX0_sort_16 : decode cX0_sort 16 = .ok (.iload_n 1, 1) := dk_27 (dk_at dksX0_sort_0 16 rfl rfl)
theorem dX0_sort_17 : decode cX0_sort 17 = .ok (.invokevirtual 47, 3) := dk_182 0 47 (dk_at dksX0_sort_0 17 rfl rfl)
theorem dX0_sort_20 : decode cX0_sort 20 = .ok (.aload_n 0, 1) := dk_42 (dk_at dksX0_sort_0 20 rfl rfl)
theorem dX0_sort_21 : decode cX0_sort 21 = .ok (.iload_n 1, 1) := dk_27 (dk_at dksX0_sort_0 21 rfl rfl)
theorem dX0_sort_22 : decode cX0_sort 22 = .ok (.invokevirtual 47, 3) := dk_182 0 47 (dk_at dksX0_sort_1 0 rfl rfl)
theorem dX0_sort_25 : decode cX0_sort 25 = .ok (.lload_n 2, 1) := dk_32 (dk_at dksX0_sort_1 3 rfl rfl)
theorem dX0_sort_26 : decode cX0_sort 26 = .ok (.invokeinterface 51 3, 5) := by decide +kernel
theorem dX0_sort_31 : decode cX0_sort 31 = .ok (.invokeinterface 191 3, 5) := by decide +kernel
theorem dX0_sort_36 : decode cX0_sort 36 = .ok (.ireturn, 1) := dk_172 (dk_at dksX0_sort_1 14 rfl rfl)
abbrev cX0_one : ByteArray := prog_1_method_25_code
def yX0_one : MethodName := ⟨RX0, "one", "(IIJ)J"⟩
def dkwX0_one_3 : List UInt8 := [182, 0, 47, 42, 28, 182, 0, 47, 27, 24, 5, 185, 0, 196, 4, 0, 185, 0, 183, 3, 0, 173]
abbrev dktX0_one_3 : List UInt8 := dkwX0_one_3 ++ []
def dkwX0_one_2 : List UInt8 := [16, 8, 160, 0, 20, 42, 4, 28, 100, 182, 0, 47, 24, 5, 185, 0, 183, 3, 0, 167, 0, 26, 42, 28]
abbrev dktX0_one_2 : List UInt8 := dkwX0_one_2 ++ dktX0_one_3
def dkwX0_one_1 : List UInt8 := [3, 182, 0, 43, 153, 0, 5, 9, 173, 42, 28, 182, 0, 47, 33, 185, 0, 51, 3, 0, 57, 5, 27]
abbrev dktX0_one_1 : List UInt8 := dkwX0_one_1 ++ dktX0_one_2
def dkwX0_one_0 : List UInt8 := [42, 27, 133, 9, 20, 0, 194, 184, 0, 172, 153, 0, 14, 28, 184, 0, 39, 153, 0, 7, 4, 167, 0, 4]
abbrev dktX0_one_0 : List UInt8 := dkwX0_one_0 ++ dktX0_one_1
theorem dksX0_one_0 : cX0_one.data.toList.drop 0 = dktX0_one_0 := by decide +kernel
theorem dksX0_one_1 : cX0_one.data.toList.drop 24 = dktX0_one_1 := dk_seg dksX0_one_0 24 rfl rfl
theorem dksX0_one_2 : cX0_one.data.toList.drop 47 = dktX0_one_2 := dk_seg dksX0_one_1 23 rfl rfl
theorem dksX0_one_3 : cX0_one.data.toList.drop 71 = dktX0_one_3 := dk_seg dksX0_one_2 24 rfl rfl
theorem dX0_one_0 : decode cX0_one 0 = .ok (.aload_n 0, 1) := dk_42 (dk_at dksX0_one_0 0 rfl rfl)
theorem dX0_one_1 : decode cX0_one 1 = .ok (.iload_n 1, 1) := dk_27 (dk_at dksX0_one_0 1 rfl rfl)
theorem dX0_one_2 : decode cX0_one 2 = .ok (.i2l, 1) := dk_133 (dk_at dksX0_one_0 2 rfl rfl)
theorem dX0_one_3 : decode cX0_one 3 = .ok (.lconst 0, 1) := dk_9 (dk_at dksX0_one_0 3 rfl rfl)
theorem dX0_one_4 : decode cX0_one 4 = .ok (.ldc2_w 194, 3) := dk_20 0 194 (dk_at dksX0_one_0 4 rfl rfl)
theorem dX0_one_7 : decode cX0_one 7 = .ok (.invokestatic 172, 3) := dk_184 0 172 (dk_at dksX0_one_0 7 rfl rfl)
theorem dX0_one_10 : decode cX0_one 10 = .ok (.ifCond .eq 14, 3) := dk_153 0 14 (dk_at dksX0_one_0 10 rfl rfl)
theorem dX0_one_13 : decode cX0_one 13 = .ok (.iload_n 2, 1) := dk_28 (dk_at dksX0_one_0 13 rfl rfl)
theorem dX0_one_14 : decode cX0_one 14 = .ok (.invokestatic 39, 3) := dk_184 0 39 (dk_at dksX0_one_0 14 rfl rfl)
theorem dX0_one_17 : decode cX0_one 17 = .ok (.ifCond .eq 7, 3) := dk_153 0 7 (dk_at dksX0_one_0 17 rfl rfl)
theorem dX0_one_20 : decode cX0_one 20 = .ok (.iconst 1, 1) := dk_4 (dk_at dksX0_one_0 20 rfl rfl)
theorem dX0_one_21 : decode cX0_one 21 = .ok (.goto 4, 3) := dk_167 0 4 (dk_at dksX0_one_0 21 rfl rfl)
theorem dX0_one_24 : decode cX0_one 24 = .ok (.iconst 0, 1) := dk_3 (dk_at dksX0_one_1 0 rfl rfl)
theorem dX0_one_25 : decode cX0_one 25 = .ok (.invokevirtual 43, 3) := dk_182 0 43 (dk_at dksX0_one_1 1 rfl rfl)
theorem dX0_one_28 : decode cX0_one 28 = .ok (.ifCond .eq 5, 3) := dk_153 0 5 (dk_at dksX0_one_1 4 rfl rfl)
theorem dX0_one_31 : decode cX0_one 31 = .ok (.lconst 0, 1) := dk_9 (dk_at dksX0_one_1 7 rfl rfl)
theorem dX0_one_32 : decode cX0_one 32 = .ok (.lreturn, 1) := dk_173 (dk_at dksX0_one_1 8 rfl rfl)
theorem dX0_one_33 : decode cX0_one 33 = .ok (.aload_n 0, 1) := dk_42 (dk_at dksX0_one_1 9 rfl rfl)
theorem dX0_one_34 : decode cX0_one 34 = .ok (.iload_n 2, 1) := dk_28 (dk_at dksX0_one_1 10 rfl rfl)
theorem dX0_one_35 : decode cX0_one 35 = .ok (.invokevirtual 47, 3) := dk_182 0 47 (dk_at dksX0_one_1 11 rfl rfl)
theorem dX0_one_38 : decode cX0_one 38 = .ok (.lload_n 3, 1) := dk_33 (dk_at dksX0_one_1 14 rfl rfl)
theorem dX0_one_39 : decode cX0_one 39 = .ok (.invokeinterface 51 3, 5) := by decide +kernel
theorem dX0_one_44 : decode cX0_one 44 = .ok (.dstore 5, 2) := dk_57 5 (dk_at dksX0_one_1 20 rfl rfl)
theorem dX0_one_46 : decode cX0_one 46 = .ok (.iload_n 1, 1) := dk_27 (dk_at dksX0_one_1 22 rfl rfl)
theorem dX0_one_47 : decode cX0_one 47 = .ok (.bipush 8, 2) := dk_16 8 (dk_at dksX0_one_2 0 rfl rfl)
theorem dX0_one_49 : decode cX0_one 49 = .ok (.if_icmp .ne 20, 3) := dk_160 0 20 (dk_at dksX0_one_2 2 rfl rfl)
theorem dX0_one_52 : decode cX0_one 52 = .ok (.aload_n 0, 1) := dk_42 (dk_at dksX0_one_2 5 rfl rfl)
theorem dX0_one_53 : decode cX0_one 53 = .ok (.iconst 1, 1) := dk_4 (dk_at dksX0_one_2 6 rfl rfl)
theorem dX0_one_54 : decode cX0_one 54 = .ok (.iload_n 2, 1) := dk_28 (dk_at dksX0_one_2 7 rfl rfl)
theorem dX0_one_55 : decode cX0_one 55 = .ok (.isub, 1) := dk_100 (dk_at dksX0_one_2 8 rfl rfl)
theorem dX0_one_56 : decode cX0_one 56 = .ok (.invokevirtual 47, 3) := dk_182 0 47 (dk_at dksX0_one_2 9 rfl rfl)
theorem dX0_one_59 : decode cX0_one 59 = .ok (.dload 5, 2) := dk_24 5 (dk_at dksX0_one_2 12 rfl rfl)
theorem dX0_one_61 : decode cX0_one 61 = .ok (.invokeinterface 183 3, 5) := by decide +kernel
theorem dX0_one_66 : decode cX0_one 66 = .ok (.goto 26, 3) := dk_167 0 26 (dk_at dksX0_one_2 19 rfl rfl)
theorem dX0_one_69 : decode cX0_one 69 = .ok (.aload_n 0, 1) := dk_42 (dk_at dksX0_one_2 22 rfl rfl)
theorem dX0_one_70 : decode cX0_one 70 = .ok (.iload_n 2, 1) := dk_28 (dk_at dksX0_one_2 23 rfl rfl)
theorem dX0_one_71 : decode cX0_one 71 = .ok (.invokevirtual 47, 3) := dk_182 0 47 (dk_at dksX0_one_3 0 rfl rfl)
theorem dX0_one_74 : decode cX0_one 74 = .ok (.aload_n 0, 1) := dk_42 (dk_at dksX0_one_3 3 rfl rfl)
theorem dX0_one_75 : decode cX0_one 75 = .ok (.iload_n 2, 1) := dk_28 (dk_at dksX0_one_3 4 rfl rfl)
theorem dX0_one_76 : decode cX0_one 76 = .ok (.invokevirtual 47, 3) := dk_182 0 47 (dk_at dksX0_one_3 5 rfl rfl)
theorem dX0_one_79 : decode cX0_one 79 = .ok (.iload_n 1, 1) := dk_27 (dk_at dksX0_one_3 8 rfl rfl)
theorem dX0_one_80 : decode cX0_one 80 = .ok (.dload 5, 2) := dk_24 5 (dk_at dksX0_one_3 9 rfl rfl)
theorem dX0_one_82 : decode cX0_one 82 = .ok (.invokeinterface 196 4, 5) := by decide +kernel
theorem dX0_one_87 : decode cX0_one 87 = .ok (.invokeinterface 183 3, 5) := by decide +kernel
theorem dX0_one_92 : decode cX0_one 92 = .ok (.lreturn, 1) := dk_173 (dk_at dksX0_one_3 21 rfl rfl)
abbrev cX0_root : ByteArray := prog_1_method_16_code
def yX0_root : MethodName := ⟨RX0, "root", "(LFloatClasses$Reals;D)D"⟩
def dkwX0_root_6 : List UInt8 := [21, 6, 16, 28, 100, 133, 184, 0, 127, 175]
abbrev dktX0_root_6 : List UInt8 := dkwX0_root_6 ++ []
def dkwX0_root_5 : List UInt8 := [184, 0, 156, 156, 0, 14, 20, 0, 117, 22, 7, 105, 10, 97, 167, 0, 9, 20, 0, 117, 22, 7, 105]
abbrev dktX0_root_5 : List UInt8 := dkwX0_root_5 ++ dktX0_root_6
def dkwX0_root_4 : List UInt8 := [22, 9, 97, 55, 7, 22, 9, 20, 0, 117, 109, 55, 9, 167, 255, 221, 42, 3, 22, 7, 22, 4]
abbrev dktX0_root_4 : List UInt8 := dkwX0_root_4 ++ dktX0_root_5
def dkwX0_root_3 : List UInt8 := [55, 9, 22, 9, 9, 148, 158, 0, 34, 22, 7, 22, 9, 97, 22, 4, 184, 0, 156, 157, 0, 10, 22, 7]
abbrev dktX0_root_3 : List UInt8 := dkwX0_root_3 ++ dktX0_root_4
def dkwX0_root_2 : List UInt8 := [112, 154, 0, 9, 29, 5, 108, 167, 0, 8, 29, 4, 100, 5, 108, 54, 6, 9, 55, 7, 20, 0, 154]
abbrev dktX0_root_2 : List UInt8 := dkwX0_root_2 ++ dktX0_root_3
def dkwX0_root_1 : List UInt8 := [5, 112, 154, 0, 10, 39, 184, 0, 150, 167, 0, 11, 20, 0, 117, 39, 184, 0, 150, 105, 55, 4, 29, 5]
abbrev dktX0_root_1 : List UInt8 := dkwX0_root_1 ++ dktX0_root_2
def dkwX0_root_0 : List UInt8 := [39, 14, 151, 153, 0, 10, 39, 184, 0, 147, 153, 0, 5, 39, 175, 39, 184, 0, 131, 16, 52, 100, 62, 29]
abbrev dktX0_root_0 : List UInt8 := dkwX0_root_0 ++ dktX0_root_1
theorem dksX0_root_0 : cX0_root.data.toList.drop 0 = dktX0_root_0 := by decide +kernel
theorem dksX0_root_1 : cX0_root.data.toList.drop 24 = dktX0_root_1 := dk_seg dksX0_root_0 24 rfl rfl
theorem dksX0_root_2 : cX0_root.data.toList.drop 48 = dktX0_root_2 := dk_seg dksX0_root_1 24 rfl rfl
theorem dksX0_root_3 : cX0_root.data.toList.drop 71 = dktX0_root_3 := dk_seg dksX0_root_2 23 rfl rfl
theorem dksX0_root_4 : cX0_root.data.toList.drop 95 = dktX0_root_4 := dk_seg dksX0_root_3 24 rfl rfl
theorem dksX0_root_5 : cX0_root.data.toList.drop 117 = dktX0_root_5 := dk_seg dksX0_root_4 22 rfl rfl
theorem dksX0_root_6 : cX0_root.data.toList.drop 140 = dktX0_root_6 := dk_seg dksX0_root_5 23 rfl rfl
theorem dX0_root_0 : decode cX0_root 0 = .ok (.dload_n 1, 1) := dk_39 (dk_at dksX0_root_0 0 rfl rfl)
theorem dX0_root_1 : decode cX0_root 1 = .ok (.dconst 0, 1) := dk_14 (dk_at dksX0_root_0 1 rfl rfl)
theorem dX0_root_2 : decode cX0_root 2 = .ok (.dcmp .l, 1) := dk_151 (dk_at dksX0_root_0 2 rfl rfl)
theorem dX0_root_3 : decode cX0_root 3 = .ok (.ifCond .eq 10, 3) := dk_153 0 10 (dk_at dksX0_root_0 3 rfl rfl)
theorem dX0_root_6 : decode cX0_root 6 = .ok (.dload_n 1, 1) := dk_39 (dk_at dksX0_root_0 6 rfl rfl)
theorem dX0_root_7 : decode cX0_root 7 = .ok (.invokestatic 147, 3) := dk_184 0 147 (dk_at dksX0_root_0 7 rfl rfl)
theorem dX0_root_10 : decode cX0_root 10 = .ok (.ifCond .eq 5, 3) := dk_153 0 5 (dk_at dksX0_root_0 10 rfl rfl)
theorem dX0_root_13 : decode cX0_root 13 = .ok (.dload_n 1, 1) := dk_39 (dk_at dksX0_root_0 13 rfl rfl)
theorem dX0_root_14 : decode cX0_root 14 = .ok (.dreturn, 1) := dk_175 (dk_at dksX0_root_0 14 rfl rfl)
theorem dX0_root_15 : decode cX0_root 15 = .ok (.dload_n 1, 1) := dk_39 (dk_at dksX0_root_0 15 rfl rfl)
theorem dX0_root_16 : decode cX0_root 16 = .ok (.invokestatic 131, 3) := dk_184 0 131 (dk_at dksX0_root_0 16 rfl rfl)
theorem dX0_root_19 : decode cX0_root 19 = .ok (.bipush 52, 2) := dk_16 52 (dk_at dksX0_root_0 19 rfl rfl)
theorem dX0_root_21 : decode cX0_root 21 = .ok (.isub, 1) := dk_100 (dk_at dksX0_root_0 21 rfl rfl)
theorem dX0_root_22 : decode cX0_root 22 = .ok (.istore_n 3, 1) := dk_62 (dk_at dksX0_root_0 22 rfl rfl)
theorem dX0_root_23 : decode cX0_root 23 = .ok (.iload_n 3, 1) := dk_29 (dk_at dksX0_root_0 23 rfl rfl)
theorem dX0_root_24 : decode cX0_root 24 = .ok (.iconst 2, 1) := dk_5 (dk_at dksX0_root_1 0 rfl rfl)
theorem dX0_root_25 : decode cX0_root 25 = .ok (.irem, 1) := dk_112 (dk_at dksX0_root_1 1 rfl rfl)
theorem dX0_root_26 : decode cX0_root 26 = .ok (.ifCond .ne 10, 3) := dk_154 0 10 (dk_at dksX0_root_1 2 rfl rfl)
theorem dX0_root_29 : decode cX0_root 29 = .ok (.dload_n 1, 1) := dk_39 (dk_at dksX0_root_1 5 rfl rfl)
theorem dX0_root_30 : decode cX0_root 30 = .ok (.invokestatic 150, 3) := dk_184 0 150 (dk_at dksX0_root_1 6 rfl rfl)
theorem dX0_root_33 : decode cX0_root 33 = .ok (.goto 11, 3) := dk_167 0 11 (dk_at dksX0_root_1 9 rfl rfl)
theorem dX0_root_36 : decode cX0_root 36 = .ok (.ldc2_w 117, 3) := dk_20 0 117 (dk_at dksX0_root_1 12 rfl rfl)
theorem dX0_root_39 : decode cX0_root 39 = .ok (.dload_n 1, 1) := dk_39 (dk_at dksX0_root_1 15 rfl rfl)
theorem dX0_root_40 : decode cX0_root 40 = .ok (.invokestatic 150, 3) := dk_184 0 150 (dk_at dksX0_root_1 16 rfl rfl)
theorem dX0_root_43 : decode cX0_root 43 = .ok (.lmul, 1) := dk_105 (dk_at dksX0_root_1 19 rfl rfl)
theorem dX0_root_44 : decode cX0_root 44 = .ok (.lstore 4, 2) := dk_55 4 (dk_at dksX0_root_1 20 rfl rfl)
theorem dX0_root_46 : decode cX0_root 46 = .ok (.iload_n 3, 1) := dk_29 (dk_at dksX0_root_1 22 rfl rfl)
theorem dX0_root_47 : decode cX0_root 47 = .ok (.iconst 2, 1) := dk_5 (dk_at dksX0_root_1 23 rfl rfl)
theorem dX0_root_48 : decode cX0_root 48 = .ok (.irem, 1) := dk_112 (dk_at dksX0_root_2 0 rfl rfl)
theorem dX0_root_49 : decode cX0_root 49 = .ok (.ifCond .ne 9, 3) := dk_154 0 9 (dk_at dksX0_root_2 1 rfl rfl)
theorem dX0_root_52 : decode cX0_root 52 = .ok (.iload_n 3, 1) := dk_29 (dk_at dksX0_root_2 4 rfl rfl)
theorem dX0_root_53 : decode cX0_root 53 = .ok (.iconst 2, 1) := dk_5 (dk_at dksX0_root_2 5 rfl rfl)
theorem dX0_root_54 : decode cX0_root 54 = .ok (.idiv, 1) := dk_108 (dk_at dksX0_root_2 6 rfl rfl)
theorem dX0_root_55 : decode cX0_root 55 = .ok (.goto 8, 3) := dk_167 0 8 (dk_at dksX0_root_2 7 rfl rfl)
theorem dX0_root_58 : decode cX0_root 58 = .ok (.iload_n 3, 1) := dk_29 (dk_at dksX0_root_2 10 rfl rfl)
theorem dX0_root_59 : decode cX0_root 59 = .ok (.iconst 1, 1) := dk_4 (dk_at dksX0_root_2 11 rfl rfl)
theorem dX0_root_60 : decode cX0_root 60 = .ok (.isub, 1) := dk_100 (dk_at dksX0_root_2 12 rfl rfl)
theorem dX0_root_61 : decode cX0_root 61 = .ok (.iconst 2, 1) := dk_5 (dk_at dksX0_root_2 13 rfl rfl)
theorem dX0_root_62 : decode cX0_root 62 = .ok (.idiv, 1) := dk_108 (dk_at dksX0_root_2 14 rfl rfl)
theorem dX0_root_63 : decode cX0_root 63 = .ok (.istore 6, 2) := dk_54 6 (dk_at dksX0_root_2 15 rfl rfl)
theorem dX0_root_65 : decode cX0_root 65 = .ok (.lconst 0, 1) := dk_9 (dk_at dksX0_root_2 17 rfl rfl)
theorem dX0_root_66 : decode cX0_root 66 = .ok (.lstore 7, 2) := dk_55 7 (dk_at dksX0_root_2 18 rfl rfl)
theorem dX0_root_68 : decode cX0_root 68 = .ok (.ldc2_w 154, 3) := dk_20 0 154 (dk_at dksX0_root_2 20 rfl rfl)
theorem dX0_root_71 : decode cX0_root 71 = .ok (.lstore 9, 2) := dk_55 9 (dk_at dksX0_root_3 0 rfl rfl)
theorem dX0_root_73 : decode cX0_root 73 = .ok (.lload 9, 2) := dk_22 9 (dk_at dksX0_root_3 2 rfl rfl)
theorem dX0_root_75 : decode cX0_root 75 = .ok (.lconst 0, 1) := dk_9 (dk_at dksX0_root_3 4 rfl rfl)
theorem dX0_root_76 : decode cX0_root 76 = .ok (.lcmp, 1) := dk_148 (dk_at dksX0_root_3 5 rfl rfl)
theorem dX0_root_77 : decode cX0_root 77 = .ok (.ifCond .le 34, 3) := dk_158 0 34 (dk_at dksX0_root_3 6 rfl rfl)
theorem dX0_root_80 : decode cX0_root 80 = .ok (.lload 7, 2) := dk_22 7 (dk_at dksX0_root_3 9 rfl rfl)
theorem dX0_root_82 : decode cX0_root 82 = .ok (.lload 9, 2) := dk_22 9 (dk_at dksX0_root_3 11 rfl rfl)
theorem dX0_root_84 : decode cX0_root 84 = .ok (.ladd, 1) := dk_97 (dk_at dksX0_root_3 13 rfl rfl)
theorem dX0_root_85 : decode cX0_root 85 = .ok (.lload 4, 2) := dk_22 4 (dk_at dksX0_root_3 14 rfl rfl)
theorem dX0_root_87 : decode cX0_root 87 = .ok (.invokestatic 156, 3) := dk_184 0 156 (dk_at dksX0_root_3 16 rfl rfl)
theorem dX0_root_90 : decode cX0_root 90 = .ok (.ifCond .gt 10, 3) := dk_157 0 10 (dk_at dksX0_root_3 19 rfl rfl)
theorem dX0_root_93 : decode cX0_root 93 = .ok (.lload 7, 2) := dk_22 7 (dk_at dksX0_root_3 22 rfl rfl)
theorem dX0_root_95 : decode cX0_root 95 = .ok (.lload 9, 2) := dk_22 9 (dk_at dksX0_root_4 0 rfl rfl)
theorem dX0_root_97 : decode cX0_root 97 = .ok (.ladd, 1) := dk_97 (dk_at dksX0_root_4 2 rfl rfl)
theorem dX0_root_98 : decode cX0_root 98 = .ok (.lstore 7, 2) := dk_55 7 (dk_at dksX0_root_4 3 rfl rfl)
theorem dX0_root_100 : decode cX0_root 100 = .ok (.lload 9, 2) := dk_22 9 (dk_at dksX0_root_4 5 rfl rfl)
theorem dX0_root_102 : decode cX0_root 102 = .ok (.ldc2_w 117, 3) := dk_20 0 117 (dk_at dksX0_root_4 7 rfl rfl)
theorem dX0_root_105 : decode cX0_root 105 = .ok (.ldiv, 1) := dk_109 (dk_at dksX0_root_4 10 rfl rfl)
theorem dX0_root_106 : decode cX0_root 106 = .ok (.lstore 9, 2) := dk_55 9 (dk_at dksX0_root_4 11 rfl rfl)
theorem dX0_root_108 : decode cX0_root 108 = .ok (.goto (-35), 3) := dk_167 255 221 (dk_at dksX0_root_4 13 rfl rfl)
theorem dX0_root_111 : decode cX0_root 111 = .ok (.aload_n 0, 1) := dk_42 (dk_at dksX0_root_4 16 rfl rfl)
theorem dX0_root_112 : decode cX0_root 112 = .ok (.iconst 0, 1) := dk_3 (dk_at dksX0_root_4 17 rfl rfl)
theorem dX0_root_113 : decode cX0_root 113 = .ok (.lload 7, 2) := dk_22 7 (dk_at dksX0_root_4 18 rfl rfl)
theorem dX0_root_115 : decode cX0_root 115 = .ok (.lload 4, 2) := dk_22 4 (dk_at dksX0_root_4 20 rfl rfl)
theorem dX0_root_117 : decode cX0_root 117 = .ok (.invokestatic 156, 3) := dk_184 0 156 (dk_at dksX0_root_5 0 rfl rfl)
theorem dX0_root_120 : decode cX0_root 120 = .ok (.ifCond .ge 14, 3) := dk_156 0 14 (dk_at dksX0_root_5 3 rfl rfl)
theorem dX0_root_123 : decode cX0_root 123 = .ok (.ldc2_w 117, 3) := dk_20 0 117 (dk_at dksX0_root_5 6 rfl rfl)
theorem dX0_root_126 : decode cX0_root 126 = .ok (.lload 7, 2) := dk_22 7 (dk_at dksX0_root_5 9 rfl rfl)
theorem dX0_root_128 : decode cX0_root 128 = .ok (.lmul, 1) := dk_105 (dk_at dksX0_root_5 11 rfl rfl)
theorem dX0_root_129 : decode cX0_root 129 = .ok (.lconst 1, 1) := dk_10 (dk_at dksX0_root_5 12 rfl rfl)
theorem dX0_root_130 : decode cX0_root 130 = .ok (.ladd, 1) := dk_97 (dk_at dksX0_root_5 13 rfl rfl)
theorem dX0_root_131 : decode cX0_root 131 = .ok (.goto 9, 3) := dk_167 0 9 (dk_at dksX0_root_5 14 rfl rfl)
theorem dX0_root_134 : decode cX0_root 134 = .ok (.ldc2_w 117, 3) := dk_20 0 117 (dk_at dksX0_root_5 17 rfl rfl)
theorem dX0_root_137 : decode cX0_root 137 = .ok (.lload 7, 2) := dk_22 7 (dk_at dksX0_root_5 20 rfl rfl)
theorem dX0_root_139 : decode cX0_root 139 = .ok (.lmul, 1) := dk_105 (dk_at dksX0_root_5 22 rfl rfl)
theorem dX0_root_140 : decode cX0_root 140 = .ok (.iload 6, 2) := dk_21 6 (dk_at dksX0_root_6 0 rfl rfl)
theorem dX0_root_142 : decode cX0_root 142 = .ok (.bipush 28, 2) := dk_16 28 (dk_at dksX0_root_6 2 rfl rfl)
theorem dX0_root_144 : decode cX0_root 144 = .ok (.isub, 1) := dk_100 (dk_at dksX0_root_6 4 rfl rfl)
theorem dX0_root_145 : decode cX0_root 145 = .ok (.i2l, 1) := dk_133 (dk_at dksX0_root_6 5 rfl rfl)
theorem dX0_root_146 : decode cX0_root 146 = .ok (.invokestatic 127, 3) := dk_184 0 127 (dk_at dksX0_root_6 6 rfl rfl)
theorem dX0_root_149 : decode cX0_root 149 = .ok (.dreturn, 1) := dk_175 (dk_at dksX0_root_6 9 rfl rfl)
abbrev cX0_sizeOf : ByteArray := prog_1_method_14_code
def yX0_sizeOf : MethodName := ⟨RX0, "sizeOf", "(D)J"⟩
def dkwX0_sizeOf_0 : List UInt8 := [38, 38, 184, 0, 131, 16, 52, 100, 184, 0, 134, 184, 0, 137, 143, 173]
abbrev dktX0_sizeOf_0 : List UInt8 := dkwX0_sizeOf_0 ++ []
theorem dksX0_sizeOf_0 : cX0_sizeOf.data.toList.drop 0 = dktX0_sizeOf_0 := by decide +kernel
theorem dX0_sizeOf_0 : decode cX0_sizeOf 0 = .ok (.dload_n 0, 1) := dk_38 (dk_at dksX0_sizeOf_0 0 rfl rfl)
theorem dX0_sizeOf_1 : decode cX0_sizeOf 1 = .ok (.dload_n 0, 1) := dk_38 (dk_at dksX0_sizeOf_0 1 rfl rfl)
theorem dX0_sizeOf_2 : decode cX0_sizeOf 2 = .ok (.invokestatic 131, 3) := dk_184 0 131 (dk_at dksX0_sizeOf_0 2 rfl rfl)
theorem dX0_sizeOf_5 : decode cX0_sizeOf 5 = .ok (.bipush 52, 2) := dk_16 52 (dk_at dksX0_sizeOf_0 5 rfl rfl)
theorem dX0_sizeOf_7 : decode cX0_sizeOf 7 = .ok (.isub, 1) := dk_100 (dk_at dksX0_sizeOf_0 7 rfl rfl)
theorem dX0_sizeOf_8 : decode cX0_sizeOf 8 = .ok (.invokestatic 134, 3) := dk_184 0 134 (dk_at dksX0_sizeOf_0 8 rfl rfl)
theorem dX0_sizeOf_11 : decode cX0_sizeOf 11 = .ok (.invokestatic 137, 3) := dk_184 0 137 (dk_at dksX0_sizeOf_0 11 rfl rfl)
theorem dX0_sizeOf_14 : decode cX0_sizeOf 14 = .ok (.d2l, 1) := dk_143 (dk_at dksX0_sizeOf_0 14 rfl rfl)
theorem dX0_sizeOf_15 : decode cX0_sizeOf 15 = .ok (.lreturn, 1) := dk_173 (dk_at dksX0_sizeOf_0 15 rfl rfl)
abbrev cX0_squareTo : ByteArray := prog_1_method_15_code
def yX0_squareTo : MethodName := ⟨RX0, "squareTo", "(JJ)I"⟩
def dkwX0_squareTo_1 : List UInt8 := [30, 30, 105, 32, 16, 54, 121, 184, 0, 93, 172]
abbrev dktX0_squareTo_1 : List UInt8 := dkwX0_squareTo_1 ++ []
def dkwX0_squareTo_0 : List UInt8 := [30, 30, 184, 0, 141, 32, 16, 10, 125, 184, 0, 144, 54, 4, 21, 4, 153, 0, 8, 21, 4, 167, 0, 13]
abbrev dktX0_squareTo_0 : List UInt8 := dkwX0_squareTo_0 ++ dktX0_squareTo_1
theorem dksX0_squareTo_0 : cX0_squareTo.data.toList.drop 0 = dktX0_squareTo_0 := by decide +kernel
theorem dksX0_squareTo_1 : cX0_squareTo.data.toList.drop 24 = dktX0_squareTo_1 := dk_seg dksX0_squareTo_0 24 rfl rfl
theorem dX0_squareTo_0 : decode cX0_squareTo 0 = .ok (.lload_n 0, 1) := dk_30 (dk_at dksX0_squareTo_0 0 rfl rfl)
theorem dX0_squareTo_1 : decode cX0_squareTo 1 = .ok (.lload_n 0, 1) := dk_30 (dk_at dksX0_squareTo_0 1 rfl rfl)
theorem dX0_squareTo_2 : decode cX0_squareTo 2 = .ok (.invokestatic 141, 3) := dk_184 0 141 (dk_at dksX0_squareTo_0 2 rfl rfl)
theorem dX0_squareTo_5 : decode cX0_squareTo 5 = .ok (.lload_n 2, 1) := dk_32 (dk_at dksX0_squareTo_0 5 rfl rfl)
theorem dX0_squareTo_6 : decode cX0_squareTo 6 = .ok (.bipush 10, 2) := dk_16 10 (dk_at dksX0_squareTo_0 6 rfl rfl)
theorem dX0_squareTo_8 : decode cX0_squareTo 8 = .ok (.lushr, 1) := dk_125 (dk_at dksX0_squareTo_0 8 rfl rfl)
theorem dX0_squareTo_9 : decode cX0_squareTo 9 = .ok (.invokestatic 144, 3) := dk_184 0 144 (dk_at dksX0_squareTo_0 9 rfl rfl)
theorem dX0_squareTo_12 : decode cX0_squareTo 12 = .ok (.istore 4, 2) := dk_54 4 (dk_at dksX0_squareTo_0 12 rfl rfl)
theorem dX0_squareTo_14 : decode cX0_squareTo 14 = .ok (.iload 4, 2) := dk_21 4 (dk_at dksX0_squareTo_0 14 rfl rfl)
theorem dX0_squareTo_16 : decode cX0_squareTo 16 = .ok (.ifCond .eq 8, 3) := dk_153 0 8 (dk_at dksX0_squareTo_0 16 rfl rfl)
theorem dX0_squareTo_19 : decode cX0_squareTo 19 = .ok (.iload 4, 2) := dk_21 4 (dk_at dksX0_squareTo_0 19 rfl rfl)
theorem dX0_squareTo_21 : decode cX0_squareTo 21 = .ok (.goto 13, 3) := dk_167 0 13 (dk_at dksX0_squareTo_0 21 rfl rfl)
theorem dX0_squareTo_24 : decode cX0_squareTo 24 = .ok (.lload_n 0, 1) := dk_30 (dk_at dksX0_squareTo_1 0 rfl rfl)
theorem dX0_squareTo_25 : decode cX0_squareTo 25 = .ok (.lload_n 0, 1) := dk_30 (dk_at dksX0_squareTo_1 1 rfl rfl)
theorem dX0_squareTo_26 : decode cX0_squareTo 26 = .ok (.lmul, 1) := dk_105 (dk_at dksX0_squareTo_1 2 rfl rfl)
theorem dX0_squareTo_27 : decode cX0_squareTo 27 = .ok (.lload_n 2, 1) := dk_32 (dk_at dksX0_squareTo_1 3 rfl rfl)
theorem dX0_squareTo_28 : decode cX0_squareTo 28 = .ok (.bipush 54, 2) := dk_16 54 (dk_at dksX0_squareTo_1 4 rfl rfl)
theorem dX0_squareTo_30 : decode cX0_squareTo 30 = .ok (.lshl, 1) := dk_121 (dk_at dksX0_squareTo_1 6 rfl rfl)
theorem dX0_squareTo_31 : decode cX0_squareTo 31 = .ok (.invokestatic 93, 3) := dk_184 0 93 (dk_at dksX0_squareTo_1 7 rfl rfl)
theorem dX0_squareTo_34 : decode cX0_squareTo 34 = .ok (.ireturn, 1) := dk_172 (dk_at dksX0_squareTo_1 10 rfl rfl)
abbrev cX0_isNumber : ByteArray := prog_1_method_3_code
def yX0_isNumber : MethodName := ⟨RX0, "isNumber", "(DD)Z"⟩
def dkwX0_isNumber_0 : List UInt8 := [38, 38, 151, 154, 0, 13, 40, 40, 151, 154, 0, 7, 4, 167, 0, 4, 3, 172]
abbrev dktX0_isNumber_0 : List UInt8 := dkwX0_isNumber_0 ++ []
theorem dksX0_isNumber_0 : cX0_isNumber.data.toList.drop 0 = dktX0_isNumber_0 := by decide +kernel
theorem dX0_isNumber_0 : decode cX0_isNumber 0 = .ok (.dload_n 0, 1) := dk_38 (dk_at dksX0_isNumber_0 0 rfl rfl)
theorem dX0_isNumber_1 : decode cX0_isNumber 1 = .ok (.dload_n 0, 1) := dk_38 (dk_at dksX0_isNumber_0 1 rfl rfl)
theorem dX0_isNumber_2 : decode cX0_isNumber 2 = .ok (.dcmp .l, 1) := dk_151 (dk_at dksX0_isNumber_0 2 rfl rfl)
theorem dX0_isNumber_3 : decode cX0_isNumber 3 = .ok (.ifCond .ne 13, 3) := dk_154 0 13 (dk_at dksX0_isNumber_0 3 rfl rfl)
theorem dX0_isNumber_6 : decode cX0_isNumber 6 = .ok (.dload_n 2, 1) := dk_40 (dk_at dksX0_isNumber_0 6 rfl rfl)
theorem dX0_isNumber_7 : decode cX0_isNumber 7 = .ok (.dload_n 2, 1) := dk_40 (dk_at dksX0_isNumber_0 7 rfl rfl)
theorem dX0_isNumber_8 : decode cX0_isNumber 8 = .ok (.dcmp .l, 1) := dk_151 (dk_at dksX0_isNumber_0 8 rfl rfl)
theorem dX0_isNumber_9 : decode cX0_isNumber 9 = .ok (.ifCond .ne 7, 3) := dk_154 0 7 (dk_at dksX0_isNumber_0 9 rfl rfl)
theorem dX0_isNumber_12 : decode cX0_isNumber 12 = .ok (.iconst 1, 1) := dk_4 (dk_at dksX0_isNumber_0 12 rfl rfl)
theorem dX0_isNumber_13 : decode cX0_isNumber 13 = .ok (.goto 4, 3) := dk_167 0 4 (dk_at dksX0_isNumber_0 13 rfl rfl)
theorem dX0_isNumber_16 : decode cX0_isNumber 16 = .ok (.iconst 0, 1) := dk_3 (dk_at dksX0_isNumber_0 16 rfl rfl)
theorem dX0_isNumber_17 : decode cX0_isNumber 17 = .ok (.ireturn, 1) := dk_172 (dk_at dksX0_isNumber_0 17 rfl rfl)
abbrev cX0_two : ByteArray := prog_1_method_26_code
def yX0_two : MethodName := ⟨RX0, "two", "(IIJJ)J"⟩
def dkwX0_two_3 : List UInt8 := [173]
abbrev dktX0_two_3 : List UInt8 := dkwX0_two_3 ++ []
def dkwX0_two_2 : List UInt8 := [185, 0, 51, 3, 0, 25, 7, 22, 5, 185, 0, 51, 3, 0, 185, 0, 202, 6, 0, 185, 0, 183, 3, 0]
abbrev dktX0_two_2 : List UInt8 := dkwX0_two_2 ++ dktX0_two_3
def dkwX0_two_1 : List UInt8 := [3, 182, 0, 43, 153, 0, 5, 9, 173, 42, 28, 182, 0, 47, 58, 7, 25, 7, 25, 7, 27, 25, 7, 33]
abbrev dktX0_two_1 : List UInt8 := dkwX0_two_1 ++ dktX0_two_2
def dkwX0_two_0 : List UInt8 := [42, 27, 133, 9, 20, 0, 200, 184, 0, 172, 153, 0, 14, 28, 184, 0, 39, 153, 0, 7, 4, 167, 0, 4]
abbrev dktX0_two_0 : List UInt8 := dkwX0_two_0 ++ dktX0_two_1
theorem dksX0_two_0 : cX0_two.data.toList.drop 0 = dktX0_two_0 := by decide +kernel
theorem dksX0_two_1 : cX0_two.data.toList.drop 24 = dktX0_two_1 := dk_seg dksX0_two_0 24 rfl rfl
theorem dksX0_two_2 : cX0_two.data.toList.drop 48 = dktX0_two_2 := dk_seg dksX0_two_1 24 rfl rfl
theorem dksX0_two_3 : cX0_two.data.toList.drop 72 = dktX0_two_3 := dk_seg dksX0_two_2 24 rfl rfl
theorem dX0_two_0 : decode cX0_two 0 = .ok (.aload_n 0, 1) := dk_42 (dk_at dksX0_two_0 0 rfl rfl)
theorem dX0_two_1 : decode cX0_two 1 = .ok (.iload_n 1, 1) := dk_27 (dk_at dksX0_two_0 1 rfl rfl)
theorem dX0_two_2 : decode cX0_two 2 = .ok (.i2l, 1) := dk_133 (dk_at dksX0_two_0 2 rfl rfl)
theorem dX0_two_3 : decode cX0_two 3 = .ok (.lconst 0, 1) := dk_9 (dk_at dksX0_two_0 3 rfl rfl)
theorem dX0_two_4 : decode cX0_two 4 = .ok (.ldc2_w 200, 3) := dk_20 0 200 (dk_at dksX0_two_0 4 rfl rfl)
theorem dX0_two_7 : decode cX0_two 7 = .ok (.invokestatic 172, 3) := dk_184 0 172 (dk_at dksX0_two_0 7 rfl rfl)
theorem dX0_two_10 : decode cX0_two 10 = .ok (.ifCond .eq 14, 3) := dk_153 0 14 (dk_at dksX0_two_0 10 rfl rfl)
theorem dX0_two_13 : decode cX0_two 13 = .ok (.iload_n 2, 1) := dk_28 (dk_at dksX0_two_0 13 rfl rfl)
theorem dX0_two_14 : decode cX0_two 14 = .ok (.invokestatic 39, 3) := dk_184 0 39 (dk_at dksX0_two_0 14 rfl rfl)
theorem dX0_two_17 : decode cX0_two 17 = .ok (.ifCond .eq 7, 3) := dk_153 0 7 (dk_at dksX0_two_0 17 rfl rfl)
theorem dX0_two_20 : decode cX0_two 20 = .ok (.iconst 1, 1) := dk_4 (dk_at dksX0_two_0 20 rfl rfl)
theorem dX0_two_21 : decode cX0_two 21 = .ok (.goto 4, 3) := dk_167 0 4 (dk_at dksX0_two_0 21 rfl rfl)
theorem dX0_two_24 : decode cX0_two 24 = .ok (.iconst 0, 1) := dk_3 (dk_at dksX0_two_1 0 rfl rfl)
theorem dX0_two_25 : decode cX0_two 25 = .ok (.invokevirtual 43, 3) := dk_182 0 43 (dk_at dksX0_two_1 1 rfl rfl)
theorem dX0_two_28 : decode cX0_two 28 = .ok (.ifCond .eq 5, 3) := dk_153 0 5 (dk_at dksX0_two_1 4 rfl rfl)
theorem dX0_two_31 : decode cX0_two 31 = .ok (.lconst 0, 1) := dk_9 (dk_at dksX0_two_1 7 rfl rfl)
theorem dX0_two_32 : decode cX0_two 32 = .ok (.lreturn, 1) := dk_173 (dk_at dksX0_two_1 8 rfl rfl)
theorem dX0_two_33 : decode cX0_two 33 = .ok (.aload_n 0, 1) := dk_42 (dk_at dksX0_two_1 9 rfl rfl)
theorem dX0_two_34 : decode cX0_two 34 = .ok (.iload_n 2, 1) := dk_28 (dk_at dksX0_two_1 10 rfl rfl)
theorem dX0_two_35 : decode cX0_two 35 = .ok (.invokevirtual 47, 3) := dk_182 0 47 (dk_at dksX0_two_1 11 rfl rfl)
theorem dX0_two_38 : decode cX0_two 38 = .ok (.astore 7, 2) := dk_58 7 (dk_at dksX0_two_1 14 rfl rfl)
theorem dX0_two_40 : decode cX0_two 40 = .ok (.aload 7, 2) := dk_25 7 (dk_at dksX0_two_1 16 rfl rfl)
theorem dX0_two_42 : decode cX0_two 42 = .ok (.aload 7, 2) := dk_25 7 (dk_at dksX0_two_1 18 rfl rfl)
theorem dX0_two_44 : decode cX0_two 44 = .ok (.iload_n 1, 1) := dk_27 (dk_at dksX0_two_1 20 rfl rfl)
theorem dX0_two_45 : decode cX0_two 45 = .ok (.aload 7, 2) := dk_25 7 (dk_at dksX0_two_1 21 rfl rfl)
theorem dX0_two_47 : decode cX0_two 47 = .ok (.lload_n 3, 1) := dk_33 (dk_at dksX0_two_1 23 rfl rfl)
theorem dX0_two_48 : decode cX0_two 48 = .ok (.invokeinterface 51 3, 5) := by decide +kernel
theorem dX0_two_53 : decode cX0_two 53 = .ok (.aload 7, 2) := dk_25 7 (dk_at dksX0_two_2 5 rfl rfl)
theorem dX0_two_55 : decode cX0_two 55 = .ok (.lload 5, 2) := dk_22 5 (dk_at dksX0_two_2 7 rfl rfl)
theorem dX0_two_57 : decode cX0_two 57 = .ok (.invokeinterface 51 3, 5) := by decide +kernel
theorem dX0_two_62 : decode cX0_two 62 = .ok (.invokeinterface 202 6, 5) := by decide +kernel
theorem dX0_two_67 : decode cX0_two 67 = .ok (.invokeinterface 183 3, 5) := by decide +kernel
theorem dX0_two_72 : decode cX0_two 72 = .ok (.lreturn, 1) := dk_173 (dk_at dksX0_two_3 0 rfl rfl)
abbrev cX0_fused : ByteArray := prog_1_method_27_code
def yX0_fused : MethodName := ⟨RX0, "fused", "(IJJJ)J"⟩
def dkwX0_fused_2 : List UInt8 := [185, 0, 51, 3, 0, 185, 0, 206, 7, 0, 185, 0, 183, 3, 0, 173]
abbrev dktX0_fused_2 : List UInt8 := dkwX0_fused_2 ++ []
def dkwX0_fused_1 : List UInt8 := [25, 8, 32, 185, 0, 51, 3, 0, 25, 8, 22, 4, 185, 0, 51, 3, 0, 25, 8, 22, 6]
abbrev dktX0_fused_1 : List UInt8 := dkwX0_fused_1 ++ dktX0_fused_2
def dkwX0_fused_0 : List UInt8 := [42, 27, 184, 0, 39, 182, 0, 43, 153, 0, 5, 9, 173, 42, 27, 182, 0, 47, 58, 8, 25, 8, 25, 8]
abbrev dktX0_fused_0 : List UInt8 := dkwX0_fused_0 ++ dktX0_fused_1
theorem dksX0_fused_0 : cX0_fused.data.toList.drop 0 = dktX0_fused_0 := by decide +kernel
theorem dksX0_fused_1 : cX0_fused.data.toList.drop 24 = dktX0_fused_1 := dk_seg dksX0_fused_0 24 rfl rfl
theorem dksX0_fused_2 : cX0_fused.data.toList.drop 45 = dktX0_fused_2 := dk_seg dksX0_fused_1 21 rfl rfl
theorem dX0_fused_0 : decode cX0_fused 0 = .ok (.aload_n 0, 1) := dk_42 (dk_at dksX0_fused_0 0 rfl rfl)
theorem dX0_fused_1 : decode cX0_fused 1 = .ok (.iload_n 1, 1) := dk_27 (dk_at dksX0_fused_0 1 rfl rfl)
theorem dX0_fused_2 : decode cX0_fused 2 = .ok (.invokestatic 39, 3) := dk_184 0 39 (dk_at dksX0_fused_0 2 rfl rfl)
theorem dX0_fused_5 : decode cX0_fused 5 = .ok (.invokevirtual 43, 3) := dk_182 0 43 (dk_at dksX0_fused_0 5 rfl rfl)
theorem dX0_fused_8 : decode cX0_fused 8 = .ok (.ifCond .eq 5, 3) := dk_153 0 5 (dk_at dksX0_fused_0 8 rfl rfl)
theorem dX0_fused_11 : decode cX0_fused 11 = .ok (.lconst 0, 1) := dk_9 (dk_at dksX0_fused_0 11 rfl rfl)
theorem dX0_fused_12 : decode cX0_fused 12 = .ok (.lreturn, 1) := dk_173 (dk_at dksX0_fused_0 12 rfl rfl)
theorem dX0_fused_13 : decode cX0_fused 13 = .ok (.aload_n 0, 1) := dk_42 (dk_at dksX0_fused_0 13 rfl rfl)
theorem dX0_fused_14 : decode cX0_fused 14 = .ok (.iload_n 1, 1) := dk_27 (dk_at dksX0_fused_0 14 rfl rfl)
theorem dX0_fused_15 : decode cX0_fused 15 = .ok (.invokevirtual 47, 3) := dk_182 0 47 (dk_at dksX0_fused_0 15 rfl rfl)
theorem dX0_fused_18 : decode cX0_fused 18 = .ok (.astore 8, 2) := dk_58 8 (dk_at dksX0_fused_0 18 rfl rfl)
theorem dX0_fused_20 : decode cX0_fused 20 = .ok (.aload 8, 2) := dk_25 8 (dk_at dksX0_fused_0 20 rfl rfl)
theorem dX0_fused_22 : decode cX0_fused 22 = .ok (.aload 8, 2) := dk_25 8 (dk_at dksX0_fused_0 22 rfl rfl)
theorem dX0_fused_24 : decode cX0_fused 24 = .ok (.aload 8, 2) := dk_25 8 (dk_at dksX0_fused_1 0 rfl rfl)
theorem dX0_fused_26 : decode cX0_fused 26 = .ok (.lload_n 2, 1) := dk_32 (dk_at dksX0_fused_1 2 rfl rfl)
theorem dX0_fused_27 : decode cX0_fused 27 = .ok (.invokeinterface 51 3, 5) := by decide +kernel
theorem dX0_fused_32 : decode cX0_fused 32 = .ok (.aload 8, 2) := dk_25 8 (dk_at dksX0_fused_1 8 rfl rfl)
theorem dX0_fused_34 : decode cX0_fused 34 = .ok (.lload 4, 2) := dk_22 4 (dk_at dksX0_fused_1 10 rfl rfl)
theorem dX0_fused_36 : decode cX0_fused 36 = .ok (.invokeinterface 51 3, 5) := by decide +kernel
theorem dX0_fused_41 : decode cX0_fused 41 = .ok (.aload 8, 2) := dk_25 8 (dk_at dksX0_fused_1 17 rfl rfl)
theorem dX0_fused_43 : decode cX0_fused 43 = .ok (.lload 6, 2) := dk_22 6 (dk_at dksX0_fused_1 19 rfl rfl)
theorem dX0_fused_45 : decode cX0_fused 45 = .ok (.invokeinterface 51 3, 5) := by decide +kernel
theorem dX0_fused_50 : decode cX0_fused 50 = .ok (.invokeinterface 206 7, 5) := by decide +kernel
theorem dX0_fused_55 : decode cX0_fused 55 = .ok (.invokeinterface 183 3, 5) := by decide +kernel
theorem dX0_fused_60 : decode cX0_fused 60 = .ok (.lreturn, 1) := dk_173 (dk_at dksX0_fused_2 15 rfl rfl)
abbrev cX0_together : ByteArray := prog_1_method_18_code
def yX0_together : MethodName := ⟨RX0, "together", "(LFloatClasses$Reals;DDD)D"⟩
def dkwX0_together_3 : List UInt8 := [24, 5, 184, 0, 162, 175]
abbrev dktX0_together_3 : List UInt8 := dkwX0_together_3 ++ []
def dkwX0_together_2 : List UInt8 := [175, 24, 5, 14, 151, 154, 0, 15, 42, 39, 41, 107, 185, 0, 159, 3, 0, 167, 0, 11, 42, 39, 41]
abbrev dktX0_together_2 : List UInt8 := dkwX0_together_2 ++ dktX0_together_3
def dkwX0_together_1 : List UInt8 := [153, 0, 6, 24, 5, 175, 39, 14, 151, 153, 0, 9, 41, 14, 151, 154, 0, 10, 39, 41, 107, 24, 5, 99]
abbrev dktX0_together_1 : List UInt8 := dkwX0_together_1 ++ dktX0_together_2
def dkwX0_together_0 : List UInt8 := [39, 184, 0, 147, 154, 0, 10, 41, 184, 0, 147, 153, 0, 7, 39, 41, 107, 175, 24, 5, 184, 0, 147]
abbrev dktX0_together_0 : List UInt8 := dkwX0_together_0 ++ dktX0_together_1
theorem dksX0_together_0 : cX0_together.data.toList.drop 0 = dktX0_together_0 := by decide +kernel
theorem dksX0_together_1 : cX0_together.data.toList.drop 23 = dktX0_together_1 := dk_seg dksX0_together_0 23 rfl rfl
theorem dksX0_together_2 : cX0_together.data.toList.drop 47 = dktX0_together_2 := dk_seg dksX0_together_1 24 rfl rfl
theorem dksX0_together_3 : cX0_together.data.toList.drop 70 = dktX0_together_3 := dk_seg dksX0_together_2 23 rfl rfl
theorem dX0_together_0 : decode cX0_together 0 = .ok (.dload_n 1, 1) := dk_39 (dk_at dksX0_together_0 0 rfl rfl)
theorem dX0_together_1 : decode cX0_together 1 = .ok (.invokestatic 147, 3) := dk_184 0 147 (dk_at dksX0_together_0 1 rfl rfl)
theorem dX0_together_4 : decode cX0_together 4 = .ok (.ifCond .ne 10, 3) := dk_154 0 10 (dk_at dksX0_together_0 4 rfl rfl)
theorem dX0_together_7 : decode cX0_together 7 = .ok (.dload_n 3, 1) := dk_41 (dk_at dksX0_together_0 7 rfl rfl)
theorem dX0_together_8 : decode cX0_together 8 = .ok (.invokestatic 147, 3) := dk_184 0 147 (dk_at dksX0_together_0 8 rfl rfl)
theorem dX0_together_11 : decode cX0_together 11 = .ok (.ifCond .eq 7, 3) := dk_153 0 7 (dk_at dksX0_together_0 11 rfl rfl)
theorem dX0_together_14 : decode cX0_together 14 = .ok (.dload_n 1, 1) := dk_39 (dk_at dksX0_together_0 14 rfl rfl)
theorem dX0_together_15 : decode cX0_together 15 = .ok (.dload_n 3, 1) := dk_41 (dk_at dksX0_together_0 15 rfl rfl)
theorem dX0_together_16 : decode cX0_together 16 = .ok (.dmul, 1) := dk_107 (dk_at dksX0_together_0 16 rfl rfl)
theorem dX0_together_17 : decode cX0_together 17 = .ok (.dreturn, 1) := dk_175 (dk_at dksX0_together_0 17 rfl rfl)
theorem dX0_together_18 : decode cX0_together 18 = .ok (.dload 5, 2) := dk_24 5 (dk_at dksX0_together_0 18 rfl rfl)
theorem dX0_together_20 : decode cX0_together 20 = .ok (.invokestatic 147, 3) := dk_184 0 147 (dk_at dksX0_together_0 20 rfl rfl)
theorem dX0_together_23 : decode cX0_together 23 = .ok (.ifCond .eq 6, 3) := dk_153 0 6 (dk_at dksX0_together_1 0 rfl rfl)
theorem dX0_together_26 : decode cX0_together 26 = .ok (.dload 5, 2) := dk_24 5 (dk_at dksX0_together_1 3 rfl rfl)
theorem dX0_together_28 : decode cX0_together 28 = .ok (.dreturn, 1) := dk_175 (dk_at dksX0_together_1 5 rfl rfl)
theorem dX0_together_29 : decode cX0_together 29 = .ok (.dload_n 1, 1) := dk_39 (dk_at dksX0_together_1 6 rfl rfl)
theorem dX0_together_30 : decode cX0_together 30 = .ok (.dconst 0, 1) := dk_14 (dk_at dksX0_together_1 7 rfl rfl)
theorem dX0_together_31 : decode cX0_together 31 = .ok (.dcmp .l, 1) := dk_151 (dk_at dksX0_together_1 8 rfl rfl)
theorem dX0_together_32 : decode cX0_together 32 = .ok (.ifCond .eq 9, 3) := dk_153 0 9 (dk_at dksX0_together_1 9 rfl rfl)
theorem dX0_together_35 : decode cX0_together 35 = .ok (.dload_n 3, 1) := dk_41 (dk_at dksX0_together_1 12 rfl rfl)
theorem dX0_together_36 : decode cX0_together 36 = .ok (.dconst 0, 1) := dk_14 (dk_at dksX0_together_1 13 rfl rfl)
theorem dX0_together_37 : decode cX0_together 37 = .ok (.dcmp .l, 1) := dk_151 (dk_at dksX0_together_1 14 rfl rfl)
theorem dX0_together_38 : decode cX0_together 38 = .ok (.ifCond .ne 10, 3) := dk_154 0 10 (dk_at dksX0_together_1 15 rfl rfl)
theorem dX0_together_41 : decode cX0_together 41 = .ok (.dload_n 1, 1) := dk_39 (dk_at dksX0_together_1 18 rfl rfl)
theorem dX0_together_42 : decode cX0_together 42 = .ok (.dload_n 3, 1) := dk_41 (dk_at dksX0_together_1 19 rfl rfl)
theorem dX0_together_43 : decode cX0_together 43 = .ok (.dmul, 1) := dk_107 (dk_at dksX0_together_1 20 rfl rfl)
theorem dX0_together_44 : decode cX0_together 44 = .ok (.dload 5, 2) := dk_24 5 (dk_at dksX0_together_1 21 rfl rfl)
theorem dX0_together_46 : decode cX0_together 46 = .ok (.dadd, 1) := dk_99 (dk_at dksX0_together_1 23 rfl rfl)
theorem dX0_together_47 : decode cX0_together 47 = .ok (.dreturn, 1) := dk_175 (dk_at dksX0_together_2 0 rfl rfl)
theorem dX0_together_48 : decode cX0_together 48 = .ok (.dload 5, 2) := dk_24 5 (dk_at dksX0_together_2 1 rfl rfl)
theorem dX0_together_50 : decode cX0_together 50 = .ok (.dconst 0, 1) := dk_14 (dk_at dksX0_together_2 3 rfl rfl)
theorem dX0_together_51 : decode cX0_together 51 = .ok (.dcmp .l, 1) := dk_151 (dk_at dksX0_together_2 4 rfl rfl)
theorem dX0_together_52 : decode cX0_together 52 = .ok (.ifCond .ne 15, 3) := dk_154 0 15 (dk_at dksX0_together_2 5 rfl rfl)
theorem dX0_together_55 : decode cX0_together 55 = .ok (.aload_n 0, 1) := dk_42 (dk_at dksX0_together_2 8 rfl rfl)
theorem dX0_together_56 : decode cX0_together 56 = .ok (.dload_n 1, 1) := dk_39 (dk_at dksX0_together_2 9 rfl rfl)
theorem dX0_together_57 : decode cX0_together 57 = .ok (.dload_n 3, 1) := dk_41 (dk_at dksX0_together_2 10 rfl rfl)
theorem dX0_together_58 : decode cX0_together 58 = .ok (.dmul, 1) := dk_107 (dk_at dksX0_together_2 11 rfl rfl)
theorem dX0_together_59 : decode cX0_together 59 = .ok (.invokeinterface 159 3, 5) := by decide +kernel
theorem dX0_together_64 : decode cX0_together 64 = .ok (.goto 11, 3) := dk_167 0 11 (dk_at dksX0_together_2 17 rfl rfl)
theorem dX0_together_67 : decode cX0_together 67 = .ok (.aload_n 0, 1) := dk_42 (dk_at dksX0_together_2 20 rfl rfl)
theorem dX0_together_68 : decode cX0_together 68 = .ok (.dload_n 1, 1) := dk_39 (dk_at dksX0_together_2 21 rfl rfl)
theorem dX0_together_69 : decode cX0_together 69 = .ok (.dload_n 3, 1) := dk_41 (dk_at dksX0_together_2 22 rfl rfl)
theorem dX0_together_70 : decode cX0_together 70 = .ok (.dload 5, 2) := dk_24 5 (dk_at dksX0_together_3 0 rfl rfl)
theorem dX0_together_72 : decode cX0_together 72 = .ok (.invokestatic 162, 3) := dk_184 0 162 (dk_at dksX0_together_3 2 rfl rfl)
theorem dX0_together_75 : decode cX0_together 75 = .ok (.dreturn, 1) := dk_175 (dk_at dksX0_together_3 5 rfl rfl)
abbrev cX0_sum : ByteArray := prog_1_method_19_code
def yX0_sum : MethodName := ⟨RX0, "sum", "(LFloatClasses$Reals;DDD)D"⟩
def dkwX0_sum_18 : List UInt8 := [21, 23, 184, 0, 166, 21, 12, 21, 23, 96, 133, 184, 0, 127, 175]
abbrev dktX0_sum_18 : List UInt8 := dkwX0_sum_18 ++ []
def dkwX0_sum_17 : List UInt8 := [148, 154, 0, 5, 14, 175, 16, 64, 22, 10, 184, 0, 63, 100, 54, 23, 42, 21, 7, 22, 10, 22, 8]
abbrev dktX0_sum_17 : List UInt8 := dkwX0_sum_17 ++ dktX0_sum_18
def dkwX0_sum_16 : List UInt8 := [22, 10, 117, 167, 0, 9, 22, 10, 20, 0, 170, 131, 55, 10, 22, 10, 9, 148, 154, 0, 12, 22, 8, 9]
abbrev dktX0_sum_16 : List UInt8 := dkwX0_sum_16 ++ dktX0_sum_17
def dkwX0_sum_15 : List UInt8 := [21, 7, 154, 0, 7, 4, 167, 0, 4, 3, 54, 7, 22, 8, 117, 55, 8, 22, 8, 9, 148, 154, 0, 9]
abbrev dktX0_sum_15 : List UInt8 := dkwX0_sum_15 ++ dktX0_sum_16
def dkwX0_sum_14 : List UInt8 := [22, 21, 97, 167, 0, 11, 22, 10, 22, 16, 101, 22, 21, 101, 55, 10, 22, 10, 9, 148, 156, 0, 41]
abbrev dktX0_sum_14 : List UInt8 := dkwX0_sum_14 ++ dktX0_sum_15
def dkwX0_sum_13 : List UInt8 := [22, 18, 97, 167, 0, 8, 22, 8, 22, 18, 101, 55, 8, 21, 20, 153, 0, 14, 22, 10, 22, 16, 97]
abbrev dktX0_sum_13 : List UInt8 := dkwX0_sum_13 ++ dktX0_sum_14
def dkwX0_sum_12 : List UInt8 := [22, 8, 22, 18, 184, 0, 93, 156, 0, 7, 10, 167, 0, 4, 9, 55, 21, 21, 20, 153, 0, 11, 22, 8]
abbrev dktX0_sum_12 : List UInt8 := dkwX0_sum_12 ++ dktX0_sum_13
def dkwX0_sum_11 : List UInt8 := [160, 0, 7, 4, 167, 0, 4, 3, 54, 20, 21, 20, 153, 0, 12, 22, 8, 20, 0, 170, 131, 167, 0, 5]
abbrev dktX0_sum_11 : List UInt8 := dkwX0_sum_11 ++ dktX0_sum_12
def dkwX0_sum_10 : List UInt8 := [21, 13, 116, 184, 0, 166, 55, 18, 21, 7, 24, 5, 14, 152, 156, 0, 7, 4, 167, 0, 4, 3]
abbrev dktX0_sum_10 : List UInt8 := dkwX0_sum_10 ++ dktX0_sum_11
def dkwX0_sum_9 : List UInt8 := [161, 0, 7, 9, 167, 0, 25, 21, 13, 155, 0, 11, 22, 14, 21, 13, 121, 167, 0, 12, 9, 22, 14]
abbrev dktX0_sum_9 : List UInt8 := dkwX0_sum_9 ++ dktX0_sum_10
def dkwX0_sum_8 : List UInt8 := [16, 64, 21, 13, 100, 125, 167, 0, 11, 22, 14, 21, 13, 16, 64, 100, 121, 55, 16, 21, 13, 16, 64]
abbrev dktX0_sum_8 : List UInt8 := dkwX0_sum_8 ++ dktX0_sum_9
def dkwX0_sum_7 : List UInt8 := [184, 0, 150, 55, 14, 21, 13, 157, 0, 7, 9, 167, 0, 29, 21, 13, 16, 64, 162, 0, 14, 22, 14]
abbrev dktX0_sum_7 : List UInt8 := dkwX0_sum_7 ++ dktX0_sum_8
def dkwX0_sum_6 : List UInt8 := [167, 0, 4, 9, 55, 10, 21, 12, 21, 13, 16, 73, 100, 96, 54, 12, 16, 73, 54, 13, 24, 5]
abbrev dktX0_sum_6 : List UInt8 := dkwX0_sum_6 ++ dktX0_sum_7
def dkwX0_sum_5 : List UInt8 := [184, 0, 166, 55, 8, 21, 13, 16, 73, 100, 16, 64, 162, 0, 14, 22, 10, 21, 13, 16, 73, 100, 125]
abbrev dktX0_sum_5 : List UInt8 := dkwX0_sum_5 ++ dktX0_sum_6
def dkwX0_sum_4 : List UInt8 := [16, 52, 100, 21, 12, 100, 54, 13, 21, 13, 16, 73, 164, 0, 55, 22, 10, 22, 8, 21, 13, 16, 73, 100]
abbrev dktX0_sum_4 : List UInt8 := dkwX0_sum_4 ++ dktX0_sum_5
def dkwX0_sum_3 : List UInt8 := [16, 20, 121, 55, 8, 39, 184, 0, 131, 41, 184, 0, 131, 96, 16, 124, 100, 54, 12, 24, 5, 184, 0, 131]
abbrev dktX0_sum_3 : List UInt8 := dkwX0_sum_3 ++ dktX0_sum_4
def dkwX0_sum_2 : List UInt8 := [184, 0, 150, 41, 184, 0, 150, 184, 0, 141, 16, 20, 121, 22, 8, 16, 44, 125, 129, 55, 10, 22, 8]
abbrev dktX0_sum_2 : List UInt8 := dkwX0_sum_2 ++ dktX0_sum_3
def dkwX0_sum_1 : List UInt8 := [159, 0, 7, 4, 167, 0, 4, 3, 54, 7, 39, 184, 0, 150, 41, 184, 0, 150, 105, 55, 8, 39]
abbrev dktX0_sum_1 : List UInt8 := dkwX0_sum_1 ++ dktX0_sum_2
def dkwX0_sum_0 : List UInt8 := [39, 14, 152, 156, 0, 7, 4, 167, 0, 4, 3, 41, 14, 152, 156, 0, 7, 4, 167, 0, 4, 3]
abbrev dktX0_sum_0 : List UInt8 := dkwX0_sum_0 ++ dktX0_sum_1
theorem dksX0_sum_0 : cX0_sum.data.toList.drop 0 = dktX0_sum_0 := by decide +kernel
theorem dksX0_sum_1 : cX0_sum.data.toList.drop 22 = dktX0_sum_1 := dk_seg dksX0_sum_0 22 rfl rfl
theorem dksX0_sum_2 : cX0_sum.data.toList.drop 44 = dktX0_sum_2 := dk_seg dksX0_sum_1 22 rfl rfl
theorem dksX0_sum_3 : cX0_sum.data.toList.drop 67 = dktX0_sum_3 := dk_seg dksX0_sum_2 23 rfl rfl
theorem dksX0_sum_4 : cX0_sum.data.toList.drop 91 = dktX0_sum_4 := dk_seg dksX0_sum_3 24 rfl rfl
theorem dksX0_sum_5 : cX0_sum.data.toList.drop 115 = dktX0_sum_5 := dk_seg dksX0_sum_4 24 rfl rfl
theorem dksX0_sum_6 : cX0_sum.data.toList.drop 138 = dktX0_sum_6 := dk_seg dksX0_sum_5 23 rfl rfl
theorem dksX0_sum_7 : cX0_sum.data.toList.drop 160 = dktX0_sum_7 := dk_seg dksX0_sum_6 22 rfl rfl
theorem dksX0_sum_8 : cX0_sum.data.toList.drop 183 = dktX0_sum_8 := dk_seg dksX0_sum_7 23 rfl rfl
theorem dksX0_sum_9 : cX0_sum.data.toList.drop 206 = dktX0_sum_9 := dk_seg dksX0_sum_8 23 rfl rfl
theorem dksX0_sum_10 : cX0_sum.data.toList.drop 229 = dktX0_sum_10 := dk_seg dksX0_sum_9 23 rfl rfl
theorem dksX0_sum_11 : cX0_sum.data.toList.drop 251 = dktX0_sum_11 := dk_seg dksX0_sum_10 22 rfl rfl
theorem dksX0_sum_12 : cX0_sum.data.toList.drop 275 = dktX0_sum_12 := dk_seg dksX0_sum_11 24 rfl rfl
theorem dksX0_sum_13 : cX0_sum.data.toList.drop 299 = dktX0_sum_13 := dk_seg dksX0_sum_12 24 rfl rfl
theorem dksX0_sum_14 : cX0_sum.data.toList.drop 322 = dktX0_sum_14 := dk_seg dksX0_sum_13 23 rfl rfl
theorem dksX0_sum_15 : cX0_sum.data.toList.drop 345 = dktX0_sum_15 := dk_seg dksX0_sum_14 23 rfl rfl
theorem dksX0_sum_16 : cX0_sum.data.toList.drop 369 = dktX0_sum_16 := dk_seg dksX0_sum_15 24 rfl rfl
theorem dksX0_sum_17 : cX0_sum.data.toList.drop 393 = dktX0_sum_17 := dk_seg dksX0_sum_16 24 rfl rfl
theorem dksX0_sum_18 : cX0_sum.data.toList.drop 416 = dktX0_sum_18 := dk_seg dksX0_sum_17 23 rfl rfl
theorem dX0_sum_0 : decode cX0_sum 0 = .ok (.dload_n 1, 1) := dk_39 (dk_at dksX0_sum_0 0 rfl rfl)
theorem dX0_sum_1 : decode cX0_sum 1 = .ok (.dconst 0, 1) := dk_14 (dk_at dksX0_sum_0 1 rfl rfl)
theorem dX0_sum_2 : decode cX0_sum 2 = .ok (.dcmp .g, 1) := dk_152 (dk_at dksX0_sum_0 2 rfl rfl)
theorem dX0_sum_3 : decode cX0_sum 3 = .ok (.ifCond .ge 7, 3) := dk_156 0 7 (dk_at dksX0_sum_0 3 rfl rfl)
theorem dX0_sum_6 : decode cX0_sum 6 = .ok (.iconst 1, 1) := dk_4 (dk_at dksX0_sum_0 6 rfl rfl)
theorem dX0_sum_7 : decode cX0_sum 7 = .ok (.goto 4, 3) := dk_167 0 4 (dk_at dksX0_sum_0 7 rfl rfl)
theorem dX0_sum_10 : decode cX0_sum 10 = .ok (.iconst 0, 1) := dk_3 (dk_at dksX0_sum_0 10 rfl rfl)
theorem dX0_sum_11 : decode cX0_sum 11 = .ok (.dload_n 3, 1) := dk_41 (dk_at dksX0_sum_0 11 rfl rfl)
theorem dX0_sum_12 : decode cX0_sum 12 = .ok (.dconst 0, 1) := dk_14 (dk_at dksX0_sum_0 12 rfl rfl)
theorem dX0_sum_13 : decode cX0_sum 13 = .ok (.dcmp .g, 1) := dk_152 (dk_at dksX0_sum_0 13 rfl rfl)
theorem dX0_sum_14 : decode cX0_sum 14 = .ok (.ifCond .ge 7, 3) := dk_156 0 7 (dk_at dksX0_sum_0 14 rfl rfl)
theorem dX0_sum_17 : decode cX0_sum 17 = .ok (.iconst 1, 1) := dk_4 (dk_at dksX0_sum_0 17 rfl rfl)
theorem dX0_sum_18 : decode cX0_sum 18 = .ok (.goto 4, 3) := dk_167 0 4 (dk_at dksX0_sum_0 18 rfl rfl)
theorem dX0_sum_21 : decode cX0_sum 21 = .ok (.iconst 0, 1) := dk_3 (dk_at dksX0_sum_0 21 rfl rfl)
theorem dX0_sum_22 : decode cX0_sum 22 = .ok (.if_icmp .eq 7, 3) := dk_159 0 7 (dk_at dksX0_sum_1 0 rfl rfl)
theorem dX0_sum_25 : decode cX0_sum 25 = .ok (.iconst 1, 1) := dk_4 (dk_at dksX0_sum_1 3 rfl rfl)
theorem dX0_sum_26 : decode cX0_sum 26 = .ok (.goto 4, 3) := dk_167 0 4 (dk_at dksX0_sum_1 4 rfl rfl)
theorem dX0_sum_29 : decode cX0_sum 29 = .ok (.iconst 0, 1) := dk_3 (dk_at dksX0_sum_1 7 rfl rfl)
theorem dX0_sum_30 : decode cX0_sum 30 = .ok (.istore 7, 2) := dk_54 7 (dk_at dksX0_sum_1 8 rfl rfl)
theorem dX0_sum_32 : decode cX0_sum 32 = .ok (.dload_n 1, 1) := dk_39 (dk_at dksX0_sum_1 10 rfl rfl)
theorem dX0_sum_33 : decode cX0_sum 33 = .ok (.invokestatic 150, 3) := dk_184 0 150 (dk_at dksX0_sum_1 11 rfl rfl)
theorem dX0_sum_36 : decode cX0_sum 36 = .ok (.dload_n 3, 1) := dk_41 (dk_at dksX0_sum_1 14 rfl rfl)
theorem dX0_sum_37 : decode cX0_sum 37 = .ok (.invokestatic 150, 3) := dk_184 0 150 (dk_at dksX0_sum_1 15 rfl rfl)
theorem dX0_sum_40 : decode cX0_sum 40 = .ok (.lmul, 1) := dk_105 (dk_at dksX0_sum_1 18 rfl rfl)
theorem dX0_sum_41 : decode cX0_sum 41 = .ok (.lstore 8, 2) := dk_55 8 (dk_at dksX0_sum_1 19 rfl rfl)
theorem dX0_sum_43 : decode cX0_sum 43 = .ok (.dload_n 1, 1) := dk_39 (dk_at dksX0_sum_1 21 rfl rfl)
theorem dX0_sum_44 : decode cX0_sum 44 = .ok (.invokestatic 150, 3) := dk_184 0 150 (dk_at dksX0_sum_2 0 rfl rfl)
theorem dX0_sum_47 : decode cX0_sum 47 = .ok (.dload_n 3, 1) := dk_41 (dk_at dksX0_sum_2 3 rfl rfl)
theorem dX0_sum_48 : decode cX0_sum 48 = .ok (.invokestatic 150, 3) := dk_184 0 150 (dk_at dksX0_sum_2 4 rfl rfl)
theorem dX0_sum_51 : decode cX0_sum 51 = .ok (.invokestatic 141, 3) := dk_184 0 141 (dk_at dksX0_sum_2 7 rfl rfl)
theorem dX0_sum_54 : decode cX0_sum 54 = .ok (.bipush 20, 2) := dk_16 20 (dk_at dksX0_sum_2 10 rfl rfl)
theorem dX0_sum_56 : decode cX0_sum 56 = .ok (.lshl, 1) := dk_121 (dk_at dksX0_sum_2 12 rfl rfl)
theorem dX0_sum_57 : decode cX0_sum 57 = .ok (.lload 8, 2) := dk_22 8 (dk_at dksX0_sum_2 13 rfl rfl)
theorem dX0_sum_59 : decode cX0_sum 59 = .ok (.bipush 44, 2) := dk_16 44 (dk_at dksX0_sum_2 15 rfl rfl)
theorem dX0_sum_61 : decode cX0_sum 61 = .ok (.lushr, 1) := dk_125 (dk_at dksX0_sum_2 17 rfl rfl)
theorem dX0_sum_62 : decode cX0_sum 62 = .ok (.lor, 1) := dk_129 (dk_at dksX0_sum_2 18 rfl rfl)
theorem dX0_sum_63 : decode cX0_sum 63 = .ok (.lstore 10, 2) := dk_55 10 (dk_at dksX0_sum_2 19 rfl rfl)
theorem dX0_sum_65 : decode cX0_sum 65 = .ok (.lload 8, 2) := dk_22 8 (dk_at dksX0_sum_2 21 rfl rfl)
theorem dX0_sum_67 : decode cX0_sum 67 = .ok (.bipush 20, 2) := dk_16 20 (dk_at dksX0_sum_3 0 rfl rfl)
theorem dX0_sum_69 : decode cX0_sum 69 = .ok (.lshl, 1) := dk_121 (dk_at dksX0_sum_3 2 rfl rfl)
theorem dX0_sum_70 : decode cX0_sum 70 = .ok (.lstore 8, 2) := dk_55 8 (dk_at dksX0_sum_3 3 rfl rfl)
theorem dX0_sum_72 : decode cX0_sum 72 = .ok (.dload_n 1, 1) := dk_39 (dk_at dksX0_sum_3 5 rfl rfl)
theorem dX0_sum_73 : decode cX0_sum 73 = .ok (.invokestatic 131, 3) := dk_184 0 131 (dk_at dksX0_sum_3 6 rfl rfl)
theorem dX0_sum_76 : decode cX0_sum 76 = .ok (.dload_n 3, 1) := dk_41 (dk_at dksX0_sum_3 9 rfl rfl)
theorem dX0_sum_77 : decode cX0_sum 77 = .ok (.invokestatic 131, 3) := dk_184 0 131 (dk_at dksX0_sum_3 10 rfl rfl)
theorem dX0_sum_80 : decode cX0_sum 80 = .ok (.iadd, 1) := dk_96 (dk_at dksX0_sum_3 13 rfl rfl)
theorem dX0_sum_81 : decode cX0_sum 81 = .ok (.bipush 124, 2) := dk_16 124 (dk_at dksX0_sum_3 14 rfl rfl)
theorem dX0_sum_83 : decode cX0_sum 83 = .ok (.isub, 1) := dk_100 (dk_at dksX0_sum_3 16 rfl rfl)
theorem dX0_sum_84 : decode cX0_sum 84 = .ok (.istore 12, 2) := dk_54 12 (dk_at dksX0_sum_3 17 rfl rfl)
theorem dX0_sum_86 : decode cX0_sum 86 = .ok (.dload 5, 2) := dk_24 5 (dk_at dksX0_sum_3 19 rfl rfl)
theorem dX0_sum_88 : decode cX0_sum 88 = .ok (.invokestatic 131, 3) := dk_184 0 131 (dk_at dksX0_sum_3 21 rfl rfl)
theorem dX0_sum_91 : decode cX0_sum 91 = .ok (.bipush 52, 2) := dk_16 52 (dk_at dksX0_sum_4 0 rfl rfl)
theorem dX0_sum_93 : decode cX0_sum 93 = .ok (.isub, 1) := dk_100 (dk_at dksX0_sum_4 2 rfl rfl)
theorem dX0_sum_94 : decode cX0_sum 94 = .ok (.iload 12, 2) := dk_21 12 (dk_at dksX0_sum_4 3 rfl rfl)
theorem dX0_sum_96 : decode cX0_sum 96 = .ok (.isub, 1) := dk_100 (dk_at dksX0_sum_4 5 rfl rfl)
theorem dX0_sum_97 : decode cX0_sum 97 = .ok (.istore 13, 2) := dk_54 13 (dk_at dksX0_sum_4 6 rfl rfl)
theorem dX0_sum_99 : decode cX0_sum 99 = .ok (.iload 13, 2) := dk_21 13 (dk_at dksX0_sum_4 8 rfl rfl)
theorem dX0_sum_101 : decode cX0_sum 101 = .ok (.bipush 73, 2) := dk_16 73 (dk_at dksX0_sum_4 10 rfl rfl)
theorem dX0_sum_103 : decode cX0_sum 103 = .ok (.if_icmp .le 55, 3) := dk_164 0 55 (dk_at dksX0_sum_4 12 rfl rfl)
theorem dX0_sum_106 : decode cX0_sum 106 = .ok (.lload 10, 2) := dk_22 10 (dk_at dksX0_sum_4 15 rfl rfl)
theorem dX0_sum_108 : decode cX0_sum 108 = .ok (.lload 8, 2) := dk_22 8 (dk_at dksX0_sum_4 17 rfl rfl)
theorem dX0_sum_110 : decode cX0_sum 110 = .ok (.iload 13, 2) := dk_21 13 (dk_at dksX0_sum_4 19 rfl rfl)
theorem dX0_sum_112 : decode cX0_sum 112 = .ok (.bipush 73, 2) := dk_16 73 (dk_at dksX0_sum_4 21 rfl rfl)
theorem dX0_sum_114 : decode cX0_sum 114 = .ok (.isub, 1) := dk_100 (dk_at dksX0_sum_4 23 rfl rfl)
theorem dX0_sum_115 : decode cX0_sum 115 = .ok (.invokestatic 166, 3) := dk_184 0 166 (dk_at dksX0_sum_5 0 rfl rfl)
theorem dX0_sum_118 : decode cX0_sum 118 = .ok (.lstore 8, 2) := dk_55 8 (dk_at dksX0_sum_5 3 rfl rfl)
theorem dX0_sum_120 : decode cX0_sum 120 = .ok (.iload 13, 2) := dk_21 13 (dk_at dksX0_sum_5 5 rfl rfl)
theorem dX0_sum_122 : decode cX0_sum 122 = .ok (.bipush 73, 2) := dk_16 73 (dk_at dksX0_sum_5 7 rfl rfl)
theorem dX0_sum_124 : decode cX0_sum 124 = .ok (.isub, 1) := dk_100 (dk_at dksX0_sum_5 9 rfl rfl)
theorem dX0_sum_125 : decode cX0_sum 125 = .ok (.bipush 64, 2) := dk_16 64 (dk_at dksX0_sum_5 10 rfl rfl)
theorem dX0_sum_127 : decode cX0_sum 127 = .ok (.if_icmp .ge 14, 3) := dk_162 0 14 (dk_at dksX0_sum_5 12 rfl rfl)
theorem dX0_sum_130 : decode cX0_sum 130 = .ok (.lload 10, 2) := dk_22 10 (dk_at dksX0_sum_5 15 rfl rfl)
theorem dX0_sum_132 : decode cX0_sum 132 = .ok (.iload 13, 2) := dk_21 13 (dk_at dksX0_sum_5 17 rfl rfl)
theorem dX0_sum_134 : decode cX0_sum 134 = .ok (.bipush 73, 2) := dk_16 73 (dk_at dksX0_sum_5 19 rfl rfl)
theorem dX0_sum_136 : decode cX0_sum 136 = .ok (.isub, 1) := dk_100 (dk_at dksX0_sum_5 21 rfl rfl)
theorem dX0_sum_137 : decode cX0_sum 137 = .ok (.lushr, 1) := dk_125 (dk_at dksX0_sum_5 22 rfl rfl)
theorem dX0_sum_138 : decode cX0_sum 138 = .ok (.goto 4, 3) := dk_167 0 4 (dk_at dksX0_sum_6 0 rfl rfl)
theorem dX0_sum_141 : decode cX0_sum 141 = .ok (.lconst 0, 1) := dk_9 (dk_at dksX0_sum_6 3 rfl rfl)
theorem dX0_sum_142 : decode cX0_sum 142 = .ok (.lstore 10, 2) := dk_55 10 (dk_at dksX0_sum_6 4 rfl rfl)
theorem dX0_sum_144 : decode cX0_sum 144 = .ok (.iload 12, 2) := dk_21 12 (dk_at dksX0_sum_6 6 rfl rfl)
theorem dX0_sum_146 : decode cX0_sum 146 = .ok (.iload 13, 2) := dk_21 13 (dk_at dksX0_sum_6 8 rfl rfl)
theorem dX0_sum_148 : decode cX0_sum 148 = .ok (.bipush 73, 2) := dk_16 73 (dk_at dksX0_sum_6 10 rfl rfl)
theorem dX0_sum_150 : decode cX0_sum 150 = .ok (.isub, 1) := dk_100 (dk_at dksX0_sum_6 12 rfl rfl)
theorem dX0_sum_151 : decode cX0_sum 151 = .ok (.iadd, 1) := dk_96 (dk_at dksX0_sum_6 13 rfl rfl)
theorem dX0_sum_152 : decode cX0_sum 152 = .ok (.istore 12, 2) := dk_54 12 (dk_at dksX0_sum_6 14 rfl rfl)
theorem dX0_sum_154 : decode cX0_sum 154 = .ok (.bipush 73, 2) := dk_16 73 (dk_at dksX0_sum_6 16 rfl rfl)
theorem dX0_sum_156 : decode cX0_sum 156 = .ok (.istore 13, 2) := dk_54 13 (dk_at dksX0_sum_6 18 rfl rfl)
theorem dX0_sum_158 : decode cX0_sum 158 = .ok (.dload 5, 2) := dk_24 5 (dk_at dksX0_sum_6 20 rfl rfl)
theorem dX0_sum_160 : decode cX0_sum 160 = .ok (.invokestatic 150, 3) := dk_184 0 150 (dk_at dksX0_sum_7 0 rfl rfl)
theorem dX0_sum_163 : decode cX0_sum 163 = .ok (.lstore 14, 2) := dk_55 14 (dk_at dksX0_sum_7 3 rfl rfl)
theorem dX0_sum_165 : decode cX0_sum 165 = .ok (.iload 13, 2) := dk_21 13 (dk_at dksX0_sum_7 5 rfl rfl)
theorem dX0_sum_167 : decode cX0_sum 167 = .ok (.ifCond .gt 7, 3) := dk_157 0 7 (dk_at dksX0_sum_7 7 rfl rfl)
theorem dX0_sum_170 : decode cX0_sum 170 = .ok (.lconst 0, 1) := dk_9 (dk_at dksX0_sum_7 10 rfl rfl)
theorem dX0_sum_171 : decode cX0_sum 171 = .ok (.goto 29, 3) := dk_167 0 29 (dk_at dksX0_sum_7 11 rfl rfl)
theorem dX0_sum_174 : decode cX0_sum 174 = .ok (.iload 13, 2) := dk_21 13 (dk_at dksX0_sum_7 14 rfl rfl)
theorem dX0_sum_176 : decode cX0_sum 176 = .ok (.bipush 64, 2) := dk_16 64 (dk_at dksX0_sum_7 16 rfl rfl)
theorem dX0_sum_178 : decode cX0_sum 178 = .ok (.if_icmp .ge 14, 3) := dk_162 0 14 (dk_at dksX0_sum_7 18 rfl rfl)
theorem dX0_sum_181 : decode cX0_sum 181 = .ok (.lload 14, 2) := dk_22 14 (dk_at dksX0_sum_7 21 rfl rfl)
theorem dX0_sum_183 : decode cX0_sum 183 = .ok (.bipush 64, 2) := dk_16 64 (dk_at dksX0_sum_8 0 rfl rfl)
theorem dX0_sum_185 : decode cX0_sum 185 = .ok (.iload 13, 2) := dk_21 13 (dk_at dksX0_sum_8 2 rfl rfl)
theorem dX0_sum_187 : decode cX0_sum 187 = .ok (.isub, 1) := dk_100 (dk_at dksX0_sum_8 4 rfl rfl)
theorem dX0_sum_188 : decode cX0_sum 188 = .ok (.lushr, 1) := dk_125 (dk_at dksX0_sum_8 5 rfl rfl)
theorem dX0_sum_189 : decode cX0_sum 189 = .ok (.goto 11, 3) := dk_167 0 11 (dk_at dksX0_sum_8 6 rfl rfl)
theorem dX0_sum_192 : decode cX0_sum 192 = .ok (.lload 14, 2) := dk_22 14 (dk_at dksX0_sum_8 9 rfl rfl)
theorem dX0_sum_194 : decode cX0_sum 194 = .ok (.iload 13, 2) := dk_21 13 (dk_at dksX0_sum_8 11 rfl rfl)
theorem dX0_sum_196 : decode cX0_sum 196 = .ok (.bipush 64, 2) := dk_16 64 (dk_at dksX0_sum_8 13 rfl rfl)
theorem dX0_sum_198 : decode cX0_sum 198 = .ok (.isub, 1) := dk_100 (dk_at dksX0_sum_8 15 rfl rfl)
theorem dX0_sum_199 : decode cX0_sum 199 = .ok (.lshl, 1) := dk_121 (dk_at dksX0_sum_8 16 rfl rfl)
theorem dX0_sum_200 : decode cX0_sum 200 = .ok (.lstore 16, 2) := dk_55 16 (dk_at dksX0_sum_8 17 rfl rfl)
theorem dX0_sum_202 : decode cX0_sum 202 = .ok (.iload 13, 2) := dk_21 13 (dk_at dksX0_sum_8 19 rfl rfl)
theorem dX0_sum_204 : decode cX0_sum 204 = .ok (.bipush 64, 2) := dk_16 64 (dk_at dksX0_sum_8 21 rfl rfl)
theorem dX0_sum_206 : decode cX0_sum 206 = .ok (.if_icmp .lt 7, 3) := dk_161 0 7 (dk_at dksX0_sum_9 0 rfl rfl)
theorem dX0_sum_209 : decode cX0_sum 209 = .ok (.lconst 0, 1) := dk_9 (dk_at dksX0_sum_9 3 rfl rfl)
theorem dX0_sum_210 : decode cX0_sum 210 = .ok (.goto 25, 3) := dk_167 0 25 (dk_at dksX0_sum_9 4 rfl rfl)
theorem dX0_sum_213 : decode cX0_sum 213 = .ok (.iload 13, 2) := dk_21 13 (dk_at dksX0_sum_9 7 rfl rfl)
theorem dX0_sum_215 : decode cX0_sum 215 = .ok (.ifCond .lt 11, 3) := dk_155 0 11 (dk_at dksX0_sum_9 9 rfl rfl)
theorem dX0_sum_218 : decode cX0_sum 218 = .ok (.lload 14, 2) := dk_22 14 (dk_at dksX0_sum_9 12 rfl rfl)
theorem dX0_sum_220 : decode cX0_sum 220 = .ok (.iload 13, 2) := dk_21 13 (dk_at dksX0_sum_9 14 rfl rfl)
theorem dX0_sum_222 : decode cX0_sum 222 = .ok (.lshl, 1) := dk_121 (dk_at dksX0_sum_9 16 rfl rfl)
theorem dX0_sum_223 : decode cX0_sum 223 = .ok (.goto 12, 3) := dk_167 0 12 (dk_at dksX0_sum_9 17 rfl rfl)
theorem dX0_sum_226 : decode cX0_sum 226 = .ok (.lconst 0, 1) := dk_9 (dk_at dksX0_sum_9 20 rfl rfl)
theorem dX0_sum_227 : decode cX0_sum 227 = .ok (.lload 14, 2) := dk_22 14 (dk_at dksX0_sum_9 21 rfl rfl)
theorem dX0_sum_229 : decode cX0_sum 229 = .ok (.iload 13, 2) := dk_21 13 (dk_at dksX0_sum_10 0 rfl rfl)
theorem dX0_sum_231 : decode cX0_sum 231 = .ok (.ineg, 1) := dk_116 (dk_at dksX0_sum_10 2 rfl rfl)
theorem dX0_sum_232 : decode cX0_sum 232 = .ok (.invokestatic 166, 3) := dk_184 0 166 (dk_at dksX0_sum_10 3 rfl rfl)
theorem dX0_sum_235 : decode cX0_sum 235 = .ok (.lstore 18, 2) := dk_55 18 (dk_at dksX0_sum_10 6 rfl rfl)
theorem dX0_sum_237 : decode cX0_sum 237 = .ok (.iload 7, 2) := dk_21 7 (dk_at dksX0_sum_10 8 rfl rfl)
theorem dX0_sum_239 : decode cX0_sum 239 = .ok (.dload 5, 2) := dk_24 5 (dk_at dksX0_sum_10 10 rfl rfl)
theorem dX0_sum_241 : decode cX0_sum 241 = .ok (.dconst 0, 1) := dk_14 (dk_at dksX0_sum_10 12 rfl rfl)
theorem dX0_sum_242 : decode cX0_sum 242 = .ok (.dcmp .g, 1) := dk_152 (dk_at dksX0_sum_10 13 rfl rfl)
theorem dX0_sum_243 : decode cX0_sum 243 = .ok (.ifCond .ge 7, 3) := dk_156 0 7 (dk_at dksX0_sum_10 14 rfl rfl)
theorem dX0_sum_246 : decode cX0_sum 246 = .ok (.iconst 1, 1) := dk_4 (dk_at dksX0_sum_10 17 rfl rfl)
theorem dX0_sum_247 : decode cX0_sum 247 = .ok (.goto 4, 3) := dk_167 0 4 (dk_at dksX0_sum_10 18 rfl rfl)
theorem dX0_sum_250 : decode cX0_sum 250 = .ok (.iconst 0, 1) := dk_3 (dk_at dksX0_sum_10 21 rfl rfl)
theorem dX0_sum_251 : decode cX0_sum 251 = .ok (.if_icmp .ne 7, 3) := dk_160 0 7 (dk_at dksX0_sum_11 0 rfl rfl)
theorem dX0_sum_254 : decode cX0_sum 254 = .ok (.iconst 1, 1) := dk_4 (dk_at dksX0_sum_11 3 rfl rfl)
theorem dX0_sum_255 : decode cX0_sum 255 = .ok (.goto 4, 3) := dk_167 0 4 (dk_at dksX0_sum_11 4 rfl rfl)
theorem dX0_sum_258 : decode cX0_sum 258 = .ok (.iconst 0, 1) := dk_3 (dk_at dksX0_sum_11 7 rfl rfl)
theorem dX0_sum_259 : decode cX0_sum 259 = .ok (.istore 20, 2) := dk_54 20 (dk_at dksX0_sum_11 8 rfl rfl)
theorem dX0_sum_261 : decode cX0_sum 261 = .ok (.iload 20, 2) := dk_21 20 (dk_at dksX0_sum_11 10 rfl rfl)
theorem dX0_sum_263 : decode cX0_sum 263 = .ok (.ifCond .eq 12, 3) := dk_153 0 12 (dk_at dksX0_sum_11 12 rfl rfl)
theorem dX0_sum_266 : decode cX0_sum 266 = .ok (.lload 8, 2) := dk_22 8 (dk_at dksX0_sum_11 15 rfl rfl)
theorem dX0_sum_268 : decode cX0_sum 268 = .ok (.ldc2_w 170, 3) := dk_20 0 170 (dk_at dksX0_sum_11 17 rfl rfl)
theorem dX0_sum_271 : decode cX0_sum 271 = .ok (.lxor, 1) := dk_131 (dk_at dksX0_sum_11 20 rfl rfl)
theorem dX0_sum_272 : decode cX0_sum 272 = .ok (.goto 5, 3) := dk_167 0 5 (dk_at dksX0_sum_11 21 rfl rfl)
theorem dX0_sum_275 : decode cX0_sum 275 = .ok (.lload 8, 2) := dk_22 8 (dk_at dksX0_sum_12 0 rfl rfl)
theorem dX0_sum_277 : decode cX0_sum 277 = .ok (.lload 18, 2) := dk_22 18 (dk_at dksX0_sum_12 2 rfl rfl)
theorem dX0_sum_279 : decode cX0_sum 279 = .ok (.invokestatic 93, 3) := dk_184 0 93 (dk_at dksX0_sum_12 4 rfl rfl)
theorem dX0_sum_282 : decode cX0_sum 282 = .ok (.ifCond .ge 7, 3) := dk_156 0 7 (dk_at dksX0_sum_12 7 rfl rfl)
theorem dX0_sum_285 : decode cX0_sum 285 = .ok (.lconst 1, 1) := dk_10 (dk_at dksX0_sum_12 10 rfl rfl)
theorem dX0_sum_286 : decode cX0_sum 286 = .ok (.goto 4, 3) := dk_167 0 4 (dk_at dksX0_sum_12 11 rfl rfl)
theorem dX0_sum_289 : decode cX0_sum 289 = .ok (.lconst 0, 1) := dk_9 (dk_at dksX0_sum_12 14 rfl rfl)
theorem dX0_sum_290 : decode cX0_sum 290 = .ok (.lstore 21, 2) := dk_55 21 (dk_at dksX0_sum_12 15 rfl rfl)
theorem dX0_sum_292 : decode cX0_sum 292 = .ok (.iload 20, 2) := dk_21 20 (dk_at dksX0_sum_12 17 rfl rfl)
theorem dX0_sum_294 : decode cX0_sum 294 = .ok (.ifCond .eq 11, 3) := dk_153 0 11 (dk_at dksX0_sum_12 19 rfl rfl)
theorem dX0_sum_297 : decode cX0_sum 297 = .ok (.lload 8, 2) := dk_22 8 (dk_at dksX0_sum_12 22 rfl rfl)
theorem dX0_sum_299 : decode cX0_sum 299 = .ok (.lload 18, 2) := dk_22 18 (dk_at dksX0_sum_13 0 rfl rfl)
theorem dX0_sum_301 : decode cX0_sum 301 = .ok (.ladd, 1) := dk_97 (dk_at dksX0_sum_13 2 rfl rfl)
theorem dX0_sum_302 : decode cX0_sum 302 = .ok (.goto 8, 3) := dk_167 0 8 (dk_at dksX0_sum_13 3 rfl rfl)
theorem dX0_sum_305 : decode cX0_sum 305 = .ok (.lload 8, 2) := dk_22 8 (dk_at dksX0_sum_13 6 rfl rfl)
theorem dX0_sum_307 : decode cX0_sum 307 = .ok (.lload 18, 2) := dk_22 18 (dk_at dksX0_sum_13 8 rfl rfl)
theorem dX0_sum_309 : decode cX0_sum 309 = .ok (.lsub, 1) := dk_101 (dk_at dksX0_sum_13 10 rfl rfl)
theorem dX0_sum_310 : decode cX0_sum 310 = .ok (.lstore 8, 2) := dk_55 8 (dk_at dksX0_sum_13 11 rfl rfl)
theorem dX0_sum_312 : decode cX0_sum 312 = .ok (.iload 20, 2) := dk_21 20 (dk_at dksX0_sum_13 13 rfl rfl)
theorem dX0_sum_314 : decode cX0_sum 314 = .ok (.ifCond .eq 14, 3) := dk_153 0 14 (dk_at dksX0_sum_13 15 rfl rfl)
theorem dX0_sum_317 : decode cX0_sum 317 = .ok (.lload 10, 2) := dk_22 10 (dk_at dksX0_sum_13 18 rfl rfl)
theorem dX0_sum_319 : decode cX0_sum 319 = .ok (.lload 16, 2) := dk_22 16 (dk_at dksX0_sum_13 20 rfl rfl)
theorem dX0_sum_321 : decode cX0_sum 321 = .ok (.ladd, 1) := dk_97 (dk_at dksX0_sum_13 22 rfl rfl)
theorem dX0_sum_322 : decode cX0_sum 322 = .ok (.lload 21, 2) := dk_22 21 (dk_at dksX0_sum_14 0 rfl rfl)
theorem dX0_sum_324 : decode cX0_sum 324 = .ok (.ladd, 1) := dk_97 (dk_at dksX0_sum_14 2 rfl rfl)
theorem dX0_sum_325 : decode cX0_sum 325 = .ok (.goto 11, 3) := dk_167 0 11 (dk_at dksX0_sum_14 3 rfl rfl)
theorem dX0_sum_328 : decode cX0_sum 328 = .ok (.lload 10, 2) := dk_22 10 (dk_at dksX0_sum_14 6 rfl rfl)
theorem dX0_sum_330 : decode cX0_sum 330 = .ok (.lload 16, 2) := dk_22 16 (dk_at dksX0_sum_14 8 rfl rfl)
theorem dX0_sum_332 : decode cX0_sum 332 = .ok (.lsub, 1) := dk_101 (dk_at dksX0_sum_14 10 rfl rfl)
theorem dX0_sum_333 : decode cX0_sum 333 = .ok (.lload 21, 2) := dk_22 21 (dk_at dksX0_sum_14 11 rfl rfl)
theorem dX0_sum_335 : decode cX0_sum 335 = .ok (.lsub, 1) := dk_101 (dk_at dksX0_sum_14 13 rfl rfl)
theorem dX0_sum_336 : decode cX0_sum 336 = .ok (.lstore 10, 2) := dk_55 10 (dk_at dksX0_sum_14 14 rfl rfl)
theorem dX0_sum_338 : decode cX0_sum 338 = .ok (.lload 10, 2) := dk_22 10 (dk_at dksX0_sum_14 16 rfl rfl)
theorem dX0_sum_340 : decode cX0_sum 340 = .ok (.lconst 0, 1) := dk_9 (dk_at dksX0_sum_14 18 rfl rfl)
theorem dX0_sum_341 : decode cX0_sum 341 = .ok (.lcmp, 1) := dk_148 (dk_at dksX0_sum_14 19 rfl rfl)
theorem dX0_sum_342 : decode cX0_sum 342 = .ok (.ifCond .ge 41, 3) := dk_156 0 41 (dk_at dksX0_sum_14 20 rfl rfl)
theorem dX0_sum_345 : decode cX0_sum 345 = .ok (.iload 7, 2) := dk_21 7 (dk_at dksX0_sum_15 0 rfl rfl)
theorem dX0_sum_347 : decode cX0_sum 347 = .ok (.ifCond .ne 7, 3) := dk_154 0 7 (dk_at dksX0_sum_15 2 rfl rfl)
theorem dX0_sum_350 : decode cX0_sum 350 = .ok (.iconst 1, 1) := dk_4 (dk_at dksX0_sum_15 5 rfl rfl)
theorem dX0_sum_351 : decode cX0_sum 351 = .ok (.goto 4, 3) := dk_167 0 4 (dk_at dksX0_sum_15 6 rfl rfl)
theorem dX0_sum_354 : decode cX0_sum 354 = .ok (.iconst 0, 1) := dk_3 (dk_at dksX0_sum_15 9 rfl rfl)
theorem dX0_sum_355 : decode cX0_sum 355 = .ok (.istore 7, 2) := dk_54 7 (dk_at dksX0_sum_15 10 rfl rfl)
theorem dX0_sum_357 : decode cX0_sum 357 = .ok (.lload 8, 2) := dk_22 8 (dk_at dksX0_sum_15 12 rfl rfl)
theorem dX0_sum_359 : decode cX0_sum 359 = .ok (.lneg, 1) := dk_117 (dk_at dksX0_sum_15 14 rfl rfl)
theorem dX0_sum_360 : decode cX0_sum 360 = .ok (.lstore 8, 2) := dk_55 8 (dk_at dksX0_sum_15 15 rfl rfl)
theorem dX0_sum_362 : decode cX0_sum 362 = .ok (.lload 8, 2) := dk_22 8 (dk_at dksX0_sum_15 17 rfl rfl)
theorem dX0_sum_364 : decode cX0_sum 364 = .ok (.lconst 0, 1) := dk_9 (dk_at dksX0_sum_15 19 rfl rfl)
theorem dX0_sum_365 : decode cX0_sum 365 = .ok (.lcmp, 1) := dk_148 (dk_at dksX0_sum_15 20 rfl rfl)
theorem dX0_sum_366 : decode cX0_sum 366 = .ok (.ifCond .ne 9, 3) := dk_154 0 9 (dk_at dksX0_sum_15 21 rfl rfl)
theorem dX0_sum_369 : decode cX0_sum 369 = .ok (.lload 10, 2) := dk_22 10 (dk_at dksX0_sum_16 0 rfl rfl)
theorem dX0_sum_371 : decode cX0_sum 371 = .ok (.lneg, 1) := dk_117 (dk_at dksX0_sum_16 2 rfl rfl)
theorem dX0_sum_372 : decode cX0_sum 372 = .ok (.goto 9, 3) := dk_167 0 9 (dk_at dksX0_sum_16 3 rfl rfl)
theorem dX0_sum_375 : decode cX0_sum 375 = .ok (.lload 10, 2) := dk_22 10 (dk_at dksX0_sum_16 6 rfl rfl)
theorem dX0_sum_377 : decode cX0_sum 377 = .ok (.ldc2_w 170, 3) := dk_20 0 170 (dk_at dksX0_sum_16 8 rfl rfl)
theorem dX0_sum_380 : decode cX0_sum 380 = .ok (.lxor, 1) := dk_131 (dk_at dksX0_sum_16 11 rfl rfl)
theorem dX0_sum_381 : decode cX0_sum 381 = .ok (.lstore 10, 2) := dk_55 10 (dk_at dksX0_sum_16 12 rfl rfl)
theorem dX0_sum_383 : decode cX0_sum 383 = .ok (.lload 10, 2) := dk_22 10 (dk_at dksX0_sum_16 14 rfl rfl)
theorem dX0_sum_385 : decode cX0_sum 385 = .ok (.lconst 0, 1) := dk_9 (dk_at dksX0_sum_16 16 rfl rfl)
theorem dX0_sum_386 : decode cX0_sum 386 = .ok (.lcmp, 1) := dk_148 (dk_at dksX0_sum_16 17 rfl rfl)
theorem dX0_sum_387 : decode cX0_sum 387 = .ok (.ifCond .ne 12, 3) := dk_154 0 12 (dk_at dksX0_sum_16 18 rfl rfl)
theorem dX0_sum_390 : decode cX0_sum 390 = .ok (.lload 8, 2) := dk_22 8 (dk_at dksX0_sum_16 21 rfl rfl)
theorem dX0_sum_392 : decode cX0_sum 392 = .ok (.lconst 0, 1) := dk_9 (dk_at dksX0_sum_16 23 rfl rfl)
theorem dX0_sum_393 : decode cX0_sum 393 = .ok (.lcmp, 1) := dk_148 (dk_at dksX0_sum_17 0 rfl rfl)
theorem dX0_sum_394 : decode cX0_sum 394 = .ok (.ifCond .ne 5, 3) := dk_154 0 5 (dk_at dksX0_sum_17 1 rfl rfl)
theorem dX0_sum_397 : decode cX0_sum 397 = .ok (.dconst 0, 1) := dk_14 (dk_at dksX0_sum_17 4 rfl rfl)
theorem dX0_sum_398 : decode cX0_sum 398 = .ok (.dreturn, 1) := dk_175 (dk_at dksX0_sum_17 5 rfl rfl)
theorem dX0_sum_399 : decode cX0_sum 399 = .ok (.bipush 64, 2) := dk_16 64 (dk_at dksX0_sum_17 6 rfl rfl)
theorem dX0_sum_401 : decode cX0_sum 401 = .ok (.lload 10, 2) := dk_22 10 (dk_at dksX0_sum_17 8 rfl rfl)
theorem dX0_sum_403 : decode cX0_sum 403 = .ok (.invokestatic 63, 3) := dk_184 0 63 (dk_at dksX0_sum_17 10 rfl rfl)
theorem dX0_sum_406 : decode cX0_sum 406 = .ok (.isub, 1) := dk_100 (dk_at dksX0_sum_17 13 rfl rfl)
theorem dX0_sum_407 : decode cX0_sum 407 = .ok (.istore 23, 2) := dk_54 23 (dk_at dksX0_sum_17 14 rfl rfl)
theorem dX0_sum_409 : decode cX0_sum 409 = .ok (.aload_n 0, 1) := dk_42 (dk_at dksX0_sum_17 16 rfl rfl)
theorem dX0_sum_410 : decode cX0_sum 410 = .ok (.iload 7, 2) := dk_21 7 (dk_at dksX0_sum_17 17 rfl rfl)
theorem dX0_sum_412 : decode cX0_sum 412 = .ok (.lload 10, 2) := dk_22 10 (dk_at dksX0_sum_17 19 rfl rfl)
theorem dX0_sum_414 : decode cX0_sum 414 = .ok (.lload 8, 2) := dk_22 8 (dk_at dksX0_sum_17 21 rfl rfl)
theorem dX0_sum_416 : decode cX0_sum 416 = .ok (.iload 23, 2) := dk_21 23 (dk_at dksX0_sum_18 0 rfl rfl)
theorem dX0_sum_418 : decode cX0_sum 418 = .ok (.invokestatic 166, 3) := dk_184 0 166 (dk_at dksX0_sum_18 2 rfl rfl)
theorem dX0_sum_421 : decode cX0_sum 421 = .ok (.iload 12, 2) := dk_21 12 (dk_at dksX0_sum_18 5 rfl rfl)
theorem dX0_sum_423 : decode cX0_sum 423 = .ok (.iload 23, 2) := dk_21 23 (dk_at dksX0_sum_18 7 rfl rfl)
theorem dX0_sum_425 : decode cX0_sum 425 = .ok (.iadd, 1) := dk_96 (dk_at dksX0_sum_18 9 rfl rfl)
theorem dX0_sum_426 : decode cX0_sum 426 = .ok (.i2l, 1) := dk_133 (dk_at dksX0_sum_18 10 rfl rfl)
theorem dX0_sum_427 : decode cX0_sum 427 = .ok (.invokestatic 127, 3) := dk_184 0 127 (dk_at dksX0_sum_18 11 rfl rfl)
theorem dX0_sum_430 : decode cX0_sum 430 = .ok (.dreturn, 1) := dk_175 (dk_at dksX0_sum_18 14 rfl rfl)
abbrev cX0_lowered : ByteArray := prog_1_method_17_code
def yX0_lowered : MethodName := ⟨RX0, "lowered", "(JJI)J"⟩
def dkwX0_lowered_4 : List UInt8 := [167, 0, 4, 3, 54, 7, 21, 7, 153, 0, 8, 22, 5, 167, 0, 7, 22, 5, 10, 129, 173]
abbrev dktX0_lowered_4 : List UInt8 := dkwX0_lowered_4 ++ []
def dkwX0_lowered_3 : List UInt8 := [167, 0, 27, 32, 9, 148, 154, 0, 20, 22, 5, 21, 4, 16, 64, 100, 121, 30, 148, 154, 0, 7, 4]
abbrev dktX0_lowered_3 : List UInt8 := dkwX0_lowered_3 ++ dktX0_lowered_4
def dkwX0_lowered_2 : List UInt8 := [21, 4, 16, 64, 162, 0, 21, 22, 5, 21, 4, 121, 32, 148, 154, 0, 7, 4, 167, 0, 31, 3]
abbrev dktX0_lowered_2 : List UInt8 := dkwX0_lowered_2 ++ dktX0_lowered_3
def dkwX0_lowered_1 : List UInt8 := [16, 64, 21, 4, 100, 121, 32, 21, 4, 125, 129, 167, 0, 10, 30, 21, 4, 16, 64, 100, 125, 55, 5]
abbrev dktX0_lowered_1 : List UInt8 := dkwX0_lowered_1 ++ dktX0_lowered_2
def dkwX0_lowered_0 : List UInt8 := [21, 4, 157, 0, 5, 32, 173, 21, 4, 16, 127, 164, 0, 5, 10, 173, 21, 4, 16, 64, 162, 0, 18, 30]
abbrev dktX0_lowered_0 : List UInt8 := dkwX0_lowered_0 ++ dktX0_lowered_1
theorem dksX0_lowered_0 : cX0_lowered.data.toList.drop 0 = dktX0_lowered_0 := by decide +kernel
theorem dksX0_lowered_1 : cX0_lowered.data.toList.drop 24 = dktX0_lowered_1 := dk_seg dksX0_lowered_0 24 rfl rfl
theorem dksX0_lowered_2 : cX0_lowered.data.toList.drop 47 = dktX0_lowered_2 := dk_seg dksX0_lowered_1 23 rfl rfl
theorem dksX0_lowered_3 : cX0_lowered.data.toList.drop 69 = dktX0_lowered_3 := dk_seg dksX0_lowered_2 22 rfl rfl
theorem dksX0_lowered_4 : cX0_lowered.data.toList.drop 92 = dktX0_lowered_4 := dk_seg dksX0_lowered_3 23 rfl rfl
theorem dX0_lowered_0 : decode cX0_lowered 0 = .ok (.iload 4, 2) := dk_21 4 (dk_at dksX0_lowered_0 0 rfl rfl)
theorem dX0_lowered_2 : decode cX0_lowered 2 = .ok (.ifCond .gt 5, 3) := dk_157 0 5 (dk_at dksX0_lowered_0 2 rfl rfl)
theorem dX0_lowered_5 : decode cX0_lowered 5 = .ok (.lload_n 2, 1) := dk_32 (dk_at dksX0_lowered_0 5 rfl rfl)
theorem dX0_lowered_6 : decode cX0_lowered 6 = .ok (.lreturn, 1) := dk_173 (dk_at dksX0_lowered_0 6 rfl rfl)
theorem dX0_lowered_7 : decode cX0_lowered 7 = .ok (.iload 4, 2) := dk_21 4 (dk_at dksX0_lowered_0 7 rfl rfl)
theorem dX0_lowered_9 : decode cX0_lowered 9 = .ok (.bipush 127, 2) := dk_16 127 (dk_at dksX0_lowered_0 9 rfl rfl)
theorem dX0_lowered_11 : decode cX0_lowered 11 = .ok (.if_icmp .le 5, 3) := dk_164 0 5 (dk_at dksX0_lowered_0 11 rfl rfl)
theorem dX0_lowered_14 : decode cX0_lowered 14 = .ok (.lconst 1, 1) := dk_10 (dk_at dksX0_lowered_0 14 rfl rfl)
theorem dX0_lowered_15 : decode cX0_lowered 15 = .ok (.lreturn, 1) := dk_173 (dk_at dksX0_lowered_0 15 rfl rfl)
theorem dX0_lowered_16 : decode cX0_lowered 16 = .ok (.iload 4, 2) := dk_21 4 (dk_at dksX0_lowered_0 16 rfl rfl)
theorem dX0_lowered_18 : decode cX0_lowered 18 = .ok (.bipush 64, 2) := dk_16 64 (dk_at dksX0_lowered_0 18 rfl rfl)
theorem dX0_lowered_20 : decode cX0_lowered 20 = .ok (.if_icmp .ge 18, 3) := dk_162 0 18 (dk_at dksX0_lowered_0 20 rfl rfl)
theorem dX0_lowered_23 : decode cX0_lowered 23 = .ok (.lload_n 0, 1) := dk_30 (dk_at dksX0_lowered_0 23 rfl rfl)
theorem dX0_lowered_24 : decode cX0_lowered 24 = .ok (.bipush 64, 2) := dk_16 64 (dk_at dksX0_lowered_1 0 rfl rfl)
theorem dX0_lowered_26 : decode cX0_lowered 26 = .ok (.iload 4, 2) := dk_21 4 (dk_at dksX0_lowered_1 2 rfl rfl)
theorem dX0_lowered_28 : decode cX0_lowered 28 = .ok (.isub, 1) := dk_100 (dk_at dksX0_lowered_1 4 rfl rfl)
theorem dX0_lowered_29 : decode cX0_lowered 29 = .ok (.lshl, 1) := dk_121 (dk_at dksX0_lowered_1 5 rfl rfl)
theorem dX0_lowered_30 : decode cX0_lowered 30 = .ok (.lload_n 2, 1) := dk_32 (dk_at dksX0_lowered_1 6 rfl rfl)
theorem dX0_lowered_31 : decode cX0_lowered 31 = .ok (.iload 4, 2) := dk_21 4 (dk_at dksX0_lowered_1 7 rfl rfl)
theorem dX0_lowered_33 : decode cX0_lowered 33 = .ok (.lushr, 1) := dk_125 (dk_at dksX0_lowered_1 9 rfl rfl)
theorem dX0_lowered_34 : decode cX0_lowered 34 = .ok (.lor, 1) := dk_129 (dk_at dksX0_lowered_1 10 rfl rfl)
theorem dX0_lowered_35 : decode cX0_lowered 35 = .ok (.goto 10, 3) := dk_167 0 10 (dk_at dksX0_lowered_1 11 rfl rfl)
theorem dX0_lowered_38 : decode cX0_lowered 38 = .ok (.lload_n 0, 1) := dk_30 (dk_at dksX0_lowered_1 14 rfl rfl)
theorem dX0_lowered_39 : decode cX0_lowered 39 = .ok (.iload 4, 2) := dk_21 4 (dk_at dksX0_lowered_1 15 rfl rfl)
theorem dX0_lowered_41 : decode cX0_lowered 41 = .ok (.bipush 64, 2) := dk_16 64 (dk_at dksX0_lowered_1 17 rfl rfl)
theorem dX0_lowered_43 : decode cX0_lowered 43 = .ok (.isub, 1) := dk_100 (dk_at dksX0_lowered_1 19 rfl rfl)
theorem dX0_lowered_44 : decode cX0_lowered 44 = .ok (.lushr, 1) := dk_125 (dk_at dksX0_lowered_1 20 rfl rfl)
theorem dX0_lowered_45 : decode cX0_lowered 45 = .ok (.lstore 5, 2) := dk_55 5 (dk_at dksX0_lowered_1 21 rfl rfl)
theorem dX0_lowered_47 : decode cX0_lowered 47 = .ok (.iload 4, 2) := dk_21 4 (dk_at dksX0_lowered_2 0 rfl rfl)
theorem dX0_lowered_49 : decode cX0_lowered 49 = .ok (.bipush 64, 2) := dk_16 64 (dk_at dksX0_lowered_2 2 rfl rfl)
theorem dX0_lowered_51 : decode cX0_lowered 51 = .ok (.if_icmp .ge 21, 3) := dk_162 0 21 (dk_at dksX0_lowered_2 4 rfl rfl)
theorem dX0_lowered_54 : decode cX0_lowered 54 = .ok (.lload 5, 2) := dk_22 5 (dk_at dksX0_lowered_2 7 rfl rfl)
theorem dX0_lowered_56 : decode cX0_lowered 56 = .ok (.iload 4, 2) := dk_21 4 (dk_at dksX0_lowered_2 9 rfl rfl)
theorem dX0_lowered_58 : decode cX0_lowered 58 = .ok (.lshl, 1) := dk_121 (dk_at dksX0_lowered_2 11 rfl rfl)
theorem dX0_lowered_59 : decode cX0_lowered 59 = .ok (.lload_n 2, 1) := dk_32 (dk_at dksX0_lowered_2 12 rfl rfl)
theorem dX0_lowered_60 : decode cX0_lowered 60 = .ok (.lcmp, 1) := dk_148 (dk_at dksX0_lowered_2 13 rfl rfl)
theorem dX0_lowered_61 : decode cX0_lowered 61 = .ok (.ifCond .ne 7, 3) := dk_154 0 7 (dk_at dksX0_lowered_2 14 rfl rfl)
theorem dX0_lowered_64 : decode cX0_lowered 64 = .ok (.iconst 1, 1) := dk_4 (dk_at dksX0_lowered_2 17 rfl rfl)
theorem dX0_lowered_65 : decode cX0_lowered 65 = .ok (.goto 31, 3) := dk_167 0 31 (dk_at dksX0_lowered_2 18 rfl rfl)
theorem dX0_lowered_68 : decode cX0_lowered 68 = .ok (.iconst 0, 1) := dk_3 (dk_at dksX0_lowered_2 21 rfl rfl)
theorem dX0_lowered_69 : decode cX0_lowered 69 = .ok (.goto 27, 3) := dk_167 0 27 (dk_at dksX0_lowered_3 0 rfl rfl)
theorem dX0_lowered_72 : decode cX0_lowered 72 = .ok (.lload_n 2, 1) := dk_32 (dk_at dksX0_lowered_3 3 rfl rfl)
theorem dX0_lowered_73 : decode cX0_lowered 73 = .ok (.lconst 0, 1) := dk_9 (dk_at dksX0_lowered_3 4 rfl rfl)
theorem dX0_lowered_74 : decode cX0_lowered 74 = .ok (.lcmp, 1) := dk_148 (dk_at dksX0_lowered_3 5 rfl rfl)
theorem dX0_lowered_75 : decode cX0_lowered 75 = .ok (.ifCond .ne 20, 3) := dk_154 0 20 (dk_at dksX0_lowered_3 6 rfl rfl)
theorem dX0_lowered_78 : decode cX0_lowered 78 = .ok (.lload 5, 2) := dk_22 5 (dk_at dksX0_lowered_3 9 rfl rfl)
theorem dX0_lowered_80 : decode cX0_lowered 80 = .ok (.iload 4, 2) := dk_21 4 (dk_at dksX0_lowered_3 11 rfl rfl)
theorem dX0_lowered_82 : decode cX0_lowered 82 = .ok (.bipush 64, 2) := dk_16 64 (dk_at dksX0_lowered_3 13 rfl rfl)
theorem dX0_lowered_84 : decode cX0_lowered 84 = .ok (.isub, 1) := dk_100 (dk_at dksX0_lowered_3 15 rfl rfl)
theorem dX0_lowered_85 : decode cX0_lowered 85 = .ok (.lshl, 1) := dk_121 (dk_at dksX0_lowered_3 16 rfl rfl)
theorem dX0_lowered_86 : decode cX0_lowered 86 = .ok (.lload_n 0, 1) := dk_30 (dk_at dksX0_lowered_3 17 rfl rfl)
theorem dX0_lowered_87 : decode cX0_lowered 87 = .ok (.lcmp, 1) := dk_148 (dk_at dksX0_lowered_3 18 rfl rfl)
theorem dX0_lowered_88 : decode cX0_lowered 88 = .ok (.ifCond .ne 7, 3) := dk_154 0 7 (dk_at dksX0_lowered_3 19 rfl rfl)
theorem dX0_lowered_91 : decode cX0_lowered 91 = .ok (.iconst 1, 1) := dk_4 (dk_at dksX0_lowered_3 22 rfl rfl)
theorem dX0_lowered_92 : decode cX0_lowered 92 = .ok (.goto 4, 3) := dk_167 0 4 (dk_at dksX0_lowered_4 0 rfl rfl)
theorem dX0_lowered_95 : decode cX0_lowered 95 = .ok (.iconst 0, 1) := dk_3 (dk_at dksX0_lowered_4 3 rfl rfl)
theorem dX0_lowered_96 : decode cX0_lowered 96 = .ok (.istore 7, 2) := dk_54 7 (dk_at dksX0_lowered_4 4 rfl rfl)
theorem dX0_lowered_98 : decode cX0_lowered 98 = .ok (.iload 7, 2) := dk_21 7 (dk_at dksX0_lowered_4 6 rfl rfl)
theorem dX0_lowered_100 : decode cX0_lowered 100 = .ok (.ifCond .eq 8, 3) := dk_153 0 8 (dk_at dksX0_lowered_4 8 rfl rfl)
theorem dX0_lowered_103 : decode cX0_lowered 103 = .ok (.lload 5, 2) := dk_22 5 (dk_at dksX0_lowered_4 11 rfl rfl)
theorem dX0_lowered_105 : decode cX0_lowered 105 = .ok (.goto 7, 3) := dk_167 0 7 (dk_at dksX0_lowered_4 13 rfl rfl)
theorem dX0_lowered_108 : decode cX0_lowered 108 = .ok (.lload 5, 2) := dk_22 5 (dk_at dksX0_lowered_4 16 rfl rfl)
theorem dX0_lowered_110 : decode cX0_lowered 110 = .ok (.lconst 1, 1) := dk_10 (dk_at dksX0_lowered_4 18 rfl rfl)
theorem dX0_lowered_111 : decode cX0_lowered 111 = .ok (.lor, 1) := dk_129 (dk_at dksX0_lowered_4 19 rfl rfl)
theorem dX0_lowered_112 : decode cX0_lowered 112 = .ok (.lreturn, 1) := dk_173 (dk_at dksX0_lowered_4 20 rfl rfl)
abbrev cX0_compare : ByteArray := prog_1_method_28_code
def yX0_compare : MethodName := ⟨RX0, "compare", "(IIJJ)I"⟩
def dkwX0_compare_8 : List UInt8 := [167, 0, 16, 24, 7, 24, 9, 151, 154, 0, 7, 4, 167, 0, 4, 5, 172]
abbrev dktX0_compare_8 : List UInt8 := dkwX0_compare_8 ++ []
def dkwX0_compare_7 : List UInt8 := [24, 7, 24, 9, 151, 155, 0, 7, 4, 167, 0, 4, 3, 172, 24, 7, 24, 9, 152, 156, 0, 7, 3]
abbrev dktX0_compare_7 : List UInt8 := dkwX0_compare_7 ++ dktX0_compare_8
def dkwX0_compare_6 : List UInt8 := [157, 0, 7, 4, 167, 0, 4, 3, 172, 24, 7, 24, 9, 151, 158, 0, 7, 4, 167, 0, 4, 3, 172]
abbrev dktX0_compare_6 : List UInt8 := dkwX0_compare_6 ++ dktX0_compare_7
def dkwX0_compare_5 : List UInt8 := [167, 0, 4, 3, 172, 24, 7, 24, 9, 152, 156, 0, 7, 4, 167, 0, 4, 3, 172, 24, 7, 24, 9, 152]
abbrev dktX0_compare_5 : List UInt8 := dkwX0_compare_5 ++ dktX0_compare_6
def dkwX0_compare_4 : List UInt8 := [24, 7, 24, 9, 151, 154, 0, 7, 4, 167, 0, 4, 3, 172, 24, 7, 24, 9, 151, 153, 0, 7, 4]
abbrev dktX0_compare_4 : List UInt8 := dkwX0_compare_4 ++ dktX0_compare_5
def dkwX0_compare_3 : List UInt8 := [170, 0, 0, 0, 0, 0, 123, 0, 0, 0, 0, 0, 0, 0, 5, 0, 0, 0, 39, 0, 0, 0, 53, 0, 0, 0, 67, 0, 0, 0, 81, 0, 0, 0, 95, 0, 0, 0, 109]
abbrev dktX0_compare_3 : List UInt8 := dkwX0_compare_3 ++ dktX0_compare_4
def dkwX0_compare_2 : List UInt8 := [182, 0, 47, 22, 5, 185, 0, 51, 3, 0, 57, 9, 27]
abbrev dktX0_compare_2 : List UInt8 := dkwX0_compare_2 ++ dktX0_compare_3
def dkwX0_compare_1 : List UInt8 := [3, 182, 0, 43, 153, 0, 5, 3, 172, 42, 28, 182, 0, 47, 33, 185, 0, 51, 3, 0, 57, 7, 42, 28]
abbrev dktX0_compare_1 : List UInt8 := dkwX0_compare_1 ++ dktX0_compare_2
def dkwX0_compare_0 : List UInt8 := [42, 27, 133, 9, 20, 0, 210, 184, 0, 172, 153, 0, 14, 28, 184, 0, 39, 153, 0, 7, 4, 167, 0, 4]
abbrev dktX0_compare_0 : List UInt8 := dkwX0_compare_0 ++ dktX0_compare_1
theorem dksX0_compare_0 : cX0_compare.data.toList.drop 0 = dktX0_compare_0 := by decide +kernel
theorem dksX0_compare_1 : cX0_compare.data.toList.drop 24 = dktX0_compare_1 := dk_seg dksX0_compare_0 24 rfl rfl
theorem dksX0_compare_2 : cX0_compare.data.toList.drop 48 = dktX0_compare_2 := dk_seg dksX0_compare_1 24 rfl rfl
theorem dksX0_compare_3 : cX0_compare.data.toList.drop 61 = dktX0_compare_3 := dk_seg dksX0_compare_2 13 rfl rfl
theorem dksX0_compare_4 : cX0_compare.data.toList.drop 100 = dktX0_compare_4 := dk_seg dksX0_compare_3 39 rfl rfl
theorem dksX0_compare_5 : cX0_compare.data.toList.drop 123 = dktX0_compare_5 := dk_seg dksX0_compare_4 23 rfl rfl
theorem dksX0_compare_6 : cX0_compare.data.toList.drop 147 = dktX0_compare_6 := dk_seg dksX0_compare_5 24 rfl rfl
theorem dksX0_compare_7 : cX0_compare.data.toList.drop 170 = dktX0_compare_7 := dk_seg dksX0_compare_6 23 rfl rfl
theorem dksX0_compare_8 : cX0_compare.data.toList.drop 193 = dktX0_compare_8 := dk_seg dksX0_compare_7 23 rfl rfl
theorem dX0_compare_0 : decode cX0_compare 0 = .ok (.aload_n 0, 1) := dk_42 (dk_at dksX0_compare_0 0 rfl rfl)
theorem dX0_compare_1 : decode cX0_compare 1 = .ok (.iload_n 1, 1) := dk_27 (dk_at dksX0_compare_0 1 rfl rfl)
theorem dX0_compare_2 : decode cX0_compare 2 = .ok (.i2l, 1) := dk_133 (dk_at dksX0_compare_0 2 rfl rfl)
theorem dX0_compare_3 : decode cX0_compare 3 = .ok (.lconst 0, 1) := dk_9 (dk_at dksX0_compare_0 3 rfl rfl)
theorem dX0_compare_4 : decode cX0_compare 4 = .ok (.ldc2_w 210, 3) := dk_20 0 210 (dk_at dksX0_compare_0 4 rfl rfl)
theorem dX0_compare_7 : decode cX0_compare 7 = .ok (.invokestatic 172, 3) := dk_184 0 172 (dk_at dksX0_compare_0 7 rfl rfl)
theorem dX0_compare_10 : decode cX0_compare 10 = .ok (.ifCond .eq 14, 3) := dk_153 0 14 (dk_at dksX0_compare_0 10 rfl rfl)
theorem dX0_compare_13 : decode cX0_compare 13 = .ok (.iload_n 2, 1) := dk_28 (dk_at dksX0_compare_0 13 rfl rfl)
theorem dX0_compare_14 : decode cX0_compare 14 = .ok (.invokestatic 39, 3) := dk_184 0 39 (dk_at dksX0_compare_0 14 rfl rfl)
theorem dX0_compare_17 : decode cX0_compare 17 = .ok (.ifCond .eq 7, 3) := dk_153 0 7 (dk_at dksX0_compare_0 17 rfl rfl)
theorem dX0_compare_20 : decode cX0_compare 20 = .ok (.iconst 1, 1) := dk_4 (dk_at dksX0_compare_0 20 rfl rfl)
theorem dX0_compare_21 : decode cX0_compare 21 = .ok (.goto 4, 3) := dk_167 0 4 (dk_at dksX0_compare_0 21 rfl rfl)
theorem dX0_compare_24 : decode cX0_compare 24 = .ok (.iconst 0, 1) := dk_3 (dk_at dksX0_compare_1 0 rfl rfl)
theorem dX0_compare_25 : decode cX0_compare 25 = .ok (.invokevirtual 43, 3) := dk_182 0 43 (dk_at dksX0_compare_1 1 rfl rfl)
theorem dX0_compare_28 : decode cX0_compare 28 = .ok (.ifCond .eq 5, 3) := dk_153 0 5 (dk_at dksX0_compare_1 4 rfl rfl)
theorem dX0_compare_31 : decode cX0_compare 31 = .ok (.iconst 0, 1) := dk_3 (dk_at dksX0_compare_1 7 rfl rfl)
theorem dX0_compare_32 : decode cX0_compare 32 = .ok (.ireturn, 1) := dk_172 (dk_at dksX0_compare_1 8 rfl rfl)
theorem dX0_compare_33 : decode cX0_compare 33 = .ok (.aload_n 0, 1) := dk_42 (dk_at dksX0_compare_1 9 rfl rfl)
theorem dX0_compare_34 : decode cX0_compare 34 = .ok (.iload_n 2, 1) := dk_28 (dk_at dksX0_compare_1 10 rfl rfl)
theorem dX0_compare_35 : decode cX0_compare 35 = .ok (.invokevirtual 47, 3) := dk_182 0 47 (dk_at dksX0_compare_1 11 rfl rfl)
theorem dX0_compare_38 : decode cX0_compare 38 = .ok (.lload_n 3, 1) := dk_33 (dk_at dksX0_compare_1 14 rfl rfl)
theorem dX0_compare_39 : decode cX0_compare 39 = .ok (.invokeinterface 51 3, 5) := by decide +kernel
theorem dX0_compare_44 : decode cX0_compare 44 = .ok (.dstore 7, 2) := dk_57 7 (dk_at dksX0_compare_1 20 rfl rfl)
theorem dX0_compare_46 : decode cX0_compare 46 = .ok (.aload_n 0, 1) := dk_42 (dk_at dksX0_compare_1 22 rfl rfl)
theorem dX0_compare_47 : decode cX0_compare 47 = .ok (.iload_n 2, 1) := dk_28 (dk_at dksX0_compare_1 23 rfl rfl)
theorem dX0_compare_48 : decode cX0_compare 48 = .ok (.invokevirtual 47, 3) := dk_182 0 47 (dk_at dksX0_compare_2 0 rfl rfl)
theorem dX0_compare_51 : decode cX0_compare 51 = .ok (.lload 5, 2) := dk_22 5 (dk_at dksX0_compare_2 3 rfl rfl)
theorem dX0_compare_53 : decode cX0_compare 53 = .ok (.invokeinterface 51 3, 5) := by decide +kernel
theorem dX0_compare_58 : decode cX0_compare 58 = .ok (.dstore 9, 2) := dk_57 9 (dk_at dksX0_compare_2 10 rfl rfl)
theorem dX0_compare_60 : decode cX0_compare 60 = .ok (.iload_n 1, 1) := dk_27 (dk_at dksX0_compare_2 12 rfl rfl)
theorem dX0_compare_61 : decode cX0_compare 61 = .ok (.tableswitch 123 0 5 #[39, 53, 67, 81, 95, 109], 39) := by decide +kernel
theorem dX0_compare_100 : decode cX0_compare 100 = .ok (.dload 7, 2) := dk_24 7 (dk_at dksX0_compare_4 0 rfl rfl)
theorem dX0_compare_102 : decode cX0_compare 102 = .ok (.dload 9, 2) := dk_24 9 (dk_at dksX0_compare_4 2 rfl rfl)
theorem dX0_compare_104 : decode cX0_compare 104 = .ok (.dcmp .l, 1) := dk_151 (dk_at dksX0_compare_4 4 rfl rfl)
theorem dX0_compare_105 : decode cX0_compare 105 = .ok (.ifCond .ne 7, 3) := dk_154 0 7 (dk_at dksX0_compare_4 5 rfl rfl)
theorem dX0_compare_108 : decode cX0_compare 108 = .ok (.iconst 1, 1) := dk_4 (dk_at dksX0_compare_4 8 rfl rfl)
theorem dX0_compare_109 : decode cX0_compare 109 = .ok (.goto 4, 3) := dk_167 0 4 (dk_at dksX0_compare_4 9 rfl rfl)
theorem dX0_compare_112 : decode cX0_compare 112 = .ok (.iconst 0, 1) := dk_3 (dk_at dksX0_compare_4 12 rfl rfl)
theorem dX0_compare_113 : decode cX0_compare 113 = .ok (.ireturn, 1) := dk_172 (dk_at dksX0_compare_4 13 rfl rfl)
theorem dX0_compare_114 : decode cX0_compare 114 = .ok (.dload 7, 2) := dk_24 7 (dk_at dksX0_compare_4 14 rfl rfl)
theorem dX0_compare_116 : decode cX0_compare 116 = .ok (.dload 9, 2) := dk_24 9 (dk_at dksX0_compare_4 16 rfl rfl)
theorem dX0_compare_118 : decode cX0_compare 118 = .ok (.dcmp .l, 1) := dk_151 (dk_at dksX0_compare_4 18 rfl rfl)
theorem dX0_compare_119 : decode cX0_compare 119 = .ok (.ifCond .eq 7, 3) := dk_153 0 7 (dk_at dksX0_compare_4 19 rfl rfl)
theorem dX0_compare_122 : decode cX0_compare 122 = .ok (.iconst 1, 1) := dk_4 (dk_at dksX0_compare_4 22 rfl rfl)
theorem dX0_compare_123 : decode cX0_compare 123 = .ok (.goto 4, 3) := dk_167 0 4 (dk_at dksX0_compare_5 0 rfl rfl)
theorem dX0_compare_126 : decode cX0_compare 126 = .ok (.iconst 0, 1) := dk_3 (dk_at dksX0_compare_5 3 rfl rfl)
theorem dX0_compare_127 : decode cX0_compare 127 = .ok (.ireturn, 1) := dk_172 (dk_at dksX0_compare_5 4 rfl rfl)
theorem dX0_compare_128 : decode cX0_compare 128 = .ok (.dload 7, 2) := dk_24 7 (dk_at dksX0_compare_5 5 rfl rfl)
theorem dX0_compare_130 : decode cX0_compare 130 = .ok (.dload 9, 2) := dk_24 9 (dk_at dksX0_compare_5 7 rfl rfl)
theorem dX0_compare_132 : decode cX0_compare 132 = .ok (.dcmp .g, 1) := dk_152 (dk_at dksX0_compare_5 9 rfl rfl)
theorem dX0_compare_133 : decode cX0_compare 133 = .ok (.ifCond .ge 7, 3) := dk_156 0 7 (dk_at dksX0_compare_5 10 rfl rfl)
theorem dX0_compare_136 : decode cX0_compare 136 = .ok (.iconst 1, 1) := dk_4 (dk_at dksX0_compare_5 13 rfl rfl)
theorem dX0_compare_137 : decode cX0_compare 137 = .ok (.goto 4, 3) := dk_167 0 4 (dk_at dksX0_compare_5 14 rfl rfl)
theorem dX0_compare_140 : decode cX0_compare 140 = .ok (.iconst 0, 1) := dk_3 (dk_at dksX0_compare_5 17 rfl rfl)
theorem dX0_compare_141 : decode cX0_compare 141 = .ok (.ireturn, 1) := dk_172 (dk_at dksX0_compare_5 18 rfl rfl)
theorem dX0_compare_142 : decode cX0_compare 142 = .ok (.dload 7, 2) := dk_24 7 (dk_at dksX0_compare_5 19 rfl rfl)
theorem dX0_compare_144 : decode cX0_compare 144 = .ok (.dload 9, 2) := dk_24 9 (dk_at dksX0_compare_5 21 rfl rfl)
theorem dX0_compare_146 : decode cX0_compare 146 = .ok (.dcmp .g, 1) := dk_152 (dk_at dksX0_compare_5 23 rfl rfl)
theorem dX0_compare_147 : decode cX0_compare 147 = .ok (.ifCond .gt 7, 3) := dk_157 0 7 (dk_at dksX0_compare_6 0 rfl rfl)
theorem dX0_compare_150 : decode cX0_compare 150 = .ok (.iconst 1, 1) := dk_4 (dk_at dksX0_compare_6 3 rfl rfl)
theorem dX0_compare_151 : decode cX0_compare 151 = .ok (.goto 4, 3) := dk_167 0 4 (dk_at dksX0_compare_6 4 rfl rfl)
theorem dX0_compare_154 : decode cX0_compare 154 = .ok (.iconst 0, 1) := dk_3 (dk_at dksX0_compare_6 7 rfl rfl)
theorem dX0_compare_155 : decode cX0_compare 155 = .ok (.ireturn, 1) := dk_172 (dk_at dksX0_compare_6 8 rfl rfl)
theorem dX0_compare_156 : decode cX0_compare 156 = .ok (.dload 7, 2) := dk_24 7 (dk_at dksX0_compare_6 9 rfl rfl)
theorem dX0_compare_158 : decode cX0_compare 158 = .ok (.dload 9, 2) := dk_24 9 (dk_at dksX0_compare_6 11 rfl rfl)
theorem dX0_compare_160 : decode cX0_compare 160 = .ok (.dcmp .l, 1) := dk_151 (dk_at dksX0_compare_6 13 rfl rfl)
theorem dX0_compare_161 : decode cX0_compare 161 = .ok (.ifCond .le 7, 3) := dk_158 0 7 (dk_at dksX0_compare_6 14 rfl rfl)
theorem dX0_compare_164 : decode cX0_compare 164 = .ok (.iconst 1, 1) := dk_4 (dk_at dksX0_compare_6 17 rfl rfl)
theorem dX0_compare_165 : decode cX0_compare 165 = .ok (.goto 4, 3) := dk_167 0 4 (dk_at dksX0_compare_6 18 rfl rfl)
theorem dX0_compare_168 : decode cX0_compare 168 = .ok (.iconst 0, 1) := dk_3 (dk_at dksX0_compare_6 21 rfl rfl)
theorem dX0_compare_169 : decode cX0_compare 169 = .ok (.ireturn, 1) := dk_172 (dk_at dksX0_compare_6 22 rfl rfl)
theorem dX0_compare_170 : decode cX0_compare 170 = .ok (.dload 7, 2) := dk_24 7 (dk_at dksX0_compare_7 0 rfl rfl)
theorem dX0_compare_172 : decode cX0_compare 172 = .ok (.dload 9, 2) := dk_24 9 (dk_at dksX0_compare_7 2 rfl rfl)
theorem dX0_compare_174 : decode cX0_compare 174 = .ok (.dcmp .l, 1) := dk_151 (dk_at dksX0_compare_7 4 rfl rfl)
theorem dX0_compare_175 : decode cX0_compare 175 = .ok (.ifCond .lt 7, 3) := dk_155 0 7 (dk_at dksX0_compare_7 5 rfl rfl)
theorem dX0_compare_178 : decode cX0_compare 178 = .ok (.iconst 1, 1) := dk_4 (dk_at dksX0_compare_7 8 rfl rfl)
theorem dX0_compare_179 : decode cX0_compare 179 = .ok (.goto 4, 3) := dk_167 0 4 (dk_at dksX0_compare_7 9 rfl rfl)
theorem dX0_compare_182 : decode cX0_compare 182 = .ok (.iconst 0, 1) := dk_3 (dk_at dksX0_compare_7 12 rfl rfl)
theorem dX0_compare_183 : decode cX0_compare 183 = .ok (.ireturn, 1) := dk_172 (dk_at dksX0_compare_7 13 rfl rfl)
theorem dX0_compare_184 : decode cX0_compare 184 = .ok (.dload 7, 2) := dk_24 7 (dk_at dksX0_compare_7 14 rfl rfl)
theorem dX0_compare_186 : decode cX0_compare 186 = .ok (.dload 9, 2) := dk_24 9 (dk_at dksX0_compare_7 16 rfl rfl)
theorem dX0_compare_188 : decode cX0_compare 188 = .ok (.dcmp .g, 1) := dk_152 (dk_at dksX0_compare_7 18 rfl rfl)
theorem dX0_compare_189 : decode cX0_compare 189 = .ok (.ifCond .ge 7, 3) := dk_156 0 7 (dk_at dksX0_compare_7 19 rfl rfl)
theorem dX0_compare_192 : decode cX0_compare 192 = .ok (.iconst 0, 1) := dk_3 (dk_at dksX0_compare_7 22 rfl rfl)
theorem dX0_compare_193 : decode cX0_compare 193 = .ok (.goto 16, 3) := dk_167 0 16 (dk_at dksX0_compare_8 0 rfl rfl)
theorem dX0_compare_196 : decode cX0_compare 196 = .ok (.dload 7, 2) := dk_24 7 (dk_at dksX0_compare_8 3 rfl rfl)
theorem dX0_compare_198 : decode cX0_compare 198 = .ok (.dload 9, 2) := dk_24 9 (dk_at dksX0_compare_8 5 rfl rfl)
theorem dX0_compare_200 : decode cX0_compare 200 = .ok (.dcmp .l, 1) := dk_151 (dk_at dksX0_compare_8 7 rfl rfl)
theorem dX0_compare_201 : decode cX0_compare 201 = .ok (.ifCond .ne 7, 3) := dk_154 0 7 (dk_at dksX0_compare_8 8 rfl rfl)
theorem dX0_compare_204 : decode cX0_compare 204 = .ok (.iconst 1, 1) := dk_4 (dk_at dksX0_compare_8 11 rfl rfl)
theorem dX0_compare_205 : decode cX0_compare 205 = .ok (.goto 4, 3) := dk_167 0 4 (dk_at dksX0_compare_8 12 rfl rfl)
theorem dX0_compare_208 : decode cX0_compare 208 = .ok (.iconst 2, 1) := dk_5 (dk_at dksX0_compare_8 15 rfl rfl)
theorem dX0_compare_209 : decode cX0_compare 209 = .ok (.ireturn, 1) := dk_172 (dk_at dksX0_compare_8 16 rfl rfl)
abbrev cX0_power : ByteArray := prog_1_method_29_code
def yX0_power : MethodName := ⟨RX0, "power", "(IJI)J"⟩
def dkwX0_power_1 : List UInt8 := [25, 5, 32, 185, 0, 51, 3, 0, 21, 4, 185, 0, 212, 4, 0, 185, 0, 183, 3, 0, 173]
abbrev dktX0_power_1 : List UInt8 := dkwX0_power_1 ++ []
def dkwX0_power_0 : List UInt8 := [42, 27, 184, 0, 39, 182, 0, 43, 153, 0, 5, 9, 173, 42, 27, 182, 0, 47, 58, 5, 25, 5, 25, 5]
abbrev dktX0_power_0 : List UInt8 := dkwX0_power_0 ++ dktX0_power_1
theorem dksX0_power_0 : cX0_power.data.toList.drop 0 = dktX0_power_0 := by decide +kernel
theorem dksX0_power_1 : cX0_power.data.toList.drop 24 = dktX0_power_1 := dk_seg dksX0_power_0 24 rfl rfl
theorem dX0_power_0 : decode cX0_power 0 = .ok (.aload_n 0, 1) := dk_42 (dk_at dksX0_power_0 0 rfl rfl)
theorem dX0_power_1 : decode cX0_power 1 = .ok (.iload_n 1, 1) := dk_27 (dk_at dksX0_power_0 1 rfl rfl)
theorem dX0_power_2 : decode cX0_power 2 = .ok (.invokestatic 39, 3) := dk_184 0 39 (dk_at dksX0_power_0 2 rfl rfl)
theorem dX0_power_5 : decode cX0_power 5 = .ok (.invokevirtual 43, 3) := dk_182 0 43 (dk_at dksX0_power_0 5 rfl rfl)
theorem dX0_power_8 : decode cX0_power 8 = .ok (.ifCond .eq 5, 3) := dk_153 0 5 (dk_at dksX0_power_0 8 rfl rfl)
theorem dX0_power_11 : decode cX0_power 11 = .ok (.lconst 0, 1) := dk_9 (dk_at dksX0_power_0 11 rfl rfl)
theorem dX0_power_12 : decode cX0_power 12 = .ok (.lreturn, 1) := dk_173 (dk_at dksX0_power_0 12 rfl rfl)
theorem dX0_power_13 : decode cX0_power 13 = .ok (.aload_n 0, 1) := dk_42 (dk_at dksX0_power_0 13 rfl rfl)
theorem dX0_power_14 : decode cX0_power 14 = .ok (.iload_n 1, 1) := dk_27 (dk_at dksX0_power_0 14 rfl rfl)
theorem dX0_power_15 : decode cX0_power 15 = .ok (.invokevirtual 47, 3) := dk_182 0 47 (dk_at dksX0_power_0 15 rfl rfl)
theorem dX0_power_18 : decode cX0_power 18 = .ok (.astore 5, 2) := dk_58 5 (dk_at dksX0_power_0 18 rfl rfl)
theorem dX0_power_20 : decode cX0_power 20 = .ok (.aload 5, 2) := dk_25 5 (dk_at dksX0_power_0 20 rfl rfl)
theorem dX0_power_22 : decode cX0_power 22 = .ok (.aload 5, 2) := dk_25 5 (dk_at dksX0_power_0 22 rfl rfl)
theorem dX0_power_24 : decode cX0_power 24 = .ok (.aload 5, 2) := dk_25 5 (dk_at dksX0_power_1 0 rfl rfl)
theorem dX0_power_26 : decode cX0_power 26 = .ok (.lload_n 2, 1) := dk_32 (dk_at dksX0_power_1 2 rfl rfl)
theorem dX0_power_27 : decode cX0_power 27 = .ok (.invokeinterface 51 3, 5) := by decide +kernel
theorem dX0_power_32 : decode cX0_power 32 = .ok (.iload 4, 2) := dk_21 4 (dk_at dksX0_power_1 8 rfl rfl)
theorem dX0_power_34 : decode cX0_power 34 = .ok (.invokeinterface 212 4, 5) := by decide +kernel
theorem dX0_power_39 : decode cX0_power 39 = .ok (.invokeinterface 183 3, 5) := by decide +kernel
theorem dX0_power_44 : decode cX0_power 44 = .ok (.lreturn, 1) := dk_173 (dk_at dksX0_power_1 20 rfl rfl)
abbrev cX0_whole : ByteArray := prog_1_method_31_code
def yX0_whole : MethodName := ⟨RX0, "whole", "(IJI)J"⟩
def dkwX0_whole_3 : List UInt8 := [143, 173]
abbrev dktX0_whole_3 : List UInt8 := dkwX0_whole_3 ++ []
def dkwX0_whole_2 : List UInt8 := [156, 0, 12, 24, 5, 20, 0, 231, 152, 156, 0, 13, 42, 16, 8, 182, 0, 35, 133, 167, 0, 6, 24, 5]
abbrev dktX0_whole_2 : List UInt8 := dkwX0_whole_2 ++ dktX0_whole_3
def dkwX0_whole_1 : List UInt8 := [182, 0, 47, 32, 185, 0, 51, 3, 0, 21, 4, 184, 0, 226, 57, 5, 24, 5, 20, 0, 229, 151]
abbrev dktX0_whole_1 : List UInt8 := dkwX0_whole_1 ++ dktX0_whole_2
def dkwX0_whole_0 : List UInt8 := [42, 27, 32, 21, 4, 133, 9, 20, 0, 224, 184, 0, 172, 182, 0, 176, 153, 0, 5, 9, 173, 42, 27]
abbrev dktX0_whole_0 : List UInt8 := dkwX0_whole_0 ++ dktX0_whole_1
theorem dksX0_whole_0 : cX0_whole.data.toList.drop 0 = dktX0_whole_0 := by decide +kernel
theorem dksX0_whole_1 : cX0_whole.data.toList.drop 23 = dktX0_whole_1 := dk_seg dksX0_whole_0 23 rfl rfl
theorem dksX0_whole_2 : cX0_whole.data.toList.drop 45 = dktX0_whole_2 := dk_seg dksX0_whole_1 22 rfl rfl
theorem dksX0_whole_3 : cX0_whole.data.toList.drop 69 = dktX0_whole_3 := dk_seg dksX0_whole_2 24 rfl rfl
theorem dX0_whole_0 : decode cX0_whole 0 = .ok (.aload_n 0, 1) := dk_42 (dk_at dksX0_whole_0 0 rfl rfl)
theorem dX0_whole_1 : decode cX0_whole 1 = .ok (.iload_n 1, 1) := dk_27 (dk_at dksX0_whole_0 1 rfl rfl)
theorem dX0_whole_2 : decode cX0_whole 2 = .ok (.lload_n 2, 1) := dk_32 (dk_at dksX0_whole_0 2 rfl rfl)
theorem dX0_whole_3 : decode cX0_whole 3 = .ok (.iload 4, 2) := dk_21 4 (dk_at dksX0_whole_0 3 rfl rfl)
theorem dX0_whole_5 : decode cX0_whole 5 = .ok (.i2l, 1) := dk_133 (dk_at dksX0_whole_0 5 rfl rfl)
theorem dX0_whole_6 : decode cX0_whole 6 = .ok (.lconst 0, 1) := dk_9 (dk_at dksX0_whole_0 6 rfl rfl)
theorem dX0_whole_7 : decode cX0_whole 7 = .ok (.ldc2_w 224, 3) := dk_20 0 224 (dk_at dksX0_whole_0 7 rfl rfl)
theorem dX0_whole_10 : decode cX0_whole 10 = .ok (.invokestatic 172, 3) := dk_184 0 172 (dk_at dksX0_whole_0 10 rfl rfl)
theorem dX0_whole_13 : decode cX0_whole 13 = .ok (.invokevirtual 176, 3) := dk_182 0 176 (dk_at dksX0_whole_0 13 rfl rfl)
theorem dX0_whole_16 : decode cX0_whole 16 = .ok (.ifCond .eq 5, 3) := dk_153 0 5 (dk_at dksX0_whole_0 16 rfl rfl)
theorem dX0_whole_19 : decode cX0_whole 19 = .ok (.lconst 0, 1) := dk_9 (dk_at dksX0_whole_0 19 rfl rfl)
theorem dX0_whole_20 : decode cX0_whole 20 = .ok (.lreturn, 1) := dk_173 (dk_at dksX0_whole_0 20 rfl rfl)
theorem dX0_whole_21 : decode cX0_whole 21 = .ok (.aload_n 0, 1) := dk_42 (dk_at dksX0_whole_0 21 rfl rfl)
theorem dX0_whole_22 : decode cX0_whole 22 = .ok (.iload_n 1, 1) := dk_27 (dk_at dksX0_whole_0 22 rfl rfl)
theorem dX0_whole_23 : decode cX0_whole 23 = .ok (.invokevirtual 47, 3) := dk_182 0 47 (dk_at dksX0_whole_1 0 rfl rfl)
theorem dX0_whole_26 : decode cX0_whole 26 = .ok (.lload_n 2, 1) := dk_32 (dk_at dksX0_whole_1 3 rfl rfl)
theorem dX0_whole_27 : decode cX0_whole 27 = .ok (.invokeinterface 51 3, 5) := by decide +kernel
theorem dX0_whole_32 : decode cX0_whole 32 = .ok (.iload 4, 2) := dk_21 4 (dk_at dksX0_whole_1 9 rfl rfl)
theorem dX0_whole_34 : decode cX0_whole 34 = .ok (.invokestatic 226, 3) := dk_184 0 226 (dk_at dksX0_whole_1 11 rfl rfl)
theorem dX0_whole_37 : decode cX0_whole 37 = .ok (.dstore 5, 2) := dk_57 5 (dk_at dksX0_whole_1 14 rfl rfl)
theorem dX0_whole_39 : decode cX0_whole 39 = .ok (.dload 5, 2) := dk_24 5 (dk_at dksX0_whole_1 16 rfl rfl)
theorem dX0_whole_41 : decode cX0_whole 41 = .ok (.ldc2_w 229, 3) := dk_20 0 229 (dk_at dksX0_whole_1 18 rfl rfl)
theorem dX0_whole_44 : decode cX0_whole 44 = .ok (.dcmp .l, 1) := dk_151 (dk_at dksX0_whole_1 21 rfl rfl)
theorem dX0_whole_45 : decode cX0_whole 45 = .ok (.ifCond .ge 12, 3) := dk_156 0 12 (dk_at dksX0_whole_2 0 rfl rfl)
theorem dX0_whole_48 : decode cX0_whole 48 = .ok (.dload 5, 2) := dk_24 5 (dk_at dksX0_whole_2 3 rfl rfl)
theorem dX0_whole_50 : decode cX0_whole 50 = .ok (.ldc2_w 231, 3) := dk_20 0 231 (dk_at dksX0_whole_2 5 rfl rfl)
theorem dX0_whole_53 : decode cX0_whole 53 = .ok (.dcmp .g, 1) := dk_152 (dk_at dksX0_whole_2 8 rfl rfl)
theorem dX0_whole_54 : decode cX0_whole 54 = .ok (.ifCond .ge 13, 3) := dk_156 0 13 (dk_at dksX0_whole_2 9 rfl rfl)
theorem dX0_whole_57 : decode cX0_whole 57 = .ok (.aload_n 0, 1) := dk_42 (dk_at dksX0_whole_2 12 rfl rfl)
theorem dX0_whole_58 : decode cX0_whole 58 = .ok (.bipush 8, 2) := dk_16 8 (dk_at dksX0_whole_2 13 rfl rfl)
theorem dX0_whole_60 : decode cX0_whole 60 = .ok (.invokevirtual 35, 3) := dk_182 0 35 (dk_at dksX0_whole_2 15 rfl rfl)
theorem dX0_whole_63 : decode cX0_whole 63 = .ok (.i2l, 1) := dk_133 (dk_at dksX0_whole_2 18 rfl rfl)
theorem dX0_whole_64 : decode cX0_whole 64 = .ok (.goto 6, 3) := dk_167 0 6 (dk_at dksX0_whole_2 19 rfl rfl)
theorem dX0_whole_67 : decode cX0_whole 67 = .ok (.dload 5, 2) := dk_24 5 (dk_at dksX0_whole_2 22 rfl rfl)
theorem dX0_whole_69 : decode cX0_whole 69 = .ok (.d2l, 1) := dk_143 (dk_at dksX0_whole_3 0 rfl rfl)
theorem dX0_whole_70 : decode cX0_whole 70 = .ok (.lreturn, 1) := dk_173 (dk_at dksX0_whole_3 1 rfl rfl)
abbrev cX0_wholeOf : ByteArray := prog_1_method_30_code
def yX0_wholeOf : MethodName := ⟨RX0, "wholeOf", "(DI)D"⟩
def dkwX0_wholeOf_2 : List UInt8 := [38, 184, 0, 221, 175]
abbrev dktX0_wholeOf_2 : List UInt8 := dkwX0_wholeOf_2 ++ []
def dkwX0_wholeOf_1 : List UInt8 := [28, 4, 160, 0, 10, 38, 184, 0, 218, 167, 0, 19, 28, 5, 160, 0, 10, 38, 184, 0, 215, 167, 0, 7]
abbrev dktX0_wholeOf_1 : List UInt8 := dkwX0_wholeOf_1 ++ dktX0_wholeOf_2
def dkwX0_wholeOf_0 : List UInt8 := [28, 154, 0, 23, 38, 14, 152, 156, 0, 10, 38, 184, 0, 215, 167, 0, 38, 38, 184, 0, 218, 167, 0, 31]
abbrev dktX0_wholeOf_0 : List UInt8 := dkwX0_wholeOf_0 ++ dktX0_wholeOf_1
theorem dksX0_wholeOf_0 : cX0_wholeOf.data.toList.drop 0 = dktX0_wholeOf_0 := by decide +kernel
theorem dksX0_wholeOf_1 : cX0_wholeOf.data.toList.drop 24 = dktX0_wholeOf_1 := dk_seg dksX0_wholeOf_0 24 rfl rfl
theorem dksX0_wholeOf_2 : cX0_wholeOf.data.toList.drop 48 = dktX0_wholeOf_2 := dk_seg dksX0_wholeOf_1 24 rfl rfl
theorem dX0_wholeOf_0 : decode cX0_wholeOf 0 = .ok (.iload_n 2, 1) := dk_28 (dk_at dksX0_wholeOf_0 0 rfl rfl)
theorem dX0_wholeOf_1 : decode cX0_wholeOf 1 = .ok (.ifCond .ne 23, 3) := dk_154 0 23 (dk_at dksX0_wholeOf_0 1 rfl rfl)
theorem dX0_wholeOf_4 : decode cX0_wholeOf 4 = .ok (.dload_n 0, 1) := dk_38 (dk_at dksX0_wholeOf_0 4 rfl rfl)
theorem dX0_wholeOf_5 : decode cX0_wholeOf 5 = .ok (.dconst 0, 1) := dk_14 (dk_at dksX0_wholeOf_0 5 rfl rfl)
theorem dX0_wholeOf_6 : decode cX0_wholeOf 6 = .ok (.dcmp .g, 1) := dk_152 (dk_at dksX0_wholeOf_0 6 rfl rfl)
theorem dX0_wholeOf_7 : decode cX0_wholeOf 7 = .ok (.ifCond .ge 10, 3) := dk_156 0 10 (dk_at dksX0_wholeOf_0 7 rfl rfl)
theorem dX0_wholeOf_10 : decode cX0_wholeOf 10 = .ok (.dload_n 0, 1) := dk_38 (dk_at dksX0_wholeOf_0 10 rfl rfl)
theorem dX0_wholeOf_11 : decode cX0_wholeOf 11 = .ok (.invokestatic 215, 3) := dk_184 0 215 (dk_at dksX0_wholeOf_0 11 rfl rfl)
theorem dX0_wholeOf_14 : decode cX0_wholeOf 14 = .ok (.goto 38, 3) := dk_167 0 38 (dk_at dksX0_wholeOf_0 14 rfl rfl)
theorem dX0_wholeOf_17 : decode cX0_wholeOf 17 = .ok (.dload_n 0, 1) := dk_38 (dk_at dksX0_wholeOf_0 17 rfl rfl)
theorem dX0_wholeOf_18 : decode cX0_wholeOf 18 = .ok (.invokestatic 218, 3) := dk_184 0 218 (dk_at dksX0_wholeOf_0 18 rfl rfl)
theorem dX0_wholeOf_21 : decode cX0_wholeOf 21 = .ok (.goto 31, 3) := dk_167 0 31 (dk_at dksX0_wholeOf_0 21 rfl rfl)
theorem dX0_wholeOf_24 : decode cX0_wholeOf 24 = .ok (.iload_n 2, 1) := dk_28 (dk_at dksX0_wholeOf_1 0 rfl rfl)
theorem dX0_wholeOf_25 : decode cX0_wholeOf 25 = .ok (.iconst 1, 1) := dk_4 (dk_at dksX0_wholeOf_1 1 rfl rfl)
theorem dX0_wholeOf_26 : decode cX0_wholeOf 26 = .ok (.if_icmp .ne 10, 3) := dk_160 0 10 (dk_at dksX0_wholeOf_1 2 rfl rfl)
theorem dX0_wholeOf_29 : decode cX0_wholeOf 29 = .ok (.dload_n 0, 1) := dk_38 (dk_at dksX0_wholeOf_1 5 rfl rfl)
theorem dX0_wholeOf_30 : decode cX0_wholeOf 30 = .ok (.invokestatic 218, 3) := dk_184 0 218 (dk_at dksX0_wholeOf_1 6 rfl rfl)
theorem dX0_wholeOf_33 : decode cX0_wholeOf 33 = .ok (.goto 19, 3) := dk_167 0 19 (dk_at dksX0_wholeOf_1 9 rfl rfl)
theorem dX0_wholeOf_36 : decode cX0_wholeOf 36 = .ok (.iload_n 2, 1) := dk_28 (dk_at dksX0_wholeOf_1 12 rfl rfl)
theorem dX0_wholeOf_37 : decode cX0_wholeOf 37 = .ok (.iconst 2, 1) := dk_5 (dk_at dksX0_wholeOf_1 13 rfl rfl)
theorem dX0_wholeOf_38 : decode cX0_wholeOf 38 = .ok (.if_icmp .ne 10, 3) := dk_160 0 10 (dk_at dksX0_wholeOf_1 14 rfl rfl)
theorem dX0_wholeOf_41 : decode cX0_wholeOf 41 = .ok (.dload_n 0, 1) := dk_38 (dk_at dksX0_wholeOf_1 17 rfl rfl)
theorem dX0_wholeOf_42 : decode cX0_wholeOf 42 = .ok (.invokestatic 215, 3) := dk_184 0 215 (dk_at dksX0_wholeOf_1 18 rfl rfl)
theorem dX0_wholeOf_45 : decode cX0_wholeOf 45 = .ok (.goto 7, 3) := dk_167 0 7 (dk_at dksX0_wholeOf_1 21 rfl rfl)
theorem dX0_wholeOf_48 : decode cX0_wholeOf 48 = .ok (.dload_n 0, 1) := dk_38 (dk_at dksX0_wholeOf_2 0 rfl rfl)
theorem dX0_wholeOf_49 : decode cX0_wholeOf 49 = .ok (.invokestatic 221, 3) := dk_184 0 221 (dk_at dksX0_wholeOf_2 1 rfl rfl)
theorem dX0_wholeOf_52 : decode cX0_wholeOf 52 = .ok (.dreturn, 1) := dk_175 (dk_at dksX0_wholeOf_2 4 rfl rfl)
abbrev cX0_bounded : ByteArray := prog_1_method_32_code
def yX0_bounded : MethodName := ⟨RX0, "bounded", "(IJII)J"⟩
def dkwX0_bounded_6 : List UInt8 := [167, 0, 18, 21, 5, 5, 160, 0, 10, 22, 8, 136, 133, 167, 0, 5, 22, 8, 173]
abbrev dktX0_bounded_6 : List UInt8 := dkwX0_bounded_6 ++ []
def dkwX0_bounded_5 : List UInt8 := [154, 0, 11, 22, 8, 136, 145, 133, 167, 0, 32, 21, 5, 4, 160, 0, 11, 22, 8, 136, 147, 133]
abbrev dktX0_bounded_5 : List UInt8 := dkwX0_bounded_5 ++ dktX0_bounded_6
def dkwX0_bounded_4 : List UInt8 := [16, 63, 164, 0, 7, 9, 167, 0, 14, 24, 6, 21, 10, 184, 0, 134, 143, 21, 10, 121, 55, 8, 21, 5]
abbrev dktX0_bounded_4 : List UInt8 := dkwX0_bounded_4 ++ dktX0_bounded_5
def dkwX0_bounded_3 : List UInt8 := [20, 0, 233, 151, 155, 0, 41, 42, 4, 182, 0, 47, 24, 6, 185, 0, 180, 3, 0, 54, 10, 21, 10]
abbrev dktX0_bounded_3 : List UInt8 := dkwX0_bounded_3 ++ dktX0_bounded_4
def dkwX0_bounded_2 : List UInt8 := [32, 185, 0, 51, 3, 0, 21, 4, 184, 0, 226, 57, 6, 24, 6, 143, 55, 8, 24, 6, 184, 0, 137]
abbrev dktX0_bounded_2 : List UInt8 := dkwX0_bounded_2 ++ dktX0_bounded_3
def dkwX0_bounded_1 : List UInt8 := [184, 0, 172, 153, 0, 7, 4, 167, 0, 4, 3, 182, 0, 176, 153, 0, 5, 9, 173, 42, 27, 182, 0, 47]
abbrev dktX0_bounded_1 : List UInt8 := dkwX0_bounded_1 ++ dktX0_bounded_2
def dkwX0_bounded_0 : List UInt8 := [42, 27, 32, 21, 4, 133, 9, 20, 0, 224, 184, 0, 172, 153, 0, 20, 21, 5, 133, 9, 20, 0, 224]
abbrev dktX0_bounded_0 : List UInt8 := dkwX0_bounded_0 ++ dktX0_bounded_1
theorem dksX0_bounded_0 : cX0_bounded.data.toList.drop 0 = dktX0_bounded_0 := by decide +kernel
theorem dksX0_bounded_1 : cX0_bounded.data.toList.drop 23 = dktX0_bounded_1 := dk_seg dksX0_bounded_0 23 rfl rfl
theorem dksX0_bounded_2 : cX0_bounded.data.toList.drop 47 = dktX0_bounded_2 := dk_seg dksX0_bounded_1 24 rfl rfl
theorem dksX0_bounded_3 : cX0_bounded.data.toList.drop 70 = dktX0_bounded_3 := dk_seg dksX0_bounded_2 23 rfl rfl
theorem dksX0_bounded_4 : cX0_bounded.data.toList.drop 93 = dktX0_bounded_4 := dk_seg dksX0_bounded_3 23 rfl rfl
theorem dksX0_bounded_5 : cX0_bounded.data.toList.drop 117 = dktX0_bounded_5 := dk_seg dksX0_bounded_4 24 rfl rfl
theorem dksX0_bounded_6 : cX0_bounded.data.toList.drop 139 = dktX0_bounded_6 := dk_seg dksX0_bounded_5 22 rfl rfl
theorem dX0_bounded_0 : decode cX0_bounded 0 = .ok (.aload_n 0, 1) := dk_42 (dk_at dksX0_bounded_0 0 rfl rfl)
theorem dX0_bounded_1 : decode cX0_bounded 1 = .ok (.iload_n 1, 1) := dk_27 (dk_at dksX0_bounded_0 1 rfl rfl)
theorem dX0_bounded_2 : decode cX0_bounded 2 = .ok (.lload_n 2, 1) := dk_32 (dk_at dksX0_bounded_0 2 rfl rfl)
theorem dX0_bounded_3 : decode cX0_bounded 3 = .ok (.iload 4, 2) := dk_21 4 (dk_at dksX0_bounded_0 3 rfl rfl)
theorem dX0_bounded_5 : decode cX0_bounded 5 = .ok (.i2l, 1) := dk_133 (dk_at dksX0_bounded_0 5 rfl rfl)
theorem dX0_bounded_6 : decode cX0_bounded 6 = .ok (.lconst 0, 1) := dk_9 (dk_at dksX0_bounded_0 6 rfl rfl)
theorem dX0_bounded_7 : decode cX0_bounded 7 = .ok (.ldc2_w 224, 3) := dk_20 0 224 (dk_at dksX0_bounded_0 7 rfl rfl)
theorem dX0_bounded_10 : decode cX0_bounded 10 = .ok (.invokestatic 172, 3) := dk_184 0 172 (dk_at dksX0_bounded_0 10 rfl rfl)
theorem dX0_bounded_13 : decode cX0_bounded 13 = .ok (.ifCond .eq 20, 3) := dk_153 0 20 (dk_at dksX0_bounded_0 13 rfl rfl)
theorem dX0_bounded_16 : decode cX0_bounded 16 = .ok (.iload 5, 2) := dk_21 5 (dk_at dksX0_bounded_0 16 rfl rfl)
theorem dX0_bounded_18 : decode cX0_bounded 18 = .ok (.i2l, 1) := dk_133 (dk_at dksX0_bounded_0 18 rfl rfl)
theorem dX0_bounded_19 : decode cX0_bounded 19 = .ok (.lconst 0, 1) := dk_9 (dk_at dksX0_bounded_0 19 rfl rfl)
theorem dX0_bounded_20 : decode cX0_bounded 20 = .ok (.ldc2_w 224, 3) := dk_20 0 224 (dk_at dksX0_bounded_0 20 rfl rfl)
theorem dX0_bounded_23 : decode cX0_bounded 23 = .ok (.invokestatic 172, 3) := dk_184 0 172 (dk_at dksX0_bounded_1 0 rfl rfl)
theorem dX0_bounded_26 : decode cX0_bounded 26 = .ok (.ifCond .eq 7, 3) := dk_153 0 7 (dk_at dksX0_bounded_1 3 rfl rfl)
theorem dX0_bounded_29 : decode cX0_bounded 29 = .ok (.iconst 1, 1) := dk_4 (dk_at dksX0_bounded_1 6 rfl rfl)
theorem dX0_bounded_30 : decode cX0_bounded 30 = .ok (.goto 4, 3) := dk_167 0 4 (dk_at dksX0_bounded_1 7 rfl rfl)
theorem dX0_bounded_33 : decode cX0_bounded 33 = .ok (.iconst 0, 1) := dk_3 (dk_at dksX0_bounded_1 10 rfl rfl)
theorem dX0_bounded_34 : decode cX0_bounded 34 = .ok (.invokevirtual 176, 3) := dk_182 0 176 (dk_at dksX0_bounded_1 11 rfl rfl)
theorem dX0_bounded_37 : decode cX0_bounded 37 = .ok (.ifCond .eq 5, 3) := dk_153 0 5 (dk_at dksX0_bounded_1 14 rfl rfl)
theorem dX0_bounded_40 : decode cX0_bounded 40 = .ok (.lconst 0, 1) := dk_9 (dk_at dksX0_bounded_1 17 rfl rfl)
theorem dX0_bounded_41 : decode cX0_bounded 41 = .ok (.lreturn, 1) := dk_173 (dk_at dksX0_bounded_1 18 rfl rfl)
theorem dX0_bounded_42 : decode cX0_bounded 42 = .ok (.aload_n 0, 1) := dk_42 (dk_at dksX0_bounded_1 19 rfl rfl)
theorem dX0_bounded_43 : decode cX0_bounded 43 = .ok (.iload_n 1, 1) := dk_27 (dk_at dksX0_bounded_1 20 rfl rfl)
theorem dX0_bounded_44 : decode cX0_bounded 44 = .ok (.invokevirtual 47, 3) := dk_182 0 47 (dk_at dksX0_bounded_1 21 rfl rfl)
theorem dX0_bounded_47 : decode cX0_bounded 47 = .ok (.lload_n 2, 1) := dk_32 (dk_at dksX0_bounded_2 0 rfl rfl)
theorem dX0_bounded_48 : decode cX0_bounded 48 = .ok (.invokeinterface 51 3, 5) := by decide +kernel
theorem dX0_bounded_53 : decode cX0_bounded 53 = .ok (.iload 4, 2) := dk_21 4 (dk_at dksX0_bounded_2 6 rfl rfl)
theorem dX0_bounded_55 : decode cX0_bounded 55 = .ok (.invokestatic 226, 3) := dk_184 0 226 (dk_at dksX0_bounded_2 8 rfl rfl)
theorem dX0_bounded_58 : decode cX0_bounded 58 = .ok (.dstore 6, 2) := dk_57 6 (dk_at dksX0_bounded_2 11 rfl rfl)
theorem dX0_bounded_60 : decode cX0_bounded 60 = .ok (.dload 6, 2) := dk_24 6 (dk_at dksX0_bounded_2 13 rfl rfl)
theorem dX0_bounded_62 : decode cX0_bounded 62 = .ok (.d2l, 1) := dk_143 (dk_at dksX0_bounded_2 15 rfl rfl)
theorem dX0_bounded_63 : decode cX0_bounded 63 = .ok (.lstore 8, 2) := dk_55 8 (dk_at dksX0_bounded_2 16 rfl rfl)
theorem dX0_bounded_65 : decode cX0_bounded 65 = .ok (.dload 6, 2) := dk_24 6 (dk_at dksX0_bounded_2 18 rfl rfl)
theorem dX0_bounded_67 : decode cX0_bounded 67 = .ok (.invokestatic 137, 3) := dk_184 0 137 (dk_at dksX0_bounded_2 20 rfl rfl)
theorem dX0_bounded_70 : decode cX0_bounded 70 = .ok (.ldc2_w 233, 3) := dk_20 0 233 (dk_at dksX0_bounded_3 0 rfl rfl)
theorem dX0_bounded_73 : decode cX0_bounded 73 = .ok (.dcmp .l, 1) := dk_151 (dk_at dksX0_bounded_3 3 rfl rfl)
theorem dX0_bounded_74 : decode cX0_bounded 74 = .ok (.ifCond .lt 41, 3) := dk_155 0 41 (dk_at dksX0_bounded_3 4 rfl rfl)
theorem dX0_bounded_77 : decode cX0_bounded 77 = .ok (.aload_n 0, 1) := dk_42 (dk_at dksX0_bounded_3 7 rfl rfl)
theorem dX0_bounded_78 : decode cX0_bounded 78 = .ok (.iconst 1, 1) := dk_4 (dk_at dksX0_bounded_3 8 rfl rfl)
theorem dX0_bounded_79 : decode cX0_bounded 79 = .ok (.invokevirtual 47, 3) := dk_182 0 47 (dk_at dksX0_bounded_3 9 rfl rfl)
theorem dX0_bounded_82 : decode cX0_bounded 82 = .ok (.dload 6, 2) := dk_24 6 (dk_at dksX0_bounded_3 12 rfl rfl)
theorem dX0_bounded_84 : decode cX0_bounded 84 = .ok (.invokeinterface 180 3, 5) := by decide +kernel
theorem dX0_bounded_89 : decode cX0_bounded 89 = .ok (.istore 10, 2) := dk_54 10 (dk_at dksX0_bounded_3 19 rfl rfl)
theorem dX0_bounded_91 : decode cX0_bounded 91 = .ok (.iload 10, 2) := dk_21 10 (dk_at dksX0_bounded_3 21 rfl rfl)
theorem dX0_bounded_93 : decode cX0_bounded 93 = .ok (.bipush 63, 2) := dk_16 63 (dk_at dksX0_bounded_4 0 rfl rfl)
theorem dX0_bounded_95 : decode cX0_bounded 95 = .ok (.if_icmp .le 7, 3) := dk_164 0 7 (dk_at dksX0_bounded_4 2 rfl rfl)
theorem dX0_bounded_98 : decode cX0_bounded 98 = .ok (.lconst 0, 1) := dk_9 (dk_at dksX0_bounded_4 5 rfl rfl)
theorem dX0_bounded_99 : decode cX0_bounded 99 = .ok (.goto 14, 3) := dk_167 0 14 (dk_at dksX0_bounded_4 6 rfl rfl)
theorem dX0_bounded_102 : decode cX0_bounded 102 = .ok (.dload 6, 2) := dk_24 6 (dk_at dksX0_bounded_4 9 rfl rfl)
theorem dX0_bounded_104 : decode cX0_bounded 104 = .ok (.iload 10, 2) := dk_21 10 (dk_at dksX0_bounded_4 11 rfl rfl)
theorem dX0_bounded_106 : decode cX0_bounded 106 = .ok (.invokestatic 134, 3) := dk_184 0 134 (dk_at dksX0_bounded_4 13 rfl rfl)
theorem dX0_bounded_109 : decode cX0_bounded 109 = .ok (.d2l, 1) := dk_143 (dk_at dksX0_bounded_4 16 rfl rfl)
theorem dX0_bounded_110 : decode cX0_bounded 110 = .ok (.iload 10, 2) := dk_21 10 (dk_at dksX0_bounded_4 17 rfl rfl)
theorem dX0_bounded_112 : decode cX0_bounded 112 = .ok (.lshl, 1) := dk_121 (dk_at dksX0_bounded_4 19 rfl rfl)
theorem dX0_bounded_113 : decode cX0_bounded 113 = .ok (.lstore 8, 2) := dk_55 8 (dk_at dksX0_bounded_4 20 rfl rfl)
theorem dX0_bounded_115 : decode cX0_bounded 115 = .ok (.iload 5, 2) := dk_21 5 (dk_at dksX0_bounded_4 22 rfl rfl)
theorem dX0_bounded_117 : decode cX0_bounded 117 = .ok (.ifCond .ne 11, 3) := dk_154 0 11 (dk_at dksX0_bounded_5 0 rfl rfl)
theorem dX0_bounded_120 : decode cX0_bounded 120 = .ok (.lload 8, 2) := dk_22 8 (dk_at dksX0_bounded_5 3 rfl rfl)
theorem dX0_bounded_122 : decode cX0_bounded 122 = .ok (.l2i, 1) := dk_136 (dk_at dksX0_bounded_5 5 rfl rfl)
theorem dX0_bounded_123 : decode cX0_bounded 123 = .ok (.i2b, 1) := dk_145 (dk_at dksX0_bounded_5 6 rfl rfl)
theorem dX0_bounded_124 : decode cX0_bounded 124 = .ok (.i2l, 1) := dk_133 (dk_at dksX0_bounded_5 7 rfl rfl)
theorem dX0_bounded_125 : decode cX0_bounded 125 = .ok (.goto 32, 3) := dk_167 0 32 (dk_at dksX0_bounded_5 8 rfl rfl)
theorem dX0_bounded_128 : decode cX0_bounded 128 = .ok (.iload 5, 2) := dk_21 5 (dk_at dksX0_bounded_5 11 rfl rfl)
theorem dX0_bounded_130 : decode cX0_bounded 130 = .ok (.iconst 1, 1) := dk_4 (dk_at dksX0_bounded_5 13 rfl rfl)
theorem dX0_bounded_131 : decode cX0_bounded 131 = .ok (.if_icmp .ne 11, 3) := dk_160 0 11 (dk_at dksX0_bounded_5 14 rfl rfl)
theorem dX0_bounded_134 : decode cX0_bounded 134 = .ok (.lload 8, 2) := dk_22 8 (dk_at dksX0_bounded_5 17 rfl rfl)
theorem dX0_bounded_136 : decode cX0_bounded 136 = .ok (.l2i, 1) := dk_136 (dk_at dksX0_bounded_5 19 rfl rfl)
theorem dX0_bounded_137 : decode cX0_bounded 137 = .ok (.i2s, 1) := dk_147 (dk_at dksX0_bounded_5 20 rfl rfl)
theorem dX0_bounded_138 : decode cX0_bounded 138 = .ok (.i2l, 1) := dk_133 (dk_at dksX0_bounded_5 21 rfl rfl)
theorem dX0_bounded_139 : decode cX0_bounded 139 = .ok (.goto 18, 3) := dk_167 0 18 (dk_at dksX0_bounded_6 0 rfl rfl)
theorem dX0_bounded_142 : decode cX0_bounded 142 = .ok (.iload 5, 2) := dk_21 5 (dk_at dksX0_bounded_6 3 rfl rfl)
theorem dX0_bounded_144 : decode cX0_bounded 144 = .ok (.iconst 2, 1) := dk_5 (dk_at dksX0_bounded_6 5 rfl rfl)
theorem dX0_bounded_145 : decode cX0_bounded 145 = .ok (.if_icmp .ne 10, 3) := dk_160 0 10 (dk_at dksX0_bounded_6 6 rfl rfl)
theorem dX0_bounded_148 : decode cX0_bounded 148 = .ok (.lload 8, 2) := dk_22 8 (dk_at dksX0_bounded_6 9 rfl rfl)
theorem dX0_bounded_150 : decode cX0_bounded 150 = .ok (.l2i, 1) := dk_136 (dk_at dksX0_bounded_6 11 rfl rfl)
theorem dX0_bounded_151 : decode cX0_bounded 151 = .ok (.i2l, 1) := dk_133 (dk_at dksX0_bounded_6 12 rfl rfl)
theorem dX0_bounded_152 : decode cX0_bounded 152 = .ok (.goto 5, 3) := dk_167 0 5 (dk_at dksX0_bounded_6 13 rfl rfl)
theorem dX0_bounded_155 : decode cX0_bounded 155 = .ok (.lload 8, 2) := dk_22 8 (dk_at dksX0_bounded_6 16 rfl rfl)
theorem dX0_bounded_157 : decode cX0_bounded 157 = .ok (.lreturn, 1) := dk_173 (dk_at dksX0_bounded_6 18 rfl rfl)
abbrev cX0_fraction : ByteArray := prog_1_method_33_code
def yX0_fraction : MethodName := ⟨RX0, "fraction", "(IJ)J"⟩
def dkwX0_fraction_2 : List UInt8 := [185, 0, 183, 3, 0, 173]
abbrev dktX0_fraction_2 : List UInt8 := dkwX0_fraction_2 ++ []
def dkwX0_fraction_1 : List UInt8 := [57, 4, 42, 27, 182, 0, 47, 24, 4, 24, 4, 3, 184, 0, 226, 103, 24, 4, 184, 0, 235]
abbrev dktX0_fraction_1 : List UInt8 := dkwX0_fraction_1 ++ dktX0_fraction_2
def dkwX0_fraction_0 : List UInt8 := [42, 27, 32, 4, 182, 0, 176, 153, 0, 5, 9, 173, 42, 27, 182, 0, 47, 32, 185, 0, 51, 3, 0]
abbrev dktX0_fraction_0 : List UInt8 := dkwX0_fraction_0 ++ dktX0_fraction_1
theorem dksX0_fraction_0 : cX0_fraction.data.toList.drop 0 = dktX0_fraction_0 := by decide +kernel
theorem dksX0_fraction_1 : cX0_fraction.data.toList.drop 23 = dktX0_fraction_1 := dk_seg dksX0_fraction_0 23 rfl rfl
theorem dksX0_fraction_2 : cX0_fraction.data.toList.drop 44 = dktX0_fraction_2 := dk_seg dksX0_fraction_1 21 rfl rfl
theorem dX0_fraction_0 : decode cX0_fraction 0 = .ok (.aload_n 0, 1) := dk_42 (dk_at dksX0_fraction_0 0 rfl rfl)
theorem dX0_fraction_1 : decode cX0_fraction 1 = .ok (.iload_n 1, 1) := dk_27 (dk_at dksX0_fraction_0 1 rfl rfl)
theorem dX0_fraction_2 : decode cX0_fraction 2 = .ok (.lload_n 2, 1) := dk_32 (dk_at dksX0_fraction_0 2 rfl rfl)
theorem dX0_fraction_3 : decode cX0_fraction 3 = .ok (.iconst 1, 1) := dk_4 (dk_at dksX0_fraction_0 3 rfl rfl)
theorem dX0_fraction_4 : decode cX0_fraction 4 = .ok (.invokevirtual 176, 3) := dk_182 0 176 (dk_at dksX0_fraction_0 4 rfl rfl)
theorem dX0_fraction_7 : decode cX0_fraction 7 = .ok (.ifCond .eq 5, 3) := dk_153 0 5 (dk_at dksX0_fraction_0 7 rfl rfl)
theorem dX0_fraction_10 : decode cX0_fraction 10 = .ok (.lconst 0, 1) := dk_9 (dk_at dksX0_fraction_0 10 rfl rfl)
theorem dX0_fraction_11 : decode cX0_fraction 11 = .ok (.lreturn, 1) := dk_173 (dk_at dksX0_fraction_0 11 rfl rfl)
theorem dX0_fraction_12 : decode cX0_fraction 12 = .ok (.aload_n 0, 1) := dk_42 (dk_at dksX0_fraction_0 12 rfl rfl)
theorem dX0_fraction_13 : decode cX0_fraction 13 = .ok (.iload_n 1, 1) := dk_27 (dk_at dksX0_fraction_0 13 rfl rfl)
theorem dX0_fraction_14 : decode cX0_fraction 14 = .ok (.invokevirtual 47, 3) := dk_182 0 47 (dk_at dksX0_fraction_0 14 rfl rfl)
theorem dX0_fraction_17 : decode cX0_fraction 17 = .ok (.lload_n 2, 1) := dk_32 (dk_at dksX0_fraction_0 17 rfl rfl)
theorem dX0_fraction_18 : decode cX0_fraction 18 = .ok (.invokeinterface 51 3, 5) := by decide +kernel
theorem dX0_fraction_23 : decode cX0_fraction 23 = .ok (.dstore 4, 2) := dk_57 4 (dk_at dksX0_fraction_1 0 rfl rfl)
theorem dX0_fraction_25 : decode cX0_fraction 25 = .ok (.aload_n 0, 1) := dk_42 (dk_at dksX0_fraction_1 2 rfl rfl)
theorem dX0_fraction_26 : decode cX0_fraction 26 = .ok (.iload_n 1, 1) := dk_27 (dk_at dksX0_fraction_1 3 rfl rfl)
theorem dX0_fraction_27 : decode cX0_fraction 27 = .ok (.invokevirtual 47, 3) := dk_182 0 47 (dk_at dksX0_fraction_1 4 rfl rfl)
theorem dX0_fraction_30 : decode cX0_fraction 30 = .ok (.dload 4, 2) := dk_24 4 (dk_at dksX0_fraction_1 7 rfl rfl)
theorem dX0_fraction_32 : decode cX0_fraction 32 = .ok (.dload 4, 2) := dk_24 4 (dk_at dksX0_fraction_1 9 rfl rfl)
theorem dX0_fraction_34 : decode cX0_fraction 34 = .ok (.iconst 0, 1) := dk_3 (dk_at dksX0_fraction_1 11 rfl rfl)
theorem dX0_fraction_35 : decode cX0_fraction 35 = .ok (.invokestatic 226, 3) := dk_184 0 226 (dk_at dksX0_fraction_1 12 rfl rfl)
theorem dX0_fraction_38 : decode cX0_fraction 38 = .ok (.dsub, 1) := dk_103 (dk_at dksX0_fraction_1 15 rfl rfl)
theorem dX0_fraction_39 : decode cX0_fraction 39 = .ok (.dload 4, 2) := dk_24 4 (dk_at dksX0_fraction_1 16 rfl rfl)
theorem dX0_fraction_41 : decode cX0_fraction 41 = .ok (.invokestatic 235, 3) := dk_184 0 235 (dk_at dksX0_fraction_1 18 rfl rfl)
theorem dX0_fraction_44 : decode cX0_fraction 44 = .ok (.invokeinterface 183 3, 5) := by decide +kernel
theorem dX0_fraction_49 : decode cX0_fraction 49 = .ok (.lreturn, 1) := dk_173 (dk_at dksX0_fraction_2 5 rfl rfl)
abbrev cX0_ratio : ByteArray := prog_1_method_34_code
def yX0_ratio : MethodName := ⟨RX0, "ratio", "(IJI)J"⟩
def dkwX0_ratio_7 : List UInt8 := [21, 8, 116, 121, 173]
abbrev dktX0_ratio_7 : List UInt8 := dkwX0_ratio_7 ++ []
def dkwX0_ratio_6 : List UInt8 := [22, 9, 21, 8, 121, 167, 0, 22, 22, 9, 167, 0, 17, 21, 8, 158, 0, 7, 10, 167, 0, 8, 10]
abbrev dktX0_ratio_6 : List UInt8 := dkwX0_ratio_6 ++ dktX0_ratio_7
def dkwX0_ratio_5 : List UInt8 := [22, 9, 148, 153, 0, 11, 42, 16, 8, 182, 0, 35, 133, 173, 21, 4, 154, 0, 21, 21, 8, 158, 0, 11]
abbrev dktX0_ratio_5 : List UInt8 := dkwX0_ratio_5 ++ dktX0_ratio_6
def dkwX0_ratio_4 : List UInt8 := [161, 0, 29, 21, 8, 16, 63, 163, 0, 22, 21, 8, 158, 0, 25, 22, 9, 21, 8, 121, 21, 8, 123]
abbrev dktX0_ratio_4 : List UInt8 := dkwX0_ratio_4 ++ dktX0_ratio_5
def dkwX0_ratio_3 : List UInt8 := [184, 0, 239, 54, 11, 22, 9, 21, 11, 123, 55, 9, 21, 8, 21, 11, 96, 54, 8, 21, 8, 16, 194]
abbrev dktX0_ratio_3 : List UInt8 := dkwX0_ratio_3 ++ dktX0_ratio_4
def dkwX0_ratio_2 : List UInt8 := [25, 5, 24, 6, 185, 0, 180, 3, 0, 54, 8, 24, 6, 21, 8, 184, 0, 134, 143, 55, 9, 22, 9]
abbrev dktX0_ratio_2 : List UInt8 := dkwX0_ratio_2 ++ dktX0_ratio_3
def dkwX0_ratio_1 : List UInt8 := [58, 5, 25, 5, 32, 185, 0, 51, 3, 0, 57, 6, 24, 6, 14, 151, 154, 0, 7, 21, 4, 133, 173]
abbrev dktX0_ratio_1 : List UInt8 := dkwX0_ratio_1 ++ dktX0_ratio_2
def dkwX0_ratio_0 : List UInt8 := [42, 27, 32, 21, 4, 133, 9, 10, 184, 0, 172, 182, 0, 176, 153, 0, 5, 9, 173, 42, 27, 182, 0, 47]
abbrev dktX0_ratio_0 : List UInt8 := dkwX0_ratio_0 ++ dktX0_ratio_1
theorem dksX0_ratio_0 : cX0_ratio.data.toList.drop 0 = dktX0_ratio_0 := by decide +kernel
theorem dksX0_ratio_1 : cX0_ratio.data.toList.drop 24 = dktX0_ratio_1 := dk_seg dksX0_ratio_0 24 rfl rfl
theorem dksX0_ratio_2 : cX0_ratio.data.toList.drop 47 = dktX0_ratio_2 := dk_seg dksX0_ratio_1 23 rfl rfl
theorem dksX0_ratio_3 : cX0_ratio.data.toList.drop 70 = dktX0_ratio_3 := dk_seg dksX0_ratio_2 23 rfl rfl
theorem dksX0_ratio_4 : cX0_ratio.data.toList.drop 93 = dktX0_ratio_4 := dk_seg dksX0_ratio_3 23 rfl rfl
theorem dksX0_ratio_5 : cX0_ratio.data.toList.drop 116 = dktX0_ratio_5 := dk_seg dksX0_ratio_4 23 rfl rfl
theorem dksX0_ratio_6 : cX0_ratio.data.toList.drop 140 = dktX0_ratio_6 := dk_seg dksX0_ratio_5 24 rfl rfl
theorem dksX0_ratio_7 : cX0_ratio.data.toList.drop 163 = dktX0_ratio_7 := dk_seg dksX0_ratio_6 23 rfl rfl
theorem dX0_ratio_0 : decode cX0_ratio 0 = .ok (.aload_n 0, 1) := dk_42 (dk_at dksX0_ratio_0 0 rfl rfl)
theorem dX0_ratio_1 : decode cX0_ratio 1 = .ok (.iload_n 1, 1) := dk_27 (dk_at dksX0_ratio_0 1 rfl rfl)
theorem dX0_ratio_2 : decode cX0_ratio 2 = .ok (.lload_n 2, 1) := dk_32 (dk_at dksX0_ratio_0 2 rfl rfl)
theorem dX0_ratio_3 : decode cX0_ratio 3 = .ok (.iload 4, 2) := dk_21 4 (dk_at dksX0_ratio_0 3 rfl rfl)
theorem dX0_ratio_5 : decode cX0_ratio 5 = .ok (.i2l, 1) := dk_133 (dk_at dksX0_ratio_0 5 rfl rfl)
theorem dX0_ratio_6 : decode cX0_ratio 6 = .ok (.lconst 0, 1) := dk_9 (dk_at dksX0_ratio_0 6 rfl rfl)
theorem dX0_ratio_7 : decode cX0_ratio 7 = .ok (.lconst 1, 1) := dk_10 (dk_at dksX0_ratio_0 7 rfl rfl)
theorem dX0_ratio_8 : decode cX0_ratio 8 = .ok (.invokestatic 172, 3) := dk_184 0 172 (dk_at dksX0_ratio_0 8 rfl rfl)
theorem dX0_ratio_11 : decode cX0_ratio 11 = .ok (.invokevirtual 176, 3) := dk_182 0 176 (dk_at dksX0_ratio_0 11 rfl rfl)
theorem dX0_ratio_14 : decode cX0_ratio 14 = .ok (.ifCond .eq 5, 3) := dk_153 0 5 (dk_at dksX0_ratio_0 14 rfl rfl)
theorem dX0_ratio_17 : decode cX0_ratio 17 = .ok (.lconst 0, 1) := dk_9 (dk_at dksX0_ratio_0 17 rfl rfl)
theorem dX0_ratio_18 : decode cX0_ratio 18 = .ok (.lreturn, 1) := dk_173 (dk_at dksX0_ratio_0 18 rfl rfl)
theorem dX0_ratio_19 : decode cX0_ratio 19 = .ok (.aload_n 0, 1) := dk_42 (dk_at dksX0_ratio_0 19 rfl rfl)
theorem dX0_ratio_20 : decode cX0_ratio 20 = .ok (.iload_n 1, 1) := dk_27 (dk_at dksX0_ratio_0 20 rfl rfl)
theorem dX0_ratio_21 : decode cX0_ratio 21 = .ok (.invokevirtual 47, 3) := dk_182 0 47 (dk_at dksX0_ratio_0 21 rfl rfl)
theorem dX0_ratio_24 : decode cX0_ratio 24 = .ok (.astore 5, 2) := dk_58 5 (dk_at dksX0_ratio_1 0 rfl rfl)
theorem dX0_ratio_26 : decode cX0_ratio 26 = .ok (.aload 5, 2) := dk_25 5 (dk_at dksX0_ratio_1 2 rfl rfl)
theorem dX0_ratio_28 : decode cX0_ratio 28 = .ok (.lload_n 2, 1) := dk_32 (dk_at dksX0_ratio_1 4 rfl rfl)
theorem dX0_ratio_29 : decode cX0_ratio 29 = .ok (.invokeinterface 51 3, 5) := by decide +kernel
theorem dX0_ratio_34 : decode cX0_ratio 34 = .ok (.dstore 6, 2) := dk_57 6 (dk_at dksX0_ratio_1 10 rfl rfl)
theorem dX0_ratio_36 : decode cX0_ratio 36 = .ok (.dload 6, 2) := dk_24 6 (dk_at dksX0_ratio_1 12 rfl rfl)
theorem dX0_ratio_38 : decode cX0_ratio 38 = .ok (.dconst 0, 1) := dk_14 (dk_at dksX0_ratio_1 14 rfl rfl)
theorem dX0_ratio_39 : decode cX0_ratio 39 = .ok (.dcmp .l, 1) := dk_151 (dk_at dksX0_ratio_1 15 rfl rfl)
theorem dX0_ratio_40 : decode cX0_ratio 40 = .ok (.ifCond .ne 7, 3) := dk_154 0 7 (dk_at dksX0_ratio_1 16 rfl rfl)
theorem dX0_ratio_43 : decode cX0_ratio 43 = .ok (.iload 4, 2) := dk_21 4 (dk_at dksX0_ratio_1 19 rfl rfl)
theorem dX0_ratio_45 : decode cX0_ratio 45 = .ok (.i2l, 1) := dk_133 (dk_at dksX0_ratio_1 21 rfl rfl)
theorem dX0_ratio_46 : decode cX0_ratio 46 = .ok (.lreturn, 1) := dk_173 (dk_at dksX0_ratio_1 22 rfl rfl)
theorem dX0_ratio_47 : decode cX0_ratio 47 = .ok (.aload 5, 2) := dk_25 5 (dk_at dksX0_ratio_2 0 rfl rfl)
theorem dX0_ratio_49 : decode cX0_ratio 49 = .ok (.dload 6, 2) := dk_24 6 (dk_at dksX0_ratio_2 2 rfl rfl)
theorem dX0_ratio_51 : decode cX0_ratio 51 = .ok (.invokeinterface 180 3, 5) := by decide +kernel
theorem dX0_ratio_56 : decode cX0_ratio 56 = .ok (.istore 8, 2) := dk_54 8 (dk_at dksX0_ratio_2 9 rfl rfl)
theorem dX0_ratio_58 : decode cX0_ratio 58 = .ok (.dload 6, 2) := dk_24 6 (dk_at dksX0_ratio_2 11 rfl rfl)
theorem dX0_ratio_60 : decode cX0_ratio 60 = .ok (.iload 8, 2) := dk_21 8 (dk_at dksX0_ratio_2 13 rfl rfl)
theorem dX0_ratio_62 : decode cX0_ratio 62 = .ok (.invokestatic 134, 3) := dk_184 0 134 (dk_at dksX0_ratio_2 15 rfl rfl)
theorem dX0_ratio_65 : decode cX0_ratio 65 = .ok (.d2l, 1) := dk_143 (dk_at dksX0_ratio_2 18 rfl rfl)
theorem dX0_ratio_66 : decode cX0_ratio 66 = .ok (.lstore 9, 2) := dk_55 9 (dk_at dksX0_ratio_2 19 rfl rfl)
theorem dX0_ratio_68 : decode cX0_ratio 68 = .ok (.lload 9, 2) := dk_22 9 (dk_at dksX0_ratio_2 21 rfl rfl)
theorem dX0_ratio_70 : decode cX0_ratio 70 = .ok (.invokestatic 239, 3) := dk_184 0 239 (dk_at dksX0_ratio_3 0 rfl rfl)
theorem dX0_ratio_73 : decode cX0_ratio 73 = .ok (.istore 11, 2) := dk_54 11 (dk_at dksX0_ratio_3 3 rfl rfl)
theorem dX0_ratio_75 : decode cX0_ratio 75 = .ok (.lload 9, 2) := dk_22 9 (dk_at dksX0_ratio_3 5 rfl rfl)
theorem dX0_ratio_77 : decode cX0_ratio 77 = .ok (.iload 11, 2) := dk_21 11 (dk_at dksX0_ratio_3 7 rfl rfl)
theorem dX0_ratio_79 : decode cX0_ratio 79 = .ok (.lshr, 1) := dk_123 (dk_at dksX0_ratio_3 9 rfl rfl)
theorem dX0_ratio_80 : decode cX0_ratio 80 = .ok (.lstore 9, 2) := dk_55 9 (dk_at dksX0_ratio_3 10 rfl rfl)
theorem dX0_ratio_82 : decode cX0_ratio 82 = .ok (.iload 8, 2) := dk_21 8 (dk_at dksX0_ratio_3 12 rfl rfl)
theorem dX0_ratio_84 : decode cX0_ratio 84 = .ok (.iload 11, 2) := dk_21 11 (dk_at dksX0_ratio_3 14 rfl rfl)
theorem dX0_ratio_86 : decode cX0_ratio 86 = .ok (.iadd, 1) := dk_96 (dk_at dksX0_ratio_3 16 rfl rfl)
theorem dX0_ratio_87 : decode cX0_ratio 87 = .ok (.istore 8, 2) := dk_54 8 (dk_at dksX0_ratio_3 17 rfl rfl)
theorem dX0_ratio_89 : decode cX0_ratio 89 = .ok (.iload 8, 2) := dk_21 8 (dk_at dksX0_ratio_3 19 rfl rfl)
theorem dX0_ratio_91 : decode cX0_ratio 91 = .ok (.bipush (-62), 2) := dk_16 194 (dk_at dksX0_ratio_3 21 rfl rfl)
theorem dX0_ratio_93 : decode cX0_ratio 93 = .ok (.if_icmp .lt 29, 3) := dk_161 0 29 (dk_at dksX0_ratio_4 0 rfl rfl)
theorem dX0_ratio_96 : decode cX0_ratio 96 = .ok (.iload 8, 2) := dk_21 8 (dk_at dksX0_ratio_4 3 rfl rfl)
theorem dX0_ratio_98 : decode cX0_ratio 98 = .ok (.bipush 63, 2) := dk_16 63 (dk_at dksX0_ratio_4 5 rfl rfl)
theorem dX0_ratio_100 : decode cX0_ratio 100 = .ok (.if_icmp .gt 22, 3) := dk_163 0 22 (dk_at dksX0_ratio_4 7 rfl rfl)
theorem dX0_ratio_103 : decode cX0_ratio 103 = .ok (.iload 8, 2) := dk_21 8 (dk_at dksX0_ratio_4 10 rfl rfl)
theorem dX0_ratio_105 : decode cX0_ratio 105 = .ok (.ifCond .le 25, 3) := dk_158 0 25 (dk_at dksX0_ratio_4 12 rfl rfl)
theorem dX0_ratio_108 : decode cX0_ratio 108 = .ok (.lload 9, 2) := dk_22 9 (dk_at dksX0_ratio_4 15 rfl rfl)
theorem dX0_ratio_110 : decode cX0_ratio 110 = .ok (.iload 8, 2) := dk_21 8 (dk_at dksX0_ratio_4 17 rfl rfl)
theorem dX0_ratio_112 : decode cX0_ratio 112 = .ok (.lshl, 1) := dk_121 (dk_at dksX0_ratio_4 19 rfl rfl)
theorem dX0_ratio_113 : decode cX0_ratio 113 = .ok (.iload 8, 2) := dk_21 8 (dk_at dksX0_ratio_4 20 rfl rfl)
theorem dX0_ratio_115 : decode cX0_ratio 115 = .ok (.lshr, 1) := dk_123 (dk_at dksX0_ratio_4 22 rfl rfl)
theorem dX0_ratio_116 : decode cX0_ratio 116 = .ok (.lload 9, 2) := dk_22 9 (dk_at dksX0_ratio_5 0 rfl rfl)
theorem dX0_ratio_118 : decode cX0_ratio 118 = .ok (.lcmp, 1) := dk_148 (dk_at dksX0_ratio_5 2 rfl rfl)
theorem dX0_ratio_119 : decode cX0_ratio 119 = .ok (.ifCond .eq 11, 3) := dk_153 0 11 (dk_at dksX0_ratio_5 3 rfl rfl)
theorem dX0_ratio_122 : decode cX0_ratio 122 = .ok (.aload_n 0, 1) := dk_42 (dk_at dksX0_ratio_5 6 rfl rfl)
theorem dX0_ratio_123 : decode cX0_ratio 123 = .ok (.bipush 8, 2) := dk_16 8 (dk_at dksX0_ratio_5 7 rfl rfl)
theorem dX0_ratio_125 : decode cX0_ratio 125 = .ok (.invokevirtual 35, 3) := dk_182 0 35 (dk_at dksX0_ratio_5 9 rfl rfl)
theorem dX0_ratio_128 : decode cX0_ratio 128 = .ok (.i2l, 1) := dk_133 (dk_at dksX0_ratio_5 12 rfl rfl)
theorem dX0_ratio_129 : decode cX0_ratio 129 = .ok (.lreturn, 1) := dk_173 (dk_at dksX0_ratio_5 13 rfl rfl)
theorem dX0_ratio_130 : decode cX0_ratio 130 = .ok (.iload 4, 2) := dk_21 4 (dk_at dksX0_ratio_5 14 rfl rfl)
theorem dX0_ratio_132 : decode cX0_ratio 132 = .ok (.ifCond .ne 21, 3) := dk_154 0 21 (dk_at dksX0_ratio_5 16 rfl rfl)
theorem dX0_ratio_135 : decode cX0_ratio 135 = .ok (.iload 8, 2) := dk_21 8 (dk_at dksX0_ratio_5 19 rfl rfl)
theorem dX0_ratio_137 : decode cX0_ratio 137 = .ok (.ifCond .le 11, 3) := dk_158 0 11 (dk_at dksX0_ratio_5 21 rfl rfl)
theorem dX0_ratio_140 : decode cX0_ratio 140 = .ok (.lload 9, 2) := dk_22 9 (dk_at dksX0_ratio_6 0 rfl rfl)
theorem dX0_ratio_142 : decode cX0_ratio 142 = .ok (.iload 8, 2) := dk_21 8 (dk_at dksX0_ratio_6 2 rfl rfl)
theorem dX0_ratio_144 : decode cX0_ratio 144 = .ok (.lshl, 1) := dk_121 (dk_at dksX0_ratio_6 4 rfl rfl)
theorem dX0_ratio_145 : decode cX0_ratio 145 = .ok (.goto 22, 3) := dk_167 0 22 (dk_at dksX0_ratio_6 5 rfl rfl)
theorem dX0_ratio_148 : decode cX0_ratio 148 = .ok (.lload 9, 2) := dk_22 9 (dk_at dksX0_ratio_6 8 rfl rfl)
theorem dX0_ratio_150 : decode cX0_ratio 150 = .ok (.goto 17, 3) := dk_167 0 17 (dk_at dksX0_ratio_6 10 rfl rfl)
theorem dX0_ratio_153 : decode cX0_ratio 153 = .ok (.iload 8, 2) := dk_21 8 (dk_at dksX0_ratio_6 13 rfl rfl)
theorem dX0_ratio_155 : decode cX0_ratio 155 = .ok (.ifCond .le 7, 3) := dk_158 0 7 (dk_at dksX0_ratio_6 15 rfl rfl)
theorem dX0_ratio_158 : decode cX0_ratio 158 = .ok (.lconst 1, 1) := dk_10 (dk_at dksX0_ratio_6 18 rfl rfl)
theorem dX0_ratio_159 : decode cX0_ratio 159 = .ok (.goto 8, 3) := dk_167 0 8 (dk_at dksX0_ratio_6 19 rfl rfl)
theorem dX0_ratio_162 : decode cX0_ratio 162 = .ok (.lconst 1, 1) := dk_10 (dk_at dksX0_ratio_6 22 rfl rfl)
theorem dX0_ratio_163 : decode cX0_ratio 163 = .ok (.iload 8, 2) := dk_21 8 (dk_at dksX0_ratio_7 0 rfl rfl)
theorem dX0_ratio_165 : decode cX0_ratio 165 = .ok (.ineg, 1) := dk_116 (dk_at dksX0_ratio_7 2 rfl rfl)
theorem dX0_ratio_166 : decode cX0_ratio 166 = .ok (.lshl, 1) := dk_121 (dk_at dksX0_ratio_7 3 rfl rfl)
theorem dX0_ratio_167 : decode cX0_ratio 167 = .ok (.lreturn, 1) := dk_173 (dk_at dksX0_ratio_7 4 rfl rfl)
abbrev cX0_nearest : ByteArray := prog_1_method_35_code
def yX0_nearest : MethodName := ⟨RX0, "nearest", "(IJJ)J"⟩
def dkwX0_nearest_5 : List UInt8 := [185, 0, 183, 3, 0, 173, 58, 6, 42, 16, 6, 182, 0, 35, 133, 173]
abbrev dktX0_nearest_5 : List UInt8 := dkwX0_nearest_5 ++ []
def dkwX0_nearest_4 : List UInt8 := [3, 22, 4, 9, 148, 156, 0, 7, 4, 167, 0, 4, 3, 159, 0, 7, 4, 167, 0, 4, 3, 182, 0, 246]
abbrev dktX0_nearest_4 : List UInt8 := dkwX0_nearest_4 ++ dktX0_nearest_5
def dkwX0_nearest_3 : List UInt8 := [182, 0, 242, 42, 27, 182, 0, 47, 42, 42, 27, 182, 0, 47, 32, 9, 148, 156, 0, 7, 4, 167, 0, 4]
abbrev dktX0_nearest_3 : List UInt8 := dkwX0_nearest_3 ++ dktX0_nearest_4
def dkwX0_nearest_2 : List UInt8 := [182, 0, 242, 42, 180, 0, 106, 22, 4, 9, 148, 156, 0, 9, 22, 4, 117, 167, 0, 5, 22, 4]
abbrev dktX0_nearest_2 : List UInt8 := dkwX0_nearest_2 ++ dktX0_nearest_3
def dkwX0_nearest_1 : List UInt8 := [148, 154, 0, 5, 9, 173, 42, 180, 0, 97, 32, 9, 148, 156, 0, 8, 32, 117, 167, 0, 4, 32]
abbrev dktX0_nearest_1 : List UInt8 := dkwX0_nearest_1 ++ dktX0_nearest_2
def dkwX0_nearest_0 : List UInt8 := [42, 27, 184, 0, 39, 182, 0, 43, 153, 0, 5, 9, 173, 32, 22, 4, 109, 9, 148, 154, 0, 11, 32, 9]
abbrev dktX0_nearest_0 : List UInt8 := dkwX0_nearest_0 ++ dktX0_nearest_1
theorem dksX0_nearest_0 : cX0_nearest.data.toList.drop 0 = dktX0_nearest_0 := by decide +kernel
theorem dksX0_nearest_1 : cX0_nearest.data.toList.drop 24 = dktX0_nearest_1 := dk_seg dksX0_nearest_0 24 rfl rfl
theorem dksX0_nearest_2 : cX0_nearest.data.toList.drop 46 = dktX0_nearest_2 := dk_seg dksX0_nearest_1 22 rfl rfl
theorem dksX0_nearest_3 : cX0_nearest.data.toList.drop 68 = dktX0_nearest_3 := dk_seg dksX0_nearest_2 22 rfl rfl
theorem dksX0_nearest_4 : cX0_nearest.data.toList.drop 92 = dktX0_nearest_4 := dk_seg dksX0_nearest_3 24 rfl rfl
theorem dksX0_nearest_5 : cX0_nearest.data.toList.drop 116 = dktX0_nearest_5 := dk_seg dksX0_nearest_4 24 rfl rfl
theorem dX0_nearest_0 : decode cX0_nearest 0 = .ok (.aload_n 0, 1) := dk_42 (dk_at dksX0_nearest_0 0 rfl rfl)
theorem dX0_nearest_1 : decode cX0_nearest 1 = .ok (.iload_n 1, 1) := dk_27 (dk_at dksX0_nearest_0 1 rfl rfl)
theorem dX0_nearest_2 : decode cX0_nearest 2 = .ok (.invokestatic 39, 3) := dk_184 0 39 (dk_at dksX0_nearest_0 2 rfl rfl)
theorem dX0_nearest_5 : decode cX0_nearest 5 = .ok (.invokevirtual 43, 3) := dk_182 0 43 (dk_at dksX0_nearest_0 5 rfl rfl)
theorem dX0_nearest_8 : decode cX0_nearest 8 = .ok (.ifCond .eq 5, 3) := dk_153 0 5 (dk_at dksX0_nearest_0 8 rfl rfl)
theorem dX0_nearest_11 : decode cX0_nearest 11 = .ok (.lconst 0, 1) := dk_9 (dk_at dksX0_nearest_0 11 rfl rfl)
theorem dX0_nearest_12 : decode cX0_nearest 12 = .ok (.lreturn, 1) := dk_173 (dk_at dksX0_nearest_0 12 rfl rfl)
theorem dX0_nearest_13 : decode cX0_nearest 13 = .ok (.lload_n 2, 1) := dk_32 (dk_at dksX0_nearest_0 13 rfl rfl)
theorem dX0_nearest_14 : decode cX0_nearest 14 = .ok (.lload 4, 2) := dk_22 4 (dk_at dksX0_nearest_0 14 rfl rfl)
theorem dX0_nearest_16 : decode cX0_nearest 16 = .ok (.ldiv, 1) := dk_109 (dk_at dksX0_nearest_0 16 rfl rfl)
theorem dX0_nearest_17 : decode cX0_nearest 17 = .ok (.lconst 0, 1) := dk_9 (dk_at dksX0_nearest_0 17 rfl rfl)
theorem dX0_nearest_18 : decode cX0_nearest 18 = .ok (.lcmp, 1) := dk_148 (dk_at dksX0_nearest_0 18 rfl rfl)
theorem dX0_nearest_19 : decode cX0_nearest 19 = .ok (.ifCond .ne 11, 3) := dk_154 0 11 (dk_at dksX0_nearest_0 19 rfl rfl)
theorem dX0_nearest_22 : decode cX0_nearest 22 = .ok (.lload_n 2, 1) := dk_32 (dk_at dksX0_nearest_0 22 rfl rfl)
theorem dX0_nearest_23 : decode cX0_nearest 23 = .ok (.lconst 0, 1) := dk_9 (dk_at dksX0_nearest_0 23 rfl rfl)
theorem dX0_nearest_24 : decode cX0_nearest 24 = .ok (.lcmp, 1) := dk_148 (dk_at dksX0_nearest_1 0 rfl rfl)
theorem dX0_nearest_25 : decode cX0_nearest 25 = .ok (.ifCond .ne 5, 3) := dk_154 0 5 (dk_at dksX0_nearest_1 1 rfl rfl)
theorem dX0_nearest_28 : decode cX0_nearest 28 = .ok (.lconst 0, 1) := dk_9 (dk_at dksX0_nearest_1 4 rfl rfl)
theorem dX0_nearest_29 : decode cX0_nearest 29 = .ok (.lreturn, 1) := dk_173 (dk_at dksX0_nearest_1 5 rfl rfl)
theorem dX0_nearest_30 : decode cX0_nearest 30 = .ok (.aload_n 0, 1) := dk_42 (dk_at dksX0_nearest_1 6 rfl rfl)
theorem dX0_nearest_31 : decode cX0_nearest 31 = .ok (.getfield 97, 3) := dk_180 0 97 (dk_at dksX0_nearest_1 7 rfl rfl)
theorem dX0_nearest_34 : decode cX0_nearest 34 = .ok (.lload_n 2, 1) := dk_32 (dk_at dksX0_nearest_1 10 rfl rfl)
theorem dX0_nearest_35 : decode cX0_nearest 35 = .ok (.lconst 0, 1) := dk_9 (dk_at dksX0_nearest_1 11 rfl rfl)
theorem dX0_nearest_36 : decode cX0_nearest 36 = .ok (.lcmp, 1) := dk_148 (dk_at dksX0_nearest_1 12 rfl rfl)
theorem dX0_nearest_37 : decode cX0_nearest 37 = .ok (.ifCond .ge 8, 3) := dk_156 0 8 (dk_at dksX0_nearest_1 13 rfl rfl)
theorem dX0_nearest_40 : decode cX0_nearest 40 = .ok (.lload_n 2, 1) := dk_32 (dk_at dksX0_nearest_1 16 rfl rfl)
theorem dX0_nearest_41 : decode cX0_nearest 41 = .ok (.lneg, 1) := dk_117 (dk_at dksX0_nearest_1 17 rfl rfl)
theorem dX0_nearest_42 : decode cX0_nearest 42 = .ok (.goto 4, 3) := dk_167 0 4 (dk_at dksX0_nearest_1 18 rfl rfl)
theorem dX0_nearest_45 : decode cX0_nearest 45 = .ok (.lload_n 2, 1) := dk_32 (dk_at dksX0_nearest_1 21 rfl rfl)
theorem dX0_nearest_46 : decode cX0_nearest 46 = .ok (.invokevirtual 242, 3) := dk_182 0 242 (dk_at dksX0_nearest_2 0 rfl rfl)
theorem dX0_nearest_49 : decode cX0_nearest 49 = .ok (.aload_n 0, 1) := dk_42 (dk_at dksX0_nearest_2 3 rfl rfl)
theorem dX0_nearest_50 : decode cX0_nearest 50 = .ok (.getfield 106, 3) := dk_180 0 106 (dk_at dksX0_nearest_2 4 rfl rfl)
theorem dX0_nearest_53 : decode cX0_nearest 53 = .ok (.lload 4, 2) := dk_22 4 (dk_at dksX0_nearest_2 7 rfl rfl)
theorem dX0_nearest_55 : decode cX0_nearest 55 = .ok (.lconst 0, 1) := dk_9 (dk_at dksX0_nearest_2 9 rfl rfl)
theorem dX0_nearest_56 : decode cX0_nearest 56 = .ok (.lcmp, 1) := dk_148 (dk_at dksX0_nearest_2 10 rfl rfl)
theorem dX0_nearest_57 : decode cX0_nearest 57 = .ok (.ifCond .ge 9, 3) := dk_156 0 9 (dk_at dksX0_nearest_2 11 rfl rfl)
theorem dX0_nearest_60 : decode cX0_nearest 60 = .ok (.lload 4, 2) := dk_22 4 (dk_at dksX0_nearest_2 14 rfl rfl)
theorem dX0_nearest_62 : decode cX0_nearest 62 = .ok (.lneg, 1) := dk_117 (dk_at dksX0_nearest_2 16 rfl rfl)
theorem dX0_nearest_63 : decode cX0_nearest 63 = .ok (.goto 5, 3) := dk_167 0 5 (dk_at dksX0_nearest_2 17 rfl rfl)
theorem dX0_nearest_66 : decode cX0_nearest 66 = .ok (.lload 4, 2) := dk_22 4 (dk_at dksX0_nearest_2 20 rfl rfl)
theorem dX0_nearest_68 : decode cX0_nearest 68 = .ok (.invokevirtual 242, 3) := dk_182 0 242 (dk_at dksX0_nearest_3 0 rfl rfl)
theorem dX0_nearest_71 : decode cX0_nearest 71 = .ok (.aload_n 0, 1) := dk_42 (dk_at dksX0_nearest_3 3 rfl rfl)
theorem dX0_nearest_72 : decode cX0_nearest 72 = .ok (.iload_n 1, 1) := dk_27 (dk_at dksX0_nearest_3 4 rfl rfl)
theorem dX0_nearest_73 : decode cX0_nearest 73 = .ok (.invokevirtual 47, 3) := dk_182 0 47 (dk_at dksX0_nearest_3 5 rfl rfl)
theorem dX0_nearest_76 : decode cX0_nearest 76 = .ok (.aload_n 0, 1) := dk_42 (dk_at dksX0_nearest_3 8 rfl rfl)
theorem dX0_nearest_77 : decode cX0_nearest 77 = .ok (.aload_n 0, 1) := dk_42 (dk_at dksX0_nearest_3 9 rfl rfl)
theorem dX0_nearest_78 : decode cX0_nearest 78 = .ok (.iload_n 1, 1) := dk_27 (dk_at dksX0_nearest_3 10 rfl rfl)
theorem dX0_nearest_79 : decode cX0_nearest 79 = .ok (.invokevirtual 47, 3) := dk_182 0 47 (dk_at dksX0_nearest_3 11 rfl rfl)
theorem dX0_nearest_82 : decode cX0_nearest 82 = .ok (.lload_n 2, 1) := dk_32 (dk_at dksX0_nearest_3 14 rfl rfl)
theorem dX0_nearest_83 : decode cX0_nearest 83 = .ok (.lconst 0, 1) := dk_9 (dk_at dksX0_nearest_3 15 rfl rfl)
theorem dX0_nearest_84 : decode cX0_nearest 84 = .ok (.lcmp, 1) := dk_148 (dk_at dksX0_nearest_3 16 rfl rfl)
theorem dX0_nearest_85 : decode cX0_nearest 85 = .ok (.ifCond .ge 7, 3) := dk_156 0 7 (dk_at dksX0_nearest_3 17 rfl rfl)
theorem dX0_nearest_88 : decode cX0_nearest 88 = .ok (.iconst 1, 1) := dk_4 (dk_at dksX0_nearest_3 20 rfl rfl)
theorem dX0_nearest_89 : decode cX0_nearest 89 = .ok (.goto 4, 3) := dk_167 0 4 (dk_at dksX0_nearest_3 21 rfl rfl)
theorem dX0_nearest_92 : decode cX0_nearest 92 = .ok (.iconst 0, 1) := dk_3 (dk_at dksX0_nearest_4 0 rfl rfl)
theorem dX0_nearest_93 : decode cX0_nearest 93 = .ok (.lload 4, 2) := dk_22 4 (dk_at dksX0_nearest_4 1 rfl rfl)
theorem dX0_nearest_95 : decode cX0_nearest 95 = .ok (.lconst 0, 1) := dk_9 (dk_at dksX0_nearest_4 3 rfl rfl)
theorem dX0_nearest_96 : decode cX0_nearest 96 = .ok (.lcmp, 1) := dk_148 (dk_at dksX0_nearest_4 4 rfl rfl)
theorem dX0_nearest_97 : decode cX0_nearest 97 = .ok (.ifCond .ge 7, 3) := dk_156 0 7 (dk_at dksX0_nearest_4 5 rfl rfl)
theorem dX0_nearest_100 : decode cX0_nearest 100 = .ok (.iconst 1, 1) := dk_4 (dk_at dksX0_nearest_4 8 rfl rfl)
theorem dX0_nearest_101 : decode cX0_nearest 101 = .ok (.goto 4, 3) := dk_167 0 4 (dk_at dksX0_nearest_4 9 rfl rfl)
theorem dX0_nearest_104 : decode cX0_nearest 104 = .ok (.iconst 0, 1) := dk_3 (dk_at dksX0_nearest_4 12 rfl rfl)
theorem dX0_nearest_105 : decode cX0_nearest 105 = .ok (.if_icmp .eq 7, 3) := dk_159 0 7 (dk_at dksX0_nearest_4 13 rfl rfl)
theorem dX0_nearest_108 : decode cX0_nearest 108 = .ok (.iconst 1, 1) := dk_4 (dk_at dksX0_nearest_4 16 rfl rfl)
theorem dX0_nearest_109 : decode cX0_nearest 109 = .ok (.goto 4, 3) := dk_167 0 4 (dk_at dksX0_nearest_4 17 rfl rfl)
theorem dX0_nearest_112 : decode cX0_nearest 112 = .ok (.iconst 0, 1) := dk_3 (dk_at dksX0_nearest_4 20 rfl rfl)
theorem dX0_nearest_113 : decode cX0_nearest 113 = .ok (.invokevirtual 246, 3) := dk_182 0 246 (dk_at dksX0_nearest_4 21 rfl rfl)
theorem dX0_nearest_116 : decode cX0_nearest 116 = .ok (.invokeinterface 183 3, 5) := by decide +kernel
theorem dX0_nearest_121 : decode cX0_nearest 121 = .ok (.lreturn, 1) := dk_173 (dk_at dksX0_nearest_5 5 rfl rfl)
theorem dX0_nearest_122 : decode cX0_nearest 122 = .ok (.astore 6, 2) := dk_58 6 (dk_at dksX0_nearest_5 6 rfl rfl)
theorem dX0_nearest_124 : decode cX0_nearest 124 = .ok (.aload_n 0, 1) := dk_42 (dk_at dksX0_nearest_5 8 rfl rfl)
theorem dX0_nearest_125 : decode cX0_nearest 125 = .ok (.bipush 6, 2) := dk_16 6 (dk_at dksX0_nearest_5 9 rfl rfl)
theorem dX0_nearest_127 : decode cX0_nearest 127 = .ok (.invokevirtual 35, 3) := dk_182 0 35 (dk_at dksX0_nearest_5 11 rfl rfl)
theorem dX0_nearest_130 : decode cX0_nearest 130 = .ok (.i2l, 1) := dk_133 (dk_at dksX0_nearest_5 14 rfl rfl)
theorem dX0_nearest_131 : decode cX0_nearest 131 = .ok (.lreturn, 1) := dk_173 (dk_at dksX0_nearest_5 15 rfl rfl)
abbrev cX0_ratio_2 : ByteArray := prog_1_method_12_code
def yX0_ratio_2 : MethodName := ⟨RX0, "ratio", "(LFloatClasses$Reals;Z)D"⟩
def dkwX0_ratio_2_6 : List UInt8 := [167, 0, 4, 9, 97, 29, 133, 117, 10, 101, 184, 0, 127, 175]
abbrev dktX0_ratio_2_6 : List UInt8 := dkwX0_ratio_2_6 ++ []
def dkwX0_ratio_2_5 : List UInt8 := [167, 255, 200, 43, 28, 20, 0, 117, 22, 4, 105, 42, 180, 0, 97, 182, 0, 101, 158, 0, 7, 10]
abbrev dktX0_ratio_2_5 : List UInt8 := dkwX0_ratio_2_5 ++ dktX0_ratio_2_6
def dkwX0_ratio_2_4 : List UInt8 := [154, 0, 20, 42, 180, 0, 97, 42, 180, 0, 106, 182, 0, 123, 22, 4, 10, 97, 55, 4, 132, 6, 1]
abbrev dktX0_ratio_2_4 : List UInt8 := dkwX0_ratio_2_4 ++ dktX0_ratio_2_5
def dkwX0_ratio_2_3 : List UInt8 := [182, 0, 113, 22, 4, 20, 0, 117, 105, 55, 4, 42, 180, 0, 97, 42, 180, 0, 106, 182, 0, 119]
abbrev dktX0_ratio_2_3 : List UInt8 := dkwX0_ratio_2_3 ++ dktX0_ratio_2_4
def dkwX0_ratio_2_2 : List UInt8 := [16, 62, 182, 0, 109, 9, 55, 4, 3, 54, 6, 21, 6, 16, 62, 162, 0, 55, 42, 180, 0, 106]
abbrev dktX0_ratio_2_2 : List UInt8 := dkwX0_ratio_2_2 ++ dktX0_ratio_2_3
def dkwX0_ratio_2_1 : List UInt8 := [180, 0, 97, 29, 182, 0, 109, 167, 0, 12, 42, 180, 0, 106, 29, 116, 182, 0, 109, 42, 180, 0, 106]
abbrev dktX0_ratio_2_1 : List UInt8 := dkwX0_ratio_2_1 ++ dktX0_ratio_2_2
def dkwX0_ratio_2_0 : List UInt8 := [16, 61, 42, 180, 0, 97, 182, 0, 101, 100, 42, 180, 0, 106, 182, 0, 101, 96, 62, 29, 158, 0, 14, 42]
abbrev dktX0_ratio_2_0 : List UInt8 := dkwX0_ratio_2_0 ++ dktX0_ratio_2_1
theorem dksX0_ratio_2_0 : cX0_ratio_2.data.toList.drop 0 = dktX0_ratio_2_0 := by decide +kernel
theorem dksX0_ratio_2_1 : cX0_ratio_2.data.toList.drop 24 = dktX0_ratio_2_1 := dk_seg dksX0_ratio_2_0 24 rfl rfl
theorem dksX0_ratio_2_2 : cX0_ratio_2.data.toList.drop 47 = dktX0_ratio_2_2 := dk_seg dksX0_ratio_2_1 23 rfl rfl
theorem dksX0_ratio_2_3 : cX0_ratio_2.data.toList.drop 69 = dktX0_ratio_2_3 := dk_seg dksX0_ratio_2_2 22 rfl rfl
theorem dksX0_ratio_2_4 : cX0_ratio_2.data.toList.drop 91 = dktX0_ratio_2_4 := dk_seg dksX0_ratio_2_3 22 rfl rfl
theorem dksX0_ratio_2_5 : cX0_ratio_2.data.toList.drop 114 = dktX0_ratio_2_5 := dk_seg dksX0_ratio_2_4 23 rfl rfl
theorem dksX0_ratio_2_6 : cX0_ratio_2.data.toList.drop 136 = dktX0_ratio_2_6 := dk_seg dksX0_ratio_2_5 22 rfl rfl
theorem dX0_ratio_2_0 : decode cX0_ratio_2 0 = .ok (.bipush 61, 2) := dk_16 61 (dk_at dksX0_ratio_2_0 0 rfl rfl)
theorem dX0_ratio_2_2 : decode cX0_ratio_2 2 = .ok (.aload_n 0, 1) := dk_42 (dk_at dksX0_ratio_2_0 2 rfl rfl)
theorem dX0_ratio_2_3 : decode cX0_ratio_2 3 = .ok (.getfield 97, 3) := dk_180 0 97 (dk_at dksX0_ratio_2_0 3 rfl rfl)
theorem dX0_ratio_2_6 : decode cX0_ratio_2 6 = .ok (.invokevirtual 101, 3) := dk_182 0 101 (dk_at dksX0_ratio_2_0 6 rfl rfl)
theorem dX0_ratio_2_9 : decode cX0_ratio_2 9 = .ok (.isub, 1) := dk_100 (dk_at dksX0_ratio_2_0 9 rfl rfl)
theorem dX0_ratio_2_10 : decode cX0_ratio_2 10 = .ok (.aload_n 0, 1) := dk_42 (dk_at dksX0_ratio_2_0 10 rfl rfl)
theorem dX0_ratio_2_11 : decode cX0_ratio_2 11 = .ok (.getfield 106, 3) := dk_180 0 106 (dk_at dksX0_ratio_2_0 11 rfl rfl)
theorem dX0_ratio_2_14 : decode cX0_ratio_2 14 = .ok (.invokevirtual 101, 3) := dk_182 0 101 (dk_at dksX0_ratio_2_0 14 rfl rfl)
theorem dX0_ratio_2_17 : decode cX0_ratio_2 17 = .ok (.iadd, 1) := dk_96 (dk_at dksX0_ratio_2_0 17 rfl rfl)
theorem dX0_ratio_2_18 : decode cX0_ratio_2 18 = .ok (.istore_n 3, 1) := dk_62 (dk_at dksX0_ratio_2_0 18 rfl rfl)
theorem dX0_ratio_2_19 : decode cX0_ratio_2 19 = .ok (.iload_n 3, 1) := dk_29 (dk_at dksX0_ratio_2_0 19 rfl rfl)
theorem dX0_ratio_2_20 : decode cX0_ratio_2 20 = .ok (.ifCond .le 14, 3) := dk_158 0 14 (dk_at dksX0_ratio_2_0 20 rfl rfl)
theorem dX0_ratio_2_23 : decode cX0_ratio_2 23 = .ok (.aload_n 0, 1) := dk_42 (dk_at dksX0_ratio_2_0 23 rfl rfl)
theorem dX0_ratio_2_24 : decode cX0_ratio_2 24 = .ok (.getfield 97, 3) := dk_180 0 97 (dk_at dksX0_ratio_2_1 0 rfl rfl)
theorem dX0_ratio_2_27 : decode cX0_ratio_2 27 = .ok (.iload_n 3, 1) := dk_29 (dk_at dksX0_ratio_2_1 3 rfl rfl)
theorem dX0_ratio_2_28 : decode cX0_ratio_2 28 = .ok (.invokevirtual 109, 3) := dk_182 0 109 (dk_at dksX0_ratio_2_1 4 rfl rfl)
theorem dX0_ratio_2_31 : decode cX0_ratio_2 31 = .ok (.goto 12, 3) := dk_167 0 12 (dk_at dksX0_ratio_2_1 7 rfl rfl)
theorem dX0_ratio_2_34 : decode cX0_ratio_2 34 = .ok (.aload_n 0, 1) := dk_42 (dk_at dksX0_ratio_2_1 10 rfl rfl)
theorem dX0_ratio_2_35 : decode cX0_ratio_2 35 = .ok (.getfield 106, 3) := dk_180 0 106 (dk_at dksX0_ratio_2_1 11 rfl rfl)
theorem dX0_ratio_2_38 : decode cX0_ratio_2 38 = .ok (.iload_n 3, 1) := dk_29 (dk_at dksX0_ratio_2_1 14 rfl rfl)
theorem dX0_ratio_2_39 : decode cX0_ratio_2 39 = .ok (.ineg, 1) := dk_116 (dk_at dksX0_ratio_2_1 15 rfl rfl)
theorem dX0_ratio_2_40 : decode cX0_ratio_2 40 = .ok (.invokevirtual 109, 3) := dk_182 0 109 (dk_at dksX0_ratio_2_1 16 rfl rfl)
theorem dX0_ratio_2_43 : decode cX0_ratio_2 43 = .ok (.aload_n 0, 1) := dk_42 (dk_at dksX0_ratio_2_1 19 rfl rfl)
theorem dX0_ratio_2_44 : decode cX0_ratio_2 44 = .ok (.getfield 106, 3) := dk_180 0 106 (dk_at dksX0_ratio_2_1 20 rfl rfl)
theorem dX0_ratio_2_47 : decode cX0_ratio_2 47 = .ok (.bipush 62, 2) := dk_16 62 (dk_at dksX0_ratio_2_2 0 rfl rfl)
theorem dX0_ratio_2_49 : decode cX0_ratio_2 49 = .ok (.invokevirtual 109, 3) := dk_182 0 109 (dk_at dksX0_ratio_2_2 2 rfl rfl)
theorem dX0_ratio_2_52 : decode cX0_ratio_2 52 = .ok (.lconst 0, 1) := dk_9 (dk_at dksX0_ratio_2_2 5 rfl rfl)
theorem dX0_ratio_2_53 : decode cX0_ratio_2 53 = .ok (.lstore 4, 2) := dk_55 4 (dk_at dksX0_ratio_2_2 6 rfl rfl)
theorem dX0_ratio_2_55 : decode cX0_ratio_2 55 = .ok (.iconst 0, 1) := dk_3 (dk_at dksX0_ratio_2_2 8 rfl rfl)
theorem dX0_ratio_2_56 : decode cX0_ratio_2 56 = .ok (.istore 6, 2) := dk_54 6 (dk_at dksX0_ratio_2_2 9 rfl rfl)
theorem dX0_ratio_2_58 : decode cX0_ratio_2 58 = .ok (.iload 6, 2) := dk_21 6 (dk_at dksX0_ratio_2_2 11 rfl rfl)
theorem dX0_ratio_2_60 : decode cX0_ratio_2 60 = .ok (.bipush 62, 2) := dk_16 62 (dk_at dksX0_ratio_2_2 13 rfl rfl)
theorem dX0_ratio_2_62 : decode cX0_ratio_2 62 = .ok (.if_icmp .ge 55, 3) := dk_162 0 55 (dk_at dksX0_ratio_2_2 15 rfl rfl)
theorem dX0_ratio_2_65 : decode cX0_ratio_2 65 = .ok (.aload_n 0, 1) := dk_42 (dk_at dksX0_ratio_2_2 18 rfl rfl)
theorem dX0_ratio_2_66 : decode cX0_ratio_2 66 = .ok (.getfield 106, 3) := dk_180 0 106 (dk_at dksX0_ratio_2_2 19 rfl rfl)
theorem dX0_ratio_2_69 : decode cX0_ratio_2 69 = .ok (.invokevirtual 113, 3) := dk_182 0 113 (dk_at dksX0_ratio_2_3 0 rfl rfl)
theorem dX0_ratio_2_72 : decode cX0_ratio_2 72 = .ok (.lload 4, 2) := dk_22 4 (dk_at dksX0_ratio_2_3 3 rfl rfl)
theorem dX0_ratio_2_74 : decode cX0_ratio_2 74 = .ok (.ldc2_w 117, 3) := dk_20 0 117 (dk_at dksX0_ratio_2_3 5 rfl rfl)
theorem dX0_ratio_2_77 : decode cX0_ratio_2 77 = .ok (.lmul, 1) := dk_105 (dk_at dksX0_ratio_2_3 8 rfl rfl)
theorem dX0_ratio_2_78 : decode cX0_ratio_2 78 = .ok (.lstore 4, 2) := dk_55 4 (dk_at dksX0_ratio_2_3 9 rfl rfl)
theorem dX0_ratio_2_80 : decode cX0_ratio_2 80 = .ok (.aload_n 0, 1) := dk_42 (dk_at dksX0_ratio_2_3 11 rfl rfl)
theorem dX0_ratio_2_81 : decode cX0_ratio_2 81 = .ok (.getfield 97, 3) := dk_180 0 97 (dk_at dksX0_ratio_2_3 12 rfl rfl)
theorem dX0_ratio_2_84 : decode cX0_ratio_2 84 = .ok (.aload_n 0, 1) := dk_42 (dk_at dksX0_ratio_2_3 15 rfl rfl)
theorem dX0_ratio_2_85 : decode cX0_ratio_2 85 = .ok (.getfield 106, 3) := dk_180 0 106 (dk_at dksX0_ratio_2_3 16 rfl rfl)
theorem dX0_ratio_2_88 : decode cX0_ratio_2 88 = .ok (.invokevirtual 119, 3) := dk_182 0 119 (dk_at dksX0_ratio_2_3 19 rfl rfl)
theorem dX0_ratio_2_91 : decode cX0_ratio_2 91 = .ok (.ifCond .ne 20, 3) := dk_154 0 20 (dk_at dksX0_ratio_2_4 0 rfl rfl)
theorem dX0_ratio_2_94 : decode cX0_ratio_2 94 = .ok (.aload_n 0, 1) := dk_42 (dk_at dksX0_ratio_2_4 3 rfl rfl)
theorem dX0_ratio_2_95 : decode cX0_ratio_2 95 = .ok (.getfield 97, 3) := dk_180 0 97 (dk_at dksX0_ratio_2_4 4 rfl rfl)
theorem dX0_ratio_2_98 : decode cX0_ratio_2 98 = .ok (.aload_n 0, 1) := dk_42 (dk_at dksX0_ratio_2_4 7 rfl rfl)
theorem dX0_ratio_2_99 : decode cX0_ratio_2 99 = .ok (.getfield 106, 3) := dk_180 0 106 (dk_at dksX0_ratio_2_4 8 rfl rfl)
theorem dX0_ratio_2_102 : decode cX0_ratio_2 102 = .ok (.invokevirtual 123, 3) := dk_182 0 123 (dk_at dksX0_ratio_2_4 11 rfl rfl)
theorem dX0_ratio_2_105 : decode cX0_ratio_2 105 = .ok (.lload 4, 2) := dk_22 4 (dk_at dksX0_ratio_2_4 14 rfl rfl)
theorem dX0_ratio_2_107 : decode cX0_ratio_2 107 = .ok (.lconst 1, 1) := dk_10 (dk_at dksX0_ratio_2_4 16 rfl rfl)
theorem dX0_ratio_2_108 : decode cX0_ratio_2 108 = .ok (.ladd, 1) := dk_97 (dk_at dksX0_ratio_2_4 17 rfl rfl)
theorem dX0_ratio_2_109 : decode cX0_ratio_2 109 = .ok (.lstore 4, 2) := dk_55 4 (dk_at dksX0_ratio_2_4 18 rfl rfl)
theorem dX0_ratio_2_111 : decode cX0_ratio_2 111 = .ok (.iinc 6 1, 3) := dk_132 6 1 (dk_at dksX0_ratio_2_4 20 rfl rfl)
theorem dX0_ratio_2_114 : decode cX0_ratio_2 114 = .ok (.goto (-56), 3) := dk_167 255 200 (dk_at dksX0_ratio_2_5 0 rfl rfl)
theorem dX0_ratio_2_117 : decode cX0_ratio_2 117 = .ok (.aload_n 1, 1) := dk_43 (dk_at dksX0_ratio_2_5 3 rfl rfl)
theorem dX0_ratio_2_118 : decode cX0_ratio_2 118 = .ok (.iload_n 2, 1) := dk_28 (dk_at dksX0_ratio_2_5 4 rfl rfl)
theorem dX0_ratio_2_119 : decode cX0_ratio_2 119 = .ok (.ldc2_w 117, 3) := dk_20 0 117 (dk_at dksX0_ratio_2_5 5 rfl rfl)
theorem dX0_ratio_2_122 : decode cX0_ratio_2 122 = .ok (.lload 4, 2) := dk_22 4 (dk_at dksX0_ratio_2_5 8 rfl rfl)
theorem dX0_ratio_2_124 : decode cX0_ratio_2 124 = .ok (.lmul, 1) := dk_105 (dk_at dksX0_ratio_2_5 10 rfl rfl)
theorem dX0_ratio_2_125 : decode cX0_ratio_2 125 = .ok (.aload_n 0, 1) := dk_42 (dk_at dksX0_ratio_2_5 11 rfl rfl)
theorem dX0_ratio_2_126 : decode cX0_ratio_2 126 = .ok (.getfield 97, 3) := dk_180 0 97 (dk_at dksX0_ratio_2_5 12 rfl rfl)
theorem dX0_ratio_2_129 : decode cX0_ratio_2 129 = .ok (.invokevirtual 101, 3) := dk_182 0 101 (dk_at dksX0_ratio_2_5 15 rfl rfl)
theorem dX0_ratio_2_132 : decode cX0_ratio_2 132 = .ok (.ifCond .le 7, 3) := dk_158 0 7 (dk_at dksX0_ratio_2_5 18 rfl rfl)
theorem dX0_ratio_2_135 : decode cX0_ratio_2 135 = .ok (.lconst 1, 1) := dk_10 (dk_at dksX0_ratio_2_5 21 rfl rfl)
theorem dX0_ratio_2_136 : decode cX0_ratio_2 136 = .ok (.goto 4, 3) := dk_167 0 4 (dk_at dksX0_ratio_2_6 0 rfl rfl)
theorem dX0_ratio_2_139 : decode cX0_ratio_2 139 = .ok (.lconst 0, 1) := dk_9 (dk_at dksX0_ratio_2_6 3 rfl rfl)
theorem dX0_ratio_2_140 : decode cX0_ratio_2 140 = .ok (.ladd, 1) := dk_97 (dk_at dksX0_ratio_2_6 4 rfl rfl)
theorem dX0_ratio_2_141 : decode cX0_ratio_2 141 = .ok (.iload_n 3, 1) := dk_29 (dk_at dksX0_ratio_2_6 5 rfl rfl)
theorem dX0_ratio_2_142 : decode cX0_ratio_2 142 = .ok (.i2l, 1) := dk_133 (dk_at dksX0_ratio_2_6 6 rfl rfl)
theorem dX0_ratio_2_143 : decode cX0_ratio_2 143 = .ok (.lneg, 1) := dk_117 (dk_at dksX0_ratio_2_6 7 rfl rfl)
theorem dX0_ratio_2_144 : decode cX0_ratio_2 144 = .ok (.lconst 1, 1) := dk_10 (dk_at dksX0_ratio_2_6 8 rfl rfl)
theorem dX0_ratio_2_145 : decode cX0_ratio_2 145 = .ok (.lsub, 1) := dk_101 (dk_at dksX0_ratio_2_6 9 rfl rfl)
theorem dX0_ratio_2_146 : decode cX0_ratio_2 146 = .ok (.invokestatic 127, 3) := dk_184 0 127 (dk_at dksX0_ratio_2_6 10 rfl rfl)
theorem dX0_ratio_2_149 : decode cX0_ratio_2 149 = .ok (.dreturn, 1) := dk_175 (dk_at dksX0_ratio_2_6 13 rfl rfl)
abbrev cX0_digit : ByteArray := prog_1_method_36_code
def yX0_digit : MethodName := ⟨RX0, "digit", "(IJI)I"⟩
def dkwX0_digit_5 : List UInt8 := [127, 136, 79, 132, 11, 1, 167, 255, 226, 25, 8, 21, 4, 46, 172, 58, 11, 42, 5, 182, 0, 35, 172]
abbrev dktX0_digit_5 : List UInt8 := dkwX0_digit_5 ++ []
def dkwX0_digit_4 : List UInt8 := [21, 11, 25, 8, 190, 162, 0, 28, 25, 8, 21, 11, 22, 9, 25, 8, 190, 4, 100, 21, 11, 100, 125, 10]
abbrev dktX0_digit_4 : List UInt8 := dkwX0_digit_4 ++ dktX0_digit_5
def dkwX0_digit_3 : List UInt8 := [9, 167, 0, 18, 24, 6, 25, 5, 24, 6, 185, 0, 180, 3, 0, 184, 0, 134, 143, 55, 9, 3, 54, 11]
abbrev dktX0_digit_3 : List UInt8 := dkwX0_digit_3 ++ dktX0_digit_4
def dkwX0_digit_2 : List UInt8 := [27, 154, 0, 10, 42, 180, 0, 255, 167, 0, 7, 42, 180, 1, 2, 58, 8, 24, 6, 14, 151, 154, 0, 7]
abbrev dktX0_digit_2 : List UInt8 := dkwX0_digit_2 ++ dktX0_digit_3
def dkwX0_digit_1 : List UInt8 := [185, 0, 51, 3, 0, 184, 0, 137, 57, 6, 24, 6, 14, 151, 154, 0, 10, 42, 180, 0, 252, 167, 0, 18]
abbrev dktX0_digit_1 : List UInt8 := dkwX0_digit_1 ++ dktX0_digit_2
def dkwX0_digit_0 : List UInt8 := [42, 27, 32, 4, 182, 0, 176, 153, 0, 5, 3, 172, 42, 27, 182, 0, 47, 58, 5, 25, 5, 32]
abbrev dktX0_digit_0 : List UInt8 := dkwX0_digit_0 ++ dktX0_digit_1
theorem dksX0_digit_0 : cX0_digit.data.toList.drop 0 = dktX0_digit_0 := by decide +kernel
theorem dksX0_digit_1 : cX0_digit.data.toList.drop 22 = dktX0_digit_1 := dk_seg dksX0_digit_0 22 rfl rfl
theorem dksX0_digit_2 : cX0_digit.data.toList.drop 46 = dktX0_digit_2 := dk_seg dksX0_digit_1 24 rfl rfl
theorem dksX0_digit_3 : cX0_digit.data.toList.drop 70 = dktX0_digit_3 := dk_seg dksX0_digit_2 24 rfl rfl
theorem dksX0_digit_4 : cX0_digit.data.toList.drop 94 = dktX0_digit_4 := dk_seg dksX0_digit_3 24 rfl rfl
theorem dksX0_digit_5 : cX0_digit.data.toList.drop 118 = dktX0_digit_5 := dk_seg dksX0_digit_4 24 rfl rfl
theorem dX0_digit_0 : decode cX0_digit 0 = .ok (.aload_n 0, 1) := dk_42 (dk_at dksX0_digit_0 0 rfl rfl)
theorem dX0_digit_1 : decode cX0_digit 1 = .ok (.iload_n 1, 1) := dk_27 (dk_at dksX0_digit_0 1 rfl rfl)
theorem dX0_digit_2 : decode cX0_digit 2 = .ok (.lload_n 2, 1) := dk_32 (dk_at dksX0_digit_0 2 rfl rfl)
theorem dX0_digit_3 : decode cX0_digit 3 = .ok (.iconst 1, 1) := dk_4 (dk_at dksX0_digit_0 3 rfl rfl)
theorem dX0_digit_4 : decode cX0_digit 4 = .ok (.invokevirtual 176, 3) := dk_182 0 176 (dk_at dksX0_digit_0 4 rfl rfl)
theorem dX0_digit_7 : decode cX0_digit 7 = .ok (.ifCond .eq 5, 3) := dk_153 0 5 (dk_at dksX0_digit_0 7 rfl rfl)
theorem dX0_digit_10 : decode cX0_digit 10 = .ok (.iconst 0, 1) := dk_3 (dk_at dksX0_digit_0 10 rfl rfl)
theorem dX0_digit_11 : decode cX0_digit 11 = .ok (.ireturn, 1) := dk_172 (dk_at dksX0_digit_0 11 rfl rfl)
theorem dX0_digit_12 : decode cX0_digit 12 = .ok (.aload_n 0, 1) := dk_42 (dk_at dksX0_digit_0 12 rfl rfl)
theorem dX0_digit_13 : decode cX0_digit 13 = .ok (.iload_n 1, 1) := dk_27 (dk_at dksX0_digit_0 13 rfl rfl)
theorem dX0_digit_14 : decode cX0_digit 14 = .ok (.invokevirtual 47, 3) := dk_182 0 47 (dk_at dksX0_digit_0 14 rfl rfl)
theorem dX0_digit_17 : decode cX0_digit 17 = .ok (.astore 5, 2) := dk_58 5 (dk_at dksX0_digit_0 17 rfl rfl)
theorem dX0_digit_19 : decode cX0_digit 19 = .ok (.aload 5, 2) := dk_25 5 (dk_at dksX0_digit_0 19 rfl rfl)
theorem dX0_digit_21 : decode cX0_digit 21 = .ok (.lload_n 2, 1) := dk_32 (dk_at dksX0_digit_0 21 rfl rfl)
theorem dX0_digit_22 : decode cX0_digit 22 = .ok (.invokeinterface 51 3, 5) := by decide +kernel
theorem dX0_digit_27 : decode cX0_digit 27 = .ok (.invokestatic 137, 3) := dk_184 0 137 (dk_at dksX0_digit_1 5 rfl rfl)
theorem dX0_digit_30 : decode cX0_digit 30 = .ok (.dstore 6, 2) := dk_57 6 (dk_at dksX0_digit_1 8 rfl rfl)
theorem dX0_digit_32 : decode cX0_digit 32 = .ok (.dload 6, 2) := dk_24 6 (dk_at dksX0_digit_1 10 rfl rfl)
theorem dX0_digit_34 : decode cX0_digit 34 = .ok (.dconst 0, 1) := dk_14 (dk_at dksX0_digit_1 12 rfl rfl)
theorem dX0_digit_35 : decode cX0_digit 35 = .ok (.dcmp .l, 1) := dk_151 (dk_at dksX0_digit_1 13 rfl rfl)
theorem dX0_digit_36 : decode cX0_digit 36 = .ok (.ifCond .ne 10, 3) := dk_154 0 10 (dk_at dksX0_digit_1 14 rfl rfl)
theorem dX0_digit_39 : decode cX0_digit 39 = .ok (.aload_n 0, 1) := dk_42 (dk_at dksX0_digit_1 17 rfl rfl)
theorem dX0_digit_40 : decode cX0_digit 40 = .ok (.getfield 252, 3) := dk_180 0 252 (dk_at dksX0_digit_1 18 rfl rfl)
theorem dX0_digit_43 : decode cX0_digit 43 = .ok (.goto 18, 3) := dk_167 0 18 (dk_at dksX0_digit_1 21 rfl rfl)
theorem dX0_digit_46 : decode cX0_digit 46 = .ok (.iload_n 1, 1) := dk_27 (dk_at dksX0_digit_2 0 rfl rfl)
theorem dX0_digit_47 : decode cX0_digit 47 = .ok (.ifCond .ne 10, 3) := dk_154 0 10 (dk_at dksX0_digit_2 1 rfl rfl)
theorem dX0_digit_50 : decode cX0_digit 50 = .ok (.aload_n 0, 1) := dk_42 (dk_at dksX0_digit_2 4 rfl rfl)
theorem dX0_digit_51 : decode cX0_digit 51 = .ok (.getfield 255, 3) := dk_180 0 255 (dk_at dksX0_digit_2 5 rfl rfl)
theorem dX0_digit_54 : decode cX0_digit 54 = .ok (.goto 7, 3) := dk_167 0 7 (dk_at dksX0_digit_2 8 rfl rfl)
theorem dX0_digit_57 : decode cX0_digit 57 = .ok (.aload_n 0, 1) := dk_42 (dk_at dksX0_digit_2 11 rfl rfl)
theorem dX0_digit_58 : decode cX0_digit 58 = .ok (.getfield 258, 3) := dk_180 1 2 (dk_at dksX0_digit_2 12 rfl rfl)
theorem dX0_digit_61 : decode cX0_digit 61 = .ok (.astore 8, 2) := dk_58 8 (dk_at dksX0_digit_2 15 rfl rfl)
theorem dX0_digit_63 : decode cX0_digit 63 = .ok (.dload 6, 2) := dk_24 6 (dk_at dksX0_digit_2 17 rfl rfl)
theorem dX0_digit_65 : decode cX0_digit 65 = .ok (.dconst 0, 1) := dk_14 (dk_at dksX0_digit_2 19 rfl rfl)
theorem dX0_digit_66 : decode cX0_digit 66 = .ok (.dcmp .l, 1) := dk_151 (dk_at dksX0_digit_2 20 rfl rfl)
theorem dX0_digit_67 : decode cX0_digit 67 = .ok (.ifCond .ne 7, 3) := dk_154 0 7 (dk_at dksX0_digit_2 21 rfl rfl)
theorem dX0_digit_70 : decode cX0_digit 70 = .ok (.lconst 0, 1) := dk_9 (dk_at dksX0_digit_3 0 rfl rfl)
theorem dX0_digit_71 : decode cX0_digit 71 = .ok (.goto 18, 3) := dk_167 0 18 (dk_at dksX0_digit_3 1 rfl rfl)
theorem dX0_digit_74 : decode cX0_digit 74 = .ok (.dload 6, 2) := dk_24 6 (dk_at dksX0_digit_3 4 rfl rfl)
theorem dX0_digit_76 : decode cX0_digit 76 = .ok (.aload 5, 2) := dk_25 5 (dk_at dksX0_digit_3 6 rfl rfl)
theorem dX0_digit_78 : decode cX0_digit 78 = .ok (.dload 6, 2) := dk_24 6 (dk_at dksX0_digit_3 8 rfl rfl)
theorem dX0_digit_80 : decode cX0_digit 80 = .ok (.invokeinterface 180 3, 5) := by decide +kernel
theorem dX0_digit_85 : decode cX0_digit 85 = .ok (.invokestatic 134, 3) := dk_184 0 134 (dk_at dksX0_digit_3 15 rfl rfl)
theorem dX0_digit_88 : decode cX0_digit 88 = .ok (.d2l, 1) := dk_143 (dk_at dksX0_digit_3 18 rfl rfl)
theorem dX0_digit_89 : decode cX0_digit 89 = .ok (.lstore 9, 2) := dk_55 9 (dk_at dksX0_digit_3 19 rfl rfl)
theorem dX0_digit_91 : decode cX0_digit 91 = .ok (.iconst 0, 1) := dk_3 (dk_at dksX0_digit_3 21 rfl rfl)
theorem dX0_digit_92 : decode cX0_digit 92 = .ok (.istore 11, 2) := dk_54 11 (dk_at dksX0_digit_3 22 rfl rfl)
theorem dX0_digit_94 : decode cX0_digit 94 = .ok (.iload 11, 2) := dk_21 11 (dk_at dksX0_digit_4 0 rfl rfl)
theorem dX0_digit_96 : decode cX0_digit 96 = .ok (.aload 8, 2) := dk_25 8 (dk_at dksX0_digit_4 2 rfl rfl)
theorem dX0_digit_98 : decode cX0_digit 98 = .ok (.arraylength, 1) := dk_190 (dk_at dksX0_digit_4 4 rfl rfl)
theorem dX0_digit_99 : decode cX0_digit 99 = .ok (.if_icmp .ge 28, 3) := dk_162 0 28 (dk_at dksX0_digit_4 5 rfl rfl)
theorem dX0_digit_102 : decode cX0_digit 102 = .ok (.aload 8, 2) := dk_25 8 (dk_at dksX0_digit_4 8 rfl rfl)
theorem dX0_digit_104 : decode cX0_digit 104 = .ok (.iload 11, 2) := dk_21 11 (dk_at dksX0_digit_4 10 rfl rfl)
theorem dX0_digit_106 : decode cX0_digit 106 = .ok (.lload 9, 2) := dk_22 9 (dk_at dksX0_digit_4 12 rfl rfl)
theorem dX0_digit_108 : decode cX0_digit 108 = .ok (.aload 8, 2) := dk_25 8 (dk_at dksX0_digit_4 14 rfl rfl)
theorem dX0_digit_110 : decode cX0_digit 110 = .ok (.arraylength, 1) := dk_190 (dk_at dksX0_digit_4 16 rfl rfl)
theorem dX0_digit_111 : decode cX0_digit 111 = .ok (.iconst 1, 1) := dk_4 (dk_at dksX0_digit_4 17 rfl rfl)
theorem dX0_digit_112 : decode cX0_digit 112 = .ok (.isub, 1) := dk_100 (dk_at dksX0_digit_4 18 rfl rfl)
theorem dX0_digit_113 : decode cX0_digit 113 = .ok (.iload 11, 2) := dk_21 11 (dk_at dksX0_digit_4 19 rfl rfl)
theorem dX0_digit_115 : decode cX0_digit 115 = .ok (.isub, 1) := dk_100 (dk_at dksX0_digit_4 21 rfl rfl)
theorem dX0_digit_116 : decode cX0_digit 116 = .ok (.lushr, 1) := dk_125 (dk_at dksX0_digit_4 22 rfl rfl)
theorem dX0_digit_117 : decode cX0_digit 117 = .ok (.lconst 1, 1) := dk_10 (dk_at dksX0_digit_4 23 rfl rfl)
theorem dX0_digit_118 : decode cX0_digit 118 = .ok (.land, 1) := dk_127 (dk_at dksX0_digit_5 0 rfl rfl)
theorem dX0_digit_119 : decode cX0_digit 119 = .ok (.l2i, 1) := dk_136 (dk_at dksX0_digit_5 1 rfl rfl)
theorem dX0_digit_120 : decode cX0_digit 120 = .ok (.iastore, 1) := dk_79 (dk_at dksX0_digit_5 2 rfl rfl)
theorem dX0_digit_121 : decode cX0_digit 121 = .ok (.iinc 11 1, 3) := dk_132 11 1 (dk_at dksX0_digit_5 3 rfl rfl)
theorem dX0_digit_124 : decode cX0_digit 124 = .ok (.goto (-30), 3) := dk_167 255 226 (dk_at dksX0_digit_5 6 rfl rfl)
theorem dX0_digit_127 : decode cX0_digit 127 = .ok (.aload 8, 2) := dk_25 8 (dk_at dksX0_digit_5 9 rfl rfl)
theorem dX0_digit_129 : decode cX0_digit 129 = .ok (.iload 4, 2) := dk_21 4 (dk_at dksX0_digit_5 11 rfl rfl)
theorem dX0_digit_131 : decode cX0_digit 131 = .ok (.iaload, 1) := dk_46 (dk_at dksX0_digit_5 13 rfl rfl)
theorem dX0_digit_132 : decode cX0_digit 132 = .ok (.ireturn, 1) := dk_172 (dk_at dksX0_digit_5 14 rfl rfl)
theorem dX0_digit_133 : decode cX0_digit 133 = .ok (.astore 11, 2) := dk_58 11 (dk_at dksX0_digit_5 15 rfl rfl)
theorem dX0_digit_135 : decode cX0_digit 135 = .ok (.aload_n 0, 1) := dk_42 (dk_at dksX0_digit_5 17 rfl rfl)
theorem dX0_digit_136 : decode cX0_digit 136 = .ok (.iconst 2, 1) := dk_5 (dk_at dksX0_digit_5 18 rfl rfl)
theorem dX0_digit_137 : decode cX0_digit 137 = .ok (.invokevirtual 35, 3) := dk_182 0 35 (dk_at dksX0_digit_5 19 rfl rfl)
theorem dX0_digit_140 : decode cX0_digit 140 = .ok (.ireturn, 1) := dk_172 (dk_at dksX0_digit_5 22 rfl rfl)
abbrev cX0_count : ByteArray := prog_1_method_39_code
def yX0_count : MethodName := ⟨RX0, "count", "(IJJJ)I"⟩
def dkwX0_count_3 : List UInt8 := [172]
abbrev dktX0_count_3 : List UInt8 := dkwX0_count_3 ++ []
def dkwX0_count_2 : List UInt8 := [184, 1, 25, 54, 9, 21, 9, 17, 3, 232, 164, 0, 12, 42, 16, 8, 182, 0, 35, 167, 0, 5, 21, 9]
abbrev dktX0_count_2 : List UInt8 := dkwX0_count_2 ++ dktX0_count_3
def dkwX0_count_1 : List UInt8 := [32, 185, 0, 51, 3, 0, 25, 8, 22, 4, 185, 0, 51, 3, 0, 25, 8, 22, 6, 185, 0, 51, 3, 0]
abbrev dktX0_count_1 : List UInt8 := dkwX0_count_1 ++ dktX0_count_2
def dkwX0_count_0 : List UInt8 := [42, 27, 184, 0, 39, 182, 0, 43, 153, 0, 5, 3, 172, 42, 27, 182, 0, 47, 58, 8, 25, 8, 25, 8]
abbrev dktX0_count_0 : List UInt8 := dkwX0_count_0 ++ dktX0_count_1
theorem dksX0_count_0 : cX0_count.data.toList.drop 0 = dktX0_count_0 := by decide +kernel
theorem dksX0_count_1 : cX0_count.data.toList.drop 24 = dktX0_count_1 := dk_seg dksX0_count_0 24 rfl rfl
theorem dksX0_count_2 : cX0_count.data.toList.drop 48 = dktX0_count_2 := dk_seg dksX0_count_1 24 rfl rfl
theorem dksX0_count_3 : cX0_count.data.toList.drop 72 = dktX0_count_3 := dk_seg dksX0_count_2 24 rfl rfl
theorem dX0_count_0 : decode cX0_count 0 = .ok (.aload_n 0, 1) := dk_42 (dk_at dksX0_count_0 0 rfl rfl)
theorem dX0_count_1 : decode cX0_count 1 = .ok (.iload_n 1, 1) := dk_27 (dk_at dksX0_count_0 1 rfl rfl)
theorem dX0_count_2 : decode cX0_count 2 = .ok (.invokestatic 39, 3) := dk_184 0 39 (dk_at dksX0_count_0 2 rfl rfl)
theorem dX0_count_5 : decode cX0_count 5 = .ok (.invokevirtual 43, 3) := dk_182 0 43 (dk_at dksX0_count_0 5 rfl rfl)
theorem dX0_count_8 : decode cX0_count 8 = .ok (.ifCond .eq 5, 3) := dk_153 0 5 (dk_at dksX0_count_0 8 rfl rfl)
theorem dX0_count_11 : decode cX0_count 11 = .ok (.iconst 0, 1) := dk_3 (dk_at dksX0_count_0 11 rfl rfl)
theorem dX0_count_12 : decode cX0_count 12 = .ok (.ireturn, 1) := dk_172 (dk_at dksX0_count_0 12 rfl rfl)
theorem dX0_count_13 : decode cX0_count 13 = .ok (.aload_n 0, 1) := dk_42 (dk_at dksX0_count_0 13 rfl rfl)
theorem dX0_count_14 : decode cX0_count 14 = .ok (.iload_n 1, 1) := dk_27 (dk_at dksX0_count_0 14 rfl rfl)
theorem dX0_count_15 : decode cX0_count 15 = .ok (.invokevirtual 47, 3) := dk_182 0 47 (dk_at dksX0_count_0 15 rfl rfl)
theorem dX0_count_18 : decode cX0_count 18 = .ok (.astore 8, 2) := dk_58 8 (dk_at dksX0_count_0 18 rfl rfl)
theorem dX0_count_20 : decode cX0_count 20 = .ok (.aload 8, 2) := dk_25 8 (dk_at dksX0_count_0 20 rfl rfl)
theorem dX0_count_22 : decode cX0_count 22 = .ok (.aload 8, 2) := dk_25 8 (dk_at dksX0_count_0 22 rfl rfl)
theorem dX0_count_24 : decode cX0_count 24 = .ok (.lload_n 2, 1) := dk_32 (dk_at dksX0_count_1 0 rfl rfl)
theorem dX0_count_25 : decode cX0_count 25 = .ok (.invokeinterface 51 3, 5) := by decide +kernel
theorem dX0_count_30 : decode cX0_count 30 = .ok (.aload 8, 2) := dk_25 8 (dk_at dksX0_count_1 6 rfl rfl)
theorem dX0_count_32 : decode cX0_count 32 = .ok (.lload 4, 2) := dk_22 4 (dk_at dksX0_count_1 8 rfl rfl)
theorem dX0_count_34 : decode cX0_count 34 = .ok (.invokeinterface 51 3, 5) := by decide +kernel
theorem dX0_count_39 : decode cX0_count 39 = .ok (.aload 8, 2) := dk_25 8 (dk_at dksX0_count_1 15 rfl rfl)
theorem dX0_count_41 : decode cX0_count 41 = .ok (.lload 6, 2) := dk_22 6 (dk_at dksX0_count_1 17 rfl rfl)
theorem dX0_count_43 : decode cX0_count 43 = .ok (.invokeinterface 51 3, 5) := by decide +kernel
theorem dX0_count_48 : decode cX0_count 48 = .ok (.invokestatic 281, 3) := dk_184 1 25 (dk_at dksX0_count_2 0 rfl rfl)
theorem dX0_count_51 : decode cX0_count 51 = .ok (.istore 9, 2) := dk_54 9 (dk_at dksX0_count_2 3 rfl rfl)
theorem dX0_count_53 : decode cX0_count 53 = .ok (.iload 9, 2) := dk_21 9 (dk_at dksX0_count_2 5 rfl rfl)
theorem dX0_count_55 : decode cX0_count 55 = .ok (.sipush 1000, 3) := dk_17 3 232 (dk_at dksX0_count_2 7 rfl rfl)
theorem dX0_count_58 : decode cX0_count 58 = .ok (.if_icmp .le 12, 3) := dk_164 0 12 (dk_at dksX0_count_2 10 rfl rfl)
theorem dX0_count_61 : decode cX0_count 61 = .ok (.aload_n 0, 1) := dk_42 (dk_at dksX0_count_2 13 rfl rfl)
theorem dX0_count_62 : decode cX0_count 62 = .ok (.bipush 8, 2) := dk_16 8 (dk_at dksX0_count_2 14 rfl rfl)
theorem dX0_count_64 : decode cX0_count 64 = .ok (.invokevirtual 35, 3) := dk_182 0 35 (dk_at dksX0_count_2 16 rfl rfl)
theorem dX0_count_67 : decode cX0_count 67 = .ok (.goto 5, 3) := dk_167 0 5 (dk_at dksX0_count_2 19 rfl rfl)
theorem dX0_count_70 : decode cX0_count 70 = .ok (.iload 9, 2) := dk_21 9 (dk_at dksX0_count_2 22 rfl rfl)
theorem dX0_count_72 : decode cX0_count 72 = .ok (.ireturn, 1) := dk_172 (dk_at dksX0_count_3 0 rfl rfl)
abbrev cX0_countOf : ByteArray := prog_1_method_38_code
def yX0_countOf : MethodName := ⟨RX0, "countOf", "(LFloatClasses$Reals;DDD)I"⟩
def dkwX0_countOf_5 : List UInt8 := [54, 10, 167, 255, 187, 21, 10, 172]
abbrev dktX0_countOf_5 : List UInt8 := dkwX0_countOf_5 ++ []
def dkwX0_countOf_4 : List UInt8 := [155, 0, 7, 4, 167, 0, 4, 3, 54, 11, 21, 10, 21, 11, 153, 0, 7, 4, 167, 0, 4, 3, 96]
abbrev dktX0_countOf_4 : List UInt8 := dkwX0_countOf_4 ++ dktX0_countOf_5
def dkwX0_countOf_3 : List UInt8 := [163, 0, 31, 21, 9, 153, 0, 14, 24, 12, 24, 7, 152, 157, 0, 18, 167, 0, 11, 24, 12, 24, 7, 151]
abbrev dktX0_countOf_3 : List UInt8 := dkwX0_countOf_3 ++ dktX0_countOf_4
def dkwX0_countOf_2 : List UInt8 := [54, 11, 21, 11, 153, 0, 70, 42, 39, 41, 21, 10, 184, 1, 21, 57, 12, 21, 10, 17, 3, 232]
abbrev dktX0_countOf_2 : List UInt8 := dkwX0_countOf_2 ++ dktX0_countOf_3
def dkwX0_countOf_1 : List UInt8 := [185, 1, 13, 5, 0, 57, 7, 41, 39, 151, 155, 0, 7, 4, 167, 0, 4, 3, 54, 9, 3, 54, 10, 4]
abbrev dktX0_countOf_1 : List UInt8 := dkwX0_countOf_1 ++ dktX0_countOf_2
def dkwX0_countOf_0 : List UInt8 := [42, 24, 5, 42, 42, 41, 39, 185, 1, 7, 5, 0, 20, 1, 16, 185, 1, 18, 5, 0]
abbrev dktX0_countOf_0 : List UInt8 := dkwX0_countOf_0 ++ dktX0_countOf_1
theorem dksX0_countOf_0 : cX0_countOf.data.toList.drop 0 = dktX0_countOf_0 := by decide +kernel
theorem dksX0_countOf_1 : cX0_countOf.data.toList.drop 20 = dktX0_countOf_1 := dk_seg dksX0_countOf_0 20 rfl rfl
theorem dksX0_countOf_2 : cX0_countOf.data.toList.drop 44 = dktX0_countOf_2 := dk_seg dksX0_countOf_1 24 rfl rfl
theorem dksX0_countOf_3 : cX0_countOf.data.toList.drop 66 = dktX0_countOf_3 := dk_seg dksX0_countOf_2 22 rfl rfl
theorem dksX0_countOf_4 : cX0_countOf.data.toList.drop 90 = dktX0_countOf_4 := dk_seg dksX0_countOf_3 24 rfl rfl
theorem dksX0_countOf_5 : cX0_countOf.data.toList.drop 113 = dktX0_countOf_5 := dk_seg dksX0_countOf_4 23 rfl rfl
theorem dX0_countOf_0 : decode cX0_countOf 0 = .ok (.aload_n 0, 1) := dk_42 (dk_at dksX0_countOf_0 0 rfl rfl)
theorem dX0_countOf_1 : decode cX0_countOf 1 = .ok (.dload 5, 2) := dk_24 5 (dk_at dksX0_countOf_0 1 rfl rfl)
theorem dX0_countOf_3 : decode cX0_countOf 3 = .ok (.aload_n 0, 1) := dk_42 (dk_at dksX0_countOf_0 3 rfl rfl)
theorem dX0_countOf_4 : decode cX0_countOf 4 = .ok (.aload_n 0, 1) := dk_42 (dk_at dksX0_countOf_0 4 rfl rfl)
theorem dX0_countOf_5 : decode cX0_countOf 5 = .ok (.dload_n 3, 1) := dk_41 (dk_at dksX0_countOf_0 5 rfl rfl)
theorem dX0_countOf_6 : decode cX0_countOf 6 = .ok (.dload_n 1, 1) := dk_39 (dk_at dksX0_countOf_0 6 rfl rfl)
theorem dX0_countOf_7 : decode cX0_countOf 7 = .ok (.invokeinterface 263 5, 5) := by decide +kernel
theorem dX0_countOf_12 : decode cX0_countOf 12 = .ok (.ldc2_w 272, 3) := dk_20 1 16 (dk_at dksX0_countOf_0 12 rfl rfl)
theorem dX0_countOf_15 : decode cX0_countOf 15 = .ok (.invokeinterface 274 5, 5) := by decide +kernel
theorem dX0_countOf_20 : decode cX0_countOf 20 = .ok (.invokeinterface 269 5, 5) := by decide +kernel
theorem dX0_countOf_25 : decode cX0_countOf 25 = .ok (.dstore 7, 2) := dk_57 7 (dk_at dksX0_countOf_1 5 rfl rfl)
theorem dX0_countOf_27 : decode cX0_countOf 27 = .ok (.dload_n 3, 1) := dk_41 (dk_at dksX0_countOf_1 7 rfl rfl)
theorem dX0_countOf_28 : decode cX0_countOf 28 = .ok (.dload_n 1, 1) := dk_39 (dk_at dksX0_countOf_1 8 rfl rfl)
theorem dX0_countOf_29 : decode cX0_countOf 29 = .ok (.dcmp .l, 1) := dk_151 (dk_at dksX0_countOf_1 9 rfl rfl)
theorem dX0_countOf_30 : decode cX0_countOf 30 = .ok (.ifCond .lt 7, 3) := dk_155 0 7 (dk_at dksX0_countOf_1 10 rfl rfl)
theorem dX0_countOf_33 : decode cX0_countOf 33 = .ok (.iconst 1, 1) := dk_4 (dk_at dksX0_countOf_1 13 rfl rfl)
theorem dX0_countOf_34 : decode cX0_countOf 34 = .ok (.goto 4, 3) := dk_167 0 4 (dk_at dksX0_countOf_1 14 rfl rfl)
theorem dX0_countOf_37 : decode cX0_countOf 37 = .ok (.iconst 0, 1) := dk_3 (dk_at dksX0_countOf_1 17 rfl rfl)
theorem dX0_countOf_38 : decode cX0_countOf 38 = .ok (.istore 9, 2) := dk_54 9 (dk_at dksX0_countOf_1 18 rfl rfl)
theorem dX0_countOf_40 : decode cX0_countOf 40 = .ok (.iconst 0, 1) := dk_3 (dk_at dksX0_countOf_1 20 rfl rfl)
theorem dX0_countOf_41 : decode cX0_countOf 41 = .ok (.istore 10, 2) := dk_54 10 (dk_at dksX0_countOf_1 21 rfl rfl)
theorem dX0_countOf_43 : decode cX0_countOf 43 = .ok (.iconst 1, 1) := dk_4 (dk_at dksX0_countOf_1 23 rfl rfl)
theorem dX0_countOf_44 : decode cX0_countOf 44 = .ok (.istore 11, 2) := dk_54 11 (dk_at dksX0_countOf_2 0 rfl rfl)
theorem dX0_countOf_46 : decode cX0_countOf 46 = .ok (.iload 11, 2) := dk_21 11 (dk_at dksX0_countOf_2 2 rfl rfl)
theorem dX0_countOf_48 : decode cX0_countOf 48 = .ok (.ifCond .eq 70, 3) := dk_153 0 70 (dk_at dksX0_countOf_2 4 rfl rfl)
theorem dX0_countOf_51 : decode cX0_countOf 51 = .ok (.aload_n 0, 1) := dk_42 (dk_at dksX0_countOf_2 7 rfl rfl)
theorem dX0_countOf_52 : decode cX0_countOf 52 = .ok (.dload_n 1, 1) := dk_39 (dk_at dksX0_countOf_2 8 rfl rfl)
theorem dX0_countOf_53 : decode cX0_countOf 53 = .ok (.dload_n 3, 1) := dk_41 (dk_at dksX0_countOf_2 9 rfl rfl)
theorem dX0_countOf_54 : decode cX0_countOf 54 = .ok (.iload 10, 2) := dk_21 10 (dk_at dksX0_countOf_2 10 rfl rfl)
theorem dX0_countOf_56 : decode cX0_countOf 56 = .ok (.invokestatic 277, 3) := dk_184 1 21 (dk_at dksX0_countOf_2 12 rfl rfl)
theorem dX0_countOf_59 : decode cX0_countOf 59 = .ok (.dstore 12, 2) := dk_57 12 (dk_at dksX0_countOf_2 15 rfl rfl)
theorem dX0_countOf_61 : decode cX0_countOf 61 = .ok (.iload 10, 2) := dk_21 10 (dk_at dksX0_countOf_2 17 rfl rfl)
theorem dX0_countOf_63 : decode cX0_countOf 63 = .ok (.sipush 1000, 3) := dk_17 3 232 (dk_at dksX0_countOf_2 19 rfl rfl)
theorem dX0_countOf_66 : decode cX0_countOf 66 = .ok (.if_icmp .gt 31, 3) := dk_163 0 31 (dk_at dksX0_countOf_3 0 rfl rfl)
theorem dX0_countOf_69 : decode cX0_countOf 69 = .ok (.iload 9, 2) := dk_21 9 (dk_at dksX0_countOf_3 3 rfl rfl)
theorem dX0_countOf_71 : decode cX0_countOf 71 = .ok (.ifCond .eq 14, 3) := dk_153 0 14 (dk_at dksX0_countOf_3 5 rfl rfl)
theorem dX0_countOf_74 : decode cX0_countOf 74 = .ok (.dload 12, 2) := dk_24 12 (dk_at dksX0_countOf_3 8 rfl rfl)
theorem dX0_countOf_76 : decode cX0_countOf 76 = .ok (.dload 7, 2) := dk_24 7 (dk_at dksX0_countOf_3 10 rfl rfl)
theorem dX0_countOf_78 : decode cX0_countOf 78 = .ok (.dcmp .g, 1) := dk_152 (dk_at dksX0_countOf_3 12 rfl rfl)
theorem dX0_countOf_79 : decode cX0_countOf 79 = .ok (.ifCond .gt 18, 3) := dk_157 0 18 (dk_at dksX0_countOf_3 13 rfl rfl)
theorem dX0_countOf_82 : decode cX0_countOf 82 = .ok (.goto 11, 3) := dk_167 0 11 (dk_at dksX0_countOf_3 16 rfl rfl)
theorem dX0_countOf_85 : decode cX0_countOf 85 = .ok (.dload 12, 2) := dk_24 12 (dk_at dksX0_countOf_3 19 rfl rfl)
theorem dX0_countOf_87 : decode cX0_countOf 87 = .ok (.dload 7, 2) := dk_24 7 (dk_at dksX0_countOf_3 21 rfl rfl)
theorem dX0_countOf_89 : decode cX0_countOf 89 = .ok (.dcmp .l, 1) := dk_151 (dk_at dksX0_countOf_3 23 rfl rfl)
theorem dX0_countOf_90 : decode cX0_countOf 90 = .ok (.ifCond .lt 7, 3) := dk_155 0 7 (dk_at dksX0_countOf_4 0 rfl rfl)
theorem dX0_countOf_93 : decode cX0_countOf 93 = .ok (.iconst 1, 1) := dk_4 (dk_at dksX0_countOf_4 3 rfl rfl)
theorem dX0_countOf_94 : decode cX0_countOf 94 = .ok (.goto 4, 3) := dk_167 0 4 (dk_at dksX0_countOf_4 4 rfl rfl)
theorem dX0_countOf_97 : decode cX0_countOf 97 = .ok (.iconst 0, 1) := dk_3 (dk_at dksX0_countOf_4 7 rfl rfl)
theorem dX0_countOf_98 : decode cX0_countOf 98 = .ok (.istore 11, 2) := dk_54 11 (dk_at dksX0_countOf_4 8 rfl rfl)
theorem dX0_countOf_100 : decode cX0_countOf 100 = .ok (.iload 10, 2) := dk_21 10 (dk_at dksX0_countOf_4 10 rfl rfl)
theorem dX0_countOf_102 : decode cX0_countOf 102 = .ok (.iload 11, 2) := dk_21 11 (dk_at dksX0_countOf_4 12 rfl rfl)
theorem dX0_countOf_104 : decode cX0_countOf 104 = .ok (.ifCond .eq 7, 3) := dk_153 0 7 (dk_at dksX0_countOf_4 14 rfl rfl)
theorem dX0_countOf_107 : decode cX0_countOf 107 = .ok (.iconst 1, 1) := dk_4 (dk_at dksX0_countOf_4 17 rfl rfl)
theorem dX0_countOf_108 : decode cX0_countOf 108 = .ok (.goto 4, 3) := dk_167 0 4 (dk_at dksX0_countOf_4 18 rfl rfl)
theorem dX0_countOf_111 : decode cX0_countOf 111 = .ok (.iconst 0, 1) := dk_3 (dk_at dksX0_countOf_4 21 rfl rfl)
theorem dX0_countOf_112 : decode cX0_countOf 112 = .ok (.iadd, 1) := dk_96 (dk_at dksX0_countOf_4 22 rfl rfl)
theorem dX0_countOf_113 : decode cX0_countOf 113 = .ok (.istore 10, 2) := dk_54 10 (dk_at dksX0_countOf_5 0 rfl rfl)
theorem dX0_countOf_115 : decode cX0_countOf 115 = .ok (.goto (-69), 3) := dk_167 255 187 (dk_at dksX0_countOf_5 2 rfl rfl)
theorem dX0_countOf_118 : decode cX0_countOf 118 = .ok (.iload 10, 2) := dk_21 10 (dk_at dksX0_countOf_5 5 rfl rfl)
theorem dX0_countOf_120 : decode cX0_countOf 120 = .ok (.ireturn, 1) := dk_172 (dk_at dksX0_countOf_5 7 rfl rfl)
abbrev cX0_step : ByteArray := prog_1_method_37_code
def yX0_step : MethodName := ⟨RX0, "step", "(LFloatClasses$Reals;DDI)D"⟩
def dkwX0_step_1 : List UInt8 := [175]
abbrev dktX0_step_1 : List UInt8 := dkwX0_step_1 ++ []
def dkwX0_step_0 : List UInt8 := [42, 39, 42, 21, 5, 135, 42, 41, 39, 185, 1, 7, 5, 0, 185, 1, 10, 5, 0, 185, 1, 13, 5, 0]
abbrev dktX0_step_0 : List UInt8 := dkwX0_step_0 ++ dktX0_step_1
theorem dksX0_step_0 : cX0_step.data.toList.drop 0 = dktX0_step_0 := by decide +kernel
theorem dksX0_step_1 : cX0_step.data.toList.drop 24 = dktX0_step_1 := dk_seg dksX0_step_0 24 rfl rfl
theorem dX0_step_0 : decode cX0_step 0 = .ok (.aload_n 0, 1) := dk_42 (dk_at dksX0_step_0 0 rfl rfl)
theorem dX0_step_1 : decode cX0_step 1 = .ok (.dload_n 1, 1) := dk_39 (dk_at dksX0_step_0 1 rfl rfl)
theorem dX0_step_2 : decode cX0_step 2 = .ok (.aload_n 0, 1) := dk_42 (dk_at dksX0_step_0 2 rfl rfl)
theorem dX0_step_3 : decode cX0_step 3 = .ok (.iload 5, 2) := dk_21 5 (dk_at dksX0_step_0 3 rfl rfl)
theorem dX0_step_5 : decode cX0_step 5 = .ok (.i2d, 1) := dk_135 (dk_at dksX0_step_0 5 rfl rfl)
theorem dX0_step_6 : decode cX0_step 6 = .ok (.aload_n 0, 1) := dk_42 (dk_at dksX0_step_0 6 rfl rfl)
theorem dX0_step_7 : decode cX0_step 7 = .ok (.dload_n 3, 1) := dk_41 (dk_at dksX0_step_0 7 rfl rfl)
theorem dX0_step_8 : decode cX0_step 8 = .ok (.dload_n 1, 1) := dk_39 (dk_at dksX0_step_0 8 rfl rfl)
theorem dX0_step_9 : decode cX0_step 9 = .ok (.invokeinterface 263 5, 5) := by decide +kernel
theorem dX0_step_14 : decode cX0_step 14 = .ok (.invokeinterface 266 5, 5) := by decide +kernel
theorem dX0_step_19 : decode cX0_step 19 = .ok (.invokeinterface 269 5, 5) := by decide +kernel
theorem dX0_step_24 : decode cX0_step 24 = .ok (.dreturn, 1) := dk_175 (dk_at dksX0_step_1 0 rfl rfl)
abbrev cX0_counted : ByteArray := prog_1_method_40_code
def yX0_counted : MethodName := ⟨RX0, "counted", "(IJJJI)J"⟩
def dkwX0_counted_3 : List UInt8 := [185, 0, 183, 3, 0, 167, 0, 9, 42, 5, 182, 0, 35, 133, 173]
abbrev dktX0_counted_3 : List UInt8 := dkwX0_counted_3 ++ []
def dkwX0_counted_2 : List UInt8 := [25, 10, 32, 185, 0, 51, 3, 0, 25, 10, 22, 4, 185, 0, 51, 3, 0, 21, 8, 184, 1, 21]
abbrev dktX0_counted_2 : List UInt8 := dkwX0_counted_2 ++ dktX0_counted_3
def dkwX0_counted_1 : List UInt8 := [182, 0, 47, 58, 10, 21, 8, 133, 9, 21, 9, 4, 100, 133, 184, 0, 172, 153, 0, 37, 25, 10, 25, 10]
abbrev dktX0_counted_1 : List UInt8 := dkwX0_counted_1 ++ dktX0_counted_2
def dkwX0_counted_0 : List UInt8 := [42, 27, 32, 22, 4, 22, 6, 182, 1, 29, 54, 9, 42, 180, 0, 27, 158, 0, 5, 9, 173, 42, 27]
abbrev dktX0_counted_0 : List UInt8 := dkwX0_counted_0 ++ dktX0_counted_1
theorem dksX0_counted_0 : cX0_counted.data.toList.drop 0 = dktX0_counted_0 := by decide +kernel
theorem dksX0_counted_1 : cX0_counted.data.toList.drop 23 = dktX0_counted_1 := dk_seg dksX0_counted_0 23 rfl rfl
theorem dksX0_counted_2 : cX0_counted.data.toList.drop 47 = dktX0_counted_2 := dk_seg dksX0_counted_1 24 rfl rfl
theorem dksX0_counted_3 : cX0_counted.data.toList.drop 69 = dktX0_counted_3 := dk_seg dksX0_counted_2 22 rfl rfl
theorem dX0_counted_0 : decode cX0_counted 0 = .ok (.aload_n 0, 1) := dk_42 (dk_at dksX0_counted_0 0 rfl rfl)
theorem dX0_counted_1 : decode cX0_counted 1 = .ok (.iload_n 1, 1) := dk_27 (dk_at dksX0_counted_0 1 rfl rfl)
theorem dX0_counted_2 : decode cX0_counted 2 = .ok (.lload_n 2, 1) := dk_32 (dk_at dksX0_counted_0 2 rfl rfl)
theorem dX0_counted_3 : decode cX0_counted 3 = .ok (.lload 4, 2) := dk_22 4 (dk_at dksX0_counted_0 3 rfl rfl)
theorem dX0_counted_5 : decode cX0_counted 5 = .ok (.lload 6, 2) := dk_22 6 (dk_at dksX0_counted_0 5 rfl rfl)
theorem dX0_counted_7 : decode cX0_counted 7 = .ok (.invokevirtual 285, 3) := dk_182 1 29 (dk_at dksX0_counted_0 7 rfl rfl)
theorem dX0_counted_10 : decode cX0_counted 10 = .ok (.istore 9, 2) := dk_54 9 (dk_at dksX0_counted_0 10 rfl rfl)
theorem dX0_counted_12 : decode cX0_counted 12 = .ok (.aload_n 0, 1) := dk_42 (dk_at dksX0_counted_0 12 rfl rfl)
theorem dX0_counted_13 : decode cX0_counted 13 = .ok (.getfield 27, 3) := dk_180 0 27 (dk_at dksX0_counted_0 13 rfl rfl)
theorem dX0_counted_16 : decode cX0_counted 16 = .ok (.ifCond .le 5, 3) := dk_158 0 5 (dk_at dksX0_counted_0 16 rfl rfl)
theorem dX0_counted_19 : decode cX0_counted 19 = .ok (.lconst 0, 1) := dk_9 (dk_at dksX0_counted_0 19 rfl rfl)
theorem dX0_counted_20 : decode cX0_counted 20 = .ok (.lreturn, 1) := dk_173 (dk_at dksX0_counted_0 20 rfl rfl)
theorem dX0_counted_21 : decode cX0_counted 21 = .ok (.aload_n 0, 1) := dk_42 (dk_at dksX0_counted_0 21 rfl rfl)
theorem dX0_counted_22 : decode cX0_counted 22 = .ok (.iload_n 1, 1) := dk_27 (dk_at dksX0_counted_0 22 rfl rfl)
theorem dX0_counted_23 : decode cX0_counted 23 = .ok (.invokevirtual 47, 3) := dk_182 0 47 (dk_at dksX0_counted_1 0 rfl rfl)
theorem dX0_counted_26 : decode cX0_counted 26 = .ok (.astore 10, 2) := dk_58 10 (dk_at dksX0_counted_1 3 rfl rfl)
theorem dX0_counted_28 : decode cX0_counted 28 = .ok (.iload 8, 2) := dk_21 8 (dk_at dksX0_counted_1 5 rfl rfl)
theorem dX0_counted_30 : decode cX0_counted 30 = .ok (.i2l, 1) := dk_133 (dk_at dksX0_counted_1 7 rfl rfl)
theorem dX0_counted_31 : decode cX0_counted 31 = .ok (.lconst 0, 1) := dk_9 (dk_at dksX0_counted_1 8 rfl rfl)
theorem dX0_counted_32 : decode cX0_counted 32 = .ok (.iload 9, 2) := dk_21 9 (dk_at dksX0_counted_1 9 rfl rfl)
theorem dX0_counted_34 : decode cX0_counted 34 = .ok (.iconst 1, 1) := dk_4 (dk_at dksX0_counted_1 11 rfl rfl)
theorem dX0_counted_35 : decode cX0_counted 35 = .ok (.isub, 1) := dk_100 (dk_at dksX0_counted_1 12 rfl rfl)
theorem dX0_counted_36 : decode cX0_counted 36 = .ok (.i2l, 1) := dk_133 (dk_at dksX0_counted_1 13 rfl rfl)
theorem dX0_counted_37 : decode cX0_counted 37 = .ok (.invokestatic 172, 3) := dk_184 0 172 (dk_at dksX0_counted_1 14 rfl rfl)
theorem dX0_counted_40 : decode cX0_counted 40 = .ok (.ifCond .eq 37, 3) := dk_153 0 37 (dk_at dksX0_counted_1 17 rfl rfl)
theorem dX0_counted_43 : decode cX0_counted 43 = .ok (.aload 10, 2) := dk_25 10 (dk_at dksX0_counted_1 20 rfl rfl)
theorem dX0_counted_45 : decode cX0_counted 45 = .ok (.aload 10, 2) := dk_25 10 (dk_at dksX0_counted_1 22 rfl rfl)
theorem dX0_counted_47 : decode cX0_counted 47 = .ok (.aload 10, 2) := dk_25 10 (dk_at dksX0_counted_2 0 rfl rfl)
theorem dX0_counted_49 : decode cX0_counted 49 = .ok (.lload_n 2, 1) := dk_32 (dk_at dksX0_counted_2 2 rfl rfl)
theorem dX0_counted_50 : decode cX0_counted 50 = .ok (.invokeinterface 51 3, 5) := by decide +kernel
theorem dX0_counted_55 : decode cX0_counted 55 = .ok (.aload 10, 2) := dk_25 10 (dk_at dksX0_counted_2 8 rfl rfl)
theorem dX0_counted_57 : decode cX0_counted 57 = .ok (.lload 4, 2) := dk_22 4 (dk_at dksX0_counted_2 10 rfl rfl)
theorem dX0_counted_59 : decode cX0_counted 59 = .ok (.invokeinterface 51 3, 5) := by decide +kernel
theorem dX0_counted_64 : decode cX0_counted 64 = .ok (.iload 8, 2) := dk_21 8 (dk_at dksX0_counted_2 17 rfl rfl)
theorem dX0_counted_66 : decode cX0_counted 66 = .ok (.invokestatic 277, 3) := dk_184 1 21 (dk_at dksX0_counted_2 19 rfl rfl)
theorem dX0_counted_69 : decode cX0_counted 69 = .ok (.invokeinterface 183 3, 5) := by decide +kernel
theorem dX0_counted_74 : decode cX0_counted 74 = .ok (.goto 9, 3) := dk_167 0 9 (dk_at dksX0_counted_3 5 rfl rfl)
theorem dX0_counted_77 : decode cX0_counted 77 = .ok (.aload_n 0, 1) := dk_42 (dk_at dksX0_counted_3 8 rfl rfl)
theorem dX0_counted_78 : decode cX0_counted 78 = .ok (.iconst 2, 1) := dk_5 (dk_at dksX0_counted_3 9 rfl rfl)
theorem dX0_counted_79 : decode cX0_counted 79 = .ok (.invokevirtual 35, 3) := dk_182 0 35 (dk_at dksX0_counted_3 10 rfl rfl)
theorem dX0_counted_82 : decode cX0_counted 82 = .ok (.i2l, 1) := dk_133 (dk_at dksX0_counted_3 13 rfl rfl)
theorem dX0_counted_83 : decode cX0_counted 83 = .ok (.lreturn, 1) := dk_173 (dk_at dksX0_counted_3 14 rfl rfl)
abbrev cX0_text : ByteArray := prog_1_method_41_code
def yX0_text : MethodName := ⟨RX0, "text", "(J)I"⟩
def dkwX0_text_6 : List UInt8 := [42, 89, 180, 1, 39, 4, 96, 181, 1, 39, 132, 5, 248, 167, 255, 211, 42, 180, 1, 39, 172]
abbrev dktX0_text_6 : List UInt8 := dkwX0_text_6 ++ []
def dkwX0_text_5 : List UInt8 := [125, 20, 1, 33, 127, 136, 54, 6, 21, 6, 153, 0, 24, 42, 180, 1, 42, 42, 180, 1, 39, 21, 6, 79]
abbrev dktX0_text_5 : List UInt8 := dkwX0_text_5 ++ dktX0_text_6
def dkwX0_text_4 : List UInt8 := [16, 60, 164, 0, 10, 42, 16, 8, 182, 0, 35, 172, 16, 56, 54, 5, 21, 5, 155, 0, 46, 31, 21, 5]
abbrev dktX0_text_4 : List UInt8 := dkwX0_text_4 ++ dktX0_text_5
def dkwX0_text_3 : List UInt8 := [132, 5, 248, 167, 255, 192, 42, 21, 4, 182, 0, 43, 153, 0, 5, 3, 172, 42, 180, 1, 39, 29, 96]
abbrev dktX0_text_3 : List UInt8 := dkwX0_text_3 ++ dktX0_text_4
def dkwX0_text_2 : List UInt8 := [167, 0, 4, 3, 126, 54, 4, 29, 22, 6, 9, 148, 154, 0, 7, 3, 167, 0, 4, 4, 96, 62]
abbrev dktX0_text_2 : List UInt8 := dkwX0_text_2 ++ dktX0_text_3
def dkwX0_text_1 : List UInt8 := [21, 4, 22, 6, 9, 148, 153, 0, 17, 22, 6, 20, 1, 35, 20, 1, 37, 184, 0, 172, 153, 0, 7, 4]
abbrev dktX0_text_1 : List UInt8 := dkwX0_text_1 ++ dktX0_text_2
def dkwX0_text_0 : List UInt8 := [3, 62, 4, 54, 4, 16, 56, 54, 5, 21, 5, 155, 0, 65, 31, 21, 5, 125, 20, 1, 33, 127, 55, 6]
abbrev dktX0_text_0 : List UInt8 := dkwX0_text_0 ++ dktX0_text_1
theorem dksX0_text_0 : cX0_text.data.toList.drop 0 = dktX0_text_0 := by decide +kernel
theorem dksX0_text_1 : cX0_text.data.toList.drop 24 = dktX0_text_1 := dk_seg dksX0_text_0 24 rfl rfl
theorem dksX0_text_2 : cX0_text.data.toList.drop 48 = dktX0_text_2 := dk_seg dksX0_text_1 24 rfl rfl
theorem dksX0_text_3 : cX0_text.data.toList.drop 70 = dktX0_text_3 := dk_seg dksX0_text_2 22 rfl rfl
theorem dksX0_text_4 : cX0_text.data.toList.drop 93 = dktX0_text_4 := dk_seg dksX0_text_3 23 rfl rfl
theorem dksX0_text_5 : cX0_text.data.toList.drop 117 = dktX0_text_5 := dk_seg dksX0_text_4 24 rfl rfl
theorem dksX0_text_6 : cX0_text.data.toList.drop 141 = dktX0_text_6 := dk_seg dksX0_text_5 24 rfl rfl
theorem dX0_text_0 : decode cX0_text 0 = .ok (.iconst 0, 1) := dk_3 (dk_at dksX0_text_0 0 rfl rfl)
theorem dX0_text_1 : decode cX0_text 1 = .ok (.istore_n 3, 1) := dk_62 (dk_at dksX0_text_0 1 rfl rfl)
theorem dX0_text_2 : decode cX0_text 2 = .ok (.iconst 1, 1) := dk_4 (dk_at dksX0_text_0 2 rfl rfl)
theorem dX0_text_3 : decode cX0_text 3 = .ok (.istore 4, 2) := dk_54 4 (dk_at dksX0_text_0 3 rfl rfl)
theorem dX0_text_5 : decode cX0_text 5 = .ok (.bipush 56, 2) := dk_16 56 (dk_at dksX0_text_0 5 rfl rfl)
theorem dX0_text_7 : decode cX0_text 7 = .ok (.istore 5, 2) := dk_54 5 (dk_at dksX0_text_0 7 rfl rfl)
theorem dX0_text_9 : decode cX0_text 9 = .ok (.iload 5, 2) := dk_21 5 (dk_at dksX0_text_0 9 rfl rfl)
theorem dX0_text_11 : decode cX0_text 11 = .ok (.ifCond .lt 65, 3) := dk_155 0 65 (dk_at dksX0_text_0 11 rfl rfl)
theorem dX0_text_14 : decode cX0_text 14 = .ok (.lload_n 1, 1) := dk_31 (dk_at dksX0_text_0 14 rfl rfl)
theorem dX0_text_15 : decode cX0_text 15 = .ok (.iload 5, 2) := dk_21 5 (dk_at dksX0_text_0 15 rfl rfl)
theorem dX0_text_17 : decode cX0_text 17 = .ok (.lushr, 1) := dk_125 (dk_at dksX0_text_0 17 rfl rfl)
theorem dX0_text_18 : decode cX0_text 18 = .ok (.ldc2_w 289, 3) := dk_20 1 33 (dk_at dksX0_text_0 18 rfl rfl)
theorem dX0_text_21 : decode cX0_text 21 = .ok (.land, 1) := dk_127 (dk_at dksX0_text_0 21 rfl rfl)
theorem dX0_text_22 : decode cX0_text 22 = .ok (.lstore 6, 2) := dk_55 6 (dk_at dksX0_text_0 22 rfl rfl)
theorem dX0_text_24 : decode cX0_text 24 = .ok (.iload 4, 2) := dk_21 4 (dk_at dksX0_text_1 0 rfl rfl)
theorem dX0_text_26 : decode cX0_text 26 = .ok (.lload 6, 2) := dk_22 6 (dk_at dksX0_text_1 2 rfl rfl)
theorem dX0_text_28 : decode cX0_text 28 = .ok (.lconst 0, 1) := dk_9 (dk_at dksX0_text_1 4 rfl rfl)
theorem dX0_text_29 : decode cX0_text 29 = .ok (.lcmp, 1) := dk_148 (dk_at dksX0_text_1 5 rfl rfl)
theorem dX0_text_30 : decode cX0_text 30 = .ok (.ifCond .eq 17, 3) := dk_153 0 17 (dk_at dksX0_text_1 6 rfl rfl)
theorem dX0_text_33 : decode cX0_text 33 = .ok (.lload 6, 2) := dk_22 6 (dk_at dksX0_text_1 9 rfl rfl)
theorem dX0_text_35 : decode cX0_text 35 = .ok (.ldc2_w 291, 3) := dk_20 1 35 (dk_at dksX0_text_1 11 rfl rfl)
theorem dX0_text_38 : decode cX0_text 38 = .ok (.ldc2_w 293, 3) := dk_20 1 37 (dk_at dksX0_text_1 14 rfl rfl)
theorem dX0_text_41 : decode cX0_text 41 = .ok (.invokestatic 172, 3) := dk_184 0 172 (dk_at dksX0_text_1 17 rfl rfl)
theorem dX0_text_44 : decode cX0_text 44 = .ok (.ifCond .eq 7, 3) := dk_153 0 7 (dk_at dksX0_text_1 20 rfl rfl)
theorem dX0_text_47 : decode cX0_text 47 = .ok (.iconst 1, 1) := dk_4 (dk_at dksX0_text_1 23 rfl rfl)
theorem dX0_text_48 : decode cX0_text 48 = .ok (.goto 4, 3) := dk_167 0 4 (dk_at dksX0_text_2 0 rfl rfl)
theorem dX0_text_51 : decode cX0_text 51 = .ok (.iconst 0, 1) := dk_3 (dk_at dksX0_text_2 3 rfl rfl)
theorem dX0_text_52 : decode cX0_text 52 = .ok (.iand, 1) := dk_126 (dk_at dksX0_text_2 4 rfl rfl)
theorem dX0_text_53 : decode cX0_text 53 = .ok (.istore 4, 2) := dk_54 4 (dk_at dksX0_text_2 5 rfl rfl)
theorem dX0_text_55 : decode cX0_text 55 = .ok (.iload_n 3, 1) := dk_29 (dk_at dksX0_text_2 7 rfl rfl)
theorem dX0_text_56 : decode cX0_text 56 = .ok (.lload 6, 2) := dk_22 6 (dk_at dksX0_text_2 8 rfl rfl)
theorem dX0_text_58 : decode cX0_text 58 = .ok (.lconst 0, 1) := dk_9 (dk_at dksX0_text_2 10 rfl rfl)
theorem dX0_text_59 : decode cX0_text 59 = .ok (.lcmp, 1) := dk_148 (dk_at dksX0_text_2 11 rfl rfl)
theorem dX0_text_60 : decode cX0_text 60 = .ok (.ifCond .ne 7, 3) := dk_154 0 7 (dk_at dksX0_text_2 12 rfl rfl)
theorem dX0_text_63 : decode cX0_text 63 = .ok (.iconst 0, 1) := dk_3 (dk_at dksX0_text_2 15 rfl rfl)
theorem dX0_text_64 : decode cX0_text 64 = .ok (.goto 4, 3) := dk_167 0 4 (dk_at dksX0_text_2 16 rfl rfl)
theorem dX0_text_67 : decode cX0_text 67 = .ok (.iconst 1, 1) := dk_4 (dk_at dksX0_text_2 19 rfl rfl)
theorem dX0_text_68 : decode cX0_text 68 = .ok (.iadd, 1) := dk_96 (dk_at dksX0_text_2 20 rfl rfl)
theorem dX0_text_69 : decode cX0_text 69 = .ok (.istore_n 3, 1) := dk_62 (dk_at dksX0_text_2 21 rfl rfl)
theorem dX0_text_70 : decode cX0_text 70 = .ok (.iinc 5 (-8), 3) := dk_132 5 248 (dk_at dksX0_text_3 0 rfl rfl)
theorem dX0_text_73 : decode cX0_text 73 = .ok (.goto (-64), 3) := dk_167 255 192 (dk_at dksX0_text_3 3 rfl rfl)
theorem dX0_text_76 : decode cX0_text 76 = .ok (.aload_n 0, 1) := dk_42 (dk_at dksX0_text_3 6 rfl rfl)
theorem dX0_text_77 : decode cX0_text 77 = .ok (.iload 4, 2) := dk_21 4 (dk_at dksX0_text_3 7 rfl rfl)
theorem dX0_text_79 : decode cX0_text 79 = .ok (.invokevirtual 43, 3) := dk_182 0 43 (dk_at dksX0_text_3 9 rfl rfl)
theorem dX0_text_82 : decode cX0_text 82 = .ok (.ifCond .eq 5, 3) := dk_153 0 5 (dk_at dksX0_text_3 12 rfl rfl)
theorem dX0_text_85 : decode cX0_text 85 = .ok (.iconst 0, 1) := dk_3 (dk_at dksX0_text_3 15 rfl rfl)
theorem dX0_text_86 : decode cX0_text 86 = .ok (.ireturn, 1) := dk_172 (dk_at dksX0_text_3 16 rfl rfl)
theorem dX0_text_87 : decode cX0_text 87 = .ok (.aload_n 0, 1) := dk_42 (dk_at dksX0_text_3 17 rfl rfl)
theorem dX0_text_88 : decode cX0_text 88 = .ok (.getfield 295, 3) := dk_180 1 39 (dk_at dksX0_text_3 18 rfl rfl)
theorem dX0_text_91 : decode cX0_text 91 = .ok (.iload_n 3, 1) := dk_29 (dk_at dksX0_text_3 21 rfl rfl)
theorem dX0_text_92 : decode cX0_text 92 = .ok (.iadd, 1) := dk_96 (dk_at dksX0_text_3 22 rfl rfl)
theorem dX0_text_93 : decode cX0_text 93 = .ok (.bipush 60, 2) := dk_16 60 (dk_at dksX0_text_4 0 rfl rfl)
theorem dX0_text_95 : decode cX0_text 95 = .ok (.if_icmp .le 10, 3) := dk_164 0 10 (dk_at dksX0_text_4 2 rfl rfl)
theorem dX0_text_98 : decode cX0_text 98 = .ok (.aload_n 0, 1) := dk_42 (dk_at dksX0_text_4 5 rfl rfl)
theorem dX0_text_99 : decode cX0_text 99 = .ok (.bipush 8, 2) := dk_16 8 (dk_at dksX0_text_4 6 rfl rfl)
theorem dX0_text_101 : decode cX0_text 101 = .ok (.invokevirtual 35, 3) := dk_182 0 35 (dk_at dksX0_text_4 8 rfl rfl)
theorem dX0_text_104 : decode cX0_text 104 = .ok (.ireturn, 1) := dk_172 (dk_at dksX0_text_4 11 rfl rfl)
theorem dX0_text_105 : decode cX0_text 105 = .ok (.bipush 56, 2) := dk_16 56 (dk_at dksX0_text_4 12 rfl rfl)
theorem dX0_text_107 : decode cX0_text 107 = .ok (.istore 5, 2) := dk_54 5 (dk_at dksX0_text_4 14 rfl rfl)
theorem dX0_text_109 : decode cX0_text 109 = .ok (.iload 5, 2) := dk_21 5 (dk_at dksX0_text_4 16 rfl rfl)
theorem dX0_text_111 : decode cX0_text 111 = .ok (.ifCond .lt 46, 3) := dk_155 0 46 (dk_at dksX0_text_4 18 rfl rfl)
theorem dX0_text_114 : decode cX0_text 114 = .ok (.lload_n 1, 1) := dk_31 (dk_at dksX0_text_4 21 rfl rfl)
theorem dX0_text_115 : decode cX0_text 115 = .ok (.iload 5, 2) := dk_21 5 (dk_at dksX0_text_4 22 rfl rfl)
theorem dX0_text_117 : decode cX0_text 117 = .ok (.lushr, 1) := dk_125 (dk_at dksX0_text_5 0 rfl rfl)
theorem dX0_text_118 : decode cX0_text 118 = .ok (.ldc2_w 289, 3) := dk_20 1 33 (dk_at dksX0_text_5 1 rfl rfl)
theorem dX0_text_121 : decode cX0_text 121 = .ok (.land, 1) := dk_127 (dk_at dksX0_text_5 4 rfl rfl)
theorem dX0_text_122 : decode cX0_text 122 = .ok (.l2i, 1) := dk_136 (dk_at dksX0_text_5 5 rfl rfl)
theorem dX0_text_123 : decode cX0_text 123 = .ok (.istore 6, 2) := dk_54 6 (dk_at dksX0_text_5 6 rfl rfl)
theorem dX0_text_125 : decode cX0_text 125 = .ok (.iload 6, 2) := dk_21 6 (dk_at dksX0_text_5 8 rfl rfl)
theorem dX0_text_127 : decode cX0_text 127 = .ok (.ifCond .eq 24, 3) := dk_153 0 24 (dk_at dksX0_text_5 10 rfl rfl)
theorem dX0_text_130 : decode cX0_text 130 = .ok (.aload_n 0, 1) := dk_42 (dk_at dksX0_text_5 13 rfl rfl)
theorem dX0_text_131 : decode cX0_text 131 = .ok (.getfield 298, 3) := dk_180 1 42 (dk_at dksX0_text_5 14 rfl rfl)
theorem dX0_text_134 : decode cX0_text 134 = .ok (.aload_n 0, 1) := dk_42 (dk_at dksX0_text_5 17 rfl rfl)
theorem dX0_text_135 : decode cX0_text 135 = .ok (.getfield 295, 3) := dk_180 1 39 (dk_at dksX0_text_5 18 rfl rfl)
theorem dX0_text_138 : decode cX0_text 138 = .ok (.iload 6, 2) := dk_21 6 (dk_at dksX0_text_5 21 rfl rfl)
theorem dX0_text_140 : decode cX0_text 140 = .ok (.iastore, 1) := dk_79 (dk_at dksX0_text_5 23 rfl rfl)
theorem dX0_text_141 : decode cX0_text 141 = .ok (.aload_n 0, 1) := dk_42 (dk_at dksX0_text_6 0 rfl rfl)
theorem dX0_text_142 : decode cX0_text 142 = .ok (.dup, 1) := dk_89 (dk_at dksX0_text_6 1 rfl rfl)
theorem dX0_text_143 : decode cX0_text 143 = .ok (.getfield 295, 3) := dk_180 1 39 (dk_at dksX0_text_6 2 rfl rfl)
theorem dX0_text_146 : decode cX0_text 146 = .ok (.iconst 1, 1) := dk_4 (dk_at dksX0_text_6 5 rfl rfl)
theorem dX0_text_147 : decode cX0_text 147 = .ok (.iadd, 1) := dk_96 (dk_at dksX0_text_6 6 rfl rfl)
theorem dX0_text_148 : decode cX0_text 148 = .ok (.putfield 295, 3) := dk_181 1 39 (dk_at dksX0_text_6 7 rfl rfl)
theorem dX0_text_151 : decode cX0_text 151 = .ok (.iinc 5 (-8), 3) := dk_132 5 248 (dk_at dksX0_text_6 10 rfl rfl)
theorem dX0_text_154 : decode cX0_text 154 = .ok (.goto (-45), 3) := dk_167 255 211 (dk_at dksX0_text_6 13 rfl rfl)
theorem dX0_text_157 : decode cX0_text 157 = .ok (.aload_n 0, 1) := dk_42 (dk_at dksX0_text_6 16 rfl rfl)
theorem dX0_text_158 : decode cX0_text 158 = .ok (.getfield 295, 3) := dk_180 1 39 (dk_at dksX0_text_6 17 rfl rfl)
theorem dX0_text_161 : decode cX0_text 161 = .ok (.ireturn, 1) := dk_172 (dk_at dksX0_text_6 20 rfl rfl)
abbrev cX0_read : ByteArray := prog_1_method_43_code
def yX0_read : MethodName := ⟨RX0, "read", "(I)J"⟩
def dkwX0_read_2 : List UInt8 := [180, 1, 75, 133, 101, 66, 42, 3, 181, 1, 39, 33, 173, 58, 5, 42, 3, 181, 1, 39, 25, 5, 191]
abbrev dktX0_read_2 : List UInt8 := dkwX0_read_2 ++ []
def dkwX0_read_1 : List UInt8 := [182, 0, 47, 182, 1, 67, 185, 0, 183, 3, 0, 65, 42, 3, 181, 1, 39, 32, 173, 77, 20, 1, 73, 44]
abbrev dktX0_read_1 : List UInt8 := dkwX0_read_1 ++ dktX0_read_2
def dkwX0_read_0 : List UInt8 := [42, 27, 184, 0, 39, 182, 0, 43, 153, 0, 7, 9, 167, 0, 22, 42, 27, 182, 0, 47, 42, 42, 27]
abbrev dktX0_read_0 : List UInt8 := dkwX0_read_0 ++ dktX0_read_1
theorem dksX0_read_0 : cX0_read.data.toList.drop 0 = dktX0_read_0 := by decide +kernel
theorem dksX0_read_1 : cX0_read.data.toList.drop 23 = dktX0_read_1 := dk_seg dksX0_read_0 23 rfl rfl
theorem dksX0_read_2 : cX0_read.data.toList.drop 47 = dktX0_read_2 := dk_seg dksX0_read_1 24 rfl rfl
theorem dX0_read_0 : decode cX0_read 0 = .ok (.aload_n 0, 1) := dk_42 (dk_at dksX0_read_0 0 rfl rfl)
theorem dX0_read_1 : decode cX0_read 1 = .ok (.iload_n 1, 1) := dk_27 (dk_at dksX0_read_0 1 rfl rfl)
theorem dX0_read_2 : decode cX0_read 2 = .ok (.invokestatic 39, 3) := dk_184 0 39 (dk_at dksX0_read_0 2 rfl rfl)
theorem dX0_read_5 : decode cX0_read 5 = .ok (.invokevirtual 43, 3) := dk_182 0 43 (dk_at dksX0_read_0 5 rfl rfl)
theorem dX0_read_8 : decode cX0_read 8 = .ok (.ifCond .eq 7, 3) := dk_153 0 7 (dk_at dksX0_read_0 8 rfl rfl)
theorem dX0_read_11 : decode cX0_read 11 = .ok (.lconst 0, 1) := dk_9 (dk_at dksX0_read_0 11 rfl rfl)
theorem dX0_read_12 : decode cX0_read 12 = .ok (.goto 22, 3) := dk_167 0 22 (dk_at dksX0_read_0 12 rfl rfl)
theorem dX0_read_15 : decode cX0_read 15 = .ok (.aload_n 0, 1) := dk_42 (dk_at dksX0_read_0 15 rfl rfl)
theorem dX0_read_16 : decode cX0_read 16 = .ok (.iload_n 1, 1) := dk_27 (dk_at dksX0_read_0 16 rfl rfl)
theorem dX0_read_17 : decode cX0_read 17 = .ok (.invokevirtual 47, 3) := dk_182 0 47 (dk_at dksX0_read_0 17 rfl rfl)
theorem dX0_read_20 : decode cX0_read 20 = .ok (.aload_n 0, 1) := dk_42 (dk_at dksX0_read_0 20 rfl rfl)
theorem dX0_read_21 : decode cX0_read 21 = .ok (.aload_n 0, 1) := dk_42 (dk_at dksX0_read_0 21 rfl rfl)
theorem dX0_read_22 : decode cX0_read 22 = .ok (.iload_n 1, 1) := dk_27 (dk_at dksX0_read_0 22 rfl rfl)
theorem dX0_read_23 : decode cX0_read 23 = .ok (.invokevirtual 47, 3) := dk_182 0 47 (dk_at dksX0_read_1 0 rfl rfl)
theorem dX0_read_26 : decode cX0_read 26 = .ok (.invokevirtual 323, 3) := dk_182 1 67 (dk_at dksX0_read_1 3 rfl rfl)
theorem dX0_read_29 : decode cX0_read 29 = .ok (.invokeinterface 183 3, 5) := by decide +kernel
theorem dX0_read_34 : decode cX0_read 34 = .ok (.lstore_n 2, 1) := dk_65 (dk_at dksX0_read_1 11 rfl rfl)
theorem dX0_read_35 : decode cX0_read 35 = .ok (.aload_n 0, 1) := dk_42 (dk_at dksX0_read_1 12 rfl rfl)
theorem dX0_read_36 : decode cX0_read 36 = .ok (.iconst 0, 1) := dk_3 (dk_at dksX0_read_1 13 rfl rfl)
theorem dX0_read_37 : decode cX0_read 37 = .ok (.putfield 295, 3) := dk_181 1 39 (dk_at dksX0_read_1 14 rfl rfl)
theorem dX0_read_40 : decode cX0_read 40 = .ok (.lload_n 2, 1) := dk_32 (dk_at dksX0_read_1 17 rfl rfl)
theorem dX0_read_41 : decode cX0_read 41 = .ok (.lreturn, 1) := dk_173 (dk_at dksX0_read_1 18 rfl rfl)
theorem dX0_read_42 : decode cX0_read 42 = .ok (.astore_n 2, 1) := dk_77 (dk_at dksX0_read_1 19 rfl rfl)
theorem dX0_read_43 : decode cX0_read 43 = .ok (.ldc2_w 329, 3) := dk_20 1 73 (dk_at dksX0_read_1 20 rfl rfl)
theorem dX0_read_46 : decode cX0_read 46 = .ok (.aload_n 2, 1) := dk_44 (dk_at dksX0_read_1 23 rfl rfl)
theorem dX0_read_47 : decode cX0_read 47 = .ok (.getfield 331, 3) := dk_180 1 75 (dk_at dksX0_read_2 0 rfl rfl)
theorem dX0_read_50 : decode cX0_read 50 = .ok (.i2l, 1) := dk_133 (dk_at dksX0_read_2 3 rfl rfl)
theorem dX0_read_51 : decode cX0_read 51 = .ok (.lsub, 1) := dk_101 (dk_at dksX0_read_2 4 rfl rfl)
theorem dX0_read_52 : decode cX0_read 52 = .ok (.lstore_n 3, 1) := dk_66 (dk_at dksX0_read_2 5 rfl rfl)
theorem dX0_read_53 : decode cX0_read 53 = .ok (.aload_n 0, 1) := dk_42 (dk_at dksX0_read_2 6 rfl rfl)
theorem dX0_read_54 : decode cX0_read 54 = .ok (.iconst 0, 1) := dk_3 (dk_at dksX0_read_2 7 rfl rfl)
theorem dX0_read_55 : decode cX0_read 55 = .ok (.putfield 295, 3) := dk_181 1 39 (dk_at dksX0_read_2 8 rfl rfl)
theorem dX0_read_58 : decode cX0_read 58 = .ok (.lload_n 3, 1) := dk_33 (dk_at dksX0_read_2 11 rfl rfl)
theorem dX0_read_59 : decode cX0_read 59 = .ok (.lreturn, 1) := dk_173 (dk_at dksX0_read_2 12 rfl rfl)
theorem dX0_read_60 : decode cX0_read 60 = .ok (.astore 5, 2) := dk_58 5 (dk_at dksX0_read_2 13 rfl rfl)
theorem dX0_read_62 : decode cX0_read 62 = .ok (.aload_n 0, 1) := dk_42 (dk_at dksX0_read_2 15 rfl rfl)
theorem dX0_read_63 : decode cX0_read 63 = .ok (.iconst 0, 1) := dk_3 (dk_at dksX0_read_2 16 rfl rfl)
theorem dX0_read_64 : decode cX0_read 64 = .ok (.putfield 295, 3) := dk_181 1 39 (dk_at dksX0_read_2 17 rfl rfl)
theorem dX0_read_67 : decode cX0_read 67 = .ok (.aload 5, 2) := dk_25 5 (dk_at dksX0_read_2 20 rfl rfl)
theorem dX0_read_69 : decode cX0_read 69 = .ok (.athrow, 1) := dk_191 (dk_at dksX0_read_2 22 rfl rfl)
abbrev cX0_readOf : ByteArray := prog_1_method_42_code
def yX0_readOf : MethodName := ⟨RX0, "readOf", "(LFloatClasses$Reals;)D"⟩
def dkwX0_readOf_5 : List UInt8 := [28, 182, 0, 246, 175]
abbrev dktX0_readOf_5 : List UInt8 := dkwX0_readOf_5 ++ []
def dkwX0_readOf_4 : List UInt8 := [180, 0, 97, 167, 0, 7, 42, 180, 0, 106, 16, 10, 3, 182, 1, 64, 132, 4, 255, 167, 255, 227, 42, 43]
abbrev dktX0_readOf_4 : List UInt8 := dkwX0_readOf_4 ++ dktX0_readOf_5
def dkwX0_readOf_3 : List UInt8 := [180, 0, 106, 10, 182, 0, 242, 29, 184, 1, 62, 54, 4, 21, 4, 158, 0, 30, 29, 158, 0, 10, 42]
abbrev dktX0_readOf_3 : List UInt8 := dkwX0_readOf_3 ++ dktX0_readOf_4
def dkwX0_readOf_2 : List UInt8 := [175, 29, 17, 1, 144, 164, 0, 17, 28, 153, 0, 9, 20, 1, 60, 167, 0, 6, 20, 0, 82, 175, 42]
abbrev dktX0_readOf_2 : List UInt8 := dkwX0_readOf_2 ++ dktX0_readOf_3
def dkwX0_readOf_1 : List UInt8 := [153, 0, 13, 29, 16, 36, 96, 17, 254, 112, 162, 0, 15, 28, 153, 0, 9, 20, 1, 58, 167, 0, 4, 14]
abbrev dktX0_readOf_1 : List UInt8 := dkwX0_readOf_1 ++ dktX0_readOf_2
def dkwX0_readOf_0 : List UInt8 := [42, 180, 1, 45, 182, 1, 49, 61, 42, 180, 1, 45, 180, 1, 55, 62, 42, 180, 0, 97, 182, 0, 101]
abbrev dktX0_readOf_0 : List UInt8 := dkwX0_readOf_0 ++ dktX0_readOf_1
theorem dksX0_readOf_0 : cX0_readOf.data.toList.drop 0 = dktX0_readOf_0 := by decide +kernel
theorem dksX0_readOf_1 : cX0_readOf.data.toList.drop 23 = dktX0_readOf_1 := dk_seg dksX0_readOf_0 23 rfl rfl
theorem dksX0_readOf_2 : cX0_readOf.data.toList.drop 47 = dktX0_readOf_2 := dk_seg dksX0_readOf_1 24 rfl rfl
theorem dksX0_readOf_3 : cX0_readOf.data.toList.drop 70 = dktX0_readOf_3 := dk_seg dksX0_readOf_2 23 rfl rfl
theorem dksX0_readOf_4 : cX0_readOf.data.toList.drop 93 = dktX0_readOf_4 := dk_seg dksX0_readOf_3 23 rfl rfl
theorem dksX0_readOf_5 : cX0_readOf.data.toList.drop 117 = dktX0_readOf_5 := dk_seg dksX0_readOf_4 24 rfl rfl
theorem dX0_readOf_0 : decode cX0_readOf 0 = .ok (.aload_n 0, 1) := dk_42 (dk_at dksX0_readOf_0 0 rfl rfl)
theorem dX0_readOf_1 : decode cX0_readOf 1 = .ok (.getfield 301, 3) := dk_180 1 45 (dk_at dksX0_readOf_0 1 rfl rfl)
theorem dX0_readOf_4 : decode cX0_readOf 4 = .ok (.invokevirtual 305, 3) := dk_182 1 49 (dk_at dksX0_readOf_0 4 rfl rfl)
theorem dX0_readOf_7 : decode cX0_readOf 7 = .ok (.istore_n 2, 1) := dk_61 (dk_at dksX0_readOf_0 7 rfl rfl)
theorem dX0_readOf_8 : decode cX0_readOf 8 = .ok (.aload_n 0, 1) := dk_42 (dk_at dksX0_readOf_0 8 rfl rfl)
theorem dX0_readOf_9 : decode cX0_readOf 9 = .ok (.getfield 301, 3) := dk_180 1 45 (dk_at dksX0_readOf_0 9 rfl rfl)
theorem dX0_readOf_12 : decode cX0_readOf 12 = .ok (.getfield 311, 3) := dk_180 1 55 (dk_at dksX0_readOf_0 12 rfl rfl)
theorem dX0_readOf_15 : decode cX0_readOf 15 = .ok (.istore_n 3, 1) := dk_62 (dk_at dksX0_readOf_0 15 rfl rfl)
theorem dX0_readOf_16 : decode cX0_readOf 16 = .ok (.aload_n 0, 1) := dk_42 (dk_at dksX0_readOf_0 16 rfl rfl)
theorem dX0_readOf_17 : decode cX0_readOf 17 = .ok (.getfield 97, 3) := dk_180 0 97 (dk_at dksX0_readOf_0 17 rfl rfl)
theorem dX0_readOf_20 : decode cX0_readOf 20 = .ok (.invokevirtual 101, 3) := dk_182 0 101 (dk_at dksX0_readOf_0 20 rfl rfl)
theorem dX0_readOf_23 : decode cX0_readOf 23 = .ok (.ifCond .eq 13, 3) := dk_153 0 13 (dk_at dksX0_readOf_1 0 rfl rfl)
theorem dX0_readOf_26 : decode cX0_readOf 26 = .ok (.iload_n 3, 1) := dk_29 (dk_at dksX0_readOf_1 3 rfl rfl)
theorem dX0_readOf_27 : decode cX0_readOf 27 = .ok (.bipush 36, 2) := dk_16 36 (dk_at dksX0_readOf_1 4 rfl rfl)
theorem dX0_readOf_29 : decode cX0_readOf 29 = .ok (.iadd, 1) := dk_96 (dk_at dksX0_readOf_1 6 rfl rfl)
theorem dX0_readOf_30 : decode cX0_readOf 30 = .ok (.sipush (-400), 3) := dk_17 254 112 (dk_at dksX0_readOf_1 7 rfl rfl)
theorem dX0_readOf_33 : decode cX0_readOf 33 = .ok (.if_icmp .ge 15, 3) := dk_162 0 15 (dk_at dksX0_readOf_1 10 rfl rfl)
theorem dX0_readOf_36 : decode cX0_readOf 36 = .ok (.iload_n 2, 1) := dk_28 (dk_at dksX0_readOf_1 13 rfl rfl)
theorem dX0_readOf_37 : decode cX0_readOf 37 = .ok (.ifCond .eq 9, 3) := dk_153 0 9 (dk_at dksX0_readOf_1 14 rfl rfl)
theorem dX0_readOf_40 : decode cX0_readOf 40 = .ok (.ldc2_w 314, 3) := dk_20 1 58 (dk_at dksX0_readOf_1 17 rfl rfl)
theorem dX0_readOf_43 : decode cX0_readOf 43 = .ok (.goto 4, 3) := dk_167 0 4 (dk_at dksX0_readOf_1 20 rfl rfl)
theorem dX0_readOf_46 : decode cX0_readOf 46 = .ok (.dconst 0, 1) := dk_14 (dk_at dksX0_readOf_1 23 rfl rfl)
theorem dX0_readOf_47 : decode cX0_readOf 47 = .ok (.dreturn, 1) := dk_175 (dk_at dksX0_readOf_2 0 rfl rfl)
theorem dX0_readOf_48 : decode cX0_readOf 48 = .ok (.iload_n 3, 1) := dk_29 (dk_at dksX0_readOf_2 1 rfl rfl)
theorem dX0_readOf_49 : decode cX0_readOf 49 = .ok (.sipush 400, 3) := dk_17 1 144 (dk_at dksX0_readOf_2 2 rfl rfl)
theorem dX0_readOf_52 : decode cX0_readOf 52 = .ok (.if_icmp .le 17, 3) := dk_164 0 17 (dk_at dksX0_readOf_2 5 rfl rfl)
theorem dX0_readOf_55 : decode cX0_readOf 55 = .ok (.iload_n 2, 1) := dk_28 (dk_at dksX0_readOf_2 8 rfl rfl)
theorem dX0_readOf_56 : decode cX0_readOf 56 = .ok (.ifCond .eq 9, 3) := dk_153 0 9 (dk_at dksX0_readOf_2 9 rfl rfl)
theorem dX0_readOf_59 : decode cX0_readOf 59 = .ok (.ldc2_w 316, 3) := dk_20 1 60 (dk_at dksX0_readOf_2 12 rfl rfl)
theorem dX0_readOf_62 : decode cX0_readOf 62 = .ok (.goto 6, 3) := dk_167 0 6 (dk_at dksX0_readOf_2 15 rfl rfl)
theorem dX0_readOf_65 : decode cX0_readOf 65 = .ok (.ldc2_w 82, 3) := dk_20 0 82 (dk_at dksX0_readOf_2 18 rfl rfl)
theorem dX0_readOf_68 : decode cX0_readOf 68 = .ok (.dreturn, 1) := dk_175 (dk_at dksX0_readOf_2 21 rfl rfl)
theorem dX0_readOf_69 : decode cX0_readOf 69 = .ok (.aload_n 0, 1) := dk_42 (dk_at dksX0_readOf_2 22 rfl rfl)
theorem dX0_readOf_70 : decode cX0_readOf 70 = .ok (.getfield 106, 3) := dk_180 0 106 (dk_at dksX0_readOf_3 0 rfl rfl)
theorem dX0_readOf_73 : decode cX0_readOf 73 = .ok (.lconst 1, 1) := dk_10 (dk_at dksX0_readOf_3 3 rfl rfl)
theorem dX0_readOf_74 : decode cX0_readOf 74 = .ok (.invokevirtual 242, 3) := dk_182 0 242 (dk_at dksX0_readOf_3 4 rfl rfl)
theorem dX0_readOf_77 : decode cX0_readOf 77 = .ok (.iload_n 3, 1) := dk_29 (dk_at dksX0_readOf_3 7 rfl rfl)
theorem dX0_readOf_78 : decode cX0_readOf 78 = .ok (.invokestatic 318, 3) := dk_184 1 62 (dk_at dksX0_readOf_3 8 rfl rfl)
theorem dX0_readOf_81 : decode cX0_readOf 81 = .ok (.istore 4, 2) := dk_54 4 (dk_at dksX0_readOf_3 11 rfl rfl)
theorem dX0_readOf_83 : decode cX0_readOf 83 = .ok (.iload 4, 2) := dk_21 4 (dk_at dksX0_readOf_3 13 rfl rfl)
theorem dX0_readOf_85 : decode cX0_readOf 85 = .ok (.ifCond .le 30, 3) := dk_158 0 30 (dk_at dksX0_readOf_3 15 rfl rfl)
theorem dX0_readOf_88 : decode cX0_readOf 88 = .ok (.iload_n 3, 1) := dk_29 (dk_at dksX0_readOf_3 18 rfl rfl)
theorem dX0_readOf_89 : decode cX0_readOf 89 = .ok (.ifCond .le 10, 3) := dk_158 0 10 (dk_at dksX0_readOf_3 19 rfl rfl)
theorem dX0_readOf_92 : decode cX0_readOf 92 = .ok (.aload_n 0, 1) := dk_42 (dk_at dksX0_readOf_3 22 rfl rfl)
theorem dX0_readOf_93 : decode cX0_readOf 93 = .ok (.getfield 97, 3) := dk_180 0 97 (dk_at dksX0_readOf_4 0 rfl rfl)
theorem dX0_readOf_96 : decode cX0_readOf 96 = .ok (.goto 7, 3) := dk_167 0 7 (dk_at dksX0_readOf_4 3 rfl rfl)
theorem dX0_readOf_99 : decode cX0_readOf 99 = .ok (.aload_n 0, 1) := dk_42 (dk_at dksX0_readOf_4 6 rfl rfl)
theorem dX0_readOf_100 : decode cX0_readOf 100 = .ok (.getfield 106, 3) := dk_180 0 106 (dk_at dksX0_readOf_4 7 rfl rfl)
theorem dX0_readOf_103 : decode cX0_readOf 103 = .ok (.bipush 10, 2) := dk_16 10 (dk_at dksX0_readOf_4 10 rfl rfl)
theorem dX0_readOf_105 : decode cX0_readOf 105 = .ok (.iconst 0, 1) := dk_3 (dk_at dksX0_readOf_4 12 rfl rfl)
theorem dX0_readOf_106 : decode cX0_readOf 106 = .ok (.invokevirtual 320, 3) := dk_182 1 64 (dk_at dksX0_readOf_4 13 rfl rfl)
theorem dX0_readOf_109 : decode cX0_readOf 109 = .ok (.iinc 4 (-1), 3) := dk_132 4 255 (dk_at dksX0_readOf_4 16 rfl rfl)
theorem dX0_readOf_112 : decode cX0_readOf 112 = .ok (.goto (-29), 3) := dk_167 255 227 (dk_at dksX0_readOf_4 19 rfl rfl)
theorem dX0_readOf_115 : decode cX0_readOf 115 = .ok (.aload_n 0, 1) := dk_42 (dk_at dksX0_readOf_4 22 rfl rfl)
theorem dX0_readOf_116 : decode cX0_readOf 116 = .ok (.aload_n 1, 1) := dk_43 (dk_at dksX0_readOf_4 23 rfl rfl)
theorem dX0_readOf_117 : decode cX0_readOf 117 = .ok (.iload_n 2, 1) := dk_28 (dk_at dksX0_readOf_5 0 rfl rfl)
theorem dX0_readOf_118 : decode cX0_readOf 118 = .ok (.invokevirtual 246, 3) := dk_182 0 246 (dk_at dksX0_readOf_5 1 rfl rfl)
theorem dX0_readOf_121 : decode cX0_readOf 121 = .ok (.dreturn, 1) := dk_175 (dk_at dksX0_readOf_5 4 rfl rfl)
abbrev cX0_init : ByteArray := prog_1_method_44_code
def yX0_init : MethodName := ⟨RX0, "<init>", "()V"⟩
def dkwX0_init_5 : List UInt8 := [42, 180, 1, 93, 27, 187, 1, 91, 89, 183, 1, 97, 83, 132, 1, 1, 167, 255, 234, 177]
abbrev dktX0_init_5 : List UInt8 := dkwX0_init_5 ++ []
def dkwX0_init_4 : List UInt8 := [42, 183, 1, 88, 181, 1, 45, 42, 16, 8, 189, 1, 91, 181, 1, 93, 3, 60, 27, 16, 8, 162, 0, 22]
abbrev dktX0_init_4 : List UInt8 := dkwX0_init_4 ++ dktX0_init_5
def dkwX0_init_3 : List UInt8 := [181, 0, 255, 42, 16, 53, 188, 10, 181, 1, 2, 42, 16, 60, 188, 10, 181, 1, 42, 42, 187, 1, 50, 89]
abbrev dktX0_init_3 : List UInt8 := dkwX0_init_3 ++ dktX0_init_4
def dkwX0_init_2 : List UInt8 := [187, 0, 102, 89, 183, 1, 87, 181, 0, 106, 42, 3, 188, 10, 181, 0, 252, 42, 16, 24, 188, 10]
abbrev dktX0_init_2 : List UInt8 := dkwX0_init_2 ++ dktX0_init_3
def dkwX0_init_1 : List UInt8 := [181, 0, 17, 42, 16, 10, 188, 10, 181, 0, 31, 42, 187, 0, 102, 89, 183, 1, 87, 181, 0, 97, 42]
abbrev dktX0_init_1 : List UInt8 := dkwX0_init_1 ++ dktX0_init_2
def dkwX0_init_0 : List UInt8 := [42, 183, 1, 78, 42, 187, 1, 83, 89, 183, 1, 85, 181, 0, 23, 42, 187, 0, 186, 89, 183, 1, 86]
abbrev dktX0_init_0 : List UInt8 := dkwX0_init_0 ++ dktX0_init_1
theorem dksX0_init_0 : cX0_init.data.toList.drop 0 = dktX0_init_0 := by decide +kernel
theorem dksX0_init_1 : cX0_init.data.toList.drop 23 = dktX0_init_1 := dk_seg dksX0_init_0 23 rfl rfl
theorem dksX0_init_2 : cX0_init.data.toList.drop 46 = dktX0_init_2 := dk_seg dksX0_init_1 23 rfl rfl
theorem dksX0_init_3 : cX0_init.data.toList.drop 68 = dktX0_init_3 := dk_seg dksX0_init_2 22 rfl rfl
theorem dksX0_init_4 : cX0_init.data.toList.drop 92 = dktX0_init_4 := dk_seg dksX0_init_3 24 rfl rfl
theorem dksX0_init_5 : cX0_init.data.toList.drop 116 = dktX0_init_5 := dk_seg dksX0_init_4 24 rfl rfl
theorem dX0_init_0 : decode cX0_init 0 = .ok (.aload_n 0, 1) := dk_42 (dk_at dksX0_init_0 0 rfl rfl)
theorem dX0_init_1 : decode cX0_init 1 = .ok (.invokespecial 334, 3) := dk_183 1 78 (dk_at dksX0_init_0 1 rfl rfl)
theorem dX0_init_4 : decode cX0_init 4 = .ok (.aload_n 0, 1) := dk_42 (dk_at dksX0_init_0 4 rfl rfl)
theorem dX0_init_5 : decode cX0_init 5 = .ok (.new 339, 3) := dk_187 1 83 (dk_at dksX0_init_0 5 rfl rfl)
theorem dX0_init_8 : decode cX0_init 8 = .ok (.dup, 1) := dk_89 (dk_at dksX0_init_0 8 rfl rfl)
theorem dX0_init_9 : decode cX0_init 9 = .ok (.invokespecial 341, 3) := dk_183 1 85 (dk_at dksX0_init_0 9 rfl rfl)
theorem dX0_init_12 : decode cX0_init 12 = .ok (.putfield 23, 3) := dk_181 0 23 (dk_at dksX0_init_0 12 rfl rfl)
theorem dX0_init_15 : decode cX0_init 15 = .ok (.aload_n 0, 1) := dk_42 (dk_at dksX0_init_0 15 rfl rfl)
theorem dX0_init_16 : decode cX0_init 16 = .ok (.new 186, 3) := dk_187 0 186 (dk_at dksX0_init_0 16 rfl rfl)
theorem dX0_init_19 : decode cX0_init 19 = .ok (.dup, 1) := dk_89 (dk_at dksX0_init_0 19 rfl rfl)
theorem dX0_init_20 : decode cX0_init 20 = .ok (.invokespecial 342, 3) := dk_183 1 86 (dk_at dksX0_init_0 20 rfl rfl)
theorem dX0_init_23 : decode cX0_init 23 = .ok (.putfield 17, 3) := dk_181 0 17 (dk_at dksX0_init_1 0 rfl rfl)
theorem dX0_init_26 : decode cX0_init 26 = .ok (.aload_n 0, 1) := dk_42 (dk_at dksX0_init_1 3 rfl rfl)
theorem dX0_init_27 : decode cX0_init 27 = .ok (.bipush 10, 2) := dk_16 10 (dk_at dksX0_init_1 4 rfl rfl)
theorem dX0_init_29 : decode cX0_init 29 = .ok (.newarray .int, 2) := dk_188_10 (dk_at dksX0_init_1 6 rfl rfl)
theorem dX0_init_31 : decode cX0_init 31 = .ok (.putfield 31, 3) := dk_181 0 31 (dk_at dksX0_init_1 8 rfl rfl)
theorem dX0_init_34 : decode cX0_init 34 = .ok (.aload_n 0, 1) := dk_42 (dk_at dksX0_init_1 11 rfl rfl)
theorem dX0_init_35 : decode cX0_init 35 = .ok (.new 102, 3) := dk_187 0 102 (dk_at dksX0_init_1 12 rfl rfl)
theorem dX0_init_38 : decode cX0_init 38 = .ok (.dup, 1) := dk_89 (dk_at dksX0_init_1 15 rfl rfl)
theorem dX0_init_39 : decode cX0_init 39 = .ok (.invokespecial 343, 3) := dk_183 1 87 (dk_at dksX0_init_1 16 rfl rfl)
theorem dX0_init_42 : decode cX0_init 42 = .ok (.putfield 97, 3) := dk_181 0 97 (dk_at dksX0_init_1 19 rfl rfl)
theorem dX0_init_45 : decode cX0_init 45 = .ok (.aload_n 0, 1) := dk_42 (dk_at dksX0_init_1 22 rfl rfl)
theorem dX0_init_46 : decode cX0_init 46 = .ok (.new 102, 3) := dk_187 0 102 (dk_at dksX0_init_2 0 rfl rfl)
theorem dX0_init_49 : decode cX0_init 49 = .ok (.dup, 1) := dk_89 (dk_at dksX0_init_2 3 rfl rfl)
theorem dX0_init_50 : decode cX0_init 50 = .ok (.invokespecial 343, 3) := dk_183 1 87 (dk_at dksX0_init_2 4 rfl rfl)
theorem dX0_init_53 : decode cX0_init 53 = .ok (.putfield 106, 3) := dk_181 0 106 (dk_at dksX0_init_2 7 rfl rfl)
theorem dX0_init_56 : decode cX0_init 56 = .ok (.aload_n 0, 1) := dk_42 (dk_at dksX0_init_2 10 rfl rfl)
theorem dX0_init_57 : decode cX0_init 57 = .ok (.iconst 0, 1) := dk_3 (dk_at dksX0_init_2 11 rfl rfl)
theorem dX0_init_58 : decode cX0_init 58 = .ok (.newarray .int, 2) := dk_188_10 (dk_at dksX0_init_2 12 rfl rfl)
theorem dX0_init_60 : decode cX0_init 60 = .ok (.putfield 252, 3) := dk_181 0 252 (dk_at dksX0_init_2 14 rfl rfl)
theorem dX0_init_63 : decode cX0_init 63 = .ok (.aload_n 0, 1) := dk_42 (dk_at dksX0_init_2 17 rfl rfl)
theorem dX0_init_64 : decode cX0_init 64 = .ok (.bipush 24, 2) := dk_16 24 (dk_at dksX0_init_2 18 rfl rfl)
theorem dX0_init_66 : decode cX0_init 66 = .ok (.newarray .int, 2) := dk_188_10 (dk_at dksX0_init_2 20 rfl rfl)
theorem dX0_init_68 : decode cX0_init 68 = .ok (.putfield 255, 3) := dk_181 0 255 (dk_at dksX0_init_3 0 rfl rfl)
theorem dX0_init_71 : decode cX0_init 71 = .ok (.aload_n 0, 1) := dk_42 (dk_at dksX0_init_3 3 rfl rfl)
theorem dX0_init_72 : decode cX0_init 72 = .ok (.bipush 53, 2) := dk_16 53 (dk_at dksX0_init_3 4 rfl rfl)
theorem dX0_init_74 : decode cX0_init 74 = .ok (.newarray .int, 2) := dk_188_10 (dk_at dksX0_init_3 6 rfl rfl)
theorem dX0_init_76 : decode cX0_init 76 = .ok (.putfield 258, 3) := dk_181 1 2 (dk_at dksX0_init_3 8 rfl rfl)
theorem dX0_init_79 : decode cX0_init 79 = .ok (.aload_n 0, 1) := dk_42 (dk_at dksX0_init_3 11 rfl rfl)
theorem dX0_init_80 : decode cX0_init 80 = .ok (.bipush 60, 2) := dk_16 60 (dk_at dksX0_init_3 12 rfl rfl)
theorem dX0_init_82 : decode cX0_init 82 = .ok (.newarray .int, 2) := dk_188_10 (dk_at dksX0_init_3 14 rfl rfl)
theorem dX0_init_84 : decode cX0_init 84 = .ok (.putfield 298, 3) := dk_181 1 42 (dk_at dksX0_init_3 16 rfl rfl)
theorem dX0_init_87 : decode cX0_init 87 = .ok (.aload_n 0, 1) := dk_42 (dk_at dksX0_init_3 19 rfl rfl)
theorem dX0_init_88 : decode cX0_init 88 = .ok (.new 306, 3) := dk_187 1 50 (dk_at dksX0_init_3 20 rfl rfl)
theorem dX0_init_91 : decode cX0_init 91 = .ok (.dup, 1) := dk_89 (dk_at dksX0_init_3 23 rfl rfl)
theorem dX0_init_92 : decode cX0_init 92 = .ok (.aload_n 0, 1) := dk_42 (dk_at dksX0_init_4 0 rfl rfl)
theorem dX0_init_93 : decode cX0_init 93 = .ok (.invokespecial 344, 3) := dk_183 1 88 (dk_at dksX0_init_4 1 rfl rfl)
theorem dX0_init_96 : decode cX0_init 96 = .ok (.putfield 301, 3) := dk_181 1 45 (dk_at dksX0_init_4 4 rfl rfl)
theorem dX0_init_99 : decode cX0_init 99 = .ok (.aload_n 0, 1) := dk_42 (dk_at dksX0_init_4 7 rfl rfl)
theorem dX0_init_100 : decode cX0_init 100 = .ok (.bipush 8, 2) := dk_16 8 (dk_at dksX0_init_4 8 rfl rfl)
theorem dX0_init_102 : decode cX0_init 102 = .ok (.anewarray 347, 3) := dk_189 1 91 (dk_at dksX0_init_4 10 rfl rfl)
theorem dX0_init_105 : decode cX0_init 105 = .ok (.putfield 349, 3) := dk_181 1 93 (dk_at dksX0_init_4 13 rfl rfl)
theorem dX0_init_108 : decode cX0_init 108 = .ok (.iconst 0, 1) := dk_3 (dk_at dksX0_init_4 16 rfl rfl)
theorem dX0_init_109 : decode cX0_init 109 = .ok (.istore_n 1, 1) := dk_60 (dk_at dksX0_init_4 17 rfl rfl)
theorem dX0_init_110 : decode cX0_init 110 = .ok (.iload_n 1, 1) := dk_27 (dk_at dksX0_init_4 18 rfl rfl)
theorem dX0_init_111 : decode cX0_init 111 = .ok (.bipush 8, 2) := dk_16 8 (dk_at dksX0_init_4 19 rfl rfl)
theorem dX0_init_113 : decode cX0_init 113 = .ok (.if_icmp .ge 22, 3) := dk_162 0 22 (dk_at dksX0_init_4 21 rfl rfl)
theorem dX0_init_116 : decode cX0_init 116 = .ok (.aload_n 0, 1) := dk_42 (dk_at dksX0_init_5 0 rfl rfl)
theorem dX0_init_117 : decode cX0_init 117 = .ok (.getfield 349, 3) := dk_180 1 93 (dk_at dksX0_init_5 1 rfl rfl)
theorem dX0_init_120 : decode cX0_init 120 = .ok (.iload_n 1, 1) := dk_27 (dk_at dksX0_init_5 4 rfl rfl)
theorem dX0_init_121 : decode cX0_init 121 = .ok (.new 347, 3) := dk_187 1 91 (dk_at dksX0_init_5 5 rfl rfl)
theorem dX0_init_124 : decode cX0_init 124 = .ok (.dup, 1) := dk_89 (dk_at dksX0_init_5 8 rfl rfl)
theorem dX0_init_125 : decode cX0_init 125 = .ok (.invokespecial 353, 3) := dk_183 1 97 (dk_at dksX0_init_5 9 rfl rfl)
theorem dX0_init_128 : decode cX0_init 128 = .ok (.aastore, 1) := dk_83 (dk_at dksX0_init_5 12 rfl rfl)
theorem dX0_init_129 : decode cX0_init 129 = .ok (.iinc 1 1, 3) := dk_132 1 1 (dk_at dksX0_init_5 13 rfl rfl)
theorem dX0_init_132 : decode cX0_init 132 = .ok (.goto (-22), 3) := dk_167 255 234 (dk_at dksX0_init_5 16 rfl rfl)
theorem dX0_init_135 : decode cX0_init 135 = .ok (.return_, 1) := dk_177 (dk_at dksX0_init_5 19 rfl rfl)
abbrev cX0_row : ByteArray := prog_1_method_46_code
def yX0_row : MethodName := ⟨RX0, "row", "(III)I"⟩
def dkwX0_row_2 : List UInt8 := [181, 1, 105, 29, 172, 58, 4, 42, 6, 182, 0, 35, 172]
abbrev dktX0_row_2 : List UInt8 := dkwX0_row_2 ++ []
def dkwX0_row_1 : List UInt8 := [167, 0, 4, 3, 182, 0, 43, 153, 0, 5, 3, 172, 42, 180, 1, 93, 27, 50, 28, 29, 184, 1, 101]
abbrev dktX0_row_1 : List UInt8 := dkwX0_row_1 ++ dktX0_row_2
def dkwX0_row_0 : List UInt8 := [42, 27, 184, 1, 98, 153, 0, 20, 28, 184, 0, 39, 153, 0, 13, 29, 16, 40, 163, 0, 7, 4]
abbrev dktX0_row_0 : List UInt8 := dkwX0_row_0 ++ dktX0_row_1
theorem dksX0_row_0 : cX0_row.data.toList.drop 0 = dktX0_row_0 := by decide +kernel
theorem dksX0_row_1 : cX0_row.data.toList.drop 22 = dktX0_row_1 := dk_seg dksX0_row_0 22 rfl rfl
theorem dksX0_row_2 : cX0_row.data.toList.drop 45 = dktX0_row_2 := dk_seg dksX0_row_1 23 rfl rfl
theorem dX0_row_0 : decode cX0_row 0 = .ok (.aload_n 0, 1) := dk_42 (dk_at dksX0_row_0 0 rfl rfl)
theorem dX0_row_1 : decode cX0_row 1 = .ok (.iload_n 1, 1) := dk_27 (dk_at dksX0_row_0 1 rfl rfl)
theorem dX0_row_2 : decode cX0_row 2 = .ok (.invokestatic 354, 3) := dk_184 1 98 (dk_at dksX0_row_0 2 rfl rfl)
theorem dX0_row_5 : decode cX0_row 5 = .ok (.ifCond .eq 20, 3) := dk_153 0 20 (dk_at dksX0_row_0 5 rfl rfl)
theorem dX0_row_8 : decode cX0_row 8 = .ok (.iload_n 2, 1) := dk_28 (dk_at dksX0_row_0 8 rfl rfl)
theorem dX0_row_9 : decode cX0_row 9 = .ok (.invokestatic 39, 3) := dk_184 0 39 (dk_at dksX0_row_0 9 rfl rfl)
theorem dX0_row_12 : decode cX0_row 12 = .ok (.ifCond .eq 13, 3) := dk_153 0 13 (dk_at dksX0_row_0 12 rfl rfl)
theorem dX0_row_15 : decode cX0_row 15 = .ok (.iload_n 3, 1) := dk_29 (dk_at dksX0_row_0 15 rfl rfl)
theorem dX0_row_16 : decode cX0_row 16 = .ok (.bipush 40, 2) := dk_16 40 (dk_at dksX0_row_0 16 rfl rfl)
theorem dX0_row_18 : decode cX0_row 18 = .ok (.if_icmp .gt 7, 3) := dk_163 0 7 (dk_at dksX0_row_0 18 rfl rfl)
theorem dX0_row_21 : decode cX0_row 21 = .ok (.iconst 1, 1) := dk_4 (dk_at dksX0_row_0 21 rfl rfl)
theorem dX0_row_22 : decode cX0_row 22 = .ok (.goto 4, 3) := dk_167 0 4 (dk_at dksX0_row_1 0 rfl rfl)
theorem dX0_row_25 : decode cX0_row 25 = .ok (.iconst 0, 1) := dk_3 (dk_at dksX0_row_1 3 rfl rfl)
theorem dX0_row_26 : decode cX0_row 26 = .ok (.invokevirtual 43, 3) := dk_182 0 43 (dk_at dksX0_row_1 4 rfl rfl)
theorem dX0_row_29 : decode cX0_row 29 = .ok (.ifCond .eq 5, 3) := dk_153 0 5 (dk_at dksX0_row_1 7 rfl rfl)
theorem dX0_row_32 : decode cX0_row 32 = .ok (.iconst 0, 1) := dk_3 (dk_at dksX0_row_1 10 rfl rfl)
theorem dX0_row_33 : decode cX0_row 33 = .ok (.ireturn, 1) := dk_172 (dk_at dksX0_row_1 11 rfl rfl)
theorem dX0_row_34 : decode cX0_row 34 = .ok (.aload_n 0, 1) := dk_42 (dk_at dksX0_row_1 12 rfl rfl)
theorem dX0_row_35 : decode cX0_row 35 = .ok (.getfield 349, 3) := dk_180 1 93 (dk_at dksX0_row_1 13 rfl rfl)
theorem dX0_row_38 : decode cX0_row 38 = .ok (.iload_n 1, 1) := dk_27 (dk_at dksX0_row_1 16 rfl rfl)
theorem dX0_row_39 : decode cX0_row 39 = .ok (.aaload, 1) := dk_50 (dk_at dksX0_row_1 17 rfl rfl)
theorem dX0_row_40 : decode cX0_row 40 = .ok (.iload_n 2, 1) := dk_28 (dk_at dksX0_row_1 18 rfl rfl)
theorem dX0_row_41 : decode cX0_row 41 = .ok (.iload_n 3, 1) := dk_29 (dk_at dksX0_row_1 19 rfl rfl)
theorem dX0_row_42 : decode cX0_row 42 = .ok (.invokestatic 357, 3) := dk_184 1 101 (dk_at dksX0_row_1 20 rfl rfl)
theorem dX0_row_45 : decode cX0_row 45 = .ok (.putfield 361, 3) := dk_181 1 105 (dk_at dksX0_row_2 0 rfl rfl)
theorem dX0_row_48 : decode cX0_row 48 = .ok (.iload_n 3, 1) := dk_29 (dk_at dksX0_row_2 3 rfl rfl)
theorem dX0_row_49 : decode cX0_row 49 = .ok (.ireturn, 1) := dk_172 (dk_at dksX0_row_2 4 rfl rfl)
theorem dX0_row_50 : decode cX0_row 50 = .ok (.astore 4, 2) := dk_58 4 (dk_at dksX0_row_2 5 rfl rfl)
theorem dX0_row_52 : decode cX0_row 52 = .ok (.aload_n 0, 1) := dk_42 (dk_at dksX0_row_2 7 rfl rfl)
theorem dX0_row_53 : decode cX0_row 53 = .ok (.iconst 3, 1) := dk_6 (dk_at dksX0_row_2 8 rfl rfl)
theorem dX0_row_54 : decode cX0_row 54 = .ok (.invokevirtual 35, 3) := dk_182 0 35 (dk_at dksX0_row_2 9 rfl rfl)
theorem dX0_row_57 : decode cX0_row 57 = .ok (.ireturn, 1) := dk_172 (dk_at dksX0_row_2 12 rfl rfl)
abbrev cX0_isRow : ByteArray := prog_1_method_45_code
def yX0_isRow : MethodName := ⟨RX0, "isRow", "(I)Z"⟩
def dkwX0_isRow_0 : List UInt8 := [26, 133, 9, 20, 0, 200, 184, 0, 172, 172]
abbrev dktX0_isRow_0 : List UInt8 := dkwX0_isRow_0 ++ []
theorem dksX0_isRow_0 : cX0_isRow.data.toList.drop 0 = dktX0_isRow_0 := by decide +kernel
theorem dX0_isRow_0 : decode cX0_isRow 0 = .ok (.iload_n 0, 1) := dk_26 (dk_at dksX0_isRow_0 0 rfl rfl)
theorem dX0_isRow_1 : decode cX0_isRow 1 = .ok (.i2l, 1) := dk_133 (dk_at dksX0_isRow_0 1 rfl rfl)
theorem dX0_isRow_2 : decode cX0_isRow 2 = .ok (.lconst 0, 1) := dk_9 (dk_at dksX0_isRow_0 2 rfl rfl)
theorem dX0_isRow_3 : decode cX0_isRow 3 = .ok (.ldc2_w 200, 3) := dk_20 0 200 (dk_at dksX0_isRow_0 3 rfl rfl)
theorem dX0_isRow_6 : decode cX0_isRow 6 = .ok (.invokestatic 172, 3) := dk_184 0 172 (dk_at dksX0_isRow_0 6 rfl rfl)
theorem dX0_isRow_9 : decode cX0_isRow 9 = .ok (.ireturn, 1) := dk_172 (dk_at dksX0_isRow_0 9 rfl rfl)
abbrev cX0_made : ByteArray := prog_1_method_47_code
def yX0_made : MethodName := ⟨RX0, "made", "(II)Ljava/lang/Object;"⟩
def dkwX0_made_0 : List UInt8 := [26, 154, 0, 7, 27, 188, 6, 176, 27, 188, 7, 176]
abbrev dktX0_made_0 : List UInt8 := dkwX0_made_0 ++ []
theorem dksX0_made_0 : cX0_made.data.toList.drop 0 = dktX0_made_0 := by decide +kernel
theorem dX0_made_0 : decode cX0_made 0 = .ok (.iload_n 0, 1) := dk_26 (dk_at dksX0_made_0 0 rfl rfl)
theorem dX0_made_1 : decode cX0_made 1 = .ok (.ifCond .ne 7, 3) := dk_154 0 7 (dk_at dksX0_made_0 1 rfl rfl)
theorem dX0_made_4 : decode cX0_made 4 = .ok (.iload_n 1, 1) := dk_27 (dk_at dksX0_made_0 4 rfl rfl)
theorem dX0_made_5 : decode cX0_made 5 = .ok (.newarray .float, 2) := dk_188_6 (dk_at dksX0_made_0 5 rfl rfl)
theorem dX0_made_7 : decode cX0_made 7 = .ok (.areturn, 1) := dk_176 (dk_at dksX0_made_0 7 rfl rfl)
theorem dX0_made_8 : decode cX0_made 8 = .ok (.iload_n 1, 1) := dk_27 (dk_at dksX0_made_0 8 rfl rfl)
theorem dX0_made_9 : decode cX0_made 9 = .ok (.newarray .double, 2) := dk_188_7 (dk_at dksX0_made_0 9 rfl rfl)
theorem dX0_made_11 : decode cX0_made 11 = .ok (.areturn, 1) := dk_176 (dk_at dksX0_made_0 11 rfl rfl)
abbrev cX0_drop : ByteArray := prog_1_method_48_code
def yX0_drop : MethodName := ⟨RX0, "drop", "(I)I"⟩
def dkwX0_drop_2 : List UInt8 := [167, 0, 4, 3, 172]
abbrev dktX0_drop_2 : List UInt8 := dkwX0_drop_2 ++ []
def dkwX0_drop_1 : List UInt8 := [198, 0, 7, 4, 167, 0, 4, 3, 61, 42, 180, 1, 93, 27, 50, 1, 181, 1, 105, 28, 153, 0, 7, 4]
abbrev dktX0_drop_1 : List UInt8 := dkwX0_drop_1 ++ dktX0_drop_2
def dkwX0_drop_0 : List UInt8 := [42, 27, 184, 1, 98, 182, 0, 43, 153, 0, 5, 3, 172, 42, 180, 1, 93, 27, 50, 180, 1, 105]
abbrev dktX0_drop_0 : List UInt8 := dkwX0_drop_0 ++ dktX0_drop_1
theorem dksX0_drop_0 : cX0_drop.data.toList.drop 0 = dktX0_drop_0 := by decide +kernel
theorem dksX0_drop_1 : cX0_drop.data.toList.drop 22 = dktX0_drop_1 := dk_seg dksX0_drop_0 22 rfl rfl
theorem dksX0_drop_2 : cX0_drop.data.toList.drop 46 = dktX0_drop_2 := dk_seg dksX0_drop_1 24 rfl rfl
theorem dX0_drop_0 : decode cX0_drop 0 = .ok (.aload_n 0, 1) := dk_42 (dk_at dksX0_drop_0 0 rfl rfl)
theorem dX0_drop_1 : decode cX0_drop 1 = .ok (.iload_n 1, 1) := dk_27 (dk_at dksX0_drop_0 1 rfl rfl)
theorem dX0_drop_2 : decode cX0_drop 2 = .ok (.invokestatic 354, 3) := dk_184 1 98 (dk_at dksX0_drop_0 2 rfl rfl)
theorem dX0_drop_5 : decode cX0_drop 5 = .ok (.invokevirtual 43, 3) := dk_182 0 43 (dk_at dksX0_drop_0 5 rfl rfl)
theorem dX0_drop_8 : decode cX0_drop 8 = .ok (.ifCond .eq 5, 3) := dk_153 0 5 (dk_at dksX0_drop_0 8 rfl rfl)
theorem dX0_drop_11 : decode cX0_drop 11 = .ok (.iconst 0, 1) := dk_3 (dk_at dksX0_drop_0 11 rfl rfl)
theorem dX0_drop_12 : decode cX0_drop 12 = .ok (.ireturn, 1) := dk_172 (dk_at dksX0_drop_0 12 rfl rfl)
theorem dX0_drop_13 : decode cX0_drop 13 = .ok (.aload_n 0, 1) := dk_42 (dk_at dksX0_drop_0 13 rfl rfl)
theorem dX0_drop_14 : decode cX0_drop 14 = .ok (.getfield 349, 3) := dk_180 1 93 (dk_at dksX0_drop_0 14 rfl rfl)
theorem dX0_drop_17 : decode cX0_drop 17 = .ok (.iload_n 1, 1) := dk_27 (dk_at dksX0_drop_0 17 rfl rfl)
theorem dX0_drop_18 : decode cX0_drop 18 = .ok (.aaload, 1) := dk_50 (dk_at dksX0_drop_0 18 rfl rfl)
theorem dX0_drop_19 : decode cX0_drop 19 = .ok (.getfield 361, 3) := dk_180 1 105 (dk_at dksX0_drop_0 19 rfl rfl)
theorem dX0_drop_22 : decode cX0_drop 22 = .ok (.ifnull 7, 3) := dk_198 0 7 (dk_at dksX0_drop_1 0 rfl rfl)
theorem dX0_drop_25 : decode cX0_drop 25 = .ok (.iconst 1, 1) := dk_4 (dk_at dksX0_drop_1 3 rfl rfl)
theorem dX0_drop_26 : decode cX0_drop 26 = .ok (.goto 4, 3) := dk_167 0 4 (dk_at dksX0_drop_1 4 rfl rfl)
theorem dX0_drop_29 : decode cX0_drop 29 = .ok (.iconst 0, 1) := dk_3 (dk_at dksX0_drop_1 7 rfl rfl)
theorem dX0_drop_30 : decode cX0_drop 30 = .ok (.istore_n 2, 1) := dk_61 (dk_at dksX0_drop_1 8 rfl rfl)
theorem dX0_drop_31 : decode cX0_drop 31 = .ok (.aload_n 0, 1) := dk_42 (dk_at dksX0_drop_1 9 rfl rfl)
theorem dX0_drop_32 : decode cX0_drop 32 = .ok (.getfield 349, 3) := dk_180 1 93 (dk_at dksX0_drop_1 10 rfl rfl)
theorem dX0_drop_35 : decode cX0_drop 35 = .ok (.iload_n 1, 1) := dk_27 (dk_at dksX0_drop_1 13 rfl rfl)
theorem dX0_drop_36 : decode cX0_drop 36 = .ok (.aaload, 1) := dk_50 (dk_at dksX0_drop_1 14 rfl rfl)
theorem dX0_drop_37 : decode cX0_drop 37 = .ok (.aconst_null, 1) := dk_1 (dk_at dksX0_drop_1 15 rfl rfl)
theorem dX0_drop_38 : decode cX0_drop 38 = .ok (.putfield 361, 3) := dk_181 1 105 (dk_at dksX0_drop_1 16 rfl rfl)
theorem dX0_drop_41 : decode cX0_drop 41 = .ok (.iload_n 2, 1) := dk_28 (dk_at dksX0_drop_1 19 rfl rfl)
theorem dX0_drop_42 : decode cX0_drop 42 = .ok (.ifCond .eq 7, 3) := dk_153 0 7 (dk_at dksX0_drop_1 20 rfl rfl)
theorem dX0_drop_45 : decode cX0_drop 45 = .ok (.iconst 1, 1) := dk_4 (dk_at dksX0_drop_1 23 rfl rfl)
theorem dX0_drop_46 : decode cX0_drop 46 = .ok (.goto 4, 3) := dk_167 0 4 (dk_at dksX0_drop_2 0 rfl rfl)
theorem dX0_drop_49 : decode cX0_drop 49 = .ok (.iconst 0, 1) := dk_3 (dk_at dksX0_drop_2 3 rfl rfl)
theorem dX0_drop_50 : decode cX0_drop 50 = .ok (.ireturn, 1) := dk_172 (dk_at dksX0_drop_2 4 rfl rfl)
abbrev cX0_put : ByteArray := prog_1_method_51_code
def yX0_put : MethodName := ⟨RX0, "put", "(IIIJ)I"⟩
def dkwX0_put_3 : List UInt8 := [182, 0, 35, 172, 58, 6, 42, 5, 182, 0, 35, 172]
abbrev dktX0_put_3 : List UInt8 := dkwX0_put_3 ++ []
def dkwX0_put_2 : List UInt8 := [185, 0, 51, 3, 0, 184, 1, 122, 4, 172, 58, 6, 42, 4, 182, 0, 35, 172, 58, 6, 42, 8]
abbrev dktX0_put_2 : List UInt8 := dkwX0_put_2 ++ dktX0_put_3
def dkwX0_put_1 : List UInt8 := [153, 0, 5, 3, 172, 42, 180, 1, 93, 27, 50, 180, 1, 105, 28, 29, 42, 28, 182, 0, 47, 22, 4]
abbrev dktX0_put_1 : List UInt8 := dkwX0_put_1 ++ dktX0_put_2
def dkwX0_put_0 : List UInt8 := [42, 27, 184, 1, 98, 153, 0, 14, 28, 184, 0, 39, 153, 0, 7, 4, 167, 0, 4, 3, 182, 0, 43]
abbrev dktX0_put_0 : List UInt8 := dkwX0_put_0 ++ dktX0_put_1
theorem dksX0_put_0 : cX0_put.data.toList.drop 0 = dktX0_put_0 := by decide +kernel
theorem dksX0_put_1 : cX0_put.data.toList.drop 23 = dktX0_put_1 := dk_seg dksX0_put_0 23 rfl rfl
theorem dksX0_put_2 : cX0_put.data.toList.drop 46 = dktX0_put_2 := dk_seg dksX0_put_1 23 rfl rfl
theorem dksX0_put_3 : cX0_put.data.toList.drop 68 = dktX0_put_3 := dk_seg dksX0_put_2 22 rfl rfl
theorem dX0_put_0 : decode cX0_put 0 = .ok (.aload_n 0, 1) := dk_42 (dk_at dksX0_put_0 0 rfl rfl)
theorem dX0_put_1 : decode cX0_put 1 = .ok (.iload_n 1, 1) := dk_27 (dk_at dksX0_put_0 1 rfl rfl)
theorem dX0_put_2 : decode cX0_put 2 = .ok (.invokestatic 354, 3) := dk_184 1 98 (dk_at dksX0_put_0 2 rfl rfl)
theorem dX0_put_5 : decode cX0_put 5 = .ok (.ifCond .eq 14, 3) := dk_153 0 14 (dk_at dksX0_put_0 5 rfl rfl)
theorem dX0_put_8 : decode cX0_put 8 = .ok (.iload_n 2, 1) := dk_28 (dk_at dksX0_put_0 8 rfl rfl)
theorem dX0_put_9 : decode cX0_put 9 = .ok (.invokestatic 39, 3) := dk_184 0 39 (dk_at dksX0_put_0 9 rfl rfl)
theorem dX0_put_12 : decode cX0_put 12 = .ok (.ifCond .eq 7, 3) := dk_153 0 7 (dk_at dksX0_put_0 12 rfl rfl)
theorem dX0_put_15 : decode cX0_put 15 = .ok (.iconst 1, 1) := dk_4 (dk_at dksX0_put_0 15 rfl rfl)
theorem dX0_put_16 : decode cX0_put 16 = .ok (.goto 4, 3) := dk_167 0 4 (dk_at dksX0_put_0 16 rfl rfl)
theorem dX0_put_19 : decode cX0_put 19 = .ok (.iconst 0, 1) := dk_3 (dk_at dksX0_put_0 19 rfl rfl)
theorem dX0_put_20 : decode cX0_put 20 = .ok (.invokevirtual 43, 3) := dk_182 0 43 (dk_at dksX0_put_0 20 rfl rfl)
theorem dX0_put_23 : decode cX0_put 23 = .ok (.ifCond .eq 5, 3) := dk_153 0 5 (dk_at dksX0_put_1 0 rfl rfl)
theorem dX0_put_26 : decode cX0_put 26 = .ok (.iconst 0, 1) := dk_3 (dk_at dksX0_put_1 3 rfl rfl)
theorem dX0_put_27 : decode cX0_put 27 = .ok (.ireturn, 1) := dk_172 (dk_at dksX0_put_1 4 rfl rfl)
theorem dX0_put_28 : decode cX0_put 28 = .ok (.aload_n 0, 1) := dk_42 (dk_at dksX0_put_1 5 rfl rfl)
theorem dX0_put_29 : decode cX0_put 29 = .ok (.getfield 349, 3) := dk_180 1 93 (dk_at dksX0_put_1 6 rfl rfl)
theorem dX0_put_32 : decode cX0_put 32 = .ok (.iload_n 1, 1) := dk_27 (dk_at dksX0_put_1 9 rfl rfl)
theorem dX0_put_33 : decode cX0_put 33 = .ok (.aaload, 1) := dk_50 (dk_at dksX0_put_1 10 rfl rfl)
theorem dX0_put_34 : decode cX0_put 34 = .ok (.getfield 361, 3) := dk_180 1 105 (dk_at dksX0_put_1 11 rfl rfl)
theorem dX0_put_37 : decode cX0_put 37 = .ok (.iload_n 2, 1) := dk_28 (dk_at dksX0_put_1 14 rfl rfl)
theorem dX0_put_38 : decode cX0_put 38 = .ok (.iload_n 3, 1) := dk_29 (dk_at dksX0_put_1 15 rfl rfl)
theorem dX0_put_39 : decode cX0_put 39 = .ok (.aload_n 0, 1) := dk_42 (dk_at dksX0_put_1 16 rfl rfl)
theorem dX0_put_40 : decode cX0_put 40 = .ok (.iload_n 2, 1) := dk_28 (dk_at dksX0_put_1 17 rfl rfl)
theorem dX0_put_41 : decode cX0_put 41 = .ok (.invokevirtual 47, 3) := dk_182 0 47 (dk_at dksX0_put_1 18 rfl rfl)
theorem dX0_put_44 : decode cX0_put 44 = .ok (.lload 4, 2) := dk_22 4 (dk_at dksX0_put_1 21 rfl rfl)
theorem dX0_put_46 : decode cX0_put 46 = .ok (.invokeinterface 51 3, 5) := by decide +kernel
theorem dX0_put_51 : decode cX0_put 51 = .ok (.invokestatic 378, 3) := dk_184 1 122 (dk_at dksX0_put_2 5 rfl rfl)
theorem dX0_put_54 : decode cX0_put 54 = .ok (.iconst 1, 1) := dk_4 (dk_at dksX0_put_2 8 rfl rfl)
theorem dX0_put_55 : decode cX0_put 55 = .ok (.ireturn, 1) := dk_172 (dk_at dksX0_put_2 9 rfl rfl)
theorem dX0_put_56 : decode cX0_put 56 = .ok (.astore 6, 2) := dk_58 6 (dk_at dksX0_put_2 10 rfl rfl)
theorem dX0_put_58 : decode cX0_put 58 = .ok (.aload_n 0, 1) := dk_42 (dk_at dksX0_put_2 12 rfl rfl)
theorem dX0_put_59 : decode cX0_put 59 = .ok (.iconst 1, 1) := dk_4 (dk_at dksX0_put_2 13 rfl rfl)
theorem dX0_put_60 : decode cX0_put 60 = .ok (.invokevirtual 35, 3) := dk_182 0 35 (dk_at dksX0_put_2 14 rfl rfl)
theorem dX0_put_63 : decode cX0_put 63 = .ok (.ireturn, 1) := dk_172 (dk_at dksX0_put_2 17 rfl rfl)
theorem dX0_put_64 : decode cX0_put 64 = .ok (.astore 6, 2) := dk_58 6 (dk_at dksX0_put_2 18 rfl rfl)
theorem dX0_put_66 : decode cX0_put 66 = .ok (.aload_n 0, 1) := dk_42 (dk_at dksX0_put_2 20 rfl rfl)
theorem dX0_put_67 : decode cX0_put 67 = .ok (.iconst 5, 1) := dk_8 (dk_at dksX0_put_2 21 rfl rfl)
theorem dX0_put_68 : decode cX0_put 68 = .ok (.invokevirtual 35, 3) := dk_182 0 35 (dk_at dksX0_put_3 0 rfl rfl)
theorem dX0_put_71 : decode cX0_put 71 = .ok (.ireturn, 1) := dk_172 (dk_at dksX0_put_3 3 rfl rfl)
theorem dX0_put_72 : decode cX0_put 72 = .ok (.astore 6, 2) := dk_58 6 (dk_at dksX0_put_3 4 rfl rfl)
theorem dX0_put_74 : decode cX0_put 74 = .ok (.aload_n 0, 1) := dk_42 (dk_at dksX0_put_3 6 rfl rfl)
theorem dX0_put_75 : decode cX0_put 75 = .ok (.iconst 2, 1) := dk_5 (dk_at dksX0_put_3 7 rfl rfl)
theorem dX0_put_76 : decode cX0_put 76 = .ok (.invokevirtual 35, 3) := dk_182 0 35 (dk_at dksX0_put_3 8 rfl rfl)
theorem dX0_put_79 : decode cX0_put 79 = .ok (.ireturn, 1) := dk_172 (dk_at dksX0_put_3 11 rfl rfl)
abbrev cX0_lay : ByteArray := prog_1_method_50_code
def yX0_lay : MethodName := ⟨RX0, "lay", "(Ljava/lang/Object;IID)V"⟩
def dkwX0_lay_1 : List UInt8 := [167, 0, 10, 42, 192, 1, 111, 28, 41, 82, 177]
abbrev dktX0_lay_1 : List UInt8 := dkwX0_lay_1 ++ []
def dkwX0_lay_0 : List UInt8 := [27, 154, 0, 26, 42, 192, 1, 113, 28, 41, 41, 151, 153, 0, 9, 19, 1, 121, 167, 0, 5, 41, 144, 81]
abbrev dktX0_lay_0 : List UInt8 := dkwX0_lay_0 ++ dktX0_lay_1
theorem dksX0_lay_0 : cX0_lay.data.toList.drop 0 = dktX0_lay_0 := by decide +kernel
theorem dksX0_lay_1 : cX0_lay.data.toList.drop 24 = dktX0_lay_1 := dk_seg dksX0_lay_0 24 rfl rfl
theorem dX0_lay_0 : decode cX0_lay 0 = .ok (.iload_n 1, 1) := dk_27 (dk_at dksX0_lay_0 0 rfl rfl)
theorem dX0_lay_1 : decode cX0_lay 1 = .ok (.ifCond .ne 26, 3) := dk_154 0 26 (dk_at dksX0_lay_0 1 rfl rfl)
theorem dX0_lay_4 : decode cX0_lay 4 = .ok (.aload_n 0, 1) := dk_42 (dk_at dksX0_lay_0 4 rfl rfl)
theorem dX0_lay_5 : decode cX0_lay 5 = .ok (.checkcast 369, 3) := dk_192 1 113 (dk_at dksX0_lay_0 5 rfl rfl)
theorem dX0_lay_8 : decode cX0_lay 8 = .ok (.iload_n 2, 1) := dk_28 (dk_at dksX0_lay_0 8 rfl rfl)
theorem dX0_lay_9 : decode cX0_lay 9 = .ok (.dload_n 3, 1) := dk_41 (dk_at dksX0_lay_0 9 rfl rfl)
theorem dX0_lay_10 : decode cX0_lay 10 = .ok (.dload_n 3, 1) := dk_41 (dk_at dksX0_lay_0 10 rfl rfl)
theorem dX0_lay_11 : decode cX0_lay 11 = .ok (.dcmp .l, 1) := dk_151 (dk_at dksX0_lay_0 11 rfl rfl)
theorem dX0_lay_12 : decode cX0_lay 12 = .ok (.ifCond .eq 9, 3) := dk_153 0 9 (dk_at dksX0_lay_0 12 rfl rfl)
theorem dX0_lay_15 : decode cX0_lay 15 = .ok (.ldc_w 377, 3) := dk_19 1 121 (dk_at dksX0_lay_0 15 rfl rfl)
theorem dX0_lay_18 : decode cX0_lay 18 = .ok (.goto 5, 3) := dk_167 0 5 (dk_at dksX0_lay_0 18 rfl rfl)
theorem dX0_lay_21 : decode cX0_lay 21 = .ok (.dload_n 3, 1) := dk_41 (dk_at dksX0_lay_0 21 rfl rfl)
theorem dX0_lay_22 : decode cX0_lay 22 = .ok (.d2f, 1) := dk_144 (dk_at dksX0_lay_0 22 rfl rfl)
theorem dX0_lay_23 : decode cX0_lay 23 = .ok (.fastore, 1) := dk_81 (dk_at dksX0_lay_0 23 rfl rfl)
theorem dX0_lay_24 : decode cX0_lay 24 = .ok (.goto 10, 3) := dk_167 0 10 (dk_at dksX0_lay_1 0 rfl rfl)
theorem dX0_lay_27 : decode cX0_lay 27 = .ok (.aload_n 0, 1) := dk_42 (dk_at dksX0_lay_1 3 rfl rfl)
theorem dX0_lay_28 : decode cX0_lay 28 = .ok (.checkcast 367, 3) := dk_192 1 111 (dk_at dksX0_lay_1 4 rfl rfl)
theorem dX0_lay_31 : decode cX0_lay 31 = .ok (.iload_n 2, 1) := dk_28 (dk_at dksX0_lay_1 7 rfl rfl)
theorem dX0_lay_32 : decode cX0_lay 32 = .ok (.dload_n 3, 1) := dk_41 (dk_at dksX0_lay_1 8 rfl rfl)
theorem dX0_lay_33 : decode cX0_lay 33 = .ok (.dastore, 1) := dk_82 (dk_at dksX0_lay_1 9 rfl rfl)
theorem dX0_lay_34 : decode cX0_lay 34 = .ok (.return_, 1) := dk_177 (dk_at dksX0_lay_1 10 rfl rfl)
abbrev cX0_at : ByteArray := prog_1_method_52_code
def yX0_at : MethodName := ⟨RX0, "at", "(III)J"⟩
def dkwX0_at_3 : List UInt8 := [58, 4, 42, 5, 182, 0, 35, 133, 173]
abbrev dktX0_at_3 : List UInt8 := dkwX0_at_3 ++ []
def dkwX0_at_2 : List UInt8 := [185, 0, 183, 3, 0, 173, 58, 4, 42, 4, 182, 0, 35, 133, 173, 58, 4, 42, 8, 182, 0, 35, 133, 173]
abbrev dktX0_at_2 : List UInt8 := dkwX0_at_2 ++ dktX0_at_3
def dkwX0_at_1 : List UInt8 := [153, 0, 5, 9, 173, 42, 28, 182, 0, 47, 42, 180, 1, 93, 27, 50, 180, 1, 105, 28, 29, 184, 1, 130]
abbrev dktX0_at_1 : List UInt8 := dkwX0_at_1 ++ dktX0_at_2
def dkwX0_at_0 : List UInt8 := [42, 27, 184, 1, 98, 153, 0, 14, 28, 184, 0, 39, 153, 0, 7, 4, 167, 0, 4, 3, 182, 0, 43]
abbrev dktX0_at_0 : List UInt8 := dkwX0_at_0 ++ dktX0_at_1
theorem dksX0_at_0 : cX0_at.data.toList.drop 0 = dktX0_at_0 := by decide +kernel
theorem dksX0_at_1 : cX0_at.data.toList.drop 23 = dktX0_at_1 := dk_seg dksX0_at_0 23 rfl rfl
theorem dksX0_at_2 : cX0_at.data.toList.drop 47 = dktX0_at_2 := dk_seg dksX0_at_1 24 rfl rfl
theorem dksX0_at_3 : cX0_at.data.toList.drop 71 = dktX0_at_3 := dk_seg dksX0_at_2 24 rfl rfl
theorem dX0_at_0 : decode cX0_at 0 = .ok (.aload_n 0, 1) := dk_42 (dk_at dksX0_at_0 0 rfl rfl)
theorem dX0_at_1 : decode cX0_at 1 = .ok (.iload_n 1, 1) := dk_27 (dk_at dksX0_at_0 1 rfl rfl)
theorem dX0_at_2 : decode cX0_at 2 = .ok (.invokestatic 354, 3) := dk_184 1 98 (dk_at dksX0_at_0 2 rfl rfl)
theorem dX0_at_5 : decode cX0_at 5 = .ok (.ifCond .eq 14, 3) := dk_153 0 14 (dk_at dksX0_at_0 5 rfl rfl)
theorem dX0_at_8 : decode cX0_at 8 = .ok (.iload_n 2, 1) := dk_28 (dk_at dksX0_at_0 8 rfl rfl)
theorem dX0_at_9 : decode cX0_at 9 = .ok (.invokestatic 39, 3) := dk_184 0 39 (dk_at dksX0_at_0 9 rfl rfl)
theorem dX0_at_12 : decode cX0_at 12 = .ok (.ifCond .eq 7, 3) := dk_153 0 7 (dk_at dksX0_at_0 12 rfl rfl)
theorem dX0_at_15 : decode cX0_at 15 = .ok (.iconst 1, 1) := dk_4 (dk_at dksX0_at_0 15 rfl rfl)
theorem dX0_at_16 : decode cX0_at 16 = .ok (.goto 4, 3) := dk_167 0 4 (dk_at dksX0_at_0 16 rfl rfl)
theorem dX0_at_19 : decode cX0_at 19 = .ok (.iconst 0, 1) := dk_3 (dk_at dksX0_at_0 19 rfl rfl)
theorem dX0_at_20 : decode cX0_at 20 = .ok (.invokevirtual 43, 3) := dk_182 0 43 (dk_at dksX0_at_0 20 rfl rfl)
theorem dX0_at_23 : decode cX0_at 23 = .ok (.ifCond .eq 5, 3) := dk_153 0 5 (dk_at dksX0_at_1 0 rfl rfl)
theorem dX0_at_26 : decode cX0_at 26 = .ok (.lconst 0, 1) := dk_9 (dk_at dksX0_at_1 3 rfl rfl)
theorem dX0_at_27 : decode cX0_at 27 = .ok (.lreturn, 1) := dk_173 (dk_at dksX0_at_1 4 rfl rfl)
theorem dX0_at_28 : decode cX0_at 28 = .ok (.aload_n 0, 1) := dk_42 (dk_at dksX0_at_1 5 rfl rfl)
theorem dX0_at_29 : decode cX0_at 29 = .ok (.iload_n 2, 1) := dk_28 (dk_at dksX0_at_1 6 rfl rfl)
theorem dX0_at_30 : decode cX0_at 30 = .ok (.invokevirtual 47, 3) := dk_182 0 47 (dk_at dksX0_at_1 7 rfl rfl)
theorem dX0_at_33 : decode cX0_at 33 = .ok (.aload_n 0, 1) := dk_42 (dk_at dksX0_at_1 10 rfl rfl)
theorem dX0_at_34 : decode cX0_at 34 = .ok (.getfield 349, 3) := dk_180 1 93 (dk_at dksX0_at_1 11 rfl rfl)
theorem dX0_at_37 : decode cX0_at 37 = .ok (.iload_n 1, 1) := dk_27 (dk_at dksX0_at_1 14 rfl rfl)
theorem dX0_at_38 : decode cX0_at 38 = .ok (.aaload, 1) := dk_50 (dk_at dksX0_at_1 15 rfl rfl)
theorem dX0_at_39 : decode cX0_at 39 = .ok (.getfield 361, 3) := dk_180 1 105 (dk_at dksX0_at_1 16 rfl rfl)
theorem dX0_at_42 : decode cX0_at 42 = .ok (.iload_n 2, 1) := dk_28 (dk_at dksX0_at_1 19 rfl rfl)
theorem dX0_at_43 : decode cX0_at 43 = .ok (.iload_n 3, 1) := dk_29 (dk_at dksX0_at_1 20 rfl rfl)
theorem dX0_at_44 : decode cX0_at 44 = .ok (.invokestatic 386, 3) := dk_184 1 130 (dk_at dksX0_at_1 21 rfl rfl)
theorem dX0_at_47 : decode cX0_at 47 = .ok (.invokeinterface 183 3, 5) := by decide +kernel
theorem dX0_at_52 : decode cX0_at 52 = .ok (.lreturn, 1) := dk_173 (dk_at dksX0_at_2 5 rfl rfl)
theorem dX0_at_53 : decode cX0_at 53 = .ok (.astore 4, 2) := dk_58 4 (dk_at dksX0_at_2 6 rfl rfl)
theorem dX0_at_55 : decode cX0_at 55 = .ok (.aload_n 0, 1) := dk_42 (dk_at dksX0_at_2 8 rfl rfl)
theorem dX0_at_56 : decode cX0_at 56 = .ok (.iconst 1, 1) := dk_4 (dk_at dksX0_at_2 9 rfl rfl)
theorem dX0_at_57 : decode cX0_at 57 = .ok (.invokevirtual 35, 3) := dk_182 0 35 (dk_at dksX0_at_2 10 rfl rfl)
theorem dX0_at_60 : decode cX0_at 60 = .ok (.i2l, 1) := dk_133 (dk_at dksX0_at_2 13 rfl rfl)
theorem dX0_at_61 : decode cX0_at 61 = .ok (.lreturn, 1) := dk_173 (dk_at dksX0_at_2 14 rfl rfl)
theorem dX0_at_62 : decode cX0_at 62 = .ok (.astore 4, 2) := dk_58 4 (dk_at dksX0_at_2 15 rfl rfl)
theorem dX0_at_64 : decode cX0_at 64 = .ok (.aload_n 0, 1) := dk_42 (dk_at dksX0_at_2 17 rfl rfl)
theorem dX0_at_65 : decode cX0_at 65 = .ok (.iconst 5, 1) := dk_8 (dk_at dksX0_at_2 18 rfl rfl)
theorem dX0_at_66 : decode cX0_at 66 = .ok (.invokevirtual 35, 3) := dk_182 0 35 (dk_at dksX0_at_2 19 rfl rfl)
theorem dX0_at_69 : decode cX0_at 69 = .ok (.i2l, 1) := dk_133 (dk_at dksX0_at_2 22 rfl rfl)
theorem dX0_at_70 : decode cX0_at 70 = .ok (.lreturn, 1) := dk_173 (dk_at dksX0_at_2 23 rfl rfl)
theorem dX0_at_71 : decode cX0_at 71 = .ok (.astore 4, 2) := dk_58 4 (dk_at dksX0_at_3 0 rfl rfl)
theorem dX0_at_73 : decode cX0_at 73 = .ok (.aload_n 0, 1) := dk_42 (dk_at dksX0_at_3 2 rfl rfl)
theorem dX0_at_74 : decode cX0_at 74 = .ok (.iconst 2, 1) := dk_5 (dk_at dksX0_at_3 3 rfl rfl)
theorem dX0_at_75 : decode cX0_at 75 = .ok (.invokevirtual 35, 3) := dk_182 0 35 (dk_at dksX0_at_3 4 rfl rfl)
theorem dX0_at_78 : decode cX0_at 78 = .ok (.i2l, 1) := dk_133 (dk_at dksX0_at_3 7 rfl rfl)
theorem dX0_at_79 : decode cX0_at 79 = .ok (.lreturn, 1) := dk_173 (dk_at dksX0_at_3 8 rfl rfl)
abbrev cX0_take : ByteArray := prog_1_method_49_code
def yX0_take : MethodName := ⟨RX0, "take", "(Ljava/lang/Object;II)D"⟩
def dkwX0_take_1 : List UInt8 := [178, 1, 115, 167, 0, 5, 37, 141, 175]
abbrev dktX0_take_1 : List UInt8 := dkwX0_take_1 ++ []
def dkwX0_take_0 : List UInt8 := [27, 153, 0, 10, 42, 192, 1, 111, 28, 49, 175, 42, 192, 1, 113, 28, 48, 70, 37, 37, 149, 153, 0, 9]
abbrev dktX0_take_0 : List UInt8 := dkwX0_take_0 ++ dktX0_take_1
theorem dksX0_take_0 : cX0_take.data.toList.drop 0 = dktX0_take_0 := by decide +kernel
theorem dksX0_take_1 : cX0_take.data.toList.drop 24 = dktX0_take_1 := dk_seg dksX0_take_0 24 rfl rfl
theorem dX0_take_0 : decode cX0_take 0 = .ok (.iload_n 1, 1) := dk_27 (dk_at dksX0_take_0 0 rfl rfl)
theorem dX0_take_1 : decode cX0_take 1 = .ok (.ifCond .eq 10, 3) := dk_153 0 10 (dk_at dksX0_take_0 1 rfl rfl)
theorem dX0_take_4 : decode cX0_take 4 = .ok (.aload_n 0, 1) := dk_42 (dk_at dksX0_take_0 4 rfl rfl)
theorem dX0_take_5 : decode cX0_take 5 = .ok (.checkcast 367, 3) := dk_192 1 111 (dk_at dksX0_take_0 5 rfl rfl)
theorem dX0_take_8 : decode cX0_take 8 = .ok (.iload_n 2, 1) := dk_28 (dk_at dksX0_take_0 8 rfl rfl)
theorem dX0_take_9 : decode cX0_take 9 = .ok (.daload, 1) := dk_49 (dk_at dksX0_take_0 9 rfl rfl)
theorem dX0_take_10 : decode cX0_take 10 = .ok (.dreturn, 1) := dk_175 (dk_at dksX0_take_0 10 rfl rfl)
theorem dX0_take_11 : decode cX0_take 11 = .ok (.aload_n 0, 1) := dk_42 (dk_at dksX0_take_0 11 rfl rfl)
theorem dX0_take_12 : decode cX0_take 12 = .ok (.checkcast 369, 3) := dk_192 1 113 (dk_at dksX0_take_0 12 rfl rfl)
theorem dX0_take_15 : decode cX0_take 15 = .ok (.iload_n 2, 1) := dk_28 (dk_at dksX0_take_0 15 rfl rfl)
theorem dX0_take_16 : decode cX0_take 16 = .ok (.faload, 1) := dk_48 (dk_at dksX0_take_0 16 rfl rfl)
theorem dX0_take_17 : decode cX0_take 17 = .ok (.fstore_n 3, 1) := dk_70 (dk_at dksX0_take_0 17 rfl rfl)
theorem dX0_take_18 : decode cX0_take 18 = .ok (.fload_n 3, 1) := dk_37 (dk_at dksX0_take_0 18 rfl rfl)
theorem dX0_take_19 : decode cX0_take 19 = .ok (.fload_n 3, 1) := dk_37 (dk_at dksX0_take_0 19 rfl rfl)
theorem dX0_take_20 : decode cX0_take 20 = .ok (.fcmp .l, 1) := dk_149 (dk_at dksX0_take_0 20 rfl rfl)
theorem dX0_take_21 : decode cX0_take 21 = .ok (.ifCond .eq 9, 3) := dk_153 0 9 (dk_at dksX0_take_0 21 rfl rfl)
theorem dX0_take_24 : decode cX0_take 24 = .ok (.getstatic 371, 3) := dk_178 1 115 (dk_at dksX0_take_1 0 rfl rfl)
theorem dX0_take_27 : decode cX0_take 27 = .ok (.goto 5, 3) := dk_167 0 5 (dk_at dksX0_take_1 3 rfl rfl)
theorem dX0_take_30 : decode cX0_take 30 = .ok (.fload_n 3, 1) := dk_37 (dk_at dksX0_take_1 6 rfl rfl)
theorem dX0_take_31 : decode cX0_take 31 = .ok (.f2d, 1) := dk_141 (dk_at dksX0_take_1 7 rfl rfl)
theorem dX0_take_32 : decode cX0_take 32 = .ok (.dreturn, 1) := dk_175 (dk_at dksX0_take_1 8 rfl rfl)
abbrev cX0_copy : ByteArray := prog_1_method_53_code
def yX0_copy : MethodName := ⟨RX0, "copy", "(IIIII)I"⟩
def dkwX0_copy_3 : List UInt8 := [172, 58, 6, 42, 5, 182, 0, 35, 172]
abbrev dktX0_copy_3 : List UInt8 := dkwX0_copy_3 ++ []
def dkwX0_copy_2 : List UInt8 := [21, 4, 21, 5, 184, 1, 134, 4, 172, 58, 6, 42, 4, 182, 0, 35, 172, 58, 6, 42, 7, 182, 0, 35]
abbrev dktX0_copy_2 : List UInt8 := dkwX0_copy_2 ++ dktX0_copy_3
def dkwX0_copy_1 : List UInt8 := [153, 0, 5, 3, 172, 42, 180, 1, 93, 27, 50, 180, 1, 105, 28, 42, 180, 1, 93, 29, 50, 180, 1, 105]
abbrev dktX0_copy_1 : List UInt8 := dkwX0_copy_1 ++ dktX0_copy_2
def dkwX0_copy_0 : List UInt8 := [42, 27, 184, 1, 98, 153, 0, 14, 29, 184, 1, 98, 153, 0, 7, 4, 167, 0, 4, 3, 182, 0, 43]
abbrev dktX0_copy_0 : List UInt8 := dkwX0_copy_0 ++ dktX0_copy_1
theorem dksX0_copy_0 : cX0_copy.data.toList.drop 0 = dktX0_copy_0 := by decide +kernel
theorem dksX0_copy_1 : cX0_copy.data.toList.drop 23 = dktX0_copy_1 := dk_seg dksX0_copy_0 23 rfl rfl
theorem dksX0_copy_2 : cX0_copy.data.toList.drop 47 = dktX0_copy_2 := dk_seg dksX0_copy_1 24 rfl rfl
theorem dksX0_copy_3 : cX0_copy.data.toList.drop 71 = dktX0_copy_3 := dk_seg dksX0_copy_2 24 rfl rfl
theorem dX0_copy_0 : decode cX0_copy 0 = .ok (.aload_n 0, 1) := dk_42 (dk_at dksX0_copy_0 0 rfl rfl)
theorem dX0_copy_1 : decode cX0_copy 1 = .ok (.iload_n 1, 1) := dk_27 (dk_at dksX0_copy_0 1 rfl rfl)
theorem dX0_copy_2 : decode cX0_copy 2 = .ok (.invokestatic 354, 3) := dk_184 1 98 (dk_at dksX0_copy_0 2 rfl rfl)
theorem dX0_copy_5 : decode cX0_copy 5 = .ok (.ifCond .eq 14, 3) := dk_153 0 14 (dk_at dksX0_copy_0 5 rfl rfl)
theorem dX0_copy_8 : decode cX0_copy 8 = .ok (.iload_n 3, 1) := dk_29 (dk_at dksX0_copy_0 8 rfl rfl)
theorem dX0_copy_9 : decode cX0_copy 9 = .ok (.invokestatic 354, 3) := dk_184 1 98 (dk_at dksX0_copy_0 9 rfl rfl)
theorem dX0_copy_12 : decode cX0_copy 12 = .ok (.ifCond .eq 7, 3) := dk_153 0 7 (dk_at dksX0_copy_0 12 rfl rfl)
theorem dX0_copy_15 : decode cX0_copy 15 = .ok (.iconst 1, 1) := dk_4 (dk_at dksX0_copy_0 15 rfl rfl)
theorem dX0_copy_16 : decode cX0_copy 16 = .ok (.goto 4, 3) := dk_167 0 4 (dk_at dksX0_copy_0 16 rfl rfl)
theorem dX0_copy_19 : decode cX0_copy 19 = .ok (.iconst 0, 1) := dk_3 (dk_at dksX0_copy_0 19 rfl rfl)
theorem dX0_copy_20 : decode cX0_copy 20 = .ok (.invokevirtual 43, 3) := dk_182 0 43 (dk_at dksX0_copy_0 20 rfl rfl)
theorem dX0_copy_23 : decode cX0_copy 23 = .ok (.ifCond .eq 5, 3) := dk_153 0 5 (dk_at dksX0_copy_1 0 rfl rfl)
theorem dX0_copy_26 : decode cX0_copy 26 = .ok (.iconst 0, 1) := dk_3 (dk_at dksX0_copy_1 3 rfl rfl)
theorem dX0_copy_27 : decode cX0_copy 27 = .ok (.ireturn, 1) := dk_172 (dk_at dksX0_copy_1 4 rfl rfl)
theorem dX0_copy_28 : decode cX0_copy 28 = .ok (.aload_n 0, 1) := dk_42 (dk_at dksX0_copy_1 5 rfl rfl)
theorem dX0_copy_29 : decode cX0_copy 29 = .ok (.getfield 349, 3) := dk_180 1 93 (dk_at dksX0_copy_1 6 rfl rfl)
theorem dX0_copy_32 : decode cX0_copy 32 = .ok (.iload_n 1, 1) := dk_27 (dk_at dksX0_copy_1 9 rfl rfl)
theorem dX0_copy_33 : decode cX0_copy 33 = .ok (.aaload, 1) := dk_50 (dk_at dksX0_copy_1 10 rfl rfl)
theorem dX0_copy_34 : decode cX0_copy 34 = .ok (.getfield 361, 3) := dk_180 1 105 (dk_at dksX0_copy_1 11 rfl rfl)
theorem dX0_copy_37 : decode cX0_copy 37 = .ok (.iload_n 2, 1) := dk_28 (dk_at dksX0_copy_1 14 rfl rfl)
theorem dX0_copy_38 : decode cX0_copy 38 = .ok (.aload_n 0, 1) := dk_42 (dk_at dksX0_copy_1 15 rfl rfl)
theorem dX0_copy_39 : decode cX0_copy 39 = .ok (.getfield 349, 3) := dk_180 1 93 (dk_at dksX0_copy_1 16 rfl rfl)
theorem dX0_copy_42 : decode cX0_copy 42 = .ok (.iload_n 3, 1) := dk_29 (dk_at dksX0_copy_1 19 rfl rfl)
theorem dX0_copy_43 : decode cX0_copy 43 = .ok (.aaload, 1) := dk_50 (dk_at dksX0_copy_1 20 rfl rfl)
theorem dX0_copy_44 : decode cX0_copy 44 = .ok (.getfield 361, 3) := dk_180 1 105 (dk_at dksX0_copy_1 21 rfl rfl)
theorem dX0_copy_47 : decode cX0_copy 47 = .ok (.iload 4, 2) := dk_21 4 (dk_at dksX0_copy_2 0 rfl rfl)
theorem dX0_copy_49 : decode cX0_copy 49 = .ok (.iload 5, 2) := dk_21 5 (dk_at dksX0_copy_2 2 rfl rfl)
theorem dX0_copy_51 : decode cX0_copy 51 = .ok (.invokestatic 390, 3) := dk_184 1 134 (dk_at dksX0_copy_2 4 rfl rfl)
theorem dX0_copy_54 : decode cX0_copy 54 = .ok (.iconst 1, 1) := dk_4 (dk_at dksX0_copy_2 7 rfl rfl)
theorem dX0_copy_55 : decode cX0_copy 55 = .ok (.ireturn, 1) := dk_172 (dk_at dksX0_copy_2 8 rfl rfl)
theorem dX0_copy_56 : decode cX0_copy 56 = .ok (.astore 6, 2) := dk_58 6 (dk_at dksX0_copy_2 9 rfl rfl)
theorem dX0_copy_58 : decode cX0_copy 58 = .ok (.aload_n 0, 1) := dk_42 (dk_at dksX0_copy_2 11 rfl rfl)
theorem dX0_copy_59 : decode cX0_copy 59 = .ok (.iconst 1, 1) := dk_4 (dk_at dksX0_copy_2 12 rfl rfl)
theorem dX0_copy_60 : decode cX0_copy 60 = .ok (.invokevirtual 35, 3) := dk_182 0 35 (dk_at dksX0_copy_2 13 rfl rfl)
theorem dX0_copy_63 : decode cX0_copy 63 = .ok (.ireturn, 1) := dk_172 (dk_at dksX0_copy_2 16 rfl rfl)
theorem dX0_copy_64 : decode cX0_copy 64 = .ok (.astore 6, 2) := dk_58 6 (dk_at dksX0_copy_2 17 rfl rfl)
theorem dX0_copy_66 : decode cX0_copy 66 = .ok (.aload_n 0, 1) := dk_42 (dk_at dksX0_copy_2 19 rfl rfl)
theorem dX0_copy_67 : decode cX0_copy 67 = .ok (.iconst 4, 1) := dk_7 (dk_at dksX0_copy_2 20 rfl rfl)
theorem dX0_copy_68 : decode cX0_copy 68 = .ok (.invokevirtual 35, 3) := dk_182 0 35 (dk_at dksX0_copy_2 21 rfl rfl)
theorem dX0_copy_71 : decode cX0_copy 71 = .ok (.ireturn, 1) := dk_172 (dk_at dksX0_copy_3 0 rfl rfl)
theorem dX0_copy_72 : decode cX0_copy 72 = .ok (.astore 6, 2) := dk_58 6 (dk_at dksX0_copy_3 1 rfl rfl)
theorem dX0_copy_74 : decode cX0_copy 74 = .ok (.aload_n 0, 1) := dk_42 (dk_at dksX0_copy_3 3 rfl rfl)
theorem dX0_copy_75 : decode cX0_copy 75 = .ok (.iconst 2, 1) := dk_5 (dk_at dksX0_copy_3 4 rfl rfl)
theorem dX0_copy_76 : decode cX0_copy 76 = .ok (.invokevirtual 35, 3) := dk_182 0 35 (dk_at dksX0_copy_3 5 rfl rfl)
theorem dX0_copy_79 : decode cX0_copy 79 = .ok (.ireturn, 1) := dk_172 (dk_at dksX0_copy_3 8 rfl rfl)
abbrev cX0_of : ByteArray := prog_1_method_54_code
def yX0_of : MethodName := ⟨RX0, "of", "(II)I"⟩
def dkwX0_of_3 : List UInt8 := [78, 42, 4, 182, 0, 35, 172]
abbrev dktX0_of_3 : List UInt8 := dkwX0_of_3 ++ []
def dkwX0_of_2 : List UInt8 := [167, 0, 23, 42, 180, 1, 93, 27, 50, 180, 1, 105, 193, 1, 111, 153, 0, 7, 4, 167, 0, 4, 3, 172]
abbrev dktX0_of_2 : List UInt8 := dkwX0_of_2 ++ dktX0_of_3
def dkwX0_of_1 : List UInt8 := [182, 0, 43, 153, 0, 5, 3, 172, 42, 180, 1, 93, 27, 50, 182, 1, 144, 62, 28, 154, 0, 7, 29]
abbrev dktX0_of_1 : List UInt8 := dkwX0_of_1 ++ dktX0_of_2
def dkwX0_of_0 : List UInt8 := [42, 27, 184, 1, 98, 153, 0, 17, 28, 133, 9, 10, 184, 0, 172, 153, 0, 7, 4, 167, 0, 4, 3]
abbrev dktX0_of_0 : List UInt8 := dkwX0_of_0 ++ dktX0_of_1
theorem dksX0_of_0 : cX0_of.data.toList.drop 0 = dktX0_of_0 := by decide +kernel
theorem dksX0_of_1 : cX0_of.data.toList.drop 23 = dktX0_of_1 := dk_seg dksX0_of_0 23 rfl rfl
theorem dksX0_of_2 : cX0_of.data.toList.drop 46 = dktX0_of_2 := dk_seg dksX0_of_1 23 rfl rfl
theorem dksX0_of_3 : cX0_of.data.toList.drop 70 = dktX0_of_3 := dk_seg dksX0_of_2 24 rfl rfl
theorem dX0_of_0 : decode cX0_of 0 = .ok (.aload_n 0, 1) := dk_42 (dk_at dksX0_of_0 0 rfl rfl)
theorem dX0_of_1 : decode cX0_of 1 = .ok (.iload_n 1, 1) := dk_27 (dk_at dksX0_of_0 1 rfl rfl)
theorem dX0_of_2 : decode cX0_of 2 = .ok (.invokestatic 354, 3) := dk_184 1 98 (dk_at dksX0_of_0 2 rfl rfl)
theorem dX0_of_5 : decode cX0_of 5 = .ok (.ifCond .eq 17, 3) := dk_153 0 17 (dk_at dksX0_of_0 5 rfl rfl)
theorem dX0_of_8 : decode cX0_of 8 = .ok (.iload_n 2, 1) := dk_28 (dk_at dksX0_of_0 8 rfl rfl)
theorem dX0_of_9 : decode cX0_of 9 = .ok (.i2l, 1) := dk_133 (dk_at dksX0_of_0 9 rfl rfl)
theorem dX0_of_10 : decode cX0_of 10 = .ok (.lconst 0, 1) := dk_9 (dk_at dksX0_of_0 10 rfl rfl)
theorem dX0_of_11 : decode cX0_of 11 = .ok (.lconst 1, 1) := dk_10 (dk_at dksX0_of_0 11 rfl rfl)
theorem dX0_of_12 : decode cX0_of 12 = .ok (.invokestatic 172, 3) := dk_184 0 172 (dk_at dksX0_of_0 12 rfl rfl)
theorem dX0_of_15 : decode cX0_of 15 = .ok (.ifCond .eq 7, 3) := dk_153 0 7 (dk_at dksX0_of_0 15 rfl rfl)
theorem dX0_of_18 : decode cX0_of 18 = .ok (.iconst 1, 1) := dk_4 (dk_at dksX0_of_0 18 rfl rfl)
theorem dX0_of_19 : decode cX0_of 19 = .ok (.goto 4, 3) := dk_167 0 4 (dk_at dksX0_of_0 19 rfl rfl)
theorem dX0_of_22 : decode cX0_of 22 = .ok (.iconst 0, 1) := dk_3 (dk_at dksX0_of_0 22 rfl rfl)
theorem dX0_of_23 : decode cX0_of 23 = .ok (.invokevirtual 43, 3) := dk_182 0 43 (dk_at dksX0_of_1 0 rfl rfl)
theorem dX0_of_26 : decode cX0_of 26 = .ok (.ifCond .eq 5, 3) := dk_153 0 5 (dk_at dksX0_of_1 3 rfl rfl)
theorem dX0_of_29 : decode cX0_of 29 = .ok (.iconst 0, 1) := dk_3 (dk_at dksX0_of_1 6 rfl rfl)
theorem dX0_of_30 : decode cX0_of 30 = .ok (.ireturn, 1) := dk_172 (dk_at dksX0_of_1 7 rfl rfl)
theorem dX0_of_31 : decode cX0_of 31 = .ok (.aload_n 0, 1) := dk_42 (dk_at dksX0_of_1 8 rfl rfl)
theorem dX0_of_32 : decode cX0_of 32 = .ok (.getfield 349, 3) := dk_180 1 93 (dk_at dksX0_of_1 9 rfl rfl)
theorem dX0_of_35 : decode cX0_of 35 = .ok (.iload_n 1, 1) := dk_27 (dk_at dksX0_of_1 12 rfl rfl)
theorem dX0_of_36 : decode cX0_of 36 = .ok (.aaload, 1) := dk_50 (dk_at dksX0_of_1 13 rfl rfl)
theorem dX0_of_37 : decode cX0_of 37 = .ok (.invokevirtual 400, 3) := dk_182 1 144 (dk_at dksX0_of_1 14 rfl rfl)
theorem dX0_of_40 : decode cX0_of 40 = .ok (.istore_n 3, 1) := dk_62 (dk_at dksX0_of_1 17 rfl rfl)
theorem dX0_of_41 : decode cX0_of 41 = .ok (.iload_n 2, 1) := dk_28 (dk_at dksX0_of_1 18 rfl rfl)
theorem dX0_of_42 : decode cX0_of 42 = .ok (.ifCond .ne 7, 3) := dk_154 0 7 (dk_at dksX0_of_1 19 rfl rfl)
theorem dX0_of_45 : decode cX0_of 45 = .ok (.iload_n 3, 1) := dk_29 (dk_at dksX0_of_1 22 rfl rfl)
theorem dX0_of_46 : decode cX0_of 46 = .ok (.goto 23, 3) := dk_167 0 23 (dk_at dksX0_of_2 0 rfl rfl)
theorem dX0_of_49 : decode cX0_of 49 = .ok (.aload_n 0, 1) := dk_42 (dk_at dksX0_of_2 3 rfl rfl)
theorem dX0_of_50 : decode cX0_of 50 = .ok (.getfield 349, 3) := dk_180 1 93 (dk_at dksX0_of_2 4 rfl rfl)
theorem dX0_of_53 : decode cX0_of 53 = .ok (.iload_n 1, 1) := dk_27 (dk_at dksX0_of_2 7 rfl rfl)
theorem dX0_of_54 : decode cX0_of 54 = .ok (.aaload, 1) := dk_50 (dk_at dksX0_of_2 8 rfl rfl)
theorem dX0_of_55 : decode cX0_of 55 = .ok (.getfield 361, 3) := dk_180 1 105 (dk_at dksX0_of_2 9 rfl rfl)
theorem dX0_of_58 : decode cX0_of 58 = .ok (.instanceof 367, 3) := dk_193 1 111 (dk_at dksX0_of_2 12 rfl rfl)
theorem dX0_of_61 : decode cX0_of 61 = .ok (.ifCond .eq 7, 3) := dk_153 0 7 (dk_at dksX0_of_2 15 rfl rfl)
theorem dX0_of_64 : decode cX0_of 64 = .ok (.iconst 1, 1) := dk_4 (dk_at dksX0_of_2 18 rfl rfl)
theorem dX0_of_65 : decode cX0_of 65 = .ok (.goto 4, 3) := dk_167 0 4 (dk_at dksX0_of_2 19 rfl rfl)
theorem dX0_of_68 : decode cX0_of 68 = .ok (.iconst 0, 1) := dk_3 (dk_at dksX0_of_2 22 rfl rfl)
theorem dX0_of_69 : decode cX0_of 69 = .ok (.ireturn, 1) := dk_172 (dk_at dksX0_of_2 23 rfl rfl)
theorem dX0_of_70 : decode cX0_of 70 = .ok (.astore_n 3, 1) := dk_78 (dk_at dksX0_of_3 0 rfl rfl)
theorem dX0_of_71 : decode cX0_of 71 = .ok (.aload_n 0, 1) := dk_42 (dk_at dksX0_of_3 1 rfl rfl)
theorem dX0_of_72 : decode cX0_of 72 = .ok (.iconst 1, 1) := dk_4 (dk_at dksX0_of_3 2 rfl rfl)
theorem dX0_of_73 : decode cX0_of 73 = .ok (.invokevirtual 35, 3) := dk_182 0 35 (dk_at dksX0_of_3 3 rfl rfl)
theorem dX0_of_76 : decode cX0_of 76 = .ok (.ireturn, 1) := dk_172 (dk_at dksX0_of_3 6 rfl rfl)
abbrev cX0_all : ByteArray := prog_1_method_56_code
def yX0_all : MethodName := ⟨RX0, "all", "(III)J"⟩
def dkwX0_all_3 : List UInt8 := [182, 0, 35, 133, 173, 58, 4, 42, 8, 182, 0, 35, 133, 173, 58, 4, 42, 5, 182, 0, 35, 133, 173]
abbrev dktX0_all_3 : List UInt8 := dkwX0_all_3 ++ []
def dkwX0_all_2 : List UInt8 := [180, 1, 93, 28, 50, 180, 1, 105, 29, 182, 1, 151, 185, 0, 183, 3, 0, 173, 58, 4, 42, 4]
abbrev dktX0_all_2 : List UInt8 := dkwX0_all_2 ++ dktX0_all_3
def dkwX0_all_1 : List UInt8 := [153, 0, 7, 4, 167, 0, 4, 3, 182, 0, 43, 153, 0, 5, 9, 173, 42, 29, 182, 0, 47, 42, 27, 42]
abbrev dktX0_all_1 : List UInt8 := dkwX0_all_1 ++ dktX0_all_2
def dkwX0_all_0 : List UInt8 := [42, 27, 133, 9, 20, 0, 224, 184, 0, 172, 153, 0, 21, 28, 184, 1, 98, 153, 0, 14, 29, 184, 0, 39]
abbrev dktX0_all_0 : List UInt8 := dkwX0_all_0 ++ dktX0_all_1
theorem dksX0_all_0 : cX0_all.data.toList.drop 0 = dktX0_all_0 := by decide +kernel
theorem dksX0_all_1 : cX0_all.data.toList.drop 24 = dktX0_all_1 := dk_seg dksX0_all_0 24 rfl rfl
theorem dksX0_all_2 : cX0_all.data.toList.drop 48 = dktX0_all_2 := dk_seg dksX0_all_1 24 rfl rfl
theorem dksX0_all_3 : cX0_all.data.toList.drop 70 = dktX0_all_3 := dk_seg dksX0_all_2 22 rfl rfl
theorem dX0_all_0 : decode cX0_all 0 = .ok (.aload_n 0, 1) := dk_42 (dk_at dksX0_all_0 0 rfl rfl)
theorem dX0_all_1 : decode cX0_all 1 = .ok (.iload_n 1, 1) := dk_27 (dk_at dksX0_all_0 1 rfl rfl)
theorem dX0_all_2 : decode cX0_all 2 = .ok (.i2l, 1) := dk_133 (dk_at dksX0_all_0 2 rfl rfl)
theorem dX0_all_3 : decode cX0_all 3 = .ok (.lconst 0, 1) := dk_9 (dk_at dksX0_all_0 3 rfl rfl)
theorem dX0_all_4 : decode cX0_all 4 = .ok (.ldc2_w 224, 3) := dk_20 0 224 (dk_at dksX0_all_0 4 rfl rfl)
theorem dX0_all_7 : decode cX0_all 7 = .ok (.invokestatic 172, 3) := dk_184 0 172 (dk_at dksX0_all_0 7 rfl rfl)
theorem dX0_all_10 : decode cX0_all 10 = .ok (.ifCond .eq 21, 3) := dk_153 0 21 (dk_at dksX0_all_0 10 rfl rfl)
theorem dX0_all_13 : decode cX0_all 13 = .ok (.iload_n 2, 1) := dk_28 (dk_at dksX0_all_0 13 rfl rfl)
theorem dX0_all_14 : decode cX0_all 14 = .ok (.invokestatic 354, 3) := dk_184 1 98 (dk_at dksX0_all_0 14 rfl rfl)
theorem dX0_all_17 : decode cX0_all 17 = .ok (.ifCond .eq 14, 3) := dk_153 0 14 (dk_at dksX0_all_0 17 rfl rfl)
theorem dX0_all_20 : decode cX0_all 20 = .ok (.iload_n 3, 1) := dk_29 (dk_at dksX0_all_0 20 rfl rfl)
theorem dX0_all_21 : decode cX0_all 21 = .ok (.invokestatic 39, 3) := dk_184 0 39 (dk_at dksX0_all_0 21 rfl rfl)
theorem dX0_all_24 : decode cX0_all 24 = .ok (.ifCond .eq 7, 3) := dk_153 0 7 (dk_at dksX0_all_1 0 rfl rfl)
theorem dX0_all_27 : decode cX0_all 27 = .ok (.iconst 1, 1) := dk_4 (dk_at dksX0_all_1 3 rfl rfl)
theorem dX0_all_28 : decode cX0_all 28 = .ok (.goto 4, 3) := dk_167 0 4 (dk_at dksX0_all_1 4 rfl rfl)
theorem dX0_all_31 : decode cX0_all 31 = .ok (.iconst 0, 1) := dk_3 (dk_at dksX0_all_1 7 rfl rfl)
theorem dX0_all_32 : decode cX0_all 32 = .ok (.invokevirtual 43, 3) := dk_182 0 43 (dk_at dksX0_all_1 8 rfl rfl)
theorem dX0_all_35 : decode cX0_all 35 = .ok (.ifCond .eq 5, 3) := dk_153 0 5 (dk_at dksX0_all_1 11 rfl rfl)
theorem dX0_all_38 : decode cX0_all 38 = .ok (.lconst 0, 1) := dk_9 (dk_at dksX0_all_1 14 rfl rfl)
theorem dX0_all_39 : decode cX0_all 39 = .ok (.lreturn, 1) := dk_173 (dk_at dksX0_all_1 15 rfl rfl)
theorem dX0_all_40 : decode cX0_all 40 = .ok (.aload_n 0, 1) := dk_42 (dk_at dksX0_all_1 16 rfl rfl)
theorem dX0_all_41 : decode cX0_all 41 = .ok (.iload_n 3, 1) := dk_29 (dk_at dksX0_all_1 17 rfl rfl)
theorem dX0_all_42 : decode cX0_all 42 = .ok (.invokevirtual 47, 3) := dk_182 0 47 (dk_at dksX0_all_1 18 rfl rfl)
theorem dX0_all_45 : decode cX0_all 45 = .ok (.aload_n 0, 1) := dk_42 (dk_at dksX0_all_1 21 rfl rfl)
theorem dX0_all_46 : decode cX0_all 46 = .ok (.iload_n 1, 1) := dk_27 (dk_at dksX0_all_1 22 rfl rfl)
theorem dX0_all_47 : decode cX0_all 47 = .ok (.aload_n 0, 1) := dk_42 (dk_at dksX0_all_1 23 rfl rfl)
theorem dX0_all_48 : decode cX0_all 48 = .ok (.getfield 349, 3) := dk_180 1 93 (dk_at dksX0_all_2 0 rfl rfl)
theorem dX0_all_51 : decode cX0_all 51 = .ok (.iload_n 2, 1) := dk_28 (dk_at dksX0_all_2 3 rfl rfl)
theorem dX0_all_52 : decode cX0_all 52 = .ok (.aaload, 1) := dk_50 (dk_at dksX0_all_2 4 rfl rfl)
theorem dX0_all_53 : decode cX0_all 53 = .ok (.getfield 361, 3) := dk_180 1 105 (dk_at dksX0_all_2 5 rfl rfl)
theorem dX0_all_56 : decode cX0_all 56 = .ok (.iload_n 3, 1) := dk_29 (dk_at dksX0_all_2 8 rfl rfl)
theorem dX0_all_57 : decode cX0_all 57 = .ok (.invokevirtual 407, 3) := dk_182 1 151 (dk_at dksX0_all_2 9 rfl rfl)
theorem dX0_all_60 : decode cX0_all 60 = .ok (.invokeinterface 183 3, 5) := by decide +kernel
theorem dX0_all_65 : decode cX0_all 65 = .ok (.lreturn, 1) := dk_173 (dk_at dksX0_all_2 17 rfl rfl)
theorem dX0_all_66 : decode cX0_all 66 = .ok (.astore 4, 2) := dk_58 4 (dk_at dksX0_all_2 18 rfl rfl)
theorem dX0_all_68 : decode cX0_all 68 = .ok (.aload_n 0, 1) := dk_42 (dk_at dksX0_all_2 20 rfl rfl)
theorem dX0_all_69 : decode cX0_all 69 = .ok (.iconst 1, 1) := dk_4 (dk_at dksX0_all_2 21 rfl rfl)
theorem dX0_all_70 : decode cX0_all 70 = .ok (.invokevirtual 35, 3) := dk_182 0 35 (dk_at dksX0_all_3 0 rfl rfl)
theorem dX0_all_73 : decode cX0_all 73 = .ok (.i2l, 1) := dk_133 (dk_at dksX0_all_3 3 rfl rfl)
theorem dX0_all_74 : decode cX0_all 74 = .ok (.lreturn, 1) := dk_173 (dk_at dksX0_all_3 4 rfl rfl)
theorem dX0_all_75 : decode cX0_all 75 = .ok (.astore 4, 2) := dk_58 4 (dk_at dksX0_all_3 5 rfl rfl)
theorem dX0_all_77 : decode cX0_all 77 = .ok (.aload_n 0, 1) := dk_42 (dk_at dksX0_all_3 7 rfl rfl)
theorem dX0_all_78 : decode cX0_all 78 = .ok (.iconst 5, 1) := dk_8 (dk_at dksX0_all_3 8 rfl rfl)
theorem dX0_all_79 : decode cX0_all 79 = .ok (.invokevirtual 35, 3) := dk_182 0 35 (dk_at dksX0_all_3 9 rfl rfl)
theorem dX0_all_82 : decode cX0_all 82 = .ok (.i2l, 1) := dk_133 (dk_at dksX0_all_3 12 rfl rfl)
theorem dX0_all_83 : decode cX0_all 83 = .ok (.lreturn, 1) := dk_173 (dk_at dksX0_all_3 13 rfl rfl)
theorem dX0_all_84 : decode cX0_all 84 = .ok (.astore 4, 2) := dk_58 4 (dk_at dksX0_all_3 14 rfl rfl)
theorem dX0_all_86 : decode cX0_all 86 = .ok (.aload_n 0, 1) := dk_42 (dk_at dksX0_all_3 16 rfl rfl)
theorem dX0_all_87 : decode cX0_all 87 = .ok (.iconst 2, 1) := dk_5 (dk_at dksX0_all_3 17 rfl rfl)
theorem dX0_all_88 : decode cX0_all 88 = .ok (.invokevirtual 35, 3) := dk_182 0 35 (dk_at dksX0_all_3 18 rfl rfl)
theorem dX0_all_91 : decode cX0_all 91 = .ok (.i2l, 1) := dk_133 (dk_at dksX0_all_3 21 rfl rfl)
theorem dX0_all_92 : decode cX0_all 92 = .ok (.lreturn, 1) := dk_173 (dk_at dksX0_all_3 22 rfl rfl)
abbrev cX0_gathered : ByteArray := prog_1_method_55_code
def yX0_gathered : MethodName := ⟨RX0, "gathered", "(ILjava/lang/Object;I)D"⟩
def dkwX0_gathered_5 : List UInt8 := [57, 6, 132, 8, 1, 167, 255, 184, 24, 6, 175]
abbrev dktX0_gathered_5 : List UInt8 := dkwX0_gathered_5 ++ []
def dkwX0_gathered_4 : List UInt8 := [24, 9, 185, 1, 10, 5, 0, 167, 0, 17, 25, 4, 27, 6, 96, 24, 6, 24, 9, 185, 0, 202, 6, 0]
abbrev dktX0_gathered_4 : List UInt8 := dkwX0_gathered_4 ++ dktX0_gathered_5
def dkwX0_gathered_3 : List UInt8 := [25, 4, 24, 6, 24, 9, 185, 1, 13, 5, 0, 167, 0, 36, 27, 4, 160, 0, 17, 25, 4, 24, 6]
abbrev dktX0_gathered_3 : List UInt8 := dkwX0_gathered_3 ++ dktX0_gathered_4
def dkwX0_gathered_2 : List UInt8 := [4, 54, 8, 21, 8, 21, 5, 162, 0, 71, 44, 29, 21, 8, 184, 1, 130, 57, 9, 27, 154, 0, 17]
abbrev dktX0_gathered_2 : List UInt8 := dkwX0_gathered_2 ++ dktX0_gathered_3
def dkwX0_gathered_1 : List UInt8 := [160, 0, 7, 15, 167, 0, 9, 44, 29, 3, 184, 1, 130, 57, 6, 27, 5, 162, 0, 7, 3, 167, 0, 4]
abbrev dktX0_gathered_1 : List UInt8 := dkwX0_gathered_1 ++ dktX0_gathered_2
def dkwX0_gathered_0 : List UInt8 := [42, 29, 182, 0, 47, 58, 4, 44, 29, 184, 1, 147, 54, 5, 27, 154, 0, 7, 14, 167, 0, 18, 27, 4]
abbrev dktX0_gathered_0 : List UInt8 := dkwX0_gathered_0 ++ dktX0_gathered_1
theorem dksX0_gathered_0 : cX0_gathered.data.toList.drop 0 = dktX0_gathered_0 := by decide +kernel
theorem dksX0_gathered_1 : cX0_gathered.data.toList.drop 24 = dktX0_gathered_1 := dk_seg dksX0_gathered_0 24 rfl rfl
theorem dksX0_gathered_2 : cX0_gathered.data.toList.drop 48 = dktX0_gathered_2 := dk_seg dksX0_gathered_1 24 rfl rfl
theorem dksX0_gathered_3 : cX0_gathered.data.toList.drop 71 = dktX0_gathered_3 := dk_seg dksX0_gathered_2 23 rfl rfl
theorem dksX0_gathered_4 : cX0_gathered.data.toList.drop 94 = dktX0_gathered_4 := dk_seg dksX0_gathered_3 23 rfl rfl
theorem dksX0_gathered_5 : cX0_gathered.data.toList.drop 118 = dktX0_gathered_5 := dk_seg dksX0_gathered_4 24 rfl rfl
theorem dX0_gathered_0 : decode cX0_gathered 0 = .ok (.aload_n 0, 1) := dk_42 (dk_at dksX0_gathered_0 0 rfl rfl)
theorem dX0_gathered_1 : decode cX0_gathered 1 = .ok (.iload_n 3, 1) := dk_29 (dk_at dksX0_gathered_0 1 rfl rfl)
theorem dX0_gathered_2 : decode cX0_gathered 2 = .ok (.invokevirtual 47, 3) := dk_182 0 47 (dk_at dksX0_gathered_0 2 rfl rfl)
theorem dX0_gathered_5 : decode cX0_gathered 5 = .ok (.astore 4, 2) := dk_58 4 (dk_at dksX0_gathered_0 5 rfl rfl)
theorem dX0_gathered_7 : decode cX0_gathered 7 = .ok (.aload_n 2, 1) := dk_44 (dk_at dksX0_gathered_0 7 rfl rfl)
theorem dX0_gathered_8 : decode cX0_gathered 8 = .ok (.iload_n 3, 1) := dk_29 (dk_at dksX0_gathered_0 8 rfl rfl)
theorem dX0_gathered_9 : decode cX0_gathered 9 = .ok (.invokestatic 403, 3) := dk_184 1 147 (dk_at dksX0_gathered_0 9 rfl rfl)
theorem dX0_gathered_12 : decode cX0_gathered 12 = .ok (.istore 5, 2) := dk_54 5 (dk_at dksX0_gathered_0 12 rfl rfl)
theorem dX0_gathered_14 : decode cX0_gathered 14 = .ok (.iload_n 1, 1) := dk_27 (dk_at dksX0_gathered_0 14 rfl rfl)
theorem dX0_gathered_15 : decode cX0_gathered 15 = .ok (.ifCond .ne 7, 3) := dk_154 0 7 (dk_at dksX0_gathered_0 15 rfl rfl)
theorem dX0_gathered_18 : decode cX0_gathered 18 = .ok (.dconst 0, 1) := dk_14 (dk_at dksX0_gathered_0 18 rfl rfl)
theorem dX0_gathered_19 : decode cX0_gathered 19 = .ok (.goto 18, 3) := dk_167 0 18 (dk_at dksX0_gathered_0 19 rfl rfl)
theorem dX0_gathered_22 : decode cX0_gathered 22 = .ok (.iload_n 1, 1) := dk_27 (dk_at dksX0_gathered_0 22 rfl rfl)
theorem dX0_gathered_23 : decode cX0_gathered 23 = .ok (.iconst 1, 1) := dk_4 (dk_at dksX0_gathered_0 23 rfl rfl)
theorem dX0_gathered_24 : decode cX0_gathered 24 = .ok (.if_icmp .ne 7, 3) := dk_160 0 7 (dk_at dksX0_gathered_1 0 rfl rfl)
theorem dX0_gathered_27 : decode cX0_gathered 27 = .ok (.dconst 1, 1) := dk_15 (dk_at dksX0_gathered_1 3 rfl rfl)
theorem dX0_gathered_28 : decode cX0_gathered 28 = .ok (.goto 9, 3) := dk_167 0 9 (dk_at dksX0_gathered_1 4 rfl rfl)
theorem dX0_gathered_31 : decode cX0_gathered 31 = .ok (.aload_n 2, 1) := dk_44 (dk_at dksX0_gathered_1 7 rfl rfl)
theorem dX0_gathered_32 : decode cX0_gathered 32 = .ok (.iload_n 3, 1) := dk_29 (dk_at dksX0_gathered_1 8 rfl rfl)
theorem dX0_gathered_33 : decode cX0_gathered 33 = .ok (.iconst 0, 1) := dk_3 (dk_at dksX0_gathered_1 9 rfl rfl)
theorem dX0_gathered_34 : decode cX0_gathered 34 = .ok (.invokestatic 386, 3) := dk_184 1 130 (dk_at dksX0_gathered_1 10 rfl rfl)
theorem dX0_gathered_37 : decode cX0_gathered 37 = .ok (.dstore 6, 2) := dk_57 6 (dk_at dksX0_gathered_1 13 rfl rfl)
theorem dX0_gathered_39 : decode cX0_gathered 39 = .ok (.iload_n 1, 1) := dk_27 (dk_at dksX0_gathered_1 15 rfl rfl)
theorem dX0_gathered_40 : decode cX0_gathered 40 = .ok (.iconst 2, 1) := dk_5 (dk_at dksX0_gathered_1 16 rfl rfl)
theorem dX0_gathered_41 : decode cX0_gathered 41 = .ok (.if_icmp .ge 7, 3) := dk_162 0 7 (dk_at dksX0_gathered_1 17 rfl rfl)
theorem dX0_gathered_44 : decode cX0_gathered 44 = .ok (.iconst 0, 1) := dk_3 (dk_at dksX0_gathered_1 20 rfl rfl)
theorem dX0_gathered_45 : decode cX0_gathered 45 = .ok (.goto 4, 3) := dk_167 0 4 (dk_at dksX0_gathered_1 21 rfl rfl)
theorem dX0_gathered_48 : decode cX0_gathered 48 = .ok (.iconst 1, 1) := dk_4 (dk_at dksX0_gathered_2 0 rfl rfl)
theorem dX0_gathered_49 : decode cX0_gathered 49 = .ok (.istore 8, 2) := dk_54 8 (dk_at dksX0_gathered_2 1 rfl rfl)
theorem dX0_gathered_51 : decode cX0_gathered 51 = .ok (.iload 8, 2) := dk_21 8 (dk_at dksX0_gathered_2 3 rfl rfl)
theorem dX0_gathered_53 : decode cX0_gathered 53 = .ok (.iload 5, 2) := dk_21 5 (dk_at dksX0_gathered_2 5 rfl rfl)
theorem dX0_gathered_55 : decode cX0_gathered 55 = .ok (.if_icmp .ge 71, 3) := dk_162 0 71 (dk_at dksX0_gathered_2 7 rfl rfl)
theorem dX0_gathered_58 : decode cX0_gathered 58 = .ok (.aload_n 2, 1) := dk_44 (dk_at dksX0_gathered_2 10 rfl rfl)
theorem dX0_gathered_59 : decode cX0_gathered 59 = .ok (.iload_n 3, 1) := dk_29 (dk_at dksX0_gathered_2 11 rfl rfl)
theorem dX0_gathered_60 : decode cX0_gathered 60 = .ok (.iload 8, 2) := dk_21 8 (dk_at dksX0_gathered_2 12 rfl rfl)
theorem dX0_gathered_62 : decode cX0_gathered 62 = .ok (.invokestatic 386, 3) := dk_184 1 130 (dk_at dksX0_gathered_2 14 rfl rfl)
theorem dX0_gathered_65 : decode cX0_gathered 65 = .ok (.dstore 9, 2) := dk_57 9 (dk_at dksX0_gathered_2 17 rfl rfl)
theorem dX0_gathered_67 : decode cX0_gathered 67 = .ok (.iload_n 1, 1) := dk_27 (dk_at dksX0_gathered_2 19 rfl rfl)
theorem dX0_gathered_68 : decode cX0_gathered 68 = .ok (.ifCond .ne 17, 3) := dk_154 0 17 (dk_at dksX0_gathered_2 20 rfl rfl)
theorem dX0_gathered_71 : decode cX0_gathered 71 = .ok (.aload 4, 2) := dk_25 4 (dk_at dksX0_gathered_3 0 rfl rfl)
theorem dX0_gathered_73 : decode cX0_gathered 73 = .ok (.dload 6, 2) := dk_24 6 (dk_at dksX0_gathered_3 2 rfl rfl)
theorem dX0_gathered_75 : decode cX0_gathered 75 = .ok (.dload 9, 2) := dk_24 9 (dk_at dksX0_gathered_3 4 rfl rfl)
theorem dX0_gathered_77 : decode cX0_gathered 77 = .ok (.invokeinterface 269 5, 5) := by decide +kernel
theorem dX0_gathered_82 : decode cX0_gathered 82 = .ok (.goto 36, 3) := dk_167 0 36 (dk_at dksX0_gathered_3 11 rfl rfl)
theorem dX0_gathered_85 : decode cX0_gathered 85 = .ok (.iload_n 1, 1) := dk_27 (dk_at dksX0_gathered_3 14 rfl rfl)
theorem dX0_gathered_86 : decode cX0_gathered 86 = .ok (.iconst 1, 1) := dk_4 (dk_at dksX0_gathered_3 15 rfl rfl)
theorem dX0_gathered_87 : decode cX0_gathered 87 = .ok (.if_icmp .ne 17, 3) := dk_160 0 17 (dk_at dksX0_gathered_3 16 rfl rfl)
theorem dX0_gathered_90 : decode cX0_gathered 90 = .ok (.aload 4, 2) := dk_25 4 (dk_at dksX0_gathered_3 19 rfl rfl)
theorem dX0_gathered_92 : decode cX0_gathered 92 = .ok (.dload 6, 2) := dk_24 6 (dk_at dksX0_gathered_3 21 rfl rfl)
theorem dX0_gathered_94 : decode cX0_gathered 94 = .ok (.dload 9, 2) := dk_24 9 (dk_at dksX0_gathered_4 0 rfl rfl)
theorem dX0_gathered_96 : decode cX0_gathered 96 = .ok (.invokeinterface 266 5, 5) := by decide +kernel
theorem dX0_gathered_101 : decode cX0_gathered 101 = .ok (.goto 17, 3) := dk_167 0 17 (dk_at dksX0_gathered_4 7 rfl rfl)
theorem dX0_gathered_104 : decode cX0_gathered 104 = .ok (.aload 4, 2) := dk_25 4 (dk_at dksX0_gathered_4 10 rfl rfl)
theorem dX0_gathered_106 : decode cX0_gathered 106 = .ok (.iload_n 1, 1) := dk_27 (dk_at dksX0_gathered_4 12 rfl rfl)
theorem dX0_gathered_107 : decode cX0_gathered 107 = .ok (.iconst 3, 1) := dk_6 (dk_at dksX0_gathered_4 13 rfl rfl)
theorem dX0_gathered_108 : decode cX0_gathered 108 = .ok (.iadd, 1) := dk_96 (dk_at dksX0_gathered_4 14 rfl rfl)
theorem dX0_gathered_109 : decode cX0_gathered 109 = .ok (.dload 6, 2) := dk_24 6 (dk_at dksX0_gathered_4 15 rfl rfl)
theorem dX0_gathered_111 : decode cX0_gathered 111 = .ok (.dload 9, 2) := dk_24 9 (dk_at dksX0_gathered_4 17 rfl rfl)
theorem dX0_gathered_113 : decode cX0_gathered 113 = .ok (.invokeinterface 202 6, 5) := by decide +kernel
theorem dX0_gathered_118 : decode cX0_gathered 118 = .ok (.dstore 6, 2) := dk_57 6 (dk_at dksX0_gathered_5 0 rfl rfl)
theorem dX0_gathered_120 : decode cX0_gathered 120 = .ok (.iinc 8 1, 3) := dk_132 8 1 (dk_at dksX0_gathered_5 2 rfl rfl)
theorem dX0_gathered_123 : decode cX0_gathered 123 = .ok (.goto (-72), 3) := dk_167 255 184 (dk_at dksX0_gathered_5 5 rfl rfl)
theorem dX0_gathered_126 : decode cX0_gathered 126 = .ok (.dload 6, 2) := dk_24 6 (dk_at dksX0_gathered_5 8 rfl rfl)
theorem dX0_gathered_128 : decode cX0_gathered 128 = .ok (.dreturn, 1) := dk_175 (dk_at dksX0_gathered_5 10 rfl rfl)
abbrev cX0_lengthAs : ByteArray := prog_1_method_57_code
def yX0_lengthAs : MethodName := ⟨RX0, "lengthAs", "(Ljava/lang/Object;I)I"⟩
def dkwX0_lengthAs_0 : List UInt8 := [27, 154, 0, 11, 42, 192, 1, 113, 190, 167, 0, 8, 42, 192, 1, 111, 190, 172]
abbrev dktX0_lengthAs_0 : List UInt8 := dkwX0_lengthAs_0 ++ []
theorem dksX0_lengthAs_0 : cX0_lengthAs.data.toList.drop 0 = dktX0_lengthAs_0 := by decide +kernel
theorem dX0_lengthAs_0 : decode cX0_lengthAs 0 = .ok (.iload_n 1, 1) := dk_27 (dk_at dksX0_lengthAs_0 0 rfl rfl)
theorem dX0_lengthAs_1 : decode cX0_lengthAs 1 = .ok (.ifCond .ne 11, 3) := dk_154 0 11 (dk_at dksX0_lengthAs_0 1 rfl rfl)
theorem dX0_lengthAs_4 : decode cX0_lengthAs 4 = .ok (.aload_n 0, 1) := dk_42 (dk_at dksX0_lengthAs_0 4 rfl rfl)
theorem dX0_lengthAs_5 : decode cX0_lengthAs 5 = .ok (.checkcast 369, 3) := dk_192 1 113 (dk_at dksX0_lengthAs_0 5 rfl rfl)
theorem dX0_lengthAs_8 : decode cX0_lengthAs 8 = .ok (.arraylength, 1) := dk_190 (dk_at dksX0_lengthAs_0 8 rfl rfl)
theorem dX0_lengthAs_9 : decode cX0_lengthAs 9 = .ok (.goto 8, 3) := dk_167 0 8 (dk_at dksX0_lengthAs_0 9 rfl rfl)
theorem dX0_lengthAs_12 : decode cX0_lengthAs 12 = .ok (.aload_n 0, 1) := dk_42 (dk_at dksX0_lengthAs_0 12 rfl rfl)
theorem dX0_lengthAs_13 : decode cX0_lengthAs 13 = .ok (.checkcast 367, 3) := dk_192 1 111 (dk_at dksX0_lengthAs_0 13 rfl rfl)
theorem dX0_lengthAs_16 : decode cX0_lengthAs 16 = .ok (.arraylength, 1) := dk_190 (dk_at dksX0_lengthAs_0 16 rfl rfl)
theorem dX0_lengthAs_17 : decode cX0_lengthAs 17 = .ok (.ireturn, 1) := dk_172 (dk_at dksX0_lengthAs_0 17 rfl rfl)
abbrev cX0_joined : ByteArray := prog_1_method_59_code
def yX0_joined : MethodName := ⟨RX0, "joined", "(III)J"⟩
def dkwX0_joined_3 : List UInt8 := [173, 58, 4, 42, 8, 182, 0, 35, 133, 173, 58, 4, 42, 5, 182, 0, 35, 133, 173]
abbrev dktX0_joined_3 : List UInt8 := dkwX0_joined_3 ++ []
def dkwX0_joined_2 : List UInt8 := [42, 180, 1, 93, 28, 50, 29, 182, 1, 159, 185, 0, 183, 3, 0, 173, 58, 4, 42, 4, 182, 0, 35, 133]
abbrev dktX0_joined_2 : List UInt8 := dkwX0_joined_2 ++ dktX0_joined_3
def dkwX0_joined_1 : List UInt8 := [167, 0, 4, 3, 182, 0, 43, 153, 0, 5, 9, 173, 42, 29, 182, 0, 47, 42, 42, 180, 1, 93, 27, 50]
abbrev dktX0_joined_1 : List UInt8 := dkwX0_joined_1 ++ dktX0_joined_2
def dkwX0_joined_0 : List UInt8 := [42, 27, 184, 1, 98, 153, 0, 21, 28, 184, 1, 98, 153, 0, 14, 29, 184, 0, 39, 153, 0, 7, 4]
abbrev dktX0_joined_0 : List UInt8 := dkwX0_joined_0 ++ dktX0_joined_1
theorem dksX0_joined_0 : cX0_joined.data.toList.drop 0 = dktX0_joined_0 := by decide +kernel
theorem dksX0_joined_1 : cX0_joined.data.toList.drop 23 = dktX0_joined_1 := dk_seg dksX0_joined_0 23 rfl rfl
theorem dksX0_joined_2 : cX0_joined.data.toList.drop 47 = dktX0_joined_2 := dk_seg dksX0_joined_1 24 rfl rfl
theorem dksX0_joined_3 : cX0_joined.data.toList.drop 71 = dktX0_joined_3 := dk_seg dksX0_joined_2 24 rfl rfl
theorem dX0_joined_0 : decode cX0_joined 0 = .ok (.aload_n 0, 1) := dk_42 (dk_at dksX0_joined_0 0 rfl rfl)
theorem dX0_joined_1 : decode cX0_joined 1 = .ok (.iload_n 1, 1) := dk_27 (dk_at dksX0_joined_0 1 rfl rfl)
theorem dX0_joined_2 : decode cX0_joined 2 = .ok (.invokestatic 354, 3) := dk_184 1 98 (dk_at dksX0_joined_0 2 rfl rfl)
theorem dX0_joined_5 : decode cX0_joined 5 = .ok (.ifCond .eq 21, 3) := dk_153 0 21 (dk_at dksX0_joined_0 5 rfl rfl)
theorem dX0_joined_8 : decode cX0_joined 8 = .ok (.iload_n 2, 1) := dk_28 (dk_at dksX0_joined_0 8 rfl rfl)
theorem dX0_joined_9 : decode cX0_joined 9 = .ok (.invokestatic 354, 3) := dk_184 1 98 (dk_at dksX0_joined_0 9 rfl rfl)
theorem dX0_joined_12 : decode cX0_joined 12 = .ok (.ifCond .eq 14, 3) := dk_153 0 14 (dk_at dksX0_joined_0 12 rfl rfl)
theorem dX0_joined_15 : decode cX0_joined 15 = .ok (.iload_n 3, 1) := dk_29 (dk_at dksX0_joined_0 15 rfl rfl)
theorem dX0_joined_16 : decode cX0_joined 16 = .ok (.invokestatic 39, 3) := dk_184 0 39 (dk_at dksX0_joined_0 16 rfl rfl)
theorem dX0_joined_19 : decode cX0_joined 19 = .ok (.ifCond .eq 7, 3) := dk_153 0 7 (dk_at dksX0_joined_0 19 rfl rfl)
theorem dX0_joined_22 : decode cX0_joined 22 = .ok (.iconst 1, 1) := dk_4 (dk_at dksX0_joined_0 22 rfl rfl)
theorem dX0_joined_23 : decode cX0_joined 23 = .ok (.goto 4, 3) := dk_167 0 4 (dk_at dksX0_joined_1 0 rfl rfl)
theorem dX0_joined_26 : decode cX0_joined 26 = .ok (.iconst 0, 1) := dk_3 (dk_at dksX0_joined_1 3 rfl rfl)
theorem dX0_joined_27 : decode cX0_joined 27 = .ok (.invokevirtual 43, 3) := dk_182 0 43 (dk_at dksX0_joined_1 4 rfl rfl)
theorem dX0_joined_30 : decode cX0_joined 30 = .ok (.ifCond .eq 5, 3) := dk_153 0 5 (dk_at dksX0_joined_1 7 rfl rfl)
theorem dX0_joined_33 : decode cX0_joined 33 = .ok (.lconst 0, 1) := dk_9 (dk_at dksX0_joined_1 10 rfl rfl)
theorem dX0_joined_34 : decode cX0_joined 34 = .ok (.lreturn, 1) := dk_173 (dk_at dksX0_joined_1 11 rfl rfl)
theorem dX0_joined_35 : decode cX0_joined 35 = .ok (.aload_n 0, 1) := dk_42 (dk_at dksX0_joined_1 12 rfl rfl)
theorem dX0_joined_36 : decode cX0_joined 36 = .ok (.iload_n 3, 1) := dk_29 (dk_at dksX0_joined_1 13 rfl rfl)
theorem dX0_joined_37 : decode cX0_joined 37 = .ok (.invokevirtual 47, 3) := dk_182 0 47 (dk_at dksX0_joined_1 14 rfl rfl)
theorem dX0_joined_40 : decode cX0_joined 40 = .ok (.aload_n 0, 1) := dk_42 (dk_at dksX0_joined_1 17 rfl rfl)
theorem dX0_joined_41 : decode cX0_joined 41 = .ok (.aload_n 0, 1) := dk_42 (dk_at dksX0_joined_1 18 rfl rfl)
theorem dX0_joined_42 : decode cX0_joined 42 = .ok (.getfield 349, 3) := dk_180 1 93 (dk_at dksX0_joined_1 19 rfl rfl)
theorem dX0_joined_45 : decode cX0_joined 45 = .ok (.iload_n 1, 1) := dk_27 (dk_at dksX0_joined_1 22 rfl rfl)
theorem dX0_joined_46 : decode cX0_joined 46 = .ok (.aaload, 1) := dk_50 (dk_at dksX0_joined_1 23 rfl rfl)
theorem dX0_joined_47 : decode cX0_joined 47 = .ok (.aload_n 0, 1) := dk_42 (dk_at dksX0_joined_2 0 rfl rfl)
theorem dX0_joined_48 : decode cX0_joined 48 = .ok (.getfield 349, 3) := dk_180 1 93 (dk_at dksX0_joined_2 1 rfl rfl)
theorem dX0_joined_51 : decode cX0_joined 51 = .ok (.iload_n 2, 1) := dk_28 (dk_at dksX0_joined_2 4 rfl rfl)
theorem dX0_joined_52 : decode cX0_joined 52 = .ok (.aaload, 1) := dk_50 (dk_at dksX0_joined_2 5 rfl rfl)
theorem dX0_joined_53 : decode cX0_joined 53 = .ok (.iload_n 3, 1) := dk_29 (dk_at dksX0_joined_2 6 rfl rfl)
theorem dX0_joined_54 : decode cX0_joined 54 = .ok (.invokevirtual 415, 3) := dk_182 1 159 (dk_at dksX0_joined_2 7 rfl rfl)
theorem dX0_joined_57 : decode cX0_joined 57 = .ok (.invokeinterface 183 3, 5) := by decide +kernel
theorem dX0_joined_62 : decode cX0_joined 62 = .ok (.lreturn, 1) := dk_173 (dk_at dksX0_joined_2 15 rfl rfl)
theorem dX0_joined_63 : decode cX0_joined 63 = .ok (.astore 4, 2) := dk_58 4 (dk_at dksX0_joined_2 16 rfl rfl)
theorem dX0_joined_65 : decode cX0_joined 65 = .ok (.aload_n 0, 1) := dk_42 (dk_at dksX0_joined_2 18 rfl rfl)
theorem dX0_joined_66 : decode cX0_joined 66 = .ok (.iconst 1, 1) := dk_4 (dk_at dksX0_joined_2 19 rfl rfl)
theorem dX0_joined_67 : decode cX0_joined 67 = .ok (.invokevirtual 35, 3) := dk_182 0 35 (dk_at dksX0_joined_2 20 rfl rfl)
theorem dX0_joined_70 : decode cX0_joined 70 = .ok (.i2l, 1) := dk_133 (dk_at dksX0_joined_2 23 rfl rfl)
theorem dX0_joined_71 : decode cX0_joined 71 = .ok (.lreturn, 1) := dk_173 (dk_at dksX0_joined_3 0 rfl rfl)
theorem dX0_joined_72 : decode cX0_joined 72 = .ok (.astore 4, 2) := dk_58 4 (dk_at dksX0_joined_3 1 rfl rfl)
theorem dX0_joined_74 : decode cX0_joined 74 = .ok (.aload_n 0, 1) := dk_42 (dk_at dksX0_joined_3 3 rfl rfl)
theorem dX0_joined_75 : decode cX0_joined 75 = .ok (.iconst 5, 1) := dk_8 (dk_at dksX0_joined_3 4 rfl rfl)
theorem dX0_joined_76 : decode cX0_joined 76 = .ok (.invokevirtual 35, 3) := dk_182 0 35 (dk_at dksX0_joined_3 5 rfl rfl)
theorem dX0_joined_79 : decode cX0_joined 79 = .ok (.i2l, 1) := dk_133 (dk_at dksX0_joined_3 8 rfl rfl)
theorem dX0_joined_80 : decode cX0_joined 80 = .ok (.lreturn, 1) := dk_173 (dk_at dksX0_joined_3 9 rfl rfl)
theorem dX0_joined_81 : decode cX0_joined 81 = .ok (.astore 4, 2) := dk_58 4 (dk_at dksX0_joined_3 10 rfl rfl)
theorem dX0_joined_83 : decode cX0_joined 83 = .ok (.aload_n 0, 1) := dk_42 (dk_at dksX0_joined_3 12 rfl rfl)
theorem dX0_joined_84 : decode cX0_joined 84 = .ok (.iconst 2, 1) := dk_5 (dk_at dksX0_joined_3 13 rfl rfl)
theorem dX0_joined_85 : decode cX0_joined 85 = .ok (.invokevirtual 35, 3) := dk_182 0 35 (dk_at dksX0_joined_3 14 rfl rfl)
theorem dX0_joined_88 : decode cX0_joined 88 = .ok (.i2l, 1) := dk_133 (dk_at dksX0_joined_3 17 rfl rfl)
theorem dX0_joined_89 : decode cX0_joined 89 = .ok (.lreturn, 1) := dk_173 (dk_at dksX0_joined_3 18 rfl rfl)
abbrev cX0_joinedOf : ByteArray := prog_1_method_58_code
def yX0_joinedOf : MethodName := ⟨RX0, "joinedOf", "(LFloatClasses$Holder;LFloatClasses$Holder;I)D"⟩
def dkwX0_joinedOf_4 : List UInt8 := [167, 0, 4, 14, 175]
abbrev dktX0_joinedOf_4 : List UInt8 := dkwX0_joinedOf_4 ++ []
def dkwX0_joinedOf_3 : List UInt8 := [24, 7, 185, 0, 206, 7, 0, 57, 7, 132, 9, 1, 167, 255, 212, 21, 4, 21, 6, 163, 0, 8, 24, 7]
abbrev dktX0_joinedOf_3 : List UInt8 := dkwX0_joinedOf_3 ++ dktX0_joinedOf_4
def dkwX0_joinedOf_2 : List UInt8 := [182, 0, 47, 43, 180, 1, 105, 29, 21, 9, 184, 1, 130, 44, 180, 1, 105, 29, 21, 9, 184, 1, 130]
abbrev dktX0_joinedOf_2 : List UInt8 := dkwX0_joinedOf_2 ++ dktX0_joinedOf_3
def dkwX0_joinedOf_1 : List UInt8 := [180, 1, 105, 29, 184, 1, 147, 54, 6, 14, 57, 7, 3, 54, 9, 21, 9, 21, 5, 162, 0, 43, 42, 29]
abbrev dktX0_joinedOf_1 : List UInt8 := dkwX0_joinedOf_1 ++ dktX0_joinedOf_2
def dkwX0_joinedOf_0 : List UInt8 := [43, 182, 1, 144, 44, 182, 1, 144, 184, 1, 155, 54, 4, 43, 180, 1, 105, 29, 184, 1, 147, 54, 5, 44]
abbrev dktX0_joinedOf_0 : List UInt8 := dkwX0_joinedOf_0 ++ dktX0_joinedOf_1
theorem dksX0_joinedOf_0 : cX0_joinedOf.data.toList.drop 0 = dktX0_joinedOf_0 := by decide +kernel
theorem dksX0_joinedOf_1 : cX0_joinedOf.data.toList.drop 24 = dktX0_joinedOf_1 := dk_seg dksX0_joinedOf_0 24 rfl rfl
theorem dksX0_joinedOf_2 : cX0_joinedOf.data.toList.drop 48 = dktX0_joinedOf_2 := dk_seg dksX0_joinedOf_1 24 rfl rfl
theorem dksX0_joinedOf_3 : cX0_joinedOf.data.toList.drop 71 = dktX0_joinedOf_3 := dk_seg dksX0_joinedOf_2 23 rfl rfl
theorem dksX0_joinedOf_4 : cX0_joinedOf.data.toList.drop 95 = dktX0_joinedOf_4 := dk_seg dksX0_joinedOf_3 24 rfl rfl
theorem dX0_joinedOf_0 : decode cX0_joinedOf 0 = .ok (.aload_n 1, 1) := dk_43 (dk_at dksX0_joinedOf_0 0 rfl rfl)
theorem dX0_joinedOf_1 : decode cX0_joinedOf 1 = .ok (.invokevirtual 400, 3) := dk_182 1 144 (dk_at dksX0_joinedOf_0 1 rfl rfl)
theorem dX0_joinedOf_4 : decode cX0_joinedOf 4 = .ok (.aload_n 2, 1) := dk_44 (dk_at dksX0_joinedOf_0 4 rfl rfl)
theorem dX0_joinedOf_5 : decode cX0_joinedOf 5 = .ok (.invokevirtual 400, 3) := dk_182 1 144 (dk_at dksX0_joinedOf_0 5 rfl rfl)
theorem dX0_joinedOf_8 : decode cX0_joinedOf 8 = .ok (.invokestatic 411, 3) := dk_184 1 155 (dk_at dksX0_joinedOf_0 8 rfl rfl)
theorem dX0_joinedOf_11 : decode cX0_joinedOf 11 = .ok (.istore 4, 2) := dk_54 4 (dk_at dksX0_joinedOf_0 11 rfl rfl)
theorem dX0_joinedOf_13 : decode cX0_joinedOf 13 = .ok (.aload_n 1, 1) := dk_43 (dk_at dksX0_joinedOf_0 13 rfl rfl)
theorem dX0_joinedOf_14 : decode cX0_joinedOf 14 = .ok (.getfield 361, 3) := dk_180 1 105 (dk_at dksX0_joinedOf_0 14 rfl rfl)
theorem dX0_joinedOf_17 : decode cX0_joinedOf 17 = .ok (.iload_n 3, 1) := dk_29 (dk_at dksX0_joinedOf_0 17 rfl rfl)
theorem dX0_joinedOf_18 : decode cX0_joinedOf 18 = .ok (.invokestatic 403, 3) := dk_184 1 147 (dk_at dksX0_joinedOf_0 18 rfl rfl)
theorem dX0_joinedOf_21 : decode cX0_joinedOf 21 = .ok (.istore 5, 2) := dk_54 5 (dk_at dksX0_joinedOf_0 21 rfl rfl)
theorem dX0_joinedOf_23 : decode cX0_joinedOf 23 = .ok (.aload_n 2, 1) := dk_44 (dk_at dksX0_joinedOf_0 23 rfl rfl)
theorem dX0_joinedOf_24 : decode cX0_joinedOf 24 = .ok (.getfield 361, 3) := dk_180 1 105 (dk_at dksX0_joinedOf_1 0 rfl rfl)
theorem dX0_joinedOf_27 : decode cX0_joinedOf 27 = .ok (.iload_n 3, 1) := dk_29 (dk_at dksX0_joinedOf_1 3 rfl rfl)
theorem dX0_joinedOf_28 : decode cX0_joinedOf 28 = .ok (.invokestatic 403, 3) := dk_184 1 147 (dk_at dksX0_joinedOf_1 4 rfl rfl)
theorem dX0_joinedOf_31 : decode cX0_joinedOf 31 = .ok (.istore 6, 2) := dk_54 6 (dk_at dksX0_joinedOf_1 7 rfl rfl)
theorem dX0_joinedOf_33 : decode cX0_joinedOf 33 = .ok (.dconst 0, 1) := dk_14 (dk_at dksX0_joinedOf_1 9 rfl rfl)
theorem dX0_joinedOf_34 : decode cX0_joinedOf 34 = .ok (.dstore 7, 2) := dk_57 7 (dk_at dksX0_joinedOf_1 10 rfl rfl)
theorem dX0_joinedOf_36 : decode cX0_joinedOf 36 = .ok (.iconst 0, 1) := dk_3 (dk_at dksX0_joinedOf_1 12 rfl rfl)
theorem dX0_joinedOf_37 : decode cX0_joinedOf 37 = .ok (.istore 9, 2) := dk_54 9 (dk_at dksX0_joinedOf_1 13 rfl rfl)
theorem dX0_joinedOf_39 : decode cX0_joinedOf 39 = .ok (.iload 9, 2) := dk_21 9 (dk_at dksX0_joinedOf_1 15 rfl rfl)
theorem dX0_joinedOf_41 : decode cX0_joinedOf 41 = .ok (.iload 5, 2) := dk_21 5 (dk_at dksX0_joinedOf_1 17 rfl rfl)
theorem dX0_joinedOf_43 : decode cX0_joinedOf 43 = .ok (.if_icmp .ge 43, 3) := dk_162 0 43 (dk_at dksX0_joinedOf_1 19 rfl rfl)
theorem dX0_joinedOf_46 : decode cX0_joinedOf 46 = .ok (.aload_n 0, 1) := dk_42 (dk_at dksX0_joinedOf_1 22 rfl rfl)
theorem dX0_joinedOf_47 : decode cX0_joinedOf 47 = .ok (.iload_n 3, 1) := dk_29 (dk_at dksX0_joinedOf_1 23 rfl rfl)
theorem dX0_joinedOf_48 : decode cX0_joinedOf 48 = .ok (.invokevirtual 47, 3) := dk_182 0 47 (dk_at dksX0_joinedOf_2 0 rfl rfl)
theorem dX0_joinedOf_51 : decode cX0_joinedOf 51 = .ok (.aload_n 1, 1) := dk_43 (dk_at dksX0_joinedOf_2 3 rfl rfl)
theorem dX0_joinedOf_52 : decode cX0_joinedOf 52 = .ok (.getfield 361, 3) := dk_180 1 105 (dk_at dksX0_joinedOf_2 4 rfl rfl)
theorem dX0_joinedOf_55 : decode cX0_joinedOf 55 = .ok (.iload_n 3, 1) := dk_29 (dk_at dksX0_joinedOf_2 7 rfl rfl)
theorem dX0_joinedOf_56 : decode cX0_joinedOf 56 = .ok (.iload 9, 2) := dk_21 9 (dk_at dksX0_joinedOf_2 8 rfl rfl)
theorem dX0_joinedOf_58 : decode cX0_joinedOf 58 = .ok (.invokestatic 386, 3) := dk_184 1 130 (dk_at dksX0_joinedOf_2 10 rfl rfl)
theorem dX0_joinedOf_61 : decode cX0_joinedOf 61 = .ok (.aload_n 2, 1) := dk_44 (dk_at dksX0_joinedOf_2 13 rfl rfl)
theorem dX0_joinedOf_62 : decode cX0_joinedOf 62 = .ok (.getfield 361, 3) := dk_180 1 105 (dk_at dksX0_joinedOf_2 14 rfl rfl)
theorem dX0_joinedOf_65 : decode cX0_joinedOf 65 = .ok (.iload_n 3, 1) := dk_29 (dk_at dksX0_joinedOf_2 17 rfl rfl)
theorem dX0_joinedOf_66 : decode cX0_joinedOf 66 = .ok (.iload 9, 2) := dk_21 9 (dk_at dksX0_joinedOf_2 18 rfl rfl)
theorem dX0_joinedOf_68 : decode cX0_joinedOf 68 = .ok (.invokestatic 386, 3) := dk_184 1 130 (dk_at dksX0_joinedOf_2 20 rfl rfl)
theorem dX0_joinedOf_71 : decode cX0_joinedOf 71 = .ok (.dload 7, 2) := dk_24 7 (dk_at dksX0_joinedOf_3 0 rfl rfl)
theorem dX0_joinedOf_73 : decode cX0_joinedOf 73 = .ok (.invokeinterface 206 7, 5) := by decide +kernel
theorem dX0_joinedOf_78 : decode cX0_joinedOf 78 = .ok (.dstore 7, 2) := dk_57 7 (dk_at dksX0_joinedOf_3 7 rfl rfl)
theorem dX0_joinedOf_80 : decode cX0_joinedOf 80 = .ok (.iinc 9 1, 3) := dk_132 9 1 (dk_at dksX0_joinedOf_3 9 rfl rfl)
theorem dX0_joinedOf_83 : decode cX0_joinedOf 83 = .ok (.goto (-44), 3) := dk_167 255 212 (dk_at dksX0_joinedOf_3 12 rfl rfl)
theorem dX0_joinedOf_86 : decode cX0_joinedOf 86 = .ok (.iload 4, 2) := dk_21 4 (dk_at dksX0_joinedOf_3 15 rfl rfl)
theorem dX0_joinedOf_88 : decode cX0_joinedOf 88 = .ok (.iload 6, 2) := dk_21 6 (dk_at dksX0_joinedOf_3 17 rfl rfl)
theorem dX0_joinedOf_90 : decode cX0_joinedOf 90 = .ok (.if_icmp .gt 8, 3) := dk_163 0 8 (dk_at dksX0_joinedOf_3 19 rfl rfl)
theorem dX0_joinedOf_93 : decode cX0_joinedOf 93 = .ok (.dload 7, 2) := dk_24 7 (dk_at dksX0_joinedOf_3 22 rfl rfl)
theorem dX0_joinedOf_95 : decode cX0_joinedOf 95 = .ok (.goto 4, 3) := dk_167 0 4 (dk_at dksX0_joinedOf_4 0 rfl rfl)
theorem dX0_joinedOf_98 : decode cX0_joinedOf 98 = .ok (.dconst 0, 1) := dk_14 (dk_at dksX0_joinedOf_4 3 rfl rfl)
theorem dX0_joinedOf_99 : decode cX0_joinedOf 99 = .ok (.dreturn, 1) := dk_175 (dk_at dksX0_joinedOf_4 4 rfl rfl)
abbrev cX0_failed : ByteArray := prog_1_method_60_code
def yX0_failed : MethodName := ⟨RX0, "failed", "()I"⟩
theorem dX0_failed_0 : decode cX0_failed 0 = .ok (.aload_n 0, 1) := by decide +kernel
theorem dX0_failed_1 : decode cX0_failed 1 = .ok (.getfield 27, 3) := by decide +kernel
theorem dX0_failed_4 : decode cX0_failed 4 = .ok (.ireturn, 1) := by decide +kernel
abbrev cX0_told : ByteArray := prog_1_method_61_code
def yX0_told : MethodName := ⟨RX0, "told", "(I)I"⟩
def dkwX0_told_1 : List UInt8 := [27, 46, 172]
abbrev dktX0_told_1 : List UInt8 := dkwX0_told_1 ++ []
def dkwX0_told_0 : List UInt8 := [42, 27, 133, 10, 20, 1, 163, 184, 0, 172, 182, 0, 43, 153, 0, 7, 3, 167, 0, 9, 42, 180, 0, 31]
abbrev dktX0_told_0 : List UInt8 := dkwX0_told_0 ++ dktX0_told_1
theorem dksX0_told_0 : cX0_told.data.toList.drop 0 = dktX0_told_0 := by decide +kernel
theorem dksX0_told_1 : cX0_told.data.toList.drop 24 = dktX0_told_1 := dk_seg dksX0_told_0 24 rfl rfl
theorem dX0_told_0 : decode cX0_told 0 = .ok (.aload_n 0, 1) := dk_42 (dk_at dksX0_told_0 0 rfl rfl)
theorem dX0_told_1 : decode cX0_told 1 = .ok (.iload_n 1, 1) := dk_27 (dk_at dksX0_told_0 1 rfl rfl)
theorem dX0_told_2 : decode cX0_told 2 = .ok (.i2l, 1) := dk_133 (dk_at dksX0_told_0 2 rfl rfl)
theorem dX0_told_3 : decode cX0_told 3 = .ok (.lconst 1, 1) := dk_10 (dk_at dksX0_told_0 3 rfl rfl)
theorem dX0_told_4 : decode cX0_told 4 = .ok (.ldc2_w 419, 3) := dk_20 1 163 (dk_at dksX0_told_0 4 rfl rfl)
theorem dX0_told_7 : decode cX0_told 7 = .ok (.invokestatic 172, 3) := dk_184 0 172 (dk_at dksX0_told_0 7 rfl rfl)
theorem dX0_told_10 : decode cX0_told 10 = .ok (.invokevirtual 43, 3) := dk_182 0 43 (dk_at dksX0_told_0 10 rfl rfl)
theorem dX0_told_13 : decode cX0_told 13 = .ok (.ifCond .eq 7, 3) := dk_153 0 7 (dk_at dksX0_told_0 13 rfl rfl)
theorem dX0_told_16 : decode cX0_told 16 = .ok (.iconst 0, 1) := dk_3 (dk_at dksX0_told_0 16 rfl rfl)
theorem dX0_told_17 : decode cX0_told 17 = .ok (.goto 9, 3) := dk_167 0 9 (dk_at dksX0_told_0 17 rfl rfl)
theorem dX0_told_20 : decode cX0_told 20 = .ok (.aload_n 0, 1) := dk_42 (dk_at dksX0_told_0 20 rfl rfl)
theorem dX0_told_21 : decode cX0_told 21 = .ok (.getfield 31, 3) := dk_180 0 31 (dk_at dksX0_told_0 21 rfl rfl)
theorem dX0_told_24 : decode cX0_told 24 = .ok (.iload_n 1, 1) := dk_27 (dk_at dksX0_told_1 0 rfl rfl)
theorem dX0_told_25 : decode cX0_told 25 = .ok (.iaload, 1) := dk_46 (dk_at dksX0_told_1 1 rfl rfl)
theorem dX0_told_26 : decode cX0_told 26 = .ok (.ireturn, 1) := dk_172 (dk_at dksX0_told_1 2 rfl rfl)
theorem q44 : (Jvm.Cond.initialized "FloatClasses") ∈ lw_all := lw_g (lw_at lw_m1 1 rfl) rfl
theorem q72 : (Jvm.Cond.instanceMethod ({ cls := "FloatClasses", name := "decode", desc := "(IJI)J" } : Jvm.MethodName)) ∈ lw_all := lw_g (lw_at lw_m1 29 rfl) rfl
theorem q73 : (Jvm.Cond.selects "FloatClasses" ({ cls := "FloatClasses", name := "decode", desc := "(IJI)J" } : Jvm.MethodName) ({ cls := "FloatClasses", name := "decode", desc := "(IJI)J" } : Jvm.MethodName)) ∈ lw_all := lw_g (lw_at lw_m1 30 rfl) rfl
theorem q74 : (Jvm.Cond.code ({ cls := "FloatClasses", name := "decode", desc := "(IJI)J" } : Jvm.MethodName) prog_1_method_20_code (8 : Nat) (Option.some Jvm.ClassFile.FieldType.long)) ∈ lw_all := lw_g (lw_at lw_m1 31 rfl) rfl
theorem q75 : (Jvm.Cond.methodLink "FloatClasses" (172 : Nat) ({ cls := "FloatClasses", name := "isIn", desc := "(JJJ)Z" } : Jvm.MethodName)) ∈ lw_all := lw_g (lw_at lw_m1 32 rfl) rfl
theorem q76 : (Jvm.Cond.static ({ cls := "FloatClasses", name := "isIn", desc := "(JJJ)Z" } : Jvm.MethodName)) ∈ lw_all := lw_g (lw_at lw_m1 33 rfl) rfl
theorem q77 : (Jvm.Cond.code ({ cls := "FloatClasses", name := "isIn", desc := "(JJJ)Z" } : Jvm.MethodName) prog_1_method_1_code (6 : Nat) (Option.some Jvm.ClassFile.FieldType.boolean)) ∈ lw_all := lw_g (lw_at lw_m1 34 rfl) rfl
theorem q78 : (Jvm.Cond.methodLink "FloatClasses" (176 : Nat) ({ cls := "FloatClasses", name := "lacks", desc := "(IJZ)Z" } : Jvm.MethodName)) ∈ lw_all := lw_g (lw_at lw_m1 35 rfl) rfl
theorem q79 : (Jvm.Cond.privateMethod ({ cls := "FloatClasses", name := "lacks", desc := "(IJZ)Z" } : Jvm.MethodName)) ∈ lw_tbl := lw_at lw_m1 36 rfl
theorem q80 : (Jvm.Cond.instanceMethod ({ cls := "FloatClasses", name := "lacks", desc := "(IJZ)Z" } : Jvm.MethodName)) ∈ lw_all := lw_g (lw_at lw_m1 37 rfl) rfl
theorem q81 : (Jvm.Cond.instantiable "FloatClasses" (13 : Nat)) ∈ lw_all := lw_g (lw_at lw_m1 38 rfl) rfl
theorem q82 : (Jvm.Cond.code ({ cls := "FloatClasses", name := "lacks", desc := "(IJZ)Z" } : Jvm.MethodName) prog_1_method_9_code (5 : Nat) (Option.some Jvm.ClassFile.FieldType.boolean)) ∈ lw_all := lw_g (lw_at lw_m1 39 rfl) rfl
theorem q83 : (Jvm.Cond.methodLink "FloatClasses" (39 : Nat) ({ cls := "FloatClasses", name := "isKind", desc := "(I)Z" } : Jvm.MethodName)) ∈ lw_all := lw_g (lw_at lw_m1 40 rfl) rfl
theorem q84 : (Jvm.Cond.static ({ cls := "FloatClasses", name := "isKind", desc := "(I)Z" } : Jvm.MethodName)) ∈ lw_all := lw_g (lw_at lw_m1 41 rfl) rfl
theorem q85 : (Jvm.Cond.code ({ cls := "FloatClasses", name := "isKind", desc := "(I)Z" } : Jvm.MethodName) prog_1_method_8_code (1 : Nat) (Option.some Jvm.ClassFile.FieldType.boolean)) ∈ lw_all := lw_g (lw_at lw_m1 42 rfl) rfl
theorem q86 : (Jvm.Cond.methodLink "FloatClasses" (43 : Nat) ({ cls := "FloatClasses", name := "isRefused", desc := "(Z)Z" } : Jvm.MethodName)) ∈ lw_all := lw_g (lw_at lw_m1 43 rfl) rfl
theorem q87 : (Jvm.Cond.privateMethod ({ cls := "FloatClasses", name := "isRefused", desc := "(Z)Z" } : Jvm.MethodName)) ∈ lw_tbl := lw_at lw_m1 44 rfl
theorem q88 : (Jvm.Cond.instanceMethod ({ cls := "FloatClasses", name := "isRefused", desc := "(Z)Z" } : Jvm.MethodName)) ∈ lw_all := lw_g (lw_at lw_m1 45 rfl) rfl
theorem q89 : (Jvm.Cond.code ({ cls := "FloatClasses", name := "isRefused", desc := "(Z)Z" } : Jvm.MethodName) prog_1_method_7_code (2 : Nat) (Option.some Jvm.ClassFile.FieldType.boolean)) ∈ lw_all := lw_g (lw_at lw_m1 46 rfl) rfl
theorem q90 : (Jvm.Cond.methodLink "FloatClasses" (35 : Nat) ({ cls := "FloatClasses", name := "fails", desc := "(I)I" } : Jvm.MethodName)) ∈ lw_all := lw_g (lw_at lw_m1 47 rfl) rfl
theorem q91 : (Jvm.Cond.privateMethod ({ cls := "FloatClasses", name := "fails", desc := "(I)I" } : Jvm.MethodName)) ∈ lw_tbl := lw_at lw_m1 48 rfl
theorem q92 : (Jvm.Cond.instanceMethod ({ cls := "FloatClasses", name := "fails", desc := "(I)I" } : Jvm.MethodName)) ∈ lw_all := lw_g (lw_at lw_m1 49 rfl) rfl
theorem q93 : (Jvm.Cond.code ({ cls := "FloatClasses", name := "fails", desc := "(I)I" } : Jvm.MethodName) prog_1_method_6_code (2 : Nat) (Option.some Jvm.ClassFile.FieldType.int)) ∈ lw_all := lw_g (lw_at lw_m1 50 rfl) rfl
theorem q94 : (Jvm.Cond.methodLink "FloatClasses" (47 : Nat) ({ cls := "FloatClasses", name := "reals", desc := "(I)LFloatClasses$Reals;" } : Jvm.MethodName)) ∈ lw_all := lw_g (lw_at lw_m1 51 rfl) rfl
theorem q95 : (Jvm.Cond.privateMethod ({ cls := "FloatClasses", name := "reals", desc := "(I)LFloatClasses$Reals;" } : Jvm.MethodName)) ∈ lw_tbl := lw_at lw_m1 52 rfl
theorem q96 : (Jvm.Cond.instanceMethod ({ cls := "FloatClasses", name := "reals", desc := "(I)LFloatClasses$Reals;" } : Jvm.MethodName)) ∈ lw_all := lw_g (lw_at lw_m1 53 rfl) rfl
theorem q97 : (Jvm.Cond.code ({ cls := "FloatClasses", name := "reals", desc := "(I)LFloatClasses$Reals;" } : Jvm.MethodName) prog_1_method_5_code (2 : Nat) (Option.some (Jvm.ClassFile.FieldType.object "FloatClasses$Reals"))) ∈ lw_all := lw_g (lw_at lw_m1 54 rfl) rfl
theorem q98 : (Jvm.Cond.interfaceEntry "FloatClasses" (51 : Nat)) ∈ lw_tbl := lw_at lw_m1 55 rfl
theorem q99 : (Jvm.Cond.methodLink "FloatClasses" (51 : Nat) ({ cls := "FloatClasses$Reals", name := "from", desc := "(J)D" } : Jvm.MethodName)) ∈ lw_all := lw_g (lw_at lw_m1 56 rfl) rfl
theorem q111 : (Jvm.Cond.laysStatic "FloatClasses" "NO_NUMBER" "D") ∈ lw_tbl := lw_at lw_m1 68 rfl
theorem q127 : (Jvm.Cond.interfaceEntry "FloatClasses" (57 : Nat)) ∈ lw_tbl := lw_at lw_m1 84 rfl
theorem q128 : (Jvm.Cond.methodLink "FloatClasses" (57 : Nat) ({ cls := "FloatClasses$Reals", name := "isFinite", desc := "(D)Z" } : Jvm.MethodName)) ∈ lw_all := lw_g (lw_at lw_m1 85 rfl) rfl
theorem q136 : (Jvm.Cond.static ({ cls := "FloatClasses", name := "isEndless", desc := "(D)Z" } : Jvm.MethodName)) ∈ lw_all := lw_g (lw_at lw_m1 93 rfl) rfl
theorem q137 : (Jvm.Cond.code ({ cls := "FloatClasses", name := "isEndless", desc := "(D)Z" } : Jvm.MethodName) prog_1_method_2_code (2 : Nat) (Option.some Jvm.ClassFile.FieldType.boolean)) ∈ lw_all := lw_g (lw_at lw_m1 94 rfl) rfl
theorem q138 : (Jvm.Cond.constantDouble "FloatClasses" (3 : Nat) (9218868437227405311 : UInt64)) ∈ lw_all := lw_g (lw_at lw_m1 95 rfl) rfl
theorem q139 : (Jvm.Cond.constantDouble "FloatClasses" (5 : Nat) (18442240474082181119 : UInt64)) ∈ lw_all := lw_g (lw_at lw_m1 96 rfl) rfl
theorem q141 : (Jvm.Cond.interfaceEntry "FloatClasses" (180 : Nat)) ∈ lw_tbl := lw_at lw_m1 98 rfl
theorem q142 : (Jvm.Cond.methodLink "FloatClasses" (180 : Nat) ({ cls := "FloatClasses$Reals", name := "power2", desc := "(D)I" } : Jvm.MethodName)) ∈ lw_all := lw_g (lw_at lw_m1 99 rfl) rfl
theorem q150 : (Jvm.Cond.static ({ cls := "FloatClasses", name := "exponentOf", desc := "(D)I" } : Jvm.MethodName)) ∈ lw_all := lw_g (lw_at lw_m1 107 rfl) rfl
theorem q151 : (Jvm.Cond.code ({ cls := "FloatClasses", name := "exponentOf", desc := "(D)I" } : Jvm.MethodName) prog_1_method_4_code (3 : Nat) (Option.some Jvm.ClassFile.FieldType.int)) ∈ lw_all := lw_g (lw_at lw_m1 108 rfl) rfl
theorem q152 : (Jvm.Cond.methodLink "FloatClasses" (7 : Nat) ({ cls := "java/lang/Math", name := "getExponent", desc := "(D)I" } : Jvm.MethodName)) ∈ lw_all := lw_g (lw_at lw_m1 109 rfl) rfl
theorem q160 : (Jvm.Cond.methodLink "FloatClasses" (13 : Nat) ({ cls := "java/lang/Math", name := "scalb", desc := "(DI)D" } : Jvm.MethodName)) ∈ lw_all := lw_g (lw_at lw_m1 117 rfl) rfl
theorem q195 : (Jvm.Cond.methodLink "FloatClasses" (134 : Nat) ({ cls := "FloatClasses", name := "scaledDown", desc := "(DI)D" } : Jvm.MethodName)) ∈ lw_all := lw_g (lw_at lw_m1 152 rfl) rfl
theorem q196 : (Jvm.Cond.static ({ cls := "FloatClasses", name := "scaledDown", desc := "(DI)D" } : Jvm.MethodName)) ∈ lw_all := lw_g (lw_at lw_m1 153 rfl) rfl
theorem q197 : (Jvm.Cond.code ({ cls := "FloatClasses", name := "scaledDown", desc := "(DI)D" } : Jvm.MethodName) prog_1_method_13_code (3 : Nat) (Option.some Jvm.ClassFile.FieldType.double)) ∈ lw_all := lw_g (lw_at lw_m1 154 rfl) rfl
theorem q199 : (Jvm.Cond.instanceMethod ({ cls := "FloatClasses", name := "encode", desc := "(IJI)J" } : Jvm.MethodName)) ∈ lw_all := lw_g (lw_at lw_m1 156 rfl) rfl
theorem q200 : (Jvm.Cond.selects "FloatClasses" ({ cls := "FloatClasses", name := "encode", desc := "(IJI)J" } : Jvm.MethodName) ({ cls := "FloatClasses", name := "encode", desc := "(IJI)J" } : Jvm.MethodName)) ∈ lw_all := lw_g (lw_at lw_m1 157 rfl) rfl
theorem q201 : (Jvm.Cond.code ({ cls := "FloatClasses", name := "encode", desc := "(IJI)J" } : Jvm.MethodName) prog_1_method_21_code (5 : Nat) (Option.some Jvm.ClassFile.FieldType.long)) ∈ lw_all := lw_g (lw_at lw_m1 158 rfl) rfl
theorem q202 : (Jvm.Cond.methodLink "FloatClasses" (127 : Nat) ({ cls := "FloatClasses", name := "round", desc := "(LFloatClasses$Reals;ZJJ)D" } : Jvm.MethodName)) ∈ lw_all := lw_g (lw_at lw_m1 159 rfl) rfl
theorem q203 : (Jvm.Cond.static ({ cls := "FloatClasses", name := "round", desc := "(LFloatClasses$Reals;ZJJ)D" } : Jvm.MethodName)) ∈ lw_all := lw_g (lw_at lw_m1 160 rfl) rfl
theorem q204 : (Jvm.Cond.code ({ cls := "FloatClasses", name := "round", desc := "(LFloatClasses$Reals;ZJJ)D" } : Jvm.MethodName) prog_1_method_10_code (14 : Nat) (Option.some Jvm.ClassFile.FieldType.double)) ∈ lw_all := lw_g (lw_at lw_m1 161 rfl) rfl
theorem q205 : (Jvm.Cond.constantLong "FloatClasses" (61 : Nat) (63 : Int64)) ∈ lw_all := lw_g (lw_at lw_m1 162 rfl) rfl
theorem q206 : (Jvm.Cond.methodLink "FloatClasses" (63 : Nat) ({ cls := "java/lang/Long", name := "numberOfLeadingZeros", desc := "(J)I" } : Jvm.MethodName)) ∈ lw_all := lw_g (lw_at lw_m1 163 rfl) rfl
theorem q213 : (Jvm.Cond.interfaceEntry "FloatClasses" (69 : Nat)) ∈ lw_tbl := lw_at lw_m1 170 rfl
theorem q214 : (Jvm.Cond.methodLink "FloatClasses" (69 : Nat) ({ cls := "FloatClasses$Reals", name := "precision", desc := "()I" } : Jvm.MethodName)) ∈ lw_all := lw_g (lw_at lw_m1 171 rfl) rfl
theorem q215 : (Jvm.Cond.interfaceEntry "FloatClasses" (73 : Nat)) ∈ lw_tbl := lw_at lw_m1 172 rfl
theorem q216 : (Jvm.Cond.methodLink "FloatClasses" (73 : Nat) ({ cls := "FloatClasses$Reals", name := "least", desc := "()I" } : Jvm.MethodName)) ∈ lw_all := lw_g (lw_at lw_m1 173 rfl) rfl
theorem q229 : (Jvm.Cond.methodLink "FloatClasses" (76 : Nat) ({ cls := "java/lang/Math", name := "max", desc := "(JJ)J" } : Jvm.MethodName)) ∈ lw_all := lw_g (lw_at lw_m1 186 rfl) rfl
theorem q232 : (Jvm.Cond.constantLong "FloatClasses" (80 : Nat) (2000 : Int64)) ∈ lw_all := lw_g (lw_at lw_m1 189 rfl) rfl
theorem q233 : (Jvm.Cond.constantDouble "FloatClasses" (82 : Nat) (9218868437227405312 : UInt64)) ∈ lw_all := lw_g (lw_at lw_m1 190 rfl) rfl
theorem q234 : (Jvm.Cond.interfaceEntry "FloatClasses" (84 : Nat)) ∈ lw_tbl := lw_at lw_m1 191 rfl
theorem q235 : (Jvm.Cond.methodLink "FloatClasses" (84 : Nat) ({ cls := "FloatClasses$Reals", name := "by", desc := "(DI)D" } : Jvm.MethodName)) ∈ lw_all := lw_g (lw_at lw_m1 192 rfl) rfl
theorem q255 : (Jvm.Cond.constantLong "FloatClasses" (87 : Nat) (64 : Int64)) ∈ lw_all := lw_g (lw_at lw_m1 212 rfl) rfl
theorem q256 : (Jvm.Cond.methodLink "FloatClasses" (89 : Nat) ({ cls := "FloatClasses", name := "kept", desc := "(JI)J" } : Jvm.MethodName)) ∈ lw_all := lw_g (lw_at lw_m1 213 rfl) rfl
theorem q257 : (Jvm.Cond.static ({ cls := "FloatClasses", name := "kept", desc := "(JI)J" } : Jvm.MethodName)) ∈ lw_all := lw_g (lw_at lw_m1 214 rfl) rfl
theorem q258 : (Jvm.Cond.code ({ cls := "FloatClasses", name := "kept", desc := "(JI)J" } : Jvm.MethodName) prog_1_method_11_code (8 : Nat) (Option.some Jvm.ClassFile.FieldType.long)) ∈ lw_all := lw_g (lw_at lw_m1 215 rfl) rfl
theorem q259 : (Jvm.Cond.methodLink "FloatClasses" (93 : Nat) ({ cls := "java/lang/Long", name := "compareUnsigned", desc := "(JJ)I" } : Jvm.MethodName)) ∈ lw_all := lw_g (lw_at lw_m1 216 rfl) rfl
theorem q266 : (Jvm.Cond.interfaceEntry "FloatClasses" (183 : Nat)) ∈ lw_tbl := lw_at lw_m1 223 rfl
theorem q267 : (Jvm.Cond.methodLink "FloatClasses" (183 : Nat) ({ cls := "FloatClasses$Reals", name := "to", desc := "(D)J" } : Jvm.MethodName)) ∈ lw_all := lw_g (lw_at lw_m1 224 rfl) rfl
theorem q300 : (Jvm.Cond.instanceMethod ({ cls := "FloatClasses", name := "exponent", desc := "(IJ)I" } : Jvm.MethodName)) ∈ lw_all := lw_g (lw_at lw_m2 17 rfl) rfl
theorem q301 : (Jvm.Cond.selects "FloatClasses" ({ cls := "FloatClasses", name := "exponent", desc := "(IJ)I" } : Jvm.MethodName) ({ cls := "FloatClasses", name := "exponent", desc := "(IJ)I" } : Jvm.MethodName)) ∈ lw_all := lw_g (lw_at lw_m2 18 rfl) rfl
theorem q302 : (Jvm.Cond.code ({ cls := "FloatClasses", name := "exponent", desc := "(IJ)I" } : Jvm.MethodName) prog_1_method_22_code (6 : Nat) (Option.some Jvm.ClassFile.FieldType.int)) ∈ lw_all := lw_g (lw_at lw_m2 19 rfl) rfl
theorem q303 : (Jvm.Cond.methodLink "FloatClasses" (131 : Nat) ({ cls := "FloatClasses", name := "exponentOf", desc := "(D)I" } : Jvm.MethodName)) ∈ lw_all := lw_g (lw_at lw_m2 20 rfl) rfl
theorem q305 : (Jvm.Cond.instanceMethod ({ cls := "FloatClasses", name := "scale", desc := "(IJI)J" } : Jvm.MethodName)) ∈ lw_all := lw_g (lw_at lw_m2 22 rfl) rfl
theorem q306 : (Jvm.Cond.selects "FloatClasses" ({ cls := "FloatClasses", name := "scale", desc := "(IJI)J" } : Jvm.MethodName) ({ cls := "FloatClasses", name := "scale", desc := "(IJI)J" } : Jvm.MethodName)) ∈ lw_all := lw_g (lw_at lw_m2 23 rfl) rfl
theorem q307 : (Jvm.Cond.code ({ cls := "FloatClasses", name := "scale", desc := "(IJI)J" } : Jvm.MethodName) prog_1_method_23_code (8 : Nat) (Option.some Jvm.ClassFile.FieldType.long)) ∈ lw_all := lw_g (lw_at lw_m2 24 rfl) rfl
theorem q308 : (Jvm.Cond.classLink "FloatClasses" (186 : Nat) "FloatClasses$Floats") ∈ lw_all := lw_g (lw_at lw_m2 25 rfl) rfl
theorem q309 : (Jvm.Cond.methodLink "FloatClasses" (188 : Nat) ({ cls := "FloatClasses$Floats", name := "scaled", desc := "(DI)D" } : Jvm.MethodName)) ∈ lw_all := lw_g (lw_at lw_m2 26 rfl) rfl
theorem q317 : (Jvm.Cond.instanceMethod ({ cls := "FloatClasses", name := "sort", desc := "(IJ)I" } : Jvm.MethodName)) ∈ lw_all := lw_g (lw_at lw_m2 34 rfl) rfl
theorem q318 : (Jvm.Cond.selects "FloatClasses" ({ cls := "FloatClasses", name := "sort", desc := "(IJ)I" } : Jvm.MethodName) ({ cls := "FloatClasses", name := "sort", desc := "(IJ)I" } : Jvm.MethodName)) ∈ lw_all := lw_g (lw_at lw_m2 35 rfl) rfl
theorem q319 : (Jvm.Cond.code ({ cls := "FloatClasses", name := "sort", desc := "(IJ)I" } : Jvm.MethodName) prog_1_method_24_code (4 : Nat) (Option.some Jvm.ClassFile.FieldType.int)) ∈ lw_all := lw_g (lw_at lw_m2 36 rfl) rfl
theorem q320 : (Jvm.Cond.interfaceEntry "FloatClasses" (191 : Nat)) ∈ lw_tbl := lw_at lw_m2 37 rfl
theorem q321 : (Jvm.Cond.methodLink "FloatClasses" (191 : Nat) ({ cls := "FloatClasses$Reals", name := "sort", desc := "(D)I" } : Jvm.MethodName)) ∈ lw_all := lw_g (lw_at lw_m2 38 rfl) rfl
theorem q344 : (Jvm.Cond.instanceMethod ({ cls := "FloatClasses", name := "one", desc := "(IIJ)J" } : Jvm.MethodName)) ∈ lw_all := lw_g (lw_at lw_m2 61 rfl) rfl
theorem q345 : (Jvm.Cond.selects "FloatClasses" ({ cls := "FloatClasses", name := "one", desc := "(IIJ)J" } : Jvm.MethodName) ({ cls := "FloatClasses", name := "one", desc := "(IIJ)J" } : Jvm.MethodName)) ∈ lw_all := lw_g (lw_at lw_m2 62 rfl) rfl
theorem q346 : (Jvm.Cond.code ({ cls := "FloatClasses", name := "one", desc := "(IIJ)J" } : Jvm.MethodName) prog_1_method_25_code (7 : Nat) (Option.some Jvm.ClassFile.FieldType.long)) ∈ lw_all := lw_g (lw_at lw_m2 63 rfl) rfl
theorem q347 : (Jvm.Cond.constantLong "FloatClasses" (194 : Nat) (8 : Int64)) ∈ lw_all := lw_g (lw_at lw_m2 64 rfl) rfl
theorem q348 : (Jvm.Cond.interfaceEntry "FloatClasses" (196 : Nat)) ∈ lw_tbl := lw_at lw_m2 65 rfl
theorem q349 : (Jvm.Cond.methodLink "FloatClasses" (196 : Nat) ({ cls := "FloatClasses$Reals", name := "one", desc := "(ID)D" } : Jvm.MethodName)) ∈ lw_all := lw_g (lw_at lw_m2 66 rfl) rfl
theorem q432 : (Jvm.Cond.static ({ cls := "FloatClasses", name := "root", desc := "(LFloatClasses$Reals;D)D" } : Jvm.MethodName)) ∈ lw_all := lw_g (lw_at lw_m2 149 rfl) rfl
theorem q433 : (Jvm.Cond.code ({ cls := "FloatClasses", name := "root", desc := "(LFloatClasses$Reals;D)D" } : Jvm.MethodName) prog_1_method_16_code (11 : Nat) (Option.some Jvm.ClassFile.FieldType.double)) ∈ lw_all := lw_g (lw_at lw_m2 150 rfl) rfl
theorem q434 : (Jvm.Cond.methodLink "FloatClasses" (147 : Nat) ({ cls := "FloatClasses", name := "isEndless", desc := "(D)Z" } : Jvm.MethodName)) ∈ lw_all := lw_g (lw_at lw_m2 151 rfl) rfl
theorem q435 : (Jvm.Cond.methodLink "FloatClasses" (150 : Nat) ({ cls := "FloatClasses", name := "sizeOf", desc := "(D)J" } : Jvm.MethodName)) ∈ lw_all := lw_g (lw_at lw_m2 152 rfl) rfl
theorem q436 : (Jvm.Cond.static ({ cls := "FloatClasses", name := "sizeOf", desc := "(D)J" } : Jvm.MethodName)) ∈ lw_all := lw_g (lw_at lw_m2 153 rfl) rfl
theorem q437 : (Jvm.Cond.code ({ cls := "FloatClasses", name := "sizeOf", desc := "(D)J" } : Jvm.MethodName) prog_1_method_14_code (2 : Nat) (Option.some Jvm.ClassFile.FieldType.long)) ∈ lw_all := lw_g (lw_at lw_m2 154 rfl) rfl
theorem q438 : (Jvm.Cond.methodLink "FloatClasses" (137 : Nat) ({ cls := "java/lang/Math", name := "abs", desc := "(D)D" } : Jvm.MethodName)) ∈ lw_all := lw_g (lw_at lw_m2 155 rfl) rfl
theorem q439 : (Jvm.Cond.constantLong "FloatClasses" (117 : Nat) (2 : Int64)) ∈ lw_all := lw_g (lw_at lw_m2 156 rfl) rfl
theorem q440 : (Jvm.Cond.constantLong "FloatClasses" (154 : Nat) (9007199254740992 : Int64)) ∈ lw_all := lw_g (lw_at lw_m2 157 rfl) rfl
theorem q441 : (Jvm.Cond.methodLink "FloatClasses" (156 : Nat) ({ cls := "FloatClasses", name := "squareTo", desc := "(JJ)I" } : Jvm.MethodName)) ∈ lw_all := lw_g (lw_at lw_m2 158 rfl) rfl
theorem q442 : (Jvm.Cond.static ({ cls := "FloatClasses", name := "squareTo", desc := "(JJ)I" } : Jvm.MethodName)) ∈ lw_all := lw_g (lw_at lw_m2 159 rfl) rfl
theorem q443 : (Jvm.Cond.code ({ cls := "FloatClasses", name := "squareTo", desc := "(JJ)I" } : Jvm.MethodName) prog_1_method_15_code (5 : Nat) (Option.some Jvm.ClassFile.FieldType.int)) ∈ lw_all := lw_g (lw_at lw_m2 160 rfl) rfl
theorem q444 : (Jvm.Cond.methodLink "FloatClasses" (141 : Nat) ({ cls := "java/lang/Math", name := "multiplyHigh", desc := "(JJ)J" } : Jvm.MethodName)) ∈ lw_all := lw_g (lw_at lw_m2 161 rfl) rfl
theorem q448 : (Jvm.Cond.methodLink "FloatClasses" (144 : Nat) ({ cls := "java/lang/Long", name := "compare", desc := "(JJ)I" } : Jvm.MethodName)) ∈ lw_all := lw_g (lw_at lw_m2 165 rfl) rfl
theorem q458 : (Jvm.Cond.static ({ cls := "FloatClasses", name := "isNumber", desc := "(DD)Z" } : Jvm.MethodName)) ∈ lw_all := lw_g (lw_at lw_m2 175 rfl) rfl
theorem q459 : (Jvm.Cond.code ({ cls := "FloatClasses", name := "isNumber", desc := "(DD)Z" } : Jvm.MethodName) prog_1_method_3_code (4 : Nat) (Option.some Jvm.ClassFile.FieldType.boolean)) ∈ lw_all := lw_g (lw_at lw_m2 176 rfl) rfl
theorem q475 : (Jvm.Cond.instanceMethod ({ cls := "FloatClasses", name := "two", desc := "(IIJJ)J" } : Jvm.MethodName)) ∈ lw_all := lw_g (lw_at lw_m2 192 rfl) rfl
theorem q476 : (Jvm.Cond.selects "FloatClasses" ({ cls := "FloatClasses", name := "two", desc := "(IIJJ)J" } : Jvm.MethodName) ({ cls := "FloatClasses", name := "two", desc := "(IIJJ)J" } : Jvm.MethodName)) ∈ lw_all := lw_g (lw_at lw_m2 193 rfl) rfl
theorem q477 : (Jvm.Cond.code ({ cls := "FloatClasses", name := "two", desc := "(IIJJ)J" } : Jvm.MethodName) prog_1_method_26_code (8 : Nat) (Option.some Jvm.ClassFile.FieldType.long)) ∈ lw_all := lw_g (lw_at lw_m2 194 rfl) rfl
theorem q478 : (Jvm.Cond.constantLong "FloatClasses" (200 : Nat) (7 : Int64)) ∈ lw_all := lw_g (lw_at lw_m2 195 rfl) rfl
theorem q479 : (Jvm.Cond.interfaceEntry "FloatClasses" (202 : Nat)) ∈ lw_tbl := lw_at lw_m2 196 rfl
theorem q480 : (Jvm.Cond.methodLink "FloatClasses" (202 : Nat) ({ cls := "FloatClasses$Reals", name := "two", desc := "(IDD)D" } : Jvm.MethodName)) ∈ lw_all := lw_g (lw_at lw_m2 197 rfl) rfl
theorem q525 : (Jvm.Cond.instanceMethod ({ cls := "FloatClasses", name := "fused", desc := "(IJJJ)J" } : Jvm.MethodName)) ∈ lw_all := lw_g (lw_at lw_m3 2 rfl) rfl
theorem q526 : (Jvm.Cond.selects "FloatClasses" ({ cls := "FloatClasses", name := "fused", desc := "(IJJJ)J" } : Jvm.MethodName) ({ cls := "FloatClasses", name := "fused", desc := "(IJJJ)J" } : Jvm.MethodName)) ∈ lw_all := lw_g (lw_at lw_m3 3 rfl) rfl
theorem q527 : (Jvm.Cond.code ({ cls := "FloatClasses", name := "fused", desc := "(IJJJ)J" } : Jvm.MethodName) prog_1_method_27_code (9 : Nat) (Option.some Jvm.ClassFile.FieldType.long)) ∈ lw_all := lw_g (lw_at lw_m3 4 rfl) rfl
theorem q528 : (Jvm.Cond.interfaceEntry "FloatClasses" (206 : Nat)) ∈ lw_tbl := lw_at lw_m3 5 rfl
theorem q529 : (Jvm.Cond.methodLink "FloatClasses" (206 : Nat) ({ cls := "FloatClasses$Reals", name := "joined", desc := "(DDD)D" } : Jvm.MethodName)) ∈ lw_all := lw_g (lw_at lw_m3 6 rfl) rfl
theorem q537 : (Jvm.Cond.static ({ cls := "FloatClasses", name := "together", desc := "(LFloatClasses$Reals;DDD)D" } : Jvm.MethodName)) ∈ lw_all := lw_g (lw_at lw_m3 14 rfl) rfl
theorem q538 : (Jvm.Cond.code ({ cls := "FloatClasses", name := "together", desc := "(LFloatClasses$Reals;DDD)D" } : Jvm.MethodName) prog_1_method_18_code (7 : Nat) (Option.some Jvm.ClassFile.FieldType.double)) ∈ lw_all := lw_g (lw_at lw_m3 15 rfl) rfl
theorem q539 : (Jvm.Cond.interfaceEntry "FloatClasses" (159 : Nat)) ∈ lw_tbl := lw_at lw_m3 16 rfl
theorem q540 : (Jvm.Cond.methodLink "FloatClasses" (159 : Nat) ({ cls := "FloatClasses$Reals", name := "fit", desc := "(D)D" } : Jvm.MethodName)) ∈ lw_all := lw_g (lw_at lw_m3 17 rfl) rfl
theorem q541 : (Jvm.Cond.methodLink "FloatClasses" (162 : Nat) ({ cls := "FloatClasses", name := "sum", desc := "(LFloatClasses$Reals;DDD)D" } : Jvm.MethodName)) ∈ lw_all := lw_g (lw_at lw_m3 18 rfl) rfl
theorem q542 : (Jvm.Cond.static ({ cls := "FloatClasses", name := "sum", desc := "(LFloatClasses$Reals;DDD)D" } : Jvm.MethodName)) ∈ lw_all := lw_g (lw_at lw_m3 19 rfl) rfl
theorem q543 : (Jvm.Cond.code ({ cls := "FloatClasses", name := "sum", desc := "(LFloatClasses$Reals;DDD)D" } : Jvm.MethodName) prog_1_method_19_code (24 : Nat) (Option.some Jvm.ClassFile.FieldType.double)) ∈ lw_all := lw_g (lw_at lw_m3 20 rfl) rfl
theorem q544 : (Jvm.Cond.methodLink "FloatClasses" (166 : Nat) ({ cls := "FloatClasses", name := "lowered", desc := "(JJI)J" } : Jvm.MethodName)) ∈ lw_all := lw_g (lw_at lw_m3 21 rfl) rfl
theorem q545 : (Jvm.Cond.static ({ cls := "FloatClasses", name := "lowered", desc := "(JJI)J" } : Jvm.MethodName)) ∈ lw_all := lw_g (lw_at lw_m3 22 rfl) rfl
theorem q546 : (Jvm.Cond.code ({ cls := "FloatClasses", name := "lowered", desc := "(JJI)J" } : Jvm.MethodName) prog_1_method_17_code (8 : Nat) (Option.some Jvm.ClassFile.FieldType.long)) ∈ lw_all := lw_g (lw_at lw_m3 23 rfl) rfl
theorem q547 : (Jvm.Cond.constantLong "FloatClasses" (170 : Nat) (-1 : Int64)) ∈ lw_all := lw_g (lw_at lw_m3 24 rfl) rfl
theorem q550 : (Jvm.Cond.instanceMethod ({ cls := "FloatClasses", name := "compare", desc := "(IIJJ)I" } : Jvm.MethodName)) ∈ lw_all := lw_g (lw_at lw_m3 27 rfl) rfl
theorem q551 : (Jvm.Cond.selects "FloatClasses" ({ cls := "FloatClasses", name := "compare", desc := "(IIJJ)I" } : Jvm.MethodName) ({ cls := "FloatClasses", name := "compare", desc := "(IIJJ)I" } : Jvm.MethodName)) ∈ lw_all := lw_g (lw_at lw_m3 28 rfl) rfl
theorem q552 : (Jvm.Cond.code ({ cls := "FloatClasses", name := "compare", desc := "(IIJJ)I" } : Jvm.MethodName) prog_1_method_28_code (11 : Nat) (Option.some Jvm.ClassFile.FieldType.int)) ∈ lw_all := lw_g (lw_at lw_m3 29 rfl) rfl
theorem q553 : (Jvm.Cond.constantLong "FloatClasses" (210 : Nat) (6 : Int64)) ∈ lw_all := lw_g (lw_at lw_m3 30 rfl) rfl
theorem q555 : (Jvm.Cond.instanceMethod ({ cls := "FloatClasses", name := "power", desc := "(IJI)J" } : Jvm.MethodName)) ∈ lw_all := lw_g (lw_at lw_m3 32 rfl) rfl
theorem q556 : (Jvm.Cond.selects "FloatClasses" ({ cls := "FloatClasses", name := "power", desc := "(IJI)J" } : Jvm.MethodName) ({ cls := "FloatClasses", name := "power", desc := "(IJI)J" } : Jvm.MethodName)) ∈ lw_all := lw_g (lw_at lw_m3 33 rfl) rfl
theorem q557 : (Jvm.Cond.code ({ cls := "FloatClasses", name := "power", desc := "(IJI)J" } : Jvm.MethodName) prog_1_method_29_code (6 : Nat) (Option.some Jvm.ClassFile.FieldType.long)) ∈ lw_all := lw_g (lw_at lw_m3 34 rfl) rfl
theorem q558 : (Jvm.Cond.interfaceEntry "FloatClasses" (212 : Nat)) ∈ lw_tbl := lw_at lw_m3 35 rfl
theorem q559 : (Jvm.Cond.methodLink "FloatClasses" (212 : Nat) ({ cls := "FloatClasses$Reals", name := "power", desc := "(DI)D" } : Jvm.MethodName)) ∈ lw_all := lw_g (lw_at lw_m3 36 rfl) rfl
theorem q572 : (Jvm.Cond.instanceMethod ({ cls := "FloatClasses", name := "whole", desc := "(IJI)J" } : Jvm.MethodName)) ∈ lw_all := lw_g (lw_at lw_m3 49 rfl) rfl
theorem q573 : (Jvm.Cond.selects "FloatClasses" ({ cls := "FloatClasses", name := "whole", desc := "(IJI)J" } : Jvm.MethodName) ({ cls := "FloatClasses", name := "whole", desc := "(IJI)J" } : Jvm.MethodName)) ∈ lw_all := lw_g (lw_at lw_m3 50 rfl) rfl
theorem q574 : (Jvm.Cond.code ({ cls := "FloatClasses", name := "whole", desc := "(IJI)J" } : Jvm.MethodName) prog_1_method_31_code (7 : Nat) (Option.some Jvm.ClassFile.FieldType.long)) ∈ lw_all := lw_g (lw_at lw_m3 51 rfl) rfl
theorem q575 : (Jvm.Cond.constantLong "FloatClasses" (224 : Nat) (3 : Int64)) ∈ lw_all := lw_g (lw_at lw_m3 52 rfl) rfl
theorem q576 : (Jvm.Cond.methodLink "FloatClasses" (226 : Nat) ({ cls := "FloatClasses", name := "wholeOf", desc := "(DI)D" } : Jvm.MethodName)) ∈ lw_all := lw_g (lw_at lw_m3 53 rfl) rfl
theorem q577 : (Jvm.Cond.static ({ cls := "FloatClasses", name := "wholeOf", desc := "(DI)D" } : Jvm.MethodName)) ∈ lw_all := lw_g (lw_at lw_m3 54 rfl) rfl
theorem q578 : (Jvm.Cond.code ({ cls := "FloatClasses", name := "wholeOf", desc := "(DI)D" } : Jvm.MethodName) prog_1_method_30_code (3 : Nat) (Option.some Jvm.ClassFile.FieldType.double)) ∈ lw_all := lw_g (lw_at lw_m3 55 rfl) rfl
theorem q579 : (Jvm.Cond.methodLink "FloatClasses" (215 : Nat) ({ cls := "java/lang/Math", name := "ceil", desc := "(D)D" } : Jvm.MethodName)) ∈ lw_all := lw_g (lw_at lw_m3 56 rfl) rfl
theorem q596 : (Jvm.Cond.methodLink "FloatClasses" (218 : Nat) ({ cls := "java/lang/Math", name := "floor", desc := "(D)D" } : Jvm.MethodName)) ∈ lw_all := lw_g (lw_at lw_m3 73 rfl) rfl
theorem q603 : (Jvm.Cond.methodLink "FloatClasses" (221 : Nat) ({ cls := "java/lang/Math", name := "rint", desc := "(D)D" } : Jvm.MethodName)) ∈ lw_all := lw_g (lw_at lw_m3 80 rfl) rfl
theorem q612 : (Jvm.Cond.constantDouble "FloatClasses" (229 : Nat) (4890909195324358656 : UInt64)) ∈ lw_all := lw_g (lw_at lw_m3 89 rfl) rfl
theorem q613 : (Jvm.Cond.constantDouble "FloatClasses" (231 : Nat) (14114281232179134464 : UInt64)) ∈ lw_all := lw_g (lw_at lw_m3 90 rfl) rfl
theorem q615 : (Jvm.Cond.instanceMethod ({ cls := "FloatClasses", name := "bounded", desc := "(IJII)J" } : Jvm.MethodName)) ∈ lw_all := lw_g (lw_at lw_m3 92 rfl) rfl
theorem q616 : (Jvm.Cond.selects "FloatClasses" ({ cls := "FloatClasses", name := "bounded", desc := "(IJII)J" } : Jvm.MethodName) ({ cls := "FloatClasses", name := "bounded", desc := "(IJII)J" } : Jvm.MethodName)) ∈ lw_all := lw_g (lw_at lw_m3 93 rfl) rfl
theorem q617 : (Jvm.Cond.code ({ cls := "FloatClasses", name := "bounded", desc := "(IJII)J" } : Jvm.MethodName) prog_1_method_32_code (11 : Nat) (Option.some Jvm.ClassFile.FieldType.long)) ∈ lw_all := lw_g (lw_at lw_m3 94 rfl) rfl
theorem q618 : (Jvm.Cond.constantDouble "FloatClasses" (233 : Nat) (4886405595696988160 : UInt64)) ∈ lw_all := lw_g (lw_at lw_m3 95 rfl) rfl
theorem q620 : (Jvm.Cond.instanceMethod ({ cls := "FloatClasses", name := "fraction", desc := "(IJ)J" } : Jvm.MethodName)) ∈ lw_all := lw_g (lw_at lw_m3 97 rfl) rfl
theorem q621 : (Jvm.Cond.selects "FloatClasses" ({ cls := "FloatClasses", name := "fraction", desc := "(IJ)J" } : Jvm.MethodName) ({ cls := "FloatClasses", name := "fraction", desc := "(IJ)J" } : Jvm.MethodName)) ∈ lw_all := lw_g (lw_at lw_m3 98 rfl) rfl
theorem q622 : (Jvm.Cond.code ({ cls := "FloatClasses", name := "fraction", desc := "(IJ)J" } : Jvm.MethodName) prog_1_method_33_code (6 : Nat) (Option.some Jvm.ClassFile.FieldType.long)) ∈ lw_all := lw_g (lw_at lw_m3 99 rfl) rfl
theorem q623 : (Jvm.Cond.methodLink "FloatClasses" (235 : Nat) ({ cls := "java/lang/Math", name := "copySign", desc := "(DD)D" } : Jvm.MethodName)) ∈ lw_all := lw_g (lw_at lw_m3 100 rfl) rfl
theorem q625 : (Jvm.Cond.instanceMethod ({ cls := "FloatClasses", name := "ratio", desc := "(IJI)J" } : Jvm.MethodName)) ∈ lw_all := lw_g (lw_at lw_m3 102 rfl) rfl
theorem q626 : (Jvm.Cond.selects "FloatClasses" ({ cls := "FloatClasses", name := "ratio", desc := "(IJI)J" } : Jvm.MethodName) ({ cls := "FloatClasses", name := "ratio", desc := "(IJI)J" } : Jvm.MethodName)) ∈ lw_all := lw_g (lw_at lw_m3 103 rfl) rfl
theorem q627 : (Jvm.Cond.code ({ cls := "FloatClasses", name := "ratio", desc := "(IJI)J" } : Jvm.MethodName) prog_1_method_34_code (12 : Nat) (Option.some Jvm.ClassFile.FieldType.long)) ∈ lw_all := lw_g (lw_at lw_m3 104 rfl) rfl
theorem q628 : (Jvm.Cond.methodLink "FloatClasses" (239 : Nat) ({ cls := "java/lang/Long", name := "numberOfTrailingZeros", desc := "(J)I" } : Jvm.MethodName)) ∈ lw_all := lw_g (lw_at lw_m3 105 rfl) rfl
theorem q635 : (Jvm.Cond.instanceMethod ({ cls := "FloatClasses", name := "nearest", desc := "(IJJ)J" } : Jvm.MethodName)) ∈ lw_all := lw_g (lw_at lw_m3 112 rfl) rfl
theorem q636 : (Jvm.Cond.selects "FloatClasses" ({ cls := "FloatClasses", name := "nearest", desc := "(IJJ)J" } : Jvm.MethodName) ({ cls := "FloatClasses", name := "nearest", desc := "(IJJ)J" } : Jvm.MethodName)) ∈ lw_all := lw_g (lw_at lw_m3 113 rfl) rfl
theorem q637 : (Jvm.Cond.codeWith ({ cls := "FloatClasses", name := "nearest", desc := "(IJJ)J" } : Jvm.MethodName) prog_1_method_35_code (7 : Nat) (Option.some Jvm.ClassFile.FieldType.long) [((13 : Nat), (29 : Nat), (122 : Nat), (250 : Nat)), ((30 : Nat), (121 : Nat), (122 : Nat), (250 : Nat))]) ∈ lw_all := lw_g (lw_at lw_m3 114 rfl) rfl
theorem q638 : (Jvm.Cond.classLink "FloatClasses" (250 : Nat) "java/lang/ArithmeticException") ∈ lw_all := lw_g (lw_at lw_m3 115 rfl) rfl
theorem q728 : (Jvm.Cond.methodLink "FloatClasses" (242 : Nat) ({ cls := "FloatClasses$Natural", name := "set", desc := "(J)V" } : Jvm.MethodName)) ∈ lw_all := lw_g (lw_at lw_m3 205 rfl) rfl
theorem q732 : (Jvm.Cond.methodLink "FloatClasses" (246 : Nat) ({ cls := "FloatClasses", name := "ratio", desc := "(LFloatClasses$Reals;Z)D" } : Jvm.MethodName)) ∈ lw_all := lw_g (lw_at lw_m3 209 rfl) rfl
theorem q733 : (Jvm.Cond.privateMethod ({ cls := "FloatClasses", name := "ratio", desc := "(LFloatClasses$Reals;Z)D" } : Jvm.MethodName)) ∈ lw_tbl := lw_at lw_m3 210 rfl
theorem q734 : (Jvm.Cond.instanceMethod ({ cls := "FloatClasses", name := "ratio", desc := "(LFloatClasses$Reals;Z)D" } : Jvm.MethodName)) ∈ lw_all := lw_g (lw_at lw_m3 211 rfl) rfl
theorem q735 : (Jvm.Cond.code ({ cls := "FloatClasses", name := "ratio", desc := "(LFloatClasses$Reals;Z)D" } : Jvm.MethodName) prog_1_method_12_code (7 : Nat) (Option.some Jvm.ClassFile.FieldType.double)) ∈ lw_all := lw_g (lw_at lw_m3 212 rfl) rfl
theorem q736 : (Jvm.Cond.methodLink "FloatClasses" (101 : Nat) ({ cls := "FloatClasses$Natural", name := "bits", desc := "()I" } : Jvm.MethodName)) ∈ lw_all := lw_g (lw_at lw_m3 213 rfl) rfl
theorem q741 : (Jvm.Cond.methodLink "FloatClasses" (109 : Nat) ({ cls := "FloatClasses$Natural", name := "left", desc := "(I)V" } : Jvm.MethodName)) ∈ lw_all := lw_g (lw_at lw_m3 218 rfl) rfl
theorem q746 : (Jvm.Cond.methodLink "FloatClasses" (113 : Nat) ({ cls := "FloatClasses$Natural", name := "half", desc := "()V" } : Jvm.MethodName)) ∈ lw_all := lw_g (lw_at lw_m3 223 rfl) rfl
theorem q750 : (Jvm.Cond.methodLink "FloatClasses" (119 : Nat) ({ cls := "FloatClasses$Natural", name := "isBelow", desc := "(LFloatClasses$Natural;)Z" } : Jvm.MethodName)) ∈ lw_all := lw_g (lw_at lw_m3 227 rfl) rfl
theorem q761 : (Jvm.Cond.methodLink "FloatClasses" (123 : Nat) ({ cls := "FloatClasses$Natural", name := "less", desc := "(LFloatClasses$Natural;)V" } : Jvm.MethodName)) ∈ lw_all := lw_g (lw_at lw_m3 238 rfl) rfl
theorem q766 : (Jvm.Cond.instanceMethod ({ cls := "FloatClasses", name := "digit", desc := "(IJI)I" } : Jvm.MethodName)) ∈ lw_all := lw_g (lw_at lw_m4 3 rfl) rfl
theorem q767 : (Jvm.Cond.selects "FloatClasses" ({ cls := "FloatClasses", name := "digit", desc := "(IJI)I" } : Jvm.MethodName) ({ cls := "FloatClasses", name := "digit", desc := "(IJI)I" } : Jvm.MethodName)) ∈ lw_all := lw_g (lw_at lw_m4 4 rfl) rfl
theorem q768 : (Jvm.Cond.codeWith ({ cls := "FloatClasses", name := "digit", desc := "(IJI)I" } : Jvm.MethodName) prog_1_method_36_code (12 : Nat) (Option.some Jvm.ClassFile.FieldType.int) [((127 : Nat), (132 : Nat), (133 : Nat), (261 : Nat))]) ∈ lw_all := lw_g (lw_at lw_m4 5 rfl) rfl
theorem q769 : (Jvm.Cond.classLink "FloatClasses" (261 : Nat) "java/lang/ArrayIndexOutOfBoundsException") ∈ lw_all := lw_g (lw_at lw_m4 6 rfl) rfl
theorem q789 : (Jvm.Cond.instanceMethod ({ cls := "FloatClasses", name := "count", desc := "(IJJJ)I" } : Jvm.MethodName)) ∈ lw_all := lw_g (lw_at lw_m4 26 rfl) rfl
theorem q790 : (Jvm.Cond.selects "FloatClasses" ({ cls := "FloatClasses", name := "count", desc := "(IJJJ)I" } : Jvm.MethodName) ({ cls := "FloatClasses", name := "count", desc := "(IJJJ)I" } : Jvm.MethodName)) ∈ lw_all := lw_g (lw_at lw_m4 27 rfl) rfl
theorem q791 : (Jvm.Cond.code ({ cls := "FloatClasses", name := "count", desc := "(IJJJ)I" } : Jvm.MethodName) prog_1_method_39_code (10 : Nat) (Option.some Jvm.ClassFile.FieldType.int)) ∈ lw_all := lw_g (lw_at lw_m4 28 rfl) rfl
theorem q792 : (Jvm.Cond.methodLink "FloatClasses" (281 : Nat) ({ cls := "FloatClasses", name := "countOf", desc := "(LFloatClasses$Reals;DDD)I" } : Jvm.MethodName)) ∈ lw_all := lw_g (lw_at lw_m4 29 rfl) rfl
theorem q793 : (Jvm.Cond.static ({ cls := "FloatClasses", name := "countOf", desc := "(LFloatClasses$Reals;DDD)I" } : Jvm.MethodName)) ∈ lw_all := lw_g (lw_at lw_m4 30 rfl) rfl
theorem q794 : (Jvm.Cond.code ({ cls := "FloatClasses", name := "countOf", desc := "(LFloatClasses$Reals;DDD)I" } : Jvm.MethodName) prog_1_method_38_code (14 : Nat) (Option.some Jvm.ClassFile.FieldType.int)) ∈ lw_all := lw_g (lw_at lw_m4 31 rfl) rfl
theorem q795 : (Jvm.Cond.interfaceEntry "FloatClasses" (263 : Nat)) ∈ lw_tbl := lw_at lw_m4 32 rfl
theorem q796 : (Jvm.Cond.methodLink "FloatClasses" (263 : Nat) ({ cls := "FloatClasses$Reals", name := "minus", desc := "(DD)D" } : Jvm.MethodName)) ∈ lw_all := lw_g (lw_at lw_m4 33 rfl) rfl
theorem q797 : (Jvm.Cond.constantDouble "FloatClasses" (272 : Nat) (4611686018427387904 : UInt64)) ∈ lw_all := lw_g (lw_at lw_m4 34 rfl) rfl
theorem q798 : (Jvm.Cond.interfaceEntry "FloatClasses" (274 : Nat)) ∈ lw_tbl := lw_at lw_m4 35 rfl
theorem q799 : (Jvm.Cond.methodLink "FloatClasses" (274 : Nat) ({ cls := "FloatClasses$Reals", name := "over", desc := "(DD)D" } : Jvm.MethodName)) ∈ lw_all := lw_g (lw_at lw_m4 36 rfl) rfl
theorem q800 : (Jvm.Cond.interfaceEntry "FloatClasses" (269 : Nat)) ∈ lw_tbl := lw_at lw_m4 37 rfl
theorem q801 : (Jvm.Cond.methodLink "FloatClasses" (269 : Nat) ({ cls := "FloatClasses$Reals", name := "plus", desc := "(DD)D" } : Jvm.MethodName)) ∈ lw_all := lw_g (lw_at lw_m4 38 rfl) rfl
theorem q802 : (Jvm.Cond.methodLink "FloatClasses" (277 : Nat) ({ cls := "FloatClasses", name := "step", desc := "(LFloatClasses$Reals;DDI)D" } : Jvm.MethodName)) ∈ lw_all := lw_g (lw_at lw_m4 39 rfl) rfl
theorem q803 : (Jvm.Cond.static ({ cls := "FloatClasses", name := "step", desc := "(LFloatClasses$Reals;DDI)D" } : Jvm.MethodName)) ∈ lw_all := lw_g (lw_at lw_m4 40 rfl) rfl
theorem q804 : (Jvm.Cond.code ({ cls := "FloatClasses", name := "step", desc := "(LFloatClasses$Reals;DDI)D" } : Jvm.MethodName) prog_1_method_37_code (6 : Nat) (Option.some Jvm.ClassFile.FieldType.double)) ∈ lw_all := lw_g (lw_at lw_m4 41 rfl) rfl
theorem q805 : (Jvm.Cond.interfaceEntry "FloatClasses" (266 : Nat)) ∈ lw_tbl := lw_at lw_m4 42 rfl
theorem q806 : (Jvm.Cond.methodLink "FloatClasses" (266 : Nat) ({ cls := "FloatClasses$Reals", name := "times", desc := "(DD)D" } : Jvm.MethodName)) ∈ lw_all := lw_g (lw_at lw_m4 43 rfl) rfl
theorem q808 : (Jvm.Cond.instanceMethod ({ cls := "FloatClasses", name := "counted", desc := "(IJJJI)J" } : Jvm.MethodName)) ∈ lw_all := lw_g (lw_at lw_m4 45 rfl) rfl
theorem q809 : (Jvm.Cond.selects "FloatClasses" ({ cls := "FloatClasses", name := "counted", desc := "(IJJJI)J" } : Jvm.MethodName) ({ cls := "FloatClasses", name := "counted", desc := "(IJJJI)J" } : Jvm.MethodName)) ∈ lw_all := lw_g (lw_at lw_m4 46 rfl) rfl
theorem q810 : (Jvm.Cond.code ({ cls := "FloatClasses", name := "counted", desc := "(IJJJI)J" } : Jvm.MethodName) prog_1_method_40_code (11 : Nat) (Option.some Jvm.ClassFile.FieldType.long)) ∈ lw_all := lw_g (lw_at lw_m4 47 rfl) rfl
theorem q811 : (Jvm.Cond.methodLink "FloatClasses" (285 : Nat) ({ cls := "FloatClasses", name := "count", desc := "(IJJJ)I" } : Jvm.MethodName)) ∈ lw_all := lw_g (lw_at lw_m4 48 rfl) rfl
theorem q813 : (Jvm.Cond.instanceMethod ({ cls := "FloatClasses", name := "text", desc := "(J)I" } : Jvm.MethodName)) ∈ lw_all := lw_g (lw_at lw_m4 50 rfl) rfl
theorem q814 : (Jvm.Cond.selects "FloatClasses" ({ cls := "FloatClasses", name := "text", desc := "(J)I" } : Jvm.MethodName) ({ cls := "FloatClasses", name := "text", desc := "(J)I" } : Jvm.MethodName)) ∈ lw_all := lw_g (lw_at lw_m4 51 rfl) rfl
theorem q815 : (Jvm.Cond.code ({ cls := "FloatClasses", name := "text", desc := "(J)I" } : Jvm.MethodName) prog_1_method_41_code (8 : Nat) (Option.some Jvm.ClassFile.FieldType.int)) ∈ lw_all := lw_g (lw_at lw_m4 52 rfl) rfl
theorem q816 : (Jvm.Cond.constantLong "FloatClasses" (289 : Nat) (255 : Int64)) ∈ lw_all := lw_g (lw_at lw_m4 53 rfl) rfl
theorem q817 : (Jvm.Cond.constantLong "FloatClasses" (291 : Nat) (32 : Int64)) ∈ lw_all := lw_g (lw_at lw_m4 54 rfl) rfl
theorem q818 : (Jvm.Cond.constantLong "FloatClasses" (293 : Nat) (126 : Int64)) ∈ lw_all := lw_g (lw_at lw_m4 55 rfl) rfl
theorem q820 : (Jvm.Cond.instanceMethod ({ cls := "FloatClasses", name := "read", desc := "(I)J" } : Jvm.MethodName)) ∈ lw_all := lw_g (lw_at lw_m4 57 rfl) rfl
theorem q821 : (Jvm.Cond.selects "FloatClasses" ({ cls := "FloatClasses", name := "read", desc := "(I)J" } : Jvm.MethodName) ({ cls := "FloatClasses", name := "read", desc := "(I)J" } : Jvm.MethodName)) ∈ lw_all := lw_g (lw_at lw_m4 58 rfl) rfl
theorem q822 : (Jvm.Cond.codeWith ({ cls := "FloatClasses", name := "read", desc := "(I)J" } : Jvm.MethodName) prog_1_method_43_code (6 : Nat) (Option.some Jvm.ClassFile.FieldType.long) [((0 : Nat), (35 : Nat), (42 : Nat), (327 : Nat)), ((0 : Nat), (35 : Nat), (60 : Nat), (0 : Nat)), ((42 : Nat), (53 : Nat), (60 : Nat), (0 : Nat)), ((60 : Nat), (62 : Nat), (60 : Nat), (0 : Nat))]) ∈ lw_all := lw_g (lw_at lw_m4 59 rfl) rfl
theorem q823 : (Jvm.Cond.classLink "FloatClasses" (327 : Nat) "FloatClasses$Fault") ∈ lw_all := lw_g (lw_at lw_m4 60 rfl) rfl
theorem q824 : (Jvm.Cond.methodLink "FloatClasses" (323 : Nat) ({ cls := "FloatClasses", name := "readOf", desc := "(LFloatClasses$Reals;)D" } : Jvm.MethodName)) ∈ lw_all := lw_g (lw_at lw_m4 61 rfl) rfl
theorem q825 : (Jvm.Cond.privateMethod ({ cls := "FloatClasses", name := "readOf", desc := "(LFloatClasses$Reals;)D" } : Jvm.MethodName)) ∈ lw_tbl := lw_at lw_m4 62 rfl
theorem q826 : (Jvm.Cond.instanceMethod ({ cls := "FloatClasses", name := "readOf", desc := "(LFloatClasses$Reals;)D" } : Jvm.MethodName)) ∈ lw_all := lw_g (lw_at lw_m4 63 rfl) rfl
theorem q827 : (Jvm.Cond.code ({ cls := "FloatClasses", name := "readOf", desc := "(LFloatClasses$Reals;)D" } : Jvm.MethodName) prog_1_method_42_code (5 : Nat) (Option.some Jvm.ClassFile.FieldType.double)) ∈ lw_all := lw_g (lw_at lw_m4 64 rfl) rfl
theorem q828 : (Jvm.Cond.methodLink "FloatClasses" (305 : Nat) ({ cls := "FloatClasses$Reader", name := "read", desc := "()Z" } : Jvm.MethodName)) ∈ lw_all := lw_g (lw_at lw_m4 65 rfl) rfl
theorem q867 : (Jvm.Cond.fieldLinkNest "FloatClasses" (331 : Nat) "FloatClasses$Fault" "place" "I" "FloatClasses") ∈ lw_tbl := lw_at lw_m4 104 rfl
theorem q885 : (Jvm.Cond.constantDouble "FloatClasses" (314 : Nat) (9223372036854775808 : UInt64)) ∈ lw_all := lw_g (lw_at lw_m4 122 rfl) rfl
theorem q886 : (Jvm.Cond.constantDouble "FloatClasses" (316 : Nat) (18442240474082181120 : UInt64)) ∈ lw_all := lw_g (lw_at lw_m4 123 rfl) rfl
theorem q887 : (Jvm.Cond.methodLink "FloatClasses" (318 : Nat) ({ cls := "java/lang/Math", name := "abs", desc := "(I)I" } : Jvm.MethodName)) ∈ lw_all := lw_g (lw_at lw_m4 124 rfl) rfl
theorem q890 : (Jvm.Cond.methodLink "FloatClasses" (320 : Nat) ({ cls := "FloatClasses$Natural", name := "times", desc := "(II)V" } : Jvm.MethodName)) ∈ lw_all := lw_g (lw_at lw_m4 127 rfl) rfl
theorem q891 : (Jvm.Cond.constantLong "FloatClasses" (329 : Nat) (-10 : Int64)) ∈ lw_all := lw_g (lw_at lw_m4 128 rfl) rfl
theorem q894 : (Jvm.Cond.instanceMethod ({ cls := "FloatClasses", name := "<init>", desc := "()V" } : Jvm.MethodName)) ∈ lw_all := lw_g (lw_at lw_m4 131 rfl) rfl
theorem q895 : (Jvm.Cond.code ({ cls := "FloatClasses", name := "<init>", desc := "()V" } : Jvm.MethodName) prog_1_method_44_code (2 : Nat) (Option.none : Option Jvm.ClassFile.FieldType)) ∈ lw_all := lw_g (lw_at lw_m4 132 rfl) rfl
theorem q896 : (Jvm.Cond.methodLink "FloatClasses" (334 : Nat) ({ cls := "java/lang/Object", name := "<init>", desc := "()V" } : Jvm.MethodName)) ∈ lw_all := lw_g (lw_at lw_m4 133 rfl) rfl
theorem q897 : (Jvm.Cond.classLink "FloatClasses" (339 : Nat) "FloatClasses$Doubles") ∈ lw_all := lw_g (lw_at lw_m4 134 rfl) rfl
theorem q899 : (Jvm.Cond.methodLinkNest "FloatClasses" (341 : Nat) ({ cls := "FloatClasses$Doubles", name := "<init>", desc := "()V" } : Jvm.MethodName) "FloatClasses") ∈ lw_tbl := lw_at lw_m4 136 rfl
theorem q905 : (Jvm.Cond.methodLinkNest "FloatClasses" (342 : Nat) ({ cls := "FloatClasses$Floats", name := "<init>", desc := "()V" } : Jvm.MethodName) "FloatClasses") ∈ lw_tbl := lw_at lw_m4 142 rfl
theorem q909 : (Jvm.Cond.classLink "FloatClasses" (102 : Nat) "FloatClasses$Natural") ∈ lw_all := lw_g (lw_at lw_m4 146 rfl) rfl
theorem q910 : (Jvm.Cond.methodLinkNest "FloatClasses" (343 : Nat) ({ cls := "FloatClasses$Natural", name := "<init>", desc := "()V" } : Jvm.MethodName) "FloatClasses") ∈ lw_tbl := lw_at lw_m4 147 rfl
theorem q922 : (Jvm.Cond.classLink "FloatClasses" (306 : Nat) "FloatClasses$Reader") ∈ lw_all := lw_g (lw_at lw_m4 159 rfl) rfl
theorem q923 : (Jvm.Cond.methodLinkNest "FloatClasses" (344 : Nat) ({ cls := "FloatClasses$Reader", name := "<init>", desc := "(LFloatClasses;)V" } : Jvm.MethodName) "FloatClasses") ∈ lw_tbl := lw_at lw_m4 160 rfl
theorem q929 : (Jvm.Cond.fieldLinkNest "FloatClasses" (311 : Nat) "FloatClasses$Reader" "exponent" "I" "FloatClasses") ∈ lw_tbl := lw_at lw_m4 166 rfl
theorem q941 : (Jvm.Cond.classLink "FloatClasses" (347 : Nat) "FloatClasses$Holder") ∈ lw_all := lw_g (lw_at lw_m4 178 rfl) rfl
theorem q944 : (Jvm.Cond.methodLinkNest "FloatClasses" (353 : Nat) ({ cls := "FloatClasses$Holder", name := "<init>", desc := "()V" } : Jvm.MethodName) "FloatClasses") ∈ lw_tbl := lw_at lw_m4 181 rfl
theorem q949 : (Jvm.Cond.fieldLinkNest "FloatClasses" (361 : Nat) "FloatClasses$Holder" "row" "Ljava/lang/Object;" "FloatClasses") ∈ lw_tbl := lw_at lw_m4 186 rfl
theorem q953 : (Jvm.Cond.fieldLink "FloatClasses" (23 : Nat) "FloatClasses" "doubles" "LFloatClasses$Doubles;") ∈ lw_all := lw_g (lw_at lw_m4 190 rfl) rfl
theorem q954 : (Jvm.Cond.fieldLink "FloatClasses" (17 : Nat) "FloatClasses" "floats" "LFloatClasses$Floats;") ∈ lw_all := lw_g (lw_at lw_m4 191 rfl) rfl
theorem q955 : (Jvm.Cond.fieldLink "FloatClasses" (27 : Nat) "FloatClasses" "failed" "I") ∈ lw_all := lw_g (lw_at lw_m4 192 rfl) rfl
theorem q956 : (Jvm.Cond.fieldLink "FloatClasses" (31 : Nat) "FloatClasses" "counts" "[I") ∈ lw_all := lw_g (lw_at lw_m4 193 rfl) rfl
theorem q958 : (Jvm.Cond.fieldLink "FloatClasses" (97 : Nat) "FloatClasses" "above" "LFloatClasses$Natural;") ∈ lw_all := lw_g (lw_at lw_m4 195 rfl) rfl
theorem q959 : (Jvm.Cond.fieldLink "FloatClasses" (106 : Nat) "FloatClasses" "below" "LFloatClasses$Natural;") ∈ lw_all := lw_g (lw_at lw_m4 196 rfl) rfl
theorem q960 : (Jvm.Cond.fieldLink "FloatClasses" (252 : Nat) "FloatClasses" "none" "[I") ∈ lw_all := lw_g (lw_at lw_m4 197 rfl) rfl
theorem q961 : (Jvm.Cond.fieldLink "FloatClasses" (255 : Nat) "FloatClasses" "few" "[I") ∈ lw_all := lw_g (lw_at lw_m4 198 rfl) rfl
theorem q962 : (Jvm.Cond.fieldLink "FloatClasses" (258 : Nat) "FloatClasses" "lots" "[I") ∈ lw_all := lw_g (lw_at lw_m4 199 rfl) rfl
theorem q964 : (Jvm.Cond.fieldLink "FloatClasses" (298 : Nat) "FloatClasses" "text" "[I") ∈ lw_all := lw_g (lw_at lw_m4 201 rfl) rfl
theorem q966 : (Jvm.Cond.fieldLink "FloatClasses" (295 : Nat) "FloatClasses" "size" "I") ∈ lw_all := lw_g (lw_at lw_m4 203 rfl) rfl
theorem q967 : (Jvm.Cond.fieldLink "FloatClasses" (301 : Nat) "FloatClasses" "reader" "LFloatClasses$Reader;") ∈ lw_all := lw_g (lw_at lw_m4 204 rfl) rfl
theorem q968 : (Jvm.Cond.fieldLink "FloatClasses" (349 : Nat) "FloatClasses" "rows" "[LFloatClasses$Holder;") ∈ lw_all := lw_g (lw_at lw_m4 205 rfl) rfl
theorem q969 : (Jvm.Cond.laysFinal "FloatClasses" "FloatClasses" "doubles" "LFloatClasses$Doubles;") ∈ lw_all := lw_g (lw_at lw_m4 206 rfl) rfl
theorem q970 : (Jvm.Cond.soleField "FloatClasses" "doubles") ∈ lw_all := lw_g (lw_at lw_m4 207 rfl) rfl
theorem q971 : (Jvm.Cond.laysFinal "FloatClasses" "FloatClasses" "floats" "LFloatClasses$Floats;") ∈ lw_all := lw_g (lw_at lw_m4 208 rfl) rfl
theorem q972 : (Jvm.Cond.soleField "FloatClasses" "floats") ∈ lw_all := lw_g (lw_at lw_m4 209 rfl) rfl
theorem q973 : (Jvm.Cond.lays "FloatClasses" "FloatClasses" "failed" "I") ∈ lw_all := lw_g (lw_at lw_m4 210 rfl) rfl
theorem q974 : (Jvm.Cond.soleField "FloatClasses" "failed") ∈ lw_all := lw_g (lw_at lw_m4 211 rfl) rfl
theorem q975 : (Jvm.Cond.laysFinal "FloatClasses" "FloatClasses" "counts" "[I") ∈ lw_all := lw_g (lw_at lw_m4 212 rfl) rfl
theorem q976 : (Jvm.Cond.soleField "FloatClasses" "counts") ∈ lw_all := lw_g (lw_at lw_m4 213 rfl) rfl
theorem q977 : (Jvm.Cond.laysFinal "FloatClasses" "FloatClasses" "above" "LFloatClasses$Natural;") ∈ lw_all := lw_g (lw_at lw_m4 214 rfl) rfl
theorem q978 : (Jvm.Cond.soleField "FloatClasses" "above") ∈ lw_all := lw_g (lw_at lw_m4 215 rfl) rfl
theorem q979 : (Jvm.Cond.laysFinal "FloatClasses" "FloatClasses" "below" "LFloatClasses$Natural;") ∈ lw_all := lw_g (lw_at lw_m4 216 rfl) rfl
theorem q980 : (Jvm.Cond.soleField "FloatClasses" "below") ∈ lw_all := lw_g (lw_at lw_m4 217 rfl) rfl
theorem q981 : (Jvm.Cond.laysFinal "FloatClasses" "FloatClasses" "none" "[I") ∈ lw_all := lw_g (lw_at lw_m4 218 rfl) rfl
theorem q982 : (Jvm.Cond.soleField "FloatClasses" "none") ∈ lw_all := lw_g (lw_at lw_m4 219 rfl) rfl
theorem q983 : (Jvm.Cond.laysFinal "FloatClasses" "FloatClasses" "few" "[I") ∈ lw_all := lw_g (lw_at lw_m4 220 rfl) rfl
theorem q984 : (Jvm.Cond.soleField "FloatClasses" "few") ∈ lw_all := lw_g (lw_at lw_m4 221 rfl) rfl
theorem q985 : (Jvm.Cond.laysFinal "FloatClasses" "FloatClasses" "lots" "[I") ∈ lw_all := lw_g (lw_at lw_m4 222 rfl) rfl
theorem q986 : (Jvm.Cond.soleField "FloatClasses" "lots") ∈ lw_all := lw_g (lw_at lw_m4 223 rfl) rfl
theorem q987 : (Jvm.Cond.laysFinal "FloatClasses" "FloatClasses" "text" "[I") ∈ lw_all := lw_g (lw_at lw_m4 224 rfl) rfl
theorem q988 : (Jvm.Cond.soleField "FloatClasses" "text") ∈ lw_all := lw_g (lw_at lw_m4 225 rfl) rfl
theorem q989 : (Jvm.Cond.lays "FloatClasses" "FloatClasses" "size" "I") ∈ lw_all := lw_g (lw_at lw_m4 226 rfl) rfl
theorem q990 : (Jvm.Cond.soleField "FloatClasses" "size") ∈ lw_all := lw_g (lw_at lw_m4 227 rfl) rfl
theorem q991 : (Jvm.Cond.laysFinal "FloatClasses" "FloatClasses" "reader" "LFloatClasses$Reader;") ∈ lw_all := lw_g (lw_at lw_m4 228 rfl) rfl
theorem q992 : (Jvm.Cond.soleField "FloatClasses" "reader") ∈ lw_all := lw_g (lw_at lw_m4 229 rfl) rfl
theorem q993 : (Jvm.Cond.laysFinal "FloatClasses" "FloatClasses" "rows" "[LFloatClasses$Holder;") ∈ lw_all := lw_g (lw_at lw_m4 230 rfl) rfl
theorem q994 : (Jvm.Cond.soleField "FloatClasses" "rows") ∈ lw_all := lw_g (lw_at lw_m4 231 rfl) rfl
theorem q995 : (Jvm.Cond.superclass "FloatClasses" "java/lang/Object") ∈ lw_all := lw_g (lw_at lw_m4 232 rfl) rfl
theorem q997 : (Jvm.Cond.instanceMethod ({ cls := "FloatClasses", name := "row", desc := "(III)I" } : Jvm.MethodName)) ∈ lw_all := lw_g (lw_at lw_m4 234 rfl) rfl
theorem q998 : (Jvm.Cond.selects "FloatClasses" ({ cls := "FloatClasses", name := "row", desc := "(III)I" } : Jvm.MethodName) ({ cls := "FloatClasses", name := "row", desc := "(III)I" } : Jvm.MethodName)) ∈ lw_all := lw_g (lw_at lw_m4 235 rfl) rfl
theorem q999 : (Jvm.Cond.codeWith ({ cls := "FloatClasses", name := "row", desc := "(III)I" } : Jvm.MethodName) prog_1_method_46_code (5 : Nat) (Option.some Jvm.ClassFile.FieldType.int) [((34 : Nat), (49 : Nat), (50 : Nat), (365 : Nat))]) ∈ lw_all := lw_g (lw_at lw_m4 236 rfl) rfl
theorem q1000 : (Jvm.Cond.classLink "FloatClasses" (365 : Nat) "java/lang/NegativeArraySizeException") ∈ lw_all := lw_g (lw_at lw_m4 237 rfl) rfl
theorem q1014 : (Jvm.Cond.methodLink "FloatClasses" (354 : Nat) ({ cls := "FloatClasses", name := "isRow", desc := "(I)Z" } : Jvm.MethodName)) ∈ lw_all := lw_g (lw_at lw_m5 11 rfl) rfl
theorem q1015 : (Jvm.Cond.static ({ cls := "FloatClasses", name := "isRow", desc := "(I)Z" } : Jvm.MethodName)) ∈ lw_all := lw_g (lw_at lw_m5 12 rfl) rfl
theorem q1016 : (Jvm.Cond.code ({ cls := "FloatClasses", name := "isRow", desc := "(I)Z" } : Jvm.MethodName) prog_1_method_45_code (1 : Nat) (Option.some Jvm.ClassFile.FieldType.boolean)) ∈ lw_all := lw_g (lw_at lw_m5 13 rfl) rfl
theorem q1017 : (Jvm.Cond.methodLink "FloatClasses" (357 : Nat) ({ cls := "FloatClasses", name := "made", desc := "(II)Ljava/lang/Object;" } : Jvm.MethodName)) ∈ lw_all := lw_g (lw_at lw_m5 14 rfl) rfl
theorem q1018 : (Jvm.Cond.static ({ cls := "FloatClasses", name := "made", desc := "(II)Ljava/lang/Object;" } : Jvm.MethodName)) ∈ lw_all := lw_g (lw_at lw_m5 15 rfl) rfl
theorem q1019 : (Jvm.Cond.code ({ cls := "FloatClasses", name := "made", desc := "(II)Ljava/lang/Object;" } : Jvm.MethodName) prog_1_method_47_code (2 : Nat) (Option.some (Jvm.ClassFile.FieldType.object "java/lang/Object"))) ∈ lw_all := lw_g (lw_at lw_m5 16 rfl) rfl
theorem q1023 : (Jvm.Cond.instanceMethod ({ cls := "FloatClasses", name := "drop", desc := "(I)I" } : Jvm.MethodName)) ∈ lw_all := lw_g (lw_at lw_m5 20 rfl) rfl
theorem q1024 : (Jvm.Cond.selects "FloatClasses" ({ cls := "FloatClasses", name := "drop", desc := "(I)I" } : Jvm.MethodName) ({ cls := "FloatClasses", name := "drop", desc := "(I)I" } : Jvm.MethodName)) ∈ lw_all := lw_g (lw_at lw_m5 21 rfl) rfl
theorem q1025 : (Jvm.Cond.code ({ cls := "FloatClasses", name := "drop", desc := "(I)I" } : Jvm.MethodName) prog_1_method_48_code (3 : Nat) (Option.some Jvm.ClassFile.FieldType.int)) ∈ lw_all := lw_g (lw_at lw_m5 22 rfl) rfl
theorem q1027 : (Jvm.Cond.instanceMethod ({ cls := "FloatClasses", name := "put", desc := "(IIIJ)I" } : Jvm.MethodName)) ∈ lw_all := lw_g (lw_at lw_m5 24 rfl) rfl
theorem q1028 : (Jvm.Cond.selects "FloatClasses" ({ cls := "FloatClasses", name := "put", desc := "(IIIJ)I" } : Jvm.MethodName) ({ cls := "FloatClasses", name := "put", desc := "(IIIJ)I" } : Jvm.MethodName)) ∈ lw_all := lw_g (lw_at lw_m5 25 rfl) rfl
theorem q1029 : (Jvm.Cond.codeWith ({ cls := "FloatClasses", name := "put", desc := "(IIIJ)I" } : Jvm.MethodName) prog_1_method_51_code (7 : Nat) (Option.some Jvm.ClassFile.FieldType.int) [((28 : Nat), (55 : Nat), (56 : Nat), (382 : Nat)), ((28 : Nat), (55 : Nat), (64 : Nat), (384 : Nat)), ((28 : Nat), (55 : Nat), (72 : Nat), (261 : Nat))]) ∈ lw_all := lw_g (lw_at lw_m5 26 rfl) rfl
theorem q1030 : (Jvm.Cond.classLink "FloatClasses" (382 : Nat) "java/lang/NullPointerException") ∈ lw_all := lw_g (lw_at lw_m5 27 rfl) rfl
theorem q1052 : (Jvm.Cond.classLink "FloatClasses" (384 : Nat) "java/lang/ClassCastException") ∈ lw_all := lw_g (lw_at lw_m5 49 rfl) rfl
theorem q1066 : (Jvm.Cond.methodLink "FloatClasses" (378 : Nat) ({ cls := "FloatClasses", name := "lay", desc := "(Ljava/lang/Object;IID)V" } : Jvm.MethodName)) ∈ lw_all := lw_g (lw_at lw_m5 63 rfl) rfl
theorem q1067 : (Jvm.Cond.static ({ cls := "FloatClasses", name := "lay", desc := "(Ljava/lang/Object;IID)V" } : Jvm.MethodName)) ∈ lw_all := lw_g (lw_at lw_m5 64 rfl) rfl
theorem q1068 : (Jvm.Cond.code ({ cls := "FloatClasses", name := "lay", desc := "(Ljava/lang/Object;IID)V" } : Jvm.MethodName) prog_1_method_50_code (5 : Nat) (Option.none : Option Jvm.ClassFile.FieldType)) ∈ lw_all := lw_g (lw_at lw_m5 65 rfl) rfl
theorem q1069 : (Jvm.Cond.classLink "FloatClasses" (369 : Nat) "[F") ∈ lw_all := lw_g (lw_at lw_m5 66 rfl) rfl
theorem q1070 : (Jvm.Cond.constantFloat "FloatClasses" (377 : Nat) (2143289344 : UInt32)) ∈ lw_all := lw_g (lw_at lw_m5 67 rfl) rfl
theorem q1071 : (Jvm.Cond.classLink "FloatClasses" (367 : Nat) "[D") ∈ lw_all := lw_g (lw_at lw_m5 68 rfl) rfl
theorem q1073 : (Jvm.Cond.instanceMethod ({ cls := "FloatClasses", name := "at", desc := "(III)J" } : Jvm.MethodName)) ∈ lw_all := lw_g (lw_at lw_m5 70 rfl) rfl
theorem q1074 : (Jvm.Cond.selects "FloatClasses" ({ cls := "FloatClasses", name := "at", desc := "(III)J" } : Jvm.MethodName) ({ cls := "FloatClasses", name := "at", desc := "(III)J" } : Jvm.MethodName)) ∈ lw_all := lw_g (lw_at lw_m5 71 rfl) rfl
theorem q1075 : (Jvm.Cond.codeWith ({ cls := "FloatClasses", name := "at", desc := "(III)J" } : Jvm.MethodName) prog_1_method_52_code (5 : Nat) (Option.some Jvm.ClassFile.FieldType.long) [((28 : Nat), (52 : Nat), (53 : Nat), (382 : Nat)), ((28 : Nat), (52 : Nat), (62 : Nat), (384 : Nat)), ((28 : Nat), (52 : Nat), (71 : Nat), (261 : Nat))]) ∈ lw_all := lw_g (lw_at lw_m5 72 rfl) rfl
theorem q1076 : (Jvm.Cond.methodLink "FloatClasses" (386 : Nat) ({ cls := "FloatClasses", name := "take", desc := "(Ljava/lang/Object;II)D" } : Jvm.MethodName)) ∈ lw_all := lw_g (lw_at lw_m5 73 rfl) rfl
theorem q1077 : (Jvm.Cond.static ({ cls := "FloatClasses", name := "take", desc := "(Ljava/lang/Object;II)D" } : Jvm.MethodName)) ∈ lw_all := lw_g (lw_at lw_m5 74 rfl) rfl
theorem q1078 : (Jvm.Cond.code ({ cls := "FloatClasses", name := "take", desc := "(Ljava/lang/Object;II)D" } : Jvm.MethodName) prog_1_method_49_code (4 : Nat) (Option.some Jvm.ClassFile.FieldType.double)) ∈ lw_all := lw_g (lw_at lw_m5 75 rfl) rfl
theorem q1079 : (Jvm.Cond.fieldLink "FloatClasses" (371 : Nat) "FloatClasses" "NO_NUMBER" "D") ∈ lw_all := lw_g (lw_at lw_m5 76 rfl) rfl
theorem q1081 : (Jvm.Cond.instanceMethod ({ cls := "FloatClasses", name := "copy", desc := "(IIIII)I" } : Jvm.MethodName)) ∈ lw_all := lw_g (lw_at lw_m5 78 rfl) rfl
theorem q1082 : (Jvm.Cond.selects "FloatClasses" ({ cls := "FloatClasses", name := "copy", desc := "(IIIII)I" } : Jvm.MethodName) ({ cls := "FloatClasses", name := "copy", desc := "(IIIII)I" } : Jvm.MethodName)) ∈ lw_all := lw_g (lw_at lw_m5 79 rfl) rfl
theorem q1083 : (Jvm.Cond.codeWith ({ cls := "FloatClasses", name := "copy", desc := "(IIIII)I" } : Jvm.MethodName) prog_1_method_53_code (7 : Nat) (Option.some Jvm.ClassFile.FieldType.int) [((28 : Nat), (55 : Nat), (56 : Nat), (382 : Nat)), ((28 : Nat), (55 : Nat), (64 : Nat), (396 : Nat)), ((28 : Nat), (55 : Nat), (72 : Nat), (398 : Nat))]) ∈ lw_all := lw_g (lw_at lw_m5 80 rfl) rfl
theorem q1084 : (Jvm.Cond.classLink "FloatClasses" (396 : Nat) "java/lang/ArrayStoreException") ∈ lw_all := lw_g (lw_at lw_m5 81 rfl) rfl
theorem q1098 : (Jvm.Cond.classLink "FloatClasses" (398 : Nat) "java/lang/IndexOutOfBoundsException") ∈ lw_all := lw_g (lw_at lw_m5 95 rfl) rfl
theorem q1099 : (Jvm.Cond.methodLink "FloatClasses" (390 : Nat) ({ cls := "java/lang/System", name := "arraycopy", desc := "(Ljava/lang/Object;ILjava/lang/Object;II)V" } : Jvm.MethodName)) ∈ lw_all := lw_g (lw_at lw_m5 96 rfl) rfl
theorem q1103 : (Jvm.Cond.instanceMethod ({ cls := "FloatClasses", name := "of", desc := "(II)I" } : Jvm.MethodName)) ∈ lw_all := lw_g (lw_at lw_m5 100 rfl) rfl
theorem q1104 : (Jvm.Cond.selects "FloatClasses" ({ cls := "FloatClasses", name := "of", desc := "(II)I" } : Jvm.MethodName) ({ cls := "FloatClasses", name := "of", desc := "(II)I" } : Jvm.MethodName)) ∈ lw_all := lw_g (lw_at lw_m5 101 rfl) rfl
theorem q1105 : (Jvm.Cond.codeWith ({ cls := "FloatClasses", name := "of", desc := "(II)I" } : Jvm.MethodName) prog_1_method_54_code (4 : Nat) (Option.some Jvm.ClassFile.FieldType.int) [((31 : Nat), (69 : Nat), (70 : Nat), (382 : Nat))]) ∈ lw_all := lw_g (lw_at lw_m5 102 rfl) rfl
theorem q1106 : (Jvm.Cond.methodLink "FloatClasses" (400 : Nat) ({ cls := "FloatClasses$Holder", name := "length", desc := "()I" } : Jvm.MethodName)) ∈ lw_all := lw_g (lw_at lw_m5 103 rfl) rfl
theorem q1113 : (Jvm.Cond.instanceMethod ({ cls := "FloatClasses", name := "all", desc := "(III)J" } : Jvm.MethodName)) ∈ lw_all := lw_g (lw_at lw_m5 110 rfl) rfl
theorem q1114 : (Jvm.Cond.selects "FloatClasses" ({ cls := "FloatClasses", name := "all", desc := "(III)J" } : Jvm.MethodName) ({ cls := "FloatClasses", name := "all", desc := "(III)J" } : Jvm.MethodName)) ∈ lw_all := lw_g (lw_at lw_m5 111 rfl) rfl
theorem q1115 : (Jvm.Cond.codeWith ({ cls := "FloatClasses", name := "all", desc := "(III)J" } : Jvm.MethodName) prog_1_method_56_code (5 : Nat) (Option.some Jvm.ClassFile.FieldType.long) [((40 : Nat), (65 : Nat), (66 : Nat), (382 : Nat)), ((40 : Nat), (65 : Nat), (75 : Nat), (384 : Nat)), ((40 : Nat), (65 : Nat), (84 : Nat), (261 : Nat))]) ∈ lw_all := lw_g (lw_at lw_m5 112 rfl) rfl
theorem q1116 : (Jvm.Cond.methodLink "FloatClasses" (407 : Nat) ({ cls := "FloatClasses", name := "gathered", desc := "(ILjava/lang/Object;I)D" } : Jvm.MethodName)) ∈ lw_all := lw_g (lw_at lw_m5 113 rfl) rfl
theorem q1117 : (Jvm.Cond.privateMethod ({ cls := "FloatClasses", name := "gathered", desc := "(ILjava/lang/Object;I)D" } : Jvm.MethodName)) ∈ lw_tbl := lw_at lw_m5 114 rfl
theorem q1118 : (Jvm.Cond.instanceMethod ({ cls := "FloatClasses", name := "gathered", desc := "(ILjava/lang/Object;I)D" } : Jvm.MethodName)) ∈ lw_all := lw_g (lw_at lw_m5 115 rfl) rfl
theorem q1119 : (Jvm.Cond.code ({ cls := "FloatClasses", name := "gathered", desc := "(ILjava/lang/Object;I)D" } : Jvm.MethodName) prog_1_method_55_code (11 : Nat) (Option.some Jvm.ClassFile.FieldType.double)) ∈ lw_all := lw_g (lw_at lw_m5 116 rfl) rfl
theorem q1120 : (Jvm.Cond.methodLink "FloatClasses" (403 : Nat) ({ cls := "FloatClasses", name := "lengthAs", desc := "(Ljava/lang/Object;I)I" } : Jvm.MethodName)) ∈ lw_all := lw_g (lw_at lw_m5 117 rfl) rfl
theorem q1121 : (Jvm.Cond.static ({ cls := "FloatClasses", name := "lengthAs", desc := "(Ljava/lang/Object;I)I" } : Jvm.MethodName)) ∈ lw_all := lw_g (lw_at lw_m5 118 rfl) rfl
theorem q1122 : (Jvm.Cond.code ({ cls := "FloatClasses", name := "lengthAs", desc := "(Ljava/lang/Object;I)I" } : Jvm.MethodName) prog_1_method_57_code (2 : Nat) (Option.some Jvm.ClassFile.FieldType.int)) ∈ lw_all := lw_g (lw_at lw_m5 119 rfl) rfl
theorem q1124 : (Jvm.Cond.instanceMethod ({ cls := "FloatClasses", name := "joined", desc := "(III)J" } : Jvm.MethodName)) ∈ lw_all := lw_g (lw_at lw_m5 121 rfl) rfl
theorem q1125 : (Jvm.Cond.selects "FloatClasses" ({ cls := "FloatClasses", name := "joined", desc := "(III)J" } : Jvm.MethodName) ({ cls := "FloatClasses", name := "joined", desc := "(III)J" } : Jvm.MethodName)) ∈ lw_all := lw_g (lw_at lw_m5 122 rfl) rfl
theorem q1126 : (Jvm.Cond.codeWith ({ cls := "FloatClasses", name := "joined", desc := "(III)J" } : Jvm.MethodName) prog_1_method_59_code (5 : Nat) (Option.some Jvm.ClassFile.FieldType.long) [((35 : Nat), (62 : Nat), (63 : Nat), (382 : Nat)), ((35 : Nat), (62 : Nat), (72 : Nat), (384 : Nat)), ((35 : Nat), (62 : Nat), (81 : Nat), (261 : Nat))]) ∈ lw_all := lw_g (lw_at lw_m5 123 rfl) rfl
theorem q1127 : (Jvm.Cond.methodLink "FloatClasses" (415 : Nat) ({ cls := "FloatClasses", name := "joinedOf", desc := "(LFloatClasses$Holder;LFloatClasses$Holder;I)D" } : Jvm.MethodName)) ∈ lw_all := lw_g (lw_at lw_m5 124 rfl) rfl
theorem q1128 : (Jvm.Cond.privateMethod ({ cls := "FloatClasses", name := "joinedOf", desc := "(LFloatClasses$Holder;LFloatClasses$Holder;I)D" } : Jvm.MethodName)) ∈ lw_tbl := lw_at lw_m5 125 rfl
theorem q1129 : (Jvm.Cond.instanceMethod ({ cls := "FloatClasses", name := "joinedOf", desc := "(LFloatClasses$Holder;LFloatClasses$Holder;I)D" } : Jvm.MethodName)) ∈ lw_all := lw_g (lw_at lw_m5 126 rfl) rfl
theorem q1130 : (Jvm.Cond.code ({ cls := "FloatClasses", name := "joinedOf", desc := "(LFloatClasses$Holder;LFloatClasses$Holder;I)D" } : Jvm.MethodName) prog_1_method_58_code (10 : Nat) (Option.some Jvm.ClassFile.FieldType.double)) ∈ lw_all := lw_g (lw_at lw_m5 127 rfl) rfl
theorem q1131 : (Jvm.Cond.methodLink "FloatClasses" (411 : Nat) ({ cls := "java/lang/Math", name := "min", desc := "(II)I" } : Jvm.MethodName)) ∈ lw_all := lw_g (lw_at lw_m5 128 rfl) rfl
theorem q1133 : (Jvm.Cond.instanceMethod ({ cls := "FloatClasses", name := "failed", desc := "()I" } : Jvm.MethodName)) ∈ lw_all := lw_g (lw_at lw_m5 130 rfl) rfl
theorem q1134 : (Jvm.Cond.selects "FloatClasses" ({ cls := "FloatClasses", name := "failed", desc := "()I" } : Jvm.MethodName) ({ cls := "FloatClasses", name := "failed", desc := "()I" } : Jvm.MethodName)) ∈ lw_all := lw_g (lw_at lw_m5 131 rfl) rfl
theorem q1135 : (Jvm.Cond.code ({ cls := "FloatClasses", name := "failed", desc := "()I" } : Jvm.MethodName) prog_1_method_60_code (1 : Nat) (Option.some Jvm.ClassFile.FieldType.int)) ∈ lw_all := lw_g (lw_at lw_m5 132 rfl) rfl
theorem q1137 : (Jvm.Cond.instanceMethod ({ cls := "FloatClasses", name := "told", desc := "(I)I" } : Jvm.MethodName)) ∈ lw_all := lw_g (lw_at lw_m5 134 rfl) rfl
theorem q1138 : (Jvm.Cond.selects "FloatClasses" ({ cls := "FloatClasses", name := "told", desc := "(I)I" } : Jvm.MethodName) ({ cls := "FloatClasses", name := "told", desc := "(I)I" } : Jvm.MethodName)) ∈ lw_all := lw_g (lw_at lw_m5 135 rfl) rfl
theorem q1139 : (Jvm.Cond.code ({ cls := "FloatClasses", name := "told", desc := "(I)I" } : Jvm.MethodName) prog_1_method_61_code (2 : Nat) (Option.some Jvm.ClassFile.FieldType.int)) ∈ lw_all := lw_g (lw_at lw_m5 136 rfl) rfl
theorem q1140 : (Jvm.Cond.constantLong "FloatClasses" (419 : Nat) (9 : Int64)) ∈ lw_all := lw_g (lw_at lw_m5 137 rfl) rfl
theorem in_X0 : ∀ w ∈ wsX00, w ∈ lw_all := lw_in wsX00 [969, 971, 973, 975, 977, 979, 981, 983, 985, 987, 989, 991, 993] (by decide +kernel) (by decide +kernel)
/-! FloatClasses$Doubles -/
set_option maxRecDepth 100000
def RX1 : String := "FloatClasses$Doubles"
abbrev cX1_from : ByteArray := prog_2_method_4_code
def yX1_from : MethodName := ⟨RX1, "from", "(J)D"⟩
def dkwX1_from_0 : List UInt8 := [31, 20, 0, 9, 127, 20, 0, 11, 148, 158, 0, 9, 178, 0, 13, 167, 0, 7, 31, 184, 0, 19, 175]
abbrev dktX1_from_0 : List UInt8 := dkwX1_from_0 ++ []
theorem dksX1_from_0 : cX1_from.data.toList.drop 0 = dktX1_from_0 := by decide +kernel
theorem dX1_from_0 : decode cX1_from 0 = .ok (.lload_n 1, 1) := dk_31 (dk_at dksX1_from_0 0 rfl rfl)
theorem dX1_from_1 : decode cX1_from 1 = .ok (.ldc2_w 9, 3) := dk_20 0 9 (dk_at dksX1_from_0 1 rfl rfl)
theorem dX1_from_4 : decode cX1_from 4 = .ok (.land, 1) := dk_127 (dk_at dksX1_from_0 4 rfl rfl)
theorem dX1_from_5 : decode cX1_from 5 = .ok (.ldc2_w 11, 3) := dk_20 0 11 (dk_at dksX1_from_0 5 rfl rfl)
theorem dX1_from_8 : decode cX1_from 8 = .ok (.lcmp, 1) := dk_148 (dk_at dksX1_from_0 8 rfl rfl)
theorem dX1_from_9 : decode cX1_from 9 = .ok (.ifCond .le 9, 3) := dk_158 0 9 (dk_at dksX1_from_0 9 rfl rfl)
theorem dX1_from_12 : decode cX1_from 12 = .ok (.getstatic 13, 3) := dk_178 0 13 (dk_at dksX1_from_0 12 rfl rfl)
theorem dX1_from_15 : decode cX1_from 15 = .ok (.goto 7, 3) := dk_167 0 7 (dk_at dksX1_from_0 15 rfl rfl)
theorem dX1_from_18 : decode cX1_from 18 = .ok (.lload_n 1, 1) := dk_31 (dk_at dksX1_from_0 18 rfl rfl)
theorem dX1_from_19 : decode cX1_from 19 = .ok (.invokestatic 19, 3) := dk_184 0 19 (dk_at dksX1_from_0 19 rfl rfl)
theorem dX1_from_22 : decode cX1_from 22 = .ok (.dreturn, 1) := dk_175 (dk_at dksX1_from_0 22 rfl rfl)
abbrev cX1_precision : ByteArray := prog_2_method_2_code
def yX1_precision : MethodName := ⟨RX1, "precision", "()I"⟩
theorem dX1_precision_0 : decode cX1_precision 0 = .ok (.bipush 53, 2) := by decide +kernel
theorem dX1_precision_2 : decode cX1_precision 2 = .ok (.ireturn, 1) := by decide +kernel
abbrev cX1_least : ByteArray := prog_2_method_3_code
def yX1_least : MethodName := ⟨RX1, "least", "()I"⟩
theorem dX1_least_0 : decode cX1_least 0 = .ok (.sipush (-1074), 3) := by decide +kernel
theorem dX1_least_3 : decode cX1_least 3 = .ok (.ireturn, 1) := by decide +kernel
abbrev cX1_by : ByteArray := prog_2_method_9_code
def yX1_by : MethodName := ⟨RX1, "by", "(DI)D"⟩
def dkwX1_by_0 : List UInt8 := [39, 29, 184, 0, 38, 175]
abbrev dktX1_by_0 : List UInt8 := dkwX1_by_0 ++ []
theorem dksX1_by_0 : cX1_by.data.toList.drop 0 = dktX1_by_0 := by decide +kernel
theorem dX1_by_0 : decode cX1_by 0 = .ok (.dload_n 1, 1) := dk_39 (dk_at dksX1_by_0 0 rfl rfl)
theorem dX1_by_1 : decode cX1_by 1 = .ok (.iload_n 3, 1) := dk_29 (dk_at dksX1_by_0 1 rfl rfl)
theorem dX1_by_2 : decode cX1_by 2 = .ok (.invokestatic 38, 3) := dk_184 0 38 (dk_at dksX1_by_0 2 rfl rfl)
theorem dX1_by_5 : decode cX1_by 5 = .ok (.dreturn, 1) := dk_175 (dk_at dksX1_by_0 5 rfl rfl)
abbrev cX1_to : ByteArray := prog_2_method_5_code
def yX1_to : MethodName := ⟨RX1, "to", "(D)J"⟩
theorem dX1_to_0 : decode cX1_to 0 = .ok (.dload_n 1, 1) := by decide +kernel
theorem dX1_to_1 : decode cX1_to 1 = .ok (.invokestatic 25, 3) := by decide +kernel
theorem dX1_to_4 : decode cX1_to 4 = .ok (.lreturn, 1) := by decide +kernel
abbrev cX1_up : ByteArray := prog_2_method_7_code
def yX1_up : MethodName := ⟨RX1, "up", "(D)D"⟩
theorem dX1_up_0 : decode cX1_up 0 = .ok (.dload_n 1, 1) := by decide +kernel
theorem dX1_up_1 : decode cX1_up 1 = .ok (.invokestatic 29, 3) := by decide +kernel
theorem dX1_up_4 : decode cX1_up 4 = .ok (.dreturn, 1) := by decide +kernel
abbrev cX1_gap : ByteArray := prog_2_method_8_code
def yX1_gap : MethodName := ⟨RX1, "gap", "(D)D"⟩
theorem dX1_gap_0 : decode cX1_gap 0 = .ok (.dload_n 1, 1) := by decide +kernel
theorem dX1_gap_1 : decode cX1_gap 1 = .ok (.invokestatic 35, 3) := by decide +kernel
theorem dX1_gap_4 : decode cX1_gap 4 = .ok (.dreturn, 1) := by decide +kernel
abbrev cX1_fit : ByteArray := prog_2_method_6_code
def yX1_fit : MethodName := ⟨RX1, "fit", "(D)D"⟩
theorem dX1_fit_0 : decode cX1_fit 0 = .ok (.dload_n 1, 1) := by decide +kernel
theorem dX1_fit_1 : decode cX1_fit 1 = .ok (.dreturn, 1) := by decide +kernel
abbrev cX1_init : ByteArray := prog_2_method_1_code
def yX1_init : MethodName := ⟨RX1, "<init>", "()V"⟩
theorem dX1_init_0 : decode cX1_init 0 = .ok (.aload_n 0, 1) := by decide +kernel
theorem dX1_init_1 : decode cX1_init 1 = .ok (.invokespecial 1, 3) := by decide +kernel
theorem dX1_init_4 : decode cX1_init 4 = .ok (.return_, 1) := by decide +kernel
theorem q45 : (Jvm.Cond.initialized "FloatClasses$Doubles") ∈ lw_all := lw_g (lw_at lw_m1 2 rfl) rfl
theorem q102 : (Jvm.Cond.castable "FloatClasses$Doubles" "FloatClasses$Reals") ∈ lw_tbl := lw_at lw_m1 59 rfl
theorem q103 : (Jvm.Cond.selects "FloatClasses$Doubles" ({ cls := "FloatClasses$Reals", name := "from", desc := "(J)D" } : Jvm.MethodName) ({ cls := "FloatClasses$Doubles", name := "from", desc := "(J)D" } : Jvm.MethodName)) ∈ lw_all := lw_g (lw_at lw_m1 60 rfl) rfl
theorem q104 : (Jvm.Cond.unhidden "FloatClasses$Doubles" "from" "(J)D") ∈ lw_tbl := lw_at lw_m1 61 rfl
theorem q105 : (Jvm.Cond.instanceMethod ({ cls := "FloatClasses$Doubles", name := "from", desc := "(J)D" } : Jvm.MethodName)) ∈ lw_all := lw_g (lw_at lw_m1 62 rfl) rfl
theorem q106 : (Jvm.Cond.publicMethod ({ cls := "FloatClasses$Doubles", name := "from", desc := "(J)D" } : Jvm.MethodName)) ∈ lw_tbl := lw_at lw_m1 63 rfl
theorem q107 : (Jvm.Cond.code ({ cls := "FloatClasses$Doubles", name := "from", desc := "(J)D" } : Jvm.MethodName) prog_2_method_4_code (3 : Nat) (Option.some Jvm.ClassFile.FieldType.double)) ∈ lw_all := lw_g (lw_at lw_m1 64 rfl) rfl
theorem q108 : (Jvm.Cond.constantLong "FloatClasses$Doubles" (9 : Nat) (9223372036854775807 : Int64)) ∈ lw_all := lw_g (lw_at lw_m1 65 rfl) rfl
theorem q109 : (Jvm.Cond.constantLong "FloatClasses$Doubles" (11 : Nat) (9218868437227405312 : Int64)) ∈ lw_all := lw_g (lw_at lw_m1 66 rfl) rfl
theorem q110 : (Jvm.Cond.fieldLinkNest "FloatClasses$Doubles" (13 : Nat) "FloatClasses" "NO_NUMBER" "D" "FloatClasses") ∈ lw_tbl := lw_at lw_m1 67 rfl
theorem q112 : (Jvm.Cond.methodLink "FloatClasses$Doubles" (19 : Nat) ({ cls := "java/lang/Double", name := "longBitsToDouble", desc := "(J)D" } : Jvm.MethodName)) ∈ lw_all := lw_g (lw_at lw_m1 69 rfl) rfl
theorem q131 : (Jvm.Cond.unhidden "FloatClasses$Doubles" "isFinite" "(D)Z") ∈ lw_tbl := lw_at lw_m1 88 rfl
theorem q145 : (Jvm.Cond.unhidden "FloatClasses$Doubles" "power2" "(D)I") ∈ lw_tbl := lw_at lw_m1 102 rfl
theorem q184 : (Jvm.Cond.selects "FloatClasses$Doubles" ({ cls := "FloatClasses$Reals", name := "precision", desc := "()I" } : Jvm.MethodName) ({ cls := "FloatClasses$Doubles", name := "precision", desc := "()I" } : Jvm.MethodName)) ∈ lw_all := lw_g (lw_at lw_m1 141 rfl) rfl
theorem q185 : (Jvm.Cond.unhidden "FloatClasses$Doubles" "precision" "()I") ∈ lw_tbl := lw_at lw_m1 142 rfl
theorem q186 : (Jvm.Cond.instanceMethod ({ cls := "FloatClasses$Doubles", name := "precision", desc := "()I" } : Jvm.MethodName)) ∈ lw_all := lw_g (lw_at lw_m1 143 rfl) rfl
theorem q187 : (Jvm.Cond.publicMethod ({ cls := "FloatClasses$Doubles", name := "precision", desc := "()I" } : Jvm.MethodName)) ∈ lw_tbl := lw_at lw_m1 144 rfl
theorem q188 : (Jvm.Cond.code ({ cls := "FloatClasses$Doubles", name := "precision", desc := "()I" } : Jvm.MethodName) prog_2_method_2_code (1 : Nat) (Option.some Jvm.ClassFile.FieldType.int)) ∈ lw_all := lw_g (lw_at lw_m1 145 rfl) rfl
theorem q219 : (Jvm.Cond.selects "FloatClasses$Doubles" ({ cls := "FloatClasses$Reals", name := "least", desc := "()I" } : Jvm.MethodName) ({ cls := "FloatClasses$Doubles", name := "least", desc := "()I" } : Jvm.MethodName)) ∈ lw_all := lw_g (lw_at lw_m1 176 rfl) rfl
theorem q220 : (Jvm.Cond.unhidden "FloatClasses$Doubles" "least" "()I") ∈ lw_tbl := lw_at lw_m1 177 rfl
theorem q221 : (Jvm.Cond.instanceMethod ({ cls := "FloatClasses$Doubles", name := "least", desc := "()I" } : Jvm.MethodName)) ∈ lw_all := lw_g (lw_at lw_m1 178 rfl) rfl
theorem q222 : (Jvm.Cond.publicMethod ({ cls := "FloatClasses$Doubles", name := "least", desc := "()I" } : Jvm.MethodName)) ∈ lw_tbl := lw_at lw_m1 179 rfl
theorem q223 : (Jvm.Cond.code ({ cls := "FloatClasses$Doubles", name := "least", desc := "()I" } : Jvm.MethodName) prog_2_method_3_code (1 : Nat) (Option.some Jvm.ClassFile.FieldType.int)) ∈ lw_all := lw_g (lw_at lw_m1 180 rfl) rfl
theorem q238 : (Jvm.Cond.selects "FloatClasses$Doubles" ({ cls := "FloatClasses$Reals", name := "by", desc := "(DI)D" } : Jvm.MethodName) ({ cls := "FloatClasses$Doubles", name := "by", desc := "(DI)D" } : Jvm.MethodName)) ∈ lw_all := lw_g (lw_at lw_m1 195 rfl) rfl
theorem q239 : (Jvm.Cond.unhidden "FloatClasses$Doubles" "by" "(DI)D") ∈ lw_tbl := lw_at lw_m1 196 rfl
theorem q240 : (Jvm.Cond.instanceMethod ({ cls := "FloatClasses$Doubles", name := "by", desc := "(DI)D" } : Jvm.MethodName)) ∈ lw_all := lw_g (lw_at lw_m1 197 rfl) rfl
theorem q241 : (Jvm.Cond.publicMethod ({ cls := "FloatClasses$Doubles", name := "by", desc := "(DI)D" } : Jvm.MethodName)) ∈ lw_tbl := lw_at lw_m1 198 rfl
theorem q242 : (Jvm.Cond.code ({ cls := "FloatClasses$Doubles", name := "by", desc := "(DI)D" } : Jvm.MethodName) prog_2_method_9_code (4 : Nat) (Option.some Jvm.ClassFile.FieldType.double)) ∈ lw_all := lw_g (lw_at lw_m1 199 rfl) rfl
theorem q243 : (Jvm.Cond.methodLink "FloatClasses$Doubles" (38 : Nat) ({ cls := "java/lang/Math", name := "scalb", desc := "(DI)D" } : Jvm.MethodName)) ∈ lw_all := lw_g (lw_at lw_m1 200 rfl) rfl
theorem q270 : (Jvm.Cond.selects "FloatClasses$Doubles" ({ cls := "FloatClasses$Reals", name := "to", desc := "(D)J" } : Jvm.MethodName) ({ cls := "FloatClasses$Doubles", name := "to", desc := "(D)J" } : Jvm.MethodName)) ∈ lw_all := lw_g (lw_at lw_m1 227 rfl) rfl
theorem q271 : (Jvm.Cond.unhidden "FloatClasses$Doubles" "to" "(D)J") ∈ lw_tbl := lw_at lw_m1 228 rfl
theorem q272 : (Jvm.Cond.instanceMethod ({ cls := "FloatClasses$Doubles", name := "to", desc := "(D)J" } : Jvm.MethodName)) ∈ lw_all := lw_g (lw_at lw_m1 229 rfl) rfl
theorem q273 : (Jvm.Cond.publicMethod ({ cls := "FloatClasses$Doubles", name := "to", desc := "(D)J" } : Jvm.MethodName)) ∈ lw_tbl := lw_at lw_m1 230 rfl
theorem q274 : (Jvm.Cond.code ({ cls := "FloatClasses$Doubles", name := "to", desc := "(D)J" } : Jvm.MethodName) prog_2_method_5_code (3 : Nat) (Option.some Jvm.ClassFile.FieldType.long)) ∈ lw_all := lw_g (lw_at lw_m1 231 rfl) rfl
theorem q275 : (Jvm.Cond.methodLink "FloatClasses$Doubles" (25 : Nat) ({ cls := "java/lang/Double", name := "doubleToLongBits", desc := "(D)J" } : Jvm.MethodName)) ∈ lw_all := lw_g (lw_at lw_m1 232 rfl) rfl
theorem q324 : (Jvm.Cond.unhidden "FloatClasses$Doubles" "sort" "(D)I") ∈ lw_tbl := lw_at lw_m2 41 rfl
theorem q352 : (Jvm.Cond.unhidden "FloatClasses$Doubles" "one" "(ID)D") ∈ lw_tbl := lw_at lw_m2 69 rfl
theorem q366 : (Jvm.Cond.selects "FloatClasses$Doubles" ({ cls := "FloatClasses$Reals", name := "up", desc := "(D)D" } : Jvm.MethodName) ({ cls := "FloatClasses$Doubles", name := "up", desc := "(D)D" } : Jvm.MethodName)) ∈ lw_all := lw_g (lw_at lw_m2 83 rfl) rfl
theorem q367 : (Jvm.Cond.unhidden "FloatClasses$Doubles" "up" "(D)D") ∈ lw_tbl := lw_at lw_m2 84 rfl
theorem q368 : (Jvm.Cond.instanceMethod ({ cls := "FloatClasses$Doubles", name := "up", desc := "(D)D" } : Jvm.MethodName)) ∈ lw_all := lw_g (lw_at lw_m2 85 rfl) rfl
theorem q369 : (Jvm.Cond.publicMethod ({ cls := "FloatClasses$Doubles", name := "up", desc := "(D)D" } : Jvm.MethodName)) ∈ lw_tbl := lw_at lw_m2 86 rfl
theorem q370 : (Jvm.Cond.code ({ cls := "FloatClasses$Doubles", name := "up", desc := "(D)D" } : Jvm.MethodName) prog_2_method_7_code (3 : Nat) (Option.some Jvm.ClassFile.FieldType.double)) ∈ lw_all := lw_g (lw_at lw_m2 87 rfl) rfl
theorem q371 : (Jvm.Cond.methodLink "FloatClasses$Doubles" (29 : Nat) ({ cls := "java/lang/Math", name := "nextUp", desc := "(D)D" } : Jvm.MethodName)) ∈ lw_all := lw_g (lw_at lw_m2 88 rfl) rfl
theorem q391 : (Jvm.Cond.unhidden "FloatClasses$Doubles" "down" "(D)D") ∈ lw_tbl := lw_at lw_m2 108 rfl
theorem q400 : (Jvm.Cond.selects "FloatClasses$Doubles" ({ cls := "FloatClasses$Reals", name := "gap", desc := "(D)D" } : Jvm.MethodName) ({ cls := "FloatClasses$Doubles", name := "gap", desc := "(D)D" } : Jvm.MethodName)) ∈ lw_all := lw_g (lw_at lw_m2 117 rfl) rfl
theorem q401 : (Jvm.Cond.unhidden "FloatClasses$Doubles" "gap" "(D)D") ∈ lw_tbl := lw_at lw_m2 118 rfl
theorem q402 : (Jvm.Cond.instanceMethod ({ cls := "FloatClasses$Doubles", name := "gap", desc := "(D)D" } : Jvm.MethodName)) ∈ lw_all := lw_g (lw_at lw_m2 119 rfl) rfl
theorem q403 : (Jvm.Cond.publicMethod ({ cls := "FloatClasses$Doubles", name := "gap", desc := "(D)D" } : Jvm.MethodName)) ∈ lw_tbl := lw_at lw_m2 120 rfl
theorem q404 : (Jvm.Cond.code ({ cls := "FloatClasses$Doubles", name := "gap", desc := "(D)D" } : Jvm.MethodName) prog_2_method_8_code (3 : Nat) (Option.some Jvm.ClassFile.FieldType.double)) ∈ lw_all := lw_g (lw_at lw_m2 121 rfl) rfl
theorem q405 : (Jvm.Cond.methodLink "FloatClasses$Doubles" (35 : Nat) ({ cls := "java/lang/Math", name := "ulp", desc := "(D)D" } : Jvm.MethodName)) ∈ lw_all := lw_g (lw_at lw_m2 122 rfl) rfl
theorem q453 : (Jvm.Cond.unhidden "FloatClasses$Doubles" "over" "(DD)D") ∈ lw_tbl := lw_at lw_m2 170 rfl
theorem q464 : (Jvm.Cond.selects "FloatClasses$Doubles" ({ cls := "FloatClasses$Reals", name := "fit", desc := "(D)D" } : Jvm.MethodName) ({ cls := "FloatClasses$Doubles", name := "fit", desc := "(D)D" } : Jvm.MethodName)) ∈ lw_all := lw_g (lw_at lw_m2 181 rfl) rfl
theorem q465 : (Jvm.Cond.unhidden "FloatClasses$Doubles" "fit" "(D)D") ∈ lw_tbl := lw_at lw_m2 182 rfl
theorem q466 : (Jvm.Cond.instanceMethod ({ cls := "FloatClasses$Doubles", name := "fit", desc := "(D)D" } : Jvm.MethodName)) ∈ lw_all := lw_g (lw_at lw_m2 183 rfl) rfl
theorem q467 : (Jvm.Cond.publicMethod ({ cls := "FloatClasses$Doubles", name := "fit", desc := "(D)D" } : Jvm.MethodName)) ∈ lw_tbl := lw_at lw_m2 184 rfl
theorem q468 : (Jvm.Cond.code ({ cls := "FloatClasses$Doubles", name := "fit", desc := "(D)D" } : Jvm.MethodName) prog_2_method_6_code (3 : Nat) (Option.some Jvm.ClassFile.FieldType.double)) ∈ lw_all := lw_g (lw_at lw_m2 185 rfl) rfl
theorem q483 : (Jvm.Cond.unhidden "FloatClasses$Doubles" "two" "(IDD)D") ∈ lw_tbl := lw_at lw_m2 200 rfl
theorem q491 : (Jvm.Cond.unhidden "FloatClasses$Doubles" "plus" "(DD)D") ∈ lw_tbl := lw_at lw_m2 208 rfl
theorem q500 : (Jvm.Cond.unhidden "FloatClasses$Doubles" "minus" "(DD)D") ∈ lw_tbl := lw_at lw_m2 217 rfl
theorem q509 : (Jvm.Cond.unhidden "FloatClasses$Doubles" "times" "(DD)D") ∈ lw_tbl := lw_at lw_m2 226 rfl
theorem q518 : (Jvm.Cond.unhidden "FloatClasses$Doubles" "rest" "(DD)D") ∈ lw_tbl := lw_at lw_m2 235 rfl
theorem q532 : (Jvm.Cond.unhidden "FloatClasses$Doubles" "joined" "(DDD)D") ∈ lw_tbl := lw_at lw_m3 9 rfl
theorem q562 : (Jvm.Cond.unhidden "FloatClasses$Doubles" "power" "(DI)D") ∈ lw_tbl := lw_at lw_m3 39 rfl
theorem q898 : (Jvm.Cond.instantiable "FloatClasses$Doubles" (0 : Nat)) ∈ lw_all := lw_g (lw_at lw_m4 135 rfl) rfl
theorem q900 : (Jvm.Cond.instanceMethod ({ cls := "FloatClasses$Doubles", name := "<init>", desc := "()V" } : Jvm.MethodName)) ∈ lw_all := lw_g (lw_at lw_m4 137 rfl) rfl
theorem q901 : (Jvm.Cond.code ({ cls := "FloatClasses$Doubles", name := "<init>", desc := "()V" } : Jvm.MethodName) prog_2_method_1_code (1 : Nat) (Option.none : Option Jvm.ClassFile.FieldType)) ∈ lw_all := lw_g (lw_at lw_m4 138 rfl) rfl
theorem q902 : (Jvm.Cond.methodLink "FloatClasses$Doubles" (1 : Nat) ({ cls := "java/lang/Object", name := "<init>", desc := "()V" } : Jvm.MethodName)) ∈ lw_all := lw_g (lw_at lw_m4 139 rfl) rfl
theorem q903 : (Jvm.Cond.superclass "FloatClasses$Doubles" "java/lang/Object") ∈ lw_all := lw_g (lw_at lw_m4 140 rfl) rfl
theorem q1585 : (Jvm.Cond.sameMethod "FloatClasses$Doubles" "FloatClasses$Doubles" "by" "(DI)D") ∈ lw_all := lw_g (lw_at lw_m7 102 rfl) rfl
/-! FloatClasses$Floats -/
set_option maxRecDepth 100000
def RX2 : String := "FloatClasses$Floats"
abbrev cX2_from : ByteArray := prog_4_method_4_code
def yX2_from : MethodName := ⟨RX2, "from", "(J)D"⟩
def dkwX2_from_0 : List UInt8 := [31, 136, 18, 9, 126, 18, 10, 164, 0, 9, 178, 0, 11, 167, 0, 9, 31, 136, 184, 0, 17, 141, 175]
abbrev dktX2_from_0 : List UInt8 := dkwX2_from_0 ++ []
theorem dksX2_from_0 : cX2_from.data.toList.drop 0 = dktX2_from_0 := by decide +kernel
theorem dX2_from_0 : decode cX2_from 0 = .ok (.lload_n 1, 1) := dk_31 (dk_at dksX2_from_0 0 rfl rfl)
theorem dX2_from_1 : decode cX2_from 1 = .ok (.l2i, 1) := dk_136 (dk_at dksX2_from_0 1 rfl rfl)
theorem dX2_from_2 : decode cX2_from 2 = .ok (.ldc 9, 2) := dk_18 9 (dk_at dksX2_from_0 2 rfl rfl)
theorem dX2_from_4 : decode cX2_from 4 = .ok (.iand, 1) := dk_126 (dk_at dksX2_from_0 4 rfl rfl)
theorem dX2_from_5 : decode cX2_from 5 = .ok (.ldc 10, 2) := dk_18 10 (dk_at dksX2_from_0 5 rfl rfl)
theorem dX2_from_7 : decode cX2_from 7 = .ok (.if_icmp .le 9, 3) := dk_164 0 9 (dk_at dksX2_from_0 7 rfl rfl)
theorem dX2_from_10 : decode cX2_from 10 = .ok (.getstatic 11, 3) := dk_178 0 11 (dk_at dksX2_from_0 10 rfl rfl)
theorem dX2_from_13 : decode cX2_from 13 = .ok (.goto 9, 3) := dk_167 0 9 (dk_at dksX2_from_0 13 rfl rfl)
theorem dX2_from_16 : decode cX2_from 16 = .ok (.lload_n 1, 1) := dk_31 (dk_at dksX2_from_0 16 rfl rfl)
theorem dX2_from_17 : decode cX2_from 17 = .ok (.l2i, 1) := dk_136 (dk_at dksX2_from_0 17 rfl rfl)
theorem dX2_from_18 : decode cX2_from 18 = .ok (.invokestatic 17, 3) := dk_184 0 17 (dk_at dksX2_from_0 18 rfl rfl)
theorem dX2_from_21 : decode cX2_from 21 = .ok (.f2d, 1) := dk_141 (dk_at dksX2_from_0 21 rfl rfl)
theorem dX2_from_22 : decode cX2_from 22 = .ok (.dreturn, 1) := dk_175 (dk_at dksX2_from_0 22 rfl rfl)
abbrev cX2_precision : ByteArray := prog_4_method_2_code
def yX2_precision : MethodName := ⟨RX2, "precision", "()I"⟩
theorem dX2_precision_0 : decode cX2_precision 0 = .ok (.bipush 24, 2) := by decide +kernel
theorem dX2_precision_2 : decode cX2_precision 2 = .ok (.ireturn, 1) := by decide +kernel
abbrev cX2_least : ByteArray := prog_4_method_3_code
def yX2_least : MethodName := ⟨RX2, "least", "()I"⟩
theorem dX2_least_0 : decode cX2_least 0 = .ok (.sipush (-149), 3) := by decide +kernel
theorem dX2_least_3 : decode cX2_least 3 = .ok (.ireturn, 1) := by decide +kernel
abbrev cX2_by : ByteArray := prog_4_method_9_code
def yX2_by : MethodName := ⟨RX2, "by", "(DI)D"⟩
def dkwX2_by_0 : List UInt8 := [42, 42, 39, 29, 183, 0, 38, 182, 0, 42, 175]
abbrev dktX2_by_0 : List UInt8 := dkwX2_by_0 ++ []
theorem dksX2_by_0 : cX2_by.data.toList.drop 0 = dktX2_by_0 := by decide +kernel
theorem dX2_by_0 : decode cX2_by 0 = .ok (.aload_n 0, 1) := dk_42 (dk_at dksX2_by_0 0 rfl rfl)
theorem dX2_by_1 : decode cX2_by 1 = .ok (.aload_n 0, 1) := dk_42 (dk_at dksX2_by_0 1 rfl rfl)
theorem dX2_by_2 : decode cX2_by 2 = .ok (.dload_n 1, 1) := dk_39 (dk_at dksX2_by_0 2 rfl rfl)
theorem dX2_by_3 : decode cX2_by 3 = .ok (.iload_n 3, 1) := dk_29 (dk_at dksX2_by_0 3 rfl rfl)
theorem dX2_by_4 : decode cX2_by 4 = .ok (.invokespecial 38, 3) := dk_183 0 38 (dk_at dksX2_by_0 4 rfl rfl)
theorem dX2_by_7 : decode cX2_by 7 = .ok (.invokevirtual 42, 3) := dk_182 0 42 (dk_at dksX2_by_0 7 rfl rfl)
theorem dX2_by_10 : decode cX2_by 10 = .ok (.dreturn, 1) := dk_175 (dk_at dksX2_by_0 10 rfl rfl)
abbrev cX2_fit : ByteArray := prog_4_method_6_code
def yX2_fit : MethodName := ⟨RX2, "fit", "(D)D"⟩
def dkwX2_fit_0 : List UInt8 := [39, 39, 151, 153, 0, 9, 178, 0, 11, 167, 0, 6, 39, 144, 141, 175]
abbrev dktX2_fit_0 : List UInt8 := dkwX2_fit_0 ++ []
theorem dksX2_fit_0 : cX2_fit.data.toList.drop 0 = dktX2_fit_0 := by decide +kernel
theorem dX2_fit_0 : decode cX2_fit 0 = .ok (.dload_n 1, 1) := dk_39 (dk_at dksX2_fit_0 0 rfl rfl)
theorem dX2_fit_1 : decode cX2_fit 1 = .ok (.dload_n 1, 1) := dk_39 (dk_at dksX2_fit_0 1 rfl rfl)
theorem dX2_fit_2 : decode cX2_fit 2 = .ok (.dcmp .l, 1) := dk_151 (dk_at dksX2_fit_0 2 rfl rfl)
theorem dX2_fit_3 : decode cX2_fit 3 = .ok (.ifCond .eq 9, 3) := dk_153 0 9 (dk_at dksX2_fit_0 3 rfl rfl)
theorem dX2_fit_6 : decode cX2_fit 6 = .ok (.getstatic 11, 3) := dk_178 0 11 (dk_at dksX2_fit_0 6 rfl rfl)
theorem dX2_fit_9 : decode cX2_fit 9 = .ok (.goto 6, 3) := dk_167 0 6 (dk_at dksX2_fit_0 9 rfl rfl)
theorem dX2_fit_12 : decode cX2_fit 12 = .ok (.dload_n 1, 1) := dk_39 (dk_at dksX2_fit_0 12 rfl rfl)
theorem dX2_fit_13 : decode cX2_fit 13 = .ok (.d2f, 1) := dk_144 (dk_at dksX2_fit_0 13 rfl rfl)
theorem dX2_fit_14 : decode cX2_fit 14 = .ok (.f2d, 1) := dk_141 (dk_at dksX2_fit_0 14 rfl rfl)
theorem dX2_fit_15 : decode cX2_fit 15 = .ok (.dreturn, 1) := dk_175 (dk_at dksX2_fit_0 15 rfl rfl)
abbrev cX2_to : ByteArray := prog_4_method_5_code
def yX2_to : MethodName := ⟨RX2, "to", "(D)J"⟩
def dkwX2_to_0 : List UInt8 := [39, 39, 151, 153, 0, 9, 20, 0, 23, 167, 0, 9, 39, 144, 184, 0, 25, 133, 173]
abbrev dktX2_to_0 : List UInt8 := dkwX2_to_0 ++ []
theorem dksX2_to_0 : cX2_to.data.toList.drop 0 = dktX2_to_0 := by decide +kernel
theorem dX2_to_0 : decode cX2_to 0 = .ok (.dload_n 1, 1) := dk_39 (dk_at dksX2_to_0 0 rfl rfl)
theorem dX2_to_1 : decode cX2_to 1 = .ok (.dload_n 1, 1) := dk_39 (dk_at dksX2_to_0 1 rfl rfl)
theorem dX2_to_2 : decode cX2_to 2 = .ok (.dcmp .l, 1) := dk_151 (dk_at dksX2_to_0 2 rfl rfl)
theorem dX2_to_3 : decode cX2_to 3 = .ok (.ifCond .eq 9, 3) := dk_153 0 9 (dk_at dksX2_to_0 3 rfl rfl)
theorem dX2_to_6 : decode cX2_to 6 = .ok (.ldc2_w 23, 3) := dk_20 0 23 (dk_at dksX2_to_0 6 rfl rfl)
theorem dX2_to_9 : decode cX2_to 9 = .ok (.goto 9, 3) := dk_167 0 9 (dk_at dksX2_to_0 9 rfl rfl)
theorem dX2_to_12 : decode cX2_to 12 = .ok (.dload_n 1, 1) := dk_39 (dk_at dksX2_to_0 12 rfl rfl)
theorem dX2_to_13 : decode cX2_to 13 = .ok (.d2f, 1) := dk_144 (dk_at dksX2_to_0 13 rfl rfl)
theorem dX2_to_14 : decode cX2_to 14 = .ok (.invokestatic 25, 3) := dk_184 0 25 (dk_at dksX2_to_0 14 rfl rfl)
theorem dX2_to_17 : decode cX2_to 17 = .ok (.i2l, 1) := dk_133 (dk_at dksX2_to_0 17 rfl rfl)
theorem dX2_to_18 : decode cX2_to 18 = .ok (.lreturn, 1) := dk_173 (dk_at dksX2_to_0 18 rfl rfl)
abbrev cX2_scaled : ByteArray := prog_4_method_10_code
def yX2_scaled : MethodName := ⟨RX2, "scaled", "(DI)D"⟩
def dkwX2_scaled_0 : List UInt8 := [39, 39, 151, 153, 0, 9, 178, 0, 11, 167, 0, 10, 39, 144, 29, 184, 0, 48, 141, 175]
abbrev dktX2_scaled_0 : List UInt8 := dkwX2_scaled_0 ++ []
theorem dksX2_scaled_0 : cX2_scaled.data.toList.drop 0 = dktX2_scaled_0 := by decide +kernel
theorem dX2_scaled_0 : decode cX2_scaled 0 = .ok (.dload_n 1, 1) := dk_39 (dk_at dksX2_scaled_0 0 rfl rfl)
theorem dX2_scaled_1 : decode cX2_scaled 1 = .ok (.dload_n 1, 1) := dk_39 (dk_at dksX2_scaled_0 1 rfl rfl)
theorem dX2_scaled_2 : decode cX2_scaled 2 = .ok (.dcmp .l, 1) := dk_151 (dk_at dksX2_scaled_0 2 rfl rfl)
theorem dX2_scaled_3 : decode cX2_scaled 3 = .ok (.ifCond .eq 9, 3) := dk_153 0 9 (dk_at dksX2_scaled_0 3 rfl rfl)
theorem dX2_scaled_6 : decode cX2_scaled 6 = .ok (.getstatic 11, 3) := dk_178 0 11 (dk_at dksX2_scaled_0 6 rfl rfl)
theorem dX2_scaled_9 : decode cX2_scaled 9 = .ok (.goto 10, 3) := dk_167 0 10 (dk_at dksX2_scaled_0 9 rfl rfl)
theorem dX2_scaled_12 : decode cX2_scaled 12 = .ok (.dload_n 1, 1) := dk_39 (dk_at dksX2_scaled_0 12 rfl rfl)
theorem dX2_scaled_13 : decode cX2_scaled 13 = .ok (.d2f, 1) := dk_144 (dk_at dksX2_scaled_0 13 rfl rfl)
theorem dX2_scaled_14 : decode cX2_scaled 14 = .ok (.iload_n 3, 1) := dk_29 (dk_at dksX2_scaled_0 14 rfl rfl)
theorem dX2_scaled_15 : decode cX2_scaled 15 = .ok (.invokestatic 48, 3) := dk_184 0 48 (dk_at dksX2_scaled_0 15 rfl rfl)
theorem dX2_scaled_18 : decode cX2_scaled 18 = .ok (.f2d, 1) := dk_141 (dk_at dksX2_scaled_0 18 rfl rfl)
theorem dX2_scaled_19 : decode cX2_scaled 19 = .ok (.dreturn, 1) := dk_175 (dk_at dksX2_scaled_0 19 rfl rfl)
abbrev cX2_up : ByteArray := prog_4_method_7_code
def yX2_up : MethodName := ⟨RX2, "up", "(D)D"⟩
def dkwX2_up_0 : List UInt8 := [39, 144, 184, 0, 29, 141, 175]
abbrev dktX2_up_0 : List UInt8 := dkwX2_up_0 ++ []
theorem dksX2_up_0 : cX2_up.data.toList.drop 0 = dktX2_up_0 := by decide +kernel
theorem dX2_up_0 : decode cX2_up 0 = .ok (.dload_n 1, 1) := dk_39 (dk_at dksX2_up_0 0 rfl rfl)
theorem dX2_up_1 : decode cX2_up 1 = .ok (.d2f, 1) := dk_144 (dk_at dksX2_up_0 1 rfl rfl)
theorem dX2_up_2 : decode cX2_up 2 = .ok (.invokestatic 29, 3) := dk_184 0 29 (dk_at dksX2_up_0 2 rfl rfl)
theorem dX2_up_5 : decode cX2_up 5 = .ok (.f2d, 1) := dk_141 (dk_at dksX2_up_0 5 rfl rfl)
theorem dX2_up_6 : decode cX2_up 6 = .ok (.dreturn, 1) := dk_175 (dk_at dksX2_up_0 6 rfl rfl)
abbrev cX2_gap : ByteArray := prog_4_method_8_code
def yX2_gap : MethodName := ⟨RX2, "gap", "(D)D"⟩
def dkwX2_gap_0 : List UInt8 := [39, 144, 184, 0, 35, 141, 175]
abbrev dktX2_gap_0 : List UInt8 := dkwX2_gap_0 ++ []
theorem dksX2_gap_0 : cX2_gap.data.toList.drop 0 = dktX2_gap_0 := by decide +kernel
theorem dX2_gap_0 : decode cX2_gap 0 = .ok (.dload_n 1, 1) := dk_39 (dk_at dksX2_gap_0 0 rfl rfl)
theorem dX2_gap_1 : decode cX2_gap 1 = .ok (.d2f, 1) := dk_144 (dk_at dksX2_gap_0 1 rfl rfl)
theorem dX2_gap_2 : decode cX2_gap 2 = .ok (.invokestatic 35, 3) := dk_184 0 35 (dk_at dksX2_gap_0 2 rfl rfl)
theorem dX2_gap_5 : decode cX2_gap 5 = .ok (.f2d, 1) := dk_141 (dk_at dksX2_gap_0 5 rfl rfl)
theorem dX2_gap_6 : decode cX2_gap 6 = .ok (.dreturn, 1) := dk_175 (dk_at dksX2_gap_0 6 rfl rfl)
abbrev cX2_init : ByteArray := prog_4_method_1_code
def yX2_init : MethodName := ⟨RX2, "<init>", "()V"⟩
theorem dX2_init_0 : decode cX2_init 0 = .ok (.aload_n 0, 1) := by decide +kernel
theorem dX2_init_1 : decode cX2_init 1 = .ok (.invokespecial 1, 3) := by decide +kernel
theorem dX2_init_4 : decode cX2_init 4 = .ok (.return_, 1) := by decide +kernel
theorem q46 : (Jvm.Cond.initialized "FloatClasses$Floats") ∈ lw_all := lw_g (lw_at lw_m1 3 rfl) rfl
theorem q115 : (Jvm.Cond.castable "FloatClasses$Floats" "FloatClasses$Reals") ∈ lw_tbl := lw_at lw_m1 72 rfl
theorem q116 : (Jvm.Cond.selects "FloatClasses$Floats" ({ cls := "FloatClasses$Reals", name := "from", desc := "(J)D" } : Jvm.MethodName) ({ cls := "FloatClasses$Floats", name := "from", desc := "(J)D" } : Jvm.MethodName)) ∈ lw_all := lw_g (lw_at lw_m1 73 rfl) rfl
theorem q117 : (Jvm.Cond.unhidden "FloatClasses$Floats" "from" "(J)D") ∈ lw_tbl := lw_at lw_m1 74 rfl
theorem q118 : (Jvm.Cond.instanceMethod ({ cls := "FloatClasses$Floats", name := "from", desc := "(J)D" } : Jvm.MethodName)) ∈ lw_all := lw_g (lw_at lw_m1 75 rfl) rfl
theorem q119 : (Jvm.Cond.publicMethod ({ cls := "FloatClasses$Floats", name := "from", desc := "(J)D" } : Jvm.MethodName)) ∈ lw_tbl := lw_at lw_m1 76 rfl
theorem q120 : (Jvm.Cond.code ({ cls := "FloatClasses$Floats", name := "from", desc := "(J)D" } : Jvm.MethodName) prog_4_method_4_code (3 : Nat) (Option.some Jvm.ClassFile.FieldType.double)) ∈ lw_all := lw_g (lw_at lw_m1 77 rfl) rfl
theorem q121 : (Jvm.Cond.constant "FloatClasses$Floats" (9 : Nat) (2147483647 : Int32)) ∈ lw_all := lw_g (lw_at lw_m1 78 rfl) rfl
theorem q122 : (Jvm.Cond.constant "FloatClasses$Floats" (10 : Nat) (2139095040 : Int32)) ∈ lw_all := lw_g (lw_at lw_m1 79 rfl) rfl
theorem q123 : (Jvm.Cond.fieldLinkNest "FloatClasses$Floats" (11 : Nat) "FloatClasses" "NO_NUMBER" "D" "FloatClasses") ∈ lw_tbl := lw_at lw_m1 80 rfl
theorem q124 : (Jvm.Cond.methodLink "FloatClasses$Floats" (17 : Nat) ({ cls := "java/lang/Float", name := "intBitsToFloat", desc := "(I)F" } : Jvm.MethodName)) ∈ lw_all := lw_g (lw_at lw_m1 81 rfl) rfl
theorem q140 : (Jvm.Cond.unhidden "FloatClasses$Floats" "isFinite" "(D)Z") ∈ lw_tbl := lw_at lw_m1 97 rfl
theorem q189 : (Jvm.Cond.selects "FloatClasses$Floats" ({ cls := "FloatClasses$Reals", name := "precision", desc := "()I" } : Jvm.MethodName) ({ cls := "FloatClasses$Floats", name := "precision", desc := "()I" } : Jvm.MethodName)) ∈ lw_all := lw_g (lw_at lw_m1 146 rfl) rfl
theorem q190 : (Jvm.Cond.unhidden "FloatClasses$Floats" "precision" "()I") ∈ lw_tbl := lw_at lw_m1 147 rfl
theorem q191 : (Jvm.Cond.instanceMethod ({ cls := "FloatClasses$Floats", name := "precision", desc := "()I" } : Jvm.MethodName)) ∈ lw_all := lw_g (lw_at lw_m1 148 rfl) rfl
theorem q192 : (Jvm.Cond.publicMethod ({ cls := "FloatClasses$Floats", name := "precision", desc := "()I" } : Jvm.MethodName)) ∈ lw_tbl := lw_at lw_m1 149 rfl
theorem q193 : (Jvm.Cond.code ({ cls := "FloatClasses$Floats", name := "precision", desc := "()I" } : Jvm.MethodName) prog_4_method_2_code (1 : Nat) (Option.some Jvm.ClassFile.FieldType.int)) ∈ lw_all := lw_g (lw_at lw_m1 150 rfl) rfl
theorem q194 : (Jvm.Cond.unhidden "FloatClasses$Floats" "power2" "(D)I") ∈ lw_tbl := lw_at lw_m1 151 rfl
theorem q224 : (Jvm.Cond.selects "FloatClasses$Floats" ({ cls := "FloatClasses$Reals", name := "least", desc := "()I" } : Jvm.MethodName) ({ cls := "FloatClasses$Floats", name := "least", desc := "()I" } : Jvm.MethodName)) ∈ lw_all := lw_g (lw_at lw_m1 181 rfl) rfl
theorem q225 : (Jvm.Cond.unhidden "FloatClasses$Floats" "least" "()I") ∈ lw_tbl := lw_at lw_m1 182 rfl
theorem q226 : (Jvm.Cond.instanceMethod ({ cls := "FloatClasses$Floats", name := "least", desc := "()I" } : Jvm.MethodName)) ∈ lw_all := lw_g (lw_at lw_m1 183 rfl) rfl
theorem q227 : (Jvm.Cond.publicMethod ({ cls := "FloatClasses$Floats", name := "least", desc := "()I" } : Jvm.MethodName)) ∈ lw_tbl := lw_at lw_m1 184 rfl
theorem q228 : (Jvm.Cond.code ({ cls := "FloatClasses$Floats", name := "least", desc := "()I" } : Jvm.MethodName) prog_4_method_3_code (1 : Nat) (Option.some Jvm.ClassFile.FieldType.int)) ∈ lw_all := lw_g (lw_at lw_m1 185 rfl) rfl
theorem q244 : (Jvm.Cond.selects "FloatClasses$Floats" ({ cls := "FloatClasses$Reals", name := "by", desc := "(DI)D" } : Jvm.MethodName) ({ cls := "FloatClasses$Floats", name := "by", desc := "(DI)D" } : Jvm.MethodName)) ∈ lw_all := lw_g (lw_at lw_m1 201 rfl) rfl
theorem q245 : (Jvm.Cond.unhidden "FloatClasses$Floats" "by" "(DI)D") ∈ lw_tbl := lw_at lw_m1 202 rfl
theorem q246 : (Jvm.Cond.instanceMethod ({ cls := "FloatClasses$Floats", name := "by", desc := "(DI)D" } : Jvm.MethodName)) ∈ lw_all := lw_g (lw_at lw_m1 203 rfl) rfl
theorem q247 : (Jvm.Cond.publicMethod ({ cls := "FloatClasses$Floats", name := "by", desc := "(DI)D" } : Jvm.MethodName)) ∈ lw_tbl := lw_at lw_m1 204 rfl
theorem q248 : (Jvm.Cond.code ({ cls := "FloatClasses$Floats", name := "by", desc := "(DI)D" } : Jvm.MethodName) prog_4_method_9_code (4 : Nat) (Option.some Jvm.ClassFile.FieldType.double)) ∈ lw_all := lw_g (lw_at lw_m1 205 rfl) rfl
theorem q249 : (Jvm.Cond.methodLink "FloatClasses$Floats" (38 : Nat) ({ cls := "FloatClasses$Doubles", name := "by", desc := "(DI)D" } : Jvm.MethodName)) ∈ lw_all := lw_g (lw_at lw_m1 206 rfl) rfl
theorem q250 : (Jvm.Cond.superclass "FloatClasses$Floats" "FloatClasses$Doubles") ∈ lw_all := lw_g (lw_at lw_m1 207 rfl) rfl
theorem q251 : (Jvm.Cond.methodLink "FloatClasses$Floats" (42 : Nat) ({ cls := "FloatClasses$Floats", name := "fit", desc := "(D)D" } : Jvm.MethodName)) ∈ lw_all := lw_g (lw_at lw_m1 208 rfl) rfl
theorem q252 : (Jvm.Cond.instanceMethod ({ cls := "FloatClasses$Floats", name := "fit", desc := "(D)D" } : Jvm.MethodName)) ∈ lw_all := lw_g (lw_at lw_m1 209 rfl) rfl
theorem q253 : (Jvm.Cond.selects "FloatClasses$Floats" ({ cls := "FloatClasses$Floats", name := "fit", desc := "(D)D" } : Jvm.MethodName) ({ cls := "FloatClasses$Floats", name := "fit", desc := "(D)D" } : Jvm.MethodName)) ∈ lw_all := lw_g (lw_at lw_m1 210 rfl) rfl
theorem q254 : (Jvm.Cond.code ({ cls := "FloatClasses$Floats", name := "fit", desc := "(D)D" } : Jvm.MethodName) prog_4_method_6_code (3 : Nat) (Option.some Jvm.ClassFile.FieldType.double)) ∈ lw_all := lw_g (lw_at lw_m1 211 rfl) rfl
theorem q283 : (Jvm.Cond.selects "FloatClasses$Floats" ({ cls := "FloatClasses$Reals", name := "to", desc := "(D)J" } : Jvm.MethodName) ({ cls := "FloatClasses$Floats", name := "to", desc := "(D)J" } : Jvm.MethodName)) ∈ lw_all := lw_g (lw_at lw_m2 0 rfl) rfl
theorem q284 : (Jvm.Cond.unhidden "FloatClasses$Floats" "to" "(D)J") ∈ lw_tbl := lw_at lw_m2 1 rfl
theorem q285 : (Jvm.Cond.instanceMethod ({ cls := "FloatClasses$Floats", name := "to", desc := "(D)J" } : Jvm.MethodName)) ∈ lw_all := lw_g (lw_at lw_m2 2 rfl) rfl
theorem q286 : (Jvm.Cond.publicMethod ({ cls := "FloatClasses$Floats", name := "to", desc := "(D)J" } : Jvm.MethodName)) ∈ lw_tbl := lw_at lw_m2 3 rfl
theorem q287 : (Jvm.Cond.code ({ cls := "FloatClasses$Floats", name := "to", desc := "(D)J" } : Jvm.MethodName) prog_4_method_5_code (3 : Nat) (Option.some Jvm.ClassFile.FieldType.long)) ∈ lw_all := lw_g (lw_at lw_m2 4 rfl) rfl
theorem q288 : (Jvm.Cond.constantLong "FloatClasses$Floats" (23 : Nat) (2143289344 : Int64)) ∈ lw_all := lw_g (lw_at lw_m2 5 rfl) rfl
theorem q289 : (Jvm.Cond.methodLink "FloatClasses$Floats" (25 : Nat) ({ cls := "java/lang/Float", name := "floatToIntBits", desc := "(F)I" } : Jvm.MethodName)) ∈ lw_all := lw_g (lw_at lw_m2 6 rfl) rfl
theorem q310 : (Jvm.Cond.instanceMethod ({ cls := "FloatClasses$Floats", name := "scaled", desc := "(DI)D" } : Jvm.MethodName)) ∈ lw_all := lw_g (lw_at lw_m2 27 rfl) rfl
theorem q311 : (Jvm.Cond.selects "FloatClasses$Floats" ({ cls := "FloatClasses$Floats", name := "scaled", desc := "(DI)D" } : Jvm.MethodName) ({ cls := "FloatClasses$Floats", name := "scaled", desc := "(DI)D" } : Jvm.MethodName)) ∈ lw_all := lw_g (lw_at lw_m2 28 rfl) rfl
theorem q312 : (Jvm.Cond.code ({ cls := "FloatClasses$Floats", name := "scaled", desc := "(DI)D" } : Jvm.MethodName) prog_4_method_10_code (4 : Nat) (Option.some Jvm.ClassFile.FieldType.double)) ∈ lw_all := lw_g (lw_at lw_m2 29 rfl) rfl
theorem q313 : (Jvm.Cond.methodLink "FloatClasses$Floats" (48 : Nat) ({ cls := "java/lang/Math", name := "scalb", desc := "(FI)F" } : Jvm.MethodName)) ∈ lw_all := lw_g (lw_at lw_m2 30 rfl) rfl
theorem q342 : (Jvm.Cond.unhidden "FloatClasses$Floats" "sort" "(D)I") ∈ lw_tbl := lw_at lw_m2 59 rfl
theorem q376 : (Jvm.Cond.selects "FloatClasses$Floats" ({ cls := "FloatClasses$Reals", name := "up", desc := "(D)D" } : Jvm.MethodName) ({ cls := "FloatClasses$Floats", name := "up", desc := "(D)D" } : Jvm.MethodName)) ∈ lw_all := lw_g (lw_at lw_m2 93 rfl) rfl
theorem q377 : (Jvm.Cond.unhidden "FloatClasses$Floats" "up" "(D)D") ∈ lw_tbl := lw_at lw_m2 94 rfl
theorem q378 : (Jvm.Cond.instanceMethod ({ cls := "FloatClasses$Floats", name := "up", desc := "(D)D" } : Jvm.MethodName)) ∈ lw_all := lw_g (lw_at lw_m2 95 rfl) rfl
theorem q379 : (Jvm.Cond.publicMethod ({ cls := "FloatClasses$Floats", name := "up", desc := "(D)D" } : Jvm.MethodName)) ∈ lw_tbl := lw_at lw_m2 96 rfl
theorem q380 : (Jvm.Cond.code ({ cls := "FloatClasses$Floats", name := "up", desc := "(D)D" } : Jvm.MethodName) prog_4_method_7_code (3 : Nat) (Option.some Jvm.ClassFile.FieldType.double)) ∈ lw_all := lw_g (lw_at lw_m2 97 rfl) rfl
theorem q381 : (Jvm.Cond.methodLink "FloatClasses$Floats" (29 : Nat) ({ cls := "java/lang/Math", name := "nextUp", desc := "(F)F" } : Jvm.MethodName)) ∈ lw_all := lw_g (lw_at lw_m2 98 rfl) rfl
theorem q395 : (Jvm.Cond.unhidden "FloatClasses$Floats" "down" "(D)D") ∈ lw_tbl := lw_at lw_m2 112 rfl
theorem q411 : (Jvm.Cond.selects "FloatClasses$Floats" ({ cls := "FloatClasses$Reals", name := "gap", desc := "(D)D" } : Jvm.MethodName) ({ cls := "FloatClasses$Floats", name := "gap", desc := "(D)D" } : Jvm.MethodName)) ∈ lw_all := lw_g (lw_at lw_m2 128 rfl) rfl
theorem q412 : (Jvm.Cond.unhidden "FloatClasses$Floats" "gap" "(D)D") ∈ lw_tbl := lw_at lw_m2 129 rfl
theorem q413 : (Jvm.Cond.instanceMethod ({ cls := "FloatClasses$Floats", name := "gap", desc := "(D)D" } : Jvm.MethodName)) ∈ lw_all := lw_g (lw_at lw_m2 130 rfl) rfl
theorem q414 : (Jvm.Cond.publicMethod ({ cls := "FloatClasses$Floats", name := "gap", desc := "(D)D" } : Jvm.MethodName)) ∈ lw_tbl := lw_at lw_m2 131 rfl
theorem q415 : (Jvm.Cond.code ({ cls := "FloatClasses$Floats", name := "gap", desc := "(D)D" } : Jvm.MethodName) prog_4_method_8_code (3 : Nat) (Option.some Jvm.ClassFile.FieldType.double)) ∈ lw_all := lw_g (lw_at lw_m2 132 rfl) rfl
theorem q416 : (Jvm.Cond.methodLink "FloatClasses$Floats" (35 : Nat) ({ cls := "java/lang/Math", name := "ulp", desc := "(F)F" } : Jvm.MethodName)) ∈ lw_all := lw_g (lw_at lw_m2 133 rfl) rfl
theorem q469 : (Jvm.Cond.selects "FloatClasses$Floats" ({ cls := "FloatClasses$Reals", name := "fit", desc := "(D)D" } : Jvm.MethodName) ({ cls := "FloatClasses$Floats", name := "fit", desc := "(D)D" } : Jvm.MethodName)) ∈ lw_all := lw_g (lw_at lw_m2 186 rfl) rfl
theorem q470 : (Jvm.Cond.unhidden "FloatClasses$Floats" "fit" "(D)D") ∈ lw_tbl := lw_at lw_m2 187 rfl
theorem q471 : (Jvm.Cond.publicMethod ({ cls := "FloatClasses$Floats", name := "fit", desc := "(D)D" } : Jvm.MethodName)) ∈ lw_tbl := lw_at lw_m2 188 rfl
theorem q472 : (Jvm.Cond.unhidden "FloatClasses$Floats" "over" "(DD)D") ∈ lw_tbl := lw_at lw_m2 189 rfl
theorem q473 : (Jvm.Cond.unhidden "FloatClasses$Floats" "one" "(ID)D") ∈ lw_tbl := lw_at lw_m2 190 rfl
theorem q495 : (Jvm.Cond.unhidden "FloatClasses$Floats" "plus" "(DD)D") ∈ lw_tbl := lw_at lw_m2 212 rfl
theorem q504 : (Jvm.Cond.unhidden "FloatClasses$Floats" "minus" "(DD)D") ∈ lw_tbl := lw_at lw_m2 221 rfl
theorem q513 : (Jvm.Cond.unhidden "FloatClasses$Floats" "times" "(DD)D") ∈ lw_tbl := lw_at lw_m2 230 rfl
theorem q522 : (Jvm.Cond.unhidden "FloatClasses$Floats" "rest" "(DD)D") ∈ lw_tbl := lw_at lw_m2 239 rfl
theorem q523 : (Jvm.Cond.unhidden "FloatClasses$Floats" "two" "(IDD)D") ∈ lw_tbl := lw_at lw_m3 0 rfl
theorem q548 : (Jvm.Cond.unhidden "FloatClasses$Floats" "joined" "(DDD)D") ∈ lw_tbl := lw_at lw_m3 25 rfl
theorem q570 : (Jvm.Cond.unhidden "FloatClasses$Floats" "power" "(DI)D") ∈ lw_tbl := lw_at lw_m3 47 rfl
theorem q904 : (Jvm.Cond.instantiable "FloatClasses$Floats" (0 : Nat)) ∈ lw_all := lw_g (lw_at lw_m4 141 rfl) rfl
theorem q906 : (Jvm.Cond.instanceMethod ({ cls := "FloatClasses$Floats", name := "<init>", desc := "()V" } : Jvm.MethodName)) ∈ lw_all := lw_g (lw_at lw_m4 143 rfl) rfl
theorem q907 : (Jvm.Cond.code ({ cls := "FloatClasses$Floats", name := "<init>", desc := "()V" } : Jvm.MethodName) prog_4_method_1_code (1 : Nat) (Option.none : Option Jvm.ClassFile.FieldType)) ∈ lw_all := lw_g (lw_at lw_m4 144 rfl) rfl
theorem q908 : (Jvm.Cond.methodLinkNest "FloatClasses$Floats" (1 : Nat) ({ cls := "FloatClasses$Doubles", name := "<init>", desc := "()V" } : Jvm.MethodName) "FloatClasses") ∈ lw_tbl := lw_at lw_m4 145 rfl
/-! FloatClasses$Natural -/
set_option maxRecDepth 100000
def RX3 : String := "FloatClasses$Natural"
def TX3 : u_T := fun k => match k with
  | 0 => ("FloatClasses$Natural", "limbs", "[I", true)
  | _ => ("FloatClasses$Natural", "carry", "J", false)
def tyX3 : Nat → FieldType := fun k => match k with
  | 0 => .array .int
  | _ => .long
abbrev wsX30 : List Cond := u_ws RX3 TX3 2
theorem nmX3 : ∀ a, a < 2 → ∀ b, b < 2 → a ≠ b → (TX3 a).2.1 ≠ (TX3 b).2.1 := by decide +kernel
theorem tyX3_ok : ∀ k, k < 2 → parseFieldDescriptor (TX3 k).2.2.1 = some (tyX3 k) := by decide +kernel
abbrev cX3_set : ByteArray := prog_6_method_2_code
def yX3_set : MethodName := ⟨RX3, "set", "(J)V"⟩
def dkwX3_set_1 : List UInt8 := [180, 0, 9, 3, 31, 136, 79, 42, 180, 0, 9, 4, 31, 16, 32, 125, 136, 79, 177]
abbrev dktX3_set_1 : List UInt8 := dkwX3_set_1 ++ []
def dkwX3_set_0 : List UInt8 := [5, 62, 29, 16, 64, 162, 0, 16, 42, 180, 0, 9, 29, 3, 79, 132, 3, 1, 167, 255, 240, 42]
abbrev dktX3_set_0 : List UInt8 := dkwX3_set_0 ++ dktX3_set_1
theorem dksX3_set_0 : cX3_set.data.toList.drop 0 = dktX3_set_0 := by decide +kernel
theorem dksX3_set_1 : cX3_set.data.toList.drop 22 = dktX3_set_1 := dk_seg dksX3_set_0 22 rfl rfl
theorem dX3_set_0 : decode cX3_set 0 = .ok (.iconst 2, 1) := dk_5 (dk_at dksX3_set_0 0 rfl rfl)
theorem dX3_set_1 : decode cX3_set 1 = .ok (.istore_n 3, 1) := dk_62 (dk_at dksX3_set_0 1 rfl rfl)
theorem dX3_set_2 : decode cX3_set 2 = .ok (.iload_n 3, 1) := dk_29 (dk_at dksX3_set_0 2 rfl rfl)
theorem dX3_set_3 : decode cX3_set 3 = .ok (.bipush 64, 2) := dk_16 64 (dk_at dksX3_set_0 3 rfl rfl)
theorem dX3_set_5 : decode cX3_set 5 = .ok (.if_icmp .ge 16, 3) := dk_162 0 16 (dk_at dksX3_set_0 5 rfl rfl)
theorem dX3_set_8 : decode cX3_set 8 = .ok (.aload_n 0, 1) := dk_42 (dk_at dksX3_set_0 8 rfl rfl)
theorem dX3_set_9 : decode cX3_set 9 = .ok (.getfield 9, 3) := dk_180 0 9 (dk_at dksX3_set_0 9 rfl rfl)
theorem dX3_set_12 : decode cX3_set 12 = .ok (.iload_n 3, 1) := dk_29 (dk_at dksX3_set_0 12 rfl rfl)
theorem dX3_set_13 : decode cX3_set 13 = .ok (.iconst 0, 1) := dk_3 (dk_at dksX3_set_0 13 rfl rfl)
theorem dX3_set_14 : decode cX3_set 14 = .ok (.iastore, 1) := dk_79 (dk_at dksX3_set_0 14 rfl rfl)
theorem dX3_set_15 : decode cX3_set 15 = .ok (.iinc 3 1, 3) := dk_132 3 1 (dk_at dksX3_set_0 15 rfl rfl)
theorem dX3_set_18 : decode cX3_set 18 = .ok (.goto (-16), 3) := dk_167 255 240 (dk_at dksX3_set_0 18 rfl rfl)
theorem dX3_set_21 : decode cX3_set 21 = .ok (.aload_n 0, 1) := dk_42 (dk_at dksX3_set_0 21 rfl rfl)
theorem dX3_set_22 : decode cX3_set 22 = .ok (.getfield 9, 3) := dk_180 0 9 (dk_at dksX3_set_1 0 rfl rfl)
theorem dX3_set_25 : decode cX3_set 25 = .ok (.iconst 0, 1) := dk_3 (dk_at dksX3_set_1 3 rfl rfl)
theorem dX3_set_26 : decode cX3_set 26 = .ok (.lload_n 1, 1) := dk_31 (dk_at dksX3_set_1 4 rfl rfl)
theorem dX3_set_27 : decode cX3_set 27 = .ok (.l2i, 1) := dk_136 (dk_at dksX3_set_1 5 rfl rfl)
theorem dX3_set_28 : decode cX3_set 28 = .ok (.iastore, 1) := dk_79 (dk_at dksX3_set_1 6 rfl rfl)
theorem dX3_set_29 : decode cX3_set 29 = .ok (.aload_n 0, 1) := dk_42 (dk_at dksX3_set_1 7 rfl rfl)
theorem dX3_set_30 : decode cX3_set 30 = .ok (.getfield 9, 3) := dk_180 0 9 (dk_at dksX3_set_1 8 rfl rfl)
theorem dX3_set_33 : decode cX3_set 33 = .ok (.iconst 1, 1) := dk_4 (dk_at dksX3_set_1 11 rfl rfl)
theorem dX3_set_34 : decode cX3_set 34 = .ok (.lload_n 1, 1) := dk_31 (dk_at dksX3_set_1 12 rfl rfl)
theorem dX3_set_35 : decode cX3_set 35 = .ok (.bipush 32, 2) := dk_16 32 (dk_at dksX3_set_1 13 rfl rfl)
theorem dX3_set_37 : decode cX3_set 37 = .ok (.lushr, 1) := dk_125 (dk_at dksX3_set_1 15 rfl rfl)
theorem dX3_set_38 : decode cX3_set 38 = .ok (.l2i, 1) := dk_136 (dk_at dksX3_set_1 16 rfl rfl)
theorem dX3_set_39 : decode cX3_set 39 = .ok (.iastore, 1) := dk_79 (dk_at dksX3_set_1 17 rfl rfl)
theorem dX3_set_40 : decode cX3_set 40 = .ok (.return_, 1) := dk_177 (dk_at dksX3_set_1 18 rfl rfl)
abbrev cX3_bits : ByteArray := prog_6_method_9_code
def yX3_bits : MethodName := ⟨RX3, "bits", "()I"⟩
def dkwX3_bits_2 : List UInt8 := [172]
abbrev dktX3_bits_2 : List UInt8 := dkwX3_bits_2 ++ []
def dkwX3_bits_1 : List UInt8 := [156, 0, 7, 3, 167, 0, 20, 16, 32, 27, 104, 16, 32, 96, 42, 180, 0, 9, 27, 46, 184, 0, 31, 100]
abbrev dktX3_bits_1 : List UInt8 := dkwX3_bits_1 ++ dktX3_bits_2
def dkwX3_bits_0 : List UInt8 := [16, 63, 60, 27, 155, 0, 18, 42, 180, 0, 9, 27, 46, 154, 0, 9, 132, 1, 255, 167, 255, 240, 27]
abbrev dktX3_bits_0 : List UInt8 := dkwX3_bits_0 ++ dktX3_bits_1
theorem dksX3_bits_0 : cX3_bits.data.toList.drop 0 = dktX3_bits_0 := by decide +kernel
theorem dksX3_bits_1 : cX3_bits.data.toList.drop 23 = dktX3_bits_1 := dk_seg dksX3_bits_0 23 rfl rfl
theorem dksX3_bits_2 : cX3_bits.data.toList.drop 47 = dktX3_bits_2 := dk_seg dksX3_bits_1 24 rfl rfl
theorem dX3_bits_0 : decode cX3_bits 0 = .ok (.bipush 63, 2) := dk_16 63 (dk_at dksX3_bits_0 0 rfl rfl)
theorem dX3_bits_2 : decode cX3_bits 2 = .ok (.istore_n 1, 1) := dk_60 (dk_at dksX3_bits_0 2 rfl rfl)
theorem dX3_bits_3 : decode cX3_bits 3 = .ok (.iload_n 1, 1) := dk_27 (dk_at dksX3_bits_0 3 rfl rfl)
theorem dX3_bits_4 : decode cX3_bits 4 = .ok (.ifCond .lt 18, 3) := dk_155 0 18 (dk_at dksX3_bits_0 4 rfl rfl)
theorem dX3_bits_7 : decode cX3_bits 7 = .ok (.aload_n 0, 1) := dk_42 (dk_at dksX3_bits_0 7 rfl rfl)
theorem dX3_bits_8 : decode cX3_bits 8 = .ok (.getfield 9, 3) := dk_180 0 9 (dk_at dksX3_bits_0 8 rfl rfl)
theorem dX3_bits_11 : decode cX3_bits 11 = .ok (.iload_n 1, 1) := dk_27 (dk_at dksX3_bits_0 11 rfl rfl)
theorem dX3_bits_12 : decode cX3_bits 12 = .ok (.iaload, 1) := dk_46 (dk_at dksX3_bits_0 12 rfl rfl)
theorem dX3_bits_13 : decode cX3_bits 13 = .ok (.ifCond .ne 9, 3) := dk_154 0 9 (dk_at dksX3_bits_0 13 rfl rfl)
theorem dX3_bits_16 : decode cX3_bits 16 = .ok (.iinc 1 (-1), 3) := dk_132 1 255 (dk_at dksX3_bits_0 16 rfl rfl)
theorem dX3_bits_19 : decode cX3_bits 19 = .ok (.goto (-16), 3) := dk_167 255 240 (dk_at dksX3_bits_0 19 rfl rfl)
theorem dX3_bits_22 : decode cX3_bits 22 = .ok (.iload_n 1, 1) := dk_27 (dk_at dksX3_bits_0 22 rfl rfl)
theorem dX3_bits_23 : decode cX3_bits 23 = .ok (.ifCond .ge 7, 3) := dk_156 0 7 (dk_at dksX3_bits_1 0 rfl rfl)
theorem dX3_bits_26 : decode cX3_bits 26 = .ok (.iconst 0, 1) := dk_3 (dk_at dksX3_bits_1 3 rfl rfl)
theorem dX3_bits_27 : decode cX3_bits 27 = .ok (.goto 20, 3) := dk_167 0 20 (dk_at dksX3_bits_1 4 rfl rfl)
theorem dX3_bits_30 : decode cX3_bits 30 = .ok (.bipush 32, 2) := dk_16 32 (dk_at dksX3_bits_1 7 rfl rfl)
theorem dX3_bits_32 : decode cX3_bits 32 = .ok (.iload_n 1, 1) := dk_27 (dk_at dksX3_bits_1 9 rfl rfl)
theorem dX3_bits_33 : decode cX3_bits 33 = .ok (.imul, 1) := dk_104 (dk_at dksX3_bits_1 10 rfl rfl)
theorem dX3_bits_34 : decode cX3_bits 34 = .ok (.bipush 32, 2) := dk_16 32 (dk_at dksX3_bits_1 11 rfl rfl)
theorem dX3_bits_36 : decode cX3_bits 36 = .ok (.iadd, 1) := dk_96 (dk_at dksX3_bits_1 13 rfl rfl)
theorem dX3_bits_37 : decode cX3_bits 37 = .ok (.aload_n 0, 1) := dk_42 (dk_at dksX3_bits_1 14 rfl rfl)
theorem dX3_bits_38 : decode cX3_bits 38 = .ok (.getfield 9, 3) := dk_180 0 9 (dk_at dksX3_bits_1 15 rfl rfl)
theorem dX3_bits_41 : decode cX3_bits 41 = .ok (.iload_n 1, 1) := dk_27 (dk_at dksX3_bits_1 18 rfl rfl)
theorem dX3_bits_42 : decode cX3_bits 42 = .ok (.iaload, 1) := dk_46 (dk_at dksX3_bits_1 19 rfl rfl)
theorem dX3_bits_43 : decode cX3_bits 43 = .ok (.invokestatic 31, 3) := dk_184 0 31 (dk_at dksX3_bits_1 20 rfl rfl)
theorem dX3_bits_46 : decode cX3_bits 46 = .ok (.isub, 1) := dk_100 (dk_at dksX3_bits_1 23 rfl rfl)
theorem dX3_bits_47 : decode cX3_bits 47 = .ok (.ireturn, 1) := dk_172 (dk_at dksX3_bits_2 0 rfl rfl)
abbrev cX3_left : ByteArray := prog_6_method_5_code
def yX3_left : MethodName := ⟨RX3, "left", "(I)V"⟩
def dkwX3_left_4 : List UInt8 := [125, 136, 79, 132, 4, 255, 167, 255, 173, 177]
abbrev dktX3_left_4 : List UInt8 := dkwX3_left_4 ++ []
def dkwX3_left_3 : List UInt8 := [167, 0, 4, 9, 55, 7, 42, 180, 0, 9, 21, 4, 22, 5, 16, 32, 121, 22, 7, 129, 29, 121, 16, 32]
abbrev dktX3_left_3 : List UInt8 := dkwX3_left_3 ++ dktX3_left_4
def dkwX3_left_2 : List UInt8 := [21, 4, 28, 164, 0, 22, 42, 180, 0, 9, 21, 4, 28, 100, 4, 100, 46, 133, 20, 0, 19, 127]
abbrev dktX3_left_2 : List UInt8 := dkwX3_left_2 ++ dktX3_left_3
def dkwX3_left_1 : List UInt8 := [161, 0, 20, 42, 180, 0, 9, 21, 4, 28, 100, 46, 133, 20, 0, 19, 127, 167, 0, 4, 9, 55, 5]
abbrev dktX3_left_1 : List UInt8 := dkwX3_left_1 ++ dktX3_left_2
def dkwX3_left_0 : List UInt8 := [27, 16, 32, 108, 61, 27, 16, 32, 112, 62, 16, 63, 54, 4, 21, 4, 155, 0, 84, 21, 4, 28]
abbrev dktX3_left_0 : List UInt8 := dkwX3_left_0 ++ dktX3_left_1
theorem dksX3_left_0 : cX3_left.data.toList.drop 0 = dktX3_left_0 := by decide +kernel
theorem dksX3_left_1 : cX3_left.data.toList.drop 22 = dktX3_left_1 := dk_seg dksX3_left_0 22 rfl rfl
theorem dksX3_left_2 : cX3_left.data.toList.drop 45 = dktX3_left_2 := dk_seg dksX3_left_1 23 rfl rfl
theorem dksX3_left_3 : cX3_left.data.toList.drop 67 = dktX3_left_3 := dk_seg dksX3_left_2 22 rfl rfl
theorem dksX3_left_4 : cX3_left.data.toList.drop 91 = dktX3_left_4 := dk_seg dksX3_left_3 24 rfl rfl
theorem dX3_left_0 : decode cX3_left 0 = .ok (.iload_n 1, 1) := dk_27 (dk_at dksX3_left_0 0 rfl rfl)
theorem dX3_left_1 : decode cX3_left 1 = .ok (.bipush 32, 2) := dk_16 32 (dk_at dksX3_left_0 1 rfl rfl)
theorem dX3_left_3 : decode cX3_left 3 = .ok (.idiv, 1) := dk_108 (dk_at dksX3_left_0 3 rfl rfl)
theorem dX3_left_4 : decode cX3_left 4 = .ok (.istore_n 2, 1) := dk_61 (dk_at dksX3_left_0 4 rfl rfl)
theorem dX3_left_5 : decode cX3_left 5 = .ok (.iload_n 1, 1) := dk_27 (dk_at dksX3_left_0 5 rfl rfl)
theorem dX3_left_6 : decode cX3_left 6 = .ok (.bipush 32, 2) := dk_16 32 (dk_at dksX3_left_0 6 rfl rfl)
theorem dX3_left_8 : decode cX3_left 8 = .ok (.irem, 1) := dk_112 (dk_at dksX3_left_0 8 rfl rfl)
theorem dX3_left_9 : decode cX3_left 9 = .ok (.istore_n 3, 1) := dk_62 (dk_at dksX3_left_0 9 rfl rfl)
theorem dX3_left_10 : decode cX3_left 10 = .ok (.bipush 63, 2) := dk_16 63 (dk_at dksX3_left_0 10 rfl rfl)
theorem dX3_left_12 : decode cX3_left 12 = .ok (.istore 4, 2) := dk_54 4 (dk_at dksX3_left_0 12 rfl rfl)
theorem dX3_left_14 : decode cX3_left 14 = .ok (.iload 4, 2) := dk_21 4 (dk_at dksX3_left_0 14 rfl rfl)
theorem dX3_left_16 : decode cX3_left 16 = .ok (.ifCond .lt 84, 3) := dk_155 0 84 (dk_at dksX3_left_0 16 rfl rfl)
theorem dX3_left_19 : decode cX3_left 19 = .ok (.iload 4, 2) := dk_21 4 (dk_at dksX3_left_0 19 rfl rfl)
theorem dX3_left_21 : decode cX3_left 21 = .ok (.iload_n 2, 1) := dk_28 (dk_at dksX3_left_0 21 rfl rfl)
theorem dX3_left_22 : decode cX3_left 22 = .ok (.if_icmp .lt 20, 3) := dk_161 0 20 (dk_at dksX3_left_1 0 rfl rfl)
theorem dX3_left_25 : decode cX3_left 25 = .ok (.aload_n 0, 1) := dk_42 (dk_at dksX3_left_1 3 rfl rfl)
theorem dX3_left_26 : decode cX3_left 26 = .ok (.getfield 9, 3) := dk_180 0 9 (dk_at dksX3_left_1 4 rfl rfl)
theorem dX3_left_29 : decode cX3_left 29 = .ok (.iload 4, 2) := dk_21 4 (dk_at dksX3_left_1 7 rfl rfl)
theorem dX3_left_31 : decode cX3_left 31 = .ok (.iload_n 2, 1) := dk_28 (dk_at dksX3_left_1 9 rfl rfl)
theorem dX3_left_32 : decode cX3_left 32 = .ok (.isub, 1) := dk_100 (dk_at dksX3_left_1 10 rfl rfl)
theorem dX3_left_33 : decode cX3_left 33 = .ok (.iaload, 1) := dk_46 (dk_at dksX3_left_1 11 rfl rfl)
theorem dX3_left_34 : decode cX3_left 34 = .ok (.i2l, 1) := dk_133 (dk_at dksX3_left_1 12 rfl rfl)
theorem dX3_left_35 : decode cX3_left 35 = .ok (.ldc2_w 19, 3) := dk_20 0 19 (dk_at dksX3_left_1 13 rfl rfl)
theorem dX3_left_38 : decode cX3_left 38 = .ok (.land, 1) := dk_127 (dk_at dksX3_left_1 16 rfl rfl)
theorem dX3_left_39 : decode cX3_left 39 = .ok (.goto 4, 3) := dk_167 0 4 (dk_at dksX3_left_1 17 rfl rfl)
theorem dX3_left_42 : decode cX3_left 42 = .ok (.lconst 0, 1) := dk_9 (dk_at dksX3_left_1 20 rfl rfl)
theorem dX3_left_43 : decode cX3_left 43 = .ok (.lstore 5, 2) := dk_55 5 (dk_at dksX3_left_1 21 rfl rfl)
theorem dX3_left_45 : decode cX3_left 45 = .ok (.iload 4, 2) := dk_21 4 (dk_at dksX3_left_2 0 rfl rfl)
theorem dX3_left_47 : decode cX3_left 47 = .ok (.iload_n 2, 1) := dk_28 (dk_at dksX3_left_2 2 rfl rfl)
theorem dX3_left_48 : decode cX3_left 48 = .ok (.if_icmp .le 22, 3) := dk_164 0 22 (dk_at dksX3_left_2 3 rfl rfl)
theorem dX3_left_51 : decode cX3_left 51 = .ok (.aload_n 0, 1) := dk_42 (dk_at dksX3_left_2 6 rfl rfl)
theorem dX3_left_52 : decode cX3_left 52 = .ok (.getfield 9, 3) := dk_180 0 9 (dk_at dksX3_left_2 7 rfl rfl)
theorem dX3_left_55 : decode cX3_left 55 = .ok (.iload 4, 2) := dk_21 4 (dk_at dksX3_left_2 10 rfl rfl)
theorem dX3_left_57 : decode cX3_left 57 = .ok (.iload_n 2, 1) := dk_28 (dk_at dksX3_left_2 12 rfl rfl)
theorem dX3_left_58 : decode cX3_left 58 = .ok (.isub, 1) := dk_100 (dk_at dksX3_left_2 13 rfl rfl)
theorem dX3_left_59 : decode cX3_left 59 = .ok (.iconst 1, 1) := dk_4 (dk_at dksX3_left_2 14 rfl rfl)
theorem dX3_left_60 : decode cX3_left 60 = .ok (.isub, 1) := dk_100 (dk_at dksX3_left_2 15 rfl rfl)
theorem dX3_left_61 : decode cX3_left 61 = .ok (.iaload, 1) := dk_46 (dk_at dksX3_left_2 16 rfl rfl)
theorem dX3_left_62 : decode cX3_left 62 = .ok (.i2l, 1) := dk_133 (dk_at dksX3_left_2 17 rfl rfl)
theorem dX3_left_63 : decode cX3_left 63 = .ok (.ldc2_w 19, 3) := dk_20 0 19 (dk_at dksX3_left_2 18 rfl rfl)
theorem dX3_left_66 : decode cX3_left 66 = .ok (.land, 1) := dk_127 (dk_at dksX3_left_2 21 rfl rfl)
theorem dX3_left_67 : decode cX3_left 67 = .ok (.goto 4, 3) := dk_167 0 4 (dk_at dksX3_left_3 0 rfl rfl)
theorem dX3_left_70 : decode cX3_left 70 = .ok (.lconst 0, 1) := dk_9 (dk_at dksX3_left_3 3 rfl rfl)
theorem dX3_left_71 : decode cX3_left 71 = .ok (.lstore 7, 2) := dk_55 7 (dk_at dksX3_left_3 4 rfl rfl)
theorem dX3_left_73 : decode cX3_left 73 = .ok (.aload_n 0, 1) := dk_42 (dk_at dksX3_left_3 6 rfl rfl)
theorem dX3_left_74 : decode cX3_left 74 = .ok (.getfield 9, 3) := dk_180 0 9 (dk_at dksX3_left_3 7 rfl rfl)
theorem dX3_left_77 : decode cX3_left 77 = .ok (.iload 4, 2) := dk_21 4 (dk_at dksX3_left_3 10 rfl rfl)
theorem dX3_left_79 : decode cX3_left 79 = .ok (.lload 5, 2) := dk_22 5 (dk_at dksX3_left_3 12 rfl rfl)
theorem dX3_left_81 : decode cX3_left 81 = .ok (.bipush 32, 2) := dk_16 32 (dk_at dksX3_left_3 14 rfl rfl)
theorem dX3_left_83 : decode cX3_left 83 = .ok (.lshl, 1) := dk_121 (dk_at dksX3_left_3 16 rfl rfl)
theorem dX3_left_84 : decode cX3_left 84 = .ok (.lload 7, 2) := dk_22 7 (dk_at dksX3_left_3 17 rfl rfl)
theorem dX3_left_86 : decode cX3_left 86 = .ok (.lor, 1) := dk_129 (dk_at dksX3_left_3 19 rfl rfl)
theorem dX3_left_87 : decode cX3_left 87 = .ok (.iload_n 3, 1) := dk_29 (dk_at dksX3_left_3 20 rfl rfl)
theorem dX3_left_88 : decode cX3_left 88 = .ok (.lshl, 1) := dk_121 (dk_at dksX3_left_3 21 rfl rfl)
theorem dX3_left_89 : decode cX3_left 89 = .ok (.bipush 32, 2) := dk_16 32 (dk_at dksX3_left_3 22 rfl rfl)
theorem dX3_left_91 : decode cX3_left 91 = .ok (.lushr, 1) := dk_125 (dk_at dksX3_left_4 0 rfl rfl)
theorem dX3_left_92 : decode cX3_left 92 = .ok (.l2i, 1) := dk_136 (dk_at dksX3_left_4 1 rfl rfl)
theorem dX3_left_93 : decode cX3_left 93 = .ok (.iastore, 1) := dk_79 (dk_at dksX3_left_4 2 rfl rfl)
theorem dX3_left_94 : decode cX3_left 94 = .ok (.iinc 4 (-1), 3) := dk_132 4 255 (dk_at dksX3_left_4 3 rfl rfl)
theorem dX3_left_97 : decode cX3_left 97 = .ok (.goto (-83), 3) := dk_167 255 173 (dk_at dksX3_left_4 6 rfl rfl)
theorem dX3_left_100 : decode cX3_left 100 = .ok (.return_, 1) := dk_177 (dk_at dksX3_left_4 9 rfl rfl)
abbrev cX3_half : ByteArray := prog_6_method_6_code
def yX3_half : MethodName := ⟨RX3, "half", "()V"⟩
def dkwX3_half_2 : List UInt8 := [132, 1, 1, 167, 255, 207, 177]
abbrev dktX3_half_2 : List UInt8 := dkwX3_half_2 ++ []
def dkwX3_half_1 : List UInt8 := [167, 0, 4, 3, 61, 42, 180, 0, 9, 27, 42, 180, 0, 9, 27, 46, 4, 124, 28, 16, 31, 120, 128, 79]
abbrev dktX3_half_1 : List UInt8 := dkwX3_half_1 ++ dktX3_half_2
def dkwX3_half_0 : List UInt8 := [3, 60, 27, 16, 64, 162, 0, 49, 27, 4, 96, 16, 64, 162, 0, 14, 42, 180, 0, 9, 27, 4, 96, 46]
abbrev dktX3_half_0 : List UInt8 := dkwX3_half_0 ++ dktX3_half_1
theorem dksX3_half_0 : cX3_half.data.toList.drop 0 = dktX3_half_0 := by decide +kernel
theorem dksX3_half_1 : cX3_half.data.toList.drop 24 = dktX3_half_1 := dk_seg dksX3_half_0 24 rfl rfl
theorem dksX3_half_2 : cX3_half.data.toList.drop 48 = dktX3_half_2 := dk_seg dksX3_half_1 24 rfl rfl
theorem dX3_half_0 : decode cX3_half 0 = .ok (.iconst 0, 1) := dk_3 (dk_at dksX3_half_0 0 rfl rfl)
theorem dX3_half_1 : decode cX3_half 1 = .ok (.istore_n 1, 1) := dk_60 (dk_at dksX3_half_0 1 rfl rfl)
theorem dX3_half_2 : decode cX3_half 2 = .ok (.iload_n 1, 1) := dk_27 (dk_at dksX3_half_0 2 rfl rfl)
theorem dX3_half_3 : decode cX3_half 3 = .ok (.bipush 64, 2) := dk_16 64 (dk_at dksX3_half_0 3 rfl rfl)
theorem dX3_half_5 : decode cX3_half 5 = .ok (.if_icmp .ge 49, 3) := dk_162 0 49 (dk_at dksX3_half_0 5 rfl rfl)
theorem dX3_half_8 : decode cX3_half 8 = .ok (.iload_n 1, 1) := dk_27 (dk_at dksX3_half_0 8 rfl rfl)
theorem dX3_half_9 : decode cX3_half 9 = .ok (.iconst 1, 1) := dk_4 (dk_at dksX3_half_0 9 rfl rfl)
theorem dX3_half_10 : decode cX3_half 10 = .ok (.iadd, 1) := dk_96 (dk_at dksX3_half_0 10 rfl rfl)
theorem dX3_half_11 : decode cX3_half 11 = .ok (.bipush 64, 2) := dk_16 64 (dk_at dksX3_half_0 11 rfl rfl)
theorem dX3_half_13 : decode cX3_half 13 = .ok (.if_icmp .ge 14, 3) := dk_162 0 14 (dk_at dksX3_half_0 13 rfl rfl)
theorem dX3_half_16 : decode cX3_half 16 = .ok (.aload_n 0, 1) := dk_42 (dk_at dksX3_half_0 16 rfl rfl)
theorem dX3_half_17 : decode cX3_half 17 = .ok (.getfield 9, 3) := dk_180 0 9 (dk_at dksX3_half_0 17 rfl rfl)
theorem dX3_half_20 : decode cX3_half 20 = .ok (.iload_n 1, 1) := dk_27 (dk_at dksX3_half_0 20 rfl rfl)
theorem dX3_half_21 : decode cX3_half 21 = .ok (.iconst 1, 1) := dk_4 (dk_at dksX3_half_0 21 rfl rfl)
theorem dX3_half_22 : decode cX3_half 22 = .ok (.iadd, 1) := dk_96 (dk_at dksX3_half_0 22 rfl rfl)
theorem dX3_half_23 : decode cX3_half 23 = .ok (.iaload, 1) := dk_46 (dk_at dksX3_half_0 23 rfl rfl)
theorem dX3_half_24 : decode cX3_half 24 = .ok (.goto 4, 3) := dk_167 0 4 (dk_at dksX3_half_1 0 rfl rfl)
theorem dX3_half_27 : decode cX3_half 27 = .ok (.iconst 0, 1) := dk_3 (dk_at dksX3_half_1 3 rfl rfl)
theorem dX3_half_28 : decode cX3_half 28 = .ok (.istore_n 2, 1) := dk_61 (dk_at dksX3_half_1 4 rfl rfl)
theorem dX3_half_29 : decode cX3_half 29 = .ok (.aload_n 0, 1) := dk_42 (dk_at dksX3_half_1 5 rfl rfl)
theorem dX3_half_30 : decode cX3_half 30 = .ok (.getfield 9, 3) := dk_180 0 9 (dk_at dksX3_half_1 6 rfl rfl)
theorem dX3_half_33 : decode cX3_half 33 = .ok (.iload_n 1, 1) := dk_27 (dk_at dksX3_half_1 9 rfl rfl)
theorem dX3_half_34 : decode cX3_half 34 = .ok (.aload_n 0, 1) := dk_42 (dk_at dksX3_half_1 10 rfl rfl)
theorem dX3_half_35 : decode cX3_half 35 = .ok (.getfield 9, 3) := dk_180 0 9 (dk_at dksX3_half_1 11 rfl rfl)
theorem dX3_half_38 : decode cX3_half 38 = .ok (.iload_n 1, 1) := dk_27 (dk_at dksX3_half_1 14 rfl rfl)
theorem dX3_half_39 : decode cX3_half 39 = .ok (.iaload, 1) := dk_46 (dk_at dksX3_half_1 15 rfl rfl)
theorem dX3_half_40 : decode cX3_half 40 = .ok (.iconst 1, 1) := dk_4 (dk_at dksX3_half_1 16 rfl rfl)
theorem dX3_half_41 : decode cX3_half 41 = .ok (.iushr, 1) := dk_124 (dk_at dksX3_half_1 17 rfl rfl)
theorem dX3_half_42 : decode cX3_half 42 = .ok (.iload_n 2, 1) := dk_28 (dk_at dksX3_half_1 18 rfl rfl)
theorem dX3_half_43 : decode cX3_half 43 = .ok (.bipush 31, 2) := dk_16 31 (dk_at dksX3_half_1 19 rfl rfl)
theorem dX3_half_45 : decode cX3_half 45 = .ok (.ishl, 1) := dk_120 (dk_at dksX3_half_1 21 rfl rfl)
theorem dX3_half_46 : decode cX3_half 46 = .ok (.ior, 1) := dk_128 (dk_at dksX3_half_1 22 rfl rfl)
theorem dX3_half_47 : decode cX3_half 47 = .ok (.iastore, 1) := dk_79 (dk_at dksX3_half_1 23 rfl rfl)
theorem dX3_half_48 : decode cX3_half 48 = .ok (.iinc 1 1, 3) := dk_132 1 1 (dk_at dksX3_half_2 0 rfl rfl)
theorem dX3_half_51 : decode cX3_half 51 = .ok (.goto (-49), 3) := dk_167 255 207 (dk_at dksX3_half_2 3 rfl rfl)
theorem dX3_half_54 : decode cX3_half 54 = .ok (.return_, 1) := dk_177 (dk_at dksX3_half_2 6 rfl rfl)
abbrev cX3_isBelow : ByteArray := prog_6_method_7_code
def yX3_isBelow : MethodName := ⟨RX3, "isBelow", "(LFloatClasses$Natural;)Z"⟩
def dkwX3_isBelow_2 : List UInt8 := [4, 167, 0, 4, 3, 172]
abbrev dktX3_isBelow_2 : List UInt8 := dkwX3_isBelow_2 ++ []
def dkwX3_isBelow_1 : List UInt8 := [132, 2, 255, 167, 255, 234, 42, 180, 0, 9, 28, 46, 43, 180, 0, 9, 28, 46, 184, 0, 25, 156, 0, 7]
abbrev dktX3_isBelow_1 : List UInt8 := dkwX3_isBelow_1 ++ dktX3_isBelow_2
def dkwX3_isBelow_0 : List UInt8 := [16, 63, 61, 28, 158, 0, 24, 42, 180, 0, 9, 28, 46, 43, 180, 0, 9, 28, 46, 160, 0, 9]
abbrev dktX3_isBelow_0 : List UInt8 := dkwX3_isBelow_0 ++ dktX3_isBelow_1
theorem dksX3_isBelow_0 : cX3_isBelow.data.toList.drop 0 = dktX3_isBelow_0 := by decide +kernel
theorem dksX3_isBelow_1 : cX3_isBelow.data.toList.drop 22 = dktX3_isBelow_1 := dk_seg dksX3_isBelow_0 22 rfl rfl
theorem dksX3_isBelow_2 : cX3_isBelow.data.toList.drop 46 = dktX3_isBelow_2 := dk_seg dksX3_isBelow_1 24 rfl rfl
theorem dX3_isBelow_0 : decode cX3_isBelow 0 = .ok (.bipush 63, 2) := dk_16 63 (dk_at dksX3_isBelow_0 0 rfl rfl)
theorem dX3_isBelow_2 : decode cX3_isBelow 2 = .ok (.istore_n 2, 1) := dk_61 (dk_at dksX3_isBelow_0 2 rfl rfl)
theorem dX3_isBelow_3 : decode cX3_isBelow 3 = .ok (.iload_n 2, 1) := dk_28 (dk_at dksX3_isBelow_0 3 rfl rfl)
theorem dX3_isBelow_4 : decode cX3_isBelow 4 = .ok (.ifCond .le 24, 3) := dk_158 0 24 (dk_at dksX3_isBelow_0 4 rfl rfl)
theorem dX3_isBelow_7 : decode cX3_isBelow 7 = .ok (.aload_n 0, 1) := dk_42 (dk_at dksX3_isBelow_0 7 rfl rfl)
theorem dX3_isBelow_8 : decode cX3_isBelow 8 = .ok (.getfield 9, 3) := dk_180 0 9 (dk_at dksX3_isBelow_0 8 rfl rfl)
theorem dX3_isBelow_11 : decode cX3_isBelow 11 = .ok (.iload_n 2, 1) := dk_28 (dk_at dksX3_isBelow_0 11 rfl rfl)
theorem dX3_isBelow_12 : decode cX3_isBelow 12 = .ok (.iaload, 1) := dk_46 (dk_at dksX3_isBelow_0 12 rfl rfl)
theorem dX3_isBelow_13 : decode cX3_isBelow 13 = .ok (.aload_n 1, 1) := dk_43 (dk_at dksX3_isBelow_0 13 rfl rfl)
theorem dX3_isBelow_14 : decode cX3_isBelow 14 = .ok (.getfield 9, 3) := dk_180 0 9 (dk_at dksX3_isBelow_0 14 rfl rfl)
theorem dX3_isBelow_17 : decode cX3_isBelow 17 = .ok (.iload_n 2, 1) := dk_28 (dk_at dksX3_isBelow_0 17 rfl rfl)
theorem dX3_isBelow_18 : decode cX3_isBelow 18 = .ok (.iaload, 1) := dk_46 (dk_at dksX3_isBelow_0 18 rfl rfl)
theorem dX3_isBelow_19 : decode cX3_isBelow 19 = .ok (.if_icmp .ne 9, 3) := dk_160 0 9 (dk_at dksX3_isBelow_0 19 rfl rfl)
theorem dX3_isBelow_22 : decode cX3_isBelow 22 = .ok (.iinc 2 (-1), 3) := dk_132 2 255 (dk_at dksX3_isBelow_1 0 rfl rfl)
theorem dX3_isBelow_25 : decode cX3_isBelow 25 = .ok (.goto (-22), 3) := dk_167 255 234 (dk_at dksX3_isBelow_1 3 rfl rfl)
theorem dX3_isBelow_28 : decode cX3_isBelow 28 = .ok (.aload_n 0, 1) := dk_42 (dk_at dksX3_isBelow_1 6 rfl rfl)
theorem dX3_isBelow_29 : decode cX3_isBelow 29 = .ok (.getfield 9, 3) := dk_180 0 9 (dk_at dksX3_isBelow_1 7 rfl rfl)
theorem dX3_isBelow_32 : decode cX3_isBelow 32 = .ok (.iload_n 2, 1) := dk_28 (dk_at dksX3_isBelow_1 10 rfl rfl)
theorem dX3_isBelow_33 : decode cX3_isBelow 33 = .ok (.iaload, 1) := dk_46 (dk_at dksX3_isBelow_1 11 rfl rfl)
theorem dX3_isBelow_34 : decode cX3_isBelow 34 = .ok (.aload_n 1, 1) := dk_43 (dk_at dksX3_isBelow_1 12 rfl rfl)
theorem dX3_isBelow_35 : decode cX3_isBelow 35 = .ok (.getfield 9, 3) := dk_180 0 9 (dk_at dksX3_isBelow_1 13 rfl rfl)
theorem dX3_isBelow_38 : decode cX3_isBelow 38 = .ok (.iload_n 2, 1) := dk_28 (dk_at dksX3_isBelow_1 16 rfl rfl)
theorem dX3_isBelow_39 : decode cX3_isBelow 39 = .ok (.iaload, 1) := dk_46 (dk_at dksX3_isBelow_1 17 rfl rfl)
theorem dX3_isBelow_40 : decode cX3_isBelow 40 = .ok (.invokestatic 25, 3) := dk_184 0 25 (dk_at dksX3_isBelow_1 18 rfl rfl)
theorem dX3_isBelow_43 : decode cX3_isBelow 43 = .ok (.ifCond .ge 7, 3) := dk_156 0 7 (dk_at dksX3_isBelow_1 21 rfl rfl)
theorem dX3_isBelow_46 : decode cX3_isBelow 46 = .ok (.iconst 1, 1) := dk_4 (dk_at dksX3_isBelow_2 0 rfl rfl)
theorem dX3_isBelow_47 : decode cX3_isBelow 47 = .ok (.goto 4, 3) := dk_167 0 4 (dk_at dksX3_isBelow_2 1 rfl rfl)
theorem dX3_isBelow_50 : decode cX3_isBelow 50 = .ok (.iconst 0, 1) := dk_3 (dk_at dksX3_isBelow_2 4 rfl rfl)
theorem dX3_isBelow_51 : decode cX3_isBelow 51 = .ok (.ireturn, 1) := dk_172 (dk_at dksX3_isBelow_2 5 rfl rfl)
abbrev cX3_less : ByteArray := prog_6_method_8_code
def yX3_less : MethodName := ⟨RX3, "less", "(LFloatClasses$Natural;)V"⟩
def dkwX3_less_2 : List UInt8 := [136, 79, 42, 33, 16, 32, 123, 181, 0, 15, 132, 2, 1, 167, 255, 202, 177]
abbrev dktX3_less_2 : List UInt8 := dkwX3_less_2 ++ []
def dkwX3_less_1 : List UInt8 := [43, 180, 0, 9, 28, 46, 133, 20, 0, 19, 127, 101, 42, 180, 0, 15, 97, 66, 42, 180, 0, 9, 28, 33]
abbrev dktX3_less_1 : List UInt8 := dkwX3_less_1 ++ dktX3_less_2
def dkwX3_less_0 : List UInt8 := [42, 9, 181, 0, 15, 3, 61, 28, 16, 64, 162, 0, 54, 42, 180, 0, 9, 28, 46, 133, 20, 0, 19, 127]
abbrev dktX3_less_0 : List UInt8 := dkwX3_less_0 ++ dktX3_less_1
theorem dksX3_less_0 : cX3_less.data.toList.drop 0 = dktX3_less_0 := by decide +kernel
theorem dksX3_less_1 : cX3_less.data.toList.drop 24 = dktX3_less_1 := dk_seg dksX3_less_0 24 rfl rfl
theorem dksX3_less_2 : cX3_less.data.toList.drop 48 = dktX3_less_2 := dk_seg dksX3_less_1 24 rfl rfl
theorem dX3_less_0 : decode cX3_less 0 = .ok (.aload_n 0, 1) := dk_42 (dk_at dksX3_less_0 0 rfl rfl)
theorem dX3_less_1 : decode cX3_less 1 = .ok (.lconst 0, 1) := dk_9 (dk_at dksX3_less_0 1 rfl rfl)
theorem dX3_less_2 : decode cX3_less 2 = .ok (.putfield 15, 3) := dk_181 0 15 (dk_at dksX3_less_0 2 rfl rfl)
theorem dX3_less_5 : decode cX3_less 5 = .ok (.iconst 0, 1) := dk_3 (dk_at dksX3_less_0 5 rfl rfl)
theorem dX3_less_6 : decode cX3_less 6 = .ok (.istore_n 2, 1) := dk_61 (dk_at dksX3_less_0 6 rfl rfl)
theorem dX3_less_7 : decode cX3_less 7 = .ok (.iload_n 2, 1) := dk_28 (dk_at dksX3_less_0 7 rfl rfl)
theorem dX3_less_8 : decode cX3_less 8 = .ok (.bipush 64, 2) := dk_16 64 (dk_at dksX3_less_0 8 rfl rfl)
theorem dX3_less_10 : decode cX3_less 10 = .ok (.if_icmp .ge 54, 3) := dk_162 0 54 (dk_at dksX3_less_0 10 rfl rfl)
theorem dX3_less_13 : decode cX3_less 13 = .ok (.aload_n 0, 1) := dk_42 (dk_at dksX3_less_0 13 rfl rfl)
theorem dX3_less_14 : decode cX3_less 14 = .ok (.getfield 9, 3) := dk_180 0 9 (dk_at dksX3_less_0 14 rfl rfl)
theorem dX3_less_17 : decode cX3_less 17 = .ok (.iload_n 2, 1) := dk_28 (dk_at dksX3_less_0 17 rfl rfl)
theorem dX3_less_18 : decode cX3_less 18 = .ok (.iaload, 1) := dk_46 (dk_at dksX3_less_0 18 rfl rfl)
theorem dX3_less_19 : decode cX3_less 19 = .ok (.i2l, 1) := dk_133 (dk_at dksX3_less_0 19 rfl rfl)
theorem dX3_less_20 : decode cX3_less 20 = .ok (.ldc2_w 19, 3) := dk_20 0 19 (dk_at dksX3_less_0 20 rfl rfl)
theorem dX3_less_23 : decode cX3_less 23 = .ok (.land, 1) := dk_127 (dk_at dksX3_less_0 23 rfl rfl)
theorem dX3_less_24 : decode cX3_less 24 = .ok (.aload_n 1, 1) := dk_43 (dk_at dksX3_less_1 0 rfl rfl)
theorem dX3_less_25 : decode cX3_less 25 = .ok (.getfield 9, 3) := dk_180 0 9 (dk_at dksX3_less_1 1 rfl rfl)
theorem dX3_less_28 : decode cX3_less 28 = .ok (.iload_n 2, 1) := dk_28 (dk_at dksX3_less_1 4 rfl rfl)
theorem dX3_less_29 : decode cX3_less 29 = .ok (.iaload, 1) := dk_46 (dk_at dksX3_less_1 5 rfl rfl)
theorem dX3_less_30 : decode cX3_less 30 = .ok (.i2l, 1) := dk_133 (dk_at dksX3_less_1 6 rfl rfl)
theorem dX3_less_31 : decode cX3_less 31 = .ok (.ldc2_w 19, 3) := dk_20 0 19 (dk_at dksX3_less_1 7 rfl rfl)
theorem dX3_less_34 : decode cX3_less 34 = .ok (.land, 1) := dk_127 (dk_at dksX3_less_1 10 rfl rfl)
theorem dX3_less_35 : decode cX3_less 35 = .ok (.lsub, 1) := dk_101 (dk_at dksX3_less_1 11 rfl rfl)
theorem dX3_less_36 : decode cX3_less 36 = .ok (.aload_n 0, 1) := dk_42 (dk_at dksX3_less_1 12 rfl rfl)
theorem dX3_less_37 : decode cX3_less 37 = .ok (.getfield 15, 3) := dk_180 0 15 (dk_at dksX3_less_1 13 rfl rfl)
theorem dX3_less_40 : decode cX3_less 40 = .ok (.ladd, 1) := dk_97 (dk_at dksX3_less_1 16 rfl rfl)
theorem dX3_less_41 : decode cX3_less 41 = .ok (.lstore_n 3, 1) := dk_66 (dk_at dksX3_less_1 17 rfl rfl)
theorem dX3_less_42 : decode cX3_less 42 = .ok (.aload_n 0, 1) := dk_42 (dk_at dksX3_less_1 18 rfl rfl)
theorem dX3_less_43 : decode cX3_less 43 = .ok (.getfield 9, 3) := dk_180 0 9 (dk_at dksX3_less_1 19 rfl rfl)
theorem dX3_less_46 : decode cX3_less 46 = .ok (.iload_n 2, 1) := dk_28 (dk_at dksX3_less_1 22 rfl rfl)
theorem dX3_less_47 : decode cX3_less 47 = .ok (.lload_n 3, 1) := dk_33 (dk_at dksX3_less_1 23 rfl rfl)
theorem dX3_less_48 : decode cX3_less 48 = .ok (.l2i, 1) := dk_136 (dk_at dksX3_less_2 0 rfl rfl)
theorem dX3_less_49 : decode cX3_less 49 = .ok (.iastore, 1) := dk_79 (dk_at dksX3_less_2 1 rfl rfl)
theorem dX3_less_50 : decode cX3_less 50 = .ok (.aload_n 0, 1) := dk_42 (dk_at dksX3_less_2 2 rfl rfl)
theorem dX3_less_51 : decode cX3_less 51 = .ok (.lload_n 3, 1) := dk_33 (dk_at dksX3_less_2 3 rfl rfl)
theorem dX3_less_52 : decode cX3_less 52 = .ok (.bipush 32, 2) := dk_16 32 (dk_at dksX3_less_2 4 rfl rfl)
theorem dX3_less_54 : decode cX3_less 54 = .ok (.lshr, 1) := dk_123 (dk_at dksX3_less_2 6 rfl rfl)
theorem dX3_less_55 : decode cX3_less 55 = .ok (.putfield 15, 3) := dk_181 0 15 (dk_at dksX3_less_2 7 rfl rfl)
theorem dX3_less_58 : decode cX3_less 58 = .ok (.iinc 2 1, 3) := dk_132 2 1 (dk_at dksX3_less_2 10 rfl rfl)
theorem dX3_less_61 : decode cX3_less 61 = .ok (.goto (-54), 3) := dk_167 255 202 (dk_at dksX3_less_2 13 rfl rfl)
theorem dX3_less_64 : decode cX3_less 64 = .ok (.return_, 1) := dk_177 (dk_at dksX3_less_2 16 rfl rfl)
abbrev cX3_times : ByteArray := prog_6_method_4_code
def yX3_times : MethodName := ⟨RX3, "times", "(II)V"⟩
def dkwX3_times_2 : List UInt8 := [167, 255, 218, 177]
abbrev dktX3_times_2 : List UInt8 := dkwX3_times_2 ++ []
def dkwX3_times_1 : List UInt8 := [29, 46, 133, 20, 0, 19, 127, 27, 133, 105, 42, 180, 0, 15, 97, 182, 0, 21, 79, 132, 3, 1]
abbrev dktX3_times_1 : List UInt8 := dkwX3_times_1 ++ dktX3_times_2
def dkwX3_times_0 : List UInt8 := [42, 28, 133, 181, 0, 15, 3, 62, 29, 16, 64, 162, 0, 38, 42, 180, 0, 9, 29, 42, 42, 180, 0, 9]
abbrev dktX3_times_0 : List UInt8 := dkwX3_times_0 ++ dktX3_times_1
theorem dksX3_times_0 : cX3_times.data.toList.drop 0 = dktX3_times_0 := by decide +kernel
theorem dksX3_times_1 : cX3_times.data.toList.drop 24 = dktX3_times_1 := dk_seg dksX3_times_0 24 rfl rfl
theorem dksX3_times_2 : cX3_times.data.toList.drop 46 = dktX3_times_2 := dk_seg dksX3_times_1 22 rfl rfl
theorem dX3_times_0 : decode cX3_times 0 = .ok (.aload_n 0, 1) := dk_42 (dk_at dksX3_times_0 0 rfl rfl)
theorem dX3_times_1 : decode cX3_times 1 = .ok (.iload_n 2, 1) := dk_28 (dk_at dksX3_times_0 1 rfl rfl)
theorem dX3_times_2 : decode cX3_times 2 = .ok (.i2l, 1) := dk_133 (dk_at dksX3_times_0 2 rfl rfl)
theorem dX3_times_3 : decode cX3_times 3 = .ok (.putfield 15, 3) := dk_181 0 15 (dk_at dksX3_times_0 3 rfl rfl)
theorem dX3_times_6 : decode cX3_times 6 = .ok (.iconst 0, 1) := dk_3 (dk_at dksX3_times_0 6 rfl rfl)
theorem dX3_times_7 : decode cX3_times 7 = .ok (.istore_n 3, 1) := dk_62 (dk_at dksX3_times_0 7 rfl rfl)
theorem dX3_times_8 : decode cX3_times 8 = .ok (.iload_n 3, 1) := dk_29 (dk_at dksX3_times_0 8 rfl rfl)
theorem dX3_times_9 : decode cX3_times 9 = .ok (.bipush 64, 2) := dk_16 64 (dk_at dksX3_times_0 9 rfl rfl)
theorem dX3_times_11 : decode cX3_times 11 = .ok (.if_icmp .ge 38, 3) := dk_162 0 38 (dk_at dksX3_times_0 11 rfl rfl)
theorem dX3_times_14 : decode cX3_times 14 = .ok (.aload_n 0, 1) := dk_42 (dk_at dksX3_times_0 14 rfl rfl)
theorem dX3_times_15 : decode cX3_times 15 = .ok (.getfield 9, 3) := dk_180 0 9 (dk_at dksX3_times_0 15 rfl rfl)
theorem dX3_times_18 : decode cX3_times 18 = .ok (.iload_n 3, 1) := dk_29 (dk_at dksX3_times_0 18 rfl rfl)
theorem dX3_times_19 : decode cX3_times 19 = .ok (.aload_n 0, 1) := dk_42 (dk_at dksX3_times_0 19 rfl rfl)
theorem dX3_times_20 : decode cX3_times 20 = .ok (.aload_n 0, 1) := dk_42 (dk_at dksX3_times_0 20 rfl rfl)
theorem dX3_times_21 : decode cX3_times 21 = .ok (.getfield 9, 3) := dk_180 0 9 (dk_at dksX3_times_0 21 rfl rfl)
theorem dX3_times_24 : decode cX3_times 24 = .ok (.iload_n 3, 1) := dk_29 (dk_at dksX3_times_1 0 rfl rfl)
theorem dX3_times_25 : decode cX3_times 25 = .ok (.iaload, 1) := dk_46 (dk_at dksX3_times_1 1 rfl rfl)
theorem dX3_times_26 : decode cX3_times 26 = .ok (.i2l, 1) := dk_133 (dk_at dksX3_times_1 2 rfl rfl)
theorem dX3_times_27 : decode cX3_times 27 = .ok (.ldc2_w 19, 3) := dk_20 0 19 (dk_at dksX3_times_1 3 rfl rfl)
theorem dX3_times_30 : decode cX3_times 30 = .ok (.land, 1) := dk_127 (dk_at dksX3_times_1 6 rfl rfl)
theorem dX3_times_31 : decode cX3_times 31 = .ok (.iload_n 1, 1) := dk_27 (dk_at dksX3_times_1 7 rfl rfl)
theorem dX3_times_32 : decode cX3_times 32 = .ok (.i2l, 1) := dk_133 (dk_at dksX3_times_1 8 rfl rfl)
theorem dX3_times_33 : decode cX3_times 33 = .ok (.lmul, 1) := dk_105 (dk_at dksX3_times_1 9 rfl rfl)
theorem dX3_times_34 : decode cX3_times 34 = .ok (.aload_n 0, 1) := dk_42 (dk_at dksX3_times_1 10 rfl rfl)
theorem dX3_times_35 : decode cX3_times 35 = .ok (.getfield 15, 3) := dk_180 0 15 (dk_at dksX3_times_1 11 rfl rfl)
theorem dX3_times_38 : decode cX3_times 38 = .ok (.ladd, 1) := dk_97 (dk_at dksX3_times_1 14 rfl rfl)
theorem dX3_times_39 : decode cX3_times 39 = .ok (.invokevirtual 21, 3) := dk_182 0 21 (dk_at dksX3_times_1 15 rfl rfl)
theorem dX3_times_42 : decode cX3_times 42 = .ok (.iastore, 1) := dk_79 (dk_at dksX3_times_1 18 rfl rfl)
theorem dX3_times_43 : decode cX3_times 43 = .ok (.iinc 3 1, 3) := dk_132 3 1 (dk_at dksX3_times_1 19 rfl rfl)
theorem dX3_times_46 : decode cX3_times 46 = .ok (.goto (-38), 3) := dk_167 255 218 (dk_at dksX3_times_2 0 rfl rfl)
theorem dX3_times_49 : decode cX3_times 49 = .ok (.return_, 1) := dk_177 (dk_at dksX3_times_2 3 rfl rfl)
abbrev cX3_low : ByteArray := prog_6_method_3_code
def yX3_low : MethodName := ⟨RX3, "low", "(J)I"⟩
def dkwX3_low_0 : List UInt8 := [42, 31, 16, 32, 125, 181, 0, 15, 31, 136, 172]
abbrev dktX3_low_0 : List UInt8 := dkwX3_low_0 ++ []
theorem dksX3_low_0 : cX3_low.data.toList.drop 0 = dktX3_low_0 := by decide +kernel
theorem dX3_low_0 : decode cX3_low 0 = .ok (.aload_n 0, 1) := dk_42 (dk_at dksX3_low_0 0 rfl rfl)
theorem dX3_low_1 : decode cX3_low 1 = .ok (.lload_n 1, 1) := dk_31 (dk_at dksX3_low_0 1 rfl rfl)
theorem dX3_low_2 : decode cX3_low 2 = .ok (.bipush 32, 2) := dk_16 32 (dk_at dksX3_low_0 2 rfl rfl)
theorem dX3_low_4 : decode cX3_low 4 = .ok (.lushr, 1) := dk_125 (dk_at dksX3_low_0 4 rfl rfl)
theorem dX3_low_5 : decode cX3_low 5 = .ok (.putfield 15, 3) := dk_181 0 15 (dk_at dksX3_low_0 5 rfl rfl)
theorem dX3_low_8 : decode cX3_low 8 = .ok (.lload_n 1, 1) := dk_31 (dk_at dksX3_low_0 8 rfl rfl)
theorem dX3_low_9 : decode cX3_low 9 = .ok (.l2i, 1) := dk_136 (dk_at dksX3_low_0 9 rfl rfl)
theorem dX3_low_10 : decode cX3_low 10 = .ok (.ireturn, 1) := dk_172 (dk_at dksX3_low_0 10 rfl rfl)
abbrev cX3_init : ByteArray := prog_6_method_1_code
def yX3_init : MethodName := ⟨RX3, "<init>", "()V"⟩
def dkwX3_init_0 : List UInt8 := [42, 183, 0, 3, 42, 16, 64, 188, 10, 181, 0, 9, 177]
abbrev dktX3_init_0 : List UInt8 := dkwX3_init_0 ++ []
theorem dksX3_init_0 : cX3_init.data.toList.drop 0 = dktX3_init_0 := by decide +kernel
theorem dX3_init_0 : decode cX3_init 0 = .ok (.aload_n 0, 1) := dk_42 (dk_at dksX3_init_0 0 rfl rfl)
theorem dX3_init_1 : decode cX3_init 1 = .ok (.invokespecial 3, 3) := dk_183 0 3 (dk_at dksX3_init_0 1 rfl rfl)
theorem dX3_init_4 : decode cX3_init 4 = .ok (.aload_n 0, 1) := dk_42 (dk_at dksX3_init_0 4 rfl rfl)
theorem dX3_init_5 : decode cX3_init 5 = .ok (.bipush 64, 2) := dk_16 64 (dk_at dksX3_init_0 5 rfl rfl)
theorem dX3_init_7 : decode cX3_init 7 = .ok (.newarray .int, 2) := dk_188_10 (dk_at dksX3_init_0 7 rfl rfl)
theorem dX3_init_9 : decode cX3_init 9 = .ok (.putfield 9, 3) := dk_181 0 9 (dk_at dksX3_init_0 9 rfl rfl)
theorem dX3_init_12 : decode cX3_init 12 = .ok (.return_, 1) := dk_177 (dk_at dksX3_init_0 12 rfl rfl)
theorem q47 : (Jvm.Cond.initialized "FloatClasses$Natural") ∈ lw_all := lw_g (lw_at lw_m1 4 rfl) rfl
theorem q729 : (Jvm.Cond.instanceMethod ({ cls := "FloatClasses$Natural", name := "set", desc := "(J)V" } : Jvm.MethodName)) ∈ lw_all := lw_g (lw_at lw_m3 206 rfl) rfl
theorem q730 : (Jvm.Cond.selects "FloatClasses$Natural" ({ cls := "FloatClasses$Natural", name := "set", desc := "(J)V" } : Jvm.MethodName) ({ cls := "FloatClasses$Natural", name := "set", desc := "(J)V" } : Jvm.MethodName)) ∈ lw_all := lw_g (lw_at lw_m3 207 rfl) rfl
theorem q731 : (Jvm.Cond.code ({ cls := "FloatClasses$Natural", name := "set", desc := "(J)V" } : Jvm.MethodName) prog_6_method_2_code (4 : Nat) (Option.none : Option Jvm.ClassFile.FieldType)) ∈ lw_all := lw_g (lw_at lw_m3 208 rfl) rfl
theorem q737 : (Jvm.Cond.instanceMethod ({ cls := "FloatClasses$Natural", name := "bits", desc := "()I" } : Jvm.MethodName)) ∈ lw_all := lw_g (lw_at lw_m3 214 rfl) rfl
theorem q738 : (Jvm.Cond.selects "FloatClasses$Natural" ({ cls := "FloatClasses$Natural", name := "bits", desc := "()I" } : Jvm.MethodName) ({ cls := "FloatClasses$Natural", name := "bits", desc := "()I" } : Jvm.MethodName)) ∈ lw_all := lw_g (lw_at lw_m3 215 rfl) rfl
theorem q739 : (Jvm.Cond.code ({ cls := "FloatClasses$Natural", name := "bits", desc := "()I" } : Jvm.MethodName) prog_6_method_9_code (2 : Nat) (Option.some Jvm.ClassFile.FieldType.int)) ∈ lw_all := lw_g (lw_at lw_m3 216 rfl) rfl
theorem q740 : (Jvm.Cond.methodLink "FloatClasses$Natural" (31 : Nat) ({ cls := "java/lang/Integer", name := "numberOfLeadingZeros", desc := "(I)I" } : Jvm.MethodName)) ∈ lw_all := lw_g (lw_at lw_m3 217 rfl) rfl
theorem q742 : (Jvm.Cond.instanceMethod ({ cls := "FloatClasses$Natural", name := "left", desc := "(I)V" } : Jvm.MethodName)) ∈ lw_all := lw_g (lw_at lw_m3 219 rfl) rfl
theorem q743 : (Jvm.Cond.selects "FloatClasses$Natural" ({ cls := "FloatClasses$Natural", name := "left", desc := "(I)V" } : Jvm.MethodName) ({ cls := "FloatClasses$Natural", name := "left", desc := "(I)V" } : Jvm.MethodName)) ∈ lw_all := lw_g (lw_at lw_m3 220 rfl) rfl
theorem q744 : (Jvm.Cond.code ({ cls := "FloatClasses$Natural", name := "left", desc := "(I)V" } : Jvm.MethodName) prog_6_method_5_code (9 : Nat) (Option.none : Option Jvm.ClassFile.FieldType)) ∈ lw_all := lw_g (lw_at lw_m3 221 rfl) rfl
theorem q745 : (Jvm.Cond.constantLong "FloatClasses$Natural" (19 : Nat) (4294967295 : Int64)) ∈ lw_all := lw_g (lw_at lw_m3 222 rfl) rfl
theorem q747 : (Jvm.Cond.instanceMethod ({ cls := "FloatClasses$Natural", name := "half", desc := "()V" } : Jvm.MethodName)) ∈ lw_all := lw_g (lw_at lw_m3 224 rfl) rfl
theorem q748 : (Jvm.Cond.selects "FloatClasses$Natural" ({ cls := "FloatClasses$Natural", name := "half", desc := "()V" } : Jvm.MethodName) ({ cls := "FloatClasses$Natural", name := "half", desc := "()V" } : Jvm.MethodName)) ∈ lw_all := lw_g (lw_at lw_m3 225 rfl) rfl
theorem q749 : (Jvm.Cond.code ({ cls := "FloatClasses$Natural", name := "half", desc := "()V" } : Jvm.MethodName) prog_6_method_6_code (3 : Nat) (Option.none : Option Jvm.ClassFile.FieldType)) ∈ lw_all := lw_g (lw_at lw_m3 226 rfl) rfl
theorem q751 : (Jvm.Cond.instanceMethod ({ cls := "FloatClasses$Natural", name := "isBelow", desc := "(LFloatClasses$Natural;)Z" } : Jvm.MethodName)) ∈ lw_all := lw_g (lw_at lw_m3 228 rfl) rfl
theorem q752 : (Jvm.Cond.selects "FloatClasses$Natural" ({ cls := "FloatClasses$Natural", name := "isBelow", desc := "(LFloatClasses$Natural;)Z" } : Jvm.MethodName) ({ cls := "FloatClasses$Natural", name := "isBelow", desc := "(LFloatClasses$Natural;)Z" } : Jvm.MethodName)) ∈ lw_all := lw_g (lw_at lw_m3 229 rfl) rfl
theorem q753 : (Jvm.Cond.code ({ cls := "FloatClasses$Natural", name := "isBelow", desc := "(LFloatClasses$Natural;)Z" } : Jvm.MethodName) prog_6_method_7_code (3 : Nat) (Option.some Jvm.ClassFile.FieldType.boolean)) ∈ lw_all := lw_g (lw_at lw_m3 230 rfl) rfl
theorem q754 : (Jvm.Cond.methodLink "FloatClasses$Natural" (25 : Nat) ({ cls := "java/lang/Integer", name := "compareUnsigned", desc := "(II)I" } : Jvm.MethodName)) ∈ lw_all := lw_g (lw_at lw_m3 231 rfl) rfl
theorem q762 : (Jvm.Cond.instanceMethod ({ cls := "FloatClasses$Natural", name := "less", desc := "(LFloatClasses$Natural;)V" } : Jvm.MethodName)) ∈ lw_all := lw_g (lw_at lw_m3 239 rfl) rfl
theorem q763 : (Jvm.Cond.selects "FloatClasses$Natural" ({ cls := "FloatClasses$Natural", name := "less", desc := "(LFloatClasses$Natural;)V" } : Jvm.MethodName) ({ cls := "FloatClasses$Natural", name := "less", desc := "(LFloatClasses$Natural;)V" } : Jvm.MethodName)) ∈ lw_all := lw_g (lw_at lw_m4 0 rfl) rfl
theorem q764 : (Jvm.Cond.code ({ cls := "FloatClasses$Natural", name := "less", desc := "(LFloatClasses$Natural;)V" } : Jvm.MethodName) prog_6_method_8_code (5 : Nat) (Option.none : Option Jvm.ClassFile.FieldType)) ∈ lw_all := lw_g (lw_at lw_m4 1 rfl) rfl
theorem q873 : (Jvm.Cond.instanceMethod ({ cls := "FloatClasses$Natural", name := "times", desc := "(II)V" } : Jvm.MethodName)) ∈ lw_all := lw_g (lw_at lw_m4 110 rfl) rfl
theorem q874 : (Jvm.Cond.selects "FloatClasses$Natural" ({ cls := "FloatClasses$Natural", name := "times", desc := "(II)V" } : Jvm.MethodName) ({ cls := "FloatClasses$Natural", name := "times", desc := "(II)V" } : Jvm.MethodName)) ∈ lw_all := lw_g (lw_at lw_m4 111 rfl) rfl
theorem q875 : (Jvm.Cond.code ({ cls := "FloatClasses$Natural", name := "times", desc := "(II)V" } : Jvm.MethodName) prog_6_method_4_code (4 : Nat) (Option.none : Option Jvm.ClassFile.FieldType)) ∈ lw_all := lw_g (lw_at lw_m4 112 rfl) rfl
theorem q876 : (Jvm.Cond.methodLink "FloatClasses$Natural" (21 : Nat) ({ cls := "FloatClasses$Natural", name := "low", desc := "(J)I" } : Jvm.MethodName)) ∈ lw_all := lw_g (lw_at lw_m4 113 rfl) rfl
theorem q877 : (Jvm.Cond.privateMethod ({ cls := "FloatClasses$Natural", name := "low", desc := "(J)I" } : Jvm.MethodName)) ∈ lw_tbl := lw_at lw_m4 114 rfl
theorem q878 : (Jvm.Cond.instanceMethod ({ cls := "FloatClasses$Natural", name := "low", desc := "(J)I" } : Jvm.MethodName)) ∈ lw_all := lw_g (lw_at lw_m4 115 rfl) rfl
theorem q879 : (Jvm.Cond.instantiable "FloatClasses$Natural" (2 : Nat)) ∈ lw_all := lw_g (lw_at lw_m4 116 rfl) rfl
theorem q880 : (Jvm.Cond.code ({ cls := "FloatClasses$Natural", name := "low", desc := "(J)I" } : Jvm.MethodName) prog_6_method_3_code (3 : Nat) (Option.some Jvm.ClassFile.FieldType.int)) ∈ lw_all := lw_g (lw_at lw_m4 117 rfl) rfl
theorem q911 : (Jvm.Cond.instanceMethod ({ cls := "FloatClasses$Natural", name := "<init>", desc := "()V" } : Jvm.MethodName)) ∈ lw_all := lw_g (lw_at lw_m4 148 rfl) rfl
theorem q912 : (Jvm.Cond.code ({ cls := "FloatClasses$Natural", name := "<init>", desc := "()V" } : Jvm.MethodName) prog_6_method_1_code (1 : Nat) (Option.none : Option Jvm.ClassFile.FieldType)) ∈ lw_all := lw_g (lw_at lw_m4 149 rfl) rfl
theorem q913 : (Jvm.Cond.methodLink "FloatClasses$Natural" (3 : Nat) ({ cls := "java/lang/Object", name := "<init>", desc := "()V" } : Jvm.MethodName)) ∈ lw_all := lw_g (lw_at lw_m4 150 rfl) rfl
theorem q914 : (Jvm.Cond.fieldLink "FloatClasses$Natural" (9 : Nat) "FloatClasses$Natural" "limbs" "[I") ∈ lw_all := lw_g (lw_at lw_m4 151 rfl) rfl
theorem q915 : (Jvm.Cond.fieldLink "FloatClasses$Natural" (15 : Nat) "FloatClasses$Natural" "carry" "J") ∈ lw_all := lw_g (lw_at lw_m4 152 rfl) rfl
theorem q916 : (Jvm.Cond.laysFinal "FloatClasses$Natural" "FloatClasses$Natural" "limbs" "[I") ∈ lw_all := lw_g (lw_at lw_m4 153 rfl) rfl
theorem q917 : (Jvm.Cond.soleField "FloatClasses$Natural" "limbs") ∈ lw_all := lw_g (lw_at lw_m4 154 rfl) rfl
theorem q918 : (Jvm.Cond.lays "FloatClasses$Natural" "FloatClasses$Natural" "carry" "J") ∈ lw_all := lw_g (lw_at lw_m4 155 rfl) rfl
theorem q919 : (Jvm.Cond.soleField "FloatClasses$Natural" "carry") ∈ lw_all := lw_g (lw_at lw_m4 156 rfl) rfl
theorem q920 : (Jvm.Cond.superclass "FloatClasses$Natural" "java/lang/Object") ∈ lw_all := lw_g (lw_at lw_m4 157 rfl) rfl
theorem in_X3 : ∀ w ∈ wsX30, w ∈ lw_all := lw_in wsX30 [916, 918] (by decide +kernel) (by decide +kernel)
/-! FloatClasses$Reader -/
set_option maxRecDepth 100000
def RX4 : String := "FloatClasses$Reader"
def TX4 : u_T := fun k => match k with
  | 0 => ("FloatClasses$Reader", "i", "I", false)
  | 1 => ("FloatClasses$Reader", "exponent", "I", false)
  | 2 => ("FloatClasses$Reader", "count", "I", false)
  | _ => ("FloatClasses$Reader", "this$0", "LFloatClasses;", true)
def tyX4 : Nat → FieldType := fun k => match k with
  | 0 => .int
  | 1 => .int
  | 2 => .int
  | _ => .object "FloatClasses"
abbrev wsX40 : List Cond := u_ws RX4 TX4 4
theorem nmX4 : ∀ a, a < 4 → ∀ b, b < 4 → a ≠ b → (TX4 a).2.1 ≠ (TX4 b).2.1 := by decide +kernel
theorem tyX4_ok : ∀ k, k < 4 → parseFieldDescriptor (TX4 k).2.2.1 = some (tyX4 k) := by decide +kernel
abbrev cX4_read : ByteArray := prog_7_method_7_code
def yX4_read : MethodName := ⟨RX4, "read", "()Z"⟩
def dkwX4_read_4 : List UInt8 := [180, 0, 19, 162, 0, 15, 187, 0, 37, 89, 42, 180, 0, 15, 183, 0, 39, 191, 27, 172]
abbrev dktX4_read_4 : List UInt8 := dkwX4_read_4 ++ []
def dkwX4_read_3 : List UInt8 := [153, 0, 16, 42, 89, 180, 0, 63, 42, 182, 0, 66, 96, 181, 0, 63, 42, 180, 0, 15, 42, 180, 0, 3]
abbrev dktX4_read_3 : List UInt8 := dkwX4_read_3 ++ dktX4_read_4
def dkwX4_read_2 : List UInt8 := [167, 0, 4, 3, 181, 0, 63, 42, 16, 101, 182, 0, 52, 154, 0, 12, 42, 16, 69, 182, 0, 52]
abbrev dktX4_read_2 : List UInt8 := dkwX4_read_2 ++ dktX4_read_3
def dkwX4_read_1 : List UInt8 := [182, 0, 52, 60, 42, 182, 0, 60, 87, 42, 42, 16, 46, 182, 0, 52, 153, 0, 11, 42, 182, 0, 60, 116]
abbrev dktX4_read_1 : List UInt8 := dkwX4_read_1 ++ dktX4_read_2
def dkwX4_read_0 : List UInt8 := [42, 3, 181, 0, 15, 42, 3, 181, 0, 34, 42, 180, 0, 3, 180, 0, 42, 9, 182, 0, 56, 42, 16, 45]
abbrev dktX4_read_0 : List UInt8 := dkwX4_read_0 ++ dktX4_read_1
theorem dksX4_read_0 : cX4_read.data.toList.drop 0 = dktX4_read_0 := by decide +kernel
theorem dksX4_read_1 : cX4_read.data.toList.drop 24 = dktX4_read_1 := dk_seg dksX4_read_0 24 rfl rfl
theorem dksX4_read_2 : cX4_read.data.toList.drop 48 = dktX4_read_2 := dk_seg dksX4_read_1 24 rfl rfl
theorem dksX4_read_3 : cX4_read.data.toList.drop 70 = dktX4_read_3 := dk_seg dksX4_read_2 22 rfl rfl
theorem dksX4_read_4 : cX4_read.data.toList.drop 94 = dktX4_read_4 := dk_seg dksX4_read_3 24 rfl rfl
theorem dX4_read_0 : decode cX4_read 0 = .ok (.aload_n 0, 1) := dk_42 (dk_at dksX4_read_0 0 rfl rfl)
theorem dX4_read_1 : decode cX4_read 1 = .ok (.iconst 0, 1) := dk_3 (dk_at dksX4_read_0 1 rfl rfl)
theorem dX4_read_2 : decode cX4_read 2 = .ok (.putfield 15, 3) := dk_181 0 15 (dk_at dksX4_read_0 2 rfl rfl)
theorem dX4_read_5 : decode cX4_read 5 = .ok (.aload_n 0, 1) := dk_42 (dk_at dksX4_read_0 5 rfl rfl)
theorem dX4_read_6 : decode cX4_read 6 = .ok (.iconst 0, 1) := dk_3 (dk_at dksX4_read_0 6 rfl rfl)
theorem dX4_read_7 : decode cX4_read 7 = .ok (.putfield 34, 3) := dk_181 0 34 (dk_at dksX4_read_0 7 rfl rfl)
theorem dX4_read_10 : decode cX4_read 10 = .ok (.aload_n 0, 1) := dk_42 (dk_at dksX4_read_0 10 rfl rfl)
theorem dX4_read_11 : decode cX4_read 11 = .ok (.getfield 3, 3) := dk_180 0 3 (dk_at dksX4_read_0 11 rfl rfl)
theorem dX4_read_14 : decode cX4_read 14 = .ok (.getfield 42, 3) := dk_180 0 42 (dk_at dksX4_read_0 14 rfl rfl)
theorem dX4_read_17 : decode cX4_read 17 = .ok (.lconst 0, 1) := dk_9 (dk_at dksX4_read_0 17 rfl rfl)
theorem dX4_read_18 : decode cX4_read 18 = .ok (.invokevirtual 56, 3) := dk_182 0 56 (dk_at dksX4_read_0 18 rfl rfl)
theorem dX4_read_21 : decode cX4_read 21 = .ok (.aload_n 0, 1) := dk_42 (dk_at dksX4_read_0 21 rfl rfl)
theorem dX4_read_22 : decode cX4_read 22 = .ok (.bipush 45, 2) := dk_16 45 (dk_at dksX4_read_0 22 rfl rfl)
theorem dX4_read_24 : decode cX4_read 24 = .ok (.invokevirtual 52, 3) := dk_182 0 52 (dk_at dksX4_read_1 0 rfl rfl)
theorem dX4_read_27 : decode cX4_read 27 = .ok (.istore_n 1, 1) := dk_60 (dk_at dksX4_read_1 3 rfl rfl)
theorem dX4_read_28 : decode cX4_read 28 = .ok (.aload_n 0, 1) := dk_42 (dk_at dksX4_read_1 4 rfl rfl)
theorem dX4_read_29 : decode cX4_read 29 = .ok (.invokevirtual 60, 3) := dk_182 0 60 (dk_at dksX4_read_1 5 rfl rfl)
theorem dX4_read_32 : decode cX4_read 32 = .ok (.pop, 1) := dk_87 (dk_at dksX4_read_1 8 rfl rfl)
theorem dX4_read_33 : decode cX4_read 33 = .ok (.aload_n 0, 1) := dk_42 (dk_at dksX4_read_1 9 rfl rfl)
theorem dX4_read_34 : decode cX4_read 34 = .ok (.aload_n 0, 1) := dk_42 (dk_at dksX4_read_1 10 rfl rfl)
theorem dX4_read_35 : decode cX4_read 35 = .ok (.bipush 46, 2) := dk_16 46 (dk_at dksX4_read_1 11 rfl rfl)
theorem dX4_read_37 : decode cX4_read 37 = .ok (.invokevirtual 52, 3) := dk_182 0 52 (dk_at dksX4_read_1 13 rfl rfl)
theorem dX4_read_40 : decode cX4_read 40 = .ok (.ifCond .eq 11, 3) := dk_153 0 11 (dk_at dksX4_read_1 16 rfl rfl)
theorem dX4_read_43 : decode cX4_read 43 = .ok (.aload_n 0, 1) := dk_42 (dk_at dksX4_read_1 19 rfl rfl)
theorem dX4_read_44 : decode cX4_read 44 = .ok (.invokevirtual 60, 3) := dk_182 0 60 (dk_at dksX4_read_1 20 rfl rfl)
theorem dX4_read_47 : decode cX4_read 47 = .ok (.ineg, 1) := dk_116 (dk_at dksX4_read_1 23 rfl rfl)
theorem dX4_read_48 : decode cX4_read 48 = .ok (.goto 4, 3) := dk_167 0 4 (dk_at dksX4_read_2 0 rfl rfl)
theorem dX4_read_51 : decode cX4_read 51 = .ok (.iconst 0, 1) := dk_3 (dk_at dksX4_read_2 3 rfl rfl)
theorem dX4_read_52 : decode cX4_read 52 = .ok (.putfield 63, 3) := dk_181 0 63 (dk_at dksX4_read_2 4 rfl rfl)
theorem dX4_read_55 : decode cX4_read 55 = .ok (.aload_n 0, 1) := dk_42 (dk_at dksX4_read_2 7 rfl rfl)
theorem dX4_read_56 : decode cX4_read 56 = .ok (.bipush 101, 2) := dk_16 101 (dk_at dksX4_read_2 8 rfl rfl)
theorem dX4_read_58 : decode cX4_read 58 = .ok (.invokevirtual 52, 3) := dk_182 0 52 (dk_at dksX4_read_2 10 rfl rfl)
theorem dX4_read_61 : decode cX4_read 61 = .ok (.ifCond .ne 12, 3) := dk_154 0 12 (dk_at dksX4_read_2 13 rfl rfl)
theorem dX4_read_64 : decode cX4_read 64 = .ok (.aload_n 0, 1) := dk_42 (dk_at dksX4_read_2 16 rfl rfl)
theorem dX4_read_65 : decode cX4_read 65 = .ok (.bipush 69, 2) := dk_16 69 (dk_at dksX4_read_2 17 rfl rfl)
theorem dX4_read_67 : decode cX4_read 67 = .ok (.invokevirtual 52, 3) := dk_182 0 52 (dk_at dksX4_read_2 19 rfl rfl)
theorem dX4_read_70 : decode cX4_read 70 = .ok (.ifCond .eq 16, 3) := dk_153 0 16 (dk_at dksX4_read_3 0 rfl rfl)
theorem dX4_read_73 : decode cX4_read 73 = .ok (.aload_n 0, 1) := dk_42 (dk_at dksX4_read_3 3 rfl rfl)
theorem dX4_read_74 : decode cX4_read 74 = .ok (.dup, 1) := dk_89 (dk_at dksX4_read_3 4 rfl rfl)
theorem dX4_read_75 : decode cX4_read 75 = .ok (.getfield 63, 3) := dk_180 0 63 (dk_at dksX4_read_3 5 rfl rfl)
theorem dX4_read_78 : decode cX4_read 78 = .ok (.aload_n 0, 1) := dk_42 (dk_at dksX4_read_3 8 rfl rfl)
theorem dX4_read_79 : decode cX4_read 79 = .ok (.invokevirtual 66, 3) := dk_182 0 66 (dk_at dksX4_read_3 9 rfl rfl)
theorem dX4_read_82 : decode cX4_read 82 = .ok (.iadd, 1) := dk_96 (dk_at dksX4_read_3 12 rfl rfl)
theorem dX4_read_83 : decode cX4_read 83 = .ok (.putfield 63, 3) := dk_181 0 63 (dk_at dksX4_read_3 13 rfl rfl)
theorem dX4_read_86 : decode cX4_read 86 = .ok (.aload_n 0, 1) := dk_42 (dk_at dksX4_read_3 16 rfl rfl)
theorem dX4_read_87 : decode cX4_read 87 = .ok (.getfield 15, 3) := dk_180 0 15 (dk_at dksX4_read_3 17 rfl rfl)
theorem dX4_read_90 : decode cX4_read 90 = .ok (.aload_n 0, 1) := dk_42 (dk_at dksX4_read_3 20 rfl rfl)
theorem dX4_read_91 : decode cX4_read 91 = .ok (.getfield 3, 3) := dk_180 0 3 (dk_at dksX4_read_3 21 rfl rfl)
theorem dX4_read_94 : decode cX4_read 94 = .ok (.getfield 19, 3) := dk_180 0 19 (dk_at dksX4_read_4 0 rfl rfl)
theorem dX4_read_97 : decode cX4_read 97 = .ok (.if_icmp .ge 15, 3) := dk_162 0 15 (dk_at dksX4_read_4 3 rfl rfl)
theorem dX4_read_100 : decode cX4_read 100 = .ok (.new 37, 3) := dk_187 0 37 (dk_at dksX4_read_4 6 rfl rfl)
theorem dX4_read_103 : decode cX4_read 103 = .ok (.dup, 1) := dk_89 (dk_at dksX4_read_4 9 rfl rfl)
theorem dX4_read_104 : decode cX4_read 104 = .ok (.aload_n 0, 1) := dk_42 (dk_at dksX4_read_4 10 rfl rfl)
theorem dX4_read_105 : decode cX4_read 105 = .ok (.getfield 15, 3) := dk_180 0 15 (dk_at dksX4_read_4 11 rfl rfl)
theorem dX4_read_108 : decode cX4_read 108 = .ok (.invokespecial 39, 3) := dk_183 0 39 (dk_at dksX4_read_4 14 rfl rfl)
theorem dX4_read_111 : decode cX4_read 111 = .ok (.athrow, 1) := dk_191 (dk_at dksX4_read_4 17 rfl rfl)
theorem dX4_read_112 : decode cX4_read 112 = .ok (.iload_n 1, 1) := dk_27 (dk_at dksX4_read_4 18 rfl rfl)
theorem dX4_read_113 : decode cX4_read 113 = .ok (.ireturn, 1) := dk_172 (dk_at dksX4_read_4 19 rfl rfl)
abbrev cX4_takes : ByteArray := prog_7_method_4_code
def yX4_takes : MethodName := ⟨RX4, "takes", "(I)Z"⟩
def dkwX4_takes_1 : List UInt8 := [167, 0, 4, 3, 96, 181, 0, 15, 28, 172]
abbrev dktX4_takes_1 : List UInt8 := dkwX4_takes_1 ++ []
def dkwX4_takes_0 : List UInt8 := [42, 182, 0, 26, 27, 160, 0, 7, 4, 167, 0, 4, 3, 61, 42, 89, 180, 0, 15, 28, 153, 0, 7, 4]
abbrev dktX4_takes_0 : List UInt8 := dkwX4_takes_0 ++ dktX4_takes_1
theorem dksX4_takes_0 : cX4_takes.data.toList.drop 0 = dktX4_takes_0 := by decide +kernel
theorem dksX4_takes_1 : cX4_takes.data.toList.drop 24 = dktX4_takes_1 := dk_seg dksX4_takes_0 24 rfl rfl
theorem dX4_takes_0 : decode cX4_takes 0 = .ok (.aload_n 0, 1) := dk_42 (dk_at dksX4_takes_0 0 rfl rfl)
theorem dX4_takes_1 : decode cX4_takes 1 = .ok (.invokevirtual 26, 3) := dk_182 0 26 (dk_at dksX4_takes_0 1 rfl rfl)
theorem dX4_takes_4 : decode cX4_takes 4 = .ok (.iload_n 1, 1) := dk_27 (dk_at dksX4_takes_0 4 rfl rfl)
theorem dX4_takes_5 : decode cX4_takes 5 = .ok (.if_icmp .ne 7, 3) := dk_160 0 7 (dk_at dksX4_takes_0 5 rfl rfl)
theorem dX4_takes_8 : decode cX4_takes 8 = .ok (.iconst 1, 1) := dk_4 (dk_at dksX4_takes_0 8 rfl rfl)
theorem dX4_takes_9 : decode cX4_takes 9 = .ok (.goto 4, 3) := dk_167 0 4 (dk_at dksX4_takes_0 9 rfl rfl)
theorem dX4_takes_12 : decode cX4_takes 12 = .ok (.iconst 0, 1) := dk_3 (dk_at dksX4_takes_0 12 rfl rfl)
theorem dX4_takes_13 : decode cX4_takes 13 = .ok (.istore_n 2, 1) := dk_61 (dk_at dksX4_takes_0 13 rfl rfl)
theorem dX4_takes_14 : decode cX4_takes 14 = .ok (.aload_n 0, 1) := dk_42 (dk_at dksX4_takes_0 14 rfl rfl)
theorem dX4_takes_15 : decode cX4_takes 15 = .ok (.dup, 1) := dk_89 (dk_at dksX4_takes_0 15 rfl rfl)
theorem dX4_takes_16 : decode cX4_takes 16 = .ok (.getfield 15, 3) := dk_180 0 15 (dk_at dksX4_takes_0 16 rfl rfl)
theorem dX4_takes_19 : decode cX4_takes 19 = .ok (.iload_n 2, 1) := dk_28 (dk_at dksX4_takes_0 19 rfl rfl)
theorem dX4_takes_20 : decode cX4_takes 20 = .ok (.ifCond .eq 7, 3) := dk_153 0 7 (dk_at dksX4_takes_0 20 rfl rfl)
theorem dX4_takes_23 : decode cX4_takes 23 = .ok (.iconst 1, 1) := dk_4 (dk_at dksX4_takes_0 23 rfl rfl)
theorem dX4_takes_24 : decode cX4_takes 24 = .ok (.goto 4, 3) := dk_167 0 4 (dk_at dksX4_takes_1 0 rfl rfl)
theorem dX4_takes_27 : decode cX4_takes 27 = .ok (.iconst 0, 1) := dk_3 (dk_at dksX4_takes_1 3 rfl rfl)
theorem dX4_takes_28 : decode cX4_takes 28 = .ok (.iadd, 1) := dk_96 (dk_at dksX4_takes_1 4 rfl rfl)
theorem dX4_takes_29 : decode cX4_takes 29 = .ok (.putfield 15, 3) := dk_181 0 15 (dk_at dksX4_takes_1 5 rfl rfl)
theorem dX4_takes_32 : decode cX4_takes 32 = .ok (.iload_n 2, 1) := dk_28 (dk_at dksX4_takes_1 8 rfl rfl)
theorem dX4_takes_33 : decode cX4_takes 33 = .ok (.ireturn, 1) := dk_172 (dk_at dksX4_takes_1 9 rfl rfl)
abbrev cX4_at : ByteArray := prog_7_method_2_code
def yX4_at : MethodName := ⟨RX4, "at", "()I"⟩
def dkwX4_at_1 : List UInt8 := [180, 0, 15, 46, 167, 0, 4, 2, 172]
abbrev dktX4_at_1 : List UInt8 := dkwX4_at_1 ++ []
def dkwX4_at_0 : List UInt8 := [42, 180, 0, 15, 42, 180, 0, 3, 180, 0, 19, 162, 0, 18, 42, 180, 0, 3, 180, 0, 22, 42]
abbrev dktX4_at_0 : List UInt8 := dkwX4_at_0 ++ dktX4_at_1
theorem dksX4_at_0 : cX4_at.data.toList.drop 0 = dktX4_at_0 := by decide +kernel
theorem dksX4_at_1 : cX4_at.data.toList.drop 22 = dktX4_at_1 := dk_seg dksX4_at_0 22 rfl rfl
theorem dX4_at_0 : decode cX4_at 0 = .ok (.aload_n 0, 1) := dk_42 (dk_at dksX4_at_0 0 rfl rfl)
theorem dX4_at_1 : decode cX4_at 1 = .ok (.getfield 15, 3) := dk_180 0 15 (dk_at dksX4_at_0 1 rfl rfl)
theorem dX4_at_4 : decode cX4_at 4 = .ok (.aload_n 0, 1) := dk_42 (dk_at dksX4_at_0 4 rfl rfl)
theorem dX4_at_5 : decode cX4_at 5 = .ok (.getfield 3, 3) := dk_180 0 3 (dk_at dksX4_at_0 5 rfl rfl)
theorem dX4_at_8 : decode cX4_at 8 = .ok (.getfield 19, 3) := dk_180 0 19 (dk_at dksX4_at_0 8 rfl rfl)
theorem dX4_at_11 : decode cX4_at 11 = .ok (.if_icmp .ge 18, 3) := dk_162 0 18 (dk_at dksX4_at_0 11 rfl rfl)
theorem dX4_at_14 : decode cX4_at 14 = .ok (.aload_n 0, 1) := dk_42 (dk_at dksX4_at_0 14 rfl rfl)
theorem dX4_at_15 : decode cX4_at 15 = .ok (.getfield 3, 3) := dk_180 0 3 (dk_at dksX4_at_0 15 rfl rfl)
theorem dX4_at_18 : decode cX4_at 18 = .ok (.getfield 22, 3) := dk_180 0 22 (dk_at dksX4_at_0 18 rfl rfl)
theorem dX4_at_21 : decode cX4_at 21 = .ok (.aload_n 0, 1) := dk_42 (dk_at dksX4_at_0 21 rfl rfl)
theorem dX4_at_22 : decode cX4_at 22 = .ok (.getfield 15, 3) := dk_180 0 15 (dk_at dksX4_at_1 0 rfl rfl)
theorem dX4_at_25 : decode cX4_at 25 = .ok (.iaload, 1) := dk_46 (dk_at dksX4_at_1 3 rfl rfl)
theorem dX4_at_26 : decode cX4_at 26 = .ok (.goto 4, 3) := dk_167 0 4 (dk_at dksX4_at_1 4 rfl rfl)
theorem dX4_at_29 : decode cX4_at 29 = .ok (.iconst (-1), 1) := dk_2 (dk_at dksX4_at_1 7 rfl rfl)
theorem dX4_at_30 : decode cX4_at 30 = .ok (.ireturn, 1) := dk_172 (dk_at dksX4_at_1 8 rfl rfl)
abbrev cX4_digits : ByteArray := prog_7_method_5_code
def yX4_digits : MethodName := ⟨RX4, "digits", "()I"⟩
def dkwX4_digits_4 : List UInt8 := [167, 0, 16, 77, 42, 89, 180, 0, 34, 27, 96, 181, 0, 34, 44, 191, 27, 172]
abbrev dktX4_digits_4 : List UInt8 := dkwX4_digits_4 ++ []
def dkwX4_digits_3 : List UInt8 := [187, 0, 37, 89, 42, 180, 0, 15, 183, 0, 39, 191, 42, 89, 180, 0, 34, 27, 96, 181, 0, 34]
abbrev dktX4_digits_3 : List UInt8 := dkwX4_digits_3 ++ dktX4_digits_4
def dkwX4_digits_2 : List UInt8 := [182, 0, 46, 42, 89, 180, 0, 15, 4, 96, 181, 0, 15, 132, 1, 1, 167, 255, 194, 27, 154, 0, 15]
abbrev dktX4_digits_2 : List UInt8 := dkwX4_digits_2 ++ dktX4_digits_3
def dkwX4_digits_1 : List UInt8 := [42, 180, 0, 15, 183, 0, 39, 191, 42, 180, 0, 3, 180, 0, 42, 16, 10, 42, 182, 0, 26, 16, 48, 100]
abbrev dktX4_digits_1 : List UInt8 := dkwX4_digits_1 ++ dktX4_digits_2
def dkwX4_digits_0 : List UInt8 := [3, 60, 42, 182, 0, 30, 153, 0, 61, 42, 180, 0, 34, 27, 96, 16, 36, 160, 0, 15, 187, 0, 37, 89]
abbrev dktX4_digits_0 : List UInt8 := dkwX4_digits_0 ++ dktX4_digits_1
theorem dksX4_digits_0 : cX4_digits.data.toList.drop 0 = dktX4_digits_0 := by decide +kernel
theorem dksX4_digits_1 : cX4_digits.data.toList.drop 24 = dktX4_digits_1 := dk_seg dksX4_digits_0 24 rfl rfl
theorem dksX4_digits_2 : cX4_digits.data.toList.drop 48 = dktX4_digits_2 := dk_seg dksX4_digits_1 24 rfl rfl
theorem dksX4_digits_3 : cX4_digits.data.toList.drop 71 = dktX4_digits_3 := dk_seg dksX4_digits_2 23 rfl rfl
theorem dksX4_digits_4 : cX4_digits.data.toList.drop 93 = dktX4_digits_4 := dk_seg dksX4_digits_3 22 rfl rfl
theorem dX4_digits_0 : decode cX4_digits 0 = .ok (.iconst 0, 1) := dk_3 (dk_at dksX4_digits_0 0 rfl rfl)
theorem dX4_digits_1 : decode cX4_digits 1 = .ok (.istore_n 1, 1) := dk_60 (dk_at dksX4_digits_0 1 rfl rfl)
theorem dX4_digits_2 : decode cX4_digits 2 = .ok (.aload_n 0, 1) := dk_42 (dk_at dksX4_digits_0 2 rfl rfl)
theorem dX4_digits_3 : decode cX4_digits 3 = .ok (.invokevirtual 30, 3) := dk_182 0 30 (dk_at dksX4_digits_0 3 rfl rfl)
theorem dX4_digits_6 : decode cX4_digits 6 = .ok (.ifCond .eq 61, 3) := dk_153 0 61 (dk_at dksX4_digits_0 6 rfl rfl)
theorem dX4_digits_9 : decode cX4_digits 9 = .ok (.aload_n 0, 1) := dk_42 (dk_at dksX4_digits_0 9 rfl rfl)
theorem dX4_digits_10 : decode cX4_digits 10 = .ok (.getfield 34, 3) := dk_180 0 34 (dk_at dksX4_digits_0 10 rfl rfl)
theorem dX4_digits_13 : decode cX4_digits 13 = .ok (.iload_n 1, 1) := dk_27 (dk_at dksX4_digits_0 13 rfl rfl)
theorem dX4_digits_14 : decode cX4_digits 14 = .ok (.iadd, 1) := dk_96 (dk_at dksX4_digits_0 14 rfl rfl)
theorem dX4_digits_15 : decode cX4_digits 15 = .ok (.bipush 36, 2) := dk_16 36 (dk_at dksX4_digits_0 15 rfl rfl)
theorem dX4_digits_17 : decode cX4_digits 17 = .ok (.if_icmp .ne 15, 3) := dk_160 0 15 (dk_at dksX4_digits_0 17 rfl rfl)
theorem dX4_digits_20 : decode cX4_digits 20 = .ok (.new 37, 3) := dk_187 0 37 (dk_at dksX4_digits_0 20 rfl rfl)
theorem dX4_digits_23 : decode cX4_digits 23 = .ok (.dup, 1) := dk_89 (dk_at dksX4_digits_0 23 rfl rfl)
theorem dX4_digits_24 : decode cX4_digits 24 = .ok (.aload_n 0, 1) := dk_42 (dk_at dksX4_digits_1 0 rfl rfl)
theorem dX4_digits_25 : decode cX4_digits 25 = .ok (.getfield 15, 3) := dk_180 0 15 (dk_at dksX4_digits_1 1 rfl rfl)
theorem dX4_digits_28 : decode cX4_digits 28 = .ok (.invokespecial 39, 3) := dk_183 0 39 (dk_at dksX4_digits_1 4 rfl rfl)
theorem dX4_digits_31 : decode cX4_digits 31 = .ok (.athrow, 1) := dk_191 (dk_at dksX4_digits_1 7 rfl rfl)
theorem dX4_digits_32 : decode cX4_digits 32 = .ok (.aload_n 0, 1) := dk_42 (dk_at dksX4_digits_1 8 rfl rfl)
theorem dX4_digits_33 : decode cX4_digits 33 = .ok (.getfield 3, 3) := dk_180 0 3 (dk_at dksX4_digits_1 9 rfl rfl)
theorem dX4_digits_36 : decode cX4_digits 36 = .ok (.getfield 42, 3) := dk_180 0 42 (dk_at dksX4_digits_1 12 rfl rfl)
theorem dX4_digits_39 : decode cX4_digits 39 = .ok (.bipush 10, 2) := dk_16 10 (dk_at dksX4_digits_1 15 rfl rfl)
theorem dX4_digits_41 : decode cX4_digits 41 = .ok (.aload_n 0, 1) := dk_42 (dk_at dksX4_digits_1 17 rfl rfl)
theorem dX4_digits_42 : decode cX4_digits 42 = .ok (.invokevirtual 26, 3) := dk_182 0 26 (dk_at dksX4_digits_1 18 rfl rfl)
theorem dX4_digits_45 : decode cX4_digits 45 = .ok (.bipush 48, 2) := dk_16 48 (dk_at dksX4_digits_1 21 rfl rfl)
theorem dX4_digits_47 : decode cX4_digits 47 = .ok (.isub, 1) := dk_100 (dk_at dksX4_digits_1 23 rfl rfl)
theorem dX4_digits_48 : decode cX4_digits 48 = .ok (.invokevirtual 46, 3) := dk_182 0 46 (dk_at dksX4_digits_2 0 rfl rfl)
theorem dX4_digits_51 : decode cX4_digits 51 = .ok (.aload_n 0, 1) := dk_42 (dk_at dksX4_digits_2 3 rfl rfl)
theorem dX4_digits_52 : decode cX4_digits 52 = .ok (.dup, 1) := dk_89 (dk_at dksX4_digits_2 4 rfl rfl)
theorem dX4_digits_53 : decode cX4_digits 53 = .ok (.getfield 15, 3) := dk_180 0 15 (dk_at dksX4_digits_2 5 rfl rfl)
theorem dX4_digits_56 : decode cX4_digits 56 = .ok (.iconst 1, 1) := dk_4 (dk_at dksX4_digits_2 8 rfl rfl)
theorem dX4_digits_57 : decode cX4_digits 57 = .ok (.iadd, 1) := dk_96 (dk_at dksX4_digits_2 9 rfl rfl)
theorem dX4_digits_58 : decode cX4_digits 58 = .ok (.putfield 15, 3) := dk_181 0 15 (dk_at dksX4_digits_2 10 rfl rfl)
theorem dX4_digits_61 : decode cX4_digits 61 = .ok (.iinc 1 1, 3) := dk_132 1 1 (dk_at dksX4_digits_2 13 rfl rfl)
theorem dX4_digits_64 : decode cX4_digits 64 = .ok (.goto (-62), 3) := dk_167 255 194 (dk_at dksX4_digits_2 16 rfl rfl)
theorem dX4_digits_67 : decode cX4_digits 67 = .ok (.iload_n 1, 1) := dk_27 (dk_at dksX4_digits_2 19 rfl rfl)
theorem dX4_digits_68 : decode cX4_digits 68 = .ok (.ifCond .ne 15, 3) := dk_154 0 15 (dk_at dksX4_digits_2 20 rfl rfl)
theorem dX4_digits_71 : decode cX4_digits 71 = .ok (.new 37, 3) := dk_187 0 37 (dk_at dksX4_digits_3 0 rfl rfl)
theorem dX4_digits_74 : decode cX4_digits 74 = .ok (.dup, 1) := dk_89 (dk_at dksX4_digits_3 3 rfl rfl)
theorem dX4_digits_75 : decode cX4_digits 75 = .ok (.aload_n 0, 1) := dk_42 (dk_at dksX4_digits_3 4 rfl rfl)
theorem dX4_digits_76 : decode cX4_digits 76 = .ok (.getfield 15, 3) := dk_180 0 15 (dk_at dksX4_digits_3 5 rfl rfl)
theorem dX4_digits_79 : decode cX4_digits 79 = .ok (.invokespecial 39, 3) := dk_183 0 39 (dk_at dksX4_digits_3 8 rfl rfl)
theorem dX4_digits_82 : decode cX4_digits 82 = .ok (.athrow, 1) := dk_191 (dk_at dksX4_digits_3 11 rfl rfl)
theorem dX4_digits_83 : decode cX4_digits 83 = .ok (.aload_n 0, 1) := dk_42 (dk_at dksX4_digits_3 12 rfl rfl)
theorem dX4_digits_84 : decode cX4_digits 84 = .ok (.dup, 1) := dk_89 (dk_at dksX4_digits_3 13 rfl rfl)
theorem dX4_digits_85 : decode cX4_digits 85 = .ok (.getfield 34, 3) := dk_180 0 34 (dk_at dksX4_digits_3 14 rfl rfl)
theorem dX4_digits_88 : decode cX4_digits 88 = .ok (.iload_n 1, 1) := dk_27 (dk_at dksX4_digits_3 17 rfl rfl)
theorem dX4_digits_89 : decode cX4_digits 89 = .ok (.iadd, 1) := dk_96 (dk_at dksX4_digits_3 18 rfl rfl)
theorem dX4_digits_90 : decode cX4_digits 90 = .ok (.putfield 34, 3) := dk_181 0 34 (dk_at dksX4_digits_3 19 rfl rfl)
theorem dX4_digits_93 : decode cX4_digits 93 = .ok (.goto 16, 3) := dk_167 0 16 (dk_at dksX4_digits_4 0 rfl rfl)
theorem dX4_digits_96 : decode cX4_digits 96 = .ok (.astore_n 2, 1) := dk_77 (dk_at dksX4_digits_4 3 rfl rfl)
theorem dX4_digits_97 : decode cX4_digits 97 = .ok (.aload_n 0, 1) := dk_42 (dk_at dksX4_digits_4 4 rfl rfl)
theorem dX4_digits_98 : decode cX4_digits 98 = .ok (.dup, 1) := dk_89 (dk_at dksX4_digits_4 5 rfl rfl)
theorem dX4_digits_99 : decode cX4_digits 99 = .ok (.getfield 34, 3) := dk_180 0 34 (dk_at dksX4_digits_4 6 rfl rfl)
theorem dX4_digits_102 : decode cX4_digits 102 = .ok (.iload_n 1, 1) := dk_27 (dk_at dksX4_digits_4 9 rfl rfl)
theorem dX4_digits_103 : decode cX4_digits 103 = .ok (.iadd, 1) := dk_96 (dk_at dksX4_digits_4 10 rfl rfl)
theorem dX4_digits_104 : decode cX4_digits 104 = .ok (.putfield 34, 3) := dk_181 0 34 (dk_at dksX4_digits_4 11 rfl rfl)
theorem dX4_digits_107 : decode cX4_digits 107 = .ok (.aload_n 2, 1) := dk_44 (dk_at dksX4_digits_4 14 rfl rfl)
theorem dX4_digits_108 : decode cX4_digits 108 = .ok (.athrow, 1) := dk_191 (dk_at dksX4_digits_4 15 rfl rfl)
theorem dX4_digits_109 : decode cX4_digits 109 = .ok (.iload_n 1, 1) := dk_27 (dk_at dksX4_digits_4 16 rfl rfl)
theorem dX4_digits_110 : decode cX4_digits 110 = .ok (.ireturn, 1) := dk_172 (dk_at dksX4_digits_4 17 rfl rfl)
abbrev cX4_isDigit : ByteArray := prog_7_method_3_code
def yX4_isDigit : MethodName := ⟨RX4, "isDigit", "()Z"⟩
def dkwX4_isDigit_0 : List UInt8 := [42, 182, 0, 26, 16, 48, 161, 0, 16, 42, 182, 0, 26, 16, 57, 163, 0, 7, 4, 167, 0, 4, 3, 172]
abbrev dktX4_isDigit_0 : List UInt8 := dkwX4_isDigit_0 ++ []
theorem dksX4_isDigit_0 : cX4_isDigit.data.toList.drop 0 = dktX4_isDigit_0 := by decide +kernel
theorem dX4_isDigit_0 : decode cX4_isDigit 0 = .ok (.aload_n 0, 1) := dk_42 (dk_at dksX4_isDigit_0 0 rfl rfl)
theorem dX4_isDigit_1 : decode cX4_isDigit 1 = .ok (.invokevirtual 26, 3) := dk_182 0 26 (dk_at dksX4_isDigit_0 1 rfl rfl)
theorem dX4_isDigit_4 : decode cX4_isDigit 4 = .ok (.bipush 48, 2) := dk_16 48 (dk_at dksX4_isDigit_0 4 rfl rfl)
theorem dX4_isDigit_6 : decode cX4_isDigit 6 = .ok (.if_icmp .lt 16, 3) := dk_161 0 16 (dk_at dksX4_isDigit_0 6 rfl rfl)
theorem dX4_isDigit_9 : decode cX4_isDigit 9 = .ok (.aload_n 0, 1) := dk_42 (dk_at dksX4_isDigit_0 9 rfl rfl)
theorem dX4_isDigit_10 : decode cX4_isDigit 10 = .ok (.invokevirtual 26, 3) := dk_182 0 26 (dk_at dksX4_isDigit_0 10 rfl rfl)
theorem dX4_isDigit_13 : decode cX4_isDigit 13 = .ok (.bipush 57, 2) := dk_16 57 (dk_at dksX4_isDigit_0 13 rfl rfl)
theorem dX4_isDigit_15 : decode cX4_isDigit 15 = .ok (.if_icmp .gt 7, 3) := dk_163 0 7 (dk_at dksX4_isDigit_0 15 rfl rfl)
theorem dX4_isDigit_18 : decode cX4_isDigit 18 = .ok (.iconst 1, 1) := dk_4 (dk_at dksX4_isDigit_0 18 rfl rfl)
theorem dX4_isDigit_19 : decode cX4_isDigit 19 = .ok (.goto 4, 3) := dk_167 0 4 (dk_at dksX4_isDigit_0 19 rfl rfl)
theorem dX4_isDigit_22 : decode cX4_isDigit 22 = .ok (.iconst 0, 1) := dk_3 (dk_at dksX4_isDigit_0 22 rfl rfl)
theorem dX4_isDigit_23 : decode cX4_isDigit 23 = .ok (.ireturn, 1) := dk_172 (dk_at dksX4_isDigit_0 23 rfl rfl)
abbrev cX4_power : ByteArray := prog_7_method_6_code
def yX4_power : MethodName := ⟨RX4, "power", "()I"⟩
def dkwX4_power_4 : List UInt8 := [180, 0, 15, 183, 0, 39, 191, 27, 153, 0, 8, 29, 116, 167, 0, 4, 29, 172]
abbrev dktX4_power_4 : List UInt8 := dkwX4_power_4 ++ []
def dkwX4_power_3 : List UInt8 := [180, 0, 15, 4, 96, 181, 0, 15, 167, 255, 204, 42, 180, 0, 15, 28, 160, 0, 15, 187, 0, 37, 89, 42]
abbrev dktX4_power_3 : List UInt8 := dkwX4_power_3 ++ dktX4_power_4
def dkwX4_power_2 : List UInt8 := [180, 0, 15, 183, 0, 39, 191, 16, 10, 29, 104, 42, 182, 0, 26, 96, 16, 48, 100, 62, 42, 89]
abbrev dktX4_power_2 : List UInt8 := dkwX4_power_2 ++ dktX4_power_3
def dkwX4_power_1 : List UInt8 := [62, 42, 182, 0, 30, 153, 0, 51, 42, 180, 0, 15, 28, 100, 7, 160, 0, 15, 187, 0, 37, 89, 42]
abbrev dktX4_power_1 : List UInt8 := dkwX4_power_1 ++ dktX4_power_2
def dkwX4_power_0 : List UInt8 := [42, 16, 45, 182, 0, 52, 60, 27, 154, 0, 10, 42, 16, 43, 182, 0, 52, 87, 42, 180, 0, 15, 61, 3]
abbrev dktX4_power_0 : List UInt8 := dkwX4_power_0 ++ dktX4_power_1
theorem dksX4_power_0 : cX4_power.data.toList.drop 0 = dktX4_power_0 := by decide +kernel
theorem dksX4_power_1 : cX4_power.data.toList.drop 24 = dktX4_power_1 := dk_seg dksX4_power_0 24 rfl rfl
theorem dksX4_power_2 : cX4_power.data.toList.drop 47 = dktX4_power_2 := dk_seg dksX4_power_1 23 rfl rfl
theorem dksX4_power_3 : cX4_power.data.toList.drop 69 = dktX4_power_3 := dk_seg dksX4_power_2 22 rfl rfl
theorem dksX4_power_4 : cX4_power.data.toList.drop 93 = dktX4_power_4 := dk_seg dksX4_power_3 24 rfl rfl
theorem dX4_power_0 : decode cX4_power 0 = .ok (.aload_n 0, 1) := dk_42 (dk_at dksX4_power_0 0 rfl rfl)
theorem dX4_power_1 : decode cX4_power 1 = .ok (.bipush 45, 2) := dk_16 45 (dk_at dksX4_power_0 1 rfl rfl)
theorem dX4_power_3 : decode cX4_power 3 = .ok (.invokevirtual 52, 3) := dk_182 0 52 (dk_at dksX4_power_0 3 rfl rfl)
theorem dX4_power_6 : decode cX4_power 6 = .ok (.istore_n 1, 1) := dk_60 (dk_at dksX4_power_0 6 rfl rfl)
theorem dX4_power_7 : decode cX4_power 7 = .ok (.iload_n 1, 1) := dk_27 (dk_at dksX4_power_0 7 rfl rfl)
theorem dX4_power_8 : decode cX4_power 8 = .ok (.ifCond .ne 10, 3) := dk_154 0 10 (dk_at dksX4_power_0 8 rfl rfl)
theorem dX4_power_11 : decode cX4_power 11 = .ok (.aload_n 0, 1) := dk_42 (dk_at dksX4_power_0 11 rfl rfl)
theorem dX4_power_12 : decode cX4_power 12 = .ok (.bipush 43, 2) := dk_16 43 (dk_at dksX4_power_0 12 rfl rfl)
theorem dX4_power_14 : decode cX4_power 14 = .ok (.invokevirtual 52, 3) := dk_182 0 52 (dk_at dksX4_power_0 14 rfl rfl)
theorem dX4_power_17 : decode cX4_power 17 = .ok (.pop, 1) := dk_87 (dk_at dksX4_power_0 17 rfl rfl)
theorem dX4_power_18 : decode cX4_power 18 = .ok (.aload_n 0, 1) := dk_42 (dk_at dksX4_power_0 18 rfl rfl)
theorem dX4_power_19 : decode cX4_power 19 = .ok (.getfield 15, 3) := dk_180 0 15 (dk_at dksX4_power_0 19 rfl rfl)
theorem dX4_power_22 : decode cX4_power 22 = .ok (.istore_n 2, 1) := dk_61 (dk_at dksX4_power_0 22 rfl rfl)
theorem dX4_power_23 : decode cX4_power 23 = .ok (.iconst 0, 1) := dk_3 (dk_at dksX4_power_0 23 rfl rfl)
theorem dX4_power_24 : decode cX4_power 24 = .ok (.istore_n 3, 1) := dk_62 (dk_at dksX4_power_1 0 rfl rfl)
theorem dX4_power_25 : decode cX4_power 25 = .ok (.aload_n 0, 1) := dk_42 (dk_at dksX4_power_1 1 rfl rfl)
theorem dX4_power_26 : decode cX4_power 26 = .ok (.invokevirtual 30, 3) := dk_182 0 30 (dk_at dksX4_power_1 2 rfl rfl)
theorem dX4_power_29 : decode cX4_power 29 = .ok (.ifCond .eq 51, 3) := dk_153 0 51 (dk_at dksX4_power_1 5 rfl rfl)
theorem dX4_power_32 : decode cX4_power 32 = .ok (.aload_n 0, 1) := dk_42 (dk_at dksX4_power_1 8 rfl rfl)
theorem dX4_power_33 : decode cX4_power 33 = .ok (.getfield 15, 3) := dk_180 0 15 (dk_at dksX4_power_1 9 rfl rfl)
theorem dX4_power_36 : decode cX4_power 36 = .ok (.iload_n 2, 1) := dk_28 (dk_at dksX4_power_1 12 rfl rfl)
theorem dX4_power_37 : decode cX4_power 37 = .ok (.isub, 1) := dk_100 (dk_at dksX4_power_1 13 rfl rfl)
theorem dX4_power_38 : decode cX4_power 38 = .ok (.iconst 4, 1) := dk_7 (dk_at dksX4_power_1 14 rfl rfl)
theorem dX4_power_39 : decode cX4_power 39 = .ok (.if_icmp .ne 15, 3) := dk_160 0 15 (dk_at dksX4_power_1 15 rfl rfl)
theorem dX4_power_42 : decode cX4_power 42 = .ok (.new 37, 3) := dk_187 0 37 (dk_at dksX4_power_1 18 rfl rfl)
theorem dX4_power_45 : decode cX4_power 45 = .ok (.dup, 1) := dk_89 (dk_at dksX4_power_1 21 rfl rfl)
theorem dX4_power_46 : decode cX4_power 46 = .ok (.aload_n 0, 1) := dk_42 (dk_at dksX4_power_1 22 rfl rfl)
theorem dX4_power_47 : decode cX4_power 47 = .ok (.getfield 15, 3) := dk_180 0 15 (dk_at dksX4_power_2 0 rfl rfl)
theorem dX4_power_50 : decode cX4_power 50 = .ok (.invokespecial 39, 3) := dk_183 0 39 (dk_at dksX4_power_2 3 rfl rfl)
theorem dX4_power_53 : decode cX4_power 53 = .ok (.athrow, 1) := dk_191 (dk_at dksX4_power_2 6 rfl rfl)
theorem dX4_power_54 : decode cX4_power 54 = .ok (.bipush 10, 2) := dk_16 10 (dk_at dksX4_power_2 7 rfl rfl)
theorem dX4_power_56 : decode cX4_power 56 = .ok (.iload_n 3, 1) := dk_29 (dk_at dksX4_power_2 9 rfl rfl)
theorem dX4_power_57 : decode cX4_power 57 = .ok (.imul, 1) := dk_104 (dk_at dksX4_power_2 10 rfl rfl)
theorem dX4_power_58 : decode cX4_power 58 = .ok (.aload_n 0, 1) := dk_42 (dk_at dksX4_power_2 11 rfl rfl)
theorem dX4_power_59 : decode cX4_power 59 = .ok (.invokevirtual 26, 3) := dk_182 0 26 (dk_at dksX4_power_2 12 rfl rfl)
theorem dX4_power_62 : decode cX4_power 62 = .ok (.iadd, 1) := dk_96 (dk_at dksX4_power_2 15 rfl rfl)
theorem dX4_power_63 : decode cX4_power 63 = .ok (.bipush 48, 2) := dk_16 48 (dk_at dksX4_power_2 16 rfl rfl)
theorem dX4_power_65 : decode cX4_power 65 = .ok (.isub, 1) := dk_100 (dk_at dksX4_power_2 18 rfl rfl)
theorem dX4_power_66 : decode cX4_power 66 = .ok (.istore_n 3, 1) := dk_62 (dk_at dksX4_power_2 19 rfl rfl)
theorem dX4_power_67 : decode cX4_power 67 = .ok (.aload_n 0, 1) := dk_42 (dk_at dksX4_power_2 20 rfl rfl)
theorem dX4_power_68 : decode cX4_power 68 = .ok (.dup, 1) := dk_89 (dk_at dksX4_power_2 21 rfl rfl)
theorem dX4_power_69 : decode cX4_power 69 = .ok (.getfield 15, 3) := dk_180 0 15 (dk_at dksX4_power_3 0 rfl rfl)
theorem dX4_power_72 : decode cX4_power 72 = .ok (.iconst 1, 1) := dk_4 (dk_at dksX4_power_3 3 rfl rfl)
theorem dX4_power_73 : decode cX4_power 73 = .ok (.iadd, 1) := dk_96 (dk_at dksX4_power_3 4 rfl rfl)
theorem dX4_power_74 : decode cX4_power 74 = .ok (.putfield 15, 3) := dk_181 0 15 (dk_at dksX4_power_3 5 rfl rfl)
theorem dX4_power_77 : decode cX4_power 77 = .ok (.goto (-52), 3) := dk_167 255 204 (dk_at dksX4_power_3 8 rfl rfl)
theorem dX4_power_80 : decode cX4_power 80 = .ok (.aload_n 0, 1) := dk_42 (dk_at dksX4_power_3 11 rfl rfl)
theorem dX4_power_81 : decode cX4_power 81 = .ok (.getfield 15, 3) := dk_180 0 15 (dk_at dksX4_power_3 12 rfl rfl)
theorem dX4_power_84 : decode cX4_power 84 = .ok (.iload_n 2, 1) := dk_28 (dk_at dksX4_power_3 15 rfl rfl)
theorem dX4_power_85 : decode cX4_power 85 = .ok (.if_icmp .ne 15, 3) := dk_160 0 15 (dk_at dksX4_power_3 16 rfl rfl)
theorem dX4_power_88 : decode cX4_power 88 = .ok (.new 37, 3) := dk_187 0 37 (dk_at dksX4_power_3 19 rfl rfl)
theorem dX4_power_91 : decode cX4_power 91 = .ok (.dup, 1) := dk_89 (dk_at dksX4_power_3 22 rfl rfl)
theorem dX4_power_92 : decode cX4_power 92 = .ok (.aload_n 0, 1) := dk_42 (dk_at dksX4_power_3 23 rfl rfl)
theorem dX4_power_93 : decode cX4_power 93 = .ok (.getfield 15, 3) := dk_180 0 15 (dk_at dksX4_power_4 0 rfl rfl)
theorem dX4_power_96 : decode cX4_power 96 = .ok (.invokespecial 39, 3) := dk_183 0 39 (dk_at dksX4_power_4 3 rfl rfl)
theorem dX4_power_99 : decode cX4_power 99 = .ok (.athrow, 1) := dk_191 (dk_at dksX4_power_4 6 rfl rfl)
theorem dX4_power_100 : decode cX4_power 100 = .ok (.iload_n 1, 1) := dk_27 (dk_at dksX4_power_4 7 rfl rfl)
theorem dX4_power_101 : decode cX4_power 101 = .ok (.ifCond .eq 8, 3) := dk_153 0 8 (dk_at dksX4_power_4 8 rfl rfl)
theorem dX4_power_104 : decode cX4_power 104 = .ok (.iload_n 3, 1) := dk_29 (dk_at dksX4_power_4 11 rfl rfl)
theorem dX4_power_105 : decode cX4_power 105 = .ok (.ineg, 1) := dk_116 (dk_at dksX4_power_4 12 rfl rfl)
theorem dX4_power_106 : decode cX4_power 106 = .ok (.goto 4, 3) := dk_167 0 4 (dk_at dksX4_power_4 13 rfl rfl)
theorem dX4_power_109 : decode cX4_power 109 = .ok (.iload_n 3, 1) := dk_29 (dk_at dksX4_power_4 16 rfl rfl)
theorem dX4_power_110 : decode cX4_power 110 = .ok (.ireturn, 1) := dk_172 (dk_at dksX4_power_4 17 rfl rfl)
abbrev cX4_init : ByteArray := prog_7_method_1_code
def yX4_init : MethodName := ⟨RX4, "<init>", "(LFloatClasses;)V"⟩
def dkwX4_init_0 : List UInt8 := [42, 43, 181, 0, 3, 42, 183, 0, 9, 177]
abbrev dktX4_init_0 : List UInt8 := dkwX4_init_0 ++ []
theorem dksX4_init_0 : cX4_init.data.toList.drop 0 = dktX4_init_0 := by decide +kernel
theorem dX4_init_0 : decode cX4_init 0 = .ok (.aload_n 0, 1) := dk_42 (dk_at dksX4_init_0 0 rfl rfl)
theorem dX4_init_1 : decode cX4_init 1 = .ok (.aload_n 1, 1) := dk_43 (dk_at dksX4_init_0 1 rfl rfl)
theorem dX4_init_2 : decode cX4_init 2 = .ok (.putfield 3, 3) := dk_181 0 3 (dk_at dksX4_init_0 2 rfl rfl)
theorem dX4_init_5 : decode cX4_init 5 = .ok (.aload_n 0, 1) := dk_42 (dk_at dksX4_init_0 5 rfl rfl)
theorem dX4_init_6 : decode cX4_init 6 = .ok (.invokespecial 9, 3) := dk_183 0 9 (dk_at dksX4_init_0 6 rfl rfl)
theorem dX4_init_9 : decode cX4_init 9 = .ok (.return_, 1) := dk_177 (dk_at dksX4_init_0 9 rfl rfl)
theorem q48 : (Jvm.Cond.initialized "FloatClasses$Reader") ∈ lw_all := lw_g (lw_at lw_m1 5 rfl) rfl
theorem q829 : (Jvm.Cond.instanceMethod ({ cls := "FloatClasses$Reader", name := "read", desc := "()Z" } : Jvm.MethodName)) ∈ lw_all := lw_g (lw_at lw_m4 66 rfl) rfl
theorem q830 : (Jvm.Cond.selects "FloatClasses$Reader" ({ cls := "FloatClasses$Reader", name := "read", desc := "()Z" } : Jvm.MethodName) ({ cls := "FloatClasses$Reader", name := "read", desc := "()Z" } : Jvm.MethodName)) ∈ lw_all := lw_g (lw_at lw_m4 67 rfl) rfl
theorem q831 : (Jvm.Cond.code ({ cls := "FloatClasses$Reader", name := "read", desc := "()Z" } : Jvm.MethodName) prog_7_method_7_code (2 : Nat) (Option.some Jvm.ClassFile.FieldType.boolean)) ∈ lw_all := lw_g (lw_at lw_m4 68 rfl) rfl
theorem q832 : (Jvm.Cond.methodLink "FloatClasses$Reader" (56 : Nat) ({ cls := "FloatClasses$Natural", name := "set", desc := "(J)V" } : Jvm.MethodName)) ∈ lw_all := lw_g (lw_at lw_m4 69 rfl) rfl
theorem q833 : (Jvm.Cond.methodLink "FloatClasses$Reader" (52 : Nat) ({ cls := "FloatClasses$Reader", name := "takes", desc := "(I)Z" } : Jvm.MethodName)) ∈ lw_all := lw_g (lw_at lw_m4 70 rfl) rfl
theorem q834 : (Jvm.Cond.privateMethod ({ cls := "FloatClasses$Reader", name := "takes", desc := "(I)Z" } : Jvm.MethodName)) ∈ lw_tbl := lw_at lw_m4 71 rfl
theorem q835 : (Jvm.Cond.instanceMethod ({ cls := "FloatClasses$Reader", name := "takes", desc := "(I)Z" } : Jvm.MethodName)) ∈ lw_all := lw_g (lw_at lw_m4 72 rfl) rfl
theorem q836 : (Jvm.Cond.instantiable "FloatClasses$Reader" (4 : Nat)) ∈ lw_all := lw_g (lw_at lw_m4 73 rfl) rfl
theorem q837 : (Jvm.Cond.code ({ cls := "FloatClasses$Reader", name := "takes", desc := "(I)Z" } : Jvm.MethodName) prog_7_method_4_code (3 : Nat) (Option.some Jvm.ClassFile.FieldType.boolean)) ∈ lw_all := lw_g (lw_at lw_m4 74 rfl) rfl
theorem q838 : (Jvm.Cond.methodLink "FloatClasses$Reader" (26 : Nat) ({ cls := "FloatClasses$Reader", name := "at", desc := "()I" } : Jvm.MethodName)) ∈ lw_all := lw_g (lw_at lw_m4 75 rfl) rfl
theorem q839 : (Jvm.Cond.privateMethod ({ cls := "FloatClasses$Reader", name := "at", desc := "()I" } : Jvm.MethodName)) ∈ lw_tbl := lw_at lw_m4 76 rfl
theorem q840 : (Jvm.Cond.instanceMethod ({ cls := "FloatClasses$Reader", name := "at", desc := "()I" } : Jvm.MethodName)) ∈ lw_all := lw_g (lw_at lw_m4 77 rfl) rfl
theorem q841 : (Jvm.Cond.code ({ cls := "FloatClasses$Reader", name := "at", desc := "()I" } : Jvm.MethodName) prog_7_method_2_code (1 : Nat) (Option.some Jvm.ClassFile.FieldType.int)) ∈ lw_all := lw_g (lw_at lw_m4 78 rfl) rfl
theorem q842 : (Jvm.Cond.methodLink "FloatClasses$Reader" (60 : Nat) ({ cls := "FloatClasses$Reader", name := "digits", desc := "()I" } : Jvm.MethodName)) ∈ lw_all := lw_g (lw_at lw_m4 79 rfl) rfl
theorem q843 : (Jvm.Cond.privateMethod ({ cls := "FloatClasses$Reader", name := "digits", desc := "()I" } : Jvm.MethodName)) ∈ lw_tbl := lw_at lw_m4 80 rfl
theorem q844 : (Jvm.Cond.instanceMethod ({ cls := "FloatClasses$Reader", name := "digits", desc := "()I" } : Jvm.MethodName)) ∈ lw_all := lw_g (lw_at lw_m4 81 rfl) rfl
theorem q845 : (Jvm.Cond.codeWith ({ cls := "FloatClasses$Reader", name := "digits", desc := "()I" } : Jvm.MethodName) prog_7_method_5_code (3 : Nat) (Option.some Jvm.ClassFile.FieldType.int) [((2 : Nat), (83 : Nat), (96 : Nat), (0 : Nat))]) ∈ lw_all := lw_g (lw_at lw_m4 82 rfl) rfl
theorem q846 : (Jvm.Cond.methodLink "FloatClasses$Reader" (30 : Nat) ({ cls := "FloatClasses$Reader", name := "isDigit", desc := "()Z" } : Jvm.MethodName)) ∈ lw_all := lw_g (lw_at lw_m4 83 rfl) rfl
theorem q847 : (Jvm.Cond.privateMethod ({ cls := "FloatClasses$Reader", name := "isDigit", desc := "()Z" } : Jvm.MethodName)) ∈ lw_tbl := lw_at lw_m4 84 rfl
theorem q848 : (Jvm.Cond.instanceMethod ({ cls := "FloatClasses$Reader", name := "isDigit", desc := "()Z" } : Jvm.MethodName)) ∈ lw_all := lw_g (lw_at lw_m4 85 rfl) rfl
theorem q849 : (Jvm.Cond.code ({ cls := "FloatClasses$Reader", name := "isDigit", desc := "()Z" } : Jvm.MethodName) prog_7_method_3_code (1 : Nat) (Option.some Jvm.ClassFile.FieldType.boolean)) ∈ lw_all := lw_g (lw_at lw_m4 86 rfl) rfl
theorem q850 : (Jvm.Cond.classLink "FloatClasses$Reader" (37 : Nat) "FloatClasses$Fault") ∈ lw_all := lw_g (lw_at lw_m4 87 rfl) rfl
theorem q859 : (Jvm.Cond.methodLink "FloatClasses$Reader" (39 : Nat) ({ cls := "FloatClasses$Fault", name := "<init>", desc := "(I)V" } : Jvm.MethodName)) ∈ lw_all := lw_g (lw_at lw_m4 96 rfl) rfl
theorem q872 : (Jvm.Cond.methodLink "FloatClasses$Reader" (46 : Nat) ({ cls := "FloatClasses$Natural", name := "times", desc := "(II)V" } : Jvm.MethodName)) ∈ lw_all := lw_g (lw_at lw_m4 109 rfl) rfl
theorem q881 : (Jvm.Cond.methodLink "FloatClasses$Reader" (66 : Nat) ({ cls := "FloatClasses$Reader", name := "power", desc := "()I" } : Jvm.MethodName)) ∈ lw_all := lw_g (lw_at lw_m4 118 rfl) rfl
theorem q882 : (Jvm.Cond.privateMethod ({ cls := "FloatClasses$Reader", name := "power", desc := "()I" } : Jvm.MethodName)) ∈ lw_tbl := lw_at lw_m4 119 rfl
theorem q883 : (Jvm.Cond.instanceMethod ({ cls := "FloatClasses$Reader", name := "power", desc := "()I" } : Jvm.MethodName)) ∈ lw_all := lw_g (lw_at lw_m4 120 rfl) rfl
theorem q884 : (Jvm.Cond.code ({ cls := "FloatClasses$Reader", name := "power", desc := "()I" } : Jvm.MethodName) prog_7_method_6_code (4 : Nat) (Option.some Jvm.ClassFile.FieldType.int)) ∈ lw_all := lw_g (lw_at lw_m4 121 rfl) rfl
theorem q924 : (Jvm.Cond.instanceMethod ({ cls := "FloatClasses$Reader", name := "<init>", desc := "(LFloatClasses;)V" } : Jvm.MethodName)) ∈ lw_all := lw_g (lw_at lw_m4 161 rfl) rfl
theorem q925 : (Jvm.Cond.code ({ cls := "FloatClasses$Reader", name := "<init>", desc := "(LFloatClasses;)V" } : Jvm.MethodName) prog_7_method_1_code (2 : Nat) (Option.none : Option Jvm.ClassFile.FieldType)) ∈ lw_all := lw_g (lw_at lw_m4 162 rfl) rfl
theorem q926 : (Jvm.Cond.methodLink "FloatClasses$Reader" (9 : Nat) ({ cls := "java/lang/Object", name := "<init>", desc := "()V" } : Jvm.MethodName)) ∈ lw_all := lw_g (lw_at lw_m4 163 rfl) rfl
theorem q927 : (Jvm.Cond.fieldLink "FloatClasses$Reader" (15 : Nat) "FloatClasses$Reader" "i" "I") ∈ lw_all := lw_g (lw_at lw_m4 164 rfl) rfl
theorem q928 : (Jvm.Cond.fieldLink "FloatClasses$Reader" (63 : Nat) "FloatClasses$Reader" "exponent" "I") ∈ lw_all := lw_g (lw_at lw_m4 165 rfl) rfl
theorem q930 : (Jvm.Cond.fieldLink "FloatClasses$Reader" (34 : Nat) "FloatClasses$Reader" "count" "I") ∈ lw_all := lw_g (lw_at lw_m4 167 rfl) rfl
theorem q931 : (Jvm.Cond.fieldLink "FloatClasses$Reader" (3 : Nat) "FloatClasses$Reader" "this$0" "LFloatClasses;") ∈ lw_all := lw_g (lw_at lw_m4 168 rfl) rfl
theorem q932 : (Jvm.Cond.lays "FloatClasses$Reader" "FloatClasses$Reader" "i" "I") ∈ lw_all := lw_g (lw_at lw_m4 169 rfl) rfl
theorem q933 : (Jvm.Cond.soleField "FloatClasses$Reader" "i") ∈ lw_all := lw_g (lw_at lw_m4 170 rfl) rfl
theorem q934 : (Jvm.Cond.lays "FloatClasses$Reader" "FloatClasses$Reader" "exponent" "I") ∈ lw_all := lw_g (lw_at lw_m4 171 rfl) rfl
theorem q935 : (Jvm.Cond.soleField "FloatClasses$Reader" "exponent") ∈ lw_all := lw_g (lw_at lw_m4 172 rfl) rfl
theorem q936 : (Jvm.Cond.lays "FloatClasses$Reader" "FloatClasses$Reader" "count" "I") ∈ lw_all := lw_g (lw_at lw_m4 173 rfl) rfl
theorem q937 : (Jvm.Cond.soleField "FloatClasses$Reader" "count") ∈ lw_all := lw_g (lw_at lw_m4 174 rfl) rfl
theorem q938 : (Jvm.Cond.laysFinal "FloatClasses$Reader" "FloatClasses$Reader" "this$0" "LFloatClasses;") ∈ lw_all := lw_g (lw_at lw_m4 175 rfl) rfl
theorem q939 : (Jvm.Cond.soleField "FloatClasses$Reader" "this$0") ∈ lw_all := lw_g (lw_at lw_m4 176 rfl) rfl
theorem q940 : (Jvm.Cond.superclass "FloatClasses$Reader" "java/lang/Object") ∈ lw_all := lw_g (lw_at lw_m4 177 rfl) rfl
theorem q957 : (Jvm.Cond.fieldLinkNest "FloatClasses$Reader" (42 : Nat) "FloatClasses" "above" "LFloatClasses$Natural;" "FloatClasses") ∈ lw_tbl := lw_at lw_m4 194 rfl
theorem q963 : (Jvm.Cond.fieldLinkNest "FloatClasses$Reader" (22 : Nat) "FloatClasses" "text" "[I" "FloatClasses") ∈ lw_tbl := lw_at lw_m4 200 rfl
theorem q965 : (Jvm.Cond.fieldLinkNest "FloatClasses$Reader" (19 : Nat) "FloatClasses" "size" "I" "FloatClasses") ∈ lw_tbl := lw_at lw_m4 202 rfl
theorem in_X4 : ∀ w ∈ wsX40, w ∈ lw_all := lw_in wsX40 [932, 934, 936, 938] (by decide +kernel) (by decide +kernel)
/-! FloatClasses$Holder -/
set_option maxRecDepth 100000
def RX5 : String := "FloatClasses$Holder"
def TX5 : u_T := fun k => match k with
  | _ => ("FloatClasses$Holder", "row", "Ljava/lang/Object;", false)
def tyX5 : Nat → FieldType := fun k => match k with
  | _ => .object "java/lang/Object"
abbrev wsX50 : List Cond := u_ws RX5 TX5 1
theorem nmX5 : ∀ a, a < 1 → ∀ b, b < 1 → a ≠ b → (TX5 a).2.1 ≠ (TX5 b).2.1 := by decide +kernel
theorem tyX5_ok : ∀ k, k < 1 → parseFieldDescriptor (TX5 k).2.2.1 = some (tyX5 k) := by decide +kernel
abbrev cX5_init : ByteArray := prog_5_method_1_code
def yX5_init : MethodName := ⟨RX5, "<init>", "()V"⟩
theorem dX5_init_0 : decode cX5_init 0 = .ok (.aload_n 0, 1) := by decide +kernel
theorem dX5_init_1 : decode cX5_init 1 = .ok (.invokespecial 1, 3) := by decide +kernel
theorem dX5_init_4 : decode cX5_init 4 = .ok (.return_, 1) := by decide +kernel
abbrev cX5_length : ByteArray := prog_5_method_2_code
def yX5_length : MethodName := ⟨RX5, "length", "()I"⟩
def dkwX5_length_1 : List UInt8 := [180, 0, 7, 192, 0, 15, 190, 172]
abbrev dktX5_length_1 : List UInt8 := dkwX5_length_1 ++ []
def dkwX5_length_0 : List UInt8 := [42, 180, 0, 7, 193, 0, 13, 153, 0, 14, 42, 180, 0, 7, 192, 0, 13, 190, 167, 0, 11, 42]
abbrev dktX5_length_0 : List UInt8 := dkwX5_length_0 ++ dktX5_length_1
theorem dksX5_length_0 : cX5_length.data.toList.drop 0 = dktX5_length_0 := by decide +kernel
theorem dksX5_length_1 : cX5_length.data.toList.drop 22 = dktX5_length_1 := dk_seg dksX5_length_0 22 rfl rfl
theorem dX5_length_0 : decode cX5_length 0 = .ok (.aload_n 0, 1) := dk_42 (dk_at dksX5_length_0 0 rfl rfl)
theorem dX5_length_1 : decode cX5_length 1 = .ok (.getfield 7, 3) := dk_180 0 7 (dk_at dksX5_length_0 1 rfl rfl)
theorem dX5_length_4 : decode cX5_length 4 = .ok (.instanceof 13, 3) := dk_193 0 13 (dk_at dksX5_length_0 4 rfl rfl)
theorem dX5_length_7 : decode cX5_length 7 = .ok (.ifCond .eq 14, 3) := dk_153 0 14 (dk_at dksX5_length_0 7 rfl rfl)
theorem dX5_length_10 : decode cX5_length 10 = .ok (.aload_n 0, 1) := dk_42 (dk_at dksX5_length_0 10 rfl rfl)
theorem dX5_length_11 : decode cX5_length 11 = .ok (.getfield 7, 3) := dk_180 0 7 (dk_at dksX5_length_0 11 rfl rfl)
theorem dX5_length_14 : decode cX5_length 14 = .ok (.checkcast 13, 3) := dk_192 0 13 (dk_at dksX5_length_0 14 rfl rfl)
theorem dX5_length_17 : decode cX5_length 17 = .ok (.arraylength, 1) := dk_190 (dk_at dksX5_length_0 17 rfl rfl)
theorem dX5_length_18 : decode cX5_length 18 = .ok (.goto 11, 3) := dk_167 0 11 (dk_at dksX5_length_0 18 rfl rfl)
theorem dX5_length_21 : decode cX5_length 21 = .ok (.aload_n 0, 1) := dk_42 (dk_at dksX5_length_0 21 rfl rfl)
theorem dX5_length_22 : decode cX5_length 22 = .ok (.getfield 7, 3) := dk_180 0 7 (dk_at dksX5_length_1 0 rfl rfl)
theorem dX5_length_25 : decode cX5_length 25 = .ok (.checkcast 15, 3) := dk_192 0 15 (dk_at dksX5_length_1 3 rfl rfl)
theorem dX5_length_28 : decode cX5_length 28 = .ok (.arraylength, 1) := dk_190 (dk_at dksX5_length_1 6 rfl rfl)
theorem dX5_length_29 : decode cX5_length 29 = .ok (.ireturn, 1) := dk_172 (dk_at dksX5_length_1 7 rfl rfl)
theorem q49 : (Jvm.Cond.initialized "FloatClasses$Holder") ∈ lw_all := lw_g (lw_at lw_m1 6 rfl) rfl
theorem q943 : (Jvm.Cond.instantiable "FloatClasses$Holder" (1 : Nat)) ∈ lw_all := lw_g (lw_at lw_m4 180 rfl) rfl
theorem q945 : (Jvm.Cond.instanceMethod ({ cls := "FloatClasses$Holder", name := "<init>", desc := "()V" } : Jvm.MethodName)) ∈ lw_all := lw_g (lw_at lw_m4 182 rfl) rfl
theorem q946 : (Jvm.Cond.code ({ cls := "FloatClasses$Holder", name := "<init>", desc := "()V" } : Jvm.MethodName) prog_5_method_1_code (1 : Nat) (Option.none : Option Jvm.ClassFile.FieldType)) ∈ lw_all := lw_g (lw_at lw_m4 183 rfl) rfl
theorem q947 : (Jvm.Cond.methodLink "FloatClasses$Holder" (1 : Nat) ({ cls := "java/lang/Object", name := "<init>", desc := "()V" } : Jvm.MethodName)) ∈ lw_all := lw_g (lw_at lw_m4 184 rfl) rfl
theorem q948 : (Jvm.Cond.fieldLink "FloatClasses$Holder" (7 : Nat) "FloatClasses$Holder" "row" "Ljava/lang/Object;") ∈ lw_all := lw_g (lw_at lw_m4 185 rfl) rfl
theorem q950 : (Jvm.Cond.lays "FloatClasses$Holder" "FloatClasses$Holder" "row" "Ljava/lang/Object;") ∈ lw_all := lw_g (lw_at lw_m4 187 rfl) rfl
theorem q951 : (Jvm.Cond.soleField "FloatClasses$Holder" "row") ∈ lw_all := lw_g (lw_at lw_m4 188 rfl) rfl
theorem q952 : (Jvm.Cond.superclass "FloatClasses$Holder" "java/lang/Object") ∈ lw_all := lw_g (lw_at lw_m4 189 rfl) rfl
theorem q1107 : (Jvm.Cond.instanceMethod ({ cls := "FloatClasses$Holder", name := "length", desc := "()I" } : Jvm.MethodName)) ∈ lw_all := lw_g (lw_at lw_m5 104 rfl) rfl
theorem q1108 : (Jvm.Cond.selects "FloatClasses$Holder" ({ cls := "FloatClasses$Holder", name := "length", desc := "()I" } : Jvm.MethodName) ({ cls := "FloatClasses$Holder", name := "length", desc := "()I" } : Jvm.MethodName)) ∈ lw_all := lw_g (lw_at lw_m5 105 rfl) rfl
theorem q1109 : (Jvm.Cond.code ({ cls := "FloatClasses$Holder", name := "length", desc := "()I" } : Jvm.MethodName) prog_5_method_2_code (1 : Nat) (Option.some Jvm.ClassFile.FieldType.int)) ∈ lw_all := lw_g (lw_at lw_m5 106 rfl) rfl
theorem q1110 : (Jvm.Cond.classLink "FloatClasses$Holder" (13 : Nat) "[F") ∈ lw_all := lw_g (lw_at lw_m5 107 rfl) rfl
theorem q1111 : (Jvm.Cond.classLink "FloatClasses$Holder" (15 : Nat) "[D") ∈ lw_all := lw_g (lw_at lw_m5 108 rfl) rfl
theorem in_X5 : ∀ w ∈ wsX50, w ∈ lw_all := lw_in wsX50 [950] (by decide +kernel) (by decide +kernel)
/-! FloatClasses$Fault -/
set_option maxRecDepth 100000
def RX7 : String := "FloatClasses$Fault"
def TX7 : u_T := fun k => match k with
  | 0 => ("java/lang/Throwable", "cause", "Ljava/lang/Throwable;", false)
  | 1 => ("java/lang/Throwable", "stackTrace", "[Ljava/lang/StackTraceElement;", false)
  | 2 => ("java/lang/Throwable", "suppressedExceptions", "Ljava/util/List;", false)
  | 3 => ("java/lang/Throwable", "detailMessage", "Ljava/lang/String;", false)
  | 4 => ("java/lang/Throwable", "backtrace", "Ljava/lang/Object;", false)
  | 5 => ("java/lang/Throwable", "depth", "I", false)
  | _ => ("FloatClasses$Fault", "place", "I", true)
def tyX7 : Nat → FieldType := fun k => match k with
  | 0 => .object "java/lang/Throwable"
  | 1 => .array (.object "java/lang/StackTraceElement")
  | 2 => .object "java/util/List"
  | 3 => .object "java/lang/String"
  | 4 => .object "java/lang/Object"
  | 5 => .int
  | _ => .int
abbrev wsX70 : List Cond := u_ws RX7 TX7 7
theorem nmX7 : ∀ a, a < 7 → ∀ b, b < 7 → a ≠ b → (TX7 a).2.1 ≠ (TX7 b).2.1 := by decide +kernel
theorem tyX7_ok : ∀ k, k < 7 → parseFieldDescriptor (TX7 k).2.2.1 = some (tyX7 k) := by decide +kernel
abbrev cX7_init : ByteArray := prog_3_method_1_code
def yX7_init : MethodName := ⟨RX7, "<init>", "(I)V"⟩
def dkwX7_init_0 : List UInt8 := [42, 183, 0, 1, 42, 27, 181, 0, 7, 177]
abbrev dktX7_init_0 : List UInt8 := dkwX7_init_0 ++ []
theorem dksX7_init_0 : cX7_init.data.toList.drop 0 = dktX7_init_0 := by decide +kernel
theorem dX7_init_0 : decode cX7_init 0 = .ok (.aload_n 0, 1) := dk_42 (dk_at dksX7_init_0 0 rfl rfl)
theorem dX7_init_1 : decode cX7_init 1 = .ok (.invokespecial 1, 3) := dk_183 0 1 (dk_at dksX7_init_0 1 rfl rfl)
theorem dX7_init_4 : decode cX7_init 4 = .ok (.aload_n 0, 1) := dk_42 (dk_at dksX7_init_0 4 rfl rfl)
theorem dX7_init_5 : decode cX7_init 5 = .ok (.iload_n 1, 1) := dk_27 (dk_at dksX7_init_0 5 rfl rfl)
theorem dX7_init_6 : decode cX7_init 6 = .ok (.putfield 7, 3) := dk_181 0 7 (dk_at dksX7_init_0 6 rfl rfl)
theorem dX7_init_9 : decode cX7_init 9 = .ok (.return_, 1) := dk_177 (dk_at dksX7_init_0 9 rfl rfl)
theorem q65 : (Jvm.Cond.initialized "FloatClasses$Fault") ∈ lw_all := lw_g (lw_at lw_m1 22 rfl) rfl
theorem q661 : (Jvm.Cond.selects "FloatClasses$Fault" ({ cls := "java/lang/Throwable", name := "fillInStackTrace", desc := "()Ljava/lang/Throwable;" } : Jvm.MethodName) ({ cls := "java/lang/Throwable", name := "fillInStackTrace", desc := "()Ljava/lang/Throwable;" } : Jvm.MethodName)) ∈ lw_all := lw_g (lw_at lw_m3 138 rfl) rfl
theorem q851 : (Jvm.Cond.instantiable "FloatClasses$Fault" (7 : Nat)) ∈ lw_all := lw_g (lw_at lw_m4 88 rfl) rfl
theorem q852 : (Jvm.Cond.castable "FloatClasses$Fault" "FloatClasses$Fault") ∈ lw_tbl := lw_at lw_m4 89 rfl
theorem q853 : (Jvm.Cond.selects "FloatClasses$Fault" ({ cls := "java/lang/Throwable", name := "fillInStackTrace", desc := "(I)Ljava/lang/Throwable;" } : Jvm.MethodName) ({ cls := "java/lang/Throwable", name := "fillInStackTrace", desc := "(I)Ljava/lang/Throwable;" } : Jvm.MethodName)) ∈ lw_all := lw_g (lw_at lw_m4 90 rfl) rfl
theorem q854 : (Jvm.Cond.lays "FloatClasses$Fault" "java/lang/Throwable" "cause" "Ljava/lang/Throwable;") ∈ lw_all := lw_g (lw_at lw_m4 91 rfl) rfl
theorem q855 : (Jvm.Cond.lays "FloatClasses$Fault" "java/lang/Throwable" "stackTrace" "[Ljava/lang/StackTraceElement;") ∈ lw_all := lw_g (lw_at lw_m4 92 rfl) rfl
theorem q856 : (Jvm.Cond.lays "FloatClasses$Fault" "java/lang/Throwable" "suppressedExceptions" "Ljava/util/List;") ∈ lw_all := lw_g (lw_at lw_m4 93 rfl) rfl
theorem q857 : (Jvm.Cond.lays "FloatClasses$Fault" "java/lang/Throwable" "detailMessage" "Ljava/lang/String;") ∈ lw_all := lw_g (lw_at lw_m4 94 rfl) rfl
theorem q858 : (Jvm.Cond.lays "FloatClasses$Fault" "java/lang/Throwable" "backtrace" "Ljava/lang/Object;") ∈ lw_all := lw_g (lw_at lw_m4 95 rfl) rfl
theorem q860 : (Jvm.Cond.instanceMethod ({ cls := "FloatClasses$Fault", name := "<init>", desc := "(I)V" } : Jvm.MethodName)) ∈ lw_all := lw_g (lw_at lw_m4 97 rfl) rfl
theorem q861 : (Jvm.Cond.code ({ cls := "FloatClasses$Fault", name := "<init>", desc := "(I)V" } : Jvm.MethodName) prog_3_method_1_code (2 : Nat) (Option.none : Option Jvm.ClassFile.FieldType)) ∈ lw_all := lw_g (lw_at lw_m4 98 rfl) rfl
theorem q862 : (Jvm.Cond.methodLink "FloatClasses$Fault" (1 : Nat) ({ cls := "java/lang/Exception", name := "<init>", desc := "()V" } : Jvm.MethodName)) ∈ lw_all := lw_g (lw_at lw_m4 99 rfl) rfl
theorem q866 : (Jvm.Cond.fieldLink "FloatClasses$Fault" (7 : Nat) "FloatClasses$Fault" "place" "I") ∈ lw_all := lw_g (lw_at lw_m4 103 rfl) rfl
theorem q868 : (Jvm.Cond.laysFinal "FloatClasses$Fault" "FloatClasses$Fault" "place" "I") ∈ lw_all := lw_g (lw_at lw_m4 105 rfl) rfl
theorem q869 : (Jvm.Cond.soleField "FloatClasses$Fault" "place") ∈ lw_all := lw_g (lw_at lw_m4 106 rfl) rfl
theorem q870 : (Jvm.Cond.lays "FloatClasses$Fault" "java/lang/Throwable" "depth" "I") ∈ lw_all := lw_g (lw_at lw_m4 107 rfl) rfl
theorem q871 : (Jvm.Cond.superclass "FloatClasses$Fault" "java/lang/Exception") ∈ lw_all := lw_g (lw_at lw_m4 108 rfl) rfl
theorem in_X7 : ∀ w ∈ wsX70, w ∈ lw_all := lw_in wsX70 [854, 855, 856, 857, 858, 870, 868] (by decide +kernel) (by decide +kernel)
/-! FloatClasses$Reals -/
set_option maxRecDepth 100000
def RX8 : String := "FloatClasses$Reals"
abbrev cX8_isFinite : ByteArray := prog_8_method_16_code
def yX8_isFinite : MethodName := ⟨RX8, "isFinite", "(D)Z"⟩
def dkwX8_isFinite_0 : List UInt8 := [39, 39, 151, 154, 0, 14, 39, 184, 0, 7, 154, 0, 7, 4, 167, 0, 4, 3, 172]
abbrev dktX8_isFinite_0 : List UInt8 := dkwX8_isFinite_0 ++ []
theorem dksX8_isFinite_0 : cX8_isFinite.data.toList.drop 0 = dktX8_isFinite_0 := by decide +kernel
theorem dX8_isFinite_0 : decode cX8_isFinite 0 = .ok (.dload_n 1, 1) := dk_39 (dk_at dksX8_isFinite_0 0 rfl rfl)
theorem dX8_isFinite_1 : decode cX8_isFinite 1 = .ok (.dload_n 1, 1) := dk_39 (dk_at dksX8_isFinite_0 1 rfl rfl)
theorem dX8_isFinite_2 : decode cX8_isFinite 2 = .ok (.dcmp .l, 1) := dk_151 (dk_at dksX8_isFinite_0 2 rfl rfl)
theorem dX8_isFinite_3 : decode cX8_isFinite 3 = .ok (.ifCond .ne 14, 3) := dk_154 0 14 (dk_at dksX8_isFinite_0 3 rfl rfl)
theorem dX8_isFinite_6 : decode cX8_isFinite 6 = .ok (.dload_n 1, 1) := dk_39 (dk_at dksX8_isFinite_0 6 rfl rfl)
theorem dX8_isFinite_7 : decode cX8_isFinite 7 = .ok (.invokestatic 7, 3) := dk_184 0 7 (dk_at dksX8_isFinite_0 7 rfl rfl)
theorem dX8_isFinite_10 : decode cX8_isFinite 10 = .ok (.ifCond .ne 7, 3) := dk_154 0 7 (dk_at dksX8_isFinite_0 10 rfl rfl)
theorem dX8_isFinite_13 : decode cX8_isFinite 13 = .ok (.iconst 1, 1) := dk_4 (dk_at dksX8_isFinite_0 13 rfl rfl)
theorem dX8_isFinite_14 : decode cX8_isFinite 14 = .ok (.goto 4, 3) := dk_167 0 4 (dk_at dksX8_isFinite_0 14 rfl rfl)
theorem dX8_isFinite_17 : decode cX8_isFinite 17 = .ok (.iconst 0, 1) := dk_3 (dk_at dksX8_isFinite_0 17 rfl rfl)
theorem dX8_isFinite_18 : decode cX8_isFinite 18 = .ok (.ireturn, 1) := dk_172 (dk_at dksX8_isFinite_0 18 rfl rfl)
abbrev cX8_power2 : ByteArray := prog_8_method_21_code
def yX8_power2 : MethodName := ⟨RX8, "power2", "(D)I"⟩
def dkwX8_power2_0 : List UInt8 := [39, 184, 0, 84, 42, 185, 0, 72, 1, 0, 100, 4, 96, 172]
abbrev dktX8_power2_0 : List UInt8 := dkwX8_power2_0 ++ []
theorem dksX8_power2_0 : cX8_power2.data.toList.drop 0 = dktX8_power2_0 := by decide +kernel
theorem dX8_power2_0 : decode cX8_power2 0 = .ok (.dload_n 1, 1) := dk_39 (dk_at dksX8_power2_0 0 rfl rfl)
theorem dX8_power2_1 : decode cX8_power2 1 = .ok (.invokestatic 84, 3) := dk_184 0 84 (dk_at dksX8_power2_0 1 rfl rfl)
theorem dX8_power2_4 : decode cX8_power2 4 = .ok (.aload_n 0, 1) := dk_42 (dk_at dksX8_power2_0 4 rfl rfl)
theorem dX8_power2_5 : decode cX8_power2 5 = .ok (.invokeinterface 72 1, 5) := by decide +kernel
theorem dX8_power2_10 : decode cX8_power2 10 = .ok (.isub, 1) := dk_100 (dk_at dksX8_power2_0 10 rfl rfl)
theorem dX8_power2_11 : decode cX8_power2 11 = .ok (.iconst 1, 1) := dk_4 (dk_at dksX8_power2_0 11 rfl rfl)
theorem dX8_power2_12 : decode cX8_power2 12 = .ok (.iadd, 1) := dk_96 (dk_at dksX8_power2_0 12 rfl rfl)
theorem dX8_power2_13 : decode cX8_power2 13 = .ok (.ireturn, 1) := dk_172 (dk_at dksX8_power2_0 13 rfl rfl)
abbrev cX8_sort : ByteArray := prog_8_method_19_code
def yX8_sort : MethodName := ⟨RX8, "sort", "(D)I"⟩
def dkwX8_sort_3 : List UInt8 := [96, 4, 100, 185, 0, 75, 4, 0, 152, 156, 0, 7, 6, 167, 0, 4, 7, 96, 172]
abbrev dktX8_sort_3 : List UInt8 := dkwX8_sort_3 ++ []
def dkwX8_sort_2 : List UInt8 := [151, 154, 0, 7, 5, 167, 0, 36, 24, 4, 42, 15, 42, 185, 0, 68, 1, 0, 42, 185, 0, 72, 1, 0]
abbrev dktX8_sort_2 : List UInt8 := dkwX8_sort_2 ++ dktX8_sort_3
def dkwX8_sort_1 : List UInt8 := [62, 39, 184, 0, 28, 57, 4, 29, 42, 39, 185, 0, 65, 3, 0, 154, 0, 7, 4, 167, 0, 46, 39, 14]
abbrev dktX8_sort_1 : List UInt8 := dkwX8_sort_1 ++ dktX8_sort_2
def dkwX8_sort_0 : List UInt8 := [39, 39, 151, 153, 0, 5, 3, 172, 15, 39, 184, 0, 62, 14, 152, 156, 0, 8, 16, 8, 167, 0, 4, 3]
abbrev dktX8_sort_0 : List UInt8 := dkwX8_sort_0 ++ dktX8_sort_1
theorem dksX8_sort_0 : cX8_sort.data.toList.drop 0 = dktX8_sort_0 := by decide +kernel
theorem dksX8_sort_1 : cX8_sort.data.toList.drop 24 = dktX8_sort_1 := dk_seg dksX8_sort_0 24 rfl rfl
theorem dksX8_sort_2 : cX8_sort.data.toList.drop 48 = dktX8_sort_2 := dk_seg dksX8_sort_1 24 rfl rfl
theorem dksX8_sort_3 : cX8_sort.data.toList.drop 72 = dktX8_sort_3 := dk_seg dksX8_sort_2 24 rfl rfl
theorem dX8_sort_0 : decode cX8_sort 0 = .ok (.dload_n 1, 1) := dk_39 (dk_at dksX8_sort_0 0 rfl rfl)
theorem dX8_sort_1 : decode cX8_sort 1 = .ok (.dload_n 1, 1) := dk_39 (dk_at dksX8_sort_0 1 rfl rfl)
theorem dX8_sort_2 : decode cX8_sort 2 = .ok (.dcmp .l, 1) := dk_151 (dk_at dksX8_sort_0 2 rfl rfl)
theorem dX8_sort_3 : decode cX8_sort 3 = .ok (.ifCond .eq 5, 3) := dk_153 0 5 (dk_at dksX8_sort_0 3 rfl rfl)
theorem dX8_sort_6 : decode cX8_sort 6 = .ok (.iconst 0, 1) := dk_3 (dk_at dksX8_sort_0 6 rfl rfl)
theorem dX8_sort_7 : decode cX8_sort 7 = .ok (.ireturn, 1) := dk_172 (dk_at dksX8_sort_0 7 rfl rfl)
theorem dX8_sort_8 : decode cX8_sort 8 = .ok (.dconst 1, 1) := dk_15 (dk_at dksX8_sort_0 8 rfl rfl)
theorem dX8_sort_9 : decode cX8_sort 9 = .ok (.dload_n 1, 1) := dk_39 (dk_at dksX8_sort_0 9 rfl rfl)
theorem dX8_sort_10 : decode cX8_sort 10 = .ok (.invokestatic 62, 3) := dk_184 0 62 (dk_at dksX8_sort_0 10 rfl rfl)
theorem dX8_sort_13 : decode cX8_sort 13 = .ok (.dconst 0, 1) := dk_14 (dk_at dksX8_sort_0 13 rfl rfl)
theorem dX8_sort_14 : decode cX8_sort 14 = .ok (.dcmp .g, 1) := dk_152 (dk_at dksX8_sort_0 14 rfl rfl)
theorem dX8_sort_15 : decode cX8_sort 15 = .ok (.ifCond .ge 8, 3) := dk_156 0 8 (dk_at dksX8_sort_0 15 rfl rfl)
theorem dX8_sort_18 : decode cX8_sort 18 = .ok (.bipush 8, 2) := dk_16 8 (dk_at dksX8_sort_0 18 rfl rfl)
theorem dX8_sort_20 : decode cX8_sort 20 = .ok (.goto 4, 3) := dk_167 0 4 (dk_at dksX8_sort_0 20 rfl rfl)
theorem dX8_sort_23 : decode cX8_sort 23 = .ok (.iconst 0, 1) := dk_3 (dk_at dksX8_sort_0 23 rfl rfl)
theorem dX8_sort_24 : decode cX8_sort 24 = .ok (.istore_n 3, 1) := dk_62 (dk_at dksX8_sort_1 0 rfl rfl)
theorem dX8_sort_25 : decode cX8_sort 25 = .ok (.dload_n 1, 1) := dk_39 (dk_at dksX8_sort_1 1 rfl rfl)
theorem dX8_sort_26 : decode cX8_sort 26 = .ok (.invokestatic 28, 3) := dk_184 0 28 (dk_at dksX8_sort_1 2 rfl rfl)
theorem dX8_sort_29 : decode cX8_sort 29 = .ok (.dstore 4, 2) := dk_57 4 (dk_at dksX8_sort_1 5 rfl rfl)
theorem dX8_sort_31 : decode cX8_sort 31 = .ok (.iload_n 3, 1) := dk_29 (dk_at dksX8_sort_1 7 rfl rfl)
theorem dX8_sort_32 : decode cX8_sort 32 = .ok (.aload_n 0, 1) := dk_42 (dk_at dksX8_sort_1 8 rfl rfl)
theorem dX8_sort_33 : decode cX8_sort 33 = .ok (.dload_n 1, 1) := dk_39 (dk_at dksX8_sort_1 9 rfl rfl)
theorem dX8_sort_34 : decode cX8_sort 34 = .ok (.invokeinterface 65 3, 5) := by decide +kernel
theorem dX8_sort_39 : decode cX8_sort 39 = .ok (.ifCond .ne 7, 3) := dk_154 0 7 (dk_at dksX8_sort_1 15 rfl rfl)
theorem dX8_sort_42 : decode cX8_sort 42 = .ok (.iconst 1, 1) := dk_4 (dk_at dksX8_sort_1 18 rfl rfl)
theorem dX8_sort_43 : decode cX8_sort 43 = .ok (.goto 46, 3) := dk_167 0 46 (dk_at dksX8_sort_1 19 rfl rfl)
theorem dX8_sort_46 : decode cX8_sort 46 = .ok (.dload_n 1, 1) := dk_39 (dk_at dksX8_sort_1 22 rfl rfl)
theorem dX8_sort_47 : decode cX8_sort 47 = .ok (.dconst 0, 1) := dk_14 (dk_at dksX8_sort_1 23 rfl rfl)
theorem dX8_sort_48 : decode cX8_sort 48 = .ok (.dcmp .l, 1) := dk_151 (dk_at dksX8_sort_2 0 rfl rfl)
theorem dX8_sort_49 : decode cX8_sort 49 = .ok (.ifCond .ne 7, 3) := dk_154 0 7 (dk_at dksX8_sort_2 1 rfl rfl)
theorem dX8_sort_52 : decode cX8_sort 52 = .ok (.iconst 2, 1) := dk_5 (dk_at dksX8_sort_2 4 rfl rfl)
theorem dX8_sort_53 : decode cX8_sort 53 = .ok (.goto 36, 3) := dk_167 0 36 (dk_at dksX8_sort_2 5 rfl rfl)
theorem dX8_sort_56 : decode cX8_sort 56 = .ok (.dload 4, 2) := dk_24 4 (dk_at dksX8_sort_2 8 rfl rfl)
theorem dX8_sort_58 : decode cX8_sort 58 = .ok (.aload_n 0, 1) := dk_42 (dk_at dksX8_sort_2 10 rfl rfl)
theorem dX8_sort_59 : decode cX8_sort 59 = .ok (.dconst 1, 1) := dk_15 (dk_at dksX8_sort_2 11 rfl rfl)
theorem dX8_sort_60 : decode cX8_sort 60 = .ok (.aload_n 0, 1) := dk_42 (dk_at dksX8_sort_2 12 rfl rfl)
theorem dX8_sort_61 : decode cX8_sort 61 = .ok (.invokeinterface 68 1, 5) := by decide +kernel
theorem dX8_sort_66 : decode cX8_sort 66 = .ok (.aload_n 0, 1) := dk_42 (dk_at dksX8_sort_2 18 rfl rfl)
theorem dX8_sort_67 : decode cX8_sort 67 = .ok (.invokeinterface 72 1, 5) := by decide +kernel
theorem dX8_sort_72 : decode cX8_sort 72 = .ok (.iadd, 1) := dk_96 (dk_at dksX8_sort_3 0 rfl rfl)
theorem dX8_sort_73 : decode cX8_sort 73 = .ok (.iconst 1, 1) := dk_4 (dk_at dksX8_sort_3 1 rfl rfl)
theorem dX8_sort_74 : decode cX8_sort 74 = .ok (.isub, 1) := dk_100 (dk_at dksX8_sort_3 2 rfl rfl)
theorem dX8_sort_75 : decode cX8_sort 75 = .ok (.invokeinterface 75 4, 5) := by decide +kernel
theorem dX8_sort_80 : decode cX8_sort 80 = .ok (.dcmp .g, 1) := dk_152 (dk_at dksX8_sort_3 8 rfl rfl)
theorem dX8_sort_81 : decode cX8_sort 81 = .ok (.ifCond .ge 7, 3) := dk_156 0 7 (dk_at dksX8_sort_3 9 rfl rfl)
theorem dX8_sort_84 : decode cX8_sort 84 = .ok (.iconst 3, 1) := dk_6 (dk_at dksX8_sort_3 12 rfl rfl)
theorem dX8_sort_85 : decode cX8_sort 85 = .ok (.goto 4, 3) := dk_167 0 4 (dk_at dksX8_sort_3 13 rfl rfl)
theorem dX8_sort_88 : decode cX8_sort 88 = .ok (.iconst 4, 1) := dk_7 (dk_at dksX8_sort_3 16 rfl rfl)
theorem dX8_sort_89 : decode cX8_sort 89 = .ok (.iadd, 1) := dk_96 (dk_at dksX8_sort_3 17 rfl rfl)
theorem dX8_sort_90 : decode cX8_sort 90 = .ok (.ireturn, 1) := dk_172 (dk_at dksX8_sort_3 18 rfl rfl)
abbrev cX8_one : ByteArray := prog_8_method_17_code
def yX8_one : MethodName := ⟨RX8, "one", "(ID)D"⟩
def dkwX8_one_4 : List UInt8 := [167, 0, 8, 42, 40, 184, 0, 42, 175, 42, 15, 40, 185, 0, 46, 5, 0, 175]
abbrev dktX8_one_4 : List UInt8 := dkwX8_one_4 ++ []
def dkwX8_one_3 : List UInt8 := [185, 0, 36, 3, 0, 175, 42, 40, 185, 0, 39, 3, 0, 175, 40, 14, 152, 156, 0, 9, 178, 0, 11]
abbrev dktX8_one_3 : List UInt8 := dkwX8_one_3 ++ dktX8_one_4
def dkwX8_one_2 : List UInt8 := [40, 119, 175, 40, 184, 0, 28, 175, 40, 184, 0, 33, 175, 42, 40, 185, 0, 25, 3, 0, 175, 42, 40]
abbrev dktX8_one_2 : List UInt8 := dkwX8_one_2 ++ dktX8_one_3
def dkwX8_one_1 : List UInt8 := [170, 0, 0, 0, 96, 0, 0, 0, 0, 0, 0, 0, 6, 0, 0, 0, 41, 0, 0, 0, 44, 0, 0, 0, 49, 0, 0, 0, 54, 0, 0, 0, 62, 0, 0, 0, 70, 0, 0, 0, 78]
abbrev dktX8_one_1 : List UInt8 := dkwX8_one_1 ++ dktX8_one_2
def dkwX8_one_0 : List UInt8 := [40, 40, 151, 153, 0, 7, 178, 0, 11, 175, 27]
abbrev dktX8_one_0 : List UInt8 := dkwX8_one_0 ++ dktX8_one_1
theorem dksX8_one_0 : cX8_one.data.toList.drop 0 = dktX8_one_0 := by decide +kernel
theorem dksX8_one_1 : cX8_one.data.toList.drop 11 = dktX8_one_1 := dk_seg dksX8_one_0 11 rfl rfl
theorem dksX8_one_2 : cX8_one.data.toList.drop 52 = dktX8_one_2 := dk_seg dksX8_one_1 41 rfl rfl
theorem dksX8_one_3 : cX8_one.data.toList.drop 75 = dktX8_one_3 := dk_seg dksX8_one_2 23 rfl rfl
theorem dksX8_one_4 : cX8_one.data.toList.drop 98 = dktX8_one_4 := dk_seg dksX8_one_3 23 rfl rfl
theorem dX8_one_0 : decode cX8_one 0 = .ok (.dload_n 2, 1) := dk_40 (dk_at dksX8_one_0 0 rfl rfl)
theorem dX8_one_1 : decode cX8_one 1 = .ok (.dload_n 2, 1) := dk_40 (dk_at dksX8_one_0 1 rfl rfl)
theorem dX8_one_2 : decode cX8_one 2 = .ok (.dcmp .l, 1) := dk_151 (dk_at dksX8_one_0 2 rfl rfl)
theorem dX8_one_3 : decode cX8_one 3 = .ok (.ifCond .eq 7, 3) := dk_153 0 7 (dk_at dksX8_one_0 3 rfl rfl)
theorem dX8_one_6 : decode cX8_one 6 = .ok (.getstatic 11, 3) := dk_178 0 11 (dk_at dksX8_one_0 6 rfl rfl)
theorem dX8_one_9 : decode cX8_one 9 = .ok (.dreturn, 1) := dk_175 (dk_at dksX8_one_0 9 rfl rfl)
theorem dX8_one_10 : decode cX8_one 10 = .ok (.iload_n 1, 1) := dk_27 (dk_at dksX8_one_0 10 rfl rfl)
theorem dX8_one_11 : decode cX8_one 11 = .ok (.tableswitch 96 0 6 #[41, 44, 49, 54, 62, 70, 78], 41) := by decide +kernel
theorem dX8_one_52 : decode cX8_one 52 = .ok (.dload_n 2, 1) := dk_40 (dk_at dksX8_one_2 0 rfl rfl)
theorem dX8_one_53 : decode cX8_one 53 = .ok (.dneg, 1) := dk_119 (dk_at dksX8_one_2 1 rfl rfl)
theorem dX8_one_54 : decode cX8_one 54 = .ok (.dreturn, 1) := dk_175 (dk_at dksX8_one_2 2 rfl rfl)
theorem dX8_one_55 : decode cX8_one 55 = .ok (.dload_n 2, 1) := dk_40 (dk_at dksX8_one_2 3 rfl rfl)
theorem dX8_one_56 : decode cX8_one 56 = .ok (.invokestatic 28, 3) := dk_184 0 28 (dk_at dksX8_one_2 4 rfl rfl)
theorem dX8_one_59 : decode cX8_one 59 = .ok (.dreturn, 1) := dk_175 (dk_at dksX8_one_2 7 rfl rfl)
theorem dX8_one_60 : decode cX8_one 60 = .ok (.dload_n 2, 1) := dk_40 (dk_at dksX8_one_2 8 rfl rfl)
theorem dX8_one_61 : decode cX8_one 61 = .ok (.invokestatic 33, 3) := dk_184 0 33 (dk_at dksX8_one_2 9 rfl rfl)
theorem dX8_one_64 : decode cX8_one 64 = .ok (.dreturn, 1) := dk_175 (dk_at dksX8_one_2 12 rfl rfl)
theorem dX8_one_65 : decode cX8_one 65 = .ok (.aload_n 0, 1) := dk_42 (dk_at dksX8_one_2 13 rfl rfl)
theorem dX8_one_66 : decode cX8_one 66 = .ok (.dload_n 2, 1) := dk_40 (dk_at dksX8_one_2 14 rfl rfl)
theorem dX8_one_67 : decode cX8_one 67 = .ok (.invokeinterface 25 3, 5) := by decide +kernel
theorem dX8_one_72 : decode cX8_one 72 = .ok (.dreturn, 1) := dk_175 (dk_at dksX8_one_2 20 rfl rfl)
theorem dX8_one_73 : decode cX8_one 73 = .ok (.aload_n 0, 1) := dk_42 (dk_at dksX8_one_2 21 rfl rfl)
theorem dX8_one_74 : decode cX8_one 74 = .ok (.dload_n 2, 1) := dk_40 (dk_at dksX8_one_2 22 rfl rfl)
theorem dX8_one_75 : decode cX8_one 75 = .ok (.invokeinterface 36 3, 5) := by decide +kernel
theorem dX8_one_80 : decode cX8_one 80 = .ok (.dreturn, 1) := dk_175 (dk_at dksX8_one_3 5 rfl rfl)
theorem dX8_one_81 : decode cX8_one 81 = .ok (.aload_n 0, 1) := dk_42 (dk_at dksX8_one_3 6 rfl rfl)
theorem dX8_one_82 : decode cX8_one 82 = .ok (.dload_n 2, 1) := dk_40 (dk_at dksX8_one_3 7 rfl rfl)
theorem dX8_one_83 : decode cX8_one 83 = .ok (.invokeinterface 39 3, 5) := by decide +kernel
theorem dX8_one_88 : decode cX8_one 88 = .ok (.dreturn, 1) := dk_175 (dk_at dksX8_one_3 13 rfl rfl)
theorem dX8_one_89 : decode cX8_one 89 = .ok (.dload_n 2, 1) := dk_40 (dk_at dksX8_one_3 14 rfl rfl)
theorem dX8_one_90 : decode cX8_one 90 = .ok (.dconst 0, 1) := dk_14 (dk_at dksX8_one_3 15 rfl rfl)
theorem dX8_one_91 : decode cX8_one 91 = .ok (.dcmp .g, 1) := dk_152 (dk_at dksX8_one_3 16 rfl rfl)
theorem dX8_one_92 : decode cX8_one 92 = .ok (.ifCond .ge 9, 3) := dk_156 0 9 (dk_at dksX8_one_3 17 rfl rfl)
theorem dX8_one_95 : decode cX8_one 95 = .ok (.getstatic 11, 3) := dk_178 0 11 (dk_at dksX8_one_3 20 rfl rfl)
theorem dX8_one_98 : decode cX8_one 98 = .ok (.goto 8, 3) := dk_167 0 8 (dk_at dksX8_one_4 0 rfl rfl)
theorem dX8_one_101 : decode cX8_one 101 = .ok (.aload_n 0, 1) := dk_42 (dk_at dksX8_one_4 3 rfl rfl)
theorem dX8_one_102 : decode cX8_one 102 = .ok (.dload_n 2, 1) := dk_40 (dk_at dksX8_one_4 4 rfl rfl)
theorem dX8_one_103 : decode cX8_one 103 = .ok (.invokestatic 42, 3) := dk_184 0 42 (dk_at dksX8_one_4 5 rfl rfl)
theorem dX8_one_106 : decode cX8_one 106 = .ok (.dreturn, 1) := dk_175 (dk_at dksX8_one_4 8 rfl rfl)
theorem dX8_one_107 : decode cX8_one 107 = .ok (.aload_n 0, 1) := dk_42 (dk_at dksX8_one_4 9 rfl rfl)
theorem dX8_one_108 : decode cX8_one 108 = .ok (.dconst 1, 1) := dk_15 (dk_at dksX8_one_4 10 rfl rfl)
theorem dX8_one_109 : decode cX8_one 109 = .ok (.dload_n 2, 1) := dk_40 (dk_at dksX8_one_4 11 rfl rfl)
theorem dX8_one_110 : decode cX8_one 110 = .ok (.invokeinterface 46 5, 5) := by decide +kernel
theorem dX8_one_115 : decode cX8_one 115 = .ok (.dreturn, 1) := dk_175 (dk_at dksX8_one_4 17 rfl rfl)
abbrev cX8_down : ByteArray := prog_8_method_15_code
def yX8_down : MethodName := ⟨RX8, "down", "(D)D"⟩
def dkwX8_down_0 : List UInt8 := [42, 39, 119, 185, 0, 25, 3, 0, 119, 175]
abbrev dktX8_down_0 : List UInt8 := dkwX8_down_0 ++ []
theorem dksX8_down_0 : cX8_down.data.toList.drop 0 = dktX8_down_0 := by decide +kernel
theorem dX8_down_0 : decode cX8_down 0 = .ok (.aload_n 0, 1) := dk_42 (dk_at dksX8_down_0 0 rfl rfl)
theorem dX8_down_1 : decode cX8_down 1 = .ok (.dload_n 1, 1) := dk_39 (dk_at dksX8_down_0 1 rfl rfl)
theorem dX8_down_2 : decode cX8_down 2 = .ok (.dneg, 1) := dk_119 (dk_at dksX8_down_0 2 rfl rfl)
theorem dX8_down_3 : decode cX8_down 3 = .ok (.invokeinterface 25 3, 5) := by decide +kernel
theorem dX8_down_8 : decode cX8_down 8 = .ok (.dneg, 1) := dk_119 (dk_at dksX8_down_0 8 rfl rfl)
theorem dX8_down_9 : decode cX8_down 9 = .ok (.dreturn, 1) := dk_175 (dk_at dksX8_down_0 9 rfl rfl)
abbrev cX8_over : ByteArray := prog_8_method_11_code
def yX8_over : MethodName := ⟨RX8, "over", "(DD)D"⟩
def dkwX8_over_2 : List UInt8 := [185, 0, 15, 3, 0, 175]
abbrev dktX8_over_2 : List UInt8 := dkwX8_over_2 ++ []
def dkwX8_over_1 : List UInt8 := [153, 0, 16, 41, 184, 0, 7, 153, 0, 9, 178, 0, 11, 167, 0, 12, 42, 39, 41, 111]
abbrev dktX8_over_1 : List UInt8 := dkwX8_over_1 ++ dktX8_over_2
def dkwX8_over_0 : List UInt8 := [39, 41, 184, 0, 1, 153, 0, 29, 39, 14, 151, 154, 0, 9, 41, 14, 151, 153, 0, 17, 39, 184, 0, 7]
abbrev dktX8_over_0 : List UInt8 := dkwX8_over_0 ++ dktX8_over_1
theorem dksX8_over_0 : cX8_over.data.toList.drop 0 = dktX8_over_0 := by decide +kernel
theorem dksX8_over_1 : cX8_over.data.toList.drop 24 = dktX8_over_1 := dk_seg dksX8_over_0 24 rfl rfl
theorem dksX8_over_2 : cX8_over.data.toList.drop 44 = dktX8_over_2 := dk_seg dksX8_over_1 20 rfl rfl
theorem dX8_over_0 : decode cX8_over 0 = .ok (.dload_n 1, 1) := dk_39 (dk_at dksX8_over_0 0 rfl rfl)
theorem dX8_over_1 : decode cX8_over 1 = .ok (.dload_n 3, 1) := dk_41 (dk_at dksX8_over_0 1 rfl rfl)
theorem dX8_over_2 : decode cX8_over 2 = .ok (.invokestatic 1, 3) := dk_184 0 1 (dk_at dksX8_over_0 2 rfl rfl)
theorem dX8_over_5 : decode cX8_over 5 = .ok (.ifCond .eq 29, 3) := dk_153 0 29 (dk_at dksX8_over_0 5 rfl rfl)
theorem dX8_over_8 : decode cX8_over 8 = .ok (.dload_n 1, 1) := dk_39 (dk_at dksX8_over_0 8 rfl rfl)
theorem dX8_over_9 : decode cX8_over 9 = .ok (.dconst 0, 1) := dk_14 (dk_at dksX8_over_0 9 rfl rfl)
theorem dX8_over_10 : decode cX8_over 10 = .ok (.dcmp .l, 1) := dk_151 (dk_at dksX8_over_0 10 rfl rfl)
theorem dX8_over_11 : decode cX8_over 11 = .ok (.ifCond .ne 9, 3) := dk_154 0 9 (dk_at dksX8_over_0 11 rfl rfl)
theorem dX8_over_14 : decode cX8_over 14 = .ok (.dload_n 3, 1) := dk_41 (dk_at dksX8_over_0 14 rfl rfl)
theorem dX8_over_15 : decode cX8_over 15 = .ok (.dconst 0, 1) := dk_14 (dk_at dksX8_over_0 15 rfl rfl)
theorem dX8_over_16 : decode cX8_over 16 = .ok (.dcmp .l, 1) := dk_151 (dk_at dksX8_over_0 16 rfl rfl)
theorem dX8_over_17 : decode cX8_over 17 = .ok (.ifCond .eq 17, 3) := dk_153 0 17 (dk_at dksX8_over_0 17 rfl rfl)
theorem dX8_over_20 : decode cX8_over 20 = .ok (.dload_n 1, 1) := dk_39 (dk_at dksX8_over_0 20 rfl rfl)
theorem dX8_over_21 : decode cX8_over 21 = .ok (.invokestatic 7, 3) := dk_184 0 7 (dk_at dksX8_over_0 21 rfl rfl)
theorem dX8_over_24 : decode cX8_over 24 = .ok (.ifCond .eq 16, 3) := dk_153 0 16 (dk_at dksX8_over_1 0 rfl rfl)
theorem dX8_over_27 : decode cX8_over 27 = .ok (.dload_n 3, 1) := dk_41 (dk_at dksX8_over_1 3 rfl rfl)
theorem dX8_over_28 : decode cX8_over 28 = .ok (.invokestatic 7, 3) := dk_184 0 7 (dk_at dksX8_over_1 4 rfl rfl)
theorem dX8_over_31 : decode cX8_over 31 = .ok (.ifCond .eq 9, 3) := dk_153 0 9 (dk_at dksX8_over_1 7 rfl rfl)
theorem dX8_over_34 : decode cX8_over 34 = .ok (.getstatic 11, 3) := dk_178 0 11 (dk_at dksX8_over_1 10 rfl rfl)
theorem dX8_over_37 : decode cX8_over 37 = .ok (.goto 12, 3) := dk_167 0 12 (dk_at dksX8_over_1 13 rfl rfl)
theorem dX8_over_40 : decode cX8_over 40 = .ok (.aload_n 0, 1) := dk_42 (dk_at dksX8_over_1 16 rfl rfl)
theorem dX8_over_41 : decode cX8_over 41 = .ok (.dload_n 1, 1) := dk_39 (dk_at dksX8_over_1 17 rfl rfl)
theorem dX8_over_42 : decode cX8_over 42 = .ok (.dload_n 3, 1) := dk_41 (dk_at dksX8_over_1 18 rfl rfl)
theorem dX8_over_43 : decode cX8_over 43 = .ok (.ddiv, 1) := dk_111 (dk_at dksX8_over_1 19 rfl rfl)
theorem dX8_over_44 : decode cX8_over 44 = .ok (.invokeinterface 15 3, 5) := by decide +kernel
theorem dX8_over_49 : decode cX8_over 49 = .ok (.dreturn, 1) := dk_175 (dk_at dksX8_over_2 5 rfl rfl)
abbrev cX8_two : ByteArray := prog_8_method_18_code
def yX8_two : MethodName := ⟨RX8, "two", "(IDD)D"⟩
def dkwX8_two_6 : List UInt8 := [24, 4, 24, 4, 151, 153, 0, 7, 15, 167, 0, 5, 24, 4, 184, 0, 62, 175]
abbrev dktX8_two_6 : List UInt8 := dkwX8_two_6 ++ []
def dkwX8_two_5 : List UInt8 := [157, 0, 7, 40, 167, 0, 5, 24, 4, 175, 40, 40, 151, 153, 0, 9, 178, 0, 11, 167, 0, 21, 40]
abbrev dktX8_two_5 : List UInt8 := dkwX8_two_5 ++ dktX8_two_6
def dkwX8_two_4 : List UInt8 := [185, 0, 59, 5, 0, 175, 40, 24, 4, 152, 157, 0, 8, 24, 4, 167, 0, 4, 40, 175, 40, 24, 4, 152]
abbrev dktX8_two_4 : List UInt8 := dkwX8_two_4 ++ dktX8_two_5
def dkwX8_two_3 : List UInt8 := [185, 0, 56, 5, 0, 175, 42, 40, 24, 4, 185, 0, 46, 5, 0, 175, 42, 40, 24, 4]
abbrev dktX8_two_3 : List UInt8 := dkwX8_two_3 ++ dktX8_two_4
def dkwX8_two_2 : List UInt8 := [42, 40, 24, 4, 185, 0, 50, 5, 0, 175, 42, 40, 24, 4, 185, 0, 53, 5, 0, 175, 42, 40, 24, 4]
abbrev dktX8_two_2 : List UInt8 := dkwX8_two_2 ++ dktX8_two_3
def dkwX8_two_1 : List UInt8 := [170, 0, 0, 0, 0, 0, 121, 0, 0, 0, 0, 0, 0, 0, 6, 0, 0, 0, 43, 0, 0, 0, 53, 0, 0, 0, 63, 0, 0, 0, 73, 0, 0, 0, 83, 0, 0, 0, 93, 0, 0, 0, 107]
abbrev dktX8_two_1 : List UInt8 := dkwX8_two_1 ++ dktX8_two_2
def dkwX8_two_0 : List UInt8 := [27]
abbrev dktX8_two_0 : List UInt8 := dkwX8_two_0 ++ dktX8_two_1
theorem dksX8_two_0 : cX8_two.data.toList.drop 0 = dktX8_two_0 := by decide +kernel
theorem dksX8_two_1 : cX8_two.data.toList.drop 1 = dktX8_two_1 := dk_seg dksX8_two_0 1 rfl rfl
theorem dksX8_two_2 : cX8_two.data.toList.drop 44 = dktX8_two_2 := dk_seg dksX8_two_1 43 rfl rfl
theorem dksX8_two_3 : cX8_two.data.toList.drop 68 = dktX8_two_3 := dk_seg dksX8_two_2 24 rfl rfl
theorem dksX8_two_4 : cX8_two.data.toList.drop 88 = dktX8_two_4 := dk_seg dksX8_two_3 20 rfl rfl
theorem dksX8_two_5 : cX8_two.data.toList.drop 112 = dktX8_two_5 := dk_seg dksX8_two_4 24 rfl rfl
theorem dksX8_two_6 : cX8_two.data.toList.drop 135 = dktX8_two_6 := dk_seg dksX8_two_5 23 rfl rfl
theorem dX8_two_0 : decode cX8_two 0 = .ok (.iload_n 1, 1) := dk_27 (dk_at dksX8_two_0 0 rfl rfl)
theorem dX8_two_1 : decode cX8_two 1 = .ok (.tableswitch 121 0 6 #[43, 53, 63, 73, 83, 93, 107], 43) := by decide +kernel
theorem dX8_two_44 : decode cX8_two 44 = .ok (.aload_n 0, 1) := dk_42 (dk_at dksX8_two_2 0 rfl rfl)
theorem dX8_two_45 : decode cX8_two 45 = .ok (.dload_n 2, 1) := dk_40 (dk_at dksX8_two_2 1 rfl rfl)
theorem dX8_two_46 : decode cX8_two 46 = .ok (.dload 4, 2) := dk_24 4 (dk_at dksX8_two_2 2 rfl rfl)
theorem dX8_two_48 : decode cX8_two 48 = .ok (.invokeinterface 50 5, 5) := by decide +kernel
theorem dX8_two_53 : decode cX8_two 53 = .ok (.dreturn, 1) := dk_175 (dk_at dksX8_two_2 9 rfl rfl)
theorem dX8_two_54 : decode cX8_two 54 = .ok (.aload_n 0, 1) := dk_42 (dk_at dksX8_two_2 10 rfl rfl)
theorem dX8_two_55 : decode cX8_two 55 = .ok (.dload_n 2, 1) := dk_40 (dk_at dksX8_two_2 11 rfl rfl)
theorem dX8_two_56 : decode cX8_two 56 = .ok (.dload 4, 2) := dk_24 4 (dk_at dksX8_two_2 12 rfl rfl)
theorem dX8_two_58 : decode cX8_two 58 = .ok (.invokeinterface 53 5, 5) := by decide +kernel
theorem dX8_two_63 : decode cX8_two 63 = .ok (.dreturn, 1) := dk_175 (dk_at dksX8_two_2 19 rfl rfl)
theorem dX8_two_64 : decode cX8_two 64 = .ok (.aload_n 0, 1) := dk_42 (dk_at dksX8_two_2 20 rfl rfl)
theorem dX8_two_65 : decode cX8_two 65 = .ok (.dload_n 2, 1) := dk_40 (dk_at dksX8_two_2 21 rfl rfl)
theorem dX8_two_66 : decode cX8_two 66 = .ok (.dload 4, 2) := dk_24 4 (dk_at dksX8_two_2 22 rfl rfl)
theorem dX8_two_68 : decode cX8_two 68 = .ok (.invokeinterface 56 5, 5) := by decide +kernel
theorem dX8_two_73 : decode cX8_two 73 = .ok (.dreturn, 1) := dk_175 (dk_at dksX8_two_3 5 rfl rfl)
theorem dX8_two_74 : decode cX8_two 74 = .ok (.aload_n 0, 1) := dk_42 (dk_at dksX8_two_3 6 rfl rfl)
theorem dX8_two_75 : decode cX8_two 75 = .ok (.dload_n 2, 1) := dk_40 (dk_at dksX8_two_3 7 rfl rfl)
theorem dX8_two_76 : decode cX8_two 76 = .ok (.dload 4, 2) := dk_24 4 (dk_at dksX8_two_3 8 rfl rfl)
theorem dX8_two_78 : decode cX8_two 78 = .ok (.invokeinterface 46 5, 5) := by decide +kernel
theorem dX8_two_83 : decode cX8_two 83 = .ok (.dreturn, 1) := dk_175 (dk_at dksX8_two_3 15 rfl rfl)
theorem dX8_two_84 : decode cX8_two 84 = .ok (.aload_n 0, 1) := dk_42 (dk_at dksX8_two_3 16 rfl rfl)
theorem dX8_two_85 : decode cX8_two 85 = .ok (.dload_n 2, 1) := dk_40 (dk_at dksX8_two_3 17 rfl rfl)
theorem dX8_two_86 : decode cX8_two 86 = .ok (.dload 4, 2) := dk_24 4 (dk_at dksX8_two_3 18 rfl rfl)
theorem dX8_two_88 : decode cX8_two 88 = .ok (.invokeinterface 59 5, 5) := by decide +kernel
theorem dX8_two_93 : decode cX8_two 93 = .ok (.dreturn, 1) := dk_175 (dk_at dksX8_two_4 5 rfl rfl)
theorem dX8_two_94 : decode cX8_two 94 = .ok (.dload_n 2, 1) := dk_40 (dk_at dksX8_two_4 6 rfl rfl)
theorem dX8_two_95 : decode cX8_two 95 = .ok (.dload 4, 2) := dk_24 4 (dk_at dksX8_two_4 7 rfl rfl)
theorem dX8_two_97 : decode cX8_two 97 = .ok (.dcmp .g, 1) := dk_152 (dk_at dksX8_two_4 9 rfl rfl)
theorem dX8_two_98 : decode cX8_two 98 = .ok (.ifCond .gt 8, 3) := dk_157 0 8 (dk_at dksX8_two_4 10 rfl rfl)
theorem dX8_two_101 : decode cX8_two 101 = .ok (.dload 4, 2) := dk_24 4 (dk_at dksX8_two_4 13 rfl rfl)
theorem dX8_two_103 : decode cX8_two 103 = .ok (.goto 4, 3) := dk_167 0 4 (dk_at dksX8_two_4 15 rfl rfl)
theorem dX8_two_106 : decode cX8_two 106 = .ok (.dload_n 2, 1) := dk_40 (dk_at dksX8_two_4 18 rfl rfl)
theorem dX8_two_107 : decode cX8_two 107 = .ok (.dreturn, 1) := dk_175 (dk_at dksX8_two_4 19 rfl rfl)
theorem dX8_two_108 : decode cX8_two 108 = .ok (.dload_n 2, 1) := dk_40 (dk_at dksX8_two_4 20 rfl rfl)
theorem dX8_two_109 : decode cX8_two 109 = .ok (.dload 4, 2) := dk_24 4 (dk_at dksX8_two_4 21 rfl rfl)
theorem dX8_two_111 : decode cX8_two 111 = .ok (.dcmp .g, 1) := dk_152 (dk_at dksX8_two_4 23 rfl rfl)
theorem dX8_two_112 : decode cX8_two 112 = .ok (.ifCond .gt 7, 3) := dk_157 0 7 (dk_at dksX8_two_5 0 rfl rfl)
theorem dX8_two_115 : decode cX8_two 115 = .ok (.dload_n 2, 1) := dk_40 (dk_at dksX8_two_5 3 rfl rfl)
theorem dX8_two_116 : decode cX8_two 116 = .ok (.goto 5, 3) := dk_167 0 5 (dk_at dksX8_two_5 4 rfl rfl)
theorem dX8_two_119 : decode cX8_two 119 = .ok (.dload 4, 2) := dk_24 4 (dk_at dksX8_two_5 7 rfl rfl)
theorem dX8_two_121 : decode cX8_two 121 = .ok (.dreturn, 1) := dk_175 (dk_at dksX8_two_5 9 rfl rfl)
theorem dX8_two_122 : decode cX8_two 122 = .ok (.dload_n 2, 1) := dk_40 (dk_at dksX8_two_5 10 rfl rfl)
theorem dX8_two_123 : decode cX8_two 123 = .ok (.dload_n 2, 1) := dk_40 (dk_at dksX8_two_5 11 rfl rfl)
theorem dX8_two_124 : decode cX8_two 124 = .ok (.dcmp .l, 1) := dk_151 (dk_at dksX8_two_5 12 rfl rfl)
theorem dX8_two_125 : decode cX8_two 125 = .ok (.ifCond .eq 9, 3) := dk_153 0 9 (dk_at dksX8_two_5 13 rfl rfl)
theorem dX8_two_128 : decode cX8_two 128 = .ok (.getstatic 11, 3) := dk_178 0 11 (dk_at dksX8_two_5 16 rfl rfl)
theorem dX8_two_131 : decode cX8_two 131 = .ok (.goto 21, 3) := dk_167 0 21 (dk_at dksX8_two_5 19 rfl rfl)
theorem dX8_two_134 : decode cX8_two 134 = .ok (.dload_n 2, 1) := dk_40 (dk_at dksX8_two_5 22 rfl rfl)
theorem dX8_two_135 : decode cX8_two 135 = .ok (.dload 4, 2) := dk_24 4 (dk_at dksX8_two_6 0 rfl rfl)
theorem dX8_two_137 : decode cX8_two 137 = .ok (.dload 4, 2) := dk_24 4 (dk_at dksX8_two_6 2 rfl rfl)
theorem dX8_two_139 : decode cX8_two 139 = .ok (.dcmp .l, 1) := dk_151 (dk_at dksX8_two_6 4 rfl rfl)
theorem dX8_two_140 : decode cX8_two 140 = .ok (.ifCond .eq 7, 3) := dk_153 0 7 (dk_at dksX8_two_6 5 rfl rfl)
theorem dX8_two_143 : decode cX8_two 143 = .ok (.dconst 1, 1) := dk_15 (dk_at dksX8_two_6 8 rfl rfl)
theorem dX8_two_144 : decode cX8_two 144 = .ok (.goto 5, 3) := dk_167 0 5 (dk_at dksX8_two_6 9 rfl rfl)
theorem dX8_two_147 : decode cX8_two 147 = .ok (.dload 4, 2) := dk_24 4 (dk_at dksX8_two_6 12 rfl rfl)
theorem dX8_two_149 : decode cX8_two 149 = .ok (.invokestatic 62, 3) := dk_184 0 62 (dk_at dksX8_two_6 14 rfl rfl)
theorem dX8_two_152 : decode cX8_two 152 = .ok (.dreturn, 1) := dk_175 (dk_at dksX8_two_6 17 rfl rfl)
abbrev cX8_plus : ByteArray := prog_8_method_9_code
def yX8_plus : MethodName := ⟨RX8, "plus", "(DD)D"⟩
def dkwX8_plus_1 : List UInt8 := [178, 0, 11, 167, 0, 12, 42, 39, 41, 99, 185, 0, 15, 3, 0, 175]
abbrev dktX8_plus_1 : List UInt8 := dkwX8_plus_1 ++ []
def dkwX8_plus_0 : List UInt8 := [39, 41, 184, 0, 1, 153, 0, 17, 39, 184, 0, 7, 153, 0, 16, 41, 39, 119, 151, 154, 0, 9]
abbrev dktX8_plus_0 : List UInt8 := dkwX8_plus_0 ++ dktX8_plus_1
theorem dksX8_plus_0 : cX8_plus.data.toList.drop 0 = dktX8_plus_0 := by decide +kernel
theorem dksX8_plus_1 : cX8_plus.data.toList.drop 22 = dktX8_plus_1 := dk_seg dksX8_plus_0 22 rfl rfl
theorem dX8_plus_0 : decode cX8_plus 0 = .ok (.dload_n 1, 1) := dk_39 (dk_at dksX8_plus_0 0 rfl rfl)
theorem dX8_plus_1 : decode cX8_plus 1 = .ok (.dload_n 3, 1) := dk_41 (dk_at dksX8_plus_0 1 rfl rfl)
theorem dX8_plus_2 : decode cX8_plus 2 = .ok (.invokestatic 1, 3) := dk_184 0 1 (dk_at dksX8_plus_0 2 rfl rfl)
theorem dX8_plus_5 : decode cX8_plus 5 = .ok (.ifCond .eq 17, 3) := dk_153 0 17 (dk_at dksX8_plus_0 5 rfl rfl)
theorem dX8_plus_8 : decode cX8_plus 8 = .ok (.dload_n 1, 1) := dk_39 (dk_at dksX8_plus_0 8 rfl rfl)
theorem dX8_plus_9 : decode cX8_plus 9 = .ok (.invokestatic 7, 3) := dk_184 0 7 (dk_at dksX8_plus_0 9 rfl rfl)
theorem dX8_plus_12 : decode cX8_plus 12 = .ok (.ifCond .eq 16, 3) := dk_153 0 16 (dk_at dksX8_plus_0 12 rfl rfl)
theorem dX8_plus_15 : decode cX8_plus 15 = .ok (.dload_n 3, 1) := dk_41 (dk_at dksX8_plus_0 15 rfl rfl)
theorem dX8_plus_16 : decode cX8_plus 16 = .ok (.dload_n 1, 1) := dk_39 (dk_at dksX8_plus_0 16 rfl rfl)
theorem dX8_plus_17 : decode cX8_plus 17 = .ok (.dneg, 1) := dk_119 (dk_at dksX8_plus_0 17 rfl rfl)
theorem dX8_plus_18 : decode cX8_plus 18 = .ok (.dcmp .l, 1) := dk_151 (dk_at dksX8_plus_0 18 rfl rfl)
theorem dX8_plus_19 : decode cX8_plus 19 = .ok (.ifCond .ne 9, 3) := dk_154 0 9 (dk_at dksX8_plus_0 19 rfl rfl)
theorem dX8_plus_22 : decode cX8_plus 22 = .ok (.getstatic 11, 3) := dk_178 0 11 (dk_at dksX8_plus_1 0 rfl rfl)
theorem dX8_plus_25 : decode cX8_plus 25 = .ok (.goto 12, 3) := dk_167 0 12 (dk_at dksX8_plus_1 3 rfl rfl)
theorem dX8_plus_28 : decode cX8_plus 28 = .ok (.aload_n 0, 1) := dk_42 (dk_at dksX8_plus_1 6 rfl rfl)
theorem dX8_plus_29 : decode cX8_plus 29 = .ok (.dload_n 1, 1) := dk_39 (dk_at dksX8_plus_1 7 rfl rfl)
theorem dX8_plus_30 : decode cX8_plus 30 = .ok (.dload_n 3, 1) := dk_41 (dk_at dksX8_plus_1 8 rfl rfl)
theorem dX8_plus_31 : decode cX8_plus 31 = .ok (.dadd, 1) := dk_99 (dk_at dksX8_plus_1 9 rfl rfl)
theorem dX8_plus_32 : decode cX8_plus 32 = .ok (.invokeinterface 15 3, 5) := by decide +kernel
theorem dX8_plus_37 : decode cX8_plus 37 = .ok (.dreturn, 1) := dk_175 (dk_at dksX8_plus_1 15 rfl rfl)
abbrev cX8_minus : ByteArray := prog_8_method_12_code
def yX8_minus : MethodName := ⟨RX8, "minus", "(DD)D"⟩
def dkwX8_minus_1 : List UInt8 := [167, 0, 12, 42, 39, 41, 103, 185, 0, 15, 3, 0, 175]
abbrev dktX8_minus_1 : List UInt8 := dkwX8_minus_1 ++ []
def dkwX8_minus_0 : List UInt8 := [39, 41, 184, 0, 1, 153, 0, 16, 39, 184, 0, 7, 153, 0, 15, 39, 41, 151, 154, 0, 9, 178, 0, 11]
abbrev dktX8_minus_0 : List UInt8 := dkwX8_minus_0 ++ dktX8_minus_1
theorem dksX8_minus_0 : cX8_minus.data.toList.drop 0 = dktX8_minus_0 := by decide +kernel
theorem dksX8_minus_1 : cX8_minus.data.toList.drop 24 = dktX8_minus_1 := dk_seg dksX8_minus_0 24 rfl rfl
theorem dX8_minus_0 : decode cX8_minus 0 = .ok (.dload_n 1, 1) := dk_39 (dk_at dksX8_minus_0 0 rfl rfl)
theorem dX8_minus_1 : decode cX8_minus 1 = .ok (.dload_n 3, 1) := dk_41 (dk_at dksX8_minus_0 1 rfl rfl)
theorem dX8_minus_2 : decode cX8_minus 2 = .ok (.invokestatic 1, 3) := dk_184 0 1 (dk_at dksX8_minus_0 2 rfl rfl)
theorem dX8_minus_5 : decode cX8_minus 5 = .ok (.ifCond .eq 16, 3) := dk_153 0 16 (dk_at dksX8_minus_0 5 rfl rfl)
theorem dX8_minus_8 : decode cX8_minus 8 = .ok (.dload_n 1, 1) := dk_39 (dk_at dksX8_minus_0 8 rfl rfl)
theorem dX8_minus_9 : decode cX8_minus 9 = .ok (.invokestatic 7, 3) := dk_184 0 7 (dk_at dksX8_minus_0 9 rfl rfl)
theorem dX8_minus_12 : decode cX8_minus 12 = .ok (.ifCond .eq 15, 3) := dk_153 0 15 (dk_at dksX8_minus_0 12 rfl rfl)
theorem dX8_minus_15 : decode cX8_minus 15 = .ok (.dload_n 1, 1) := dk_39 (dk_at dksX8_minus_0 15 rfl rfl)
theorem dX8_minus_16 : decode cX8_minus 16 = .ok (.dload_n 3, 1) := dk_41 (dk_at dksX8_minus_0 16 rfl rfl)
theorem dX8_minus_17 : decode cX8_minus 17 = .ok (.dcmp .l, 1) := dk_151 (dk_at dksX8_minus_0 17 rfl rfl)
theorem dX8_minus_18 : decode cX8_minus 18 = .ok (.ifCond .ne 9, 3) := dk_154 0 9 (dk_at dksX8_minus_0 18 rfl rfl)
theorem dX8_minus_21 : decode cX8_minus 21 = .ok (.getstatic 11, 3) := dk_178 0 11 (dk_at dksX8_minus_0 21 rfl rfl)
theorem dX8_minus_24 : decode cX8_minus 24 = .ok (.goto 12, 3) := dk_167 0 12 (dk_at dksX8_minus_1 0 rfl rfl)
theorem dX8_minus_27 : decode cX8_minus 27 = .ok (.aload_n 0, 1) := dk_42 (dk_at dksX8_minus_1 3 rfl rfl)
theorem dX8_minus_28 : decode cX8_minus 28 = .ok (.dload_n 1, 1) := dk_39 (dk_at dksX8_minus_1 4 rfl rfl)
theorem dX8_minus_29 : decode cX8_minus 29 = .ok (.dload_n 3, 1) := dk_41 (dk_at dksX8_minus_1 5 rfl rfl)
theorem dX8_minus_30 : decode cX8_minus 30 = .ok (.dsub, 1) := dk_103 (dk_at dksX8_minus_1 6 rfl rfl)
theorem dX8_minus_31 : decode cX8_minus 31 = .ok (.invokeinterface 15 3, 5) := by decide +kernel
theorem dX8_minus_36 : decode cX8_minus 36 = .ok (.dreturn, 1) := dk_175 (dk_at dksX8_minus_1 12 rfl rfl)
abbrev cX8_times : ByteArray := prog_8_method_10_code
def yX8_times : MethodName := ⟨RX8, "times", "(DD)D"⟩
def dkwX8_times_2 : List UInt8 := [185, 0, 15, 3, 0, 175]
abbrev dktX8_times_2 : List UInt8 := dkwX8_times_2 ++ []
def dkwX8_times_1 : List UInt8 := [184, 0, 7, 153, 0, 15, 41, 14, 151, 154, 0, 9, 178, 0, 11, 167, 0, 12, 42, 39, 41, 107]
abbrev dktX8_times_1 : List UInt8 := dkwX8_times_1 ++ dktX8_times_2
def dkwX8_times_0 : List UInt8 := [39, 41, 184, 0, 1, 153, 0, 29, 39, 14, 151, 154, 0, 10, 41, 184, 0, 7, 154, 0, 16, 39]
abbrev dktX8_times_0 : List UInt8 := dkwX8_times_0 ++ dktX8_times_1
theorem dksX8_times_0 : cX8_times.data.toList.drop 0 = dktX8_times_0 := by decide +kernel
theorem dksX8_times_1 : cX8_times.data.toList.drop 22 = dktX8_times_1 := dk_seg dksX8_times_0 22 rfl rfl
theorem dksX8_times_2 : cX8_times.data.toList.drop 44 = dktX8_times_2 := dk_seg dksX8_times_1 22 rfl rfl
theorem dX8_times_0 : decode cX8_times 0 = .ok (.dload_n 1, 1) := dk_39 (dk_at dksX8_times_0 0 rfl rfl)
theorem dX8_times_1 : decode cX8_times 1 = .ok (.dload_n 3, 1) := dk_41 (dk_at dksX8_times_0 1 rfl rfl)
theorem dX8_times_2 : decode cX8_times 2 = .ok (.invokestatic 1, 3) := dk_184 0 1 (dk_at dksX8_times_0 2 rfl rfl)
theorem dX8_times_5 : decode cX8_times 5 = .ok (.ifCond .eq 29, 3) := dk_153 0 29 (dk_at dksX8_times_0 5 rfl rfl)
theorem dX8_times_8 : decode cX8_times 8 = .ok (.dload_n 1, 1) := dk_39 (dk_at dksX8_times_0 8 rfl rfl)
theorem dX8_times_9 : decode cX8_times 9 = .ok (.dconst 0, 1) := dk_14 (dk_at dksX8_times_0 9 rfl rfl)
theorem dX8_times_10 : decode cX8_times 10 = .ok (.dcmp .l, 1) := dk_151 (dk_at dksX8_times_0 10 rfl rfl)
theorem dX8_times_11 : decode cX8_times 11 = .ok (.ifCond .ne 10, 3) := dk_154 0 10 (dk_at dksX8_times_0 11 rfl rfl)
theorem dX8_times_14 : decode cX8_times 14 = .ok (.dload_n 3, 1) := dk_41 (dk_at dksX8_times_0 14 rfl rfl)
theorem dX8_times_15 : decode cX8_times 15 = .ok (.invokestatic 7, 3) := dk_184 0 7 (dk_at dksX8_times_0 15 rfl rfl)
theorem dX8_times_18 : decode cX8_times 18 = .ok (.ifCond .ne 16, 3) := dk_154 0 16 (dk_at dksX8_times_0 18 rfl rfl)
theorem dX8_times_21 : decode cX8_times 21 = .ok (.dload_n 1, 1) := dk_39 (dk_at dksX8_times_0 21 rfl rfl)
theorem dX8_times_22 : decode cX8_times 22 = .ok (.invokestatic 7, 3) := dk_184 0 7 (dk_at dksX8_times_1 0 rfl rfl)
theorem dX8_times_25 : decode cX8_times 25 = .ok (.ifCond .eq 15, 3) := dk_153 0 15 (dk_at dksX8_times_1 3 rfl rfl)
theorem dX8_times_28 : decode cX8_times 28 = .ok (.dload_n 3, 1) := dk_41 (dk_at dksX8_times_1 6 rfl rfl)
theorem dX8_times_29 : decode cX8_times 29 = .ok (.dconst 0, 1) := dk_14 (dk_at dksX8_times_1 7 rfl rfl)
theorem dX8_times_30 : decode cX8_times 30 = .ok (.dcmp .l, 1) := dk_151 (dk_at dksX8_times_1 8 rfl rfl)
theorem dX8_times_31 : decode cX8_times 31 = .ok (.ifCond .ne 9, 3) := dk_154 0 9 (dk_at dksX8_times_1 9 rfl rfl)
theorem dX8_times_34 : decode cX8_times 34 = .ok (.getstatic 11, 3) := dk_178 0 11 (dk_at dksX8_times_1 12 rfl rfl)
theorem dX8_times_37 : decode cX8_times 37 = .ok (.goto 12, 3) := dk_167 0 12 (dk_at dksX8_times_1 15 rfl rfl)
theorem dX8_times_40 : decode cX8_times 40 = .ok (.aload_n 0, 1) := dk_42 (dk_at dksX8_times_1 18 rfl rfl)
theorem dX8_times_41 : decode cX8_times 41 = .ok (.dload_n 1, 1) := dk_39 (dk_at dksX8_times_1 19 rfl rfl)
theorem dX8_times_42 : decode cX8_times 42 = .ok (.dload_n 3, 1) := dk_41 (dk_at dksX8_times_1 20 rfl rfl)
theorem dX8_times_43 : decode cX8_times 43 = .ok (.dmul, 1) := dk_107 (dk_at dksX8_times_1 21 rfl rfl)
theorem dX8_times_44 : decode cX8_times 44 = .ok (.invokeinterface 15 3, 5) := by decide +kernel
theorem dX8_times_49 : decode cX8_times 49 = .ok (.dreturn, 1) := dk_175 (dk_at dksX8_times_2 5 rfl rfl)
abbrev cX8_rest : ByteArray := prog_8_method_13_code
def yX8_rest : MethodName := ⟨RX8, "rest", "(DD)D"⟩
def dkwX8_rest_1 : List UInt8 := [167, 0, 6, 39, 41, 115, 175]
abbrev dktX8_rest_1 : List UInt8 := dkwX8_rest_1 ++ []
def dkwX8_rest_0 : List UInt8 := [39, 41, 184, 0, 1, 153, 0, 16, 39, 184, 0, 7, 154, 0, 9, 41, 14, 151, 154, 0, 9, 178, 0, 11]
abbrev dktX8_rest_0 : List UInt8 := dkwX8_rest_0 ++ dktX8_rest_1
theorem dksX8_rest_0 : cX8_rest.data.toList.drop 0 = dktX8_rest_0 := by decide +kernel
theorem dksX8_rest_1 : cX8_rest.data.toList.drop 24 = dktX8_rest_1 := dk_seg dksX8_rest_0 24 rfl rfl
theorem dX8_rest_0 : decode cX8_rest 0 = .ok (.dload_n 1, 1) := dk_39 (dk_at dksX8_rest_0 0 rfl rfl)
theorem dX8_rest_1 : decode cX8_rest 1 = .ok (.dload_n 3, 1) := dk_41 (dk_at dksX8_rest_0 1 rfl rfl)
theorem dX8_rest_2 : decode cX8_rest 2 = .ok (.invokestatic 1, 3) := dk_184 0 1 (dk_at dksX8_rest_0 2 rfl rfl)
theorem dX8_rest_5 : decode cX8_rest 5 = .ok (.ifCond .eq 16, 3) := dk_153 0 16 (dk_at dksX8_rest_0 5 rfl rfl)
theorem dX8_rest_8 : decode cX8_rest 8 = .ok (.dload_n 1, 1) := dk_39 (dk_at dksX8_rest_0 8 rfl rfl)
theorem dX8_rest_9 : decode cX8_rest 9 = .ok (.invokestatic 7, 3) := dk_184 0 7 (dk_at dksX8_rest_0 9 rfl rfl)
theorem dX8_rest_12 : decode cX8_rest 12 = .ok (.ifCond .ne 9, 3) := dk_154 0 9 (dk_at dksX8_rest_0 12 rfl rfl)
theorem dX8_rest_15 : decode cX8_rest 15 = .ok (.dload_n 3, 1) := dk_41 (dk_at dksX8_rest_0 15 rfl rfl)
theorem dX8_rest_16 : decode cX8_rest 16 = .ok (.dconst 0, 1) := dk_14 (dk_at dksX8_rest_0 16 rfl rfl)
theorem dX8_rest_17 : decode cX8_rest 17 = .ok (.dcmp .l, 1) := dk_151 (dk_at dksX8_rest_0 17 rfl rfl)
theorem dX8_rest_18 : decode cX8_rest 18 = .ok (.ifCond .ne 9, 3) := dk_154 0 9 (dk_at dksX8_rest_0 18 rfl rfl)
theorem dX8_rest_21 : decode cX8_rest 21 = .ok (.getstatic 11, 3) := dk_178 0 11 (dk_at dksX8_rest_0 21 rfl rfl)
theorem dX8_rest_24 : decode cX8_rest 24 = .ok (.goto 6, 3) := dk_167 0 6 (dk_at dksX8_rest_1 0 rfl rfl)
theorem dX8_rest_27 : decode cX8_rest 27 = .ok (.dload_n 1, 1) := dk_39 (dk_at dksX8_rest_1 3 rfl rfl)
theorem dX8_rest_28 : decode cX8_rest 28 = .ok (.dload_n 3, 1) := dk_41 (dk_at dksX8_rest_1 4 rfl rfl)
theorem dX8_rest_29 : decode cX8_rest 29 = .ok (.drem, 1) := dk_115 (dk_at dksX8_rest_1 5 rfl rfl)
theorem dX8_rest_30 : decode cX8_rest 30 = .ok (.dreturn, 1) := dk_175 (dk_at dksX8_rest_1 6 rfl rfl)
abbrev cX8_joined : ByteArray := prog_8_method_14_code
def yX8_joined : MethodName := ⟨RX8, "joined", "(DDD)D"⟩
def dkwX8_joined_5 : List UInt8 := [54, 8, 21, 8, 153, 0, 9, 178, 0, 11, 167, 0, 11, 42, 39, 41, 24, 5, 184, 0, 21, 175]
abbrev dktX8_joined_5 : List UInt8 := dkwX8_joined_5 ++ []
def dkwX8_joined_4 : List UInt8 := [167, 0, 4, 3, 24, 5, 14, 151, 158, 0, 7, 4, 167, 0, 4, 3, 159, 0, 7, 4, 167, 0, 4, 3]
abbrev dktX8_joined_4 : List UInt8 := dkwX8_joined_4 ++ dktX8_joined_5
def dkwX8_joined_3 : List UInt8 := [152, 156, 0, 7, 4, 167, 0, 4, 3, 41, 14, 152, 156, 0, 7, 4, 167, 0, 4, 3, 160, 0, 7, 4]
abbrev dktX8_joined_3 : List UInt8 := dkwX8_joined_3 ++ dktX8_joined_4
def dkwX8_joined_2 : List UInt8 := [153, 0, 67, 41, 14, 151, 153, 0, 61, 21, 7, 153, 0, 60, 24, 5, 184, 0, 7, 153, 0, 52, 39, 14]
abbrev dktX8_joined_2 : List UInt8 := dkwX8_joined_2 ++ dktX8_joined_3
def dkwX8_joined_1 : List UInt8 := [184, 0, 1, 153, 0, 86, 24, 5, 24, 5, 151, 154, 0, 78, 21, 7, 153, 0, 15, 39, 14, 151]
abbrev dktX8_joined_1 : List UInt8 := dkwX8_joined_1 ++ dktX8_joined_2
def dkwX8_joined_0 : List UInt8 := [39, 184, 0, 7, 154, 0, 10, 41, 184, 0, 7, 153, 0, 7, 4, 167, 0, 4, 3, 54, 7, 39, 41]
abbrev dktX8_joined_0 : List UInt8 := dkwX8_joined_0 ++ dktX8_joined_1
theorem dksX8_joined_0 : cX8_joined.data.toList.drop 0 = dktX8_joined_0 := by decide +kernel
theorem dksX8_joined_1 : cX8_joined.data.toList.drop 23 = dktX8_joined_1 := dk_seg dksX8_joined_0 23 rfl rfl
theorem dksX8_joined_2 : cX8_joined.data.toList.drop 45 = dktX8_joined_2 := dk_seg dksX8_joined_1 22 rfl rfl
theorem dksX8_joined_3 : cX8_joined.data.toList.drop 69 = dktX8_joined_3 := dk_seg dksX8_joined_2 24 rfl rfl
theorem dksX8_joined_4 : cX8_joined.data.toList.drop 93 = dktX8_joined_4 := dk_seg dksX8_joined_3 24 rfl rfl
theorem dksX8_joined_5 : cX8_joined.data.toList.drop 117 = dktX8_joined_5 := dk_seg dksX8_joined_4 24 rfl rfl
theorem dX8_joined_0 : decode cX8_joined 0 = .ok (.dload_n 1, 1) := dk_39 (dk_at dksX8_joined_0 0 rfl rfl)
theorem dX8_joined_1 : decode cX8_joined 1 = .ok (.invokestatic 7, 3) := dk_184 0 7 (dk_at dksX8_joined_0 1 rfl rfl)
theorem dX8_joined_4 : decode cX8_joined 4 = .ok (.ifCond .ne 10, 3) := dk_154 0 10 (dk_at dksX8_joined_0 4 rfl rfl)
theorem dX8_joined_7 : decode cX8_joined 7 = .ok (.dload_n 3, 1) := dk_41 (dk_at dksX8_joined_0 7 rfl rfl)
theorem dX8_joined_8 : decode cX8_joined 8 = .ok (.invokestatic 7, 3) := dk_184 0 7 (dk_at dksX8_joined_0 8 rfl rfl)
theorem dX8_joined_11 : decode cX8_joined 11 = .ok (.ifCond .eq 7, 3) := dk_153 0 7 (dk_at dksX8_joined_0 11 rfl rfl)
theorem dX8_joined_14 : decode cX8_joined 14 = .ok (.iconst 1, 1) := dk_4 (dk_at dksX8_joined_0 14 rfl rfl)
theorem dX8_joined_15 : decode cX8_joined 15 = .ok (.goto 4, 3) := dk_167 0 4 (dk_at dksX8_joined_0 15 rfl rfl)
theorem dX8_joined_18 : decode cX8_joined 18 = .ok (.iconst 0, 1) := dk_3 (dk_at dksX8_joined_0 18 rfl rfl)
theorem dX8_joined_19 : decode cX8_joined 19 = .ok (.istore 7, 2) := dk_54 7 (dk_at dksX8_joined_0 19 rfl rfl)
theorem dX8_joined_21 : decode cX8_joined 21 = .ok (.dload_n 1, 1) := dk_39 (dk_at dksX8_joined_0 21 rfl rfl)
theorem dX8_joined_22 : decode cX8_joined 22 = .ok (.dload_n 3, 1) := dk_41 (dk_at dksX8_joined_0 22 rfl rfl)
theorem dX8_joined_23 : decode cX8_joined 23 = .ok (.invokestatic 1, 3) := dk_184 0 1 (dk_at dksX8_joined_1 0 rfl rfl)
theorem dX8_joined_26 : decode cX8_joined 26 = .ok (.ifCond .eq 86, 3) := dk_153 0 86 (dk_at dksX8_joined_1 3 rfl rfl)
theorem dX8_joined_29 : decode cX8_joined 29 = .ok (.dload 5, 2) := dk_24 5 (dk_at dksX8_joined_1 6 rfl rfl)
theorem dX8_joined_31 : decode cX8_joined 31 = .ok (.dload 5, 2) := dk_24 5 (dk_at dksX8_joined_1 8 rfl rfl)
theorem dX8_joined_33 : decode cX8_joined 33 = .ok (.dcmp .l, 1) := dk_151 (dk_at dksX8_joined_1 10 rfl rfl)
theorem dX8_joined_34 : decode cX8_joined 34 = .ok (.ifCond .ne 78, 3) := dk_154 0 78 (dk_at dksX8_joined_1 11 rfl rfl)
theorem dX8_joined_37 : decode cX8_joined 37 = .ok (.iload 7, 2) := dk_21 7 (dk_at dksX8_joined_1 14 rfl rfl)
theorem dX8_joined_39 : decode cX8_joined 39 = .ok (.ifCond .eq 15, 3) := dk_153 0 15 (dk_at dksX8_joined_1 16 rfl rfl)
theorem dX8_joined_42 : decode cX8_joined 42 = .ok (.dload_n 1, 1) := dk_39 (dk_at dksX8_joined_1 19 rfl rfl)
theorem dX8_joined_43 : decode cX8_joined 43 = .ok (.dconst 0, 1) := dk_14 (dk_at dksX8_joined_1 20 rfl rfl)
theorem dX8_joined_44 : decode cX8_joined 44 = .ok (.dcmp .l, 1) := dk_151 (dk_at dksX8_joined_1 21 rfl rfl)
theorem dX8_joined_45 : decode cX8_joined 45 = .ok (.ifCond .eq 67, 3) := dk_153 0 67 (dk_at dksX8_joined_2 0 rfl rfl)
theorem dX8_joined_48 : decode cX8_joined 48 = .ok (.dload_n 3, 1) := dk_41 (dk_at dksX8_joined_2 3 rfl rfl)
theorem dX8_joined_49 : decode cX8_joined 49 = .ok (.dconst 0, 1) := dk_14 (dk_at dksX8_joined_2 4 rfl rfl)
theorem dX8_joined_50 : decode cX8_joined 50 = .ok (.dcmp .l, 1) := dk_151 (dk_at dksX8_joined_2 5 rfl rfl)
theorem dX8_joined_51 : decode cX8_joined 51 = .ok (.ifCond .eq 61, 3) := dk_153 0 61 (dk_at dksX8_joined_2 6 rfl rfl)
theorem dX8_joined_54 : decode cX8_joined 54 = .ok (.iload 7, 2) := dk_21 7 (dk_at dksX8_joined_2 9 rfl rfl)
theorem dX8_joined_56 : decode cX8_joined 56 = .ok (.ifCond .eq 60, 3) := dk_153 0 60 (dk_at dksX8_joined_2 11 rfl rfl)
theorem dX8_joined_59 : decode cX8_joined 59 = .ok (.dload 5, 2) := dk_24 5 (dk_at dksX8_joined_2 14 rfl rfl)
theorem dX8_joined_61 : decode cX8_joined 61 = .ok (.invokestatic 7, 3) := dk_184 0 7 (dk_at dksX8_joined_2 16 rfl rfl)
theorem dX8_joined_64 : decode cX8_joined 64 = .ok (.ifCond .eq 52, 3) := dk_153 0 52 (dk_at dksX8_joined_2 19 rfl rfl)
theorem dX8_joined_67 : decode cX8_joined 67 = .ok (.dload_n 1, 1) := dk_39 (dk_at dksX8_joined_2 22 rfl rfl)
theorem dX8_joined_68 : decode cX8_joined 68 = .ok (.dconst 0, 1) := dk_14 (dk_at dksX8_joined_2 23 rfl rfl)
theorem dX8_joined_69 : decode cX8_joined 69 = .ok (.dcmp .g, 1) := dk_152 (dk_at dksX8_joined_3 0 rfl rfl)
theorem dX8_joined_70 : decode cX8_joined 70 = .ok (.ifCond .ge 7, 3) := dk_156 0 7 (dk_at dksX8_joined_3 1 rfl rfl)
theorem dX8_joined_73 : decode cX8_joined 73 = .ok (.iconst 1, 1) := dk_4 (dk_at dksX8_joined_3 4 rfl rfl)
theorem dX8_joined_74 : decode cX8_joined 74 = .ok (.goto 4, 3) := dk_167 0 4 (dk_at dksX8_joined_3 5 rfl rfl)
theorem dX8_joined_77 : decode cX8_joined 77 = .ok (.iconst 0, 1) := dk_3 (dk_at dksX8_joined_3 8 rfl rfl)
theorem dX8_joined_78 : decode cX8_joined 78 = .ok (.dload_n 3, 1) := dk_41 (dk_at dksX8_joined_3 9 rfl rfl)
theorem dX8_joined_79 : decode cX8_joined 79 = .ok (.dconst 0, 1) := dk_14 (dk_at dksX8_joined_3 10 rfl rfl)
theorem dX8_joined_80 : decode cX8_joined 80 = .ok (.dcmp .g, 1) := dk_152 (dk_at dksX8_joined_3 11 rfl rfl)
theorem dX8_joined_81 : decode cX8_joined 81 = .ok (.ifCond .ge 7, 3) := dk_156 0 7 (dk_at dksX8_joined_3 12 rfl rfl)
theorem dX8_joined_84 : decode cX8_joined 84 = .ok (.iconst 1, 1) := dk_4 (dk_at dksX8_joined_3 15 rfl rfl)
theorem dX8_joined_85 : decode cX8_joined 85 = .ok (.goto 4, 3) := dk_167 0 4 (dk_at dksX8_joined_3 16 rfl rfl)
theorem dX8_joined_88 : decode cX8_joined 88 = .ok (.iconst 0, 1) := dk_3 (dk_at dksX8_joined_3 19 rfl rfl)
theorem dX8_joined_89 : decode cX8_joined 89 = .ok (.if_icmp .ne 7, 3) := dk_160 0 7 (dk_at dksX8_joined_3 20 rfl rfl)
theorem dX8_joined_92 : decode cX8_joined 92 = .ok (.iconst 1, 1) := dk_4 (dk_at dksX8_joined_3 23 rfl rfl)
theorem dX8_joined_93 : decode cX8_joined 93 = .ok (.goto 4, 3) := dk_167 0 4 (dk_at dksX8_joined_4 0 rfl rfl)
theorem dX8_joined_96 : decode cX8_joined 96 = .ok (.iconst 0, 1) := dk_3 (dk_at dksX8_joined_4 3 rfl rfl)
theorem dX8_joined_97 : decode cX8_joined 97 = .ok (.dload 5, 2) := dk_24 5 (dk_at dksX8_joined_4 4 rfl rfl)
theorem dX8_joined_99 : decode cX8_joined 99 = .ok (.dconst 0, 1) := dk_14 (dk_at dksX8_joined_4 6 rfl rfl)
theorem dX8_joined_100 : decode cX8_joined 100 = .ok (.dcmp .l, 1) := dk_151 (dk_at dksX8_joined_4 7 rfl rfl)
theorem dX8_joined_101 : decode cX8_joined 101 = .ok (.ifCond .le 7, 3) := dk_158 0 7 (dk_at dksX8_joined_4 8 rfl rfl)
theorem dX8_joined_104 : decode cX8_joined 104 = .ok (.iconst 1, 1) := dk_4 (dk_at dksX8_joined_4 11 rfl rfl)
theorem dX8_joined_105 : decode cX8_joined 105 = .ok (.goto 4, 3) := dk_167 0 4 (dk_at dksX8_joined_4 12 rfl rfl)
theorem dX8_joined_108 : decode cX8_joined 108 = .ok (.iconst 0, 1) := dk_3 (dk_at dksX8_joined_4 15 rfl rfl)
theorem dX8_joined_109 : decode cX8_joined 109 = .ok (.if_icmp .eq 7, 3) := dk_159 0 7 (dk_at dksX8_joined_4 16 rfl rfl)
theorem dX8_joined_112 : decode cX8_joined 112 = .ok (.iconst 1, 1) := dk_4 (dk_at dksX8_joined_4 19 rfl rfl)
theorem dX8_joined_113 : decode cX8_joined 113 = .ok (.goto 4, 3) := dk_167 0 4 (dk_at dksX8_joined_4 20 rfl rfl)
theorem dX8_joined_116 : decode cX8_joined 116 = .ok (.iconst 0, 1) := dk_3 (dk_at dksX8_joined_4 23 rfl rfl)
theorem dX8_joined_117 : decode cX8_joined 117 = .ok (.istore 8, 2) := dk_54 8 (dk_at dksX8_joined_5 0 rfl rfl)
theorem dX8_joined_119 : decode cX8_joined 119 = .ok (.iload 8, 2) := dk_21 8 (dk_at dksX8_joined_5 2 rfl rfl)
theorem dX8_joined_121 : decode cX8_joined 121 = .ok (.ifCond .eq 9, 3) := dk_153 0 9 (dk_at dksX8_joined_5 4 rfl rfl)
theorem dX8_joined_124 : decode cX8_joined 124 = .ok (.getstatic 11, 3) := dk_178 0 11 (dk_at dksX8_joined_5 7 rfl rfl)
theorem dX8_joined_127 : decode cX8_joined 127 = .ok (.goto 11, 3) := dk_167 0 11 (dk_at dksX8_joined_5 10 rfl rfl)
theorem dX8_joined_130 : decode cX8_joined 130 = .ok (.aload_n 0, 1) := dk_42 (dk_at dksX8_joined_5 13 rfl rfl)
theorem dX8_joined_131 : decode cX8_joined 131 = .ok (.dload_n 1, 1) := dk_39 (dk_at dksX8_joined_5 14 rfl rfl)
theorem dX8_joined_132 : decode cX8_joined 132 = .ok (.dload_n 3, 1) := dk_41 (dk_at dksX8_joined_5 15 rfl rfl)
theorem dX8_joined_133 : decode cX8_joined 133 = .ok (.dload 5, 2) := dk_24 5 (dk_at dksX8_joined_5 16 rfl rfl)
theorem dX8_joined_135 : decode cX8_joined 135 = .ok (.invokestatic 21, 3) := dk_184 0 21 (dk_at dksX8_joined_5 18 rfl rfl)
theorem dX8_joined_138 : decode cX8_joined 138 = .ok (.dreturn, 1) := dk_175 (dk_at dksX8_joined_5 21 rfl rfl)
abbrev cX8_power : ByteArray := prog_8_method_20_code
def yX8_power : MethodName := ⟨RX8, "power", "(DI)D"⟩
def dkwX8_power_5 : List UInt8 := [24, 8, 185, 0, 46, 5, 0, 167, 0, 5, 24, 8, 175]
abbrev dktX8_power_5 : List UInt8 := dkwX8_power_5 ++ []
def dkwX8_power_4 : List UInt8 := [24, 6, 185, 0, 56, 5, 0, 167, 0, 5, 24, 8, 57, 8, 167, 255, 201, 29, 156, 0, 15, 42, 15]
abbrev dktX8_power_4 : List UInt8 := dkwX8_power_4 ++ dktX8_power_5
def dkwX8_power_3 : List UInt8 := [57, 6, 22, 4, 20, 0, 82, 109, 55, 4, 22, 4, 20, 0, 82, 113, 10, 148, 154, 0, 16, 42, 24, 8]
abbrev dktX8_power_3 : List UInt8 := dkwX8_power_3 ++ dktX8_power_4
def dkwX8_power_2 : List UInt8 := [167, 255, 225, 24, 6, 57, 8, 22, 4, 10, 148, 158, 0, 54, 42, 24, 6, 24, 6, 185, 0, 56, 5, 0]
abbrev dktX8_power_2 : List UInt8 := dkwX8_power_2 ++ dktX8_power_3
def dkwX8_power_1 : List UInt8 := [154, 0, 26, 42, 24, 6, 24, 6, 185, 0, 56, 5, 0, 57, 6, 22, 4, 20, 0, 82, 109, 55, 4]
abbrev dktX8_power_1 : List UInt8 := dkwX8_power_1 ++ dktX8_power_2
def dkwX8_power_0 : List UInt8 := [29, 154, 0, 5, 15, 175, 29, 133, 184, 0, 79, 55, 4, 39, 57, 6, 22, 4, 20, 0, 82, 113, 9, 148]
abbrev dktX8_power_0 : List UInt8 := dkwX8_power_0 ++ dktX8_power_1
theorem dksX8_power_0 : cX8_power.data.toList.drop 0 = dktX8_power_0 := by decide +kernel
theorem dksX8_power_1 : cX8_power.data.toList.drop 24 = dktX8_power_1 := dk_seg dksX8_power_0 24 rfl rfl
theorem dksX8_power_2 : cX8_power.data.toList.drop 47 = dktX8_power_2 := dk_seg dksX8_power_1 23 rfl rfl
theorem dksX8_power_3 : cX8_power.data.toList.drop 71 = dktX8_power_3 := dk_seg dksX8_power_2 24 rfl rfl
theorem dksX8_power_4 : cX8_power.data.toList.drop 95 = dktX8_power_4 := dk_seg dksX8_power_3 24 rfl rfl
theorem dksX8_power_5 : cX8_power.data.toList.drop 118 = dktX8_power_5 := dk_seg dksX8_power_4 23 rfl rfl
theorem dX8_power_0 : decode cX8_power 0 = .ok (.iload_n 3, 1) := dk_29 (dk_at dksX8_power_0 0 rfl rfl)
theorem dX8_power_1 : decode cX8_power 1 = .ok (.ifCond .ne 5, 3) := dk_154 0 5 (dk_at dksX8_power_0 1 rfl rfl)
theorem dX8_power_4 : decode cX8_power 4 = .ok (.dconst 1, 1) := dk_15 (dk_at dksX8_power_0 4 rfl rfl)
theorem dX8_power_5 : decode cX8_power 5 = .ok (.dreturn, 1) := dk_175 (dk_at dksX8_power_0 5 rfl rfl)
theorem dX8_power_6 : decode cX8_power 6 = .ok (.iload_n 3, 1) := dk_29 (dk_at dksX8_power_0 6 rfl rfl)
theorem dX8_power_7 : decode cX8_power 7 = .ok (.i2l, 1) := dk_133 (dk_at dksX8_power_0 7 rfl rfl)
theorem dX8_power_8 : decode cX8_power 8 = .ok (.invokestatic 79, 3) := dk_184 0 79 (dk_at dksX8_power_0 8 rfl rfl)
theorem dX8_power_11 : decode cX8_power 11 = .ok (.lstore 4, 2) := dk_55 4 (dk_at dksX8_power_0 11 rfl rfl)
theorem dX8_power_13 : decode cX8_power 13 = .ok (.dload_n 1, 1) := dk_39 (dk_at dksX8_power_0 13 rfl rfl)
theorem dX8_power_14 : decode cX8_power 14 = .ok (.dstore 6, 2) := dk_57 6 (dk_at dksX8_power_0 14 rfl rfl)
theorem dX8_power_16 : decode cX8_power 16 = .ok (.lload 4, 2) := dk_22 4 (dk_at dksX8_power_0 16 rfl rfl)
theorem dX8_power_18 : decode cX8_power 18 = .ok (.ldc2_w 82, 3) := dk_20 0 82 (dk_at dksX8_power_0 18 rfl rfl)
theorem dX8_power_21 : decode cX8_power 21 = .ok (.lrem, 1) := dk_113 (dk_at dksX8_power_0 21 rfl rfl)
theorem dX8_power_22 : decode cX8_power 22 = .ok (.lconst 0, 1) := dk_9 (dk_at dksX8_power_0 22 rfl rfl)
theorem dX8_power_23 : decode cX8_power 23 = .ok (.lcmp, 1) := dk_148 (dk_at dksX8_power_0 23 rfl rfl)
theorem dX8_power_24 : decode cX8_power 24 = .ok (.ifCond .ne 26, 3) := dk_154 0 26 (dk_at dksX8_power_1 0 rfl rfl)
theorem dX8_power_27 : decode cX8_power 27 = .ok (.aload_n 0, 1) := dk_42 (dk_at dksX8_power_1 3 rfl rfl)
theorem dX8_power_28 : decode cX8_power 28 = .ok (.dload 6, 2) := dk_24 6 (dk_at dksX8_power_1 4 rfl rfl)
theorem dX8_power_30 : decode cX8_power 30 = .ok (.dload 6, 2) := dk_24 6 (dk_at dksX8_power_1 6 rfl rfl)
theorem dX8_power_32 : decode cX8_power 32 = .ok (.invokeinterface 56 5, 5) := by decide +kernel
theorem dX8_power_37 : decode cX8_power 37 = .ok (.dstore 6, 2) := dk_57 6 (dk_at dksX8_power_1 13 rfl rfl)
theorem dX8_power_39 : decode cX8_power 39 = .ok (.lload 4, 2) := dk_22 4 (dk_at dksX8_power_1 15 rfl rfl)
theorem dX8_power_41 : decode cX8_power 41 = .ok (.ldc2_w 82, 3) := dk_20 0 82 (dk_at dksX8_power_1 17 rfl rfl)
theorem dX8_power_44 : decode cX8_power 44 = .ok (.ldiv, 1) := dk_109 (dk_at dksX8_power_1 20 rfl rfl)
theorem dX8_power_45 : decode cX8_power 45 = .ok (.lstore 4, 2) := dk_55 4 (dk_at dksX8_power_1 21 rfl rfl)
theorem dX8_power_47 : decode cX8_power 47 = .ok (.goto (-31), 3) := dk_167 255 225 (dk_at dksX8_power_2 0 rfl rfl)
theorem dX8_power_50 : decode cX8_power 50 = .ok (.dload 6, 2) := dk_24 6 (dk_at dksX8_power_2 3 rfl rfl)
theorem dX8_power_52 : decode cX8_power 52 = .ok (.dstore 8, 2) := dk_57 8 (dk_at dksX8_power_2 5 rfl rfl)
theorem dX8_power_54 : decode cX8_power 54 = .ok (.lload 4, 2) := dk_22 4 (dk_at dksX8_power_2 7 rfl rfl)
theorem dX8_power_56 : decode cX8_power 56 = .ok (.lconst 1, 1) := dk_10 (dk_at dksX8_power_2 9 rfl rfl)
theorem dX8_power_57 : decode cX8_power 57 = .ok (.lcmp, 1) := dk_148 (dk_at dksX8_power_2 10 rfl rfl)
theorem dX8_power_58 : decode cX8_power 58 = .ok (.ifCond .le 54, 3) := dk_158 0 54 (dk_at dksX8_power_2 11 rfl rfl)
theorem dX8_power_61 : decode cX8_power 61 = .ok (.aload_n 0, 1) := dk_42 (dk_at dksX8_power_2 14 rfl rfl)
theorem dX8_power_62 : decode cX8_power 62 = .ok (.dload 6, 2) := dk_24 6 (dk_at dksX8_power_2 15 rfl rfl)
theorem dX8_power_64 : decode cX8_power 64 = .ok (.dload 6, 2) := dk_24 6 (dk_at dksX8_power_2 17 rfl rfl)
theorem dX8_power_66 : decode cX8_power 66 = .ok (.invokeinterface 56 5, 5) := by decide +kernel
theorem dX8_power_71 : decode cX8_power 71 = .ok (.dstore 6, 2) := dk_57 6 (dk_at dksX8_power_3 0 rfl rfl)
theorem dX8_power_73 : decode cX8_power 73 = .ok (.lload 4, 2) := dk_22 4 (dk_at dksX8_power_3 2 rfl rfl)
theorem dX8_power_75 : decode cX8_power 75 = .ok (.ldc2_w 82, 3) := dk_20 0 82 (dk_at dksX8_power_3 4 rfl rfl)
theorem dX8_power_78 : decode cX8_power 78 = .ok (.ldiv, 1) := dk_109 (dk_at dksX8_power_3 7 rfl rfl)
theorem dX8_power_79 : decode cX8_power 79 = .ok (.lstore 4, 2) := dk_55 4 (dk_at dksX8_power_3 8 rfl rfl)
theorem dX8_power_81 : decode cX8_power 81 = .ok (.lload 4, 2) := dk_22 4 (dk_at dksX8_power_3 10 rfl rfl)
theorem dX8_power_83 : decode cX8_power 83 = .ok (.ldc2_w 82, 3) := dk_20 0 82 (dk_at dksX8_power_3 12 rfl rfl)
theorem dX8_power_86 : decode cX8_power 86 = .ok (.lrem, 1) := dk_113 (dk_at dksX8_power_3 15 rfl rfl)
theorem dX8_power_87 : decode cX8_power 87 = .ok (.lconst 1, 1) := dk_10 (dk_at dksX8_power_3 16 rfl rfl)
theorem dX8_power_88 : decode cX8_power 88 = .ok (.lcmp, 1) := dk_148 (dk_at dksX8_power_3 17 rfl rfl)
theorem dX8_power_89 : decode cX8_power 89 = .ok (.ifCond .ne 16, 3) := dk_154 0 16 (dk_at dksX8_power_3 18 rfl rfl)
theorem dX8_power_92 : decode cX8_power 92 = .ok (.aload_n 0, 1) := dk_42 (dk_at dksX8_power_3 21 rfl rfl)
theorem dX8_power_93 : decode cX8_power 93 = .ok (.dload 8, 2) := dk_24 8 (dk_at dksX8_power_3 22 rfl rfl)
theorem dX8_power_95 : decode cX8_power 95 = .ok (.dload 6, 2) := dk_24 6 (dk_at dksX8_power_4 0 rfl rfl)
theorem dX8_power_97 : decode cX8_power 97 = .ok (.invokeinterface 56 5, 5) := by decide +kernel
theorem dX8_power_102 : decode cX8_power 102 = .ok (.goto 5, 3) := dk_167 0 5 (dk_at dksX8_power_4 7 rfl rfl)
theorem dX8_power_105 : decode cX8_power 105 = .ok (.dload 8, 2) := dk_24 8 (dk_at dksX8_power_4 10 rfl rfl)
theorem dX8_power_107 : decode cX8_power 107 = .ok (.dstore 8, 2) := dk_57 8 (dk_at dksX8_power_4 12 rfl rfl)
theorem dX8_power_109 : decode cX8_power 109 = .ok (.goto (-55), 3) := dk_167 255 201 (dk_at dksX8_power_4 14 rfl rfl)
theorem dX8_power_112 : decode cX8_power 112 = .ok (.iload_n 3, 1) := dk_29 (dk_at dksX8_power_4 17 rfl rfl)
theorem dX8_power_113 : decode cX8_power 113 = .ok (.ifCond .ge 15, 3) := dk_156 0 15 (dk_at dksX8_power_4 18 rfl rfl)
theorem dX8_power_116 : decode cX8_power 116 = .ok (.aload_n 0, 1) := dk_42 (dk_at dksX8_power_4 21 rfl rfl)
theorem dX8_power_117 : decode cX8_power 117 = .ok (.dconst 1, 1) := dk_15 (dk_at dksX8_power_4 22 rfl rfl)
theorem dX8_power_118 : decode cX8_power 118 = .ok (.dload 8, 2) := dk_24 8 (dk_at dksX8_power_5 0 rfl rfl)
theorem dX8_power_120 : decode cX8_power 120 = .ok (.invokeinterface 46 5, 5) := by decide +kernel
theorem dX8_power_125 : decode cX8_power 125 = .ok (.goto 5, 3) := dk_167 0 5 (dk_at dksX8_power_5 7 rfl rfl)
theorem dX8_power_128 : decode cX8_power 128 = .ok (.dload 8, 2) := dk_24 8 (dk_at dksX8_power_5 10 rfl rfl)
theorem dX8_power_130 : decode cX8_power 130 = .ok (.dreturn, 1) := dk_175 (dk_at dksX8_power_5 12 rfl rfl)
theorem q100 : (Jvm.Cond.interfaceMethod "FloatClasses$Reals" "FloatClasses$Reals" "from" "(J)D") ∈ lw_tbl := lw_at lw_m1 57 rfl
theorem q101 : (Jvm.Cond.declares ({ cls := "FloatClasses$Reals", name := "from", desc := "(J)D" } : Jvm.MethodName)) ∈ lw_tbl := lw_at lw_m1 58 rfl
theorem q129 : (Jvm.Cond.interfaceMethod "FloatClasses$Reals" "FloatClasses$Reals" "isFinite" "(D)Z") ∈ lw_tbl := lw_at lw_m1 86 rfl
theorem q130 : (Jvm.Cond.declares ({ cls := "FloatClasses$Reals", name := "isFinite", desc := "(D)Z" } : Jvm.MethodName)) ∈ lw_tbl := lw_at lw_m1 87 rfl
theorem q132 : (Jvm.Cond.instanceMethod ({ cls := "FloatClasses$Reals", name := "isFinite", desc := "(D)Z" } : Jvm.MethodName)) ∈ lw_all := lw_g (lw_at lw_m1 89 rfl) rfl
theorem q133 : (Jvm.Cond.publicMethod ({ cls := "FloatClasses$Reals", name := "isFinite", desc := "(D)Z" } : Jvm.MethodName)) ∈ lw_tbl := lw_at lw_m1 90 rfl
theorem q134 : (Jvm.Cond.code ({ cls := "FloatClasses$Reals", name := "isFinite", desc := "(D)Z" } : Jvm.MethodName) prog_8_method_16_code (3 : Nat) (Option.some Jvm.ClassFile.FieldType.boolean)) ∈ lw_all := lw_g (lw_at lw_m1 91 rfl) rfl
theorem q135 : (Jvm.Cond.methodLinkNest "FloatClasses$Reals" (7 : Nat) ({ cls := "FloatClasses", name := "isEndless", desc := "(D)Z" } : Jvm.MethodName) "FloatClasses") ∈ lw_tbl := lw_at lw_m1 92 rfl
theorem q143 : (Jvm.Cond.interfaceMethod "FloatClasses$Reals" "FloatClasses$Reals" "power2" "(D)I") ∈ lw_tbl := lw_at lw_m1 100 rfl
theorem q144 : (Jvm.Cond.declares ({ cls := "FloatClasses$Reals", name := "power2", desc := "(D)I" } : Jvm.MethodName)) ∈ lw_tbl := lw_at lw_m1 101 rfl
theorem q146 : (Jvm.Cond.instanceMethod ({ cls := "FloatClasses$Reals", name := "power2", desc := "(D)I" } : Jvm.MethodName)) ∈ lw_all := lw_g (lw_at lw_m1 103 rfl) rfl
theorem q147 : (Jvm.Cond.publicMethod ({ cls := "FloatClasses$Reals", name := "power2", desc := "(D)I" } : Jvm.MethodName)) ∈ lw_tbl := lw_at lw_m1 104 rfl
theorem q148 : (Jvm.Cond.code ({ cls := "FloatClasses$Reals", name := "power2", desc := "(D)I" } : Jvm.MethodName) prog_8_method_21_code (3 : Nat) (Option.some Jvm.ClassFile.FieldType.int)) ∈ lw_all := lw_g (lw_at lw_m1 105 rfl) rfl
theorem q149 : (Jvm.Cond.methodLinkNest "FloatClasses$Reals" (84 : Nat) ({ cls := "FloatClasses", name := "exponentOf", desc := "(D)I" } : Jvm.MethodName) "FloatClasses") ∈ lw_tbl := lw_at lw_m1 106 rfl
theorem q180 : (Jvm.Cond.interfaceEntry "FloatClasses$Reals" (72 : Nat)) ∈ lw_tbl := lw_at lw_m1 137 rfl
theorem q181 : (Jvm.Cond.methodLink "FloatClasses$Reals" (72 : Nat) ({ cls := "FloatClasses$Reals", name := "precision", desc := "()I" } : Jvm.MethodName)) ∈ lw_all := lw_g (lw_at lw_m1 138 rfl) rfl
theorem q182 : (Jvm.Cond.interfaceMethod "FloatClasses$Reals" "FloatClasses$Reals" "precision" "()I") ∈ lw_tbl := lw_at lw_m1 139 rfl
theorem q183 : (Jvm.Cond.declares ({ cls := "FloatClasses$Reals", name := "precision", desc := "()I" } : Jvm.MethodName)) ∈ lw_tbl := lw_at lw_m1 140 rfl
theorem q217 : (Jvm.Cond.interfaceMethod "FloatClasses$Reals" "FloatClasses$Reals" "least" "()I") ∈ lw_tbl := lw_at lw_m1 174 rfl
theorem q218 : (Jvm.Cond.declares ({ cls := "FloatClasses$Reals", name := "least", desc := "()I" } : Jvm.MethodName)) ∈ lw_tbl := lw_at lw_m1 175 rfl
theorem q236 : (Jvm.Cond.interfaceMethod "FloatClasses$Reals" "FloatClasses$Reals" "by" "(DI)D") ∈ lw_tbl := lw_at lw_m1 193 rfl
theorem q237 : (Jvm.Cond.declares ({ cls := "FloatClasses$Reals", name := "by", desc := "(DI)D" } : Jvm.MethodName)) ∈ lw_tbl := lw_at lw_m1 194 rfl
theorem q268 : (Jvm.Cond.interfaceMethod "FloatClasses$Reals" "FloatClasses$Reals" "to" "(D)J") ∈ lw_tbl := lw_at lw_m1 225 rfl
theorem q269 : (Jvm.Cond.declares ({ cls := "FloatClasses$Reals", name := "to", desc := "(D)J" } : Jvm.MethodName)) ∈ lw_tbl := lw_at lw_m1 226 rfl
theorem q322 : (Jvm.Cond.interfaceMethod "FloatClasses$Reals" "FloatClasses$Reals" "sort" "(D)I") ∈ lw_tbl := lw_at lw_m2 39 rfl
theorem q323 : (Jvm.Cond.declares ({ cls := "FloatClasses$Reals", name := "sort", desc := "(D)I" } : Jvm.MethodName)) ∈ lw_tbl := lw_at lw_m2 40 rfl
theorem q325 : (Jvm.Cond.instanceMethod ({ cls := "FloatClasses$Reals", name := "sort", desc := "(D)I" } : Jvm.MethodName)) ∈ lw_all := lw_g (lw_at lw_m2 42 rfl) rfl
theorem q326 : (Jvm.Cond.publicMethod ({ cls := "FloatClasses$Reals", name := "sort", desc := "(D)I" } : Jvm.MethodName)) ∈ lw_tbl := lw_at lw_m2 43 rfl
theorem q327 : (Jvm.Cond.code ({ cls := "FloatClasses$Reals", name := "sort", desc := "(D)I" } : Jvm.MethodName) prog_8_method_19_code (6 : Nat) (Option.some Jvm.ClassFile.FieldType.int)) ∈ lw_all := lw_g (lw_at lw_m2 44 rfl) rfl
theorem q328 : (Jvm.Cond.methodLink "FloatClasses$Reals" (62 : Nat) ({ cls := "java/lang/Math", name := "copySign", desc := "(DD)D" } : Jvm.MethodName)) ∈ lw_all := lw_g (lw_at lw_m2 45 rfl) rfl
theorem q333 : (Jvm.Cond.methodLink "FloatClasses$Reals" (28 : Nat) ({ cls := "java/lang/Math", name := "abs", desc := "(D)D" } : Jvm.MethodName)) ∈ lw_all := lw_g (lw_at lw_m2 50 rfl) rfl
theorem q336 : (Jvm.Cond.interfaceEntry "FloatClasses$Reals" (65 : Nat)) ∈ lw_tbl := lw_at lw_m2 53 rfl
theorem q337 : (Jvm.Cond.methodLink "FloatClasses$Reals" (65 : Nat) ({ cls := "FloatClasses$Reals", name := "isFinite", desc := "(D)Z" } : Jvm.MethodName)) ∈ lw_all := lw_g (lw_at lw_m2 54 rfl) rfl
theorem q338 : (Jvm.Cond.interfaceEntry "FloatClasses$Reals" (68 : Nat)) ∈ lw_tbl := lw_at lw_m2 55 rfl
theorem q339 : (Jvm.Cond.methodLink "FloatClasses$Reals" (68 : Nat) ({ cls := "FloatClasses$Reals", name := "least", desc := "()I" } : Jvm.MethodName)) ∈ lw_all := lw_g (lw_at lw_m2 56 rfl) rfl
theorem q340 : (Jvm.Cond.interfaceEntry "FloatClasses$Reals" (75 : Nat)) ∈ lw_tbl := lw_at lw_m2 57 rfl
theorem q341 : (Jvm.Cond.methodLink "FloatClasses$Reals" (75 : Nat) ({ cls := "FloatClasses$Reals", name := "by", desc := "(DI)D" } : Jvm.MethodName)) ∈ lw_all := lw_g (lw_at lw_m2 58 rfl) rfl
theorem q350 : (Jvm.Cond.interfaceMethod "FloatClasses$Reals" "FloatClasses$Reals" "one" "(ID)D") ∈ lw_tbl := lw_at lw_m2 67 rfl
theorem q351 : (Jvm.Cond.declares ({ cls := "FloatClasses$Reals", name := "one", desc := "(ID)D" } : Jvm.MethodName)) ∈ lw_tbl := lw_at lw_m2 68 rfl
theorem q353 : (Jvm.Cond.instanceMethod ({ cls := "FloatClasses$Reals", name := "one", desc := "(ID)D" } : Jvm.MethodName)) ∈ lw_all := lw_g (lw_at lw_m2 70 rfl) rfl
theorem q354 : (Jvm.Cond.publicMethod ({ cls := "FloatClasses$Reals", name := "one", desc := "(ID)D" } : Jvm.MethodName)) ∈ lw_tbl := lw_at lw_m2 71 rfl
theorem q355 : (Jvm.Cond.code ({ cls := "FloatClasses$Reals", name := "one", desc := "(ID)D" } : Jvm.MethodName) prog_8_method_17_code (4 : Nat) (Option.some Jvm.ClassFile.FieldType.double)) ∈ lw_all := lw_g (lw_at lw_m2 72 rfl) rfl
theorem q356 : (Jvm.Cond.fieldLinkNest "FloatClasses$Reals" (11 : Nat) "FloatClasses" "NO_NUMBER" "D" "FloatClasses") ∈ lw_tbl := lw_at lw_m2 73 rfl
theorem q357 : (Jvm.Cond.methodLink "FloatClasses$Reals" (33 : Nat) ({ cls := "java/lang/Math", name := "signum", desc := "(D)D" } : Jvm.MethodName)) ∈ lw_all := lw_g (lw_at lw_m2 74 rfl) rfl
theorem q362 : (Jvm.Cond.interfaceEntry "FloatClasses$Reals" (25 : Nat)) ∈ lw_tbl := lw_at lw_m2 79 rfl
theorem q363 : (Jvm.Cond.methodLink "FloatClasses$Reals" (25 : Nat) ({ cls := "FloatClasses$Reals", name := "up", desc := "(D)D" } : Jvm.MethodName)) ∈ lw_all := lw_g (lw_at lw_m2 80 rfl) rfl
theorem q364 : (Jvm.Cond.interfaceMethod "FloatClasses$Reals" "FloatClasses$Reals" "up" "(D)D") ∈ lw_tbl := lw_at lw_m2 81 rfl
theorem q365 : (Jvm.Cond.declares ({ cls := "FloatClasses$Reals", name := "up", desc := "(D)D" } : Jvm.MethodName)) ∈ lw_tbl := lw_at lw_m2 82 rfl
theorem q387 : (Jvm.Cond.interfaceEntry "FloatClasses$Reals" (36 : Nat)) ∈ lw_tbl := lw_at lw_m2 104 rfl
theorem q388 : (Jvm.Cond.methodLink "FloatClasses$Reals" (36 : Nat) ({ cls := "FloatClasses$Reals", name := "down", desc := "(D)D" } : Jvm.MethodName)) ∈ lw_all := lw_g (lw_at lw_m2 105 rfl) rfl
theorem q389 : (Jvm.Cond.interfaceMethod "FloatClasses$Reals" "FloatClasses$Reals" "down" "(D)D") ∈ lw_tbl := lw_at lw_m2 106 rfl
theorem q390 : (Jvm.Cond.declares ({ cls := "FloatClasses$Reals", name := "down", desc := "(D)D" } : Jvm.MethodName)) ∈ lw_tbl := lw_at lw_m2 107 rfl
theorem q392 : (Jvm.Cond.instanceMethod ({ cls := "FloatClasses$Reals", name := "down", desc := "(D)D" } : Jvm.MethodName)) ∈ lw_all := lw_g (lw_at lw_m2 109 rfl) rfl
theorem q393 : (Jvm.Cond.publicMethod ({ cls := "FloatClasses$Reals", name := "down", desc := "(D)D" } : Jvm.MethodName)) ∈ lw_tbl := lw_at lw_m2 110 rfl
theorem q394 : (Jvm.Cond.code ({ cls := "FloatClasses$Reals", name := "down", desc := "(D)D" } : Jvm.MethodName) prog_8_method_15_code (3 : Nat) (Option.some Jvm.ClassFile.FieldType.double)) ∈ lw_all := lw_g (lw_at lw_m2 111 rfl) rfl
theorem q396 : (Jvm.Cond.interfaceEntry "FloatClasses$Reals" (39 : Nat)) ∈ lw_tbl := lw_at lw_m2 113 rfl
theorem q397 : (Jvm.Cond.methodLink "FloatClasses$Reals" (39 : Nat) ({ cls := "FloatClasses$Reals", name := "gap", desc := "(D)D" } : Jvm.MethodName)) ∈ lw_all := lw_g (lw_at lw_m2 114 rfl) rfl
theorem q398 : (Jvm.Cond.interfaceMethod "FloatClasses$Reals" "FloatClasses$Reals" "gap" "(D)D") ∈ lw_tbl := lw_at lw_m2 115 rfl
theorem q399 : (Jvm.Cond.declares ({ cls := "FloatClasses$Reals", name := "gap", desc := "(D)D" } : Jvm.MethodName)) ∈ lw_tbl := lw_at lw_m2 116 rfl
theorem q431 : (Jvm.Cond.methodLinkNest "FloatClasses$Reals" (42 : Nat) ({ cls := "FloatClasses", name := "root", desc := "(LFloatClasses$Reals;D)D" } : Jvm.MethodName) "FloatClasses") ∈ lw_tbl := lw_at lw_m2 148 rfl
theorem q449 : (Jvm.Cond.interfaceEntry "FloatClasses$Reals" (46 : Nat)) ∈ lw_tbl := lw_at lw_m2 166 rfl
theorem q450 : (Jvm.Cond.methodLink "FloatClasses$Reals" (46 : Nat) ({ cls := "FloatClasses$Reals", name := "over", desc := "(DD)D" } : Jvm.MethodName)) ∈ lw_all := lw_g (lw_at lw_m2 167 rfl) rfl
theorem q451 : (Jvm.Cond.interfaceMethod "FloatClasses$Reals" "FloatClasses$Reals" "over" "(DD)D") ∈ lw_tbl := lw_at lw_m2 168 rfl
theorem q452 : (Jvm.Cond.declares ({ cls := "FloatClasses$Reals", name := "over", desc := "(DD)D" } : Jvm.MethodName)) ∈ lw_tbl := lw_at lw_m2 169 rfl
theorem q454 : (Jvm.Cond.instanceMethod ({ cls := "FloatClasses$Reals", name := "over", desc := "(DD)D" } : Jvm.MethodName)) ∈ lw_all := lw_g (lw_at lw_m2 171 rfl) rfl
theorem q455 : (Jvm.Cond.publicMethod ({ cls := "FloatClasses$Reals", name := "over", desc := "(DD)D" } : Jvm.MethodName)) ∈ lw_tbl := lw_at lw_m2 172 rfl
theorem q456 : (Jvm.Cond.code ({ cls := "FloatClasses$Reals", name := "over", desc := "(DD)D" } : Jvm.MethodName) prog_8_method_11_code (5 : Nat) (Option.some Jvm.ClassFile.FieldType.double)) ∈ lw_all := lw_g (lw_at lw_m2 173 rfl) rfl
theorem q457 : (Jvm.Cond.methodLinkNest "FloatClasses$Reals" (1 : Nat) ({ cls := "FloatClasses", name := "isNumber", desc := "(DD)Z" } : Jvm.MethodName) "FloatClasses") ∈ lw_tbl := lw_at lw_m2 174 rfl
theorem q460 : (Jvm.Cond.interfaceEntry "FloatClasses$Reals" (15 : Nat)) ∈ lw_tbl := lw_at lw_m2 177 rfl
theorem q461 : (Jvm.Cond.methodLink "FloatClasses$Reals" (15 : Nat) ({ cls := "FloatClasses$Reals", name := "fit", desc := "(D)D" } : Jvm.MethodName)) ∈ lw_all := lw_g (lw_at lw_m2 178 rfl) rfl
theorem q462 : (Jvm.Cond.interfaceMethod "FloatClasses$Reals" "FloatClasses$Reals" "fit" "(D)D") ∈ lw_tbl := lw_at lw_m2 179 rfl
theorem q463 : (Jvm.Cond.declares ({ cls := "FloatClasses$Reals", name := "fit", desc := "(D)D" } : Jvm.MethodName)) ∈ lw_tbl := lw_at lw_m2 180 rfl
theorem q481 : (Jvm.Cond.interfaceMethod "FloatClasses$Reals" "FloatClasses$Reals" "two" "(IDD)D") ∈ lw_tbl := lw_at lw_m2 198 rfl
theorem q482 : (Jvm.Cond.declares ({ cls := "FloatClasses$Reals", name := "two", desc := "(IDD)D" } : Jvm.MethodName)) ∈ lw_tbl := lw_at lw_m2 199 rfl
theorem q484 : (Jvm.Cond.instanceMethod ({ cls := "FloatClasses$Reals", name := "two", desc := "(IDD)D" } : Jvm.MethodName)) ∈ lw_all := lw_g (lw_at lw_m2 201 rfl) rfl
theorem q485 : (Jvm.Cond.publicMethod ({ cls := "FloatClasses$Reals", name := "two", desc := "(IDD)D" } : Jvm.MethodName)) ∈ lw_tbl := lw_at lw_m2 202 rfl
theorem q486 : (Jvm.Cond.code ({ cls := "FloatClasses$Reals", name := "two", desc := "(IDD)D" } : Jvm.MethodName) prog_8_method_18_code (6 : Nat) (Option.some Jvm.ClassFile.FieldType.double)) ∈ lw_all := lw_g (lw_at lw_m2 203 rfl) rfl
theorem q487 : (Jvm.Cond.interfaceEntry "FloatClasses$Reals" (50 : Nat)) ∈ lw_tbl := lw_at lw_m2 204 rfl
theorem q488 : (Jvm.Cond.methodLink "FloatClasses$Reals" (50 : Nat) ({ cls := "FloatClasses$Reals", name := "plus", desc := "(DD)D" } : Jvm.MethodName)) ∈ lw_all := lw_g (lw_at lw_m2 205 rfl) rfl
theorem q489 : (Jvm.Cond.interfaceMethod "FloatClasses$Reals" "FloatClasses$Reals" "plus" "(DD)D") ∈ lw_tbl := lw_at lw_m2 206 rfl
theorem q490 : (Jvm.Cond.declares ({ cls := "FloatClasses$Reals", name := "plus", desc := "(DD)D" } : Jvm.MethodName)) ∈ lw_tbl := lw_at lw_m2 207 rfl
theorem q492 : (Jvm.Cond.instanceMethod ({ cls := "FloatClasses$Reals", name := "plus", desc := "(DD)D" } : Jvm.MethodName)) ∈ lw_all := lw_g (lw_at lw_m2 209 rfl) rfl
theorem q493 : (Jvm.Cond.publicMethod ({ cls := "FloatClasses$Reals", name := "plus", desc := "(DD)D" } : Jvm.MethodName)) ∈ lw_tbl := lw_at lw_m2 210 rfl
theorem q494 : (Jvm.Cond.code ({ cls := "FloatClasses$Reals", name := "plus", desc := "(DD)D" } : Jvm.MethodName) prog_8_method_9_code (5 : Nat) (Option.some Jvm.ClassFile.FieldType.double)) ∈ lw_all := lw_g (lw_at lw_m2 211 rfl) rfl
theorem q496 : (Jvm.Cond.interfaceEntry "FloatClasses$Reals" (53 : Nat)) ∈ lw_tbl := lw_at lw_m2 213 rfl
theorem q497 : (Jvm.Cond.methodLink "FloatClasses$Reals" (53 : Nat) ({ cls := "FloatClasses$Reals", name := "minus", desc := "(DD)D" } : Jvm.MethodName)) ∈ lw_all := lw_g (lw_at lw_m2 214 rfl) rfl
theorem q498 : (Jvm.Cond.interfaceMethod "FloatClasses$Reals" "FloatClasses$Reals" "minus" "(DD)D") ∈ lw_tbl := lw_at lw_m2 215 rfl
theorem q499 : (Jvm.Cond.declares ({ cls := "FloatClasses$Reals", name := "minus", desc := "(DD)D" } : Jvm.MethodName)) ∈ lw_tbl := lw_at lw_m2 216 rfl
theorem q501 : (Jvm.Cond.instanceMethod ({ cls := "FloatClasses$Reals", name := "minus", desc := "(DD)D" } : Jvm.MethodName)) ∈ lw_all := lw_g (lw_at lw_m2 218 rfl) rfl
theorem q502 : (Jvm.Cond.publicMethod ({ cls := "FloatClasses$Reals", name := "minus", desc := "(DD)D" } : Jvm.MethodName)) ∈ lw_tbl := lw_at lw_m2 219 rfl
theorem q503 : (Jvm.Cond.code ({ cls := "FloatClasses$Reals", name := "minus", desc := "(DD)D" } : Jvm.MethodName) prog_8_method_12_code (5 : Nat) (Option.some Jvm.ClassFile.FieldType.double)) ∈ lw_all := lw_g (lw_at lw_m2 220 rfl) rfl
theorem q505 : (Jvm.Cond.interfaceEntry "FloatClasses$Reals" (56 : Nat)) ∈ lw_tbl := lw_at lw_m2 222 rfl
theorem q506 : (Jvm.Cond.methodLink "FloatClasses$Reals" (56 : Nat) ({ cls := "FloatClasses$Reals", name := "times", desc := "(DD)D" } : Jvm.MethodName)) ∈ lw_all := lw_g (lw_at lw_m2 223 rfl) rfl
theorem q507 : (Jvm.Cond.interfaceMethod "FloatClasses$Reals" "FloatClasses$Reals" "times" "(DD)D") ∈ lw_tbl := lw_at lw_m2 224 rfl
theorem q508 : (Jvm.Cond.declares ({ cls := "FloatClasses$Reals", name := "times", desc := "(DD)D" } : Jvm.MethodName)) ∈ lw_tbl := lw_at lw_m2 225 rfl
theorem q510 : (Jvm.Cond.instanceMethod ({ cls := "FloatClasses$Reals", name := "times", desc := "(DD)D" } : Jvm.MethodName)) ∈ lw_all := lw_g (lw_at lw_m2 227 rfl) rfl
theorem q511 : (Jvm.Cond.publicMethod ({ cls := "FloatClasses$Reals", name := "times", desc := "(DD)D" } : Jvm.MethodName)) ∈ lw_tbl := lw_at lw_m2 228 rfl
theorem q512 : (Jvm.Cond.code ({ cls := "FloatClasses$Reals", name := "times", desc := "(DD)D" } : Jvm.MethodName) prog_8_method_10_code (5 : Nat) (Option.some Jvm.ClassFile.FieldType.double)) ∈ lw_all := lw_g (lw_at lw_m2 229 rfl) rfl
theorem q514 : (Jvm.Cond.interfaceEntry "FloatClasses$Reals" (59 : Nat)) ∈ lw_tbl := lw_at lw_m2 231 rfl
theorem q515 : (Jvm.Cond.methodLink "FloatClasses$Reals" (59 : Nat) ({ cls := "FloatClasses$Reals", name := "rest", desc := "(DD)D" } : Jvm.MethodName)) ∈ lw_all := lw_g (lw_at lw_m2 232 rfl) rfl
theorem q516 : (Jvm.Cond.interfaceMethod "FloatClasses$Reals" "FloatClasses$Reals" "rest" "(DD)D") ∈ lw_tbl := lw_at lw_m2 233 rfl
theorem q517 : (Jvm.Cond.declares ({ cls := "FloatClasses$Reals", name := "rest", desc := "(DD)D" } : Jvm.MethodName)) ∈ lw_tbl := lw_at lw_m2 234 rfl
theorem q519 : (Jvm.Cond.instanceMethod ({ cls := "FloatClasses$Reals", name := "rest", desc := "(DD)D" } : Jvm.MethodName)) ∈ lw_all := lw_g (lw_at lw_m2 236 rfl) rfl
theorem q520 : (Jvm.Cond.publicMethod ({ cls := "FloatClasses$Reals", name := "rest", desc := "(DD)D" } : Jvm.MethodName)) ∈ lw_tbl := lw_at lw_m2 237 rfl
theorem q521 : (Jvm.Cond.code ({ cls := "FloatClasses$Reals", name := "rest", desc := "(DD)D" } : Jvm.MethodName) prog_8_method_13_code (5 : Nat) (Option.some Jvm.ClassFile.FieldType.double)) ∈ lw_all := lw_g (lw_at lw_m2 238 rfl) rfl
theorem q530 : (Jvm.Cond.interfaceMethod "FloatClasses$Reals" "FloatClasses$Reals" "joined" "(DDD)D") ∈ lw_tbl := lw_at lw_m3 7 rfl
theorem q531 : (Jvm.Cond.declares ({ cls := "FloatClasses$Reals", name := "joined", desc := "(DDD)D" } : Jvm.MethodName)) ∈ lw_tbl := lw_at lw_m3 8 rfl
theorem q533 : (Jvm.Cond.instanceMethod ({ cls := "FloatClasses$Reals", name := "joined", desc := "(DDD)D" } : Jvm.MethodName)) ∈ lw_all := lw_g (lw_at lw_m3 10 rfl) rfl
theorem q534 : (Jvm.Cond.publicMethod ({ cls := "FloatClasses$Reals", name := "joined", desc := "(DDD)D" } : Jvm.MethodName)) ∈ lw_tbl := lw_at lw_m3 11 rfl
theorem q535 : (Jvm.Cond.code ({ cls := "FloatClasses$Reals", name := "joined", desc := "(DDD)D" } : Jvm.MethodName) prog_8_method_14_code (9 : Nat) (Option.some Jvm.ClassFile.FieldType.double)) ∈ lw_all := lw_g (lw_at lw_m3 12 rfl) rfl
theorem q536 : (Jvm.Cond.methodLinkNest "FloatClasses$Reals" (21 : Nat) ({ cls := "FloatClasses", name := "together", desc := "(LFloatClasses$Reals;DDD)D" } : Jvm.MethodName) "FloatClasses") ∈ lw_tbl := lw_at lw_m3 13 rfl
theorem q560 : (Jvm.Cond.interfaceMethod "FloatClasses$Reals" "FloatClasses$Reals" "power" "(DI)D") ∈ lw_tbl := lw_at lw_m3 37 rfl
theorem q561 : (Jvm.Cond.declares ({ cls := "FloatClasses$Reals", name := "power", desc := "(DI)D" } : Jvm.MethodName)) ∈ lw_tbl := lw_at lw_m3 38 rfl
theorem q563 : (Jvm.Cond.instanceMethod ({ cls := "FloatClasses$Reals", name := "power", desc := "(DI)D" } : Jvm.MethodName)) ∈ lw_all := lw_g (lw_at lw_m3 40 rfl) rfl
theorem q564 : (Jvm.Cond.publicMethod ({ cls := "FloatClasses$Reals", name := "power", desc := "(DI)D" } : Jvm.MethodName)) ∈ lw_tbl := lw_at lw_m3 41 rfl
theorem q565 : (Jvm.Cond.code ({ cls := "FloatClasses$Reals", name := "power", desc := "(DI)D" } : Jvm.MethodName) prog_8_method_20_code (10 : Nat) (Option.some Jvm.ClassFile.FieldType.double)) ∈ lw_all := lw_g (lw_at lw_m3 42 rfl) rfl
theorem q566 : (Jvm.Cond.methodLink "FloatClasses$Reals" (79 : Nat) ({ cls := "java/lang/Math", name := "abs", desc := "(J)J" } : Jvm.MethodName)) ∈ lw_all := lw_g (lw_at lw_m3 43 rfl) rfl
theorem q569 : (Jvm.Cond.constantLong "FloatClasses$Reals" (82 : Nat) (2 : Int64)) ∈ lw_all := lw_g (lw_at lw_m3 46 rfl) rfl
theorem q1587 : (Jvm.Cond.initialized "FloatClasses$Reals") ∈ lw_all := lw_g (lw_at lw_m7 104 rfl) rfl
theorem q43 : (Jvm.Cond.initialized "FloatClassesLaw") ∈ lw_all := lw_g (lw_at lw_m1 0 rfl) rfl
set_option maxRecDepth 100000
theorem q71 : (Jvm.Cond.methodLink "FloatClassesLaw" (15 : Nat) ({ cls := "FloatClasses", name := "decode", desc := "(IJI)J" } : Jvm.MethodName)) ∈ lw_all := lw_g (lw_at lw_m1 28 rfl) rfl
theorem q198 : (Jvm.Cond.methodLink "FloatClassesLaw" (20 : Nat) ({ cls := "FloatClasses", name := "encode", desc := "(IJI)J" } : Jvm.MethodName)) ∈ lw_all := lw_g (lw_at lw_m1 155 rfl) rfl
theorem q299 : (Jvm.Cond.methodLink "FloatClassesLaw" (24 : Nat) ({ cls := "FloatClasses", name := "exponent", desc := "(IJ)I" } : Jvm.MethodName)) ∈ lw_all := lw_g (lw_at lw_m2 16 rfl) rfl
theorem q304 : (Jvm.Cond.methodLink "FloatClassesLaw" (29 : Nat) ({ cls := "FloatClasses", name := "scale", desc := "(IJI)J" } : Jvm.MethodName)) ∈ lw_all := lw_g (lw_at lw_m2 21 rfl) rfl
theorem q316 : (Jvm.Cond.methodLink "FloatClassesLaw" (33 : Nat) ({ cls := "FloatClasses", name := "sort", desc := "(IJ)I" } : Jvm.MethodName)) ∈ lw_all := lw_g (lw_at lw_m2 33 rfl) rfl
theorem q343 : (Jvm.Cond.methodLink "FloatClassesLaw" (37 : Nat) ({ cls := "FloatClasses", name := "one", desc := "(IIJ)J" } : Jvm.MethodName)) ∈ lw_all := lw_g (lw_at lw_m2 60 rfl) rfl
theorem q474 : (Jvm.Cond.methodLink "FloatClassesLaw" (42 : Nat) ({ cls := "FloatClasses", name := "two", desc := "(IIJJ)J" } : Jvm.MethodName)) ∈ lw_all := lw_g (lw_at lw_m2 191 rfl) rfl
theorem q524 : (Jvm.Cond.methodLink "FloatClassesLaw" (47 : Nat) ({ cls := "FloatClasses", name := "fused", desc := "(IJJJ)J" } : Jvm.MethodName)) ∈ lw_all := lw_g (lw_at lw_m3 1 rfl) rfl
theorem q549 : (Jvm.Cond.methodLink "FloatClassesLaw" (52 : Nat) ({ cls := "FloatClasses", name := "compare", desc := "(IIJJ)I" } : Jvm.MethodName)) ∈ lw_all := lw_g (lw_at lw_m3 26 rfl) rfl
theorem q554 : (Jvm.Cond.methodLink "FloatClassesLaw" (57 : Nat) ({ cls := "FloatClasses", name := "power", desc := "(IJI)J" } : Jvm.MethodName)) ∈ lw_all := lw_g (lw_at lw_m3 31 rfl) rfl
theorem q571 : (Jvm.Cond.methodLink "FloatClassesLaw" (61 : Nat) ({ cls := "FloatClasses", name := "whole", desc := "(IJI)J" } : Jvm.MethodName)) ∈ lw_all := lw_g (lw_at lw_m3 48 rfl) rfl
theorem q614 : (Jvm.Cond.methodLink "FloatClassesLaw" (65 : Nat) ({ cls := "FloatClasses", name := "bounded", desc := "(IJII)J" } : Jvm.MethodName)) ∈ lw_all := lw_g (lw_at lw_m3 91 rfl) rfl
theorem q619 : (Jvm.Cond.methodLink "FloatClassesLaw" (70 : Nat) ({ cls := "FloatClasses", name := "fraction", desc := "(IJ)J" } : Jvm.MethodName)) ∈ lw_all := lw_g (lw_at lw_m3 96 rfl) rfl
theorem q624 : (Jvm.Cond.methodLink "FloatClassesLaw" (75 : Nat) ({ cls := "FloatClasses", name := "ratio", desc := "(IJI)J" } : Jvm.MethodName)) ∈ lw_all := lw_g (lw_at lw_m3 101 rfl) rfl
theorem q634 : (Jvm.Cond.methodLink "FloatClassesLaw" (79 : Nat) ({ cls := "FloatClasses", name := "nearest", desc := "(IJJ)J" } : Jvm.MethodName)) ∈ lw_all := lw_g (lw_at lw_m3 111 rfl) rfl
theorem q765 : (Jvm.Cond.methodLink "FloatClassesLaw" (84 : Nat) ({ cls := "FloatClasses", name := "digit", desc := "(IJI)I" } : Jvm.MethodName)) ∈ lw_all := lw_g (lw_at lw_m4 2 rfl) rfl
theorem q788 : (Jvm.Cond.methodLink "FloatClassesLaw" (89 : Nat) ({ cls := "FloatClasses", name := "count", desc := "(IJJJ)I" } : Jvm.MethodName)) ∈ lw_all := lw_g (lw_at lw_m4 25 rfl) rfl
theorem q807 : (Jvm.Cond.methodLink "FloatClassesLaw" (94 : Nat) ({ cls := "FloatClasses", name := "counted", desc := "(IJJJI)J" } : Jvm.MethodName)) ∈ lw_all := lw_g (lw_at lw_m4 44 rfl) rfl
theorem q812 : (Jvm.Cond.methodLink "FloatClassesLaw" (99 : Nat) ({ cls := "FloatClasses", name := "text", desc := "(J)I" } : Jvm.MethodName)) ∈ lw_all := lw_g (lw_at lw_m4 49 rfl) rfl
theorem q819 : (Jvm.Cond.methodLink "FloatClassesLaw" (104 : Nat) ({ cls := "FloatClasses", name := "read", desc := "(I)J" } : Jvm.MethodName)) ∈ lw_all := lw_g (lw_at lw_m4 56 rfl) rfl
theorem q892 : (Jvm.Cond.classLink "FloatClassesLaw" (7 : Nat) "FloatClasses") ∈ lw_all := lw_g (lw_at lw_m4 129 rfl) rfl
theorem q893 : (Jvm.Cond.methodLink "FloatClassesLaw" (9 : Nat) ({ cls := "FloatClasses", name := "<init>", desc := "()V" } : Jvm.MethodName)) ∈ lw_all := lw_g (lw_at lw_m4 130 rfl) rfl
theorem q996 : (Jvm.Cond.methodLink "FloatClassesLaw" (109 : Nat) ({ cls := "FloatClasses", name := "row", desc := "(III)I" } : Jvm.MethodName)) ∈ lw_all := lw_g (lw_at lw_m4 233 rfl) rfl
theorem q1022 : (Jvm.Cond.methodLink "FloatClassesLaw" (114 : Nat) ({ cls := "FloatClasses", name := "drop", desc := "(I)I" } : Jvm.MethodName)) ∈ lw_all := lw_g (lw_at lw_m5 19 rfl) rfl
theorem q1026 : (Jvm.Cond.methodLink "FloatClassesLaw" (119 : Nat) ({ cls := "FloatClasses", name := "put", desc := "(IIIJ)I" } : Jvm.MethodName)) ∈ lw_all := lw_g (lw_at lw_m5 23 rfl) rfl
theorem q1072 : (Jvm.Cond.methodLink "FloatClassesLaw" (124 : Nat) ({ cls := "FloatClasses", name := "at", desc := "(III)J" } : Jvm.MethodName)) ∈ lw_all := lw_g (lw_at lw_m5 69 rfl) rfl
theorem q1080 : (Jvm.Cond.methodLink "FloatClassesLaw" (129 : Nat) ({ cls := "FloatClasses", name := "copy", desc := "(IIIII)I" } : Jvm.MethodName)) ∈ lw_all := lw_g (lw_at lw_m5 77 rfl) rfl
theorem q1102 : (Jvm.Cond.methodLink "FloatClassesLaw" (134 : Nat) ({ cls := "FloatClasses", name := "of", desc := "(II)I" } : Jvm.MethodName)) ∈ lw_all := lw_g (lw_at lw_m5 99 rfl) rfl
theorem q1112 : (Jvm.Cond.methodLink "FloatClassesLaw" (139 : Nat) ({ cls := "FloatClasses", name := "all", desc := "(III)J" } : Jvm.MethodName)) ∈ lw_all := lw_g (lw_at lw_m5 109 rfl) rfl
theorem q1123 : (Jvm.Cond.methodLink "FloatClassesLaw" (143 : Nat) ({ cls := "FloatClasses", name := "joined", desc := "(III)J" } : Jvm.MethodName)) ∈ lw_all := lw_g (lw_at lw_m5 120 rfl) rfl
theorem q1132 : (Jvm.Cond.methodLink "FloatClassesLaw" (147 : Nat) ({ cls := "FloatClasses", name := "failed", desc := "()I" } : Jvm.MethodName)) ∈ lw_all := lw_g (lw_at lw_m5 129 rfl) rfl
theorem q1136 : (Jvm.Cond.methodLink "FloatClassesLaw" (152 : Nat) ({ cls := "FloatClasses", name := "told", desc := "(I)I" } : Jvm.MethodName)) ∈ lw_all := lw_g (lw_at lw_m5 133 rfl) rfl
theorem q1141 : (Jvm.Cond.classLink "FloatClassesLaw" (10 : Nat) "FloatClassesModel") ∈ lw_all := lw_g (lw_at lw_m5 138 rfl) rfl
theorem q1143 : (Jvm.Cond.methodLink "FloatClassesLaw" (12 : Nat) ({ cls := "FloatClassesModel", name := "<init>", desc := "()V" } : Jvm.MethodName)) ∈ lw_all := lw_g (lw_at lw_m5 140 rfl) rfl
theorem q1209 : (Jvm.Cond.methodLink "FloatClassesLaw" (151 : Nat) ({ cls := "FloatClassesModel", name := "failed", desc := "()I" } : Jvm.MethodName)) ∈ lw_all := lw_g (lw_at lw_m5 206 rfl) rfl
theorem q1213 : (Jvm.Cond.methodLink "FloatClassesLaw" (155 : Nat) ({ cls := "FloatClassesModel", name := "told", desc := "(I)I" } : Jvm.MethodName)) ∈ lw_all := lw_g (lw_at lw_m5 210 rfl) rfl
theorem q1225 : (Jvm.Cond.methodLink "FloatClassesLaw" (19 : Nat) ({ cls := "FloatClassesModel", name := "decode", desc := "(IJI)J" } : Jvm.MethodName)) ∈ lw_all := lw_g (lw_at lw_m5 222 rfl) rfl
theorem q1251 : (Jvm.Cond.methodLink "FloatClassesLaw" (23 : Nat) ({ cls := "FloatClassesModel", name := "encode", desc := "(IJI)J" } : Jvm.MethodName)) ∈ lw_all := lw_g (lw_at lw_m6 8 rfl) rfl
theorem q1305 : (Jvm.Cond.methodLink "FloatClassesLaw" (28 : Nat) ({ cls := "FloatClassesModel", name := "exponent", desc := "(IJ)I" } : Jvm.MethodName)) ∈ lw_all := lw_g (lw_at lw_m6 62 rfl) rfl
theorem q1309 : (Jvm.Cond.methodLink "FloatClassesLaw" (32 : Nat) ({ cls := "FloatClassesModel", name := "scale", desc := "(IJI)J" } : Jvm.MethodName)) ∈ lw_all := lw_g (lw_at lw_m6 66 rfl) rfl
theorem q1322 : (Jvm.Cond.methodLink "FloatClassesLaw" (36 : Nat) ({ cls := "FloatClassesModel", name := "sort", desc := "(IJ)I" } : Jvm.MethodName)) ∈ lw_all := lw_g (lw_at lw_m6 79 rfl) rfl
theorem q1326 : (Jvm.Cond.methodLink "FloatClassesLaw" (41 : Nat) ({ cls := "FloatClassesModel", name := "one", desc := "(IIJ)J" } : Jvm.MethodName)) ∈ lw_all := lw_g (lw_at lw_m6 83 rfl) rfl
theorem q1394 : (Jvm.Cond.methodLink "FloatClassesLaw" (46 : Nat) ({ cls := "FloatClassesModel", name := "two", desc := "(IIJJ)J" } : Jvm.MethodName)) ∈ lw_all := lw_g (lw_at lw_m6 151 rfl) rfl
theorem q1430 : (Jvm.Cond.methodLink "FloatClassesLaw" (51 : Nat) ({ cls := "FloatClassesModel", name := "fused", desc := "(IJJJ)J" } : Jvm.MethodName)) ∈ lw_all := lw_g (lw_at lw_m6 187 rfl) rfl
theorem q1452 : (Jvm.Cond.methodLink "FloatClassesLaw" (56 : Nat) ({ cls := "FloatClassesModel", name := "compare", desc := "(IIJJ)I" } : Jvm.MethodName)) ∈ lw_all := lw_g (lw_at lw_m6 209 rfl) rfl
theorem q1456 : (Jvm.Cond.methodLink "FloatClassesLaw" (60 : Nat) ({ cls := "FloatClassesModel", name := "power", desc := "(IJI)J" } : Jvm.MethodName)) ∈ lw_all := lw_g (lw_at lw_m6 213 rfl) rfl
theorem q1463 : (Jvm.Cond.methodLink "FloatClassesLaw" (64 : Nat) ({ cls := "FloatClassesModel", name := "whole", desc := "(IJI)J" } : Jvm.MethodName)) ∈ lw_all := lw_g (lw_at lw_m6 220 rfl) rfl
theorem q1478 : (Jvm.Cond.methodLink "FloatClassesLaw" (69 : Nat) ({ cls := "FloatClassesModel", name := "bounded", desc := "(IJII)J" } : Jvm.MethodName)) ∈ lw_all := lw_g (lw_at lw_m6 235 rfl) rfl
theorem q1482 : (Jvm.Cond.methodLink "FloatClassesLaw" (74 : Nat) ({ cls := "FloatClassesModel", name := "fraction", desc := "(IJ)J" } : Jvm.MethodName)) ∈ lw_all := lw_g (lw_at lw_m6 239 rfl) rfl
theorem q1486 : (Jvm.Cond.methodLink "FloatClassesLaw" (78 : Nat) ({ cls := "FloatClassesModel", name := "ratio", desc := "(IJI)J" } : Jvm.MethodName)) ∈ lw_all := lw_g (lw_at lw_m7 3 rfl) rfl
theorem q1490 : (Jvm.Cond.methodLink "FloatClassesLaw" (83 : Nat) ({ cls := "FloatClassesModel", name := "nearest", desc := "(IJJ)J" } : Jvm.MethodName)) ∈ lw_all := lw_g (lw_at lw_m7 7 rfl) rfl
theorem q1494 : (Jvm.Cond.methodLink "FloatClassesLaw" (88 : Nat) ({ cls := "FloatClassesModel", name := "digit", desc := "(IJI)I" } : Jvm.MethodName)) ∈ lw_all := lw_g (lw_at lw_m7 11 rfl) rfl
theorem q1498 : (Jvm.Cond.methodLink "FloatClassesLaw" (93 : Nat) ({ cls := "FloatClassesModel", name := "count", desc := "(IJJJ)I" } : Jvm.MethodName)) ∈ lw_all := lw_g (lw_at lw_m7 15 rfl) rfl
theorem q1515 : (Jvm.Cond.methodLink "FloatClassesLaw" (98 : Nat) ({ cls := "FloatClassesModel", name := "counted", desc := "(IJJJI)J" } : Jvm.MethodName)) ∈ lw_all := lw_g (lw_at lw_m7 32 rfl) rfl
theorem q1519 : (Jvm.Cond.methodLink "FloatClassesLaw" (103 : Nat) ({ cls := "FloatClassesModel", name := "text", desc := "(J)I" } : Jvm.MethodName)) ∈ lw_all := lw_g (lw_at lw_m7 36 rfl) rfl
theorem q1523 : (Jvm.Cond.methodLink "FloatClassesLaw" (108 : Nat) ({ cls := "FloatClassesModel", name := "read", desc := "(I)J" } : Jvm.MethodName)) ∈ lw_all := lw_g (lw_at lw_m7 40 rfl) rfl
theorem q1545 : (Jvm.Cond.methodLink "FloatClassesLaw" (113 : Nat) ({ cls := "FloatClassesModel", name := "row", desc := "(III)I" } : Jvm.MethodName)) ∈ lw_all := lw_g (lw_at lw_m7 62 rfl) rfl
theorem q1552 : (Jvm.Cond.methodLink "FloatClassesLaw" (118 : Nat) ({ cls := "FloatClassesModel", name := "drop", desc := "(I)I" } : Jvm.MethodName)) ∈ lw_all := lw_g (lw_at lw_m7 69 rfl) rfl
theorem q1556 : (Jvm.Cond.methodLink "FloatClassesLaw" (123 : Nat) ({ cls := "FloatClassesModel", name := "put", desc := "(IIIJ)I" } : Jvm.MethodName)) ∈ lw_all := lw_g (lw_at lw_m7 73 rfl) rfl
theorem q1564 : (Jvm.Cond.methodLink "FloatClassesLaw" (128 : Nat) ({ cls := "FloatClassesModel", name := "at", desc := "(III)J" } : Jvm.MethodName)) ∈ lw_all := lw_g (lw_at lw_m7 81 rfl) rfl
theorem q1568 : (Jvm.Cond.methodLink "FloatClassesLaw" (133 : Nat) ({ cls := "FloatClassesModel", name := "copy", desc := "(IIIII)I" } : Jvm.MethodName)) ∈ lw_all := lw_g (lw_at lw_m7 85 rfl) rfl
theorem q1572 : (Jvm.Cond.methodLink "FloatClassesLaw" (138 : Nat) ({ cls := "FloatClassesModel", name := "of", desc := "(II)I" } : Jvm.MethodName)) ∈ lw_all := lw_g (lw_at lw_m7 89 rfl) rfl
theorem q1576 : (Jvm.Cond.methodLink "FloatClassesLaw" (142 : Nat) ({ cls := "FloatClassesModel", name := "all", desc := "(III)J" } : Jvm.MethodName)) ∈ lw_all := lw_g (lw_at lw_m7 93 rfl) rfl
theorem q1580 : (Jvm.Cond.methodLink "FloatClassesLaw" (146 : Nat) ({ cls := "FloatClassesModel", name := "joined", desc := "(III)J" } : Jvm.MethodName)) ∈ lw_all := lw_g (lw_at lw_m7 97 rfl) rfl
theorem q1584 : (Jvm.Cond.constantLong "FloatClassesLaw" (13 : Nat) (4294967295 : Int64)) ∈ lw_all := lw_g (lw_at lw_m7 101 rfl) rfl
