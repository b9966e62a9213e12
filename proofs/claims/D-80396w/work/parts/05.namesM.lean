/-! FloatClassesModel -/
set_option maxRecDepth 100000
def RX6 : String := "FloatClassesModel"
def TX6 : u_T := fun k => match k with
  | 0 => ("FloatClassesModel", "failed", "I", false)
  | 1 => ("FloatClassesModel", "counts", "[I", true)
  | 2 => ("FloatClassesModel", "text", "[I", true)
  | 3 => ("FloatClassesModel", "size", "I", false)
  | 4 => ("FloatClassesModel", "rows", "[J", true)
  | 5 => ("FloatClassesModel", "rowKind", "[I", true)
  | 6 => ("FloatClassesModel", "rowSize", "[I", true)
  | 7 => ("FloatClassesModel", "negative", "Z", false)
  | 8 => ("FloatClassesModel", "nan", "Z", false)
  | 9 => ("FloatClassesModel", "infinite", "Z", false)
  | 10 => ("FloatClassesModel", "m", "J", false)
  | 11 => ("FloatClassesModel", "n", "I", false)
  | 12 => ("FloatClassesModel", "num", "[J", true)
  | 13 => ("FloatClassesModel", "den", "[J", true)
  | 14 => ("FloatClassesModel", "work", "[J", true)
  | 15 => ("FloatClassesModel", "root", "[J", true)
  | 16 => ("FloatClassesModel", "at", "I", false)
  | 17 => ("FloatClassesModel", "end", "I", false)
  | 18 => ("FloatClassesModel", "fault", "I", false)
  | _ => ("FloatClassesModel", "digits", "I", false)
def tyX6 : Nat → FieldType := fun k => match k with
  | 0 => .int
  | 1 => .array .int
  | 2 => .array .int
  | 3 => .int
  | 4 => .array .long
  | 5 => .array .int
  | 6 => .array .int
  | 7 => .boolean
  | 8 => .boolean
  | 9 => .boolean
  | 10 => .long
  | 11 => .int
  | 12 => .array .long
  | 13 => .array .long
  | 14 => .array .long
  | 15 => .array .long
  | 16 => .int
  | 17 => .int
  | 18 => .int
  | _ => .int
abbrev wsX60 : List Cond := u_ws RX6 TX6 20
set_option maxRecDepth 100000 in
theorem nmX6 : ∀ a, a < 20 → ∀ b, b < 20 → a ≠ b → (TX6 a).2.1 ≠ (TX6 b).2.1 := by decide +kernel
set_option maxRecDepth 100000 in
theorem tyX6_ok : ∀ k, k < 20 → parseFieldDescriptor (TX6 k).2.2.1 = some (tyX6 k) := by decide +kernel
abbrev cX6_init : ByteArray := prog_10_method_1_code
def yX6_init : MethodName := ⟨RX6, "<init>", "()V"⟩
def dkwX6_init_4 : List UInt8 := [181, 0, 29, 42, 17, 0, 170, 188, 11, 181, 0, 32, 42, 17, 0, 170, 188, 11, 181, 0, 35, 177]
abbrev dktX6_init_4 : List UInt8 := dkwX6_init_4 ++ []
def dkwX6_init_3 : List UInt8 := [16, 8, 188, 10, 181, 0, 23, 42, 17, 0, 170, 188, 11, 181, 0, 26, 42, 17, 0, 170, 188, 11]
abbrev dktX6_init_3 : List UInt8 := dkwX6_init_3 ++ dktX6_init_4
def dkwX6_init_2 : List UInt8 := [2, 79, 89, 7, 2, 79, 89, 8, 2, 79, 89, 16, 6, 2, 79, 89, 16, 7, 2, 79, 181, 0, 20, 42]
abbrev dktX6_init_2 : List UInt8 := dkwX6_init_2 ++ dktX6_init_3
def dkwX6_init_1 : List UInt8 := [188, 11, 181, 0, 16, 42, 16, 8, 188, 10, 89, 3, 2, 79, 89, 4, 2, 79, 89, 5, 2, 79, 89, 6]
abbrev dktX6_init_1 : List UInt8 := dkwX6_init_1 ++ dktX6_init_2
def dkwX6_init_0 : List UInt8 := [42, 183, 0, 1, 42, 16, 10, 188, 10, 181, 0, 7, 42, 16, 60, 188, 10, 181, 0, 13, 42, 17, 1, 64]
abbrev dktX6_init_0 : List UInt8 := dkwX6_init_0 ++ dktX6_init_1
theorem dksX6_init_0 : cX6_init.data.toList.drop 0 = dktX6_init_0 := by decide +kernel
theorem dksX6_init_1 : cX6_init.data.toList.drop 24 = dktX6_init_1 := dk_seg dksX6_init_0 24 rfl rfl
theorem dksX6_init_2 : cX6_init.data.toList.drop 48 = dktX6_init_2 := dk_seg dksX6_init_1 24 rfl rfl
theorem dksX6_init_3 : cX6_init.data.toList.drop 72 = dktX6_init_3 := dk_seg dksX6_init_2 24 rfl rfl
theorem dksX6_init_4 : cX6_init.data.toList.drop 94 = dktX6_init_4 := dk_seg dksX6_init_3 22 rfl rfl
theorem dX6_init_0 : decode cX6_init 0 = .ok (.aload_n 0, 1) := dk_42 (dk_at dksX6_init_0 0 rfl rfl)
theorem dX6_init_1 : decode cX6_init 1 = .ok (.invokespecial 1, 3) := dk_183 0 1 (dk_at dksX6_init_0 1 rfl rfl)
theorem dX6_init_4 : decode cX6_init 4 = .ok (.aload_n 0, 1) := dk_42 (dk_at dksX6_init_0 4 rfl rfl)
theorem dX6_init_5 : decode cX6_init 5 = .ok (.bipush 10, 2) := dk_16 10 (dk_at dksX6_init_0 5 rfl rfl)
theorem dX6_init_7 : decode cX6_init 7 = .ok (.newarray .int, 2) := dk_188_10 (dk_at dksX6_init_0 7 rfl rfl)
theorem dX6_init_9 : decode cX6_init 9 = .ok (.putfield 7, 3) := dk_181 0 7 (dk_at dksX6_init_0 9 rfl rfl)
theorem dX6_init_12 : decode cX6_init 12 = .ok (.aload_n 0, 1) := dk_42 (dk_at dksX6_init_0 12 rfl rfl)
theorem dX6_init_13 : decode cX6_init 13 = .ok (.bipush 60, 2) := dk_16 60 (dk_at dksX6_init_0 13 rfl rfl)
theorem dX6_init_15 : decode cX6_init 15 = .ok (.newarray .int, 2) := dk_188_10 (dk_at dksX6_init_0 15 rfl rfl)
theorem dX6_init_17 : decode cX6_init 17 = .ok (.putfield 13, 3) := dk_181 0 13 (dk_at dksX6_init_0 17 rfl rfl)
theorem dX6_init_20 : decode cX6_init 20 = .ok (.aload_n 0, 1) := dk_42 (dk_at dksX6_init_0 20 rfl rfl)
theorem dX6_init_21 : decode cX6_init 21 = .ok (.sipush 320, 3) := dk_17 1 64 (dk_at dksX6_init_0 21 rfl rfl)
theorem dX6_init_24 : decode cX6_init 24 = .ok (.newarray .long, 2) := dk_188_11 (dk_at dksX6_init_1 0 rfl rfl)
theorem dX6_init_26 : decode cX6_init 26 = .ok (.putfield 16, 3) := dk_181 0 16 (dk_at dksX6_init_1 2 rfl rfl)
theorem dX6_init_29 : decode cX6_init 29 = .ok (.aload_n 0, 1) := dk_42 (dk_at dksX6_init_1 5 rfl rfl)
theorem dX6_init_30 : decode cX6_init 30 = .ok (.bipush 8, 2) := dk_16 8 (dk_at dksX6_init_1 6 rfl rfl)
theorem dX6_init_32 : decode cX6_init 32 = .ok (.newarray .int, 2) := dk_188_10 (dk_at dksX6_init_1 8 rfl rfl)
theorem dX6_init_34 : decode cX6_init 34 = .ok (.dup, 1) := dk_89 (dk_at dksX6_init_1 10 rfl rfl)
theorem dX6_init_35 : decode cX6_init 35 = .ok (.iconst 0, 1) := dk_3 (dk_at dksX6_init_1 11 rfl rfl)
theorem dX6_init_36 : decode cX6_init 36 = .ok (.iconst (-1), 1) := dk_2 (dk_at dksX6_init_1 12 rfl rfl)
theorem dX6_init_37 : decode cX6_init 37 = .ok (.iastore, 1) := dk_79 (dk_at dksX6_init_1 13 rfl rfl)
theorem dX6_init_38 : decode cX6_init 38 = .ok (.dup, 1) := dk_89 (dk_at dksX6_init_1 14 rfl rfl)
theorem dX6_init_39 : decode cX6_init 39 = .ok (.iconst 1, 1) := dk_4 (dk_at dksX6_init_1 15 rfl rfl)
theorem dX6_init_40 : decode cX6_init 40 = .ok (.iconst (-1), 1) := dk_2 (dk_at dksX6_init_1 16 rfl rfl)
theorem dX6_init_41 : decode cX6_init 41 = .ok (.iastore, 1) := dk_79 (dk_at dksX6_init_1 17 rfl rfl)
theorem dX6_init_42 : decode cX6_init 42 = .ok (.dup, 1) := dk_89 (dk_at dksX6_init_1 18 rfl rfl)
theorem dX6_init_43 : decode cX6_init 43 = .ok (.iconst 2, 1) := dk_5 (dk_at dksX6_init_1 19 rfl rfl)
theorem dX6_init_44 : decode cX6_init 44 = .ok (.iconst (-1), 1) := dk_2 (dk_at dksX6_init_1 20 rfl rfl)
theorem dX6_init_45 : decode cX6_init 45 = .ok (.iastore, 1) := dk_79 (dk_at dksX6_init_1 21 rfl rfl)
theorem dX6_init_46 : decode cX6_init 46 = .ok (.dup, 1) := dk_89 (dk_at dksX6_init_1 22 rfl rfl)
theorem dX6_init_47 : decode cX6_init 47 = .ok (.iconst 3, 1) := dk_6 (dk_at dksX6_init_1 23 rfl rfl)
theorem dX6_init_48 : decode cX6_init 48 = .ok (.iconst (-1), 1) := dk_2 (dk_at dksX6_init_2 0 rfl rfl)
theorem dX6_init_49 : decode cX6_init 49 = .ok (.iastore, 1) := dk_79 (dk_at dksX6_init_2 1 rfl rfl)
theorem dX6_init_50 : decode cX6_init 50 = .ok (.dup, 1) := dk_89 (dk_at dksX6_init_2 2 rfl rfl)
theorem dX6_init_51 : decode cX6_init 51 = .ok (.iconst 4, 1) := dk_7 (dk_at dksX6_init_2 3 rfl rfl)
theorem dX6_init_52 : decode cX6_init 52 = .ok (.iconst (-1), 1) := dk_2 (dk_at dksX6_init_2 4 rfl rfl)
theorem dX6_init_53 : decode cX6_init 53 = .ok (.iastore, 1) := dk_79 (dk_at dksX6_init_2 5 rfl rfl)
theorem dX6_init_54 : decode cX6_init 54 = .ok (.dup, 1) := dk_89 (dk_at dksX6_init_2 6 rfl rfl)
theorem dX6_init_55 : decode cX6_init 55 = .ok (.iconst 5, 1) := dk_8 (dk_at dksX6_init_2 7 rfl rfl)
theorem dX6_init_56 : decode cX6_init 56 = .ok (.iconst (-1), 1) := dk_2 (dk_at dksX6_init_2 8 rfl rfl)
theorem dX6_init_57 : decode cX6_init 57 = .ok (.iastore, 1) := dk_79 (dk_at dksX6_init_2 9 rfl rfl)
theorem dX6_init_58 : decode cX6_init 58 = .ok (.dup, 1) := dk_89 (dk_at dksX6_init_2 10 rfl rfl)
theorem dX6_init_59 : decode cX6_init 59 = .ok (.bipush 6, 2) := dk_16 6 (dk_at dksX6_init_2 11 rfl rfl)
theorem dX6_init_61 : decode cX6_init 61 = .ok (.iconst (-1), 1) := dk_2 (dk_at dksX6_init_2 13 rfl rfl)
theorem dX6_init_62 : decode cX6_init 62 = .ok (.iastore, 1) := dk_79 (dk_at dksX6_init_2 14 rfl rfl)
theorem dX6_init_63 : decode cX6_init 63 = .ok (.dup, 1) := dk_89 (dk_at dksX6_init_2 15 rfl rfl)
theorem dX6_init_64 : decode cX6_init 64 = .ok (.bipush 7, 2) := dk_16 7 (dk_at dksX6_init_2 16 rfl rfl)
theorem dX6_init_66 : decode cX6_init 66 = .ok (.iconst (-1), 1) := dk_2 (dk_at dksX6_init_2 18 rfl rfl)
theorem dX6_init_67 : decode cX6_init 67 = .ok (.iastore, 1) := dk_79 (dk_at dksX6_init_2 19 rfl rfl)
theorem dX6_init_68 : decode cX6_init 68 = .ok (.putfield 20, 3) := dk_181 0 20 (dk_at dksX6_init_2 20 rfl rfl)
theorem dX6_init_71 : decode cX6_init 71 = .ok (.aload_n 0, 1) := dk_42 (dk_at dksX6_init_2 23 rfl rfl)
theorem dX6_init_72 : decode cX6_init 72 = .ok (.bipush 8, 2) := dk_16 8 (dk_at dksX6_init_3 0 rfl rfl)
theorem dX6_init_74 : decode cX6_init 74 = .ok (.newarray .int, 2) := dk_188_10 (dk_at dksX6_init_3 2 rfl rfl)
theorem dX6_init_76 : decode cX6_init 76 = .ok (.putfield 23, 3) := dk_181 0 23 (dk_at dksX6_init_3 4 rfl rfl)
theorem dX6_init_79 : decode cX6_init 79 = .ok (.aload_n 0, 1) := dk_42 (dk_at dksX6_init_3 7 rfl rfl)
theorem dX6_init_80 : decode cX6_init 80 = .ok (.sipush 170, 3) := dk_17 0 170 (dk_at dksX6_init_3 8 rfl rfl)
theorem dX6_init_83 : decode cX6_init 83 = .ok (.newarray .long, 2) := dk_188_11 (dk_at dksX6_init_3 11 rfl rfl)
theorem dX6_init_85 : decode cX6_init 85 = .ok (.putfield 26, 3) := dk_181 0 26 (dk_at dksX6_init_3 13 rfl rfl)
theorem dX6_init_88 : decode cX6_init 88 = .ok (.aload_n 0, 1) := dk_42 (dk_at dksX6_init_3 16 rfl rfl)
theorem dX6_init_89 : decode cX6_init 89 = .ok (.sipush 170, 3) := dk_17 0 170 (dk_at dksX6_init_3 17 rfl rfl)
theorem dX6_init_92 : decode cX6_init 92 = .ok (.newarray .long, 2) := dk_188_11 (dk_at dksX6_init_3 20 rfl rfl)
theorem dX6_init_94 : decode cX6_init 94 = .ok (.putfield 29, 3) := dk_181 0 29 (dk_at dksX6_init_4 0 rfl rfl)
theorem dX6_init_97 : decode cX6_init 97 = .ok (.aload_n 0, 1) := dk_42 (dk_at dksX6_init_4 3 rfl rfl)
theorem dX6_init_98 : decode cX6_init 98 = .ok (.sipush 170, 3) := dk_17 0 170 (dk_at dksX6_init_4 4 rfl rfl)
theorem dX6_init_101 : decode cX6_init 101 = .ok (.newarray .long, 2) := dk_188_11 (dk_at dksX6_init_4 7 rfl rfl)
theorem dX6_init_103 : decode cX6_init 103 = .ok (.putfield 32, 3) := dk_181 0 32 (dk_at dksX6_init_4 9 rfl rfl)
theorem dX6_init_106 : decode cX6_init 106 = .ok (.aload_n 0, 1) := dk_42 (dk_at dksX6_init_4 12 rfl rfl)
theorem dX6_init_107 : decode cX6_init 107 = .ok (.sipush 170, 3) := dk_17 0 170 (dk_at dksX6_init_4 13 rfl rfl)
theorem dX6_init_110 : decode cX6_init 110 = .ok (.newarray .long, 2) := dk_188_11 (dk_at dksX6_init_4 16 rfl rfl)
theorem dX6_init_112 : decode cX6_init 112 = .ok (.putfield 35, 3) := dk_181 0 35 (dk_at dksX6_init_4 18 rfl rfl)
theorem dX6_init_115 : decode cX6_init 115 = .ok (.return_, 1) := dk_177 (dk_at dksX6_init_4 21 rfl rfl)
abbrev cX6_failed : ByteArray := prog_10_method_5_code
def yX6_failed : MethodName := ⟨RX6, "failed", "()I"⟩
theorem dX6_failed_0 : decode cX6_failed 0 = .ok (.aload_n 0, 1) := by decide +kernel
theorem dX6_failed_1 : decode cX6_failed 1 = .ok (.getfield 38, 3) := by decide +kernel
theorem dX6_failed_4 : decode cX6_failed 4 = .ok (.ireturn, 1) := by decide +kernel
abbrev cX6_told : ByteArray := prog_10_method_6_code
def yX6_told : MethodName := ⟨RX6, "told", "(I)I"⟩
def dkwX6_told_1 : List UInt8 := [167, 0, 9, 42, 180, 0, 7, 27, 46, 172]
abbrev dktX6_told_1 : List UInt8 := dkwX6_told_1 ++ []
def dkwX6_told_0 : List UInt8 := [42, 182, 0, 42, 27, 4, 161, 0, 9, 27, 16, 9, 164, 0, 13, 42, 16, 9, 182, 0, 45, 136]
abbrev dktX6_told_0 : List UInt8 := dkwX6_told_0 ++ dktX6_told_1
theorem dksX6_told_0 : cX6_told.data.toList.drop 0 = dktX6_told_0 := by decide +kernel
theorem dksX6_told_1 : cX6_told.data.toList.drop 22 = dktX6_told_1 := dk_seg dksX6_told_0 22 rfl rfl
theorem dX6_told_0 : decode cX6_told 0 = .ok (.aload_n 0, 1) := dk_42 (dk_at dksX6_told_0 0 rfl rfl)
theorem dX6_told_1 : decode cX6_told 1 = .ok (.invokevirtual 42, 3) := dk_182 0 42 (dk_at dksX6_told_0 1 rfl rfl)
theorem dX6_told_4 : decode cX6_told 4 = .ok (.iload_n 1, 1) := dk_27 (dk_at dksX6_told_0 4 rfl rfl)
theorem dX6_told_5 : decode cX6_told 5 = .ok (.iconst 1, 1) := dk_4 (dk_at dksX6_told_0 5 rfl rfl)
theorem dX6_told_6 : decode cX6_told 6 = .ok (.if_icmp .lt 9, 3) := dk_161 0 9 (dk_at dksX6_told_0 6 rfl rfl)
theorem dX6_told_9 : decode cX6_told 9 = .ok (.iload_n 1, 1) := dk_27 (dk_at dksX6_told_0 9 rfl rfl)
theorem dX6_told_10 : decode cX6_told 10 = .ok (.bipush 9, 2) := dk_16 9 (dk_at dksX6_told_0 10 rfl rfl)
theorem dX6_told_12 : decode cX6_told 12 = .ok (.if_icmp .le 13, 3) := dk_164 0 13 (dk_at dksX6_told_0 12 rfl rfl)
theorem dX6_told_15 : decode cX6_told 15 = .ok (.aload_n 0, 1) := dk_42 (dk_at dksX6_told_0 15 rfl rfl)
theorem dX6_told_16 : decode cX6_told 16 = .ok (.bipush 9, 2) := dk_16 9 (dk_at dksX6_told_0 16 rfl rfl)
theorem dX6_told_18 : decode cX6_told 18 = .ok (.invokevirtual 45, 3) := dk_182 0 45 (dk_at dksX6_told_0 18 rfl rfl)
theorem dX6_told_21 : decode cX6_told 21 = .ok (.l2i, 1) := dk_136 (dk_at dksX6_told_0 21 rfl rfl)
theorem dX6_told_22 : decode cX6_told 22 = .ok (.goto 9, 3) := dk_167 0 9 (dk_at dksX6_told_1 0 rfl rfl)
theorem dX6_told_25 : decode cX6_told 25 = .ok (.aload_n 0, 1) := dk_42 (dk_at dksX6_told_1 3 rfl rfl)
theorem dX6_told_26 : decode cX6_told 26 = .ok (.getfield 7, 3) := dk_180 0 7 (dk_at dksX6_told_1 4 rfl rfl)
theorem dX6_told_29 : decode cX6_told 29 = .ok (.iload_n 1, 1) := dk_27 (dk_at dksX6_told_1 7 rfl rfl)
theorem dX6_told_30 : decode cX6_told 30 = .ok (.iaload, 1) := dk_46 (dk_at dksX6_told_1 8 rfl rfl)
theorem dX6_told_31 : decode cX6_told 31 = .ok (.ireturn, 1) := dk_172 (dk_at dksX6_told_1 9 rfl rfl)
abbrev cX6_begin : ByteArray := prog_10_method_3_code
def yX6_begin : MethodName := ⟨RX6, "begin", "()V"⟩
def dkwX6_begin_0 : List UInt8 := [42, 3, 181, 0, 38, 177]
abbrev dktX6_begin_0 : List UInt8 := dkwX6_begin_0 ++ []
theorem dksX6_begin_0 : cX6_begin.data.toList.drop 0 = dktX6_begin_0 := by decide +kernel
theorem dX6_begin_0 : decode cX6_begin 0 = .ok (.aload_n 0, 1) := dk_42 (dk_at dksX6_begin_0 0 rfl rfl)
theorem dX6_begin_1 : decode cX6_begin 1 = .ok (.iconst 0, 1) := dk_3 (dk_at dksX6_begin_0 1 rfl rfl)
theorem dX6_begin_2 : decode cX6_begin 2 = .ok (.putfield 38, 3) := dk_181 0 38 (dk_at dksX6_begin_0 2 rfl rfl)
theorem dX6_begin_5 : decode cX6_begin 5 = .ok (.return_, 1) := dk_177 (dk_at dksX6_begin_0 5 rfl rfl)
abbrev cX6_fail : ByteArray := prog_10_method_2_code
def yX6_fail : MethodName := ⟨RX6, "fail", "(I)J"⟩
def dkwX6_fail_0 : List UInt8 := [42, 27, 181, 0, 38, 42, 180, 0, 7, 27, 92, 46, 4, 96, 79, 9, 173]
abbrev dktX6_fail_0 : List UInt8 := dkwX6_fail_0 ++ []
theorem dksX6_fail_0 : cX6_fail.data.toList.drop 0 = dktX6_fail_0 := by decide +kernel
theorem dX6_fail_0 : decode cX6_fail 0 = .ok (.aload_n 0, 1) := dk_42 (dk_at dksX6_fail_0 0 rfl rfl)
theorem dX6_fail_1 : decode cX6_fail 1 = .ok (.iload_n 1, 1) := dk_27 (dk_at dksX6_fail_0 1 rfl rfl)
theorem dX6_fail_2 : decode cX6_fail 2 = .ok (.putfield 38, 3) := dk_181 0 38 (dk_at dksX6_fail_0 2 rfl rfl)
theorem dX6_fail_5 : decode cX6_fail 5 = .ok (.aload_n 0, 1) := dk_42 (dk_at dksX6_fail_0 5 rfl rfl)
theorem dX6_fail_6 : decode cX6_fail 6 = .ok (.getfield 7, 3) := dk_180 0 7 (dk_at dksX6_fail_0 6 rfl rfl)
theorem dX6_fail_9 : decode cX6_fail 9 = .ok (.iload_n 1, 1) := dk_27 (dk_at dksX6_fail_0 9 rfl rfl)
theorem dX6_fail_10 : decode cX6_fail 10 = .ok (.dup2, 1) := dk_92 (dk_at dksX6_fail_0 10 rfl rfl)
theorem dX6_fail_11 : decode cX6_fail 11 = .ok (.iaload, 1) := dk_46 (dk_at dksX6_fail_0 11 rfl rfl)
theorem dX6_fail_12 : decode cX6_fail 12 = .ok (.iconst 1, 1) := dk_4 (dk_at dksX6_fail_0 12 rfl rfl)
theorem dX6_fail_13 : decode cX6_fail 13 = .ok (.iadd, 1) := dk_96 (dk_at dksX6_fail_0 13 rfl rfl)
theorem dX6_fail_14 : decode cX6_fail 14 = .ok (.iastore, 1) := dk_79 (dk_at dksX6_fail_0 14 rfl rfl)
theorem dX6_fail_15 : decode cX6_fail 15 = .ok (.lconst 0, 1) := dk_9 (dk_at dksX6_fail_0 15 rfl rfl)
theorem dX6_fail_16 : decode cX6_fail 16 = .ok (.lreturn, 1) := dk_173 (dk_at dksX6_fail_0 16 rfl rfl)
abbrev cX6_decode : ByteArray := prog_10_method_28_code
def yX6_decode : MethodName := ⟨RX6, "decode", "(IJI)J"⟩
def dkwX6_decode_4 : List UInt8 := [180, 0, 77, 173]
abbrev dktX6_decode_4 : List UInt8 := dkwX6_decode_4 ++ []
def dkwX6_decode_3 : List UInt8 := [180, 0, 84, 133, 167, 0, 22, 42, 180, 0, 67, 153, 0, 11, 42, 180, 0, 77, 117, 167, 0, 7, 42]
abbrev dktX6_decode_3 : List UInt8 := dkwX6_decode_3 ++ dktX6_decode_4
def dkwX6_decode_2 : List UInt8 := [180, 0, 77, 9, 148, 154, 0, 5, 9, 173, 42, 27, 182, 0, 159, 21, 4, 4, 160, 0, 11, 42]
abbrev dktX6_decode_2 : List UInt8 := dkwX6_decode_2 ++ dktX6_decode_3
def dkwX6_decode_1 : List UInt8 := [16, 9, 182, 0, 45, 173, 42, 27, 32, 182, 0, 155, 154, 0, 10, 42, 16, 7, 182, 0, 45, 173, 42]
abbrev dktX6_decode_1 : List UInt8 := dkwX6_decode_1 ++ dktX6_decode_2
def dkwX6_decode_0 : List UInt8 := [42, 182, 0, 42, 27, 184, 0, 151, 153, 0, 14, 21, 4, 155, 0, 9, 21, 4, 4, 164, 0, 10, 42]
abbrev dktX6_decode_0 : List UInt8 := dkwX6_decode_0 ++ dktX6_decode_1
theorem dksX6_decode_0 : cX6_decode.data.toList.drop 0 = dktX6_decode_0 := by decide +kernel
theorem dksX6_decode_1 : cX6_decode.data.toList.drop 23 = dktX6_decode_1 := dk_seg dksX6_decode_0 23 rfl rfl
theorem dksX6_decode_2 : cX6_decode.data.toList.drop 46 = dktX6_decode_2 := dk_seg dksX6_decode_1 23 rfl rfl
theorem dksX6_decode_3 : cX6_decode.data.toList.drop 68 = dktX6_decode_3 := dk_seg dksX6_decode_2 22 rfl rfl
theorem dksX6_decode_4 : cX6_decode.data.toList.drop 91 = dktX6_decode_4 := dk_seg dksX6_decode_3 23 rfl rfl
theorem dX6_decode_0 : decode cX6_decode 0 = .ok (.aload_n 0, 1) := dk_42 (dk_at dksX6_decode_0 0 rfl rfl)
theorem dX6_decode_1 : decode cX6_decode 1 = .ok (.invokevirtual 42, 3) := dk_182 0 42 (dk_at dksX6_decode_0 1 rfl rfl)
theorem dX6_decode_4 : decode cX6_decode 4 = .ok (.iload_n 1, 1) := dk_27 (dk_at dksX6_decode_0 4 rfl rfl)
theorem dX6_decode_5 : decode cX6_decode 5 = .ok (.invokestatic 151, 3) := dk_184 0 151 (dk_at dksX6_decode_0 5 rfl rfl)
theorem dX6_decode_8 : decode cX6_decode 8 = .ok (.ifCond .eq 14, 3) := dk_153 0 14 (dk_at dksX6_decode_0 8 rfl rfl)
theorem dX6_decode_11 : decode cX6_decode 11 = .ok (.iload 4, 2) := dk_21 4 (dk_at dksX6_decode_0 11 rfl rfl)
theorem dX6_decode_13 : decode cX6_decode 13 = .ok (.ifCond .lt 9, 3) := dk_155 0 9 (dk_at dksX6_decode_0 13 rfl rfl)
theorem dX6_decode_16 : decode cX6_decode 16 = .ok (.iload 4, 2) := dk_21 4 (dk_at dksX6_decode_0 16 rfl rfl)
theorem dX6_decode_18 : decode cX6_decode 18 = .ok (.iconst 1, 1) := dk_4 (dk_at dksX6_decode_0 18 rfl rfl)
theorem dX6_decode_19 : decode cX6_decode 19 = .ok (.if_icmp .le 10, 3) := dk_164 0 10 (dk_at dksX6_decode_0 19 rfl rfl)
theorem dX6_decode_22 : decode cX6_decode 22 = .ok (.aload_n 0, 1) := dk_42 (dk_at dksX6_decode_0 22 rfl rfl)
theorem dX6_decode_23 : decode cX6_decode 23 = .ok (.bipush 9, 2) := dk_16 9 (dk_at dksX6_decode_1 0 rfl rfl)
theorem dX6_decode_25 : decode cX6_decode 25 = .ok (.invokevirtual 45, 3) := dk_182 0 45 (dk_at dksX6_decode_1 2 rfl rfl)
theorem dX6_decode_28 : decode cX6_decode 28 = .ok (.lreturn, 1) := dk_173 (dk_at dksX6_decode_1 5 rfl rfl)
theorem dX6_decode_29 : decode cX6_decode 29 = .ok (.aload_n 0, 1) := dk_42 (dk_at dksX6_decode_1 6 rfl rfl)
theorem dX6_decode_30 : decode cX6_decode 30 = .ok (.iload_n 1, 1) := dk_27 (dk_at dksX6_decode_1 7 rfl rfl)
theorem dX6_decode_31 : decode cX6_decode 31 = .ok (.lload_n 2, 1) := dk_32 (dk_at dksX6_decode_1 8 rfl rfl)
theorem dX6_decode_32 : decode cX6_decode 32 = .ok (.invokevirtual 155, 3) := dk_182 0 155 (dk_at dksX6_decode_1 9 rfl rfl)
theorem dX6_decode_35 : decode cX6_decode 35 = .ok (.ifCond .ne 10, 3) := dk_154 0 10 (dk_at dksX6_decode_1 12 rfl rfl)
theorem dX6_decode_38 : decode cX6_decode 38 = .ok (.aload_n 0, 1) := dk_42 (dk_at dksX6_decode_1 15 rfl rfl)
theorem dX6_decode_39 : decode cX6_decode 39 = .ok (.bipush 7, 2) := dk_16 7 (dk_at dksX6_decode_1 16 rfl rfl)
theorem dX6_decode_41 : decode cX6_decode 41 = .ok (.invokevirtual 45, 3) := dk_182 0 45 (dk_at dksX6_decode_1 18 rfl rfl)
theorem dX6_decode_44 : decode cX6_decode 44 = .ok (.lreturn, 1) := dk_173 (dk_at dksX6_decode_1 21 rfl rfl)
theorem dX6_decode_45 : decode cX6_decode 45 = .ok (.aload_n 0, 1) := dk_42 (dk_at dksX6_decode_1 22 rfl rfl)
theorem dX6_decode_46 : decode cX6_decode 46 = .ok (.getfield 77, 3) := dk_180 0 77 (dk_at dksX6_decode_2 0 rfl rfl)
theorem dX6_decode_49 : decode cX6_decode 49 = .ok (.lconst 0, 1) := dk_9 (dk_at dksX6_decode_2 3 rfl rfl)
theorem dX6_decode_50 : decode cX6_decode 50 = .ok (.lcmp, 1) := dk_148 (dk_at dksX6_decode_2 4 rfl rfl)
theorem dX6_decode_51 : decode cX6_decode 51 = .ok (.ifCond .ne 5, 3) := dk_154 0 5 (dk_at dksX6_decode_2 5 rfl rfl)
theorem dX6_decode_54 : decode cX6_decode 54 = .ok (.lconst 0, 1) := dk_9 (dk_at dksX6_decode_2 8 rfl rfl)
theorem dX6_decode_55 : decode cX6_decode 55 = .ok (.lreturn, 1) := dk_173 (dk_at dksX6_decode_2 9 rfl rfl)
theorem dX6_decode_56 : decode cX6_decode 56 = .ok (.aload_n 0, 1) := dk_42 (dk_at dksX6_decode_2 10 rfl rfl)
theorem dX6_decode_57 : decode cX6_decode 57 = .ok (.iload_n 1, 1) := dk_27 (dk_at dksX6_decode_2 11 rfl rfl)
theorem dX6_decode_58 : decode cX6_decode 58 = .ok (.invokevirtual 159, 3) := dk_182 0 159 (dk_at dksX6_decode_2 12 rfl rfl)
theorem dX6_decode_61 : decode cX6_decode 61 = .ok (.iload 4, 2) := dk_21 4 (dk_at dksX6_decode_2 15 rfl rfl)
theorem dX6_decode_63 : decode cX6_decode 63 = .ok (.iconst 1, 1) := dk_4 (dk_at dksX6_decode_2 17 rfl rfl)
theorem dX6_decode_64 : decode cX6_decode 64 = .ok (.if_icmp .ne 11, 3) := dk_160 0 11 (dk_at dksX6_decode_2 18 rfl rfl)
theorem dX6_decode_67 : decode cX6_decode 67 = .ok (.aload_n 0, 1) := dk_42 (dk_at dksX6_decode_2 21 rfl rfl)
theorem dX6_decode_68 : decode cX6_decode 68 = .ok (.getfield 84, 3) := dk_180 0 84 (dk_at dksX6_decode_3 0 rfl rfl)
theorem dX6_decode_71 : decode cX6_decode 71 = .ok (.i2l, 1) := dk_133 (dk_at dksX6_decode_3 3 rfl rfl)
theorem dX6_decode_72 : decode cX6_decode 72 = .ok (.goto 22, 3) := dk_167 0 22 (dk_at dksX6_decode_3 4 rfl rfl)
theorem dX6_decode_75 : decode cX6_decode 75 = .ok (.aload_n 0, 1) := dk_42 (dk_at dksX6_decode_3 7 rfl rfl)
theorem dX6_decode_76 : decode cX6_decode 76 = .ok (.getfield 67, 3) := dk_180 0 67 (dk_at dksX6_decode_3 8 rfl rfl)
theorem dX6_decode_79 : decode cX6_decode 79 = .ok (.ifCond .eq 11, 3) := dk_153 0 11 (dk_at dksX6_decode_3 11 rfl rfl)
theorem dX6_decode_82 : decode cX6_decode 82 = .ok (.aload_n 0, 1) := dk_42 (dk_at dksX6_decode_3 14 rfl rfl)
theorem dX6_decode_83 : decode cX6_decode 83 = .ok (.getfield 77, 3) := dk_180 0 77 (dk_at dksX6_decode_3 15 rfl rfl)
theorem dX6_decode_86 : decode cX6_decode 86 = .ok (.lneg, 1) := dk_117 (dk_at dksX6_decode_3 18 rfl rfl)
theorem dX6_decode_87 : decode cX6_decode 87 = .ok (.goto 7, 3) := dk_167 0 7 (dk_at dksX6_decode_3 19 rfl rfl)
theorem dX6_decode_90 : decode cX6_decode 90 = .ok (.aload_n 0, 1) := dk_42 (dk_at dksX6_decode_3 22 rfl rfl)
theorem dX6_decode_91 : decode cX6_decode 91 = .ok (.getfield 77, 3) := dk_180 0 77 (dk_at dksX6_decode_4 0 rfl rfl)
theorem dX6_decode_94 : decode cX6_decode 94 = .ok (.lreturn, 1) := dk_173 (dk_at dksX6_decode_4 3 rfl rfl)
abbrev cX6_isKind : ByteArray := prog_10_method_4_code
def yX6_isKind : MethodName := ⟨RX6, "isKind", "(I)Z"⟩
def dkwX6_isKind_0 : List UInt8 := [26, 153, 0, 8, 26, 4, 160, 0, 7, 4, 167, 0, 4, 3, 172]
abbrev dktX6_isKind_0 : List UInt8 := dkwX6_isKind_0 ++ []
theorem dksX6_isKind_0 : cX6_isKind.data.toList.drop 0 = dktX6_isKind_0 := by decide +kernel
theorem dX6_isKind_0 : decode cX6_isKind 0 = .ok (.iload_n 0, 1) := dk_26 (dk_at dksX6_isKind_0 0 rfl rfl)
theorem dX6_isKind_1 : decode cX6_isKind 1 = .ok (.ifCond .eq 8, 3) := dk_153 0 8 (dk_at dksX6_isKind_0 1 rfl rfl)
theorem dX6_isKind_4 : decode cX6_isKind 4 = .ok (.iload_n 0, 1) := dk_26 (dk_at dksX6_isKind_0 4 rfl rfl)
theorem dX6_isKind_5 : decode cX6_isKind 5 = .ok (.iconst 1, 1) := dk_4 (dk_at dksX6_isKind_0 5 rfl rfl)
theorem dX6_isKind_6 : decode cX6_isKind 6 = .ok (.if_icmp .ne 7, 3) := dk_160 0 7 (dk_at dksX6_isKind_0 6 rfl rfl)
theorem dX6_isKind_9 : decode cX6_isKind 9 = .ok (.iconst 1, 1) := dk_4 (dk_at dksX6_isKind_0 9 rfl rfl)
theorem dX6_isKind_10 : decode cX6_isKind 10 = .ok (.goto 4, 3) := dk_167 0 4 (dk_at dksX6_isKind_0 10 rfl rfl)
theorem dX6_isKind_13 : decode cX6_isKind 13 = .ok (.iconst 0, 1) := dk_3 (dk_at dksX6_isKind_0 13 rfl rfl)
theorem dX6_isKind_14 : decode cX6_isKind 14 = .ok (.ireturn, 1) := dk_172 (dk_at dksX6_isKind_0 14 rfl rfl)
abbrev cX6_isFinite : ByteArray := prog_10_method_27_code
def yX6_isFinite : MethodName := ⟨RX6, "isFinite", "(IJ)Z"⟩
def dkwX6_isFinite_1 : List UInt8 := [3, 172]
abbrev dktX6_isFinite_1 : List UInt8 := dkwX6_isFinite_1 ++ []
def dkwX6_isFinite_0 : List UInt8 := [42, 27, 32, 182, 0, 99, 42, 180, 0, 71, 154, 0, 14, 42, 180, 0, 74, 154, 0, 7, 4, 167, 0, 4]
abbrev dktX6_isFinite_0 : List UInt8 := dkwX6_isFinite_0 ++ dktX6_isFinite_1
theorem dksX6_isFinite_0 : cX6_isFinite.data.toList.drop 0 = dktX6_isFinite_0 := by decide +kernel
theorem dksX6_isFinite_1 : cX6_isFinite.data.toList.drop 24 = dktX6_isFinite_1 := dk_seg dksX6_isFinite_0 24 rfl rfl
theorem dX6_isFinite_0 : decode cX6_isFinite 0 = .ok (.aload_n 0, 1) := dk_42 (dk_at dksX6_isFinite_0 0 rfl rfl)
theorem dX6_isFinite_1 : decode cX6_isFinite 1 = .ok (.iload_n 1, 1) := dk_27 (dk_at dksX6_isFinite_0 1 rfl rfl)
theorem dX6_isFinite_2 : decode cX6_isFinite 2 = .ok (.lload_n 2, 1) := dk_32 (dk_at dksX6_isFinite_0 2 rfl rfl)
theorem dX6_isFinite_3 : decode cX6_isFinite 3 = .ok (.invokevirtual 99, 3) := dk_182 0 99 (dk_at dksX6_isFinite_0 3 rfl rfl)
theorem dX6_isFinite_6 : decode cX6_isFinite 6 = .ok (.aload_n 0, 1) := dk_42 (dk_at dksX6_isFinite_0 6 rfl rfl)
theorem dX6_isFinite_7 : decode cX6_isFinite 7 = .ok (.getfield 71, 3) := dk_180 0 71 (dk_at dksX6_isFinite_0 7 rfl rfl)
theorem dX6_isFinite_10 : decode cX6_isFinite 10 = .ok (.ifCond .ne 14, 3) := dk_154 0 14 (dk_at dksX6_isFinite_0 10 rfl rfl)
theorem dX6_isFinite_13 : decode cX6_isFinite 13 = .ok (.aload_n 0, 1) := dk_42 (dk_at dksX6_isFinite_0 13 rfl rfl)
theorem dX6_isFinite_14 : decode cX6_isFinite 14 = .ok (.getfield 74, 3) := dk_180 0 74 (dk_at dksX6_isFinite_0 14 rfl rfl)
theorem dX6_isFinite_17 : decode cX6_isFinite 17 = .ok (.ifCond .ne 7, 3) := dk_154 0 7 (dk_at dksX6_isFinite_0 17 rfl rfl)
theorem dX6_isFinite_20 : decode cX6_isFinite 20 = .ok (.iconst 1, 1) := dk_4 (dk_at dksX6_isFinite_0 20 rfl rfl)
theorem dX6_isFinite_21 : decode cX6_isFinite 21 = .ok (.goto 4, 3) := dk_167 0 4 (dk_at dksX6_isFinite_0 21 rfl rfl)
theorem dX6_isFinite_24 : decode cX6_isFinite 24 = .ok (.iconst 0, 1) := dk_3 (dk_at dksX6_isFinite_1 0 rfl rfl)
theorem dX6_isFinite_25 : decode cX6_isFinite 25 = .ok (.ireturn, 1) := dk_172 (dk_at dksX6_isFinite_1 1 rfl rfl)
abbrev cX6_take : ByteArray := prog_10_method_19_code
def yX6_take : MethodName := ⟨RX6, "take", "(IJ)V"⟩
def dkwX6_take_8 : List UInt8 := [42, 180, 0, 71, 154, 0, 7, 4, 167, 0, 4, 3, 126, 181, 0, 67, 177]
abbrev dktX6_take_8 : List UInt8 := dkwX6_take_8 ++ []
def dkwX6_take_7 : List UInt8 := [154, 0, 7, 3, 167, 0, 7, 21, 8, 4, 100, 27, 184, 0, 81, 96, 181, 0, 84, 42, 89, 180, 0, 67]
abbrev dktX6_take_7 : List UInt8 := dkwX6_take_7 ++ dktX6_take_8
def dkwX6_take_6 : List UInt8 := [21, 8, 154, 0, 8, 22, 9, 167, 0, 10, 22, 9, 10, 21, 4, 121, 129, 181, 0, 77, 42, 21, 8]
abbrev dktX6_take_6 : List UInt8 := dkwX6_take_6 ++ dktX6_take_7
def dkwX6_take_5 : List UInt8 := [21, 5, 120, 4, 100, 160, 0, 14, 22, 9, 9, 148, 154, 0, 7, 4, 167, 0, 4, 3, 181, 0, 74, 42]
abbrev dktX6_take_5 : List UInt8 := dkwX6_take_5 ++ dktX6_take_6
def dkwX6_take_4 : List UInt8 := [100, 160, 0, 14, 22, 9, 9, 148, 153, 0, 7, 4, 167, 0, 4, 3, 181, 0, 71, 42, 21, 8, 4]
abbrev dktX6_take_4 : List UInt8 := dkwX6_take_4 ++ dktX6_take_5
def dkwX6_take_3 : List UInt8 := [4, 100, 126, 54, 8, 22, 6, 10, 21, 4, 121, 10, 101, 127, 55, 9, 42, 21, 8, 4, 21, 5, 120, 4]
abbrev dktX6_take_3 : List UInt8 := dkwX6_take_3 ++ dktX6_take_4
def dkwX6_take_2 : List UInt8 := [127, 10, 148, 154, 0, 7, 4, 167, 0, 4, 3, 181, 0, 67, 22, 6, 21, 4, 125, 136, 4, 21, 5, 120]
abbrev dktX6_take_2 : List UInt8 := dkwX6_take_2 ++ dktX6_take_3
def dkwX6_take_1 : List UInt8 := [154, 0, 11, 32, 20, 0, 65, 127, 167, 0, 4, 32, 55, 6, 42, 22, 6, 21, 4, 21, 5, 96, 125, 10]
abbrev dktX6_take_1 : List UInt8 := dkwX6_take_1 ++ dktX6_take_2
def dkwX6_take_0 : List UInt8 := [27, 184, 0, 61, 4, 100, 54, 4, 27, 154, 0, 8, 16, 8, 167, 0, 5, 16, 11, 54, 5, 27]
abbrev dktX6_take_0 : List UInt8 := dkwX6_take_0 ++ dktX6_take_1
theorem dksX6_take_0 : cX6_take.data.toList.drop 0 = dktX6_take_0 := by decide +kernel
theorem dksX6_take_1 : cX6_take.data.toList.drop 22 = dktX6_take_1 := dk_seg dksX6_take_0 22 rfl rfl
theorem dksX6_take_2 : cX6_take.data.toList.drop 46 = dktX6_take_2 := dk_seg dksX6_take_1 24 rfl rfl
theorem dksX6_take_3 : cX6_take.data.toList.drop 70 = dktX6_take_3 := dk_seg dksX6_take_2 24 rfl rfl
theorem dksX6_take_4 : cX6_take.data.toList.drop 94 = dktX6_take_4 := dk_seg dksX6_take_3 24 rfl rfl
theorem dksX6_take_5 : cX6_take.data.toList.drop 117 = dktX6_take_5 := dk_seg dksX6_take_4 23 rfl rfl
theorem dksX6_take_6 : cX6_take.data.toList.drop 141 = dktX6_take_6 := dk_seg dksX6_take_5 24 rfl rfl
theorem dksX6_take_7 : cX6_take.data.toList.drop 164 = dktX6_take_7 := dk_seg dksX6_take_6 23 rfl rfl
theorem dksX6_take_8 : cX6_take.data.toList.drop 188 = dktX6_take_8 := dk_seg dksX6_take_7 24 rfl rfl
theorem dX6_take_0 : decode cX6_take 0 = .ok (.iload_n 1, 1) := dk_27 (dk_at dksX6_take_0 0 rfl rfl)
theorem dX6_take_1 : decode cX6_take 1 = .ok (.invokestatic 61, 3) := dk_184 0 61 (dk_at dksX6_take_0 1 rfl rfl)
theorem dX6_take_4 : decode cX6_take 4 = .ok (.iconst 1, 1) := dk_4 (dk_at dksX6_take_0 4 rfl rfl)
theorem dX6_take_5 : decode cX6_take 5 = .ok (.isub, 1) := dk_100 (dk_at dksX6_take_0 5 rfl rfl)
theorem dX6_take_6 : decode cX6_take 6 = .ok (.istore 4, 2) := dk_54 4 (dk_at dksX6_take_0 6 rfl rfl)
theorem dX6_take_8 : decode cX6_take 8 = .ok (.iload_n 1, 1) := dk_27 (dk_at dksX6_take_0 8 rfl rfl)
theorem dX6_take_9 : decode cX6_take 9 = .ok (.ifCond .ne 8, 3) := dk_154 0 8 (dk_at dksX6_take_0 9 rfl rfl)
theorem dX6_take_12 : decode cX6_take 12 = .ok (.bipush 8, 2) := dk_16 8 (dk_at dksX6_take_0 12 rfl rfl)
theorem dX6_take_14 : decode cX6_take 14 = .ok (.goto 5, 3) := dk_167 0 5 (dk_at dksX6_take_0 14 rfl rfl)
theorem dX6_take_17 : decode cX6_take 17 = .ok (.bipush 11, 2) := dk_16 11 (dk_at dksX6_take_0 17 rfl rfl)
theorem dX6_take_19 : decode cX6_take 19 = .ok (.istore 5, 2) := dk_54 5 (dk_at dksX6_take_0 19 rfl rfl)
theorem dX6_take_21 : decode cX6_take 21 = .ok (.iload_n 1, 1) := dk_27 (dk_at dksX6_take_0 21 rfl rfl)
theorem dX6_take_22 : decode cX6_take 22 = .ok (.ifCond .ne 11, 3) := dk_154 0 11 (dk_at dksX6_take_1 0 rfl rfl)
theorem dX6_take_25 : decode cX6_take 25 = .ok (.lload_n 2, 1) := dk_32 (dk_at dksX6_take_1 3 rfl rfl)
theorem dX6_take_26 : decode cX6_take 26 = .ok (.ldc2_w 65, 3) := dk_20 0 65 (dk_at dksX6_take_1 4 rfl rfl)
theorem dX6_take_29 : decode cX6_take 29 = .ok (.land, 1) := dk_127 (dk_at dksX6_take_1 7 rfl rfl)
theorem dX6_take_30 : decode cX6_take 30 = .ok (.goto 4, 3) := dk_167 0 4 (dk_at dksX6_take_1 8 rfl rfl)
theorem dX6_take_33 : decode cX6_take 33 = .ok (.lload_n 2, 1) := dk_32 (dk_at dksX6_take_1 11 rfl rfl)
theorem dX6_take_34 : decode cX6_take 34 = .ok (.lstore 6, 2) := dk_55 6 (dk_at dksX6_take_1 12 rfl rfl)
theorem dX6_take_36 : decode cX6_take 36 = .ok (.aload_n 0, 1) := dk_42 (dk_at dksX6_take_1 14 rfl rfl)
theorem dX6_take_37 : decode cX6_take 37 = .ok (.lload 6, 2) := dk_22 6 (dk_at dksX6_take_1 15 rfl rfl)
theorem dX6_take_39 : decode cX6_take 39 = .ok (.iload 4, 2) := dk_21 4 (dk_at dksX6_take_1 17 rfl rfl)
theorem dX6_take_41 : decode cX6_take 41 = .ok (.iload 5, 2) := dk_21 5 (dk_at dksX6_take_1 19 rfl rfl)
theorem dX6_take_43 : decode cX6_take 43 = .ok (.iadd, 1) := dk_96 (dk_at dksX6_take_1 21 rfl rfl)
theorem dX6_take_44 : decode cX6_take 44 = .ok (.lushr, 1) := dk_125 (dk_at dksX6_take_1 22 rfl rfl)
theorem dX6_take_45 : decode cX6_take 45 = .ok (.lconst 1, 1) := dk_10 (dk_at dksX6_take_1 23 rfl rfl)
theorem dX6_take_46 : decode cX6_take 46 = .ok (.land, 1) := dk_127 (dk_at dksX6_take_2 0 rfl rfl)
theorem dX6_take_47 : decode cX6_take 47 = .ok (.lconst 1, 1) := dk_10 (dk_at dksX6_take_2 1 rfl rfl)
theorem dX6_take_48 : decode cX6_take 48 = .ok (.lcmp, 1) := dk_148 (dk_at dksX6_take_2 2 rfl rfl)
theorem dX6_take_49 : decode cX6_take 49 = .ok (.ifCond .ne 7, 3) := dk_154 0 7 (dk_at dksX6_take_2 3 rfl rfl)
theorem dX6_take_52 : decode cX6_take 52 = .ok (.iconst 1, 1) := dk_4 (dk_at dksX6_take_2 6 rfl rfl)
theorem dX6_take_53 : decode cX6_take 53 = .ok (.goto 4, 3) := dk_167 0 4 (dk_at dksX6_take_2 7 rfl rfl)
theorem dX6_take_56 : decode cX6_take 56 = .ok (.iconst 0, 1) := dk_3 (dk_at dksX6_take_2 10 rfl rfl)
theorem dX6_take_57 : decode cX6_take 57 = .ok (.putfield 67, 3) := dk_181 0 67 (dk_at dksX6_take_2 11 rfl rfl)
theorem dX6_take_60 : decode cX6_take 60 = .ok (.lload 6, 2) := dk_22 6 (dk_at dksX6_take_2 14 rfl rfl)
theorem dX6_take_62 : decode cX6_take 62 = .ok (.iload 4, 2) := dk_21 4 (dk_at dksX6_take_2 16 rfl rfl)
theorem dX6_take_64 : decode cX6_take 64 = .ok (.lushr, 1) := dk_125 (dk_at dksX6_take_2 18 rfl rfl)
theorem dX6_take_65 : decode cX6_take 65 = .ok (.l2i, 1) := dk_136 (dk_at dksX6_take_2 19 rfl rfl)
theorem dX6_take_66 : decode cX6_take 66 = .ok (.iconst 1, 1) := dk_4 (dk_at dksX6_take_2 20 rfl rfl)
theorem dX6_take_67 : decode cX6_take 67 = .ok (.iload 5, 2) := dk_21 5 (dk_at dksX6_take_2 21 rfl rfl)
theorem dX6_take_69 : decode cX6_take 69 = .ok (.ishl, 1) := dk_120 (dk_at dksX6_take_2 23 rfl rfl)
theorem dX6_take_70 : decode cX6_take 70 = .ok (.iconst 1, 1) := dk_4 (dk_at dksX6_take_3 0 rfl rfl)
theorem dX6_take_71 : decode cX6_take 71 = .ok (.isub, 1) := dk_100 (dk_at dksX6_take_3 1 rfl rfl)
theorem dX6_take_72 : decode cX6_take 72 = .ok (.iand, 1) := dk_126 (dk_at dksX6_take_3 2 rfl rfl)
theorem dX6_take_73 : decode cX6_take 73 = .ok (.istore 8, 2) := dk_54 8 (dk_at dksX6_take_3 3 rfl rfl)
theorem dX6_take_75 : decode cX6_take 75 = .ok (.lload 6, 2) := dk_22 6 (dk_at dksX6_take_3 5 rfl rfl)
theorem dX6_take_77 : decode cX6_take 77 = .ok (.lconst 1, 1) := dk_10 (dk_at dksX6_take_3 7 rfl rfl)
theorem dX6_take_78 : decode cX6_take 78 = .ok (.iload 4, 2) := dk_21 4 (dk_at dksX6_take_3 8 rfl rfl)
theorem dX6_take_80 : decode cX6_take 80 = .ok (.lshl, 1) := dk_121 (dk_at dksX6_take_3 10 rfl rfl)
theorem dX6_take_81 : decode cX6_take 81 = .ok (.lconst 1, 1) := dk_10 (dk_at dksX6_take_3 11 rfl rfl)
theorem dX6_take_82 : decode cX6_take 82 = .ok (.lsub, 1) := dk_101 (dk_at dksX6_take_3 12 rfl rfl)
theorem dX6_take_83 : decode cX6_take 83 = .ok (.land, 1) := dk_127 (dk_at dksX6_take_3 13 rfl rfl)
theorem dX6_take_84 : decode cX6_take 84 = .ok (.lstore 9, 2) := dk_55 9 (dk_at dksX6_take_3 14 rfl rfl)
theorem dX6_take_86 : decode cX6_take 86 = .ok (.aload_n 0, 1) := dk_42 (dk_at dksX6_take_3 16 rfl rfl)
theorem dX6_take_87 : decode cX6_take 87 = .ok (.iload 8, 2) := dk_21 8 (dk_at dksX6_take_3 17 rfl rfl)
theorem dX6_take_89 : decode cX6_take 89 = .ok (.iconst 1, 1) := dk_4 (dk_at dksX6_take_3 19 rfl rfl)
theorem dX6_take_90 : decode cX6_take 90 = .ok (.iload 5, 2) := dk_21 5 (dk_at dksX6_take_3 20 rfl rfl)
theorem dX6_take_92 : decode cX6_take 92 = .ok (.ishl, 1) := dk_120 (dk_at dksX6_take_3 22 rfl rfl)
theorem dX6_take_93 : decode cX6_take 93 = .ok (.iconst 1, 1) := dk_4 (dk_at dksX6_take_3 23 rfl rfl)
theorem dX6_take_94 : decode cX6_take 94 = .ok (.isub, 1) := dk_100 (dk_at dksX6_take_4 0 rfl rfl)
theorem dX6_take_95 : decode cX6_take 95 = .ok (.if_icmp .ne 14, 3) := dk_160 0 14 (dk_at dksX6_take_4 1 rfl rfl)
theorem dX6_take_98 : decode cX6_take 98 = .ok (.lload 9, 2) := dk_22 9 (dk_at dksX6_take_4 4 rfl rfl)
theorem dX6_take_100 : decode cX6_take 100 = .ok (.lconst 0, 1) := dk_9 (dk_at dksX6_take_4 6 rfl rfl)
theorem dX6_take_101 : decode cX6_take 101 = .ok (.lcmp, 1) := dk_148 (dk_at dksX6_take_4 7 rfl rfl)
theorem dX6_take_102 : decode cX6_take 102 = .ok (.ifCond .eq 7, 3) := dk_153 0 7 (dk_at dksX6_take_4 8 rfl rfl)
theorem dX6_take_105 : decode cX6_take 105 = .ok (.iconst 1, 1) := dk_4 (dk_at dksX6_take_4 11 rfl rfl)
theorem dX6_take_106 : decode cX6_take 106 = .ok (.goto 4, 3) := dk_167 0 4 (dk_at dksX6_take_4 12 rfl rfl)
theorem dX6_take_109 : decode cX6_take 109 = .ok (.iconst 0, 1) := dk_3 (dk_at dksX6_take_4 15 rfl rfl)
theorem dX6_take_110 : decode cX6_take 110 = .ok (.putfield 71, 3) := dk_181 0 71 (dk_at dksX6_take_4 16 rfl rfl)
theorem dX6_take_113 : decode cX6_take 113 = .ok (.aload_n 0, 1) := dk_42 (dk_at dksX6_take_4 19 rfl rfl)
theorem dX6_take_114 : decode cX6_take 114 = .ok (.iload 8, 2) := dk_21 8 (dk_at dksX6_take_4 20 rfl rfl)
theorem dX6_take_116 : decode cX6_take 116 = .ok (.iconst 1, 1) := dk_4 (dk_at dksX6_take_4 22 rfl rfl)
theorem dX6_take_117 : decode cX6_take 117 = .ok (.iload 5, 2) := dk_21 5 (dk_at dksX6_take_5 0 rfl rfl)
theorem dX6_take_119 : decode cX6_take 119 = .ok (.ishl, 1) := dk_120 (dk_at dksX6_take_5 2 rfl rfl)
theorem dX6_take_120 : decode cX6_take 120 = .ok (.iconst 1, 1) := dk_4 (dk_at dksX6_take_5 3 rfl rfl)
theorem dX6_take_121 : decode cX6_take 121 = .ok (.isub, 1) := dk_100 (dk_at dksX6_take_5 4 rfl rfl)
theorem dX6_take_122 : decode cX6_take 122 = .ok (.if_icmp .ne 14, 3) := dk_160 0 14 (dk_at dksX6_take_5 5 rfl rfl)
theorem dX6_take_125 : decode cX6_take 125 = .ok (.lload 9, 2) := dk_22 9 (dk_at dksX6_take_5 8 rfl rfl)
theorem dX6_take_127 : decode cX6_take 127 = .ok (.lconst 0, 1) := dk_9 (dk_at dksX6_take_5 10 rfl rfl)
theorem dX6_take_128 : decode cX6_take 128 = .ok (.lcmp, 1) := dk_148 (dk_at dksX6_take_5 11 rfl rfl)
theorem dX6_take_129 : decode cX6_take 129 = .ok (.ifCond .ne 7, 3) := dk_154 0 7 (dk_at dksX6_take_5 12 rfl rfl)
theorem dX6_take_132 : decode cX6_take 132 = .ok (.iconst 1, 1) := dk_4 (dk_at dksX6_take_5 15 rfl rfl)
theorem dX6_take_133 : decode cX6_take 133 = .ok (.goto 4, 3) := dk_167 0 4 (dk_at dksX6_take_5 16 rfl rfl)
theorem dX6_take_136 : decode cX6_take 136 = .ok (.iconst 0, 1) := dk_3 (dk_at dksX6_take_5 19 rfl rfl)
theorem dX6_take_137 : decode cX6_take 137 = .ok (.putfield 74, 3) := dk_181 0 74 (dk_at dksX6_take_5 20 rfl rfl)
theorem dX6_take_140 : decode cX6_take 140 = .ok (.aload_n 0, 1) := dk_42 (dk_at dksX6_take_5 23 rfl rfl)
theorem dX6_take_141 : decode cX6_take 141 = .ok (.iload 8, 2) := dk_21 8 (dk_at dksX6_take_6 0 rfl rfl)
theorem dX6_take_143 : decode cX6_take 143 = .ok (.ifCond .ne 8, 3) := dk_154 0 8 (dk_at dksX6_take_6 2 rfl rfl)
theorem dX6_take_146 : decode cX6_take 146 = .ok (.lload 9, 2) := dk_22 9 (dk_at dksX6_take_6 5 rfl rfl)
theorem dX6_take_148 : decode cX6_take 148 = .ok (.goto 10, 3) := dk_167 0 10 (dk_at dksX6_take_6 7 rfl rfl)
theorem dX6_take_151 : decode cX6_take 151 = .ok (.lload 9, 2) := dk_22 9 (dk_at dksX6_take_6 10 rfl rfl)
theorem dX6_take_153 : decode cX6_take 153 = .ok (.lconst 1, 1) := dk_10 (dk_at dksX6_take_6 12 rfl rfl)
theorem dX6_take_154 : decode cX6_take 154 = .ok (.iload 4, 2) := dk_21 4 (dk_at dksX6_take_6 13 rfl rfl)
theorem dX6_take_156 : decode cX6_take 156 = .ok (.lshl, 1) := dk_121 (dk_at dksX6_take_6 15 rfl rfl)
theorem dX6_take_157 : decode cX6_take 157 = .ok (.lor, 1) := dk_129 (dk_at dksX6_take_6 16 rfl rfl)
theorem dX6_take_158 : decode cX6_take 158 = .ok (.putfield 77, 3) := dk_181 0 77 (dk_at dksX6_take_6 17 rfl rfl)
theorem dX6_take_161 : decode cX6_take 161 = .ok (.aload_n 0, 1) := dk_42 (dk_at dksX6_take_6 20 rfl rfl)
theorem dX6_take_162 : decode cX6_take 162 = .ok (.iload 8, 2) := dk_21 8 (dk_at dksX6_take_6 21 rfl rfl)
theorem dX6_take_164 : decode cX6_take 164 = .ok (.ifCond .ne 7, 3) := dk_154 0 7 (dk_at dksX6_take_7 0 rfl rfl)
theorem dX6_take_167 : decode cX6_take 167 = .ok (.iconst 0, 1) := dk_3 (dk_at dksX6_take_7 3 rfl rfl)
theorem dX6_take_168 : decode cX6_take 168 = .ok (.goto 7, 3) := dk_167 0 7 (dk_at dksX6_take_7 4 rfl rfl)
theorem dX6_take_171 : decode cX6_take 171 = .ok (.iload 8, 2) := dk_21 8 (dk_at dksX6_take_7 7 rfl rfl)
theorem dX6_take_173 : decode cX6_take 173 = .ok (.iconst 1, 1) := dk_4 (dk_at dksX6_take_7 9 rfl rfl)
theorem dX6_take_174 : decode cX6_take 174 = .ok (.isub, 1) := dk_100 (dk_at dksX6_take_7 10 rfl rfl)
theorem dX6_take_175 : decode cX6_take 175 = .ok (.iload_n 1, 1) := dk_27 (dk_at dksX6_take_7 11 rfl rfl)
theorem dX6_take_176 : decode cX6_take 176 = .ok (.invokestatic 81, 3) := dk_184 0 81 (dk_at dksX6_take_7 12 rfl rfl)
theorem dX6_take_179 : decode cX6_take 179 = .ok (.iadd, 1) := dk_96 (dk_at dksX6_take_7 15 rfl rfl)
theorem dX6_take_180 : decode cX6_take 180 = .ok (.putfield 84, 3) := dk_181 0 84 (dk_at dksX6_take_7 16 rfl rfl)
theorem dX6_take_183 : decode cX6_take 183 = .ok (.aload_n 0, 1) := dk_42 (dk_at dksX6_take_7 19 rfl rfl)
theorem dX6_take_184 : decode cX6_take 184 = .ok (.dup, 1) := dk_89 (dk_at dksX6_take_7 20 rfl rfl)
theorem dX6_take_185 : decode cX6_take 185 = .ok (.getfield 67, 3) := dk_180 0 67 (dk_at dksX6_take_7 21 rfl rfl)
theorem dX6_take_188 : decode cX6_take 188 = .ok (.aload_n 0, 1) := dk_42 (dk_at dksX6_take_8 0 rfl rfl)
theorem dX6_take_189 : decode cX6_take 189 = .ok (.getfield 71, 3) := dk_180 0 71 (dk_at dksX6_take_8 1 rfl rfl)
theorem dX6_take_192 : decode cX6_take 192 = .ok (.ifCond .ne 7, 3) := dk_154 0 7 (dk_at dksX6_take_8 4 rfl rfl)
theorem dX6_take_195 : decode cX6_take 195 = .ok (.iconst 1, 1) := dk_4 (dk_at dksX6_take_8 7 rfl rfl)
theorem dX6_take_196 : decode cX6_take 196 = .ok (.goto 4, 3) := dk_167 0 4 (dk_at dksX6_take_8 8 rfl rfl)
theorem dX6_take_199 : decode cX6_take 199 = .ok (.iconst 0, 1) := dk_3 (dk_at dksX6_take_8 11 rfl rfl)
theorem dX6_take_200 : decode cX6_take 200 = .ok (.iand, 1) := dk_126 (dk_at dksX6_take_8 12 rfl rfl)
theorem dX6_take_201 : decode cX6_take 201 = .ok (.putfield 67, 3) := dk_181 0 67 (dk_at dksX6_take_8 13 rfl rfl)
theorem dX6_take_204 : decode cX6_take 204 = .ok (.return_, 1) := dk_177 (dk_at dksX6_take_8 16 rfl rfl)
abbrev cX6_bitsOf : ByteArray := prog_10_method_17_code
def yX6_bitsOf : MethodName := ⟨RX6, "bitsOf", "(I)I"⟩
def dkwX6_bitsOf_0 : List UInt8 := [26, 154, 0, 8, 16, 24, 167, 0, 5, 16, 53, 172]
abbrev dktX6_bitsOf_0 : List UInt8 := dkwX6_bitsOf_0 ++ []
theorem dksX6_bitsOf_0 : cX6_bitsOf.data.toList.drop 0 = dktX6_bitsOf_0 := by decide +kernel
theorem dX6_bitsOf_0 : decode cX6_bitsOf 0 = .ok (.iload_n 0, 1) := dk_26 (dk_at dksX6_bitsOf_0 0 rfl rfl)
theorem dX6_bitsOf_1 : decode cX6_bitsOf 1 = .ok (.ifCond .ne 8, 3) := dk_154 0 8 (dk_at dksX6_bitsOf_0 1 rfl rfl)
theorem dX6_bitsOf_4 : decode cX6_bitsOf 4 = .ok (.bipush 24, 2) := dk_16 24 (dk_at dksX6_bitsOf_0 4 rfl rfl)
theorem dX6_bitsOf_6 : decode cX6_bitsOf 6 = .ok (.goto 5, 3) := dk_167 0 5 (dk_at dksX6_bitsOf_0 6 rfl rfl)
theorem dX6_bitsOf_9 : decode cX6_bitsOf 9 = .ok (.bipush 53, 2) := dk_16 53 (dk_at dksX6_bitsOf_0 9 rfl rfl)
theorem dX6_bitsOf_11 : decode cX6_bitsOf 11 = .ok (.ireturn, 1) := dk_172 (dk_at dksX6_bitsOf_0 11 rfl rfl)
abbrev cX6_least : ByteArray := prog_10_method_18_code
def yX6_least : MethodName := ⟨RX6, "least", "(I)I"⟩
def dkwX6_least_0 : List UInt8 := [26, 154, 0, 9, 17, 255, 107, 167, 0, 6, 17, 251, 206, 172]
abbrev dktX6_least_0 : List UInt8 := dkwX6_least_0 ++ []
theorem dksX6_least_0 : cX6_least.data.toList.drop 0 = dktX6_least_0 := by decide +kernel
theorem dX6_least_0 : decode cX6_least 0 = .ok (.iload_n 0, 1) := dk_26 (dk_at dksX6_least_0 0 rfl rfl)
theorem dX6_least_1 : decode cX6_least 1 = .ok (.ifCond .ne 9, 3) := dk_154 0 9 (dk_at dksX6_least_0 1 rfl rfl)
theorem dX6_least_4 : decode cX6_least 4 = .ok (.sipush (-149), 3) := dk_17 255 107 (dk_at dksX6_least_0 4 rfl rfl)
theorem dX6_least_7 : decode cX6_least 7 = .ok (.goto 6, 3) := dk_167 0 6 (dk_at dksX6_least_0 7 rfl rfl)
theorem dX6_least_10 : decode cX6_least 10 = .ok (.sipush (-1074), 3) := dk_17 251 206 (dk_at dksX6_least_0 10 rfl rfl)
theorem dX6_least_13 : decode cX6_least 13 = .ok (.ireturn, 1) := dk_172 (dk_at dksX6_least_0 13 rfl rfl)
abbrev cX6_fill : ByteArray := prog_10_method_26_code
def yX6_fill : MethodName := ⟨RX6, "fill", "(I)V"⟩
def dkwX6_fill_1 : List UInt8 := [181, 0, 77, 42, 89, 180, 0, 84, 4, 100, 181, 0, 84, 167, 255, 220, 177]
abbrev dktX6_fill_1 : List UInt8 := dkwX6_fill_1 ++ []
def dkwX6_fill_0 : List UInt8 := [42, 180, 0, 77, 10, 27, 184, 0, 61, 4, 100, 121, 148, 156, 0, 26, 42, 89, 180, 0, 77, 4, 121]
abbrev dktX6_fill_0 : List UInt8 := dkwX6_fill_0 ++ dktX6_fill_1
theorem dksX6_fill_0 : cX6_fill.data.toList.drop 0 = dktX6_fill_0 := by decide +kernel
theorem dksX6_fill_1 : cX6_fill.data.toList.drop 23 = dktX6_fill_1 := dk_seg dksX6_fill_0 23 rfl rfl
theorem dX6_fill_0 : decode cX6_fill 0 = .ok (.aload_n 0, 1) := dk_42 (dk_at dksX6_fill_0 0 rfl rfl)
theorem dX6_fill_1 : decode cX6_fill 1 = .ok (.getfield 77, 3) := dk_180 0 77 (dk_at dksX6_fill_0 1 rfl rfl)
theorem dX6_fill_4 : decode cX6_fill 4 = .ok (.lconst 1, 1) := dk_10 (dk_at dksX6_fill_0 4 rfl rfl)
theorem dX6_fill_5 : decode cX6_fill 5 = .ok (.iload_n 1, 1) := dk_27 (dk_at dksX6_fill_0 5 rfl rfl)
theorem dX6_fill_6 : decode cX6_fill 6 = .ok (.invokestatic 61, 3) := dk_184 0 61 (dk_at dksX6_fill_0 6 rfl rfl)
theorem dX6_fill_9 : decode cX6_fill 9 = .ok (.iconst 1, 1) := dk_4 (dk_at dksX6_fill_0 9 rfl rfl)
theorem dX6_fill_10 : decode cX6_fill 10 = .ok (.isub, 1) := dk_100 (dk_at dksX6_fill_0 10 rfl rfl)
theorem dX6_fill_11 : decode cX6_fill 11 = .ok (.lshl, 1) := dk_121 (dk_at dksX6_fill_0 11 rfl rfl)
theorem dX6_fill_12 : decode cX6_fill 12 = .ok (.lcmp, 1) := dk_148 (dk_at dksX6_fill_0 12 rfl rfl)
theorem dX6_fill_13 : decode cX6_fill 13 = .ok (.ifCond .ge 26, 3) := dk_156 0 26 (dk_at dksX6_fill_0 13 rfl rfl)
theorem dX6_fill_16 : decode cX6_fill 16 = .ok (.aload_n 0, 1) := dk_42 (dk_at dksX6_fill_0 16 rfl rfl)
theorem dX6_fill_17 : decode cX6_fill 17 = .ok (.dup, 1) := dk_89 (dk_at dksX6_fill_0 17 rfl rfl)
theorem dX6_fill_18 : decode cX6_fill 18 = .ok (.getfield 77, 3) := dk_180 0 77 (dk_at dksX6_fill_0 18 rfl rfl)
theorem dX6_fill_21 : decode cX6_fill 21 = .ok (.iconst 1, 1) := dk_4 (dk_at dksX6_fill_0 21 rfl rfl)
theorem dX6_fill_22 : decode cX6_fill 22 = .ok (.lshl, 1) := dk_121 (dk_at dksX6_fill_0 22 rfl rfl)
theorem dX6_fill_23 : decode cX6_fill 23 = .ok (.putfield 77, 3) := dk_181 0 77 (dk_at dksX6_fill_1 0 rfl rfl)
theorem dX6_fill_26 : decode cX6_fill 26 = .ok (.aload_n 0, 1) := dk_42 (dk_at dksX6_fill_1 3 rfl rfl)
theorem dX6_fill_27 : decode cX6_fill 27 = .ok (.dup, 1) := dk_89 (dk_at dksX6_fill_1 4 rfl rfl)
theorem dX6_fill_28 : decode cX6_fill 28 = .ok (.getfield 84, 3) := dk_180 0 84 (dk_at dksX6_fill_1 5 rfl rfl)
theorem dX6_fill_31 : decode cX6_fill 31 = .ok (.iconst 1, 1) := dk_4 (dk_at dksX6_fill_1 8 rfl rfl)
theorem dX6_fill_32 : decode cX6_fill 32 = .ok (.isub, 1) := dk_100 (dk_at dksX6_fill_1 9 rfl rfl)
theorem dX6_fill_33 : decode cX6_fill 33 = .ok (.putfield 84, 3) := dk_181 0 84 (dk_at dksX6_fill_1 10 rfl rfl)
theorem dX6_fill_36 : decode cX6_fill 36 = .ok (.goto (-36), 3) := dk_167 255 220 (dk_at dksX6_fill_1 13 rfl rfl)
theorem dX6_fill_39 : decode cX6_fill 39 = .ok (.return_, 1) := dk_177 (dk_at dksX6_fill_1 16 rfl rfl)
abbrev cX6_encode : ByteArray := prog_10_method_29_code
def yX6_encode : MethodName := ⟨RX6, "encode", "(IJI)J"⟩
def dkwX6_encode_2 : List UInt8 := [117, 167, 0, 4, 32, 21, 4, 133, 182, 0, 163, 173]
abbrev dktX6_encode_2 : List UInt8 := dkwX6_encode_2 ++ []
def dkwX6_encode_1 : List UInt8 := [9, 167, 0, 34, 42, 27, 32, 9, 148, 156, 0, 7, 4, 167, 0, 4, 3, 32, 9, 148, 156, 0, 8, 32]
abbrev dktX6_encode_1 : List UInt8 := dkwX6_encode_1 ++ dktX6_encode_2
def dkwX6_encode_0 : List UInt8 := [42, 182, 0, 42, 27, 184, 0, 151, 154, 0, 10, 42, 16, 9, 182, 0, 45, 173, 32, 9, 148, 154, 0, 7]
abbrev dktX6_encode_0 : List UInt8 := dkwX6_encode_0 ++ dktX6_encode_1
theorem dksX6_encode_0 : cX6_encode.data.toList.drop 0 = dktX6_encode_0 := by decide +kernel
theorem dksX6_encode_1 : cX6_encode.data.toList.drop 24 = dktX6_encode_1 := dk_seg dksX6_encode_0 24 rfl rfl
theorem dksX6_encode_2 : cX6_encode.data.toList.drop 48 = dktX6_encode_2 := dk_seg dksX6_encode_1 24 rfl rfl
theorem dX6_encode_0 : decode cX6_encode 0 = .ok (.aload_n 0, 1) := dk_42 (dk_at dksX6_encode_0 0 rfl rfl)
theorem dX6_encode_1 : decode cX6_encode 1 = .ok (.invokevirtual 42, 3) := dk_182 0 42 (dk_at dksX6_encode_0 1 rfl rfl)
theorem dX6_encode_4 : decode cX6_encode 4 = .ok (.iload_n 1, 1) := dk_27 (dk_at dksX6_encode_0 4 rfl rfl)
theorem dX6_encode_5 : decode cX6_encode 5 = .ok (.invokestatic 151, 3) := dk_184 0 151 (dk_at dksX6_encode_0 5 rfl rfl)
theorem dX6_encode_8 : decode cX6_encode 8 = .ok (.ifCond .ne 10, 3) := dk_154 0 10 (dk_at dksX6_encode_0 8 rfl rfl)
theorem dX6_encode_11 : decode cX6_encode 11 = .ok (.aload_n 0, 1) := dk_42 (dk_at dksX6_encode_0 11 rfl rfl)
theorem dX6_encode_12 : decode cX6_encode 12 = .ok (.bipush 9, 2) := dk_16 9 (dk_at dksX6_encode_0 12 rfl rfl)
theorem dX6_encode_14 : decode cX6_encode 14 = .ok (.invokevirtual 45, 3) := dk_182 0 45 (dk_at dksX6_encode_0 14 rfl rfl)
theorem dX6_encode_17 : decode cX6_encode 17 = .ok (.lreturn, 1) := dk_173 (dk_at dksX6_encode_0 17 rfl rfl)
theorem dX6_encode_18 : decode cX6_encode 18 = .ok (.lload_n 2, 1) := dk_32 (dk_at dksX6_encode_0 18 rfl rfl)
theorem dX6_encode_19 : decode cX6_encode 19 = .ok (.lconst 0, 1) := dk_9 (dk_at dksX6_encode_0 19 rfl rfl)
theorem dX6_encode_20 : decode cX6_encode 20 = .ok (.lcmp, 1) := dk_148 (dk_at dksX6_encode_0 20 rfl rfl)
theorem dX6_encode_21 : decode cX6_encode 21 = .ok (.ifCond .ne 7, 3) := dk_154 0 7 (dk_at dksX6_encode_0 21 rfl rfl)
theorem dX6_encode_24 : decode cX6_encode 24 = .ok (.lconst 0, 1) := dk_9 (dk_at dksX6_encode_1 0 rfl rfl)
theorem dX6_encode_25 : decode cX6_encode 25 = .ok (.goto 34, 3) := dk_167 0 34 (dk_at dksX6_encode_1 1 rfl rfl)
theorem dX6_encode_28 : decode cX6_encode 28 = .ok (.aload_n 0, 1) := dk_42 (dk_at dksX6_encode_1 4 rfl rfl)
theorem dX6_encode_29 : decode cX6_encode 29 = .ok (.iload_n 1, 1) := dk_27 (dk_at dksX6_encode_1 5 rfl rfl)
theorem dX6_encode_30 : decode cX6_encode 30 = .ok (.lload_n 2, 1) := dk_32 (dk_at dksX6_encode_1 6 rfl rfl)
theorem dX6_encode_31 : decode cX6_encode 31 = .ok (.lconst 0, 1) := dk_9 (dk_at dksX6_encode_1 7 rfl rfl)
theorem dX6_encode_32 : decode cX6_encode 32 = .ok (.lcmp, 1) := dk_148 (dk_at dksX6_encode_1 8 rfl rfl)
theorem dX6_encode_33 : decode cX6_encode 33 = .ok (.ifCond .ge 7, 3) := dk_156 0 7 (dk_at dksX6_encode_1 9 rfl rfl)
theorem dX6_encode_36 : decode cX6_encode 36 = .ok (.iconst 1, 1) := dk_4 (dk_at dksX6_encode_1 12 rfl rfl)
theorem dX6_encode_37 : decode cX6_encode 37 = .ok (.goto 4, 3) := dk_167 0 4 (dk_at dksX6_encode_1 13 rfl rfl)
theorem dX6_encode_40 : decode cX6_encode 40 = .ok (.iconst 0, 1) := dk_3 (dk_at dksX6_encode_1 16 rfl rfl)
theorem dX6_encode_41 : decode cX6_encode 41 = .ok (.lload_n 2, 1) := dk_32 (dk_at dksX6_encode_1 17 rfl rfl)
theorem dX6_encode_42 : decode cX6_encode 42 = .ok (.lconst 0, 1) := dk_9 (dk_at dksX6_encode_1 18 rfl rfl)
theorem dX6_encode_43 : decode cX6_encode 43 = .ok (.lcmp, 1) := dk_148 (dk_at dksX6_encode_1 19 rfl rfl)
theorem dX6_encode_44 : decode cX6_encode 44 = .ok (.ifCond .ge 8, 3) := dk_156 0 8 (dk_at dksX6_encode_1 20 rfl rfl)
theorem dX6_encode_47 : decode cX6_encode 47 = .ok (.lload_n 2, 1) := dk_32 (dk_at dksX6_encode_1 23 rfl rfl)
theorem dX6_encode_48 : decode cX6_encode 48 = .ok (.lneg, 1) := dk_117 (dk_at dksX6_encode_2 0 rfl rfl)
theorem dX6_encode_49 : decode cX6_encode 49 = .ok (.goto 4, 3) := dk_167 0 4 (dk_at dksX6_encode_2 1 rfl rfl)
theorem dX6_encode_52 : decode cX6_encode 52 = .ok (.lload_n 2, 1) := dk_32 (dk_at dksX6_encode_2 4 rfl rfl)
theorem dX6_encode_53 : decode cX6_encode 53 = .ok (.iload 4, 2) := dk_21 4 (dk_at dksX6_encode_2 5 rfl rfl)
theorem dX6_encode_55 : decode cX6_encode 55 = .ok (.i2l, 1) := dk_133 (dk_at dksX6_encode_2 7 rfl rfl)
theorem dX6_encode_56 : decode cX6_encode 56 = .ok (.invokevirtual 163, 3) := dk_182 0 163 (dk_at dksX6_encode_2 8 rfl rfl)
theorem dX6_encode_59 : decode cX6_encode 59 = .ok (.lreturn, 1) := dk_173 (dk_at dksX6_encode_2 11 rfl rfl)
abbrev cX6_scaled : ByteArray := prog_10_method_25_code
def yX6_scaled : MethodName := ⟨RX6, "scaled", "(IZJJ)J"⟩
def dkwX6_scaled_1 : List UInt8 := [173]
abbrev dktX6_scaled_1 : List UInt8 := dkwX6_scaled_1 ++ []
def dkwX6_scaled_0 : List UInt8 := [42, 180, 0, 26, 33, 184, 0, 143, 42, 180, 0, 29, 10, 184, 0, 143, 42, 27, 28, 22, 5, 182, 0, 147]
abbrev dktX6_scaled_0 : List UInt8 := dkwX6_scaled_0 ++ dktX6_scaled_1
theorem dksX6_scaled_0 : cX6_scaled.data.toList.drop 0 = dktX6_scaled_0 := by decide +kernel
theorem dksX6_scaled_1 : cX6_scaled.data.toList.drop 24 = dktX6_scaled_1 := dk_seg dksX6_scaled_0 24 rfl rfl
theorem dX6_scaled_0 : decode cX6_scaled 0 = .ok (.aload_n 0, 1) := dk_42 (dk_at dksX6_scaled_0 0 rfl rfl)
theorem dX6_scaled_1 : decode cX6_scaled 1 = .ok (.getfield 26, 3) := dk_180 0 26 (dk_at dksX6_scaled_0 1 rfl rfl)
theorem dX6_scaled_4 : decode cX6_scaled 4 = .ok (.lload_n 3, 1) := dk_33 (dk_at dksX6_scaled_0 4 rfl rfl)
theorem dX6_scaled_5 : decode cX6_scaled 5 = .ok (.invokestatic 143, 3) := dk_184 0 143 (dk_at dksX6_scaled_0 5 rfl rfl)
theorem dX6_scaled_8 : decode cX6_scaled 8 = .ok (.aload_n 0, 1) := dk_42 (dk_at dksX6_scaled_0 8 rfl rfl)
theorem dX6_scaled_9 : decode cX6_scaled 9 = .ok (.getfield 29, 3) := dk_180 0 29 (dk_at dksX6_scaled_0 9 rfl rfl)
theorem dX6_scaled_12 : decode cX6_scaled 12 = .ok (.lconst 1, 1) := dk_10 (dk_at dksX6_scaled_0 12 rfl rfl)
theorem dX6_scaled_13 : decode cX6_scaled 13 = .ok (.invokestatic 143, 3) := dk_184 0 143 (dk_at dksX6_scaled_0 13 rfl rfl)
theorem dX6_scaled_16 : decode cX6_scaled 16 = .ok (.aload_n 0, 1) := dk_42 (dk_at dksX6_scaled_0 16 rfl rfl)
theorem dX6_scaled_17 : decode cX6_scaled 17 = .ok (.iload_n 1, 1) := dk_27 (dk_at dksX6_scaled_0 17 rfl rfl)
theorem dX6_scaled_18 : decode cX6_scaled 18 = .ok (.iload_n 2, 1) := dk_28 (dk_at dksX6_scaled_0 18 rfl rfl)
theorem dX6_scaled_19 : decode cX6_scaled 19 = .ok (.lload 5, 2) := dk_22 5 (dk_at dksX6_scaled_0 19 rfl rfl)
theorem dX6_scaled_21 : decode cX6_scaled 21 = .ok (.invokevirtual 147, 3) := dk_182 0 147 (dk_at dksX6_scaled_0 21 rfl rfl)
theorem dX6_scaled_24 : decode cX6_scaled 24 = .ok (.lreturn, 1) := dk_173 (dk_at dksX6_scaled_1 0 rfl rfl)
abbrev cX6_set : ByteArray := prog_10_method_8_code
def yX6_set : MethodName := ⟨RX6, "set", "([JJ)V"⟩
def dkwX6_set_1 : List UInt8 := [5, 31, 16, 60, 125, 80, 177]
abbrev dktX6_set_1 : List UInt8 := dkwX6_set_1 ++ []
def dkwX6_set_0 : List UInt8 := [42, 184, 0, 49, 42, 3, 31, 20, 0, 53, 127, 80, 42, 4, 31, 16, 30, 125, 20, 0, 53, 127, 80, 42]
abbrev dktX6_set_0 : List UInt8 := dkwX6_set_0 ++ dktX6_set_1
theorem dksX6_set_0 : cX6_set.data.toList.drop 0 = dktX6_set_0 := by decide +kernel
theorem dksX6_set_1 : cX6_set.data.toList.drop 24 = dktX6_set_1 := dk_seg dksX6_set_0 24 rfl rfl
theorem dX6_set_0 : decode cX6_set 0 = .ok (.aload_n 0, 1) := dk_42 (dk_at dksX6_set_0 0 rfl rfl)
theorem dX6_set_1 : decode cX6_set 1 = .ok (.invokestatic 49, 3) := dk_184 0 49 (dk_at dksX6_set_0 1 rfl rfl)
theorem dX6_set_4 : decode cX6_set 4 = .ok (.aload_n 0, 1) := dk_42 (dk_at dksX6_set_0 4 rfl rfl)
theorem dX6_set_5 : decode cX6_set 5 = .ok (.iconst 0, 1) := dk_3 (dk_at dksX6_set_0 5 rfl rfl)
theorem dX6_set_6 : decode cX6_set 6 = .ok (.lload_n 1, 1) := dk_31 (dk_at dksX6_set_0 6 rfl rfl)
theorem dX6_set_7 : decode cX6_set 7 = .ok (.ldc2_w 53, 3) := dk_20 0 53 (dk_at dksX6_set_0 7 rfl rfl)
theorem dX6_set_10 : decode cX6_set 10 = .ok (.land, 1) := dk_127 (dk_at dksX6_set_0 10 rfl rfl)
theorem dX6_set_11 : decode cX6_set 11 = .ok (.lastore, 1) := dk_80 (dk_at dksX6_set_0 11 rfl rfl)
theorem dX6_set_12 : decode cX6_set 12 = .ok (.aload_n 0, 1) := dk_42 (dk_at dksX6_set_0 12 rfl rfl)
theorem dX6_set_13 : decode cX6_set 13 = .ok (.iconst 1, 1) := dk_4 (dk_at dksX6_set_0 13 rfl rfl)
theorem dX6_set_14 : decode cX6_set 14 = .ok (.lload_n 1, 1) := dk_31 (dk_at dksX6_set_0 14 rfl rfl)
theorem dX6_set_15 : decode cX6_set 15 = .ok (.bipush 30, 2) := dk_16 30 (dk_at dksX6_set_0 15 rfl rfl)
theorem dX6_set_17 : decode cX6_set 17 = .ok (.lushr, 1) := dk_125 (dk_at dksX6_set_0 17 rfl rfl)
theorem dX6_set_18 : decode cX6_set 18 = .ok (.ldc2_w 53, 3) := dk_20 0 53 (dk_at dksX6_set_0 18 rfl rfl)
theorem dX6_set_21 : decode cX6_set 21 = .ok (.land, 1) := dk_127 (dk_at dksX6_set_0 21 rfl rfl)
theorem dX6_set_22 : decode cX6_set 22 = .ok (.lastore, 1) := dk_80 (dk_at dksX6_set_0 22 rfl rfl)
theorem dX6_set_23 : decode cX6_set 23 = .ok (.aload_n 0, 1) := dk_42 (dk_at dksX6_set_0 23 rfl rfl)
theorem dX6_set_24 : decode cX6_set 24 = .ok (.iconst 2, 1) := dk_5 (dk_at dksX6_set_1 0 rfl rfl)
theorem dX6_set_25 : decode cX6_set 25 = .ok (.lload_n 1, 1) := dk_31 (dk_at dksX6_set_1 1 rfl rfl)
theorem dX6_set_26 : decode cX6_set 26 = .ok (.bipush 60, 2) := dk_16 60 (dk_at dksX6_set_1 2 rfl rfl)
theorem dX6_set_28 : decode cX6_set 28 = .ok (.lushr, 1) := dk_125 (dk_at dksX6_set_1 4 rfl rfl)
theorem dX6_set_29 : decode cX6_set 29 = .ok (.lastore, 1) := dk_80 (dk_at dksX6_set_1 5 rfl rfl)
theorem dX6_set_30 : decode cX6_set 30 = .ok (.return_, 1) := dk_177 (dk_at dksX6_set_1 6 rfl rfl)
abbrev cX6_clear : ByteArray := prog_10_method_7_code
def yX6_clear : MethodName := ⟨RX6, "clear", "([J)V"⟩
def dkwX6_clear_0 : List UInt8 := [3, 60, 27, 17, 0, 170, 162, 0, 13, 42, 27, 9, 80, 132, 1, 1, 167, 255, 242, 177]
abbrev dktX6_clear_0 : List UInt8 := dkwX6_clear_0 ++ []
theorem dksX6_clear_0 : cX6_clear.data.toList.drop 0 = dktX6_clear_0 := by decide +kernel
theorem dX6_clear_0 : decode cX6_clear 0 = .ok (.iconst 0, 1) := dk_3 (dk_at dksX6_clear_0 0 rfl rfl)
theorem dX6_clear_1 : decode cX6_clear 1 = .ok (.istore_n 1, 1) := dk_60 (dk_at dksX6_clear_0 1 rfl rfl)
theorem dX6_clear_2 : decode cX6_clear 2 = .ok (.iload_n 1, 1) := dk_27 (dk_at dksX6_clear_0 2 rfl rfl)
theorem dX6_clear_3 : decode cX6_clear 3 = .ok (.sipush 170, 3) := dk_17 0 170 (dk_at dksX6_clear_0 3 rfl rfl)
theorem dX6_clear_6 : decode cX6_clear 6 = .ok (.if_icmp .ge 13, 3) := dk_162 0 13 (dk_at dksX6_clear_0 6 rfl rfl)
theorem dX6_clear_9 : decode cX6_clear 9 = .ok (.aload_n 0, 1) := dk_42 (dk_at dksX6_clear_0 9 rfl rfl)
theorem dX6_clear_10 : decode cX6_clear 10 = .ok (.iload_n 1, 1) := dk_27 (dk_at dksX6_clear_0 10 rfl rfl)
theorem dX6_clear_11 : decode cX6_clear 11 = .ok (.lconst 0, 1) := dk_9 (dk_at dksX6_clear_0 11 rfl rfl)
theorem dX6_clear_12 : decode cX6_clear 12 = .ok (.lastore, 1) := dk_80 (dk_at dksX6_clear_0 12 rfl rfl)
theorem dX6_clear_13 : decode cX6_clear 13 = .ok (.iinc 1 1, 3) := dk_132 1 1 (dk_at dksX6_clear_0 13 rfl rfl)
theorem dX6_clear_16 : decode cX6_clear 16 = .ok (.goto (-14), 3) := dk_167 255 242 (dk_at dksX6_clear_0 16 rfl rfl)
theorem dX6_clear_19 : decode cX6_clear 19 = .ok (.return_, 1) := dk_177 (dk_at dksX6_clear_0 19 rfl rfl)
abbrev cX6_nearestOf : ByteArray := prog_10_method_24_code
def yX6_nearestOf : MethodName := ⟨RX6, "nearestOf", "(IZJ)J"⟩
def dkwX6_nearestOf_17 : List UInt8 := [22, 15, 21, 5, 4, 100, 121, 22, 12, 10, 21, 5, 4, 100, 121, 101, 129, 28, 184, 0, 110, 173]
abbrev dktX6_nearestOf_17 : List UInt8 := dkwX6_nearestOf_17 ++ []
def dkwX6_nearestOf_16 : List UInt8 := [20, 0, 139, 167, 0, 6, 20, 0, 141, 148, 155, 0, 13, 27, 27, 184, 0, 116, 28, 184, 0, 110, 173, 27]
abbrev dktX6_nearestOf_16 : List UInt8 := dkwX6_nearestOf_16 ++ dktX6_nearestOf_17
def dkwX6_nearestOf_15 : List UInt8 := [184, 0, 110, 173, 21, 9, 27, 184, 0, 81, 100, 133, 10, 97, 55, 15, 22, 15, 27, 154, 0, 9]
abbrev dktX6_nearestOf_15 : List UInt8 := dkwX6_nearestOf_15 ++ dktX6_nearestOf_16
def dkwX6_nearestOf_14 : List UInt8 := [123, 55, 12, 132, 9, 1, 22, 12, 10, 21, 5, 4, 100, 121, 148, 156, 0, 11, 27, 22, 12, 28]
abbrev dktX6_nearestOf_14 : List UInt8 := dkwX6_nearestOf_14 ++ dktX6_nearestOf_15
def dkwX6_nearestOf_13 : List UInt8 := [154, 0, 7, 10, 167, 0, 4, 9, 97, 55, 12, 22, 12, 10, 21, 5, 121, 148, 154, 0, 12, 22, 12, 4]
abbrev dktX6_nearestOf_13 : List UInt8 := dkwX6_nearestOf_13 ++ dktX6_nearestOf_14
def dkwX6_nearestOf_12 : List UInt8 := [184, 0, 129, 54, 14, 22, 12, 21, 14, 157, 0, 17, 21, 14, 154, 0, 16, 22, 12, 10, 127, 10, 148]
abbrev dktX6_nearestOf_12 : List UInt8 := dkwX6_nearestOf_12 ++ dktX6_nearestOf_13
def dkwX6_nearestOf_11 : List UInt8 := [132, 14, 255, 167, 255, 207, 42, 180, 0, 26, 4, 184, 0, 121, 42, 180, 0, 26, 42, 180, 0, 29]
abbrev dktX6_nearestOf_11 : List UInt8 := dkwX6_nearestOf_11 ++ dktX6_nearestOf_12
def dkwX6_nearestOf_10 : List UInt8 := [180, 0, 32, 184, 0, 133, 22, 12, 10, 21, 14, 121, 129, 55, 12, 42, 180, 0, 32, 184, 0, 136]
abbrev dktX6_nearestOf_10 : List UInt8 := dkwX6_nearestOf_10 ++ dktX6_nearestOf_11
def dkwX6_nearestOf_9 : List UInt8 := [21, 14, 155, 0, 50, 42, 180, 0, 26, 42, 180, 0, 32, 184, 0, 129, 155, 0, 23, 42, 180, 0, 26, 42]
abbrev dktX6_nearestOf_9 : List UInt8 := dkwX6_nearestOf_9 ++ dktX6_nearestOf_10
def dkwX6_nearestOf_8 : List UInt8 := [42, 180, 0, 32, 184, 0, 125, 42, 180, 0, 32, 21, 5, 184, 0, 121, 9, 55, 12, 21, 5, 54, 14]
abbrev dktX6_nearestOf_8 : List UInt8 := dkwX6_nearestOf_8 ++ dktX6_nearestOf_9
def dkwX6_nearestOf_7 : List UInt8 := [180, 0, 32, 184, 0, 129, 155, 0, 14, 42, 180, 0, 29, 4, 184, 0, 121, 132, 9, 1, 42, 180, 0, 29]
abbrev dktX6_nearestOf_7 : List UInt8 := dkwX6_nearestOf_7 ++ dktX6_nearestOf_8
def dkwX6_nearestOf_6 : List UInt8 := [180, 0, 29, 42, 180, 0, 32, 184, 0, 125, 42, 180, 0, 32, 21, 5, 184, 0, 121, 42, 180, 0, 26, 42]
abbrev dktX6_nearestOf_6 : List UInt8 := dkwX6_nearestOf_6 ++ dktX6_nearestOf_7
def dkwX6_nearestOf_5 : List UInt8 := [180, 0, 29, 22, 10, 136, 184, 0, 121, 167, 0, 14, 42, 180, 0, 26, 22, 10, 117, 136, 184, 0, 121, 42]
abbrev dktX6_nearestOf_5 : List UInt8 := dkwX6_nearestOf_5 ++ dktX6_nearestOf_6
def dkwX6_nearestOf_4 : List UInt8 := [167, 0, 6, 22, 7, 136, 54, 9, 21, 9, 133, 33, 101, 55, 10, 22, 10, 9, 148, 155, 0, 16, 42]
abbrev dktX6_nearestOf_4 : List UInt8 := dkwX6_nearestOf_4 ++ dktX6_nearestOf_5
def dkwX6_nearestOf_3 : List UInt8 := [156, 0, 10, 27, 9, 28, 184, 0, 110, 173, 22, 7, 136, 27, 184, 0, 81, 162, 0, 10, 27, 184, 0, 81]
abbrev dktX6_nearestOf_3 : List UInt8 := dkwX6_nearestOf_3 ++ dktX6_nearestOf_4
def dkwX6_nearestOf_2 : List UInt8 := [20, 0, 114, 148, 158, 0, 13, 27, 27, 184, 0, 116, 28, 184, 0, 110, 173, 22, 7, 20, 0, 119, 148]
abbrev dktX6_nearestOf_2 : List UInt8 := dkwX6_nearestOf_2 ++ dktX6_nearestOf_3
def dkwX6_nearestOf_1 : List UInt8 := [184, 0, 110, 173, 21, 6, 42, 180, 0, 29, 184, 0, 106, 100, 21, 5, 100, 133, 33, 97, 55, 7, 22, 7]
abbrev dktX6_nearestOf_1 : List UInt8 := dkwX6_nearestOf_1 ++ dktX6_nearestOf_2
def dkwX6_nearestOf_0 : List UInt8 := [27, 184, 0, 61, 54, 5, 42, 180, 0, 26, 184, 0, 106, 54, 6, 21, 6, 154, 0, 10, 27, 9, 28]
abbrev dktX6_nearestOf_0 : List UInt8 := dkwX6_nearestOf_0 ++ dktX6_nearestOf_1
theorem dksX6_nearestOf_0 : cX6_nearestOf.data.toList.drop 0 = dktX6_nearestOf_0 := by decide +kernel
theorem dksX6_nearestOf_1 : cX6_nearestOf.data.toList.drop 23 = dktX6_nearestOf_1 := dk_seg dksX6_nearestOf_0 23 rfl rfl
theorem dksX6_nearestOf_2 : cX6_nearestOf.data.toList.drop 47 = dktX6_nearestOf_2 := dk_seg dksX6_nearestOf_1 24 rfl rfl
theorem dksX6_nearestOf_3 : cX6_nearestOf.data.toList.drop 70 = dktX6_nearestOf_3 := dk_seg dksX6_nearestOf_2 23 rfl rfl
theorem dksX6_nearestOf_4 : cX6_nearestOf.data.toList.drop 94 = dktX6_nearestOf_4 := dk_seg dksX6_nearestOf_3 24 rfl rfl
theorem dksX6_nearestOf_5 : cX6_nearestOf.data.toList.drop 117 = dktX6_nearestOf_5 := dk_seg dksX6_nearestOf_4 23 rfl rfl
theorem dksX6_nearestOf_6 : cX6_nearestOf.data.toList.drop 141 = dktX6_nearestOf_6 := dk_seg dksX6_nearestOf_5 24 rfl rfl
theorem dksX6_nearestOf_7 : cX6_nearestOf.data.toList.drop 165 = dktX6_nearestOf_7 := dk_seg dksX6_nearestOf_6 24 rfl rfl
theorem dksX6_nearestOf_8 : cX6_nearestOf.data.toList.drop 189 = dktX6_nearestOf_8 := dk_seg dksX6_nearestOf_7 24 rfl rfl
theorem dksX6_nearestOf_9 : cX6_nearestOf.data.toList.drop 212 = dktX6_nearestOf_9 := dk_seg dksX6_nearestOf_8 23 rfl rfl
theorem dksX6_nearestOf_10 : cX6_nearestOf.data.toList.drop 236 = dktX6_nearestOf_10 := dk_seg dksX6_nearestOf_9 24 rfl rfl
theorem dksX6_nearestOf_11 : cX6_nearestOf.data.toList.drop 258 = dktX6_nearestOf_11 := dk_seg dksX6_nearestOf_10 22 rfl rfl
theorem dksX6_nearestOf_12 : cX6_nearestOf.data.toList.drop 280 = dktX6_nearestOf_12 := dk_seg dksX6_nearestOf_11 22 rfl rfl
theorem dksX6_nearestOf_13 : cX6_nearestOf.data.toList.drop 303 = dktX6_nearestOf_13 := dk_seg dksX6_nearestOf_12 23 rfl rfl
theorem dksX6_nearestOf_14 : cX6_nearestOf.data.toList.drop 327 = dktX6_nearestOf_14 := dk_seg dksX6_nearestOf_13 24 rfl rfl
theorem dksX6_nearestOf_15 : cX6_nearestOf.data.toList.drop 349 = dktX6_nearestOf_15 := dk_seg dksX6_nearestOf_14 22 rfl rfl
theorem dksX6_nearestOf_16 : cX6_nearestOf.data.toList.drop 371 = dktX6_nearestOf_16 := dk_seg dksX6_nearestOf_15 22 rfl rfl
theorem dksX6_nearestOf_17 : cX6_nearestOf.data.toList.drop 395 = dktX6_nearestOf_17 := dk_seg dksX6_nearestOf_16 24 rfl rfl
theorem dX6_nearestOf_0 : decode cX6_nearestOf 0 = .ok (.iload_n 1, 1) := dk_27 (dk_at dksX6_nearestOf_0 0 rfl rfl)
theorem dX6_nearestOf_1 : decode cX6_nearestOf 1 = .ok (.invokestatic 61, 3) := dk_184 0 61 (dk_at dksX6_nearestOf_0 1 rfl rfl)
theorem dX6_nearestOf_4 : decode cX6_nearestOf 4 = .ok (.istore 5, 2) := dk_54 5 (dk_at dksX6_nearestOf_0 4 rfl rfl)
theorem dX6_nearestOf_6 : decode cX6_nearestOf 6 = .ok (.aload_n 0, 1) := dk_42 (dk_at dksX6_nearestOf_0 6 rfl rfl)
theorem dX6_nearestOf_7 : decode cX6_nearestOf 7 = .ok (.getfield 26, 3) := dk_180 0 26 (dk_at dksX6_nearestOf_0 7 rfl rfl)
theorem dX6_nearestOf_10 : decode cX6_nearestOf 10 = .ok (.invokestatic 106, 3) := dk_184 0 106 (dk_at dksX6_nearestOf_0 10 rfl rfl)
theorem dX6_nearestOf_13 : decode cX6_nearestOf 13 = .ok (.istore 6, 2) := dk_54 6 (dk_at dksX6_nearestOf_0 13 rfl rfl)
theorem dX6_nearestOf_15 : decode cX6_nearestOf 15 = .ok (.iload 6, 2) := dk_21 6 (dk_at dksX6_nearestOf_0 15 rfl rfl)
theorem dX6_nearestOf_17 : decode cX6_nearestOf 17 = .ok (.ifCond .ne 10, 3) := dk_154 0 10 (dk_at dksX6_nearestOf_0 17 rfl rfl)
theorem dX6_nearestOf_20 : decode cX6_nearestOf 20 = .ok (.iload_n 1, 1) := dk_27 (dk_at dksX6_nearestOf_0 20 rfl rfl)
theorem dX6_nearestOf_21 : decode cX6_nearestOf 21 = .ok (.lconst 0, 1) := dk_9 (dk_at dksX6_nearestOf_0 21 rfl rfl)
theorem dX6_nearestOf_22 : decode cX6_nearestOf 22 = .ok (.iload_n 2, 1) := dk_28 (dk_at dksX6_nearestOf_0 22 rfl rfl)
theorem dX6_nearestOf_23 : decode cX6_nearestOf 23 = .ok (.invokestatic 110, 3) := dk_184 0 110 (dk_at dksX6_nearestOf_1 0 rfl rfl)
theorem dX6_nearestOf_26 : decode cX6_nearestOf 26 = .ok (.lreturn, 1) := dk_173 (dk_at dksX6_nearestOf_1 3 rfl rfl)
theorem dX6_nearestOf_27 : decode cX6_nearestOf 27 = .ok (.iload 6, 2) := dk_21 6 (dk_at dksX6_nearestOf_1 4 rfl rfl)
theorem dX6_nearestOf_29 : decode cX6_nearestOf 29 = .ok (.aload_n 0, 1) := dk_42 (dk_at dksX6_nearestOf_1 6 rfl rfl)
theorem dX6_nearestOf_30 : decode cX6_nearestOf 30 = .ok (.getfield 29, 3) := dk_180 0 29 (dk_at dksX6_nearestOf_1 7 rfl rfl)
theorem dX6_nearestOf_33 : decode cX6_nearestOf 33 = .ok (.invokestatic 106, 3) := dk_184 0 106 (dk_at dksX6_nearestOf_1 10 rfl rfl)
theorem dX6_nearestOf_36 : decode cX6_nearestOf 36 = .ok (.isub, 1) := dk_100 (dk_at dksX6_nearestOf_1 13 rfl rfl)
theorem dX6_nearestOf_37 : decode cX6_nearestOf 37 = .ok (.iload 5, 2) := dk_21 5 (dk_at dksX6_nearestOf_1 14 rfl rfl)
theorem dX6_nearestOf_39 : decode cX6_nearestOf 39 = .ok (.isub, 1) := dk_100 (dk_at dksX6_nearestOf_1 16 rfl rfl)
theorem dX6_nearestOf_40 : decode cX6_nearestOf 40 = .ok (.i2l, 1) := dk_133 (dk_at dksX6_nearestOf_1 17 rfl rfl)
theorem dX6_nearestOf_41 : decode cX6_nearestOf 41 = .ok (.lload_n 3, 1) := dk_33 (dk_at dksX6_nearestOf_1 18 rfl rfl)
theorem dX6_nearestOf_42 : decode cX6_nearestOf 42 = .ok (.ladd, 1) := dk_97 (dk_at dksX6_nearestOf_1 19 rfl rfl)
theorem dX6_nearestOf_43 : decode cX6_nearestOf 43 = .ok (.lstore 7, 2) := dk_55 7 (dk_at dksX6_nearestOf_1 20 rfl rfl)
theorem dX6_nearestOf_45 : decode cX6_nearestOf 45 = .ok (.lload 7, 2) := dk_22 7 (dk_at dksX6_nearestOf_1 22 rfl rfl)
theorem dX6_nearestOf_47 : decode cX6_nearestOf 47 = .ok (.ldc2_w 114, 3) := dk_20 0 114 (dk_at dksX6_nearestOf_2 0 rfl rfl)
theorem dX6_nearestOf_50 : decode cX6_nearestOf 50 = .ok (.lcmp, 1) := dk_148 (dk_at dksX6_nearestOf_2 3 rfl rfl)
theorem dX6_nearestOf_51 : decode cX6_nearestOf 51 = .ok (.ifCond .le 13, 3) := dk_158 0 13 (dk_at dksX6_nearestOf_2 4 rfl rfl)
theorem dX6_nearestOf_54 : decode cX6_nearestOf 54 = .ok (.iload_n 1, 1) := dk_27 (dk_at dksX6_nearestOf_2 7 rfl rfl)
theorem dX6_nearestOf_55 : decode cX6_nearestOf 55 = .ok (.iload_n 1, 1) := dk_27 (dk_at dksX6_nearestOf_2 8 rfl rfl)
theorem dX6_nearestOf_56 : decode cX6_nearestOf 56 = .ok (.invokestatic 116, 3) := dk_184 0 116 (dk_at dksX6_nearestOf_2 9 rfl rfl)
theorem dX6_nearestOf_59 : decode cX6_nearestOf 59 = .ok (.iload_n 2, 1) := dk_28 (dk_at dksX6_nearestOf_2 12 rfl rfl)
theorem dX6_nearestOf_60 : decode cX6_nearestOf 60 = .ok (.invokestatic 110, 3) := dk_184 0 110 (dk_at dksX6_nearestOf_2 13 rfl rfl)
theorem dX6_nearestOf_63 : decode cX6_nearestOf 63 = .ok (.lreturn, 1) := dk_173 (dk_at dksX6_nearestOf_2 16 rfl rfl)
theorem dX6_nearestOf_64 : decode cX6_nearestOf 64 = .ok (.lload 7, 2) := dk_22 7 (dk_at dksX6_nearestOf_2 17 rfl rfl)
theorem dX6_nearestOf_66 : decode cX6_nearestOf 66 = .ok (.ldc2_w 119, 3) := dk_20 0 119 (dk_at dksX6_nearestOf_2 19 rfl rfl)
theorem dX6_nearestOf_69 : decode cX6_nearestOf 69 = .ok (.lcmp, 1) := dk_148 (dk_at dksX6_nearestOf_2 22 rfl rfl)
theorem dX6_nearestOf_70 : decode cX6_nearestOf 70 = .ok (.ifCond .ge 10, 3) := dk_156 0 10 (dk_at dksX6_nearestOf_3 0 rfl rfl)
theorem dX6_nearestOf_73 : decode cX6_nearestOf 73 = .ok (.iload_n 1, 1) := dk_27 (dk_at dksX6_nearestOf_3 3 rfl rfl)
theorem dX6_nearestOf_74 : decode cX6_nearestOf 74 = .ok (.lconst 0, 1) := dk_9 (dk_at dksX6_nearestOf_3 4 rfl rfl)
theorem dX6_nearestOf_75 : decode cX6_nearestOf 75 = .ok (.iload_n 2, 1) := dk_28 (dk_at dksX6_nearestOf_3 5 rfl rfl)
theorem dX6_nearestOf_76 : decode cX6_nearestOf 76 = .ok (.invokestatic 110, 3) := dk_184 0 110 (dk_at dksX6_nearestOf_3 6 rfl rfl)
theorem dX6_nearestOf_79 : decode cX6_nearestOf 79 = .ok (.lreturn, 1) := dk_173 (dk_at dksX6_nearestOf_3 9 rfl rfl)
theorem dX6_nearestOf_80 : decode cX6_nearestOf 80 = .ok (.lload 7, 2) := dk_22 7 (dk_at dksX6_nearestOf_3 10 rfl rfl)
theorem dX6_nearestOf_82 : decode cX6_nearestOf 82 = .ok (.l2i, 1) := dk_136 (dk_at dksX6_nearestOf_3 12 rfl rfl)
theorem dX6_nearestOf_83 : decode cX6_nearestOf 83 = .ok (.iload_n 1, 1) := dk_27 (dk_at dksX6_nearestOf_3 13 rfl rfl)
theorem dX6_nearestOf_84 : decode cX6_nearestOf 84 = .ok (.invokestatic 81, 3) := dk_184 0 81 (dk_at dksX6_nearestOf_3 14 rfl rfl)
theorem dX6_nearestOf_87 : decode cX6_nearestOf 87 = .ok (.if_icmp .ge 10, 3) := dk_162 0 10 (dk_at dksX6_nearestOf_3 17 rfl rfl)
theorem dX6_nearestOf_90 : decode cX6_nearestOf 90 = .ok (.iload_n 1, 1) := dk_27 (dk_at dksX6_nearestOf_3 20 rfl rfl)
theorem dX6_nearestOf_91 : decode cX6_nearestOf 91 = .ok (.invokestatic 81, 3) := dk_184 0 81 (dk_at dksX6_nearestOf_3 21 rfl rfl)
theorem dX6_nearestOf_94 : decode cX6_nearestOf 94 = .ok (.goto 6, 3) := dk_167 0 6 (dk_at dksX6_nearestOf_4 0 rfl rfl)
theorem dX6_nearestOf_97 : decode cX6_nearestOf 97 = .ok (.lload 7, 2) := dk_22 7 (dk_at dksX6_nearestOf_4 3 rfl rfl)
theorem dX6_nearestOf_99 : decode cX6_nearestOf 99 = .ok (.l2i, 1) := dk_136 (dk_at dksX6_nearestOf_4 5 rfl rfl)
theorem dX6_nearestOf_100 : decode cX6_nearestOf 100 = .ok (.istore 9, 2) := dk_54 9 (dk_at dksX6_nearestOf_4 6 rfl rfl)
theorem dX6_nearestOf_102 : decode cX6_nearestOf 102 = .ok (.iload 9, 2) := dk_21 9 (dk_at dksX6_nearestOf_4 8 rfl rfl)
theorem dX6_nearestOf_104 : decode cX6_nearestOf 104 = .ok (.i2l, 1) := dk_133 (dk_at dksX6_nearestOf_4 10 rfl rfl)
theorem dX6_nearestOf_105 : decode cX6_nearestOf 105 = .ok (.lload_n 3, 1) := dk_33 (dk_at dksX6_nearestOf_4 11 rfl rfl)
theorem dX6_nearestOf_106 : decode cX6_nearestOf 106 = .ok (.lsub, 1) := dk_101 (dk_at dksX6_nearestOf_4 12 rfl rfl)
theorem dX6_nearestOf_107 : decode cX6_nearestOf 107 = .ok (.lstore 10, 2) := dk_55 10 (dk_at dksX6_nearestOf_4 13 rfl rfl)
theorem dX6_nearestOf_109 : decode cX6_nearestOf 109 = .ok (.lload 10, 2) := dk_22 10 (dk_at dksX6_nearestOf_4 15 rfl rfl)
theorem dX6_nearestOf_111 : decode cX6_nearestOf 111 = .ok (.lconst 0, 1) := dk_9 (dk_at dksX6_nearestOf_4 17 rfl rfl)
theorem dX6_nearestOf_112 : decode cX6_nearestOf 112 = .ok (.lcmp, 1) := dk_148 (dk_at dksX6_nearestOf_4 18 rfl rfl)
theorem dX6_nearestOf_113 : decode cX6_nearestOf 113 = .ok (.ifCond .lt 16, 3) := dk_155 0 16 (dk_at dksX6_nearestOf_4 19 rfl rfl)
theorem dX6_nearestOf_116 : decode cX6_nearestOf 116 = .ok (.aload_n 0, 1) := dk_42 (dk_at dksX6_nearestOf_4 22 rfl rfl)
theorem dX6_nearestOf_117 : decode cX6_nearestOf 117 = .ok (.getfield 29, 3) := dk_180 0 29 (dk_at dksX6_nearestOf_5 0 rfl rfl)
theorem dX6_nearestOf_120 : decode cX6_nearestOf 120 = .ok (.lload 10, 2) := dk_22 10 (dk_at dksX6_nearestOf_5 3 rfl rfl)
theorem dX6_nearestOf_122 : decode cX6_nearestOf 122 = .ok (.l2i, 1) := dk_136 (dk_at dksX6_nearestOf_5 5 rfl rfl)
theorem dX6_nearestOf_123 : decode cX6_nearestOf 123 = .ok (.invokestatic 121, 3) := dk_184 0 121 (dk_at dksX6_nearestOf_5 6 rfl rfl)
theorem dX6_nearestOf_126 : decode cX6_nearestOf 126 = .ok (.goto 14, 3) := dk_167 0 14 (dk_at dksX6_nearestOf_5 9 rfl rfl)
theorem dX6_nearestOf_129 : decode cX6_nearestOf 129 = .ok (.aload_n 0, 1) := dk_42 (dk_at dksX6_nearestOf_5 12 rfl rfl)
theorem dX6_nearestOf_130 : decode cX6_nearestOf 130 = .ok (.getfield 26, 3) := dk_180 0 26 (dk_at dksX6_nearestOf_5 13 rfl rfl)
theorem dX6_nearestOf_133 : decode cX6_nearestOf 133 = .ok (.lload 10, 2) := dk_22 10 (dk_at dksX6_nearestOf_5 16 rfl rfl)
theorem dX6_nearestOf_135 : decode cX6_nearestOf 135 = .ok (.lneg, 1) := dk_117 (dk_at dksX6_nearestOf_5 18 rfl rfl)
theorem dX6_nearestOf_136 : decode cX6_nearestOf 136 = .ok (.l2i, 1) := dk_136 (dk_at dksX6_nearestOf_5 19 rfl rfl)
theorem dX6_nearestOf_137 : decode cX6_nearestOf 137 = .ok (.invokestatic 121, 3) := dk_184 0 121 (dk_at dksX6_nearestOf_5 20 rfl rfl)
theorem dX6_nearestOf_140 : decode cX6_nearestOf 140 = .ok (.aload_n 0, 1) := dk_42 (dk_at dksX6_nearestOf_5 23 rfl rfl)
theorem dX6_nearestOf_141 : decode cX6_nearestOf 141 = .ok (.getfield 29, 3) := dk_180 0 29 (dk_at dksX6_nearestOf_6 0 rfl rfl)
theorem dX6_nearestOf_144 : decode cX6_nearestOf 144 = .ok (.aload_n 0, 1) := dk_42 (dk_at dksX6_nearestOf_6 3 rfl rfl)
theorem dX6_nearestOf_145 : decode cX6_nearestOf 145 = .ok (.getfield 32, 3) := dk_180 0 32 (dk_at dksX6_nearestOf_6 4 rfl rfl)
theorem dX6_nearestOf_148 : decode cX6_nearestOf 148 = .ok (.invokestatic 125, 3) := dk_184 0 125 (dk_at dksX6_nearestOf_6 7 rfl rfl)
theorem dX6_nearestOf_151 : decode cX6_nearestOf 151 = .ok (.aload_n 0, 1) := dk_42 (dk_at dksX6_nearestOf_6 10 rfl rfl)
theorem dX6_nearestOf_152 : decode cX6_nearestOf 152 = .ok (.getfield 32, 3) := dk_180 0 32 (dk_at dksX6_nearestOf_6 11 rfl rfl)
theorem dX6_nearestOf_155 : decode cX6_nearestOf 155 = .ok (.iload 5, 2) := dk_21 5 (dk_at dksX6_nearestOf_6 14 rfl rfl)
theorem dX6_nearestOf_157 : decode cX6_nearestOf 157 = .ok (.invokestatic 121, 3) := dk_184 0 121 (dk_at dksX6_nearestOf_6 16 rfl rfl)
theorem dX6_nearestOf_160 : decode cX6_nearestOf 160 = .ok (.aload_n 0, 1) := dk_42 (dk_at dksX6_nearestOf_6 19 rfl rfl)
theorem dX6_nearestOf_161 : decode cX6_nearestOf 161 = .ok (.getfield 26, 3) := dk_180 0 26 (dk_at dksX6_nearestOf_6 20 rfl rfl)
theorem dX6_nearestOf_164 : decode cX6_nearestOf 164 = .ok (.aload_n 0, 1) := dk_42 (dk_at dksX6_nearestOf_6 23 rfl rfl)
theorem dX6_nearestOf_165 : decode cX6_nearestOf 165 = .ok (.getfield 32, 3) := dk_180 0 32 (dk_at dksX6_nearestOf_7 0 rfl rfl)
theorem dX6_nearestOf_168 : decode cX6_nearestOf 168 = .ok (.invokestatic 129, 3) := dk_184 0 129 (dk_at dksX6_nearestOf_7 3 rfl rfl)
theorem dX6_nearestOf_171 : decode cX6_nearestOf 171 = .ok (.ifCond .lt 14, 3) := dk_155 0 14 (dk_at dksX6_nearestOf_7 6 rfl rfl)
theorem dX6_nearestOf_174 : decode cX6_nearestOf 174 = .ok (.aload_n 0, 1) := dk_42 (dk_at dksX6_nearestOf_7 9 rfl rfl)
theorem dX6_nearestOf_175 : decode cX6_nearestOf 175 = .ok (.getfield 29, 3) := dk_180 0 29 (dk_at dksX6_nearestOf_7 10 rfl rfl)
theorem dX6_nearestOf_178 : decode cX6_nearestOf 178 = .ok (.iconst 1, 1) := dk_4 (dk_at dksX6_nearestOf_7 13 rfl rfl)
theorem dX6_nearestOf_179 : decode cX6_nearestOf 179 = .ok (.invokestatic 121, 3) := dk_184 0 121 (dk_at dksX6_nearestOf_7 14 rfl rfl)
theorem dX6_nearestOf_182 : decode cX6_nearestOf 182 = .ok (.iinc 9 1, 3) := dk_132 9 1 (dk_at dksX6_nearestOf_7 17 rfl rfl)
theorem dX6_nearestOf_185 : decode cX6_nearestOf 185 = .ok (.aload_n 0, 1) := dk_42 (dk_at dksX6_nearestOf_7 20 rfl rfl)
theorem dX6_nearestOf_186 : decode cX6_nearestOf 186 = .ok (.getfield 29, 3) := dk_180 0 29 (dk_at dksX6_nearestOf_7 21 rfl rfl)
theorem dX6_nearestOf_189 : decode cX6_nearestOf 189 = .ok (.aload_n 0, 1) := dk_42 (dk_at dksX6_nearestOf_8 0 rfl rfl)
theorem dX6_nearestOf_190 : decode cX6_nearestOf 190 = .ok (.getfield 32, 3) := dk_180 0 32 (dk_at dksX6_nearestOf_8 1 rfl rfl)
theorem dX6_nearestOf_193 : decode cX6_nearestOf 193 = .ok (.invokestatic 125, 3) := dk_184 0 125 (dk_at dksX6_nearestOf_8 4 rfl rfl)
theorem dX6_nearestOf_196 : decode cX6_nearestOf 196 = .ok (.aload_n 0, 1) := dk_42 (dk_at dksX6_nearestOf_8 7 rfl rfl)
theorem dX6_nearestOf_197 : decode cX6_nearestOf 197 = .ok (.getfield 32, 3) := dk_180 0 32 (dk_at dksX6_nearestOf_8 8 rfl rfl)
theorem dX6_nearestOf_200 : decode cX6_nearestOf 200 = .ok (.iload 5, 2) := dk_21 5 (dk_at dksX6_nearestOf_8 11 rfl rfl)
theorem dX6_nearestOf_202 : decode cX6_nearestOf 202 = .ok (.invokestatic 121, 3) := dk_184 0 121 (dk_at dksX6_nearestOf_8 13 rfl rfl)
theorem dX6_nearestOf_205 : decode cX6_nearestOf 205 = .ok (.lconst 0, 1) := dk_9 (dk_at dksX6_nearestOf_8 16 rfl rfl)
theorem dX6_nearestOf_206 : decode cX6_nearestOf 206 = .ok (.lstore 12, 2) := dk_55 12 (dk_at dksX6_nearestOf_8 17 rfl rfl)
theorem dX6_nearestOf_208 : decode cX6_nearestOf 208 = .ok (.iload 5, 2) := dk_21 5 (dk_at dksX6_nearestOf_8 19 rfl rfl)
theorem dX6_nearestOf_210 : decode cX6_nearestOf 210 = .ok (.istore 14, 2) := dk_54 14 (dk_at dksX6_nearestOf_8 21 rfl rfl)
theorem dX6_nearestOf_212 : decode cX6_nearestOf 212 = .ok (.iload 14, 2) := dk_21 14 (dk_at dksX6_nearestOf_9 0 rfl rfl)
theorem dX6_nearestOf_214 : decode cX6_nearestOf 214 = .ok (.ifCond .lt 50, 3) := dk_155 0 50 (dk_at dksX6_nearestOf_9 2 rfl rfl)
theorem dX6_nearestOf_217 : decode cX6_nearestOf 217 = .ok (.aload_n 0, 1) := dk_42 (dk_at dksX6_nearestOf_9 5 rfl rfl)
theorem dX6_nearestOf_218 : decode cX6_nearestOf 218 = .ok (.getfield 26, 3) := dk_180 0 26 (dk_at dksX6_nearestOf_9 6 rfl rfl)
theorem dX6_nearestOf_221 : decode cX6_nearestOf 221 = .ok (.aload_n 0, 1) := dk_42 (dk_at dksX6_nearestOf_9 9 rfl rfl)
theorem dX6_nearestOf_222 : decode cX6_nearestOf 222 = .ok (.getfield 32, 3) := dk_180 0 32 (dk_at dksX6_nearestOf_9 10 rfl rfl)
theorem dX6_nearestOf_225 : decode cX6_nearestOf 225 = .ok (.invokestatic 129, 3) := dk_184 0 129 (dk_at dksX6_nearestOf_9 13 rfl rfl)
theorem dX6_nearestOf_228 : decode cX6_nearestOf 228 = .ok (.ifCond .lt 23, 3) := dk_155 0 23 (dk_at dksX6_nearestOf_9 16 rfl rfl)
theorem dX6_nearestOf_231 : decode cX6_nearestOf 231 = .ok (.aload_n 0, 1) := dk_42 (dk_at dksX6_nearestOf_9 19 rfl rfl)
theorem dX6_nearestOf_232 : decode cX6_nearestOf 232 = .ok (.getfield 26, 3) := dk_180 0 26 (dk_at dksX6_nearestOf_9 20 rfl rfl)
theorem dX6_nearestOf_235 : decode cX6_nearestOf 235 = .ok (.aload_n 0, 1) := dk_42 (dk_at dksX6_nearestOf_9 23 rfl rfl)
theorem dX6_nearestOf_236 : decode cX6_nearestOf 236 = .ok (.getfield 32, 3) := dk_180 0 32 (dk_at dksX6_nearestOf_10 0 rfl rfl)
theorem dX6_nearestOf_239 : decode cX6_nearestOf 239 = .ok (.invokestatic 133, 3) := dk_184 0 133 (dk_at dksX6_nearestOf_10 3 rfl rfl)
theorem dX6_nearestOf_242 : decode cX6_nearestOf 242 = .ok (.lload 12, 2) := dk_22 12 (dk_at dksX6_nearestOf_10 6 rfl rfl)
theorem dX6_nearestOf_244 : decode cX6_nearestOf 244 = .ok (.lconst 1, 1) := dk_10 (dk_at dksX6_nearestOf_10 8 rfl rfl)
theorem dX6_nearestOf_245 : decode cX6_nearestOf 245 = .ok (.iload 14, 2) := dk_21 14 (dk_at dksX6_nearestOf_10 9 rfl rfl)
theorem dX6_nearestOf_247 : decode cX6_nearestOf 247 = .ok (.lshl, 1) := dk_121 (dk_at dksX6_nearestOf_10 11 rfl rfl)
theorem dX6_nearestOf_248 : decode cX6_nearestOf 248 = .ok (.lor, 1) := dk_129 (dk_at dksX6_nearestOf_10 12 rfl rfl)
theorem dX6_nearestOf_249 : decode cX6_nearestOf 249 = .ok (.lstore 12, 2) := dk_55 12 (dk_at dksX6_nearestOf_10 13 rfl rfl)
theorem dX6_nearestOf_251 : decode cX6_nearestOf 251 = .ok (.aload_n 0, 1) := dk_42 (dk_at dksX6_nearestOf_10 15 rfl rfl)
theorem dX6_nearestOf_252 : decode cX6_nearestOf 252 = .ok (.getfield 32, 3) := dk_180 0 32 (dk_at dksX6_nearestOf_10 16 rfl rfl)
theorem dX6_nearestOf_255 : decode cX6_nearestOf 255 = .ok (.invokestatic 136, 3) := dk_184 0 136 (dk_at dksX6_nearestOf_10 19 rfl rfl)
theorem dX6_nearestOf_258 : decode cX6_nearestOf 258 = .ok (.iinc 14 (-1), 3) := dk_132 14 255 (dk_at dksX6_nearestOf_11 0 rfl rfl)
theorem dX6_nearestOf_261 : decode cX6_nearestOf 261 = .ok (.goto (-49), 3) := dk_167 255 207 (dk_at dksX6_nearestOf_11 3 rfl rfl)
theorem dX6_nearestOf_264 : decode cX6_nearestOf 264 = .ok (.aload_n 0, 1) := dk_42 (dk_at dksX6_nearestOf_11 6 rfl rfl)
theorem dX6_nearestOf_265 : decode cX6_nearestOf 265 = .ok (.getfield 26, 3) := dk_180 0 26 (dk_at dksX6_nearestOf_11 7 rfl rfl)
theorem dX6_nearestOf_268 : decode cX6_nearestOf 268 = .ok (.iconst 1, 1) := dk_4 (dk_at dksX6_nearestOf_11 10 rfl rfl)
theorem dX6_nearestOf_269 : decode cX6_nearestOf 269 = .ok (.invokestatic 121, 3) := dk_184 0 121 (dk_at dksX6_nearestOf_11 11 rfl rfl)
theorem dX6_nearestOf_272 : decode cX6_nearestOf 272 = .ok (.aload_n 0, 1) := dk_42 (dk_at dksX6_nearestOf_11 14 rfl rfl)
theorem dX6_nearestOf_273 : decode cX6_nearestOf 273 = .ok (.getfield 26, 3) := dk_180 0 26 (dk_at dksX6_nearestOf_11 15 rfl rfl)
theorem dX6_nearestOf_276 : decode cX6_nearestOf 276 = .ok (.aload_n 0, 1) := dk_42 (dk_at dksX6_nearestOf_11 18 rfl rfl)
theorem dX6_nearestOf_277 : decode cX6_nearestOf 277 = .ok (.getfield 29, 3) := dk_180 0 29 (dk_at dksX6_nearestOf_11 19 rfl rfl)
theorem dX6_nearestOf_280 : decode cX6_nearestOf 280 = .ok (.invokestatic 129, 3) := dk_184 0 129 (dk_at dksX6_nearestOf_12 0 rfl rfl)
theorem dX6_nearestOf_283 : decode cX6_nearestOf 283 = .ok (.istore 14, 2) := dk_54 14 (dk_at dksX6_nearestOf_12 3 rfl rfl)
theorem dX6_nearestOf_285 : decode cX6_nearestOf 285 = .ok (.lload 12, 2) := dk_22 12 (dk_at dksX6_nearestOf_12 5 rfl rfl)
theorem dX6_nearestOf_287 : decode cX6_nearestOf 287 = .ok (.iload 14, 2) := dk_21 14 (dk_at dksX6_nearestOf_12 7 rfl rfl)
theorem dX6_nearestOf_289 : decode cX6_nearestOf 289 = .ok (.ifCond .gt 17, 3) := dk_157 0 17 (dk_at dksX6_nearestOf_12 9 rfl rfl)
theorem dX6_nearestOf_292 : decode cX6_nearestOf 292 = .ok (.iload 14, 2) := dk_21 14 (dk_at dksX6_nearestOf_12 12 rfl rfl)
theorem dX6_nearestOf_294 : decode cX6_nearestOf 294 = .ok (.ifCond .ne 16, 3) := dk_154 0 16 (dk_at dksX6_nearestOf_12 14 rfl rfl)
theorem dX6_nearestOf_297 : decode cX6_nearestOf 297 = .ok (.lload 12, 2) := dk_22 12 (dk_at dksX6_nearestOf_12 17 rfl rfl)
theorem dX6_nearestOf_299 : decode cX6_nearestOf 299 = .ok (.lconst 1, 1) := dk_10 (dk_at dksX6_nearestOf_12 19 rfl rfl)
theorem dX6_nearestOf_300 : decode cX6_nearestOf 300 = .ok (.land, 1) := dk_127 (dk_at dksX6_nearestOf_12 20 rfl rfl)
theorem dX6_nearestOf_301 : decode cX6_nearestOf 301 = .ok (.lconst 1, 1) := dk_10 (dk_at dksX6_nearestOf_12 21 rfl rfl)
theorem dX6_nearestOf_302 : decode cX6_nearestOf 302 = .ok (.lcmp, 1) := dk_148 (dk_at dksX6_nearestOf_12 22 rfl rfl)
theorem dX6_nearestOf_303 : decode cX6_nearestOf 303 = .ok (.ifCond .ne 7, 3) := dk_154 0 7 (dk_at dksX6_nearestOf_13 0 rfl rfl)
theorem dX6_nearestOf_306 : decode cX6_nearestOf 306 = .ok (.lconst 1, 1) := dk_10 (dk_at dksX6_nearestOf_13 3 rfl rfl)
theorem dX6_nearestOf_307 : decode cX6_nearestOf 307 = .ok (.goto 4, 3) := dk_167 0 4 (dk_at dksX6_nearestOf_13 4 rfl rfl)
theorem dX6_nearestOf_310 : decode cX6_nearestOf 310 = .ok (.lconst 0, 1) := dk_9 (dk_at dksX6_nearestOf_13 7 rfl rfl)
theorem dX6_nearestOf_311 : decode cX6_nearestOf 311 = .ok (.ladd, 1) := dk_97 (dk_at dksX6_nearestOf_13 8 rfl rfl)
theorem dX6_nearestOf_312 : decode cX6_nearestOf 312 = .ok (.lstore 12, 2) := dk_55 12 (dk_at dksX6_nearestOf_13 9 rfl rfl)
theorem dX6_nearestOf_314 : decode cX6_nearestOf 314 = .ok (.lload 12, 2) := dk_22 12 (dk_at dksX6_nearestOf_13 11 rfl rfl)
theorem dX6_nearestOf_316 : decode cX6_nearestOf 316 = .ok (.lconst 1, 1) := dk_10 (dk_at dksX6_nearestOf_13 13 rfl rfl)
theorem dX6_nearestOf_317 : decode cX6_nearestOf 317 = .ok (.iload 5, 2) := dk_21 5 (dk_at dksX6_nearestOf_13 14 rfl rfl)
theorem dX6_nearestOf_319 : decode cX6_nearestOf 319 = .ok (.lshl, 1) := dk_121 (dk_at dksX6_nearestOf_13 16 rfl rfl)
theorem dX6_nearestOf_320 : decode cX6_nearestOf 320 = .ok (.lcmp, 1) := dk_148 (dk_at dksX6_nearestOf_13 17 rfl rfl)
theorem dX6_nearestOf_321 : decode cX6_nearestOf 321 = .ok (.ifCond .ne 12, 3) := dk_154 0 12 (dk_at dksX6_nearestOf_13 18 rfl rfl)
theorem dX6_nearestOf_324 : decode cX6_nearestOf 324 = .ok (.lload 12, 2) := dk_22 12 (dk_at dksX6_nearestOf_13 21 rfl rfl)
theorem dX6_nearestOf_326 : decode cX6_nearestOf 326 = .ok (.iconst 1, 1) := dk_4 (dk_at dksX6_nearestOf_13 23 rfl rfl)
theorem dX6_nearestOf_327 : decode cX6_nearestOf 327 = .ok (.lshr, 1) := dk_123 (dk_at dksX6_nearestOf_14 0 rfl rfl)
theorem dX6_nearestOf_328 : decode cX6_nearestOf 328 = .ok (.lstore 12, 2) := dk_55 12 (dk_at dksX6_nearestOf_14 1 rfl rfl)
theorem dX6_nearestOf_330 : decode cX6_nearestOf 330 = .ok (.iinc 9 1, 3) := dk_132 9 1 (dk_at dksX6_nearestOf_14 3 rfl rfl)
theorem dX6_nearestOf_333 : decode cX6_nearestOf 333 = .ok (.lload 12, 2) := dk_22 12 (dk_at dksX6_nearestOf_14 6 rfl rfl)
theorem dX6_nearestOf_335 : decode cX6_nearestOf 335 = .ok (.lconst 1, 1) := dk_10 (dk_at dksX6_nearestOf_14 8 rfl rfl)
theorem dX6_nearestOf_336 : decode cX6_nearestOf 336 = .ok (.iload 5, 2) := dk_21 5 (dk_at dksX6_nearestOf_14 9 rfl rfl)
theorem dX6_nearestOf_338 : decode cX6_nearestOf 338 = .ok (.iconst 1, 1) := dk_4 (dk_at dksX6_nearestOf_14 11 rfl rfl)
theorem dX6_nearestOf_339 : decode cX6_nearestOf 339 = .ok (.isub, 1) := dk_100 (dk_at dksX6_nearestOf_14 12 rfl rfl)
theorem dX6_nearestOf_340 : decode cX6_nearestOf 340 = .ok (.lshl, 1) := dk_121 (dk_at dksX6_nearestOf_14 13 rfl rfl)
theorem dX6_nearestOf_341 : decode cX6_nearestOf 341 = .ok (.lcmp, 1) := dk_148 (dk_at dksX6_nearestOf_14 14 rfl rfl)
theorem dX6_nearestOf_342 : decode cX6_nearestOf 342 = .ok (.ifCond .ge 11, 3) := dk_156 0 11 (dk_at dksX6_nearestOf_14 15 rfl rfl)
theorem dX6_nearestOf_345 : decode cX6_nearestOf 345 = .ok (.iload_n 1, 1) := dk_27 (dk_at dksX6_nearestOf_14 18 rfl rfl)
theorem dX6_nearestOf_346 : decode cX6_nearestOf 346 = .ok (.lload 12, 2) := dk_22 12 (dk_at dksX6_nearestOf_14 19 rfl rfl)
theorem dX6_nearestOf_348 : decode cX6_nearestOf 348 = .ok (.iload_n 2, 1) := dk_28 (dk_at dksX6_nearestOf_14 21 rfl rfl)
theorem dX6_nearestOf_349 : decode cX6_nearestOf 349 = .ok (.invokestatic 110, 3) := dk_184 0 110 (dk_at dksX6_nearestOf_15 0 rfl rfl)
theorem dX6_nearestOf_352 : decode cX6_nearestOf 352 = .ok (.lreturn, 1) := dk_173 (dk_at dksX6_nearestOf_15 3 rfl rfl)
theorem dX6_nearestOf_353 : decode cX6_nearestOf 353 = .ok (.iload 9, 2) := dk_21 9 (dk_at dksX6_nearestOf_15 4 rfl rfl)
theorem dX6_nearestOf_355 : decode cX6_nearestOf 355 = .ok (.iload_n 1, 1) := dk_27 (dk_at dksX6_nearestOf_15 6 rfl rfl)
theorem dX6_nearestOf_356 : decode cX6_nearestOf 356 = .ok (.invokestatic 81, 3) := dk_184 0 81 (dk_at dksX6_nearestOf_15 7 rfl rfl)
theorem dX6_nearestOf_359 : decode cX6_nearestOf 359 = .ok (.isub, 1) := dk_100 (dk_at dksX6_nearestOf_15 10 rfl rfl)
theorem dX6_nearestOf_360 : decode cX6_nearestOf 360 = .ok (.i2l, 1) := dk_133 (dk_at dksX6_nearestOf_15 11 rfl rfl)
theorem dX6_nearestOf_361 : decode cX6_nearestOf 361 = .ok (.lconst 1, 1) := dk_10 (dk_at dksX6_nearestOf_15 12 rfl rfl)
theorem dX6_nearestOf_362 : decode cX6_nearestOf 362 = .ok (.ladd, 1) := dk_97 (dk_at dksX6_nearestOf_15 13 rfl rfl)
theorem dX6_nearestOf_363 : decode cX6_nearestOf 363 = .ok (.lstore 15, 2) := dk_55 15 (dk_at dksX6_nearestOf_15 14 rfl rfl)
theorem dX6_nearestOf_365 : decode cX6_nearestOf 365 = .ok (.lload 15, 2) := dk_22 15 (dk_at dksX6_nearestOf_15 16 rfl rfl)
theorem dX6_nearestOf_367 : decode cX6_nearestOf 367 = .ok (.iload_n 1, 1) := dk_27 (dk_at dksX6_nearestOf_15 18 rfl rfl)
theorem dX6_nearestOf_368 : decode cX6_nearestOf 368 = .ok (.ifCond .ne 9, 3) := dk_154 0 9 (dk_at dksX6_nearestOf_15 19 rfl rfl)
theorem dX6_nearestOf_371 : decode cX6_nearestOf 371 = .ok (.ldc2_w 139, 3) := dk_20 0 139 (dk_at dksX6_nearestOf_16 0 rfl rfl)
theorem dX6_nearestOf_374 : decode cX6_nearestOf 374 = .ok (.goto 6, 3) := dk_167 0 6 (dk_at dksX6_nearestOf_16 3 rfl rfl)
theorem dX6_nearestOf_377 : decode cX6_nearestOf 377 = .ok (.ldc2_w 141, 3) := dk_20 0 141 (dk_at dksX6_nearestOf_16 6 rfl rfl)
theorem dX6_nearestOf_380 : decode cX6_nearestOf 380 = .ok (.lcmp, 1) := dk_148 (dk_at dksX6_nearestOf_16 9 rfl rfl)
theorem dX6_nearestOf_381 : decode cX6_nearestOf 381 = .ok (.ifCond .lt 13, 3) := dk_155 0 13 (dk_at dksX6_nearestOf_16 10 rfl rfl)
theorem dX6_nearestOf_384 : decode cX6_nearestOf 384 = .ok (.iload_n 1, 1) := dk_27 (dk_at dksX6_nearestOf_16 13 rfl rfl)
theorem dX6_nearestOf_385 : decode cX6_nearestOf 385 = .ok (.iload_n 1, 1) := dk_27 (dk_at dksX6_nearestOf_16 14 rfl rfl)
theorem dX6_nearestOf_386 : decode cX6_nearestOf 386 = .ok (.invokestatic 116, 3) := dk_184 0 116 (dk_at dksX6_nearestOf_16 15 rfl rfl)
theorem dX6_nearestOf_389 : decode cX6_nearestOf 389 = .ok (.iload_n 2, 1) := dk_28 (dk_at dksX6_nearestOf_16 18 rfl rfl)
theorem dX6_nearestOf_390 : decode cX6_nearestOf 390 = .ok (.invokestatic 110, 3) := dk_184 0 110 (dk_at dksX6_nearestOf_16 19 rfl rfl)
theorem dX6_nearestOf_393 : decode cX6_nearestOf 393 = .ok (.lreturn, 1) := dk_173 (dk_at dksX6_nearestOf_16 22 rfl rfl)
theorem dX6_nearestOf_394 : decode cX6_nearestOf 394 = .ok (.iload_n 1, 1) := dk_27 (dk_at dksX6_nearestOf_16 23 rfl rfl)
theorem dX6_nearestOf_395 : decode cX6_nearestOf 395 = .ok (.lload 15, 2) := dk_22 15 (dk_at dksX6_nearestOf_17 0 rfl rfl)
theorem dX6_nearestOf_397 : decode cX6_nearestOf 397 = .ok (.iload 5, 2) := dk_21 5 (dk_at dksX6_nearestOf_17 2 rfl rfl)
theorem dX6_nearestOf_399 : decode cX6_nearestOf 399 = .ok (.iconst 1, 1) := dk_4 (dk_at dksX6_nearestOf_17 4 rfl rfl)
theorem dX6_nearestOf_400 : decode cX6_nearestOf 400 = .ok (.isub, 1) := dk_100 (dk_at dksX6_nearestOf_17 5 rfl rfl)
theorem dX6_nearestOf_401 : decode cX6_nearestOf 401 = .ok (.lshl, 1) := dk_121 (dk_at dksX6_nearestOf_17 6 rfl rfl)
theorem dX6_nearestOf_402 : decode cX6_nearestOf 402 = .ok (.lload 12, 2) := dk_22 12 (dk_at dksX6_nearestOf_17 7 rfl rfl)
theorem dX6_nearestOf_404 : decode cX6_nearestOf 404 = .ok (.lconst 1, 1) := dk_10 (dk_at dksX6_nearestOf_17 9 rfl rfl)
theorem dX6_nearestOf_405 : decode cX6_nearestOf 405 = .ok (.iload 5, 2) := dk_21 5 (dk_at dksX6_nearestOf_17 10 rfl rfl)
theorem dX6_nearestOf_407 : decode cX6_nearestOf 407 = .ok (.iconst 1, 1) := dk_4 (dk_at dksX6_nearestOf_17 12 rfl rfl)
theorem dX6_nearestOf_408 : decode cX6_nearestOf 408 = .ok (.isub, 1) := dk_100 (dk_at dksX6_nearestOf_17 13 rfl rfl)
theorem dX6_nearestOf_409 : decode cX6_nearestOf 409 = .ok (.lshl, 1) := dk_121 (dk_at dksX6_nearestOf_17 14 rfl rfl)
theorem dX6_nearestOf_410 : decode cX6_nearestOf 410 = .ok (.lsub, 1) := dk_101 (dk_at dksX6_nearestOf_17 15 rfl rfl)
theorem dX6_nearestOf_411 : decode cX6_nearestOf 411 = .ok (.lor, 1) := dk_129 (dk_at dksX6_nearestOf_17 16 rfl rfl)
theorem dX6_nearestOf_412 : decode cX6_nearestOf 412 = .ok (.iload_n 2, 1) := dk_28 (dk_at dksX6_nearestOf_17 17 rfl rfl)
theorem dX6_nearestOf_413 : decode cX6_nearestOf 413 = .ok (.invokestatic 110, 3) := dk_184 0 110 (dk_at dksX6_nearestOf_17 18 rfl rfl)
theorem dX6_nearestOf_416 : decode cX6_nearestOf 416 = .ok (.lreturn, 1) := dk_173 (dk_at dksX6_nearestOf_17 21 rfl rfl)
abbrev cX6_length : ByteArray := prog_10_method_16_code
def yX6_length : MethodName := ⟨RX6, "length", "([J)I"⟩
def dkwX6_length_3 : List UInt8 := [167, 0, 4, 28, 172]
abbrev dktX6_length_3 : List UInt8 := dkwX6_length_3 ++ []
def dkwX6_length_2 : List UInt8 := [20, 0, 57, 148, 156, 0, 15, 132, 2, 255, 33, 20, 0, 59, 105, 66, 167, 255, 235, 27, 156, 0, 7, 3]
abbrev dktX6_length_2 : List UInt8 := dkwX6_length_2 ++ dktX6_length_3
def dkwX6_length_1 : List UInt8 := [27, 4, 96, 104, 61, 27, 156, 0, 9, 20, 0, 55, 167, 0, 6, 42, 27, 47, 66, 27, 155, 0, 23, 33]
abbrev dktX6_length_1 : List UInt8 := dkwX6_length_1 ++ dktX6_length_2
def dkwX6_length_0 : List UInt8 := [17, 0, 169, 60, 27, 155, 0, 17, 42, 27, 47, 9, 148, 154, 0, 9, 132, 1, 255, 167, 255, 241, 16, 30]
abbrev dktX6_length_0 : List UInt8 := dkwX6_length_0 ++ dktX6_length_1
theorem dksX6_length_0 : cX6_length.data.toList.drop 0 = dktX6_length_0 := by decide +kernel
theorem dksX6_length_1 : cX6_length.data.toList.drop 24 = dktX6_length_1 := dk_seg dksX6_length_0 24 rfl rfl
theorem dksX6_length_2 : cX6_length.data.toList.drop 48 = dktX6_length_2 := dk_seg dksX6_length_1 24 rfl rfl
theorem dksX6_length_3 : cX6_length.data.toList.drop 72 = dktX6_length_3 := dk_seg dksX6_length_2 24 rfl rfl
theorem dX6_length_0 : decode cX6_length 0 = .ok (.sipush 169, 3) := dk_17 0 169 (dk_at dksX6_length_0 0 rfl rfl)
theorem dX6_length_3 : decode cX6_length 3 = .ok (.istore_n 1, 1) := dk_60 (dk_at dksX6_length_0 3 rfl rfl)
theorem dX6_length_4 : decode cX6_length 4 = .ok (.iload_n 1, 1) := dk_27 (dk_at dksX6_length_0 4 rfl rfl)
theorem dX6_length_5 : decode cX6_length 5 = .ok (.ifCond .lt 17, 3) := dk_155 0 17 (dk_at dksX6_length_0 5 rfl rfl)
theorem dX6_length_8 : decode cX6_length 8 = .ok (.aload_n 0, 1) := dk_42 (dk_at dksX6_length_0 8 rfl rfl)
theorem dX6_length_9 : decode cX6_length 9 = .ok (.iload_n 1, 1) := dk_27 (dk_at dksX6_length_0 9 rfl rfl)
theorem dX6_length_10 : decode cX6_length 10 = .ok (.laload, 1) := dk_47 (dk_at dksX6_length_0 10 rfl rfl)
theorem dX6_length_11 : decode cX6_length 11 = .ok (.lconst 0, 1) := dk_9 (dk_at dksX6_length_0 11 rfl rfl)
theorem dX6_length_12 : decode cX6_length 12 = .ok (.lcmp, 1) := dk_148 (dk_at dksX6_length_0 12 rfl rfl)
theorem dX6_length_13 : decode cX6_length 13 = .ok (.ifCond .ne 9, 3) := dk_154 0 9 (dk_at dksX6_length_0 13 rfl rfl)
theorem dX6_length_16 : decode cX6_length 16 = .ok (.iinc 1 (-1), 3) := dk_132 1 255 (dk_at dksX6_length_0 16 rfl rfl)
theorem dX6_length_19 : decode cX6_length 19 = .ok (.goto (-15), 3) := dk_167 255 241 (dk_at dksX6_length_0 19 rfl rfl)
theorem dX6_length_22 : decode cX6_length 22 = .ok (.bipush 30, 2) := dk_16 30 (dk_at dksX6_length_0 22 rfl rfl)
theorem dX6_length_24 : decode cX6_length 24 = .ok (.iload_n 1, 1) := dk_27 (dk_at dksX6_length_1 0 rfl rfl)
theorem dX6_length_25 : decode cX6_length 25 = .ok (.iconst 1, 1) := dk_4 (dk_at dksX6_length_1 1 rfl rfl)
theorem dX6_length_26 : decode cX6_length 26 = .ok (.iadd, 1) := dk_96 (dk_at dksX6_length_1 2 rfl rfl)
theorem dX6_length_27 : decode cX6_length 27 = .ok (.imul, 1) := dk_104 (dk_at dksX6_length_1 3 rfl rfl)
theorem dX6_length_28 : decode cX6_length 28 = .ok (.istore_n 2, 1) := dk_61 (dk_at dksX6_length_1 4 rfl rfl)
theorem dX6_length_29 : decode cX6_length 29 = .ok (.iload_n 1, 1) := dk_27 (dk_at dksX6_length_1 5 rfl rfl)
theorem dX6_length_30 : decode cX6_length 30 = .ok (.ifCond .ge 9, 3) := dk_156 0 9 (dk_at dksX6_length_1 6 rfl rfl)
theorem dX6_length_33 : decode cX6_length 33 = .ok (.ldc2_w 55, 3) := dk_20 0 55 (dk_at dksX6_length_1 9 rfl rfl)
theorem dX6_length_36 : decode cX6_length 36 = .ok (.goto 6, 3) := dk_167 0 6 (dk_at dksX6_length_1 12 rfl rfl)
theorem dX6_length_39 : decode cX6_length 39 = .ok (.aload_n 0, 1) := dk_42 (dk_at dksX6_length_1 15 rfl rfl)
theorem dX6_length_40 : decode cX6_length 40 = .ok (.iload_n 1, 1) := dk_27 (dk_at dksX6_length_1 16 rfl rfl)
theorem dX6_length_41 : decode cX6_length 41 = .ok (.laload, 1) := dk_47 (dk_at dksX6_length_1 17 rfl rfl)
theorem dX6_length_42 : decode cX6_length 42 = .ok (.lstore_n 3, 1) := dk_66 (dk_at dksX6_length_1 18 rfl rfl)
theorem dX6_length_43 : decode cX6_length 43 = .ok (.iload_n 1, 1) := dk_27 (dk_at dksX6_length_1 19 rfl rfl)
theorem dX6_length_44 : decode cX6_length 44 = .ok (.ifCond .lt 23, 3) := dk_155 0 23 (dk_at dksX6_length_1 20 rfl rfl)
theorem dX6_length_47 : decode cX6_length 47 = .ok (.lload_n 3, 1) := dk_33 (dk_at dksX6_length_1 23 rfl rfl)
theorem dX6_length_48 : decode cX6_length 48 = .ok (.ldc2_w 57, 3) := dk_20 0 57 (dk_at dksX6_length_2 0 rfl rfl)
theorem dX6_length_51 : decode cX6_length 51 = .ok (.lcmp, 1) := dk_148 (dk_at dksX6_length_2 3 rfl rfl)
theorem dX6_length_52 : decode cX6_length 52 = .ok (.ifCond .ge 15, 3) := dk_156 0 15 (dk_at dksX6_length_2 4 rfl rfl)
theorem dX6_length_55 : decode cX6_length 55 = .ok (.iinc 2 (-1), 3) := dk_132 2 255 (dk_at dksX6_length_2 7 rfl rfl)
theorem dX6_length_58 : decode cX6_length 58 = .ok (.lload_n 3, 1) := dk_33 (dk_at dksX6_length_2 10 rfl rfl)
theorem dX6_length_59 : decode cX6_length 59 = .ok (.ldc2_w 59, 3) := dk_20 0 59 (dk_at dksX6_length_2 11 rfl rfl)
theorem dX6_length_62 : decode cX6_length 62 = .ok (.lmul, 1) := dk_105 (dk_at dksX6_length_2 14 rfl rfl)
theorem dX6_length_63 : decode cX6_length 63 = .ok (.lstore_n 3, 1) := dk_66 (dk_at dksX6_length_2 15 rfl rfl)
theorem dX6_length_64 : decode cX6_length 64 = .ok (.goto (-21), 3) := dk_167 255 235 (dk_at dksX6_length_2 16 rfl rfl)
theorem dX6_length_67 : decode cX6_length 67 = .ok (.iload_n 1, 1) := dk_27 (dk_at dksX6_length_2 19 rfl rfl)
theorem dX6_length_68 : decode cX6_length 68 = .ok (.ifCond .ge 7, 3) := dk_156 0 7 (dk_at dksX6_length_2 20 rfl rfl)
theorem dX6_length_71 : decode cX6_length 71 = .ok (.iconst 0, 1) := dk_3 (dk_at dksX6_length_2 23 rfl rfl)
theorem dX6_length_72 : decode cX6_length 72 = .ok (.goto 4, 3) := dk_167 0 4 (dk_at dksX6_length_3 0 rfl rfl)
theorem dX6_length_75 : decode cX6_length 75 = .ok (.iload_n 2, 1) := dk_28 (dk_at dksX6_length_3 3 rfl rfl)
theorem dX6_length_76 : decode cX6_length 76 = .ok (.ireturn, 1) := dk_172 (dk_at dksX6_length_3 4 rfl rfl)
abbrev cX6_signed : ByteArray := prog_10_method_20_code
def yX6_signed : MethodName := ⟨RX6, "signed", "(IJZ)J"⟩
def dkwX6_signed_1 : List UInt8 := [31, 20, 0, 89, 129, 167, 0, 4, 31, 173]
abbrev dktX6_signed_1 : List UInt8 := dkwX6_signed_1 ++ []
def dkwX6_signed_0 : List UInt8 := [26, 154, 0, 19, 31, 29, 153, 0, 9, 20, 0, 87, 167, 0, 4, 9, 129, 136, 133, 173, 29, 153, 0, 11]
abbrev dktX6_signed_0 : List UInt8 := dkwX6_signed_0 ++ dktX6_signed_1
theorem dksX6_signed_0 : cX6_signed.data.toList.drop 0 = dktX6_signed_0 := by decide +kernel
theorem dksX6_signed_1 : cX6_signed.data.toList.drop 24 = dktX6_signed_1 := dk_seg dksX6_signed_0 24 rfl rfl
theorem dX6_signed_0 : decode cX6_signed 0 = .ok (.iload_n 0, 1) := dk_26 (dk_at dksX6_signed_0 0 rfl rfl)
theorem dX6_signed_1 : decode cX6_signed 1 = .ok (.ifCond .ne 19, 3) := dk_154 0 19 (dk_at dksX6_signed_0 1 rfl rfl)
theorem dX6_signed_4 : decode cX6_signed 4 = .ok (.lload_n 1, 1) := dk_31 (dk_at dksX6_signed_0 4 rfl rfl)
theorem dX6_signed_5 : decode cX6_signed 5 = .ok (.iload_n 3, 1) := dk_29 (dk_at dksX6_signed_0 5 rfl rfl)
theorem dX6_signed_6 : decode cX6_signed 6 = .ok (.ifCond .eq 9, 3) := dk_153 0 9 (dk_at dksX6_signed_0 6 rfl rfl)
theorem dX6_signed_9 : decode cX6_signed 9 = .ok (.ldc2_w 87, 3) := dk_20 0 87 (dk_at dksX6_signed_0 9 rfl rfl)
theorem dX6_signed_12 : decode cX6_signed 12 = .ok (.goto 4, 3) := dk_167 0 4 (dk_at dksX6_signed_0 12 rfl rfl)
theorem dX6_signed_15 : decode cX6_signed 15 = .ok (.lconst 0, 1) := dk_9 (dk_at dksX6_signed_0 15 rfl rfl)
theorem dX6_signed_16 : decode cX6_signed 16 = .ok (.lor, 1) := dk_129 (dk_at dksX6_signed_0 16 rfl rfl)
theorem dX6_signed_17 : decode cX6_signed 17 = .ok (.l2i, 1) := dk_136 (dk_at dksX6_signed_0 17 rfl rfl)
theorem dX6_signed_18 : decode cX6_signed 18 = .ok (.i2l, 1) := dk_133 (dk_at dksX6_signed_0 18 rfl rfl)
theorem dX6_signed_19 : decode cX6_signed 19 = .ok (.lreturn, 1) := dk_173 (dk_at dksX6_signed_0 19 rfl rfl)
theorem dX6_signed_20 : decode cX6_signed 20 = .ok (.iload_n 3, 1) := dk_29 (dk_at dksX6_signed_0 20 rfl rfl)
theorem dX6_signed_21 : decode cX6_signed 21 = .ok (.ifCond .eq 11, 3) := dk_153 0 11 (dk_at dksX6_signed_0 21 rfl rfl)
theorem dX6_signed_24 : decode cX6_signed 24 = .ok (.lload_n 1, 1) := dk_31 (dk_at dksX6_signed_1 0 rfl rfl)
theorem dX6_signed_25 : decode cX6_signed 25 = .ok (.ldc2_w 89, 3) := dk_20 0 89 (dk_at dksX6_signed_1 1 rfl rfl)
theorem dX6_signed_28 : decode cX6_signed 28 = .ok (.lor, 1) := dk_129 (dk_at dksX6_signed_1 4 rfl rfl)
theorem dX6_signed_29 : decode cX6_signed 29 = .ok (.goto 4, 3) := dk_167 0 4 (dk_at dksX6_signed_1 5 rfl rfl)
theorem dX6_signed_32 : decode cX6_signed 32 = .ok (.lload_n 1, 1) := dk_31 (dk_at dksX6_signed_1 8 rfl rfl)
theorem dX6_signed_33 : decode cX6_signed 33 = .ok (.lreturn, 1) := dk_173 (dk_at dksX6_signed_1 9 rfl rfl)
abbrev cX6_infinity : ByteArray := prog_10_method_22_code
def yX6_infinity : MethodName := ⟨RX6, "infinity", "(I)J"⟩
def dkwX6_infinity_0 : List UInt8 := [26, 154, 0, 9, 20, 0, 95, 167, 0, 6, 20, 0, 97, 173]
abbrev dktX6_infinity_0 : List UInt8 := dkwX6_infinity_0 ++ []
theorem dksX6_infinity_0 : cX6_infinity.data.toList.drop 0 = dktX6_infinity_0 := by decide +kernel
theorem dX6_infinity_0 : decode cX6_infinity 0 = .ok (.iload_n 0, 1) := dk_26 (dk_at dksX6_infinity_0 0 rfl rfl)
theorem dX6_infinity_1 : decode cX6_infinity 1 = .ok (.ifCond .ne 9, 3) := dk_154 0 9 (dk_at dksX6_infinity_0 1 rfl rfl)
theorem dX6_infinity_4 : decode cX6_infinity 4 = .ok (.ldc2_w 95, 3) := dk_20 0 95 (dk_at dksX6_infinity_0 4 rfl rfl)
theorem dX6_infinity_7 : decode cX6_infinity 7 = .ok (.goto 6, 3) := dk_167 0 6 (dk_at dksX6_infinity_0 7 rfl rfl)
theorem dX6_infinity_10 : decode cX6_infinity 10 = .ok (.ldc2_w 97, 3) := dk_20 0 97 (dk_at dksX6_infinity_0 10 rfl rfl)
theorem dX6_infinity_13 : decode cX6_infinity 13 = .ok (.lreturn, 1) := dk_173 (dk_at dksX6_infinity_0 13 rfl rfl)
abbrev cX6_left : ByteArray := prog_10_method_10_code
def yX6_left : MethodName := ⟨RX6, "left", "([JI)V"⟩
def dkwX6_left_3 : List UInt8 := [21, 4, 22, 5, 22, 7, 129, 20, 0, 53, 127, 80, 132, 4, 255, 167, 255, 186, 177]
abbrev dktX6_left_3 : List UInt8 := dkwX6_left_3 ++ []
def dkwX6_left_2 : List UInt8 := [158, 0, 19, 42, 21, 4, 28, 100, 4, 100, 47, 16, 30, 29, 100, 125, 167, 0, 4, 9, 55, 7, 42]
abbrev dktX6_left_2 : List UInt8 := dkwX6_left_2 ++ dktX6_left_3
def dkwX6_left_1 : List UInt8 := [161, 0, 14, 42, 21, 4, 28, 100, 47, 29, 121, 167, 0, 4, 9, 55, 5, 21, 4, 28, 164, 0, 23, 29]
abbrev dktX6_left_1 : List UInt8 := dkwX6_left_1 ++ dktX6_left_2
def dkwX6_left_0 : List UInt8 := [27, 16, 30, 108, 61, 27, 16, 30, 112, 62, 17, 0, 169, 54, 4, 21, 4, 155, 0, 71, 21, 4, 28]
abbrev dktX6_left_0 : List UInt8 := dkwX6_left_0 ++ dktX6_left_1
theorem dksX6_left_0 : cX6_left.data.toList.drop 0 = dktX6_left_0 := by decide +kernel
theorem dksX6_left_1 : cX6_left.data.toList.drop 23 = dktX6_left_1 := dk_seg dksX6_left_0 23 rfl rfl
theorem dksX6_left_2 : cX6_left.data.toList.drop 47 = dktX6_left_2 := dk_seg dksX6_left_1 24 rfl rfl
theorem dksX6_left_3 : cX6_left.data.toList.drop 70 = dktX6_left_3 := dk_seg dksX6_left_2 23 rfl rfl
theorem dX6_left_0 : decode cX6_left 0 = .ok (.iload_n 1, 1) := dk_27 (dk_at dksX6_left_0 0 rfl rfl)
theorem dX6_left_1 : decode cX6_left 1 = .ok (.bipush 30, 2) := dk_16 30 (dk_at dksX6_left_0 1 rfl rfl)
theorem dX6_left_3 : decode cX6_left 3 = .ok (.idiv, 1) := dk_108 (dk_at dksX6_left_0 3 rfl rfl)
theorem dX6_left_4 : decode cX6_left 4 = .ok (.istore_n 2, 1) := dk_61 (dk_at dksX6_left_0 4 rfl rfl)
theorem dX6_left_5 : decode cX6_left 5 = .ok (.iload_n 1, 1) := dk_27 (dk_at dksX6_left_0 5 rfl rfl)
theorem dX6_left_6 : decode cX6_left 6 = .ok (.bipush 30, 2) := dk_16 30 (dk_at dksX6_left_0 6 rfl rfl)
theorem dX6_left_8 : decode cX6_left 8 = .ok (.irem, 1) := dk_112 (dk_at dksX6_left_0 8 rfl rfl)
theorem dX6_left_9 : decode cX6_left 9 = .ok (.istore_n 3, 1) := dk_62 (dk_at dksX6_left_0 9 rfl rfl)
theorem dX6_left_10 : decode cX6_left 10 = .ok (.sipush 169, 3) := dk_17 0 169 (dk_at dksX6_left_0 10 rfl rfl)
theorem dX6_left_13 : decode cX6_left 13 = .ok (.istore 4, 2) := dk_54 4 (dk_at dksX6_left_0 13 rfl rfl)
theorem dX6_left_15 : decode cX6_left 15 = .ok (.iload 4, 2) := dk_21 4 (dk_at dksX6_left_0 15 rfl rfl)
theorem dX6_left_17 : decode cX6_left 17 = .ok (.ifCond .lt 71, 3) := dk_155 0 71 (dk_at dksX6_left_0 17 rfl rfl)
theorem dX6_left_20 : decode cX6_left 20 = .ok (.iload 4, 2) := dk_21 4 (dk_at dksX6_left_0 20 rfl rfl)
theorem dX6_left_22 : decode cX6_left 22 = .ok (.iload_n 2, 1) := dk_28 (dk_at dksX6_left_0 22 rfl rfl)
theorem dX6_left_23 : decode cX6_left 23 = .ok (.if_icmp .lt 14, 3) := dk_161 0 14 (dk_at dksX6_left_1 0 rfl rfl)
theorem dX6_left_26 : decode cX6_left 26 = .ok (.aload_n 0, 1) := dk_42 (dk_at dksX6_left_1 3 rfl rfl)
theorem dX6_left_27 : decode cX6_left 27 = .ok (.iload 4, 2) := dk_21 4 (dk_at dksX6_left_1 4 rfl rfl)
theorem dX6_left_29 : decode cX6_left 29 = .ok (.iload_n 2, 1) := dk_28 (dk_at dksX6_left_1 6 rfl rfl)
theorem dX6_left_30 : decode cX6_left 30 = .ok (.isub, 1) := dk_100 (dk_at dksX6_left_1 7 rfl rfl)
theorem dX6_left_31 : decode cX6_left 31 = .ok (.laload, 1) := dk_47 (dk_at dksX6_left_1 8 rfl rfl)
theorem dX6_left_32 : decode cX6_left 32 = .ok (.iload_n 3, 1) := dk_29 (dk_at dksX6_left_1 9 rfl rfl)
theorem dX6_left_33 : decode cX6_left 33 = .ok (.lshl, 1) := dk_121 (dk_at dksX6_left_1 10 rfl rfl)
theorem dX6_left_34 : decode cX6_left 34 = .ok (.goto 4, 3) := dk_167 0 4 (dk_at dksX6_left_1 11 rfl rfl)
theorem dX6_left_37 : decode cX6_left 37 = .ok (.lconst 0, 1) := dk_9 (dk_at dksX6_left_1 14 rfl rfl)
theorem dX6_left_38 : decode cX6_left 38 = .ok (.lstore 5, 2) := dk_55 5 (dk_at dksX6_left_1 15 rfl rfl)
theorem dX6_left_40 : decode cX6_left 40 = .ok (.iload 4, 2) := dk_21 4 (dk_at dksX6_left_1 17 rfl rfl)
theorem dX6_left_42 : decode cX6_left 42 = .ok (.iload_n 2, 1) := dk_28 (dk_at dksX6_left_1 19 rfl rfl)
theorem dX6_left_43 : decode cX6_left 43 = .ok (.if_icmp .le 23, 3) := dk_164 0 23 (dk_at dksX6_left_1 20 rfl rfl)
theorem dX6_left_46 : decode cX6_left 46 = .ok (.iload_n 3, 1) := dk_29 (dk_at dksX6_left_1 23 rfl rfl)
theorem dX6_left_47 : decode cX6_left 47 = .ok (.ifCond .le 19, 3) := dk_158 0 19 (dk_at dksX6_left_2 0 rfl rfl)
theorem dX6_left_50 : decode cX6_left 50 = .ok (.aload_n 0, 1) := dk_42 (dk_at dksX6_left_2 3 rfl rfl)
theorem dX6_left_51 : decode cX6_left 51 = .ok (.iload 4, 2) := dk_21 4 (dk_at dksX6_left_2 4 rfl rfl)
theorem dX6_left_53 : decode cX6_left 53 = .ok (.iload_n 2, 1) := dk_28 (dk_at dksX6_left_2 6 rfl rfl)
theorem dX6_left_54 : decode cX6_left 54 = .ok (.isub, 1) := dk_100 (dk_at dksX6_left_2 7 rfl rfl)
theorem dX6_left_55 : decode cX6_left 55 = .ok (.iconst 1, 1) := dk_4 (dk_at dksX6_left_2 8 rfl rfl)
theorem dX6_left_56 : decode cX6_left 56 = .ok (.isub, 1) := dk_100 (dk_at dksX6_left_2 9 rfl rfl)
theorem dX6_left_57 : decode cX6_left 57 = .ok (.laload, 1) := dk_47 (dk_at dksX6_left_2 10 rfl rfl)
theorem dX6_left_58 : decode cX6_left 58 = .ok (.bipush 30, 2) := dk_16 30 (dk_at dksX6_left_2 11 rfl rfl)
theorem dX6_left_60 : decode cX6_left 60 = .ok (.iload_n 3, 1) := dk_29 (dk_at dksX6_left_2 13 rfl rfl)
theorem dX6_left_61 : decode cX6_left 61 = .ok (.isub, 1) := dk_100 (dk_at dksX6_left_2 14 rfl rfl)
theorem dX6_left_62 : decode cX6_left 62 = .ok (.lushr, 1) := dk_125 (dk_at dksX6_left_2 15 rfl rfl)
theorem dX6_left_63 : decode cX6_left 63 = .ok (.goto 4, 3) := dk_167 0 4 (dk_at dksX6_left_2 16 rfl rfl)
theorem dX6_left_66 : decode cX6_left 66 = .ok (.lconst 0, 1) := dk_9 (dk_at dksX6_left_2 19 rfl rfl)
theorem dX6_left_67 : decode cX6_left 67 = .ok (.lstore 7, 2) := dk_55 7 (dk_at dksX6_left_2 20 rfl rfl)
theorem dX6_left_69 : decode cX6_left 69 = .ok (.aload_n 0, 1) := dk_42 (dk_at dksX6_left_2 22 rfl rfl)
theorem dX6_left_70 : decode cX6_left 70 = .ok (.iload 4, 2) := dk_21 4 (dk_at dksX6_left_3 0 rfl rfl)
theorem dX6_left_72 : decode cX6_left 72 = .ok (.lload 5, 2) := dk_22 5 (dk_at dksX6_left_3 2 rfl rfl)
theorem dX6_left_74 : decode cX6_left 74 = .ok (.lload 7, 2) := dk_22 7 (dk_at dksX6_left_3 4 rfl rfl)
theorem dX6_left_76 : decode cX6_left 76 = .ok (.lor, 1) := dk_129 (dk_at dksX6_left_3 6 rfl rfl)
theorem dX6_left_77 : decode cX6_left 77 = .ok (.ldc2_w 53, 3) := dk_20 0 53 (dk_at dksX6_left_3 7 rfl rfl)
theorem dX6_left_80 : decode cX6_left 80 = .ok (.land, 1) := dk_127 (dk_at dksX6_left_3 10 rfl rfl)
theorem dX6_left_81 : decode cX6_left 81 = .ok (.lastore, 1) := dk_80 (dk_at dksX6_left_3 11 rfl rfl)
theorem dX6_left_82 : decode cX6_left 82 = .ok (.iinc 4 (-1), 3) := dk_132 4 255 (dk_at dksX6_left_3 12 rfl rfl)
theorem dX6_left_85 : decode cX6_left 85 = .ok (.goto (-70), 3) := dk_167 255 186 (dk_at dksX6_left_3 15 rfl rfl)
theorem dX6_left_88 : decode cX6_left 88 = .ok (.return_, 1) := dk_177 (dk_at dksX6_left_3 18 rfl rfl)
abbrev cX6_copyOf : ByteArray := prog_10_method_15_code
def yX6_copyOf : MethodName := ⟨RX6, "copyOf", "([J[J)V"⟩
def dkwX6_copyOf_0 : List UInt8 := [3, 61, 28, 17, 0, 170, 162, 0, 15, 43, 28, 42, 28, 47, 80, 132, 2, 1, 167, 255, 240, 177]
abbrev dktX6_copyOf_0 : List UInt8 := dkwX6_copyOf_0 ++ []
theorem dksX6_copyOf_0 : cX6_copyOf.data.toList.drop 0 = dktX6_copyOf_0 := by decide +kernel
theorem dX6_copyOf_0 : decode cX6_copyOf 0 = .ok (.iconst 0, 1) := dk_3 (dk_at dksX6_copyOf_0 0 rfl rfl)
theorem dX6_copyOf_1 : decode cX6_copyOf 1 = .ok (.istore_n 2, 1) := dk_61 (dk_at dksX6_copyOf_0 1 rfl rfl)
theorem dX6_copyOf_2 : decode cX6_copyOf 2 = .ok (.iload_n 2, 1) := dk_28 (dk_at dksX6_copyOf_0 2 rfl rfl)
theorem dX6_copyOf_3 : decode cX6_copyOf 3 = .ok (.sipush 170, 3) := dk_17 0 170 (dk_at dksX6_copyOf_0 3 rfl rfl)
theorem dX6_copyOf_6 : decode cX6_copyOf 6 = .ok (.if_icmp .ge 15, 3) := dk_162 0 15 (dk_at dksX6_copyOf_0 6 rfl rfl)
theorem dX6_copyOf_9 : decode cX6_copyOf 9 = .ok (.aload_n 1, 1) := dk_43 (dk_at dksX6_copyOf_0 9 rfl rfl)
theorem dX6_copyOf_10 : decode cX6_copyOf 10 = .ok (.iload_n 2, 1) := dk_28 (dk_at dksX6_copyOf_0 10 rfl rfl)
theorem dX6_copyOf_11 : decode cX6_copyOf 11 = .ok (.aload_n 0, 1) := dk_42 (dk_at dksX6_copyOf_0 11 rfl rfl)
theorem dX6_copyOf_12 : decode cX6_copyOf 12 = .ok (.iload_n 2, 1) := dk_28 (dk_at dksX6_copyOf_0 12 rfl rfl)
theorem dX6_copyOf_13 : decode cX6_copyOf 13 = .ok (.laload, 1) := dk_47 (dk_at dksX6_copyOf_0 13 rfl rfl)
theorem dX6_copyOf_14 : decode cX6_copyOf 14 = .ok (.lastore, 1) := dk_80 (dk_at dksX6_copyOf_0 14 rfl rfl)
theorem dX6_copyOf_15 : decode cX6_copyOf 15 = .ok (.iinc 2 1, 3) := dk_132 2 1 (dk_at dksX6_copyOf_0 15 rfl rfl)
theorem dX6_copyOf_18 : decode cX6_copyOf 18 = .ok (.goto (-16), 3) := dk_167 255 240 (dk_at dksX6_copyOf_0 18 rfl rfl)
theorem dX6_copyOf_21 : decode cX6_copyOf 21 = .ok (.return_, 1) := dk_177 (dk_at dksX6_copyOf_0 21 rfl rfl)
abbrev cX6_order : ByteArray := prog_10_method_12_code
def yX6_order : MethodName := ⟨RX6, "order", "([J[J)I"⟩
def dkwX6_order_2 : List UInt8 := [4, 167, 0, 4, 3, 172]
abbrev dktX6_order_2 : List UInt8 := dkwX6_order_2 ++ []
def dkwX6_order_1 : List UInt8 := [42, 28, 47, 43, 28, 47, 148, 156, 0, 7, 2, 167, 0, 18, 42, 28, 47, 43, 28, 47, 148, 158, 0, 7]
abbrev dktX6_order_1 : List UInt8 := dkwX6_order_1 ++ dktX6_order_2
def dkwX6_order_0 : List UInt8 := [17, 0, 169, 61, 28, 158, 0, 19, 42, 28, 47, 43, 28, 47, 148, 154, 0, 9, 132, 2, 255, 167, 255, 239]
abbrev dktX6_order_0 : List UInt8 := dkwX6_order_0 ++ dktX6_order_1
theorem dksX6_order_0 : cX6_order.data.toList.drop 0 = dktX6_order_0 := by decide +kernel
theorem dksX6_order_1 : cX6_order.data.toList.drop 24 = dktX6_order_1 := dk_seg dksX6_order_0 24 rfl rfl
theorem dksX6_order_2 : cX6_order.data.toList.drop 48 = dktX6_order_2 := dk_seg dksX6_order_1 24 rfl rfl
theorem dX6_order_0 : decode cX6_order 0 = .ok (.sipush 169, 3) := dk_17 0 169 (dk_at dksX6_order_0 0 rfl rfl)
theorem dX6_order_3 : decode cX6_order 3 = .ok (.istore_n 2, 1) := dk_61 (dk_at dksX6_order_0 3 rfl rfl)
theorem dX6_order_4 : decode cX6_order 4 = .ok (.iload_n 2, 1) := dk_28 (dk_at dksX6_order_0 4 rfl rfl)
theorem dX6_order_5 : decode cX6_order 5 = .ok (.ifCond .le 19, 3) := dk_158 0 19 (dk_at dksX6_order_0 5 rfl rfl)
theorem dX6_order_8 : decode cX6_order 8 = .ok (.aload_n 0, 1) := dk_42 (dk_at dksX6_order_0 8 rfl rfl)
theorem dX6_order_9 : decode cX6_order 9 = .ok (.iload_n 2, 1) := dk_28 (dk_at dksX6_order_0 9 rfl rfl)
theorem dX6_order_10 : decode cX6_order 10 = .ok (.laload, 1) := dk_47 (dk_at dksX6_order_0 10 rfl rfl)
theorem dX6_order_11 : decode cX6_order 11 = .ok (.aload_n 1, 1) := dk_43 (dk_at dksX6_order_0 11 rfl rfl)
theorem dX6_order_12 : decode cX6_order 12 = .ok (.iload_n 2, 1) := dk_28 (dk_at dksX6_order_0 12 rfl rfl)
theorem dX6_order_13 : decode cX6_order 13 = .ok (.laload, 1) := dk_47 (dk_at dksX6_order_0 13 rfl rfl)
theorem dX6_order_14 : decode cX6_order 14 = .ok (.lcmp, 1) := dk_148 (dk_at dksX6_order_0 14 rfl rfl)
theorem dX6_order_15 : decode cX6_order 15 = .ok (.ifCond .ne 9, 3) := dk_154 0 9 (dk_at dksX6_order_0 15 rfl rfl)
theorem dX6_order_18 : decode cX6_order 18 = .ok (.iinc 2 (-1), 3) := dk_132 2 255 (dk_at dksX6_order_0 18 rfl rfl)
theorem dX6_order_21 : decode cX6_order 21 = .ok (.goto (-17), 3) := dk_167 255 239 (dk_at dksX6_order_0 21 rfl rfl)
theorem dX6_order_24 : decode cX6_order 24 = .ok (.aload_n 0, 1) := dk_42 (dk_at dksX6_order_1 0 rfl rfl)
theorem dX6_order_25 : decode cX6_order 25 = .ok (.iload_n 2, 1) := dk_28 (dk_at dksX6_order_1 1 rfl rfl)
theorem dX6_order_26 : decode cX6_order 26 = .ok (.laload, 1) := dk_47 (dk_at dksX6_order_1 2 rfl rfl)
theorem dX6_order_27 : decode cX6_order 27 = .ok (.aload_n 1, 1) := dk_43 (dk_at dksX6_order_1 3 rfl rfl)
theorem dX6_order_28 : decode cX6_order 28 = .ok (.iload_n 2, 1) := dk_28 (dk_at dksX6_order_1 4 rfl rfl)
theorem dX6_order_29 : decode cX6_order 29 = .ok (.laload, 1) := dk_47 (dk_at dksX6_order_1 5 rfl rfl)
theorem dX6_order_30 : decode cX6_order 30 = .ok (.lcmp, 1) := dk_148 (dk_at dksX6_order_1 6 rfl rfl)
theorem dX6_order_31 : decode cX6_order 31 = .ok (.ifCond .ge 7, 3) := dk_156 0 7 (dk_at dksX6_order_1 7 rfl rfl)
theorem dX6_order_34 : decode cX6_order 34 = .ok (.iconst (-1), 1) := dk_2 (dk_at dksX6_order_1 10 rfl rfl)
theorem dX6_order_35 : decode cX6_order 35 = .ok (.goto 18, 3) := dk_167 0 18 (dk_at dksX6_order_1 11 rfl rfl)
theorem dX6_order_38 : decode cX6_order 38 = .ok (.aload_n 0, 1) := dk_42 (dk_at dksX6_order_1 14 rfl rfl)
theorem dX6_order_39 : decode cX6_order 39 = .ok (.iload_n 2, 1) := dk_28 (dk_at dksX6_order_1 15 rfl rfl)
theorem dX6_order_40 : decode cX6_order 40 = .ok (.laload, 1) := dk_47 (dk_at dksX6_order_1 16 rfl rfl)
theorem dX6_order_41 : decode cX6_order 41 = .ok (.aload_n 1, 1) := dk_43 (dk_at dksX6_order_1 17 rfl rfl)
theorem dX6_order_42 : decode cX6_order 42 = .ok (.iload_n 2, 1) := dk_28 (dk_at dksX6_order_1 18 rfl rfl)
theorem dX6_order_43 : decode cX6_order 43 = .ok (.laload, 1) := dk_47 (dk_at dksX6_order_1 19 rfl rfl)
theorem dX6_order_44 : decode cX6_order 44 = .ok (.lcmp, 1) := dk_148 (dk_at dksX6_order_1 20 rfl rfl)
theorem dX6_order_45 : decode cX6_order 45 = .ok (.ifCond .le 7, 3) := dk_158 0 7 (dk_at dksX6_order_1 21 rfl rfl)
theorem dX6_order_48 : decode cX6_order 48 = .ok (.iconst 1, 1) := dk_4 (dk_at dksX6_order_2 0 rfl rfl)
theorem dX6_order_49 : decode cX6_order 49 = .ok (.goto 4, 3) := dk_167 0 4 (dk_at dksX6_order_2 1 rfl rfl)
theorem dX6_order_52 : decode cX6_order 52 = .ok (.iconst 0, 1) := dk_3 (dk_at dksX6_order_2 4 rfl rfl)
theorem dX6_order_53 : decode cX6_order 53 = .ok (.ireturn, 1) := dk_172 (dk_at dksX6_order_2 5 rfl rfl)
abbrev cX6_less : ByteArray := prog_10_method_13_code
def yX6_less : MethodName := ⟨RX6, "less", "([J[J)V"⟩
def dkwX6_less_2 : List UInt8 := [80, 132, 4, 1, 167, 255, 209, 177]
abbrev dktX6_less_2 : List UInt8 := dkwX6_less_2 ++ []
def dkwX6_less_1 : List UInt8 := [55, 5, 22, 5, 9, 148, 156, 0, 7, 10, 167, 0, 4, 9, 65, 42, 21, 4, 22, 5, 20, 0, 53, 127]
abbrev dktX6_less_1 : List UInt8 := dkwX6_less_1 ++ dktX6_less_2
def dkwX6_less_0 : List UInt8 := [9, 65, 3, 54, 4, 21, 4, 17, 0, 170, 162, 0, 45, 42, 21, 4, 47, 43, 21, 4, 47, 101, 32, 101]
abbrev dktX6_less_0 : List UInt8 := dkwX6_less_0 ++ dktX6_less_1
theorem dksX6_less_0 : cX6_less.data.toList.drop 0 = dktX6_less_0 := by decide +kernel
theorem dksX6_less_1 : cX6_less.data.toList.drop 24 = dktX6_less_1 := dk_seg dksX6_less_0 24 rfl rfl
theorem dksX6_less_2 : cX6_less.data.toList.drop 48 = dktX6_less_2 := dk_seg dksX6_less_1 24 rfl rfl
theorem dX6_less_0 : decode cX6_less 0 = .ok (.lconst 0, 1) := dk_9 (dk_at dksX6_less_0 0 rfl rfl)
theorem dX6_less_1 : decode cX6_less 1 = .ok (.lstore_n 2, 1) := dk_65 (dk_at dksX6_less_0 1 rfl rfl)
theorem dX6_less_2 : decode cX6_less 2 = .ok (.iconst 0, 1) := dk_3 (dk_at dksX6_less_0 2 rfl rfl)
theorem dX6_less_3 : decode cX6_less 3 = .ok (.istore 4, 2) := dk_54 4 (dk_at dksX6_less_0 3 rfl rfl)
theorem dX6_less_5 : decode cX6_less 5 = .ok (.iload 4, 2) := dk_21 4 (dk_at dksX6_less_0 5 rfl rfl)
theorem dX6_less_7 : decode cX6_less 7 = .ok (.sipush 170, 3) := dk_17 0 170 (dk_at dksX6_less_0 7 rfl rfl)
theorem dX6_less_10 : decode cX6_less 10 = .ok (.if_icmp .ge 45, 3) := dk_162 0 45 (dk_at dksX6_less_0 10 rfl rfl)
theorem dX6_less_13 : decode cX6_less 13 = .ok (.aload_n 0, 1) := dk_42 (dk_at dksX6_less_0 13 rfl rfl)
theorem dX6_less_14 : decode cX6_less 14 = .ok (.iload 4, 2) := dk_21 4 (dk_at dksX6_less_0 14 rfl rfl)
theorem dX6_less_16 : decode cX6_less 16 = .ok (.laload, 1) := dk_47 (dk_at dksX6_less_0 16 rfl rfl)
theorem dX6_less_17 : decode cX6_less 17 = .ok (.aload_n 1, 1) := dk_43 (dk_at dksX6_less_0 17 rfl rfl)
theorem dX6_less_18 : decode cX6_less 18 = .ok (.iload 4, 2) := dk_21 4 (dk_at dksX6_less_0 18 rfl rfl)
theorem dX6_less_20 : decode cX6_less 20 = .ok (.laload, 1) := dk_47 (dk_at dksX6_less_0 20 rfl rfl)
theorem dX6_less_21 : decode cX6_less 21 = .ok (.lsub, 1) := dk_101 (dk_at dksX6_less_0 21 rfl rfl)
theorem dX6_less_22 : decode cX6_less 22 = .ok (.lload_n 2, 1) := dk_32 (dk_at dksX6_less_0 22 rfl rfl)
theorem dX6_less_23 : decode cX6_less 23 = .ok (.lsub, 1) := dk_101 (dk_at dksX6_less_0 23 rfl rfl)
theorem dX6_less_24 : decode cX6_less 24 = .ok (.lstore 5, 2) := dk_55 5 (dk_at dksX6_less_1 0 rfl rfl)
theorem dX6_less_26 : decode cX6_less 26 = .ok (.lload 5, 2) := dk_22 5 (dk_at dksX6_less_1 2 rfl rfl)
theorem dX6_less_28 : decode cX6_less 28 = .ok (.lconst 0, 1) := dk_9 (dk_at dksX6_less_1 4 rfl rfl)
theorem dX6_less_29 : decode cX6_less 29 = .ok (.lcmp, 1) := dk_148 (dk_at dksX6_less_1 5 rfl rfl)
theorem dX6_less_30 : decode cX6_less 30 = .ok (.ifCond .ge 7, 3) := dk_156 0 7 (dk_at dksX6_less_1 6 rfl rfl)
theorem dX6_less_33 : decode cX6_less 33 = .ok (.lconst 1, 1) := dk_10 (dk_at dksX6_less_1 9 rfl rfl)
theorem dX6_less_34 : decode cX6_less 34 = .ok (.goto 4, 3) := dk_167 0 4 (dk_at dksX6_less_1 10 rfl rfl)
theorem dX6_less_37 : decode cX6_less 37 = .ok (.lconst 0, 1) := dk_9 (dk_at dksX6_less_1 13 rfl rfl)
theorem dX6_less_38 : decode cX6_less 38 = .ok (.lstore_n 2, 1) := dk_65 (dk_at dksX6_less_1 14 rfl rfl)
theorem dX6_less_39 : decode cX6_less 39 = .ok (.aload_n 0, 1) := dk_42 (dk_at dksX6_less_1 15 rfl rfl)
theorem dX6_less_40 : decode cX6_less 40 = .ok (.iload 4, 2) := dk_21 4 (dk_at dksX6_less_1 16 rfl rfl)
theorem dX6_less_42 : decode cX6_less 42 = .ok (.lload 5, 2) := dk_22 5 (dk_at dksX6_less_1 18 rfl rfl)
theorem dX6_less_44 : decode cX6_less 44 = .ok (.ldc2_w 53, 3) := dk_20 0 53 (dk_at dksX6_less_1 20 rfl rfl)
theorem dX6_less_47 : decode cX6_less 47 = .ok (.land, 1) := dk_127 (dk_at dksX6_less_1 23 rfl rfl)
theorem dX6_less_48 : decode cX6_less 48 = .ok (.lastore, 1) := dk_80 (dk_at dksX6_less_2 0 rfl rfl)
theorem dX6_less_49 : decode cX6_less 49 = .ok (.iinc 4 1, 3) := dk_132 4 1 (dk_at dksX6_less_2 1 rfl rfl)
theorem dX6_less_52 : decode cX6_less 52 = .ok (.goto (-47), 3) := dk_167 255 209 (dk_at dksX6_less_2 4 rfl rfl)
theorem dX6_less_55 : decode cX6_less 55 = .ok (.return_, 1) := dk_177 (dk_at dksX6_less_2 7 rfl rfl)
abbrev cX6_half : ByteArray := prog_10_method_11_code
def yX6_half : MethodName := ⟨RX6, "half", "([J)V"⟩
def dkwX6_half_2 : List UInt8 := [167, 255, 212, 177]
abbrev dktX6_half_2 : List UInt8 := dkwX6_half_2 ++ []
def dkwX6_half_1 : List UInt8 := [127, 167, 0, 4, 9, 65, 42, 27, 42, 27, 47, 4, 125, 32, 16, 29, 121, 129, 80, 132, 1, 1]
abbrev dktX6_half_1 : List UInt8 := dkwX6_half_1 ++ dktX6_half_2
def dkwX6_half_0 : List UInt8 := [3, 60, 27, 17, 0, 170, 162, 0, 43, 27, 4, 96, 17, 0, 170, 162, 0, 13, 42, 27, 4, 96, 47, 10]
abbrev dktX6_half_0 : List UInt8 := dkwX6_half_0 ++ dktX6_half_1
theorem dksX6_half_0 : cX6_half.data.toList.drop 0 = dktX6_half_0 := by decide +kernel
theorem dksX6_half_1 : cX6_half.data.toList.drop 24 = dktX6_half_1 := dk_seg dksX6_half_0 24 rfl rfl
theorem dksX6_half_2 : cX6_half.data.toList.drop 46 = dktX6_half_2 := dk_seg dksX6_half_1 22 rfl rfl
theorem dX6_half_0 : decode cX6_half 0 = .ok (.iconst 0, 1) := dk_3 (dk_at dksX6_half_0 0 rfl rfl)
theorem dX6_half_1 : decode cX6_half 1 = .ok (.istore_n 1, 1) := dk_60 (dk_at dksX6_half_0 1 rfl rfl)
theorem dX6_half_2 : decode cX6_half 2 = .ok (.iload_n 1, 1) := dk_27 (dk_at dksX6_half_0 2 rfl rfl)
theorem dX6_half_3 : decode cX6_half 3 = .ok (.sipush 170, 3) := dk_17 0 170 (dk_at dksX6_half_0 3 rfl rfl)
theorem dX6_half_6 : decode cX6_half 6 = .ok (.if_icmp .ge 43, 3) := dk_162 0 43 (dk_at dksX6_half_0 6 rfl rfl)
theorem dX6_half_9 : decode cX6_half 9 = .ok (.iload_n 1, 1) := dk_27 (dk_at dksX6_half_0 9 rfl rfl)
theorem dX6_half_10 : decode cX6_half 10 = .ok (.iconst 1, 1) := dk_4 (dk_at dksX6_half_0 10 rfl rfl)
theorem dX6_half_11 : decode cX6_half 11 = .ok (.iadd, 1) := dk_96 (dk_at dksX6_half_0 11 rfl rfl)
theorem dX6_half_12 : decode cX6_half 12 = .ok (.sipush 170, 3) := dk_17 0 170 (dk_at dksX6_half_0 12 rfl rfl)
theorem dX6_half_15 : decode cX6_half 15 = .ok (.if_icmp .ge 13, 3) := dk_162 0 13 (dk_at dksX6_half_0 15 rfl rfl)
theorem dX6_half_18 : decode cX6_half 18 = .ok (.aload_n 0, 1) := dk_42 (dk_at dksX6_half_0 18 rfl rfl)
theorem dX6_half_19 : decode cX6_half 19 = .ok (.iload_n 1, 1) := dk_27 (dk_at dksX6_half_0 19 rfl rfl)
theorem dX6_half_20 : decode cX6_half 20 = .ok (.iconst 1, 1) := dk_4 (dk_at dksX6_half_0 20 rfl rfl)
theorem dX6_half_21 : decode cX6_half 21 = .ok (.iadd, 1) := dk_96 (dk_at dksX6_half_0 21 rfl rfl)
theorem dX6_half_22 : decode cX6_half 22 = .ok (.laload, 1) := dk_47 (dk_at dksX6_half_0 22 rfl rfl)
theorem dX6_half_23 : decode cX6_half 23 = .ok (.lconst 1, 1) := dk_10 (dk_at dksX6_half_0 23 rfl rfl)
theorem dX6_half_24 : decode cX6_half 24 = .ok (.land, 1) := dk_127 (dk_at dksX6_half_1 0 rfl rfl)
theorem dX6_half_25 : decode cX6_half 25 = .ok (.goto 4, 3) := dk_167 0 4 (dk_at dksX6_half_1 1 rfl rfl)
theorem dX6_half_28 : decode cX6_half 28 = .ok (.lconst 0, 1) := dk_9 (dk_at dksX6_half_1 4 rfl rfl)
theorem dX6_half_29 : decode cX6_half 29 = .ok (.lstore_n 2, 1) := dk_65 (dk_at dksX6_half_1 5 rfl rfl)
theorem dX6_half_30 : decode cX6_half 30 = .ok (.aload_n 0, 1) := dk_42 (dk_at dksX6_half_1 6 rfl rfl)
theorem dX6_half_31 : decode cX6_half 31 = .ok (.iload_n 1, 1) := dk_27 (dk_at dksX6_half_1 7 rfl rfl)
theorem dX6_half_32 : decode cX6_half 32 = .ok (.aload_n 0, 1) := dk_42 (dk_at dksX6_half_1 8 rfl rfl)
theorem dX6_half_33 : decode cX6_half 33 = .ok (.iload_n 1, 1) := dk_27 (dk_at dksX6_half_1 9 rfl rfl)
theorem dX6_half_34 : decode cX6_half 34 = .ok (.laload, 1) := dk_47 (dk_at dksX6_half_1 10 rfl rfl)
theorem dX6_half_35 : decode cX6_half 35 = .ok (.iconst 1, 1) := dk_4 (dk_at dksX6_half_1 11 rfl rfl)
theorem dX6_half_36 : decode cX6_half 36 = .ok (.lushr, 1) := dk_125 (dk_at dksX6_half_1 12 rfl rfl)
theorem dX6_half_37 : decode cX6_half 37 = .ok (.lload_n 2, 1) := dk_32 (dk_at dksX6_half_1 13 rfl rfl)
theorem dX6_half_38 : decode cX6_half 38 = .ok (.bipush 29, 2) := dk_16 29 (dk_at dksX6_half_1 14 rfl rfl)
theorem dX6_half_40 : decode cX6_half 40 = .ok (.lshl, 1) := dk_121 (dk_at dksX6_half_1 16 rfl rfl)
theorem dX6_half_41 : decode cX6_half 41 = .ok (.lor, 1) := dk_129 (dk_at dksX6_half_1 17 rfl rfl)
theorem dX6_half_42 : decode cX6_half 42 = .ok (.lastore, 1) := dk_80 (dk_at dksX6_half_1 18 rfl rfl)
theorem dX6_half_43 : decode cX6_half 43 = .ok (.iinc 1 1, 3) := dk_132 1 1 (dk_at dksX6_half_1 19 rfl rfl)
theorem dX6_half_46 : decode cX6_half 46 = .ok (.goto (-44), 3) := dk_167 255 212 (dk_at dksX6_half_2 0 rfl rfl)
theorem dX6_half_49 : decode cX6_half 49 = .ok (.return_, 1) := dk_177 (dk_at dksX6_half_2 3 rfl rfl)
abbrev cX6_exponent : ByteArray := prog_10_method_30_code
def yX6_exponent : MethodName := ⟨RX6, "exponent", "(IJ)I"⟩
def dkwX6_exponent_2 : List UInt8 := [172, 42, 27, 182, 0, 159, 42, 180, 0, 84, 27, 184, 0, 61, 96, 172]
abbrev dktX6_exponent_2 : List UInt8 := dkwX6_exponent_2 ++ []
def dkwX6_exponent_1 : List UInt8 := [182, 0, 155, 154, 0, 11, 42, 16, 7, 182, 0, 45, 136, 172, 42, 180, 0, 77, 9, 148, 154, 0, 5, 3]
abbrev dktX6_exponent_1 : List UInt8 := dkwX6_exponent_1 ++ dktX6_exponent_2
def dkwX6_exponent_0 : List UInt8 := [42, 182, 0, 42, 27, 184, 0, 151, 154, 0, 11, 42, 16, 9, 182, 0, 45, 136, 172, 42, 27, 32]
abbrev dktX6_exponent_0 : List UInt8 := dkwX6_exponent_0 ++ dktX6_exponent_1
theorem dksX6_exponent_0 : cX6_exponent.data.toList.drop 0 = dktX6_exponent_0 := by decide +kernel
theorem dksX6_exponent_1 : cX6_exponent.data.toList.drop 22 = dktX6_exponent_1 := dk_seg dksX6_exponent_0 22 rfl rfl
theorem dksX6_exponent_2 : cX6_exponent.data.toList.drop 46 = dktX6_exponent_2 := dk_seg dksX6_exponent_1 24 rfl rfl
theorem dX6_exponent_0 : decode cX6_exponent 0 = .ok (.aload_n 0, 1) := dk_42 (dk_at dksX6_exponent_0 0 rfl rfl)
theorem dX6_exponent_1 : decode cX6_exponent 1 = .ok (.invokevirtual 42, 3) := dk_182 0 42 (dk_at dksX6_exponent_0 1 rfl rfl)
theorem dX6_exponent_4 : decode cX6_exponent 4 = .ok (.iload_n 1, 1) := dk_27 (dk_at dksX6_exponent_0 4 rfl rfl)
theorem dX6_exponent_5 : decode cX6_exponent 5 = .ok (.invokestatic 151, 3) := dk_184 0 151 (dk_at dksX6_exponent_0 5 rfl rfl)
theorem dX6_exponent_8 : decode cX6_exponent 8 = .ok (.ifCond .ne 11, 3) := dk_154 0 11 (dk_at dksX6_exponent_0 8 rfl rfl)
theorem dX6_exponent_11 : decode cX6_exponent 11 = .ok (.aload_n 0, 1) := dk_42 (dk_at dksX6_exponent_0 11 rfl rfl)
theorem dX6_exponent_12 : decode cX6_exponent 12 = .ok (.bipush 9, 2) := dk_16 9 (dk_at dksX6_exponent_0 12 rfl rfl)
theorem dX6_exponent_14 : decode cX6_exponent 14 = .ok (.invokevirtual 45, 3) := dk_182 0 45 (dk_at dksX6_exponent_0 14 rfl rfl)
theorem dX6_exponent_17 : decode cX6_exponent 17 = .ok (.l2i, 1) := dk_136 (dk_at dksX6_exponent_0 17 rfl rfl)
theorem dX6_exponent_18 : decode cX6_exponent 18 = .ok (.ireturn, 1) := dk_172 (dk_at dksX6_exponent_0 18 rfl rfl)
theorem dX6_exponent_19 : decode cX6_exponent 19 = .ok (.aload_n 0, 1) := dk_42 (dk_at dksX6_exponent_0 19 rfl rfl)
theorem dX6_exponent_20 : decode cX6_exponent 20 = .ok (.iload_n 1, 1) := dk_27 (dk_at dksX6_exponent_0 20 rfl rfl)
theorem dX6_exponent_21 : decode cX6_exponent 21 = .ok (.lload_n 2, 1) := dk_32 (dk_at dksX6_exponent_0 21 rfl rfl)
theorem dX6_exponent_22 : decode cX6_exponent 22 = .ok (.invokevirtual 155, 3) := dk_182 0 155 (dk_at dksX6_exponent_1 0 rfl rfl)
theorem dX6_exponent_25 : decode cX6_exponent 25 = .ok (.ifCond .ne 11, 3) := dk_154 0 11 (dk_at dksX6_exponent_1 3 rfl rfl)
theorem dX6_exponent_28 : decode cX6_exponent 28 = .ok (.aload_n 0, 1) := dk_42 (dk_at dksX6_exponent_1 6 rfl rfl)
theorem dX6_exponent_29 : decode cX6_exponent 29 = .ok (.bipush 7, 2) := dk_16 7 (dk_at dksX6_exponent_1 7 rfl rfl)
theorem dX6_exponent_31 : decode cX6_exponent 31 = .ok (.invokevirtual 45, 3) := dk_182 0 45 (dk_at dksX6_exponent_1 9 rfl rfl)
theorem dX6_exponent_34 : decode cX6_exponent 34 = .ok (.l2i, 1) := dk_136 (dk_at dksX6_exponent_1 12 rfl rfl)
theorem dX6_exponent_35 : decode cX6_exponent 35 = .ok (.ireturn, 1) := dk_172 (dk_at dksX6_exponent_1 13 rfl rfl)
theorem dX6_exponent_36 : decode cX6_exponent 36 = .ok (.aload_n 0, 1) := dk_42 (dk_at dksX6_exponent_1 14 rfl rfl)
theorem dX6_exponent_37 : decode cX6_exponent 37 = .ok (.getfield 77, 3) := dk_180 0 77 (dk_at dksX6_exponent_1 15 rfl rfl)
theorem dX6_exponent_40 : decode cX6_exponent 40 = .ok (.lconst 0, 1) := dk_9 (dk_at dksX6_exponent_1 18 rfl rfl)
theorem dX6_exponent_41 : decode cX6_exponent 41 = .ok (.lcmp, 1) := dk_148 (dk_at dksX6_exponent_1 19 rfl rfl)
theorem dX6_exponent_42 : decode cX6_exponent 42 = .ok (.ifCond .ne 5, 3) := dk_154 0 5 (dk_at dksX6_exponent_1 20 rfl rfl)
theorem dX6_exponent_45 : decode cX6_exponent 45 = .ok (.iconst 0, 1) := dk_3 (dk_at dksX6_exponent_1 23 rfl rfl)
theorem dX6_exponent_46 : decode cX6_exponent 46 = .ok (.ireturn, 1) := dk_172 (dk_at dksX6_exponent_2 0 rfl rfl)
theorem dX6_exponent_47 : decode cX6_exponent 47 = .ok (.aload_n 0, 1) := dk_42 (dk_at dksX6_exponent_2 1 rfl rfl)
theorem dX6_exponent_48 : decode cX6_exponent 48 = .ok (.iload_n 1, 1) := dk_27 (dk_at dksX6_exponent_2 2 rfl rfl)
theorem dX6_exponent_49 : decode cX6_exponent 49 = .ok (.invokevirtual 159, 3) := dk_182 0 159 (dk_at dksX6_exponent_2 3 rfl rfl)
theorem dX6_exponent_52 : decode cX6_exponent 52 = .ok (.aload_n 0, 1) := dk_42 (dk_at dksX6_exponent_2 6 rfl rfl)
theorem dX6_exponent_53 : decode cX6_exponent 53 = .ok (.getfield 84, 3) := dk_180 0 84 (dk_at dksX6_exponent_2 7 rfl rfl)
theorem dX6_exponent_56 : decode cX6_exponent 56 = .ok (.iload_n 1, 1) := dk_27 (dk_at dksX6_exponent_2 10 rfl rfl)
theorem dX6_exponent_57 : decode cX6_exponent 57 = .ok (.invokestatic 61, 3) := dk_184 0 61 (dk_at dksX6_exponent_2 11 rfl rfl)
theorem dX6_exponent_60 : decode cX6_exponent 60 = .ok (.iadd, 1) := dk_96 (dk_at dksX6_exponent_2 14 rfl rfl)
theorem dX6_exponent_61 : decode cX6_exponent 61 = .ok (.ireturn, 1) := dk_172 (dk_at dksX6_exponent_2 15 rfl rfl)
abbrev cX6_scale : ByteArray := prog_10_method_31_code
def yX6_scale : MethodName := ⟨RX6, "scale", "(IJI)J"⟩
def dkwX6_scale_3 : List UInt8 := [21, 4, 133, 97, 182, 0, 163, 173]
abbrev dktX6_scale_3 : List UInt8 := dkwX6_scale_3 ++ []
def dkwX6_scale_2 : List UInt8 := [27, 32, 182, 0, 167, 167, 0, 25, 42, 27, 42, 180, 0, 67, 42, 180, 0, 77, 42, 180, 0, 84, 133]
abbrev dktX6_scale_2 : List UInt8 := dkwX6_scale_2 ++ dktX6_scale_3
def dkwX6_scale_1 : List UInt8 := [42, 180, 0, 71, 154, 0, 19, 42, 180, 0, 74, 154, 0, 12, 42, 180, 0, 77, 9, 148, 154, 0, 12, 42]
abbrev dktX6_scale_1 : List UInt8 := dkwX6_scale_1 ++ dktX6_scale_2
def dkwX6_scale_0 : List UInt8 := [42, 182, 0, 42, 27, 184, 0, 151, 154, 0, 10, 42, 16, 9, 182, 0, 45, 173, 42, 27, 32, 182, 0, 99]
abbrev dktX6_scale_0 : List UInt8 := dkwX6_scale_0 ++ dktX6_scale_1
theorem dksX6_scale_0 : cX6_scale.data.toList.drop 0 = dktX6_scale_0 := by decide +kernel
theorem dksX6_scale_1 : cX6_scale.data.toList.drop 24 = dktX6_scale_1 := dk_seg dksX6_scale_0 24 rfl rfl
theorem dksX6_scale_2 : cX6_scale.data.toList.drop 48 = dktX6_scale_2 := dk_seg dksX6_scale_1 24 rfl rfl
theorem dksX6_scale_3 : cX6_scale.data.toList.drop 71 = dktX6_scale_3 := dk_seg dksX6_scale_2 23 rfl rfl
theorem dX6_scale_0 : decode cX6_scale 0 = .ok (.aload_n 0, 1) := dk_42 (dk_at dksX6_scale_0 0 rfl rfl)
theorem dX6_scale_1 : decode cX6_scale 1 = .ok (.invokevirtual 42, 3) := dk_182 0 42 (dk_at dksX6_scale_0 1 rfl rfl)
theorem dX6_scale_4 : decode cX6_scale 4 = .ok (.iload_n 1, 1) := dk_27 (dk_at dksX6_scale_0 4 rfl rfl)
theorem dX6_scale_5 : decode cX6_scale 5 = .ok (.invokestatic 151, 3) := dk_184 0 151 (dk_at dksX6_scale_0 5 rfl rfl)
theorem dX6_scale_8 : decode cX6_scale 8 = .ok (.ifCond .ne 10, 3) := dk_154 0 10 (dk_at dksX6_scale_0 8 rfl rfl)
theorem dX6_scale_11 : decode cX6_scale 11 = .ok (.aload_n 0, 1) := dk_42 (dk_at dksX6_scale_0 11 rfl rfl)
theorem dX6_scale_12 : decode cX6_scale 12 = .ok (.bipush 9, 2) := dk_16 9 (dk_at dksX6_scale_0 12 rfl rfl)
theorem dX6_scale_14 : decode cX6_scale 14 = .ok (.invokevirtual 45, 3) := dk_182 0 45 (dk_at dksX6_scale_0 14 rfl rfl)
theorem dX6_scale_17 : decode cX6_scale 17 = .ok (.lreturn, 1) := dk_173 (dk_at dksX6_scale_0 17 rfl rfl)
theorem dX6_scale_18 : decode cX6_scale 18 = .ok (.aload_n 0, 1) := dk_42 (dk_at dksX6_scale_0 18 rfl rfl)
theorem dX6_scale_19 : decode cX6_scale 19 = .ok (.iload_n 1, 1) := dk_27 (dk_at dksX6_scale_0 19 rfl rfl)
theorem dX6_scale_20 : decode cX6_scale 20 = .ok (.lload_n 2, 1) := dk_32 (dk_at dksX6_scale_0 20 rfl rfl)
theorem dX6_scale_21 : decode cX6_scale 21 = .ok (.invokevirtual 99, 3) := dk_182 0 99 (dk_at dksX6_scale_0 21 rfl rfl)
theorem dX6_scale_24 : decode cX6_scale 24 = .ok (.aload_n 0, 1) := dk_42 (dk_at dksX6_scale_1 0 rfl rfl)
theorem dX6_scale_25 : decode cX6_scale 25 = .ok (.getfield 71, 3) := dk_180 0 71 (dk_at dksX6_scale_1 1 rfl rfl)
theorem dX6_scale_28 : decode cX6_scale 28 = .ok (.ifCond .ne 19, 3) := dk_154 0 19 (dk_at dksX6_scale_1 4 rfl rfl)
theorem dX6_scale_31 : decode cX6_scale 31 = .ok (.aload_n 0, 1) := dk_42 (dk_at dksX6_scale_1 7 rfl rfl)
theorem dX6_scale_32 : decode cX6_scale 32 = .ok (.getfield 74, 3) := dk_180 0 74 (dk_at dksX6_scale_1 8 rfl rfl)
theorem dX6_scale_35 : decode cX6_scale 35 = .ok (.ifCond .ne 12, 3) := dk_154 0 12 (dk_at dksX6_scale_1 11 rfl rfl)
theorem dX6_scale_38 : decode cX6_scale 38 = .ok (.aload_n 0, 1) := dk_42 (dk_at dksX6_scale_1 14 rfl rfl)
theorem dX6_scale_39 : decode cX6_scale 39 = .ok (.getfield 77, 3) := dk_180 0 77 (dk_at dksX6_scale_1 15 rfl rfl)
theorem dX6_scale_42 : decode cX6_scale 42 = .ok (.lconst 0, 1) := dk_9 (dk_at dksX6_scale_1 18 rfl rfl)
theorem dX6_scale_43 : decode cX6_scale 43 = .ok (.lcmp, 1) := dk_148 (dk_at dksX6_scale_1 19 rfl rfl)
theorem dX6_scale_44 : decode cX6_scale 44 = .ok (.ifCond .ne 12, 3) := dk_154 0 12 (dk_at dksX6_scale_1 20 rfl rfl)
theorem dX6_scale_47 : decode cX6_scale 47 = .ok (.aload_n 0, 1) := dk_42 (dk_at dksX6_scale_1 23 rfl rfl)
theorem dX6_scale_48 : decode cX6_scale 48 = .ok (.iload_n 1, 1) := dk_27 (dk_at dksX6_scale_2 0 rfl rfl)
theorem dX6_scale_49 : decode cX6_scale 49 = .ok (.lload_n 2, 1) := dk_32 (dk_at dksX6_scale_2 1 rfl rfl)
theorem dX6_scale_50 : decode cX6_scale 50 = .ok (.invokevirtual 167, 3) := dk_182 0 167 (dk_at dksX6_scale_2 2 rfl rfl)
theorem dX6_scale_53 : decode cX6_scale 53 = .ok (.goto 25, 3) := dk_167 0 25 (dk_at dksX6_scale_2 5 rfl rfl)
theorem dX6_scale_56 : decode cX6_scale 56 = .ok (.aload_n 0, 1) := dk_42 (dk_at dksX6_scale_2 8 rfl rfl)
theorem dX6_scale_57 : decode cX6_scale 57 = .ok (.iload_n 1, 1) := dk_27 (dk_at dksX6_scale_2 9 rfl rfl)
theorem dX6_scale_58 : decode cX6_scale 58 = .ok (.aload_n 0, 1) := dk_42 (dk_at dksX6_scale_2 10 rfl rfl)
theorem dX6_scale_59 : decode cX6_scale 59 = .ok (.getfield 67, 3) := dk_180 0 67 (dk_at dksX6_scale_2 11 rfl rfl)
theorem dX6_scale_62 : decode cX6_scale 62 = .ok (.aload_n 0, 1) := dk_42 (dk_at dksX6_scale_2 14 rfl rfl)
theorem dX6_scale_63 : decode cX6_scale 63 = .ok (.getfield 77, 3) := dk_180 0 77 (dk_at dksX6_scale_2 15 rfl rfl)
theorem dX6_scale_66 : decode cX6_scale 66 = .ok (.aload_n 0, 1) := dk_42 (dk_at dksX6_scale_2 18 rfl rfl)
theorem dX6_scale_67 : decode cX6_scale 67 = .ok (.getfield 84, 3) := dk_180 0 84 (dk_at dksX6_scale_2 19 rfl rfl)
theorem dX6_scale_70 : decode cX6_scale 70 = .ok (.i2l, 1) := dk_133 (dk_at dksX6_scale_2 22 rfl rfl)
theorem dX6_scale_71 : decode cX6_scale 71 = .ok (.iload 4, 2) := dk_21 4 (dk_at dksX6_scale_3 0 rfl rfl)
theorem dX6_scale_73 : decode cX6_scale 73 = .ok (.i2l, 1) := dk_133 (dk_at dksX6_scale_3 2 rfl rfl)
theorem dX6_scale_74 : decode cX6_scale 74 = .ok (.ladd, 1) := dk_97 (dk_at dksX6_scale_3 3 rfl rfl)
theorem dX6_scale_75 : decode cX6_scale 75 = .ok (.invokevirtual 163, 3) := dk_182 0 163 (dk_at dksX6_scale_3 4 rfl rfl)
theorem dX6_scale_78 : decode cX6_scale 78 = .ok (.lreturn, 1) := dk_173 (dk_at dksX6_scale_3 7 rfl rfl)
abbrev cX6_told_2 : ByteArray := prog_10_method_23_code
def yX6_told_2 : MethodName := ⟨RX6, "told", "(IJ)J"⟩
def dkwX6_told_2_1 : List UInt8 := [32, 136, 133, 167, 0, 4, 32, 173]
abbrev dktX6_told_2_1 : List UInt8 := dkwX6_told_2_1 ++ []
def dkwX6_told_2_0 : List UInt8 := [42, 27, 32, 182, 0, 99, 42, 180, 0, 71, 153, 0, 10, 27, 184, 0, 103, 167, 0, 14, 27, 154, 0, 9]
abbrev dktX6_told_2_0 : List UInt8 := dkwX6_told_2_0 ++ dktX6_told_2_1
theorem dksX6_told_2_0 : cX6_told_2.data.toList.drop 0 = dktX6_told_2_0 := by decide +kernel
theorem dksX6_told_2_1 : cX6_told_2.data.toList.drop 24 = dktX6_told_2_1 := dk_seg dksX6_told_2_0 24 rfl rfl
theorem dX6_told_2_0 : decode cX6_told_2 0 = .ok (.aload_n 0, 1) := dk_42 (dk_at dksX6_told_2_0 0 rfl rfl)
theorem dX6_told_2_1 : decode cX6_told_2 1 = .ok (.iload_n 1, 1) := dk_27 (dk_at dksX6_told_2_0 1 rfl rfl)
theorem dX6_told_2_2 : decode cX6_told_2 2 = .ok (.lload_n 2, 1) := dk_32 (dk_at dksX6_told_2_0 2 rfl rfl)
theorem dX6_told_2_3 : decode cX6_told_2 3 = .ok (.invokevirtual 99, 3) := dk_182 0 99 (dk_at dksX6_told_2_0 3 rfl rfl)
theorem dX6_told_2_6 : decode cX6_told_2 6 = .ok (.aload_n 0, 1) := dk_42 (dk_at dksX6_told_2_0 6 rfl rfl)
theorem dX6_told_2_7 : decode cX6_told_2 7 = .ok (.getfield 71, 3) := dk_180 0 71 (dk_at dksX6_told_2_0 7 rfl rfl)
theorem dX6_told_2_10 : decode cX6_told_2 10 = .ok (.ifCond .eq 10, 3) := dk_153 0 10 (dk_at dksX6_told_2_0 10 rfl rfl)
theorem dX6_told_2_13 : decode cX6_told_2 13 = .ok (.iload_n 1, 1) := dk_27 (dk_at dksX6_told_2_0 13 rfl rfl)
theorem dX6_told_2_14 : decode cX6_told_2 14 = .ok (.invokestatic 103, 3) := dk_184 0 103 (dk_at dksX6_told_2_0 14 rfl rfl)
theorem dX6_told_2_17 : decode cX6_told_2 17 = .ok (.goto 14, 3) := dk_167 0 14 (dk_at dksX6_told_2_0 17 rfl rfl)
theorem dX6_told_2_20 : decode cX6_told_2 20 = .ok (.iload_n 1, 1) := dk_27 (dk_at dksX6_told_2_0 20 rfl rfl)
theorem dX6_told_2_21 : decode cX6_told_2 21 = .ok (.ifCond .ne 9, 3) := dk_154 0 9 (dk_at dksX6_told_2_0 21 rfl rfl)
theorem dX6_told_2_24 : decode cX6_told_2 24 = .ok (.lload_n 2, 1) := dk_32 (dk_at dksX6_told_2_1 0 rfl rfl)
theorem dX6_told_2_25 : decode cX6_told_2 25 = .ok (.l2i, 1) := dk_136 (dk_at dksX6_told_2_1 1 rfl rfl)
theorem dX6_told_2_26 : decode cX6_told_2 26 = .ok (.i2l, 1) := dk_133 (dk_at dksX6_told_2_1 2 rfl rfl)
theorem dX6_told_2_27 : decode cX6_told_2 27 = .ok (.goto 4, 3) := dk_167 0 4 (dk_at dksX6_told_2_1 3 rfl rfl)
theorem dX6_told_2_30 : decode cX6_told_2 30 = .ok (.lload_n 2, 1) := dk_32 (dk_at dksX6_told_2_1 6 rfl rfl)
theorem dX6_told_2_31 : decode cX6_told_2 31 = .ok (.lreturn, 1) := dk_173 (dk_at dksX6_told_2_1 7 rfl rfl)
abbrev cX6_nanOf : ByteArray := prog_10_method_21_code
def yX6_nanOf : MethodName := ⟨RX6, "nanOf", "(I)J"⟩
def dkwX6_nanOf_0 : List UInt8 := [26, 154, 0, 9, 20, 0, 91, 167, 0, 6, 20, 0, 93, 173]
abbrev dktX6_nanOf_0 : List UInt8 := dkwX6_nanOf_0 ++ []
theorem dksX6_nanOf_0 : cX6_nanOf.data.toList.drop 0 = dktX6_nanOf_0 := by decide +kernel
theorem dX6_nanOf_0 : decode cX6_nanOf 0 = .ok (.iload_n 0, 1) := dk_26 (dk_at dksX6_nanOf_0 0 rfl rfl)
theorem dX6_nanOf_1 : decode cX6_nanOf 1 = .ok (.ifCond .ne 9, 3) := dk_154 0 9 (dk_at dksX6_nanOf_0 1 rfl rfl)
theorem dX6_nanOf_4 : decode cX6_nanOf 4 = .ok (.ldc2_w 91, 3) := dk_20 0 91 (dk_at dksX6_nanOf_0 4 rfl rfl)
theorem dX6_nanOf_7 : decode cX6_nanOf 7 = .ok (.goto 6, 3) := dk_167 0 6 (dk_at dksX6_nanOf_0 7 rfl rfl)
theorem dX6_nanOf_10 : decode cX6_nanOf 10 = .ok (.ldc2_w 93, 3) := dk_20 0 93 (dk_at dksX6_nanOf_0 10 rfl rfl)
theorem dX6_nanOf_13 : decode cX6_nanOf 13 = .ok (.lreturn, 1) := dk_173 (dk_at dksX6_nanOf_0 13 rfl rfl)
abbrev cX6_sort : ByteArray := prog_10_method_32_code
def yX6_sort : MethodName := ⟨RX6, "sort", "(IJ)I"⟩
def dkwX6_sort_4 : List UInt8 := [153, 0, 8, 16, 8, 167, 0, 4, 3, 96, 172]
abbrev dktX6_sort_4 : List UInt8 := dkwX6_sort_4 ++ []
def dkwX6_sort_3 : List UInt8 := [184, 0, 61, 4, 100, 121, 148, 156, 0, 7, 6, 167, 0, 4, 7, 54, 4, 21, 4, 42, 180, 0, 67]
abbrev dktX6_sort_3 : List UInt8 := dkwX6_sort_3 ++ dktX6_sort_4
def dkwX6_sort_2 : List UInt8 := [167, 0, 37, 42, 180, 0, 77, 9, 148, 154, 0, 7, 5, 167, 0, 24, 42, 180, 0, 77, 10, 27]
abbrev dktX6_sort_2 : List UInt8 := dkwX6_sort_2 ++ dktX6_sort_3
def dkwX6_sort_1 : List UInt8 := [182, 0, 99, 42, 180, 0, 71, 153, 0, 7, 3, 167, 0, 48, 42, 180, 0, 74, 153, 0, 7, 4]
abbrev dktX6_sort_1 : List UInt8 := dkwX6_sort_1 ++ dktX6_sort_2
def dkwX6_sort_0 : List UInt8 := [42, 182, 0, 42, 27, 184, 0, 151, 154, 0, 11, 42, 16, 9, 182, 0, 45, 136, 172, 42, 27, 32]
abbrev dktX6_sort_0 : List UInt8 := dkwX6_sort_0 ++ dktX6_sort_1
theorem dksX6_sort_0 : cX6_sort.data.toList.drop 0 = dktX6_sort_0 := by decide +kernel
theorem dksX6_sort_1 : cX6_sort.data.toList.drop 22 = dktX6_sort_1 := dk_seg dksX6_sort_0 22 rfl rfl
theorem dksX6_sort_2 : cX6_sort.data.toList.drop 44 = dktX6_sort_2 := dk_seg dksX6_sort_1 22 rfl rfl
theorem dksX6_sort_3 : cX6_sort.data.toList.drop 66 = dktX6_sort_3 := dk_seg dksX6_sort_2 22 rfl rfl
theorem dksX6_sort_4 : cX6_sort.data.toList.drop 89 = dktX6_sort_4 := dk_seg dksX6_sort_3 23 rfl rfl
theorem dX6_sort_0 : decode cX6_sort 0 = .ok (.aload_n 0, 1) := dk_42 (dk_at dksX6_sort_0 0 rfl rfl)
theorem dX6_sort_1 : decode cX6_sort 1 = .ok (.invokevirtual 42, 3) := dk_182 0 42 (dk_at dksX6_sort_0 1 rfl rfl)
theorem dX6_sort_4 : decode cX6_sort 4 = .ok (.iload_n 1, 1) := dk_27 (dk_at dksX6_sort_0 4 rfl rfl)
theorem dX6_sort_5 : decode cX6_sort 5 = .ok (.invokestatic 151, 3) := dk_184 0 151 (dk_at dksX6_sort_0 5 rfl rfl)
theorem dX6_sort_8 : decode cX6_sort 8 = .ok (.ifCond .ne 11, 3) := dk_154 0 11 (dk_at dksX6_sort_0 8 rfl rfl)
theorem dX6_sort_11 : decode cX6_sort 11 = .ok (.aload_n 0, 1) := dk_42 (dk_at dksX6_sort_0 11 rfl rfl)
theorem dX6_sort_12 : decode cX6_sort 12 = .ok (.bipush 9, 2) := dk_16 9 (dk_at dksX6_sort_0 12 rfl rfl)
theorem dX6_sort_14 : decode cX6_sort 14 = .ok (.invokevirtual 45, 3) := dk_182 0 45 (dk_at dksX6_sort_0 14 rfl rfl)
theorem dX6_sort_17 : decode cX6_sort 17 = .ok (.l2i, 1) := dk_136 (dk_at dksX6_sort_0 17 rfl rfl)
theorem dX6_sort_18 : decode cX6_sort 18 = .ok (.ireturn, 1) := dk_172 (dk_at dksX6_sort_0 18 rfl rfl)
theorem dX6_sort_19 : decode cX6_sort 19 = .ok (.aload_n 0, 1) := dk_42 (dk_at dksX6_sort_0 19 rfl rfl)
theorem dX6_sort_20 : decode cX6_sort 20 = .ok (.iload_n 1, 1) := dk_27 (dk_at dksX6_sort_0 20 rfl rfl)
theorem dX6_sort_21 : decode cX6_sort 21 = .ok (.lload_n 2, 1) := dk_32 (dk_at dksX6_sort_0 21 rfl rfl)
theorem dX6_sort_22 : decode cX6_sort 22 = .ok (.invokevirtual 99, 3) := dk_182 0 99 (dk_at dksX6_sort_1 0 rfl rfl)
theorem dX6_sort_25 : decode cX6_sort 25 = .ok (.aload_n 0, 1) := dk_42 (dk_at dksX6_sort_1 3 rfl rfl)
theorem dX6_sort_26 : decode cX6_sort 26 = .ok (.getfield 71, 3) := dk_180 0 71 (dk_at dksX6_sort_1 4 rfl rfl)
theorem dX6_sort_29 : decode cX6_sort 29 = .ok (.ifCond .eq 7, 3) := dk_153 0 7 (dk_at dksX6_sort_1 7 rfl rfl)
theorem dX6_sort_32 : decode cX6_sort 32 = .ok (.iconst 0, 1) := dk_3 (dk_at dksX6_sort_1 10 rfl rfl)
theorem dX6_sort_33 : decode cX6_sort 33 = .ok (.goto 48, 3) := dk_167 0 48 (dk_at dksX6_sort_1 11 rfl rfl)
theorem dX6_sort_36 : decode cX6_sort 36 = .ok (.aload_n 0, 1) := dk_42 (dk_at dksX6_sort_1 14 rfl rfl)
theorem dX6_sort_37 : decode cX6_sort 37 = .ok (.getfield 74, 3) := dk_180 0 74 (dk_at dksX6_sort_1 15 rfl rfl)
theorem dX6_sort_40 : decode cX6_sort 40 = .ok (.ifCond .eq 7, 3) := dk_153 0 7 (dk_at dksX6_sort_1 18 rfl rfl)
theorem dX6_sort_43 : decode cX6_sort 43 = .ok (.iconst 1, 1) := dk_4 (dk_at dksX6_sort_1 21 rfl rfl)
theorem dX6_sort_44 : decode cX6_sort 44 = .ok (.goto 37, 3) := dk_167 0 37 (dk_at dksX6_sort_2 0 rfl rfl)
theorem dX6_sort_47 : decode cX6_sort 47 = .ok (.aload_n 0, 1) := dk_42 (dk_at dksX6_sort_2 3 rfl rfl)
theorem dX6_sort_48 : decode cX6_sort 48 = .ok (.getfield 77, 3) := dk_180 0 77 (dk_at dksX6_sort_2 4 rfl rfl)
theorem dX6_sort_51 : decode cX6_sort 51 = .ok (.lconst 0, 1) := dk_9 (dk_at dksX6_sort_2 7 rfl rfl)
theorem dX6_sort_52 : decode cX6_sort 52 = .ok (.lcmp, 1) := dk_148 (dk_at dksX6_sort_2 8 rfl rfl)
theorem dX6_sort_53 : decode cX6_sort 53 = .ok (.ifCond .ne 7, 3) := dk_154 0 7 (dk_at dksX6_sort_2 9 rfl rfl)
theorem dX6_sort_56 : decode cX6_sort 56 = .ok (.iconst 2, 1) := dk_5 (dk_at dksX6_sort_2 12 rfl rfl)
theorem dX6_sort_57 : decode cX6_sort 57 = .ok (.goto 24, 3) := dk_167 0 24 (dk_at dksX6_sort_2 13 rfl rfl)
theorem dX6_sort_60 : decode cX6_sort 60 = .ok (.aload_n 0, 1) := dk_42 (dk_at dksX6_sort_2 16 rfl rfl)
theorem dX6_sort_61 : decode cX6_sort 61 = .ok (.getfield 77, 3) := dk_180 0 77 (dk_at dksX6_sort_2 17 rfl rfl)
theorem dX6_sort_64 : decode cX6_sort 64 = .ok (.lconst 1, 1) := dk_10 (dk_at dksX6_sort_2 20 rfl rfl)
theorem dX6_sort_65 : decode cX6_sort 65 = .ok (.iload_n 1, 1) := dk_27 (dk_at dksX6_sort_2 21 rfl rfl)
theorem dX6_sort_66 : decode cX6_sort 66 = .ok (.invokestatic 61, 3) := dk_184 0 61 (dk_at dksX6_sort_3 0 rfl rfl)
theorem dX6_sort_69 : decode cX6_sort 69 = .ok (.iconst 1, 1) := dk_4 (dk_at dksX6_sort_3 3 rfl rfl)
theorem dX6_sort_70 : decode cX6_sort 70 = .ok (.isub, 1) := dk_100 (dk_at dksX6_sort_3 4 rfl rfl)
theorem dX6_sort_71 : decode cX6_sort 71 = .ok (.lshl, 1) := dk_121 (dk_at dksX6_sort_3 5 rfl rfl)
theorem dX6_sort_72 : decode cX6_sort 72 = .ok (.lcmp, 1) := dk_148 (dk_at dksX6_sort_3 6 rfl rfl)
theorem dX6_sort_73 : decode cX6_sort 73 = .ok (.ifCond .ge 7, 3) := dk_156 0 7 (dk_at dksX6_sort_3 7 rfl rfl)
theorem dX6_sort_76 : decode cX6_sort 76 = .ok (.iconst 3, 1) := dk_6 (dk_at dksX6_sort_3 10 rfl rfl)
theorem dX6_sort_77 : decode cX6_sort 77 = .ok (.goto 4, 3) := dk_167 0 4 (dk_at dksX6_sort_3 11 rfl rfl)
theorem dX6_sort_80 : decode cX6_sort 80 = .ok (.iconst 4, 1) := dk_7 (dk_at dksX6_sort_3 14 rfl rfl)
theorem dX6_sort_81 : decode cX6_sort 81 = .ok (.istore 4, 2) := dk_54 4 (dk_at dksX6_sort_3 15 rfl rfl)
theorem dX6_sort_83 : decode cX6_sort 83 = .ok (.iload 4, 2) := dk_21 4 (dk_at dksX6_sort_3 17 rfl rfl)
theorem dX6_sort_85 : decode cX6_sort 85 = .ok (.aload_n 0, 1) := dk_42 (dk_at dksX6_sort_3 19 rfl rfl)
theorem dX6_sort_86 : decode cX6_sort 86 = .ok (.getfield 67, 3) := dk_180 0 67 (dk_at dksX6_sort_3 20 rfl rfl)
theorem dX6_sort_89 : decode cX6_sort 89 = .ok (.ifCond .eq 8, 3) := dk_153 0 8 (dk_at dksX6_sort_4 0 rfl rfl)
theorem dX6_sort_92 : decode cX6_sort 92 = .ok (.bipush 8, 2) := dk_16 8 (dk_at dksX6_sort_4 3 rfl rfl)
theorem dX6_sort_94 : decode cX6_sort 94 = .ok (.goto 4, 3) := dk_167 0 4 (dk_at dksX6_sort_4 5 rfl rfl)
theorem dX6_sort_97 : decode cX6_sort 97 = .ok (.iconst 0, 1) := dk_3 (dk_at dksX6_sort_4 8 rfl rfl)
theorem dX6_sort_98 : decode cX6_sort 98 = .ok (.iadd, 1) := dk_96 (dk_at dksX6_sort_4 9 rfl rfl)
theorem dX6_sort_99 : decode cX6_sort 99 = .ok (.ireturn, 1) := dk_172 (dk_at dksX6_sort_4 10 rfl rfl)
abbrev cX6_one : ByteArray := prog_10_method_56_code
def yX6_one : MethodName := ⟨RX6, "one", "(IIJ)J"⟩
def dkwX6_one_11 : List UInt8 := [28, 33, 184, 0, 249, 184, 1, 0, 184, 0, 228, 173]
abbrev dktX6_one_11 : List UInt8 := dkwX6_one_11 ++ []
def dkwX6_one_10 : List UInt8 := [184, 0, 253, 184, 0, 234, 173, 28, 154, 0, 16, 33, 184, 0, 191, 184, 0, 195, 184, 0, 234, 167, 0, 14]
abbrev dktX6_one_10 : List UInt8 := dkwX6_one_10 ++ dktX6_one_11
def dkwX6_one_9 : List UInt8 := [28, 154, 0, 17, 12, 33, 184, 0, 191, 184, 0, 245, 184, 0, 228, 167, 0, 15, 15, 28, 33, 184, 0, 249]
abbrev dktX6_one_9 : List UInt8 := dkwX6_one_9 ++ dktX6_one_10
def dkwX6_one_8 : List UInt8 := [182, 0, 224, 182, 0, 236, 182, 0, 224, 173, 42, 28, 33, 182, 0, 239, 173, 42, 28, 33, 182, 0, 242, 173]
abbrev dktX6_one_8 : List UInt8 := dkwX6_one_8 ++ dktX6_one_9
def dkwX6_one_7 : List UInt8 := [167, 0, 4, 15, 184, 0, 234, 173, 42, 28, 33, 182, 0, 236, 173, 42, 28, 42, 28, 42, 28, 33]
abbrev dktX6_one_7 : List UInt8 := dkwX6_one_7 ++ dktX6_one_8
def dkwX6_one_6 : List UInt8 := [18, 227, 167, 0, 4, 12, 184, 0, 228, 167, 0, 20, 42, 180, 0, 67, 153, 0, 9, 20, 0, 232]
abbrev dktX6_one_6 : List UInt8 := dkwX6_one_6 ++ dktX6_one_7
def dkwX6_one_5 : List UInt8 := [154, 0, 12, 42, 28, 33, 182, 0, 167, 167, 0, 43, 28, 154, 0, 22, 42, 180, 0, 67, 153, 0, 8]
abbrev dktX6_one_5 : List UInt8 := dkwX6_one_5 ++ dktX6_one_6
def dkwX6_one_4 : List UInt8 := [184, 0, 171, 173, 42, 180, 0, 71, 154, 0, 19, 42, 180, 0, 77, 9, 148, 154, 0, 19, 42, 180, 0, 74]
abbrev dktX6_one_4 : List UInt8 := dkwX6_one_4 ++ dktX6_one_5
def dkwX6_one_3 : List UInt8 := [42, 28, 33, 182, 0, 224, 173, 42, 180, 0, 71, 153, 0, 10, 28, 184, 0, 103, 167, 0, 8, 28, 33]
abbrev dktX6_one_3 : List UInt8 := dkwX6_one_3 ++ dktX6_one_4
def dkwX6_one_2 : List UInt8 := [170, 0, 0, 0, 214, 0, 0, 0, 0, 0, 0, 0, 7, 0, 0, 0, 45, 0, 0, 0, 52, 0, 0, 0, 72, 0, 0, 0, 145, 0, 0, 0, 152, 0, 0, 0, 169, 0, 0, 0, 176, 0, 0, 0, 183]
abbrev dktX6_one_2 : List UInt8 := dkwX6_one_2 ++ dktX6_one_3
def dkwX6_one_1 : List UInt8 := [182, 0, 45, 173, 42, 28, 33, 182, 0, 99, 27]
abbrev dktX6_one_1 : List UInt8 := dkwX6_one_1 ++ dktX6_one_2
def dkwX6_one_0 : List UInt8 := [42, 182, 0, 42, 27, 155, 0, 16, 27, 16, 8, 163, 0, 10, 28, 184, 0, 151, 154, 0, 10, 42, 16, 9]
abbrev dktX6_one_0 : List UInt8 := dkwX6_one_0 ++ dktX6_one_1
theorem dksX6_one_0 : cX6_one.data.toList.drop 0 = dktX6_one_0 := by decide +kernel
theorem dksX6_one_1 : cX6_one.data.toList.drop 24 = dktX6_one_1 := dk_seg dksX6_one_0 24 rfl rfl
theorem dksX6_one_2 : cX6_one.data.toList.drop 35 = dktX6_one_2 := dk_seg dksX6_one_1 11 rfl rfl
theorem dksX6_one_3 : cX6_one.data.toList.drop 80 = dktX6_one_3 := dk_seg dksX6_one_2 45 rfl rfl
theorem dksX6_one_4 : cX6_one.data.toList.drop 103 = dktX6_one_4 := dk_seg dksX6_one_3 23 rfl rfl
theorem dksX6_one_5 : cX6_one.data.toList.drop 127 = dktX6_one_5 := dk_seg dksX6_one_4 24 rfl rfl
theorem dksX6_one_6 : cX6_one.data.toList.drop 150 = dktX6_one_6 := dk_seg dksX6_one_5 23 rfl rfl
theorem dksX6_one_7 : cX6_one.data.toList.drop 172 = dktX6_one_7 := dk_seg dksX6_one_6 22 rfl rfl
theorem dksX6_one_8 : cX6_one.data.toList.drop 194 = dktX6_one_8 := dk_seg dksX6_one_7 22 rfl rfl
theorem dksX6_one_9 : cX6_one.data.toList.drop 218 = dktX6_one_9 := dk_seg dksX6_one_8 24 rfl rfl
theorem dksX6_one_10 : cX6_one.data.toList.drop 242 = dktX6_one_10 := dk_seg dksX6_one_9 24 rfl rfl
theorem dksX6_one_11 : cX6_one.data.toList.drop 266 = dktX6_one_11 := dk_seg dksX6_one_10 24 rfl rfl
theorem dX6_one_0 : decode cX6_one 0 = .ok (.aload_n 0, 1) := dk_42 (dk_at dksX6_one_0 0 rfl rfl)
theorem dX6_one_1 : decode cX6_one 1 = .ok (.invokevirtual 42, 3) := dk_182 0 42 (dk_at dksX6_one_0 1 rfl rfl)
theorem dX6_one_4 : decode cX6_one 4 = .ok (.iload_n 1, 1) := dk_27 (dk_at dksX6_one_0 4 rfl rfl)
theorem dX6_one_5 : decode cX6_one 5 = .ok (.ifCond .lt 16, 3) := dk_155 0 16 (dk_at dksX6_one_0 5 rfl rfl)
theorem dX6_one_8 : decode cX6_one 8 = .ok (.iload_n 1, 1) := dk_27 (dk_at dksX6_one_0 8 rfl rfl)
theorem dX6_one_9 : decode cX6_one 9 = .ok (.bipush 8, 2) := dk_16 8 (dk_at dksX6_one_0 9 rfl rfl)
theorem dX6_one_11 : decode cX6_one 11 = .ok (.if_icmp .gt 10, 3) := dk_163 0 10 (dk_at dksX6_one_0 11 rfl rfl)
theorem dX6_one_14 : decode cX6_one 14 = .ok (.iload_n 2, 1) := dk_28 (dk_at dksX6_one_0 14 rfl rfl)
theorem dX6_one_15 : decode cX6_one 15 = .ok (.invokestatic 151, 3) := dk_184 0 151 (dk_at dksX6_one_0 15 rfl rfl)
theorem dX6_one_18 : decode cX6_one 18 = .ok (.ifCond .ne 10, 3) := dk_154 0 10 (dk_at dksX6_one_0 18 rfl rfl)
theorem dX6_one_21 : decode cX6_one 21 = .ok (.aload_n 0, 1) := dk_42 (dk_at dksX6_one_0 21 rfl rfl)
theorem dX6_one_22 : decode cX6_one 22 = .ok (.bipush 9, 2) := dk_16 9 (dk_at dksX6_one_0 22 rfl rfl)
theorem dX6_one_24 : decode cX6_one 24 = .ok (.invokevirtual 45, 3) := dk_182 0 45 (dk_at dksX6_one_1 0 rfl rfl)
theorem dX6_one_27 : decode cX6_one 27 = .ok (.lreturn, 1) := dk_173 (dk_at dksX6_one_1 3 rfl rfl)
theorem dX6_one_28 : decode cX6_one 28 = .ok (.aload_n 0, 1) := dk_42 (dk_at dksX6_one_1 4 rfl rfl)
theorem dX6_one_29 : decode cX6_one 29 = .ok (.iload_n 2, 1) := dk_28 (dk_at dksX6_one_1 5 rfl rfl)
theorem dX6_one_30 : decode cX6_one 30 = .ok (.lload_n 3, 1) := dk_33 (dk_at dksX6_one_1 6 rfl rfl)
theorem dX6_one_31 : decode cX6_one 31 = .ok (.invokevirtual 99, 3) := dk_182 0 99 (dk_at dksX6_one_1 7 rfl rfl)
theorem dX6_one_34 : decode cX6_one 34 = .ok (.iload_n 1, 1) := dk_27 (dk_at dksX6_one_1 10 rfl rfl)
theorem dX6_one_35 : decode cX6_one 35 = .ok (.tableswitch 214 0 7 #[45, 52, 72, 145, 152, 169, 176, 183], 45) := by decide +kernel
theorem dX6_one_80 : decode cX6_one 80 = .ok (.aload_n 0, 1) := dk_42 (dk_at dksX6_one_3 0 rfl rfl)
theorem dX6_one_81 : decode cX6_one 81 = .ok (.iload_n 2, 1) := dk_28 (dk_at dksX6_one_3 1 rfl rfl)
theorem dX6_one_82 : decode cX6_one 82 = .ok (.lload_n 3, 1) := dk_33 (dk_at dksX6_one_3 2 rfl rfl)
theorem dX6_one_83 : decode cX6_one 83 = .ok (.invokevirtual 224, 3) := dk_182 0 224 (dk_at dksX6_one_3 3 rfl rfl)
theorem dX6_one_86 : decode cX6_one 86 = .ok (.lreturn, 1) := dk_173 (dk_at dksX6_one_3 6 rfl rfl)
theorem dX6_one_87 : decode cX6_one 87 = .ok (.aload_n 0, 1) := dk_42 (dk_at dksX6_one_3 7 rfl rfl)
theorem dX6_one_88 : decode cX6_one 88 = .ok (.getfield 71, 3) := dk_180 0 71 (dk_at dksX6_one_3 8 rfl rfl)
theorem dX6_one_91 : decode cX6_one 91 = .ok (.ifCond .eq 10, 3) := dk_153 0 10 (dk_at dksX6_one_3 11 rfl rfl)
theorem dX6_one_94 : decode cX6_one 94 = .ok (.iload_n 2, 1) := dk_28 (dk_at dksX6_one_3 14 rfl rfl)
theorem dX6_one_95 : decode cX6_one 95 = .ok (.invokestatic 103, 3) := dk_184 0 103 (dk_at dksX6_one_3 15 rfl rfl)
theorem dX6_one_98 : decode cX6_one 98 = .ok (.goto 8, 3) := dk_167 0 8 (dk_at dksX6_one_3 18 rfl rfl)
theorem dX6_one_101 : decode cX6_one 101 = .ok (.iload_n 2, 1) := dk_28 (dk_at dksX6_one_3 21 rfl rfl)
theorem dX6_one_102 : decode cX6_one 102 = .ok (.lload_n 3, 1) := dk_33 (dk_at dksX6_one_3 22 rfl rfl)
theorem dX6_one_103 : decode cX6_one 103 = .ok (.invokestatic 171, 3) := dk_184 0 171 (dk_at dksX6_one_4 0 rfl rfl)
theorem dX6_one_106 : decode cX6_one 106 = .ok (.lreturn, 1) := dk_173 (dk_at dksX6_one_4 3 rfl rfl)
theorem dX6_one_107 : decode cX6_one 107 = .ok (.aload_n 0, 1) := dk_42 (dk_at dksX6_one_4 4 rfl rfl)
theorem dX6_one_108 : decode cX6_one 108 = .ok (.getfield 71, 3) := dk_180 0 71 (dk_at dksX6_one_4 5 rfl rfl)
theorem dX6_one_111 : decode cX6_one 111 = .ok (.ifCond .ne 19, 3) := dk_154 0 19 (dk_at dksX6_one_4 8 rfl rfl)
theorem dX6_one_114 : decode cX6_one 114 = .ok (.aload_n 0, 1) := dk_42 (dk_at dksX6_one_4 11 rfl rfl)
theorem dX6_one_115 : decode cX6_one 115 = .ok (.getfield 77, 3) := dk_180 0 77 (dk_at dksX6_one_4 12 rfl rfl)
theorem dX6_one_118 : decode cX6_one 118 = .ok (.lconst 0, 1) := dk_9 (dk_at dksX6_one_4 15 rfl rfl)
theorem dX6_one_119 : decode cX6_one 119 = .ok (.lcmp, 1) := dk_148 (dk_at dksX6_one_4 16 rfl rfl)
theorem dX6_one_120 : decode cX6_one 120 = .ok (.ifCond .ne 19, 3) := dk_154 0 19 (dk_at dksX6_one_4 17 rfl rfl)
theorem dX6_one_123 : decode cX6_one 123 = .ok (.aload_n 0, 1) := dk_42 (dk_at dksX6_one_4 20 rfl rfl)
theorem dX6_one_124 : decode cX6_one 124 = .ok (.getfield 74, 3) := dk_180 0 74 (dk_at dksX6_one_4 21 rfl rfl)
theorem dX6_one_127 : decode cX6_one 127 = .ok (.ifCond .ne 12, 3) := dk_154 0 12 (dk_at dksX6_one_5 0 rfl rfl)
theorem dX6_one_130 : decode cX6_one 130 = .ok (.aload_n 0, 1) := dk_42 (dk_at dksX6_one_5 3 rfl rfl)
theorem dX6_one_131 : decode cX6_one 131 = .ok (.iload_n 2, 1) := dk_28 (dk_at dksX6_one_5 4 rfl rfl)
theorem dX6_one_132 : decode cX6_one 132 = .ok (.lload_n 3, 1) := dk_33 (dk_at dksX6_one_5 5 rfl rfl)
theorem dX6_one_133 : decode cX6_one 133 = .ok (.invokevirtual 167, 3) := dk_182 0 167 (dk_at dksX6_one_5 6 rfl rfl)
theorem dX6_one_136 : decode cX6_one 136 = .ok (.goto 43, 3) := dk_167 0 43 (dk_at dksX6_one_5 9 rfl rfl)
theorem dX6_one_139 : decode cX6_one 139 = .ok (.iload_n 2, 1) := dk_28 (dk_at dksX6_one_5 12 rfl rfl)
theorem dX6_one_140 : decode cX6_one 140 = .ok (.ifCond .ne 22, 3) := dk_154 0 22 (dk_at dksX6_one_5 13 rfl rfl)
theorem dX6_one_143 : decode cX6_one 143 = .ok (.aload_n 0, 1) := dk_42 (dk_at dksX6_one_5 16 rfl rfl)
theorem dX6_one_144 : decode cX6_one 144 = .ok (.getfield 67, 3) := dk_180 0 67 (dk_at dksX6_one_5 17 rfl rfl)
theorem dX6_one_147 : decode cX6_one 147 = .ok (.ifCond .eq 8, 3) := dk_153 0 8 (dk_at dksX6_one_5 20 rfl rfl)
theorem dX6_one_150 : decode cX6_one 150 = .ok (.ldc 227, 2) := dk_18 227 (dk_at dksX6_one_6 0 rfl rfl)
theorem dX6_one_152 : decode cX6_one 152 = .ok (.goto 4, 3) := dk_167 0 4 (dk_at dksX6_one_6 2 rfl rfl)
theorem dX6_one_155 : decode cX6_one 155 = .ok (.fconst 1, 1) := dk_12 (dk_at dksX6_one_6 5 rfl rfl)
theorem dX6_one_156 : decode cX6_one 156 = .ok (.invokestatic 228, 3) := dk_184 0 228 (dk_at dksX6_one_6 6 rfl rfl)
theorem dX6_one_159 : decode cX6_one 159 = .ok (.goto 20, 3) := dk_167 0 20 (dk_at dksX6_one_6 9 rfl rfl)
theorem dX6_one_162 : decode cX6_one 162 = .ok (.aload_n 0, 1) := dk_42 (dk_at dksX6_one_6 12 rfl rfl)
theorem dX6_one_163 : decode cX6_one 163 = .ok (.getfield 67, 3) := dk_180 0 67 (dk_at dksX6_one_6 13 rfl rfl)
theorem dX6_one_166 : decode cX6_one 166 = .ok (.ifCond .eq 9, 3) := dk_153 0 9 (dk_at dksX6_one_6 16 rfl rfl)
theorem dX6_one_169 : decode cX6_one 169 = .ok (.ldc2_w 232, 3) := dk_20 0 232 (dk_at dksX6_one_6 19 rfl rfl)
theorem dX6_one_172 : decode cX6_one 172 = .ok (.goto 4, 3) := dk_167 0 4 (dk_at dksX6_one_7 0 rfl rfl)
theorem dX6_one_175 : decode cX6_one 175 = .ok (.dconst 1, 1) := dk_15 (dk_at dksX6_one_7 3 rfl rfl)
theorem dX6_one_176 : decode cX6_one 176 = .ok (.invokestatic 234, 3) := dk_184 0 234 (dk_at dksX6_one_7 4 rfl rfl)
theorem dX6_one_179 : decode cX6_one 179 = .ok (.lreturn, 1) := dk_173 (dk_at dksX6_one_7 7 rfl rfl)
theorem dX6_one_180 : decode cX6_one 180 = .ok (.aload_n 0, 1) := dk_42 (dk_at dksX6_one_7 8 rfl rfl)
theorem dX6_one_181 : decode cX6_one 181 = .ok (.iload_n 2, 1) := dk_28 (dk_at dksX6_one_7 9 rfl rfl)
theorem dX6_one_182 : decode cX6_one 182 = .ok (.lload_n 3, 1) := dk_33 (dk_at dksX6_one_7 10 rfl rfl)
theorem dX6_one_183 : decode cX6_one 183 = .ok (.invokevirtual 236, 3) := dk_182 0 236 (dk_at dksX6_one_7 11 rfl rfl)
theorem dX6_one_186 : decode cX6_one 186 = .ok (.lreturn, 1) := dk_173 (dk_at dksX6_one_7 14 rfl rfl)
theorem dX6_one_187 : decode cX6_one 187 = .ok (.aload_n 0, 1) := dk_42 (dk_at dksX6_one_7 15 rfl rfl)
theorem dX6_one_188 : decode cX6_one 188 = .ok (.iload_n 2, 1) := dk_28 (dk_at dksX6_one_7 16 rfl rfl)
theorem dX6_one_189 : decode cX6_one 189 = .ok (.aload_n 0, 1) := dk_42 (dk_at dksX6_one_7 17 rfl rfl)
theorem dX6_one_190 : decode cX6_one 190 = .ok (.iload_n 2, 1) := dk_28 (dk_at dksX6_one_7 18 rfl rfl)
theorem dX6_one_191 : decode cX6_one 191 = .ok (.aload_n 0, 1) := dk_42 (dk_at dksX6_one_7 19 rfl rfl)
theorem dX6_one_192 : decode cX6_one 192 = .ok (.iload_n 2, 1) := dk_28 (dk_at dksX6_one_7 20 rfl rfl)
theorem dX6_one_193 : decode cX6_one 193 = .ok (.lload_n 3, 1) := dk_33 (dk_at dksX6_one_7 21 rfl rfl)
theorem dX6_one_194 : decode cX6_one 194 = .ok (.invokevirtual 224, 3) := dk_182 0 224 (dk_at dksX6_one_8 0 rfl rfl)
theorem dX6_one_197 : decode cX6_one 197 = .ok (.invokevirtual 236, 3) := dk_182 0 236 (dk_at dksX6_one_8 3 rfl rfl)
theorem dX6_one_200 : decode cX6_one 200 = .ok (.invokevirtual 224, 3) := dk_182 0 224 (dk_at dksX6_one_8 6 rfl rfl)
theorem dX6_one_203 : decode cX6_one 203 = .ok (.lreturn, 1) := dk_173 (dk_at dksX6_one_8 9 rfl rfl)
theorem dX6_one_204 : decode cX6_one 204 = .ok (.aload_n 0, 1) := dk_42 (dk_at dksX6_one_8 10 rfl rfl)
theorem dX6_one_205 : decode cX6_one 205 = .ok (.iload_n 2, 1) := dk_28 (dk_at dksX6_one_8 11 rfl rfl)
theorem dX6_one_206 : decode cX6_one 206 = .ok (.lload_n 3, 1) := dk_33 (dk_at dksX6_one_8 12 rfl rfl)
theorem dX6_one_207 : decode cX6_one 207 = .ok (.invokevirtual 239, 3) := dk_182 0 239 (dk_at dksX6_one_8 13 rfl rfl)
theorem dX6_one_210 : decode cX6_one 210 = .ok (.lreturn, 1) := dk_173 (dk_at dksX6_one_8 16 rfl rfl)
theorem dX6_one_211 : decode cX6_one 211 = .ok (.aload_n 0, 1) := dk_42 (dk_at dksX6_one_8 17 rfl rfl)
theorem dX6_one_212 : decode cX6_one 212 = .ok (.iload_n 2, 1) := dk_28 (dk_at dksX6_one_8 18 rfl rfl)
theorem dX6_one_213 : decode cX6_one 213 = .ok (.lload_n 3, 1) := dk_33 (dk_at dksX6_one_8 19 rfl rfl)
theorem dX6_one_214 : decode cX6_one 214 = .ok (.invokevirtual 242, 3) := dk_182 0 242 (dk_at dksX6_one_8 20 rfl rfl)
theorem dX6_one_217 : decode cX6_one 217 = .ok (.lreturn, 1) := dk_173 (dk_at dksX6_one_8 23 rfl rfl)
theorem dX6_one_218 : decode cX6_one 218 = .ok (.iload_n 2, 1) := dk_28 (dk_at dksX6_one_9 0 rfl rfl)
theorem dX6_one_219 : decode cX6_one 219 = .ok (.ifCond .ne 17, 3) := dk_154 0 17 (dk_at dksX6_one_9 1 rfl rfl)
theorem dX6_one_222 : decode cX6_one 222 = .ok (.fconst 1, 1) := dk_12 (dk_at dksX6_one_9 4 rfl rfl)
theorem dX6_one_223 : decode cX6_one 223 = .ok (.lload_n 3, 1) := dk_33 (dk_at dksX6_one_9 5 rfl rfl)
theorem dX6_one_224 : decode cX6_one 224 = .ok (.invokestatic 191, 3) := dk_184 0 191 (dk_at dksX6_one_9 6 rfl rfl)
theorem dX6_one_227 : decode cX6_one 227 = .ok (.invokestatic 245, 3) := dk_184 0 245 (dk_at dksX6_one_9 9 rfl rfl)
theorem dX6_one_230 : decode cX6_one 230 = .ok (.invokestatic 228, 3) := dk_184 0 228 (dk_at dksX6_one_9 12 rfl rfl)
theorem dX6_one_233 : decode cX6_one 233 = .ok (.goto 15, 3) := dk_167 0 15 (dk_at dksX6_one_9 15 rfl rfl)
theorem dX6_one_236 : decode cX6_one 236 = .ok (.dconst 1, 1) := dk_15 (dk_at dksX6_one_9 18 rfl rfl)
theorem dX6_one_237 : decode cX6_one 237 = .ok (.iload_n 2, 1) := dk_28 (dk_at dksX6_one_9 19 rfl rfl)
theorem dX6_one_238 : decode cX6_one 238 = .ok (.lload_n 3, 1) := dk_33 (dk_at dksX6_one_9 20 rfl rfl)
theorem dX6_one_239 : decode cX6_one 239 = .ok (.invokestatic 249, 3) := dk_184 0 249 (dk_at dksX6_one_9 21 rfl rfl)
theorem dX6_one_242 : decode cX6_one 242 = .ok (.invokestatic 253, 3) := dk_184 0 253 (dk_at dksX6_one_10 0 rfl rfl)
theorem dX6_one_245 : decode cX6_one 245 = .ok (.invokestatic 234, 3) := dk_184 0 234 (dk_at dksX6_one_10 3 rfl rfl)
theorem dX6_one_248 : decode cX6_one 248 = .ok (.lreturn, 1) := dk_173 (dk_at dksX6_one_10 6 rfl rfl)
theorem dX6_one_249 : decode cX6_one 249 = .ok (.iload_n 2, 1) := dk_28 (dk_at dksX6_one_10 7 rfl rfl)
theorem dX6_one_250 : decode cX6_one 250 = .ok (.ifCond .ne 16, 3) := dk_154 0 16 (dk_at dksX6_one_10 8 rfl rfl)
theorem dX6_one_253 : decode cX6_one 253 = .ok (.lload_n 3, 1) := dk_33 (dk_at dksX6_one_10 11 rfl rfl)
theorem dX6_one_254 : decode cX6_one 254 = .ok (.invokestatic 191, 3) := dk_184 0 191 (dk_at dksX6_one_10 12 rfl rfl)
theorem dX6_one_257 : decode cX6_one 257 = .ok (.invokestatic 195, 3) := dk_184 0 195 (dk_at dksX6_one_10 15 rfl rfl)
theorem dX6_one_260 : decode cX6_one 260 = .ok (.invokestatic 234, 3) := dk_184 0 234 (dk_at dksX6_one_10 18 rfl rfl)
theorem dX6_one_263 : decode cX6_one 263 = .ok (.goto 14, 3) := dk_167 0 14 (dk_at dksX6_one_10 21 rfl rfl)
theorem dX6_one_266 : decode cX6_one 266 = .ok (.iload_n 2, 1) := dk_28 (dk_at dksX6_one_11 0 rfl rfl)
theorem dX6_one_267 : decode cX6_one 267 = .ok (.lload_n 3, 1) := dk_33 (dk_at dksX6_one_11 1 rfl rfl)
theorem dX6_one_268 : decode cX6_one 268 = .ok (.invokestatic 249, 3) := dk_184 0 249 (dk_at dksX6_one_11 2 rfl rfl)
theorem dX6_one_271 : decode cX6_one 271 = .ok (.invokestatic 256, 3) := dk_184 1 0 (dk_at dksX6_one_11 5 rfl rfl)
theorem dX6_one_274 : decode cX6_one 274 = .ok (.invokestatic 228, 3) := dk_184 0 228 (dk_at dksX6_one_11 8 rfl rfl)
theorem dX6_one_277 : decode cX6_one 277 = .ok (.lreturn, 1) := dk_173 (dk_at dksX6_one_11 11 rfl rfl)
abbrev cX6_turned : ByteArray := prog_10_method_34_code
def yX6_turned : MethodName := ⟨RX6, "turned", "(IJ)J"⟩
def dkwX6_turned_1 : List UInt8 := [167, 0, 22, 27, 27, 32, 184, 0, 171, 21, 4, 154, 0, 7, 4, 167, 0, 4, 3, 184, 0, 110, 173]
abbrev dktX6_turned_1 : List UInt8 := dkwX6_turned_1 ++ []
def dkwX6_turned_0 : List UInt8 := [42, 27, 32, 182, 0, 99, 42, 180, 0, 67, 54, 4, 42, 180, 0, 71, 153, 0, 10, 27, 184, 0, 103]
abbrev dktX6_turned_0 : List UInt8 := dkwX6_turned_0 ++ dktX6_turned_1
theorem dksX6_turned_0 : cX6_turned.data.toList.drop 0 = dktX6_turned_0 := by decide +kernel
theorem dksX6_turned_1 : cX6_turned.data.toList.drop 23 = dktX6_turned_1 := dk_seg dksX6_turned_0 23 rfl rfl
theorem dX6_turned_0 : decode cX6_turned 0 = .ok (.aload_n 0, 1) := dk_42 (dk_at dksX6_turned_0 0 rfl rfl)
theorem dX6_turned_1 : decode cX6_turned 1 = .ok (.iload_n 1, 1) := dk_27 (dk_at dksX6_turned_0 1 rfl rfl)
theorem dX6_turned_2 : decode cX6_turned 2 = .ok (.lload_n 2, 1) := dk_32 (dk_at dksX6_turned_0 2 rfl rfl)
theorem dX6_turned_3 : decode cX6_turned 3 = .ok (.invokevirtual 99, 3) := dk_182 0 99 (dk_at dksX6_turned_0 3 rfl rfl)
theorem dX6_turned_6 : decode cX6_turned 6 = .ok (.aload_n 0, 1) := dk_42 (dk_at dksX6_turned_0 6 rfl rfl)
theorem dX6_turned_7 : decode cX6_turned 7 = .ok (.getfield 67, 3) := dk_180 0 67 (dk_at dksX6_turned_0 7 rfl rfl)
theorem dX6_turned_10 : decode cX6_turned 10 = .ok (.istore 4, 2) := dk_54 4 (dk_at dksX6_turned_0 10 rfl rfl)
theorem dX6_turned_12 : decode cX6_turned 12 = .ok (.aload_n 0, 1) := dk_42 (dk_at dksX6_turned_0 12 rfl rfl)
theorem dX6_turned_13 : decode cX6_turned 13 = .ok (.getfield 71, 3) := dk_180 0 71 (dk_at dksX6_turned_0 13 rfl rfl)
theorem dX6_turned_16 : decode cX6_turned 16 = .ok (.ifCond .eq 10, 3) := dk_153 0 10 (dk_at dksX6_turned_0 16 rfl rfl)
theorem dX6_turned_19 : decode cX6_turned 19 = .ok (.iload_n 1, 1) := dk_27 (dk_at dksX6_turned_0 19 rfl rfl)
theorem dX6_turned_20 : decode cX6_turned 20 = .ok (.invokestatic 103, 3) := dk_184 0 103 (dk_at dksX6_turned_0 20 rfl rfl)
theorem dX6_turned_23 : decode cX6_turned 23 = .ok (.goto 22, 3) := dk_167 0 22 (dk_at dksX6_turned_1 0 rfl rfl)
theorem dX6_turned_26 : decode cX6_turned 26 = .ok (.iload_n 1, 1) := dk_27 (dk_at dksX6_turned_1 3 rfl rfl)
theorem dX6_turned_27 : decode cX6_turned 27 = .ok (.iload_n 1, 1) := dk_27 (dk_at dksX6_turned_1 4 rfl rfl)
theorem dX6_turned_28 : decode cX6_turned 28 = .ok (.lload_n 2, 1) := dk_32 (dk_at dksX6_turned_1 5 rfl rfl)
theorem dX6_turned_29 : decode cX6_turned 29 = .ok (.invokestatic 171, 3) := dk_184 0 171 (dk_at dksX6_turned_1 6 rfl rfl)
theorem dX6_turned_32 : decode cX6_turned 32 = .ok (.iload 4, 2) := dk_21 4 (dk_at dksX6_turned_1 9 rfl rfl)
theorem dX6_turned_34 : decode cX6_turned 34 = .ok (.ifCond .ne 7, 3) := dk_154 0 7 (dk_at dksX6_turned_1 11 rfl rfl)
theorem dX6_turned_37 : decode cX6_turned 37 = .ok (.iconst 1, 1) := dk_4 (dk_at dksX6_turned_1 14 rfl rfl)
theorem dX6_turned_38 : decode cX6_turned 38 = .ok (.goto 4, 3) := dk_167 0 4 (dk_at dksX6_turned_1 15 rfl rfl)
theorem dX6_turned_41 : decode cX6_turned 41 = .ok (.iconst 0, 1) := dk_3 (dk_at dksX6_turned_1 18 rfl rfl)
theorem dX6_turned_42 : decode cX6_turned 42 = .ok (.invokestatic 110, 3) := dk_184 0 110 (dk_at dksX6_turned_1 19 rfl rfl)
theorem dX6_turned_45 : decode cX6_turned 45 = .ok (.lreturn, 1) := dk_173 (dk_at dksX6_turned_1 22 rfl rfl)
abbrev cX6_sizeOf : ByteArray := prog_10_method_35_code
def yX6_sizeOf : MethodName := ⟨RX6, "sizeOf", "(IJ)J"⟩
def dkwX6_sizeOf_0 : List UInt8 := [26, 154, 0, 11, 31, 20, 0, 174, 127, 167, 0, 8, 31, 20, 0, 176, 127, 173]
abbrev dktX6_sizeOf_0 : List UInt8 := dkwX6_sizeOf_0 ++ []
theorem dksX6_sizeOf_0 : cX6_sizeOf.data.toList.drop 0 = dktX6_sizeOf_0 := by decide +kernel
theorem dX6_sizeOf_0 : decode cX6_sizeOf 0 = .ok (.iload_n 0, 1) := dk_26 (dk_at dksX6_sizeOf_0 0 rfl rfl)
theorem dX6_sizeOf_1 : decode cX6_sizeOf 1 = .ok (.ifCond .ne 11, 3) := dk_154 0 11 (dk_at dksX6_sizeOf_0 1 rfl rfl)
theorem dX6_sizeOf_4 : decode cX6_sizeOf 4 = .ok (.lload_n 1, 1) := dk_31 (dk_at dksX6_sizeOf_0 4 rfl rfl)
theorem dX6_sizeOf_5 : decode cX6_sizeOf 5 = .ok (.ldc2_w 174, 3) := dk_20 0 174 (dk_at dksX6_sizeOf_0 5 rfl rfl)
theorem dX6_sizeOf_8 : decode cX6_sizeOf 8 = .ok (.land, 1) := dk_127 (dk_at dksX6_sizeOf_0 8 rfl rfl)
theorem dX6_sizeOf_9 : decode cX6_sizeOf 9 = .ok (.goto 8, 3) := dk_167 0 8 (dk_at dksX6_sizeOf_0 9 rfl rfl)
theorem dX6_sizeOf_12 : decode cX6_sizeOf 12 = .ok (.lload_n 1, 1) := dk_31 (dk_at dksX6_sizeOf_0 12 rfl rfl)
theorem dX6_sizeOf_13 : decode cX6_sizeOf 13 = .ok (.ldc2_w 176, 3) := dk_20 0 176 (dk_at dksX6_sizeOf_0 13 rfl rfl)
theorem dX6_sizeOf_16 : decode cX6_sizeOf 16 = .ok (.land, 1) := dk_127 (dk_at dksX6_sizeOf_0 16 rfl rfl)
theorem dX6_sizeOf_17 : decode cX6_sizeOf 17 = .ok (.lreturn, 1) := dk_173 (dk_at dksX6_sizeOf_0 17 rfl rfl)
abbrev cX6_bits : ByteArray := prog_10_method_53_code
def yX6_bits : MethodName := ⟨RX6, "bits", "(F)J"⟩
def dkwX6_bits_0 : List UInt8 := [34, 184, 0, 216, 133, 173]
abbrev dktX6_bits_0 : List UInt8 := dkwX6_bits_0 ++ []
theorem dksX6_bits_0 : cX6_bits.data.toList.drop 0 = dktX6_bits_0 := by decide +kernel
theorem dX6_bits_0 : decode cX6_bits 0 = .ok (.fload_n 0, 1) := dk_34 (dk_at dksX6_bits_0 0 rfl rfl)
theorem dX6_bits_1 : decode cX6_bits 1 = .ok (.invokestatic 216, 3) := dk_184 0 216 (dk_at dksX6_bits_0 1 rfl rfl)
theorem dX6_bits_4 : decode cX6_bits 4 = .ok (.i2l, 1) := dk_133 (dk_at dksX6_bits_0 4 rfl rfl)
theorem dX6_bits_5 : decode cX6_bits 5 = .ok (.lreturn, 1) := dk_173 (dk_at dksX6_bits_0 5 rfl rfl)
abbrev cX6_bits_2 : ByteArray := prog_10_method_54_code
def yX6_bits_2 : MethodName := ⟨RX6, "bits", "(D)J"⟩
theorem dX6_bits_2_0 : decode cX6_bits_2 0 = .ok (.dload_n 0, 1) := by decide +kernel
theorem dX6_bits_2_1 : decode cX6_bits_2 1 = .ok (.invokestatic 220, 3) := by decide +kernel
theorem dX6_bits_2_4 : decode cX6_bits_2 4 = .ok (.lreturn, 1) := by decide +kernel
abbrev cX6_above : ByteArray := prog_10_method_33_code
def yX6_above : MethodName := ⟨RX6, "above", "(IJ)J"⟩
def dkwX6_above_2 : List UInt8 := [180, 0, 67, 153, 0, 9, 32, 10, 101, 167, 0, 6, 32, 10, 97, 182, 0, 167, 173]
abbrev dktX6_above_2 : List UInt8 := dkwX6_above_2 ++ []
def dkwX6_above_1 : List UInt8 := [154, 0, 10, 42, 27, 32, 182, 0, 167, 173, 42, 180, 0, 77, 9, 148, 154, 0, 5, 10, 173, 42, 27, 42]
abbrev dktX6_above_1 : List UInt8 := dkwX6_above_1 ++ dktX6_above_2
def dkwX6_above_0 : List UInt8 := [42, 27, 32, 182, 0, 99, 42, 180, 0, 71, 154, 0, 17, 42, 180, 0, 74, 153, 0, 17, 42, 180, 0, 67]
abbrev dktX6_above_0 : List UInt8 := dkwX6_above_0 ++ dktX6_above_1
theorem dksX6_above_0 : cX6_above.data.toList.drop 0 = dktX6_above_0 := by decide +kernel
theorem dksX6_above_1 : cX6_above.data.toList.drop 24 = dktX6_above_1 := dk_seg dksX6_above_0 24 rfl rfl
theorem dksX6_above_2 : cX6_above.data.toList.drop 48 = dktX6_above_2 := dk_seg dksX6_above_1 24 rfl rfl
theorem dX6_above_0 : decode cX6_above 0 = .ok (.aload_n 0, 1) := dk_42 (dk_at dksX6_above_0 0 rfl rfl)
theorem dX6_above_1 : decode cX6_above 1 = .ok (.iload_n 1, 1) := dk_27 (dk_at dksX6_above_0 1 rfl rfl)
theorem dX6_above_2 : decode cX6_above 2 = .ok (.lload_n 2, 1) := dk_32 (dk_at dksX6_above_0 2 rfl rfl)
theorem dX6_above_3 : decode cX6_above 3 = .ok (.invokevirtual 99, 3) := dk_182 0 99 (dk_at dksX6_above_0 3 rfl rfl)
theorem dX6_above_6 : decode cX6_above 6 = .ok (.aload_n 0, 1) := dk_42 (dk_at dksX6_above_0 6 rfl rfl)
theorem dX6_above_7 : decode cX6_above 7 = .ok (.getfield 71, 3) := dk_180 0 71 (dk_at dksX6_above_0 7 rfl rfl)
theorem dX6_above_10 : decode cX6_above 10 = .ok (.ifCond .ne 17, 3) := dk_154 0 17 (dk_at dksX6_above_0 10 rfl rfl)
theorem dX6_above_13 : decode cX6_above 13 = .ok (.aload_n 0, 1) := dk_42 (dk_at dksX6_above_0 13 rfl rfl)
theorem dX6_above_14 : decode cX6_above 14 = .ok (.getfield 74, 3) := dk_180 0 74 (dk_at dksX6_above_0 14 rfl rfl)
theorem dX6_above_17 : decode cX6_above 17 = .ok (.ifCond .eq 17, 3) := dk_153 0 17 (dk_at dksX6_above_0 17 rfl rfl)
theorem dX6_above_20 : decode cX6_above 20 = .ok (.aload_n 0, 1) := dk_42 (dk_at dksX6_above_0 20 rfl rfl)
theorem dX6_above_21 : decode cX6_above 21 = .ok (.getfield 67, 3) := dk_180 0 67 (dk_at dksX6_above_0 21 rfl rfl)
theorem dX6_above_24 : decode cX6_above 24 = .ok (.ifCond .ne 10, 3) := dk_154 0 10 (dk_at dksX6_above_1 0 rfl rfl)
theorem dX6_above_27 : decode cX6_above 27 = .ok (.aload_n 0, 1) := dk_42 (dk_at dksX6_above_1 3 rfl rfl)
theorem dX6_above_28 : decode cX6_above 28 = .ok (.iload_n 1, 1) := dk_27 (dk_at dksX6_above_1 4 rfl rfl)
theorem dX6_above_29 : decode cX6_above 29 = .ok (.lload_n 2, 1) := dk_32 (dk_at dksX6_above_1 5 rfl rfl)
theorem dX6_above_30 : decode cX6_above 30 = .ok (.invokevirtual 167, 3) := dk_182 0 167 (dk_at dksX6_above_1 6 rfl rfl)
theorem dX6_above_33 : decode cX6_above 33 = .ok (.lreturn, 1) := dk_173 (dk_at dksX6_above_1 9 rfl rfl)
theorem dX6_above_34 : decode cX6_above 34 = .ok (.aload_n 0, 1) := dk_42 (dk_at dksX6_above_1 10 rfl rfl)
theorem dX6_above_35 : decode cX6_above 35 = .ok (.getfield 77, 3) := dk_180 0 77 (dk_at dksX6_above_1 11 rfl rfl)
theorem dX6_above_38 : decode cX6_above 38 = .ok (.lconst 0, 1) := dk_9 (dk_at dksX6_above_1 14 rfl rfl)
theorem dX6_above_39 : decode cX6_above 39 = .ok (.lcmp, 1) := dk_148 (dk_at dksX6_above_1 15 rfl rfl)
theorem dX6_above_40 : decode cX6_above 40 = .ok (.ifCond .ne 5, 3) := dk_154 0 5 (dk_at dksX6_above_1 16 rfl rfl)
theorem dX6_above_43 : decode cX6_above 43 = .ok (.lconst 1, 1) := dk_10 (dk_at dksX6_above_1 19 rfl rfl)
theorem dX6_above_44 : decode cX6_above 44 = .ok (.lreturn, 1) := dk_173 (dk_at dksX6_above_1 20 rfl rfl)
theorem dX6_above_45 : decode cX6_above 45 = .ok (.aload_n 0, 1) := dk_42 (dk_at dksX6_above_1 21 rfl rfl)
theorem dX6_above_46 : decode cX6_above 46 = .ok (.iload_n 1, 1) := dk_27 (dk_at dksX6_above_1 22 rfl rfl)
theorem dX6_above_47 : decode cX6_above 47 = .ok (.aload_n 0, 1) := dk_42 (dk_at dksX6_above_1 23 rfl rfl)
theorem dX6_above_48 : decode cX6_above 48 = .ok (.getfield 67, 3) := dk_180 0 67 (dk_at dksX6_above_2 0 rfl rfl)
theorem dX6_above_51 : decode cX6_above 51 = .ok (.ifCond .eq 9, 3) := dk_153 0 9 (dk_at dksX6_above_2 3 rfl rfl)
theorem dX6_above_54 : decode cX6_above 54 = .ok (.lload_n 2, 1) := dk_32 (dk_at dksX6_above_2 6 rfl rfl)
theorem dX6_above_55 : decode cX6_above 55 = .ok (.lconst 1, 1) := dk_10 (dk_at dksX6_above_2 7 rfl rfl)
theorem dX6_above_56 : decode cX6_above 56 = .ok (.lsub, 1) := dk_101 (dk_at dksX6_above_2 8 rfl rfl)
theorem dX6_above_57 : decode cX6_above 57 = .ok (.goto 6, 3) := dk_167 0 6 (dk_at dksX6_above_2 9 rfl rfl)
theorem dX6_above_60 : decode cX6_above 60 = .ok (.lload_n 2, 1) := dk_32 (dk_at dksX6_above_2 12 rfl rfl)
theorem dX6_above_61 : decode cX6_above 61 = .ok (.lconst 1, 1) := dk_10 (dk_at dksX6_above_2 13 rfl rfl)
theorem dX6_above_62 : decode cX6_above 62 = .ok (.ladd, 1) := dk_97 (dk_at dksX6_above_2 14 rfl rfl)
theorem dX6_above_63 : decode cX6_above 63 = .ok (.invokevirtual 167, 3) := dk_182 0 167 (dk_at dksX6_above_2 15 rfl rfl)
theorem dX6_above_66 : decode cX6_above 66 = .ok (.lreturn, 1) := dk_173 (dk_at dksX6_above_2 18 rfl rfl)
abbrev cX6_ulpOf : ByteArray := prog_10_method_55_code
def yX6_ulpOf : MethodName := ⟨RX6, "ulpOf", "(IJ)J"⟩
def dkwX6_ulpOf_1 : List UInt8 := [153, 0, 10, 27, 184, 0, 116, 167, 0, 15, 42, 27, 3, 10, 42, 180, 0, 84, 133, 182, 0, 163, 173]
abbrev dktX6_ulpOf_1 : List UInt8 := dkwX6_ulpOf_1 ++ []
def dkwX6_ulpOf_0 : List UInt8 := [42, 27, 32, 182, 0, 99, 42, 180, 0, 71, 153, 0, 10, 27, 184, 0, 103, 167, 0, 29, 42, 180, 0, 74]
abbrev dktX6_ulpOf_0 : List UInt8 := dkwX6_ulpOf_0 ++ dktX6_ulpOf_1
theorem dksX6_ulpOf_0 : cX6_ulpOf.data.toList.drop 0 = dktX6_ulpOf_0 := by decide +kernel
theorem dksX6_ulpOf_1 : cX6_ulpOf.data.toList.drop 24 = dktX6_ulpOf_1 := dk_seg dksX6_ulpOf_0 24 rfl rfl
theorem dX6_ulpOf_0 : decode cX6_ulpOf 0 = .ok (.aload_n 0, 1) := dk_42 (dk_at dksX6_ulpOf_0 0 rfl rfl)
theorem dX6_ulpOf_1 : decode cX6_ulpOf 1 = .ok (.iload_n 1, 1) := dk_27 (dk_at dksX6_ulpOf_0 1 rfl rfl)
theorem dX6_ulpOf_2 : decode cX6_ulpOf 2 = .ok (.lload_n 2, 1) := dk_32 (dk_at dksX6_ulpOf_0 2 rfl rfl)
theorem dX6_ulpOf_3 : decode cX6_ulpOf 3 = .ok (.invokevirtual 99, 3) := dk_182 0 99 (dk_at dksX6_ulpOf_0 3 rfl rfl)
theorem dX6_ulpOf_6 : decode cX6_ulpOf 6 = .ok (.aload_n 0, 1) := dk_42 (dk_at dksX6_ulpOf_0 6 rfl rfl)
theorem dX6_ulpOf_7 : decode cX6_ulpOf 7 = .ok (.getfield 71, 3) := dk_180 0 71 (dk_at dksX6_ulpOf_0 7 rfl rfl)
theorem dX6_ulpOf_10 : decode cX6_ulpOf 10 = .ok (.ifCond .eq 10, 3) := dk_153 0 10 (dk_at dksX6_ulpOf_0 10 rfl rfl)
theorem dX6_ulpOf_13 : decode cX6_ulpOf 13 = .ok (.iload_n 1, 1) := dk_27 (dk_at dksX6_ulpOf_0 13 rfl rfl)
theorem dX6_ulpOf_14 : decode cX6_ulpOf 14 = .ok (.invokestatic 103, 3) := dk_184 0 103 (dk_at dksX6_ulpOf_0 14 rfl rfl)
theorem dX6_ulpOf_17 : decode cX6_ulpOf 17 = .ok (.goto 29, 3) := dk_167 0 29 (dk_at dksX6_ulpOf_0 17 rfl rfl)
theorem dX6_ulpOf_20 : decode cX6_ulpOf 20 = .ok (.aload_n 0, 1) := dk_42 (dk_at dksX6_ulpOf_0 20 rfl rfl)
theorem dX6_ulpOf_21 : decode cX6_ulpOf 21 = .ok (.getfield 74, 3) := dk_180 0 74 (dk_at dksX6_ulpOf_0 21 rfl rfl)
theorem dX6_ulpOf_24 : decode cX6_ulpOf 24 = .ok (.ifCond .eq 10, 3) := dk_153 0 10 (dk_at dksX6_ulpOf_1 0 rfl rfl)
theorem dX6_ulpOf_27 : decode cX6_ulpOf 27 = .ok (.iload_n 1, 1) := dk_27 (dk_at dksX6_ulpOf_1 3 rfl rfl)
theorem dX6_ulpOf_28 : decode cX6_ulpOf 28 = .ok (.invokestatic 116, 3) := dk_184 0 116 (dk_at dksX6_ulpOf_1 4 rfl rfl)
theorem dX6_ulpOf_31 : decode cX6_ulpOf 31 = .ok (.goto 15, 3) := dk_167 0 15 (dk_at dksX6_ulpOf_1 7 rfl rfl)
theorem dX6_ulpOf_34 : decode cX6_ulpOf 34 = .ok (.aload_n 0, 1) := dk_42 (dk_at dksX6_ulpOf_1 10 rfl rfl)
theorem dX6_ulpOf_35 : decode cX6_ulpOf 35 = .ok (.iload_n 1, 1) := dk_27 (dk_at dksX6_ulpOf_1 11 rfl rfl)
theorem dX6_ulpOf_36 : decode cX6_ulpOf 36 = .ok (.iconst 0, 1) := dk_3 (dk_at dksX6_ulpOf_1 12 rfl rfl)
theorem dX6_ulpOf_37 : decode cX6_ulpOf 37 = .ok (.lconst 1, 1) := dk_10 (dk_at dksX6_ulpOf_1 13 rfl rfl)
theorem dX6_ulpOf_38 : decode cX6_ulpOf 38 = .ok (.aload_n 0, 1) := dk_42 (dk_at dksX6_ulpOf_1 14 rfl rfl)
theorem dX6_ulpOf_39 : decode cX6_ulpOf 39 = .ok (.getfield 84, 3) := dk_180 0 84 (dk_at dksX6_ulpOf_1 15 rfl rfl)
theorem dX6_ulpOf_42 : decode cX6_ulpOf 42 = .ok (.i2l, 1) := dk_133 (dk_at dksX6_ulpOf_1 18 rfl rfl)
theorem dX6_ulpOf_43 : decode cX6_ulpOf 43 = .ok (.invokevirtual 163, 3) := dk_182 0 163 (dk_at dksX6_ulpOf_1 19 rfl rfl)
theorem dX6_ulpOf_46 : decode cX6_ulpOf 46 = .ok (.lreturn, 1) := dk_173 (dk_at dksX6_ulpOf_1 22 rfl rfl)
abbrev cX6_rootOf : ByteArray := prog_10_method_36_code
def yX6_rootOf : MethodName := ⟨RX6, "rootOf", "(IJ)J"⟩
def dkwX6_rootOf_14 : List UInt8 := [16, 61, 100, 133, 182, 0, 147, 173]
abbrev dktX6_rootOf_14 : List UInt8 := dkwX6_rootOf_14 ++ []
def dkwX6_rootOf_13 : List UInt8 := [167, 0, 4, 9, 129, 80, 42, 180, 0, 29, 10, 184, 0, 143, 42, 27, 3, 42, 180, 0, 84, 5, 108]
abbrev dktX6_rootOf_13 : List UInt8 := dkwX6_rootOf_13 ++ dktX6_rootOf_14
def dkwX6_rootOf_12 : List UInt8 := [184, 0, 125, 42, 180, 0, 26, 4, 184, 0, 121, 42, 180, 0, 26, 3, 92, 47, 21, 4, 153, 0, 7, 10]
abbrev dktX6_rootOf_12 : List UInt8 := dkwX6_rootOf_12 ++ dktX6_rootOf_13
def dkwX6_rootOf_11 : List UInt8 := [180, 0, 32, 184, 0, 106, 158, 0, 7, 4, 167, 0, 4, 3, 54, 4, 42, 180, 0, 35, 42, 180, 0, 26]
abbrev dktX6_rootOf_11 : List UInt8 := dkwX6_rootOf_11 ++ dktX6_rootOf_12
def dkwX6_rootOf_10 : List UInt8 := [180, 0, 29, 184, 0, 133, 42, 180, 0, 35, 3, 92, 47, 10, 129, 80, 132, 4, 254, 167, 255, 139, 42]
abbrev dktX6_rootOf_10 : List UInt8 := dkwX6_rootOf_10 ++ dktX6_rootOf_11
def dkwX6_rootOf_9 : List UInt8 := [184, 0, 121, 42, 180, 0, 32, 42, 180, 0, 29, 184, 0, 129, 155, 0, 24, 42, 180, 0, 32, 42]
abbrev dktX6_rootOf_9 : List UInt8 := dkwX6_rootOf_9 ++ dktX6_rootOf_10
def dkwX6_rootOf_8 : List UInt8 := [180, 0, 29, 5, 184, 0, 121, 42, 180, 0, 29, 3, 92, 47, 10, 129, 80, 42, 180, 0, 35, 4]
abbrev dktX6_rootOf_8 : List UInt8 := dkwX6_rootOf_8 ++ dktX6_rootOf_9
def dkwX6_rootOf_7 : List UInt8 := [16, 30, 112, 125, 20, 0, 178, 127, 129, 80, 42, 180, 0, 35, 42, 180, 0, 29, 184, 0, 125, 42]
abbrev dktX6_rootOf_7 : List UInt8 := dkwX6_rootOf_7 ++ dktX6_rootOf_8
def dkwX6_rootOf_6 : List UInt8 := [5, 184, 0, 121, 42, 180, 0, 32, 3, 92, 47, 42, 180, 0, 26, 21, 4, 16, 30, 108, 47, 21, 4]
abbrev dktX6_rootOf_6 : List UInt8 := dkwX6_rootOf_6 ++ dktX6_rootOf_7
def dkwX6_rootOf_5 : List UInt8 := [184, 0, 49, 42, 180, 0, 32, 184, 0, 49, 17, 0, 184, 54, 4, 21, 4, 155, 0, 118, 42, 180, 0, 32]
abbrev dktX6_rootOf_5 : List UInt8 := dkwX6_rootOf_5 ++ dktX6_rootOf_6
def dkwX6_rootOf_4 : List UInt8 := [180, 0, 26, 42, 180, 0, 77, 184, 0, 143, 42, 180, 0, 26, 16, 120, 184, 0, 121, 42, 180, 0, 35]
abbrev dktX6_rootOf_4 : List UInt8 := dkwX6_rootOf_4 ++ dktX6_rootOf_5
def dkwX6_rootOf_3 : List UInt8 := [153, 0, 23, 42, 89, 180, 0, 77, 4, 121, 181, 0, 77, 42, 89, 180, 0, 84, 4, 100, 181, 0, 84, 42]
abbrev dktX6_rootOf_3 : List UInt8 := dkwX6_rootOf_3 ++ dktX6_rootOf_4
def dkwX6_rootOf_2 : List UInt8 := [182, 0, 167, 173, 42, 180, 0, 67, 153, 0, 8, 27, 184, 0, 103, 173, 42, 180, 0, 84, 4, 126]
abbrev dktX6_rootOf_2 : List UInt8 := dkwX6_rootOf_2 ++ dktX6_rootOf_3
def dkwX6_rootOf_1 : List UInt8 := [180, 0, 74, 153, 0, 17, 42, 180, 0, 74, 153, 0, 17, 42, 180, 0, 67, 154, 0, 10, 42, 27, 32]
abbrev dktX6_rootOf_1 : List UInt8 := dkwX6_rootOf_1 ++ dktX6_rootOf_2
def dkwX6_rootOf_0 : List UInt8 := [42, 27, 32, 182, 0, 99, 42, 180, 0, 71, 154, 0, 33, 42, 180, 0, 77, 9, 148, 154, 0, 10, 42]
abbrev dktX6_rootOf_0 : List UInt8 := dkwX6_rootOf_0 ++ dktX6_rootOf_1
theorem dksX6_rootOf_0 : cX6_rootOf.data.toList.drop 0 = dktX6_rootOf_0 := by decide +kernel
theorem dksX6_rootOf_1 : cX6_rootOf.data.toList.drop 23 = dktX6_rootOf_1 := dk_seg dksX6_rootOf_0 23 rfl rfl
theorem dksX6_rootOf_2 : cX6_rootOf.data.toList.drop 46 = dktX6_rootOf_2 := dk_seg dksX6_rootOf_1 23 rfl rfl
theorem dksX6_rootOf_3 : cX6_rootOf.data.toList.drop 68 = dktX6_rootOf_3 := dk_seg dksX6_rootOf_2 22 rfl rfl
theorem dksX6_rootOf_4 : cX6_rootOf.data.toList.drop 92 = dktX6_rootOf_4 := dk_seg dksX6_rootOf_3 24 rfl rfl
theorem dksX6_rootOf_5 : cX6_rootOf.data.toList.drop 115 = dktX6_rootOf_5 := dk_seg dksX6_rootOf_4 23 rfl rfl
theorem dksX6_rootOf_6 : cX6_rootOf.data.toList.drop 139 = dktX6_rootOf_6 := dk_seg dksX6_rootOf_5 24 rfl rfl
theorem dksX6_rootOf_7 : cX6_rootOf.data.toList.drop 162 = dktX6_rootOf_7 := dk_seg dksX6_rootOf_6 23 rfl rfl
theorem dksX6_rootOf_8 : cX6_rootOf.data.toList.drop 184 = dktX6_rootOf_8 := dk_seg dksX6_rootOf_7 22 rfl rfl
theorem dksX6_rootOf_9 : cX6_rootOf.data.toList.drop 206 = dktX6_rootOf_9 := dk_seg dksX6_rootOf_8 22 rfl rfl
theorem dksX6_rootOf_10 : cX6_rootOf.data.toList.drop 228 = dktX6_rootOf_10 := dk_seg dksX6_rootOf_9 22 rfl rfl
theorem dksX6_rootOf_11 : cX6_rootOf.data.toList.drop 251 = dktX6_rootOf_11 := dk_seg dksX6_rootOf_10 23 rfl rfl
theorem dksX6_rootOf_12 : cX6_rootOf.data.toList.drop 275 = dktX6_rootOf_12 := dk_seg dksX6_rootOf_11 24 rfl rfl
theorem dksX6_rootOf_13 : cX6_rootOf.data.toList.drop 299 = dktX6_rootOf_13 := dk_seg dksX6_rootOf_12 24 rfl rfl
theorem dksX6_rootOf_14 : cX6_rootOf.data.toList.drop 322 = dktX6_rootOf_14 := dk_seg dksX6_rootOf_13 23 rfl rfl
theorem dX6_rootOf_0 : decode cX6_rootOf 0 = .ok (.aload_n 0, 1) := dk_42 (dk_at dksX6_rootOf_0 0 rfl rfl)
theorem dX6_rootOf_1 : decode cX6_rootOf 1 = .ok (.iload_n 1, 1) := dk_27 (dk_at dksX6_rootOf_0 1 rfl rfl)
theorem dX6_rootOf_2 : decode cX6_rootOf 2 = .ok (.lload_n 2, 1) := dk_32 (dk_at dksX6_rootOf_0 2 rfl rfl)
theorem dX6_rootOf_3 : decode cX6_rootOf 3 = .ok (.invokevirtual 99, 3) := dk_182 0 99 (dk_at dksX6_rootOf_0 3 rfl rfl)
theorem dX6_rootOf_6 : decode cX6_rootOf 6 = .ok (.aload_n 0, 1) := dk_42 (dk_at dksX6_rootOf_0 6 rfl rfl)
theorem dX6_rootOf_7 : decode cX6_rootOf 7 = .ok (.getfield 71, 3) := dk_180 0 71 (dk_at dksX6_rootOf_0 7 rfl rfl)
theorem dX6_rootOf_10 : decode cX6_rootOf 10 = .ok (.ifCond .ne 33, 3) := dk_154 0 33 (dk_at dksX6_rootOf_0 10 rfl rfl)
theorem dX6_rootOf_13 : decode cX6_rootOf 13 = .ok (.aload_n 0, 1) := dk_42 (dk_at dksX6_rootOf_0 13 rfl rfl)
theorem dX6_rootOf_14 : decode cX6_rootOf 14 = .ok (.getfield 77, 3) := dk_180 0 77 (dk_at dksX6_rootOf_0 14 rfl rfl)
theorem dX6_rootOf_17 : decode cX6_rootOf 17 = .ok (.lconst 0, 1) := dk_9 (dk_at dksX6_rootOf_0 17 rfl rfl)
theorem dX6_rootOf_18 : decode cX6_rootOf 18 = .ok (.lcmp, 1) := dk_148 (dk_at dksX6_rootOf_0 18 rfl rfl)
theorem dX6_rootOf_19 : decode cX6_rootOf 19 = .ok (.ifCond .ne 10, 3) := dk_154 0 10 (dk_at dksX6_rootOf_0 19 rfl rfl)
theorem dX6_rootOf_22 : decode cX6_rootOf 22 = .ok (.aload_n 0, 1) := dk_42 (dk_at dksX6_rootOf_0 22 rfl rfl)
theorem dX6_rootOf_23 : decode cX6_rootOf 23 = .ok (.getfield 74, 3) := dk_180 0 74 (dk_at dksX6_rootOf_1 0 rfl rfl)
theorem dX6_rootOf_26 : decode cX6_rootOf 26 = .ok (.ifCond .eq 17, 3) := dk_153 0 17 (dk_at dksX6_rootOf_1 3 rfl rfl)
theorem dX6_rootOf_29 : decode cX6_rootOf 29 = .ok (.aload_n 0, 1) := dk_42 (dk_at dksX6_rootOf_1 6 rfl rfl)
theorem dX6_rootOf_30 : decode cX6_rootOf 30 = .ok (.getfield 74, 3) := dk_180 0 74 (dk_at dksX6_rootOf_1 7 rfl rfl)
theorem dX6_rootOf_33 : decode cX6_rootOf 33 = .ok (.ifCond .eq 17, 3) := dk_153 0 17 (dk_at dksX6_rootOf_1 10 rfl rfl)
theorem dX6_rootOf_36 : decode cX6_rootOf 36 = .ok (.aload_n 0, 1) := dk_42 (dk_at dksX6_rootOf_1 13 rfl rfl)
theorem dX6_rootOf_37 : decode cX6_rootOf 37 = .ok (.getfield 67, 3) := dk_180 0 67 (dk_at dksX6_rootOf_1 14 rfl rfl)
theorem dX6_rootOf_40 : decode cX6_rootOf 40 = .ok (.ifCond .ne 10, 3) := dk_154 0 10 (dk_at dksX6_rootOf_1 17 rfl rfl)
theorem dX6_rootOf_43 : decode cX6_rootOf 43 = .ok (.aload_n 0, 1) := dk_42 (dk_at dksX6_rootOf_1 20 rfl rfl)
theorem dX6_rootOf_44 : decode cX6_rootOf 44 = .ok (.iload_n 1, 1) := dk_27 (dk_at dksX6_rootOf_1 21 rfl rfl)
theorem dX6_rootOf_45 : decode cX6_rootOf 45 = .ok (.lload_n 2, 1) := dk_32 (dk_at dksX6_rootOf_1 22 rfl rfl)
theorem dX6_rootOf_46 : decode cX6_rootOf 46 = .ok (.invokevirtual 167, 3) := dk_182 0 167 (dk_at dksX6_rootOf_2 0 rfl rfl)
theorem dX6_rootOf_49 : decode cX6_rootOf 49 = .ok (.lreturn, 1) := dk_173 (dk_at dksX6_rootOf_2 3 rfl rfl)
theorem dX6_rootOf_50 : decode cX6_rootOf 50 = .ok (.aload_n 0, 1) := dk_42 (dk_at dksX6_rootOf_2 4 rfl rfl)
theorem dX6_rootOf_51 : decode cX6_rootOf 51 = .ok (.getfield 67, 3) := dk_180 0 67 (dk_at dksX6_rootOf_2 5 rfl rfl)
theorem dX6_rootOf_54 : decode cX6_rootOf 54 = .ok (.ifCond .eq 8, 3) := dk_153 0 8 (dk_at dksX6_rootOf_2 8 rfl rfl)
theorem dX6_rootOf_57 : decode cX6_rootOf 57 = .ok (.iload_n 1, 1) := dk_27 (dk_at dksX6_rootOf_2 11 rfl rfl)
theorem dX6_rootOf_58 : decode cX6_rootOf 58 = .ok (.invokestatic 103, 3) := dk_184 0 103 (dk_at dksX6_rootOf_2 12 rfl rfl)
theorem dX6_rootOf_61 : decode cX6_rootOf 61 = .ok (.lreturn, 1) := dk_173 (dk_at dksX6_rootOf_2 15 rfl rfl)
theorem dX6_rootOf_62 : decode cX6_rootOf 62 = .ok (.aload_n 0, 1) := dk_42 (dk_at dksX6_rootOf_2 16 rfl rfl)
theorem dX6_rootOf_63 : decode cX6_rootOf 63 = .ok (.getfield 84, 3) := dk_180 0 84 (dk_at dksX6_rootOf_2 17 rfl rfl)
theorem dX6_rootOf_66 : decode cX6_rootOf 66 = .ok (.iconst 1, 1) := dk_4 (dk_at dksX6_rootOf_2 20 rfl rfl)
theorem dX6_rootOf_67 : decode cX6_rootOf 67 = .ok (.iand, 1) := dk_126 (dk_at dksX6_rootOf_2 21 rfl rfl)
theorem dX6_rootOf_68 : decode cX6_rootOf 68 = .ok (.ifCond .eq 23, 3) := dk_153 0 23 (dk_at dksX6_rootOf_3 0 rfl rfl)
theorem dX6_rootOf_71 : decode cX6_rootOf 71 = .ok (.aload_n 0, 1) := dk_42 (dk_at dksX6_rootOf_3 3 rfl rfl)
theorem dX6_rootOf_72 : decode cX6_rootOf 72 = .ok (.dup, 1) := dk_89 (dk_at dksX6_rootOf_3 4 rfl rfl)
theorem dX6_rootOf_73 : decode cX6_rootOf 73 = .ok (.getfield 77, 3) := dk_180 0 77 (dk_at dksX6_rootOf_3 5 rfl rfl)
theorem dX6_rootOf_76 : decode cX6_rootOf 76 = .ok (.iconst 1, 1) := dk_4 (dk_at dksX6_rootOf_3 8 rfl rfl)
theorem dX6_rootOf_77 : decode cX6_rootOf 77 = .ok (.lshl, 1) := dk_121 (dk_at dksX6_rootOf_3 9 rfl rfl)
theorem dX6_rootOf_78 : decode cX6_rootOf 78 = .ok (.putfield 77, 3) := dk_181 0 77 (dk_at dksX6_rootOf_3 10 rfl rfl)
theorem dX6_rootOf_81 : decode cX6_rootOf 81 = .ok (.aload_n 0, 1) := dk_42 (dk_at dksX6_rootOf_3 13 rfl rfl)
theorem dX6_rootOf_82 : decode cX6_rootOf 82 = .ok (.dup, 1) := dk_89 (dk_at dksX6_rootOf_3 14 rfl rfl)
theorem dX6_rootOf_83 : decode cX6_rootOf 83 = .ok (.getfield 84, 3) := dk_180 0 84 (dk_at dksX6_rootOf_3 15 rfl rfl)
theorem dX6_rootOf_86 : decode cX6_rootOf 86 = .ok (.iconst 1, 1) := dk_4 (dk_at dksX6_rootOf_3 18 rfl rfl)
theorem dX6_rootOf_87 : decode cX6_rootOf 87 = .ok (.isub, 1) := dk_100 (dk_at dksX6_rootOf_3 19 rfl rfl)
theorem dX6_rootOf_88 : decode cX6_rootOf 88 = .ok (.putfield 84, 3) := dk_181 0 84 (dk_at dksX6_rootOf_3 20 rfl rfl)
theorem dX6_rootOf_91 : decode cX6_rootOf 91 = .ok (.aload_n 0, 1) := dk_42 (dk_at dksX6_rootOf_3 23 rfl rfl)
theorem dX6_rootOf_92 : decode cX6_rootOf 92 = .ok (.getfield 26, 3) := dk_180 0 26 (dk_at dksX6_rootOf_4 0 rfl rfl)
theorem dX6_rootOf_95 : decode cX6_rootOf 95 = .ok (.aload_n 0, 1) := dk_42 (dk_at dksX6_rootOf_4 3 rfl rfl)
theorem dX6_rootOf_96 : decode cX6_rootOf 96 = .ok (.getfield 77, 3) := dk_180 0 77 (dk_at dksX6_rootOf_4 4 rfl rfl)
theorem dX6_rootOf_99 : decode cX6_rootOf 99 = .ok (.invokestatic 143, 3) := dk_184 0 143 (dk_at dksX6_rootOf_4 7 rfl rfl)
theorem dX6_rootOf_102 : decode cX6_rootOf 102 = .ok (.aload_n 0, 1) := dk_42 (dk_at dksX6_rootOf_4 10 rfl rfl)
theorem dX6_rootOf_103 : decode cX6_rootOf 103 = .ok (.getfield 26, 3) := dk_180 0 26 (dk_at dksX6_rootOf_4 11 rfl rfl)
theorem dX6_rootOf_106 : decode cX6_rootOf 106 = .ok (.bipush 120, 2) := dk_16 120 (dk_at dksX6_rootOf_4 14 rfl rfl)
theorem dX6_rootOf_108 : decode cX6_rootOf 108 = .ok (.invokestatic 121, 3) := dk_184 0 121 (dk_at dksX6_rootOf_4 16 rfl rfl)
theorem dX6_rootOf_111 : decode cX6_rootOf 111 = .ok (.aload_n 0, 1) := dk_42 (dk_at dksX6_rootOf_4 19 rfl rfl)
theorem dX6_rootOf_112 : decode cX6_rootOf 112 = .ok (.getfield 35, 3) := dk_180 0 35 (dk_at dksX6_rootOf_4 20 rfl rfl)
theorem dX6_rootOf_115 : decode cX6_rootOf 115 = .ok (.invokestatic 49, 3) := dk_184 0 49 (dk_at dksX6_rootOf_5 0 rfl rfl)
theorem dX6_rootOf_118 : decode cX6_rootOf 118 = .ok (.aload_n 0, 1) := dk_42 (dk_at dksX6_rootOf_5 3 rfl rfl)
theorem dX6_rootOf_119 : decode cX6_rootOf 119 = .ok (.getfield 32, 3) := dk_180 0 32 (dk_at dksX6_rootOf_5 4 rfl rfl)
theorem dX6_rootOf_122 : decode cX6_rootOf 122 = .ok (.invokestatic 49, 3) := dk_184 0 49 (dk_at dksX6_rootOf_5 7 rfl rfl)
theorem dX6_rootOf_125 : decode cX6_rootOf 125 = .ok (.sipush 184, 3) := dk_17 0 184 (dk_at dksX6_rootOf_5 10 rfl rfl)
theorem dX6_rootOf_128 : decode cX6_rootOf 128 = .ok (.istore 4, 2) := dk_54 4 (dk_at dksX6_rootOf_5 13 rfl rfl)
theorem dX6_rootOf_130 : decode cX6_rootOf 130 = .ok (.iload 4, 2) := dk_21 4 (dk_at dksX6_rootOf_5 15 rfl rfl)
theorem dX6_rootOf_132 : decode cX6_rootOf 132 = .ok (.ifCond .lt 118, 3) := dk_155 0 118 (dk_at dksX6_rootOf_5 17 rfl rfl)
theorem dX6_rootOf_135 : decode cX6_rootOf 135 = .ok (.aload_n 0, 1) := dk_42 (dk_at dksX6_rootOf_5 20 rfl rfl)
theorem dX6_rootOf_136 : decode cX6_rootOf 136 = .ok (.getfield 32, 3) := dk_180 0 32 (dk_at dksX6_rootOf_5 21 rfl rfl)
theorem dX6_rootOf_139 : decode cX6_rootOf 139 = .ok (.iconst 2, 1) := dk_5 (dk_at dksX6_rootOf_6 0 rfl rfl)
theorem dX6_rootOf_140 : decode cX6_rootOf 140 = .ok (.invokestatic 121, 3) := dk_184 0 121 (dk_at dksX6_rootOf_6 1 rfl rfl)
theorem dX6_rootOf_143 : decode cX6_rootOf 143 = .ok (.aload_n 0, 1) := dk_42 (dk_at dksX6_rootOf_6 4 rfl rfl)
theorem dX6_rootOf_144 : decode cX6_rootOf 144 = .ok (.getfield 32, 3) := dk_180 0 32 (dk_at dksX6_rootOf_6 5 rfl rfl)
theorem dX6_rootOf_147 : decode cX6_rootOf 147 = .ok (.iconst 0, 1) := dk_3 (dk_at dksX6_rootOf_6 8 rfl rfl)
theorem dX6_rootOf_148 : decode cX6_rootOf 148 = .ok (.dup2, 1) := dk_92 (dk_at dksX6_rootOf_6 9 rfl rfl)
theorem dX6_rootOf_149 : decode cX6_rootOf 149 = .ok (.laload, 1) := dk_47 (dk_at dksX6_rootOf_6 10 rfl rfl)
theorem dX6_rootOf_150 : decode cX6_rootOf 150 = .ok (.aload_n 0, 1) := dk_42 (dk_at dksX6_rootOf_6 11 rfl rfl)
theorem dX6_rootOf_151 : decode cX6_rootOf 151 = .ok (.getfield 26, 3) := dk_180 0 26 (dk_at dksX6_rootOf_6 12 rfl rfl)
theorem dX6_rootOf_154 : decode cX6_rootOf 154 = .ok (.iload 4, 2) := dk_21 4 (dk_at dksX6_rootOf_6 15 rfl rfl)
theorem dX6_rootOf_156 : decode cX6_rootOf 156 = .ok (.bipush 30, 2) := dk_16 30 (dk_at dksX6_rootOf_6 17 rfl rfl)
theorem dX6_rootOf_158 : decode cX6_rootOf 158 = .ok (.idiv, 1) := dk_108 (dk_at dksX6_rootOf_6 19 rfl rfl)
theorem dX6_rootOf_159 : decode cX6_rootOf 159 = .ok (.laload, 1) := dk_47 (dk_at dksX6_rootOf_6 20 rfl rfl)
theorem dX6_rootOf_160 : decode cX6_rootOf 160 = .ok (.iload 4, 2) := dk_21 4 (dk_at dksX6_rootOf_6 21 rfl rfl)
theorem dX6_rootOf_162 : decode cX6_rootOf 162 = .ok (.bipush 30, 2) := dk_16 30 (dk_at dksX6_rootOf_7 0 rfl rfl)
theorem dX6_rootOf_164 : decode cX6_rootOf 164 = .ok (.irem, 1) := dk_112 (dk_at dksX6_rootOf_7 2 rfl rfl)
theorem dX6_rootOf_165 : decode cX6_rootOf 165 = .ok (.lushr, 1) := dk_125 (dk_at dksX6_rootOf_7 3 rfl rfl)
theorem dX6_rootOf_166 : decode cX6_rootOf 166 = .ok (.ldc2_w 178, 3) := dk_20 0 178 (dk_at dksX6_rootOf_7 4 rfl rfl)
theorem dX6_rootOf_169 : decode cX6_rootOf 169 = .ok (.land, 1) := dk_127 (dk_at dksX6_rootOf_7 7 rfl rfl)
theorem dX6_rootOf_170 : decode cX6_rootOf 170 = .ok (.lor, 1) := dk_129 (dk_at dksX6_rootOf_7 8 rfl rfl)
theorem dX6_rootOf_171 : decode cX6_rootOf 171 = .ok (.lastore, 1) := dk_80 (dk_at dksX6_rootOf_7 9 rfl rfl)
theorem dX6_rootOf_172 : decode cX6_rootOf 172 = .ok (.aload_n 0, 1) := dk_42 (dk_at dksX6_rootOf_7 10 rfl rfl)
theorem dX6_rootOf_173 : decode cX6_rootOf 173 = .ok (.getfield 35, 3) := dk_180 0 35 (dk_at dksX6_rootOf_7 11 rfl rfl)
theorem dX6_rootOf_176 : decode cX6_rootOf 176 = .ok (.aload_n 0, 1) := dk_42 (dk_at dksX6_rootOf_7 14 rfl rfl)
theorem dX6_rootOf_177 : decode cX6_rootOf 177 = .ok (.getfield 29, 3) := dk_180 0 29 (dk_at dksX6_rootOf_7 15 rfl rfl)
theorem dX6_rootOf_180 : decode cX6_rootOf 180 = .ok (.invokestatic 125, 3) := dk_184 0 125 (dk_at dksX6_rootOf_7 18 rfl rfl)
theorem dX6_rootOf_183 : decode cX6_rootOf 183 = .ok (.aload_n 0, 1) := dk_42 (dk_at dksX6_rootOf_7 21 rfl rfl)
theorem dX6_rootOf_184 : decode cX6_rootOf 184 = .ok (.getfield 29, 3) := dk_180 0 29 (dk_at dksX6_rootOf_8 0 rfl rfl)
theorem dX6_rootOf_187 : decode cX6_rootOf 187 = .ok (.iconst 2, 1) := dk_5 (dk_at dksX6_rootOf_8 3 rfl rfl)
theorem dX6_rootOf_188 : decode cX6_rootOf 188 = .ok (.invokestatic 121, 3) := dk_184 0 121 (dk_at dksX6_rootOf_8 4 rfl rfl)
theorem dX6_rootOf_191 : decode cX6_rootOf 191 = .ok (.aload_n 0, 1) := dk_42 (dk_at dksX6_rootOf_8 7 rfl rfl)
theorem dX6_rootOf_192 : decode cX6_rootOf 192 = .ok (.getfield 29, 3) := dk_180 0 29 (dk_at dksX6_rootOf_8 8 rfl rfl)
theorem dX6_rootOf_195 : decode cX6_rootOf 195 = .ok (.iconst 0, 1) := dk_3 (dk_at dksX6_rootOf_8 11 rfl rfl)
theorem dX6_rootOf_196 : decode cX6_rootOf 196 = .ok (.dup2, 1) := dk_92 (dk_at dksX6_rootOf_8 12 rfl rfl)
theorem dX6_rootOf_197 : decode cX6_rootOf 197 = .ok (.laload, 1) := dk_47 (dk_at dksX6_rootOf_8 13 rfl rfl)
theorem dX6_rootOf_198 : decode cX6_rootOf 198 = .ok (.lconst 1, 1) := dk_10 (dk_at dksX6_rootOf_8 14 rfl rfl)
theorem dX6_rootOf_199 : decode cX6_rootOf 199 = .ok (.lor, 1) := dk_129 (dk_at dksX6_rootOf_8 15 rfl rfl)
theorem dX6_rootOf_200 : decode cX6_rootOf 200 = .ok (.lastore, 1) := dk_80 (dk_at dksX6_rootOf_8 16 rfl rfl)
theorem dX6_rootOf_201 : decode cX6_rootOf 201 = .ok (.aload_n 0, 1) := dk_42 (dk_at dksX6_rootOf_8 17 rfl rfl)
theorem dX6_rootOf_202 : decode cX6_rootOf 202 = .ok (.getfield 35, 3) := dk_180 0 35 (dk_at dksX6_rootOf_8 18 rfl rfl)
theorem dX6_rootOf_205 : decode cX6_rootOf 205 = .ok (.iconst 1, 1) := dk_4 (dk_at dksX6_rootOf_8 21 rfl rfl)
theorem dX6_rootOf_206 : decode cX6_rootOf 206 = .ok (.invokestatic 121, 3) := dk_184 0 121 (dk_at dksX6_rootOf_9 0 rfl rfl)
theorem dX6_rootOf_209 : decode cX6_rootOf 209 = .ok (.aload_n 0, 1) := dk_42 (dk_at dksX6_rootOf_9 3 rfl rfl)
theorem dX6_rootOf_210 : decode cX6_rootOf 210 = .ok (.getfield 32, 3) := dk_180 0 32 (dk_at dksX6_rootOf_9 4 rfl rfl)
theorem dX6_rootOf_213 : decode cX6_rootOf 213 = .ok (.aload_n 0, 1) := dk_42 (dk_at dksX6_rootOf_9 7 rfl rfl)
theorem dX6_rootOf_214 : decode cX6_rootOf 214 = .ok (.getfield 29, 3) := dk_180 0 29 (dk_at dksX6_rootOf_9 8 rfl rfl)
theorem dX6_rootOf_217 : decode cX6_rootOf 217 = .ok (.invokestatic 129, 3) := dk_184 0 129 (dk_at dksX6_rootOf_9 11 rfl rfl)
theorem dX6_rootOf_220 : decode cX6_rootOf 220 = .ok (.ifCond .lt 24, 3) := dk_155 0 24 (dk_at dksX6_rootOf_9 14 rfl rfl)
theorem dX6_rootOf_223 : decode cX6_rootOf 223 = .ok (.aload_n 0, 1) := dk_42 (dk_at dksX6_rootOf_9 17 rfl rfl)
theorem dX6_rootOf_224 : decode cX6_rootOf 224 = .ok (.getfield 32, 3) := dk_180 0 32 (dk_at dksX6_rootOf_9 18 rfl rfl)
theorem dX6_rootOf_227 : decode cX6_rootOf 227 = .ok (.aload_n 0, 1) := dk_42 (dk_at dksX6_rootOf_9 21 rfl rfl)
theorem dX6_rootOf_228 : decode cX6_rootOf 228 = .ok (.getfield 29, 3) := dk_180 0 29 (dk_at dksX6_rootOf_10 0 rfl rfl)
theorem dX6_rootOf_231 : decode cX6_rootOf 231 = .ok (.invokestatic 133, 3) := dk_184 0 133 (dk_at dksX6_rootOf_10 3 rfl rfl)
theorem dX6_rootOf_234 : decode cX6_rootOf 234 = .ok (.aload_n 0, 1) := dk_42 (dk_at dksX6_rootOf_10 6 rfl rfl)
theorem dX6_rootOf_235 : decode cX6_rootOf 235 = .ok (.getfield 35, 3) := dk_180 0 35 (dk_at dksX6_rootOf_10 7 rfl rfl)
theorem dX6_rootOf_238 : decode cX6_rootOf 238 = .ok (.iconst 0, 1) := dk_3 (dk_at dksX6_rootOf_10 10 rfl rfl)
theorem dX6_rootOf_239 : decode cX6_rootOf 239 = .ok (.dup2, 1) := dk_92 (dk_at dksX6_rootOf_10 11 rfl rfl)
theorem dX6_rootOf_240 : decode cX6_rootOf 240 = .ok (.laload, 1) := dk_47 (dk_at dksX6_rootOf_10 12 rfl rfl)
theorem dX6_rootOf_241 : decode cX6_rootOf 241 = .ok (.lconst 1, 1) := dk_10 (dk_at dksX6_rootOf_10 13 rfl rfl)
theorem dX6_rootOf_242 : decode cX6_rootOf 242 = .ok (.lor, 1) := dk_129 (dk_at dksX6_rootOf_10 14 rfl rfl)
theorem dX6_rootOf_243 : decode cX6_rootOf 243 = .ok (.lastore, 1) := dk_80 (dk_at dksX6_rootOf_10 15 rfl rfl)
theorem dX6_rootOf_244 : decode cX6_rootOf 244 = .ok (.iinc 4 (-2), 3) := dk_132 4 254 (dk_at dksX6_rootOf_10 16 rfl rfl)
theorem dX6_rootOf_247 : decode cX6_rootOf 247 = .ok (.goto (-117), 3) := dk_167 255 139 (dk_at dksX6_rootOf_10 19 rfl rfl)
theorem dX6_rootOf_250 : decode cX6_rootOf 250 = .ok (.aload_n 0, 1) := dk_42 (dk_at dksX6_rootOf_10 22 rfl rfl)
theorem dX6_rootOf_251 : decode cX6_rootOf 251 = .ok (.getfield 32, 3) := dk_180 0 32 (dk_at dksX6_rootOf_11 0 rfl rfl)
theorem dX6_rootOf_254 : decode cX6_rootOf 254 = .ok (.invokestatic 106, 3) := dk_184 0 106 (dk_at dksX6_rootOf_11 3 rfl rfl)
theorem dX6_rootOf_257 : decode cX6_rootOf 257 = .ok (.ifCond .le 7, 3) := dk_158 0 7 (dk_at dksX6_rootOf_11 6 rfl rfl)
theorem dX6_rootOf_260 : decode cX6_rootOf 260 = .ok (.iconst 1, 1) := dk_4 (dk_at dksX6_rootOf_11 9 rfl rfl)
theorem dX6_rootOf_261 : decode cX6_rootOf 261 = .ok (.goto 4, 3) := dk_167 0 4 (dk_at dksX6_rootOf_11 10 rfl rfl)
theorem dX6_rootOf_264 : decode cX6_rootOf 264 = .ok (.iconst 0, 1) := dk_3 (dk_at dksX6_rootOf_11 13 rfl rfl)
theorem dX6_rootOf_265 : decode cX6_rootOf 265 = .ok (.istore 4, 2) := dk_54 4 (dk_at dksX6_rootOf_11 14 rfl rfl)
theorem dX6_rootOf_267 : decode cX6_rootOf 267 = .ok (.aload_n 0, 1) := dk_42 (dk_at dksX6_rootOf_11 16 rfl rfl)
theorem dX6_rootOf_268 : decode cX6_rootOf 268 = .ok (.getfield 35, 3) := dk_180 0 35 (dk_at dksX6_rootOf_11 17 rfl rfl)
theorem dX6_rootOf_271 : decode cX6_rootOf 271 = .ok (.aload_n 0, 1) := dk_42 (dk_at dksX6_rootOf_11 20 rfl rfl)
theorem dX6_rootOf_272 : decode cX6_rootOf 272 = .ok (.getfield 26, 3) := dk_180 0 26 (dk_at dksX6_rootOf_11 21 rfl rfl)
theorem dX6_rootOf_275 : decode cX6_rootOf 275 = .ok (.invokestatic 125, 3) := dk_184 0 125 (dk_at dksX6_rootOf_12 0 rfl rfl)
theorem dX6_rootOf_278 : decode cX6_rootOf 278 = .ok (.aload_n 0, 1) := dk_42 (dk_at dksX6_rootOf_12 3 rfl rfl)
theorem dX6_rootOf_279 : decode cX6_rootOf 279 = .ok (.getfield 26, 3) := dk_180 0 26 (dk_at dksX6_rootOf_12 4 rfl rfl)
theorem dX6_rootOf_282 : decode cX6_rootOf 282 = .ok (.iconst 1, 1) := dk_4 (dk_at dksX6_rootOf_12 7 rfl rfl)
theorem dX6_rootOf_283 : decode cX6_rootOf 283 = .ok (.invokestatic 121, 3) := dk_184 0 121 (dk_at dksX6_rootOf_12 8 rfl rfl)
theorem dX6_rootOf_286 : decode cX6_rootOf 286 = .ok (.aload_n 0, 1) := dk_42 (dk_at dksX6_rootOf_12 11 rfl rfl)
theorem dX6_rootOf_287 : decode cX6_rootOf 287 = .ok (.getfield 26, 3) := dk_180 0 26 (dk_at dksX6_rootOf_12 12 rfl rfl)
theorem dX6_rootOf_290 : decode cX6_rootOf 290 = .ok (.iconst 0, 1) := dk_3 (dk_at dksX6_rootOf_12 15 rfl rfl)
theorem dX6_rootOf_291 : decode cX6_rootOf 291 = .ok (.dup2, 1) := dk_92 (dk_at dksX6_rootOf_12 16 rfl rfl)
theorem dX6_rootOf_292 : decode cX6_rootOf 292 = .ok (.laload, 1) := dk_47 (dk_at dksX6_rootOf_12 17 rfl rfl)
theorem dX6_rootOf_293 : decode cX6_rootOf 293 = .ok (.iload 4, 2) := dk_21 4 (dk_at dksX6_rootOf_12 18 rfl rfl)
theorem dX6_rootOf_295 : decode cX6_rootOf 295 = .ok (.ifCond .eq 7, 3) := dk_153 0 7 (dk_at dksX6_rootOf_12 20 rfl rfl)
theorem dX6_rootOf_298 : decode cX6_rootOf 298 = .ok (.lconst 1, 1) := dk_10 (dk_at dksX6_rootOf_12 23 rfl rfl)
theorem dX6_rootOf_299 : decode cX6_rootOf 299 = .ok (.goto 4, 3) := dk_167 0 4 (dk_at dksX6_rootOf_13 0 rfl rfl)
theorem dX6_rootOf_302 : decode cX6_rootOf 302 = .ok (.lconst 0, 1) := dk_9 (dk_at dksX6_rootOf_13 3 rfl rfl)
theorem dX6_rootOf_303 : decode cX6_rootOf 303 = .ok (.lor, 1) := dk_129 (dk_at dksX6_rootOf_13 4 rfl rfl)
theorem dX6_rootOf_304 : decode cX6_rootOf 304 = .ok (.lastore, 1) := dk_80 (dk_at dksX6_rootOf_13 5 rfl rfl)
theorem dX6_rootOf_305 : decode cX6_rootOf 305 = .ok (.aload_n 0, 1) := dk_42 (dk_at dksX6_rootOf_13 6 rfl rfl)
theorem dX6_rootOf_306 : decode cX6_rootOf 306 = .ok (.getfield 29, 3) := dk_180 0 29 (dk_at dksX6_rootOf_13 7 rfl rfl)
theorem dX6_rootOf_309 : decode cX6_rootOf 309 = .ok (.lconst 1, 1) := dk_10 (dk_at dksX6_rootOf_13 10 rfl rfl)
theorem dX6_rootOf_310 : decode cX6_rootOf 310 = .ok (.invokestatic 143, 3) := dk_184 0 143 (dk_at dksX6_rootOf_13 11 rfl rfl)
theorem dX6_rootOf_313 : decode cX6_rootOf 313 = .ok (.aload_n 0, 1) := dk_42 (dk_at dksX6_rootOf_13 14 rfl rfl)
theorem dX6_rootOf_314 : decode cX6_rootOf 314 = .ok (.iload_n 1, 1) := dk_27 (dk_at dksX6_rootOf_13 15 rfl rfl)
theorem dX6_rootOf_315 : decode cX6_rootOf 315 = .ok (.iconst 0, 1) := dk_3 (dk_at dksX6_rootOf_13 16 rfl rfl)
theorem dX6_rootOf_316 : decode cX6_rootOf 316 = .ok (.aload_n 0, 1) := dk_42 (dk_at dksX6_rootOf_13 17 rfl rfl)
theorem dX6_rootOf_317 : decode cX6_rootOf 317 = .ok (.getfield 84, 3) := dk_180 0 84 (dk_at dksX6_rootOf_13 18 rfl rfl)
theorem dX6_rootOf_320 : decode cX6_rootOf 320 = .ok (.iconst 2, 1) := dk_5 (dk_at dksX6_rootOf_13 21 rfl rfl)
theorem dX6_rootOf_321 : decode cX6_rootOf 321 = .ok (.idiv, 1) := dk_108 (dk_at dksX6_rootOf_13 22 rfl rfl)
theorem dX6_rootOf_322 : decode cX6_rootOf 322 = .ok (.bipush 61, 2) := dk_16 61 (dk_at dksX6_rootOf_14 0 rfl rfl)
theorem dX6_rootOf_324 : decode cX6_rootOf 324 = .ok (.isub, 1) := dk_100 (dk_at dksX6_rootOf_14 2 rfl rfl)
theorem dX6_rootOf_325 : decode cX6_rootOf 325 = .ok (.i2l, 1) := dk_133 (dk_at dksX6_rootOf_14 3 rfl rfl)
theorem dX6_rootOf_326 : decode cX6_rootOf 326 = .ok (.invokevirtual 147, 3) := dk_182 0 147 (dk_at dksX6_rootOf_14 4 rfl rfl)
theorem dX6_rootOf_329 : decode cX6_rootOf 329 = .ok (.lreturn, 1) := dk_173 (dk_at dksX6_rootOf_14 7 rfl rfl)
abbrev cX6_single : ByteArray := prog_10_method_37_code
def yX6_single : MethodName := ⟨RX6, "single", "(J)F"⟩
def dkwX6_single_0 : List UInt8 := [30, 20, 0, 174, 127, 20, 0, 95, 148, 158, 0, 8, 18, 182, 167, 0, 8, 30, 136, 184, 0, 183, 174]
abbrev dktX6_single_0 : List UInt8 := dkwX6_single_0 ++ []
theorem dksX6_single_0 : cX6_single.data.toList.drop 0 = dktX6_single_0 := by decide +kernel
theorem dX6_single_0 : decode cX6_single 0 = .ok (.lload_n 0, 1) := dk_30 (dk_at dksX6_single_0 0 rfl rfl)
theorem dX6_single_1 : decode cX6_single 1 = .ok (.ldc2_w 174, 3) := dk_20 0 174 (dk_at dksX6_single_0 1 rfl rfl)
theorem dX6_single_4 : decode cX6_single 4 = .ok (.land, 1) := dk_127 (dk_at dksX6_single_0 4 rfl rfl)
theorem dX6_single_5 : decode cX6_single 5 = .ok (.ldc2_w 95, 3) := dk_20 0 95 (dk_at dksX6_single_0 5 rfl rfl)
theorem dX6_single_8 : decode cX6_single 8 = .ok (.lcmp, 1) := dk_148 (dk_at dksX6_single_0 8 rfl rfl)
theorem dX6_single_9 : decode cX6_single 9 = .ok (.ifCond .le 8, 3) := dk_158 0 8 (dk_at dksX6_single_0 9 rfl rfl)
theorem dX6_single_12 : decode cX6_single 12 = .ok (.ldc 182, 2) := dk_18 182 (dk_at dksX6_single_0 12 rfl rfl)
theorem dX6_single_14 : decode cX6_single 14 = .ok (.goto 8, 3) := dk_167 0 8 (dk_at dksX6_single_0 14 rfl rfl)
theorem dX6_single_17 : decode cX6_single 17 = .ok (.lload_n 0, 1) := dk_30 (dk_at dksX6_single_0 17 rfl rfl)
theorem dX6_single_18 : decode cX6_single 18 = .ok (.l2i, 1) := dk_136 (dk_at dksX6_single_0 18 rfl rfl)
theorem dX6_single_19 : decode cX6_single 19 = .ok (.invokestatic 183, 3) := dk_184 0 183 (dk_at dksX6_single_0 19 rfl rfl)
theorem dX6_single_22 : decode cX6_single 22 = .ok (.freturn, 1) := dk_174 (dk_at dksX6_single_0 22 rfl rfl)
abbrev cX6_quotientOf : ByteArray := prog_10_method_45_code
def yX6_quotientOf : MethodName := ⟨RX6, "quotientOf", "(FF)F"⟩
def dkwX6_quotientOf_1 : List UInt8 := [34, 184, 0, 205, 153, 0, 15, 35, 184, 0, 205, 153, 0, 8, 18, 182, 167, 0, 6, 34, 35, 110, 174]
abbrev dktX6_quotientOf_1 : List UInt8 := dkwX6_quotientOf_1 ++ []
def dkwX6_quotientOf_0 : List UInt8 := [34, 34, 149, 154, 0, 35, 35, 35, 149, 154, 0, 29, 34, 11, 149, 154, 0, 9, 35, 11, 149, 153, 0, 17]
abbrev dktX6_quotientOf_0 : List UInt8 := dkwX6_quotientOf_0 ++ dktX6_quotientOf_1
theorem dksX6_quotientOf_0 : cX6_quotientOf.data.toList.drop 0 = dktX6_quotientOf_0 := by decide +kernel
theorem dksX6_quotientOf_1 : cX6_quotientOf.data.toList.drop 24 = dktX6_quotientOf_1 := dk_seg dksX6_quotientOf_0 24 rfl rfl
theorem dX6_quotientOf_0 : decode cX6_quotientOf 0 = .ok (.fload_n 0, 1) := dk_34 (dk_at dksX6_quotientOf_0 0 rfl rfl)
theorem dX6_quotientOf_1 : decode cX6_quotientOf 1 = .ok (.fload_n 0, 1) := dk_34 (dk_at dksX6_quotientOf_0 1 rfl rfl)
theorem dX6_quotientOf_2 : decode cX6_quotientOf 2 = .ok (.fcmp .l, 1) := dk_149 (dk_at dksX6_quotientOf_0 2 rfl rfl)
theorem dX6_quotientOf_3 : decode cX6_quotientOf 3 = .ok (.ifCond .ne 35, 3) := dk_154 0 35 (dk_at dksX6_quotientOf_0 3 rfl rfl)
theorem dX6_quotientOf_6 : decode cX6_quotientOf 6 = .ok (.fload_n 1, 1) := dk_35 (dk_at dksX6_quotientOf_0 6 rfl rfl)
theorem dX6_quotientOf_7 : decode cX6_quotientOf 7 = .ok (.fload_n 1, 1) := dk_35 (dk_at dksX6_quotientOf_0 7 rfl rfl)
theorem dX6_quotientOf_8 : decode cX6_quotientOf 8 = .ok (.fcmp .l, 1) := dk_149 (dk_at dksX6_quotientOf_0 8 rfl rfl)
theorem dX6_quotientOf_9 : decode cX6_quotientOf 9 = .ok (.ifCond .ne 29, 3) := dk_154 0 29 (dk_at dksX6_quotientOf_0 9 rfl rfl)
theorem dX6_quotientOf_12 : decode cX6_quotientOf 12 = .ok (.fload_n 0, 1) := dk_34 (dk_at dksX6_quotientOf_0 12 rfl rfl)
theorem dX6_quotientOf_13 : decode cX6_quotientOf 13 = .ok (.fconst 0, 1) := dk_11 (dk_at dksX6_quotientOf_0 13 rfl rfl)
theorem dX6_quotientOf_14 : decode cX6_quotientOf 14 = .ok (.fcmp .l, 1) := dk_149 (dk_at dksX6_quotientOf_0 14 rfl rfl)
theorem dX6_quotientOf_15 : decode cX6_quotientOf 15 = .ok (.ifCond .ne 9, 3) := dk_154 0 9 (dk_at dksX6_quotientOf_0 15 rfl rfl)
theorem dX6_quotientOf_18 : decode cX6_quotientOf 18 = .ok (.fload_n 1, 1) := dk_35 (dk_at dksX6_quotientOf_0 18 rfl rfl)
theorem dX6_quotientOf_19 : decode cX6_quotientOf 19 = .ok (.fconst 0, 1) := dk_11 (dk_at dksX6_quotientOf_0 19 rfl rfl)
theorem dX6_quotientOf_20 : decode cX6_quotientOf 20 = .ok (.fcmp .l, 1) := dk_149 (dk_at dksX6_quotientOf_0 20 rfl rfl)
theorem dX6_quotientOf_21 : decode cX6_quotientOf 21 = .ok (.ifCond .eq 17, 3) := dk_153 0 17 (dk_at dksX6_quotientOf_0 21 rfl rfl)
theorem dX6_quotientOf_24 : decode cX6_quotientOf 24 = .ok (.fload_n 0, 1) := dk_34 (dk_at dksX6_quotientOf_1 0 rfl rfl)
theorem dX6_quotientOf_25 : decode cX6_quotientOf 25 = .ok (.invokestatic 205, 3) := dk_184 0 205 (dk_at dksX6_quotientOf_1 1 rfl rfl)
theorem dX6_quotientOf_28 : decode cX6_quotientOf 28 = .ok (.ifCond .eq 15, 3) := dk_153 0 15 (dk_at dksX6_quotientOf_1 4 rfl rfl)
theorem dX6_quotientOf_31 : decode cX6_quotientOf 31 = .ok (.fload_n 1, 1) := dk_35 (dk_at dksX6_quotientOf_1 7 rfl rfl)
theorem dX6_quotientOf_32 : decode cX6_quotientOf 32 = .ok (.invokestatic 205, 3) := dk_184 0 205 (dk_at dksX6_quotientOf_1 8 rfl rfl)
theorem dX6_quotientOf_35 : decode cX6_quotientOf 35 = .ok (.ifCond .eq 8, 3) := dk_153 0 8 (dk_at dksX6_quotientOf_1 11 rfl rfl)
theorem dX6_quotientOf_38 : decode cX6_quotientOf 38 = .ok (.ldc 182, 2) := dk_18 182 (dk_at dksX6_quotientOf_1 14 rfl rfl)
theorem dX6_quotientOf_40 : decode cX6_quotientOf 40 = .ok (.goto 6, 3) := dk_167 0 6 (dk_at dksX6_quotientOf_1 16 rfl rfl)
theorem dX6_quotientOf_43 : decode cX6_quotientOf 43 = .ok (.fload_n 0, 1) := dk_34 (dk_at dksX6_quotientOf_1 19 rfl rfl)
theorem dX6_quotientOf_44 : decode cX6_quotientOf 44 = .ok (.fload_n 1, 1) := dk_35 (dk_at dksX6_quotientOf_1 20 rfl rfl)
theorem dX6_quotientOf_45 : decode cX6_quotientOf 45 = .ok (.fdiv, 1) := dk_110 (dk_at dksX6_quotientOf_1 21 rfl rfl)
theorem dX6_quotientOf_46 : decode cX6_quotientOf 46 = .ok (.freturn, 1) := dk_174 (dk_at dksX6_quotientOf_1 22 rfl rfl)
abbrev cX6_endless : ByteArray := prog_10_method_41_code
def yX6_endless : MethodName := ⟨RX6, "endless", "(F)Z"⟩
def dkwX6_endless_0 : List UInt8 := [34, 18, 203, 149, 153, 0, 10, 34, 18, 204, 149, 154, 0, 7, 4, 167, 0, 4, 3, 172]
abbrev dktX6_endless_0 : List UInt8 := dkwX6_endless_0 ++ []
theorem dksX6_endless_0 : cX6_endless.data.toList.drop 0 = dktX6_endless_0 := by decide +kernel
theorem dX6_endless_0 : decode cX6_endless 0 = .ok (.fload_n 0, 1) := dk_34 (dk_at dksX6_endless_0 0 rfl rfl)
theorem dX6_endless_1 : decode cX6_endless 1 = .ok (.ldc 203, 2) := dk_18 203 (dk_at dksX6_endless_0 1 rfl rfl)
theorem dX6_endless_3 : decode cX6_endless 3 = .ok (.fcmp .l, 1) := dk_149 (dk_at dksX6_endless_0 3 rfl rfl)
theorem dX6_endless_4 : decode cX6_endless 4 = .ok (.ifCond .eq 10, 3) := dk_153 0 10 (dk_at dksX6_endless_0 4 rfl rfl)
theorem dX6_endless_7 : decode cX6_endless 7 = .ok (.fload_n 0, 1) := dk_34 (dk_at dksX6_endless_0 7 rfl rfl)
theorem dX6_endless_8 : decode cX6_endless 8 = .ok (.ldc 204, 2) := dk_18 204 (dk_at dksX6_endless_0 8 rfl rfl)
theorem dX6_endless_10 : decode cX6_endless 10 = .ok (.fcmp .l, 1) := dk_149 (dk_at dksX6_endless_0 10 rfl rfl)
theorem dX6_endless_11 : decode cX6_endless 11 = .ok (.ifCond .ne 7, 3) := dk_154 0 7 (dk_at dksX6_endless_0 11 rfl rfl)
theorem dX6_endless_14 : decode cX6_endless 14 = .ok (.iconst 1, 1) := dk_4 (dk_at dksX6_endless_0 14 rfl rfl)
theorem dX6_endless_15 : decode cX6_endless 15 = .ok (.goto 4, 3) := dk_167 0 4 (dk_at dksX6_endless_0 15 rfl rfl)
theorem dX6_endless_18 : decode cX6_endless 18 = .ok (.iconst 0, 1) := dk_3 (dk_at dksX6_endless_0 18 rfl rfl)
theorem dX6_endless_19 : decode cX6_endless 19 = .ok (.ireturn, 1) := dk_172 (dk_at dksX6_endless_0 19 rfl rfl)
abbrev cX6_real : ByteArray := prog_10_method_40_code
def yX6_real : MethodName := ⟨RX6, "real", "(IJ)D"⟩
def dkwX6_real_1 : List UInt8 := [158, 0, 9, 20, 0, 189, 167, 0, 7, 31, 184, 0, 199, 175]
abbrev dktX6_real_1 : List UInt8 := dkwX6_real_1 ++ []
def dkwX6_real_0 : List UInt8 := [26, 154, 0, 13, 31, 184, 0, 191, 184, 0, 195, 167, 0, 25, 31, 20, 0, 176, 127, 20, 0, 97, 148]
abbrev dktX6_real_0 : List UInt8 := dkwX6_real_0 ++ dktX6_real_1
theorem dksX6_real_0 : cX6_real.data.toList.drop 0 = dktX6_real_0 := by decide +kernel
theorem dksX6_real_1 : cX6_real.data.toList.drop 23 = dktX6_real_1 := dk_seg dksX6_real_0 23 rfl rfl
theorem dX6_real_0 : decode cX6_real 0 = .ok (.iload_n 0, 1) := dk_26 (dk_at dksX6_real_0 0 rfl rfl)
theorem dX6_real_1 : decode cX6_real 1 = .ok (.ifCond .ne 13, 3) := dk_154 0 13 (dk_at dksX6_real_0 1 rfl rfl)
theorem dX6_real_4 : decode cX6_real 4 = .ok (.lload_n 1, 1) := dk_31 (dk_at dksX6_real_0 4 rfl rfl)
theorem dX6_real_5 : decode cX6_real 5 = .ok (.invokestatic 191, 3) := dk_184 0 191 (dk_at dksX6_real_0 5 rfl rfl)
theorem dX6_real_8 : decode cX6_real 8 = .ok (.invokestatic 195, 3) := dk_184 0 195 (dk_at dksX6_real_0 8 rfl rfl)
theorem dX6_real_11 : decode cX6_real 11 = .ok (.goto 25, 3) := dk_167 0 25 (dk_at dksX6_real_0 11 rfl rfl)
theorem dX6_real_14 : decode cX6_real 14 = .ok (.lload_n 1, 1) := dk_31 (dk_at dksX6_real_0 14 rfl rfl)
theorem dX6_real_15 : decode cX6_real 15 = .ok (.ldc2_w 176, 3) := dk_20 0 176 (dk_at dksX6_real_0 15 rfl rfl)
theorem dX6_real_18 : decode cX6_real 18 = .ok (.land, 1) := dk_127 (dk_at dksX6_real_0 18 rfl rfl)
theorem dX6_real_19 : decode cX6_real 19 = .ok (.ldc2_w 97, 3) := dk_20 0 97 (dk_at dksX6_real_0 19 rfl rfl)
theorem dX6_real_22 : decode cX6_real 22 = .ok (.lcmp, 1) := dk_148 (dk_at dksX6_real_0 22 rfl rfl)
theorem dX6_real_23 : decode cX6_real 23 = .ok (.ifCond .le 9, 3) := dk_158 0 9 (dk_at dksX6_real_1 0 rfl rfl)
theorem dX6_real_26 : decode cX6_real 26 = .ok (.ldc2_w 189, 3) := dk_20 0 189 (dk_at dksX6_real_1 3 rfl rfl)
theorem dX6_real_29 : decode cX6_real 29 = .ok (.goto 7, 3) := dk_167 0 7 (dk_at dksX6_real_1 6 rfl rfl)
theorem dX6_real_32 : decode cX6_real 32 = .ok (.lload_n 1, 1) := dk_31 (dk_at dksX6_real_1 9 rfl rfl)
theorem dX6_real_33 : decode cX6_real 33 = .ok (.invokestatic 199, 3) := dk_184 0 199 (dk_at dksX6_real_1 10 rfl rfl)
theorem dX6_real_36 : decode cX6_real 36 = .ok (.dreturn, 1) := dk_175 (dk_at dksX6_real_1 13 rfl rfl)
abbrev cX6_wide : ByteArray := prog_10_method_38_code
def yX6_wide : MethodName := ⟨RX6, "wide", "(F)D"⟩
def dkwX6_wide_0 : List UInt8 := [34, 34, 149, 153, 0, 9, 20, 0, 189, 167, 0, 5, 34, 141, 175]
abbrev dktX6_wide_0 : List UInt8 := dkwX6_wide_0 ++ []
theorem dksX6_wide_0 : cX6_wide.data.toList.drop 0 = dktX6_wide_0 := by decide +kernel
theorem dX6_wide_0 : decode cX6_wide 0 = .ok (.fload_n 0, 1) := dk_34 (dk_at dksX6_wide_0 0 rfl rfl)
theorem dX6_wide_1 : decode cX6_wide 1 = .ok (.fload_n 0, 1) := dk_34 (dk_at dksX6_wide_0 1 rfl rfl)
theorem dX6_wide_2 : decode cX6_wide 2 = .ok (.fcmp .l, 1) := dk_149 (dk_at dksX6_wide_0 2 rfl rfl)
theorem dX6_wide_3 : decode cX6_wide 3 = .ok (.ifCond .eq 9, 3) := dk_153 0 9 (dk_at dksX6_wide_0 3 rfl rfl)
theorem dX6_wide_6 : decode cX6_wide 6 = .ok (.ldc2_w 189, 3) := dk_20 0 189 (dk_at dksX6_wide_0 6 rfl rfl)
theorem dX6_wide_9 : decode cX6_wide 9 = .ok (.goto 5, 3) := dk_167 0 5 (dk_at dksX6_wide_0 9 rfl rfl)
theorem dX6_wide_12 : decode cX6_wide 12 = .ok (.fload_n 0, 1) := dk_34 (dk_at dksX6_wide_0 12 rfl rfl)
theorem dX6_wide_13 : decode cX6_wide 13 = .ok (.f2d, 1) := dk_141 (dk_at dksX6_wide_0 13 rfl rfl)
theorem dX6_wide_14 : decode cX6_wide 14 = .ok (.dreturn, 1) := dk_175 (dk_at dksX6_wide_0 14 rfl rfl)
abbrev cX6_quotientOf_2 : ByteArray := prog_10_method_51_code
def yX6_quotientOf_2 : MethodName := ⟨RX6, "quotientOf", "(DD)D"⟩
def dkwX6_quotientOf_2_1 : List UInt8 := [38, 184, 0, 213, 153, 0, 16, 40, 184, 0, 213, 153, 0, 9, 20, 0, 189, 167, 0, 6, 38, 40, 111, 175]
abbrev dktX6_quotientOf_2_1 : List UInt8 := dkwX6_quotientOf_2_1 ++ []
def dkwX6_quotientOf_2_0 : List UInt8 := [38, 38, 151, 154, 0, 35, 40, 40, 151, 154, 0, 29, 38, 14, 151, 154, 0, 9, 40, 14, 151, 153, 0, 17]
abbrev dktX6_quotientOf_2_0 : List UInt8 := dkwX6_quotientOf_2_0 ++ dktX6_quotientOf_2_1
theorem dksX6_quotientOf_2_0 : cX6_quotientOf_2.data.toList.drop 0 = dktX6_quotientOf_2_0 := by decide +kernel
theorem dksX6_quotientOf_2_1 : cX6_quotientOf_2.data.toList.drop 24 = dktX6_quotientOf_2_1 := dk_seg dksX6_quotientOf_2_0 24 rfl rfl
theorem dX6_quotientOf_2_0 : decode cX6_quotientOf_2 0 = .ok (.dload_n 0, 1) := dk_38 (dk_at dksX6_quotientOf_2_0 0 rfl rfl)
theorem dX6_quotientOf_2_1 : decode cX6_quotientOf_2 1 = .ok (.dload_n 0, 1) := dk_38 (dk_at dksX6_quotientOf_2_0 1 rfl rfl)
theorem dX6_quotientOf_2_2 : decode cX6_quotientOf_2 2 = .ok (.dcmp .l, 1) := dk_151 (dk_at dksX6_quotientOf_2_0 2 rfl rfl)
theorem dX6_quotientOf_2_3 : decode cX6_quotientOf_2 3 = .ok (.ifCond .ne 35, 3) := dk_154 0 35 (dk_at dksX6_quotientOf_2_0 3 rfl rfl)
theorem dX6_quotientOf_2_6 : decode cX6_quotientOf_2 6 = .ok (.dload_n 2, 1) := dk_40 (dk_at dksX6_quotientOf_2_0 6 rfl rfl)
theorem dX6_quotientOf_2_7 : decode cX6_quotientOf_2 7 = .ok (.dload_n 2, 1) := dk_40 (dk_at dksX6_quotientOf_2_0 7 rfl rfl)
theorem dX6_quotientOf_2_8 : decode cX6_quotientOf_2 8 = .ok (.dcmp .l, 1) := dk_151 (dk_at dksX6_quotientOf_2_0 8 rfl rfl)
theorem dX6_quotientOf_2_9 : decode cX6_quotientOf_2 9 = .ok (.ifCond .ne 29, 3) := dk_154 0 29 (dk_at dksX6_quotientOf_2_0 9 rfl rfl)
theorem dX6_quotientOf_2_12 : decode cX6_quotientOf_2 12 = .ok (.dload_n 0, 1) := dk_38 (dk_at dksX6_quotientOf_2_0 12 rfl rfl)
theorem dX6_quotientOf_2_13 : decode cX6_quotientOf_2 13 = .ok (.dconst 0, 1) := dk_14 (dk_at dksX6_quotientOf_2_0 13 rfl rfl)
theorem dX6_quotientOf_2_14 : decode cX6_quotientOf_2 14 = .ok (.dcmp .l, 1) := dk_151 (dk_at dksX6_quotientOf_2_0 14 rfl rfl)
theorem dX6_quotientOf_2_15 : decode cX6_quotientOf_2 15 = .ok (.ifCond .ne 9, 3) := dk_154 0 9 (dk_at dksX6_quotientOf_2_0 15 rfl rfl)
theorem dX6_quotientOf_2_18 : decode cX6_quotientOf_2 18 = .ok (.dload_n 2, 1) := dk_40 (dk_at dksX6_quotientOf_2_0 18 rfl rfl)
theorem dX6_quotientOf_2_19 : decode cX6_quotientOf_2 19 = .ok (.dconst 0, 1) := dk_14 (dk_at dksX6_quotientOf_2_0 19 rfl rfl)
theorem dX6_quotientOf_2_20 : decode cX6_quotientOf_2 20 = .ok (.dcmp .l, 1) := dk_151 (dk_at dksX6_quotientOf_2_0 20 rfl rfl)
theorem dX6_quotientOf_2_21 : decode cX6_quotientOf_2 21 = .ok (.ifCond .eq 17, 3) := dk_153 0 17 (dk_at dksX6_quotientOf_2_0 21 rfl rfl)
theorem dX6_quotientOf_2_24 : decode cX6_quotientOf_2 24 = .ok (.dload_n 0, 1) := dk_38 (dk_at dksX6_quotientOf_2_1 0 rfl rfl)
theorem dX6_quotientOf_2_25 : decode cX6_quotientOf_2 25 = .ok (.invokestatic 213, 3) := dk_184 0 213 (dk_at dksX6_quotientOf_2_1 1 rfl rfl)
theorem dX6_quotientOf_2_28 : decode cX6_quotientOf_2 28 = .ok (.ifCond .eq 16, 3) := dk_153 0 16 (dk_at dksX6_quotientOf_2_1 4 rfl rfl)
theorem dX6_quotientOf_2_31 : decode cX6_quotientOf_2 31 = .ok (.dload_n 2, 1) := dk_40 (dk_at dksX6_quotientOf_2_1 7 rfl rfl)
theorem dX6_quotientOf_2_32 : decode cX6_quotientOf_2 32 = .ok (.invokestatic 213, 3) := dk_184 0 213 (dk_at dksX6_quotientOf_2_1 8 rfl rfl)
theorem dX6_quotientOf_2_35 : decode cX6_quotientOf_2 35 = .ok (.ifCond .eq 9, 3) := dk_153 0 9 (dk_at dksX6_quotientOf_2_1 11 rfl rfl)
theorem dX6_quotientOf_2_38 : decode cX6_quotientOf_2 38 = .ok (.ldc2_w 189, 3) := dk_20 0 189 (dk_at dksX6_quotientOf_2_1 14 rfl rfl)
theorem dX6_quotientOf_2_41 : decode cX6_quotientOf_2 41 = .ok (.goto 6, 3) := dk_167 0 6 (dk_at dksX6_quotientOf_2_1 17 rfl rfl)
theorem dX6_quotientOf_2_44 : decode cX6_quotientOf_2 44 = .ok (.dload_n 0, 1) := dk_38 (dk_at dksX6_quotientOf_2_1 20 rfl rfl)
theorem dX6_quotientOf_2_45 : decode cX6_quotientOf_2 45 = .ok (.dload_n 2, 1) := dk_40 (dk_at dksX6_quotientOf_2_1 21 rfl rfl)
theorem dX6_quotientOf_2_46 : decode cX6_quotientOf_2 46 = .ok (.ddiv, 1) := dk_111 (dk_at dksX6_quotientOf_2_1 22 rfl rfl)
theorem dX6_quotientOf_2_47 : decode cX6_quotientOf_2 47 = .ok (.dreturn, 1) := dk_175 (dk_at dksX6_quotientOf_2_1 23 rfl rfl)
abbrev cX6_endless_2 : ByteArray := prog_10_method_47_code
def yX6_endless_2 : MethodName := ⟨RX6, "endless", "(D)Z"⟩
def dkwX6_endless_2_0 : List UInt8 := [38, 20, 0, 209, 151, 153, 0, 11, 38, 20, 0, 211, 151, 154, 0, 7, 4, 167, 0, 4, 3, 172]
abbrev dktX6_endless_2_0 : List UInt8 := dkwX6_endless_2_0 ++ []
theorem dksX6_endless_2_0 : cX6_endless_2.data.toList.drop 0 = dktX6_endless_2_0 := by decide +kernel
theorem dX6_endless_2_0 : decode cX6_endless_2 0 = .ok (.dload_n 0, 1) := dk_38 (dk_at dksX6_endless_2_0 0 rfl rfl)
theorem dX6_endless_2_1 : decode cX6_endless_2 1 = .ok (.ldc2_w 209, 3) := dk_20 0 209 (dk_at dksX6_endless_2_0 1 rfl rfl)
theorem dX6_endless_2_4 : decode cX6_endless_2 4 = .ok (.dcmp .l, 1) := dk_151 (dk_at dksX6_endless_2_0 4 rfl rfl)
theorem dX6_endless_2_5 : decode cX6_endless_2 5 = .ok (.ifCond .eq 11, 3) := dk_153 0 11 (dk_at dksX6_endless_2_0 5 rfl rfl)
theorem dX6_endless_2_8 : decode cX6_endless_2 8 = .ok (.dload_n 0, 1) := dk_38 (dk_at dksX6_endless_2_0 8 rfl rfl)
theorem dX6_endless_2_9 : decode cX6_endless_2 9 = .ok (.ldc2_w 211, 3) := dk_20 0 211 (dk_at dksX6_endless_2_0 9 rfl rfl)
theorem dX6_endless_2_12 : decode cX6_endless_2 12 = .ok (.dcmp .l, 1) := dk_151 (dk_at dksX6_endless_2_0 12 rfl rfl)
theorem dX6_endless_2_13 : decode cX6_endless_2 13 = .ok (.ifCond .ne 7, 3) := dk_154 0 7 (dk_at dksX6_endless_2_0 13 rfl rfl)
theorem dX6_endless_2_16 : decode cX6_endless_2 16 = .ok (.iconst 1, 1) := dk_4 (dk_at dksX6_endless_2_0 16 rfl rfl)
theorem dX6_endless_2_17 : decode cX6_endless_2 17 = .ok (.goto 4, 3) := dk_167 0 4 (dk_at dksX6_endless_2_0 17 rfl rfl)
theorem dX6_endless_2_20 : decode cX6_endless_2 20 = .ok (.iconst 0, 1) := dk_3 (dk_at dksX6_endless_2_0 20 rfl rfl)
theorem dX6_endless_2_21 : decode cX6_endless_2 21 = .ok (.ireturn, 1) := dk_172 (dk_at dksX6_endless_2_0 21 rfl rfl)
abbrev cX6_narrow : ByteArray := prog_10_method_39_code
def yX6_narrow : MethodName := ⟨RX6, "narrow", "(D)F"⟩
def dkwX6_narrow_0 : List UInt8 := [38, 38, 151, 153, 0, 8, 18, 182, 167, 0, 5, 38, 144, 174]
abbrev dktX6_narrow_0 : List UInt8 := dkwX6_narrow_0 ++ []
theorem dksX6_narrow_0 : cX6_narrow.data.toList.drop 0 = dktX6_narrow_0 := by decide +kernel
theorem dX6_narrow_0 : decode cX6_narrow 0 = .ok (.dload_n 0, 1) := dk_38 (dk_at dksX6_narrow_0 0 rfl rfl)
theorem dX6_narrow_1 : decode cX6_narrow 1 = .ok (.dload_n 0, 1) := dk_38 (dk_at dksX6_narrow_0 1 rfl rfl)
theorem dX6_narrow_2 : decode cX6_narrow 2 = .ok (.dcmp .l, 1) := dk_151 (dk_at dksX6_narrow_0 2 rfl rfl)
theorem dX6_narrow_3 : decode cX6_narrow 3 = .ok (.ifCond .eq 8, 3) := dk_153 0 8 (dk_at dksX6_narrow_0 3 rfl rfl)
theorem dX6_narrow_6 : decode cX6_narrow 6 = .ok (.ldc 182, 2) := dk_18 182 (dk_at dksX6_narrow_0 6 rfl rfl)
theorem dX6_narrow_8 : decode cX6_narrow 8 = .ok (.goto 5, 3) := dk_167 0 5 (dk_at dksX6_narrow_0 8 rfl rfl)
theorem dX6_narrow_11 : decode cX6_narrow 11 = .ok (.dload_n 0, 1) := dk_38 (dk_at dksX6_narrow_0 11 rfl rfl)
theorem dX6_narrow_12 : decode cX6_narrow 12 = .ok (.d2f, 1) := dk_144 (dk_at dksX6_narrow_0 12 rfl rfl)
theorem dX6_narrow_13 : decode cX6_narrow 13 = .ok (.freturn, 1) := dk_174 (dk_at dksX6_narrow_0 13 rfl rfl)
abbrev cX6_two : ByteArray := prog_10_method_59_code
def yX6_two : MethodName := ⟨RX6, "two", "(IIJJ)J"⟩
def dkwX6_two_1 : List UInt8 := [182, 0, 45, 167, 0, 12, 42, 27, 28, 33, 22, 5, 182, 1, 28, 173]
abbrev dktX6_two_1 : List UInt8 := dkwX6_two_1 ++ []
def dkwX6_two_0 : List UInt8 := [42, 182, 0, 42, 27, 155, 0, 16, 27, 16, 7, 163, 0, 10, 28, 184, 0, 151, 154, 0, 12, 42, 16, 9]
abbrev dktX6_two_0 : List UInt8 := dkwX6_two_0 ++ dktX6_two_1
theorem dksX6_two_0 : cX6_two.data.toList.drop 0 = dktX6_two_0 := by decide +kernel
theorem dksX6_two_1 : cX6_two.data.toList.drop 24 = dktX6_two_1 := dk_seg dksX6_two_0 24 rfl rfl
theorem dX6_two_0 : decode cX6_two 0 = .ok (.aload_n 0, 1) := dk_42 (dk_at dksX6_two_0 0 rfl rfl)
theorem dX6_two_1 : decode cX6_two 1 = .ok (.invokevirtual 42, 3) := dk_182 0 42 (dk_at dksX6_two_0 1 rfl rfl)
theorem dX6_two_4 : decode cX6_two 4 = .ok (.iload_n 1, 1) := dk_27 (dk_at dksX6_two_0 4 rfl rfl)
theorem dX6_two_5 : decode cX6_two 5 = .ok (.ifCond .lt 16, 3) := dk_155 0 16 (dk_at dksX6_two_0 5 rfl rfl)
theorem dX6_two_8 : decode cX6_two 8 = .ok (.iload_n 1, 1) := dk_27 (dk_at dksX6_two_0 8 rfl rfl)
theorem dX6_two_9 : decode cX6_two 9 = .ok (.bipush 7, 2) := dk_16 7 (dk_at dksX6_two_0 9 rfl rfl)
theorem dX6_two_11 : decode cX6_two 11 = .ok (.if_icmp .gt 10, 3) := dk_163 0 10 (dk_at dksX6_two_0 11 rfl rfl)
theorem dX6_two_14 : decode cX6_two 14 = .ok (.iload_n 2, 1) := dk_28 (dk_at dksX6_two_0 14 rfl rfl)
theorem dX6_two_15 : decode cX6_two 15 = .ok (.invokestatic 151, 3) := dk_184 0 151 (dk_at dksX6_two_0 15 rfl rfl)
theorem dX6_two_18 : decode cX6_two 18 = .ok (.ifCond .ne 12, 3) := dk_154 0 12 (dk_at dksX6_two_0 18 rfl rfl)
theorem dX6_two_21 : decode cX6_two 21 = .ok (.aload_n 0, 1) := dk_42 (dk_at dksX6_two_0 21 rfl rfl)
theorem dX6_two_22 : decode cX6_two 22 = .ok (.bipush 9, 2) := dk_16 9 (dk_at dksX6_two_0 22 rfl rfl)
theorem dX6_two_24 : decode cX6_two 24 = .ok (.invokevirtual 45, 3) := dk_182 0 45 (dk_at dksX6_two_1 0 rfl rfl)
theorem dX6_two_27 : decode cX6_two 27 = .ok (.goto 12, 3) := dk_167 0 12 (dk_at dksX6_two_1 3 rfl rfl)
theorem dX6_two_30 : decode cX6_two 30 = .ok (.aload_n 0, 1) := dk_42 (dk_at dksX6_two_1 6 rfl rfl)
theorem dX6_two_31 : decode cX6_two 31 = .ok (.iload_n 1, 1) := dk_27 (dk_at dksX6_two_1 7 rfl rfl)
theorem dX6_two_32 : decode cX6_two 32 = .ok (.iload_n 2, 1) := dk_28 (dk_at dksX6_two_1 8 rfl rfl)
theorem dX6_two_33 : decode cX6_two 33 = .ok (.lload_n 3, 1) := dk_33 (dk_at dksX6_two_1 9 rfl rfl)
theorem dX6_two_34 : decode cX6_two 34 = .ok (.lload 5, 2) := dk_22 5 (dk_at dksX6_two_1 10 rfl rfl)
theorem dX6_two_36 : decode cX6_two 36 = .ok (.invokevirtual 284, 3) := dk_182 1 28 (dk_at dksX6_two_1 12 rfl rfl)
theorem dX6_two_39 : decode cX6_two 39 = .ok (.lreturn, 1) := dk_173 (dk_at dksX6_two_1 15 rfl rfl)
abbrev cX6_chosen : ByteArray := prog_10_method_58_code
def yX6_chosen : MethodName := ⟨RX6, "chosen", "(IIJJ)J"⟩
def dkwX6_chosen_4 : List UInt8 := [153, 0, 10, 28, 184, 0, 103, 167, 0, 14, 28, 28, 33, 184, 0, 171, 21, 8, 184, 0, 110, 173]
abbrev dktX6_chosen_4 : List UInt8 := dkwX6_chosen_4 ++ []
def dkwX6_chosen_3 : List UInt8 := [28, 22, 5, 182, 0, 99, 42, 180, 0, 67, 54, 8, 42, 28, 33, 182, 0, 99, 42, 180, 0, 71]
abbrev dktX6_chosen_3 : List UInt8 := dkwX6_chosen_3 ++ dktX6_chosen_4
def dkwX6_chosen_2 : List UInt8 := [27, 8, 160, 0, 7, 4, 167, 0, 4, 3, 160, 0, 8, 22, 5, 167, 0, 4, 33, 182, 0, 167, 173, 42]
abbrev dktX6_chosen_2 : List UInt8 := dkwX6_chosen_2 ++ dktX6_chosen_3
def dkwX6_chosen_1 : List UInt8 := [184, 0, 249, 152, 157, 0, 7, 4, 167, 0, 4, 3, 54, 7, 27, 16, 7, 162, 0, 30, 42, 28, 21, 7]
abbrev dktX6_chosen_1 : List UInt8 := dkwX6_chosen_1 ++ dktX6_chosen_2
def dkwX6_chosen_0 : List UInt8 := [27, 8, 162, 0, 13, 42, 27, 28, 33, 22, 5, 182, 1, 24, 173, 28, 33, 184, 0, 249, 28, 22, 5]
abbrev dktX6_chosen_0 : List UInt8 := dkwX6_chosen_0 ++ dktX6_chosen_1
theorem dksX6_chosen_0 : cX6_chosen.data.toList.drop 0 = dktX6_chosen_0 := by decide +kernel
theorem dksX6_chosen_1 : cX6_chosen.data.toList.drop 23 = dktX6_chosen_1 := dk_seg dksX6_chosen_0 23 rfl rfl
theorem dksX6_chosen_2 : cX6_chosen.data.toList.drop 47 = dktX6_chosen_2 := dk_seg dksX6_chosen_1 24 rfl rfl
theorem dksX6_chosen_3 : cX6_chosen.data.toList.drop 71 = dktX6_chosen_3 := dk_seg dksX6_chosen_2 24 rfl rfl
theorem dksX6_chosen_4 : cX6_chosen.data.toList.drop 93 = dktX6_chosen_4 := dk_seg dksX6_chosen_3 22 rfl rfl
theorem dX6_chosen_0 : decode cX6_chosen 0 = .ok (.iload_n 1, 1) := dk_27 (dk_at dksX6_chosen_0 0 rfl rfl)
theorem dX6_chosen_1 : decode cX6_chosen 1 = .ok (.iconst 5, 1) := dk_8 (dk_at dksX6_chosen_0 1 rfl rfl)
theorem dX6_chosen_2 : decode cX6_chosen 2 = .ok (.if_icmp .ge 13, 3) := dk_162 0 13 (dk_at dksX6_chosen_0 2 rfl rfl)
theorem dX6_chosen_5 : decode cX6_chosen 5 = .ok (.aload_n 0, 1) := dk_42 (dk_at dksX6_chosen_0 5 rfl rfl)
theorem dX6_chosen_6 : decode cX6_chosen 6 = .ok (.iload_n 1, 1) := dk_27 (dk_at dksX6_chosen_0 6 rfl rfl)
theorem dX6_chosen_7 : decode cX6_chosen 7 = .ok (.iload_n 2, 1) := dk_28 (dk_at dksX6_chosen_0 7 rfl rfl)
theorem dX6_chosen_8 : decode cX6_chosen 8 = .ok (.lload_n 3, 1) := dk_33 (dk_at dksX6_chosen_0 8 rfl rfl)
theorem dX6_chosen_9 : decode cX6_chosen 9 = .ok (.lload 5, 2) := dk_22 5 (dk_at dksX6_chosen_0 9 rfl rfl)
theorem dX6_chosen_11 : decode cX6_chosen 11 = .ok (.invokevirtual 280, 3) := dk_182 1 24 (dk_at dksX6_chosen_0 11 rfl rfl)
theorem dX6_chosen_14 : decode cX6_chosen 14 = .ok (.lreturn, 1) := dk_173 (dk_at dksX6_chosen_0 14 rfl rfl)
theorem dX6_chosen_15 : decode cX6_chosen 15 = .ok (.iload_n 2, 1) := dk_28 (dk_at dksX6_chosen_0 15 rfl rfl)
theorem dX6_chosen_16 : decode cX6_chosen 16 = .ok (.lload_n 3, 1) := dk_33 (dk_at dksX6_chosen_0 16 rfl rfl)
theorem dX6_chosen_17 : decode cX6_chosen 17 = .ok (.invokestatic 249, 3) := dk_184 0 249 (dk_at dksX6_chosen_0 17 rfl rfl)
theorem dX6_chosen_20 : decode cX6_chosen 20 = .ok (.iload_n 2, 1) := dk_28 (dk_at dksX6_chosen_0 20 rfl rfl)
theorem dX6_chosen_21 : decode cX6_chosen 21 = .ok (.lload 5, 2) := dk_22 5 (dk_at dksX6_chosen_0 21 rfl rfl)
theorem dX6_chosen_23 : decode cX6_chosen 23 = .ok (.invokestatic 249, 3) := dk_184 0 249 (dk_at dksX6_chosen_1 0 rfl rfl)
theorem dX6_chosen_26 : decode cX6_chosen 26 = .ok (.dcmp .g, 1) := dk_152 (dk_at dksX6_chosen_1 3 rfl rfl)
theorem dX6_chosen_27 : decode cX6_chosen 27 = .ok (.ifCond .gt 7, 3) := dk_157 0 7 (dk_at dksX6_chosen_1 4 rfl rfl)
theorem dX6_chosen_30 : decode cX6_chosen 30 = .ok (.iconst 1, 1) := dk_4 (dk_at dksX6_chosen_1 7 rfl rfl)
theorem dX6_chosen_31 : decode cX6_chosen 31 = .ok (.goto 4, 3) := dk_167 0 4 (dk_at dksX6_chosen_1 8 rfl rfl)
theorem dX6_chosen_34 : decode cX6_chosen 34 = .ok (.iconst 0, 1) := dk_3 (dk_at dksX6_chosen_1 11 rfl rfl)
theorem dX6_chosen_35 : decode cX6_chosen 35 = .ok (.istore 7, 2) := dk_54 7 (dk_at dksX6_chosen_1 12 rfl rfl)
theorem dX6_chosen_37 : decode cX6_chosen 37 = .ok (.iload_n 1, 1) := dk_27 (dk_at dksX6_chosen_1 14 rfl rfl)
theorem dX6_chosen_38 : decode cX6_chosen 38 = .ok (.bipush 7, 2) := dk_16 7 (dk_at dksX6_chosen_1 15 rfl rfl)
theorem dX6_chosen_40 : decode cX6_chosen 40 = .ok (.if_icmp .ge 30, 3) := dk_162 0 30 (dk_at dksX6_chosen_1 17 rfl rfl)
theorem dX6_chosen_43 : decode cX6_chosen 43 = .ok (.aload_n 0, 1) := dk_42 (dk_at dksX6_chosen_1 20 rfl rfl)
theorem dX6_chosen_44 : decode cX6_chosen 44 = .ok (.iload_n 2, 1) := dk_28 (dk_at dksX6_chosen_1 21 rfl rfl)
theorem dX6_chosen_45 : decode cX6_chosen 45 = .ok (.iload 7, 2) := dk_21 7 (dk_at dksX6_chosen_1 22 rfl rfl)
theorem dX6_chosen_47 : decode cX6_chosen 47 = .ok (.iload_n 1, 1) := dk_27 (dk_at dksX6_chosen_2 0 rfl rfl)
theorem dX6_chosen_48 : decode cX6_chosen 48 = .ok (.iconst 5, 1) := dk_8 (dk_at dksX6_chosen_2 1 rfl rfl)
theorem dX6_chosen_49 : decode cX6_chosen 49 = .ok (.if_icmp .ne 7, 3) := dk_160 0 7 (dk_at dksX6_chosen_2 2 rfl rfl)
theorem dX6_chosen_52 : decode cX6_chosen 52 = .ok (.iconst 1, 1) := dk_4 (dk_at dksX6_chosen_2 5 rfl rfl)
theorem dX6_chosen_53 : decode cX6_chosen 53 = .ok (.goto 4, 3) := dk_167 0 4 (dk_at dksX6_chosen_2 6 rfl rfl)
theorem dX6_chosen_56 : decode cX6_chosen 56 = .ok (.iconst 0, 1) := dk_3 (dk_at dksX6_chosen_2 9 rfl rfl)
theorem dX6_chosen_57 : decode cX6_chosen 57 = .ok (.if_icmp .ne 8, 3) := dk_160 0 8 (dk_at dksX6_chosen_2 10 rfl rfl)
theorem dX6_chosen_60 : decode cX6_chosen 60 = .ok (.lload 5, 2) := dk_22 5 (dk_at dksX6_chosen_2 13 rfl rfl)
theorem dX6_chosen_62 : decode cX6_chosen 62 = .ok (.goto 4, 3) := dk_167 0 4 (dk_at dksX6_chosen_2 15 rfl rfl)
theorem dX6_chosen_65 : decode cX6_chosen 65 = .ok (.lload_n 3, 1) := dk_33 (dk_at dksX6_chosen_2 18 rfl rfl)
theorem dX6_chosen_66 : decode cX6_chosen 66 = .ok (.invokevirtual 167, 3) := dk_182 0 167 (dk_at dksX6_chosen_2 19 rfl rfl)
theorem dX6_chosen_69 : decode cX6_chosen 69 = .ok (.lreturn, 1) := dk_173 (dk_at dksX6_chosen_2 22 rfl rfl)
theorem dX6_chosen_70 : decode cX6_chosen 70 = .ok (.aload_n 0, 1) := dk_42 (dk_at dksX6_chosen_2 23 rfl rfl)
theorem dX6_chosen_71 : decode cX6_chosen 71 = .ok (.iload_n 2, 1) := dk_28 (dk_at dksX6_chosen_3 0 rfl rfl)
theorem dX6_chosen_72 : decode cX6_chosen 72 = .ok (.lload 5, 2) := dk_22 5 (dk_at dksX6_chosen_3 1 rfl rfl)
theorem dX6_chosen_74 : decode cX6_chosen 74 = .ok (.invokevirtual 99, 3) := dk_182 0 99 (dk_at dksX6_chosen_3 3 rfl rfl)
theorem dX6_chosen_77 : decode cX6_chosen 77 = .ok (.aload_n 0, 1) := dk_42 (dk_at dksX6_chosen_3 6 rfl rfl)
theorem dX6_chosen_78 : decode cX6_chosen 78 = .ok (.getfield 67, 3) := dk_180 0 67 (dk_at dksX6_chosen_3 7 rfl rfl)
theorem dX6_chosen_81 : decode cX6_chosen 81 = .ok (.istore 8, 2) := dk_54 8 (dk_at dksX6_chosen_3 10 rfl rfl)
theorem dX6_chosen_83 : decode cX6_chosen 83 = .ok (.aload_n 0, 1) := dk_42 (dk_at dksX6_chosen_3 12 rfl rfl)
theorem dX6_chosen_84 : decode cX6_chosen 84 = .ok (.iload_n 2, 1) := dk_28 (dk_at dksX6_chosen_3 13 rfl rfl)
theorem dX6_chosen_85 : decode cX6_chosen 85 = .ok (.lload_n 3, 1) := dk_33 (dk_at dksX6_chosen_3 14 rfl rfl)
theorem dX6_chosen_86 : decode cX6_chosen 86 = .ok (.invokevirtual 99, 3) := dk_182 0 99 (dk_at dksX6_chosen_3 15 rfl rfl)
theorem dX6_chosen_89 : decode cX6_chosen 89 = .ok (.aload_n 0, 1) := dk_42 (dk_at dksX6_chosen_3 18 rfl rfl)
theorem dX6_chosen_90 : decode cX6_chosen 90 = .ok (.getfield 71, 3) := dk_180 0 71 (dk_at dksX6_chosen_3 19 rfl rfl)
theorem dX6_chosen_93 : decode cX6_chosen 93 = .ok (.ifCond .eq 10, 3) := dk_153 0 10 (dk_at dksX6_chosen_4 0 rfl rfl)
theorem dX6_chosen_96 : decode cX6_chosen 96 = .ok (.iload_n 2, 1) := dk_28 (dk_at dksX6_chosen_4 3 rfl rfl)
theorem dX6_chosen_97 : decode cX6_chosen 97 = .ok (.invokestatic 103, 3) := dk_184 0 103 (dk_at dksX6_chosen_4 4 rfl rfl)
theorem dX6_chosen_100 : decode cX6_chosen 100 = .ok (.goto 14, 3) := dk_167 0 14 (dk_at dksX6_chosen_4 7 rfl rfl)
theorem dX6_chosen_103 : decode cX6_chosen 103 = .ok (.iload_n 2, 1) := dk_28 (dk_at dksX6_chosen_4 10 rfl rfl)
theorem dX6_chosen_104 : decode cX6_chosen 104 = .ok (.iload_n 2, 1) := dk_28 (dk_at dksX6_chosen_4 11 rfl rfl)
theorem dX6_chosen_105 : decode cX6_chosen 105 = .ok (.lload_n 3, 1) := dk_33 (dk_at dksX6_chosen_4 12 rfl rfl)
theorem dX6_chosen_106 : decode cX6_chosen 106 = .ok (.invokestatic 171, 3) := dk_184 0 171 (dk_at dksX6_chosen_4 13 rfl rfl)
theorem dX6_chosen_109 : decode cX6_chosen 109 = .ok (.iload 8, 2) := dk_21 8 (dk_at dksX6_chosen_4 16 rfl rfl)
theorem dX6_chosen_111 : decode cX6_chosen 111 = .ok (.invokestatic 110, 3) := dk_184 0 110 (dk_at dksX6_chosen_4 18 rfl rfl)
theorem dX6_chosen_114 : decode cX6_chosen 114 = .ok (.lreturn, 1) := dk_173 (dk_at dksX6_chosen_4 21 rfl rfl)
abbrev cX6_plain : ByteArray := prog_10_method_57_code
def yX6_plain : MethodName := ⟨RX6, "plain", "(IIJJ)J"⟩
def dkwX6_plain_7 : List UInt8 := [24, 9, 184, 1, 22, 184, 0, 234, 173]
abbrev dktX6_plain_7 : List UInt8 := dkwX6_plain_7 ++ []
def dkwX6_plain_6 : List UInt8 := [184, 1, 20, 167, 0, 25, 27, 6, 160, 0, 13, 24, 7, 24, 9, 184, 0, 253, 167, 0, 10, 24, 7]
abbrev dktX6_plain_6 : List UInt8 := dkwX6_plain_6 ++ dktX6_plain_7
def dkwX6_plain_5 : List UInt8 := [160, 0, 13, 24, 7, 24, 9, 184, 1, 18, 167, 0, 40, 27, 5, 160, 0, 13, 24, 7, 24, 9]
abbrev dktX6_plain_5 : List UInt8 := dkwX6_plain_5 ++ dktX6_plain_6
def dkwX6_plain_4 : List UInt8 := [28, 22, 5, 184, 0, 249, 57, 9, 27, 154, 0, 13, 24, 7, 24, 9, 184, 1, 16, 167, 0, 55, 27, 4]
abbrev dktX6_plain_4 : List UInt8 := dkwX6_plain_4 ++ dktX6_plain_5
def dkwX6_plain_3 : List UInt8 := [184, 0, 245, 167, 0, 10, 23, 7, 23, 8, 184, 1, 13, 184, 0, 228, 173, 28, 33, 184, 0, 249, 57, 7]
abbrev dktX6_plain_3 : List UInt8 := dkwX6_plain_3 ++ dktX6_plain_4
def dkwX6_plain_2 : List UInt8 := [5, 160, 0, 13, 23, 7, 23, 8, 184, 1, 10, 167, 0, 25, 27, 6, 160, 0, 13, 23, 7, 23, 8]
abbrev dktX6_plain_2 : List UInt8 := dkwX6_plain_2 ++ dktX6_plain_3
def dkwX6_plain_1 : List UInt8 := [23, 8, 184, 1, 4, 167, 0, 55, 27, 4, 160, 0, 13, 23, 7, 23, 8, 184, 1, 7, 167, 0, 40, 27]
abbrev dktX6_plain_1 : List UInt8 := dkwX6_plain_1 ++ dktX6_plain_2
def dkwX6_plain_0 : List UInt8 := [28, 154, 0, 86, 33, 184, 0, 191, 56, 7, 22, 5, 184, 0, 191, 56, 8, 27, 154, 0, 13, 23, 7]
abbrev dktX6_plain_0 : List UInt8 := dkwX6_plain_0 ++ dktX6_plain_1
theorem dksX6_plain_0 : cX6_plain.data.toList.drop 0 = dktX6_plain_0 := by decide +kernel
theorem dksX6_plain_1 : cX6_plain.data.toList.drop 23 = dktX6_plain_1 := dk_seg dksX6_plain_0 23 rfl rfl
theorem dksX6_plain_2 : cX6_plain.data.toList.drop 47 = dktX6_plain_2 := dk_seg dksX6_plain_1 24 rfl rfl
theorem dksX6_plain_3 : cX6_plain.data.toList.drop 70 = dktX6_plain_3 := dk_seg dksX6_plain_2 23 rfl rfl
theorem dksX6_plain_4 : cX6_plain.data.toList.drop 94 = dktX6_plain_4 := dk_seg dksX6_plain_3 24 rfl rfl
theorem dksX6_plain_5 : cX6_plain.data.toList.drop 118 = dktX6_plain_5 := dk_seg dksX6_plain_4 24 rfl rfl
theorem dksX6_plain_6 : cX6_plain.data.toList.drop 140 = dktX6_plain_6 := dk_seg dksX6_plain_5 22 rfl rfl
theorem dksX6_plain_7 : cX6_plain.data.toList.drop 163 = dktX6_plain_7 := dk_seg dksX6_plain_6 23 rfl rfl
theorem dX6_plain_0 : decode cX6_plain 0 = .ok (.iload_n 2, 1) := dk_28 (dk_at dksX6_plain_0 0 rfl rfl)
theorem dX6_plain_1 : decode cX6_plain 1 = .ok (.ifCond .ne 86, 3) := dk_154 0 86 (dk_at dksX6_plain_0 1 rfl rfl)
theorem dX6_plain_4 : decode cX6_plain 4 = .ok (.lload_n 3, 1) := dk_33 (dk_at dksX6_plain_0 4 rfl rfl)
theorem dX6_plain_5 : decode cX6_plain 5 = .ok (.invokestatic 191, 3) := dk_184 0 191 (dk_at dksX6_plain_0 5 rfl rfl)
theorem dX6_plain_8 : decode cX6_plain 8 = .ok (.fstore 7, 2) := dk_56 7 (dk_at dksX6_plain_0 8 rfl rfl)
theorem dX6_plain_10 : decode cX6_plain 10 = .ok (.lload 5, 2) := dk_22 5 (dk_at dksX6_plain_0 10 rfl rfl)
theorem dX6_plain_12 : decode cX6_plain 12 = .ok (.invokestatic 191, 3) := dk_184 0 191 (dk_at dksX6_plain_0 12 rfl rfl)
theorem dX6_plain_15 : decode cX6_plain 15 = .ok (.fstore 8, 2) := dk_56 8 (dk_at dksX6_plain_0 15 rfl rfl)
theorem dX6_plain_17 : decode cX6_plain 17 = .ok (.iload_n 1, 1) := dk_27 (dk_at dksX6_plain_0 17 rfl rfl)
theorem dX6_plain_18 : decode cX6_plain 18 = .ok (.ifCond .ne 13, 3) := dk_154 0 13 (dk_at dksX6_plain_0 18 rfl rfl)
theorem dX6_plain_21 : decode cX6_plain 21 = .ok (.fload 7, 2) := dk_23 7 (dk_at dksX6_plain_0 21 rfl rfl)
theorem dX6_plain_23 : decode cX6_plain 23 = .ok (.fload 8, 2) := dk_23 8 (dk_at dksX6_plain_1 0 rfl rfl)
theorem dX6_plain_25 : decode cX6_plain 25 = .ok (.invokestatic 260, 3) := dk_184 1 4 (dk_at dksX6_plain_1 2 rfl rfl)
theorem dX6_plain_28 : decode cX6_plain 28 = .ok (.goto 55, 3) := dk_167 0 55 (dk_at dksX6_plain_1 5 rfl rfl)
theorem dX6_plain_31 : decode cX6_plain 31 = .ok (.iload_n 1, 1) := dk_27 (dk_at dksX6_plain_1 8 rfl rfl)
theorem dX6_plain_32 : decode cX6_plain 32 = .ok (.iconst 1, 1) := dk_4 (dk_at dksX6_plain_1 9 rfl rfl)
theorem dX6_plain_33 : decode cX6_plain 33 = .ok (.if_icmp .ne 13, 3) := dk_160 0 13 (dk_at dksX6_plain_1 10 rfl rfl)
theorem dX6_plain_36 : decode cX6_plain 36 = .ok (.fload 7, 2) := dk_23 7 (dk_at dksX6_plain_1 13 rfl rfl)
theorem dX6_plain_38 : decode cX6_plain 38 = .ok (.fload 8, 2) := dk_23 8 (dk_at dksX6_plain_1 15 rfl rfl)
theorem dX6_plain_40 : decode cX6_plain 40 = .ok (.invokestatic 263, 3) := dk_184 1 7 (dk_at dksX6_plain_1 17 rfl rfl)
theorem dX6_plain_43 : decode cX6_plain 43 = .ok (.goto 40, 3) := dk_167 0 40 (dk_at dksX6_plain_1 20 rfl rfl)
theorem dX6_plain_46 : decode cX6_plain 46 = .ok (.iload_n 1, 1) := dk_27 (dk_at dksX6_plain_1 23 rfl rfl)
theorem dX6_plain_47 : decode cX6_plain 47 = .ok (.iconst 2, 1) := dk_5 (dk_at dksX6_plain_2 0 rfl rfl)
theorem dX6_plain_48 : decode cX6_plain 48 = .ok (.if_icmp .ne 13, 3) := dk_160 0 13 (dk_at dksX6_plain_2 1 rfl rfl)
theorem dX6_plain_51 : decode cX6_plain 51 = .ok (.fload 7, 2) := dk_23 7 (dk_at dksX6_plain_2 4 rfl rfl)
theorem dX6_plain_53 : decode cX6_plain 53 = .ok (.fload 8, 2) := dk_23 8 (dk_at dksX6_plain_2 6 rfl rfl)
theorem dX6_plain_55 : decode cX6_plain 55 = .ok (.invokestatic 266, 3) := dk_184 1 10 (dk_at dksX6_plain_2 8 rfl rfl)
theorem dX6_plain_58 : decode cX6_plain 58 = .ok (.goto 25, 3) := dk_167 0 25 (dk_at dksX6_plain_2 11 rfl rfl)
theorem dX6_plain_61 : decode cX6_plain 61 = .ok (.iload_n 1, 1) := dk_27 (dk_at dksX6_plain_2 14 rfl rfl)
theorem dX6_plain_62 : decode cX6_plain 62 = .ok (.iconst 3, 1) := dk_6 (dk_at dksX6_plain_2 15 rfl rfl)
theorem dX6_plain_63 : decode cX6_plain 63 = .ok (.if_icmp .ne 13, 3) := dk_160 0 13 (dk_at dksX6_plain_2 16 rfl rfl)
theorem dX6_plain_66 : decode cX6_plain 66 = .ok (.fload 7, 2) := dk_23 7 (dk_at dksX6_plain_2 19 rfl rfl)
theorem dX6_plain_68 : decode cX6_plain 68 = .ok (.fload 8, 2) := dk_23 8 (dk_at dksX6_plain_2 21 rfl rfl)
theorem dX6_plain_70 : decode cX6_plain 70 = .ok (.invokestatic 245, 3) := dk_184 0 245 (dk_at dksX6_plain_3 0 rfl rfl)
theorem dX6_plain_73 : decode cX6_plain 73 = .ok (.goto 10, 3) := dk_167 0 10 (dk_at dksX6_plain_3 3 rfl rfl)
theorem dX6_plain_76 : decode cX6_plain 76 = .ok (.fload 7, 2) := dk_23 7 (dk_at dksX6_plain_3 6 rfl rfl)
theorem dX6_plain_78 : decode cX6_plain 78 = .ok (.fload 8, 2) := dk_23 8 (dk_at dksX6_plain_3 8 rfl rfl)
theorem dX6_plain_80 : decode cX6_plain 80 = .ok (.invokestatic 269, 3) := dk_184 1 13 (dk_at dksX6_plain_3 10 rfl rfl)
theorem dX6_plain_83 : decode cX6_plain 83 = .ok (.invokestatic 228, 3) := dk_184 0 228 (dk_at dksX6_plain_3 13 rfl rfl)
theorem dX6_plain_86 : decode cX6_plain 86 = .ok (.lreturn, 1) := dk_173 (dk_at dksX6_plain_3 16 rfl rfl)
theorem dX6_plain_87 : decode cX6_plain 87 = .ok (.iload_n 2, 1) := dk_28 (dk_at dksX6_plain_3 17 rfl rfl)
theorem dX6_plain_88 : decode cX6_plain 88 = .ok (.lload_n 3, 1) := dk_33 (dk_at dksX6_plain_3 18 rfl rfl)
theorem dX6_plain_89 : decode cX6_plain 89 = .ok (.invokestatic 249, 3) := dk_184 0 249 (dk_at dksX6_plain_3 19 rfl rfl)
theorem dX6_plain_92 : decode cX6_plain 92 = .ok (.dstore 7, 2) := dk_57 7 (dk_at dksX6_plain_3 22 rfl rfl)
theorem dX6_plain_94 : decode cX6_plain 94 = .ok (.iload_n 2, 1) := dk_28 (dk_at dksX6_plain_4 0 rfl rfl)
theorem dX6_plain_95 : decode cX6_plain 95 = .ok (.lload 5, 2) := dk_22 5 (dk_at dksX6_plain_4 1 rfl rfl)
theorem dX6_plain_97 : decode cX6_plain 97 = .ok (.invokestatic 249, 3) := dk_184 0 249 (dk_at dksX6_plain_4 3 rfl rfl)
theorem dX6_plain_100 : decode cX6_plain 100 = .ok (.dstore 9, 2) := dk_57 9 (dk_at dksX6_plain_4 6 rfl rfl)
theorem dX6_plain_102 : decode cX6_plain 102 = .ok (.iload_n 1, 1) := dk_27 (dk_at dksX6_plain_4 8 rfl rfl)
theorem dX6_plain_103 : decode cX6_plain 103 = .ok (.ifCond .ne 13, 3) := dk_154 0 13 (dk_at dksX6_plain_4 9 rfl rfl)
theorem dX6_plain_106 : decode cX6_plain 106 = .ok (.dload 7, 2) := dk_24 7 (dk_at dksX6_plain_4 12 rfl rfl)
theorem dX6_plain_108 : decode cX6_plain 108 = .ok (.dload 9, 2) := dk_24 9 (dk_at dksX6_plain_4 14 rfl rfl)
theorem dX6_plain_110 : decode cX6_plain 110 = .ok (.invokestatic 272, 3) := dk_184 1 16 (dk_at dksX6_plain_4 16 rfl rfl)
theorem dX6_plain_113 : decode cX6_plain 113 = .ok (.goto 55, 3) := dk_167 0 55 (dk_at dksX6_plain_4 19 rfl rfl)
theorem dX6_plain_116 : decode cX6_plain 116 = .ok (.iload_n 1, 1) := dk_27 (dk_at dksX6_plain_4 22 rfl rfl)
theorem dX6_plain_117 : decode cX6_plain 117 = .ok (.iconst 1, 1) := dk_4 (dk_at dksX6_plain_4 23 rfl rfl)
theorem dX6_plain_118 : decode cX6_plain 118 = .ok (.if_icmp .ne 13, 3) := dk_160 0 13 (dk_at dksX6_plain_5 0 rfl rfl)
theorem dX6_plain_121 : decode cX6_plain 121 = .ok (.dload 7, 2) := dk_24 7 (dk_at dksX6_plain_5 3 rfl rfl)
theorem dX6_plain_123 : decode cX6_plain 123 = .ok (.dload 9, 2) := dk_24 9 (dk_at dksX6_plain_5 5 rfl rfl)
theorem dX6_plain_125 : decode cX6_plain 125 = .ok (.invokestatic 274, 3) := dk_184 1 18 (dk_at dksX6_plain_5 7 rfl rfl)
theorem dX6_plain_128 : decode cX6_plain 128 = .ok (.goto 40, 3) := dk_167 0 40 (dk_at dksX6_plain_5 10 rfl rfl)
theorem dX6_plain_131 : decode cX6_plain 131 = .ok (.iload_n 1, 1) := dk_27 (dk_at dksX6_plain_5 13 rfl rfl)
theorem dX6_plain_132 : decode cX6_plain 132 = .ok (.iconst 2, 1) := dk_5 (dk_at dksX6_plain_5 14 rfl rfl)
theorem dX6_plain_133 : decode cX6_plain 133 = .ok (.if_icmp .ne 13, 3) := dk_160 0 13 (dk_at dksX6_plain_5 15 rfl rfl)
theorem dX6_plain_136 : decode cX6_plain 136 = .ok (.dload 7, 2) := dk_24 7 (dk_at dksX6_plain_5 18 rfl rfl)
theorem dX6_plain_138 : decode cX6_plain 138 = .ok (.dload 9, 2) := dk_24 9 (dk_at dksX6_plain_5 20 rfl rfl)
theorem dX6_plain_140 : decode cX6_plain 140 = .ok (.invokestatic 276, 3) := dk_184 1 20 (dk_at dksX6_plain_6 0 rfl rfl)
theorem dX6_plain_143 : decode cX6_plain 143 = .ok (.goto 25, 3) := dk_167 0 25 (dk_at dksX6_plain_6 3 rfl rfl)
theorem dX6_plain_146 : decode cX6_plain 146 = .ok (.iload_n 1, 1) := dk_27 (dk_at dksX6_plain_6 6 rfl rfl)
theorem dX6_plain_147 : decode cX6_plain 147 = .ok (.iconst 3, 1) := dk_6 (dk_at dksX6_plain_6 7 rfl rfl)
theorem dX6_plain_148 : decode cX6_plain 148 = .ok (.if_icmp .ne 13, 3) := dk_160 0 13 (dk_at dksX6_plain_6 8 rfl rfl)
theorem dX6_plain_151 : decode cX6_plain 151 = .ok (.dload 7, 2) := dk_24 7 (dk_at dksX6_plain_6 11 rfl rfl)
theorem dX6_plain_153 : decode cX6_plain 153 = .ok (.dload 9, 2) := dk_24 9 (dk_at dksX6_plain_6 13 rfl rfl)
theorem dX6_plain_155 : decode cX6_plain 155 = .ok (.invokestatic 253, 3) := dk_184 0 253 (dk_at dksX6_plain_6 15 rfl rfl)
theorem dX6_plain_158 : decode cX6_plain 158 = .ok (.goto 10, 3) := dk_167 0 10 (dk_at dksX6_plain_6 18 rfl rfl)
theorem dX6_plain_161 : decode cX6_plain 161 = .ok (.dload 7, 2) := dk_24 7 (dk_at dksX6_plain_6 21 rfl rfl)
theorem dX6_plain_163 : decode cX6_plain 163 = .ok (.dload 9, 2) := dk_24 9 (dk_at dksX6_plain_7 0 rfl rfl)
theorem dX6_plain_165 : decode cX6_plain 165 = .ok (.invokestatic 278, 3) := dk_184 1 22 (dk_at dksX6_plain_7 2 rfl rfl)
theorem dX6_plain_168 : decode cX6_plain 168 = .ok (.invokestatic 234, 3) := dk_184 0 234 (dk_at dksX6_plain_7 5 rfl rfl)
theorem dX6_plain_171 : decode cX6_plain 171 = .ok (.lreturn, 1) := dk_173 (dk_at dksX6_plain_7 8 rfl rfl)
abbrev cX6_sumOf : ByteArray := prog_10_method_42_code
def yX6_sumOf : MethodName := ⟨RX6, "sumOf", "(FF)F"⟩
def dkwX6_sumOf_1 : List UInt8 := [153, 0, 14, 34, 35, 149, 153, 0, 8, 18, 182, 167, 0, 6, 34, 35, 98, 174]
abbrev dktX6_sumOf_1 : List UInt8 := dkwX6_sumOf_1 ++ []
def dkwX6_sumOf_0 : List UInt8 := [34, 34, 149, 154, 0, 29, 35, 35, 149, 154, 0, 23, 34, 184, 0, 205, 153, 0, 21, 35, 184, 0, 205]
abbrev dktX6_sumOf_0 : List UInt8 := dkwX6_sumOf_0 ++ dktX6_sumOf_1
theorem dksX6_sumOf_0 : cX6_sumOf.data.toList.drop 0 = dktX6_sumOf_0 := by decide +kernel
theorem dksX6_sumOf_1 : cX6_sumOf.data.toList.drop 23 = dktX6_sumOf_1 := dk_seg dksX6_sumOf_0 23 rfl rfl
theorem dX6_sumOf_0 : decode cX6_sumOf 0 = .ok (.fload_n 0, 1) := dk_34 (dk_at dksX6_sumOf_0 0 rfl rfl)
theorem dX6_sumOf_1 : decode cX6_sumOf 1 = .ok (.fload_n 0, 1) := dk_34 (dk_at dksX6_sumOf_0 1 rfl rfl)
theorem dX6_sumOf_2 : decode cX6_sumOf 2 = .ok (.fcmp .l, 1) := dk_149 (dk_at dksX6_sumOf_0 2 rfl rfl)
theorem dX6_sumOf_3 : decode cX6_sumOf 3 = .ok (.ifCond .ne 29, 3) := dk_154 0 29 (dk_at dksX6_sumOf_0 3 rfl rfl)
theorem dX6_sumOf_6 : decode cX6_sumOf 6 = .ok (.fload_n 1, 1) := dk_35 (dk_at dksX6_sumOf_0 6 rfl rfl)
theorem dX6_sumOf_7 : decode cX6_sumOf 7 = .ok (.fload_n 1, 1) := dk_35 (dk_at dksX6_sumOf_0 7 rfl rfl)
theorem dX6_sumOf_8 : decode cX6_sumOf 8 = .ok (.fcmp .l, 1) := dk_149 (dk_at dksX6_sumOf_0 8 rfl rfl)
theorem dX6_sumOf_9 : decode cX6_sumOf 9 = .ok (.ifCond .ne 23, 3) := dk_154 0 23 (dk_at dksX6_sumOf_0 9 rfl rfl)
theorem dX6_sumOf_12 : decode cX6_sumOf 12 = .ok (.fload_n 0, 1) := dk_34 (dk_at dksX6_sumOf_0 12 rfl rfl)
theorem dX6_sumOf_13 : decode cX6_sumOf 13 = .ok (.invokestatic 205, 3) := dk_184 0 205 (dk_at dksX6_sumOf_0 13 rfl rfl)
theorem dX6_sumOf_16 : decode cX6_sumOf 16 = .ok (.ifCond .eq 21, 3) := dk_153 0 21 (dk_at dksX6_sumOf_0 16 rfl rfl)
theorem dX6_sumOf_19 : decode cX6_sumOf 19 = .ok (.fload_n 1, 1) := dk_35 (dk_at dksX6_sumOf_0 19 rfl rfl)
theorem dX6_sumOf_20 : decode cX6_sumOf 20 = .ok (.invokestatic 205, 3) := dk_184 0 205 (dk_at dksX6_sumOf_0 20 rfl rfl)
theorem dX6_sumOf_23 : decode cX6_sumOf 23 = .ok (.ifCond .eq 14, 3) := dk_153 0 14 (dk_at dksX6_sumOf_1 0 rfl rfl)
theorem dX6_sumOf_26 : decode cX6_sumOf 26 = .ok (.fload_n 0, 1) := dk_34 (dk_at dksX6_sumOf_1 3 rfl rfl)
theorem dX6_sumOf_27 : decode cX6_sumOf 27 = .ok (.fload_n 1, 1) := dk_35 (dk_at dksX6_sumOf_1 4 rfl rfl)
theorem dX6_sumOf_28 : decode cX6_sumOf 28 = .ok (.fcmp .l, 1) := dk_149 (dk_at dksX6_sumOf_1 5 rfl rfl)
theorem dX6_sumOf_29 : decode cX6_sumOf 29 = .ok (.ifCond .eq 8, 3) := dk_153 0 8 (dk_at dksX6_sumOf_1 6 rfl rfl)
theorem dX6_sumOf_32 : decode cX6_sumOf 32 = .ok (.ldc 182, 2) := dk_18 182 (dk_at dksX6_sumOf_1 9 rfl rfl)
theorem dX6_sumOf_34 : decode cX6_sumOf 34 = .ok (.goto 6, 3) := dk_167 0 6 (dk_at dksX6_sumOf_1 11 rfl rfl)
theorem dX6_sumOf_37 : decode cX6_sumOf 37 = .ok (.fload_n 0, 1) := dk_34 (dk_at dksX6_sumOf_1 14 rfl rfl)
theorem dX6_sumOf_38 : decode cX6_sumOf 38 = .ok (.fload_n 1, 1) := dk_35 (dk_at dksX6_sumOf_1 15 rfl rfl)
theorem dX6_sumOf_39 : decode cX6_sumOf 39 = .ok (.fadd, 1) := dk_98 (dk_at dksX6_sumOf_1 16 rfl rfl)
theorem dX6_sumOf_40 : decode cX6_sumOf 40 = .ok (.freturn, 1) := dk_174 (dk_at dksX6_sumOf_1 17 rfl rfl)
abbrev cX6_differenceOf : ByteArray := prog_10_method_43_code
def yX6_differenceOf : MethodName := ⟨RX6, "differenceOf", "(FF)F"⟩
def dkwX6_differenceOf_1 : List UInt8 := [154, 0, 8, 18, 182, 167, 0, 6, 34, 35, 102, 174]
abbrev dktX6_differenceOf_1 : List UInt8 := dkwX6_differenceOf_1 ++ []
def dkwX6_differenceOf_0 : List UInt8 := [34, 34, 149, 154, 0, 22, 35, 35, 149, 154, 0, 16, 34, 184, 0, 205, 153, 0, 14, 34, 35, 149]
abbrev dktX6_differenceOf_0 : List UInt8 := dkwX6_differenceOf_0 ++ dktX6_differenceOf_1
theorem dksX6_differenceOf_0 : cX6_differenceOf.data.toList.drop 0 = dktX6_differenceOf_0 := by decide +kernel
theorem dksX6_differenceOf_1 : cX6_differenceOf.data.toList.drop 22 = dktX6_differenceOf_1 := dk_seg dksX6_differenceOf_0 22 rfl rfl
theorem dX6_differenceOf_0 : decode cX6_differenceOf 0 = .ok (.fload_n 0, 1) := dk_34 (dk_at dksX6_differenceOf_0 0 rfl rfl)
theorem dX6_differenceOf_1 : decode cX6_differenceOf 1 = .ok (.fload_n 0, 1) := dk_34 (dk_at dksX6_differenceOf_0 1 rfl rfl)
theorem dX6_differenceOf_2 : decode cX6_differenceOf 2 = .ok (.fcmp .l, 1) := dk_149 (dk_at dksX6_differenceOf_0 2 rfl rfl)
theorem dX6_differenceOf_3 : decode cX6_differenceOf 3 = .ok (.ifCond .ne 22, 3) := dk_154 0 22 (dk_at dksX6_differenceOf_0 3 rfl rfl)
theorem dX6_differenceOf_6 : decode cX6_differenceOf 6 = .ok (.fload_n 1, 1) := dk_35 (dk_at dksX6_differenceOf_0 6 rfl rfl)
theorem dX6_differenceOf_7 : decode cX6_differenceOf 7 = .ok (.fload_n 1, 1) := dk_35 (dk_at dksX6_differenceOf_0 7 rfl rfl)
theorem dX6_differenceOf_8 : decode cX6_differenceOf 8 = .ok (.fcmp .l, 1) := dk_149 (dk_at dksX6_differenceOf_0 8 rfl rfl)
theorem dX6_differenceOf_9 : decode cX6_differenceOf 9 = .ok (.ifCond .ne 16, 3) := dk_154 0 16 (dk_at dksX6_differenceOf_0 9 rfl rfl)
theorem dX6_differenceOf_12 : decode cX6_differenceOf 12 = .ok (.fload_n 0, 1) := dk_34 (dk_at dksX6_differenceOf_0 12 rfl rfl)
theorem dX6_differenceOf_13 : decode cX6_differenceOf 13 = .ok (.invokestatic 205, 3) := dk_184 0 205 (dk_at dksX6_differenceOf_0 13 rfl rfl)
theorem dX6_differenceOf_16 : decode cX6_differenceOf 16 = .ok (.ifCond .eq 14, 3) := dk_153 0 14 (dk_at dksX6_differenceOf_0 16 rfl rfl)
theorem dX6_differenceOf_19 : decode cX6_differenceOf 19 = .ok (.fload_n 0, 1) := dk_34 (dk_at dksX6_differenceOf_0 19 rfl rfl)
theorem dX6_differenceOf_20 : decode cX6_differenceOf 20 = .ok (.fload_n 1, 1) := dk_35 (dk_at dksX6_differenceOf_0 20 rfl rfl)
theorem dX6_differenceOf_21 : decode cX6_differenceOf 21 = .ok (.fcmp .l, 1) := dk_149 (dk_at dksX6_differenceOf_0 21 rfl rfl)
theorem dX6_differenceOf_22 : decode cX6_differenceOf 22 = .ok (.ifCond .ne 8, 3) := dk_154 0 8 (dk_at dksX6_differenceOf_1 0 rfl rfl)
theorem dX6_differenceOf_25 : decode cX6_differenceOf 25 = .ok (.ldc 182, 2) := dk_18 182 (dk_at dksX6_differenceOf_1 3 rfl rfl)
theorem dX6_differenceOf_27 : decode cX6_differenceOf 27 = .ok (.goto 6, 3) := dk_167 0 6 (dk_at dksX6_differenceOf_1 5 rfl rfl)
theorem dX6_differenceOf_30 : decode cX6_differenceOf 30 = .ok (.fload_n 0, 1) := dk_34 (dk_at dksX6_differenceOf_1 8 rfl rfl)
theorem dX6_differenceOf_31 : decode cX6_differenceOf 31 = .ok (.fload_n 1, 1) := dk_35 (dk_at dksX6_differenceOf_1 9 rfl rfl)
theorem dX6_differenceOf_32 : decode cX6_differenceOf 32 = .ok (.fsub, 1) := dk_102 (dk_at dksX6_differenceOf_1 10 rfl rfl)
theorem dX6_differenceOf_33 : decode cX6_differenceOf 33 = .ok (.freturn, 1) := dk_174 (dk_at dksX6_differenceOf_1 11 rfl rfl)
abbrev cX6_productOf : ByteArray := prog_10_method_44_code
def yX6_productOf : MethodName := ⟨RX6, "productOf", "(FF)F"⟩
def dkwX6_productOf_2 : List UInt8 := [174]
abbrev dktX6_productOf_2 : List UInt8 := dkwX6_productOf_2 ++ []
def dkwX6_productOf_1 : List UInt8 := [154, 0, 16, 34, 184, 0, 205, 153, 0, 14, 35, 11, 149, 154, 0, 8, 18, 182, 167, 0, 6, 34, 35, 106]
abbrev dktX6_productOf_1 : List UInt8 := dkwX6_productOf_1 ++ dktX6_productOf_2
def dkwX6_productOf_0 : List UInt8 := [34, 34, 149, 154, 0, 35, 35, 35, 149, 154, 0, 29, 34, 11, 149, 154, 0, 10, 35, 184, 0, 205]
abbrev dktX6_productOf_0 : List UInt8 := dkwX6_productOf_0 ++ dktX6_productOf_1
theorem dksX6_productOf_0 : cX6_productOf.data.toList.drop 0 = dktX6_productOf_0 := by decide +kernel
theorem dksX6_productOf_1 : cX6_productOf.data.toList.drop 22 = dktX6_productOf_1 := dk_seg dksX6_productOf_0 22 rfl rfl
theorem dksX6_productOf_2 : cX6_productOf.data.toList.drop 46 = dktX6_productOf_2 := dk_seg dksX6_productOf_1 24 rfl rfl
theorem dX6_productOf_0 : decode cX6_productOf 0 = .ok (.fload_n 0, 1) := dk_34 (dk_at dksX6_productOf_0 0 rfl rfl)
theorem dX6_productOf_1 : decode cX6_productOf 1 = .ok (.fload_n 0, 1) := dk_34 (dk_at dksX6_productOf_0 1 rfl rfl)
theorem dX6_productOf_2 : decode cX6_productOf 2 = .ok (.fcmp .l, 1) := dk_149 (dk_at dksX6_productOf_0 2 rfl rfl)
theorem dX6_productOf_3 : decode cX6_productOf 3 = .ok (.ifCond .ne 35, 3) := dk_154 0 35 (dk_at dksX6_productOf_0 3 rfl rfl)
theorem dX6_productOf_6 : decode cX6_productOf 6 = .ok (.fload_n 1, 1) := dk_35 (dk_at dksX6_productOf_0 6 rfl rfl)
theorem dX6_productOf_7 : decode cX6_productOf 7 = .ok (.fload_n 1, 1) := dk_35 (dk_at dksX6_productOf_0 7 rfl rfl)
theorem dX6_productOf_8 : decode cX6_productOf 8 = .ok (.fcmp .l, 1) := dk_149 (dk_at dksX6_productOf_0 8 rfl rfl)
theorem dX6_productOf_9 : decode cX6_productOf 9 = .ok (.ifCond .ne 29, 3) := dk_154 0 29 (dk_at dksX6_productOf_0 9 rfl rfl)
theorem dX6_productOf_12 : decode cX6_productOf 12 = .ok (.fload_n 0, 1) := dk_34 (dk_at dksX6_productOf_0 12 rfl rfl)
theorem dX6_productOf_13 : decode cX6_productOf 13 = .ok (.fconst 0, 1) := dk_11 (dk_at dksX6_productOf_0 13 rfl rfl)
theorem dX6_productOf_14 : decode cX6_productOf 14 = .ok (.fcmp .l, 1) := dk_149 (dk_at dksX6_productOf_0 14 rfl rfl)
theorem dX6_productOf_15 : decode cX6_productOf 15 = .ok (.ifCond .ne 10, 3) := dk_154 0 10 (dk_at dksX6_productOf_0 15 rfl rfl)
theorem dX6_productOf_18 : decode cX6_productOf 18 = .ok (.fload_n 1, 1) := dk_35 (dk_at dksX6_productOf_0 18 rfl rfl)
theorem dX6_productOf_19 : decode cX6_productOf 19 = .ok (.invokestatic 205, 3) := dk_184 0 205 (dk_at dksX6_productOf_0 19 rfl rfl)
theorem dX6_productOf_22 : decode cX6_productOf 22 = .ok (.ifCond .ne 16, 3) := dk_154 0 16 (dk_at dksX6_productOf_1 0 rfl rfl)
theorem dX6_productOf_25 : decode cX6_productOf 25 = .ok (.fload_n 0, 1) := dk_34 (dk_at dksX6_productOf_1 3 rfl rfl)
theorem dX6_productOf_26 : decode cX6_productOf 26 = .ok (.invokestatic 205, 3) := dk_184 0 205 (dk_at dksX6_productOf_1 4 rfl rfl)
theorem dX6_productOf_29 : decode cX6_productOf 29 = .ok (.ifCond .eq 14, 3) := dk_153 0 14 (dk_at dksX6_productOf_1 7 rfl rfl)
theorem dX6_productOf_32 : decode cX6_productOf 32 = .ok (.fload_n 1, 1) := dk_35 (dk_at dksX6_productOf_1 10 rfl rfl)
theorem dX6_productOf_33 : decode cX6_productOf 33 = .ok (.fconst 0, 1) := dk_11 (dk_at dksX6_productOf_1 11 rfl rfl)
theorem dX6_productOf_34 : decode cX6_productOf 34 = .ok (.fcmp .l, 1) := dk_149 (dk_at dksX6_productOf_1 12 rfl rfl)
theorem dX6_productOf_35 : decode cX6_productOf 35 = .ok (.ifCond .ne 8, 3) := dk_154 0 8 (dk_at dksX6_productOf_1 13 rfl rfl)
theorem dX6_productOf_38 : decode cX6_productOf 38 = .ok (.ldc 182, 2) := dk_18 182 (dk_at dksX6_productOf_1 16 rfl rfl)
theorem dX6_productOf_40 : decode cX6_productOf 40 = .ok (.goto 6, 3) := dk_167 0 6 (dk_at dksX6_productOf_1 18 rfl rfl)
theorem dX6_productOf_43 : decode cX6_productOf 43 = .ok (.fload_n 0, 1) := dk_34 (dk_at dksX6_productOf_1 21 rfl rfl)
theorem dX6_productOf_44 : decode cX6_productOf 44 = .ok (.fload_n 1, 1) := dk_35 (dk_at dksX6_productOf_1 22 rfl rfl)
theorem dX6_productOf_45 : decode cX6_productOf 45 = .ok (.fmul, 1) := dk_106 (dk_at dksX6_productOf_1 23 rfl rfl)
theorem dX6_productOf_46 : decode cX6_productOf 46 = .ok (.freturn, 1) := dk_174 (dk_at dksX6_productOf_2 0 rfl rfl)
abbrev cX6_restOf : ByteArray := prog_10_method_46_code
def yX6_restOf : MethodName := ⟨RX6, "restOf", "(FF)F"⟩
def dkwX6_restOf_1 : List UInt8 := [154, 0, 8, 18, 182, 167, 0, 6, 34, 35, 114, 174]
abbrev dktX6_restOf_1 : List UInt8 := dkwX6_restOf_1 ++ []
def dkwX6_restOf_0 : List UInt8 := [34, 34, 149, 154, 0, 22, 35, 35, 149, 154, 0, 16, 34, 184, 0, 205, 154, 0, 9, 35, 11, 149]
abbrev dktX6_restOf_0 : List UInt8 := dkwX6_restOf_0 ++ dktX6_restOf_1
theorem dksX6_restOf_0 : cX6_restOf.data.toList.drop 0 = dktX6_restOf_0 := by decide +kernel
theorem dksX6_restOf_1 : cX6_restOf.data.toList.drop 22 = dktX6_restOf_1 := dk_seg dksX6_restOf_0 22 rfl rfl
theorem dX6_restOf_0 : decode cX6_restOf 0 = .ok (.fload_n 0, 1) := dk_34 (dk_at dksX6_restOf_0 0 rfl rfl)
theorem dX6_restOf_1 : decode cX6_restOf 1 = .ok (.fload_n 0, 1) := dk_34 (dk_at dksX6_restOf_0 1 rfl rfl)
theorem dX6_restOf_2 : decode cX6_restOf 2 = .ok (.fcmp .l, 1) := dk_149 (dk_at dksX6_restOf_0 2 rfl rfl)
theorem dX6_restOf_3 : decode cX6_restOf 3 = .ok (.ifCond .ne 22, 3) := dk_154 0 22 (dk_at dksX6_restOf_0 3 rfl rfl)
theorem dX6_restOf_6 : decode cX6_restOf 6 = .ok (.fload_n 1, 1) := dk_35 (dk_at dksX6_restOf_0 6 rfl rfl)
theorem dX6_restOf_7 : decode cX6_restOf 7 = .ok (.fload_n 1, 1) := dk_35 (dk_at dksX6_restOf_0 7 rfl rfl)
theorem dX6_restOf_8 : decode cX6_restOf 8 = .ok (.fcmp .l, 1) := dk_149 (dk_at dksX6_restOf_0 8 rfl rfl)
theorem dX6_restOf_9 : decode cX6_restOf 9 = .ok (.ifCond .ne 16, 3) := dk_154 0 16 (dk_at dksX6_restOf_0 9 rfl rfl)
theorem dX6_restOf_12 : decode cX6_restOf 12 = .ok (.fload_n 0, 1) := dk_34 (dk_at dksX6_restOf_0 12 rfl rfl)
theorem dX6_restOf_13 : decode cX6_restOf 13 = .ok (.invokestatic 205, 3) := dk_184 0 205 (dk_at dksX6_restOf_0 13 rfl rfl)
theorem dX6_restOf_16 : decode cX6_restOf 16 = .ok (.ifCond .ne 9, 3) := dk_154 0 9 (dk_at dksX6_restOf_0 16 rfl rfl)
theorem dX6_restOf_19 : decode cX6_restOf 19 = .ok (.fload_n 1, 1) := dk_35 (dk_at dksX6_restOf_0 19 rfl rfl)
theorem dX6_restOf_20 : decode cX6_restOf 20 = .ok (.fconst 0, 1) := dk_11 (dk_at dksX6_restOf_0 20 rfl rfl)
theorem dX6_restOf_21 : decode cX6_restOf 21 = .ok (.fcmp .l, 1) := dk_149 (dk_at dksX6_restOf_0 21 rfl rfl)
theorem dX6_restOf_22 : decode cX6_restOf 22 = .ok (.ifCond .ne 8, 3) := dk_154 0 8 (dk_at dksX6_restOf_1 0 rfl rfl)
theorem dX6_restOf_25 : decode cX6_restOf 25 = .ok (.ldc 182, 2) := dk_18 182 (dk_at dksX6_restOf_1 3 rfl rfl)
theorem dX6_restOf_27 : decode cX6_restOf 27 = .ok (.goto 6, 3) := dk_167 0 6 (dk_at dksX6_restOf_1 5 rfl rfl)
theorem dX6_restOf_30 : decode cX6_restOf 30 = .ok (.fload_n 0, 1) := dk_34 (dk_at dksX6_restOf_1 8 rfl rfl)
theorem dX6_restOf_31 : decode cX6_restOf 31 = .ok (.fload_n 1, 1) := dk_35 (dk_at dksX6_restOf_1 9 rfl rfl)
theorem dX6_restOf_32 : decode cX6_restOf 32 = .ok (.frem, 1) := dk_114 (dk_at dksX6_restOf_1 10 rfl rfl)
theorem dX6_restOf_33 : decode cX6_restOf 33 = .ok (.freturn, 1) := dk_174 (dk_at dksX6_restOf_1 11 rfl rfl)
abbrev cX6_sumOf_2 : ByteArray := prog_10_method_48_code
def yX6_sumOf_2 : MethodName := ⟨RX6, "sumOf", "(DD)D"⟩
def dkwX6_sumOf_2_1 : List UInt8 := [153, 0, 15, 38, 40, 151, 153, 0, 9, 20, 0, 189, 167, 0, 6, 38, 40, 99, 175]
abbrev dktX6_sumOf_2_1 : List UInt8 := dkwX6_sumOf_2_1 ++ []
def dkwX6_sumOf_2_0 : List UInt8 := [38, 38, 151, 154, 0, 29, 40, 40, 151, 154, 0, 23, 38, 184, 0, 213, 153, 0, 22, 40, 184, 0, 213]
abbrev dktX6_sumOf_2_0 : List UInt8 := dkwX6_sumOf_2_0 ++ dktX6_sumOf_2_1
theorem dksX6_sumOf_2_0 : cX6_sumOf_2.data.toList.drop 0 = dktX6_sumOf_2_0 := by decide +kernel
theorem dksX6_sumOf_2_1 : cX6_sumOf_2.data.toList.drop 23 = dktX6_sumOf_2_1 := dk_seg dksX6_sumOf_2_0 23 rfl rfl
theorem dX6_sumOf_2_0 : decode cX6_sumOf_2 0 = .ok (.dload_n 0, 1) := dk_38 (dk_at dksX6_sumOf_2_0 0 rfl rfl)
theorem dX6_sumOf_2_1 : decode cX6_sumOf_2 1 = .ok (.dload_n 0, 1) := dk_38 (dk_at dksX6_sumOf_2_0 1 rfl rfl)
theorem dX6_sumOf_2_2 : decode cX6_sumOf_2 2 = .ok (.dcmp .l, 1) := dk_151 (dk_at dksX6_sumOf_2_0 2 rfl rfl)
theorem dX6_sumOf_2_3 : decode cX6_sumOf_2 3 = .ok (.ifCond .ne 29, 3) := dk_154 0 29 (dk_at dksX6_sumOf_2_0 3 rfl rfl)
theorem dX6_sumOf_2_6 : decode cX6_sumOf_2 6 = .ok (.dload_n 2, 1) := dk_40 (dk_at dksX6_sumOf_2_0 6 rfl rfl)
theorem dX6_sumOf_2_7 : decode cX6_sumOf_2 7 = .ok (.dload_n 2, 1) := dk_40 (dk_at dksX6_sumOf_2_0 7 rfl rfl)
theorem dX6_sumOf_2_8 : decode cX6_sumOf_2 8 = .ok (.dcmp .l, 1) := dk_151 (dk_at dksX6_sumOf_2_0 8 rfl rfl)
theorem dX6_sumOf_2_9 : decode cX6_sumOf_2 9 = .ok (.ifCond .ne 23, 3) := dk_154 0 23 (dk_at dksX6_sumOf_2_0 9 rfl rfl)
theorem dX6_sumOf_2_12 : decode cX6_sumOf_2 12 = .ok (.dload_n 0, 1) := dk_38 (dk_at dksX6_sumOf_2_0 12 rfl rfl)
theorem dX6_sumOf_2_13 : decode cX6_sumOf_2 13 = .ok (.invokestatic 213, 3) := dk_184 0 213 (dk_at dksX6_sumOf_2_0 13 rfl rfl)
theorem dX6_sumOf_2_16 : decode cX6_sumOf_2 16 = .ok (.ifCond .eq 22, 3) := dk_153 0 22 (dk_at dksX6_sumOf_2_0 16 rfl rfl)
theorem dX6_sumOf_2_19 : decode cX6_sumOf_2 19 = .ok (.dload_n 2, 1) := dk_40 (dk_at dksX6_sumOf_2_0 19 rfl rfl)
theorem dX6_sumOf_2_20 : decode cX6_sumOf_2 20 = .ok (.invokestatic 213, 3) := dk_184 0 213 (dk_at dksX6_sumOf_2_0 20 rfl rfl)
theorem dX6_sumOf_2_23 : decode cX6_sumOf_2 23 = .ok (.ifCond .eq 15, 3) := dk_153 0 15 (dk_at dksX6_sumOf_2_1 0 rfl rfl)
theorem dX6_sumOf_2_26 : decode cX6_sumOf_2 26 = .ok (.dload_n 0, 1) := dk_38 (dk_at dksX6_sumOf_2_1 3 rfl rfl)
theorem dX6_sumOf_2_27 : decode cX6_sumOf_2 27 = .ok (.dload_n 2, 1) := dk_40 (dk_at dksX6_sumOf_2_1 4 rfl rfl)
theorem dX6_sumOf_2_28 : decode cX6_sumOf_2 28 = .ok (.dcmp .l, 1) := dk_151 (dk_at dksX6_sumOf_2_1 5 rfl rfl)
theorem dX6_sumOf_2_29 : decode cX6_sumOf_2 29 = .ok (.ifCond .eq 9, 3) := dk_153 0 9 (dk_at dksX6_sumOf_2_1 6 rfl rfl)
theorem dX6_sumOf_2_32 : decode cX6_sumOf_2 32 = .ok (.ldc2_w 189, 3) := dk_20 0 189 (dk_at dksX6_sumOf_2_1 9 rfl rfl)
theorem dX6_sumOf_2_35 : decode cX6_sumOf_2 35 = .ok (.goto 6, 3) := dk_167 0 6 (dk_at dksX6_sumOf_2_1 12 rfl rfl)
theorem dX6_sumOf_2_38 : decode cX6_sumOf_2 38 = .ok (.dload_n 0, 1) := dk_38 (dk_at dksX6_sumOf_2_1 15 rfl rfl)
theorem dX6_sumOf_2_39 : decode cX6_sumOf_2 39 = .ok (.dload_n 2, 1) := dk_40 (dk_at dksX6_sumOf_2_1 16 rfl rfl)
theorem dX6_sumOf_2_40 : decode cX6_sumOf_2 40 = .ok (.dadd, 1) := dk_99 (dk_at dksX6_sumOf_2_1 17 rfl rfl)
theorem dX6_sumOf_2_41 : decode cX6_sumOf_2 41 = .ok (.dreturn, 1) := dk_175 (dk_at dksX6_sumOf_2_1 18 rfl rfl)
abbrev cX6_differenceOf_2 : ByteArray := prog_10_method_49_code
def yX6_differenceOf_2 : MethodName := ⟨RX6, "differenceOf", "(DD)D"⟩
def dkwX6_differenceOf_2_1 : List UInt8 := [154, 0, 9, 20, 0, 189, 167, 0, 6, 38, 40, 103, 175]
abbrev dktX6_differenceOf_2_1 : List UInt8 := dkwX6_differenceOf_2_1 ++ []
def dkwX6_differenceOf_2_0 : List UInt8 := [38, 38, 151, 154, 0, 22, 40, 40, 151, 154, 0, 16, 38, 184, 0, 213, 153, 0, 15, 38, 40, 151]
abbrev dktX6_differenceOf_2_0 : List UInt8 := dkwX6_differenceOf_2_0 ++ dktX6_differenceOf_2_1
theorem dksX6_differenceOf_2_0 : cX6_differenceOf_2.data.toList.drop 0 = dktX6_differenceOf_2_0 := by decide +kernel
theorem dksX6_differenceOf_2_1 : cX6_differenceOf_2.data.toList.drop 22 = dktX6_differenceOf_2_1 := dk_seg dksX6_differenceOf_2_0 22 rfl rfl
theorem dX6_differenceOf_2_0 : decode cX6_differenceOf_2 0 = .ok (.dload_n 0, 1) := dk_38 (dk_at dksX6_differenceOf_2_0 0 rfl rfl)
theorem dX6_differenceOf_2_1 : decode cX6_differenceOf_2 1 = .ok (.dload_n 0, 1) := dk_38 (dk_at dksX6_differenceOf_2_0 1 rfl rfl)
theorem dX6_differenceOf_2_2 : decode cX6_differenceOf_2 2 = .ok (.dcmp .l, 1) := dk_151 (dk_at dksX6_differenceOf_2_0 2 rfl rfl)
theorem dX6_differenceOf_2_3 : decode cX6_differenceOf_2 3 = .ok (.ifCond .ne 22, 3) := dk_154 0 22 (dk_at dksX6_differenceOf_2_0 3 rfl rfl)
theorem dX6_differenceOf_2_6 : decode cX6_differenceOf_2 6 = .ok (.dload_n 2, 1) := dk_40 (dk_at dksX6_differenceOf_2_0 6 rfl rfl)
theorem dX6_differenceOf_2_7 : decode cX6_differenceOf_2 7 = .ok (.dload_n 2, 1) := dk_40 (dk_at dksX6_differenceOf_2_0 7 rfl rfl)
theorem dX6_differenceOf_2_8 : decode cX6_differenceOf_2 8 = .ok (.dcmp .l, 1) := dk_151 (dk_at dksX6_differenceOf_2_0 8 rfl rfl)
theorem dX6_differenceOf_2_9 : decode cX6_differenceOf_2 9 = .ok (.ifCond .ne 16, 3) := dk_154 0 16 (dk_at dksX6_differenceOf_2_0 9 rfl rfl)
theorem dX6_differenceOf_2_12 : decode cX6_differenceOf_2 12 = .ok (.dload_n 0, 1) := dk_38 (dk_at dksX6_differenceOf_2_0 12 rfl rfl)
theorem dX6_differenceOf_2_13 : decode cX6_differenceOf_2 13 = .ok (.invokestatic 213, 3) := dk_184 0 213 (dk_at dksX6_differenceOf_2_0 13 rfl rfl)
theorem dX6_differenceOf_2_16 : decode cX6_differenceOf_2 16 = .ok (.ifCond .eq 15, 3) := dk_153 0 15 (dk_at dksX6_differenceOf_2_0 16 rfl rfl)
theorem dX6_differenceOf_2_19 : decode cX6_differenceOf_2 19 = .ok (.dload_n 0, 1) := dk_38 (dk_at dksX6_differenceOf_2_0 19 rfl rfl)
theorem dX6_differenceOf_2_20 : decode cX6_differenceOf_2 20 = .ok (.dload_n 2, 1) := dk_40 (dk_at dksX6_differenceOf_2_0 20 rfl rfl)
theorem dX6_differenceOf_2_21 : decode cX6_differenceOf_2 21 = .ok (.dcmp .l, 1) := dk_151 (dk_at dksX6_differenceOf_2_0 21 rfl rfl)
theorem dX6_differenceOf_2_22 : decode cX6_differenceOf_2 22 = .ok (.ifCond .ne 9, 3) := dk_154 0 9 (dk_at dksX6_differenceOf_2_1 0 rfl rfl)
theorem dX6_differenceOf_2_25 : decode cX6_differenceOf_2 25 = .ok (.ldc2_w 189, 3) := dk_20 0 189 (dk_at dksX6_differenceOf_2_1 3 rfl rfl)
theorem dX6_differenceOf_2_28 : decode cX6_differenceOf_2 28 = .ok (.goto 6, 3) := dk_167 0 6 (dk_at dksX6_differenceOf_2_1 6 rfl rfl)
theorem dX6_differenceOf_2_31 : decode cX6_differenceOf_2 31 = .ok (.dload_n 0, 1) := dk_38 (dk_at dksX6_differenceOf_2_1 9 rfl rfl)
theorem dX6_differenceOf_2_32 : decode cX6_differenceOf_2 32 = .ok (.dload_n 2, 1) := dk_40 (dk_at dksX6_differenceOf_2_1 10 rfl rfl)
theorem dX6_differenceOf_2_33 : decode cX6_differenceOf_2 33 = .ok (.dsub, 1) := dk_103 (dk_at dksX6_differenceOf_2_1 11 rfl rfl)
theorem dX6_differenceOf_2_34 : decode cX6_differenceOf_2 34 = .ok (.dreturn, 1) := dk_175 (dk_at dksX6_differenceOf_2_1 12 rfl rfl)
abbrev cX6_productOf_2 : ByteArray := prog_10_method_50_code
def yX6_productOf_2 : MethodName := ⟨RX6, "productOf", "(DD)D"⟩
def dkwX6_productOf_2_2 : List UInt8 := [107, 175]
abbrev dktX6_productOf_2_2 : List UInt8 := dkwX6_productOf_2_2 ++ []
def dkwX6_productOf_2_1 : List UInt8 := [154, 0, 16, 38, 184, 0, 213, 153, 0, 15, 40, 14, 151, 154, 0, 9, 20, 0, 189, 167, 0, 6, 38, 40]
abbrev dktX6_productOf_2_1 : List UInt8 := dkwX6_productOf_2_1 ++ dktX6_productOf_2_2
def dkwX6_productOf_2_0 : List UInt8 := [38, 38, 151, 154, 0, 35, 40, 40, 151, 154, 0, 29, 38, 14, 151, 154, 0, 10, 40, 184, 0, 213]
abbrev dktX6_productOf_2_0 : List UInt8 := dkwX6_productOf_2_0 ++ dktX6_productOf_2_1
theorem dksX6_productOf_2_0 : cX6_productOf_2.data.toList.drop 0 = dktX6_productOf_2_0 := by decide +kernel
theorem dksX6_productOf_2_1 : cX6_productOf_2.data.toList.drop 22 = dktX6_productOf_2_1 := dk_seg dksX6_productOf_2_0 22 rfl rfl
theorem dksX6_productOf_2_2 : cX6_productOf_2.data.toList.drop 46 = dktX6_productOf_2_2 := dk_seg dksX6_productOf_2_1 24 rfl rfl
theorem dX6_productOf_2_0 : decode cX6_productOf_2 0 = .ok (.dload_n 0, 1) := dk_38 (dk_at dksX6_productOf_2_0 0 rfl rfl)
theorem dX6_productOf_2_1 : decode cX6_productOf_2 1 = .ok (.dload_n 0, 1) := dk_38 (dk_at dksX6_productOf_2_0 1 rfl rfl)
theorem dX6_productOf_2_2 : decode cX6_productOf_2 2 = .ok (.dcmp .l, 1) := dk_151 (dk_at dksX6_productOf_2_0 2 rfl rfl)
theorem dX6_productOf_2_3 : decode cX6_productOf_2 3 = .ok (.ifCond .ne 35, 3) := dk_154 0 35 (dk_at dksX6_productOf_2_0 3 rfl rfl)
theorem dX6_productOf_2_6 : decode cX6_productOf_2 6 = .ok (.dload_n 2, 1) := dk_40 (dk_at dksX6_productOf_2_0 6 rfl rfl)
theorem dX6_productOf_2_7 : decode cX6_productOf_2 7 = .ok (.dload_n 2, 1) := dk_40 (dk_at dksX6_productOf_2_0 7 rfl rfl)
theorem dX6_productOf_2_8 : decode cX6_productOf_2 8 = .ok (.dcmp .l, 1) := dk_151 (dk_at dksX6_productOf_2_0 8 rfl rfl)
theorem dX6_productOf_2_9 : decode cX6_productOf_2 9 = .ok (.ifCond .ne 29, 3) := dk_154 0 29 (dk_at dksX6_productOf_2_0 9 rfl rfl)
theorem dX6_productOf_2_12 : decode cX6_productOf_2 12 = .ok (.dload_n 0, 1) := dk_38 (dk_at dksX6_productOf_2_0 12 rfl rfl)
theorem dX6_productOf_2_13 : decode cX6_productOf_2 13 = .ok (.dconst 0, 1) := dk_14 (dk_at dksX6_productOf_2_0 13 rfl rfl)
theorem dX6_productOf_2_14 : decode cX6_productOf_2 14 = .ok (.dcmp .l, 1) := dk_151 (dk_at dksX6_productOf_2_0 14 rfl rfl)
theorem dX6_productOf_2_15 : decode cX6_productOf_2 15 = .ok (.ifCond .ne 10, 3) := dk_154 0 10 (dk_at dksX6_productOf_2_0 15 rfl rfl)
theorem dX6_productOf_2_18 : decode cX6_productOf_2 18 = .ok (.dload_n 2, 1) := dk_40 (dk_at dksX6_productOf_2_0 18 rfl rfl)
theorem dX6_productOf_2_19 : decode cX6_productOf_2 19 = .ok (.invokestatic 213, 3) := dk_184 0 213 (dk_at dksX6_productOf_2_0 19 rfl rfl)
theorem dX6_productOf_2_22 : decode cX6_productOf_2 22 = .ok (.ifCond .ne 16, 3) := dk_154 0 16 (dk_at dksX6_productOf_2_1 0 rfl rfl)
theorem dX6_productOf_2_25 : decode cX6_productOf_2 25 = .ok (.dload_n 0, 1) := dk_38 (dk_at dksX6_productOf_2_1 3 rfl rfl)
theorem dX6_productOf_2_26 : decode cX6_productOf_2 26 = .ok (.invokestatic 213, 3) := dk_184 0 213 (dk_at dksX6_productOf_2_1 4 rfl rfl)
theorem dX6_productOf_2_29 : decode cX6_productOf_2 29 = .ok (.ifCond .eq 15, 3) := dk_153 0 15 (dk_at dksX6_productOf_2_1 7 rfl rfl)
theorem dX6_productOf_2_32 : decode cX6_productOf_2 32 = .ok (.dload_n 2, 1) := dk_40 (dk_at dksX6_productOf_2_1 10 rfl rfl)
theorem dX6_productOf_2_33 : decode cX6_productOf_2 33 = .ok (.dconst 0, 1) := dk_14 (dk_at dksX6_productOf_2_1 11 rfl rfl)
theorem dX6_productOf_2_34 : decode cX6_productOf_2 34 = .ok (.dcmp .l, 1) := dk_151 (dk_at dksX6_productOf_2_1 12 rfl rfl)
theorem dX6_productOf_2_35 : decode cX6_productOf_2 35 = .ok (.ifCond .ne 9, 3) := dk_154 0 9 (dk_at dksX6_productOf_2_1 13 rfl rfl)
theorem dX6_productOf_2_38 : decode cX6_productOf_2 38 = .ok (.ldc2_w 189, 3) := dk_20 0 189 (dk_at dksX6_productOf_2_1 16 rfl rfl)
theorem dX6_productOf_2_41 : decode cX6_productOf_2 41 = .ok (.goto 6, 3) := dk_167 0 6 (dk_at dksX6_productOf_2_1 19 rfl rfl)
theorem dX6_productOf_2_44 : decode cX6_productOf_2 44 = .ok (.dload_n 0, 1) := dk_38 (dk_at dksX6_productOf_2_1 22 rfl rfl)
theorem dX6_productOf_2_45 : decode cX6_productOf_2 45 = .ok (.dload_n 2, 1) := dk_40 (dk_at dksX6_productOf_2_1 23 rfl rfl)
theorem dX6_productOf_2_46 : decode cX6_productOf_2 46 = .ok (.dmul, 1) := dk_107 (dk_at dksX6_productOf_2_2 0 rfl rfl)
theorem dX6_productOf_2_47 : decode cX6_productOf_2 47 = .ok (.dreturn, 1) := dk_175 (dk_at dksX6_productOf_2_2 1 rfl rfl)
abbrev cX6_restOf_2 : ByteArray := prog_10_method_52_code
def yX6_restOf_2 : MethodName := ⟨RX6, "restOf", "(DD)D"⟩
def dkwX6_restOf_2_1 : List UInt8 := [154, 0, 9, 20, 0, 189, 167, 0, 6, 38, 40, 115, 175]
abbrev dktX6_restOf_2_1 : List UInt8 := dkwX6_restOf_2_1 ++ []
def dkwX6_restOf_2_0 : List UInt8 := [38, 38, 151, 154, 0, 22, 40, 40, 151, 154, 0, 16, 38, 184, 0, 213, 154, 0, 9, 40, 14, 151]
abbrev dktX6_restOf_2_0 : List UInt8 := dkwX6_restOf_2_0 ++ dktX6_restOf_2_1
theorem dksX6_restOf_2_0 : cX6_restOf_2.data.toList.drop 0 = dktX6_restOf_2_0 := by decide +kernel
theorem dksX6_restOf_2_1 : cX6_restOf_2.data.toList.drop 22 = dktX6_restOf_2_1 := dk_seg dksX6_restOf_2_0 22 rfl rfl
theorem dX6_restOf_2_0 : decode cX6_restOf_2 0 = .ok (.dload_n 0, 1) := dk_38 (dk_at dksX6_restOf_2_0 0 rfl rfl)
theorem dX6_restOf_2_1 : decode cX6_restOf_2 1 = .ok (.dload_n 0, 1) := dk_38 (dk_at dksX6_restOf_2_0 1 rfl rfl)
theorem dX6_restOf_2_2 : decode cX6_restOf_2 2 = .ok (.dcmp .l, 1) := dk_151 (dk_at dksX6_restOf_2_0 2 rfl rfl)
theorem dX6_restOf_2_3 : decode cX6_restOf_2 3 = .ok (.ifCond .ne 22, 3) := dk_154 0 22 (dk_at dksX6_restOf_2_0 3 rfl rfl)
theorem dX6_restOf_2_6 : decode cX6_restOf_2 6 = .ok (.dload_n 2, 1) := dk_40 (dk_at dksX6_restOf_2_0 6 rfl rfl)
theorem dX6_restOf_2_7 : decode cX6_restOf_2 7 = .ok (.dload_n 2, 1) := dk_40 (dk_at dksX6_restOf_2_0 7 rfl rfl)
theorem dX6_restOf_2_8 : decode cX6_restOf_2 8 = .ok (.dcmp .l, 1) := dk_151 (dk_at dksX6_restOf_2_0 8 rfl rfl)
theorem dX6_restOf_2_9 : decode cX6_restOf_2 9 = .ok (.ifCond .ne 16, 3) := dk_154 0 16 (dk_at dksX6_restOf_2_0 9 rfl rfl)
theorem dX6_restOf_2_12 : decode cX6_restOf_2 12 = .ok (.dload_n 0, 1) := dk_38 (dk_at dksX6_restOf_2_0 12 rfl rfl)
theorem dX6_restOf_2_13 : decode cX6_restOf_2 13 = .ok (.invokestatic 213, 3) := dk_184 0 213 (dk_at dksX6_restOf_2_0 13 rfl rfl)
theorem dX6_restOf_2_16 : decode cX6_restOf_2 16 = .ok (.ifCond .ne 9, 3) := dk_154 0 9 (dk_at dksX6_restOf_2_0 16 rfl rfl)
theorem dX6_restOf_2_19 : decode cX6_restOf_2 19 = .ok (.dload_n 2, 1) := dk_40 (dk_at dksX6_restOf_2_0 19 rfl rfl)
theorem dX6_restOf_2_20 : decode cX6_restOf_2 20 = .ok (.dconst 0, 1) := dk_14 (dk_at dksX6_restOf_2_0 20 rfl rfl)
theorem dX6_restOf_2_21 : decode cX6_restOf_2 21 = .ok (.dcmp .l, 1) := dk_151 (dk_at dksX6_restOf_2_0 21 rfl rfl)
theorem dX6_restOf_2_22 : decode cX6_restOf_2 22 = .ok (.ifCond .ne 9, 3) := dk_154 0 9 (dk_at dksX6_restOf_2_1 0 rfl rfl)
theorem dX6_restOf_2_25 : decode cX6_restOf_2 25 = .ok (.ldc2_w 189, 3) := dk_20 0 189 (dk_at dksX6_restOf_2_1 3 rfl rfl)
theorem dX6_restOf_2_28 : decode cX6_restOf_2 28 = .ok (.goto 6, 3) := dk_167 0 6 (dk_at dksX6_restOf_2_1 6 rfl rfl)
theorem dX6_restOf_2_31 : decode cX6_restOf_2 31 = .ok (.dload_n 0, 1) := dk_38 (dk_at dksX6_restOf_2_1 9 rfl rfl)
theorem dX6_restOf_2_32 : decode cX6_restOf_2 32 = .ok (.dload_n 2, 1) := dk_40 (dk_at dksX6_restOf_2_1 10 rfl rfl)
theorem dX6_restOf_2_33 : decode cX6_restOf_2 33 = .ok (.drem, 1) := dk_115 (dk_at dksX6_restOf_2_1 11 rfl rfl)
theorem dX6_restOf_2_34 : decode cX6_restOf_2 34 = .ok (.dreturn, 1) := dk_175 (dk_at dksX6_restOf_2_1 12 rfl rfl)
abbrev cX6_fused : ByteArray := prog_10_method_63_code
def yX6_fused : MethodName := ⟨RX6, "fused", "(IJJJ)J"⟩
def dkwX6_fused_1 : List UInt8 := [42, 16, 9, 182, 0, 45, 173]
abbrev dktX6_fused_1 : List UInt8 := dkwX6_fused_1 ++ []
def dkwX6_fused_0 : List UInt8 := [42, 182, 0, 42, 27, 184, 0, 151, 153, 0, 16, 42, 27, 32, 22, 4, 22, 6, 182, 1, 45, 167, 0, 9]
abbrev dktX6_fused_0 : List UInt8 := dkwX6_fused_0 ++ dktX6_fused_1
theorem dksX6_fused_0 : cX6_fused.data.toList.drop 0 = dktX6_fused_0 := by decide +kernel
theorem dksX6_fused_1 : cX6_fused.data.toList.drop 24 = dktX6_fused_1 := dk_seg dksX6_fused_0 24 rfl rfl
theorem dX6_fused_0 : decode cX6_fused 0 = .ok (.aload_n 0, 1) := dk_42 (dk_at dksX6_fused_0 0 rfl rfl)
theorem dX6_fused_1 : decode cX6_fused 1 = .ok (.invokevirtual 42, 3) := dk_182 0 42 (dk_at dksX6_fused_0 1 rfl rfl)
theorem dX6_fused_4 : decode cX6_fused 4 = .ok (.iload_n 1, 1) := dk_27 (dk_at dksX6_fused_0 4 rfl rfl)
theorem dX6_fused_5 : decode cX6_fused 5 = .ok (.invokestatic 151, 3) := dk_184 0 151 (dk_at dksX6_fused_0 5 rfl rfl)
theorem dX6_fused_8 : decode cX6_fused 8 = .ok (.ifCond .eq 16, 3) := dk_153 0 16 (dk_at dksX6_fused_0 8 rfl rfl)
theorem dX6_fused_11 : decode cX6_fused 11 = .ok (.aload_n 0, 1) := dk_42 (dk_at dksX6_fused_0 11 rfl rfl)
theorem dX6_fused_12 : decode cX6_fused 12 = .ok (.iload_n 1, 1) := dk_27 (dk_at dksX6_fused_0 12 rfl rfl)
theorem dX6_fused_13 : decode cX6_fused 13 = .ok (.lload_n 2, 1) := dk_32 (dk_at dksX6_fused_0 13 rfl rfl)
theorem dX6_fused_14 : decode cX6_fused 14 = .ok (.lload 4, 2) := dk_22 4 (dk_at dksX6_fused_0 14 rfl rfl)
theorem dX6_fused_16 : decode cX6_fused 16 = .ok (.lload 6, 2) := dk_22 6 (dk_at dksX6_fused_0 16 rfl rfl)
theorem dX6_fused_18 : decode cX6_fused 18 = .ok (.invokevirtual 301, 3) := dk_182 1 45 (dk_at dksX6_fused_0 18 rfl rfl)
theorem dX6_fused_21 : decode cX6_fused 21 = .ok (.goto 9, 3) := dk_167 0 9 (dk_at dksX6_fused_0 21 rfl rfl)
theorem dX6_fused_24 : decode cX6_fused 24 = .ok (.aload_n 0, 1) := dk_42 (dk_at dksX6_fused_1 0 rfl rfl)
theorem dX6_fused_25 : decode cX6_fused 25 = .ok (.bipush 9, 2) := dk_16 9 (dk_at dksX6_fused_1 1 rfl rfl)
theorem dX6_fused_27 : decode cX6_fused 27 = .ok (.invokevirtual 45, 3) := dk_182 0 45 (dk_at dksX6_fused_1 3 rfl rfl)
theorem dX6_fused_30 : decode cX6_fused 30 = .ok (.lreturn, 1) := dk_173 (dk_at dksX6_fused_1 6 rfl rfl)
abbrev cX6_fusedOf : ByteArray := prog_10_method_60_code
def yX6_fusedOf : MethodName := ⟨RX6, "fusedOf", "(IJJJ)J"⟩
def dkwX6_fusedOf_20 : List UInt8 := [173]
abbrev dktX6_fusedOf_20 : List UInt8 := dkwX6_fusedOf_20 ++ []
def dkwX6_fusedOf_19 : List UInt8 := [42, 180, 0, 29, 184, 0, 133, 42, 180, 0, 29, 10, 184, 0, 143, 42, 27, 21, 19, 22, 22, 182, 0, 147]
abbrev dktX6_fusedOf_19 : List UInt8 := dkwX6_fusedOf_19 ++ dktX6_fusedOf_20
def dkwX6_fusedOf_18 : List UInt8 := [184, 0, 125, 42, 180, 0, 32, 42, 180, 0, 29, 184, 0, 125, 42, 180, 0, 67, 54, 19, 42, 180, 0, 26]
abbrev dktX6_fusedOf_18 : List UInt8 := dkwX6_fusedOf_18 ++ dktX6_fusedOf_19
def dkwX6_fusedOf_17 : List UInt8 := [21, 24, 156, 0, 42, 42, 180, 0, 26, 42, 180, 0, 32, 184, 0, 125, 42, 180, 0, 29, 42, 180, 0, 26]
abbrev dktX6_fusedOf_17 : List UInt8 := dkwX6_fusedOf_17 ++ dktX6_fusedOf_18
def dkwX6_fusedOf_16 : List UInt8 := [167, 0, 78, 42, 180, 0, 26, 42, 180, 0, 29, 184, 0, 129, 54, 24, 21, 24, 154, 0, 5, 9, 173]
abbrev dktX6_fusedOf_16 : List UInt8 := dkwX6_fusedOf_16 ++ dktX6_fusedOf_17
def dkwX6_fusedOf_15 : List UInt8 := [184, 0, 121, 21, 19, 42, 180, 0, 67, 160, 0, 17, 42, 180, 0, 26, 42, 180, 0, 29, 184, 1, 38]
abbrev dktX6_fusedOf_15 : List UInt8 := dkwX6_fusedOf_15 ++ dktX6_fusedOf_16
def dkwX6_fusedOf_14 : List UInt8 := [180, 0, 26, 22, 17, 22, 22, 101, 136, 184, 0, 121, 42, 180, 0, 29, 22, 20, 22, 22, 101, 136]
abbrev dktX6_fusedOf_14 : List UInt8 := dkwX6_fusedOf_14 ++ dktX6_fusedOf_15
def dkwX6_fusedOf_13 : List UInt8 := [167, 0, 5, 22, 20, 55, 22, 42, 180, 0, 77, 9, 148, 154, 0, 10, 22, 17, 55, 22, 167, 0, 29, 42]
abbrev dktX6_fusedOf_13 : List UInt8 := dkwX6_fusedOf_13 ++ dktX6_fusedOf_14
def dkwX6_fusedOf_12 : List UInt8 := [55, 20, 42, 180, 0, 29, 42, 180, 0, 77, 184, 0, 143, 22, 17, 22, 20, 148, 156, 0, 8, 22, 17]
abbrev dktX6_fusedOf_12 : List UInt8 := dkwX6_fusedOf_12 ++ dktX6_fusedOf_13
def dkwX6_fusedOf_11 : List UInt8 := [184, 0, 143, 42, 42, 180, 0, 77, 182, 1, 34, 42, 27, 22, 6, 182, 0, 99, 42, 180, 0, 84, 133]
abbrev dktX6_fusedOf_11 : List UInt8 := dkwX6_fusedOf_11 ++ dktX6_fusedOf_12
def dkwX6_fusedOf_10 : List UInt8 := [180, 0, 67, 130, 54, 19, 22, 17, 42, 180, 0, 84, 133, 97, 55, 17, 42, 180, 0, 26, 22, 15]
abbrev dktX6_fusedOf_10 : List UInt8 := dkwX6_fusedOf_10 ++ dktX6_fusedOf_11
def dkwX6_fusedOf_9 : List UInt8 := [42, 180, 0, 84, 133, 55, 17, 42, 180, 0, 67, 54, 19, 42, 27, 22, 4, 182, 0, 99, 21, 19, 42]
abbrev dktX6_fusedOf_9 : List UInt8 := dkwX6_fusedOf_9 ++ dktX6_fusedOf_10
def dkwX6_fusedOf_8 : List UInt8 := [184, 1, 20, 24, 12, 184, 1, 16, 184, 0, 234, 173, 42, 27, 32, 182, 0, 99, 42, 180, 0, 77, 55, 15]
abbrev dktX6_fusedOf_8 : List UInt8 := dkwX6_fusedOf_8 ++ dktX6_fusedOf_9
def dkwX6_fusedOf_7 : List UInt8 := [27, 22, 6, 182, 1, 31, 153, 0, 13, 42, 27, 22, 6, 182, 0, 167, 167, 0, 18, 24, 8, 24, 10]
abbrev dktX6_fusedOf_7 : List UInt8 := dkwX6_fusedOf_7 ++ dktX6_fusedOf_8
def dkwX6_fusedOf_6 : List UInt8 := [184, 0, 191, 184, 1, 10, 22, 6, 184, 0, 191, 184, 1, 4, 184, 0, 228, 173, 21, 15, 153, 0, 23, 42]
abbrev dktX6_fusedOf_6 : List UInt8 := dkwX6_fusedOf_6 ++ dktX6_fusedOf_7
def dkwX6_fusedOf_5 : List UInt8 := [22, 6, 182, 1, 31, 153, 0, 13, 42, 27, 22, 6, 182, 0, 167, 167, 0, 26, 32, 184, 0, 191, 22, 4]
abbrev dktX6_fusedOf_5 : List UInt8 := dkwX6_fusedOf_5 ++ dktX6_fusedOf_6
def dkwX6_fusedOf_4 : List UInt8 := [182, 0, 155, 153, 0, 7, 4, 167, 0, 4, 3, 54, 15, 27, 154, 0, 52, 21, 15, 153, 0, 23, 42, 27]
abbrev dktX6_fusedOf_4 : List UInt8 := dkwX6_fusedOf_4 ++ dktX6_fusedOf_5
def dkwX6_fusedOf_3 : List UInt8 := [167, 0, 4, 3, 54, 14, 21, 14, 153, 0, 123, 42, 27, 32, 182, 0, 155, 153, 0, 17, 42, 27, 22, 4]
abbrev dktX6_fusedOf_3 : List UInt8 := dkwX6_fusedOf_3 ++ dktX6_fusedOf_4
def dkwX6_fusedOf_2 : List UInt8 := [153, 0, 22, 42, 180, 0, 77, 9, 148, 153, 0, 13, 42, 27, 22, 6, 182, 0, 155, 154, 0, 7, 4]
abbrev dktX6_fusedOf_2 : List UInt8 := dkwX6_fusedOf_2 ++ dktX6_fusedOf_3
def dkwX6_fusedOf_1 : List UInt8 := [27, 32, 182, 0, 155, 153, 0, 41, 42, 180, 0, 77, 9, 148, 153, 0, 32, 42, 27, 22, 4, 182, 0, 155]
abbrev dktX6_fusedOf_1 : List UInt8 := dkwX6_fusedOf_1 ++ dktX6_fusedOf_2
def dkwX6_fusedOf_0 : List UInt8 := [27, 32, 184, 0, 249, 57, 8, 27, 22, 4, 184, 0, 249, 57, 10, 27, 22, 6, 184, 0, 249, 57, 12, 42]
abbrev dktX6_fusedOf_0 : List UInt8 := dkwX6_fusedOf_0 ++ dktX6_fusedOf_1
theorem dksX6_fusedOf_0 : cX6_fusedOf.data.toList.drop 0 = dktX6_fusedOf_0 := by decide +kernel
theorem dksX6_fusedOf_1 : cX6_fusedOf.data.toList.drop 24 = dktX6_fusedOf_1 := dk_seg dksX6_fusedOf_0 24 rfl rfl
theorem dksX6_fusedOf_2 : cX6_fusedOf.data.toList.drop 48 = dktX6_fusedOf_2 := dk_seg dksX6_fusedOf_1 24 rfl rfl
theorem dksX6_fusedOf_3 : cX6_fusedOf.data.toList.drop 71 = dktX6_fusedOf_3 := dk_seg dksX6_fusedOf_2 23 rfl rfl
theorem dksX6_fusedOf_4 : cX6_fusedOf.data.toList.drop 95 = dktX6_fusedOf_4 := dk_seg dksX6_fusedOf_3 24 rfl rfl
theorem dksX6_fusedOf_5 : cX6_fusedOf.data.toList.drop 119 = dktX6_fusedOf_5 := dk_seg dksX6_fusedOf_4 24 rfl rfl
theorem dksX6_fusedOf_6 : cX6_fusedOf.data.toList.drop 143 = dktX6_fusedOf_6 := dk_seg dksX6_fusedOf_5 24 rfl rfl
theorem dksX6_fusedOf_7 : cX6_fusedOf.data.toList.drop 167 = dktX6_fusedOf_7 := dk_seg dksX6_fusedOf_6 24 rfl rfl
theorem dksX6_fusedOf_8 : cX6_fusedOf.data.toList.drop 190 = dktX6_fusedOf_8 := dk_seg dksX6_fusedOf_7 23 rfl rfl
theorem dksX6_fusedOf_9 : cX6_fusedOf.data.toList.drop 214 = dktX6_fusedOf_9 := dk_seg dksX6_fusedOf_8 24 rfl rfl
theorem dksX6_fusedOf_10 : cX6_fusedOf.data.toList.drop 237 = dktX6_fusedOf_10 := dk_seg dksX6_fusedOf_9 23 rfl rfl
theorem dksX6_fusedOf_11 : cX6_fusedOf.data.toList.drop 259 = dktX6_fusedOf_11 := dk_seg dksX6_fusedOf_10 22 rfl rfl
theorem dksX6_fusedOf_12 : cX6_fusedOf.data.toList.drop 282 = dktX6_fusedOf_12 := dk_seg dksX6_fusedOf_11 23 rfl rfl
theorem dksX6_fusedOf_13 : cX6_fusedOf.data.toList.drop 305 = dktX6_fusedOf_13 := dk_seg dksX6_fusedOf_12 23 rfl rfl
theorem dksX6_fusedOf_14 : cX6_fusedOf.data.toList.drop 329 = dktX6_fusedOf_14 := dk_seg dksX6_fusedOf_13 24 rfl rfl
theorem dksX6_fusedOf_15 : cX6_fusedOf.data.toList.drop 351 = dktX6_fusedOf_15 := dk_seg dksX6_fusedOf_14 22 rfl rfl
theorem dksX6_fusedOf_16 : cX6_fusedOf.data.toList.drop 374 = dktX6_fusedOf_16 := dk_seg dksX6_fusedOf_15 23 rfl rfl
theorem dksX6_fusedOf_17 : cX6_fusedOf.data.toList.drop 397 = dktX6_fusedOf_17 := dk_seg dksX6_fusedOf_16 23 rfl rfl
theorem dksX6_fusedOf_18 : cX6_fusedOf.data.toList.drop 421 = dktX6_fusedOf_18 := dk_seg dksX6_fusedOf_17 24 rfl rfl
theorem dksX6_fusedOf_19 : cX6_fusedOf.data.toList.drop 445 = dktX6_fusedOf_19 := dk_seg dksX6_fusedOf_18 24 rfl rfl
theorem dksX6_fusedOf_20 : cX6_fusedOf.data.toList.drop 469 = dktX6_fusedOf_20 := dk_seg dksX6_fusedOf_19 24 rfl rfl
theorem dX6_fusedOf_0 : decode cX6_fusedOf 0 = .ok (.iload_n 1, 1) := dk_27 (dk_at dksX6_fusedOf_0 0 rfl rfl)
theorem dX6_fusedOf_1 : decode cX6_fusedOf 1 = .ok (.lload_n 2, 1) := dk_32 (dk_at dksX6_fusedOf_0 1 rfl rfl)
theorem dX6_fusedOf_2 : decode cX6_fusedOf 2 = .ok (.invokestatic 249, 3) := dk_184 0 249 (dk_at dksX6_fusedOf_0 2 rfl rfl)
theorem dX6_fusedOf_5 : decode cX6_fusedOf 5 = .ok (.dstore 8, 2) := dk_57 8 (dk_at dksX6_fusedOf_0 5 rfl rfl)
theorem dX6_fusedOf_7 : decode cX6_fusedOf 7 = .ok (.iload_n 1, 1) := dk_27 (dk_at dksX6_fusedOf_0 7 rfl rfl)
theorem dX6_fusedOf_8 : decode cX6_fusedOf 8 = .ok (.lload 4, 2) := dk_22 4 (dk_at dksX6_fusedOf_0 8 rfl rfl)
theorem dX6_fusedOf_10 : decode cX6_fusedOf 10 = .ok (.invokestatic 249, 3) := dk_184 0 249 (dk_at dksX6_fusedOf_0 10 rfl rfl)
theorem dX6_fusedOf_13 : decode cX6_fusedOf 13 = .ok (.dstore 10, 2) := dk_57 10 (dk_at dksX6_fusedOf_0 13 rfl rfl)
theorem dX6_fusedOf_15 : decode cX6_fusedOf 15 = .ok (.iload_n 1, 1) := dk_27 (dk_at dksX6_fusedOf_0 15 rfl rfl)
theorem dX6_fusedOf_16 : decode cX6_fusedOf 16 = .ok (.lload 6, 2) := dk_22 6 (dk_at dksX6_fusedOf_0 16 rfl rfl)
theorem dX6_fusedOf_18 : decode cX6_fusedOf 18 = .ok (.invokestatic 249, 3) := dk_184 0 249 (dk_at dksX6_fusedOf_0 18 rfl rfl)
theorem dX6_fusedOf_21 : decode cX6_fusedOf 21 = .ok (.dstore 12, 2) := dk_57 12 (dk_at dksX6_fusedOf_0 21 rfl rfl)
theorem dX6_fusedOf_23 : decode cX6_fusedOf 23 = .ok (.aload_n 0, 1) := dk_42 (dk_at dksX6_fusedOf_0 23 rfl rfl)
theorem dX6_fusedOf_24 : decode cX6_fusedOf 24 = .ok (.iload_n 1, 1) := dk_27 (dk_at dksX6_fusedOf_1 0 rfl rfl)
theorem dX6_fusedOf_25 : decode cX6_fusedOf 25 = .ok (.lload_n 2, 1) := dk_32 (dk_at dksX6_fusedOf_1 1 rfl rfl)
theorem dX6_fusedOf_26 : decode cX6_fusedOf 26 = .ok (.invokevirtual 155, 3) := dk_182 0 155 (dk_at dksX6_fusedOf_1 2 rfl rfl)
theorem dX6_fusedOf_29 : decode cX6_fusedOf 29 = .ok (.ifCond .eq 41, 3) := dk_153 0 41 (dk_at dksX6_fusedOf_1 5 rfl rfl)
theorem dX6_fusedOf_32 : decode cX6_fusedOf 32 = .ok (.aload_n 0, 1) := dk_42 (dk_at dksX6_fusedOf_1 8 rfl rfl)
theorem dX6_fusedOf_33 : decode cX6_fusedOf 33 = .ok (.getfield 77, 3) := dk_180 0 77 (dk_at dksX6_fusedOf_1 9 rfl rfl)
theorem dX6_fusedOf_36 : decode cX6_fusedOf 36 = .ok (.lconst 0, 1) := dk_9 (dk_at dksX6_fusedOf_1 12 rfl rfl)
theorem dX6_fusedOf_37 : decode cX6_fusedOf 37 = .ok (.lcmp, 1) := dk_148 (dk_at dksX6_fusedOf_1 13 rfl rfl)
theorem dX6_fusedOf_38 : decode cX6_fusedOf 38 = .ok (.ifCond .eq 32, 3) := dk_153 0 32 (dk_at dksX6_fusedOf_1 14 rfl rfl)
theorem dX6_fusedOf_41 : decode cX6_fusedOf 41 = .ok (.aload_n 0, 1) := dk_42 (dk_at dksX6_fusedOf_1 17 rfl rfl)
theorem dX6_fusedOf_42 : decode cX6_fusedOf 42 = .ok (.iload_n 1, 1) := dk_27 (dk_at dksX6_fusedOf_1 18 rfl rfl)
theorem dX6_fusedOf_43 : decode cX6_fusedOf 43 = .ok (.lload 4, 2) := dk_22 4 (dk_at dksX6_fusedOf_1 19 rfl rfl)
theorem dX6_fusedOf_45 : decode cX6_fusedOf 45 = .ok (.invokevirtual 155, 3) := dk_182 0 155 (dk_at dksX6_fusedOf_1 21 rfl rfl)
theorem dX6_fusedOf_48 : decode cX6_fusedOf 48 = .ok (.ifCond .eq 22, 3) := dk_153 0 22 (dk_at dksX6_fusedOf_2 0 rfl rfl)
theorem dX6_fusedOf_51 : decode cX6_fusedOf 51 = .ok (.aload_n 0, 1) := dk_42 (dk_at dksX6_fusedOf_2 3 rfl rfl)
theorem dX6_fusedOf_52 : decode cX6_fusedOf 52 = .ok (.getfield 77, 3) := dk_180 0 77 (dk_at dksX6_fusedOf_2 4 rfl rfl)
theorem dX6_fusedOf_55 : decode cX6_fusedOf 55 = .ok (.lconst 0, 1) := dk_9 (dk_at dksX6_fusedOf_2 7 rfl rfl)
theorem dX6_fusedOf_56 : decode cX6_fusedOf 56 = .ok (.lcmp, 1) := dk_148 (dk_at dksX6_fusedOf_2 8 rfl rfl)
theorem dX6_fusedOf_57 : decode cX6_fusedOf 57 = .ok (.ifCond .eq 13, 3) := dk_153 0 13 (dk_at dksX6_fusedOf_2 9 rfl rfl)
theorem dX6_fusedOf_60 : decode cX6_fusedOf 60 = .ok (.aload_n 0, 1) := dk_42 (dk_at dksX6_fusedOf_2 12 rfl rfl)
theorem dX6_fusedOf_61 : decode cX6_fusedOf 61 = .ok (.iload_n 1, 1) := dk_27 (dk_at dksX6_fusedOf_2 13 rfl rfl)
theorem dX6_fusedOf_62 : decode cX6_fusedOf 62 = .ok (.lload 6, 2) := dk_22 6 (dk_at dksX6_fusedOf_2 14 rfl rfl)
theorem dX6_fusedOf_64 : decode cX6_fusedOf 64 = .ok (.invokevirtual 155, 3) := dk_182 0 155 (dk_at dksX6_fusedOf_2 16 rfl rfl)
theorem dX6_fusedOf_67 : decode cX6_fusedOf 67 = .ok (.ifCond .ne 7, 3) := dk_154 0 7 (dk_at dksX6_fusedOf_2 19 rfl rfl)
theorem dX6_fusedOf_70 : decode cX6_fusedOf 70 = .ok (.iconst 1, 1) := dk_4 (dk_at dksX6_fusedOf_2 22 rfl rfl)
theorem dX6_fusedOf_71 : decode cX6_fusedOf 71 = .ok (.goto 4, 3) := dk_167 0 4 (dk_at dksX6_fusedOf_3 0 rfl rfl)
theorem dX6_fusedOf_74 : decode cX6_fusedOf 74 = .ok (.iconst 0, 1) := dk_3 (dk_at dksX6_fusedOf_3 3 rfl rfl)
theorem dX6_fusedOf_75 : decode cX6_fusedOf 75 = .ok (.istore 14, 2) := dk_54 14 (dk_at dksX6_fusedOf_3 4 rfl rfl)
theorem dX6_fusedOf_77 : decode cX6_fusedOf 77 = .ok (.iload 14, 2) := dk_21 14 (dk_at dksX6_fusedOf_3 6 rfl rfl)
theorem dX6_fusedOf_79 : decode cX6_fusedOf 79 = .ok (.ifCond .eq 123, 3) := dk_153 0 123 (dk_at dksX6_fusedOf_3 8 rfl rfl)
theorem dX6_fusedOf_82 : decode cX6_fusedOf 82 = .ok (.aload_n 0, 1) := dk_42 (dk_at dksX6_fusedOf_3 11 rfl rfl)
theorem dX6_fusedOf_83 : decode cX6_fusedOf 83 = .ok (.iload_n 1, 1) := dk_27 (dk_at dksX6_fusedOf_3 12 rfl rfl)
theorem dX6_fusedOf_84 : decode cX6_fusedOf 84 = .ok (.lload_n 2, 1) := dk_32 (dk_at dksX6_fusedOf_3 13 rfl rfl)
theorem dX6_fusedOf_85 : decode cX6_fusedOf 85 = .ok (.invokevirtual 155, 3) := dk_182 0 155 (dk_at dksX6_fusedOf_3 14 rfl rfl)
theorem dX6_fusedOf_88 : decode cX6_fusedOf 88 = .ok (.ifCond .eq 17, 3) := dk_153 0 17 (dk_at dksX6_fusedOf_3 17 rfl rfl)
theorem dX6_fusedOf_91 : decode cX6_fusedOf 91 = .ok (.aload_n 0, 1) := dk_42 (dk_at dksX6_fusedOf_3 20 rfl rfl)
theorem dX6_fusedOf_92 : decode cX6_fusedOf 92 = .ok (.iload_n 1, 1) := dk_27 (dk_at dksX6_fusedOf_3 21 rfl rfl)
theorem dX6_fusedOf_93 : decode cX6_fusedOf 93 = .ok (.lload 4, 2) := dk_22 4 (dk_at dksX6_fusedOf_3 22 rfl rfl)
theorem dX6_fusedOf_95 : decode cX6_fusedOf 95 = .ok (.invokevirtual 155, 3) := dk_182 0 155 (dk_at dksX6_fusedOf_4 0 rfl rfl)
theorem dX6_fusedOf_98 : decode cX6_fusedOf 98 = .ok (.ifCond .eq 7, 3) := dk_153 0 7 (dk_at dksX6_fusedOf_4 3 rfl rfl)
theorem dX6_fusedOf_101 : decode cX6_fusedOf 101 = .ok (.iconst 1, 1) := dk_4 (dk_at dksX6_fusedOf_4 6 rfl rfl)
theorem dX6_fusedOf_102 : decode cX6_fusedOf 102 = .ok (.goto 4, 3) := dk_167 0 4 (dk_at dksX6_fusedOf_4 7 rfl rfl)
theorem dX6_fusedOf_105 : decode cX6_fusedOf 105 = .ok (.iconst 0, 1) := dk_3 (dk_at dksX6_fusedOf_4 10 rfl rfl)
theorem dX6_fusedOf_106 : decode cX6_fusedOf 106 = .ok (.istore 15, 2) := dk_54 15 (dk_at dksX6_fusedOf_4 11 rfl rfl)
theorem dX6_fusedOf_108 : decode cX6_fusedOf 108 = .ok (.iload_n 1, 1) := dk_27 (dk_at dksX6_fusedOf_4 13 rfl rfl)
theorem dX6_fusedOf_109 : decode cX6_fusedOf 109 = .ok (.ifCond .ne 52, 3) := dk_154 0 52 (dk_at dksX6_fusedOf_4 14 rfl rfl)
theorem dX6_fusedOf_112 : decode cX6_fusedOf 112 = .ok (.iload 15, 2) := dk_21 15 (dk_at dksX6_fusedOf_4 17 rfl rfl)
theorem dX6_fusedOf_114 : decode cX6_fusedOf 114 = .ok (.ifCond .eq 23, 3) := dk_153 0 23 (dk_at dksX6_fusedOf_4 19 rfl rfl)
theorem dX6_fusedOf_117 : decode cX6_fusedOf 117 = .ok (.aload_n 0, 1) := dk_42 (dk_at dksX6_fusedOf_4 22 rfl rfl)
theorem dX6_fusedOf_118 : decode cX6_fusedOf 118 = .ok (.iload_n 1, 1) := dk_27 (dk_at dksX6_fusedOf_4 23 rfl rfl)
theorem dX6_fusedOf_119 : decode cX6_fusedOf 119 = .ok (.lload 6, 2) := dk_22 6 (dk_at dksX6_fusedOf_5 0 rfl rfl)
theorem dX6_fusedOf_121 : decode cX6_fusedOf 121 = .ok (.invokevirtual 287, 3) := dk_182 1 31 (dk_at dksX6_fusedOf_5 2 rfl rfl)
theorem dX6_fusedOf_124 : decode cX6_fusedOf 124 = .ok (.ifCond .eq 13, 3) := dk_153 0 13 (dk_at dksX6_fusedOf_5 5 rfl rfl)
theorem dX6_fusedOf_127 : decode cX6_fusedOf 127 = .ok (.aload_n 0, 1) := dk_42 (dk_at dksX6_fusedOf_5 8 rfl rfl)
theorem dX6_fusedOf_128 : decode cX6_fusedOf 128 = .ok (.iload_n 1, 1) := dk_27 (dk_at dksX6_fusedOf_5 9 rfl rfl)
theorem dX6_fusedOf_129 : decode cX6_fusedOf 129 = .ok (.lload 6, 2) := dk_22 6 (dk_at dksX6_fusedOf_5 10 rfl rfl)
theorem dX6_fusedOf_131 : decode cX6_fusedOf 131 = .ok (.invokevirtual 167, 3) := dk_182 0 167 (dk_at dksX6_fusedOf_5 12 rfl rfl)
theorem dX6_fusedOf_134 : decode cX6_fusedOf 134 = .ok (.goto 26, 3) := dk_167 0 26 (dk_at dksX6_fusedOf_5 15 rfl rfl)
theorem dX6_fusedOf_137 : decode cX6_fusedOf 137 = .ok (.lload_n 2, 1) := dk_32 (dk_at dksX6_fusedOf_5 18 rfl rfl)
theorem dX6_fusedOf_138 : decode cX6_fusedOf 138 = .ok (.invokestatic 191, 3) := dk_184 0 191 (dk_at dksX6_fusedOf_5 19 rfl rfl)
theorem dX6_fusedOf_141 : decode cX6_fusedOf 141 = .ok (.lload 4, 2) := dk_22 4 (dk_at dksX6_fusedOf_5 22 rfl rfl)
theorem dX6_fusedOf_143 : decode cX6_fusedOf 143 = .ok (.invokestatic 191, 3) := dk_184 0 191 (dk_at dksX6_fusedOf_6 0 rfl rfl)
theorem dX6_fusedOf_146 : decode cX6_fusedOf 146 = .ok (.invokestatic 266, 3) := dk_184 1 10 (dk_at dksX6_fusedOf_6 3 rfl rfl)
theorem dX6_fusedOf_149 : decode cX6_fusedOf 149 = .ok (.lload 6, 2) := dk_22 6 (dk_at dksX6_fusedOf_6 6 rfl rfl)
theorem dX6_fusedOf_151 : decode cX6_fusedOf 151 = .ok (.invokestatic 191, 3) := dk_184 0 191 (dk_at dksX6_fusedOf_6 8 rfl rfl)
theorem dX6_fusedOf_154 : decode cX6_fusedOf 154 = .ok (.invokestatic 260, 3) := dk_184 1 4 (dk_at dksX6_fusedOf_6 11 rfl rfl)
theorem dX6_fusedOf_157 : decode cX6_fusedOf 157 = .ok (.invokestatic 228, 3) := dk_184 0 228 (dk_at dksX6_fusedOf_6 14 rfl rfl)
theorem dX6_fusedOf_160 : decode cX6_fusedOf 160 = .ok (.lreturn, 1) := dk_173 (dk_at dksX6_fusedOf_6 17 rfl rfl)
theorem dX6_fusedOf_161 : decode cX6_fusedOf 161 = .ok (.iload 15, 2) := dk_21 15 (dk_at dksX6_fusedOf_6 18 rfl rfl)
theorem dX6_fusedOf_163 : decode cX6_fusedOf 163 = .ok (.ifCond .eq 23, 3) := dk_153 0 23 (dk_at dksX6_fusedOf_6 20 rfl rfl)
theorem dX6_fusedOf_166 : decode cX6_fusedOf 166 = .ok (.aload_n 0, 1) := dk_42 (dk_at dksX6_fusedOf_6 23 rfl rfl)
theorem dX6_fusedOf_167 : decode cX6_fusedOf 167 = .ok (.iload_n 1, 1) := dk_27 (dk_at dksX6_fusedOf_7 0 rfl rfl)
theorem dX6_fusedOf_168 : decode cX6_fusedOf 168 = .ok (.lload 6, 2) := dk_22 6 (dk_at dksX6_fusedOf_7 1 rfl rfl)
theorem dX6_fusedOf_170 : decode cX6_fusedOf 170 = .ok (.invokevirtual 287, 3) := dk_182 1 31 (dk_at dksX6_fusedOf_7 3 rfl rfl)
theorem dX6_fusedOf_173 : decode cX6_fusedOf 173 = .ok (.ifCond .eq 13, 3) := dk_153 0 13 (dk_at dksX6_fusedOf_7 6 rfl rfl)
theorem dX6_fusedOf_176 : decode cX6_fusedOf 176 = .ok (.aload_n 0, 1) := dk_42 (dk_at dksX6_fusedOf_7 9 rfl rfl)
theorem dX6_fusedOf_177 : decode cX6_fusedOf 177 = .ok (.iload_n 1, 1) := dk_27 (dk_at dksX6_fusedOf_7 10 rfl rfl)
theorem dX6_fusedOf_178 : decode cX6_fusedOf 178 = .ok (.lload 6, 2) := dk_22 6 (dk_at dksX6_fusedOf_7 11 rfl rfl)
theorem dX6_fusedOf_180 : decode cX6_fusedOf 180 = .ok (.invokevirtual 167, 3) := dk_182 0 167 (dk_at dksX6_fusedOf_7 13 rfl rfl)
theorem dX6_fusedOf_183 : decode cX6_fusedOf 183 = .ok (.goto 18, 3) := dk_167 0 18 (dk_at dksX6_fusedOf_7 16 rfl rfl)
theorem dX6_fusedOf_186 : decode cX6_fusedOf 186 = .ok (.dload 8, 2) := dk_24 8 (dk_at dksX6_fusedOf_7 19 rfl rfl)
theorem dX6_fusedOf_188 : decode cX6_fusedOf 188 = .ok (.dload 10, 2) := dk_24 10 (dk_at dksX6_fusedOf_7 21 rfl rfl)
theorem dX6_fusedOf_190 : decode cX6_fusedOf 190 = .ok (.invokestatic 276, 3) := dk_184 1 20 (dk_at dksX6_fusedOf_8 0 rfl rfl)
theorem dX6_fusedOf_193 : decode cX6_fusedOf 193 = .ok (.dload 12, 2) := dk_24 12 (dk_at dksX6_fusedOf_8 3 rfl rfl)
theorem dX6_fusedOf_195 : decode cX6_fusedOf 195 = .ok (.invokestatic 272, 3) := dk_184 1 16 (dk_at dksX6_fusedOf_8 5 rfl rfl)
theorem dX6_fusedOf_198 : decode cX6_fusedOf 198 = .ok (.invokestatic 234, 3) := dk_184 0 234 (dk_at dksX6_fusedOf_8 8 rfl rfl)
theorem dX6_fusedOf_201 : decode cX6_fusedOf 201 = .ok (.lreturn, 1) := dk_173 (dk_at dksX6_fusedOf_8 11 rfl rfl)
theorem dX6_fusedOf_202 : decode cX6_fusedOf 202 = .ok (.aload_n 0, 1) := dk_42 (dk_at dksX6_fusedOf_8 12 rfl rfl)
theorem dX6_fusedOf_203 : decode cX6_fusedOf 203 = .ok (.iload_n 1, 1) := dk_27 (dk_at dksX6_fusedOf_8 13 rfl rfl)
theorem dX6_fusedOf_204 : decode cX6_fusedOf 204 = .ok (.lload_n 2, 1) := dk_32 (dk_at dksX6_fusedOf_8 14 rfl rfl)
theorem dX6_fusedOf_205 : decode cX6_fusedOf 205 = .ok (.invokevirtual 99, 3) := dk_182 0 99 (dk_at dksX6_fusedOf_8 15 rfl rfl)
theorem dX6_fusedOf_208 : decode cX6_fusedOf 208 = .ok (.aload_n 0, 1) := dk_42 (dk_at dksX6_fusedOf_8 18 rfl rfl)
theorem dX6_fusedOf_209 : decode cX6_fusedOf 209 = .ok (.getfield 77, 3) := dk_180 0 77 (dk_at dksX6_fusedOf_8 19 rfl rfl)
theorem dX6_fusedOf_212 : decode cX6_fusedOf 212 = .ok (.lstore 15, 2) := dk_55 15 (dk_at dksX6_fusedOf_8 22 rfl rfl)
theorem dX6_fusedOf_214 : decode cX6_fusedOf 214 = .ok (.aload_n 0, 1) := dk_42 (dk_at dksX6_fusedOf_9 0 rfl rfl)
theorem dX6_fusedOf_215 : decode cX6_fusedOf 215 = .ok (.getfield 84, 3) := dk_180 0 84 (dk_at dksX6_fusedOf_9 1 rfl rfl)
theorem dX6_fusedOf_218 : decode cX6_fusedOf 218 = .ok (.i2l, 1) := dk_133 (dk_at dksX6_fusedOf_9 4 rfl rfl)
theorem dX6_fusedOf_219 : decode cX6_fusedOf 219 = .ok (.lstore 17, 2) := dk_55 17 (dk_at dksX6_fusedOf_9 5 rfl rfl)
theorem dX6_fusedOf_221 : decode cX6_fusedOf 221 = .ok (.aload_n 0, 1) := dk_42 (dk_at dksX6_fusedOf_9 7 rfl rfl)
theorem dX6_fusedOf_222 : decode cX6_fusedOf 222 = .ok (.getfield 67, 3) := dk_180 0 67 (dk_at dksX6_fusedOf_9 8 rfl rfl)
theorem dX6_fusedOf_225 : decode cX6_fusedOf 225 = .ok (.istore 19, 2) := dk_54 19 (dk_at dksX6_fusedOf_9 11 rfl rfl)
theorem dX6_fusedOf_227 : decode cX6_fusedOf 227 = .ok (.aload_n 0, 1) := dk_42 (dk_at dksX6_fusedOf_9 13 rfl rfl)
theorem dX6_fusedOf_228 : decode cX6_fusedOf 228 = .ok (.iload_n 1, 1) := dk_27 (dk_at dksX6_fusedOf_9 14 rfl rfl)
theorem dX6_fusedOf_229 : decode cX6_fusedOf 229 = .ok (.lload 4, 2) := dk_22 4 (dk_at dksX6_fusedOf_9 15 rfl rfl)
theorem dX6_fusedOf_231 : decode cX6_fusedOf 231 = .ok (.invokevirtual 99, 3) := dk_182 0 99 (dk_at dksX6_fusedOf_9 17 rfl rfl)
theorem dX6_fusedOf_234 : decode cX6_fusedOf 234 = .ok (.iload 19, 2) := dk_21 19 (dk_at dksX6_fusedOf_9 20 rfl rfl)
theorem dX6_fusedOf_236 : decode cX6_fusedOf 236 = .ok (.aload_n 0, 1) := dk_42 (dk_at dksX6_fusedOf_9 22 rfl rfl)
theorem dX6_fusedOf_237 : decode cX6_fusedOf 237 = .ok (.getfield 67, 3) := dk_180 0 67 (dk_at dksX6_fusedOf_10 0 rfl rfl)
theorem dX6_fusedOf_240 : decode cX6_fusedOf 240 = .ok (.ixor, 1) := dk_130 (dk_at dksX6_fusedOf_10 3 rfl rfl)
theorem dX6_fusedOf_241 : decode cX6_fusedOf 241 = .ok (.istore 19, 2) := dk_54 19 (dk_at dksX6_fusedOf_10 4 rfl rfl)
theorem dX6_fusedOf_243 : decode cX6_fusedOf 243 = .ok (.lload 17, 2) := dk_22 17 (dk_at dksX6_fusedOf_10 6 rfl rfl)
theorem dX6_fusedOf_245 : decode cX6_fusedOf 245 = .ok (.aload_n 0, 1) := dk_42 (dk_at dksX6_fusedOf_10 8 rfl rfl)
theorem dX6_fusedOf_246 : decode cX6_fusedOf 246 = .ok (.getfield 84, 3) := dk_180 0 84 (dk_at dksX6_fusedOf_10 9 rfl rfl)
theorem dX6_fusedOf_249 : decode cX6_fusedOf 249 = .ok (.i2l, 1) := dk_133 (dk_at dksX6_fusedOf_10 12 rfl rfl)
theorem dX6_fusedOf_250 : decode cX6_fusedOf 250 = .ok (.ladd, 1) := dk_97 (dk_at dksX6_fusedOf_10 13 rfl rfl)
theorem dX6_fusedOf_251 : decode cX6_fusedOf 251 = .ok (.lstore 17, 2) := dk_55 17 (dk_at dksX6_fusedOf_10 14 rfl rfl)
theorem dX6_fusedOf_253 : decode cX6_fusedOf 253 = .ok (.aload_n 0, 1) := dk_42 (dk_at dksX6_fusedOf_10 16 rfl rfl)
theorem dX6_fusedOf_254 : decode cX6_fusedOf 254 = .ok (.getfield 26, 3) := dk_180 0 26 (dk_at dksX6_fusedOf_10 17 rfl rfl)
theorem dX6_fusedOf_257 : decode cX6_fusedOf 257 = .ok (.lload 15, 2) := dk_22 15 (dk_at dksX6_fusedOf_10 20 rfl rfl)
theorem dX6_fusedOf_259 : decode cX6_fusedOf 259 = .ok (.invokestatic 143, 3) := dk_184 0 143 (dk_at dksX6_fusedOf_11 0 rfl rfl)
theorem dX6_fusedOf_262 : decode cX6_fusedOf 262 = .ok (.aload_n 0, 1) := dk_42 (dk_at dksX6_fusedOf_11 3 rfl rfl)
theorem dX6_fusedOf_263 : decode cX6_fusedOf 263 = .ok (.aload_n 0, 1) := dk_42 (dk_at dksX6_fusedOf_11 4 rfl rfl)
theorem dX6_fusedOf_264 : decode cX6_fusedOf 264 = .ok (.getfield 77, 3) := dk_180 0 77 (dk_at dksX6_fusedOf_11 5 rfl rfl)
theorem dX6_fusedOf_267 : decode cX6_fusedOf 267 = .ok (.invokevirtual 290, 3) := dk_182 1 34 (dk_at dksX6_fusedOf_11 8 rfl rfl)
theorem dX6_fusedOf_270 : decode cX6_fusedOf 270 = .ok (.aload_n 0, 1) := dk_42 (dk_at dksX6_fusedOf_11 11 rfl rfl)
theorem dX6_fusedOf_271 : decode cX6_fusedOf 271 = .ok (.iload_n 1, 1) := dk_27 (dk_at dksX6_fusedOf_11 12 rfl rfl)
theorem dX6_fusedOf_272 : decode cX6_fusedOf 272 = .ok (.lload 6, 2) := dk_22 6 (dk_at dksX6_fusedOf_11 13 rfl rfl)
theorem dX6_fusedOf_274 : decode cX6_fusedOf 274 = .ok (.invokevirtual 99, 3) := dk_182 0 99 (dk_at dksX6_fusedOf_11 15 rfl rfl)
theorem dX6_fusedOf_277 : decode cX6_fusedOf 277 = .ok (.aload_n 0, 1) := dk_42 (dk_at dksX6_fusedOf_11 18 rfl rfl)
theorem dX6_fusedOf_278 : decode cX6_fusedOf 278 = .ok (.getfield 84, 3) := dk_180 0 84 (dk_at dksX6_fusedOf_11 19 rfl rfl)
theorem dX6_fusedOf_281 : decode cX6_fusedOf 281 = .ok (.i2l, 1) := dk_133 (dk_at dksX6_fusedOf_11 22 rfl rfl)
theorem dX6_fusedOf_282 : decode cX6_fusedOf 282 = .ok (.lstore 20, 2) := dk_55 20 (dk_at dksX6_fusedOf_12 0 rfl rfl)
theorem dX6_fusedOf_284 : decode cX6_fusedOf 284 = .ok (.aload_n 0, 1) := dk_42 (dk_at dksX6_fusedOf_12 2 rfl rfl)
theorem dX6_fusedOf_285 : decode cX6_fusedOf 285 = .ok (.getfield 29, 3) := dk_180 0 29 (dk_at dksX6_fusedOf_12 3 rfl rfl)
theorem dX6_fusedOf_288 : decode cX6_fusedOf 288 = .ok (.aload_n 0, 1) := dk_42 (dk_at dksX6_fusedOf_12 6 rfl rfl)
theorem dX6_fusedOf_289 : decode cX6_fusedOf 289 = .ok (.getfield 77, 3) := dk_180 0 77 (dk_at dksX6_fusedOf_12 7 rfl rfl)
theorem dX6_fusedOf_292 : decode cX6_fusedOf 292 = .ok (.invokestatic 143, 3) := dk_184 0 143 (dk_at dksX6_fusedOf_12 10 rfl rfl)
theorem dX6_fusedOf_295 : decode cX6_fusedOf 295 = .ok (.lload 17, 2) := dk_22 17 (dk_at dksX6_fusedOf_12 13 rfl rfl)
theorem dX6_fusedOf_297 : decode cX6_fusedOf 297 = .ok (.lload 20, 2) := dk_22 20 (dk_at dksX6_fusedOf_12 15 rfl rfl)
theorem dX6_fusedOf_299 : decode cX6_fusedOf 299 = .ok (.lcmp, 1) := dk_148 (dk_at dksX6_fusedOf_12 17 rfl rfl)
theorem dX6_fusedOf_300 : decode cX6_fusedOf 300 = .ok (.ifCond .ge 8, 3) := dk_156 0 8 (dk_at dksX6_fusedOf_12 18 rfl rfl)
theorem dX6_fusedOf_303 : decode cX6_fusedOf 303 = .ok (.lload 17, 2) := dk_22 17 (dk_at dksX6_fusedOf_12 21 rfl rfl)
theorem dX6_fusedOf_305 : decode cX6_fusedOf 305 = .ok (.goto 5, 3) := dk_167 0 5 (dk_at dksX6_fusedOf_13 0 rfl rfl)
theorem dX6_fusedOf_308 : decode cX6_fusedOf 308 = .ok (.lload 20, 2) := dk_22 20 (dk_at dksX6_fusedOf_13 3 rfl rfl)
theorem dX6_fusedOf_310 : decode cX6_fusedOf 310 = .ok (.lstore 22, 2) := dk_55 22 (dk_at dksX6_fusedOf_13 5 rfl rfl)
theorem dX6_fusedOf_312 : decode cX6_fusedOf 312 = .ok (.aload_n 0, 1) := dk_42 (dk_at dksX6_fusedOf_13 7 rfl rfl)
theorem dX6_fusedOf_313 : decode cX6_fusedOf 313 = .ok (.getfield 77, 3) := dk_180 0 77 (dk_at dksX6_fusedOf_13 8 rfl rfl)
theorem dX6_fusedOf_316 : decode cX6_fusedOf 316 = .ok (.lconst 0, 1) := dk_9 (dk_at dksX6_fusedOf_13 11 rfl rfl)
theorem dX6_fusedOf_317 : decode cX6_fusedOf 317 = .ok (.lcmp, 1) := dk_148 (dk_at dksX6_fusedOf_13 12 rfl rfl)
theorem dX6_fusedOf_318 : decode cX6_fusedOf 318 = .ok (.ifCond .ne 10, 3) := dk_154 0 10 (dk_at dksX6_fusedOf_13 13 rfl rfl)
theorem dX6_fusedOf_321 : decode cX6_fusedOf 321 = .ok (.lload 17, 2) := dk_22 17 (dk_at dksX6_fusedOf_13 16 rfl rfl)
theorem dX6_fusedOf_323 : decode cX6_fusedOf 323 = .ok (.lstore 22, 2) := dk_55 22 (dk_at dksX6_fusedOf_13 18 rfl rfl)
theorem dX6_fusedOf_325 : decode cX6_fusedOf 325 = .ok (.goto 29, 3) := dk_167 0 29 (dk_at dksX6_fusedOf_13 20 rfl rfl)
theorem dX6_fusedOf_328 : decode cX6_fusedOf 328 = .ok (.aload_n 0, 1) := dk_42 (dk_at dksX6_fusedOf_13 23 rfl rfl)
theorem dX6_fusedOf_329 : decode cX6_fusedOf 329 = .ok (.getfield 26, 3) := dk_180 0 26 (dk_at dksX6_fusedOf_14 0 rfl rfl)
theorem dX6_fusedOf_332 : decode cX6_fusedOf 332 = .ok (.lload 17, 2) := dk_22 17 (dk_at dksX6_fusedOf_14 3 rfl rfl)
theorem dX6_fusedOf_334 : decode cX6_fusedOf 334 = .ok (.lload 22, 2) := dk_22 22 (dk_at dksX6_fusedOf_14 5 rfl rfl)
theorem dX6_fusedOf_336 : decode cX6_fusedOf 336 = .ok (.lsub, 1) := dk_101 (dk_at dksX6_fusedOf_14 7 rfl rfl)
theorem dX6_fusedOf_337 : decode cX6_fusedOf 337 = .ok (.l2i, 1) := dk_136 (dk_at dksX6_fusedOf_14 8 rfl rfl)
theorem dX6_fusedOf_338 : decode cX6_fusedOf 338 = .ok (.invokestatic 121, 3) := dk_184 0 121 (dk_at dksX6_fusedOf_14 9 rfl rfl)
theorem dX6_fusedOf_341 : decode cX6_fusedOf 341 = .ok (.aload_n 0, 1) := dk_42 (dk_at dksX6_fusedOf_14 12 rfl rfl)
theorem dX6_fusedOf_342 : decode cX6_fusedOf 342 = .ok (.getfield 29, 3) := dk_180 0 29 (dk_at dksX6_fusedOf_14 13 rfl rfl)
theorem dX6_fusedOf_345 : decode cX6_fusedOf 345 = .ok (.lload 20, 2) := dk_22 20 (dk_at dksX6_fusedOf_14 16 rfl rfl)
theorem dX6_fusedOf_347 : decode cX6_fusedOf 347 = .ok (.lload 22, 2) := dk_22 22 (dk_at dksX6_fusedOf_14 18 rfl rfl)
theorem dX6_fusedOf_349 : decode cX6_fusedOf 349 = .ok (.lsub, 1) := dk_101 (dk_at dksX6_fusedOf_14 20 rfl rfl)
theorem dX6_fusedOf_350 : decode cX6_fusedOf 350 = .ok (.l2i, 1) := dk_136 (dk_at dksX6_fusedOf_14 21 rfl rfl)
theorem dX6_fusedOf_351 : decode cX6_fusedOf 351 = .ok (.invokestatic 121, 3) := dk_184 0 121 (dk_at dksX6_fusedOf_15 0 rfl rfl)
theorem dX6_fusedOf_354 : decode cX6_fusedOf 354 = .ok (.iload 19, 2) := dk_21 19 (dk_at dksX6_fusedOf_15 3 rfl rfl)
theorem dX6_fusedOf_356 : decode cX6_fusedOf 356 = .ok (.aload_n 0, 1) := dk_42 (dk_at dksX6_fusedOf_15 5 rfl rfl)
theorem dX6_fusedOf_357 : decode cX6_fusedOf 357 = .ok (.getfield 67, 3) := dk_180 0 67 (dk_at dksX6_fusedOf_15 6 rfl rfl)
theorem dX6_fusedOf_360 : decode cX6_fusedOf 360 = .ok (.if_icmp .ne 17, 3) := dk_160 0 17 (dk_at dksX6_fusedOf_15 9 rfl rfl)
theorem dX6_fusedOf_363 : decode cX6_fusedOf 363 = .ok (.aload_n 0, 1) := dk_42 (dk_at dksX6_fusedOf_15 12 rfl rfl)
theorem dX6_fusedOf_364 : decode cX6_fusedOf 364 = .ok (.getfield 26, 3) := dk_180 0 26 (dk_at dksX6_fusedOf_15 13 rfl rfl)
theorem dX6_fusedOf_367 : decode cX6_fusedOf 367 = .ok (.aload_n 0, 1) := dk_42 (dk_at dksX6_fusedOf_15 16 rfl rfl)
theorem dX6_fusedOf_368 : decode cX6_fusedOf 368 = .ok (.getfield 29, 3) := dk_180 0 29 (dk_at dksX6_fusedOf_15 17 rfl rfl)
theorem dX6_fusedOf_371 : decode cX6_fusedOf 371 = .ok (.invokestatic 294, 3) := dk_184 1 38 (dk_at dksX6_fusedOf_15 20 rfl rfl)
theorem dX6_fusedOf_374 : decode cX6_fusedOf 374 = .ok (.goto 78, 3) := dk_167 0 78 (dk_at dksX6_fusedOf_16 0 rfl rfl)
theorem dX6_fusedOf_377 : decode cX6_fusedOf 377 = .ok (.aload_n 0, 1) := dk_42 (dk_at dksX6_fusedOf_16 3 rfl rfl)
theorem dX6_fusedOf_378 : decode cX6_fusedOf 378 = .ok (.getfield 26, 3) := dk_180 0 26 (dk_at dksX6_fusedOf_16 4 rfl rfl)
theorem dX6_fusedOf_381 : decode cX6_fusedOf 381 = .ok (.aload_n 0, 1) := dk_42 (dk_at dksX6_fusedOf_16 7 rfl rfl)
theorem dX6_fusedOf_382 : decode cX6_fusedOf 382 = .ok (.getfield 29, 3) := dk_180 0 29 (dk_at dksX6_fusedOf_16 8 rfl rfl)
theorem dX6_fusedOf_385 : decode cX6_fusedOf 385 = .ok (.invokestatic 129, 3) := dk_184 0 129 (dk_at dksX6_fusedOf_16 11 rfl rfl)
theorem dX6_fusedOf_388 : decode cX6_fusedOf 388 = .ok (.istore 24, 2) := dk_54 24 (dk_at dksX6_fusedOf_16 14 rfl rfl)
theorem dX6_fusedOf_390 : decode cX6_fusedOf 390 = .ok (.iload 24, 2) := dk_21 24 (dk_at dksX6_fusedOf_16 16 rfl rfl)
theorem dX6_fusedOf_392 : decode cX6_fusedOf 392 = .ok (.ifCond .ne 5, 3) := dk_154 0 5 (dk_at dksX6_fusedOf_16 18 rfl rfl)
theorem dX6_fusedOf_395 : decode cX6_fusedOf 395 = .ok (.lconst 0, 1) := dk_9 (dk_at dksX6_fusedOf_16 21 rfl rfl)
theorem dX6_fusedOf_396 : decode cX6_fusedOf 396 = .ok (.lreturn, 1) := dk_173 (dk_at dksX6_fusedOf_16 22 rfl rfl)
theorem dX6_fusedOf_397 : decode cX6_fusedOf 397 = .ok (.iload 24, 2) := dk_21 24 (dk_at dksX6_fusedOf_17 0 rfl rfl)
theorem dX6_fusedOf_399 : decode cX6_fusedOf 399 = .ok (.ifCond .ge 42, 3) := dk_156 0 42 (dk_at dksX6_fusedOf_17 2 rfl rfl)
theorem dX6_fusedOf_402 : decode cX6_fusedOf 402 = .ok (.aload_n 0, 1) := dk_42 (dk_at dksX6_fusedOf_17 5 rfl rfl)
theorem dX6_fusedOf_403 : decode cX6_fusedOf 403 = .ok (.getfield 26, 3) := dk_180 0 26 (dk_at dksX6_fusedOf_17 6 rfl rfl)
theorem dX6_fusedOf_406 : decode cX6_fusedOf 406 = .ok (.aload_n 0, 1) := dk_42 (dk_at dksX6_fusedOf_17 9 rfl rfl)
theorem dX6_fusedOf_407 : decode cX6_fusedOf 407 = .ok (.getfield 32, 3) := dk_180 0 32 (dk_at dksX6_fusedOf_17 10 rfl rfl)
theorem dX6_fusedOf_410 : decode cX6_fusedOf 410 = .ok (.invokestatic 125, 3) := dk_184 0 125 (dk_at dksX6_fusedOf_17 13 rfl rfl)
theorem dX6_fusedOf_413 : decode cX6_fusedOf 413 = .ok (.aload_n 0, 1) := dk_42 (dk_at dksX6_fusedOf_17 16 rfl rfl)
theorem dX6_fusedOf_414 : decode cX6_fusedOf 414 = .ok (.getfield 29, 3) := dk_180 0 29 (dk_at dksX6_fusedOf_17 17 rfl rfl)
theorem dX6_fusedOf_417 : decode cX6_fusedOf 417 = .ok (.aload_n 0, 1) := dk_42 (dk_at dksX6_fusedOf_17 20 rfl rfl)
theorem dX6_fusedOf_418 : decode cX6_fusedOf 418 = .ok (.getfield 26, 3) := dk_180 0 26 (dk_at dksX6_fusedOf_17 21 rfl rfl)
theorem dX6_fusedOf_421 : decode cX6_fusedOf 421 = .ok (.invokestatic 125, 3) := dk_184 0 125 (dk_at dksX6_fusedOf_18 0 rfl rfl)
theorem dX6_fusedOf_424 : decode cX6_fusedOf 424 = .ok (.aload_n 0, 1) := dk_42 (dk_at dksX6_fusedOf_18 3 rfl rfl)
theorem dX6_fusedOf_425 : decode cX6_fusedOf 425 = .ok (.getfield 32, 3) := dk_180 0 32 (dk_at dksX6_fusedOf_18 4 rfl rfl)
theorem dX6_fusedOf_428 : decode cX6_fusedOf 428 = .ok (.aload_n 0, 1) := dk_42 (dk_at dksX6_fusedOf_18 7 rfl rfl)
theorem dX6_fusedOf_429 : decode cX6_fusedOf 429 = .ok (.getfield 29, 3) := dk_180 0 29 (dk_at dksX6_fusedOf_18 8 rfl rfl)
theorem dX6_fusedOf_432 : decode cX6_fusedOf 432 = .ok (.invokestatic 125, 3) := dk_184 0 125 (dk_at dksX6_fusedOf_18 11 rfl rfl)
theorem dX6_fusedOf_435 : decode cX6_fusedOf 435 = .ok (.aload_n 0, 1) := dk_42 (dk_at dksX6_fusedOf_18 14 rfl rfl)
theorem dX6_fusedOf_436 : decode cX6_fusedOf 436 = .ok (.getfield 67, 3) := dk_180 0 67 (dk_at dksX6_fusedOf_18 15 rfl rfl)
theorem dX6_fusedOf_439 : decode cX6_fusedOf 439 = .ok (.istore 19, 2) := dk_54 19 (dk_at dksX6_fusedOf_18 18 rfl rfl)
theorem dX6_fusedOf_441 : decode cX6_fusedOf 441 = .ok (.aload_n 0, 1) := dk_42 (dk_at dksX6_fusedOf_18 20 rfl rfl)
theorem dX6_fusedOf_442 : decode cX6_fusedOf 442 = .ok (.getfield 26, 3) := dk_180 0 26 (dk_at dksX6_fusedOf_18 21 rfl rfl)
theorem dX6_fusedOf_445 : decode cX6_fusedOf 445 = .ok (.aload_n 0, 1) := dk_42 (dk_at dksX6_fusedOf_19 0 rfl rfl)
theorem dX6_fusedOf_446 : decode cX6_fusedOf 446 = .ok (.getfield 29, 3) := dk_180 0 29 (dk_at dksX6_fusedOf_19 1 rfl rfl)
theorem dX6_fusedOf_449 : decode cX6_fusedOf 449 = .ok (.invokestatic 133, 3) := dk_184 0 133 (dk_at dksX6_fusedOf_19 4 rfl rfl)
theorem dX6_fusedOf_452 : decode cX6_fusedOf 452 = .ok (.aload_n 0, 1) := dk_42 (dk_at dksX6_fusedOf_19 7 rfl rfl)
theorem dX6_fusedOf_453 : decode cX6_fusedOf 453 = .ok (.getfield 29, 3) := dk_180 0 29 (dk_at dksX6_fusedOf_19 8 rfl rfl)
theorem dX6_fusedOf_456 : decode cX6_fusedOf 456 = .ok (.lconst 1, 1) := dk_10 (dk_at dksX6_fusedOf_19 11 rfl rfl)
theorem dX6_fusedOf_457 : decode cX6_fusedOf 457 = .ok (.invokestatic 143, 3) := dk_184 0 143 (dk_at dksX6_fusedOf_19 12 rfl rfl)
theorem dX6_fusedOf_460 : decode cX6_fusedOf 460 = .ok (.aload_n 0, 1) := dk_42 (dk_at dksX6_fusedOf_19 15 rfl rfl)
theorem dX6_fusedOf_461 : decode cX6_fusedOf 461 = .ok (.iload_n 1, 1) := dk_27 (dk_at dksX6_fusedOf_19 16 rfl rfl)
theorem dX6_fusedOf_462 : decode cX6_fusedOf 462 = .ok (.iload 19, 2) := dk_21 19 (dk_at dksX6_fusedOf_19 17 rfl rfl)
theorem dX6_fusedOf_464 : decode cX6_fusedOf 464 = .ok (.lload 22, 2) := dk_22 22 (dk_at dksX6_fusedOf_19 19 rfl rfl)
theorem dX6_fusedOf_466 : decode cX6_fusedOf 466 = .ok (.invokevirtual 147, 3) := dk_182 0 147 (dk_at dksX6_fusedOf_19 21 rfl rfl)
theorem dX6_fusedOf_469 : decode cX6_fusedOf 469 = .ok (.lreturn, 1) := dk_173 (dk_at dksX6_fusedOf_20 0 rfl rfl)
abbrev cX6_infiniteOf : ByteArray := prog_10_method_61_code
def yX6_infiniteOf : MethodName := ⟨RX6, "infiniteOf", "(IJ)Z"⟩
def dkwX6_infiniteOf_0 : List UInt8 := [42, 27, 32, 182, 0, 99, 42, 180, 0, 74, 172]
abbrev dktX6_infiniteOf_0 : List UInt8 := dkwX6_infiniteOf_0 ++ []
theorem dksX6_infiniteOf_0 : cX6_infiniteOf.data.toList.drop 0 = dktX6_infiniteOf_0 := by decide +kernel
theorem dX6_infiniteOf_0 : decode cX6_infiniteOf 0 = .ok (.aload_n 0, 1) := dk_42 (dk_at dksX6_infiniteOf_0 0 rfl rfl)
theorem dX6_infiniteOf_1 : decode cX6_infiniteOf 1 = .ok (.iload_n 1, 1) := dk_27 (dk_at dksX6_infiniteOf_0 1 rfl rfl)
theorem dX6_infiniteOf_2 : decode cX6_infiniteOf 2 = .ok (.lload_n 2, 1) := dk_32 (dk_at dksX6_infiniteOf_0 2 rfl rfl)
theorem dX6_infiniteOf_3 : decode cX6_infiniteOf 3 = .ok (.invokevirtual 99, 3) := dk_182 0 99 (dk_at dksX6_infiniteOf_0 3 rfl rfl)
theorem dX6_infiniteOf_6 : decode cX6_infiniteOf 6 = .ok (.aload_n 0, 1) := dk_42 (dk_at dksX6_infiniteOf_0 6 rfl rfl)
theorem dX6_infiniteOf_7 : decode cX6_infiniteOf 7 = .ok (.getfield 74, 3) := dk_180 0 74 (dk_at dksX6_infiniteOf_0 7 rfl rfl)
theorem dX6_infiniteOf_10 : decode cX6_infiniteOf 10 = .ok (.ireturn, 1) := dk_172 (dk_at dksX6_infiniteOf_0 10 rfl rfl)
abbrev cX6_timesLong : ByteArray := prog_10_method_62_code
def yX6_timesLong : MethodName := ⟨RX6, "timesLong", "(J)V"⟩
def dkwX6_timesLong_2 : List UInt8 := [180, 0, 26, 42, 180, 0, 32, 184, 1, 38, 177]
abbrev dktX6_timesLong_2 : List UInt8 := dkwX6_timesLong_2 ++ []
def dkwX6_timesLong_1 : List UInt8 := [180, 0, 26, 16, 30, 184, 0, 121, 42, 180, 0, 32, 31, 20, 0, 53, 127, 9, 184, 1, 41, 42]
abbrev dktX6_timesLong_1 : List UInt8 := dkwX6_timesLong_1 ++ dktX6_timesLong_2
def dkwX6_timesLong_0 : List UInt8 := [42, 180, 0, 26, 42, 180, 0, 32, 184, 0, 125, 42, 180, 0, 26, 31, 16, 30, 125, 9, 184, 1, 41, 42]
abbrev dktX6_timesLong_0 : List UInt8 := dkwX6_timesLong_0 ++ dktX6_timesLong_1
theorem dksX6_timesLong_0 : cX6_timesLong.data.toList.drop 0 = dktX6_timesLong_0 := by decide +kernel
theorem dksX6_timesLong_1 : cX6_timesLong.data.toList.drop 24 = dktX6_timesLong_1 := dk_seg dksX6_timesLong_0 24 rfl rfl
theorem dksX6_timesLong_2 : cX6_timesLong.data.toList.drop 46 = dktX6_timesLong_2 := dk_seg dksX6_timesLong_1 22 rfl rfl
theorem dX6_timesLong_0 : decode cX6_timesLong 0 = .ok (.aload_n 0, 1) := dk_42 (dk_at dksX6_timesLong_0 0 rfl rfl)
theorem dX6_timesLong_1 : decode cX6_timesLong 1 = .ok (.getfield 26, 3) := dk_180 0 26 (dk_at dksX6_timesLong_0 1 rfl rfl)
theorem dX6_timesLong_4 : decode cX6_timesLong 4 = .ok (.aload_n 0, 1) := dk_42 (dk_at dksX6_timesLong_0 4 rfl rfl)
theorem dX6_timesLong_5 : decode cX6_timesLong 5 = .ok (.getfield 32, 3) := dk_180 0 32 (dk_at dksX6_timesLong_0 5 rfl rfl)
theorem dX6_timesLong_8 : decode cX6_timesLong 8 = .ok (.invokestatic 125, 3) := dk_184 0 125 (dk_at dksX6_timesLong_0 8 rfl rfl)
theorem dX6_timesLong_11 : decode cX6_timesLong 11 = .ok (.aload_n 0, 1) := dk_42 (dk_at dksX6_timesLong_0 11 rfl rfl)
theorem dX6_timesLong_12 : decode cX6_timesLong 12 = .ok (.getfield 26, 3) := dk_180 0 26 (dk_at dksX6_timesLong_0 12 rfl rfl)
theorem dX6_timesLong_15 : decode cX6_timesLong 15 = .ok (.lload_n 1, 1) := dk_31 (dk_at dksX6_timesLong_0 15 rfl rfl)
theorem dX6_timesLong_16 : decode cX6_timesLong 16 = .ok (.bipush 30, 2) := dk_16 30 (dk_at dksX6_timesLong_0 16 rfl rfl)
theorem dX6_timesLong_18 : decode cX6_timesLong 18 = .ok (.lushr, 1) := dk_125 (dk_at dksX6_timesLong_0 18 rfl rfl)
theorem dX6_timesLong_19 : decode cX6_timesLong 19 = .ok (.lconst 0, 1) := dk_9 (dk_at dksX6_timesLong_0 19 rfl rfl)
theorem dX6_timesLong_20 : decode cX6_timesLong 20 = .ok (.invokestatic 297, 3) := dk_184 1 41 (dk_at dksX6_timesLong_0 20 rfl rfl)
theorem dX6_timesLong_23 : decode cX6_timesLong 23 = .ok (.aload_n 0, 1) := dk_42 (dk_at dksX6_timesLong_0 23 rfl rfl)
theorem dX6_timesLong_24 : decode cX6_timesLong 24 = .ok (.getfield 26, 3) := dk_180 0 26 (dk_at dksX6_timesLong_1 0 rfl rfl)
theorem dX6_timesLong_27 : decode cX6_timesLong 27 = .ok (.bipush 30, 2) := dk_16 30 (dk_at dksX6_timesLong_1 3 rfl rfl)
theorem dX6_timesLong_29 : decode cX6_timesLong 29 = .ok (.invokestatic 121, 3) := dk_184 0 121 (dk_at dksX6_timesLong_1 5 rfl rfl)
theorem dX6_timesLong_32 : decode cX6_timesLong 32 = .ok (.aload_n 0, 1) := dk_42 (dk_at dksX6_timesLong_1 8 rfl rfl)
theorem dX6_timesLong_33 : decode cX6_timesLong 33 = .ok (.getfield 32, 3) := dk_180 0 32 (dk_at dksX6_timesLong_1 9 rfl rfl)
theorem dX6_timesLong_36 : decode cX6_timesLong 36 = .ok (.lload_n 1, 1) := dk_31 (dk_at dksX6_timesLong_1 12 rfl rfl)
theorem dX6_timesLong_37 : decode cX6_timesLong 37 = .ok (.ldc2_w 53, 3) := dk_20 0 53 (dk_at dksX6_timesLong_1 13 rfl rfl)
theorem dX6_timesLong_40 : decode cX6_timesLong 40 = .ok (.land, 1) := dk_127 (dk_at dksX6_timesLong_1 16 rfl rfl)
theorem dX6_timesLong_41 : decode cX6_timesLong 41 = .ok (.lconst 0, 1) := dk_9 (dk_at dksX6_timesLong_1 17 rfl rfl)
theorem dX6_timesLong_42 : decode cX6_timesLong 42 = .ok (.invokestatic 297, 3) := dk_184 1 41 (dk_at dksX6_timesLong_1 18 rfl rfl)
theorem dX6_timesLong_45 : decode cX6_timesLong 45 = .ok (.aload_n 0, 1) := dk_42 (dk_at dksX6_timesLong_1 21 rfl rfl)
theorem dX6_timesLong_46 : decode cX6_timesLong 46 = .ok (.getfield 26, 3) := dk_180 0 26 (dk_at dksX6_timesLong_2 0 rfl rfl)
theorem dX6_timesLong_49 : decode cX6_timesLong 49 = .ok (.aload_n 0, 1) := dk_42 (dk_at dksX6_timesLong_2 3 rfl rfl)
theorem dX6_timesLong_50 : decode cX6_timesLong 50 = .ok (.getfield 32, 3) := dk_180 0 32 (dk_at dksX6_timesLong_2 4 rfl rfl)
theorem dX6_timesLong_53 : decode cX6_timesLong 53 = .ok (.invokestatic 294, 3) := dk_184 1 38 (dk_at dksX6_timesLong_2 7 rfl rfl)
theorem dX6_timesLong_56 : decode cX6_timesLong 56 = .ok (.return_, 1) := dk_177 (dk_at dksX6_timesLong_2 10 rfl rfl)
abbrev cX6_times : ByteArray := prog_10_method_9_code
def yX6_times : MethodName := ⟨RX6, "times", "([JJJ)V"⟩
def dkwX6_times_2 : List UInt8 := [167, 255, 217, 177]
abbrev dktX6_times_2 : List UInt8 := dkwX6_times_2 ++ []
def dkwX6_times_1 : List UInt8 := [55, 8, 42, 21, 7, 22, 8, 20, 0, 53, 127, 80, 22, 8, 16, 30, 125, 55, 5, 132, 7, 1]
abbrev dktX6_times_1 : List UInt8 := dkwX6_times_1 ++ dktX6_times_2
def dkwX6_times_0 : List UInt8 := [33, 55, 5, 3, 54, 7, 21, 7, 17, 0, 170, 162, 0, 37, 42, 21, 7, 47, 31, 105, 22, 5, 97]
abbrev dktX6_times_0 : List UInt8 := dkwX6_times_0 ++ dktX6_times_1
theorem dksX6_times_0 : cX6_times.data.toList.drop 0 = dktX6_times_0 := by decide +kernel
theorem dksX6_times_1 : cX6_times.data.toList.drop 23 = dktX6_times_1 := dk_seg dksX6_times_0 23 rfl rfl
theorem dksX6_times_2 : cX6_times.data.toList.drop 45 = dktX6_times_2 := dk_seg dksX6_times_1 22 rfl rfl
theorem dX6_times_0 : decode cX6_times 0 = .ok (.lload_n 3, 1) := dk_33 (dk_at dksX6_times_0 0 rfl rfl)
theorem dX6_times_1 : decode cX6_times 1 = .ok (.lstore 5, 2) := dk_55 5 (dk_at dksX6_times_0 1 rfl rfl)
theorem dX6_times_3 : decode cX6_times 3 = .ok (.iconst 0, 1) := dk_3 (dk_at dksX6_times_0 3 rfl rfl)
theorem dX6_times_4 : decode cX6_times 4 = .ok (.istore 7, 2) := dk_54 7 (dk_at dksX6_times_0 4 rfl rfl)
theorem dX6_times_6 : decode cX6_times 6 = .ok (.iload 7, 2) := dk_21 7 (dk_at dksX6_times_0 6 rfl rfl)
theorem dX6_times_8 : decode cX6_times 8 = .ok (.sipush 170, 3) := dk_17 0 170 (dk_at dksX6_times_0 8 rfl rfl)
theorem dX6_times_11 : decode cX6_times 11 = .ok (.if_icmp .ge 37, 3) := dk_162 0 37 (dk_at dksX6_times_0 11 rfl rfl)
theorem dX6_times_14 : decode cX6_times 14 = .ok (.aload_n 0, 1) := dk_42 (dk_at dksX6_times_0 14 rfl rfl)
theorem dX6_times_15 : decode cX6_times 15 = .ok (.iload 7, 2) := dk_21 7 (dk_at dksX6_times_0 15 rfl rfl)
theorem dX6_times_17 : decode cX6_times 17 = .ok (.laload, 1) := dk_47 (dk_at dksX6_times_0 17 rfl rfl)
theorem dX6_times_18 : decode cX6_times 18 = .ok (.lload_n 1, 1) := dk_31 (dk_at dksX6_times_0 18 rfl rfl)
theorem dX6_times_19 : decode cX6_times 19 = .ok (.lmul, 1) := dk_105 (dk_at dksX6_times_0 19 rfl rfl)
theorem dX6_times_20 : decode cX6_times 20 = .ok (.lload 5, 2) := dk_22 5 (dk_at dksX6_times_0 20 rfl rfl)
theorem dX6_times_22 : decode cX6_times 22 = .ok (.ladd, 1) := dk_97 (dk_at dksX6_times_0 22 rfl rfl)
theorem dX6_times_23 : decode cX6_times 23 = .ok (.lstore 8, 2) := dk_55 8 (dk_at dksX6_times_1 0 rfl rfl)
theorem dX6_times_25 : decode cX6_times 25 = .ok (.aload_n 0, 1) := dk_42 (dk_at dksX6_times_1 2 rfl rfl)
theorem dX6_times_26 : decode cX6_times 26 = .ok (.iload 7, 2) := dk_21 7 (dk_at dksX6_times_1 3 rfl rfl)
theorem dX6_times_28 : decode cX6_times 28 = .ok (.lload 8, 2) := dk_22 8 (dk_at dksX6_times_1 5 rfl rfl)
theorem dX6_times_30 : decode cX6_times 30 = .ok (.ldc2_w 53, 3) := dk_20 0 53 (dk_at dksX6_times_1 7 rfl rfl)
theorem dX6_times_33 : decode cX6_times 33 = .ok (.land, 1) := dk_127 (dk_at dksX6_times_1 10 rfl rfl)
theorem dX6_times_34 : decode cX6_times 34 = .ok (.lastore, 1) := dk_80 (dk_at dksX6_times_1 11 rfl rfl)
theorem dX6_times_35 : decode cX6_times 35 = .ok (.lload 8, 2) := dk_22 8 (dk_at dksX6_times_1 12 rfl rfl)
theorem dX6_times_37 : decode cX6_times 37 = .ok (.bipush 30, 2) := dk_16 30 (dk_at dksX6_times_1 14 rfl rfl)
theorem dX6_times_39 : decode cX6_times 39 = .ok (.lushr, 1) := dk_125 (dk_at dksX6_times_1 16 rfl rfl)
theorem dX6_times_40 : decode cX6_times 40 = .ok (.lstore 5, 2) := dk_55 5 (dk_at dksX6_times_1 17 rfl rfl)
theorem dX6_times_42 : decode cX6_times 42 = .ok (.iinc 7 1, 3) := dk_132 7 1 (dk_at dksX6_times_1 19 rfl rfl)
theorem dX6_times_45 : decode cX6_times 45 = .ok (.goto (-39), 3) := dk_167 255 217 (dk_at dksX6_times_2 0 rfl rfl)
theorem dX6_times_48 : decode cX6_times 48 = .ok (.return_, 1) := dk_177 (dk_at dksX6_times_2 3 rfl rfl)
abbrev cX6_more : ByteArray := prog_10_method_14_code
def yX6_more : MethodName := ⟨RX6, "more", "([J[J)V"⟩
def dkwX6_more_2 : List UInt8 := [177]
abbrev dktX6_more_2 : List UInt8 := dkwX6_more_2 ++ []
def dkwX6_more_1 : List UInt8 := [55, 5, 42, 21, 4, 22, 5, 20, 0, 53, 127, 80, 22, 5, 16, 30, 125, 65, 132, 4, 1, 167, 255, 216]
abbrev dktX6_more_1 : List UInt8 := dkwX6_more_1 ++ dktX6_more_2
def dkwX6_more_0 : List UInt8 := [9, 65, 3, 54, 4, 21, 4, 17, 0, 170, 162, 0, 38, 42, 21, 4, 47, 43, 21, 4, 47, 97, 32, 97]
abbrev dktX6_more_0 : List UInt8 := dkwX6_more_0 ++ dktX6_more_1
theorem dksX6_more_0 : cX6_more.data.toList.drop 0 = dktX6_more_0 := by decide +kernel
theorem dksX6_more_1 : cX6_more.data.toList.drop 24 = dktX6_more_1 := dk_seg dksX6_more_0 24 rfl rfl
theorem dksX6_more_2 : cX6_more.data.toList.drop 48 = dktX6_more_2 := dk_seg dksX6_more_1 24 rfl rfl
theorem dX6_more_0 : decode cX6_more 0 = .ok (.lconst 0, 1) := dk_9 (dk_at dksX6_more_0 0 rfl rfl)
theorem dX6_more_1 : decode cX6_more 1 = .ok (.lstore_n 2, 1) := dk_65 (dk_at dksX6_more_0 1 rfl rfl)
theorem dX6_more_2 : decode cX6_more 2 = .ok (.iconst 0, 1) := dk_3 (dk_at dksX6_more_0 2 rfl rfl)
theorem dX6_more_3 : decode cX6_more 3 = .ok (.istore 4, 2) := dk_54 4 (dk_at dksX6_more_0 3 rfl rfl)
theorem dX6_more_5 : decode cX6_more 5 = .ok (.iload 4, 2) := dk_21 4 (dk_at dksX6_more_0 5 rfl rfl)
theorem dX6_more_7 : decode cX6_more 7 = .ok (.sipush 170, 3) := dk_17 0 170 (dk_at dksX6_more_0 7 rfl rfl)
theorem dX6_more_10 : decode cX6_more 10 = .ok (.if_icmp .ge 38, 3) := dk_162 0 38 (dk_at dksX6_more_0 10 rfl rfl)
theorem dX6_more_13 : decode cX6_more 13 = .ok (.aload_n 0, 1) := dk_42 (dk_at dksX6_more_0 13 rfl rfl)
theorem dX6_more_14 : decode cX6_more 14 = .ok (.iload 4, 2) := dk_21 4 (dk_at dksX6_more_0 14 rfl rfl)
theorem dX6_more_16 : decode cX6_more 16 = .ok (.laload, 1) := dk_47 (dk_at dksX6_more_0 16 rfl rfl)
theorem dX6_more_17 : decode cX6_more 17 = .ok (.aload_n 1, 1) := dk_43 (dk_at dksX6_more_0 17 rfl rfl)
theorem dX6_more_18 : decode cX6_more 18 = .ok (.iload 4, 2) := dk_21 4 (dk_at dksX6_more_0 18 rfl rfl)
theorem dX6_more_20 : decode cX6_more 20 = .ok (.laload, 1) := dk_47 (dk_at dksX6_more_0 20 rfl rfl)
theorem dX6_more_21 : decode cX6_more 21 = .ok (.ladd, 1) := dk_97 (dk_at dksX6_more_0 21 rfl rfl)
theorem dX6_more_22 : decode cX6_more 22 = .ok (.lload_n 2, 1) := dk_32 (dk_at dksX6_more_0 22 rfl rfl)
theorem dX6_more_23 : decode cX6_more 23 = .ok (.ladd, 1) := dk_97 (dk_at dksX6_more_0 23 rfl rfl)
theorem dX6_more_24 : decode cX6_more 24 = .ok (.lstore 5, 2) := dk_55 5 (dk_at dksX6_more_1 0 rfl rfl)
theorem dX6_more_26 : decode cX6_more 26 = .ok (.aload_n 0, 1) := dk_42 (dk_at dksX6_more_1 2 rfl rfl)
theorem dX6_more_27 : decode cX6_more 27 = .ok (.iload 4, 2) := dk_21 4 (dk_at dksX6_more_1 3 rfl rfl)
theorem dX6_more_29 : decode cX6_more 29 = .ok (.lload 5, 2) := dk_22 5 (dk_at dksX6_more_1 5 rfl rfl)
theorem dX6_more_31 : decode cX6_more 31 = .ok (.ldc2_w 53, 3) := dk_20 0 53 (dk_at dksX6_more_1 7 rfl rfl)
theorem dX6_more_34 : decode cX6_more 34 = .ok (.land, 1) := dk_127 (dk_at dksX6_more_1 10 rfl rfl)
theorem dX6_more_35 : decode cX6_more 35 = .ok (.lastore, 1) := dk_80 (dk_at dksX6_more_1 11 rfl rfl)
theorem dX6_more_36 : decode cX6_more 36 = .ok (.lload 5, 2) := dk_22 5 (dk_at dksX6_more_1 12 rfl rfl)
theorem dX6_more_38 : decode cX6_more 38 = .ok (.bipush 30, 2) := dk_16 30 (dk_at dksX6_more_1 14 rfl rfl)
theorem dX6_more_40 : decode cX6_more 40 = .ok (.lushr, 1) := dk_125 (dk_at dksX6_more_1 16 rfl rfl)
theorem dX6_more_41 : decode cX6_more 41 = .ok (.lstore_n 2, 1) := dk_65 (dk_at dksX6_more_1 17 rfl rfl)
theorem dX6_more_42 : decode cX6_more 42 = .ok (.iinc 4 1, 3) := dk_132 4 1 (dk_at dksX6_more_1 18 rfl rfl)
theorem dX6_more_45 : decode cX6_more 45 = .ok (.goto (-40), 3) := dk_167 255 216 (dk_at dksX6_more_1 21 rfl rfl)
theorem dX6_more_48 : decode cX6_more 48 = .ok (.return_, 1) := dk_177 (dk_at dksX6_more_2 0 rfl rfl)
abbrev cX6_compare : ByteArray := prog_10_method_64_code
def yX6_compare : MethodName := ⟨RX6, "compare", "(IIJJ)I"⟩
def dkwX6_compare_8 : List UInt8 := [4, 167, 0, 4, 3, 54, 11, 21, 11, 153, 0, 7, 4, 167, 0, 4, 3, 172]
abbrev dktX6_compare_8 : List UInt8 := dkwX6_compare_8 ++ []
def dkwX6_compare_7 : List UInt8 := [24, 7, 24, 9, 151, 158, 0, 7, 4, 167, 0, 20, 3, 167, 0, 16, 24, 7, 24, 9, 151, 155, 0, 7]
abbrev dktX6_compare_7 : List UInt8 := dkwX6_compare_7 ++ dktX6_compare_8
def dkwX6_compare_6 : List UInt8 := [160, 0, 19, 24, 7, 24, 9, 152, 157, 0, 7, 4, 167, 0, 41, 3, 167, 0, 37, 27, 7, 160, 0, 19]
abbrev dktX6_compare_6 : List UInt8 := dkwX6_compare_6 ++ dktX6_compare_7
def dkwX6_compare_5 : List UInt8 := [27, 5, 160, 0, 19, 24, 7, 24, 9, 152, 156, 0, 7, 4, 167, 0, 62, 3, 167, 0, 58, 27, 6]
abbrev dktX6_compare_5 : List UInt8 := dkwX6_compare_5 ++ dktX6_compare_6
def dkwX6_compare_4 : List UInt8 := [167, 0, 100, 27, 4, 160, 0, 19, 24, 7, 24, 9, 151, 153, 0, 7, 4, 167, 0, 83, 3, 167, 0, 79]
abbrev dktX6_compare_4 : List UInt8 := dkwX6_compare_4 ++ dktX6_compare_5
def dkwX6_compare_3 : List UInt8 := [167, 0, 4, 5, 172, 27, 154, 0, 19, 24, 7, 24, 9, 151, 154, 0, 7, 4, 167, 0, 104, 3]
abbrev dktX6_compare_3 : List UInt8 := dkwX6_compare_3 ++ dktX6_compare_4
def dkwX6_compare_2 : List UInt8 := [160, 0, 29, 24, 7, 24, 9, 152, 156, 0, 7, 3, 167, 0, 16, 24, 7, 24, 9, 151, 154, 0, 7, 4]
abbrev dktX6_compare_2 : List UInt8 := dkwX6_compare_2 ++ dktX6_compare_3
def dkwX6_compare_1 : List UInt8 := [182, 0, 45, 136, 172, 28, 33, 184, 0, 249, 57, 7, 28, 22, 5, 184, 0, 249, 57, 9, 27, 16, 6]
abbrev dktX6_compare_1 : List UInt8 := dkwX6_compare_1 ++ dktX6_compare_2
def dkwX6_compare_0 : List UInt8 := [42, 182, 0, 42, 27, 155, 0, 16, 27, 16, 6, 163, 0, 10, 28, 184, 0, 151, 154, 0, 11, 42, 16, 9]
abbrev dktX6_compare_0 : List UInt8 := dkwX6_compare_0 ++ dktX6_compare_1
theorem dksX6_compare_0 : cX6_compare.data.toList.drop 0 = dktX6_compare_0 := by decide +kernel
theorem dksX6_compare_1 : cX6_compare.data.toList.drop 24 = dktX6_compare_1 := dk_seg dksX6_compare_0 24 rfl rfl
theorem dksX6_compare_2 : cX6_compare.data.toList.drop 47 = dktX6_compare_2 := dk_seg dksX6_compare_1 23 rfl rfl
theorem dksX6_compare_3 : cX6_compare.data.toList.drop 71 = dktX6_compare_3 := dk_seg dksX6_compare_2 24 rfl rfl
theorem dksX6_compare_4 : cX6_compare.data.toList.drop 93 = dktX6_compare_4 := dk_seg dksX6_compare_3 22 rfl rfl
theorem dksX6_compare_5 : cX6_compare.data.toList.drop 117 = dktX6_compare_5 := dk_seg dksX6_compare_4 24 rfl rfl
theorem dksX6_compare_6 : cX6_compare.data.toList.drop 140 = dktX6_compare_6 := dk_seg dksX6_compare_5 23 rfl rfl
theorem dksX6_compare_7 : cX6_compare.data.toList.drop 164 = dktX6_compare_7 := dk_seg dksX6_compare_6 24 rfl rfl
theorem dksX6_compare_8 : cX6_compare.data.toList.drop 188 = dktX6_compare_8 := dk_seg dksX6_compare_7 24 rfl rfl
theorem dX6_compare_0 : decode cX6_compare 0 = .ok (.aload_n 0, 1) := dk_42 (dk_at dksX6_compare_0 0 rfl rfl)
theorem dX6_compare_1 : decode cX6_compare 1 = .ok (.invokevirtual 42, 3) := dk_182 0 42 (dk_at dksX6_compare_0 1 rfl rfl)
theorem dX6_compare_4 : decode cX6_compare 4 = .ok (.iload_n 1, 1) := dk_27 (dk_at dksX6_compare_0 4 rfl rfl)
theorem dX6_compare_5 : decode cX6_compare 5 = .ok (.ifCond .lt 16, 3) := dk_155 0 16 (dk_at dksX6_compare_0 5 rfl rfl)
theorem dX6_compare_8 : decode cX6_compare 8 = .ok (.iload_n 1, 1) := dk_27 (dk_at dksX6_compare_0 8 rfl rfl)
theorem dX6_compare_9 : decode cX6_compare 9 = .ok (.bipush 6, 2) := dk_16 6 (dk_at dksX6_compare_0 9 rfl rfl)
theorem dX6_compare_11 : decode cX6_compare 11 = .ok (.if_icmp .gt 10, 3) := dk_163 0 10 (dk_at dksX6_compare_0 11 rfl rfl)
theorem dX6_compare_14 : decode cX6_compare 14 = .ok (.iload_n 2, 1) := dk_28 (dk_at dksX6_compare_0 14 rfl rfl)
theorem dX6_compare_15 : decode cX6_compare 15 = .ok (.invokestatic 151, 3) := dk_184 0 151 (dk_at dksX6_compare_0 15 rfl rfl)
theorem dX6_compare_18 : decode cX6_compare 18 = .ok (.ifCond .ne 11, 3) := dk_154 0 11 (dk_at dksX6_compare_0 18 rfl rfl)
theorem dX6_compare_21 : decode cX6_compare 21 = .ok (.aload_n 0, 1) := dk_42 (dk_at dksX6_compare_0 21 rfl rfl)
theorem dX6_compare_22 : decode cX6_compare 22 = .ok (.bipush 9, 2) := dk_16 9 (dk_at dksX6_compare_0 22 rfl rfl)
theorem dX6_compare_24 : decode cX6_compare 24 = .ok (.invokevirtual 45, 3) := dk_182 0 45 (dk_at dksX6_compare_1 0 rfl rfl)
theorem dX6_compare_27 : decode cX6_compare 27 = .ok (.l2i, 1) := dk_136 (dk_at dksX6_compare_1 3 rfl rfl)
theorem dX6_compare_28 : decode cX6_compare 28 = .ok (.ireturn, 1) := dk_172 (dk_at dksX6_compare_1 4 rfl rfl)
theorem dX6_compare_29 : decode cX6_compare 29 = .ok (.iload_n 2, 1) := dk_28 (dk_at dksX6_compare_1 5 rfl rfl)
theorem dX6_compare_30 : decode cX6_compare 30 = .ok (.lload_n 3, 1) := dk_33 (dk_at dksX6_compare_1 6 rfl rfl)
theorem dX6_compare_31 : decode cX6_compare 31 = .ok (.invokestatic 249, 3) := dk_184 0 249 (dk_at dksX6_compare_1 7 rfl rfl)
theorem dX6_compare_34 : decode cX6_compare 34 = .ok (.dstore 7, 2) := dk_57 7 (dk_at dksX6_compare_1 10 rfl rfl)
theorem dX6_compare_36 : decode cX6_compare 36 = .ok (.iload_n 2, 1) := dk_28 (dk_at dksX6_compare_1 12 rfl rfl)
theorem dX6_compare_37 : decode cX6_compare 37 = .ok (.lload 5, 2) := dk_22 5 (dk_at dksX6_compare_1 13 rfl rfl)
theorem dX6_compare_39 : decode cX6_compare 39 = .ok (.invokestatic 249, 3) := dk_184 0 249 (dk_at dksX6_compare_1 15 rfl rfl)
theorem dX6_compare_42 : decode cX6_compare 42 = .ok (.dstore 9, 2) := dk_57 9 (dk_at dksX6_compare_1 18 rfl rfl)
theorem dX6_compare_44 : decode cX6_compare 44 = .ok (.iload_n 1, 1) := dk_27 (dk_at dksX6_compare_1 20 rfl rfl)
theorem dX6_compare_45 : decode cX6_compare 45 = .ok (.bipush 6, 2) := dk_16 6 (dk_at dksX6_compare_1 21 rfl rfl)
theorem dX6_compare_47 : decode cX6_compare 47 = .ok (.if_icmp .ne 29, 3) := dk_160 0 29 (dk_at dksX6_compare_2 0 rfl rfl)
theorem dX6_compare_50 : decode cX6_compare 50 = .ok (.dload 7, 2) := dk_24 7 (dk_at dksX6_compare_2 3 rfl rfl)
theorem dX6_compare_52 : decode cX6_compare 52 = .ok (.dload 9, 2) := dk_24 9 (dk_at dksX6_compare_2 5 rfl rfl)
theorem dX6_compare_54 : decode cX6_compare 54 = .ok (.dcmp .g, 1) := dk_152 (dk_at dksX6_compare_2 7 rfl rfl)
theorem dX6_compare_55 : decode cX6_compare 55 = .ok (.ifCond .ge 7, 3) := dk_156 0 7 (dk_at dksX6_compare_2 8 rfl rfl)
theorem dX6_compare_58 : decode cX6_compare 58 = .ok (.iconst 0, 1) := dk_3 (dk_at dksX6_compare_2 11 rfl rfl)
theorem dX6_compare_59 : decode cX6_compare 59 = .ok (.goto 16, 3) := dk_167 0 16 (dk_at dksX6_compare_2 12 rfl rfl)
theorem dX6_compare_62 : decode cX6_compare 62 = .ok (.dload 7, 2) := dk_24 7 (dk_at dksX6_compare_2 15 rfl rfl)
theorem dX6_compare_64 : decode cX6_compare 64 = .ok (.dload 9, 2) := dk_24 9 (dk_at dksX6_compare_2 17 rfl rfl)
theorem dX6_compare_66 : decode cX6_compare 66 = .ok (.dcmp .l, 1) := dk_151 (dk_at dksX6_compare_2 19 rfl rfl)
theorem dX6_compare_67 : decode cX6_compare 67 = .ok (.ifCond .ne 7, 3) := dk_154 0 7 (dk_at dksX6_compare_2 20 rfl rfl)
theorem dX6_compare_70 : decode cX6_compare 70 = .ok (.iconst 1, 1) := dk_4 (dk_at dksX6_compare_2 23 rfl rfl)
theorem dX6_compare_71 : decode cX6_compare 71 = .ok (.goto 4, 3) := dk_167 0 4 (dk_at dksX6_compare_3 0 rfl rfl)
theorem dX6_compare_74 : decode cX6_compare 74 = .ok (.iconst 2, 1) := dk_5 (dk_at dksX6_compare_3 3 rfl rfl)
theorem dX6_compare_75 : decode cX6_compare 75 = .ok (.ireturn, 1) := dk_172 (dk_at dksX6_compare_3 4 rfl rfl)
theorem dX6_compare_76 : decode cX6_compare 76 = .ok (.iload_n 1, 1) := dk_27 (dk_at dksX6_compare_3 5 rfl rfl)
theorem dX6_compare_77 : decode cX6_compare 77 = .ok (.ifCond .ne 19, 3) := dk_154 0 19 (dk_at dksX6_compare_3 6 rfl rfl)
theorem dX6_compare_80 : decode cX6_compare 80 = .ok (.dload 7, 2) := dk_24 7 (dk_at dksX6_compare_3 9 rfl rfl)
theorem dX6_compare_82 : decode cX6_compare 82 = .ok (.dload 9, 2) := dk_24 9 (dk_at dksX6_compare_3 11 rfl rfl)
theorem dX6_compare_84 : decode cX6_compare 84 = .ok (.dcmp .l, 1) := dk_151 (dk_at dksX6_compare_3 13 rfl rfl)
theorem dX6_compare_85 : decode cX6_compare 85 = .ok (.ifCond .ne 7, 3) := dk_154 0 7 (dk_at dksX6_compare_3 14 rfl rfl)
theorem dX6_compare_88 : decode cX6_compare 88 = .ok (.iconst 1, 1) := dk_4 (dk_at dksX6_compare_3 17 rfl rfl)
theorem dX6_compare_89 : decode cX6_compare 89 = .ok (.goto 104, 3) := dk_167 0 104 (dk_at dksX6_compare_3 18 rfl rfl)
theorem dX6_compare_92 : decode cX6_compare 92 = .ok (.iconst 0, 1) := dk_3 (dk_at dksX6_compare_3 21 rfl rfl)
theorem dX6_compare_93 : decode cX6_compare 93 = .ok (.goto 100, 3) := dk_167 0 100 (dk_at dksX6_compare_4 0 rfl rfl)
theorem dX6_compare_96 : decode cX6_compare 96 = .ok (.iload_n 1, 1) := dk_27 (dk_at dksX6_compare_4 3 rfl rfl)
theorem dX6_compare_97 : decode cX6_compare 97 = .ok (.iconst 1, 1) := dk_4 (dk_at dksX6_compare_4 4 rfl rfl)
theorem dX6_compare_98 : decode cX6_compare 98 = .ok (.if_icmp .ne 19, 3) := dk_160 0 19 (dk_at dksX6_compare_4 5 rfl rfl)
theorem dX6_compare_101 : decode cX6_compare 101 = .ok (.dload 7, 2) := dk_24 7 (dk_at dksX6_compare_4 8 rfl rfl)
theorem dX6_compare_103 : decode cX6_compare 103 = .ok (.dload 9, 2) := dk_24 9 (dk_at dksX6_compare_4 10 rfl rfl)
theorem dX6_compare_105 : decode cX6_compare 105 = .ok (.dcmp .l, 1) := dk_151 (dk_at dksX6_compare_4 12 rfl rfl)
theorem dX6_compare_106 : decode cX6_compare 106 = .ok (.ifCond .eq 7, 3) := dk_153 0 7 (dk_at dksX6_compare_4 13 rfl rfl)
theorem dX6_compare_109 : decode cX6_compare 109 = .ok (.iconst 1, 1) := dk_4 (dk_at dksX6_compare_4 16 rfl rfl)
theorem dX6_compare_110 : decode cX6_compare 110 = .ok (.goto 83, 3) := dk_167 0 83 (dk_at dksX6_compare_4 17 rfl rfl)
theorem dX6_compare_113 : decode cX6_compare 113 = .ok (.iconst 0, 1) := dk_3 (dk_at dksX6_compare_4 20 rfl rfl)
theorem dX6_compare_114 : decode cX6_compare 114 = .ok (.goto 79, 3) := dk_167 0 79 (dk_at dksX6_compare_4 21 rfl rfl)
theorem dX6_compare_117 : decode cX6_compare 117 = .ok (.iload_n 1, 1) := dk_27 (dk_at dksX6_compare_5 0 rfl rfl)
theorem dX6_compare_118 : decode cX6_compare 118 = .ok (.iconst 2, 1) := dk_5 (dk_at dksX6_compare_5 1 rfl rfl)
theorem dX6_compare_119 : decode cX6_compare 119 = .ok (.if_icmp .ne 19, 3) := dk_160 0 19 (dk_at dksX6_compare_5 2 rfl rfl)
theorem dX6_compare_122 : decode cX6_compare 122 = .ok (.dload 7, 2) := dk_24 7 (dk_at dksX6_compare_5 5 rfl rfl)
theorem dX6_compare_124 : decode cX6_compare 124 = .ok (.dload 9, 2) := dk_24 9 (dk_at dksX6_compare_5 7 rfl rfl)
theorem dX6_compare_126 : decode cX6_compare 126 = .ok (.dcmp .g, 1) := dk_152 (dk_at dksX6_compare_5 9 rfl rfl)
theorem dX6_compare_127 : decode cX6_compare 127 = .ok (.ifCond .ge 7, 3) := dk_156 0 7 (dk_at dksX6_compare_5 10 rfl rfl)
theorem dX6_compare_130 : decode cX6_compare 130 = .ok (.iconst 1, 1) := dk_4 (dk_at dksX6_compare_5 13 rfl rfl)
theorem dX6_compare_131 : decode cX6_compare 131 = .ok (.goto 62, 3) := dk_167 0 62 (dk_at dksX6_compare_5 14 rfl rfl)
theorem dX6_compare_134 : decode cX6_compare 134 = .ok (.iconst 0, 1) := dk_3 (dk_at dksX6_compare_5 17 rfl rfl)
theorem dX6_compare_135 : decode cX6_compare 135 = .ok (.goto 58, 3) := dk_167 0 58 (dk_at dksX6_compare_5 18 rfl rfl)
theorem dX6_compare_138 : decode cX6_compare 138 = .ok (.iload_n 1, 1) := dk_27 (dk_at dksX6_compare_5 21 rfl rfl)
theorem dX6_compare_139 : decode cX6_compare 139 = .ok (.iconst 3, 1) := dk_6 (dk_at dksX6_compare_5 22 rfl rfl)
theorem dX6_compare_140 : decode cX6_compare 140 = .ok (.if_icmp .ne 19, 3) := dk_160 0 19 (dk_at dksX6_compare_6 0 rfl rfl)
theorem dX6_compare_143 : decode cX6_compare 143 = .ok (.dload 7, 2) := dk_24 7 (dk_at dksX6_compare_6 3 rfl rfl)
theorem dX6_compare_145 : decode cX6_compare 145 = .ok (.dload 9, 2) := dk_24 9 (dk_at dksX6_compare_6 5 rfl rfl)
theorem dX6_compare_147 : decode cX6_compare 147 = .ok (.dcmp .g, 1) := dk_152 (dk_at dksX6_compare_6 7 rfl rfl)
theorem dX6_compare_148 : decode cX6_compare 148 = .ok (.ifCond .gt 7, 3) := dk_157 0 7 (dk_at dksX6_compare_6 8 rfl rfl)
theorem dX6_compare_151 : decode cX6_compare 151 = .ok (.iconst 1, 1) := dk_4 (dk_at dksX6_compare_6 11 rfl rfl)
theorem dX6_compare_152 : decode cX6_compare 152 = .ok (.goto 41, 3) := dk_167 0 41 (dk_at dksX6_compare_6 12 rfl rfl)
theorem dX6_compare_155 : decode cX6_compare 155 = .ok (.iconst 0, 1) := dk_3 (dk_at dksX6_compare_6 15 rfl rfl)
theorem dX6_compare_156 : decode cX6_compare 156 = .ok (.goto 37, 3) := dk_167 0 37 (dk_at dksX6_compare_6 16 rfl rfl)
theorem dX6_compare_159 : decode cX6_compare 159 = .ok (.iload_n 1, 1) := dk_27 (dk_at dksX6_compare_6 19 rfl rfl)
theorem dX6_compare_160 : decode cX6_compare 160 = .ok (.iconst 4, 1) := dk_7 (dk_at dksX6_compare_6 20 rfl rfl)
theorem dX6_compare_161 : decode cX6_compare 161 = .ok (.if_icmp .ne 19, 3) := dk_160 0 19 (dk_at dksX6_compare_6 21 rfl rfl)
theorem dX6_compare_164 : decode cX6_compare 164 = .ok (.dload 7, 2) := dk_24 7 (dk_at dksX6_compare_7 0 rfl rfl)
theorem dX6_compare_166 : decode cX6_compare 166 = .ok (.dload 9, 2) := dk_24 9 (dk_at dksX6_compare_7 2 rfl rfl)
theorem dX6_compare_168 : decode cX6_compare 168 = .ok (.dcmp .l, 1) := dk_151 (dk_at dksX6_compare_7 4 rfl rfl)
theorem dX6_compare_169 : decode cX6_compare 169 = .ok (.ifCond .le 7, 3) := dk_158 0 7 (dk_at dksX6_compare_7 5 rfl rfl)
theorem dX6_compare_172 : decode cX6_compare 172 = .ok (.iconst 1, 1) := dk_4 (dk_at dksX6_compare_7 8 rfl rfl)
theorem dX6_compare_173 : decode cX6_compare 173 = .ok (.goto 20, 3) := dk_167 0 20 (dk_at dksX6_compare_7 9 rfl rfl)
theorem dX6_compare_176 : decode cX6_compare 176 = .ok (.iconst 0, 1) := dk_3 (dk_at dksX6_compare_7 12 rfl rfl)
theorem dX6_compare_177 : decode cX6_compare 177 = .ok (.goto 16, 3) := dk_167 0 16 (dk_at dksX6_compare_7 13 rfl rfl)
theorem dX6_compare_180 : decode cX6_compare 180 = .ok (.dload 7, 2) := dk_24 7 (dk_at dksX6_compare_7 16 rfl rfl)
theorem dX6_compare_182 : decode cX6_compare 182 = .ok (.dload 9, 2) := dk_24 9 (dk_at dksX6_compare_7 18 rfl rfl)
theorem dX6_compare_184 : decode cX6_compare 184 = .ok (.dcmp .l, 1) := dk_151 (dk_at dksX6_compare_7 20 rfl rfl)
theorem dX6_compare_185 : decode cX6_compare 185 = .ok (.ifCond .lt 7, 3) := dk_155 0 7 (dk_at dksX6_compare_7 21 rfl rfl)
theorem dX6_compare_188 : decode cX6_compare 188 = .ok (.iconst 1, 1) := dk_4 (dk_at dksX6_compare_8 0 rfl rfl)
theorem dX6_compare_189 : decode cX6_compare 189 = .ok (.goto 4, 3) := dk_167 0 4 (dk_at dksX6_compare_8 1 rfl rfl)
theorem dX6_compare_192 : decode cX6_compare 192 = .ok (.iconst 0, 1) := dk_3 (dk_at dksX6_compare_8 4 rfl rfl)
theorem dX6_compare_193 : decode cX6_compare 193 = .ok (.istore 11, 2) := dk_54 11 (dk_at dksX6_compare_8 5 rfl rfl)
theorem dX6_compare_195 : decode cX6_compare 195 = .ok (.iload 11, 2) := dk_21 11 (dk_at dksX6_compare_8 7 rfl rfl)
theorem dX6_compare_197 : decode cX6_compare 197 = .ok (.ifCond .eq 7, 3) := dk_153 0 7 (dk_at dksX6_compare_8 9 rfl rfl)
theorem dX6_compare_200 : decode cX6_compare 200 = .ok (.iconst 1, 1) := dk_4 (dk_at dksX6_compare_8 12 rfl rfl)
theorem dX6_compare_201 : decode cX6_compare 201 = .ok (.goto 4, 3) := dk_167 0 4 (dk_at dksX6_compare_8 13 rfl rfl)
theorem dX6_compare_204 : decode cX6_compare 204 = .ok (.iconst 0, 1) := dk_3 (dk_at dksX6_compare_8 16 rfl rfl)
theorem dX6_compare_205 : decode cX6_compare 205 = .ok (.ireturn, 1) := dk_172 (dk_at dksX6_compare_8 17 rfl rfl)
abbrev cX6_power : ByteArray := prog_10_method_66_code
def yX6_power : MethodName := ⟨RX6, "power", "(IJI)J"⟩
def dkwX6_power_7 : List UInt8 := [182, 1, 24, 167, 0, 5, 22, 9, 173]
abbrev dktX6_power_7 : List UInt8 := dkwX6_power_7 ++ []
def dkwX6_power_6 : List UInt8 := [167, 0, 5, 22, 9, 55, 9, 167, 255, 201, 21, 4, 156, 0, 18, 42, 6, 27, 27, 184, 1, 49, 22, 9]
abbrev dktX6_power_6 : List UInt8 := dkwX6_power_6 ++ dktX6_power_7
def dkwX6_power_5 : List UInt8 := [55, 5, 22, 5, 20, 0, 59, 113, 10, 148, 154, 0, 16, 42, 5, 27, 22, 9, 22, 7, 182, 1, 24]
abbrev dktX6_power_5 : List UInt8 := dkwX6_power_5 ++ dktX6_power_6
def dkwX6_power_4 : List UInt8 := [10, 148, 158, 0, 54, 42, 5, 27, 22, 7, 22, 7, 182, 1, 24, 55, 7, 22, 5, 20, 0, 59, 109]
abbrev dktX6_power_4 : List UInt8 := dkwX6_power_4 ++ dktX6_power_5
def dkwX6_power_3 : List UInt8 := [22, 7, 182, 1, 24, 55, 7, 22, 5, 20, 0, 59, 109, 55, 5, 167, 255, 225, 22, 7, 55, 9, 22, 5]
abbrev dktX6_power_3 : List UInt8 := dkwX6_power_3 ++ dktX6_power_4
def dkwX6_power_2 : List UInt8 := [42, 27, 32, 182, 0, 167, 55, 7, 22, 5, 20, 0, 59, 113, 9, 148, 154, 0, 26, 42, 5, 27, 22, 7]
abbrev dktX6_power_2 : List UInt8 := dkwX6_power_2 ++ dktX6_power_3
def dkwX6_power_1 : List UInt8 := [21, 4, 133, 117, 167, 0, 6, 21, 4, 133, 55, 5, 22, 5, 9, 148, 154, 0, 8, 27, 184, 1, 49, 173]
abbrev dktX6_power_1 : List UInt8 := dkwX6_power_1 ++ dktX6_power_2
def dkwX6_power_0 : List UInt8 := [42, 182, 0, 42, 27, 184, 0, 151, 154, 0, 10, 42, 16, 9, 182, 0, 45, 173, 21, 4, 156, 0, 10]
abbrev dktX6_power_0 : List UInt8 := dkwX6_power_0 ++ dktX6_power_1
theorem dksX6_power_0 : cX6_power.data.toList.drop 0 = dktX6_power_0 := by decide +kernel
theorem dksX6_power_1 : cX6_power.data.toList.drop 23 = dktX6_power_1 := dk_seg dksX6_power_0 23 rfl rfl
theorem dksX6_power_2 : cX6_power.data.toList.drop 47 = dktX6_power_2 := dk_seg dksX6_power_1 24 rfl rfl
theorem dksX6_power_3 : cX6_power.data.toList.drop 71 = dktX6_power_3 := dk_seg dksX6_power_2 24 rfl rfl
theorem dksX6_power_4 : cX6_power.data.toList.drop 95 = dktX6_power_4 := dk_seg dksX6_power_3 24 rfl rfl
theorem dksX6_power_5 : cX6_power.data.toList.drop 118 = dktX6_power_5 := dk_seg dksX6_power_4 23 rfl rfl
theorem dksX6_power_6 : cX6_power.data.toList.drop 141 = dktX6_power_6 := dk_seg dksX6_power_5 23 rfl rfl
theorem dksX6_power_7 : cX6_power.data.toList.drop 165 = dktX6_power_7 := dk_seg dksX6_power_6 24 rfl rfl
theorem dX6_power_0 : decode cX6_power 0 = .ok (.aload_n 0, 1) := dk_42 (dk_at dksX6_power_0 0 rfl rfl)
theorem dX6_power_1 : decode cX6_power 1 = .ok (.invokevirtual 42, 3) := dk_182 0 42 (dk_at dksX6_power_0 1 rfl rfl)
theorem dX6_power_4 : decode cX6_power 4 = .ok (.iload_n 1, 1) := dk_27 (dk_at dksX6_power_0 4 rfl rfl)
theorem dX6_power_5 : decode cX6_power 5 = .ok (.invokestatic 151, 3) := dk_184 0 151 (dk_at dksX6_power_0 5 rfl rfl)
theorem dX6_power_8 : decode cX6_power 8 = .ok (.ifCond .ne 10, 3) := dk_154 0 10 (dk_at dksX6_power_0 8 rfl rfl)
theorem dX6_power_11 : decode cX6_power 11 = .ok (.aload_n 0, 1) := dk_42 (dk_at dksX6_power_0 11 rfl rfl)
theorem dX6_power_12 : decode cX6_power 12 = .ok (.bipush 9, 2) := dk_16 9 (dk_at dksX6_power_0 12 rfl rfl)
theorem dX6_power_14 : decode cX6_power 14 = .ok (.invokevirtual 45, 3) := dk_182 0 45 (dk_at dksX6_power_0 14 rfl rfl)
theorem dX6_power_17 : decode cX6_power 17 = .ok (.lreturn, 1) := dk_173 (dk_at dksX6_power_0 17 rfl rfl)
theorem dX6_power_18 : decode cX6_power 18 = .ok (.iload 4, 2) := dk_21 4 (dk_at dksX6_power_0 18 rfl rfl)
theorem dX6_power_20 : decode cX6_power 20 = .ok (.ifCond .ge 10, 3) := dk_156 0 10 (dk_at dksX6_power_0 20 rfl rfl)
theorem dX6_power_23 : decode cX6_power 23 = .ok (.iload 4, 2) := dk_21 4 (dk_at dksX6_power_1 0 rfl rfl)
theorem dX6_power_25 : decode cX6_power 25 = .ok (.i2l, 1) := dk_133 (dk_at dksX6_power_1 2 rfl rfl)
theorem dX6_power_26 : decode cX6_power 26 = .ok (.lneg, 1) := dk_117 (dk_at dksX6_power_1 3 rfl rfl)
theorem dX6_power_27 : decode cX6_power 27 = .ok (.goto 6, 3) := dk_167 0 6 (dk_at dksX6_power_1 4 rfl rfl)
theorem dX6_power_30 : decode cX6_power 30 = .ok (.iload 4, 2) := dk_21 4 (dk_at dksX6_power_1 7 rfl rfl)
theorem dX6_power_32 : decode cX6_power 32 = .ok (.i2l, 1) := dk_133 (dk_at dksX6_power_1 9 rfl rfl)
theorem dX6_power_33 : decode cX6_power 33 = .ok (.lstore 5, 2) := dk_55 5 (dk_at dksX6_power_1 10 rfl rfl)
theorem dX6_power_35 : decode cX6_power 35 = .ok (.lload 5, 2) := dk_22 5 (dk_at dksX6_power_1 12 rfl rfl)
theorem dX6_power_37 : decode cX6_power 37 = .ok (.lconst 0, 1) := dk_9 (dk_at dksX6_power_1 14 rfl rfl)
theorem dX6_power_38 : decode cX6_power 38 = .ok (.lcmp, 1) := dk_148 (dk_at dksX6_power_1 15 rfl rfl)
theorem dX6_power_39 : decode cX6_power 39 = .ok (.ifCond .ne 8, 3) := dk_154 0 8 (dk_at dksX6_power_1 16 rfl rfl)
theorem dX6_power_42 : decode cX6_power 42 = .ok (.iload_n 1, 1) := dk_27 (dk_at dksX6_power_1 19 rfl rfl)
theorem dX6_power_43 : decode cX6_power 43 = .ok (.invokestatic 305, 3) := dk_184 1 49 (dk_at dksX6_power_1 20 rfl rfl)
theorem dX6_power_46 : decode cX6_power 46 = .ok (.lreturn, 1) := dk_173 (dk_at dksX6_power_1 23 rfl rfl)
theorem dX6_power_47 : decode cX6_power 47 = .ok (.aload_n 0, 1) := dk_42 (dk_at dksX6_power_2 0 rfl rfl)
theorem dX6_power_48 : decode cX6_power 48 = .ok (.iload_n 1, 1) := dk_27 (dk_at dksX6_power_2 1 rfl rfl)
theorem dX6_power_49 : decode cX6_power 49 = .ok (.lload_n 2, 1) := dk_32 (dk_at dksX6_power_2 2 rfl rfl)
theorem dX6_power_50 : decode cX6_power 50 = .ok (.invokevirtual 167, 3) := dk_182 0 167 (dk_at dksX6_power_2 3 rfl rfl)
theorem dX6_power_53 : decode cX6_power 53 = .ok (.lstore 7, 2) := dk_55 7 (dk_at dksX6_power_2 6 rfl rfl)
theorem dX6_power_55 : decode cX6_power 55 = .ok (.lload 5, 2) := dk_22 5 (dk_at dksX6_power_2 8 rfl rfl)
theorem dX6_power_57 : decode cX6_power 57 = .ok (.ldc2_w 59, 3) := dk_20 0 59 (dk_at dksX6_power_2 10 rfl rfl)
theorem dX6_power_60 : decode cX6_power 60 = .ok (.lrem, 1) := dk_113 (dk_at dksX6_power_2 13 rfl rfl)
theorem dX6_power_61 : decode cX6_power 61 = .ok (.lconst 0, 1) := dk_9 (dk_at dksX6_power_2 14 rfl rfl)
theorem dX6_power_62 : decode cX6_power 62 = .ok (.lcmp, 1) := dk_148 (dk_at dksX6_power_2 15 rfl rfl)
theorem dX6_power_63 : decode cX6_power 63 = .ok (.ifCond .ne 26, 3) := dk_154 0 26 (dk_at dksX6_power_2 16 rfl rfl)
theorem dX6_power_66 : decode cX6_power 66 = .ok (.aload_n 0, 1) := dk_42 (dk_at dksX6_power_2 19 rfl rfl)
theorem dX6_power_67 : decode cX6_power 67 = .ok (.iconst 2, 1) := dk_5 (dk_at dksX6_power_2 20 rfl rfl)
theorem dX6_power_68 : decode cX6_power 68 = .ok (.iload_n 1, 1) := dk_27 (dk_at dksX6_power_2 21 rfl rfl)
theorem dX6_power_69 : decode cX6_power 69 = .ok (.lload 7, 2) := dk_22 7 (dk_at dksX6_power_2 22 rfl rfl)
theorem dX6_power_71 : decode cX6_power 71 = .ok (.lload 7, 2) := dk_22 7 (dk_at dksX6_power_3 0 rfl rfl)
theorem dX6_power_73 : decode cX6_power 73 = .ok (.invokevirtual 280, 3) := dk_182 1 24 (dk_at dksX6_power_3 2 rfl rfl)
theorem dX6_power_76 : decode cX6_power 76 = .ok (.lstore 7, 2) := dk_55 7 (dk_at dksX6_power_3 5 rfl rfl)
theorem dX6_power_78 : decode cX6_power 78 = .ok (.lload 5, 2) := dk_22 5 (dk_at dksX6_power_3 7 rfl rfl)
theorem dX6_power_80 : decode cX6_power 80 = .ok (.ldc2_w 59, 3) := dk_20 0 59 (dk_at dksX6_power_3 9 rfl rfl)
theorem dX6_power_83 : decode cX6_power 83 = .ok (.ldiv, 1) := dk_109 (dk_at dksX6_power_3 12 rfl rfl)
theorem dX6_power_84 : decode cX6_power 84 = .ok (.lstore 5, 2) := dk_55 5 (dk_at dksX6_power_3 13 rfl rfl)
theorem dX6_power_86 : decode cX6_power 86 = .ok (.goto (-31), 3) := dk_167 255 225 (dk_at dksX6_power_3 15 rfl rfl)
theorem dX6_power_89 : decode cX6_power 89 = .ok (.lload 7, 2) := dk_22 7 (dk_at dksX6_power_3 18 rfl rfl)
theorem dX6_power_91 : decode cX6_power 91 = .ok (.lstore 9, 2) := dk_55 9 (dk_at dksX6_power_3 20 rfl rfl)
theorem dX6_power_93 : decode cX6_power 93 = .ok (.lload 5, 2) := dk_22 5 (dk_at dksX6_power_3 22 rfl rfl)
theorem dX6_power_95 : decode cX6_power 95 = .ok (.lconst 1, 1) := dk_10 (dk_at dksX6_power_4 0 rfl rfl)
theorem dX6_power_96 : decode cX6_power 96 = .ok (.lcmp, 1) := dk_148 (dk_at dksX6_power_4 1 rfl rfl)
theorem dX6_power_97 : decode cX6_power 97 = .ok (.ifCond .le 54, 3) := dk_158 0 54 (dk_at dksX6_power_4 2 rfl rfl)
theorem dX6_power_100 : decode cX6_power 100 = .ok (.aload_n 0, 1) := dk_42 (dk_at dksX6_power_4 5 rfl rfl)
theorem dX6_power_101 : decode cX6_power 101 = .ok (.iconst 2, 1) := dk_5 (dk_at dksX6_power_4 6 rfl rfl)
theorem dX6_power_102 : decode cX6_power 102 = .ok (.iload_n 1, 1) := dk_27 (dk_at dksX6_power_4 7 rfl rfl)
theorem dX6_power_103 : decode cX6_power 103 = .ok (.lload 7, 2) := dk_22 7 (dk_at dksX6_power_4 8 rfl rfl)
theorem dX6_power_105 : decode cX6_power 105 = .ok (.lload 7, 2) := dk_22 7 (dk_at dksX6_power_4 10 rfl rfl)
theorem dX6_power_107 : decode cX6_power 107 = .ok (.invokevirtual 280, 3) := dk_182 1 24 (dk_at dksX6_power_4 12 rfl rfl)
theorem dX6_power_110 : decode cX6_power 110 = .ok (.lstore 7, 2) := dk_55 7 (dk_at dksX6_power_4 15 rfl rfl)
theorem dX6_power_112 : decode cX6_power 112 = .ok (.lload 5, 2) := dk_22 5 (dk_at dksX6_power_4 17 rfl rfl)
theorem dX6_power_114 : decode cX6_power 114 = .ok (.ldc2_w 59, 3) := dk_20 0 59 (dk_at dksX6_power_4 19 rfl rfl)
theorem dX6_power_117 : decode cX6_power 117 = .ok (.ldiv, 1) := dk_109 (dk_at dksX6_power_4 22 rfl rfl)
theorem dX6_power_118 : decode cX6_power 118 = .ok (.lstore 5, 2) := dk_55 5 (dk_at dksX6_power_5 0 rfl rfl)
theorem dX6_power_120 : decode cX6_power 120 = .ok (.lload 5, 2) := dk_22 5 (dk_at dksX6_power_5 2 rfl rfl)
theorem dX6_power_122 : decode cX6_power 122 = .ok (.ldc2_w 59, 3) := dk_20 0 59 (dk_at dksX6_power_5 4 rfl rfl)
theorem dX6_power_125 : decode cX6_power 125 = .ok (.lrem, 1) := dk_113 (dk_at dksX6_power_5 7 rfl rfl)
theorem dX6_power_126 : decode cX6_power 126 = .ok (.lconst 1, 1) := dk_10 (dk_at dksX6_power_5 8 rfl rfl)
theorem dX6_power_127 : decode cX6_power 127 = .ok (.lcmp, 1) := dk_148 (dk_at dksX6_power_5 9 rfl rfl)
theorem dX6_power_128 : decode cX6_power 128 = .ok (.ifCond .ne 16, 3) := dk_154 0 16 (dk_at dksX6_power_5 10 rfl rfl)
theorem dX6_power_131 : decode cX6_power 131 = .ok (.aload_n 0, 1) := dk_42 (dk_at dksX6_power_5 13 rfl rfl)
theorem dX6_power_132 : decode cX6_power 132 = .ok (.iconst 2, 1) := dk_5 (dk_at dksX6_power_5 14 rfl rfl)
theorem dX6_power_133 : decode cX6_power 133 = .ok (.iload_n 1, 1) := dk_27 (dk_at dksX6_power_5 15 rfl rfl)
theorem dX6_power_134 : decode cX6_power 134 = .ok (.lload 9, 2) := dk_22 9 (dk_at dksX6_power_5 16 rfl rfl)
theorem dX6_power_136 : decode cX6_power 136 = .ok (.lload 7, 2) := dk_22 7 (dk_at dksX6_power_5 18 rfl rfl)
theorem dX6_power_138 : decode cX6_power 138 = .ok (.invokevirtual 280, 3) := dk_182 1 24 (dk_at dksX6_power_5 20 rfl rfl)
theorem dX6_power_141 : decode cX6_power 141 = .ok (.goto 5, 3) := dk_167 0 5 (dk_at dksX6_power_6 0 rfl rfl)
theorem dX6_power_144 : decode cX6_power 144 = .ok (.lload 9, 2) := dk_22 9 (dk_at dksX6_power_6 3 rfl rfl)
theorem dX6_power_146 : decode cX6_power 146 = .ok (.lstore 9, 2) := dk_55 9 (dk_at dksX6_power_6 5 rfl rfl)
theorem dX6_power_148 : decode cX6_power 148 = .ok (.goto (-55), 3) := dk_167 255 201 (dk_at dksX6_power_6 7 rfl rfl)
theorem dX6_power_151 : decode cX6_power 151 = .ok (.iload 4, 2) := dk_21 4 (dk_at dksX6_power_6 10 rfl rfl)
theorem dX6_power_153 : decode cX6_power 153 = .ok (.ifCond .ge 18, 3) := dk_156 0 18 (dk_at dksX6_power_6 12 rfl rfl)
theorem dX6_power_156 : decode cX6_power 156 = .ok (.aload_n 0, 1) := dk_42 (dk_at dksX6_power_6 15 rfl rfl)
theorem dX6_power_157 : decode cX6_power 157 = .ok (.iconst 3, 1) := dk_6 (dk_at dksX6_power_6 16 rfl rfl)
theorem dX6_power_158 : decode cX6_power 158 = .ok (.iload_n 1, 1) := dk_27 (dk_at dksX6_power_6 17 rfl rfl)
theorem dX6_power_159 : decode cX6_power 159 = .ok (.iload_n 1, 1) := dk_27 (dk_at dksX6_power_6 18 rfl rfl)
theorem dX6_power_160 : decode cX6_power 160 = .ok (.invokestatic 305, 3) := dk_184 1 49 (dk_at dksX6_power_6 19 rfl rfl)
theorem dX6_power_163 : decode cX6_power 163 = .ok (.lload 9, 2) := dk_22 9 (dk_at dksX6_power_6 22 rfl rfl)
theorem dX6_power_165 : decode cX6_power 165 = .ok (.invokevirtual 280, 3) := dk_182 1 24 (dk_at dksX6_power_7 0 rfl rfl)
theorem dX6_power_168 : decode cX6_power 168 = .ok (.goto 5, 3) := dk_167 0 5 (dk_at dksX6_power_7 3 rfl rfl)
theorem dX6_power_171 : decode cX6_power 171 = .ok (.lload 9, 2) := dk_22 9 (dk_at dksX6_power_7 6 rfl rfl)
theorem dX6_power_173 : decode cX6_power 173 = .ok (.lreturn, 1) := dk_173 (dk_at dksX6_power_7 8 rfl rfl)
abbrev cX6_oneOf : ByteArray := prog_10_method_65_code
def yX6_oneOf : MethodName := ⟨RX6, "oneOf", "(I)J"⟩
def dkwX6_oneOf_0 : List UInt8 := [26, 154, 0, 10, 12, 184, 0, 228, 167, 0, 7, 15, 184, 0, 234, 173]
abbrev dktX6_oneOf_0 : List UInt8 := dkwX6_oneOf_0 ++ []
theorem dksX6_oneOf_0 : cX6_oneOf.data.toList.drop 0 = dktX6_oneOf_0 := by decide +kernel
theorem dX6_oneOf_0 : decode cX6_oneOf 0 = .ok (.iload_n 0, 1) := dk_26 (dk_at dksX6_oneOf_0 0 rfl rfl)
theorem dX6_oneOf_1 : decode cX6_oneOf 1 = .ok (.ifCond .ne 10, 3) := dk_154 0 10 (dk_at dksX6_oneOf_0 1 rfl rfl)
theorem dX6_oneOf_4 : decode cX6_oneOf 4 = .ok (.fconst 1, 1) := dk_12 (dk_at dksX6_oneOf_0 4 rfl rfl)
theorem dX6_oneOf_5 : decode cX6_oneOf 5 = .ok (.invokestatic 228, 3) := dk_184 0 228 (dk_at dksX6_oneOf_0 5 rfl rfl)
theorem dX6_oneOf_8 : decode cX6_oneOf 8 = .ok (.goto 7, 3) := dk_167 0 7 (dk_at dksX6_oneOf_0 8 rfl rfl)
theorem dX6_oneOf_11 : decode cX6_oneOf 11 = .ok (.dconst 1, 1) := dk_15 (dk_at dksX6_oneOf_0 11 rfl rfl)
theorem dX6_oneOf_12 : decode cX6_oneOf 12 = .ok (.invokestatic 234, 3) := dk_184 0 234 (dk_at dksX6_oneOf_0 12 rfl rfl)
theorem dX6_oneOf_15 : decode cX6_oneOf 15 = .ok (.lreturn, 1) := dk_173 (dk_at dksX6_oneOf_0 15 rfl rfl)
abbrev cX6_whole : ByteArray := prog_10_method_68_code
def yX6_whole : MethodName := ⟨RX6, "whole", "(IJI)J"⟩
def dkwX6_whole_7 : List UInt8 := [42, 180, 0, 77, 42, 180, 0, 84, 121, 173]
abbrev dktX6_whole_7 : List UInt8 := dkwX6_whole_7 ++ []
def dkwX6_whole_6 : List UInt8 := [182, 0, 45, 173, 42, 180, 0, 67, 153, 0, 16, 42, 180, 0, 77, 42, 180, 0, 84, 121, 117, 167, 0, 12]
abbrev dktX6_whole_6 : List UInt8 := dkwX6_whole_6 ++ dktX6_whole_7
def dkwX6_whole_5 : List UInt8 := [160, 0, 26, 42, 180, 0, 67, 153, 0, 12, 42, 180, 0, 77, 10, 148, 153, 0, 10, 42, 16, 8]
abbrev dktX6_whole_5 : List UInt8 := dkwX6_whole_5 ++ dktX6_whole_6
def dkwX6_whole_4 : List UInt8 := [180, 0, 77, 184, 1, 58, 42, 180, 0, 84, 96, 54, 5, 21, 5, 16, 64, 163, 0, 26, 21, 5, 16, 64]
abbrev dktX6_whole_4 : List UInt8 := dkwX6_whole_4 ++ dktX6_whole_5
def dkwX6_whole_3 : List UInt8 := [55, 5, 42, 180, 0, 67, 153, 0, 9, 22, 5, 117, 167, 0, 5, 22, 5, 173, 42, 182, 1, 55, 42]
abbrev dktX6_whole_3 : List UInt8 := dkwX6_whole_3 ++ dktX6_whole_4
def dkwX6_whole_2 : List UInt8 := [180, 0, 77, 9, 148, 154, 0, 5, 9, 173, 42, 180, 0, 84, 156, 0, 27, 42, 21, 4, 182, 1, 52]
abbrev dktX6_whole_2 : List UInt8 := dkwX6_whole_2 ++ dktX6_whole_3
def dkwX6_whole_1 : List UInt8 := [16, 9, 182, 0, 45, 173, 42, 27, 32, 182, 0, 155, 154, 0, 10, 42, 16, 7, 182, 0, 45, 173, 42]
abbrev dktX6_whole_1 : List UInt8 := dkwX6_whole_1 ++ dktX6_whole_2
def dkwX6_whole_0 : List UInt8 := [42, 182, 0, 42, 27, 184, 0, 151, 153, 0, 14, 21, 4, 155, 0, 9, 21, 4, 6, 164, 0, 10, 42]
abbrev dktX6_whole_0 : List UInt8 := dkwX6_whole_0 ++ dktX6_whole_1
theorem dksX6_whole_0 : cX6_whole.data.toList.drop 0 = dktX6_whole_0 := by decide +kernel
theorem dksX6_whole_1 : cX6_whole.data.toList.drop 23 = dktX6_whole_1 := dk_seg dksX6_whole_0 23 rfl rfl
theorem dksX6_whole_2 : cX6_whole.data.toList.drop 46 = dktX6_whole_2 := dk_seg dksX6_whole_1 23 rfl rfl
theorem dksX6_whole_3 : cX6_whole.data.toList.drop 69 = dktX6_whole_3 := dk_seg dksX6_whole_2 23 rfl rfl
theorem dksX6_whole_4 : cX6_whole.data.toList.drop 92 = dktX6_whole_4 := dk_seg dksX6_whole_3 23 rfl rfl
theorem dksX6_whole_5 : cX6_whole.data.toList.drop 116 = dktX6_whole_5 := dk_seg dksX6_whole_4 24 rfl rfl
theorem dksX6_whole_6 : cX6_whole.data.toList.drop 138 = dktX6_whole_6 := dk_seg dksX6_whole_5 22 rfl rfl
theorem dksX6_whole_7 : cX6_whole.data.toList.drop 162 = dktX6_whole_7 := dk_seg dksX6_whole_6 24 rfl rfl
theorem dX6_whole_0 : decode cX6_whole 0 = .ok (.aload_n 0, 1) := dk_42 (dk_at dksX6_whole_0 0 rfl rfl)
theorem dX6_whole_1 : decode cX6_whole 1 = .ok (.invokevirtual 42, 3) := dk_182 0 42 (dk_at dksX6_whole_0 1 rfl rfl)
theorem dX6_whole_4 : decode cX6_whole 4 = .ok (.iload_n 1, 1) := dk_27 (dk_at dksX6_whole_0 4 rfl rfl)
theorem dX6_whole_5 : decode cX6_whole 5 = .ok (.invokestatic 151, 3) := dk_184 0 151 (dk_at dksX6_whole_0 5 rfl rfl)
theorem dX6_whole_8 : decode cX6_whole 8 = .ok (.ifCond .eq 14, 3) := dk_153 0 14 (dk_at dksX6_whole_0 8 rfl rfl)
theorem dX6_whole_11 : decode cX6_whole 11 = .ok (.iload 4, 2) := dk_21 4 (dk_at dksX6_whole_0 11 rfl rfl)
theorem dX6_whole_13 : decode cX6_whole 13 = .ok (.ifCond .lt 9, 3) := dk_155 0 9 (dk_at dksX6_whole_0 13 rfl rfl)
theorem dX6_whole_16 : decode cX6_whole 16 = .ok (.iload 4, 2) := dk_21 4 (dk_at dksX6_whole_0 16 rfl rfl)
theorem dX6_whole_18 : decode cX6_whole 18 = .ok (.iconst 3, 1) := dk_6 (dk_at dksX6_whole_0 18 rfl rfl)
theorem dX6_whole_19 : decode cX6_whole 19 = .ok (.if_icmp .le 10, 3) := dk_164 0 10 (dk_at dksX6_whole_0 19 rfl rfl)
theorem dX6_whole_22 : decode cX6_whole 22 = .ok (.aload_n 0, 1) := dk_42 (dk_at dksX6_whole_0 22 rfl rfl)
theorem dX6_whole_23 : decode cX6_whole 23 = .ok (.bipush 9, 2) := dk_16 9 (dk_at dksX6_whole_1 0 rfl rfl)
theorem dX6_whole_25 : decode cX6_whole 25 = .ok (.invokevirtual 45, 3) := dk_182 0 45 (dk_at dksX6_whole_1 2 rfl rfl)
theorem dX6_whole_28 : decode cX6_whole 28 = .ok (.lreturn, 1) := dk_173 (dk_at dksX6_whole_1 5 rfl rfl)
theorem dX6_whole_29 : decode cX6_whole 29 = .ok (.aload_n 0, 1) := dk_42 (dk_at dksX6_whole_1 6 rfl rfl)
theorem dX6_whole_30 : decode cX6_whole 30 = .ok (.iload_n 1, 1) := dk_27 (dk_at dksX6_whole_1 7 rfl rfl)
theorem dX6_whole_31 : decode cX6_whole 31 = .ok (.lload_n 2, 1) := dk_32 (dk_at dksX6_whole_1 8 rfl rfl)
theorem dX6_whole_32 : decode cX6_whole 32 = .ok (.invokevirtual 155, 3) := dk_182 0 155 (dk_at dksX6_whole_1 9 rfl rfl)
theorem dX6_whole_35 : decode cX6_whole 35 = .ok (.ifCond .ne 10, 3) := dk_154 0 10 (dk_at dksX6_whole_1 12 rfl rfl)
theorem dX6_whole_38 : decode cX6_whole 38 = .ok (.aload_n 0, 1) := dk_42 (dk_at dksX6_whole_1 15 rfl rfl)
theorem dX6_whole_39 : decode cX6_whole 39 = .ok (.bipush 7, 2) := dk_16 7 (dk_at dksX6_whole_1 16 rfl rfl)
theorem dX6_whole_41 : decode cX6_whole 41 = .ok (.invokevirtual 45, 3) := dk_182 0 45 (dk_at dksX6_whole_1 18 rfl rfl)
theorem dX6_whole_44 : decode cX6_whole 44 = .ok (.lreturn, 1) := dk_173 (dk_at dksX6_whole_1 21 rfl rfl)
theorem dX6_whole_45 : decode cX6_whole 45 = .ok (.aload_n 0, 1) := dk_42 (dk_at dksX6_whole_1 22 rfl rfl)
theorem dX6_whole_46 : decode cX6_whole 46 = .ok (.getfield 77, 3) := dk_180 0 77 (dk_at dksX6_whole_2 0 rfl rfl)
theorem dX6_whole_49 : decode cX6_whole 49 = .ok (.lconst 0, 1) := dk_9 (dk_at dksX6_whole_2 3 rfl rfl)
theorem dX6_whole_50 : decode cX6_whole 50 = .ok (.lcmp, 1) := dk_148 (dk_at dksX6_whole_2 4 rfl rfl)
theorem dX6_whole_51 : decode cX6_whole 51 = .ok (.ifCond .ne 5, 3) := dk_154 0 5 (dk_at dksX6_whole_2 5 rfl rfl)
theorem dX6_whole_54 : decode cX6_whole 54 = .ok (.lconst 0, 1) := dk_9 (dk_at dksX6_whole_2 8 rfl rfl)
theorem dX6_whole_55 : decode cX6_whole 55 = .ok (.lreturn, 1) := dk_173 (dk_at dksX6_whole_2 9 rfl rfl)
theorem dX6_whole_56 : decode cX6_whole 56 = .ok (.aload_n 0, 1) := dk_42 (dk_at dksX6_whole_2 10 rfl rfl)
theorem dX6_whole_57 : decode cX6_whole 57 = .ok (.getfield 84, 3) := dk_180 0 84 (dk_at dksX6_whole_2 11 rfl rfl)
theorem dX6_whole_60 : decode cX6_whole 60 = .ok (.ifCond .ge 27, 3) := dk_156 0 27 (dk_at dksX6_whole_2 14 rfl rfl)
theorem dX6_whole_63 : decode cX6_whole 63 = .ok (.aload_n 0, 1) := dk_42 (dk_at dksX6_whole_2 17 rfl rfl)
theorem dX6_whole_64 : decode cX6_whole 64 = .ok (.iload 4, 2) := dk_21 4 (dk_at dksX6_whole_2 18 rfl rfl)
theorem dX6_whole_66 : decode cX6_whole 66 = .ok (.invokevirtual 308, 3) := dk_182 1 52 (dk_at dksX6_whole_2 20 rfl rfl)
theorem dX6_whole_69 : decode cX6_whole 69 = .ok (.lstore 5, 2) := dk_55 5 (dk_at dksX6_whole_3 0 rfl rfl)
theorem dX6_whole_71 : decode cX6_whole 71 = .ok (.aload_n 0, 1) := dk_42 (dk_at dksX6_whole_3 2 rfl rfl)
theorem dX6_whole_72 : decode cX6_whole 72 = .ok (.getfield 67, 3) := dk_180 0 67 (dk_at dksX6_whole_3 3 rfl rfl)
theorem dX6_whole_75 : decode cX6_whole 75 = .ok (.ifCond .eq 9, 3) := dk_153 0 9 (dk_at dksX6_whole_3 6 rfl rfl)
theorem dX6_whole_78 : decode cX6_whole 78 = .ok (.lload 5, 2) := dk_22 5 (dk_at dksX6_whole_3 9 rfl rfl)
theorem dX6_whole_80 : decode cX6_whole 80 = .ok (.lneg, 1) := dk_117 (dk_at dksX6_whole_3 11 rfl rfl)
theorem dX6_whole_81 : decode cX6_whole 81 = .ok (.goto 5, 3) := dk_167 0 5 (dk_at dksX6_whole_3 12 rfl rfl)
theorem dX6_whole_84 : decode cX6_whole 84 = .ok (.lload 5, 2) := dk_22 5 (dk_at dksX6_whole_3 15 rfl rfl)
theorem dX6_whole_86 : decode cX6_whole 86 = .ok (.lreturn, 1) := dk_173 (dk_at dksX6_whole_3 17 rfl rfl)
theorem dX6_whole_87 : decode cX6_whole 87 = .ok (.aload_n 0, 1) := dk_42 (dk_at dksX6_whole_3 18 rfl rfl)
theorem dX6_whole_88 : decode cX6_whole 88 = .ok (.invokevirtual 311, 3) := dk_182 1 55 (dk_at dksX6_whole_3 19 rfl rfl)
theorem dX6_whole_91 : decode cX6_whole 91 = .ok (.aload_n 0, 1) := dk_42 (dk_at dksX6_whole_3 22 rfl rfl)
theorem dX6_whole_92 : decode cX6_whole 92 = .ok (.getfield 77, 3) := dk_180 0 77 (dk_at dksX6_whole_4 0 rfl rfl)
theorem dX6_whole_95 : decode cX6_whole 95 = .ok (.invokestatic 314, 3) := dk_184 1 58 (dk_at dksX6_whole_4 3 rfl rfl)
theorem dX6_whole_98 : decode cX6_whole 98 = .ok (.aload_n 0, 1) := dk_42 (dk_at dksX6_whole_4 6 rfl rfl)
theorem dX6_whole_99 : decode cX6_whole 99 = .ok (.getfield 84, 3) := dk_180 0 84 (dk_at dksX6_whole_4 7 rfl rfl)
theorem dX6_whole_102 : decode cX6_whole 102 = .ok (.iadd, 1) := dk_96 (dk_at dksX6_whole_4 10 rfl rfl)
theorem dX6_whole_103 : decode cX6_whole 103 = .ok (.istore 5, 2) := dk_54 5 (dk_at dksX6_whole_4 11 rfl rfl)
theorem dX6_whole_105 : decode cX6_whole 105 = .ok (.iload 5, 2) := dk_21 5 (dk_at dksX6_whole_4 13 rfl rfl)
theorem dX6_whole_107 : decode cX6_whole 107 = .ok (.bipush 64, 2) := dk_16 64 (dk_at dksX6_whole_4 15 rfl rfl)
theorem dX6_whole_109 : decode cX6_whole 109 = .ok (.if_icmp .gt 26, 3) := dk_163 0 26 (dk_at dksX6_whole_4 17 rfl rfl)
theorem dX6_whole_112 : decode cX6_whole 112 = .ok (.iload 5, 2) := dk_21 5 (dk_at dksX6_whole_4 20 rfl rfl)
theorem dX6_whole_114 : decode cX6_whole 114 = .ok (.bipush 64, 2) := dk_16 64 (dk_at dksX6_whole_4 22 rfl rfl)
theorem dX6_whole_116 : decode cX6_whole 116 = .ok (.if_icmp .ne 26, 3) := dk_160 0 26 (dk_at dksX6_whole_5 0 rfl rfl)
theorem dX6_whole_119 : decode cX6_whole 119 = .ok (.aload_n 0, 1) := dk_42 (dk_at dksX6_whole_5 3 rfl rfl)
theorem dX6_whole_120 : decode cX6_whole 120 = .ok (.getfield 67, 3) := dk_180 0 67 (dk_at dksX6_whole_5 4 rfl rfl)
theorem dX6_whole_123 : decode cX6_whole 123 = .ok (.ifCond .eq 12, 3) := dk_153 0 12 (dk_at dksX6_whole_5 7 rfl rfl)
theorem dX6_whole_126 : decode cX6_whole 126 = .ok (.aload_n 0, 1) := dk_42 (dk_at dksX6_whole_5 10 rfl rfl)
theorem dX6_whole_127 : decode cX6_whole 127 = .ok (.getfield 77, 3) := dk_180 0 77 (dk_at dksX6_whole_5 11 rfl rfl)
theorem dX6_whole_130 : decode cX6_whole 130 = .ok (.lconst 1, 1) := dk_10 (dk_at dksX6_whole_5 14 rfl rfl)
theorem dX6_whole_131 : decode cX6_whole 131 = .ok (.lcmp, 1) := dk_148 (dk_at dksX6_whole_5 15 rfl rfl)
theorem dX6_whole_132 : decode cX6_whole 132 = .ok (.ifCond .eq 10, 3) := dk_153 0 10 (dk_at dksX6_whole_5 16 rfl rfl)
theorem dX6_whole_135 : decode cX6_whole 135 = .ok (.aload_n 0, 1) := dk_42 (dk_at dksX6_whole_5 19 rfl rfl)
theorem dX6_whole_136 : decode cX6_whole 136 = .ok (.bipush 8, 2) := dk_16 8 (dk_at dksX6_whole_5 20 rfl rfl)
theorem dX6_whole_138 : decode cX6_whole 138 = .ok (.invokevirtual 45, 3) := dk_182 0 45 (dk_at dksX6_whole_6 0 rfl rfl)
theorem dX6_whole_141 : decode cX6_whole 141 = .ok (.lreturn, 1) := dk_173 (dk_at dksX6_whole_6 3 rfl rfl)
theorem dX6_whole_142 : decode cX6_whole 142 = .ok (.aload_n 0, 1) := dk_42 (dk_at dksX6_whole_6 4 rfl rfl)
theorem dX6_whole_143 : decode cX6_whole 143 = .ok (.getfield 67, 3) := dk_180 0 67 (dk_at dksX6_whole_6 5 rfl rfl)
theorem dX6_whole_146 : decode cX6_whole 146 = .ok (.ifCond .eq 16, 3) := dk_153 0 16 (dk_at dksX6_whole_6 8 rfl rfl)
theorem dX6_whole_149 : decode cX6_whole 149 = .ok (.aload_n 0, 1) := dk_42 (dk_at dksX6_whole_6 11 rfl rfl)
theorem dX6_whole_150 : decode cX6_whole 150 = .ok (.getfield 77, 3) := dk_180 0 77 (dk_at dksX6_whole_6 12 rfl rfl)
theorem dX6_whole_153 : decode cX6_whole 153 = .ok (.aload_n 0, 1) := dk_42 (dk_at dksX6_whole_6 15 rfl rfl)
theorem dX6_whole_154 : decode cX6_whole 154 = .ok (.getfield 84, 3) := dk_180 0 84 (dk_at dksX6_whole_6 16 rfl rfl)
theorem dX6_whole_157 : decode cX6_whole 157 = .ok (.lshl, 1) := dk_121 (dk_at dksX6_whole_6 19 rfl rfl)
theorem dX6_whole_158 : decode cX6_whole 158 = .ok (.lneg, 1) := dk_117 (dk_at dksX6_whole_6 20 rfl rfl)
theorem dX6_whole_159 : decode cX6_whole 159 = .ok (.goto 12, 3) := dk_167 0 12 (dk_at dksX6_whole_6 21 rfl rfl)
theorem dX6_whole_162 : decode cX6_whole 162 = .ok (.aload_n 0, 1) := dk_42 (dk_at dksX6_whole_7 0 rfl rfl)
theorem dX6_whole_163 : decode cX6_whole 163 = .ok (.getfield 77, 3) := dk_180 0 77 (dk_at dksX6_whole_7 1 rfl rfl)
theorem dX6_whole_166 : decode cX6_whole 166 = .ok (.aload_n 0, 1) := dk_42 (dk_at dksX6_whole_7 4 rfl rfl)
theorem dX6_whole_167 : decode cX6_whole 167 = .ok (.getfield 84, 3) := dk_180 0 84 (dk_at dksX6_whole_7 5 rfl rfl)
theorem dX6_whole_170 : decode cX6_whole 170 = .ok (.lshl, 1) := dk_121 (dk_at dksX6_whole_7 8 rfl rfl)
theorem dX6_whole_171 : decode cX6_whole 171 = .ok (.lreturn, 1) := dk_173 (dk_at dksX6_whole_7 9 rfl rfl)
abbrev cX6_wholeOf : ByteArray := prog_10_method_67_code
def yX6_wholeOf : MethodName := ⟨RX6, "wholeOf", "(I)J"⟩
def dkwX6_wholeOf_6 : List UInt8 := [154, 0, 7, 4, 167, 0, 4, 3, 54, 7, 21, 7, 153, 0, 9, 33, 10, 97, 167, 0, 4, 33, 173]
abbrev dktX6_wholeOf_6 : List UInt8 := dkwX6_wholeOf_6 ++ []
def dkwX6_wholeOf_5 : List UInt8 := [163, 0, 31, 22, 5, 22, 8, 148, 157, 0, 19, 22, 5, 22, 8, 148, 154, 0, 15, 33, 10, 127, 10, 148]
abbrev dktX6_wholeOf_5 : List UInt8 := dkwX6_wholeOf_5 ++ dktX6_wholeOf_6
def dkwX6_wholeOf_4 : List UInt8 := [160, 0, 57, 28, 16, 62, 164, 0, 7, 9, 167, 0, 8, 10, 28, 4, 100, 121, 55, 8, 28, 16, 62]
abbrev dktX6_wholeOf_4 : List UInt8 := dkwX6_wholeOf_4 ++ dktX6_wholeOf_5
def dkwX6_wholeOf_3 : List UInt8 := [27, 5, 160, 0, 20, 42, 180, 0, 67, 154, 0, 7, 4, 167, 0, 4, 3, 54, 7, 167, 0, 62, 27, 6]
abbrev dktX6_wholeOf_3 : List UInt8 := dkwX6_wholeOf_3 ++ dktX6_wholeOf_4
def dkwX6_wholeOf_2 : List UInt8 := [3, 54, 7, 22, 5, 9, 148, 158, 0, 98, 27, 4, 160, 0, 12, 42, 180, 0, 67, 54, 7, 167, 0, 84]
abbrev dktX6_wholeOf_2 : List UInt8 := dkwX6_wholeOf_2 ++ dktX6_wholeOf_3
def dkwX6_wholeOf_1 : List UInt8 := [16, 62, 164, 0, 10, 42, 180, 0, 77, 167, 0, 13, 42, 180, 0, 77, 10, 28, 121, 10, 101, 127, 55, 5]
abbrev dktX6_wholeOf_1 : List UInt8 := dkwX6_wholeOf_1 ++ dktX6_wholeOf_2
def dkwX6_wholeOf_0 : List UInt8 := [42, 180, 0, 84, 116, 61, 28, 16, 62, 164, 0, 7, 9, 167, 0, 9, 42, 180, 0, 77, 28, 125, 66, 28]
abbrev dktX6_wholeOf_0 : List UInt8 := dkwX6_wholeOf_0 ++ dktX6_wholeOf_1
theorem dksX6_wholeOf_0 : cX6_wholeOf.data.toList.drop 0 = dktX6_wholeOf_0 := by decide +kernel
theorem dksX6_wholeOf_1 : cX6_wholeOf.data.toList.drop 24 = dktX6_wholeOf_1 := dk_seg dksX6_wholeOf_0 24 rfl rfl
theorem dksX6_wholeOf_2 : cX6_wholeOf.data.toList.drop 48 = dktX6_wholeOf_2 := dk_seg dksX6_wholeOf_1 24 rfl rfl
theorem dksX6_wholeOf_3 : cX6_wholeOf.data.toList.drop 72 = dktX6_wholeOf_3 := dk_seg dksX6_wholeOf_2 24 rfl rfl
theorem dksX6_wholeOf_4 : cX6_wholeOf.data.toList.drop 96 = dktX6_wholeOf_4 := dk_seg dksX6_wholeOf_3 24 rfl rfl
theorem dksX6_wholeOf_5 : cX6_wholeOf.data.toList.drop 119 = dktX6_wholeOf_5 := dk_seg dksX6_wholeOf_4 23 rfl rfl
theorem dksX6_wholeOf_6 : cX6_wholeOf.data.toList.drop 143 = dktX6_wholeOf_6 := dk_seg dksX6_wholeOf_5 24 rfl rfl
theorem dX6_wholeOf_0 : decode cX6_wholeOf 0 = .ok (.aload_n 0, 1) := dk_42 (dk_at dksX6_wholeOf_0 0 rfl rfl)
theorem dX6_wholeOf_1 : decode cX6_wholeOf 1 = .ok (.getfield 84, 3) := dk_180 0 84 (dk_at dksX6_wholeOf_0 1 rfl rfl)
theorem dX6_wholeOf_4 : decode cX6_wholeOf 4 = .ok (.ineg, 1) := dk_116 (dk_at dksX6_wholeOf_0 4 rfl rfl)
theorem dX6_wholeOf_5 : decode cX6_wholeOf 5 = .ok (.istore_n 2, 1) := dk_61 (dk_at dksX6_wholeOf_0 5 rfl rfl)
theorem dX6_wholeOf_6 : decode cX6_wholeOf 6 = .ok (.iload_n 2, 1) := dk_28 (dk_at dksX6_wholeOf_0 6 rfl rfl)
theorem dX6_wholeOf_7 : decode cX6_wholeOf 7 = .ok (.bipush 62, 2) := dk_16 62 (dk_at dksX6_wholeOf_0 7 rfl rfl)
theorem dX6_wholeOf_9 : decode cX6_wholeOf 9 = .ok (.if_icmp .le 7, 3) := dk_164 0 7 (dk_at dksX6_wholeOf_0 9 rfl rfl)
theorem dX6_wholeOf_12 : decode cX6_wholeOf 12 = .ok (.lconst 0, 1) := dk_9 (dk_at dksX6_wholeOf_0 12 rfl rfl)
theorem dX6_wholeOf_13 : decode cX6_wholeOf 13 = .ok (.goto 9, 3) := dk_167 0 9 (dk_at dksX6_wholeOf_0 13 rfl rfl)
theorem dX6_wholeOf_16 : decode cX6_wholeOf 16 = .ok (.aload_n 0, 1) := dk_42 (dk_at dksX6_wholeOf_0 16 rfl rfl)
theorem dX6_wholeOf_17 : decode cX6_wholeOf 17 = .ok (.getfield 77, 3) := dk_180 0 77 (dk_at dksX6_wholeOf_0 17 rfl rfl)
theorem dX6_wholeOf_20 : decode cX6_wholeOf 20 = .ok (.iload_n 2, 1) := dk_28 (dk_at dksX6_wholeOf_0 20 rfl rfl)
theorem dX6_wholeOf_21 : decode cX6_wholeOf 21 = .ok (.lushr, 1) := dk_125 (dk_at dksX6_wholeOf_0 21 rfl rfl)
theorem dX6_wholeOf_22 : decode cX6_wholeOf 22 = .ok (.lstore_n 3, 1) := dk_66 (dk_at dksX6_wholeOf_0 22 rfl rfl)
theorem dX6_wholeOf_23 : decode cX6_wholeOf 23 = .ok (.iload_n 2, 1) := dk_28 (dk_at dksX6_wholeOf_0 23 rfl rfl)
theorem dX6_wholeOf_24 : decode cX6_wholeOf 24 = .ok (.bipush 62, 2) := dk_16 62 (dk_at dksX6_wholeOf_1 0 rfl rfl)
theorem dX6_wholeOf_26 : decode cX6_wholeOf 26 = .ok (.if_icmp .le 10, 3) := dk_164 0 10 (dk_at dksX6_wholeOf_1 2 rfl rfl)
theorem dX6_wholeOf_29 : decode cX6_wholeOf 29 = .ok (.aload_n 0, 1) := dk_42 (dk_at dksX6_wholeOf_1 5 rfl rfl)
theorem dX6_wholeOf_30 : decode cX6_wholeOf 30 = .ok (.getfield 77, 3) := dk_180 0 77 (dk_at dksX6_wholeOf_1 6 rfl rfl)
theorem dX6_wholeOf_33 : decode cX6_wholeOf 33 = .ok (.goto 13, 3) := dk_167 0 13 (dk_at dksX6_wholeOf_1 9 rfl rfl)
theorem dX6_wholeOf_36 : decode cX6_wholeOf 36 = .ok (.aload_n 0, 1) := dk_42 (dk_at dksX6_wholeOf_1 12 rfl rfl)
theorem dX6_wholeOf_37 : decode cX6_wholeOf 37 = .ok (.getfield 77, 3) := dk_180 0 77 (dk_at dksX6_wholeOf_1 13 rfl rfl)
theorem dX6_wholeOf_40 : decode cX6_wholeOf 40 = .ok (.lconst 1, 1) := dk_10 (dk_at dksX6_wholeOf_1 16 rfl rfl)
theorem dX6_wholeOf_41 : decode cX6_wholeOf 41 = .ok (.iload_n 2, 1) := dk_28 (dk_at dksX6_wholeOf_1 17 rfl rfl)
theorem dX6_wholeOf_42 : decode cX6_wholeOf 42 = .ok (.lshl, 1) := dk_121 (dk_at dksX6_wholeOf_1 18 rfl rfl)
theorem dX6_wholeOf_43 : decode cX6_wholeOf 43 = .ok (.lconst 1, 1) := dk_10 (dk_at dksX6_wholeOf_1 19 rfl rfl)
theorem dX6_wholeOf_44 : decode cX6_wholeOf 44 = .ok (.lsub, 1) := dk_101 (dk_at dksX6_wholeOf_1 20 rfl rfl)
theorem dX6_wholeOf_45 : decode cX6_wholeOf 45 = .ok (.land, 1) := dk_127 (dk_at dksX6_wholeOf_1 21 rfl rfl)
theorem dX6_wholeOf_46 : decode cX6_wholeOf 46 = .ok (.lstore 5, 2) := dk_55 5 (dk_at dksX6_wholeOf_1 22 rfl rfl)
theorem dX6_wholeOf_48 : decode cX6_wholeOf 48 = .ok (.iconst 0, 1) := dk_3 (dk_at dksX6_wholeOf_2 0 rfl rfl)
theorem dX6_wholeOf_49 : decode cX6_wholeOf 49 = .ok (.istore 7, 2) := dk_54 7 (dk_at dksX6_wholeOf_2 1 rfl rfl)
theorem dX6_wholeOf_51 : decode cX6_wholeOf 51 = .ok (.lload 5, 2) := dk_22 5 (dk_at dksX6_wholeOf_2 3 rfl rfl)
theorem dX6_wholeOf_53 : decode cX6_wholeOf 53 = .ok (.lconst 0, 1) := dk_9 (dk_at dksX6_wholeOf_2 5 rfl rfl)
theorem dX6_wholeOf_54 : decode cX6_wholeOf 54 = .ok (.lcmp, 1) := dk_148 (dk_at dksX6_wholeOf_2 6 rfl rfl)
theorem dX6_wholeOf_55 : decode cX6_wholeOf 55 = .ok (.ifCond .le 98, 3) := dk_158 0 98 (dk_at dksX6_wholeOf_2 7 rfl rfl)
theorem dX6_wholeOf_58 : decode cX6_wholeOf 58 = .ok (.iload_n 1, 1) := dk_27 (dk_at dksX6_wholeOf_2 10 rfl rfl)
theorem dX6_wholeOf_59 : decode cX6_wholeOf 59 = .ok (.iconst 1, 1) := dk_4 (dk_at dksX6_wholeOf_2 11 rfl rfl)
theorem dX6_wholeOf_60 : decode cX6_wholeOf 60 = .ok (.if_icmp .ne 12, 3) := dk_160 0 12 (dk_at dksX6_wholeOf_2 12 rfl rfl)
theorem dX6_wholeOf_63 : decode cX6_wholeOf 63 = .ok (.aload_n 0, 1) := dk_42 (dk_at dksX6_wholeOf_2 15 rfl rfl)
theorem dX6_wholeOf_64 : decode cX6_wholeOf 64 = .ok (.getfield 67, 3) := dk_180 0 67 (dk_at dksX6_wholeOf_2 16 rfl rfl)
theorem dX6_wholeOf_67 : decode cX6_wholeOf 67 = .ok (.istore 7, 2) := dk_54 7 (dk_at dksX6_wholeOf_2 19 rfl rfl)
theorem dX6_wholeOf_69 : decode cX6_wholeOf 69 = .ok (.goto 84, 3) := dk_167 0 84 (dk_at dksX6_wholeOf_2 21 rfl rfl)
theorem dX6_wholeOf_72 : decode cX6_wholeOf 72 = .ok (.iload_n 1, 1) := dk_27 (dk_at dksX6_wholeOf_3 0 rfl rfl)
theorem dX6_wholeOf_73 : decode cX6_wholeOf 73 = .ok (.iconst 2, 1) := dk_5 (dk_at dksX6_wholeOf_3 1 rfl rfl)
theorem dX6_wholeOf_74 : decode cX6_wholeOf 74 = .ok (.if_icmp .ne 20, 3) := dk_160 0 20 (dk_at dksX6_wholeOf_3 2 rfl rfl)
theorem dX6_wholeOf_77 : decode cX6_wholeOf 77 = .ok (.aload_n 0, 1) := dk_42 (dk_at dksX6_wholeOf_3 5 rfl rfl)
theorem dX6_wholeOf_78 : decode cX6_wholeOf 78 = .ok (.getfield 67, 3) := dk_180 0 67 (dk_at dksX6_wholeOf_3 6 rfl rfl)
theorem dX6_wholeOf_81 : decode cX6_wholeOf 81 = .ok (.ifCond .ne 7, 3) := dk_154 0 7 (dk_at dksX6_wholeOf_3 9 rfl rfl)
theorem dX6_wholeOf_84 : decode cX6_wholeOf 84 = .ok (.iconst 1, 1) := dk_4 (dk_at dksX6_wholeOf_3 12 rfl rfl)
theorem dX6_wholeOf_85 : decode cX6_wholeOf 85 = .ok (.goto 4, 3) := dk_167 0 4 (dk_at dksX6_wholeOf_3 13 rfl rfl)
theorem dX6_wholeOf_88 : decode cX6_wholeOf 88 = .ok (.iconst 0, 1) := dk_3 (dk_at dksX6_wholeOf_3 16 rfl rfl)
theorem dX6_wholeOf_89 : decode cX6_wholeOf 89 = .ok (.istore 7, 2) := dk_54 7 (dk_at dksX6_wholeOf_3 17 rfl rfl)
theorem dX6_wholeOf_91 : decode cX6_wholeOf 91 = .ok (.goto 62, 3) := dk_167 0 62 (dk_at dksX6_wholeOf_3 19 rfl rfl)
theorem dX6_wholeOf_94 : decode cX6_wholeOf 94 = .ok (.iload_n 1, 1) := dk_27 (dk_at dksX6_wholeOf_3 22 rfl rfl)
theorem dX6_wholeOf_95 : decode cX6_wholeOf 95 = .ok (.iconst 3, 1) := dk_6 (dk_at dksX6_wholeOf_3 23 rfl rfl)
theorem dX6_wholeOf_96 : decode cX6_wholeOf 96 = .ok (.if_icmp .ne 57, 3) := dk_160 0 57 (dk_at dksX6_wholeOf_4 0 rfl rfl)
theorem dX6_wholeOf_99 : decode cX6_wholeOf 99 = .ok (.iload_n 2, 1) := dk_28 (dk_at dksX6_wholeOf_4 3 rfl rfl)
theorem dX6_wholeOf_100 : decode cX6_wholeOf 100 = .ok (.bipush 62, 2) := dk_16 62 (dk_at dksX6_wholeOf_4 4 rfl rfl)
theorem dX6_wholeOf_102 : decode cX6_wholeOf 102 = .ok (.if_icmp .le 7, 3) := dk_164 0 7 (dk_at dksX6_wholeOf_4 6 rfl rfl)
theorem dX6_wholeOf_105 : decode cX6_wholeOf 105 = .ok (.lconst 0, 1) := dk_9 (dk_at dksX6_wholeOf_4 9 rfl rfl)
theorem dX6_wholeOf_106 : decode cX6_wholeOf 106 = .ok (.goto 8, 3) := dk_167 0 8 (dk_at dksX6_wholeOf_4 10 rfl rfl)
theorem dX6_wholeOf_109 : decode cX6_wholeOf 109 = .ok (.lconst 1, 1) := dk_10 (dk_at dksX6_wholeOf_4 13 rfl rfl)
theorem dX6_wholeOf_110 : decode cX6_wholeOf 110 = .ok (.iload_n 2, 1) := dk_28 (dk_at dksX6_wholeOf_4 14 rfl rfl)
theorem dX6_wholeOf_111 : decode cX6_wholeOf 111 = .ok (.iconst 1, 1) := dk_4 (dk_at dksX6_wholeOf_4 15 rfl rfl)
theorem dX6_wholeOf_112 : decode cX6_wholeOf 112 = .ok (.isub, 1) := dk_100 (dk_at dksX6_wholeOf_4 16 rfl rfl)
theorem dX6_wholeOf_113 : decode cX6_wholeOf 113 = .ok (.lshl, 1) := dk_121 (dk_at dksX6_wholeOf_4 17 rfl rfl)
theorem dX6_wholeOf_114 : decode cX6_wholeOf 114 = .ok (.lstore 8, 2) := dk_55 8 (dk_at dksX6_wholeOf_4 18 rfl rfl)
theorem dX6_wholeOf_116 : decode cX6_wholeOf 116 = .ok (.iload_n 2, 1) := dk_28 (dk_at dksX6_wholeOf_4 20 rfl rfl)
theorem dX6_wholeOf_117 : decode cX6_wholeOf 117 = .ok (.bipush 62, 2) := dk_16 62 (dk_at dksX6_wholeOf_4 21 rfl rfl)
theorem dX6_wholeOf_119 : decode cX6_wholeOf 119 = .ok (.if_icmp .gt 31, 3) := dk_163 0 31 (dk_at dksX6_wholeOf_5 0 rfl rfl)
theorem dX6_wholeOf_122 : decode cX6_wholeOf 122 = .ok (.lload 5, 2) := dk_22 5 (dk_at dksX6_wholeOf_5 3 rfl rfl)
theorem dX6_wholeOf_124 : decode cX6_wholeOf 124 = .ok (.lload 8, 2) := dk_22 8 (dk_at dksX6_wholeOf_5 5 rfl rfl)
theorem dX6_wholeOf_126 : decode cX6_wholeOf 126 = .ok (.lcmp, 1) := dk_148 (dk_at dksX6_wholeOf_5 7 rfl rfl)
theorem dX6_wholeOf_127 : decode cX6_wholeOf 127 = .ok (.ifCond .gt 19, 3) := dk_157 0 19 (dk_at dksX6_wholeOf_5 8 rfl rfl)
theorem dX6_wholeOf_130 : decode cX6_wholeOf 130 = .ok (.lload 5, 2) := dk_22 5 (dk_at dksX6_wholeOf_5 11 rfl rfl)
theorem dX6_wholeOf_132 : decode cX6_wholeOf 132 = .ok (.lload 8, 2) := dk_22 8 (dk_at dksX6_wholeOf_5 13 rfl rfl)
theorem dX6_wholeOf_134 : decode cX6_wholeOf 134 = .ok (.lcmp, 1) := dk_148 (dk_at dksX6_wholeOf_5 15 rfl rfl)
theorem dX6_wholeOf_135 : decode cX6_wholeOf 135 = .ok (.ifCond .ne 15, 3) := dk_154 0 15 (dk_at dksX6_wholeOf_5 16 rfl rfl)
theorem dX6_wholeOf_138 : decode cX6_wholeOf 138 = .ok (.lload_n 3, 1) := dk_33 (dk_at dksX6_wholeOf_5 19 rfl rfl)
theorem dX6_wholeOf_139 : decode cX6_wholeOf 139 = .ok (.lconst 1, 1) := dk_10 (dk_at dksX6_wholeOf_5 20 rfl rfl)
theorem dX6_wholeOf_140 : decode cX6_wholeOf 140 = .ok (.land, 1) := dk_127 (dk_at dksX6_wholeOf_5 21 rfl rfl)
theorem dX6_wholeOf_141 : decode cX6_wholeOf 141 = .ok (.lconst 1, 1) := dk_10 (dk_at dksX6_wholeOf_5 22 rfl rfl)
theorem dX6_wholeOf_142 : decode cX6_wholeOf 142 = .ok (.lcmp, 1) := dk_148 (dk_at dksX6_wholeOf_5 23 rfl rfl)
theorem dX6_wholeOf_143 : decode cX6_wholeOf 143 = .ok (.ifCond .ne 7, 3) := dk_154 0 7 (dk_at dksX6_wholeOf_6 0 rfl rfl)
theorem dX6_wholeOf_146 : decode cX6_wholeOf 146 = .ok (.iconst 1, 1) := dk_4 (dk_at dksX6_wholeOf_6 3 rfl rfl)
theorem dX6_wholeOf_147 : decode cX6_wholeOf 147 = .ok (.goto 4, 3) := dk_167 0 4 (dk_at dksX6_wholeOf_6 4 rfl rfl)
theorem dX6_wholeOf_150 : decode cX6_wholeOf 150 = .ok (.iconst 0, 1) := dk_3 (dk_at dksX6_wholeOf_6 7 rfl rfl)
theorem dX6_wholeOf_151 : decode cX6_wholeOf 151 = .ok (.istore 7, 2) := dk_54 7 (dk_at dksX6_wholeOf_6 8 rfl rfl)
theorem dX6_wholeOf_153 : decode cX6_wholeOf 153 = .ok (.iload 7, 2) := dk_21 7 (dk_at dksX6_wholeOf_6 10 rfl rfl)
theorem dX6_wholeOf_155 : decode cX6_wholeOf 155 = .ok (.ifCond .eq 9, 3) := dk_153 0 9 (dk_at dksX6_wholeOf_6 12 rfl rfl)
theorem dX6_wholeOf_158 : decode cX6_wholeOf 158 = .ok (.lload_n 3, 1) := dk_33 (dk_at dksX6_wholeOf_6 15 rfl rfl)
theorem dX6_wholeOf_159 : decode cX6_wholeOf 159 = .ok (.lconst 1, 1) := dk_10 (dk_at dksX6_wholeOf_6 16 rfl rfl)
theorem dX6_wholeOf_160 : decode cX6_wholeOf 160 = .ok (.ladd, 1) := dk_97 (dk_at dksX6_wholeOf_6 17 rfl rfl)
theorem dX6_wholeOf_161 : decode cX6_wholeOf 161 = .ok (.goto 4, 3) := dk_167 0 4 (dk_at dksX6_wholeOf_6 18 rfl rfl)
theorem dX6_wholeOf_164 : decode cX6_wholeOf 164 = .ok (.lload_n 3, 1) := dk_33 (dk_at dksX6_wholeOf_6 21 rfl rfl)
theorem dX6_wholeOf_165 : decode cX6_wholeOf 165 = .ok (.lreturn, 1) := dk_173 (dk_at dksX6_wholeOf_6 22 rfl rfl)
abbrev cX6_fillDown : ByteArray := prog_10_method_69_code
def yX6_fillDown : MethodName := ⟨RX6, "fillDown", "()V"⟩
def dkwX6_fillDown_1 : List UInt8 := [180, 0, 84, 4, 96, 181, 0, 84, 167, 255, 225, 177]
abbrev dktX6_fillDown_1 : List UInt8 := dkwX6_fillDown_1 ++ []
def dkwX6_fillDown_0 : List UInt8 := [42, 180, 0, 77, 10, 127, 9, 148, 154, 0, 26, 42, 89, 180, 0, 77, 4, 123, 181, 0, 77, 42, 89]
abbrev dktX6_fillDown_0 : List UInt8 := dkwX6_fillDown_0 ++ dktX6_fillDown_1
theorem dksX6_fillDown_0 : cX6_fillDown.data.toList.drop 0 = dktX6_fillDown_0 := by decide +kernel
theorem dksX6_fillDown_1 : cX6_fillDown.data.toList.drop 23 = dktX6_fillDown_1 := dk_seg dksX6_fillDown_0 23 rfl rfl
theorem dX6_fillDown_0 : decode cX6_fillDown 0 = .ok (.aload_n 0, 1) := dk_42 (dk_at dksX6_fillDown_0 0 rfl rfl)
theorem dX6_fillDown_1 : decode cX6_fillDown 1 = .ok (.getfield 77, 3) := dk_180 0 77 (dk_at dksX6_fillDown_0 1 rfl rfl)
theorem dX6_fillDown_4 : decode cX6_fillDown 4 = .ok (.lconst 1, 1) := dk_10 (dk_at dksX6_fillDown_0 4 rfl rfl)
theorem dX6_fillDown_5 : decode cX6_fillDown 5 = .ok (.land, 1) := dk_127 (dk_at dksX6_fillDown_0 5 rfl rfl)
theorem dX6_fillDown_6 : decode cX6_fillDown 6 = .ok (.lconst 0, 1) := dk_9 (dk_at dksX6_fillDown_0 6 rfl rfl)
theorem dX6_fillDown_7 : decode cX6_fillDown 7 = .ok (.lcmp, 1) := dk_148 (dk_at dksX6_fillDown_0 7 rfl rfl)
theorem dX6_fillDown_8 : decode cX6_fillDown 8 = .ok (.ifCond .ne 26, 3) := dk_154 0 26 (dk_at dksX6_fillDown_0 8 rfl rfl)
theorem dX6_fillDown_11 : decode cX6_fillDown 11 = .ok (.aload_n 0, 1) := dk_42 (dk_at dksX6_fillDown_0 11 rfl rfl)
theorem dX6_fillDown_12 : decode cX6_fillDown 12 = .ok (.dup, 1) := dk_89 (dk_at dksX6_fillDown_0 12 rfl rfl)
theorem dX6_fillDown_13 : decode cX6_fillDown 13 = .ok (.getfield 77, 3) := dk_180 0 77 (dk_at dksX6_fillDown_0 13 rfl rfl)
theorem dX6_fillDown_16 : decode cX6_fillDown 16 = .ok (.iconst 1, 1) := dk_4 (dk_at dksX6_fillDown_0 16 rfl rfl)
theorem dX6_fillDown_17 : decode cX6_fillDown 17 = .ok (.lshr, 1) := dk_123 (dk_at dksX6_fillDown_0 17 rfl rfl)
theorem dX6_fillDown_18 : decode cX6_fillDown 18 = .ok (.putfield 77, 3) := dk_181 0 77 (dk_at dksX6_fillDown_0 18 rfl rfl)
theorem dX6_fillDown_21 : decode cX6_fillDown 21 = .ok (.aload_n 0, 1) := dk_42 (dk_at dksX6_fillDown_0 21 rfl rfl)
theorem dX6_fillDown_22 : decode cX6_fillDown 22 = .ok (.dup, 1) := dk_89 (dk_at dksX6_fillDown_0 22 rfl rfl)
theorem dX6_fillDown_23 : decode cX6_fillDown 23 = .ok (.getfield 84, 3) := dk_180 0 84 (dk_at dksX6_fillDown_1 0 rfl rfl)
theorem dX6_fillDown_26 : decode cX6_fillDown 26 = .ok (.iconst 1, 1) := dk_4 (dk_at dksX6_fillDown_1 3 rfl rfl)
theorem dX6_fillDown_27 : decode cX6_fillDown 27 = .ok (.iadd, 1) := dk_96 (dk_at dksX6_fillDown_1 4 rfl rfl)
theorem dX6_fillDown_28 : decode cX6_fillDown 28 = .ok (.putfield 84, 3) := dk_181 0 84 (dk_at dksX6_fillDown_1 5 rfl rfl)
theorem dX6_fillDown_31 : decode cX6_fillDown 31 = .ok (.goto (-31), 3) := dk_167 255 225 (dk_at dksX6_fillDown_1 8 rfl rfl)
theorem dX6_fillDown_34 : decode cX6_fillDown 34 = .ok (.return_, 1) := dk_177 (dk_at dksX6_fillDown_1 11 rfl rfl)
abbrev cX6_lengthOf : ByteArray := prog_10_method_70_code
def yX6_lengthOf : MethodName := ⟨RX6, "lengthOf", "(J)I"⟩
def dkwX6_lengthOf_0 : List UInt8 := [3, 61, 28, 16, 63, 162, 0, 17, 30, 28, 125, 9, 148, 153, 0, 9, 132, 2, 1, 167, 255, 239, 28, 172]
abbrev dktX6_lengthOf_0 : List UInt8 := dkwX6_lengthOf_0 ++ []
theorem dksX6_lengthOf_0 : cX6_lengthOf.data.toList.drop 0 = dktX6_lengthOf_0 := by decide +kernel
theorem dX6_lengthOf_0 : decode cX6_lengthOf 0 = .ok (.iconst 0, 1) := dk_3 (dk_at dksX6_lengthOf_0 0 rfl rfl)
theorem dX6_lengthOf_1 : decode cX6_lengthOf 1 = .ok (.istore_n 2, 1) := dk_61 (dk_at dksX6_lengthOf_0 1 rfl rfl)
theorem dX6_lengthOf_2 : decode cX6_lengthOf 2 = .ok (.iload_n 2, 1) := dk_28 (dk_at dksX6_lengthOf_0 2 rfl rfl)
theorem dX6_lengthOf_3 : decode cX6_lengthOf 3 = .ok (.bipush 63, 2) := dk_16 63 (dk_at dksX6_lengthOf_0 3 rfl rfl)
theorem dX6_lengthOf_5 : decode cX6_lengthOf 5 = .ok (.if_icmp .ge 17, 3) := dk_162 0 17 (dk_at dksX6_lengthOf_0 5 rfl rfl)
theorem dX6_lengthOf_8 : decode cX6_lengthOf 8 = .ok (.lload_n 0, 1) := dk_30 (dk_at dksX6_lengthOf_0 8 rfl rfl)
theorem dX6_lengthOf_9 : decode cX6_lengthOf 9 = .ok (.iload_n 2, 1) := dk_28 (dk_at dksX6_lengthOf_0 9 rfl rfl)
theorem dX6_lengthOf_10 : decode cX6_lengthOf 10 = .ok (.lushr, 1) := dk_125 (dk_at dksX6_lengthOf_0 10 rfl rfl)
theorem dX6_lengthOf_11 : decode cX6_lengthOf 11 = .ok (.lconst 0, 1) := dk_9 (dk_at dksX6_lengthOf_0 11 rfl rfl)
theorem dX6_lengthOf_12 : decode cX6_lengthOf 12 = .ok (.lcmp, 1) := dk_148 (dk_at dksX6_lengthOf_0 12 rfl rfl)
theorem dX6_lengthOf_13 : decode cX6_lengthOf 13 = .ok (.ifCond .eq 9, 3) := dk_153 0 9 (dk_at dksX6_lengthOf_0 13 rfl rfl)
theorem dX6_lengthOf_16 : decode cX6_lengthOf 16 = .ok (.iinc 2 1, 3) := dk_132 2 1 (dk_at dksX6_lengthOf_0 16 rfl rfl)
theorem dX6_lengthOf_19 : decode cX6_lengthOf 19 = .ok (.goto (-17), 3) := dk_167 255 239 (dk_at dksX6_lengthOf_0 19 rfl rfl)
theorem dX6_lengthOf_22 : decode cX6_lengthOf 22 = .ok (.iload_n 2, 1) := dk_28 (dk_at dksX6_lengthOf_0 22 rfl rfl)
theorem dX6_lengthOf_23 : decode cX6_lengthOf 23 = .ok (.ireturn, 1) := dk_172 (dk_at dksX6_lengthOf_0 23 rfl rfl)
abbrev cX6_bounded : ByteArray := prog_10_method_71_code
def yX6_bounded : MethodName := ⟨RX6, "bounded", "(IJII)J"⟩
def dkwX6_bounded_6 : List UInt8 := [167, 0, 18, 21, 5, 5, 160, 0, 10, 22, 6, 136, 133, 167, 0, 5, 22, 6, 173]
abbrev dktX6_bounded_6 : List UInt8 := dkwX6_bounded_6 ++ []
def dkwX6_bounded_5 : List UInt8 := [154, 0, 11, 22, 6, 136, 145, 133, 167, 0, 32, 21, 5, 4, 160, 0, 11, 22, 6, 136, 147, 133]
abbrev dktX6_bounded_5 : List UInt8 := dkwX6_bounded_5 ++ dktX6_bounded_6
def dkwX6_bounded_4 : List UInt8 := [121, 55, 6, 42, 180, 0, 67, 153, 0, 9, 22, 6, 117, 167, 0, 5, 22, 6, 55, 6, 21, 5]
abbrev dktX6_bounded_4 : List UInt8 := dkwX6_bounded_4 ++ dktX6_bounded_5
def dkwX6_bounded_3 : List UInt8 := [167, 0, 25, 42, 180, 0, 84, 16, 63, 164, 0, 7, 9, 167, 0, 12, 42, 180, 0, 77, 42, 180, 0, 84]
abbrev dktX6_bounded_3 : List UInt8 := dkwX6_bounded_3 ++ dktX6_bounded_4
def dkwX6_bounded_2 : List UInt8 := [154, 0, 10, 42, 16, 7, 182, 0, 45, 173, 42, 180, 0, 84, 156, 0, 12, 42, 21, 4, 182, 1, 52]
abbrev dktX6_bounded_2 : List UInt8 := dkwX6_bounded_2 ++ dktX6_bounded_3
def dkwX6_bounded_1 : List UInt8 := [155, 0, 9, 21, 5, 6, 164, 0, 10, 42, 16, 9, 182, 0, 45, 173, 42, 27, 32, 182, 0, 155]
abbrev dktX6_bounded_1 : List UInt8 := dkwX6_bounded_1 ++ dktX6_bounded_2
def dkwX6_bounded_0 : List UInt8 := [42, 182, 0, 42, 27, 184, 0, 151, 153, 0, 25, 21, 4, 155, 0, 20, 21, 4, 6, 163, 0, 14, 21, 5]
abbrev dktX6_bounded_0 : List UInt8 := dkwX6_bounded_0 ++ dktX6_bounded_1
theorem dksX6_bounded_0 : cX6_bounded.data.toList.drop 0 = dktX6_bounded_0 := by decide +kernel
theorem dksX6_bounded_1 : cX6_bounded.data.toList.drop 24 = dktX6_bounded_1 := dk_seg dksX6_bounded_0 24 rfl rfl
theorem dksX6_bounded_2 : cX6_bounded.data.toList.drop 46 = dktX6_bounded_2 := dk_seg dksX6_bounded_1 22 rfl rfl
theorem dksX6_bounded_3 : cX6_bounded.data.toList.drop 69 = dktX6_bounded_3 := dk_seg dksX6_bounded_2 23 rfl rfl
theorem dksX6_bounded_4 : cX6_bounded.data.toList.drop 93 = dktX6_bounded_4 := dk_seg dksX6_bounded_3 24 rfl rfl
theorem dksX6_bounded_5 : cX6_bounded.data.toList.drop 115 = dktX6_bounded_5 := dk_seg dksX6_bounded_4 22 rfl rfl
theorem dksX6_bounded_6 : cX6_bounded.data.toList.drop 137 = dktX6_bounded_6 := dk_seg dksX6_bounded_5 22 rfl rfl
theorem dX6_bounded_0 : decode cX6_bounded 0 = .ok (.aload_n 0, 1) := dk_42 (dk_at dksX6_bounded_0 0 rfl rfl)
theorem dX6_bounded_1 : decode cX6_bounded 1 = .ok (.invokevirtual 42, 3) := dk_182 0 42 (dk_at dksX6_bounded_0 1 rfl rfl)
theorem dX6_bounded_4 : decode cX6_bounded 4 = .ok (.iload_n 1, 1) := dk_27 (dk_at dksX6_bounded_0 4 rfl rfl)
theorem dX6_bounded_5 : decode cX6_bounded 5 = .ok (.invokestatic 151, 3) := dk_184 0 151 (dk_at dksX6_bounded_0 5 rfl rfl)
theorem dX6_bounded_8 : decode cX6_bounded 8 = .ok (.ifCond .eq 25, 3) := dk_153 0 25 (dk_at dksX6_bounded_0 8 rfl rfl)
theorem dX6_bounded_11 : decode cX6_bounded 11 = .ok (.iload 4, 2) := dk_21 4 (dk_at dksX6_bounded_0 11 rfl rfl)
theorem dX6_bounded_13 : decode cX6_bounded 13 = .ok (.ifCond .lt 20, 3) := dk_155 0 20 (dk_at dksX6_bounded_0 13 rfl rfl)
theorem dX6_bounded_16 : decode cX6_bounded 16 = .ok (.iload 4, 2) := dk_21 4 (dk_at dksX6_bounded_0 16 rfl rfl)
theorem dX6_bounded_18 : decode cX6_bounded 18 = .ok (.iconst 3, 1) := dk_6 (dk_at dksX6_bounded_0 18 rfl rfl)
theorem dX6_bounded_19 : decode cX6_bounded 19 = .ok (.if_icmp .gt 14, 3) := dk_163 0 14 (dk_at dksX6_bounded_0 19 rfl rfl)
theorem dX6_bounded_22 : decode cX6_bounded 22 = .ok (.iload 5, 2) := dk_21 5 (dk_at dksX6_bounded_0 22 rfl rfl)
theorem dX6_bounded_24 : decode cX6_bounded 24 = .ok (.ifCond .lt 9, 3) := dk_155 0 9 (dk_at dksX6_bounded_1 0 rfl rfl)
theorem dX6_bounded_27 : decode cX6_bounded 27 = .ok (.iload 5, 2) := dk_21 5 (dk_at dksX6_bounded_1 3 rfl rfl)
theorem dX6_bounded_29 : decode cX6_bounded 29 = .ok (.iconst 3, 1) := dk_6 (dk_at dksX6_bounded_1 5 rfl rfl)
theorem dX6_bounded_30 : decode cX6_bounded 30 = .ok (.if_icmp .le 10, 3) := dk_164 0 10 (dk_at dksX6_bounded_1 6 rfl rfl)
theorem dX6_bounded_33 : decode cX6_bounded 33 = .ok (.aload_n 0, 1) := dk_42 (dk_at dksX6_bounded_1 9 rfl rfl)
theorem dX6_bounded_34 : decode cX6_bounded 34 = .ok (.bipush 9, 2) := dk_16 9 (dk_at dksX6_bounded_1 10 rfl rfl)
theorem dX6_bounded_36 : decode cX6_bounded 36 = .ok (.invokevirtual 45, 3) := dk_182 0 45 (dk_at dksX6_bounded_1 12 rfl rfl)
theorem dX6_bounded_39 : decode cX6_bounded 39 = .ok (.lreturn, 1) := dk_173 (dk_at dksX6_bounded_1 15 rfl rfl)
theorem dX6_bounded_40 : decode cX6_bounded 40 = .ok (.aload_n 0, 1) := dk_42 (dk_at dksX6_bounded_1 16 rfl rfl)
theorem dX6_bounded_41 : decode cX6_bounded 41 = .ok (.iload_n 1, 1) := dk_27 (dk_at dksX6_bounded_1 17 rfl rfl)
theorem dX6_bounded_42 : decode cX6_bounded 42 = .ok (.lload_n 2, 1) := dk_32 (dk_at dksX6_bounded_1 18 rfl rfl)
theorem dX6_bounded_43 : decode cX6_bounded 43 = .ok (.invokevirtual 155, 3) := dk_182 0 155 (dk_at dksX6_bounded_1 19 rfl rfl)
theorem dX6_bounded_46 : decode cX6_bounded 46 = .ok (.ifCond .ne 10, 3) := dk_154 0 10 (dk_at dksX6_bounded_2 0 rfl rfl)
theorem dX6_bounded_49 : decode cX6_bounded 49 = .ok (.aload_n 0, 1) := dk_42 (dk_at dksX6_bounded_2 3 rfl rfl)
theorem dX6_bounded_50 : decode cX6_bounded 50 = .ok (.bipush 7, 2) := dk_16 7 (dk_at dksX6_bounded_2 4 rfl rfl)
theorem dX6_bounded_52 : decode cX6_bounded 52 = .ok (.invokevirtual 45, 3) := dk_182 0 45 (dk_at dksX6_bounded_2 6 rfl rfl)
theorem dX6_bounded_55 : decode cX6_bounded 55 = .ok (.lreturn, 1) := dk_173 (dk_at dksX6_bounded_2 9 rfl rfl)
theorem dX6_bounded_56 : decode cX6_bounded 56 = .ok (.aload_n 0, 1) := dk_42 (dk_at dksX6_bounded_2 10 rfl rfl)
theorem dX6_bounded_57 : decode cX6_bounded 57 = .ok (.getfield 84, 3) := dk_180 0 84 (dk_at dksX6_bounded_2 11 rfl rfl)
theorem dX6_bounded_60 : decode cX6_bounded 60 = .ok (.ifCond .ge 12, 3) := dk_156 0 12 (dk_at dksX6_bounded_2 14 rfl rfl)
theorem dX6_bounded_63 : decode cX6_bounded 63 = .ok (.aload_n 0, 1) := dk_42 (dk_at dksX6_bounded_2 17 rfl rfl)
theorem dX6_bounded_64 : decode cX6_bounded 64 = .ok (.iload 4, 2) := dk_21 4 (dk_at dksX6_bounded_2 18 rfl rfl)
theorem dX6_bounded_66 : decode cX6_bounded 66 = .ok (.invokevirtual 308, 3) := dk_182 1 52 (dk_at dksX6_bounded_2 20 rfl rfl)
theorem dX6_bounded_69 : decode cX6_bounded 69 = .ok (.goto 25, 3) := dk_167 0 25 (dk_at dksX6_bounded_3 0 rfl rfl)
theorem dX6_bounded_72 : decode cX6_bounded 72 = .ok (.aload_n 0, 1) := dk_42 (dk_at dksX6_bounded_3 3 rfl rfl)
theorem dX6_bounded_73 : decode cX6_bounded 73 = .ok (.getfield 84, 3) := dk_180 0 84 (dk_at dksX6_bounded_3 4 rfl rfl)
theorem dX6_bounded_76 : decode cX6_bounded 76 = .ok (.bipush 63, 2) := dk_16 63 (dk_at dksX6_bounded_3 7 rfl rfl)
theorem dX6_bounded_78 : decode cX6_bounded 78 = .ok (.if_icmp .le 7, 3) := dk_164 0 7 (dk_at dksX6_bounded_3 9 rfl rfl)
theorem dX6_bounded_81 : decode cX6_bounded 81 = .ok (.lconst 0, 1) := dk_9 (dk_at dksX6_bounded_3 12 rfl rfl)
theorem dX6_bounded_82 : decode cX6_bounded 82 = .ok (.goto 12, 3) := dk_167 0 12 (dk_at dksX6_bounded_3 13 rfl rfl)
theorem dX6_bounded_85 : decode cX6_bounded 85 = .ok (.aload_n 0, 1) := dk_42 (dk_at dksX6_bounded_3 16 rfl rfl)
theorem dX6_bounded_86 : decode cX6_bounded 86 = .ok (.getfield 77, 3) := dk_180 0 77 (dk_at dksX6_bounded_3 17 rfl rfl)
theorem dX6_bounded_89 : decode cX6_bounded 89 = .ok (.aload_n 0, 1) := dk_42 (dk_at dksX6_bounded_3 20 rfl rfl)
theorem dX6_bounded_90 : decode cX6_bounded 90 = .ok (.getfield 84, 3) := dk_180 0 84 (dk_at dksX6_bounded_3 21 rfl rfl)
theorem dX6_bounded_93 : decode cX6_bounded 93 = .ok (.lshl, 1) := dk_121 (dk_at dksX6_bounded_4 0 rfl rfl)
theorem dX6_bounded_94 : decode cX6_bounded 94 = .ok (.lstore 6, 2) := dk_55 6 (dk_at dksX6_bounded_4 1 rfl rfl)
theorem dX6_bounded_96 : decode cX6_bounded 96 = .ok (.aload_n 0, 1) := dk_42 (dk_at dksX6_bounded_4 3 rfl rfl)
theorem dX6_bounded_97 : decode cX6_bounded 97 = .ok (.getfield 67, 3) := dk_180 0 67 (dk_at dksX6_bounded_4 4 rfl rfl)
theorem dX6_bounded_100 : decode cX6_bounded 100 = .ok (.ifCond .eq 9, 3) := dk_153 0 9 (dk_at dksX6_bounded_4 7 rfl rfl)
theorem dX6_bounded_103 : decode cX6_bounded 103 = .ok (.lload 6, 2) := dk_22 6 (dk_at dksX6_bounded_4 10 rfl rfl)
theorem dX6_bounded_105 : decode cX6_bounded 105 = .ok (.lneg, 1) := dk_117 (dk_at dksX6_bounded_4 12 rfl rfl)
theorem dX6_bounded_106 : decode cX6_bounded 106 = .ok (.goto 5, 3) := dk_167 0 5 (dk_at dksX6_bounded_4 13 rfl rfl)
theorem dX6_bounded_109 : decode cX6_bounded 109 = .ok (.lload 6, 2) := dk_22 6 (dk_at dksX6_bounded_4 16 rfl rfl)
theorem dX6_bounded_111 : decode cX6_bounded 111 = .ok (.lstore 6, 2) := dk_55 6 (dk_at dksX6_bounded_4 18 rfl rfl)
theorem dX6_bounded_113 : decode cX6_bounded 113 = .ok (.iload 5, 2) := dk_21 5 (dk_at dksX6_bounded_4 20 rfl rfl)
theorem dX6_bounded_115 : decode cX6_bounded 115 = .ok (.ifCond .ne 11, 3) := dk_154 0 11 (dk_at dksX6_bounded_5 0 rfl rfl)
theorem dX6_bounded_118 : decode cX6_bounded 118 = .ok (.lload 6, 2) := dk_22 6 (dk_at dksX6_bounded_5 3 rfl rfl)
theorem dX6_bounded_120 : decode cX6_bounded 120 = .ok (.l2i, 1) := dk_136 (dk_at dksX6_bounded_5 5 rfl rfl)
theorem dX6_bounded_121 : decode cX6_bounded 121 = .ok (.i2b, 1) := dk_145 (dk_at dksX6_bounded_5 6 rfl rfl)
theorem dX6_bounded_122 : decode cX6_bounded 122 = .ok (.i2l, 1) := dk_133 (dk_at dksX6_bounded_5 7 rfl rfl)
theorem dX6_bounded_123 : decode cX6_bounded 123 = .ok (.goto 32, 3) := dk_167 0 32 (dk_at dksX6_bounded_5 8 rfl rfl)
theorem dX6_bounded_126 : decode cX6_bounded 126 = .ok (.iload 5, 2) := dk_21 5 (dk_at dksX6_bounded_5 11 rfl rfl)
theorem dX6_bounded_128 : decode cX6_bounded 128 = .ok (.iconst 1, 1) := dk_4 (dk_at dksX6_bounded_5 13 rfl rfl)
theorem dX6_bounded_129 : decode cX6_bounded 129 = .ok (.if_icmp .ne 11, 3) := dk_160 0 11 (dk_at dksX6_bounded_5 14 rfl rfl)
theorem dX6_bounded_132 : decode cX6_bounded 132 = .ok (.lload 6, 2) := dk_22 6 (dk_at dksX6_bounded_5 17 rfl rfl)
theorem dX6_bounded_134 : decode cX6_bounded 134 = .ok (.l2i, 1) := dk_136 (dk_at dksX6_bounded_5 19 rfl rfl)
theorem dX6_bounded_135 : decode cX6_bounded 135 = .ok (.i2s, 1) := dk_147 (dk_at dksX6_bounded_5 20 rfl rfl)
theorem dX6_bounded_136 : decode cX6_bounded 136 = .ok (.i2l, 1) := dk_133 (dk_at dksX6_bounded_5 21 rfl rfl)
theorem dX6_bounded_137 : decode cX6_bounded 137 = .ok (.goto 18, 3) := dk_167 0 18 (dk_at dksX6_bounded_6 0 rfl rfl)
theorem dX6_bounded_140 : decode cX6_bounded 140 = .ok (.iload 5, 2) := dk_21 5 (dk_at dksX6_bounded_6 3 rfl rfl)
theorem dX6_bounded_142 : decode cX6_bounded 142 = .ok (.iconst 2, 1) := dk_5 (dk_at dksX6_bounded_6 5 rfl rfl)
theorem dX6_bounded_143 : decode cX6_bounded 143 = .ok (.if_icmp .ne 10, 3) := dk_160 0 10 (dk_at dksX6_bounded_6 6 rfl rfl)
theorem dX6_bounded_146 : decode cX6_bounded 146 = .ok (.lload 6, 2) := dk_22 6 (dk_at dksX6_bounded_6 9 rfl rfl)
theorem dX6_bounded_148 : decode cX6_bounded 148 = .ok (.l2i, 1) := dk_136 (dk_at dksX6_bounded_6 11 rfl rfl)
theorem dX6_bounded_149 : decode cX6_bounded 149 = .ok (.i2l, 1) := dk_133 (dk_at dksX6_bounded_6 12 rfl rfl)
theorem dX6_bounded_150 : decode cX6_bounded 150 = .ok (.goto 5, 3) := dk_167 0 5 (dk_at dksX6_bounded_6 13 rfl rfl)
theorem dX6_bounded_153 : decode cX6_bounded 153 = .ok (.lload 6, 2) := dk_22 6 (dk_at dksX6_bounded_6 16 rfl rfl)
theorem dX6_bounded_155 : decode cX6_bounded 155 = .ok (.lreturn, 1) := dk_173 (dk_at dksX6_bounded_6 18 rfl rfl)
abbrev cX6_fraction : ByteArray := prog_10_method_72_code
def yX6_fraction : MethodName := ⟨RX6, "fraction", "(IJ)J"⟩
def dkwX6_fraction_3 : List UInt8 := [116, 121, 10, 101, 127, 55, 4, 42, 27, 42, 180, 0, 67, 22, 4, 42, 180, 0, 84, 133, 182, 0, 163, 173]
abbrev dktX6_fraction_3 : List UInt8 := dkwX6_fraction_3 ++ []
def dkwX6_fraction_2 : List UInt8 := [180, 0, 84, 16, 194, 162, 0, 10, 42, 180, 0, 77, 167, 0, 17, 42, 180, 0, 77, 10, 42, 180, 0, 84]
abbrev dktX6_fraction_2 : List UInt8 := dkwX6_fraction_2 ++ dktX6_fraction_3
def dkwX6_fraction_1 : List UInt8 := [154, 0, 10, 42, 16, 7, 182, 0, 45, 173, 42, 180, 0, 84, 155, 0, 7, 9, 167, 0, 33, 42]
abbrev dktX6_fraction_1 : List UInt8 := dkwX6_fraction_1 ++ dktX6_fraction_2
def dkwX6_fraction_0 : List UInt8 := [42, 182, 0, 42, 27, 184, 0, 151, 154, 0, 10, 42, 16, 9, 182, 0, 45, 173, 42, 27, 32, 182, 0, 155]
abbrev dktX6_fraction_0 : List UInt8 := dkwX6_fraction_0 ++ dktX6_fraction_1
theorem dksX6_fraction_0 : cX6_fraction.data.toList.drop 0 = dktX6_fraction_0 := by decide +kernel
theorem dksX6_fraction_1 : cX6_fraction.data.toList.drop 24 = dktX6_fraction_1 := dk_seg dksX6_fraction_0 24 rfl rfl
theorem dksX6_fraction_2 : cX6_fraction.data.toList.drop 46 = dktX6_fraction_2 := dk_seg dksX6_fraction_1 22 rfl rfl
theorem dksX6_fraction_3 : cX6_fraction.data.toList.drop 70 = dktX6_fraction_3 := dk_seg dksX6_fraction_2 24 rfl rfl
theorem dX6_fraction_0 : decode cX6_fraction 0 = .ok (.aload_n 0, 1) := dk_42 (dk_at dksX6_fraction_0 0 rfl rfl)
theorem dX6_fraction_1 : decode cX6_fraction 1 = .ok (.invokevirtual 42, 3) := dk_182 0 42 (dk_at dksX6_fraction_0 1 rfl rfl)
theorem dX6_fraction_4 : decode cX6_fraction 4 = .ok (.iload_n 1, 1) := dk_27 (dk_at dksX6_fraction_0 4 rfl rfl)
theorem dX6_fraction_5 : decode cX6_fraction 5 = .ok (.invokestatic 151, 3) := dk_184 0 151 (dk_at dksX6_fraction_0 5 rfl rfl)
theorem dX6_fraction_8 : decode cX6_fraction 8 = .ok (.ifCond .ne 10, 3) := dk_154 0 10 (dk_at dksX6_fraction_0 8 rfl rfl)
theorem dX6_fraction_11 : decode cX6_fraction 11 = .ok (.aload_n 0, 1) := dk_42 (dk_at dksX6_fraction_0 11 rfl rfl)
theorem dX6_fraction_12 : decode cX6_fraction 12 = .ok (.bipush 9, 2) := dk_16 9 (dk_at dksX6_fraction_0 12 rfl rfl)
theorem dX6_fraction_14 : decode cX6_fraction 14 = .ok (.invokevirtual 45, 3) := dk_182 0 45 (dk_at dksX6_fraction_0 14 rfl rfl)
theorem dX6_fraction_17 : decode cX6_fraction 17 = .ok (.lreturn, 1) := dk_173 (dk_at dksX6_fraction_0 17 rfl rfl)
theorem dX6_fraction_18 : decode cX6_fraction 18 = .ok (.aload_n 0, 1) := dk_42 (dk_at dksX6_fraction_0 18 rfl rfl)
theorem dX6_fraction_19 : decode cX6_fraction 19 = .ok (.iload_n 1, 1) := dk_27 (dk_at dksX6_fraction_0 19 rfl rfl)
theorem dX6_fraction_20 : decode cX6_fraction 20 = .ok (.lload_n 2, 1) := dk_32 (dk_at dksX6_fraction_0 20 rfl rfl)
theorem dX6_fraction_21 : decode cX6_fraction 21 = .ok (.invokevirtual 155, 3) := dk_182 0 155 (dk_at dksX6_fraction_0 21 rfl rfl)
theorem dX6_fraction_24 : decode cX6_fraction 24 = .ok (.ifCond .ne 10, 3) := dk_154 0 10 (dk_at dksX6_fraction_1 0 rfl rfl)
theorem dX6_fraction_27 : decode cX6_fraction 27 = .ok (.aload_n 0, 1) := dk_42 (dk_at dksX6_fraction_1 3 rfl rfl)
theorem dX6_fraction_28 : decode cX6_fraction 28 = .ok (.bipush 7, 2) := dk_16 7 (dk_at dksX6_fraction_1 4 rfl rfl)
theorem dX6_fraction_30 : decode cX6_fraction 30 = .ok (.invokevirtual 45, 3) := dk_182 0 45 (dk_at dksX6_fraction_1 6 rfl rfl)
theorem dX6_fraction_33 : decode cX6_fraction 33 = .ok (.lreturn, 1) := dk_173 (dk_at dksX6_fraction_1 9 rfl rfl)
theorem dX6_fraction_34 : decode cX6_fraction 34 = .ok (.aload_n 0, 1) := dk_42 (dk_at dksX6_fraction_1 10 rfl rfl)
theorem dX6_fraction_35 : decode cX6_fraction 35 = .ok (.getfield 84, 3) := dk_180 0 84 (dk_at dksX6_fraction_1 11 rfl rfl)
theorem dX6_fraction_38 : decode cX6_fraction 38 = .ok (.ifCond .lt 7, 3) := dk_155 0 7 (dk_at dksX6_fraction_1 14 rfl rfl)
theorem dX6_fraction_41 : decode cX6_fraction 41 = .ok (.lconst 0, 1) := dk_9 (dk_at dksX6_fraction_1 17 rfl rfl)
theorem dX6_fraction_42 : decode cX6_fraction 42 = .ok (.goto 33, 3) := dk_167 0 33 (dk_at dksX6_fraction_1 18 rfl rfl)
theorem dX6_fraction_45 : decode cX6_fraction 45 = .ok (.aload_n 0, 1) := dk_42 (dk_at dksX6_fraction_1 21 rfl rfl)
theorem dX6_fraction_46 : decode cX6_fraction 46 = .ok (.getfield 84, 3) := dk_180 0 84 (dk_at dksX6_fraction_2 0 rfl rfl)
theorem dX6_fraction_49 : decode cX6_fraction 49 = .ok (.bipush (-62), 2) := dk_16 194 (dk_at dksX6_fraction_2 3 rfl rfl)
theorem dX6_fraction_51 : decode cX6_fraction 51 = .ok (.if_icmp .ge 10, 3) := dk_162 0 10 (dk_at dksX6_fraction_2 5 rfl rfl)
theorem dX6_fraction_54 : decode cX6_fraction 54 = .ok (.aload_n 0, 1) := dk_42 (dk_at dksX6_fraction_2 8 rfl rfl)
theorem dX6_fraction_55 : decode cX6_fraction 55 = .ok (.getfield 77, 3) := dk_180 0 77 (dk_at dksX6_fraction_2 9 rfl rfl)
theorem dX6_fraction_58 : decode cX6_fraction 58 = .ok (.goto 17, 3) := dk_167 0 17 (dk_at dksX6_fraction_2 12 rfl rfl)
theorem dX6_fraction_61 : decode cX6_fraction 61 = .ok (.aload_n 0, 1) := dk_42 (dk_at dksX6_fraction_2 15 rfl rfl)
theorem dX6_fraction_62 : decode cX6_fraction 62 = .ok (.getfield 77, 3) := dk_180 0 77 (dk_at dksX6_fraction_2 16 rfl rfl)
theorem dX6_fraction_65 : decode cX6_fraction 65 = .ok (.lconst 1, 1) := dk_10 (dk_at dksX6_fraction_2 19 rfl rfl)
theorem dX6_fraction_66 : decode cX6_fraction 66 = .ok (.aload_n 0, 1) := dk_42 (dk_at dksX6_fraction_2 20 rfl rfl)
theorem dX6_fraction_67 : decode cX6_fraction 67 = .ok (.getfield 84, 3) := dk_180 0 84 (dk_at dksX6_fraction_2 21 rfl rfl)
theorem dX6_fraction_70 : decode cX6_fraction 70 = .ok (.ineg, 1) := dk_116 (dk_at dksX6_fraction_3 0 rfl rfl)
theorem dX6_fraction_71 : decode cX6_fraction 71 = .ok (.lshl, 1) := dk_121 (dk_at dksX6_fraction_3 1 rfl rfl)
theorem dX6_fraction_72 : decode cX6_fraction 72 = .ok (.lconst 1, 1) := dk_10 (dk_at dksX6_fraction_3 2 rfl rfl)
theorem dX6_fraction_73 : decode cX6_fraction 73 = .ok (.lsub, 1) := dk_101 (dk_at dksX6_fraction_3 3 rfl rfl)
theorem dX6_fraction_74 : decode cX6_fraction 74 = .ok (.land, 1) := dk_127 (dk_at dksX6_fraction_3 4 rfl rfl)
theorem dX6_fraction_75 : decode cX6_fraction 75 = .ok (.lstore 4, 2) := dk_55 4 (dk_at dksX6_fraction_3 5 rfl rfl)
theorem dX6_fraction_77 : decode cX6_fraction 77 = .ok (.aload_n 0, 1) := dk_42 (dk_at dksX6_fraction_3 7 rfl rfl)
theorem dX6_fraction_78 : decode cX6_fraction 78 = .ok (.iload_n 1, 1) := dk_27 (dk_at dksX6_fraction_3 8 rfl rfl)
theorem dX6_fraction_79 : decode cX6_fraction 79 = .ok (.aload_n 0, 1) := dk_42 (dk_at dksX6_fraction_3 9 rfl rfl)
theorem dX6_fraction_80 : decode cX6_fraction 80 = .ok (.getfield 67, 3) := dk_180 0 67 (dk_at dksX6_fraction_3 10 rfl rfl)
theorem dX6_fraction_83 : decode cX6_fraction 83 = .ok (.lload 4, 2) := dk_22 4 (dk_at dksX6_fraction_3 13 rfl rfl)
theorem dX6_fraction_85 : decode cX6_fraction 85 = .ok (.aload_n 0, 1) := dk_42 (dk_at dksX6_fraction_3 15 rfl rfl)
theorem dX6_fraction_86 : decode cX6_fraction 86 = .ok (.getfield 84, 3) := dk_180 0 84 (dk_at dksX6_fraction_3 16 rfl rfl)
theorem dX6_fraction_89 : decode cX6_fraction 89 = .ok (.i2l, 1) := dk_133 (dk_at dksX6_fraction_3 19 rfl rfl)
theorem dX6_fraction_90 : decode cX6_fraction 90 = .ok (.invokevirtual 163, 3) := dk_182 0 163 (dk_at dksX6_fraction_3 20 rfl rfl)
theorem dX6_fraction_93 : decode cX6_fraction 93 = .ok (.lreturn, 1) := dk_173 (dk_at dksX6_fraction_3 23 rfl rfl)
abbrev cX6_ratio : ByteArray := prog_10_method_73_code
def yX6_ratio : MethodName := ⟨RX6, "ratio", "(IJI)J"⟩
def dkwX6_ratio_8 : List UInt8 := [153, 0, 9, 22, 6, 117, 167, 0, 5, 22, 6, 173]
abbrev dktX6_ratio_8 : List UInt8 := dkwX6_ratio_8 ++ []
def dkwX6_ratio_7 : List UInt8 := [180, 0, 84, 156, 0, 13, 10, 42, 180, 0, 84, 116, 121, 167, 0, 22, 10, 167, 0, 18, 42, 180, 0, 67]
abbrev dktX6_ratio_7 : List UInt8 := dkwX6_ratio_7 ++ dktX6_ratio_8
def dkwX6_ratio_6 : List UInt8 := [180, 0, 77, 42, 180, 0, 84, 121, 167, 0, 7, 42, 180, 0, 77, 55, 6, 21, 4, 4, 160, 0, 24, 42]
abbrev dktX6_ratio_6 : List UInt8 := dkwX6_ratio_6 ++ dktX6_ratio_7
def dkwX6_ratio_5 : List UInt8 := [42, 180, 0, 77, 10, 148, 153, 0, 10, 42, 16, 8, 182, 0, 45, 173, 42, 180, 0, 84, 158, 0, 15, 42]
abbrev dktX6_ratio_5 : List UInt8 := dkwX6_ratio_5 ++ dktX6_ratio_6
def dkwX6_ratio_4 : List UInt8 := [161, 0, 33, 21, 5, 16, 64, 163, 0, 26, 21, 5, 16, 64, 160, 0, 26, 42, 180, 0, 67, 153, 0, 12]
abbrev dktX6_ratio_4 : List UInt8 := dkwX6_ratio_4 ++ dktX6_ratio_5
def dkwX6_ratio_3 : List UInt8 := [180, 0, 77, 184, 1, 58, 42, 180, 0, 84, 96, 167, 0, 4, 3, 54, 5, 42, 180, 0, 84, 16, 194]
abbrev dktX6_ratio_3 : List UInt8 := dkwX6_ratio_3 ++ dktX6_ratio_4
def dkwX6_ratio_2 : List UInt8 := [180, 0, 77, 9, 148, 154, 0, 7, 21, 4, 133, 173, 42, 182, 1, 55, 42, 180, 0, 84, 158, 0, 18, 42]
abbrev dktX6_ratio_2 : List UInt8 := dkwX6_ratio_2 ++ dktX6_ratio_3
def dkwX6_ratio_1 : List UInt8 := [16, 9, 182, 0, 45, 173, 42, 27, 32, 182, 0, 155, 154, 0, 10, 42, 16, 7, 182, 0, 45, 173, 42]
abbrev dktX6_ratio_1 : List UInt8 := dkwX6_ratio_1 ++ dktX6_ratio_2
def dkwX6_ratio_0 : List UInt8 := [42, 182, 0, 42, 27, 184, 0, 151, 153, 0, 14, 21, 4, 155, 0, 9, 21, 4, 4, 164, 0, 10, 42]
abbrev dktX6_ratio_0 : List UInt8 := dkwX6_ratio_0 ++ dktX6_ratio_1
theorem dksX6_ratio_0 : cX6_ratio.data.toList.drop 0 = dktX6_ratio_0 := by decide +kernel
theorem dksX6_ratio_1 : cX6_ratio.data.toList.drop 23 = dktX6_ratio_1 := dk_seg dksX6_ratio_0 23 rfl rfl
theorem dksX6_ratio_2 : cX6_ratio.data.toList.drop 46 = dktX6_ratio_2 := dk_seg dksX6_ratio_1 23 rfl rfl
theorem dksX6_ratio_3 : cX6_ratio.data.toList.drop 70 = dktX6_ratio_3 := dk_seg dksX6_ratio_2 24 rfl rfl
theorem dksX6_ratio_4 : cX6_ratio.data.toList.drop 93 = dktX6_ratio_4 := dk_seg dksX6_ratio_3 23 rfl rfl
theorem dksX6_ratio_5 : cX6_ratio.data.toList.drop 117 = dktX6_ratio_5 := dk_seg dksX6_ratio_4 24 rfl rfl
theorem dksX6_ratio_6 : cX6_ratio.data.toList.drop 141 = dktX6_ratio_6 := dk_seg dksX6_ratio_5 24 rfl rfl
theorem dksX6_ratio_7 : cX6_ratio.data.toList.drop 165 = dktX6_ratio_7 := dk_seg dksX6_ratio_6 24 rfl rfl
theorem dksX6_ratio_8 : cX6_ratio.data.toList.drop 189 = dktX6_ratio_8 := dk_seg dksX6_ratio_7 24 rfl rfl
theorem dX6_ratio_0 : decode cX6_ratio 0 = .ok (.aload_n 0, 1) := dk_42 (dk_at dksX6_ratio_0 0 rfl rfl)
theorem dX6_ratio_1 : decode cX6_ratio 1 = .ok (.invokevirtual 42, 3) := dk_182 0 42 (dk_at dksX6_ratio_0 1 rfl rfl)
theorem dX6_ratio_4 : decode cX6_ratio 4 = .ok (.iload_n 1, 1) := dk_27 (dk_at dksX6_ratio_0 4 rfl rfl)
theorem dX6_ratio_5 : decode cX6_ratio 5 = .ok (.invokestatic 151, 3) := dk_184 0 151 (dk_at dksX6_ratio_0 5 rfl rfl)
theorem dX6_ratio_8 : decode cX6_ratio 8 = .ok (.ifCond .eq 14, 3) := dk_153 0 14 (dk_at dksX6_ratio_0 8 rfl rfl)
theorem dX6_ratio_11 : decode cX6_ratio 11 = .ok (.iload 4, 2) := dk_21 4 (dk_at dksX6_ratio_0 11 rfl rfl)
theorem dX6_ratio_13 : decode cX6_ratio 13 = .ok (.ifCond .lt 9, 3) := dk_155 0 9 (dk_at dksX6_ratio_0 13 rfl rfl)
theorem dX6_ratio_16 : decode cX6_ratio 16 = .ok (.iload 4, 2) := dk_21 4 (dk_at dksX6_ratio_0 16 rfl rfl)
theorem dX6_ratio_18 : decode cX6_ratio 18 = .ok (.iconst 1, 1) := dk_4 (dk_at dksX6_ratio_0 18 rfl rfl)
theorem dX6_ratio_19 : decode cX6_ratio 19 = .ok (.if_icmp .le 10, 3) := dk_164 0 10 (dk_at dksX6_ratio_0 19 rfl rfl)
theorem dX6_ratio_22 : decode cX6_ratio 22 = .ok (.aload_n 0, 1) := dk_42 (dk_at dksX6_ratio_0 22 rfl rfl)
theorem dX6_ratio_23 : decode cX6_ratio 23 = .ok (.bipush 9, 2) := dk_16 9 (dk_at dksX6_ratio_1 0 rfl rfl)
theorem dX6_ratio_25 : decode cX6_ratio 25 = .ok (.invokevirtual 45, 3) := dk_182 0 45 (dk_at dksX6_ratio_1 2 rfl rfl)
theorem dX6_ratio_28 : decode cX6_ratio 28 = .ok (.lreturn, 1) := dk_173 (dk_at dksX6_ratio_1 5 rfl rfl)
theorem dX6_ratio_29 : decode cX6_ratio 29 = .ok (.aload_n 0, 1) := dk_42 (dk_at dksX6_ratio_1 6 rfl rfl)
theorem dX6_ratio_30 : decode cX6_ratio 30 = .ok (.iload_n 1, 1) := dk_27 (dk_at dksX6_ratio_1 7 rfl rfl)
theorem dX6_ratio_31 : decode cX6_ratio 31 = .ok (.lload_n 2, 1) := dk_32 (dk_at dksX6_ratio_1 8 rfl rfl)
theorem dX6_ratio_32 : decode cX6_ratio 32 = .ok (.invokevirtual 155, 3) := dk_182 0 155 (dk_at dksX6_ratio_1 9 rfl rfl)
theorem dX6_ratio_35 : decode cX6_ratio 35 = .ok (.ifCond .ne 10, 3) := dk_154 0 10 (dk_at dksX6_ratio_1 12 rfl rfl)
theorem dX6_ratio_38 : decode cX6_ratio 38 = .ok (.aload_n 0, 1) := dk_42 (dk_at dksX6_ratio_1 15 rfl rfl)
theorem dX6_ratio_39 : decode cX6_ratio 39 = .ok (.bipush 7, 2) := dk_16 7 (dk_at dksX6_ratio_1 16 rfl rfl)
theorem dX6_ratio_41 : decode cX6_ratio 41 = .ok (.invokevirtual 45, 3) := dk_182 0 45 (dk_at dksX6_ratio_1 18 rfl rfl)
theorem dX6_ratio_44 : decode cX6_ratio 44 = .ok (.lreturn, 1) := dk_173 (dk_at dksX6_ratio_1 21 rfl rfl)
theorem dX6_ratio_45 : decode cX6_ratio 45 = .ok (.aload_n 0, 1) := dk_42 (dk_at dksX6_ratio_1 22 rfl rfl)
theorem dX6_ratio_46 : decode cX6_ratio 46 = .ok (.getfield 77, 3) := dk_180 0 77 (dk_at dksX6_ratio_2 0 rfl rfl)
theorem dX6_ratio_49 : decode cX6_ratio 49 = .ok (.lconst 0, 1) := dk_9 (dk_at dksX6_ratio_2 3 rfl rfl)
theorem dX6_ratio_50 : decode cX6_ratio 50 = .ok (.lcmp, 1) := dk_148 (dk_at dksX6_ratio_2 4 rfl rfl)
theorem dX6_ratio_51 : decode cX6_ratio 51 = .ok (.ifCond .ne 7, 3) := dk_154 0 7 (dk_at dksX6_ratio_2 5 rfl rfl)
theorem dX6_ratio_54 : decode cX6_ratio 54 = .ok (.iload 4, 2) := dk_21 4 (dk_at dksX6_ratio_2 8 rfl rfl)
theorem dX6_ratio_56 : decode cX6_ratio 56 = .ok (.i2l, 1) := dk_133 (dk_at dksX6_ratio_2 10 rfl rfl)
theorem dX6_ratio_57 : decode cX6_ratio 57 = .ok (.lreturn, 1) := dk_173 (dk_at dksX6_ratio_2 11 rfl rfl)
theorem dX6_ratio_58 : decode cX6_ratio 58 = .ok (.aload_n 0, 1) := dk_42 (dk_at dksX6_ratio_2 12 rfl rfl)
theorem dX6_ratio_59 : decode cX6_ratio 59 = .ok (.invokevirtual 311, 3) := dk_182 1 55 (dk_at dksX6_ratio_2 13 rfl rfl)
theorem dX6_ratio_62 : decode cX6_ratio 62 = .ok (.aload_n 0, 1) := dk_42 (dk_at dksX6_ratio_2 16 rfl rfl)
theorem dX6_ratio_63 : decode cX6_ratio 63 = .ok (.getfield 84, 3) := dk_180 0 84 (dk_at dksX6_ratio_2 17 rfl rfl)
theorem dX6_ratio_66 : decode cX6_ratio 66 = .ok (.ifCond .le 18, 3) := dk_158 0 18 (dk_at dksX6_ratio_2 20 rfl rfl)
theorem dX6_ratio_69 : decode cX6_ratio 69 = .ok (.aload_n 0, 1) := dk_42 (dk_at dksX6_ratio_2 23 rfl rfl)
theorem dX6_ratio_70 : decode cX6_ratio 70 = .ok (.getfield 77, 3) := dk_180 0 77 (dk_at dksX6_ratio_3 0 rfl rfl)
theorem dX6_ratio_73 : decode cX6_ratio 73 = .ok (.invokestatic 314, 3) := dk_184 1 58 (dk_at dksX6_ratio_3 3 rfl rfl)
theorem dX6_ratio_76 : decode cX6_ratio 76 = .ok (.aload_n 0, 1) := dk_42 (dk_at dksX6_ratio_3 6 rfl rfl)
theorem dX6_ratio_77 : decode cX6_ratio 77 = .ok (.getfield 84, 3) := dk_180 0 84 (dk_at dksX6_ratio_3 7 rfl rfl)
theorem dX6_ratio_80 : decode cX6_ratio 80 = .ok (.iadd, 1) := dk_96 (dk_at dksX6_ratio_3 10 rfl rfl)
theorem dX6_ratio_81 : decode cX6_ratio 81 = .ok (.goto 4, 3) := dk_167 0 4 (dk_at dksX6_ratio_3 11 rfl rfl)
theorem dX6_ratio_84 : decode cX6_ratio 84 = .ok (.iconst 0, 1) := dk_3 (dk_at dksX6_ratio_3 14 rfl rfl)
theorem dX6_ratio_85 : decode cX6_ratio 85 = .ok (.istore 5, 2) := dk_54 5 (dk_at dksX6_ratio_3 15 rfl rfl)
theorem dX6_ratio_87 : decode cX6_ratio 87 = .ok (.aload_n 0, 1) := dk_42 (dk_at dksX6_ratio_3 17 rfl rfl)
theorem dX6_ratio_88 : decode cX6_ratio 88 = .ok (.getfield 84, 3) := dk_180 0 84 (dk_at dksX6_ratio_3 18 rfl rfl)
theorem dX6_ratio_91 : decode cX6_ratio 91 = .ok (.bipush (-62), 2) := dk_16 194 (dk_at dksX6_ratio_3 21 rfl rfl)
theorem dX6_ratio_93 : decode cX6_ratio 93 = .ok (.if_icmp .lt 33, 3) := dk_161 0 33 (dk_at dksX6_ratio_4 0 rfl rfl)
theorem dX6_ratio_96 : decode cX6_ratio 96 = .ok (.iload 5, 2) := dk_21 5 (dk_at dksX6_ratio_4 3 rfl rfl)
theorem dX6_ratio_98 : decode cX6_ratio 98 = .ok (.bipush 64, 2) := dk_16 64 (dk_at dksX6_ratio_4 5 rfl rfl)
theorem dX6_ratio_100 : decode cX6_ratio 100 = .ok (.if_icmp .gt 26, 3) := dk_163 0 26 (dk_at dksX6_ratio_4 7 rfl rfl)
theorem dX6_ratio_103 : decode cX6_ratio 103 = .ok (.iload 5, 2) := dk_21 5 (dk_at dksX6_ratio_4 10 rfl rfl)
theorem dX6_ratio_105 : decode cX6_ratio 105 = .ok (.bipush 64, 2) := dk_16 64 (dk_at dksX6_ratio_4 12 rfl rfl)
theorem dX6_ratio_107 : decode cX6_ratio 107 = .ok (.if_icmp .ne 26, 3) := dk_160 0 26 (dk_at dksX6_ratio_4 14 rfl rfl)
theorem dX6_ratio_110 : decode cX6_ratio 110 = .ok (.aload_n 0, 1) := dk_42 (dk_at dksX6_ratio_4 17 rfl rfl)
theorem dX6_ratio_111 : decode cX6_ratio 111 = .ok (.getfield 67, 3) := dk_180 0 67 (dk_at dksX6_ratio_4 18 rfl rfl)
theorem dX6_ratio_114 : decode cX6_ratio 114 = .ok (.ifCond .eq 12, 3) := dk_153 0 12 (dk_at dksX6_ratio_4 21 rfl rfl)
theorem dX6_ratio_117 : decode cX6_ratio 117 = .ok (.aload_n 0, 1) := dk_42 (dk_at dksX6_ratio_5 0 rfl rfl)
theorem dX6_ratio_118 : decode cX6_ratio 118 = .ok (.getfield 77, 3) := dk_180 0 77 (dk_at dksX6_ratio_5 1 rfl rfl)
theorem dX6_ratio_121 : decode cX6_ratio 121 = .ok (.lconst 1, 1) := dk_10 (dk_at dksX6_ratio_5 4 rfl rfl)
theorem dX6_ratio_122 : decode cX6_ratio 122 = .ok (.lcmp, 1) := dk_148 (dk_at dksX6_ratio_5 5 rfl rfl)
theorem dX6_ratio_123 : decode cX6_ratio 123 = .ok (.ifCond .eq 10, 3) := dk_153 0 10 (dk_at dksX6_ratio_5 6 rfl rfl)
theorem dX6_ratio_126 : decode cX6_ratio 126 = .ok (.aload_n 0, 1) := dk_42 (dk_at dksX6_ratio_5 9 rfl rfl)
theorem dX6_ratio_127 : decode cX6_ratio 127 = .ok (.bipush 8, 2) := dk_16 8 (dk_at dksX6_ratio_5 10 rfl rfl)
theorem dX6_ratio_129 : decode cX6_ratio 129 = .ok (.invokevirtual 45, 3) := dk_182 0 45 (dk_at dksX6_ratio_5 12 rfl rfl)
theorem dX6_ratio_132 : decode cX6_ratio 132 = .ok (.lreturn, 1) := dk_173 (dk_at dksX6_ratio_5 15 rfl rfl)
theorem dX6_ratio_133 : decode cX6_ratio 133 = .ok (.aload_n 0, 1) := dk_42 (dk_at dksX6_ratio_5 16 rfl rfl)
theorem dX6_ratio_134 : decode cX6_ratio 134 = .ok (.getfield 84, 3) := dk_180 0 84 (dk_at dksX6_ratio_5 17 rfl rfl)
theorem dX6_ratio_137 : decode cX6_ratio 137 = .ok (.ifCond .le 15, 3) := dk_158 0 15 (dk_at dksX6_ratio_5 20 rfl rfl)
theorem dX6_ratio_140 : decode cX6_ratio 140 = .ok (.aload_n 0, 1) := dk_42 (dk_at dksX6_ratio_5 23 rfl rfl)
theorem dX6_ratio_141 : decode cX6_ratio 141 = .ok (.getfield 77, 3) := dk_180 0 77 (dk_at dksX6_ratio_6 0 rfl rfl)
theorem dX6_ratio_144 : decode cX6_ratio 144 = .ok (.aload_n 0, 1) := dk_42 (dk_at dksX6_ratio_6 3 rfl rfl)
theorem dX6_ratio_145 : decode cX6_ratio 145 = .ok (.getfield 84, 3) := dk_180 0 84 (dk_at dksX6_ratio_6 4 rfl rfl)
theorem dX6_ratio_148 : decode cX6_ratio 148 = .ok (.lshl, 1) := dk_121 (dk_at dksX6_ratio_6 7 rfl rfl)
theorem dX6_ratio_149 : decode cX6_ratio 149 = .ok (.goto 7, 3) := dk_167 0 7 (dk_at dksX6_ratio_6 8 rfl rfl)
theorem dX6_ratio_152 : decode cX6_ratio 152 = .ok (.aload_n 0, 1) := dk_42 (dk_at dksX6_ratio_6 11 rfl rfl)
theorem dX6_ratio_153 : decode cX6_ratio 153 = .ok (.getfield 77, 3) := dk_180 0 77 (dk_at dksX6_ratio_6 12 rfl rfl)
theorem dX6_ratio_156 : decode cX6_ratio 156 = .ok (.lstore 6, 2) := dk_55 6 (dk_at dksX6_ratio_6 15 rfl rfl)
theorem dX6_ratio_158 : decode cX6_ratio 158 = .ok (.iload 4, 2) := dk_21 4 (dk_at dksX6_ratio_6 17 rfl rfl)
theorem dX6_ratio_160 : decode cX6_ratio 160 = .ok (.iconst 1, 1) := dk_4 (dk_at dksX6_ratio_6 19 rfl rfl)
theorem dX6_ratio_161 : decode cX6_ratio 161 = .ok (.if_icmp .ne 24, 3) := dk_160 0 24 (dk_at dksX6_ratio_6 20 rfl rfl)
theorem dX6_ratio_164 : decode cX6_ratio 164 = .ok (.aload_n 0, 1) := dk_42 (dk_at dksX6_ratio_6 23 rfl rfl)
theorem dX6_ratio_165 : decode cX6_ratio 165 = .ok (.getfield 84, 3) := dk_180 0 84 (dk_at dksX6_ratio_7 0 rfl rfl)
theorem dX6_ratio_168 : decode cX6_ratio 168 = .ok (.ifCond .ge 13, 3) := dk_156 0 13 (dk_at dksX6_ratio_7 3 rfl rfl)
theorem dX6_ratio_171 : decode cX6_ratio 171 = .ok (.lconst 1, 1) := dk_10 (dk_at dksX6_ratio_7 6 rfl rfl)
theorem dX6_ratio_172 : decode cX6_ratio 172 = .ok (.aload_n 0, 1) := dk_42 (dk_at dksX6_ratio_7 7 rfl rfl)
theorem dX6_ratio_173 : decode cX6_ratio 173 = .ok (.getfield 84, 3) := dk_180 0 84 (dk_at dksX6_ratio_7 8 rfl rfl)
theorem dX6_ratio_176 : decode cX6_ratio 176 = .ok (.ineg, 1) := dk_116 (dk_at dksX6_ratio_7 11 rfl rfl)
theorem dX6_ratio_177 : decode cX6_ratio 177 = .ok (.lshl, 1) := dk_121 (dk_at dksX6_ratio_7 12 rfl rfl)
theorem dX6_ratio_178 : decode cX6_ratio 178 = .ok (.goto 22, 3) := dk_167 0 22 (dk_at dksX6_ratio_7 13 rfl rfl)
theorem dX6_ratio_181 : decode cX6_ratio 181 = .ok (.lconst 1, 1) := dk_10 (dk_at dksX6_ratio_7 16 rfl rfl)
theorem dX6_ratio_182 : decode cX6_ratio 182 = .ok (.goto 18, 3) := dk_167 0 18 (dk_at dksX6_ratio_7 17 rfl rfl)
theorem dX6_ratio_185 : decode cX6_ratio 185 = .ok (.aload_n 0, 1) := dk_42 (dk_at dksX6_ratio_7 20 rfl rfl)
theorem dX6_ratio_186 : decode cX6_ratio 186 = .ok (.getfield 67, 3) := dk_180 0 67 (dk_at dksX6_ratio_7 21 rfl rfl)
theorem dX6_ratio_189 : decode cX6_ratio 189 = .ok (.ifCond .eq 9, 3) := dk_153 0 9 (dk_at dksX6_ratio_8 0 rfl rfl)
theorem dX6_ratio_192 : decode cX6_ratio 192 = .ok (.lload 6, 2) := dk_22 6 (dk_at dksX6_ratio_8 3 rfl rfl)
theorem dX6_ratio_194 : decode cX6_ratio 194 = .ok (.lneg, 1) := dk_117 (dk_at dksX6_ratio_8 5 rfl rfl)
theorem dX6_ratio_195 : decode cX6_ratio 195 = .ok (.goto 5, 3) := dk_167 0 5 (dk_at dksX6_ratio_8 6 rfl rfl)
theorem dX6_ratio_198 : decode cX6_ratio 198 = .ok (.lload 6, 2) := dk_22 6 (dk_at dksX6_ratio_8 9 rfl rfl)
theorem dX6_ratio_200 : decode cX6_ratio 200 = .ok (.lreturn, 1) := dk_173 (dk_at dksX6_ratio_8 11 rfl rfl)
abbrev cX6_nearest : ByteArray := prog_10_method_74_code
def yX6_nearest : MethodName := ⟨RX6, "nearest", "(IJJ)J"⟩
def dkwX6_nearest_5 : List UInt8 := [173]
abbrev dktX6_nearest_5 : List UInt8 := dkwX6_nearest_5 ++ []
def dkwX6_nearest_4 : List UInt8 := [22, 4, 9, 148, 156, 0, 7, 4, 167, 0, 4, 3, 159, 0, 7, 4, 167, 0, 4, 3, 9, 182, 0, 147]
abbrev dktX6_nearest_4 : List UInt8 := dkwX6_nearest_4 ++ dktX6_nearest_5
def dkwX6_nearest_3 : List UInt8 := [22, 4, 117, 167, 0, 5, 22, 4, 184, 0, 143, 42, 27, 32, 9, 148, 156, 0, 7, 4, 167, 0, 4, 3]
abbrev dktX6_nearest_3 : List UInt8 := dkwX6_nearest_3 ++ dktX6_nearest_4
def dkwX6_nearest_2 : List UInt8 := [148, 156, 0, 8, 32, 117, 167, 0, 4, 32, 184, 0, 143, 42, 180, 0, 29, 22, 4, 9, 148, 156, 0, 9]
abbrev dktX6_nearest_2 : List UInt8 := dkwX6_nearest_2 ++ dktX6_nearest_3
def dkwX6_nearest_1 : List UInt8 := [154, 0, 10, 42, 16, 6, 182, 0, 45, 173, 32, 9, 148, 154, 0, 5, 9, 173, 42, 180, 0, 26, 32, 9]
abbrev dktX6_nearest_1 : List UInt8 := dkwX6_nearest_1 ++ dktX6_nearest_2
def dkwX6_nearest_0 : List UInt8 := [42, 182, 0, 42, 27, 184, 0, 151, 154, 0, 10, 42, 16, 9, 182, 0, 45, 173, 22, 4, 9, 148]
abbrev dktX6_nearest_0 : List UInt8 := dkwX6_nearest_0 ++ dktX6_nearest_1
theorem dksX6_nearest_0 : cX6_nearest.data.toList.drop 0 = dktX6_nearest_0 := by decide +kernel
theorem dksX6_nearest_1 : cX6_nearest.data.toList.drop 22 = dktX6_nearest_1 := dk_seg dksX6_nearest_0 22 rfl rfl
theorem dksX6_nearest_2 : cX6_nearest.data.toList.drop 46 = dktX6_nearest_2 := dk_seg dksX6_nearest_1 24 rfl rfl
theorem dksX6_nearest_3 : cX6_nearest.data.toList.drop 70 = dktX6_nearest_3 := dk_seg dksX6_nearest_2 24 rfl rfl
theorem dksX6_nearest_4 : cX6_nearest.data.toList.drop 94 = dktX6_nearest_4 := dk_seg dksX6_nearest_3 24 rfl rfl
theorem dksX6_nearest_5 : cX6_nearest.data.toList.drop 118 = dktX6_nearest_5 := dk_seg dksX6_nearest_4 24 rfl rfl
theorem dX6_nearest_0 : decode cX6_nearest 0 = .ok (.aload_n 0, 1) := dk_42 (dk_at dksX6_nearest_0 0 rfl rfl)
theorem dX6_nearest_1 : decode cX6_nearest 1 = .ok (.invokevirtual 42, 3) := dk_182 0 42 (dk_at dksX6_nearest_0 1 rfl rfl)
theorem dX6_nearest_4 : decode cX6_nearest 4 = .ok (.iload_n 1, 1) := dk_27 (dk_at dksX6_nearest_0 4 rfl rfl)
theorem dX6_nearest_5 : decode cX6_nearest 5 = .ok (.invokestatic 151, 3) := dk_184 0 151 (dk_at dksX6_nearest_0 5 rfl rfl)
theorem dX6_nearest_8 : decode cX6_nearest 8 = .ok (.ifCond .ne 10, 3) := dk_154 0 10 (dk_at dksX6_nearest_0 8 rfl rfl)
theorem dX6_nearest_11 : decode cX6_nearest 11 = .ok (.aload_n 0, 1) := dk_42 (dk_at dksX6_nearest_0 11 rfl rfl)
theorem dX6_nearest_12 : decode cX6_nearest 12 = .ok (.bipush 9, 2) := dk_16 9 (dk_at dksX6_nearest_0 12 rfl rfl)
theorem dX6_nearest_14 : decode cX6_nearest 14 = .ok (.invokevirtual 45, 3) := dk_182 0 45 (dk_at dksX6_nearest_0 14 rfl rfl)
theorem dX6_nearest_17 : decode cX6_nearest 17 = .ok (.lreturn, 1) := dk_173 (dk_at dksX6_nearest_0 17 rfl rfl)
theorem dX6_nearest_18 : decode cX6_nearest 18 = .ok (.lload 4, 2) := dk_22 4 (dk_at dksX6_nearest_0 18 rfl rfl)
theorem dX6_nearest_20 : decode cX6_nearest 20 = .ok (.lconst 0, 1) := dk_9 (dk_at dksX6_nearest_0 20 rfl rfl)
theorem dX6_nearest_21 : decode cX6_nearest 21 = .ok (.lcmp, 1) := dk_148 (dk_at dksX6_nearest_0 21 rfl rfl)
theorem dX6_nearest_22 : decode cX6_nearest 22 = .ok (.ifCond .ne 10, 3) := dk_154 0 10 (dk_at dksX6_nearest_1 0 rfl rfl)
theorem dX6_nearest_25 : decode cX6_nearest 25 = .ok (.aload_n 0, 1) := dk_42 (dk_at dksX6_nearest_1 3 rfl rfl)
theorem dX6_nearest_26 : decode cX6_nearest 26 = .ok (.bipush 6, 2) := dk_16 6 (dk_at dksX6_nearest_1 4 rfl rfl)
theorem dX6_nearest_28 : decode cX6_nearest 28 = .ok (.invokevirtual 45, 3) := dk_182 0 45 (dk_at dksX6_nearest_1 6 rfl rfl)
theorem dX6_nearest_31 : decode cX6_nearest 31 = .ok (.lreturn, 1) := dk_173 (dk_at dksX6_nearest_1 9 rfl rfl)
theorem dX6_nearest_32 : decode cX6_nearest 32 = .ok (.lload_n 2, 1) := dk_32 (dk_at dksX6_nearest_1 10 rfl rfl)
theorem dX6_nearest_33 : decode cX6_nearest 33 = .ok (.lconst 0, 1) := dk_9 (dk_at dksX6_nearest_1 11 rfl rfl)
theorem dX6_nearest_34 : decode cX6_nearest 34 = .ok (.lcmp, 1) := dk_148 (dk_at dksX6_nearest_1 12 rfl rfl)
theorem dX6_nearest_35 : decode cX6_nearest 35 = .ok (.ifCond .ne 5, 3) := dk_154 0 5 (dk_at dksX6_nearest_1 13 rfl rfl)
theorem dX6_nearest_38 : decode cX6_nearest 38 = .ok (.lconst 0, 1) := dk_9 (dk_at dksX6_nearest_1 16 rfl rfl)
theorem dX6_nearest_39 : decode cX6_nearest 39 = .ok (.lreturn, 1) := dk_173 (dk_at dksX6_nearest_1 17 rfl rfl)
theorem dX6_nearest_40 : decode cX6_nearest 40 = .ok (.aload_n 0, 1) := dk_42 (dk_at dksX6_nearest_1 18 rfl rfl)
theorem dX6_nearest_41 : decode cX6_nearest 41 = .ok (.getfield 26, 3) := dk_180 0 26 (dk_at dksX6_nearest_1 19 rfl rfl)
theorem dX6_nearest_44 : decode cX6_nearest 44 = .ok (.lload_n 2, 1) := dk_32 (dk_at dksX6_nearest_1 22 rfl rfl)
theorem dX6_nearest_45 : decode cX6_nearest 45 = .ok (.lconst 0, 1) := dk_9 (dk_at dksX6_nearest_1 23 rfl rfl)
theorem dX6_nearest_46 : decode cX6_nearest 46 = .ok (.lcmp, 1) := dk_148 (dk_at dksX6_nearest_2 0 rfl rfl)
theorem dX6_nearest_47 : decode cX6_nearest 47 = .ok (.ifCond .ge 8, 3) := dk_156 0 8 (dk_at dksX6_nearest_2 1 rfl rfl)
theorem dX6_nearest_50 : decode cX6_nearest 50 = .ok (.lload_n 2, 1) := dk_32 (dk_at dksX6_nearest_2 4 rfl rfl)
theorem dX6_nearest_51 : decode cX6_nearest 51 = .ok (.lneg, 1) := dk_117 (dk_at dksX6_nearest_2 5 rfl rfl)
theorem dX6_nearest_52 : decode cX6_nearest 52 = .ok (.goto 4, 3) := dk_167 0 4 (dk_at dksX6_nearest_2 6 rfl rfl)
theorem dX6_nearest_55 : decode cX6_nearest 55 = .ok (.lload_n 2, 1) := dk_32 (dk_at dksX6_nearest_2 9 rfl rfl)
theorem dX6_nearest_56 : decode cX6_nearest 56 = .ok (.invokestatic 143, 3) := dk_184 0 143 (dk_at dksX6_nearest_2 10 rfl rfl)
theorem dX6_nearest_59 : decode cX6_nearest 59 = .ok (.aload_n 0, 1) := dk_42 (dk_at dksX6_nearest_2 13 rfl rfl)
theorem dX6_nearest_60 : decode cX6_nearest 60 = .ok (.getfield 29, 3) := dk_180 0 29 (dk_at dksX6_nearest_2 14 rfl rfl)
theorem dX6_nearest_63 : decode cX6_nearest 63 = .ok (.lload 4, 2) := dk_22 4 (dk_at dksX6_nearest_2 17 rfl rfl)
theorem dX6_nearest_65 : decode cX6_nearest 65 = .ok (.lconst 0, 1) := dk_9 (dk_at dksX6_nearest_2 19 rfl rfl)
theorem dX6_nearest_66 : decode cX6_nearest 66 = .ok (.lcmp, 1) := dk_148 (dk_at dksX6_nearest_2 20 rfl rfl)
theorem dX6_nearest_67 : decode cX6_nearest 67 = .ok (.ifCond .ge 9, 3) := dk_156 0 9 (dk_at dksX6_nearest_2 21 rfl rfl)
theorem dX6_nearest_70 : decode cX6_nearest 70 = .ok (.lload 4, 2) := dk_22 4 (dk_at dksX6_nearest_3 0 rfl rfl)
theorem dX6_nearest_72 : decode cX6_nearest 72 = .ok (.lneg, 1) := dk_117 (dk_at dksX6_nearest_3 2 rfl rfl)
theorem dX6_nearest_73 : decode cX6_nearest 73 = .ok (.goto 5, 3) := dk_167 0 5 (dk_at dksX6_nearest_3 3 rfl rfl)
theorem dX6_nearest_76 : decode cX6_nearest 76 = .ok (.lload 4, 2) := dk_22 4 (dk_at dksX6_nearest_3 6 rfl rfl)
theorem dX6_nearest_78 : decode cX6_nearest 78 = .ok (.invokestatic 143, 3) := dk_184 0 143 (dk_at dksX6_nearest_3 8 rfl rfl)
theorem dX6_nearest_81 : decode cX6_nearest 81 = .ok (.aload_n 0, 1) := dk_42 (dk_at dksX6_nearest_3 11 rfl rfl)
theorem dX6_nearest_82 : decode cX6_nearest 82 = .ok (.iload_n 1, 1) := dk_27 (dk_at dksX6_nearest_3 12 rfl rfl)
theorem dX6_nearest_83 : decode cX6_nearest 83 = .ok (.lload_n 2, 1) := dk_32 (dk_at dksX6_nearest_3 13 rfl rfl)
theorem dX6_nearest_84 : decode cX6_nearest 84 = .ok (.lconst 0, 1) := dk_9 (dk_at dksX6_nearest_3 14 rfl rfl)
theorem dX6_nearest_85 : decode cX6_nearest 85 = .ok (.lcmp, 1) := dk_148 (dk_at dksX6_nearest_3 15 rfl rfl)
theorem dX6_nearest_86 : decode cX6_nearest 86 = .ok (.ifCond .ge 7, 3) := dk_156 0 7 (dk_at dksX6_nearest_3 16 rfl rfl)
theorem dX6_nearest_89 : decode cX6_nearest 89 = .ok (.iconst 1, 1) := dk_4 (dk_at dksX6_nearest_3 19 rfl rfl)
theorem dX6_nearest_90 : decode cX6_nearest 90 = .ok (.goto 4, 3) := dk_167 0 4 (dk_at dksX6_nearest_3 20 rfl rfl)
theorem dX6_nearest_93 : decode cX6_nearest 93 = .ok (.iconst 0, 1) := dk_3 (dk_at dksX6_nearest_3 23 rfl rfl)
theorem dX6_nearest_94 : decode cX6_nearest 94 = .ok (.lload 4, 2) := dk_22 4 (dk_at dksX6_nearest_4 0 rfl rfl)
theorem dX6_nearest_96 : decode cX6_nearest 96 = .ok (.lconst 0, 1) := dk_9 (dk_at dksX6_nearest_4 2 rfl rfl)
theorem dX6_nearest_97 : decode cX6_nearest 97 = .ok (.lcmp, 1) := dk_148 (dk_at dksX6_nearest_4 3 rfl rfl)
theorem dX6_nearest_98 : decode cX6_nearest 98 = .ok (.ifCond .ge 7, 3) := dk_156 0 7 (dk_at dksX6_nearest_4 4 rfl rfl)
theorem dX6_nearest_101 : decode cX6_nearest 101 = .ok (.iconst 1, 1) := dk_4 (dk_at dksX6_nearest_4 7 rfl rfl)
theorem dX6_nearest_102 : decode cX6_nearest 102 = .ok (.goto 4, 3) := dk_167 0 4 (dk_at dksX6_nearest_4 8 rfl rfl)
theorem dX6_nearest_105 : decode cX6_nearest 105 = .ok (.iconst 0, 1) := dk_3 (dk_at dksX6_nearest_4 11 rfl rfl)
theorem dX6_nearest_106 : decode cX6_nearest 106 = .ok (.if_icmp .eq 7, 3) := dk_159 0 7 (dk_at dksX6_nearest_4 12 rfl rfl)
theorem dX6_nearest_109 : decode cX6_nearest 109 = .ok (.iconst 1, 1) := dk_4 (dk_at dksX6_nearest_4 15 rfl rfl)
theorem dX6_nearest_110 : decode cX6_nearest 110 = .ok (.goto 4, 3) := dk_167 0 4 (dk_at dksX6_nearest_4 16 rfl rfl)
theorem dX6_nearest_113 : decode cX6_nearest 113 = .ok (.iconst 0, 1) := dk_3 (dk_at dksX6_nearest_4 19 rfl rfl)
theorem dX6_nearest_114 : decode cX6_nearest 114 = .ok (.lconst 0, 1) := dk_9 (dk_at dksX6_nearest_4 20 rfl rfl)
theorem dX6_nearest_115 : decode cX6_nearest 115 = .ok (.invokevirtual 147, 3) := dk_182 0 147 (dk_at dksX6_nearest_4 21 rfl rfl)
theorem dX6_nearest_118 : decode cX6_nearest 118 = .ok (.lreturn, 1) := dk_173 (dk_at dksX6_nearest_5 0 rfl rfl)
abbrev cX6_digit : ByteArray := prog_10_method_75_code
def yX6_digit : MethodName := ⟨RX6, "digit", "(IJI)I"⟩
def dkwX6_digit_3 : List UInt8 := [182, 0, 159, 42, 180, 0, 77, 27, 184, 0, 61, 4, 100, 21, 4, 100, 125, 10, 127, 136, 172]
abbrev dktX6_digit_3 : List UInt8 := dkwX6_digit_3 ++ []
def dkwX6_digit_2 : List UInt8 := [21, 4, 155, 0, 12, 21, 4, 27, 184, 0, 61, 161, 0, 10, 42, 5, 182, 0, 45, 136, 172, 42, 27]
abbrev dktX6_digit_2 : List UInt8 := dkwX6_digit_2 ++ dktX6_digit_3
def dkwX6_digit_1 : List UInt8 := [182, 0, 155, 154, 0, 11, 42, 16, 7, 182, 0, 45, 136, 172, 42, 180, 0, 77, 9, 148, 153, 0, 17]
abbrev dktX6_digit_1 : List UInt8 := dkwX6_digit_1 ++ dktX6_digit_2
def dkwX6_digit_0 : List UInt8 := [42, 182, 0, 42, 27, 184, 0, 151, 154, 0, 11, 42, 16, 9, 182, 0, 45, 136, 172, 42, 27, 32]
abbrev dktX6_digit_0 : List UInt8 := dkwX6_digit_0 ++ dktX6_digit_1
theorem dksX6_digit_0 : cX6_digit.data.toList.drop 0 = dktX6_digit_0 := by decide +kernel
theorem dksX6_digit_1 : cX6_digit.data.toList.drop 22 = dktX6_digit_1 := dk_seg dksX6_digit_0 22 rfl rfl
theorem dksX6_digit_2 : cX6_digit.data.toList.drop 45 = dktX6_digit_2 := dk_seg dksX6_digit_1 23 rfl rfl
theorem dksX6_digit_3 : cX6_digit.data.toList.drop 68 = dktX6_digit_3 := dk_seg dksX6_digit_2 23 rfl rfl
theorem dX6_digit_0 : decode cX6_digit 0 = .ok (.aload_n 0, 1) := dk_42 (dk_at dksX6_digit_0 0 rfl rfl)
theorem dX6_digit_1 : decode cX6_digit 1 = .ok (.invokevirtual 42, 3) := dk_182 0 42 (dk_at dksX6_digit_0 1 rfl rfl)
theorem dX6_digit_4 : decode cX6_digit 4 = .ok (.iload_n 1, 1) := dk_27 (dk_at dksX6_digit_0 4 rfl rfl)
theorem dX6_digit_5 : decode cX6_digit 5 = .ok (.invokestatic 151, 3) := dk_184 0 151 (dk_at dksX6_digit_0 5 rfl rfl)
theorem dX6_digit_8 : decode cX6_digit 8 = .ok (.ifCond .ne 11, 3) := dk_154 0 11 (dk_at dksX6_digit_0 8 rfl rfl)
theorem dX6_digit_11 : decode cX6_digit 11 = .ok (.aload_n 0, 1) := dk_42 (dk_at dksX6_digit_0 11 rfl rfl)
theorem dX6_digit_12 : decode cX6_digit 12 = .ok (.bipush 9, 2) := dk_16 9 (dk_at dksX6_digit_0 12 rfl rfl)
theorem dX6_digit_14 : decode cX6_digit 14 = .ok (.invokevirtual 45, 3) := dk_182 0 45 (dk_at dksX6_digit_0 14 rfl rfl)
theorem dX6_digit_17 : decode cX6_digit 17 = .ok (.l2i, 1) := dk_136 (dk_at dksX6_digit_0 17 rfl rfl)
theorem dX6_digit_18 : decode cX6_digit 18 = .ok (.ireturn, 1) := dk_172 (dk_at dksX6_digit_0 18 rfl rfl)
theorem dX6_digit_19 : decode cX6_digit 19 = .ok (.aload_n 0, 1) := dk_42 (dk_at dksX6_digit_0 19 rfl rfl)
theorem dX6_digit_20 : decode cX6_digit 20 = .ok (.iload_n 1, 1) := dk_27 (dk_at dksX6_digit_0 20 rfl rfl)
theorem dX6_digit_21 : decode cX6_digit 21 = .ok (.lload_n 2, 1) := dk_32 (dk_at dksX6_digit_0 21 rfl rfl)
theorem dX6_digit_22 : decode cX6_digit 22 = .ok (.invokevirtual 155, 3) := dk_182 0 155 (dk_at dksX6_digit_1 0 rfl rfl)
theorem dX6_digit_25 : decode cX6_digit 25 = .ok (.ifCond .ne 11, 3) := dk_154 0 11 (dk_at dksX6_digit_1 3 rfl rfl)
theorem dX6_digit_28 : decode cX6_digit 28 = .ok (.aload_n 0, 1) := dk_42 (dk_at dksX6_digit_1 6 rfl rfl)
theorem dX6_digit_29 : decode cX6_digit 29 = .ok (.bipush 7, 2) := dk_16 7 (dk_at dksX6_digit_1 7 rfl rfl)
theorem dX6_digit_31 : decode cX6_digit 31 = .ok (.invokevirtual 45, 3) := dk_182 0 45 (dk_at dksX6_digit_1 9 rfl rfl)
theorem dX6_digit_34 : decode cX6_digit 34 = .ok (.l2i, 1) := dk_136 (dk_at dksX6_digit_1 12 rfl rfl)
theorem dX6_digit_35 : decode cX6_digit 35 = .ok (.ireturn, 1) := dk_172 (dk_at dksX6_digit_1 13 rfl rfl)
theorem dX6_digit_36 : decode cX6_digit 36 = .ok (.aload_n 0, 1) := dk_42 (dk_at dksX6_digit_1 14 rfl rfl)
theorem dX6_digit_37 : decode cX6_digit 37 = .ok (.getfield 77, 3) := dk_180 0 77 (dk_at dksX6_digit_1 15 rfl rfl)
theorem dX6_digit_40 : decode cX6_digit 40 = .ok (.lconst 0, 1) := dk_9 (dk_at dksX6_digit_1 18 rfl rfl)
theorem dX6_digit_41 : decode cX6_digit 41 = .ok (.lcmp, 1) := dk_148 (dk_at dksX6_digit_1 19 rfl rfl)
theorem dX6_digit_42 : decode cX6_digit 42 = .ok (.ifCond .eq 17, 3) := dk_153 0 17 (dk_at dksX6_digit_1 20 rfl rfl)
theorem dX6_digit_45 : decode cX6_digit 45 = .ok (.iload 4, 2) := dk_21 4 (dk_at dksX6_digit_2 0 rfl rfl)
theorem dX6_digit_47 : decode cX6_digit 47 = .ok (.ifCond .lt 12, 3) := dk_155 0 12 (dk_at dksX6_digit_2 2 rfl rfl)
theorem dX6_digit_50 : decode cX6_digit 50 = .ok (.iload 4, 2) := dk_21 4 (dk_at dksX6_digit_2 5 rfl rfl)
theorem dX6_digit_52 : decode cX6_digit 52 = .ok (.iload_n 1, 1) := dk_27 (dk_at dksX6_digit_2 7 rfl rfl)
theorem dX6_digit_53 : decode cX6_digit 53 = .ok (.invokestatic 61, 3) := dk_184 0 61 (dk_at dksX6_digit_2 8 rfl rfl)
theorem dX6_digit_56 : decode cX6_digit 56 = .ok (.if_icmp .lt 10, 3) := dk_161 0 10 (dk_at dksX6_digit_2 11 rfl rfl)
theorem dX6_digit_59 : decode cX6_digit 59 = .ok (.aload_n 0, 1) := dk_42 (dk_at dksX6_digit_2 14 rfl rfl)
theorem dX6_digit_60 : decode cX6_digit 60 = .ok (.iconst 2, 1) := dk_5 (dk_at dksX6_digit_2 15 rfl rfl)
theorem dX6_digit_61 : decode cX6_digit 61 = .ok (.invokevirtual 45, 3) := dk_182 0 45 (dk_at dksX6_digit_2 16 rfl rfl)
theorem dX6_digit_64 : decode cX6_digit 64 = .ok (.l2i, 1) := dk_136 (dk_at dksX6_digit_2 19 rfl rfl)
theorem dX6_digit_65 : decode cX6_digit 65 = .ok (.ireturn, 1) := dk_172 (dk_at dksX6_digit_2 20 rfl rfl)
theorem dX6_digit_66 : decode cX6_digit 66 = .ok (.aload_n 0, 1) := dk_42 (dk_at dksX6_digit_2 21 rfl rfl)
theorem dX6_digit_67 : decode cX6_digit 67 = .ok (.iload_n 1, 1) := dk_27 (dk_at dksX6_digit_2 22 rfl rfl)
theorem dX6_digit_68 : decode cX6_digit 68 = .ok (.invokevirtual 159, 3) := dk_182 0 159 (dk_at dksX6_digit_3 0 rfl rfl)
theorem dX6_digit_71 : decode cX6_digit 71 = .ok (.aload_n 0, 1) := dk_42 (dk_at dksX6_digit_3 3 rfl rfl)
theorem dX6_digit_72 : decode cX6_digit 72 = .ok (.getfield 77, 3) := dk_180 0 77 (dk_at dksX6_digit_3 4 rfl rfl)
theorem dX6_digit_75 : decode cX6_digit 75 = .ok (.iload_n 1, 1) := dk_27 (dk_at dksX6_digit_3 7 rfl rfl)
theorem dX6_digit_76 : decode cX6_digit 76 = .ok (.invokestatic 61, 3) := dk_184 0 61 (dk_at dksX6_digit_3 8 rfl rfl)
theorem dX6_digit_79 : decode cX6_digit 79 = .ok (.iconst 1, 1) := dk_4 (dk_at dksX6_digit_3 11 rfl rfl)
theorem dX6_digit_80 : decode cX6_digit 80 = .ok (.isub, 1) := dk_100 (dk_at dksX6_digit_3 12 rfl rfl)
theorem dX6_digit_81 : decode cX6_digit 81 = .ok (.iload 4, 2) := dk_21 4 (dk_at dksX6_digit_3 13 rfl rfl)
theorem dX6_digit_83 : decode cX6_digit 83 = .ok (.isub, 1) := dk_100 (dk_at dksX6_digit_3 15 rfl rfl)
theorem dX6_digit_84 : decode cX6_digit 84 = .ok (.lushr, 1) := dk_125 (dk_at dksX6_digit_3 16 rfl rfl)
theorem dX6_digit_85 : decode cX6_digit 85 = .ok (.lconst 1, 1) := dk_10 (dk_at dksX6_digit_3 17 rfl rfl)
theorem dX6_digit_86 : decode cX6_digit 86 = .ok (.land, 1) := dk_127 (dk_at dksX6_digit_3 18 rfl rfl)
theorem dX6_digit_87 : decode cX6_digit 87 = .ok (.l2i, 1) := dk_136 (dk_at dksX6_digit_3 19 rfl rfl)
theorem dX6_digit_88 : decode cX6_digit 88 = .ok (.ireturn, 1) := dk_172 (dk_at dksX6_digit_3 20 rfl rfl)
abbrev cX6_count : ByteArray := prog_10_method_79_code
def yX6_count : MethodName := ⟨RX6, "count", "(IJJJ)I"⟩
def dkwX6_count_2 : List UInt8 := [167, 0, 5, 21, 8, 172]
abbrev dktX6_count_2 : List UInt8 := dkwX6_count_2 ++ []
def dkwX6_count_1 : List UInt8 := [22, 6, 182, 1, 72, 54, 8, 21, 8, 17, 3, 232, 164, 0, 13, 42, 16, 8, 182, 0, 45, 136]
abbrev dktX6_count_1 : List UInt8 := dkwX6_count_1 ++ dktX6_count_2
def dkwX6_count_0 : List UInt8 := [42, 182, 0, 42, 27, 184, 0, 151, 154, 0, 11, 42, 16, 9, 182, 0, 45, 136, 172, 42, 27, 32, 22, 4]
abbrev dktX6_count_0 : List UInt8 := dkwX6_count_0 ++ dktX6_count_1
theorem dksX6_count_0 : cX6_count.data.toList.drop 0 = dktX6_count_0 := by decide +kernel
theorem dksX6_count_1 : cX6_count.data.toList.drop 24 = dktX6_count_1 := dk_seg dksX6_count_0 24 rfl rfl
theorem dksX6_count_2 : cX6_count.data.toList.drop 46 = dktX6_count_2 := dk_seg dksX6_count_1 22 rfl rfl
theorem dX6_count_0 : decode cX6_count 0 = .ok (.aload_n 0, 1) := dk_42 (dk_at dksX6_count_0 0 rfl rfl)
theorem dX6_count_1 : decode cX6_count 1 = .ok (.invokevirtual 42, 3) := dk_182 0 42 (dk_at dksX6_count_0 1 rfl rfl)
theorem dX6_count_4 : decode cX6_count 4 = .ok (.iload_n 1, 1) := dk_27 (dk_at dksX6_count_0 4 rfl rfl)
theorem dX6_count_5 : decode cX6_count 5 = .ok (.invokestatic 151, 3) := dk_184 0 151 (dk_at dksX6_count_0 5 rfl rfl)
theorem dX6_count_8 : decode cX6_count 8 = .ok (.ifCond .ne 11, 3) := dk_154 0 11 (dk_at dksX6_count_0 8 rfl rfl)
theorem dX6_count_11 : decode cX6_count 11 = .ok (.aload_n 0, 1) := dk_42 (dk_at dksX6_count_0 11 rfl rfl)
theorem dX6_count_12 : decode cX6_count 12 = .ok (.bipush 9, 2) := dk_16 9 (dk_at dksX6_count_0 12 rfl rfl)
theorem dX6_count_14 : decode cX6_count 14 = .ok (.invokevirtual 45, 3) := dk_182 0 45 (dk_at dksX6_count_0 14 rfl rfl)
theorem dX6_count_17 : decode cX6_count 17 = .ok (.l2i, 1) := dk_136 (dk_at dksX6_count_0 17 rfl rfl)
theorem dX6_count_18 : decode cX6_count 18 = .ok (.ireturn, 1) := dk_172 (dk_at dksX6_count_0 18 rfl rfl)
theorem dX6_count_19 : decode cX6_count 19 = .ok (.aload_n 0, 1) := dk_42 (dk_at dksX6_count_0 19 rfl rfl)
theorem dX6_count_20 : decode cX6_count 20 = .ok (.iload_n 1, 1) := dk_27 (dk_at dksX6_count_0 20 rfl rfl)
theorem dX6_count_21 : decode cX6_count 21 = .ok (.lload_n 2, 1) := dk_32 (dk_at dksX6_count_0 21 rfl rfl)
theorem dX6_count_22 : decode cX6_count 22 = .ok (.lload 4, 2) := dk_22 4 (dk_at dksX6_count_0 22 rfl rfl)
theorem dX6_count_24 : decode cX6_count 24 = .ok (.lload 6, 2) := dk_22 6 (dk_at dksX6_count_1 0 rfl rfl)
theorem dX6_count_26 : decode cX6_count 26 = .ok (.invokevirtual 328, 3) := dk_182 1 72 (dk_at dksX6_count_1 2 rfl rfl)
theorem dX6_count_29 : decode cX6_count 29 = .ok (.istore 8, 2) := dk_54 8 (dk_at dksX6_count_1 5 rfl rfl)
theorem dX6_count_31 : decode cX6_count 31 = .ok (.iload 8, 2) := dk_21 8 (dk_at dksX6_count_1 7 rfl rfl)
theorem dX6_count_33 : decode cX6_count 33 = .ok (.sipush 1000, 3) := dk_17 3 232 (dk_at dksX6_count_1 9 rfl rfl)
theorem dX6_count_36 : decode cX6_count 36 = .ok (.if_icmp .le 13, 3) := dk_164 0 13 (dk_at dksX6_count_1 12 rfl rfl)
theorem dX6_count_39 : decode cX6_count 39 = .ok (.aload_n 0, 1) := dk_42 (dk_at dksX6_count_1 15 rfl rfl)
theorem dX6_count_40 : decode cX6_count 40 = .ok (.bipush 8, 2) := dk_16 8 (dk_at dksX6_count_1 16 rfl rfl)
theorem dX6_count_42 : decode cX6_count 42 = .ok (.invokevirtual 45, 3) := dk_182 0 45 (dk_at dksX6_count_1 18 rfl rfl)
theorem dX6_count_45 : decode cX6_count 45 = .ok (.l2i, 1) := dk_136 (dk_at dksX6_count_1 21 rfl rfl)
theorem dX6_count_46 : decode cX6_count 46 = .ok (.goto 5, 3) := dk_167 0 5 (dk_at dksX6_count_2 0 rfl rfl)
theorem dX6_count_49 : decode cX6_count 49 = .ok (.iload 8, 2) := dk_21 8 (dk_at dksX6_count_2 3 rfl rfl)
theorem dX6_count_51 : decode cX6_count 51 = .ok (.ireturn, 1) := dk_172 (dk_at dksX6_count_2 5 rfl rfl)
abbrev cX6_many : ByteArray := prog_10_method_78_code
def yX6_many : MethodName := ⟨RX6, "many", "(IJJJ)I"⟩
def dkwX6_many_1 : List UInt8 := [21, 8, 182, 1, 64, 182, 1, 68, 153, 0, 9, 132, 8, 1, 167, 255, 222, 21, 8, 172]
abbrev dktX6_many_1 : List UInt8 := dkwX6_many_1 ++ []
def dkwX6_many_0 : List UInt8 := [3, 54, 8, 21, 8, 17, 3, 232, 163, 0, 32, 42, 27, 32, 22, 4, 22, 6, 42, 27, 32, 22, 4]
abbrev dktX6_many_0 : List UInt8 := dkwX6_many_0 ++ dktX6_many_1
theorem dksX6_many_0 : cX6_many.data.toList.drop 0 = dktX6_many_0 := by decide +kernel
theorem dksX6_many_1 : cX6_many.data.toList.drop 23 = dktX6_many_1 := dk_seg dksX6_many_0 23 rfl rfl
theorem dX6_many_0 : decode cX6_many 0 = .ok (.iconst 0, 1) := dk_3 (dk_at dksX6_many_0 0 rfl rfl)
theorem dX6_many_1 : decode cX6_many 1 = .ok (.istore 8, 2) := dk_54 8 (dk_at dksX6_many_0 1 rfl rfl)
theorem dX6_many_3 : decode cX6_many 3 = .ok (.iload 8, 2) := dk_21 8 (dk_at dksX6_many_0 3 rfl rfl)
theorem dX6_many_5 : decode cX6_many 5 = .ok (.sipush 1000, 3) := dk_17 3 232 (dk_at dksX6_many_0 5 rfl rfl)
theorem dX6_many_8 : decode cX6_many 8 = .ok (.if_icmp .gt 32, 3) := dk_163 0 32 (dk_at dksX6_many_0 8 rfl rfl)
theorem dX6_many_11 : decode cX6_many 11 = .ok (.aload_n 0, 1) := dk_42 (dk_at dksX6_many_0 11 rfl rfl)
theorem dX6_many_12 : decode cX6_many 12 = .ok (.iload_n 1, 1) := dk_27 (dk_at dksX6_many_0 12 rfl rfl)
theorem dX6_many_13 : decode cX6_many 13 = .ok (.lload_n 2, 1) := dk_32 (dk_at dksX6_many_0 13 rfl rfl)
theorem dX6_many_14 : decode cX6_many 14 = .ok (.lload 4, 2) := dk_22 4 (dk_at dksX6_many_0 14 rfl rfl)
theorem dX6_many_16 : decode cX6_many 16 = .ok (.lload 6, 2) := dk_22 6 (dk_at dksX6_many_0 16 rfl rfl)
theorem dX6_many_18 : decode cX6_many 18 = .ok (.aload_n 0, 1) := dk_42 (dk_at dksX6_many_0 18 rfl rfl)
theorem dX6_many_19 : decode cX6_many 19 = .ok (.iload_n 1, 1) := dk_27 (dk_at dksX6_many_0 19 rfl rfl)
theorem dX6_many_20 : decode cX6_many 20 = .ok (.lload_n 2, 1) := dk_32 (dk_at dksX6_many_0 20 rfl rfl)
theorem dX6_many_21 : decode cX6_many 21 = .ok (.lload 4, 2) := dk_22 4 (dk_at dksX6_many_0 21 rfl rfl)
theorem dX6_many_23 : decode cX6_many 23 = .ok (.iload 8, 2) := dk_21 8 (dk_at dksX6_many_1 0 rfl rfl)
theorem dX6_many_25 : decode cX6_many 25 = .ok (.invokevirtual 320, 3) := dk_182 1 64 (dk_at dksX6_many_1 2 rfl rfl)
theorem dX6_many_28 : decode cX6_many 28 = .ok (.invokevirtual 324, 3) := dk_182 1 68 (dk_at dksX6_many_1 5 rfl rfl)
theorem dX6_many_31 : decode cX6_many 31 = .ok (.ifCond .eq 9, 3) := dk_153 0 9 (dk_at dksX6_many_1 8 rfl rfl)
theorem dX6_many_34 : decode cX6_many 34 = .ok (.iinc 8 1, 3) := dk_132 8 1 (dk_at dksX6_many_1 11 rfl rfl)
theorem dX6_many_37 : decode cX6_many 37 = .ok (.goto (-34), 3) := dk_167 255 222 (dk_at dksX6_many_1 14 rfl rfl)
theorem dX6_many_40 : decode cX6_many 40 = .ok (.iload 8, 2) := dk_21 8 (dk_at dksX6_many_1 17 rfl rfl)
theorem dX6_many_42 : decode cX6_many 42 = .ok (.ireturn, 1) := dk_172 (dk_at dksX6_many_1 19 rfl rfl)
abbrev cX6_nth : ByteArray := prog_10_method_76_code
def yX6_nth : MethodName := ⟨RX6, "nth", "(IJJI)J"⟩
def dkwX6_nth_3 : List UInt8 := [173]
abbrev dktX6_nth_3 : List UInt8 := dkwX6_nth_3 ++ []
def dkwX6_nth_2 : List UInt8 := [184, 1, 18, 57, 7, 27, 32, 184, 0, 249, 21, 6, 135, 24, 7, 184, 1, 20, 184, 1, 16, 184, 0, 234]
abbrev dktX6_nth_2 : List UInt8 := dkwX6_nth_2 ++ dktX6_nth_3
def dkwX6_nth_1 : List UInt8 := [134, 23, 7, 184, 1, 10, 184, 1, 4, 184, 0, 228, 173, 27, 22, 4, 184, 0, 249, 27, 32, 184, 0, 249]
abbrev dktX6_nth_1 : List UInt8 := dkwX6_nth_1 ++ dktX6_nth_2
def dkwX6_nth_0 : List UInt8 := [27, 154, 0, 36, 22, 4, 184, 0, 191, 32, 184, 0, 191, 184, 1, 7, 56, 7, 32, 184, 0, 191, 21, 6]
abbrev dktX6_nth_0 : List UInt8 := dkwX6_nth_0 ++ dktX6_nth_1
theorem dksX6_nth_0 : cX6_nth.data.toList.drop 0 = dktX6_nth_0 := by decide +kernel
theorem dksX6_nth_1 : cX6_nth.data.toList.drop 24 = dktX6_nth_1 := dk_seg dksX6_nth_0 24 rfl rfl
theorem dksX6_nth_2 : cX6_nth.data.toList.drop 48 = dktX6_nth_2 := dk_seg dksX6_nth_1 24 rfl rfl
theorem dksX6_nth_3 : cX6_nth.data.toList.drop 72 = dktX6_nth_3 := dk_seg dksX6_nth_2 24 rfl rfl
theorem dX6_nth_0 : decode cX6_nth 0 = .ok (.iload_n 1, 1) := dk_27 (dk_at dksX6_nth_0 0 rfl rfl)
theorem dX6_nth_1 : decode cX6_nth 1 = .ok (.ifCond .ne 36, 3) := dk_154 0 36 (dk_at dksX6_nth_0 1 rfl rfl)
theorem dX6_nth_4 : decode cX6_nth 4 = .ok (.lload 4, 2) := dk_22 4 (dk_at dksX6_nth_0 4 rfl rfl)
theorem dX6_nth_6 : decode cX6_nth 6 = .ok (.invokestatic 191, 3) := dk_184 0 191 (dk_at dksX6_nth_0 6 rfl rfl)
theorem dX6_nth_9 : decode cX6_nth 9 = .ok (.lload_n 2, 1) := dk_32 (dk_at dksX6_nth_0 9 rfl rfl)
theorem dX6_nth_10 : decode cX6_nth 10 = .ok (.invokestatic 191, 3) := dk_184 0 191 (dk_at dksX6_nth_0 10 rfl rfl)
theorem dX6_nth_13 : decode cX6_nth 13 = .ok (.invokestatic 263, 3) := dk_184 1 7 (dk_at dksX6_nth_0 13 rfl rfl)
theorem dX6_nth_16 : decode cX6_nth 16 = .ok (.fstore 7, 2) := dk_56 7 (dk_at dksX6_nth_0 16 rfl rfl)
theorem dX6_nth_18 : decode cX6_nth 18 = .ok (.lload_n 2, 1) := dk_32 (dk_at dksX6_nth_0 18 rfl rfl)
theorem dX6_nth_19 : decode cX6_nth 19 = .ok (.invokestatic 191, 3) := dk_184 0 191 (dk_at dksX6_nth_0 19 rfl rfl)
theorem dX6_nth_22 : decode cX6_nth 22 = .ok (.iload 6, 2) := dk_21 6 (dk_at dksX6_nth_0 22 rfl rfl)
theorem dX6_nth_24 : decode cX6_nth 24 = .ok (.i2f, 1) := dk_134 (dk_at dksX6_nth_1 0 rfl rfl)
theorem dX6_nth_25 : decode cX6_nth 25 = .ok (.fload 7, 2) := dk_23 7 (dk_at dksX6_nth_1 1 rfl rfl)
theorem dX6_nth_27 : decode cX6_nth 27 = .ok (.invokestatic 266, 3) := dk_184 1 10 (dk_at dksX6_nth_1 3 rfl rfl)
theorem dX6_nth_30 : decode cX6_nth 30 = .ok (.invokestatic 260, 3) := dk_184 1 4 (dk_at dksX6_nth_1 6 rfl rfl)
theorem dX6_nth_33 : decode cX6_nth 33 = .ok (.invokestatic 228, 3) := dk_184 0 228 (dk_at dksX6_nth_1 9 rfl rfl)
theorem dX6_nth_36 : decode cX6_nth 36 = .ok (.lreturn, 1) := dk_173 (dk_at dksX6_nth_1 12 rfl rfl)
theorem dX6_nth_37 : decode cX6_nth 37 = .ok (.iload_n 1, 1) := dk_27 (dk_at dksX6_nth_1 13 rfl rfl)
theorem dX6_nth_38 : decode cX6_nth 38 = .ok (.lload 4, 2) := dk_22 4 (dk_at dksX6_nth_1 14 rfl rfl)
theorem dX6_nth_40 : decode cX6_nth 40 = .ok (.invokestatic 249, 3) := dk_184 0 249 (dk_at dksX6_nth_1 16 rfl rfl)
theorem dX6_nth_43 : decode cX6_nth 43 = .ok (.iload_n 1, 1) := dk_27 (dk_at dksX6_nth_1 19 rfl rfl)
theorem dX6_nth_44 : decode cX6_nth 44 = .ok (.lload_n 2, 1) := dk_32 (dk_at dksX6_nth_1 20 rfl rfl)
theorem dX6_nth_45 : decode cX6_nth 45 = .ok (.invokestatic 249, 3) := dk_184 0 249 (dk_at dksX6_nth_1 21 rfl rfl)
theorem dX6_nth_48 : decode cX6_nth 48 = .ok (.invokestatic 274, 3) := dk_184 1 18 (dk_at dksX6_nth_2 0 rfl rfl)
theorem dX6_nth_51 : decode cX6_nth 51 = .ok (.dstore 7, 2) := dk_57 7 (dk_at dksX6_nth_2 3 rfl rfl)
theorem dX6_nth_53 : decode cX6_nth 53 = .ok (.iload_n 1, 1) := dk_27 (dk_at dksX6_nth_2 5 rfl rfl)
theorem dX6_nth_54 : decode cX6_nth 54 = .ok (.lload_n 2, 1) := dk_32 (dk_at dksX6_nth_2 6 rfl rfl)
theorem dX6_nth_55 : decode cX6_nth 55 = .ok (.invokestatic 249, 3) := dk_184 0 249 (dk_at dksX6_nth_2 7 rfl rfl)
theorem dX6_nth_58 : decode cX6_nth 58 = .ok (.iload 6, 2) := dk_21 6 (dk_at dksX6_nth_2 10 rfl rfl)
theorem dX6_nth_60 : decode cX6_nth 60 = .ok (.i2d, 1) := dk_135 (dk_at dksX6_nth_2 12 rfl rfl)
theorem dX6_nth_61 : decode cX6_nth 61 = .ok (.dload 7, 2) := dk_24 7 (dk_at dksX6_nth_2 13 rfl rfl)
theorem dX6_nth_63 : decode cX6_nth 63 = .ok (.invokestatic 276, 3) := dk_184 1 20 (dk_at dksX6_nth_2 15 rfl rfl)
theorem dX6_nth_66 : decode cX6_nth 66 = .ok (.invokestatic 272, 3) := dk_184 1 16 (dk_at dksX6_nth_2 18 rfl rfl)
theorem dX6_nth_69 : decode cX6_nth 69 = .ok (.invokestatic 234, 3) := dk_184 0 234 (dk_at dksX6_nth_2 21 rfl rfl)
theorem dX6_nth_72 : decode cX6_nth 72 = .ok (.lreturn, 1) := dk_173 (dk_at dksX6_nth_3 0 rfl rfl)
abbrev cX6_goes : ByteArray := prog_10_method_77_code
def yX6_goes : MethodName := ⟨RX6, "goes", "(IJJJJ)Z"⟩
def dkwX6_goes_5 : List UInt8 := [22, 8, 184, 0, 249, 24, 11, 151, 155, 0, 7, 4, 167, 0, 4, 3, 172]
abbrev dktX6_goes_5 : List UInt8 := dkwX6_goes_5 ++ []
def dkwX6_goes_4 : List UInt8 := [153, 0, 23, 27, 22, 8, 184, 0, 249, 24, 11, 152, 157, 0, 7, 4, 167, 0, 24, 3, 167, 0, 20, 27]
abbrev dktX6_goes_4 : List UInt8 := dkwX6_goes_4 ++ dktX6_goes_5
def dkwX6_goes_3 : List UInt8 := [184, 0, 249, 27, 32, 184, 0, 249, 184, 1, 18, 20, 1, 62, 184, 0, 253, 184, 1, 16, 57, 11, 21, 10]
abbrev dktX6_goes_3 : List UInt8 := dkwX6_goes_3 ++ dktX6_goes_4
def dkwX6_goes_2 : List UInt8 := [13, 184, 0, 245, 184, 1, 4, 184, 0, 195, 57, 11, 167, 0, 34, 27, 22, 6, 184, 0, 249, 27, 22, 4]
abbrev dktX6_goes_2 : List UInt8 := dkwX6_goes_2 ++ dktX6_goes_3
def dkwX6_goes_1 : List UInt8 := [154, 0, 39, 22, 4, 184, 0, 191, 32, 184, 0, 191, 184, 1, 7, 56, 13, 22, 6, 184, 0, 191, 23, 13]
abbrev dktX6_goes_1 : List UInt8 := dkwX6_goes_1 ++ dktX6_goes_2
def dkwX6_goes_0 : List UInt8 := [27, 22, 4, 184, 0, 249, 27, 32, 184, 0, 249, 151, 155, 0, 7, 4, 167, 0, 4, 3, 54, 10, 27]
abbrev dktX6_goes_0 : List UInt8 := dkwX6_goes_0 ++ dktX6_goes_1
theorem dksX6_goes_0 : cX6_goes.data.toList.drop 0 = dktX6_goes_0 := by decide +kernel
theorem dksX6_goes_1 : cX6_goes.data.toList.drop 23 = dktX6_goes_1 := dk_seg dksX6_goes_0 23 rfl rfl
theorem dksX6_goes_2 : cX6_goes.data.toList.drop 47 = dktX6_goes_2 := dk_seg dksX6_goes_1 24 rfl rfl
theorem dksX6_goes_3 : cX6_goes.data.toList.drop 71 = dktX6_goes_3 := dk_seg dksX6_goes_2 24 rfl rfl
theorem dksX6_goes_4 : cX6_goes.data.toList.drop 95 = dktX6_goes_4 := dk_seg dksX6_goes_3 24 rfl rfl
theorem dksX6_goes_5 : cX6_goes.data.toList.drop 119 = dktX6_goes_5 := dk_seg dksX6_goes_4 24 rfl rfl
theorem dX6_goes_0 : decode cX6_goes 0 = .ok (.iload_n 1, 1) := dk_27 (dk_at dksX6_goes_0 0 rfl rfl)
theorem dX6_goes_1 : decode cX6_goes 1 = .ok (.lload 4, 2) := dk_22 4 (dk_at dksX6_goes_0 1 rfl rfl)
theorem dX6_goes_3 : decode cX6_goes 3 = .ok (.invokestatic 249, 3) := dk_184 0 249 (dk_at dksX6_goes_0 3 rfl rfl)
theorem dX6_goes_6 : decode cX6_goes 6 = .ok (.iload_n 1, 1) := dk_27 (dk_at dksX6_goes_0 6 rfl rfl)
theorem dX6_goes_7 : decode cX6_goes 7 = .ok (.lload_n 2, 1) := dk_32 (dk_at dksX6_goes_0 7 rfl rfl)
theorem dX6_goes_8 : decode cX6_goes 8 = .ok (.invokestatic 249, 3) := dk_184 0 249 (dk_at dksX6_goes_0 8 rfl rfl)
theorem dX6_goes_11 : decode cX6_goes 11 = .ok (.dcmp .l, 1) := dk_151 (dk_at dksX6_goes_0 11 rfl rfl)
theorem dX6_goes_12 : decode cX6_goes 12 = .ok (.ifCond .lt 7, 3) := dk_155 0 7 (dk_at dksX6_goes_0 12 rfl rfl)
theorem dX6_goes_15 : decode cX6_goes 15 = .ok (.iconst 1, 1) := dk_4 (dk_at dksX6_goes_0 15 rfl rfl)
theorem dX6_goes_16 : decode cX6_goes 16 = .ok (.goto 4, 3) := dk_167 0 4 (dk_at dksX6_goes_0 16 rfl rfl)
theorem dX6_goes_19 : decode cX6_goes 19 = .ok (.iconst 0, 1) := dk_3 (dk_at dksX6_goes_0 19 rfl rfl)
theorem dX6_goes_20 : decode cX6_goes 20 = .ok (.istore 10, 2) := dk_54 10 (dk_at dksX6_goes_0 20 rfl rfl)
theorem dX6_goes_22 : decode cX6_goes 22 = .ok (.iload_n 1, 1) := dk_27 (dk_at dksX6_goes_0 22 rfl rfl)
theorem dX6_goes_23 : decode cX6_goes 23 = .ok (.ifCond .ne 39, 3) := dk_154 0 39 (dk_at dksX6_goes_1 0 rfl rfl)
theorem dX6_goes_26 : decode cX6_goes 26 = .ok (.lload 4, 2) := dk_22 4 (dk_at dksX6_goes_1 3 rfl rfl)
theorem dX6_goes_28 : decode cX6_goes 28 = .ok (.invokestatic 191, 3) := dk_184 0 191 (dk_at dksX6_goes_1 5 rfl rfl)
theorem dX6_goes_31 : decode cX6_goes 31 = .ok (.lload_n 2, 1) := dk_32 (dk_at dksX6_goes_1 8 rfl rfl)
theorem dX6_goes_32 : decode cX6_goes 32 = .ok (.invokestatic 191, 3) := dk_184 0 191 (dk_at dksX6_goes_1 9 rfl rfl)
theorem dX6_goes_35 : decode cX6_goes 35 = .ok (.invokestatic 263, 3) := dk_184 1 7 (dk_at dksX6_goes_1 12 rfl rfl)
theorem dX6_goes_38 : decode cX6_goes 38 = .ok (.fstore 13, 2) := dk_56 13 (dk_at dksX6_goes_1 15 rfl rfl)
theorem dX6_goes_40 : decode cX6_goes 40 = .ok (.lload 6, 2) := dk_22 6 (dk_at dksX6_goes_1 17 rfl rfl)
theorem dX6_goes_42 : decode cX6_goes 42 = .ok (.invokestatic 191, 3) := dk_184 0 191 (dk_at dksX6_goes_1 19 rfl rfl)
theorem dX6_goes_45 : decode cX6_goes 45 = .ok (.fload 13, 2) := dk_23 13 (dk_at dksX6_goes_1 22 rfl rfl)
theorem dX6_goes_47 : decode cX6_goes 47 = .ok (.fconst 2, 1) := dk_13 (dk_at dksX6_goes_2 0 rfl rfl)
theorem dX6_goes_48 : decode cX6_goes 48 = .ok (.invokestatic 245, 3) := dk_184 0 245 (dk_at dksX6_goes_2 1 rfl rfl)
theorem dX6_goes_51 : decode cX6_goes 51 = .ok (.invokestatic 260, 3) := dk_184 1 4 (dk_at dksX6_goes_2 4 rfl rfl)
theorem dX6_goes_54 : decode cX6_goes 54 = .ok (.invokestatic 195, 3) := dk_184 0 195 (dk_at dksX6_goes_2 7 rfl rfl)
theorem dX6_goes_57 : decode cX6_goes 57 = .ok (.dstore 11, 2) := dk_57 11 (dk_at dksX6_goes_2 10 rfl rfl)
theorem dX6_goes_59 : decode cX6_goes 59 = .ok (.goto 34, 3) := dk_167 0 34 (dk_at dksX6_goes_2 12 rfl rfl)
theorem dX6_goes_62 : decode cX6_goes 62 = .ok (.iload_n 1, 1) := dk_27 (dk_at dksX6_goes_2 15 rfl rfl)
theorem dX6_goes_63 : decode cX6_goes 63 = .ok (.lload 6, 2) := dk_22 6 (dk_at dksX6_goes_2 16 rfl rfl)
theorem dX6_goes_65 : decode cX6_goes 65 = .ok (.invokestatic 249, 3) := dk_184 0 249 (dk_at dksX6_goes_2 18 rfl rfl)
theorem dX6_goes_68 : decode cX6_goes 68 = .ok (.iload_n 1, 1) := dk_27 (dk_at dksX6_goes_2 21 rfl rfl)
theorem dX6_goes_69 : decode cX6_goes 69 = .ok (.lload 4, 2) := dk_22 4 (dk_at dksX6_goes_2 22 rfl rfl)
theorem dX6_goes_71 : decode cX6_goes 71 = .ok (.invokestatic 249, 3) := dk_184 0 249 (dk_at dksX6_goes_3 0 rfl rfl)
theorem dX6_goes_74 : decode cX6_goes 74 = .ok (.iload_n 1, 1) := dk_27 (dk_at dksX6_goes_3 3 rfl rfl)
theorem dX6_goes_75 : decode cX6_goes 75 = .ok (.lload_n 2, 1) := dk_32 (dk_at dksX6_goes_3 4 rfl rfl)
theorem dX6_goes_76 : decode cX6_goes 76 = .ok (.invokestatic 249, 3) := dk_184 0 249 (dk_at dksX6_goes_3 5 rfl rfl)
theorem dX6_goes_79 : decode cX6_goes 79 = .ok (.invokestatic 274, 3) := dk_184 1 18 (dk_at dksX6_goes_3 8 rfl rfl)
theorem dX6_goes_82 : decode cX6_goes 82 = .ok (.ldc2_w 318, 3) := dk_20 1 62 (dk_at dksX6_goes_3 11 rfl rfl)
theorem dX6_goes_85 : decode cX6_goes 85 = .ok (.invokestatic 253, 3) := dk_184 0 253 (dk_at dksX6_goes_3 14 rfl rfl)
theorem dX6_goes_88 : decode cX6_goes 88 = .ok (.invokestatic 272, 3) := dk_184 1 16 (dk_at dksX6_goes_3 17 rfl rfl)
theorem dX6_goes_91 : decode cX6_goes 91 = .ok (.dstore 11, 2) := dk_57 11 (dk_at dksX6_goes_3 20 rfl rfl)
theorem dX6_goes_93 : decode cX6_goes 93 = .ok (.iload 10, 2) := dk_21 10 (dk_at dksX6_goes_3 22 rfl rfl)
theorem dX6_goes_95 : decode cX6_goes 95 = .ok (.ifCond .eq 23, 3) := dk_153 0 23 (dk_at dksX6_goes_4 0 rfl rfl)
theorem dX6_goes_98 : decode cX6_goes 98 = .ok (.iload_n 1, 1) := dk_27 (dk_at dksX6_goes_4 3 rfl rfl)
theorem dX6_goes_99 : decode cX6_goes 99 = .ok (.lload 8, 2) := dk_22 8 (dk_at dksX6_goes_4 4 rfl rfl)
theorem dX6_goes_101 : decode cX6_goes 101 = .ok (.invokestatic 249, 3) := dk_184 0 249 (dk_at dksX6_goes_4 6 rfl rfl)
theorem dX6_goes_104 : decode cX6_goes 104 = .ok (.dload 11, 2) := dk_24 11 (dk_at dksX6_goes_4 9 rfl rfl)
theorem dX6_goes_106 : decode cX6_goes 106 = .ok (.dcmp .g, 1) := dk_152 (dk_at dksX6_goes_4 11 rfl rfl)
theorem dX6_goes_107 : decode cX6_goes 107 = .ok (.ifCond .gt 7, 3) := dk_157 0 7 (dk_at dksX6_goes_4 12 rfl rfl)
theorem dX6_goes_110 : decode cX6_goes 110 = .ok (.iconst 1, 1) := dk_4 (dk_at dksX6_goes_4 15 rfl rfl)
theorem dX6_goes_111 : decode cX6_goes 111 = .ok (.goto 24, 3) := dk_167 0 24 (dk_at dksX6_goes_4 16 rfl rfl)
theorem dX6_goes_114 : decode cX6_goes 114 = .ok (.iconst 0, 1) := dk_3 (dk_at dksX6_goes_4 19 rfl rfl)
theorem dX6_goes_115 : decode cX6_goes 115 = .ok (.goto 20, 3) := dk_167 0 20 (dk_at dksX6_goes_4 20 rfl rfl)
theorem dX6_goes_118 : decode cX6_goes 118 = .ok (.iload_n 1, 1) := dk_27 (dk_at dksX6_goes_4 23 rfl rfl)
theorem dX6_goes_119 : decode cX6_goes 119 = .ok (.lload 8, 2) := dk_22 8 (dk_at dksX6_goes_5 0 rfl rfl)
theorem dX6_goes_121 : decode cX6_goes 121 = .ok (.invokestatic 249, 3) := dk_184 0 249 (dk_at dksX6_goes_5 2 rfl rfl)
theorem dX6_goes_124 : decode cX6_goes 124 = .ok (.dload 11, 2) := dk_24 11 (dk_at dksX6_goes_5 5 rfl rfl)
theorem dX6_goes_126 : decode cX6_goes 126 = .ok (.dcmp .l, 1) := dk_151 (dk_at dksX6_goes_5 7 rfl rfl)
theorem dX6_goes_127 : decode cX6_goes 127 = .ok (.ifCond .lt 7, 3) := dk_155 0 7 (dk_at dksX6_goes_5 8 rfl rfl)
theorem dX6_goes_130 : decode cX6_goes 130 = .ok (.iconst 1, 1) := dk_4 (dk_at dksX6_goes_5 11 rfl rfl)
theorem dX6_goes_131 : decode cX6_goes 131 = .ok (.goto 4, 3) := dk_167 0 4 (dk_at dksX6_goes_5 12 rfl rfl)
theorem dX6_goes_134 : decode cX6_goes 134 = .ok (.iconst 0, 1) := dk_3 (dk_at dksX6_goes_5 15 rfl rfl)
theorem dX6_goes_135 : decode cX6_goes 135 = .ok (.ireturn, 1) := dk_172 (dk_at dksX6_goes_5 16 rfl rfl)
abbrev cX6_counted : ByteArray := prog_10_method_80_code
def yX6_counted : MethodName := ⟨RX6, "counted", "(IJJJI)J"⟩
def dkwX6_counted_3 : List UInt8 := [21, 8, 182, 1, 64, 173]
abbrev dktX6_counted_3 : List UInt8 := dkwX6_counted_3 ++ []
def dkwX6_counted_2 : List UInt8 := [155, 0, 10, 21, 8, 21, 9, 161, 0, 11, 42, 5, 182, 0, 45, 167, 0, 13, 42, 27, 32, 22, 4]
abbrev dktX6_counted_2 : List UInt8 := dkwX6_counted_2 ++ dktX6_counted_3
def dkwX6_counted_1 : List UInt8 := [22, 6, 182, 1, 72, 54, 9, 21, 9, 17, 3, 232, 164, 0, 10, 42, 16, 8, 182, 0, 45, 173, 21, 8]
abbrev dktX6_counted_1 : List UInt8 := dkwX6_counted_1 ++ dktX6_counted_2
def dkwX6_counted_0 : List UInt8 := [42, 182, 0, 42, 27, 184, 0, 151, 154, 0, 10, 42, 16, 9, 182, 0, 45, 173, 42, 27, 32, 22, 4]
abbrev dktX6_counted_0 : List UInt8 := dkwX6_counted_0 ++ dktX6_counted_1
theorem dksX6_counted_0 : cX6_counted.data.toList.drop 0 = dktX6_counted_0 := by decide +kernel
theorem dksX6_counted_1 : cX6_counted.data.toList.drop 23 = dktX6_counted_1 := dk_seg dksX6_counted_0 23 rfl rfl
theorem dksX6_counted_2 : cX6_counted.data.toList.drop 47 = dktX6_counted_2 := dk_seg dksX6_counted_1 24 rfl rfl
theorem dksX6_counted_3 : cX6_counted.data.toList.drop 70 = dktX6_counted_3 := dk_seg dksX6_counted_2 23 rfl rfl
theorem dX6_counted_0 : decode cX6_counted 0 = .ok (.aload_n 0, 1) := dk_42 (dk_at dksX6_counted_0 0 rfl rfl)
theorem dX6_counted_1 : decode cX6_counted 1 = .ok (.invokevirtual 42, 3) := dk_182 0 42 (dk_at dksX6_counted_0 1 rfl rfl)
theorem dX6_counted_4 : decode cX6_counted 4 = .ok (.iload_n 1, 1) := dk_27 (dk_at dksX6_counted_0 4 rfl rfl)
theorem dX6_counted_5 : decode cX6_counted 5 = .ok (.invokestatic 151, 3) := dk_184 0 151 (dk_at dksX6_counted_0 5 rfl rfl)
theorem dX6_counted_8 : decode cX6_counted 8 = .ok (.ifCond .ne 10, 3) := dk_154 0 10 (dk_at dksX6_counted_0 8 rfl rfl)
theorem dX6_counted_11 : decode cX6_counted 11 = .ok (.aload_n 0, 1) := dk_42 (dk_at dksX6_counted_0 11 rfl rfl)
theorem dX6_counted_12 : decode cX6_counted 12 = .ok (.bipush 9, 2) := dk_16 9 (dk_at dksX6_counted_0 12 rfl rfl)
theorem dX6_counted_14 : decode cX6_counted 14 = .ok (.invokevirtual 45, 3) := dk_182 0 45 (dk_at dksX6_counted_0 14 rfl rfl)
theorem dX6_counted_17 : decode cX6_counted 17 = .ok (.lreturn, 1) := dk_173 (dk_at dksX6_counted_0 17 rfl rfl)
theorem dX6_counted_18 : decode cX6_counted 18 = .ok (.aload_n 0, 1) := dk_42 (dk_at dksX6_counted_0 18 rfl rfl)
theorem dX6_counted_19 : decode cX6_counted 19 = .ok (.iload_n 1, 1) := dk_27 (dk_at dksX6_counted_0 19 rfl rfl)
theorem dX6_counted_20 : decode cX6_counted 20 = .ok (.lload_n 2, 1) := dk_32 (dk_at dksX6_counted_0 20 rfl rfl)
theorem dX6_counted_21 : decode cX6_counted 21 = .ok (.lload 4, 2) := dk_22 4 (dk_at dksX6_counted_0 21 rfl rfl)
theorem dX6_counted_23 : decode cX6_counted 23 = .ok (.lload 6, 2) := dk_22 6 (dk_at dksX6_counted_1 0 rfl rfl)
theorem dX6_counted_25 : decode cX6_counted 25 = .ok (.invokevirtual 328, 3) := dk_182 1 72 (dk_at dksX6_counted_1 2 rfl rfl)
theorem dX6_counted_28 : decode cX6_counted 28 = .ok (.istore 9, 2) := dk_54 9 (dk_at dksX6_counted_1 5 rfl rfl)
theorem dX6_counted_30 : decode cX6_counted 30 = .ok (.iload 9, 2) := dk_21 9 (dk_at dksX6_counted_1 7 rfl rfl)
theorem dX6_counted_32 : decode cX6_counted 32 = .ok (.sipush 1000, 3) := dk_17 3 232 (dk_at dksX6_counted_1 9 rfl rfl)
theorem dX6_counted_35 : decode cX6_counted 35 = .ok (.if_icmp .le 10, 3) := dk_164 0 10 (dk_at dksX6_counted_1 12 rfl rfl)
theorem dX6_counted_38 : decode cX6_counted 38 = .ok (.aload_n 0, 1) := dk_42 (dk_at dksX6_counted_1 15 rfl rfl)
theorem dX6_counted_39 : decode cX6_counted 39 = .ok (.bipush 8, 2) := dk_16 8 (dk_at dksX6_counted_1 16 rfl rfl)
theorem dX6_counted_41 : decode cX6_counted 41 = .ok (.invokevirtual 45, 3) := dk_182 0 45 (dk_at dksX6_counted_1 18 rfl rfl)
theorem dX6_counted_44 : decode cX6_counted 44 = .ok (.lreturn, 1) := dk_173 (dk_at dksX6_counted_1 21 rfl rfl)
theorem dX6_counted_45 : decode cX6_counted 45 = .ok (.iload 8, 2) := dk_21 8 (dk_at dksX6_counted_1 22 rfl rfl)
theorem dX6_counted_47 : decode cX6_counted 47 = .ok (.ifCond .lt 10, 3) := dk_155 0 10 (dk_at dksX6_counted_2 0 rfl rfl)
theorem dX6_counted_50 : decode cX6_counted 50 = .ok (.iload 8, 2) := dk_21 8 (dk_at dksX6_counted_2 3 rfl rfl)
theorem dX6_counted_52 : decode cX6_counted 52 = .ok (.iload 9, 2) := dk_21 9 (dk_at dksX6_counted_2 5 rfl rfl)
theorem dX6_counted_54 : decode cX6_counted 54 = .ok (.if_icmp .lt 11, 3) := dk_161 0 11 (dk_at dksX6_counted_2 7 rfl rfl)
theorem dX6_counted_57 : decode cX6_counted 57 = .ok (.aload_n 0, 1) := dk_42 (dk_at dksX6_counted_2 10 rfl rfl)
theorem dX6_counted_58 : decode cX6_counted 58 = .ok (.iconst 2, 1) := dk_5 (dk_at dksX6_counted_2 11 rfl rfl)
theorem dX6_counted_59 : decode cX6_counted 59 = .ok (.invokevirtual 45, 3) := dk_182 0 45 (dk_at dksX6_counted_2 12 rfl rfl)
theorem dX6_counted_62 : decode cX6_counted 62 = .ok (.goto 13, 3) := dk_167 0 13 (dk_at dksX6_counted_2 15 rfl rfl)
theorem dX6_counted_65 : decode cX6_counted 65 = .ok (.aload_n 0, 1) := dk_42 (dk_at dksX6_counted_2 18 rfl rfl)
theorem dX6_counted_66 : decode cX6_counted 66 = .ok (.iload_n 1, 1) := dk_27 (dk_at dksX6_counted_2 19 rfl rfl)
theorem dX6_counted_67 : decode cX6_counted 67 = .ok (.lload_n 2, 1) := dk_32 (dk_at dksX6_counted_2 20 rfl rfl)
theorem dX6_counted_68 : decode cX6_counted 68 = .ok (.lload 4, 2) := dk_22 4 (dk_at dksX6_counted_2 21 rfl rfl)
theorem dX6_counted_70 : decode cX6_counted 70 = .ok (.iload 8, 2) := dk_21 8 (dk_at dksX6_counted_3 0 rfl rfl)
theorem dX6_counted_72 : decode cX6_counted 72 = .ok (.invokevirtual 320, 3) := dk_182 1 64 (dk_at dksX6_counted_3 2 rfl rfl)
theorem dX6_counted_75 : decode cX6_counted 75 = .ok (.lreturn, 1) := dk_173 (dk_at dksX6_counted_3 5 rfl rfl)
abbrev cX6_text : ByteArray := prog_10_method_81_code
def yX6_text : MethodName := ⟨RX6, "text", "(J)I"⟩
def dkwX6_text_6 : List UInt8 := [42, 89, 180, 1, 76, 4, 96, 181, 1, 76, 132, 4, 1, 167, 255, 203, 42, 180, 1, 76, 172]
abbrev dktX6_text_6 : List UInt8 := dkwX6_text_6 ++ []
def dkwX6_text_5 : List UInt8 := [123, 136, 17, 0, 255, 126, 54, 5, 21, 5, 153, 0, 24, 42, 180, 0, 13, 42, 180, 1, 76, 21, 5, 79]
abbrev dktX6_text_5 : List UInt8 := dkwX6_text_5 ++ dktX6_text_6
def dkwX6_text_4 : List UInt8 := [182, 0, 45, 136, 172, 3, 54, 4, 21, 4, 16, 8, 162, 0, 52, 31, 16, 56, 16, 8, 21, 4, 104, 100]
abbrev dktX6_text_4 : List UInt8 := dkwX6_text_4 ++ dktX6_text_5
def dkwX6_text_3 : List UInt8 := [96, 62, 132, 4, 1, 167, 255, 189, 42, 180, 1, 76, 29, 96, 16, 60, 164, 0, 11, 42, 16, 8]
abbrev dktX6_text_3 : List UInt8 := dkwX6_text_3 ++ dktX6_text_4
def dkwX6_text_2 : List UInt8 := [16, 126, 164, 0, 11, 42, 16, 9, 182, 0, 45, 136, 172, 29, 21, 5, 153, 0, 7, 4, 167, 0, 4, 3]
abbrev dktX6_text_2 : List UInt8 := dkwX6_text_2 ++ dktX6_text_3
def dkwX6_text_1 : List UInt8 := [100, 123, 136, 17, 0, 255, 126, 54, 5, 21, 5, 153, 0, 25, 21, 5, 16, 32, 161, 0, 10, 21, 5]
abbrev dktX6_text_1 : List UInt8 := dkwX6_text_1 ++ dktX6_text_2
def dkwX6_text_0 : List UInt8 := [42, 182, 0, 42, 3, 62, 3, 54, 4, 21, 4, 16, 8, 162, 0, 66, 31, 16, 56, 16, 8, 21, 4, 104]
abbrev dktX6_text_0 : List UInt8 := dkwX6_text_0 ++ dktX6_text_1
theorem dksX6_text_0 : cX6_text.data.toList.drop 0 = dktX6_text_0 := by decide +kernel
theorem dksX6_text_1 : cX6_text.data.toList.drop 24 = dktX6_text_1 := dk_seg dksX6_text_0 24 rfl rfl
theorem dksX6_text_2 : cX6_text.data.toList.drop 47 = dktX6_text_2 := dk_seg dksX6_text_1 23 rfl rfl
theorem dksX6_text_3 : cX6_text.data.toList.drop 71 = dktX6_text_3 := dk_seg dksX6_text_2 24 rfl rfl
theorem dksX6_text_4 : cX6_text.data.toList.drop 93 = dktX6_text_4 := dk_seg dksX6_text_3 22 rfl rfl
theorem dksX6_text_5 : cX6_text.data.toList.drop 117 = dktX6_text_5 := dk_seg dksX6_text_4 24 rfl rfl
theorem dksX6_text_6 : cX6_text.data.toList.drop 141 = dktX6_text_6 := dk_seg dksX6_text_5 24 rfl rfl
theorem dX6_text_0 : decode cX6_text 0 = .ok (.aload_n 0, 1) := dk_42 (dk_at dksX6_text_0 0 rfl rfl)
theorem dX6_text_1 : decode cX6_text 1 = .ok (.invokevirtual 42, 3) := dk_182 0 42 (dk_at dksX6_text_0 1 rfl rfl)
theorem dX6_text_4 : decode cX6_text 4 = .ok (.iconst 0, 1) := dk_3 (dk_at dksX6_text_0 4 rfl rfl)
theorem dX6_text_5 : decode cX6_text 5 = .ok (.istore_n 3, 1) := dk_62 (dk_at dksX6_text_0 5 rfl rfl)
theorem dX6_text_6 : decode cX6_text 6 = .ok (.iconst 0, 1) := dk_3 (dk_at dksX6_text_0 6 rfl rfl)
theorem dX6_text_7 : decode cX6_text 7 = .ok (.istore 4, 2) := dk_54 4 (dk_at dksX6_text_0 7 rfl rfl)
theorem dX6_text_9 : decode cX6_text 9 = .ok (.iload 4, 2) := dk_21 4 (dk_at dksX6_text_0 9 rfl rfl)
theorem dX6_text_11 : decode cX6_text 11 = .ok (.bipush 8, 2) := dk_16 8 (dk_at dksX6_text_0 11 rfl rfl)
theorem dX6_text_13 : decode cX6_text 13 = .ok (.if_icmp .ge 66, 3) := dk_162 0 66 (dk_at dksX6_text_0 13 rfl rfl)
theorem dX6_text_16 : decode cX6_text 16 = .ok (.lload_n 1, 1) := dk_31 (dk_at dksX6_text_0 16 rfl rfl)
theorem dX6_text_17 : decode cX6_text 17 = .ok (.bipush 56, 2) := dk_16 56 (dk_at dksX6_text_0 17 rfl rfl)
theorem dX6_text_19 : decode cX6_text 19 = .ok (.bipush 8, 2) := dk_16 8 (dk_at dksX6_text_0 19 rfl rfl)
theorem dX6_text_21 : decode cX6_text 21 = .ok (.iload 4, 2) := dk_21 4 (dk_at dksX6_text_0 21 rfl rfl)
theorem dX6_text_23 : decode cX6_text 23 = .ok (.imul, 1) := dk_104 (dk_at dksX6_text_0 23 rfl rfl)
theorem dX6_text_24 : decode cX6_text 24 = .ok (.isub, 1) := dk_100 (dk_at dksX6_text_1 0 rfl rfl)
theorem dX6_text_25 : decode cX6_text 25 = .ok (.lshr, 1) := dk_123 (dk_at dksX6_text_1 1 rfl rfl)
theorem dX6_text_26 : decode cX6_text 26 = .ok (.l2i, 1) := dk_136 (dk_at dksX6_text_1 2 rfl rfl)
theorem dX6_text_27 : decode cX6_text 27 = .ok (.sipush 255, 3) := dk_17 0 255 (dk_at dksX6_text_1 3 rfl rfl)
theorem dX6_text_30 : decode cX6_text 30 = .ok (.iand, 1) := dk_126 (dk_at dksX6_text_1 6 rfl rfl)
theorem dX6_text_31 : decode cX6_text 31 = .ok (.istore 5, 2) := dk_54 5 (dk_at dksX6_text_1 7 rfl rfl)
theorem dX6_text_33 : decode cX6_text 33 = .ok (.iload 5, 2) := dk_21 5 (dk_at dksX6_text_1 9 rfl rfl)
theorem dX6_text_35 : decode cX6_text 35 = .ok (.ifCond .eq 25, 3) := dk_153 0 25 (dk_at dksX6_text_1 11 rfl rfl)
theorem dX6_text_38 : decode cX6_text 38 = .ok (.iload 5, 2) := dk_21 5 (dk_at dksX6_text_1 14 rfl rfl)
theorem dX6_text_40 : decode cX6_text 40 = .ok (.bipush 32, 2) := dk_16 32 (dk_at dksX6_text_1 16 rfl rfl)
theorem dX6_text_42 : decode cX6_text 42 = .ok (.if_icmp .lt 10, 3) := dk_161 0 10 (dk_at dksX6_text_1 18 rfl rfl)
theorem dX6_text_45 : decode cX6_text 45 = .ok (.iload 5, 2) := dk_21 5 (dk_at dksX6_text_1 21 rfl rfl)
theorem dX6_text_47 : decode cX6_text 47 = .ok (.bipush 126, 2) := dk_16 126 (dk_at dksX6_text_2 0 rfl rfl)
theorem dX6_text_49 : decode cX6_text 49 = .ok (.if_icmp .le 11, 3) := dk_164 0 11 (dk_at dksX6_text_2 2 rfl rfl)
theorem dX6_text_52 : decode cX6_text 52 = .ok (.aload_n 0, 1) := dk_42 (dk_at dksX6_text_2 5 rfl rfl)
theorem dX6_text_53 : decode cX6_text 53 = .ok (.bipush 9, 2) := dk_16 9 (dk_at dksX6_text_2 6 rfl rfl)
theorem dX6_text_55 : decode cX6_text 55 = .ok (.invokevirtual 45, 3) := dk_182 0 45 (dk_at dksX6_text_2 8 rfl rfl)
theorem dX6_text_58 : decode cX6_text 58 = .ok (.l2i, 1) := dk_136 (dk_at dksX6_text_2 11 rfl rfl)
theorem dX6_text_59 : decode cX6_text 59 = .ok (.ireturn, 1) := dk_172 (dk_at dksX6_text_2 12 rfl rfl)
theorem dX6_text_60 : decode cX6_text 60 = .ok (.iload_n 3, 1) := dk_29 (dk_at dksX6_text_2 13 rfl rfl)
theorem dX6_text_61 : decode cX6_text 61 = .ok (.iload 5, 2) := dk_21 5 (dk_at dksX6_text_2 14 rfl rfl)
theorem dX6_text_63 : decode cX6_text 63 = .ok (.ifCond .eq 7, 3) := dk_153 0 7 (dk_at dksX6_text_2 16 rfl rfl)
theorem dX6_text_66 : decode cX6_text 66 = .ok (.iconst 1, 1) := dk_4 (dk_at dksX6_text_2 19 rfl rfl)
theorem dX6_text_67 : decode cX6_text 67 = .ok (.goto 4, 3) := dk_167 0 4 (dk_at dksX6_text_2 20 rfl rfl)
theorem dX6_text_70 : decode cX6_text 70 = .ok (.iconst 0, 1) := dk_3 (dk_at dksX6_text_2 23 rfl rfl)
theorem dX6_text_71 : decode cX6_text 71 = .ok (.iadd, 1) := dk_96 (dk_at dksX6_text_3 0 rfl rfl)
theorem dX6_text_72 : decode cX6_text 72 = .ok (.istore_n 3, 1) := dk_62 (dk_at dksX6_text_3 1 rfl rfl)
theorem dX6_text_73 : decode cX6_text 73 = .ok (.iinc 4 1, 3) := dk_132 4 1 (dk_at dksX6_text_3 2 rfl rfl)
theorem dX6_text_76 : decode cX6_text 76 = .ok (.goto (-67), 3) := dk_167 255 189 (dk_at dksX6_text_3 5 rfl rfl)
theorem dX6_text_79 : decode cX6_text 79 = .ok (.aload_n 0, 1) := dk_42 (dk_at dksX6_text_3 8 rfl rfl)
theorem dX6_text_80 : decode cX6_text 80 = .ok (.getfield 332, 3) := dk_180 1 76 (dk_at dksX6_text_3 9 rfl rfl)
theorem dX6_text_83 : decode cX6_text 83 = .ok (.iload_n 3, 1) := dk_29 (dk_at dksX6_text_3 12 rfl rfl)
theorem dX6_text_84 : decode cX6_text 84 = .ok (.iadd, 1) := dk_96 (dk_at dksX6_text_3 13 rfl rfl)
theorem dX6_text_85 : decode cX6_text 85 = .ok (.bipush 60, 2) := dk_16 60 (dk_at dksX6_text_3 14 rfl rfl)
theorem dX6_text_87 : decode cX6_text 87 = .ok (.if_icmp .le 11, 3) := dk_164 0 11 (dk_at dksX6_text_3 16 rfl rfl)
theorem dX6_text_90 : decode cX6_text 90 = .ok (.aload_n 0, 1) := dk_42 (dk_at dksX6_text_3 19 rfl rfl)
theorem dX6_text_91 : decode cX6_text 91 = .ok (.bipush 8, 2) := dk_16 8 (dk_at dksX6_text_3 20 rfl rfl)
theorem dX6_text_93 : decode cX6_text 93 = .ok (.invokevirtual 45, 3) := dk_182 0 45 (dk_at dksX6_text_4 0 rfl rfl)
theorem dX6_text_96 : decode cX6_text 96 = .ok (.l2i, 1) := dk_136 (dk_at dksX6_text_4 3 rfl rfl)
theorem dX6_text_97 : decode cX6_text 97 = .ok (.ireturn, 1) := dk_172 (dk_at dksX6_text_4 4 rfl rfl)
theorem dX6_text_98 : decode cX6_text 98 = .ok (.iconst 0, 1) := dk_3 (dk_at dksX6_text_4 5 rfl rfl)
theorem dX6_text_99 : decode cX6_text 99 = .ok (.istore 4, 2) := dk_54 4 (dk_at dksX6_text_4 6 rfl rfl)
theorem dX6_text_101 : decode cX6_text 101 = .ok (.iload 4, 2) := dk_21 4 (dk_at dksX6_text_4 8 rfl rfl)
theorem dX6_text_103 : decode cX6_text 103 = .ok (.bipush 8, 2) := dk_16 8 (dk_at dksX6_text_4 10 rfl rfl)
theorem dX6_text_105 : decode cX6_text 105 = .ok (.if_icmp .ge 52, 3) := dk_162 0 52 (dk_at dksX6_text_4 12 rfl rfl)
theorem dX6_text_108 : decode cX6_text 108 = .ok (.lload_n 1, 1) := dk_31 (dk_at dksX6_text_4 15 rfl rfl)
theorem dX6_text_109 : decode cX6_text 109 = .ok (.bipush 56, 2) := dk_16 56 (dk_at dksX6_text_4 16 rfl rfl)
theorem dX6_text_111 : decode cX6_text 111 = .ok (.bipush 8, 2) := dk_16 8 (dk_at dksX6_text_4 18 rfl rfl)
theorem dX6_text_113 : decode cX6_text 113 = .ok (.iload 4, 2) := dk_21 4 (dk_at dksX6_text_4 20 rfl rfl)
theorem dX6_text_115 : decode cX6_text 115 = .ok (.imul, 1) := dk_104 (dk_at dksX6_text_4 22 rfl rfl)
theorem dX6_text_116 : decode cX6_text 116 = .ok (.isub, 1) := dk_100 (dk_at dksX6_text_4 23 rfl rfl)
theorem dX6_text_117 : decode cX6_text 117 = .ok (.lshr, 1) := dk_123 (dk_at dksX6_text_5 0 rfl rfl)
theorem dX6_text_118 : decode cX6_text 118 = .ok (.l2i, 1) := dk_136 (dk_at dksX6_text_5 1 rfl rfl)
theorem dX6_text_119 : decode cX6_text 119 = .ok (.sipush 255, 3) := dk_17 0 255 (dk_at dksX6_text_5 2 rfl rfl)
theorem dX6_text_122 : decode cX6_text 122 = .ok (.iand, 1) := dk_126 (dk_at dksX6_text_5 5 rfl rfl)
theorem dX6_text_123 : decode cX6_text 123 = .ok (.istore 5, 2) := dk_54 5 (dk_at dksX6_text_5 6 rfl rfl)
theorem dX6_text_125 : decode cX6_text 125 = .ok (.iload 5, 2) := dk_21 5 (dk_at dksX6_text_5 8 rfl rfl)
theorem dX6_text_127 : decode cX6_text 127 = .ok (.ifCond .eq 24, 3) := dk_153 0 24 (dk_at dksX6_text_5 10 rfl rfl)
theorem dX6_text_130 : decode cX6_text 130 = .ok (.aload_n 0, 1) := dk_42 (dk_at dksX6_text_5 13 rfl rfl)
theorem dX6_text_131 : decode cX6_text 131 = .ok (.getfield 13, 3) := dk_180 0 13 (dk_at dksX6_text_5 14 rfl rfl)
theorem dX6_text_134 : decode cX6_text 134 = .ok (.aload_n 0, 1) := dk_42 (dk_at dksX6_text_5 17 rfl rfl)
theorem dX6_text_135 : decode cX6_text 135 = .ok (.getfield 332, 3) := dk_180 1 76 (dk_at dksX6_text_5 18 rfl rfl)
theorem dX6_text_138 : decode cX6_text 138 = .ok (.iload 5, 2) := dk_21 5 (dk_at dksX6_text_5 21 rfl rfl)
theorem dX6_text_140 : decode cX6_text 140 = .ok (.iastore, 1) := dk_79 (dk_at dksX6_text_5 23 rfl rfl)
theorem dX6_text_141 : decode cX6_text 141 = .ok (.aload_n 0, 1) := dk_42 (dk_at dksX6_text_6 0 rfl rfl)
theorem dX6_text_142 : decode cX6_text 142 = .ok (.dup, 1) := dk_89 (dk_at dksX6_text_6 1 rfl rfl)
theorem dX6_text_143 : decode cX6_text 143 = .ok (.getfield 332, 3) := dk_180 1 76 (dk_at dksX6_text_6 2 rfl rfl)
theorem dX6_text_146 : decode cX6_text 146 = .ok (.iconst 1, 1) := dk_4 (dk_at dksX6_text_6 5 rfl rfl)
theorem dX6_text_147 : decode cX6_text 147 = .ok (.iadd, 1) := dk_96 (dk_at dksX6_text_6 6 rfl rfl)
theorem dX6_text_148 : decode cX6_text 148 = .ok (.putfield 332, 3) := dk_181 1 76 (dk_at dksX6_text_6 7 rfl rfl)
theorem dX6_text_151 : decode cX6_text 151 = .ok (.iinc 4 1, 3) := dk_132 4 1 (dk_at dksX6_text_6 10 rfl rfl)
theorem dX6_text_154 : decode cX6_text 154 = .ok (.goto (-53), 3) := dk_167 255 203 (dk_at dksX6_text_6 13 rfl rfl)
theorem dX6_text_157 : decode cX6_text 157 = .ok (.aload_n 0, 1) := dk_42 (dk_at dksX6_text_6 16 rfl rfl)
theorem dX6_text_158 : decode cX6_text 158 = .ok (.getfield 332, 3) := dk_180 1 76 (dk_at dksX6_text_6 17 rfl rfl)
theorem dX6_text_161 : decode cX6_text 161 = .ok (.ireturn, 1) := dk_172 (dk_at dksX6_text_6 20 rfl rfl)
abbrev cX6_read : ByteArray := prog_10_method_86_code
def yX6_read : MethodName := ⟨RX6, "read", "(I)J"⟩
def dkwX6_read_13 : List UInt8 := [20, 1, 99, 9, 184, 1, 41, 132, 6, 1, 167, 255, 235, 42, 27, 28, 9, 182, 0, 147, 173]
abbrev dktX6_read_13 : List UInt8 := dkwX6_read_13 ++ []
def dkwX6_read_12 : List UInt8 := [184, 1, 41, 132, 6, 1, 167, 255, 236, 3, 54, 6, 21, 6, 29, 116, 162, 0, 20, 42, 180, 0, 29]
abbrev dktX6_read_12 : List UInt8 := dkwX6_read_12 ++ dktX6_read_13
def dkwX6_read_11 : List UInt8 := [180, 0, 29, 10, 184, 0, 143, 3, 54, 6, 21, 6, 29, 162, 0, 20, 42, 180, 0, 26, 20, 1, 99, 9]
abbrev dktX6_read_11 : List UInt8 := dkwX6_read_11 ++ dktX6_read_12
def dkwX6_read_10 : List UInt8 := [9, 28, 184, 0, 110, 173, 29, 17, 1, 94, 164, 0, 13, 27, 27, 184, 0, 116, 28, 184, 0, 110, 173, 42]
abbrev dktX6_read_10 : List UInt8 := dkwX6_read_10 ++ dktX6_read_11
def dkwX6_read_9 : List UInt8 := [154, 0, 7, 4, 167, 0, 4, 3, 54, 5, 21, 5, 4, 159, 0, 10, 29, 17, 254, 62, 162, 0, 10, 27]
abbrev dktX6_read_9 : List UInt8 := dkwX6_read_9 ++ dktX6_read_10
def dkwX6_read_8 : List UInt8 := [180, 1, 93, 155, 0, 13, 20, 1, 107, 42, 180, 1, 93, 133, 101, 173, 42, 180, 0, 26, 184, 0, 106]
abbrev dktX6_read_8 : List UInt8 := dkwX6_read_8 ++ dktX6_read_9
def dkwX6_read_7 : List UInt8 := [156, 0, 22, 42, 180, 1, 79, 42, 180, 1, 82, 162, 0, 11, 42, 42, 180, 1, 79, 181, 1, 93, 42]
abbrev dktX6_read_7 : List UInt8 := dkwX6_read_7 ++ dktX6_read_8
def dkwX6_read_6 : List UInt8 := [159, 0, 12, 42, 182, 1, 85, 16, 69, 160, 0, 10, 29, 42, 182, 1, 104, 96, 62, 42, 180, 1, 93]
abbrev dktX6_read_6 : List UInt8 := dkwX6_read_6 ++ dktX6_read_7
def dkwX6_read_5 : List UInt8 := [181, 1, 79, 42, 182, 1, 101, 116, 62, 42, 180, 1, 93, 156, 0, 28, 42, 182, 1, 85, 16, 101]
abbrev dktX6_read_5 : List UInt8 := dkwX6_read_5 ++ dktX6_read_6
def dkwX6_read_4 : List UInt8 := [42, 180, 1, 93, 156, 0, 28, 42, 182, 1, 85, 16, 46, 160, 0, 19, 42, 89, 180, 1, 79, 4, 96]
abbrev dktX6_read_4 : List UInt8 := dkwX6_read_4 ++ dktX6_read_5
def dkwX6_read_3 : List UInt8 := [180, 1, 79, 28, 153, 0, 7, 4, 167, 0, 4, 3, 96, 181, 1, 79, 3, 62, 42, 182, 1, 101, 54, 4]
abbrev dktX6_read_3 : List UInt8 := dkwX6_read_3 ++ dktX6_read_4
def dkwX6_read_2 : List UInt8 := [180, 0, 26, 184, 0, 49, 42, 182, 1, 85, 16, 45, 160, 0, 7, 4, 167, 0, 4, 3, 61, 42, 89]
abbrev dktX6_read_2 : List UInt8 := dkwX6_read_2 ++ dktX6_read_3
def dkwX6_read_1 : List UInt8 := [42, 16, 9, 182, 0, 45, 173, 42, 3, 181, 1, 79, 42, 2, 181, 1, 93, 42, 3, 181, 1, 96, 42]
abbrev dktX6_read_1 : List UInt8 := dkwX6_read_1 ++ dktX6_read_2
def dkwX6_read_0 : List UInt8 := [42, 182, 0, 42, 42, 42, 180, 1, 76, 181, 1, 82, 42, 3, 181, 1, 76, 27, 184, 0, 151, 154, 0, 10]
abbrev dktX6_read_0 : List UInt8 := dkwX6_read_0 ++ dktX6_read_1
theorem dksX6_read_0 : cX6_read.data.toList.drop 0 = dktX6_read_0 := by decide +kernel
theorem dksX6_read_1 : cX6_read.data.toList.drop 24 = dktX6_read_1 := dk_seg dksX6_read_0 24 rfl rfl
theorem dksX6_read_2 : cX6_read.data.toList.drop 47 = dktX6_read_2 := dk_seg dksX6_read_1 23 rfl rfl
theorem dksX6_read_3 : cX6_read.data.toList.drop 70 = dktX6_read_3 := dk_seg dksX6_read_2 23 rfl rfl
theorem dksX6_read_4 : cX6_read.data.toList.drop 94 = dktX6_read_4 := dk_seg dksX6_read_3 24 rfl rfl
theorem dksX6_read_5 : cX6_read.data.toList.drop 117 = dktX6_read_5 := dk_seg dksX6_read_4 23 rfl rfl
theorem dksX6_read_6 : cX6_read.data.toList.drop 139 = dktX6_read_6 := dk_seg dksX6_read_5 22 rfl rfl
theorem dksX6_read_7 : cX6_read.data.toList.drop 162 = dktX6_read_7 := dk_seg dksX6_read_6 23 rfl rfl
theorem dksX6_read_8 : cX6_read.data.toList.drop 185 = dktX6_read_8 := dk_seg dksX6_read_7 23 rfl rfl
theorem dksX6_read_9 : cX6_read.data.toList.drop 208 = dktX6_read_9 := dk_seg dksX6_read_8 23 rfl rfl
theorem dksX6_read_10 : cX6_read.data.toList.drop 232 = dktX6_read_10 := dk_seg dksX6_read_9 24 rfl rfl
theorem dksX6_read_11 : cX6_read.data.toList.drop 256 = dktX6_read_11 := dk_seg dksX6_read_10 24 rfl rfl
theorem dksX6_read_12 : cX6_read.data.toList.drop 280 = dktX6_read_12 := dk_seg dksX6_read_11 24 rfl rfl
theorem dksX6_read_13 : cX6_read.data.toList.drop 303 = dktX6_read_13 := dk_seg dksX6_read_12 23 rfl rfl
theorem dX6_read_0 : decode cX6_read 0 = .ok (.aload_n 0, 1) := dk_42 (dk_at dksX6_read_0 0 rfl rfl)
theorem dX6_read_1 : decode cX6_read 1 = .ok (.invokevirtual 42, 3) := dk_182 0 42 (dk_at dksX6_read_0 1 rfl rfl)
theorem dX6_read_4 : decode cX6_read 4 = .ok (.aload_n 0, 1) := dk_42 (dk_at dksX6_read_0 4 rfl rfl)
theorem dX6_read_5 : decode cX6_read 5 = .ok (.aload_n 0, 1) := dk_42 (dk_at dksX6_read_0 5 rfl rfl)
theorem dX6_read_6 : decode cX6_read 6 = .ok (.getfield 332, 3) := dk_180 1 76 (dk_at dksX6_read_0 6 rfl rfl)
theorem dX6_read_9 : decode cX6_read 9 = .ok (.putfield 338, 3) := dk_181 1 82 (dk_at dksX6_read_0 9 rfl rfl)
theorem dX6_read_12 : decode cX6_read 12 = .ok (.aload_n 0, 1) := dk_42 (dk_at dksX6_read_0 12 rfl rfl)
theorem dX6_read_13 : decode cX6_read 13 = .ok (.iconst 0, 1) := dk_3 (dk_at dksX6_read_0 13 rfl rfl)
theorem dX6_read_14 : decode cX6_read 14 = .ok (.putfield 332, 3) := dk_181 1 76 (dk_at dksX6_read_0 14 rfl rfl)
theorem dX6_read_17 : decode cX6_read 17 = .ok (.iload_n 1, 1) := dk_27 (dk_at dksX6_read_0 17 rfl rfl)
theorem dX6_read_18 : decode cX6_read 18 = .ok (.invokestatic 151, 3) := dk_184 0 151 (dk_at dksX6_read_0 18 rfl rfl)
theorem dX6_read_21 : decode cX6_read 21 = .ok (.ifCond .ne 10, 3) := dk_154 0 10 (dk_at dksX6_read_0 21 rfl rfl)
theorem dX6_read_24 : decode cX6_read 24 = .ok (.aload_n 0, 1) := dk_42 (dk_at dksX6_read_1 0 rfl rfl)
theorem dX6_read_25 : decode cX6_read 25 = .ok (.bipush 9, 2) := dk_16 9 (dk_at dksX6_read_1 1 rfl rfl)
theorem dX6_read_27 : decode cX6_read 27 = .ok (.invokevirtual 45, 3) := dk_182 0 45 (dk_at dksX6_read_1 3 rfl rfl)
theorem dX6_read_30 : decode cX6_read 30 = .ok (.lreturn, 1) := dk_173 (dk_at dksX6_read_1 6 rfl rfl)
theorem dX6_read_31 : decode cX6_read 31 = .ok (.aload_n 0, 1) := dk_42 (dk_at dksX6_read_1 7 rfl rfl)
theorem dX6_read_32 : decode cX6_read 32 = .ok (.iconst 0, 1) := dk_3 (dk_at dksX6_read_1 8 rfl rfl)
theorem dX6_read_33 : decode cX6_read 33 = .ok (.putfield 335, 3) := dk_181 1 79 (dk_at dksX6_read_1 9 rfl rfl)
theorem dX6_read_36 : decode cX6_read 36 = .ok (.aload_n 0, 1) := dk_42 (dk_at dksX6_read_1 12 rfl rfl)
theorem dX6_read_37 : decode cX6_read 37 = .ok (.iconst (-1), 1) := dk_2 (dk_at dksX6_read_1 13 rfl rfl)
theorem dX6_read_38 : decode cX6_read 38 = .ok (.putfield 349, 3) := dk_181 1 93 (dk_at dksX6_read_1 14 rfl rfl)
theorem dX6_read_41 : decode cX6_read 41 = .ok (.aload_n 0, 1) := dk_42 (dk_at dksX6_read_1 17 rfl rfl)
theorem dX6_read_42 : decode cX6_read 42 = .ok (.iconst 0, 1) := dk_3 (dk_at dksX6_read_1 18 rfl rfl)
theorem dX6_read_43 : decode cX6_read 43 = .ok (.putfield 352, 3) := dk_181 1 96 (dk_at dksX6_read_1 19 rfl rfl)
theorem dX6_read_46 : decode cX6_read 46 = .ok (.aload_n 0, 1) := dk_42 (dk_at dksX6_read_1 22 rfl rfl)
theorem dX6_read_47 : decode cX6_read 47 = .ok (.getfield 26, 3) := dk_180 0 26 (dk_at dksX6_read_2 0 rfl rfl)
theorem dX6_read_50 : decode cX6_read 50 = .ok (.invokestatic 49, 3) := dk_184 0 49 (dk_at dksX6_read_2 3 rfl rfl)
theorem dX6_read_53 : decode cX6_read 53 = .ok (.aload_n 0, 1) := dk_42 (dk_at dksX6_read_2 6 rfl rfl)
theorem dX6_read_54 : decode cX6_read 54 = .ok (.invokevirtual 341, 3) := dk_182 1 85 (dk_at dksX6_read_2 7 rfl rfl)
theorem dX6_read_57 : decode cX6_read 57 = .ok (.bipush 45, 2) := dk_16 45 (dk_at dksX6_read_2 10 rfl rfl)
theorem dX6_read_59 : decode cX6_read 59 = .ok (.if_icmp .ne 7, 3) := dk_160 0 7 (dk_at dksX6_read_2 12 rfl rfl)
theorem dX6_read_62 : decode cX6_read 62 = .ok (.iconst 1, 1) := dk_4 (dk_at dksX6_read_2 15 rfl rfl)
theorem dX6_read_63 : decode cX6_read 63 = .ok (.goto 4, 3) := dk_167 0 4 (dk_at dksX6_read_2 16 rfl rfl)
theorem dX6_read_66 : decode cX6_read 66 = .ok (.iconst 0, 1) := dk_3 (dk_at dksX6_read_2 19 rfl rfl)
theorem dX6_read_67 : decode cX6_read 67 = .ok (.istore_n 2, 1) := dk_61 (dk_at dksX6_read_2 20 rfl rfl)
theorem dX6_read_68 : decode cX6_read 68 = .ok (.aload_n 0, 1) := dk_42 (dk_at dksX6_read_2 21 rfl rfl)
theorem dX6_read_69 : decode cX6_read 69 = .ok (.dup, 1) := dk_89 (dk_at dksX6_read_2 22 rfl rfl)
theorem dX6_read_70 : decode cX6_read 70 = .ok (.getfield 335, 3) := dk_180 1 79 (dk_at dksX6_read_3 0 rfl rfl)
theorem dX6_read_73 : decode cX6_read 73 = .ok (.iload_n 2, 1) := dk_28 (dk_at dksX6_read_3 3 rfl rfl)
theorem dX6_read_74 : decode cX6_read 74 = .ok (.ifCond .eq 7, 3) := dk_153 0 7 (dk_at dksX6_read_3 4 rfl rfl)
theorem dX6_read_77 : decode cX6_read 77 = .ok (.iconst 1, 1) := dk_4 (dk_at dksX6_read_3 7 rfl rfl)
theorem dX6_read_78 : decode cX6_read 78 = .ok (.goto 4, 3) := dk_167 0 4 (dk_at dksX6_read_3 8 rfl rfl)
theorem dX6_read_81 : decode cX6_read 81 = .ok (.iconst 0, 1) := dk_3 (dk_at dksX6_read_3 11 rfl rfl)
theorem dX6_read_82 : decode cX6_read 82 = .ok (.iadd, 1) := dk_96 (dk_at dksX6_read_3 12 rfl rfl)
theorem dX6_read_83 : decode cX6_read 83 = .ok (.putfield 335, 3) := dk_181 1 79 (dk_at dksX6_read_3 13 rfl rfl)
theorem dX6_read_86 : decode cX6_read 86 = .ok (.iconst 0, 1) := dk_3 (dk_at dksX6_read_3 16 rfl rfl)
theorem dX6_read_87 : decode cX6_read 87 = .ok (.istore_n 3, 1) := dk_62 (dk_at dksX6_read_3 17 rfl rfl)
theorem dX6_read_88 : decode cX6_read 88 = .ok (.aload_n 0, 1) := dk_42 (dk_at dksX6_read_3 18 rfl rfl)
theorem dX6_read_89 : decode cX6_read 89 = .ok (.invokevirtual 357, 3) := dk_182 1 101 (dk_at dksX6_read_3 19 rfl rfl)
theorem dX6_read_92 : decode cX6_read 92 = .ok (.istore 4, 2) := dk_54 4 (dk_at dksX6_read_3 22 rfl rfl)
theorem dX6_read_94 : decode cX6_read 94 = .ok (.aload_n 0, 1) := dk_42 (dk_at dksX6_read_4 0 rfl rfl)
theorem dX6_read_95 : decode cX6_read 95 = .ok (.getfield 349, 3) := dk_180 1 93 (dk_at dksX6_read_4 1 rfl rfl)
theorem dX6_read_98 : decode cX6_read 98 = .ok (.ifCond .ge 28, 3) := dk_156 0 28 (dk_at dksX6_read_4 4 rfl rfl)
theorem dX6_read_101 : decode cX6_read 101 = .ok (.aload_n 0, 1) := dk_42 (dk_at dksX6_read_4 7 rfl rfl)
theorem dX6_read_102 : decode cX6_read 102 = .ok (.invokevirtual 341, 3) := dk_182 1 85 (dk_at dksX6_read_4 8 rfl rfl)
theorem dX6_read_105 : decode cX6_read 105 = .ok (.bipush 46, 2) := dk_16 46 (dk_at dksX6_read_4 11 rfl rfl)
theorem dX6_read_107 : decode cX6_read 107 = .ok (.if_icmp .ne 19, 3) := dk_160 0 19 (dk_at dksX6_read_4 13 rfl rfl)
theorem dX6_read_110 : decode cX6_read 110 = .ok (.aload_n 0, 1) := dk_42 (dk_at dksX6_read_4 16 rfl rfl)
theorem dX6_read_111 : decode cX6_read 111 = .ok (.dup, 1) := dk_89 (dk_at dksX6_read_4 17 rfl rfl)
theorem dX6_read_112 : decode cX6_read 112 = .ok (.getfield 335, 3) := dk_180 1 79 (dk_at dksX6_read_4 18 rfl rfl)
theorem dX6_read_115 : decode cX6_read 115 = .ok (.iconst 1, 1) := dk_4 (dk_at dksX6_read_4 21 rfl rfl)
theorem dX6_read_116 : decode cX6_read 116 = .ok (.iadd, 1) := dk_96 (dk_at dksX6_read_4 22 rfl rfl)
theorem dX6_read_117 : decode cX6_read 117 = .ok (.putfield 335, 3) := dk_181 1 79 (dk_at dksX6_read_5 0 rfl rfl)
theorem dX6_read_120 : decode cX6_read 120 = .ok (.aload_n 0, 1) := dk_42 (dk_at dksX6_read_5 3 rfl rfl)
theorem dX6_read_121 : decode cX6_read 121 = .ok (.invokevirtual 357, 3) := dk_182 1 101 (dk_at dksX6_read_5 4 rfl rfl)
theorem dX6_read_124 : decode cX6_read 124 = .ok (.ineg, 1) := dk_116 (dk_at dksX6_read_5 7 rfl rfl)
theorem dX6_read_125 : decode cX6_read 125 = .ok (.istore_n 3, 1) := dk_62 (dk_at dksX6_read_5 8 rfl rfl)
theorem dX6_read_126 : decode cX6_read 126 = .ok (.aload_n 0, 1) := dk_42 (dk_at dksX6_read_5 9 rfl rfl)
theorem dX6_read_127 : decode cX6_read 127 = .ok (.getfield 349, 3) := dk_180 1 93 (dk_at dksX6_read_5 10 rfl rfl)
theorem dX6_read_130 : decode cX6_read 130 = .ok (.ifCond .ge 28, 3) := dk_156 0 28 (dk_at dksX6_read_5 13 rfl rfl)
theorem dX6_read_133 : decode cX6_read 133 = .ok (.aload_n 0, 1) := dk_42 (dk_at dksX6_read_5 16 rfl rfl)
theorem dX6_read_134 : decode cX6_read 134 = .ok (.invokevirtual 341, 3) := dk_182 1 85 (dk_at dksX6_read_5 17 rfl rfl)
theorem dX6_read_137 : decode cX6_read 137 = .ok (.bipush 101, 2) := dk_16 101 (dk_at dksX6_read_5 20 rfl rfl)
theorem dX6_read_139 : decode cX6_read 139 = .ok (.if_icmp .eq 12, 3) := dk_159 0 12 (dk_at dksX6_read_6 0 rfl rfl)
theorem dX6_read_142 : decode cX6_read 142 = .ok (.aload_n 0, 1) := dk_42 (dk_at dksX6_read_6 3 rfl rfl)
theorem dX6_read_143 : decode cX6_read 143 = .ok (.invokevirtual 341, 3) := dk_182 1 85 (dk_at dksX6_read_6 4 rfl rfl)
theorem dX6_read_146 : decode cX6_read 146 = .ok (.bipush 69, 2) := dk_16 69 (dk_at dksX6_read_6 7 rfl rfl)
theorem dX6_read_148 : decode cX6_read 148 = .ok (.if_icmp .ne 10, 3) := dk_160 0 10 (dk_at dksX6_read_6 9 rfl rfl)
theorem dX6_read_151 : decode cX6_read 151 = .ok (.iload_n 3, 1) := dk_29 (dk_at dksX6_read_6 12 rfl rfl)
theorem dX6_read_152 : decode cX6_read 152 = .ok (.aload_n 0, 1) := dk_42 (dk_at dksX6_read_6 13 rfl rfl)
theorem dX6_read_153 : decode cX6_read 153 = .ok (.invokevirtual 360, 3) := dk_182 1 104 (dk_at dksX6_read_6 14 rfl rfl)
theorem dX6_read_156 : decode cX6_read 156 = .ok (.iadd, 1) := dk_96 (dk_at dksX6_read_6 17 rfl rfl)
theorem dX6_read_157 : decode cX6_read 157 = .ok (.istore_n 3, 1) := dk_62 (dk_at dksX6_read_6 18 rfl rfl)
theorem dX6_read_158 : decode cX6_read 158 = .ok (.aload_n 0, 1) := dk_42 (dk_at dksX6_read_6 19 rfl rfl)
theorem dX6_read_159 : decode cX6_read 159 = .ok (.getfield 349, 3) := dk_180 1 93 (dk_at dksX6_read_6 20 rfl rfl)
theorem dX6_read_162 : decode cX6_read 162 = .ok (.ifCond .ge 22, 3) := dk_156 0 22 (dk_at dksX6_read_7 0 rfl rfl)
theorem dX6_read_165 : decode cX6_read 165 = .ok (.aload_n 0, 1) := dk_42 (dk_at dksX6_read_7 3 rfl rfl)
theorem dX6_read_166 : decode cX6_read 166 = .ok (.getfield 335, 3) := dk_180 1 79 (dk_at dksX6_read_7 4 rfl rfl)
theorem dX6_read_169 : decode cX6_read 169 = .ok (.aload_n 0, 1) := dk_42 (dk_at dksX6_read_7 7 rfl rfl)
theorem dX6_read_170 : decode cX6_read 170 = .ok (.getfield 338, 3) := dk_180 1 82 (dk_at dksX6_read_7 8 rfl rfl)
theorem dX6_read_173 : decode cX6_read 173 = .ok (.if_icmp .ge 11, 3) := dk_162 0 11 (dk_at dksX6_read_7 11 rfl rfl)
theorem dX6_read_176 : decode cX6_read 176 = .ok (.aload_n 0, 1) := dk_42 (dk_at dksX6_read_7 14 rfl rfl)
theorem dX6_read_177 : decode cX6_read 177 = .ok (.aload_n 0, 1) := dk_42 (dk_at dksX6_read_7 15 rfl rfl)
theorem dX6_read_178 : decode cX6_read 178 = .ok (.getfield 335, 3) := dk_180 1 79 (dk_at dksX6_read_7 16 rfl rfl)
theorem dX6_read_181 : decode cX6_read 181 = .ok (.putfield 349, 3) := dk_181 1 93 (dk_at dksX6_read_7 19 rfl rfl)
theorem dX6_read_184 : decode cX6_read 184 = .ok (.aload_n 0, 1) := dk_42 (dk_at dksX6_read_7 22 rfl rfl)
theorem dX6_read_185 : decode cX6_read 185 = .ok (.getfield 349, 3) := dk_180 1 93 (dk_at dksX6_read_8 0 rfl rfl)
theorem dX6_read_188 : decode cX6_read 188 = .ok (.ifCond .lt 13, 3) := dk_155 0 13 (dk_at dksX6_read_8 3 rfl rfl)
theorem dX6_read_191 : decode cX6_read 191 = .ok (.ldc2_w 363, 3) := dk_20 1 107 (dk_at dksX6_read_8 6 rfl rfl)
theorem dX6_read_194 : decode cX6_read 194 = .ok (.aload_n 0, 1) := dk_42 (dk_at dksX6_read_8 9 rfl rfl)
theorem dX6_read_195 : decode cX6_read 195 = .ok (.getfield 349, 3) := dk_180 1 93 (dk_at dksX6_read_8 10 rfl rfl)
theorem dX6_read_198 : decode cX6_read 198 = .ok (.i2l, 1) := dk_133 (dk_at dksX6_read_8 13 rfl rfl)
theorem dX6_read_199 : decode cX6_read 199 = .ok (.lsub, 1) := dk_101 (dk_at dksX6_read_8 14 rfl rfl)
theorem dX6_read_200 : decode cX6_read 200 = .ok (.lreturn, 1) := dk_173 (dk_at dksX6_read_8 15 rfl rfl)
theorem dX6_read_201 : decode cX6_read 201 = .ok (.aload_n 0, 1) := dk_42 (dk_at dksX6_read_8 16 rfl rfl)
theorem dX6_read_202 : decode cX6_read 202 = .ok (.getfield 26, 3) := dk_180 0 26 (dk_at dksX6_read_8 17 rfl rfl)
theorem dX6_read_205 : decode cX6_read 205 = .ok (.invokestatic 106, 3) := dk_184 0 106 (dk_at dksX6_read_8 20 rfl rfl)
theorem dX6_read_208 : decode cX6_read 208 = .ok (.ifCond .ne 7, 3) := dk_154 0 7 (dk_at dksX6_read_9 0 rfl rfl)
theorem dX6_read_211 : decode cX6_read 211 = .ok (.iconst 1, 1) := dk_4 (dk_at dksX6_read_9 3 rfl rfl)
theorem dX6_read_212 : decode cX6_read 212 = .ok (.goto 4, 3) := dk_167 0 4 (dk_at dksX6_read_9 4 rfl rfl)
theorem dX6_read_215 : decode cX6_read 215 = .ok (.iconst 0, 1) := dk_3 (dk_at dksX6_read_9 7 rfl rfl)
theorem dX6_read_216 : decode cX6_read 216 = .ok (.istore 5, 2) := dk_54 5 (dk_at dksX6_read_9 8 rfl rfl)
theorem dX6_read_218 : decode cX6_read 218 = .ok (.iload 5, 2) := dk_21 5 (dk_at dksX6_read_9 10 rfl rfl)
theorem dX6_read_220 : decode cX6_read 220 = .ok (.iconst 1, 1) := dk_4 (dk_at dksX6_read_9 12 rfl rfl)
theorem dX6_read_221 : decode cX6_read 221 = .ok (.if_icmp .eq 10, 3) := dk_159 0 10 (dk_at dksX6_read_9 13 rfl rfl)
theorem dX6_read_224 : decode cX6_read 224 = .ok (.iload_n 3, 1) := dk_29 (dk_at dksX6_read_9 16 rfl rfl)
theorem dX6_read_225 : decode cX6_read 225 = .ok (.sipush (-450), 3) := dk_17 254 62 (dk_at dksX6_read_9 17 rfl rfl)
theorem dX6_read_228 : decode cX6_read 228 = .ok (.if_icmp .ge 10, 3) := dk_162 0 10 (dk_at dksX6_read_9 20 rfl rfl)
theorem dX6_read_231 : decode cX6_read 231 = .ok (.iload_n 1, 1) := dk_27 (dk_at dksX6_read_9 23 rfl rfl)
theorem dX6_read_232 : decode cX6_read 232 = .ok (.lconst 0, 1) := dk_9 (dk_at dksX6_read_10 0 rfl rfl)
theorem dX6_read_233 : decode cX6_read 233 = .ok (.iload_n 2, 1) := dk_28 (dk_at dksX6_read_10 1 rfl rfl)
theorem dX6_read_234 : decode cX6_read 234 = .ok (.invokestatic 110, 3) := dk_184 0 110 (dk_at dksX6_read_10 2 rfl rfl)
theorem dX6_read_237 : decode cX6_read 237 = .ok (.lreturn, 1) := dk_173 (dk_at dksX6_read_10 5 rfl rfl)
theorem dX6_read_238 : decode cX6_read 238 = .ok (.iload_n 3, 1) := dk_29 (dk_at dksX6_read_10 6 rfl rfl)
theorem dX6_read_239 : decode cX6_read 239 = .ok (.sipush 350, 3) := dk_17 1 94 (dk_at dksX6_read_10 7 rfl rfl)
theorem dX6_read_242 : decode cX6_read 242 = .ok (.if_icmp .le 13, 3) := dk_164 0 13 (dk_at dksX6_read_10 10 rfl rfl)
theorem dX6_read_245 : decode cX6_read 245 = .ok (.iload_n 1, 1) := dk_27 (dk_at dksX6_read_10 13 rfl rfl)
theorem dX6_read_246 : decode cX6_read 246 = .ok (.iload_n 1, 1) := dk_27 (dk_at dksX6_read_10 14 rfl rfl)
theorem dX6_read_247 : decode cX6_read 247 = .ok (.invokestatic 116, 3) := dk_184 0 116 (dk_at dksX6_read_10 15 rfl rfl)
theorem dX6_read_250 : decode cX6_read 250 = .ok (.iload_n 2, 1) := dk_28 (dk_at dksX6_read_10 18 rfl rfl)
theorem dX6_read_251 : decode cX6_read 251 = .ok (.invokestatic 110, 3) := dk_184 0 110 (dk_at dksX6_read_10 19 rfl rfl)
theorem dX6_read_254 : decode cX6_read 254 = .ok (.lreturn, 1) := dk_173 (dk_at dksX6_read_10 22 rfl rfl)
theorem dX6_read_255 : decode cX6_read 255 = .ok (.aload_n 0, 1) := dk_42 (dk_at dksX6_read_10 23 rfl rfl)
theorem dX6_read_256 : decode cX6_read 256 = .ok (.getfield 29, 3) := dk_180 0 29 (dk_at dksX6_read_11 0 rfl rfl)
theorem dX6_read_259 : decode cX6_read 259 = .ok (.lconst 1, 1) := dk_10 (dk_at dksX6_read_11 3 rfl rfl)
theorem dX6_read_260 : decode cX6_read 260 = .ok (.invokestatic 143, 3) := dk_184 0 143 (dk_at dksX6_read_11 4 rfl rfl)
theorem dX6_read_263 : decode cX6_read 263 = .ok (.iconst 0, 1) := dk_3 (dk_at dksX6_read_11 7 rfl rfl)
theorem dX6_read_264 : decode cX6_read 264 = .ok (.istore 6, 2) := dk_54 6 (dk_at dksX6_read_11 8 rfl rfl)
theorem dX6_read_266 : decode cX6_read 266 = .ok (.iload 6, 2) := dk_21 6 (dk_at dksX6_read_11 10 rfl rfl)
theorem dX6_read_268 : decode cX6_read 268 = .ok (.iload_n 3, 1) := dk_29 (dk_at dksX6_read_11 12 rfl rfl)
theorem dX6_read_269 : decode cX6_read 269 = .ok (.if_icmp .ge 20, 3) := dk_162 0 20 (dk_at dksX6_read_11 13 rfl rfl)
theorem dX6_read_272 : decode cX6_read 272 = .ok (.aload_n 0, 1) := dk_42 (dk_at dksX6_read_11 16 rfl rfl)
theorem dX6_read_273 : decode cX6_read 273 = .ok (.getfield 26, 3) := dk_180 0 26 (dk_at dksX6_read_11 17 rfl rfl)
theorem dX6_read_276 : decode cX6_read 276 = .ok (.ldc2_w 355, 3) := dk_20 1 99 (dk_at dksX6_read_11 20 rfl rfl)
theorem dX6_read_279 : decode cX6_read 279 = .ok (.lconst 0, 1) := dk_9 (dk_at dksX6_read_11 23 rfl rfl)
theorem dX6_read_280 : decode cX6_read 280 = .ok (.invokestatic 297, 3) := dk_184 1 41 (dk_at dksX6_read_12 0 rfl rfl)
theorem dX6_read_283 : decode cX6_read 283 = .ok (.iinc 6 1, 3) := dk_132 6 1 (dk_at dksX6_read_12 3 rfl rfl)
theorem dX6_read_286 : decode cX6_read 286 = .ok (.goto (-20), 3) := dk_167 255 236 (dk_at dksX6_read_12 6 rfl rfl)
theorem dX6_read_289 : decode cX6_read 289 = .ok (.iconst 0, 1) := dk_3 (dk_at dksX6_read_12 9 rfl rfl)
theorem dX6_read_290 : decode cX6_read 290 = .ok (.istore 6, 2) := dk_54 6 (dk_at dksX6_read_12 10 rfl rfl)
theorem dX6_read_292 : decode cX6_read 292 = .ok (.iload 6, 2) := dk_21 6 (dk_at dksX6_read_12 12 rfl rfl)
theorem dX6_read_294 : decode cX6_read 294 = .ok (.iload_n 3, 1) := dk_29 (dk_at dksX6_read_12 14 rfl rfl)
theorem dX6_read_295 : decode cX6_read 295 = .ok (.ineg, 1) := dk_116 (dk_at dksX6_read_12 15 rfl rfl)
theorem dX6_read_296 : decode cX6_read 296 = .ok (.if_icmp .ge 20, 3) := dk_162 0 20 (dk_at dksX6_read_12 16 rfl rfl)
theorem dX6_read_299 : decode cX6_read 299 = .ok (.aload_n 0, 1) := dk_42 (dk_at dksX6_read_12 19 rfl rfl)
theorem dX6_read_300 : decode cX6_read 300 = .ok (.getfield 29, 3) := dk_180 0 29 (dk_at dksX6_read_12 20 rfl rfl)
theorem dX6_read_303 : decode cX6_read 303 = .ok (.ldc2_w 355, 3) := dk_20 1 99 (dk_at dksX6_read_13 0 rfl rfl)
theorem dX6_read_306 : decode cX6_read 306 = .ok (.lconst 0, 1) := dk_9 (dk_at dksX6_read_13 3 rfl rfl)
theorem dX6_read_307 : decode cX6_read 307 = .ok (.invokestatic 297, 3) := dk_184 1 41 (dk_at dksX6_read_13 4 rfl rfl)
theorem dX6_read_310 : decode cX6_read 310 = .ok (.iinc 6 1, 3) := dk_132 6 1 (dk_at dksX6_read_13 7 rfl rfl)
theorem dX6_read_313 : decode cX6_read 313 = .ok (.goto (-21), 3) := dk_167 255 235 (dk_at dksX6_read_13 10 rfl rfl)
theorem dX6_read_316 : decode cX6_read 316 = .ok (.aload_n 0, 1) := dk_42 (dk_at dksX6_read_13 13 rfl rfl)
theorem dX6_read_317 : decode cX6_read 317 = .ok (.iload_n 1, 1) := dk_27 (dk_at dksX6_read_13 14 rfl rfl)
theorem dX6_read_318 : decode cX6_read 318 = .ok (.iload_n 2, 1) := dk_28 (dk_at dksX6_read_13 15 rfl rfl)
theorem dX6_read_319 : decode cX6_read 319 = .ok (.lconst 0, 1) := dk_9 (dk_at dksX6_read_13 16 rfl rfl)
theorem dX6_read_320 : decode cX6_read 320 = .ok (.invokevirtual 147, 3) := dk_182 0 147 (dk_at dksX6_read_13 17 rfl rfl)
theorem dX6_read_323 : decode cX6_read 323 = .ok (.lreturn, 1) := dk_173 (dk_at dksX6_read_13 20 rfl rfl)
abbrev cX6_peek : ByteArray := prog_10_method_82_code
def yX6_peek : MethodName := ⟨RX6, "peek", "()I"⟩
def dkwX6_peek_1 : List UInt8 := [172]
abbrev dktX6_peek_1 : List UInt8 := dkwX6_peek_1 ++ []
def dkwX6_peek_0 : List UInt8 := [42, 180, 1, 79, 42, 180, 1, 82, 162, 0, 15, 42, 180, 0, 13, 42, 180, 1, 79, 46, 167, 0, 4, 2]
abbrev dktX6_peek_0 : List UInt8 := dkwX6_peek_0 ++ dktX6_peek_1
theorem dksX6_peek_0 : cX6_peek.data.toList.drop 0 = dktX6_peek_0 := by decide +kernel
theorem dksX6_peek_1 : cX6_peek.data.toList.drop 24 = dktX6_peek_1 := dk_seg dksX6_peek_0 24 rfl rfl
theorem dX6_peek_0 : decode cX6_peek 0 = .ok (.aload_n 0, 1) := dk_42 (dk_at dksX6_peek_0 0 rfl rfl)
theorem dX6_peek_1 : decode cX6_peek 1 = .ok (.getfield 335, 3) := dk_180 1 79 (dk_at dksX6_peek_0 1 rfl rfl)
theorem dX6_peek_4 : decode cX6_peek 4 = .ok (.aload_n 0, 1) := dk_42 (dk_at dksX6_peek_0 4 rfl rfl)
theorem dX6_peek_5 : decode cX6_peek 5 = .ok (.getfield 338, 3) := dk_180 1 82 (dk_at dksX6_peek_0 5 rfl rfl)
theorem dX6_peek_8 : decode cX6_peek 8 = .ok (.if_icmp .ge 15, 3) := dk_162 0 15 (dk_at dksX6_peek_0 8 rfl rfl)
theorem dX6_peek_11 : decode cX6_peek 11 = .ok (.aload_n 0, 1) := dk_42 (dk_at dksX6_peek_0 11 rfl rfl)
theorem dX6_peek_12 : decode cX6_peek 12 = .ok (.getfield 13, 3) := dk_180 0 13 (dk_at dksX6_peek_0 12 rfl rfl)
theorem dX6_peek_15 : decode cX6_peek 15 = .ok (.aload_n 0, 1) := dk_42 (dk_at dksX6_peek_0 15 rfl rfl)
theorem dX6_peek_16 : decode cX6_peek 16 = .ok (.getfield 335, 3) := dk_180 1 79 (dk_at dksX6_peek_0 16 rfl rfl)
theorem dX6_peek_19 : decode cX6_peek 19 = .ok (.iaload, 1) := dk_46 (dk_at dksX6_peek_0 19 rfl rfl)
theorem dX6_peek_20 : decode cX6_peek 20 = .ok (.goto 4, 3) := dk_167 0 4 (dk_at dksX6_peek_0 20 rfl rfl)
theorem dX6_peek_23 : decode cX6_peek 23 = .ok (.iconst (-1), 1) := dk_2 (dk_at dksX6_peek_0 23 rfl rfl)
theorem dX6_peek_24 : decode cX6_peek 24 = .ok (.ireturn, 1) := dk_172 (dk_at dksX6_peek_1 0 rfl rfl)
abbrev cX6_readDigits : ByteArray := prog_10_method_84_code
def yX6_readDigits : MethodName := ⟨RX6, "readDigits", "()I"⟩
def dkwX6_readDigits_4 : List UInt8 := [156, 0, 11, 42, 42, 180, 1, 79, 181, 1, 93, 42, 180, 1, 79, 27, 100, 172]
abbrev dktX6_readDigits_4 : List UInt8 := dkwX6_readDigits_4 ++ []
def dkwX6_readDigits_3 : List UInt8 := [180, 1, 79, 4, 96, 181, 1, 79, 167, 255, 184, 42, 180, 1, 79, 27, 160, 0, 18, 42, 180, 1, 93]
abbrev dktX6_readDigits_3 : List UInt8 := dkwX6_readDigits_3 ++ dktX6_readDigits_4
def dkwX6_readDigits_2 : List UInt8 := [182, 1, 85, 16, 48, 100, 133, 184, 1, 41, 42, 89, 180, 1, 96, 4, 96, 181, 1, 96, 42, 89]
abbrev dktX6_readDigits_2 : List UInt8 := dkwX6_readDigits_2 ++ dktX6_readDigits_3
def dkwX6_readDigits_1 : List UInt8 := [16, 36, 160, 0, 14, 42, 42, 180, 1, 79, 181, 1, 93, 167, 255, 225, 42, 180, 0, 26, 20, 1, 99, 42]
abbrev dktX6_readDigits_1 : List UInt8 := dkwX6_readDigits_1 ++ dktX6_readDigits_2
def dkwX6_readDigits_0 : List UInt8 := [42, 180, 1, 79, 60, 42, 182, 1, 89, 153, 0, 71, 42, 180, 1, 93, 156, 0, 64, 42, 180, 1, 96]
abbrev dktX6_readDigits_0 : List UInt8 := dkwX6_readDigits_0 ++ dktX6_readDigits_1
theorem dksX6_readDigits_0 : cX6_readDigits.data.toList.drop 0 = dktX6_readDigits_0 := by decide +kernel
theorem dksX6_readDigits_1 : cX6_readDigits.data.toList.drop 23 = dktX6_readDigits_1 := dk_seg dksX6_readDigits_0 23 rfl rfl
theorem dksX6_readDigits_2 : cX6_readDigits.data.toList.drop 47 = dktX6_readDigits_2 := dk_seg dksX6_readDigits_1 24 rfl rfl
theorem dksX6_readDigits_3 : cX6_readDigits.data.toList.drop 69 = dktX6_readDigits_3 := dk_seg dksX6_readDigits_2 22 rfl rfl
theorem dksX6_readDigits_4 : cX6_readDigits.data.toList.drop 92 = dktX6_readDigits_4 := dk_seg dksX6_readDigits_3 23 rfl rfl
theorem dX6_readDigits_0 : decode cX6_readDigits 0 = .ok (.aload_n 0, 1) := dk_42 (dk_at dksX6_readDigits_0 0 rfl rfl)
theorem dX6_readDigits_1 : decode cX6_readDigits 1 = .ok (.getfield 335, 3) := dk_180 1 79 (dk_at dksX6_readDigits_0 1 rfl rfl)
theorem dX6_readDigits_4 : decode cX6_readDigits 4 = .ok (.istore_n 1, 1) := dk_60 (dk_at dksX6_readDigits_0 4 rfl rfl)
theorem dX6_readDigits_5 : decode cX6_readDigits 5 = .ok (.aload_n 0, 1) := dk_42 (dk_at dksX6_readDigits_0 5 rfl rfl)
theorem dX6_readDigits_6 : decode cX6_readDigits 6 = .ok (.invokevirtual 345, 3) := dk_182 1 89 (dk_at dksX6_readDigits_0 6 rfl rfl)
theorem dX6_readDigits_9 : decode cX6_readDigits 9 = .ok (.ifCond .eq 71, 3) := dk_153 0 71 (dk_at dksX6_readDigits_0 9 rfl rfl)
theorem dX6_readDigits_12 : decode cX6_readDigits 12 = .ok (.aload_n 0, 1) := dk_42 (dk_at dksX6_readDigits_0 12 rfl rfl)
theorem dX6_readDigits_13 : decode cX6_readDigits 13 = .ok (.getfield 349, 3) := dk_180 1 93 (dk_at dksX6_readDigits_0 13 rfl rfl)
theorem dX6_readDigits_16 : decode cX6_readDigits 16 = .ok (.ifCond .ge 64, 3) := dk_156 0 64 (dk_at dksX6_readDigits_0 16 rfl rfl)
theorem dX6_readDigits_19 : decode cX6_readDigits 19 = .ok (.aload_n 0, 1) := dk_42 (dk_at dksX6_readDigits_0 19 rfl rfl)
theorem dX6_readDigits_20 : decode cX6_readDigits 20 = .ok (.getfield 352, 3) := dk_180 1 96 (dk_at dksX6_readDigits_0 20 rfl rfl)
theorem dX6_readDigits_23 : decode cX6_readDigits 23 = .ok (.bipush 36, 2) := dk_16 36 (dk_at dksX6_readDigits_1 0 rfl rfl)
theorem dX6_readDigits_25 : decode cX6_readDigits 25 = .ok (.if_icmp .ne 14, 3) := dk_160 0 14 (dk_at dksX6_readDigits_1 2 rfl rfl)
theorem dX6_readDigits_28 : decode cX6_readDigits 28 = .ok (.aload_n 0, 1) := dk_42 (dk_at dksX6_readDigits_1 5 rfl rfl)
theorem dX6_readDigits_29 : decode cX6_readDigits 29 = .ok (.aload_n 0, 1) := dk_42 (dk_at dksX6_readDigits_1 6 rfl rfl)
theorem dX6_readDigits_30 : decode cX6_readDigits 30 = .ok (.getfield 335, 3) := dk_180 1 79 (dk_at dksX6_readDigits_1 7 rfl rfl)
theorem dX6_readDigits_33 : decode cX6_readDigits 33 = .ok (.putfield 349, 3) := dk_181 1 93 (dk_at dksX6_readDigits_1 10 rfl rfl)
theorem dX6_readDigits_36 : decode cX6_readDigits 36 = .ok (.goto (-31), 3) := dk_167 255 225 (dk_at dksX6_readDigits_1 13 rfl rfl)
theorem dX6_readDigits_39 : decode cX6_readDigits 39 = .ok (.aload_n 0, 1) := dk_42 (dk_at dksX6_readDigits_1 16 rfl rfl)
theorem dX6_readDigits_40 : decode cX6_readDigits 40 = .ok (.getfield 26, 3) := dk_180 0 26 (dk_at dksX6_readDigits_1 17 rfl rfl)
theorem dX6_readDigits_43 : decode cX6_readDigits 43 = .ok (.ldc2_w 355, 3) := dk_20 1 99 (dk_at dksX6_readDigits_1 20 rfl rfl)
theorem dX6_readDigits_46 : decode cX6_readDigits 46 = .ok (.aload_n 0, 1) := dk_42 (dk_at dksX6_readDigits_1 23 rfl rfl)
theorem dX6_readDigits_47 : decode cX6_readDigits 47 = .ok (.invokevirtual 341, 3) := dk_182 1 85 (dk_at dksX6_readDigits_2 0 rfl rfl)
theorem dX6_readDigits_50 : decode cX6_readDigits 50 = .ok (.bipush 48, 2) := dk_16 48 (dk_at dksX6_readDigits_2 3 rfl rfl)
theorem dX6_readDigits_52 : decode cX6_readDigits 52 = .ok (.isub, 1) := dk_100 (dk_at dksX6_readDigits_2 5 rfl rfl)
theorem dX6_readDigits_53 : decode cX6_readDigits 53 = .ok (.i2l, 1) := dk_133 (dk_at dksX6_readDigits_2 6 rfl rfl)
theorem dX6_readDigits_54 : decode cX6_readDigits 54 = .ok (.invokestatic 297, 3) := dk_184 1 41 (dk_at dksX6_readDigits_2 7 rfl rfl)
theorem dX6_readDigits_57 : decode cX6_readDigits 57 = .ok (.aload_n 0, 1) := dk_42 (dk_at dksX6_readDigits_2 10 rfl rfl)
theorem dX6_readDigits_58 : decode cX6_readDigits 58 = .ok (.dup, 1) := dk_89 (dk_at dksX6_readDigits_2 11 rfl rfl)
theorem dX6_readDigits_59 : decode cX6_readDigits 59 = .ok (.getfield 352, 3) := dk_180 1 96 (dk_at dksX6_readDigits_2 12 rfl rfl)
theorem dX6_readDigits_62 : decode cX6_readDigits 62 = .ok (.iconst 1, 1) := dk_4 (dk_at dksX6_readDigits_2 15 rfl rfl)
theorem dX6_readDigits_63 : decode cX6_readDigits 63 = .ok (.iadd, 1) := dk_96 (dk_at dksX6_readDigits_2 16 rfl rfl)
theorem dX6_readDigits_64 : decode cX6_readDigits 64 = .ok (.putfield 352, 3) := dk_181 1 96 (dk_at dksX6_readDigits_2 17 rfl rfl)
theorem dX6_readDigits_67 : decode cX6_readDigits 67 = .ok (.aload_n 0, 1) := dk_42 (dk_at dksX6_readDigits_2 20 rfl rfl)
theorem dX6_readDigits_68 : decode cX6_readDigits 68 = .ok (.dup, 1) := dk_89 (dk_at dksX6_readDigits_2 21 rfl rfl)
theorem dX6_readDigits_69 : decode cX6_readDigits 69 = .ok (.getfield 335, 3) := dk_180 1 79 (dk_at dksX6_readDigits_3 0 rfl rfl)
theorem dX6_readDigits_72 : decode cX6_readDigits 72 = .ok (.iconst 1, 1) := dk_4 (dk_at dksX6_readDigits_3 3 rfl rfl)
theorem dX6_readDigits_73 : decode cX6_readDigits 73 = .ok (.iadd, 1) := dk_96 (dk_at dksX6_readDigits_3 4 rfl rfl)
theorem dX6_readDigits_74 : decode cX6_readDigits 74 = .ok (.putfield 335, 3) := dk_181 1 79 (dk_at dksX6_readDigits_3 5 rfl rfl)
theorem dX6_readDigits_77 : decode cX6_readDigits 77 = .ok (.goto (-72), 3) := dk_167 255 184 (dk_at dksX6_readDigits_3 8 rfl rfl)
theorem dX6_readDigits_80 : decode cX6_readDigits 80 = .ok (.aload_n 0, 1) := dk_42 (dk_at dksX6_readDigits_3 11 rfl rfl)
theorem dX6_readDigits_81 : decode cX6_readDigits 81 = .ok (.getfield 335, 3) := dk_180 1 79 (dk_at dksX6_readDigits_3 12 rfl rfl)
theorem dX6_readDigits_84 : decode cX6_readDigits 84 = .ok (.iload_n 1, 1) := dk_27 (dk_at dksX6_readDigits_3 15 rfl rfl)
theorem dX6_readDigits_85 : decode cX6_readDigits 85 = .ok (.if_icmp .ne 18, 3) := dk_160 0 18 (dk_at dksX6_readDigits_3 16 rfl rfl)
theorem dX6_readDigits_88 : decode cX6_readDigits 88 = .ok (.aload_n 0, 1) := dk_42 (dk_at dksX6_readDigits_3 19 rfl rfl)
theorem dX6_readDigits_89 : decode cX6_readDigits 89 = .ok (.getfield 349, 3) := dk_180 1 93 (dk_at dksX6_readDigits_3 20 rfl rfl)
theorem dX6_readDigits_92 : decode cX6_readDigits 92 = .ok (.ifCond .ge 11, 3) := dk_156 0 11 (dk_at dksX6_readDigits_4 0 rfl rfl)
theorem dX6_readDigits_95 : decode cX6_readDigits 95 = .ok (.aload_n 0, 1) := dk_42 (dk_at dksX6_readDigits_4 3 rfl rfl)
theorem dX6_readDigits_96 : decode cX6_readDigits 96 = .ok (.aload_n 0, 1) := dk_42 (dk_at dksX6_readDigits_4 4 rfl rfl)
theorem dX6_readDigits_97 : decode cX6_readDigits 97 = .ok (.getfield 335, 3) := dk_180 1 79 (dk_at dksX6_readDigits_4 5 rfl rfl)
theorem dX6_readDigits_100 : decode cX6_readDigits 100 = .ok (.putfield 349, 3) := dk_181 1 93 (dk_at dksX6_readDigits_4 8 rfl rfl)
theorem dX6_readDigits_103 : decode cX6_readDigits 103 = .ok (.aload_n 0, 1) := dk_42 (dk_at dksX6_readDigits_4 11 rfl rfl)
theorem dX6_readDigits_104 : decode cX6_readDigits 104 = .ok (.getfield 335, 3) := dk_180 1 79 (dk_at dksX6_readDigits_4 12 rfl rfl)
theorem dX6_readDigits_107 : decode cX6_readDigits 107 = .ok (.iload_n 1, 1) := dk_27 (dk_at dksX6_readDigits_4 15 rfl rfl)
theorem dX6_readDigits_108 : decode cX6_readDigits 108 = .ok (.isub, 1) := dk_100 (dk_at dksX6_readDigits_4 16 rfl rfl)
theorem dX6_readDigits_109 : decode cX6_readDigits 109 = .ok (.ireturn, 1) := dk_172 (dk_at dksX6_readDigits_4 17 rfl rfl)
abbrev cX6_isDigit : ByteArray := prog_10_method_83_code
def yX6_isDigit : MethodName := ⟨RX6, "isDigit", "()Z"⟩
def dkwX6_isDigit_0 : List UInt8 := [42, 182, 1, 85, 16, 48, 161, 0, 16, 42, 182, 1, 85, 16, 57, 163, 0, 7, 4, 167, 0, 4, 3, 172]
abbrev dktX6_isDigit_0 : List UInt8 := dkwX6_isDigit_0 ++ []
theorem dksX6_isDigit_0 : cX6_isDigit.data.toList.drop 0 = dktX6_isDigit_0 := by decide +kernel
theorem dX6_isDigit_0 : decode cX6_isDigit 0 = .ok (.aload_n 0, 1) := dk_42 (dk_at dksX6_isDigit_0 0 rfl rfl)
theorem dX6_isDigit_1 : decode cX6_isDigit 1 = .ok (.invokevirtual 341, 3) := dk_182 1 85 (dk_at dksX6_isDigit_0 1 rfl rfl)
theorem dX6_isDigit_4 : decode cX6_isDigit 4 = .ok (.bipush 48, 2) := dk_16 48 (dk_at dksX6_isDigit_0 4 rfl rfl)
theorem dX6_isDigit_6 : decode cX6_isDigit 6 = .ok (.if_icmp .lt 16, 3) := dk_161 0 16 (dk_at dksX6_isDigit_0 6 rfl rfl)
theorem dX6_isDigit_9 : decode cX6_isDigit 9 = .ok (.aload_n 0, 1) := dk_42 (dk_at dksX6_isDigit_0 9 rfl rfl)
theorem dX6_isDigit_10 : decode cX6_isDigit 10 = .ok (.invokevirtual 341, 3) := dk_182 1 85 (dk_at dksX6_isDigit_0 10 rfl rfl)
theorem dX6_isDigit_13 : decode cX6_isDigit 13 = .ok (.bipush 57, 2) := dk_16 57 (dk_at dksX6_isDigit_0 13 rfl rfl)
theorem dX6_isDigit_15 : decode cX6_isDigit 15 = .ok (.if_icmp .gt 7, 3) := dk_163 0 7 (dk_at dksX6_isDigit_0 15 rfl rfl)
theorem dX6_isDigit_18 : decode cX6_isDigit 18 = .ok (.iconst 1, 1) := dk_4 (dk_at dksX6_isDigit_0 18 rfl rfl)
theorem dX6_isDigit_19 : decode cX6_isDigit 19 = .ok (.goto 4, 3) := dk_167 0 4 (dk_at dksX6_isDigit_0 19 rfl rfl)
theorem dX6_isDigit_22 : decode cX6_isDigit 22 = .ok (.iconst 0, 1) := dk_3 (dk_at dksX6_isDigit_0 22 rfl rfl)
theorem dX6_isDigit_23 : decode cX6_isDigit 23 = .ok (.ireturn, 1) := dk_172 (dk_at dksX6_isDigit_0 23 rfl rfl)
abbrev cX6_readPower : ByteArray := prog_10_method_85_code
def yX6_readPower : MethodName := ⟨RX6, "readPower", "()I"⟩
def dkwX6_readPower_6 : List UInt8 := [104, 172]
abbrev dktX6_readPower_6 : List UInt8 := dkwX6_readPower_6 ++ []
def dkwX6_readPower_5 : List UInt8 := [181, 1, 79, 167, 255, 198, 42, 180, 1, 79, 28, 160, 0, 11, 42, 42, 180, 1, 79, 181, 1, 93, 27, 29]
abbrev dktX6_readPower_5 : List UInt8 := dkwX6_readPower_5 ++ dktX6_readPower_6
def dkwX6_readPower_4 : List UInt8 := [167, 255, 224, 16, 10, 29, 104, 42, 182, 1, 85, 96, 16, 48, 100, 62, 42, 89, 180, 1, 79, 4, 96]
abbrev dktX6_readPower_4 : List UInt8 := dkwX6_readPower_4 ++ dktX6_readPower_5
def dkwX6_readPower_3 : List UInt8 := [180, 1, 93, 156, 0, 50, 42, 180, 1, 79, 28, 100, 7, 160, 0, 14, 42, 42, 180, 1, 79, 181, 1, 93]
abbrev dktX6_readPower_3 : List UInt8 := dkwX6_readPower_3 ++ dktX6_readPower_4
def dkwX6_readPower_2 : List UInt8 := [4, 167, 0, 4, 3, 96, 181, 1, 79, 42, 180, 1, 79, 61, 3, 62, 42, 182, 1, 89, 153, 0, 57, 42]
abbrev dktX6_readPower_2 : List UInt8 := dkwX6_readPower_2 ++ dktX6_readPower_3
def dkwX6_readPower_1 : List UInt8 := [60, 42, 89, 180, 1, 79, 42, 182, 1, 85, 16, 45, 159, 0, 12, 42, 182, 1, 85, 16, 43, 160, 0, 7]
abbrev dktX6_readPower_1 : List UInt8 := dkwX6_readPower_1 ++ dktX6_readPower_2
def dkwX6_readPower_0 : List UInt8 := [42, 89, 180, 1, 79, 4, 96, 181, 1, 79, 42, 182, 1, 85, 16, 45, 160, 0, 7, 2, 167, 0, 4, 4]
abbrev dktX6_readPower_0 : List UInt8 := dkwX6_readPower_0 ++ dktX6_readPower_1
theorem dksX6_readPower_0 : cX6_readPower.data.toList.drop 0 = dktX6_readPower_0 := by decide +kernel
theorem dksX6_readPower_1 : cX6_readPower.data.toList.drop 24 = dktX6_readPower_1 := dk_seg dksX6_readPower_0 24 rfl rfl
theorem dksX6_readPower_2 : cX6_readPower.data.toList.drop 48 = dktX6_readPower_2 := dk_seg dksX6_readPower_1 24 rfl rfl
theorem dksX6_readPower_3 : cX6_readPower.data.toList.drop 72 = dktX6_readPower_3 := dk_seg dksX6_readPower_2 24 rfl rfl
theorem dksX6_readPower_4 : cX6_readPower.data.toList.drop 96 = dktX6_readPower_4 := dk_seg dksX6_readPower_3 24 rfl rfl
theorem dksX6_readPower_5 : cX6_readPower.data.toList.drop 119 = dktX6_readPower_5 := dk_seg dksX6_readPower_4 23 rfl rfl
theorem dksX6_readPower_6 : cX6_readPower.data.toList.drop 143 = dktX6_readPower_6 := dk_seg dksX6_readPower_5 24 rfl rfl
theorem dX6_readPower_0 : decode cX6_readPower 0 = .ok (.aload_n 0, 1) := dk_42 (dk_at dksX6_readPower_0 0 rfl rfl)
theorem dX6_readPower_1 : decode cX6_readPower 1 = .ok (.dup, 1) := dk_89 (dk_at dksX6_readPower_0 1 rfl rfl)
theorem dX6_readPower_2 : decode cX6_readPower 2 = .ok (.getfield 335, 3) := dk_180 1 79 (dk_at dksX6_readPower_0 2 rfl rfl)
theorem dX6_readPower_5 : decode cX6_readPower 5 = .ok (.iconst 1, 1) := dk_4 (dk_at dksX6_readPower_0 5 rfl rfl)
theorem dX6_readPower_6 : decode cX6_readPower 6 = .ok (.iadd, 1) := dk_96 (dk_at dksX6_readPower_0 6 rfl rfl)
theorem dX6_readPower_7 : decode cX6_readPower 7 = .ok (.putfield 335, 3) := dk_181 1 79 (dk_at dksX6_readPower_0 7 rfl rfl)
theorem dX6_readPower_10 : decode cX6_readPower 10 = .ok (.aload_n 0, 1) := dk_42 (dk_at dksX6_readPower_0 10 rfl rfl)
theorem dX6_readPower_11 : decode cX6_readPower 11 = .ok (.invokevirtual 341, 3) := dk_182 1 85 (dk_at dksX6_readPower_0 11 rfl rfl)
theorem dX6_readPower_14 : decode cX6_readPower 14 = .ok (.bipush 45, 2) := dk_16 45 (dk_at dksX6_readPower_0 14 rfl rfl)
theorem dX6_readPower_16 : decode cX6_readPower 16 = .ok (.if_icmp .ne 7, 3) := dk_160 0 7 (dk_at dksX6_readPower_0 16 rfl rfl)
theorem dX6_readPower_19 : decode cX6_readPower 19 = .ok (.iconst (-1), 1) := dk_2 (dk_at dksX6_readPower_0 19 rfl rfl)
theorem dX6_readPower_20 : decode cX6_readPower 20 = .ok (.goto 4, 3) := dk_167 0 4 (dk_at dksX6_readPower_0 20 rfl rfl)
theorem dX6_readPower_23 : decode cX6_readPower 23 = .ok (.iconst 1, 1) := dk_4 (dk_at dksX6_readPower_0 23 rfl rfl)
theorem dX6_readPower_24 : decode cX6_readPower 24 = .ok (.istore_n 1, 1) := dk_60 (dk_at dksX6_readPower_1 0 rfl rfl)
theorem dX6_readPower_25 : decode cX6_readPower 25 = .ok (.aload_n 0, 1) := dk_42 (dk_at dksX6_readPower_1 1 rfl rfl)
theorem dX6_readPower_26 : decode cX6_readPower 26 = .ok (.dup, 1) := dk_89 (dk_at dksX6_readPower_1 2 rfl rfl)
theorem dX6_readPower_27 : decode cX6_readPower 27 = .ok (.getfield 335, 3) := dk_180 1 79 (dk_at dksX6_readPower_1 3 rfl rfl)
theorem dX6_readPower_30 : decode cX6_readPower 30 = .ok (.aload_n 0, 1) := dk_42 (dk_at dksX6_readPower_1 6 rfl rfl)
theorem dX6_readPower_31 : decode cX6_readPower 31 = .ok (.invokevirtual 341, 3) := dk_182 1 85 (dk_at dksX6_readPower_1 7 rfl rfl)
theorem dX6_readPower_34 : decode cX6_readPower 34 = .ok (.bipush 45, 2) := dk_16 45 (dk_at dksX6_readPower_1 10 rfl rfl)
theorem dX6_readPower_36 : decode cX6_readPower 36 = .ok (.if_icmp .eq 12, 3) := dk_159 0 12 (dk_at dksX6_readPower_1 12 rfl rfl)
theorem dX6_readPower_39 : decode cX6_readPower 39 = .ok (.aload_n 0, 1) := dk_42 (dk_at dksX6_readPower_1 15 rfl rfl)
theorem dX6_readPower_40 : decode cX6_readPower 40 = .ok (.invokevirtual 341, 3) := dk_182 1 85 (dk_at dksX6_readPower_1 16 rfl rfl)
theorem dX6_readPower_43 : decode cX6_readPower 43 = .ok (.bipush 43, 2) := dk_16 43 (dk_at dksX6_readPower_1 19 rfl rfl)
theorem dX6_readPower_45 : decode cX6_readPower 45 = .ok (.if_icmp .ne 7, 3) := dk_160 0 7 (dk_at dksX6_readPower_1 21 rfl rfl)
theorem dX6_readPower_48 : decode cX6_readPower 48 = .ok (.iconst 1, 1) := dk_4 (dk_at dksX6_readPower_2 0 rfl rfl)
theorem dX6_readPower_49 : decode cX6_readPower 49 = .ok (.goto 4, 3) := dk_167 0 4 (dk_at dksX6_readPower_2 1 rfl rfl)
theorem dX6_readPower_52 : decode cX6_readPower 52 = .ok (.iconst 0, 1) := dk_3 (dk_at dksX6_readPower_2 4 rfl rfl)
theorem dX6_readPower_53 : decode cX6_readPower 53 = .ok (.iadd, 1) := dk_96 (dk_at dksX6_readPower_2 5 rfl rfl)
theorem dX6_readPower_54 : decode cX6_readPower 54 = .ok (.putfield 335, 3) := dk_181 1 79 (dk_at dksX6_readPower_2 6 rfl rfl)
theorem dX6_readPower_57 : decode cX6_readPower 57 = .ok (.aload_n 0, 1) := dk_42 (dk_at dksX6_readPower_2 9 rfl rfl)
theorem dX6_readPower_58 : decode cX6_readPower 58 = .ok (.getfield 335, 3) := dk_180 1 79 (dk_at dksX6_readPower_2 10 rfl rfl)
theorem dX6_readPower_61 : decode cX6_readPower 61 = .ok (.istore_n 2, 1) := dk_61 (dk_at dksX6_readPower_2 13 rfl rfl)
theorem dX6_readPower_62 : decode cX6_readPower 62 = .ok (.iconst 0, 1) := dk_3 (dk_at dksX6_readPower_2 14 rfl rfl)
theorem dX6_readPower_63 : decode cX6_readPower 63 = .ok (.istore_n 3, 1) := dk_62 (dk_at dksX6_readPower_2 15 rfl rfl)
theorem dX6_readPower_64 : decode cX6_readPower 64 = .ok (.aload_n 0, 1) := dk_42 (dk_at dksX6_readPower_2 16 rfl rfl)
theorem dX6_readPower_65 : decode cX6_readPower 65 = .ok (.invokevirtual 345, 3) := dk_182 1 89 (dk_at dksX6_readPower_2 17 rfl rfl)
theorem dX6_readPower_68 : decode cX6_readPower 68 = .ok (.ifCond .eq 57, 3) := dk_153 0 57 (dk_at dksX6_readPower_2 20 rfl rfl)
theorem dX6_readPower_71 : decode cX6_readPower 71 = .ok (.aload_n 0, 1) := dk_42 (dk_at dksX6_readPower_2 23 rfl rfl)
theorem dX6_readPower_72 : decode cX6_readPower 72 = .ok (.getfield 349, 3) := dk_180 1 93 (dk_at dksX6_readPower_3 0 rfl rfl)
theorem dX6_readPower_75 : decode cX6_readPower 75 = .ok (.ifCond .ge 50, 3) := dk_156 0 50 (dk_at dksX6_readPower_3 3 rfl rfl)
theorem dX6_readPower_78 : decode cX6_readPower 78 = .ok (.aload_n 0, 1) := dk_42 (dk_at dksX6_readPower_3 6 rfl rfl)
theorem dX6_readPower_79 : decode cX6_readPower 79 = .ok (.getfield 335, 3) := dk_180 1 79 (dk_at dksX6_readPower_3 7 rfl rfl)
theorem dX6_readPower_82 : decode cX6_readPower 82 = .ok (.iload_n 2, 1) := dk_28 (dk_at dksX6_readPower_3 10 rfl rfl)
theorem dX6_readPower_83 : decode cX6_readPower 83 = .ok (.isub, 1) := dk_100 (dk_at dksX6_readPower_3 11 rfl rfl)
theorem dX6_readPower_84 : decode cX6_readPower 84 = .ok (.iconst 4, 1) := dk_7 (dk_at dksX6_readPower_3 12 rfl rfl)
theorem dX6_readPower_85 : decode cX6_readPower 85 = .ok (.if_icmp .ne 14, 3) := dk_160 0 14 (dk_at dksX6_readPower_3 13 rfl rfl)
theorem dX6_readPower_88 : decode cX6_readPower 88 = .ok (.aload_n 0, 1) := dk_42 (dk_at dksX6_readPower_3 16 rfl rfl)
theorem dX6_readPower_89 : decode cX6_readPower 89 = .ok (.aload_n 0, 1) := dk_42 (dk_at dksX6_readPower_3 17 rfl rfl)
theorem dX6_readPower_90 : decode cX6_readPower 90 = .ok (.getfield 335, 3) := dk_180 1 79 (dk_at dksX6_readPower_3 18 rfl rfl)
theorem dX6_readPower_93 : decode cX6_readPower 93 = .ok (.putfield 349, 3) := dk_181 1 93 (dk_at dksX6_readPower_3 21 rfl rfl)
theorem dX6_readPower_96 : decode cX6_readPower 96 = .ok (.goto (-32), 3) := dk_167 255 224 (dk_at dksX6_readPower_4 0 rfl rfl)
theorem dX6_readPower_99 : decode cX6_readPower 99 = .ok (.bipush 10, 2) := dk_16 10 (dk_at dksX6_readPower_4 3 rfl rfl)
theorem dX6_readPower_101 : decode cX6_readPower 101 = .ok (.iload_n 3, 1) := dk_29 (dk_at dksX6_readPower_4 5 rfl rfl)
theorem dX6_readPower_102 : decode cX6_readPower 102 = .ok (.imul, 1) := dk_104 (dk_at dksX6_readPower_4 6 rfl rfl)
theorem dX6_readPower_103 : decode cX6_readPower 103 = .ok (.aload_n 0, 1) := dk_42 (dk_at dksX6_readPower_4 7 rfl rfl)
theorem dX6_readPower_104 : decode cX6_readPower 104 = .ok (.invokevirtual 341, 3) := dk_182 1 85 (dk_at dksX6_readPower_4 8 rfl rfl)
theorem dX6_readPower_107 : decode cX6_readPower 107 = .ok (.iadd, 1) := dk_96 (dk_at dksX6_readPower_4 11 rfl rfl)
theorem dX6_readPower_108 : decode cX6_readPower 108 = .ok (.bipush 48, 2) := dk_16 48 (dk_at dksX6_readPower_4 12 rfl rfl)
theorem dX6_readPower_110 : decode cX6_readPower 110 = .ok (.isub, 1) := dk_100 (dk_at dksX6_readPower_4 14 rfl rfl)
theorem dX6_readPower_111 : decode cX6_readPower 111 = .ok (.istore_n 3, 1) := dk_62 (dk_at dksX6_readPower_4 15 rfl rfl)
theorem dX6_readPower_112 : decode cX6_readPower 112 = .ok (.aload_n 0, 1) := dk_42 (dk_at dksX6_readPower_4 16 rfl rfl)
theorem dX6_readPower_113 : decode cX6_readPower 113 = .ok (.dup, 1) := dk_89 (dk_at dksX6_readPower_4 17 rfl rfl)
theorem dX6_readPower_114 : decode cX6_readPower 114 = .ok (.getfield 335, 3) := dk_180 1 79 (dk_at dksX6_readPower_4 18 rfl rfl)
theorem dX6_readPower_117 : decode cX6_readPower 117 = .ok (.iconst 1, 1) := dk_4 (dk_at dksX6_readPower_4 21 rfl rfl)
theorem dX6_readPower_118 : decode cX6_readPower 118 = .ok (.iadd, 1) := dk_96 (dk_at dksX6_readPower_4 22 rfl rfl)
theorem dX6_readPower_119 : decode cX6_readPower 119 = .ok (.putfield 335, 3) := dk_181 1 79 (dk_at dksX6_readPower_5 0 rfl rfl)
theorem dX6_readPower_122 : decode cX6_readPower 122 = .ok (.goto (-58), 3) := dk_167 255 198 (dk_at dksX6_readPower_5 3 rfl rfl)
theorem dX6_readPower_125 : decode cX6_readPower 125 = .ok (.aload_n 0, 1) := dk_42 (dk_at dksX6_readPower_5 6 rfl rfl)
theorem dX6_readPower_126 : decode cX6_readPower 126 = .ok (.getfield 335, 3) := dk_180 1 79 (dk_at dksX6_readPower_5 7 rfl rfl)
theorem dX6_readPower_129 : decode cX6_readPower 129 = .ok (.iload_n 2, 1) := dk_28 (dk_at dksX6_readPower_5 10 rfl rfl)
theorem dX6_readPower_130 : decode cX6_readPower 130 = .ok (.if_icmp .ne 11, 3) := dk_160 0 11 (dk_at dksX6_readPower_5 11 rfl rfl)
theorem dX6_readPower_133 : decode cX6_readPower 133 = .ok (.aload_n 0, 1) := dk_42 (dk_at dksX6_readPower_5 14 rfl rfl)
theorem dX6_readPower_134 : decode cX6_readPower 134 = .ok (.aload_n 0, 1) := dk_42 (dk_at dksX6_readPower_5 15 rfl rfl)
theorem dX6_readPower_135 : decode cX6_readPower 135 = .ok (.getfield 335, 3) := dk_180 1 79 (dk_at dksX6_readPower_5 16 rfl rfl)
theorem dX6_readPower_138 : decode cX6_readPower 138 = .ok (.putfield 349, 3) := dk_181 1 93 (dk_at dksX6_readPower_5 19 rfl rfl)
theorem dX6_readPower_141 : decode cX6_readPower 141 = .ok (.iload_n 1, 1) := dk_27 (dk_at dksX6_readPower_5 22 rfl rfl)
theorem dX6_readPower_142 : decode cX6_readPower 142 = .ok (.iload_n 3, 1) := dk_29 (dk_at dksX6_readPower_5 23 rfl rfl)
theorem dX6_readPower_143 : decode cX6_readPower 143 = .ok (.imul, 1) := dk_104 (dk_at dksX6_readPower_6 0 rfl rfl)
theorem dX6_readPower_144 : decode cX6_readPower 144 = .ok (.ireturn, 1) := dk_172 (dk_at dksX6_readPower_6 1 rfl rfl)
abbrev cX6_row : ByteArray := prog_10_method_88_code
def yX6_row : MethodName := ⟨RX6, "row", "(III)I"⟩
def dkwX6_row_3 : List UInt8 := [27, 104, 21, 4, 96, 9, 80, 132, 4, 1, 167, 255, 234, 29, 172]
abbrev dktX6_row_3 : List UInt8 := dkwX6_row_3 ++ []
def dkwX6_row_2 : List UInt8 := [28, 79, 42, 180, 0, 23, 27, 29, 79, 3, 54, 4, 21, 4, 29, 162, 0, 22, 42, 180, 0, 16, 16, 40]
abbrev dktX6_row_2 : List UInt8 := dkwX6_row_2 ++ dktX6_row_3
def dkwX6_row_1 : List UInt8 := [42, 16, 9, 182, 0, 45, 136, 172, 29, 156, 0, 10, 42, 6, 182, 0, 45, 136, 172, 42, 180, 0, 20, 27]
abbrev dktX6_row_1 : List UInt8 := dkwX6_row_1 ++ dktX6_row_2
def dkwX6_row_0 : List UInt8 := [42, 182, 0, 42, 27, 184, 1, 109, 153, 0, 16, 28, 184, 0, 151, 153, 0, 9, 29, 16, 40, 164, 0, 11]
abbrev dktX6_row_0 : List UInt8 := dkwX6_row_0 ++ dktX6_row_1
theorem dksX6_row_0 : cX6_row.data.toList.drop 0 = dktX6_row_0 := by decide +kernel
theorem dksX6_row_1 : cX6_row.data.toList.drop 24 = dktX6_row_1 := dk_seg dksX6_row_0 24 rfl rfl
theorem dksX6_row_2 : cX6_row.data.toList.drop 48 = dktX6_row_2 := dk_seg dksX6_row_1 24 rfl rfl
theorem dksX6_row_3 : cX6_row.data.toList.drop 72 = dktX6_row_3 := dk_seg dksX6_row_2 24 rfl rfl
theorem dX6_row_0 : decode cX6_row 0 = .ok (.aload_n 0, 1) := dk_42 (dk_at dksX6_row_0 0 rfl rfl)
theorem dX6_row_1 : decode cX6_row 1 = .ok (.invokevirtual 42, 3) := dk_182 0 42 (dk_at dksX6_row_0 1 rfl rfl)
theorem dX6_row_4 : decode cX6_row 4 = .ok (.iload_n 1, 1) := dk_27 (dk_at dksX6_row_0 4 rfl rfl)
theorem dX6_row_5 : decode cX6_row 5 = .ok (.invokestatic 365, 3) := dk_184 1 109 (dk_at dksX6_row_0 5 rfl rfl)
theorem dX6_row_8 : decode cX6_row 8 = .ok (.ifCond .eq 16, 3) := dk_153 0 16 (dk_at dksX6_row_0 8 rfl rfl)
theorem dX6_row_11 : decode cX6_row 11 = .ok (.iload_n 2, 1) := dk_28 (dk_at dksX6_row_0 11 rfl rfl)
theorem dX6_row_12 : decode cX6_row 12 = .ok (.invokestatic 151, 3) := dk_184 0 151 (dk_at dksX6_row_0 12 rfl rfl)
theorem dX6_row_15 : decode cX6_row 15 = .ok (.ifCond .eq 9, 3) := dk_153 0 9 (dk_at dksX6_row_0 15 rfl rfl)
theorem dX6_row_18 : decode cX6_row 18 = .ok (.iload_n 3, 1) := dk_29 (dk_at dksX6_row_0 18 rfl rfl)
theorem dX6_row_19 : decode cX6_row 19 = .ok (.bipush 40, 2) := dk_16 40 (dk_at dksX6_row_0 19 rfl rfl)
theorem dX6_row_21 : decode cX6_row 21 = .ok (.if_icmp .le 11, 3) := dk_164 0 11 (dk_at dksX6_row_0 21 rfl rfl)
theorem dX6_row_24 : decode cX6_row 24 = .ok (.aload_n 0, 1) := dk_42 (dk_at dksX6_row_1 0 rfl rfl)
theorem dX6_row_25 : decode cX6_row 25 = .ok (.bipush 9, 2) := dk_16 9 (dk_at dksX6_row_1 1 rfl rfl)
theorem dX6_row_27 : decode cX6_row 27 = .ok (.invokevirtual 45, 3) := dk_182 0 45 (dk_at dksX6_row_1 3 rfl rfl)
theorem dX6_row_30 : decode cX6_row 30 = .ok (.l2i, 1) := dk_136 (dk_at dksX6_row_1 6 rfl rfl)
theorem dX6_row_31 : decode cX6_row 31 = .ok (.ireturn, 1) := dk_172 (dk_at dksX6_row_1 7 rfl rfl)
theorem dX6_row_32 : decode cX6_row 32 = .ok (.iload_n 3, 1) := dk_29 (dk_at dksX6_row_1 8 rfl rfl)
theorem dX6_row_33 : decode cX6_row 33 = .ok (.ifCond .ge 10, 3) := dk_156 0 10 (dk_at dksX6_row_1 9 rfl rfl)
theorem dX6_row_36 : decode cX6_row 36 = .ok (.aload_n 0, 1) := dk_42 (dk_at dksX6_row_1 12 rfl rfl)
theorem dX6_row_37 : decode cX6_row 37 = .ok (.iconst 3, 1) := dk_6 (dk_at dksX6_row_1 13 rfl rfl)
theorem dX6_row_38 : decode cX6_row 38 = .ok (.invokevirtual 45, 3) := dk_182 0 45 (dk_at dksX6_row_1 14 rfl rfl)
theorem dX6_row_41 : decode cX6_row 41 = .ok (.l2i, 1) := dk_136 (dk_at dksX6_row_1 17 rfl rfl)
theorem dX6_row_42 : decode cX6_row 42 = .ok (.ireturn, 1) := dk_172 (dk_at dksX6_row_1 18 rfl rfl)
theorem dX6_row_43 : decode cX6_row 43 = .ok (.aload_n 0, 1) := dk_42 (dk_at dksX6_row_1 19 rfl rfl)
theorem dX6_row_44 : decode cX6_row 44 = .ok (.getfield 20, 3) := dk_180 0 20 (dk_at dksX6_row_1 20 rfl rfl)
theorem dX6_row_47 : decode cX6_row 47 = .ok (.iload_n 1, 1) := dk_27 (dk_at dksX6_row_1 23 rfl rfl)
theorem dX6_row_48 : decode cX6_row 48 = .ok (.iload_n 2, 1) := dk_28 (dk_at dksX6_row_2 0 rfl rfl)
theorem dX6_row_49 : decode cX6_row 49 = .ok (.iastore, 1) := dk_79 (dk_at dksX6_row_2 1 rfl rfl)
theorem dX6_row_50 : decode cX6_row 50 = .ok (.aload_n 0, 1) := dk_42 (dk_at dksX6_row_2 2 rfl rfl)
theorem dX6_row_51 : decode cX6_row 51 = .ok (.getfield 23, 3) := dk_180 0 23 (dk_at dksX6_row_2 3 rfl rfl)
theorem dX6_row_54 : decode cX6_row 54 = .ok (.iload_n 1, 1) := dk_27 (dk_at dksX6_row_2 6 rfl rfl)
theorem dX6_row_55 : decode cX6_row 55 = .ok (.iload_n 3, 1) := dk_29 (dk_at dksX6_row_2 7 rfl rfl)
theorem dX6_row_56 : decode cX6_row 56 = .ok (.iastore, 1) := dk_79 (dk_at dksX6_row_2 8 rfl rfl)
theorem dX6_row_57 : decode cX6_row 57 = .ok (.iconst 0, 1) := dk_3 (dk_at dksX6_row_2 9 rfl rfl)
theorem dX6_row_58 : decode cX6_row 58 = .ok (.istore 4, 2) := dk_54 4 (dk_at dksX6_row_2 10 rfl rfl)
theorem dX6_row_60 : decode cX6_row 60 = .ok (.iload 4, 2) := dk_21 4 (dk_at dksX6_row_2 12 rfl rfl)
theorem dX6_row_62 : decode cX6_row 62 = .ok (.iload_n 3, 1) := dk_29 (dk_at dksX6_row_2 14 rfl rfl)
theorem dX6_row_63 : decode cX6_row 63 = .ok (.if_icmp .ge 22, 3) := dk_162 0 22 (dk_at dksX6_row_2 15 rfl rfl)
theorem dX6_row_66 : decode cX6_row 66 = .ok (.aload_n 0, 1) := dk_42 (dk_at dksX6_row_2 18 rfl rfl)
theorem dX6_row_67 : decode cX6_row 67 = .ok (.getfield 16, 3) := dk_180 0 16 (dk_at dksX6_row_2 19 rfl rfl)
theorem dX6_row_70 : decode cX6_row 70 = .ok (.bipush 40, 2) := dk_16 40 (dk_at dksX6_row_2 22 rfl rfl)
theorem dX6_row_72 : decode cX6_row 72 = .ok (.iload_n 1, 1) := dk_27 (dk_at dksX6_row_3 0 rfl rfl)
theorem dX6_row_73 : decode cX6_row 73 = .ok (.imul, 1) := dk_104 (dk_at dksX6_row_3 1 rfl rfl)
theorem dX6_row_74 : decode cX6_row 74 = .ok (.iload 4, 2) := dk_21 4 (dk_at dksX6_row_3 2 rfl rfl)
theorem dX6_row_76 : decode cX6_row 76 = .ok (.iadd, 1) := dk_96 (dk_at dksX6_row_3 4 rfl rfl)
theorem dX6_row_77 : decode cX6_row 77 = .ok (.lconst 0, 1) := dk_9 (dk_at dksX6_row_3 5 rfl rfl)
theorem dX6_row_78 : decode cX6_row 78 = .ok (.lastore, 1) := dk_80 (dk_at dksX6_row_3 6 rfl rfl)
theorem dX6_row_79 : decode cX6_row 79 = .ok (.iinc 4 1, 3) := dk_132 4 1 (dk_at dksX6_row_3 7 rfl rfl)
theorem dX6_row_82 : decode cX6_row 82 = .ok (.goto (-22), 3) := dk_167 255 234 (dk_at dksX6_row_3 10 rfl rfl)
theorem dX6_row_85 : decode cX6_row 85 = .ok (.iload_n 3, 1) := dk_29 (dk_at dksX6_row_3 13 rfl rfl)
theorem dX6_row_86 : decode cX6_row 86 = .ok (.ireturn, 1) := dk_172 (dk_at dksX6_row_3 14 rfl rfl)
abbrev cX6_isRow : ByteArray := prog_10_method_87_code
def yX6_isRow : MethodName := ⟨RX6, "isRow", "(I)Z"⟩
def dkwX6_isRow_0 : List UInt8 := [26, 155, 0, 13, 26, 16, 8, 162, 0, 7, 4, 167, 0, 4, 3, 172]
abbrev dktX6_isRow_0 : List UInt8 := dkwX6_isRow_0 ++ []
theorem dksX6_isRow_0 : cX6_isRow.data.toList.drop 0 = dktX6_isRow_0 := by decide +kernel
theorem dX6_isRow_0 : decode cX6_isRow 0 = .ok (.iload_n 0, 1) := dk_26 (dk_at dksX6_isRow_0 0 rfl rfl)
theorem dX6_isRow_1 : decode cX6_isRow 1 = .ok (.ifCond .lt 13, 3) := dk_155 0 13 (dk_at dksX6_isRow_0 1 rfl rfl)
theorem dX6_isRow_4 : decode cX6_isRow 4 = .ok (.iload_n 0, 1) := dk_26 (dk_at dksX6_isRow_0 4 rfl rfl)
theorem dX6_isRow_5 : decode cX6_isRow 5 = .ok (.bipush 8, 2) := dk_16 8 (dk_at dksX6_isRow_0 5 rfl rfl)
theorem dX6_isRow_7 : decode cX6_isRow 7 = .ok (.if_icmp .ge 7, 3) := dk_162 0 7 (dk_at dksX6_isRow_0 7 rfl rfl)
theorem dX6_isRow_10 : decode cX6_isRow 10 = .ok (.iconst 1, 1) := dk_4 (dk_at dksX6_isRow_0 10 rfl rfl)
theorem dX6_isRow_11 : decode cX6_isRow 11 = .ok (.goto 4, 3) := dk_167 0 4 (dk_at dksX6_isRow_0 11 rfl rfl)
theorem dX6_isRow_14 : decode cX6_isRow 14 = .ok (.iconst 0, 1) := dk_3 (dk_at dksX6_isRow_0 14 rfl rfl)
theorem dX6_isRow_15 : decode cX6_isRow 15 = .ok (.ireturn, 1) := dk_172 (dk_at dksX6_isRow_0 15 rfl rfl)
abbrev cX6_drop : ByteArray := prog_10_method_89_code
def yX6_drop : MethodName := ⟨RX6, "drop", "(I)I"⟩
def dkwX6_drop_1 : List UInt8 := [46, 156, 0, 7, 3, 167, 0, 4, 4, 61, 42, 180, 0, 20, 27, 2, 79, 28, 172]
abbrev dktX6_drop_1 : List UInt8 := dkwX6_drop_1 ++ []
def dkwX6_drop_0 : List UInt8 := [42, 182, 0, 42, 27, 184, 1, 109, 154, 0, 11, 42, 16, 9, 182, 0, 45, 136, 172, 42, 180, 0, 20, 27]
abbrev dktX6_drop_0 : List UInt8 := dkwX6_drop_0 ++ dktX6_drop_1
theorem dksX6_drop_0 : cX6_drop.data.toList.drop 0 = dktX6_drop_0 := by decide +kernel
theorem dksX6_drop_1 : cX6_drop.data.toList.drop 24 = dktX6_drop_1 := dk_seg dksX6_drop_0 24 rfl rfl
theorem dX6_drop_0 : decode cX6_drop 0 = .ok (.aload_n 0, 1) := dk_42 (dk_at dksX6_drop_0 0 rfl rfl)
theorem dX6_drop_1 : decode cX6_drop 1 = .ok (.invokevirtual 42, 3) := dk_182 0 42 (dk_at dksX6_drop_0 1 rfl rfl)
theorem dX6_drop_4 : decode cX6_drop 4 = .ok (.iload_n 1, 1) := dk_27 (dk_at dksX6_drop_0 4 rfl rfl)
theorem dX6_drop_5 : decode cX6_drop 5 = .ok (.invokestatic 365, 3) := dk_184 1 109 (dk_at dksX6_drop_0 5 rfl rfl)
theorem dX6_drop_8 : decode cX6_drop 8 = .ok (.ifCond .ne 11, 3) := dk_154 0 11 (dk_at dksX6_drop_0 8 rfl rfl)
theorem dX6_drop_11 : decode cX6_drop 11 = .ok (.aload_n 0, 1) := dk_42 (dk_at dksX6_drop_0 11 rfl rfl)
theorem dX6_drop_12 : decode cX6_drop 12 = .ok (.bipush 9, 2) := dk_16 9 (dk_at dksX6_drop_0 12 rfl rfl)
theorem dX6_drop_14 : decode cX6_drop 14 = .ok (.invokevirtual 45, 3) := dk_182 0 45 (dk_at dksX6_drop_0 14 rfl rfl)
theorem dX6_drop_17 : decode cX6_drop 17 = .ok (.l2i, 1) := dk_136 (dk_at dksX6_drop_0 17 rfl rfl)
theorem dX6_drop_18 : decode cX6_drop 18 = .ok (.ireturn, 1) := dk_172 (dk_at dksX6_drop_0 18 rfl rfl)
theorem dX6_drop_19 : decode cX6_drop 19 = .ok (.aload_n 0, 1) := dk_42 (dk_at dksX6_drop_0 19 rfl rfl)
theorem dX6_drop_20 : decode cX6_drop 20 = .ok (.getfield 20, 3) := dk_180 0 20 (dk_at dksX6_drop_0 20 rfl rfl)
theorem dX6_drop_23 : decode cX6_drop 23 = .ok (.iload_n 1, 1) := dk_27 (dk_at dksX6_drop_0 23 rfl rfl)
theorem dX6_drop_24 : decode cX6_drop 24 = .ok (.iaload, 1) := dk_46 (dk_at dksX6_drop_1 0 rfl rfl)
theorem dX6_drop_25 : decode cX6_drop 25 = .ok (.ifCond .ge 7, 3) := dk_156 0 7 (dk_at dksX6_drop_1 1 rfl rfl)
theorem dX6_drop_28 : decode cX6_drop 28 = .ok (.iconst 0, 1) := dk_3 (dk_at dksX6_drop_1 4 rfl rfl)
theorem dX6_drop_29 : decode cX6_drop 29 = .ok (.goto 4, 3) := dk_167 0 4 (dk_at dksX6_drop_1 5 rfl rfl)
theorem dX6_drop_32 : decode cX6_drop 32 = .ok (.iconst 1, 1) := dk_4 (dk_at dksX6_drop_1 8 rfl rfl)
theorem dX6_drop_33 : decode cX6_drop 33 = .ok (.istore_n 2, 1) := dk_61 (dk_at dksX6_drop_1 9 rfl rfl)
theorem dX6_drop_34 : decode cX6_drop 34 = .ok (.aload_n 0, 1) := dk_42 (dk_at dksX6_drop_1 10 rfl rfl)
theorem dX6_drop_35 : decode cX6_drop 35 = .ok (.getfield 20, 3) := dk_180 0 20 (dk_at dksX6_drop_1 11 rfl rfl)
theorem dX6_drop_38 : decode cX6_drop 38 = .ok (.iload_n 1, 1) := dk_27 (dk_at dksX6_drop_1 14 rfl rfl)
theorem dX6_drop_39 : decode cX6_drop 39 = .ok (.iconst (-1), 1) := dk_2 (dk_at dksX6_drop_1 15 rfl rfl)
theorem dX6_drop_40 : decode cX6_drop 40 = .ok (.iastore, 1) := dk_79 (dk_at dksX6_drop_1 16 rfl rfl)
theorem dX6_drop_41 : decode cX6_drop 41 = .ok (.iload_n 2, 1) := dk_28 (dk_at dksX6_drop_1 17 rfl rfl)
theorem dX6_drop_42 : decode cX6_drop 42 = .ok (.ireturn, 1) := dk_172 (dk_at dksX6_drop_1 18 rfl rfl)
abbrev cX6_put : ByteArray := prog_10_method_91_code
def yX6_put : MethodName := ⟨RX6, "put", "(IIIJ)I"⟩
def dkwX6_put_1 : List UInt8 := [136, 172, 42, 180, 0, 16, 16, 40, 27, 104, 29, 96, 42, 28, 22, 4, 182, 0, 167, 80, 4, 172]
abbrev dktX6_put_1 : List UInt8 := dkwX6_put_1 ++ []
def dkwX6_put_0 : List UInt8 := [42, 182, 0, 42, 42, 27, 28, 29, 182, 1, 112, 54, 6, 21, 6, 158, 0, 11, 42, 21, 6, 182, 0, 45]
abbrev dktX6_put_0 : List UInt8 := dkwX6_put_0 ++ dktX6_put_1
theorem dksX6_put_0 : cX6_put.data.toList.drop 0 = dktX6_put_0 := by decide +kernel
theorem dksX6_put_1 : cX6_put.data.toList.drop 24 = dktX6_put_1 := dk_seg dksX6_put_0 24 rfl rfl
theorem dX6_put_0 : decode cX6_put 0 = .ok (.aload_n 0, 1) := dk_42 (dk_at dksX6_put_0 0 rfl rfl)
theorem dX6_put_1 : decode cX6_put 1 = .ok (.invokevirtual 42, 3) := dk_182 0 42 (dk_at dksX6_put_0 1 rfl rfl)
theorem dX6_put_4 : decode cX6_put 4 = .ok (.aload_n 0, 1) := dk_42 (dk_at dksX6_put_0 4 rfl rfl)
theorem dX6_put_5 : decode cX6_put 5 = .ok (.iload_n 1, 1) := dk_27 (dk_at dksX6_put_0 5 rfl rfl)
theorem dX6_put_6 : decode cX6_put 6 = .ok (.iload_n 2, 1) := dk_28 (dk_at dksX6_put_0 6 rfl rfl)
theorem dX6_put_7 : decode cX6_put 7 = .ok (.iload_n 3, 1) := dk_29 (dk_at dksX6_put_0 7 rfl rfl)
theorem dX6_put_8 : decode cX6_put 8 = .ok (.invokevirtual 368, 3) := dk_182 1 112 (dk_at dksX6_put_0 8 rfl rfl)
theorem dX6_put_11 : decode cX6_put 11 = .ok (.istore 6, 2) := dk_54 6 (dk_at dksX6_put_0 11 rfl rfl)
theorem dX6_put_13 : decode cX6_put 13 = .ok (.iload 6, 2) := dk_21 6 (dk_at dksX6_put_0 13 rfl rfl)
theorem dX6_put_15 : decode cX6_put 15 = .ok (.ifCond .le 11, 3) := dk_158 0 11 (dk_at dksX6_put_0 15 rfl rfl)
theorem dX6_put_18 : decode cX6_put 18 = .ok (.aload_n 0, 1) := dk_42 (dk_at dksX6_put_0 18 rfl rfl)
theorem dX6_put_19 : decode cX6_put 19 = .ok (.iload 6, 2) := dk_21 6 (dk_at dksX6_put_0 19 rfl rfl)
theorem dX6_put_21 : decode cX6_put 21 = .ok (.invokevirtual 45, 3) := dk_182 0 45 (dk_at dksX6_put_0 21 rfl rfl)
theorem dX6_put_24 : decode cX6_put 24 = .ok (.l2i, 1) := dk_136 (dk_at dksX6_put_1 0 rfl rfl)
theorem dX6_put_25 : decode cX6_put 25 = .ok (.ireturn, 1) := dk_172 (dk_at dksX6_put_1 1 rfl rfl)
theorem dX6_put_26 : decode cX6_put 26 = .ok (.aload_n 0, 1) := dk_42 (dk_at dksX6_put_1 2 rfl rfl)
theorem dX6_put_27 : decode cX6_put 27 = .ok (.getfield 16, 3) := dk_180 0 16 (dk_at dksX6_put_1 3 rfl rfl)
theorem dX6_put_30 : decode cX6_put 30 = .ok (.bipush 40, 2) := dk_16 40 (dk_at dksX6_put_1 6 rfl rfl)
theorem dX6_put_32 : decode cX6_put 32 = .ok (.iload_n 1, 1) := dk_27 (dk_at dksX6_put_1 8 rfl rfl)
theorem dX6_put_33 : decode cX6_put 33 = .ok (.imul, 1) := dk_104 (dk_at dksX6_put_1 9 rfl rfl)
theorem dX6_put_34 : decode cX6_put 34 = .ok (.iload_n 3, 1) := dk_29 (dk_at dksX6_put_1 10 rfl rfl)
theorem dX6_put_35 : decode cX6_put 35 = .ok (.iadd, 1) := dk_96 (dk_at dksX6_put_1 11 rfl rfl)
theorem dX6_put_36 : decode cX6_put 36 = .ok (.aload_n 0, 1) := dk_42 (dk_at dksX6_put_1 12 rfl rfl)
theorem dX6_put_37 : decode cX6_put 37 = .ok (.iload_n 2, 1) := dk_28 (dk_at dksX6_put_1 13 rfl rfl)
theorem dX6_put_38 : decode cX6_put 38 = .ok (.lload 4, 2) := dk_22 4 (dk_at dksX6_put_1 14 rfl rfl)
theorem dX6_put_40 : decode cX6_put 40 = .ok (.invokevirtual 167, 3) := dk_182 0 167 (dk_at dksX6_put_1 16 rfl rfl)
theorem dX6_put_43 : decode cX6_put 43 = .ok (.lastore, 1) := dk_80 (dk_at dksX6_put_1 19 rfl rfl)
theorem dX6_put_44 : decode cX6_put 44 = .ok (.iconst 1, 1) := dk_4 (dk_at dksX6_put_1 20 rfl rfl)
theorem dX6_put_45 : decode cX6_put 45 = .ok (.ireturn, 1) := dk_172 (dk_at dksX6_put_1 21 rfl rfl)
abbrev cX6_barred : ByteArray := prog_10_method_90_code
def yX6_barred : MethodName := ⟨RX6, "barred", "(III)I"⟩
def dkwX6_barred_2 : List UInt8 := [155, 0, 13, 29, 42, 180, 0, 23, 27, 46, 161, 0, 7, 5, 167, 0, 4, 3, 172]
abbrev dktX6_barred_2 : List UInt8 := dkwX6_barred_2 ++ []
def dkwX6_barred_1 : List UInt8 := [156, 0, 7, 4, 167, 0, 36, 42, 180, 0, 20, 27, 46, 28, 159, 0, 7, 8, 167, 0, 22, 29]
abbrev dktX6_barred_1 : List UInt8 := dkwX6_barred_1 ++ dktX6_barred_2
def dkwX6_barred_0 : List UInt8 := [27, 184, 1, 109, 153, 0, 10, 28, 184, 0, 151, 154, 0, 6, 16, 9, 172, 42, 180, 0, 20, 27, 46]
abbrev dktX6_barred_0 : List UInt8 := dkwX6_barred_0 ++ dktX6_barred_1
theorem dksX6_barred_0 : cX6_barred.data.toList.drop 0 = dktX6_barred_0 := by decide +kernel
theorem dksX6_barred_1 : cX6_barred.data.toList.drop 23 = dktX6_barred_1 := dk_seg dksX6_barred_0 23 rfl rfl
theorem dksX6_barred_2 : cX6_barred.data.toList.drop 45 = dktX6_barred_2 := dk_seg dksX6_barred_1 22 rfl rfl
theorem dX6_barred_0 : decode cX6_barred 0 = .ok (.iload_n 1, 1) := dk_27 (dk_at dksX6_barred_0 0 rfl rfl)
theorem dX6_barred_1 : decode cX6_barred 1 = .ok (.invokestatic 365, 3) := dk_184 1 109 (dk_at dksX6_barred_0 1 rfl rfl)
theorem dX6_barred_4 : decode cX6_barred 4 = .ok (.ifCond .eq 10, 3) := dk_153 0 10 (dk_at dksX6_barred_0 4 rfl rfl)
theorem dX6_barred_7 : decode cX6_barred 7 = .ok (.iload_n 2, 1) := dk_28 (dk_at dksX6_barred_0 7 rfl rfl)
theorem dX6_barred_8 : decode cX6_barred 8 = .ok (.invokestatic 151, 3) := dk_184 0 151 (dk_at dksX6_barred_0 8 rfl rfl)
theorem dX6_barred_11 : decode cX6_barred 11 = .ok (.ifCond .ne 6, 3) := dk_154 0 6 (dk_at dksX6_barred_0 11 rfl rfl)
theorem dX6_barred_14 : decode cX6_barred 14 = .ok (.bipush 9, 2) := dk_16 9 (dk_at dksX6_barred_0 14 rfl rfl)
theorem dX6_barred_16 : decode cX6_barred 16 = .ok (.ireturn, 1) := dk_172 (dk_at dksX6_barred_0 16 rfl rfl)
theorem dX6_barred_17 : decode cX6_barred 17 = .ok (.aload_n 0, 1) := dk_42 (dk_at dksX6_barred_0 17 rfl rfl)
theorem dX6_barred_18 : decode cX6_barred 18 = .ok (.getfield 20, 3) := dk_180 0 20 (dk_at dksX6_barred_0 18 rfl rfl)
theorem dX6_barred_21 : decode cX6_barred 21 = .ok (.iload_n 1, 1) := dk_27 (dk_at dksX6_barred_0 21 rfl rfl)
theorem dX6_barred_22 : decode cX6_barred 22 = .ok (.iaload, 1) := dk_46 (dk_at dksX6_barred_0 22 rfl rfl)
theorem dX6_barred_23 : decode cX6_barred 23 = .ok (.ifCond .ge 7, 3) := dk_156 0 7 (dk_at dksX6_barred_1 0 rfl rfl)
theorem dX6_barred_26 : decode cX6_barred 26 = .ok (.iconst 1, 1) := dk_4 (dk_at dksX6_barred_1 3 rfl rfl)
theorem dX6_barred_27 : decode cX6_barred 27 = .ok (.goto 36, 3) := dk_167 0 36 (dk_at dksX6_barred_1 4 rfl rfl)
theorem dX6_barred_30 : decode cX6_barred 30 = .ok (.aload_n 0, 1) := dk_42 (dk_at dksX6_barred_1 7 rfl rfl)
theorem dX6_barred_31 : decode cX6_barred 31 = .ok (.getfield 20, 3) := dk_180 0 20 (dk_at dksX6_barred_1 8 rfl rfl)
theorem dX6_barred_34 : decode cX6_barred 34 = .ok (.iload_n 1, 1) := dk_27 (dk_at dksX6_barred_1 11 rfl rfl)
theorem dX6_barred_35 : decode cX6_barred 35 = .ok (.iaload, 1) := dk_46 (dk_at dksX6_barred_1 12 rfl rfl)
theorem dX6_barred_36 : decode cX6_barred 36 = .ok (.iload_n 2, 1) := dk_28 (dk_at dksX6_barred_1 13 rfl rfl)
theorem dX6_barred_37 : decode cX6_barred 37 = .ok (.if_icmp .eq 7, 3) := dk_159 0 7 (dk_at dksX6_barred_1 14 rfl rfl)
theorem dX6_barred_40 : decode cX6_barred 40 = .ok (.iconst 5, 1) := dk_8 (dk_at dksX6_barred_1 17 rfl rfl)
theorem dX6_barred_41 : decode cX6_barred 41 = .ok (.goto 22, 3) := dk_167 0 22 (dk_at dksX6_barred_1 18 rfl rfl)
theorem dX6_barred_44 : decode cX6_barred 44 = .ok (.iload_n 3, 1) := dk_29 (dk_at dksX6_barred_1 21 rfl rfl)
theorem dX6_barred_45 : decode cX6_barred 45 = .ok (.ifCond .lt 13, 3) := dk_155 0 13 (dk_at dksX6_barred_2 0 rfl rfl)
theorem dX6_barred_48 : decode cX6_barred 48 = .ok (.iload_n 3, 1) := dk_29 (dk_at dksX6_barred_2 3 rfl rfl)
theorem dX6_barred_49 : decode cX6_barred 49 = .ok (.aload_n 0, 1) := dk_42 (dk_at dksX6_barred_2 4 rfl rfl)
theorem dX6_barred_50 : decode cX6_barred 50 = .ok (.getfield 23, 3) := dk_180 0 23 (dk_at dksX6_barred_2 5 rfl rfl)
theorem dX6_barred_53 : decode cX6_barred 53 = .ok (.iload_n 1, 1) := dk_27 (dk_at dksX6_barred_2 8 rfl rfl)
theorem dX6_barred_54 : decode cX6_barred 54 = .ok (.iaload, 1) := dk_46 (dk_at dksX6_barred_2 9 rfl rfl)
theorem dX6_barred_55 : decode cX6_barred 55 = .ok (.if_icmp .lt 7, 3) := dk_161 0 7 (dk_at dksX6_barred_2 10 rfl rfl)
theorem dX6_barred_58 : decode cX6_barred 58 = .ok (.iconst 2, 1) := dk_5 (dk_at dksX6_barred_2 13 rfl rfl)
theorem dX6_barred_59 : decode cX6_barred 59 = .ok (.goto 4, 3) := dk_167 0 4 (dk_at dksX6_barred_2 14 rfl rfl)
theorem dX6_barred_62 : decode cX6_barred 62 = .ok (.iconst 0, 1) := dk_3 (dk_at dksX6_barred_2 17 rfl rfl)
theorem dX6_barred_63 : decode cX6_barred 63 = .ok (.ireturn, 1) := dk_172 (dk_at dksX6_barred_2 18 rfl rfl)
abbrev cX6_at : ByteArray := prog_10_method_92_code
def yX6_at : MethodName := ⟨RX6, "at", "(III)J"⟩
def dkwX6_at_1 : List UInt8 := [167, 0, 14, 42, 180, 0, 16, 16, 40, 27, 104, 29, 96, 47, 173]
abbrev dktX6_at_1 : List UInt8 := dkwX6_at_1 ++ []
def dkwX6_at_0 : List UInt8 := [42, 182, 0, 42, 42, 27, 28, 29, 182, 1, 112, 54, 4, 21, 4, 158, 0, 12, 42, 21, 4, 182, 0, 45]
abbrev dktX6_at_0 : List UInt8 := dkwX6_at_0 ++ dktX6_at_1
theorem dksX6_at_0 : cX6_at.data.toList.drop 0 = dktX6_at_0 := by decide +kernel
theorem dksX6_at_1 : cX6_at.data.toList.drop 24 = dktX6_at_1 := dk_seg dksX6_at_0 24 rfl rfl
theorem dX6_at_0 : decode cX6_at 0 = .ok (.aload_n 0, 1) := dk_42 (dk_at dksX6_at_0 0 rfl rfl)
theorem dX6_at_1 : decode cX6_at 1 = .ok (.invokevirtual 42, 3) := dk_182 0 42 (dk_at dksX6_at_0 1 rfl rfl)
theorem dX6_at_4 : decode cX6_at 4 = .ok (.aload_n 0, 1) := dk_42 (dk_at dksX6_at_0 4 rfl rfl)
theorem dX6_at_5 : decode cX6_at 5 = .ok (.iload_n 1, 1) := dk_27 (dk_at dksX6_at_0 5 rfl rfl)
theorem dX6_at_6 : decode cX6_at 6 = .ok (.iload_n 2, 1) := dk_28 (dk_at dksX6_at_0 6 rfl rfl)
theorem dX6_at_7 : decode cX6_at 7 = .ok (.iload_n 3, 1) := dk_29 (dk_at dksX6_at_0 7 rfl rfl)
theorem dX6_at_8 : decode cX6_at 8 = .ok (.invokevirtual 368, 3) := dk_182 1 112 (dk_at dksX6_at_0 8 rfl rfl)
theorem dX6_at_11 : decode cX6_at 11 = .ok (.istore 4, 2) := dk_54 4 (dk_at dksX6_at_0 11 rfl rfl)
theorem dX6_at_13 : decode cX6_at 13 = .ok (.iload 4, 2) := dk_21 4 (dk_at dksX6_at_0 13 rfl rfl)
theorem dX6_at_15 : decode cX6_at 15 = .ok (.ifCond .le 12, 3) := dk_158 0 12 (dk_at dksX6_at_0 15 rfl rfl)
theorem dX6_at_18 : decode cX6_at 18 = .ok (.aload_n 0, 1) := dk_42 (dk_at dksX6_at_0 18 rfl rfl)
theorem dX6_at_19 : decode cX6_at 19 = .ok (.iload 4, 2) := dk_21 4 (dk_at dksX6_at_0 19 rfl rfl)
theorem dX6_at_21 : decode cX6_at 21 = .ok (.invokevirtual 45, 3) := dk_182 0 45 (dk_at dksX6_at_0 21 rfl rfl)
theorem dX6_at_24 : decode cX6_at 24 = .ok (.goto 14, 3) := dk_167 0 14 (dk_at dksX6_at_1 0 rfl rfl)
theorem dX6_at_27 : decode cX6_at 27 = .ok (.aload_n 0, 1) := dk_42 (dk_at dksX6_at_1 3 rfl rfl)
theorem dX6_at_28 : decode cX6_at 28 = .ok (.getfield 16, 3) := dk_180 0 16 (dk_at dksX6_at_1 4 rfl rfl)
theorem dX6_at_31 : decode cX6_at 31 = .ok (.bipush 40, 2) := dk_16 40 (dk_at dksX6_at_1 7 rfl rfl)
theorem dX6_at_33 : decode cX6_at 33 = .ok (.iload_n 1, 1) := dk_27 (dk_at dksX6_at_1 9 rfl rfl)
theorem dX6_at_34 : decode cX6_at 34 = .ok (.imul, 1) := dk_104 (dk_at dksX6_at_1 10 rfl rfl)
theorem dX6_at_35 : decode cX6_at 35 = .ok (.iload_n 3, 1) := dk_29 (dk_at dksX6_at_1 11 rfl rfl)
theorem dX6_at_36 : decode cX6_at 36 = .ok (.iadd, 1) := dk_96 (dk_at dksX6_at_1 12 rfl rfl)
theorem dX6_at_37 : decode cX6_at 37 = .ok (.laload, 1) := dk_47 (dk_at dksX6_at_1 13 rfl rfl)
theorem dX6_at_38 : decode cX6_at 38 = .ok (.lreturn, 1) := dk_173 (dk_at dksX6_at_1 14 rfl rfl)
abbrev cX6_copy : ByteArray := prog_10_method_93_code
def yX6_copy : MethodName := ⟨RX6, "copy", "(IIIII)I"⟩
def dkwX6_copy_8 : List UInt8 := [21, 6, 96, 42, 180, 0, 32, 21, 6, 47, 80, 132, 6, 1, 167, 255, 224, 4, 172]
abbrev dktX6_copy_8 : List UInt8 := dkwX6_copy_8 ++ []
def dkwX6_copy_7 : List UInt8 := [167, 255, 225, 3, 54, 6, 21, 6, 21, 5, 162, 0, 31, 42, 180, 0, 16, 16, 40, 29, 104, 21, 4, 96]
abbrev dktX6_copy_7 : List UInt8 := dkwX6_copy_7 ++ dktX6_copy_8
def dkwX6_copy_6 : List UInt8 := [180, 0, 32, 21, 6, 42, 180, 0, 16, 16, 40, 27, 104, 28, 96, 21, 6, 96, 47, 80, 132, 6, 1]
abbrev dktX6_copy_6 : List UInt8 := dkwX6_copy_6 ++ dktX6_copy_7
def dkwX6_copy_5 : List UInt8 := [46, 133, 148, 158, 0, 10, 42, 5, 182, 0, 45, 136, 172, 3, 54, 6, 21, 6, 21, 5, 162, 0, 30, 42]
abbrev dktX6_copy_5 : List UInt8 := dkwX6_copy_5 ++ dktX6_copy_6
def dkwX6_copy_4 : List UInt8 := [97, 42, 180, 0, 23, 27, 46, 133, 148, 157, 0, 21, 21, 4, 133, 21, 5, 133, 97, 42, 180, 0, 23, 29]
abbrev dktX6_copy_4 : List UInt8 := dkwX6_copy_4 ++ dktX6_copy_5
def dkwX6_copy_3 : List UInt8 := [182, 0, 45, 136, 172, 28, 155, 0, 48, 21, 4, 155, 0, 43, 21, 5, 155, 0, 38, 28, 133, 21, 5, 133]
abbrev dktX6_copy_3 : List UInt8 := dkwX6_copy_3 ++ dktX6_copy_4
def dkwX6_copy_2 : List UInt8 := [182, 0, 45, 136, 172, 42, 180, 0, 20, 27, 46, 42, 180, 0, 20, 29, 46, 159, 0, 10, 42, 7]
abbrev dktX6_copy_2 : List UInt8 := dkwX6_copy_2 ++ dktX6_copy_3
def dkwX6_copy_1 : List UInt8 := [136, 172, 42, 180, 0, 20, 27, 46, 155, 0, 12, 42, 180, 0, 20, 29, 46, 156, 0, 10, 42, 4]
abbrev dktX6_copy_1 : List UInt8 := dkwX6_copy_1 ++ dktX6_copy_2
def dkwX6_copy_0 : List UInt8 := [42, 182, 0, 42, 27, 184, 1, 109, 153, 0, 10, 29, 184, 1, 109, 154, 0, 11, 42, 16, 9, 182, 0, 45]
abbrev dktX6_copy_0 : List UInt8 := dkwX6_copy_0 ++ dktX6_copy_1
theorem dksX6_copy_0 : cX6_copy.data.toList.drop 0 = dktX6_copy_0 := by decide +kernel
theorem dksX6_copy_1 : cX6_copy.data.toList.drop 24 = dktX6_copy_1 := dk_seg dksX6_copy_0 24 rfl rfl
theorem dksX6_copy_2 : cX6_copy.data.toList.drop 46 = dktX6_copy_2 := dk_seg dksX6_copy_1 22 rfl rfl
theorem dksX6_copy_3 : cX6_copy.data.toList.drop 68 = dktX6_copy_3 := dk_seg dksX6_copy_2 22 rfl rfl
theorem dksX6_copy_4 : cX6_copy.data.toList.drop 92 = dktX6_copy_4 := dk_seg dksX6_copy_3 24 rfl rfl
theorem dksX6_copy_5 : cX6_copy.data.toList.drop 116 = dktX6_copy_5 := dk_seg dksX6_copy_4 24 rfl rfl
theorem dksX6_copy_6 : cX6_copy.data.toList.drop 140 = dktX6_copy_6 := dk_seg dksX6_copy_5 24 rfl rfl
theorem dksX6_copy_7 : cX6_copy.data.toList.drop 163 = dktX6_copy_7 := dk_seg dksX6_copy_6 23 rfl rfl
theorem dksX6_copy_8 : cX6_copy.data.toList.drop 187 = dktX6_copy_8 := dk_seg dksX6_copy_7 24 rfl rfl
theorem dX6_copy_0 : decode cX6_copy 0 = .ok (.aload_n 0, 1) := dk_42 (dk_at dksX6_copy_0 0 rfl rfl)
theorem dX6_copy_1 : decode cX6_copy 1 = .ok (.invokevirtual 42, 3) := dk_182 0 42 (dk_at dksX6_copy_0 1 rfl rfl)
theorem dX6_copy_4 : decode cX6_copy 4 = .ok (.iload_n 1, 1) := dk_27 (dk_at dksX6_copy_0 4 rfl rfl)
theorem dX6_copy_5 : decode cX6_copy 5 = .ok (.invokestatic 365, 3) := dk_184 1 109 (dk_at dksX6_copy_0 5 rfl rfl)
theorem dX6_copy_8 : decode cX6_copy 8 = .ok (.ifCond .eq 10, 3) := dk_153 0 10 (dk_at dksX6_copy_0 8 rfl rfl)
theorem dX6_copy_11 : decode cX6_copy 11 = .ok (.iload_n 3, 1) := dk_29 (dk_at dksX6_copy_0 11 rfl rfl)
theorem dX6_copy_12 : decode cX6_copy 12 = .ok (.invokestatic 365, 3) := dk_184 1 109 (dk_at dksX6_copy_0 12 rfl rfl)
theorem dX6_copy_15 : decode cX6_copy 15 = .ok (.ifCond .ne 11, 3) := dk_154 0 11 (dk_at dksX6_copy_0 15 rfl rfl)
theorem dX6_copy_18 : decode cX6_copy 18 = .ok (.aload_n 0, 1) := dk_42 (dk_at dksX6_copy_0 18 rfl rfl)
theorem dX6_copy_19 : decode cX6_copy 19 = .ok (.bipush 9, 2) := dk_16 9 (dk_at dksX6_copy_0 19 rfl rfl)
theorem dX6_copy_21 : decode cX6_copy 21 = .ok (.invokevirtual 45, 3) := dk_182 0 45 (dk_at dksX6_copy_0 21 rfl rfl)
theorem dX6_copy_24 : decode cX6_copy 24 = .ok (.l2i, 1) := dk_136 (dk_at dksX6_copy_1 0 rfl rfl)
theorem dX6_copy_25 : decode cX6_copy 25 = .ok (.ireturn, 1) := dk_172 (dk_at dksX6_copy_1 1 rfl rfl)
theorem dX6_copy_26 : decode cX6_copy 26 = .ok (.aload_n 0, 1) := dk_42 (dk_at dksX6_copy_1 2 rfl rfl)
theorem dX6_copy_27 : decode cX6_copy 27 = .ok (.getfield 20, 3) := dk_180 0 20 (dk_at dksX6_copy_1 3 rfl rfl)
theorem dX6_copy_30 : decode cX6_copy 30 = .ok (.iload_n 1, 1) := dk_27 (dk_at dksX6_copy_1 6 rfl rfl)
theorem dX6_copy_31 : decode cX6_copy 31 = .ok (.iaload, 1) := dk_46 (dk_at dksX6_copy_1 7 rfl rfl)
theorem dX6_copy_32 : decode cX6_copy 32 = .ok (.ifCond .lt 12, 3) := dk_155 0 12 (dk_at dksX6_copy_1 8 rfl rfl)
theorem dX6_copy_35 : decode cX6_copy 35 = .ok (.aload_n 0, 1) := dk_42 (dk_at dksX6_copy_1 11 rfl rfl)
theorem dX6_copy_36 : decode cX6_copy 36 = .ok (.getfield 20, 3) := dk_180 0 20 (dk_at dksX6_copy_1 12 rfl rfl)
theorem dX6_copy_39 : decode cX6_copy 39 = .ok (.iload_n 3, 1) := dk_29 (dk_at dksX6_copy_1 15 rfl rfl)
theorem dX6_copy_40 : decode cX6_copy 40 = .ok (.iaload, 1) := dk_46 (dk_at dksX6_copy_1 16 rfl rfl)
theorem dX6_copy_41 : decode cX6_copy 41 = .ok (.ifCond .ge 10, 3) := dk_156 0 10 (dk_at dksX6_copy_1 17 rfl rfl)
theorem dX6_copy_44 : decode cX6_copy 44 = .ok (.aload_n 0, 1) := dk_42 (dk_at dksX6_copy_1 20 rfl rfl)
theorem dX6_copy_45 : decode cX6_copy 45 = .ok (.iconst 1, 1) := dk_4 (dk_at dksX6_copy_1 21 rfl rfl)
theorem dX6_copy_46 : decode cX6_copy 46 = .ok (.invokevirtual 45, 3) := dk_182 0 45 (dk_at dksX6_copy_2 0 rfl rfl)
theorem dX6_copy_49 : decode cX6_copy 49 = .ok (.l2i, 1) := dk_136 (dk_at dksX6_copy_2 3 rfl rfl)
theorem dX6_copy_50 : decode cX6_copy 50 = .ok (.ireturn, 1) := dk_172 (dk_at dksX6_copy_2 4 rfl rfl)
theorem dX6_copy_51 : decode cX6_copy 51 = .ok (.aload_n 0, 1) := dk_42 (dk_at dksX6_copy_2 5 rfl rfl)
theorem dX6_copy_52 : decode cX6_copy 52 = .ok (.getfield 20, 3) := dk_180 0 20 (dk_at dksX6_copy_2 6 rfl rfl)
theorem dX6_copy_55 : decode cX6_copy 55 = .ok (.iload_n 1, 1) := dk_27 (dk_at dksX6_copy_2 9 rfl rfl)
theorem dX6_copy_56 : decode cX6_copy 56 = .ok (.iaload, 1) := dk_46 (dk_at dksX6_copy_2 10 rfl rfl)
theorem dX6_copy_57 : decode cX6_copy 57 = .ok (.aload_n 0, 1) := dk_42 (dk_at dksX6_copy_2 11 rfl rfl)
theorem dX6_copy_58 : decode cX6_copy 58 = .ok (.getfield 20, 3) := dk_180 0 20 (dk_at dksX6_copy_2 12 rfl rfl)
theorem dX6_copy_61 : decode cX6_copy 61 = .ok (.iload_n 3, 1) := dk_29 (dk_at dksX6_copy_2 15 rfl rfl)
theorem dX6_copy_62 : decode cX6_copy 62 = .ok (.iaload, 1) := dk_46 (dk_at dksX6_copy_2 16 rfl rfl)
theorem dX6_copy_63 : decode cX6_copy 63 = .ok (.if_icmp .eq 10, 3) := dk_159 0 10 (dk_at dksX6_copy_2 17 rfl rfl)
theorem dX6_copy_66 : decode cX6_copy 66 = .ok (.aload_n 0, 1) := dk_42 (dk_at dksX6_copy_2 20 rfl rfl)
theorem dX6_copy_67 : decode cX6_copy 67 = .ok (.iconst 4, 1) := dk_7 (dk_at dksX6_copy_2 21 rfl rfl)
theorem dX6_copy_68 : decode cX6_copy 68 = .ok (.invokevirtual 45, 3) := dk_182 0 45 (dk_at dksX6_copy_3 0 rfl rfl)
theorem dX6_copy_71 : decode cX6_copy 71 = .ok (.l2i, 1) := dk_136 (dk_at dksX6_copy_3 3 rfl rfl)
theorem dX6_copy_72 : decode cX6_copy 72 = .ok (.ireturn, 1) := dk_172 (dk_at dksX6_copy_3 4 rfl rfl)
theorem dX6_copy_73 : decode cX6_copy 73 = .ok (.iload_n 2, 1) := dk_28 (dk_at dksX6_copy_3 5 rfl rfl)
theorem dX6_copy_74 : decode cX6_copy 74 = .ok (.ifCond .lt 48, 3) := dk_155 0 48 (dk_at dksX6_copy_3 6 rfl rfl)
theorem dX6_copy_77 : decode cX6_copy 77 = .ok (.iload 4, 2) := dk_21 4 (dk_at dksX6_copy_3 9 rfl rfl)
theorem dX6_copy_79 : decode cX6_copy 79 = .ok (.ifCond .lt 43, 3) := dk_155 0 43 (dk_at dksX6_copy_3 11 rfl rfl)
theorem dX6_copy_82 : decode cX6_copy 82 = .ok (.iload 5, 2) := dk_21 5 (dk_at dksX6_copy_3 14 rfl rfl)
theorem dX6_copy_84 : decode cX6_copy 84 = .ok (.ifCond .lt 38, 3) := dk_155 0 38 (dk_at dksX6_copy_3 16 rfl rfl)
theorem dX6_copy_87 : decode cX6_copy 87 = .ok (.iload_n 2, 1) := dk_28 (dk_at dksX6_copy_3 19 rfl rfl)
theorem dX6_copy_88 : decode cX6_copy 88 = .ok (.i2l, 1) := dk_133 (dk_at dksX6_copy_3 20 rfl rfl)
theorem dX6_copy_89 : decode cX6_copy 89 = .ok (.iload 5, 2) := dk_21 5 (dk_at dksX6_copy_3 21 rfl rfl)
theorem dX6_copy_91 : decode cX6_copy 91 = .ok (.i2l, 1) := dk_133 (dk_at dksX6_copy_3 23 rfl rfl)
theorem dX6_copy_92 : decode cX6_copy 92 = .ok (.ladd, 1) := dk_97 (dk_at dksX6_copy_4 0 rfl rfl)
theorem dX6_copy_93 : decode cX6_copy 93 = .ok (.aload_n 0, 1) := dk_42 (dk_at dksX6_copy_4 1 rfl rfl)
theorem dX6_copy_94 : decode cX6_copy 94 = .ok (.getfield 23, 3) := dk_180 0 23 (dk_at dksX6_copy_4 2 rfl rfl)
theorem dX6_copy_97 : decode cX6_copy 97 = .ok (.iload_n 1, 1) := dk_27 (dk_at dksX6_copy_4 5 rfl rfl)
theorem dX6_copy_98 : decode cX6_copy 98 = .ok (.iaload, 1) := dk_46 (dk_at dksX6_copy_4 6 rfl rfl)
theorem dX6_copy_99 : decode cX6_copy 99 = .ok (.i2l, 1) := dk_133 (dk_at dksX6_copy_4 7 rfl rfl)
theorem dX6_copy_100 : decode cX6_copy 100 = .ok (.lcmp, 1) := dk_148 (dk_at dksX6_copy_4 8 rfl rfl)
theorem dX6_copy_101 : decode cX6_copy 101 = .ok (.ifCond .gt 21, 3) := dk_157 0 21 (dk_at dksX6_copy_4 9 rfl rfl)
theorem dX6_copy_104 : decode cX6_copy 104 = .ok (.iload 4, 2) := dk_21 4 (dk_at dksX6_copy_4 12 rfl rfl)
theorem dX6_copy_106 : decode cX6_copy 106 = .ok (.i2l, 1) := dk_133 (dk_at dksX6_copy_4 14 rfl rfl)
theorem dX6_copy_107 : decode cX6_copy 107 = .ok (.iload 5, 2) := dk_21 5 (dk_at dksX6_copy_4 15 rfl rfl)
theorem dX6_copy_109 : decode cX6_copy 109 = .ok (.i2l, 1) := dk_133 (dk_at dksX6_copy_4 17 rfl rfl)
theorem dX6_copy_110 : decode cX6_copy 110 = .ok (.ladd, 1) := dk_97 (dk_at dksX6_copy_4 18 rfl rfl)
theorem dX6_copy_111 : decode cX6_copy 111 = .ok (.aload_n 0, 1) := dk_42 (dk_at dksX6_copy_4 19 rfl rfl)
theorem dX6_copy_112 : decode cX6_copy 112 = .ok (.getfield 23, 3) := dk_180 0 23 (dk_at dksX6_copy_4 20 rfl rfl)
theorem dX6_copy_115 : decode cX6_copy 115 = .ok (.iload_n 3, 1) := dk_29 (dk_at dksX6_copy_4 23 rfl rfl)
theorem dX6_copy_116 : decode cX6_copy 116 = .ok (.iaload, 1) := dk_46 (dk_at dksX6_copy_5 0 rfl rfl)
theorem dX6_copy_117 : decode cX6_copy 117 = .ok (.i2l, 1) := dk_133 (dk_at dksX6_copy_5 1 rfl rfl)
theorem dX6_copy_118 : decode cX6_copy 118 = .ok (.lcmp, 1) := dk_148 (dk_at dksX6_copy_5 2 rfl rfl)
theorem dX6_copy_119 : decode cX6_copy 119 = .ok (.ifCond .le 10, 3) := dk_158 0 10 (dk_at dksX6_copy_5 3 rfl rfl)
theorem dX6_copy_122 : decode cX6_copy 122 = .ok (.aload_n 0, 1) := dk_42 (dk_at dksX6_copy_5 6 rfl rfl)
theorem dX6_copy_123 : decode cX6_copy 123 = .ok (.iconst 2, 1) := dk_5 (dk_at dksX6_copy_5 7 rfl rfl)
theorem dX6_copy_124 : decode cX6_copy 124 = .ok (.invokevirtual 45, 3) := dk_182 0 45 (dk_at dksX6_copy_5 8 rfl rfl)
theorem dX6_copy_127 : decode cX6_copy 127 = .ok (.l2i, 1) := dk_136 (dk_at dksX6_copy_5 11 rfl rfl)
theorem dX6_copy_128 : decode cX6_copy 128 = .ok (.ireturn, 1) := dk_172 (dk_at dksX6_copy_5 12 rfl rfl)
theorem dX6_copy_129 : decode cX6_copy 129 = .ok (.iconst 0, 1) := dk_3 (dk_at dksX6_copy_5 13 rfl rfl)
theorem dX6_copy_130 : decode cX6_copy 130 = .ok (.istore 6, 2) := dk_54 6 (dk_at dksX6_copy_5 14 rfl rfl)
theorem dX6_copy_132 : decode cX6_copy 132 = .ok (.iload 6, 2) := dk_21 6 (dk_at dksX6_copy_5 16 rfl rfl)
theorem dX6_copy_134 : decode cX6_copy 134 = .ok (.iload 5, 2) := dk_21 5 (dk_at dksX6_copy_5 18 rfl rfl)
theorem dX6_copy_136 : decode cX6_copy 136 = .ok (.if_icmp .ge 30, 3) := dk_162 0 30 (dk_at dksX6_copy_5 20 rfl rfl)
theorem dX6_copy_139 : decode cX6_copy 139 = .ok (.aload_n 0, 1) := dk_42 (dk_at dksX6_copy_5 23 rfl rfl)
theorem dX6_copy_140 : decode cX6_copy 140 = .ok (.getfield 32, 3) := dk_180 0 32 (dk_at dksX6_copy_6 0 rfl rfl)
theorem dX6_copy_143 : decode cX6_copy 143 = .ok (.iload 6, 2) := dk_21 6 (dk_at dksX6_copy_6 3 rfl rfl)
theorem dX6_copy_145 : decode cX6_copy 145 = .ok (.aload_n 0, 1) := dk_42 (dk_at dksX6_copy_6 5 rfl rfl)
theorem dX6_copy_146 : decode cX6_copy 146 = .ok (.getfield 16, 3) := dk_180 0 16 (dk_at dksX6_copy_6 6 rfl rfl)
theorem dX6_copy_149 : decode cX6_copy 149 = .ok (.bipush 40, 2) := dk_16 40 (dk_at dksX6_copy_6 9 rfl rfl)
theorem dX6_copy_151 : decode cX6_copy 151 = .ok (.iload_n 1, 1) := dk_27 (dk_at dksX6_copy_6 11 rfl rfl)
theorem dX6_copy_152 : decode cX6_copy 152 = .ok (.imul, 1) := dk_104 (dk_at dksX6_copy_6 12 rfl rfl)
theorem dX6_copy_153 : decode cX6_copy 153 = .ok (.iload_n 2, 1) := dk_28 (dk_at dksX6_copy_6 13 rfl rfl)
theorem dX6_copy_154 : decode cX6_copy 154 = .ok (.iadd, 1) := dk_96 (dk_at dksX6_copy_6 14 rfl rfl)
theorem dX6_copy_155 : decode cX6_copy 155 = .ok (.iload 6, 2) := dk_21 6 (dk_at dksX6_copy_6 15 rfl rfl)
theorem dX6_copy_157 : decode cX6_copy 157 = .ok (.iadd, 1) := dk_96 (dk_at dksX6_copy_6 17 rfl rfl)
theorem dX6_copy_158 : decode cX6_copy 158 = .ok (.laload, 1) := dk_47 (dk_at dksX6_copy_6 18 rfl rfl)
theorem dX6_copy_159 : decode cX6_copy 159 = .ok (.lastore, 1) := dk_80 (dk_at dksX6_copy_6 19 rfl rfl)
theorem dX6_copy_160 : decode cX6_copy 160 = .ok (.iinc 6 1, 3) := dk_132 6 1 (dk_at dksX6_copy_6 20 rfl rfl)
theorem dX6_copy_163 : decode cX6_copy 163 = .ok (.goto (-31), 3) := dk_167 255 225 (dk_at dksX6_copy_7 0 rfl rfl)
theorem dX6_copy_166 : decode cX6_copy 166 = .ok (.iconst 0, 1) := dk_3 (dk_at dksX6_copy_7 3 rfl rfl)
theorem dX6_copy_167 : decode cX6_copy 167 = .ok (.istore 6, 2) := dk_54 6 (dk_at dksX6_copy_7 4 rfl rfl)
theorem dX6_copy_169 : decode cX6_copy 169 = .ok (.iload 6, 2) := dk_21 6 (dk_at dksX6_copy_7 6 rfl rfl)
theorem dX6_copy_171 : decode cX6_copy 171 = .ok (.iload 5, 2) := dk_21 5 (dk_at dksX6_copy_7 8 rfl rfl)
theorem dX6_copy_173 : decode cX6_copy 173 = .ok (.if_icmp .ge 31, 3) := dk_162 0 31 (dk_at dksX6_copy_7 10 rfl rfl)
theorem dX6_copy_176 : decode cX6_copy 176 = .ok (.aload_n 0, 1) := dk_42 (dk_at dksX6_copy_7 13 rfl rfl)
theorem dX6_copy_177 : decode cX6_copy 177 = .ok (.getfield 16, 3) := dk_180 0 16 (dk_at dksX6_copy_7 14 rfl rfl)
theorem dX6_copy_180 : decode cX6_copy 180 = .ok (.bipush 40, 2) := dk_16 40 (dk_at dksX6_copy_7 17 rfl rfl)
theorem dX6_copy_182 : decode cX6_copy 182 = .ok (.iload_n 3, 1) := dk_29 (dk_at dksX6_copy_7 19 rfl rfl)
theorem dX6_copy_183 : decode cX6_copy 183 = .ok (.imul, 1) := dk_104 (dk_at dksX6_copy_7 20 rfl rfl)
theorem dX6_copy_184 : decode cX6_copy 184 = .ok (.iload 4, 2) := dk_21 4 (dk_at dksX6_copy_7 21 rfl rfl)
theorem dX6_copy_186 : decode cX6_copy 186 = .ok (.iadd, 1) := dk_96 (dk_at dksX6_copy_7 23 rfl rfl)
theorem dX6_copy_187 : decode cX6_copy 187 = .ok (.iload 6, 2) := dk_21 6 (dk_at dksX6_copy_8 0 rfl rfl)
theorem dX6_copy_189 : decode cX6_copy 189 = .ok (.iadd, 1) := dk_96 (dk_at dksX6_copy_8 2 rfl rfl)
theorem dX6_copy_190 : decode cX6_copy 190 = .ok (.aload_n 0, 1) := dk_42 (dk_at dksX6_copy_8 3 rfl rfl)
theorem dX6_copy_191 : decode cX6_copy 191 = .ok (.getfield 32, 3) := dk_180 0 32 (dk_at dksX6_copy_8 4 rfl rfl)
theorem dX6_copy_194 : decode cX6_copy 194 = .ok (.iload 6, 2) := dk_21 6 (dk_at dksX6_copy_8 7 rfl rfl)
theorem dX6_copy_196 : decode cX6_copy 196 = .ok (.laload, 1) := dk_47 (dk_at dksX6_copy_8 9 rfl rfl)
theorem dX6_copy_197 : decode cX6_copy 197 = .ok (.lastore, 1) := dk_80 (dk_at dksX6_copy_8 10 rfl rfl)
theorem dX6_copy_198 : decode cX6_copy 198 = .ok (.iinc 6 1, 3) := dk_132 6 1 (dk_at dksX6_copy_8 11 rfl rfl)
theorem dX6_copy_201 : decode cX6_copy 201 = .ok (.goto (-32), 3) := dk_167 255 224 (dk_at dksX6_copy_8 14 rfl rfl)
theorem dX6_copy_204 : decode cX6_copy 204 = .ok (.iconst 1, 1) := dk_4 (dk_at dksX6_copy_8 17 rfl rfl)
theorem dX6_copy_205 : decode cX6_copy 205 = .ok (.ireturn, 1) := dk_172 (dk_at dksX6_copy_8 18 rfl rfl)
abbrev cX6_of : ByteArray := prog_10_method_94_code
def yX6_of : MethodName := ⟨RX6, "of", "(II)I"⟩
def dkwX6_of_2 : List UInt8 := [154, 0, 12, 42, 180, 0, 23, 27, 46, 167, 0, 9, 42, 180, 0, 20, 27, 46, 172]
abbrev dktX6_of_2 : List UInt8 := dkwX6_of_2 ++ []
def dkwX6_of_1 : List UInt8 := [182, 0, 45, 136, 172, 42, 180, 0, 20, 27, 46, 156, 0, 12, 42, 4, 182, 0, 45, 136, 167, 0, 22, 28]
abbrev dktX6_of_1 : List UInt8 := dkwX6_of_1 ++ dktX6_of_2
def dkwX6_of_0 : List UInt8 := [42, 182, 0, 42, 27, 184, 1, 109, 153, 0, 12, 28, 155, 0, 8, 28, 4, 164, 0, 11, 42, 16, 9]
abbrev dktX6_of_0 : List UInt8 := dkwX6_of_0 ++ dktX6_of_1
theorem dksX6_of_0 : cX6_of.data.toList.drop 0 = dktX6_of_0 := by decide +kernel
theorem dksX6_of_1 : cX6_of.data.toList.drop 23 = dktX6_of_1 := dk_seg dksX6_of_0 23 rfl rfl
theorem dksX6_of_2 : cX6_of.data.toList.drop 47 = dktX6_of_2 := dk_seg dksX6_of_1 24 rfl rfl
theorem dX6_of_0 : decode cX6_of 0 = .ok (.aload_n 0, 1) := dk_42 (dk_at dksX6_of_0 0 rfl rfl)
theorem dX6_of_1 : decode cX6_of 1 = .ok (.invokevirtual 42, 3) := dk_182 0 42 (dk_at dksX6_of_0 1 rfl rfl)
theorem dX6_of_4 : decode cX6_of 4 = .ok (.iload_n 1, 1) := dk_27 (dk_at dksX6_of_0 4 rfl rfl)
theorem dX6_of_5 : decode cX6_of 5 = .ok (.invokestatic 365, 3) := dk_184 1 109 (dk_at dksX6_of_0 5 rfl rfl)
theorem dX6_of_8 : decode cX6_of 8 = .ok (.ifCond .eq 12, 3) := dk_153 0 12 (dk_at dksX6_of_0 8 rfl rfl)
theorem dX6_of_11 : decode cX6_of 11 = .ok (.iload_n 2, 1) := dk_28 (dk_at dksX6_of_0 11 rfl rfl)
theorem dX6_of_12 : decode cX6_of 12 = .ok (.ifCond .lt 8, 3) := dk_155 0 8 (dk_at dksX6_of_0 12 rfl rfl)
theorem dX6_of_15 : decode cX6_of 15 = .ok (.iload_n 2, 1) := dk_28 (dk_at dksX6_of_0 15 rfl rfl)
theorem dX6_of_16 : decode cX6_of 16 = .ok (.iconst 1, 1) := dk_4 (dk_at dksX6_of_0 16 rfl rfl)
theorem dX6_of_17 : decode cX6_of 17 = .ok (.if_icmp .le 11, 3) := dk_164 0 11 (dk_at dksX6_of_0 17 rfl rfl)
theorem dX6_of_20 : decode cX6_of 20 = .ok (.aload_n 0, 1) := dk_42 (dk_at dksX6_of_0 20 rfl rfl)
theorem dX6_of_21 : decode cX6_of 21 = .ok (.bipush 9, 2) := dk_16 9 (dk_at dksX6_of_0 21 rfl rfl)
theorem dX6_of_23 : decode cX6_of 23 = .ok (.invokevirtual 45, 3) := dk_182 0 45 (dk_at dksX6_of_1 0 rfl rfl)
theorem dX6_of_26 : decode cX6_of 26 = .ok (.l2i, 1) := dk_136 (dk_at dksX6_of_1 3 rfl rfl)
theorem dX6_of_27 : decode cX6_of 27 = .ok (.ireturn, 1) := dk_172 (dk_at dksX6_of_1 4 rfl rfl)
theorem dX6_of_28 : decode cX6_of 28 = .ok (.aload_n 0, 1) := dk_42 (dk_at dksX6_of_1 5 rfl rfl)
theorem dX6_of_29 : decode cX6_of 29 = .ok (.getfield 20, 3) := dk_180 0 20 (dk_at dksX6_of_1 6 rfl rfl)
theorem dX6_of_32 : decode cX6_of 32 = .ok (.iload_n 1, 1) := dk_27 (dk_at dksX6_of_1 9 rfl rfl)
theorem dX6_of_33 : decode cX6_of 33 = .ok (.iaload, 1) := dk_46 (dk_at dksX6_of_1 10 rfl rfl)
theorem dX6_of_34 : decode cX6_of 34 = .ok (.ifCond .ge 12, 3) := dk_156 0 12 (dk_at dksX6_of_1 11 rfl rfl)
theorem dX6_of_37 : decode cX6_of 37 = .ok (.aload_n 0, 1) := dk_42 (dk_at dksX6_of_1 14 rfl rfl)
theorem dX6_of_38 : decode cX6_of 38 = .ok (.iconst 1, 1) := dk_4 (dk_at dksX6_of_1 15 rfl rfl)
theorem dX6_of_39 : decode cX6_of 39 = .ok (.invokevirtual 45, 3) := dk_182 0 45 (dk_at dksX6_of_1 16 rfl rfl)
theorem dX6_of_42 : decode cX6_of 42 = .ok (.l2i, 1) := dk_136 (dk_at dksX6_of_1 19 rfl rfl)
theorem dX6_of_43 : decode cX6_of 43 = .ok (.goto 22, 3) := dk_167 0 22 (dk_at dksX6_of_1 20 rfl rfl)
theorem dX6_of_46 : decode cX6_of 46 = .ok (.iload_n 2, 1) := dk_28 (dk_at dksX6_of_1 23 rfl rfl)
theorem dX6_of_47 : decode cX6_of 47 = .ok (.ifCond .ne 12, 3) := dk_154 0 12 (dk_at dksX6_of_2 0 rfl rfl)
theorem dX6_of_50 : decode cX6_of 50 = .ok (.aload_n 0, 1) := dk_42 (dk_at dksX6_of_2 3 rfl rfl)
theorem dX6_of_51 : decode cX6_of 51 = .ok (.getfield 23, 3) := dk_180 0 23 (dk_at dksX6_of_2 4 rfl rfl)
theorem dX6_of_54 : decode cX6_of 54 = .ok (.iload_n 1, 1) := dk_27 (dk_at dksX6_of_2 7 rfl rfl)
theorem dX6_of_55 : decode cX6_of 55 = .ok (.iaload, 1) := dk_46 (dk_at dksX6_of_2 8 rfl rfl)
theorem dX6_of_56 : decode cX6_of 56 = .ok (.goto 9, 3) := dk_167 0 9 (dk_at dksX6_of_2 9 rfl rfl)
theorem dX6_of_59 : decode cX6_of 59 = .ok (.aload_n 0, 1) := dk_42 (dk_at dksX6_of_2 12 rfl rfl)
theorem dX6_of_60 : decode cX6_of 60 = .ok (.getfield 20, 3) := dk_180 0 20 (dk_at dksX6_of_2 13 rfl rfl)
theorem dX6_of_63 : decode cX6_of 63 = .ok (.iload_n 1, 1) := dk_27 (dk_at dksX6_of_2 16 rfl rfl)
theorem dX6_of_64 : decode cX6_of 64 = .ok (.iaload, 1) := dk_46 (dk_at dksX6_of_2 17 rfl rfl)
theorem dX6_of_65 : decode cX6_of 65 = .ok (.ireturn, 1) := dk_172 (dk_at dksX6_of_2 18 rfl rfl)
abbrev cX6_all : ByteArray := prog_10_method_95_code
def yX6_all : MethodName := ⟨RX6, "all", "(III)J"⟩
def dkwX6_all_7 : List UInt8 := [173]
abbrev dktX6_all_7 : List UInt8 := dkwX6_all_7 ++ []
def dkwX6_all_6 : List UInt8 := [180, 0, 16, 16, 40, 28, 104, 21, 7, 96, 47, 182, 1, 28, 55, 5, 132, 7, 1, 167, 255, 193, 22, 5]
abbrev dktX6_all_6 : List UInt8 := dkwX6_all_6 ++ dktX6_all_7
def dkwX6_all_5 : List UInt8 := [160, 0, 7, 5, 167, 0, 14, 27, 5, 160, 0, 7, 8, 167, 0, 5, 16, 6, 29, 22, 5, 42]
abbrev dktX6_all_5 : List UInt8 := dkwX6_all_5 ++ dktX6_all_6
def dkwX6_all_4 : List UInt8 := [21, 7, 42, 180, 0, 23, 28, 46, 162, 0, 58, 42, 27, 154, 0, 7, 3, 167, 0, 23, 27, 4]
abbrev dktX6_all_4 : List UInt8 := dkwX6_all_4 ++ dktX6_all_5
def dkwX6_all_3 : List UInt8 := [42, 180, 0, 16, 16, 40, 28, 104, 47, 55, 5, 27, 5, 162, 0, 7, 3, 167, 0, 4, 4, 54, 7]
abbrev dktX6_all_3 : List UInt8 := dkwX6_all_3 ++ dktX6_all_4
def dkwX6_all_2 : List UInt8 := [182, 0, 45, 173, 27, 154, 0, 7, 9, 167, 0, 24, 27, 4, 160, 0, 10, 29, 184, 1, 49, 167, 0, 12]
abbrev dktX6_all_2 : List UInt8 := dkwX6_all_2 ++ dktX6_all_3
def dkwX6_all_1 : List UInt8 := [182, 1, 112, 54, 4, 21, 4, 158, 0, 21, 21, 4, 5, 160, 0, 8, 27, 4, 164, 0, 10, 42, 21, 4]
abbrev dktX6_all_1 : List UInt8 := dkwX6_all_1 ++ dktX6_all_2
def dkwX6_all_0 : List UInt8 := [42, 182, 0, 42, 27, 155, 0, 8, 27, 6, 164, 0, 10, 42, 16, 9, 182, 0, 45, 173, 42, 28, 29, 3]
abbrev dktX6_all_0 : List UInt8 := dkwX6_all_0 ++ dktX6_all_1
theorem dksX6_all_0 : cX6_all.data.toList.drop 0 = dktX6_all_0 := by decide +kernel
theorem dksX6_all_1 : cX6_all.data.toList.drop 24 = dktX6_all_1 := dk_seg dksX6_all_0 24 rfl rfl
theorem dksX6_all_2 : cX6_all.data.toList.drop 48 = dktX6_all_2 := dk_seg dksX6_all_1 24 rfl rfl
theorem dksX6_all_3 : cX6_all.data.toList.drop 72 = dktX6_all_3 := dk_seg dksX6_all_2 24 rfl rfl
theorem dksX6_all_4 : cX6_all.data.toList.drop 95 = dktX6_all_4 := dk_seg dksX6_all_3 23 rfl rfl
theorem dksX6_all_5 : cX6_all.data.toList.drop 117 = dktX6_all_5 := dk_seg dksX6_all_4 22 rfl rfl
theorem dksX6_all_6 : cX6_all.data.toList.drop 139 = dktX6_all_6 := dk_seg dksX6_all_5 22 rfl rfl
theorem dksX6_all_7 : cX6_all.data.toList.drop 163 = dktX6_all_7 := dk_seg dksX6_all_6 24 rfl rfl
theorem dX6_all_0 : decode cX6_all 0 = .ok (.aload_n 0, 1) := dk_42 (dk_at dksX6_all_0 0 rfl rfl)
theorem dX6_all_1 : decode cX6_all 1 = .ok (.invokevirtual 42, 3) := dk_182 0 42 (dk_at dksX6_all_0 1 rfl rfl)
theorem dX6_all_4 : decode cX6_all 4 = .ok (.iload_n 1, 1) := dk_27 (dk_at dksX6_all_0 4 rfl rfl)
theorem dX6_all_5 : decode cX6_all 5 = .ok (.ifCond .lt 8, 3) := dk_155 0 8 (dk_at dksX6_all_0 5 rfl rfl)
theorem dX6_all_8 : decode cX6_all 8 = .ok (.iload_n 1, 1) := dk_27 (dk_at dksX6_all_0 8 rfl rfl)
theorem dX6_all_9 : decode cX6_all 9 = .ok (.iconst 3, 1) := dk_6 (dk_at dksX6_all_0 9 rfl rfl)
theorem dX6_all_10 : decode cX6_all 10 = .ok (.if_icmp .le 10, 3) := dk_164 0 10 (dk_at dksX6_all_0 10 rfl rfl)
theorem dX6_all_13 : decode cX6_all 13 = .ok (.aload_n 0, 1) := dk_42 (dk_at dksX6_all_0 13 rfl rfl)
theorem dX6_all_14 : decode cX6_all 14 = .ok (.bipush 9, 2) := dk_16 9 (dk_at dksX6_all_0 14 rfl rfl)
theorem dX6_all_16 : decode cX6_all 16 = .ok (.invokevirtual 45, 3) := dk_182 0 45 (dk_at dksX6_all_0 16 rfl rfl)
theorem dX6_all_19 : decode cX6_all 19 = .ok (.lreturn, 1) := dk_173 (dk_at dksX6_all_0 19 rfl rfl)
theorem dX6_all_20 : decode cX6_all 20 = .ok (.aload_n 0, 1) := dk_42 (dk_at dksX6_all_0 20 rfl rfl)
theorem dX6_all_21 : decode cX6_all 21 = .ok (.iload_n 2, 1) := dk_28 (dk_at dksX6_all_0 21 rfl rfl)
theorem dX6_all_22 : decode cX6_all 22 = .ok (.iload_n 3, 1) := dk_29 (dk_at dksX6_all_0 22 rfl rfl)
theorem dX6_all_23 : decode cX6_all 23 = .ok (.iconst 0, 1) := dk_3 (dk_at dksX6_all_0 23 rfl rfl)
theorem dX6_all_24 : decode cX6_all 24 = .ok (.invokevirtual 368, 3) := dk_182 1 112 (dk_at dksX6_all_1 0 rfl rfl)
theorem dX6_all_27 : decode cX6_all 27 = .ok (.istore 4, 2) := dk_54 4 (dk_at dksX6_all_1 3 rfl rfl)
theorem dX6_all_29 : decode cX6_all 29 = .ok (.iload 4, 2) := dk_21 4 (dk_at dksX6_all_1 5 rfl rfl)
theorem dX6_all_31 : decode cX6_all 31 = .ok (.ifCond .le 21, 3) := dk_158 0 21 (dk_at dksX6_all_1 7 rfl rfl)
theorem dX6_all_34 : decode cX6_all 34 = .ok (.iload 4, 2) := dk_21 4 (dk_at dksX6_all_1 10 rfl rfl)
theorem dX6_all_36 : decode cX6_all 36 = .ok (.iconst 2, 1) := dk_5 (dk_at dksX6_all_1 12 rfl rfl)
theorem dX6_all_37 : decode cX6_all 37 = .ok (.if_icmp .ne 8, 3) := dk_160 0 8 (dk_at dksX6_all_1 13 rfl rfl)
theorem dX6_all_40 : decode cX6_all 40 = .ok (.iload_n 1, 1) := dk_27 (dk_at dksX6_all_1 16 rfl rfl)
theorem dX6_all_41 : decode cX6_all 41 = .ok (.iconst 1, 1) := dk_4 (dk_at dksX6_all_1 17 rfl rfl)
theorem dX6_all_42 : decode cX6_all 42 = .ok (.if_icmp .le 10, 3) := dk_164 0 10 (dk_at dksX6_all_1 18 rfl rfl)
theorem dX6_all_45 : decode cX6_all 45 = .ok (.aload_n 0, 1) := dk_42 (dk_at dksX6_all_1 21 rfl rfl)
theorem dX6_all_46 : decode cX6_all 46 = .ok (.iload 4, 2) := dk_21 4 (dk_at dksX6_all_1 22 rfl rfl)
theorem dX6_all_48 : decode cX6_all 48 = .ok (.invokevirtual 45, 3) := dk_182 0 45 (dk_at dksX6_all_2 0 rfl rfl)
theorem dX6_all_51 : decode cX6_all 51 = .ok (.lreturn, 1) := dk_173 (dk_at dksX6_all_2 3 rfl rfl)
theorem dX6_all_52 : decode cX6_all 52 = .ok (.iload_n 1, 1) := dk_27 (dk_at dksX6_all_2 4 rfl rfl)
theorem dX6_all_53 : decode cX6_all 53 = .ok (.ifCond .ne 7, 3) := dk_154 0 7 (dk_at dksX6_all_2 5 rfl rfl)
theorem dX6_all_56 : decode cX6_all 56 = .ok (.lconst 0, 1) := dk_9 (dk_at dksX6_all_2 8 rfl rfl)
theorem dX6_all_57 : decode cX6_all 57 = .ok (.goto 24, 3) := dk_167 0 24 (dk_at dksX6_all_2 9 rfl rfl)
theorem dX6_all_60 : decode cX6_all 60 = .ok (.iload_n 1, 1) := dk_27 (dk_at dksX6_all_2 12 rfl rfl)
theorem dX6_all_61 : decode cX6_all 61 = .ok (.iconst 1, 1) := dk_4 (dk_at dksX6_all_2 13 rfl rfl)
theorem dX6_all_62 : decode cX6_all 62 = .ok (.if_icmp .ne 10, 3) := dk_160 0 10 (dk_at dksX6_all_2 14 rfl rfl)
theorem dX6_all_65 : decode cX6_all 65 = .ok (.iload_n 3, 1) := dk_29 (dk_at dksX6_all_2 17 rfl rfl)
theorem dX6_all_66 : decode cX6_all 66 = .ok (.invokestatic 305, 3) := dk_184 1 49 (dk_at dksX6_all_2 18 rfl rfl)
theorem dX6_all_69 : decode cX6_all 69 = .ok (.goto 12, 3) := dk_167 0 12 (dk_at dksX6_all_2 21 rfl rfl)
theorem dX6_all_72 : decode cX6_all 72 = .ok (.aload_n 0, 1) := dk_42 (dk_at dksX6_all_3 0 rfl rfl)
theorem dX6_all_73 : decode cX6_all 73 = .ok (.getfield 16, 3) := dk_180 0 16 (dk_at dksX6_all_3 1 rfl rfl)
theorem dX6_all_76 : decode cX6_all 76 = .ok (.bipush 40, 2) := dk_16 40 (dk_at dksX6_all_3 4 rfl rfl)
theorem dX6_all_78 : decode cX6_all 78 = .ok (.iload_n 2, 1) := dk_28 (dk_at dksX6_all_3 6 rfl rfl)
theorem dX6_all_79 : decode cX6_all 79 = .ok (.imul, 1) := dk_104 (dk_at dksX6_all_3 7 rfl rfl)
theorem dX6_all_80 : decode cX6_all 80 = .ok (.laload, 1) := dk_47 (dk_at dksX6_all_3 8 rfl rfl)
theorem dX6_all_81 : decode cX6_all 81 = .ok (.lstore 5, 2) := dk_55 5 (dk_at dksX6_all_3 9 rfl rfl)
theorem dX6_all_83 : decode cX6_all 83 = .ok (.iload_n 1, 1) := dk_27 (dk_at dksX6_all_3 11 rfl rfl)
theorem dX6_all_84 : decode cX6_all 84 = .ok (.iconst 2, 1) := dk_5 (dk_at dksX6_all_3 12 rfl rfl)
theorem dX6_all_85 : decode cX6_all 85 = .ok (.if_icmp .ge 7, 3) := dk_162 0 7 (dk_at dksX6_all_3 13 rfl rfl)
theorem dX6_all_88 : decode cX6_all 88 = .ok (.iconst 0, 1) := dk_3 (dk_at dksX6_all_3 16 rfl rfl)
theorem dX6_all_89 : decode cX6_all 89 = .ok (.goto 4, 3) := dk_167 0 4 (dk_at dksX6_all_3 17 rfl rfl)
theorem dX6_all_92 : decode cX6_all 92 = .ok (.iconst 1, 1) := dk_4 (dk_at dksX6_all_3 20 rfl rfl)
theorem dX6_all_93 : decode cX6_all 93 = .ok (.istore 7, 2) := dk_54 7 (dk_at dksX6_all_3 21 rfl rfl)
theorem dX6_all_95 : decode cX6_all 95 = .ok (.iload 7, 2) := dk_21 7 (dk_at dksX6_all_4 0 rfl rfl)
theorem dX6_all_97 : decode cX6_all 97 = .ok (.aload_n 0, 1) := dk_42 (dk_at dksX6_all_4 2 rfl rfl)
theorem dX6_all_98 : decode cX6_all 98 = .ok (.getfield 23, 3) := dk_180 0 23 (dk_at dksX6_all_4 3 rfl rfl)
theorem dX6_all_101 : decode cX6_all 101 = .ok (.iload_n 2, 1) := dk_28 (dk_at dksX6_all_4 6 rfl rfl)
theorem dX6_all_102 : decode cX6_all 102 = .ok (.iaload, 1) := dk_46 (dk_at dksX6_all_4 7 rfl rfl)
theorem dX6_all_103 : decode cX6_all 103 = .ok (.if_icmp .ge 58, 3) := dk_162 0 58 (dk_at dksX6_all_4 8 rfl rfl)
theorem dX6_all_106 : decode cX6_all 106 = .ok (.aload_n 0, 1) := dk_42 (dk_at dksX6_all_4 11 rfl rfl)
theorem dX6_all_107 : decode cX6_all 107 = .ok (.iload_n 1, 1) := dk_27 (dk_at dksX6_all_4 12 rfl rfl)
theorem dX6_all_108 : decode cX6_all 108 = .ok (.ifCond .ne 7, 3) := dk_154 0 7 (dk_at dksX6_all_4 13 rfl rfl)
theorem dX6_all_111 : decode cX6_all 111 = .ok (.iconst 0, 1) := dk_3 (dk_at dksX6_all_4 16 rfl rfl)
theorem dX6_all_112 : decode cX6_all 112 = .ok (.goto 23, 3) := dk_167 0 23 (dk_at dksX6_all_4 17 rfl rfl)
theorem dX6_all_115 : decode cX6_all 115 = .ok (.iload_n 1, 1) := dk_27 (dk_at dksX6_all_4 20 rfl rfl)
theorem dX6_all_116 : decode cX6_all 116 = .ok (.iconst 1, 1) := dk_4 (dk_at dksX6_all_4 21 rfl rfl)
theorem dX6_all_117 : decode cX6_all 117 = .ok (.if_icmp .ne 7, 3) := dk_160 0 7 (dk_at dksX6_all_5 0 rfl rfl)
theorem dX6_all_120 : decode cX6_all 120 = .ok (.iconst 2, 1) := dk_5 (dk_at dksX6_all_5 3 rfl rfl)
theorem dX6_all_121 : decode cX6_all 121 = .ok (.goto 14, 3) := dk_167 0 14 (dk_at dksX6_all_5 4 rfl rfl)
theorem dX6_all_124 : decode cX6_all 124 = .ok (.iload_n 1, 1) := dk_27 (dk_at dksX6_all_5 7 rfl rfl)
theorem dX6_all_125 : decode cX6_all 125 = .ok (.iconst 2, 1) := dk_5 (dk_at dksX6_all_5 8 rfl rfl)
theorem dX6_all_126 : decode cX6_all 126 = .ok (.if_icmp .ne 7, 3) := dk_160 0 7 (dk_at dksX6_all_5 9 rfl rfl)
theorem dX6_all_129 : decode cX6_all 129 = .ok (.iconst 5, 1) := dk_8 (dk_at dksX6_all_5 12 rfl rfl)
theorem dX6_all_130 : decode cX6_all 130 = .ok (.goto 5, 3) := dk_167 0 5 (dk_at dksX6_all_5 13 rfl rfl)
theorem dX6_all_133 : decode cX6_all 133 = .ok (.bipush 6, 2) := dk_16 6 (dk_at dksX6_all_5 16 rfl rfl)
theorem dX6_all_135 : decode cX6_all 135 = .ok (.iload_n 3, 1) := dk_29 (dk_at dksX6_all_5 18 rfl rfl)
theorem dX6_all_136 : decode cX6_all 136 = .ok (.lload 5, 2) := dk_22 5 (dk_at dksX6_all_5 19 rfl rfl)
theorem dX6_all_138 : decode cX6_all 138 = .ok (.aload_n 0, 1) := dk_42 (dk_at dksX6_all_5 21 rfl rfl)
theorem dX6_all_139 : decode cX6_all 139 = .ok (.getfield 16, 3) := dk_180 0 16 (dk_at dksX6_all_6 0 rfl rfl)
theorem dX6_all_142 : decode cX6_all 142 = .ok (.bipush 40, 2) := dk_16 40 (dk_at dksX6_all_6 3 rfl rfl)
theorem dX6_all_144 : decode cX6_all 144 = .ok (.iload_n 2, 1) := dk_28 (dk_at dksX6_all_6 5 rfl rfl)
theorem dX6_all_145 : decode cX6_all 145 = .ok (.imul, 1) := dk_104 (dk_at dksX6_all_6 6 rfl rfl)
theorem dX6_all_146 : decode cX6_all 146 = .ok (.iload 7, 2) := dk_21 7 (dk_at dksX6_all_6 7 rfl rfl)
theorem dX6_all_148 : decode cX6_all 148 = .ok (.iadd, 1) := dk_96 (dk_at dksX6_all_6 9 rfl rfl)
theorem dX6_all_149 : decode cX6_all 149 = .ok (.laload, 1) := dk_47 (dk_at dksX6_all_6 10 rfl rfl)
theorem dX6_all_150 : decode cX6_all 150 = .ok (.invokevirtual 284, 3) := dk_182 1 28 (dk_at dksX6_all_6 11 rfl rfl)
theorem dX6_all_153 : decode cX6_all 153 = .ok (.lstore 5, 2) := dk_55 5 (dk_at dksX6_all_6 14 rfl rfl)
theorem dX6_all_155 : decode cX6_all 155 = .ok (.iinc 7 1, 3) := dk_132 7 1 (dk_at dksX6_all_6 16 rfl rfl)
theorem dX6_all_158 : decode cX6_all 158 = .ok (.goto (-63), 3) := dk_167 255 193 (dk_at dksX6_all_6 19 rfl rfl)
theorem dX6_all_161 : decode cX6_all 161 = .ok (.lload 5, 2) := dk_22 5 (dk_at dksX6_all_6 22 rfl rfl)
theorem dX6_all_163 : decode cX6_all 163 = .ok (.lreturn, 1) := dk_173 (dk_at dksX6_all_7 0 rfl rfl)
abbrev cX6_joined : ByteArray := prog_10_method_96_code
def yX6_joined : MethodName := ⟨RX6, "joined", "(III)J"⟩
def dkwX6_joined_6 : List UInt8 := [104, 21, 6, 96, 47, 22, 4, 182, 1, 45, 55, 4, 132, 6, 1, 167, 255, 209, 22, 4, 173]
abbrev dktX6_joined_6 : List UInt8 := dkwX6_joined_6 ++ []
def dkwX6_joined_5 : List UInt8 := [162, 0, 42, 42, 29, 42, 180, 0, 16, 16, 40, 27, 104, 21, 6, 96, 47, 42, 180, 0, 16, 16, 40, 28]
abbrev dktX6_joined_5 : List UInt8 := dkwX6_joined_5 ++ dktX6_joined_6
def dkwX6_joined_4 : List UInt8 := [162, 0, 9, 42, 5, 182, 0, 45, 173, 9, 55, 4, 3, 54, 6, 21, 6, 42, 180, 0, 23, 27, 46]
abbrev dktX6_joined_4 : List UInt8 := dkwX6_joined_4 ++ dktX6_joined_5
def dkwX6_joined_3 : List UInt8 := [28, 46, 29, 159, 0, 9, 42, 8, 182, 0, 45, 173, 42, 180, 0, 23, 28, 46, 42, 180, 0, 23, 27, 46]
abbrev dktX6_joined_3 : List UInt8 := dkwX6_joined_3 ++ dktX6_joined_4
def dkwX6_joined_2 : List UInt8 := [46, 156, 0, 9, 42, 4, 182, 0, 45, 173, 42, 180, 0, 20, 27, 46, 29, 160, 0, 13, 42, 180, 0, 20]
abbrev dktX6_joined_2 : List UInt8 := dkwX6_joined_2 ++ dktX6_joined_3
def dkwX6_joined_1 : List UInt8 := [154, 0, 10, 42, 16, 9, 182, 0, 45, 173, 42, 180, 0, 20, 27, 46, 155, 0, 12, 42, 180, 0, 20, 28]
abbrev dktX6_joined_1 : List UInt8 := dkwX6_joined_1 ++ dktX6_joined_2
def dkwX6_joined_0 : List UInt8 := [42, 182, 0, 42, 27, 184, 1, 109, 153, 0, 17, 28, 184, 1, 109, 153, 0, 10, 29, 184, 0, 151]
abbrev dktX6_joined_0 : List UInt8 := dkwX6_joined_0 ++ dktX6_joined_1
theorem dksX6_joined_0 : cX6_joined.data.toList.drop 0 = dktX6_joined_0 := by decide +kernel
theorem dksX6_joined_1 : cX6_joined.data.toList.drop 22 = dktX6_joined_1 := dk_seg dksX6_joined_0 22 rfl rfl
theorem dksX6_joined_2 : cX6_joined.data.toList.drop 46 = dktX6_joined_2 := dk_seg dksX6_joined_1 24 rfl rfl
theorem dksX6_joined_3 : cX6_joined.data.toList.drop 70 = dktX6_joined_3 := dk_seg dksX6_joined_2 24 rfl rfl
theorem dksX6_joined_4 : cX6_joined.data.toList.drop 94 = dktX6_joined_4 := dk_seg dksX6_joined_3 24 rfl rfl
theorem dksX6_joined_5 : cX6_joined.data.toList.drop 117 = dktX6_joined_5 := dk_seg dksX6_joined_4 23 rfl rfl
theorem dksX6_joined_6 : cX6_joined.data.toList.drop 141 = dktX6_joined_6 := dk_seg dksX6_joined_5 24 rfl rfl
theorem dX6_joined_0 : decode cX6_joined 0 = .ok (.aload_n 0, 1) := dk_42 (dk_at dksX6_joined_0 0 rfl rfl)
theorem dX6_joined_1 : decode cX6_joined 1 = .ok (.invokevirtual 42, 3) := dk_182 0 42 (dk_at dksX6_joined_0 1 rfl rfl)
theorem dX6_joined_4 : decode cX6_joined 4 = .ok (.iload_n 1, 1) := dk_27 (dk_at dksX6_joined_0 4 rfl rfl)
theorem dX6_joined_5 : decode cX6_joined 5 = .ok (.invokestatic 365, 3) := dk_184 1 109 (dk_at dksX6_joined_0 5 rfl rfl)
theorem dX6_joined_8 : decode cX6_joined 8 = .ok (.ifCond .eq 17, 3) := dk_153 0 17 (dk_at dksX6_joined_0 8 rfl rfl)
theorem dX6_joined_11 : decode cX6_joined 11 = .ok (.iload_n 2, 1) := dk_28 (dk_at dksX6_joined_0 11 rfl rfl)
theorem dX6_joined_12 : decode cX6_joined 12 = .ok (.invokestatic 365, 3) := dk_184 1 109 (dk_at dksX6_joined_0 12 rfl rfl)
theorem dX6_joined_15 : decode cX6_joined 15 = .ok (.ifCond .eq 10, 3) := dk_153 0 10 (dk_at dksX6_joined_0 15 rfl rfl)
theorem dX6_joined_18 : decode cX6_joined 18 = .ok (.iload_n 3, 1) := dk_29 (dk_at dksX6_joined_0 18 rfl rfl)
theorem dX6_joined_19 : decode cX6_joined 19 = .ok (.invokestatic 151, 3) := dk_184 0 151 (dk_at dksX6_joined_0 19 rfl rfl)
theorem dX6_joined_22 : decode cX6_joined 22 = .ok (.ifCond .ne 10, 3) := dk_154 0 10 (dk_at dksX6_joined_1 0 rfl rfl)
theorem dX6_joined_25 : decode cX6_joined 25 = .ok (.aload_n 0, 1) := dk_42 (dk_at dksX6_joined_1 3 rfl rfl)
theorem dX6_joined_26 : decode cX6_joined 26 = .ok (.bipush 9, 2) := dk_16 9 (dk_at dksX6_joined_1 4 rfl rfl)
theorem dX6_joined_28 : decode cX6_joined 28 = .ok (.invokevirtual 45, 3) := dk_182 0 45 (dk_at dksX6_joined_1 6 rfl rfl)
theorem dX6_joined_31 : decode cX6_joined 31 = .ok (.lreturn, 1) := dk_173 (dk_at dksX6_joined_1 9 rfl rfl)
theorem dX6_joined_32 : decode cX6_joined 32 = .ok (.aload_n 0, 1) := dk_42 (dk_at dksX6_joined_1 10 rfl rfl)
theorem dX6_joined_33 : decode cX6_joined 33 = .ok (.getfield 20, 3) := dk_180 0 20 (dk_at dksX6_joined_1 11 rfl rfl)
theorem dX6_joined_36 : decode cX6_joined 36 = .ok (.iload_n 1, 1) := dk_27 (dk_at dksX6_joined_1 14 rfl rfl)
theorem dX6_joined_37 : decode cX6_joined 37 = .ok (.iaload, 1) := dk_46 (dk_at dksX6_joined_1 15 rfl rfl)
theorem dX6_joined_38 : decode cX6_joined 38 = .ok (.ifCond .lt 12, 3) := dk_155 0 12 (dk_at dksX6_joined_1 16 rfl rfl)
theorem dX6_joined_41 : decode cX6_joined 41 = .ok (.aload_n 0, 1) := dk_42 (dk_at dksX6_joined_1 19 rfl rfl)
theorem dX6_joined_42 : decode cX6_joined 42 = .ok (.getfield 20, 3) := dk_180 0 20 (dk_at dksX6_joined_1 20 rfl rfl)
theorem dX6_joined_45 : decode cX6_joined 45 = .ok (.iload_n 2, 1) := dk_28 (dk_at dksX6_joined_1 23 rfl rfl)
theorem dX6_joined_46 : decode cX6_joined 46 = .ok (.iaload, 1) := dk_46 (dk_at dksX6_joined_2 0 rfl rfl)
theorem dX6_joined_47 : decode cX6_joined 47 = .ok (.ifCond .ge 9, 3) := dk_156 0 9 (dk_at dksX6_joined_2 1 rfl rfl)
theorem dX6_joined_50 : decode cX6_joined 50 = .ok (.aload_n 0, 1) := dk_42 (dk_at dksX6_joined_2 4 rfl rfl)
theorem dX6_joined_51 : decode cX6_joined 51 = .ok (.iconst 1, 1) := dk_4 (dk_at dksX6_joined_2 5 rfl rfl)
theorem dX6_joined_52 : decode cX6_joined 52 = .ok (.invokevirtual 45, 3) := dk_182 0 45 (dk_at dksX6_joined_2 6 rfl rfl)
theorem dX6_joined_55 : decode cX6_joined 55 = .ok (.lreturn, 1) := dk_173 (dk_at dksX6_joined_2 9 rfl rfl)
theorem dX6_joined_56 : decode cX6_joined 56 = .ok (.aload_n 0, 1) := dk_42 (dk_at dksX6_joined_2 10 rfl rfl)
theorem dX6_joined_57 : decode cX6_joined 57 = .ok (.getfield 20, 3) := dk_180 0 20 (dk_at dksX6_joined_2 11 rfl rfl)
theorem dX6_joined_60 : decode cX6_joined 60 = .ok (.iload_n 1, 1) := dk_27 (dk_at dksX6_joined_2 14 rfl rfl)
theorem dX6_joined_61 : decode cX6_joined 61 = .ok (.iaload, 1) := dk_46 (dk_at dksX6_joined_2 15 rfl rfl)
theorem dX6_joined_62 : decode cX6_joined 62 = .ok (.iload_n 3, 1) := dk_29 (dk_at dksX6_joined_2 16 rfl rfl)
theorem dX6_joined_63 : decode cX6_joined 63 = .ok (.if_icmp .ne 13, 3) := dk_160 0 13 (dk_at dksX6_joined_2 17 rfl rfl)
theorem dX6_joined_66 : decode cX6_joined 66 = .ok (.aload_n 0, 1) := dk_42 (dk_at dksX6_joined_2 20 rfl rfl)
theorem dX6_joined_67 : decode cX6_joined 67 = .ok (.getfield 20, 3) := dk_180 0 20 (dk_at dksX6_joined_2 21 rfl rfl)
theorem dX6_joined_70 : decode cX6_joined 70 = .ok (.iload_n 2, 1) := dk_28 (dk_at dksX6_joined_3 0 rfl rfl)
theorem dX6_joined_71 : decode cX6_joined 71 = .ok (.iaload, 1) := dk_46 (dk_at dksX6_joined_3 1 rfl rfl)
theorem dX6_joined_72 : decode cX6_joined 72 = .ok (.iload_n 3, 1) := dk_29 (dk_at dksX6_joined_3 2 rfl rfl)
theorem dX6_joined_73 : decode cX6_joined 73 = .ok (.if_icmp .eq 9, 3) := dk_159 0 9 (dk_at dksX6_joined_3 3 rfl rfl)
theorem dX6_joined_76 : decode cX6_joined 76 = .ok (.aload_n 0, 1) := dk_42 (dk_at dksX6_joined_3 6 rfl rfl)
theorem dX6_joined_77 : decode cX6_joined 77 = .ok (.iconst 5, 1) := dk_8 (dk_at dksX6_joined_3 7 rfl rfl)
theorem dX6_joined_78 : decode cX6_joined 78 = .ok (.invokevirtual 45, 3) := dk_182 0 45 (dk_at dksX6_joined_3 8 rfl rfl)
theorem dX6_joined_81 : decode cX6_joined 81 = .ok (.lreturn, 1) := dk_173 (dk_at dksX6_joined_3 11 rfl rfl)
theorem dX6_joined_82 : decode cX6_joined 82 = .ok (.aload_n 0, 1) := dk_42 (dk_at dksX6_joined_3 12 rfl rfl)
theorem dX6_joined_83 : decode cX6_joined 83 = .ok (.getfield 23, 3) := dk_180 0 23 (dk_at dksX6_joined_3 13 rfl rfl)
theorem dX6_joined_86 : decode cX6_joined 86 = .ok (.iload_n 2, 1) := dk_28 (dk_at dksX6_joined_3 16 rfl rfl)
theorem dX6_joined_87 : decode cX6_joined 87 = .ok (.iaload, 1) := dk_46 (dk_at dksX6_joined_3 17 rfl rfl)
theorem dX6_joined_88 : decode cX6_joined 88 = .ok (.aload_n 0, 1) := dk_42 (dk_at dksX6_joined_3 18 rfl rfl)
theorem dX6_joined_89 : decode cX6_joined 89 = .ok (.getfield 23, 3) := dk_180 0 23 (dk_at dksX6_joined_3 19 rfl rfl)
theorem dX6_joined_92 : decode cX6_joined 92 = .ok (.iload_n 1, 1) := dk_27 (dk_at dksX6_joined_3 22 rfl rfl)
theorem dX6_joined_93 : decode cX6_joined 93 = .ok (.iaload, 1) := dk_46 (dk_at dksX6_joined_3 23 rfl rfl)
theorem dX6_joined_94 : decode cX6_joined 94 = .ok (.if_icmp .ge 9, 3) := dk_162 0 9 (dk_at dksX6_joined_4 0 rfl rfl)
theorem dX6_joined_97 : decode cX6_joined 97 = .ok (.aload_n 0, 1) := dk_42 (dk_at dksX6_joined_4 3 rfl rfl)
theorem dX6_joined_98 : decode cX6_joined 98 = .ok (.iconst 2, 1) := dk_5 (dk_at dksX6_joined_4 4 rfl rfl)
theorem dX6_joined_99 : decode cX6_joined 99 = .ok (.invokevirtual 45, 3) := dk_182 0 45 (dk_at dksX6_joined_4 5 rfl rfl)
theorem dX6_joined_102 : decode cX6_joined 102 = .ok (.lreturn, 1) := dk_173 (dk_at dksX6_joined_4 8 rfl rfl)
theorem dX6_joined_103 : decode cX6_joined 103 = .ok (.lconst 0, 1) := dk_9 (dk_at dksX6_joined_4 9 rfl rfl)
theorem dX6_joined_104 : decode cX6_joined 104 = .ok (.lstore 4, 2) := dk_55 4 (dk_at dksX6_joined_4 10 rfl rfl)
theorem dX6_joined_106 : decode cX6_joined 106 = .ok (.iconst 0, 1) := dk_3 (dk_at dksX6_joined_4 12 rfl rfl)
theorem dX6_joined_107 : decode cX6_joined 107 = .ok (.istore 6, 2) := dk_54 6 (dk_at dksX6_joined_4 13 rfl rfl)
theorem dX6_joined_109 : decode cX6_joined 109 = .ok (.iload 6, 2) := dk_21 6 (dk_at dksX6_joined_4 15 rfl rfl)
theorem dX6_joined_111 : decode cX6_joined 111 = .ok (.aload_n 0, 1) := dk_42 (dk_at dksX6_joined_4 17 rfl rfl)
theorem dX6_joined_112 : decode cX6_joined 112 = .ok (.getfield 23, 3) := dk_180 0 23 (dk_at dksX6_joined_4 18 rfl rfl)
theorem dX6_joined_115 : decode cX6_joined 115 = .ok (.iload_n 1, 1) := dk_27 (dk_at dksX6_joined_4 21 rfl rfl)
theorem dX6_joined_116 : decode cX6_joined 116 = .ok (.iaload, 1) := dk_46 (dk_at dksX6_joined_4 22 rfl rfl)
theorem dX6_joined_117 : decode cX6_joined 117 = .ok (.if_icmp .ge 42, 3) := dk_162 0 42 (dk_at dksX6_joined_5 0 rfl rfl)
theorem dX6_joined_120 : decode cX6_joined 120 = .ok (.aload_n 0, 1) := dk_42 (dk_at dksX6_joined_5 3 rfl rfl)
theorem dX6_joined_121 : decode cX6_joined 121 = .ok (.iload_n 3, 1) := dk_29 (dk_at dksX6_joined_5 4 rfl rfl)
theorem dX6_joined_122 : decode cX6_joined 122 = .ok (.aload_n 0, 1) := dk_42 (dk_at dksX6_joined_5 5 rfl rfl)
theorem dX6_joined_123 : decode cX6_joined 123 = .ok (.getfield 16, 3) := dk_180 0 16 (dk_at dksX6_joined_5 6 rfl rfl)
theorem dX6_joined_126 : decode cX6_joined 126 = .ok (.bipush 40, 2) := dk_16 40 (dk_at dksX6_joined_5 9 rfl rfl)
theorem dX6_joined_128 : decode cX6_joined 128 = .ok (.iload_n 1, 1) := dk_27 (dk_at dksX6_joined_5 11 rfl rfl)
theorem dX6_joined_129 : decode cX6_joined 129 = .ok (.imul, 1) := dk_104 (dk_at dksX6_joined_5 12 rfl rfl)
theorem dX6_joined_130 : decode cX6_joined 130 = .ok (.iload 6, 2) := dk_21 6 (dk_at dksX6_joined_5 13 rfl rfl)
theorem dX6_joined_132 : decode cX6_joined 132 = .ok (.iadd, 1) := dk_96 (dk_at dksX6_joined_5 15 rfl rfl)
theorem dX6_joined_133 : decode cX6_joined 133 = .ok (.laload, 1) := dk_47 (dk_at dksX6_joined_5 16 rfl rfl)
theorem dX6_joined_134 : decode cX6_joined 134 = .ok (.aload_n 0, 1) := dk_42 (dk_at dksX6_joined_5 17 rfl rfl)
theorem dX6_joined_135 : decode cX6_joined 135 = .ok (.getfield 16, 3) := dk_180 0 16 (dk_at dksX6_joined_5 18 rfl rfl)
theorem dX6_joined_138 : decode cX6_joined 138 = .ok (.bipush 40, 2) := dk_16 40 (dk_at dksX6_joined_5 21 rfl rfl)
theorem dX6_joined_140 : decode cX6_joined 140 = .ok (.iload_n 2, 1) := dk_28 (dk_at dksX6_joined_5 23 rfl rfl)
theorem dX6_joined_141 : decode cX6_joined 141 = .ok (.imul, 1) := dk_104 (dk_at dksX6_joined_6 0 rfl rfl)
theorem dX6_joined_142 : decode cX6_joined 142 = .ok (.iload 6, 2) := dk_21 6 (dk_at dksX6_joined_6 1 rfl rfl)
theorem dX6_joined_144 : decode cX6_joined 144 = .ok (.iadd, 1) := dk_96 (dk_at dksX6_joined_6 3 rfl rfl)
theorem dX6_joined_145 : decode cX6_joined 145 = .ok (.laload, 1) := dk_47 (dk_at dksX6_joined_6 4 rfl rfl)
theorem dX6_joined_146 : decode cX6_joined 146 = .ok (.lload 4, 2) := dk_22 4 (dk_at dksX6_joined_6 5 rfl rfl)
theorem dX6_joined_148 : decode cX6_joined 148 = .ok (.invokevirtual 301, 3) := dk_182 1 45 (dk_at dksX6_joined_6 7 rfl rfl)
theorem dX6_joined_151 : decode cX6_joined 151 = .ok (.lstore 4, 2) := dk_55 4 (dk_at dksX6_joined_6 10 rfl rfl)
theorem dX6_joined_153 : decode cX6_joined 153 = .ok (.iinc 6 1, 3) := dk_132 6 1 (dk_at dksX6_joined_6 12 rfl rfl)
theorem dX6_joined_156 : decode cX6_joined 156 = .ok (.goto (-47), 3) := dk_167 255 209 (dk_at dksX6_joined_6 15 rfl rfl)
theorem dX6_joined_159 : decode cX6_joined 159 = .ok (.lload 4, 2) := dk_22 4 (dk_at dksX6_joined_6 18 rfl rfl)
theorem dX6_joined_161 : decode cX6_joined 161 = .ok (.lreturn, 1) := dk_173 (dk_at dksX6_joined_6 20 rfl rfl)
theorem q50 : (Jvm.Cond.initialized "FloatClassesModel") ∈ lw_all := lw_g (lw_at lw_m1 7 rfl) rfl
theorem q1142 : (Jvm.Cond.instantiable "FloatClassesModel" (20 : Nat)) ∈ lw_all := lw_g (lw_at lw_m5 139 rfl) rfl
theorem q1144 : (Jvm.Cond.instanceMethod ({ cls := "FloatClassesModel", name := "<init>", desc := "()V" } : Jvm.MethodName)) ∈ lw_all := lw_g (lw_at lw_m5 141 rfl) rfl
theorem q1145 : (Jvm.Cond.code ({ cls := "FloatClassesModel", name := "<init>", desc := "()V" } : Jvm.MethodName) prog_10_method_1_code (1 : Nat) (Option.none : Option Jvm.ClassFile.FieldType)) ∈ lw_all := lw_g (lw_at lw_m5 142 rfl) rfl
theorem q1146 : (Jvm.Cond.methodLink "FloatClassesModel" (1 : Nat) ({ cls := "java/lang/Object", name := "<init>", desc := "()V" } : Jvm.MethodName)) ∈ lw_all := lw_g (lw_at lw_m5 143 rfl) rfl
theorem q1147 : (Jvm.Cond.fieldLink "FloatClassesModel" (38 : Nat) "FloatClassesModel" "failed" "I") ∈ lw_all := lw_g (lw_at lw_m5 144 rfl) rfl
theorem q1148 : (Jvm.Cond.fieldLink "FloatClassesModel" (7 : Nat) "FloatClassesModel" "counts" "[I") ∈ lw_all := lw_g (lw_at lw_m5 145 rfl) rfl
theorem q1149 : (Jvm.Cond.fieldLink "FloatClassesModel" (13 : Nat) "FloatClassesModel" "text" "[I") ∈ lw_all := lw_g (lw_at lw_m5 146 rfl) rfl
theorem q1150 : (Jvm.Cond.fieldLink "FloatClassesModel" (332 : Nat) "FloatClassesModel" "size" "I") ∈ lw_all := lw_g (lw_at lw_m5 147 rfl) rfl
theorem q1151 : (Jvm.Cond.fieldLink "FloatClassesModel" (16 : Nat) "FloatClassesModel" "rows" "[J") ∈ lw_all := lw_g (lw_at lw_m5 148 rfl) rfl
theorem q1152 : (Jvm.Cond.fieldLink "FloatClassesModel" (20 : Nat) "FloatClassesModel" "rowKind" "[I") ∈ lw_all := lw_g (lw_at lw_m5 149 rfl) rfl
theorem q1153 : (Jvm.Cond.fieldLink "FloatClassesModel" (23 : Nat) "FloatClassesModel" "rowSize" "[I") ∈ lw_all := lw_g (lw_at lw_m5 150 rfl) rfl
theorem q1154 : (Jvm.Cond.fieldLink "FloatClassesModel" (67 : Nat) "FloatClassesModel" "negative" "Z") ∈ lw_all := lw_g (lw_at lw_m5 151 rfl) rfl
theorem q1155 : (Jvm.Cond.fieldLink "FloatClassesModel" (71 : Nat) "FloatClassesModel" "nan" "Z") ∈ lw_all := lw_g (lw_at lw_m5 152 rfl) rfl
theorem q1156 : (Jvm.Cond.fieldLink "FloatClassesModel" (74 : Nat) "FloatClassesModel" "infinite" "Z") ∈ lw_all := lw_g (lw_at lw_m5 153 rfl) rfl
theorem q1157 : (Jvm.Cond.fieldLink "FloatClassesModel" (77 : Nat) "FloatClassesModel" "m" "J") ∈ lw_all := lw_g (lw_at lw_m5 154 rfl) rfl
theorem q1158 : (Jvm.Cond.fieldLink "FloatClassesModel" (84 : Nat) "FloatClassesModel" "n" "I") ∈ lw_all := lw_g (lw_at lw_m5 155 rfl) rfl
theorem q1159 : (Jvm.Cond.fieldLink "FloatClassesModel" (26 : Nat) "FloatClassesModel" "num" "[J") ∈ lw_all := lw_g (lw_at lw_m5 156 rfl) rfl
theorem q1160 : (Jvm.Cond.fieldLink "FloatClassesModel" (29 : Nat) "FloatClassesModel" "den" "[J") ∈ lw_all := lw_g (lw_at lw_m5 157 rfl) rfl
theorem q1161 : (Jvm.Cond.fieldLink "FloatClassesModel" (32 : Nat) "FloatClassesModel" "work" "[J") ∈ lw_all := lw_g (lw_at lw_m5 158 rfl) rfl
theorem q1162 : (Jvm.Cond.fieldLink "FloatClassesModel" (35 : Nat) "FloatClassesModel" "root" "[J") ∈ lw_all := lw_g (lw_at lw_m5 159 rfl) rfl
theorem q1163 : (Jvm.Cond.fieldLink "FloatClassesModel" (335 : Nat) "FloatClassesModel" "at" "I") ∈ lw_all := lw_g (lw_at lw_m5 160 rfl) rfl
theorem q1164 : (Jvm.Cond.fieldLink "FloatClassesModel" (338 : Nat) "FloatClassesModel" "end" "I") ∈ lw_all := lw_g (lw_at lw_m5 161 rfl) rfl
theorem q1165 : (Jvm.Cond.fieldLink "FloatClassesModel" (349 : Nat) "FloatClassesModel" "fault" "I") ∈ lw_all := lw_g (lw_at lw_m5 162 rfl) rfl
theorem q1166 : (Jvm.Cond.fieldLink "FloatClassesModel" (352 : Nat) "FloatClassesModel" "digits" "I") ∈ lw_all := lw_g (lw_at lw_m5 163 rfl) rfl
theorem q1167 : (Jvm.Cond.lays "FloatClassesModel" "FloatClassesModel" "failed" "I") ∈ lw_all := lw_g (lw_at lw_m5 164 rfl) rfl
theorem q1168 : (Jvm.Cond.soleField "FloatClassesModel" "failed") ∈ lw_all := lw_g (lw_at lw_m5 165 rfl) rfl
theorem q1169 : (Jvm.Cond.laysFinal "FloatClassesModel" "FloatClassesModel" "counts" "[I") ∈ lw_all := lw_g (lw_at lw_m5 166 rfl) rfl
theorem q1170 : (Jvm.Cond.soleField "FloatClassesModel" "counts") ∈ lw_all := lw_g (lw_at lw_m5 167 rfl) rfl
theorem q1171 : (Jvm.Cond.laysFinal "FloatClassesModel" "FloatClassesModel" "text" "[I") ∈ lw_all := lw_g (lw_at lw_m5 168 rfl) rfl
theorem q1172 : (Jvm.Cond.soleField "FloatClassesModel" "text") ∈ lw_all := lw_g (lw_at lw_m5 169 rfl) rfl
theorem q1173 : (Jvm.Cond.lays "FloatClassesModel" "FloatClassesModel" "size" "I") ∈ lw_all := lw_g (lw_at lw_m5 170 rfl) rfl
theorem q1174 : (Jvm.Cond.soleField "FloatClassesModel" "size") ∈ lw_all := lw_g (lw_at lw_m5 171 rfl) rfl
theorem q1175 : (Jvm.Cond.laysFinal "FloatClassesModel" "FloatClassesModel" "rows" "[J") ∈ lw_all := lw_g (lw_at lw_m5 172 rfl) rfl
theorem q1176 : (Jvm.Cond.soleField "FloatClassesModel" "rows") ∈ lw_all := lw_g (lw_at lw_m5 173 rfl) rfl
theorem q1177 : (Jvm.Cond.laysFinal "FloatClassesModel" "FloatClassesModel" "rowKind" "[I") ∈ lw_all := lw_g (lw_at lw_m5 174 rfl) rfl
theorem q1178 : (Jvm.Cond.soleField "FloatClassesModel" "rowKind") ∈ lw_all := lw_g (lw_at lw_m5 175 rfl) rfl
theorem q1179 : (Jvm.Cond.laysFinal "FloatClassesModel" "FloatClassesModel" "rowSize" "[I") ∈ lw_all := lw_g (lw_at lw_m5 176 rfl) rfl
theorem q1180 : (Jvm.Cond.soleField "FloatClassesModel" "rowSize") ∈ lw_all := lw_g (lw_at lw_m5 177 rfl) rfl
theorem q1181 : (Jvm.Cond.lays "FloatClassesModel" "FloatClassesModel" "negative" "Z") ∈ lw_all := lw_g (lw_at lw_m5 178 rfl) rfl
theorem q1182 : (Jvm.Cond.soleField "FloatClassesModel" "negative") ∈ lw_all := lw_g (lw_at lw_m5 179 rfl) rfl
theorem q1183 : (Jvm.Cond.lays "FloatClassesModel" "FloatClassesModel" "nan" "Z") ∈ lw_all := lw_g (lw_at lw_m5 180 rfl) rfl
theorem q1184 : (Jvm.Cond.soleField "FloatClassesModel" "nan") ∈ lw_all := lw_g (lw_at lw_m5 181 rfl) rfl
theorem q1185 : (Jvm.Cond.lays "FloatClassesModel" "FloatClassesModel" "infinite" "Z") ∈ lw_all := lw_g (lw_at lw_m5 182 rfl) rfl
theorem q1186 : (Jvm.Cond.soleField "FloatClassesModel" "infinite") ∈ lw_all := lw_g (lw_at lw_m5 183 rfl) rfl
theorem q1187 : (Jvm.Cond.lays "FloatClassesModel" "FloatClassesModel" "m" "J") ∈ lw_all := lw_g (lw_at lw_m5 184 rfl) rfl
theorem q1188 : (Jvm.Cond.soleField "FloatClassesModel" "m") ∈ lw_all := lw_g (lw_at lw_m5 185 rfl) rfl
theorem q1189 : (Jvm.Cond.lays "FloatClassesModel" "FloatClassesModel" "n" "I") ∈ lw_all := lw_g (lw_at lw_m5 186 rfl) rfl
theorem q1190 : (Jvm.Cond.soleField "FloatClassesModel" "n") ∈ lw_all := lw_g (lw_at lw_m5 187 rfl) rfl
theorem q1191 : (Jvm.Cond.laysFinal "FloatClassesModel" "FloatClassesModel" "num" "[J") ∈ lw_all := lw_g (lw_at lw_m5 188 rfl) rfl
theorem q1192 : (Jvm.Cond.soleField "FloatClassesModel" "num") ∈ lw_all := lw_g (lw_at lw_m5 189 rfl) rfl
theorem q1193 : (Jvm.Cond.laysFinal "FloatClassesModel" "FloatClassesModel" "den" "[J") ∈ lw_all := lw_g (lw_at lw_m5 190 rfl) rfl
theorem q1194 : (Jvm.Cond.soleField "FloatClassesModel" "den") ∈ lw_all := lw_g (lw_at lw_m5 191 rfl) rfl
theorem q1195 : (Jvm.Cond.laysFinal "FloatClassesModel" "FloatClassesModel" "work" "[J") ∈ lw_all := lw_g (lw_at lw_m5 192 rfl) rfl
theorem q1196 : (Jvm.Cond.soleField "FloatClassesModel" "work") ∈ lw_all := lw_g (lw_at lw_m5 193 rfl) rfl
theorem q1197 : (Jvm.Cond.laysFinal "FloatClassesModel" "FloatClassesModel" "root" "[J") ∈ lw_all := lw_g (lw_at lw_m5 194 rfl) rfl
theorem q1198 : (Jvm.Cond.soleField "FloatClassesModel" "root") ∈ lw_all := lw_g (lw_at lw_m5 195 rfl) rfl
theorem q1199 : (Jvm.Cond.lays "FloatClassesModel" "FloatClassesModel" "at" "I") ∈ lw_all := lw_g (lw_at lw_m5 196 rfl) rfl
theorem q1200 : (Jvm.Cond.soleField "FloatClassesModel" "at") ∈ lw_all := lw_g (lw_at lw_m5 197 rfl) rfl
theorem q1201 : (Jvm.Cond.lays "FloatClassesModel" "FloatClassesModel" "end" "I") ∈ lw_all := lw_g (lw_at lw_m5 198 rfl) rfl
theorem q1202 : (Jvm.Cond.soleField "FloatClassesModel" "end") ∈ lw_all := lw_g (lw_at lw_m5 199 rfl) rfl
theorem q1203 : (Jvm.Cond.lays "FloatClassesModel" "FloatClassesModel" "fault" "I") ∈ lw_all := lw_g (lw_at lw_m5 200 rfl) rfl
theorem q1204 : (Jvm.Cond.soleField "FloatClassesModel" "fault") ∈ lw_all := lw_g (lw_at lw_m5 201 rfl) rfl
theorem q1205 : (Jvm.Cond.lays "FloatClassesModel" "FloatClassesModel" "digits" "I") ∈ lw_all := lw_g (lw_at lw_m5 202 rfl) rfl
theorem q1206 : (Jvm.Cond.soleField "FloatClassesModel" "digits") ∈ lw_all := lw_g (lw_at lw_m5 203 rfl) rfl
theorem q1207 : (Jvm.Cond.superclass "FloatClassesModel" "java/lang/Object") ∈ lw_all := lw_g (lw_at lw_m5 204 rfl) rfl
theorem q1210 : (Jvm.Cond.instanceMethod ({ cls := "FloatClassesModel", name := "failed", desc := "()I" } : Jvm.MethodName)) ∈ lw_all := lw_g (lw_at lw_m5 207 rfl) rfl
theorem q1211 : (Jvm.Cond.selects "FloatClassesModel" ({ cls := "FloatClassesModel", name := "failed", desc := "()I" } : Jvm.MethodName) ({ cls := "FloatClassesModel", name := "failed", desc := "()I" } : Jvm.MethodName)) ∈ lw_all := lw_g (lw_at lw_m5 208 rfl) rfl
theorem q1212 : (Jvm.Cond.code ({ cls := "FloatClassesModel", name := "failed", desc := "()I" } : Jvm.MethodName) prog_10_method_5_code (1 : Nat) (Option.some Jvm.ClassFile.FieldType.int)) ∈ lw_all := lw_g (lw_at lw_m5 209 rfl) rfl
theorem q1214 : (Jvm.Cond.instanceMethod ({ cls := "FloatClassesModel", name := "told", desc := "(I)I" } : Jvm.MethodName)) ∈ lw_all := lw_g (lw_at lw_m5 211 rfl) rfl
theorem q1215 : (Jvm.Cond.selects "FloatClassesModel" ({ cls := "FloatClassesModel", name := "told", desc := "(I)I" } : Jvm.MethodName) ({ cls := "FloatClassesModel", name := "told", desc := "(I)I" } : Jvm.MethodName)) ∈ lw_all := lw_g (lw_at lw_m5 212 rfl) rfl
theorem q1216 : (Jvm.Cond.code ({ cls := "FloatClassesModel", name := "told", desc := "(I)I" } : Jvm.MethodName) prog_10_method_6_code (2 : Nat) (Option.some Jvm.ClassFile.FieldType.int)) ∈ lw_all := lw_g (lw_at lw_m5 213 rfl) rfl
theorem q1217 : (Jvm.Cond.methodLink "FloatClassesModel" (42 : Nat) ({ cls := "FloatClassesModel", name := "begin", desc := "()V" } : Jvm.MethodName)) ∈ lw_all := lw_g (lw_at lw_m5 214 rfl) rfl
theorem q1218 : (Jvm.Cond.privateMethod ({ cls := "FloatClassesModel", name := "begin", desc := "()V" } : Jvm.MethodName)) ∈ lw_tbl := lw_at lw_m5 215 rfl
theorem q1219 : (Jvm.Cond.instanceMethod ({ cls := "FloatClassesModel", name := "begin", desc := "()V" } : Jvm.MethodName)) ∈ lw_all := lw_g (lw_at lw_m5 216 rfl) rfl
theorem q1220 : (Jvm.Cond.code ({ cls := "FloatClassesModel", name := "begin", desc := "()V" } : Jvm.MethodName) prog_10_method_3_code (1 : Nat) (Option.none : Option Jvm.ClassFile.FieldType)) ∈ lw_all := lw_g (lw_at lw_m5 217 rfl) rfl
theorem q1221 : (Jvm.Cond.methodLink "FloatClassesModel" (45 : Nat) ({ cls := "FloatClassesModel", name := "fail", desc := "(I)J" } : Jvm.MethodName)) ∈ lw_all := lw_g (lw_at lw_m5 218 rfl) rfl
theorem q1222 : (Jvm.Cond.privateMethod ({ cls := "FloatClassesModel", name := "fail", desc := "(I)J" } : Jvm.MethodName)) ∈ lw_tbl := lw_at lw_m5 219 rfl
theorem q1223 : (Jvm.Cond.instanceMethod ({ cls := "FloatClassesModel", name := "fail", desc := "(I)J" } : Jvm.MethodName)) ∈ lw_all := lw_g (lw_at lw_m5 220 rfl) rfl
theorem q1224 : (Jvm.Cond.code ({ cls := "FloatClassesModel", name := "fail", desc := "(I)J" } : Jvm.MethodName) prog_10_method_2_code (2 : Nat) (Option.some Jvm.ClassFile.FieldType.long)) ∈ lw_all := lw_g (lw_at lw_m5 221 rfl) rfl
theorem q1226 : (Jvm.Cond.instanceMethod ({ cls := "FloatClassesModel", name := "decode", desc := "(IJI)J" } : Jvm.MethodName)) ∈ lw_all := lw_g (lw_at lw_m5 223 rfl) rfl
theorem q1227 : (Jvm.Cond.selects "FloatClassesModel" ({ cls := "FloatClassesModel", name := "decode", desc := "(IJI)J" } : Jvm.MethodName) ({ cls := "FloatClassesModel", name := "decode", desc := "(IJI)J" } : Jvm.MethodName)) ∈ lw_all := lw_g (lw_at lw_m5 224 rfl) rfl
theorem q1228 : (Jvm.Cond.code ({ cls := "FloatClassesModel", name := "decode", desc := "(IJI)J" } : Jvm.MethodName) prog_10_method_28_code (5 : Nat) (Option.some Jvm.ClassFile.FieldType.long)) ∈ lw_all := lw_g (lw_at lw_m5 225 rfl) rfl
theorem q1229 : (Jvm.Cond.methodLink "FloatClassesModel" (151 : Nat) ({ cls := "FloatClassesModel", name := "isKind", desc := "(I)Z" } : Jvm.MethodName)) ∈ lw_all := lw_g (lw_at lw_m5 226 rfl) rfl
theorem q1230 : (Jvm.Cond.static ({ cls := "FloatClassesModel", name := "isKind", desc := "(I)Z" } : Jvm.MethodName)) ∈ lw_all := lw_g (lw_at lw_m5 227 rfl) rfl
theorem q1231 : (Jvm.Cond.code ({ cls := "FloatClassesModel", name := "isKind", desc := "(I)Z" } : Jvm.MethodName) prog_10_method_4_code (1 : Nat) (Option.some Jvm.ClassFile.FieldType.boolean)) ∈ lw_all := lw_g (lw_at lw_m5 228 rfl) rfl
theorem q1232 : (Jvm.Cond.methodLink "FloatClassesModel" (155 : Nat) ({ cls := "FloatClassesModel", name := "isFinite", desc := "(IJ)Z" } : Jvm.MethodName)) ∈ lw_all := lw_g (lw_at lw_m5 229 rfl) rfl
theorem q1233 : (Jvm.Cond.privateMethod ({ cls := "FloatClassesModel", name := "isFinite", desc := "(IJ)Z" } : Jvm.MethodName)) ∈ lw_tbl := lw_at lw_m5 230 rfl
theorem q1234 : (Jvm.Cond.instanceMethod ({ cls := "FloatClassesModel", name := "isFinite", desc := "(IJ)Z" } : Jvm.MethodName)) ∈ lw_all := lw_g (lw_at lw_m5 231 rfl) rfl
theorem q1235 : (Jvm.Cond.code ({ cls := "FloatClassesModel", name := "isFinite", desc := "(IJ)Z" } : Jvm.MethodName) prog_10_method_27_code (4 : Nat) (Option.some Jvm.ClassFile.FieldType.boolean)) ∈ lw_all := lw_g (lw_at lw_m5 232 rfl) rfl
theorem q1236 : (Jvm.Cond.methodLink "FloatClassesModel" (99 : Nat) ({ cls := "FloatClassesModel", name := "take", desc := "(IJ)V" } : Jvm.MethodName)) ∈ lw_all := lw_g (lw_at lw_m5 233 rfl) rfl
theorem q1237 : (Jvm.Cond.privateMethod ({ cls := "FloatClassesModel", name := "take", desc := "(IJ)V" } : Jvm.MethodName)) ∈ lw_tbl := lw_at lw_m5 234 rfl
theorem q1238 : (Jvm.Cond.instanceMethod ({ cls := "FloatClassesModel", name := "take", desc := "(IJ)V" } : Jvm.MethodName)) ∈ lw_all := lw_g (lw_at lw_m5 235 rfl) rfl
theorem q1239 : (Jvm.Cond.code ({ cls := "FloatClassesModel", name := "take", desc := "(IJ)V" } : Jvm.MethodName) prog_10_method_19_code (11 : Nat) (Option.none : Option Jvm.ClassFile.FieldType)) ∈ lw_all := lw_g (lw_at lw_m5 236 rfl) rfl
theorem q1240 : (Jvm.Cond.methodLink "FloatClassesModel" (61 : Nat) ({ cls := "FloatClassesModel", name := "bitsOf", desc := "(I)I" } : Jvm.MethodName)) ∈ lw_all := lw_g (lw_at lw_m5 237 rfl) rfl
theorem q1241 : (Jvm.Cond.static ({ cls := "FloatClassesModel", name := "bitsOf", desc := "(I)I" } : Jvm.MethodName)) ∈ lw_all := lw_g (lw_at lw_m5 238 rfl) rfl
theorem q1242 : (Jvm.Cond.code ({ cls := "FloatClassesModel", name := "bitsOf", desc := "(I)I" } : Jvm.MethodName) prog_10_method_17_code (1 : Nat) (Option.some Jvm.ClassFile.FieldType.int)) ∈ lw_all := lw_g (lw_at lw_m5 239 rfl) rfl
theorem q1243 : (Jvm.Cond.constantLong "FloatClassesModel" (65 : Nat) (4294967295 : Int64)) ∈ lw_all := lw_g (lw_at lw_m6 0 rfl) rfl
theorem q1244 : (Jvm.Cond.methodLink "FloatClassesModel" (81 : Nat) ({ cls := "FloatClassesModel", name := "least", desc := "(I)I" } : Jvm.MethodName)) ∈ lw_all := lw_g (lw_at lw_m6 1 rfl) rfl
theorem q1245 : (Jvm.Cond.static ({ cls := "FloatClassesModel", name := "least", desc := "(I)I" } : Jvm.MethodName)) ∈ lw_all := lw_g (lw_at lw_m6 2 rfl) rfl
theorem q1246 : (Jvm.Cond.code ({ cls := "FloatClassesModel", name := "least", desc := "(I)I" } : Jvm.MethodName) prog_10_method_18_code (1 : Nat) (Option.some Jvm.ClassFile.FieldType.int)) ∈ lw_all := lw_g (lw_at lw_m6 3 rfl) rfl
theorem q1247 : (Jvm.Cond.methodLink "FloatClassesModel" (159 : Nat) ({ cls := "FloatClassesModel", name := "fill", desc := "(I)V" } : Jvm.MethodName)) ∈ lw_all := lw_g (lw_at lw_m6 4 rfl) rfl
theorem q1248 : (Jvm.Cond.privateMethod ({ cls := "FloatClassesModel", name := "fill", desc := "(I)V" } : Jvm.MethodName)) ∈ lw_tbl := lw_at lw_m6 5 rfl
theorem q1249 : (Jvm.Cond.instanceMethod ({ cls := "FloatClassesModel", name := "fill", desc := "(I)V" } : Jvm.MethodName)) ∈ lw_all := lw_g (lw_at lw_m6 6 rfl) rfl
theorem q1250 : (Jvm.Cond.code ({ cls := "FloatClassesModel", name := "fill", desc := "(I)V" } : Jvm.MethodName) prog_10_method_26_code (2 : Nat) (Option.none : Option Jvm.ClassFile.FieldType)) ∈ lw_all := lw_g (lw_at lw_m6 7 rfl) rfl
theorem q1252 : (Jvm.Cond.instanceMethod ({ cls := "FloatClassesModel", name := "encode", desc := "(IJI)J" } : Jvm.MethodName)) ∈ lw_all := lw_g (lw_at lw_m6 9 rfl) rfl
theorem q1253 : (Jvm.Cond.selects "FloatClassesModel" ({ cls := "FloatClassesModel", name := "encode", desc := "(IJI)J" } : Jvm.MethodName) ({ cls := "FloatClassesModel", name := "encode", desc := "(IJI)J" } : Jvm.MethodName)) ∈ lw_all := lw_g (lw_at lw_m6 10 rfl) rfl
theorem q1254 : (Jvm.Cond.code ({ cls := "FloatClassesModel", name := "encode", desc := "(IJI)J" } : Jvm.MethodName) prog_10_method_29_code (5 : Nat) (Option.some Jvm.ClassFile.FieldType.long)) ∈ lw_all := lw_g (lw_at lw_m6 11 rfl) rfl
theorem q1255 : (Jvm.Cond.methodLink "FloatClassesModel" (163 : Nat) ({ cls := "FloatClassesModel", name := "scaled", desc := "(IZJJ)J" } : Jvm.MethodName)) ∈ lw_all := lw_g (lw_at lw_m6 12 rfl) rfl
theorem q1256 : (Jvm.Cond.privateMethod ({ cls := "FloatClassesModel", name := "scaled", desc := "(IZJJ)J" } : Jvm.MethodName)) ∈ lw_tbl := lw_at lw_m6 13 rfl
theorem q1257 : (Jvm.Cond.instanceMethod ({ cls := "FloatClassesModel", name := "scaled", desc := "(IZJJ)J" } : Jvm.MethodName)) ∈ lw_all := lw_g (lw_at lw_m6 14 rfl) rfl
theorem q1258 : (Jvm.Cond.code ({ cls := "FloatClassesModel", name := "scaled", desc := "(IZJJ)J" } : Jvm.MethodName) prog_10_method_25_code (7 : Nat) (Option.some Jvm.ClassFile.FieldType.long)) ∈ lw_all := lw_g (lw_at lw_m6 15 rfl) rfl
theorem q1259 : (Jvm.Cond.methodLink "FloatClassesModel" (143 : Nat) ({ cls := "FloatClassesModel", name := "set", desc := "([JJ)V" } : Jvm.MethodName)) ∈ lw_all := lw_g (lw_at lw_m6 16 rfl) rfl
theorem q1260 : (Jvm.Cond.static ({ cls := "FloatClassesModel", name := "set", desc := "([JJ)V" } : Jvm.MethodName)) ∈ lw_all := lw_g (lw_at lw_m6 17 rfl) rfl
theorem q1261 : (Jvm.Cond.code ({ cls := "FloatClassesModel", name := "set", desc := "([JJ)V" } : Jvm.MethodName) prog_10_method_8_code (3 : Nat) (Option.none : Option Jvm.ClassFile.FieldType)) ∈ lw_all := lw_g (lw_at lw_m6 18 rfl) rfl
theorem q1262 : (Jvm.Cond.methodLink "FloatClassesModel" (49 : Nat) ({ cls := "FloatClassesModel", name := "clear", desc := "([J)V" } : Jvm.MethodName)) ∈ lw_all := lw_g (lw_at lw_m6 19 rfl) rfl
theorem q1263 : (Jvm.Cond.static ({ cls := "FloatClassesModel", name := "clear", desc := "([J)V" } : Jvm.MethodName)) ∈ lw_all := lw_g (lw_at lw_m6 20 rfl) rfl
theorem q1264 : (Jvm.Cond.code ({ cls := "FloatClassesModel", name := "clear", desc := "([J)V" } : Jvm.MethodName) prog_10_method_7_code (2 : Nat) (Option.none : Option Jvm.ClassFile.FieldType)) ∈ lw_all := lw_g (lw_at lw_m6 21 rfl) rfl
theorem q1265 : (Jvm.Cond.constantLong "FloatClassesModel" (53 : Nat) (1073741823 : Int64)) ∈ lw_all := lw_g (lw_at lw_m6 22 rfl) rfl
theorem q1266 : (Jvm.Cond.methodLink "FloatClassesModel" (147 : Nat) ({ cls := "FloatClassesModel", name := "nearestOf", desc := "(IZJ)J" } : Jvm.MethodName)) ∈ lw_all := lw_g (lw_at lw_m6 23 rfl) rfl
theorem q1267 : (Jvm.Cond.privateMethod ({ cls := "FloatClassesModel", name := "nearestOf", desc := "(IZJ)J" } : Jvm.MethodName)) ∈ lw_tbl := lw_at lw_m6 24 rfl
theorem q1268 : (Jvm.Cond.instanceMethod ({ cls := "FloatClassesModel", name := "nearestOf", desc := "(IZJ)J" } : Jvm.MethodName)) ∈ lw_all := lw_g (lw_at lw_m6 25 rfl) rfl
theorem q1269 : (Jvm.Cond.code ({ cls := "FloatClassesModel", name := "nearestOf", desc := "(IZJ)J" } : Jvm.MethodName) prog_10_method_24_code (17 : Nat) (Option.some Jvm.ClassFile.FieldType.long)) ∈ lw_all := lw_g (lw_at lw_m6 26 rfl) rfl
theorem q1270 : (Jvm.Cond.methodLink "FloatClassesModel" (106 : Nat) ({ cls := "FloatClassesModel", name := "length", desc := "([J)I" } : Jvm.MethodName)) ∈ lw_all := lw_g (lw_at lw_m6 27 rfl) rfl
theorem q1271 : (Jvm.Cond.static ({ cls := "FloatClassesModel", name := "length", desc := "([J)I" } : Jvm.MethodName)) ∈ lw_all := lw_g (lw_at lw_m6 28 rfl) rfl
theorem q1272 : (Jvm.Cond.code ({ cls := "FloatClassesModel", name := "length", desc := "([J)I" } : Jvm.MethodName) prog_10_method_16_code (5 : Nat) (Option.some Jvm.ClassFile.FieldType.int)) ∈ lw_all := lw_g (lw_at lw_m6 29 rfl) rfl
theorem q1273 : (Jvm.Cond.constantLong "FloatClassesModel" (55 : Nat) (1073741824 : Int64)) ∈ lw_all := lw_g (lw_at lw_m6 30 rfl) rfl
theorem q1274 : (Jvm.Cond.constantLong "FloatClassesModel" (57 : Nat) (536870912 : Int64)) ∈ lw_all := lw_g (lw_at lw_m6 31 rfl) rfl
theorem q1275 : (Jvm.Cond.constantLong "FloatClassesModel" (59 : Nat) (2 : Int64)) ∈ lw_all := lw_g (lw_at lw_m6 32 rfl) rfl
theorem q1276 : (Jvm.Cond.methodLink "FloatClassesModel" (110 : Nat) ({ cls := "FloatClassesModel", name := "signed", desc := "(IJZ)J" } : Jvm.MethodName)) ∈ lw_all := lw_g (lw_at lw_m6 33 rfl) rfl
theorem q1277 : (Jvm.Cond.static ({ cls := "FloatClassesModel", name := "signed", desc := "(IJZ)J" } : Jvm.MethodName)) ∈ lw_all := lw_g (lw_at lw_m6 34 rfl) rfl
theorem q1278 : (Jvm.Cond.code ({ cls := "FloatClassesModel", name := "signed", desc := "(IJZ)J" } : Jvm.MethodName) prog_10_method_20_code (4 : Nat) (Option.some Jvm.ClassFile.FieldType.long)) ∈ lw_all := lw_g (lw_at lw_m6 35 rfl) rfl
theorem q1279 : (Jvm.Cond.constantLong "FloatClassesModel" (87 : Nat) (2147483648 : Int64)) ∈ lw_all := lw_g (lw_at lw_m6 36 rfl) rfl
theorem q1280 : (Jvm.Cond.constantLong "FloatClassesModel" (89 : Nat) (-9223372036854775808 : Int64)) ∈ lw_all := lw_g (lw_at lw_m6 37 rfl) rfl
theorem q1281 : (Jvm.Cond.constantLong "FloatClassesModel" (114 : Nat) (2000 : Int64)) ∈ lw_all := lw_g (lw_at lw_m6 38 rfl) rfl
theorem q1282 : (Jvm.Cond.methodLink "FloatClassesModel" (116 : Nat) ({ cls := "FloatClassesModel", name := "infinity", desc := "(I)J" } : Jvm.MethodName)) ∈ lw_all := lw_g (lw_at lw_m6 39 rfl) rfl
theorem q1283 : (Jvm.Cond.static ({ cls := "FloatClassesModel", name := "infinity", desc := "(I)J" } : Jvm.MethodName)) ∈ lw_all := lw_g (lw_at lw_m6 40 rfl) rfl
theorem q1284 : (Jvm.Cond.code ({ cls := "FloatClassesModel", name := "infinity", desc := "(I)J" } : Jvm.MethodName) prog_10_method_22_code (1 : Nat) (Option.some Jvm.ClassFile.FieldType.long)) ∈ lw_all := lw_g (lw_at lw_m6 41 rfl) rfl
theorem q1285 : (Jvm.Cond.constantLong "FloatClassesModel" (95 : Nat) (2139095040 : Int64)) ∈ lw_all := lw_g (lw_at lw_m6 42 rfl) rfl
theorem q1286 : (Jvm.Cond.constantLong "FloatClassesModel" (97 : Nat) (9218868437227405312 : Int64)) ∈ lw_all := lw_g (lw_at lw_m6 43 rfl) rfl
theorem q1287 : (Jvm.Cond.constantLong "FloatClassesModel" (119 : Nat) (-2000 : Int64)) ∈ lw_all := lw_g (lw_at lw_m6 44 rfl) rfl
theorem q1288 : (Jvm.Cond.methodLink "FloatClassesModel" (121 : Nat) ({ cls := "FloatClassesModel", name := "left", desc := "([JI)V" } : Jvm.MethodName)) ∈ lw_all := lw_g (lw_at lw_m6 45 rfl) rfl
theorem q1289 : (Jvm.Cond.static ({ cls := "FloatClassesModel", name := "left", desc := "([JI)V" } : Jvm.MethodName)) ∈ lw_all := lw_g (lw_at lw_m6 46 rfl) rfl
theorem q1290 : (Jvm.Cond.code ({ cls := "FloatClassesModel", name := "left", desc := "([JI)V" } : Jvm.MethodName) prog_10_method_10_code (9 : Nat) (Option.none : Option Jvm.ClassFile.FieldType)) ∈ lw_all := lw_g (lw_at lw_m6 47 rfl) rfl
theorem q1291 : (Jvm.Cond.methodLink "FloatClassesModel" (125 : Nat) ({ cls := "FloatClassesModel", name := "copyOf", desc := "([J[J)V" } : Jvm.MethodName)) ∈ lw_all := lw_g (lw_at lw_m6 48 rfl) rfl
theorem q1292 : (Jvm.Cond.static ({ cls := "FloatClassesModel", name := "copyOf", desc := "([J[J)V" } : Jvm.MethodName)) ∈ lw_all := lw_g (lw_at lw_m6 49 rfl) rfl
theorem q1293 : (Jvm.Cond.code ({ cls := "FloatClassesModel", name := "copyOf", desc := "([J[J)V" } : Jvm.MethodName) prog_10_method_15_code (3 : Nat) (Option.none : Option Jvm.ClassFile.FieldType)) ∈ lw_all := lw_g (lw_at lw_m6 50 rfl) rfl
theorem q1294 : (Jvm.Cond.methodLink "FloatClassesModel" (129 : Nat) ({ cls := "FloatClassesModel", name := "order", desc := "([J[J)I" } : Jvm.MethodName)) ∈ lw_all := lw_g (lw_at lw_m6 51 rfl) rfl
theorem q1295 : (Jvm.Cond.static ({ cls := "FloatClassesModel", name := "order", desc := "([J[J)I" } : Jvm.MethodName)) ∈ lw_all := lw_g (lw_at lw_m6 52 rfl) rfl
theorem q1296 : (Jvm.Cond.code ({ cls := "FloatClassesModel", name := "order", desc := "([J[J)I" } : Jvm.MethodName) prog_10_method_12_code (3 : Nat) (Option.some Jvm.ClassFile.FieldType.int)) ∈ lw_all := lw_g (lw_at lw_m6 53 rfl) rfl
theorem q1297 : (Jvm.Cond.methodLink "FloatClassesModel" (133 : Nat) ({ cls := "FloatClassesModel", name := "less", desc := "([J[J)V" } : Jvm.MethodName)) ∈ lw_all := lw_g (lw_at lw_m6 54 rfl) rfl
theorem q1298 : (Jvm.Cond.static ({ cls := "FloatClassesModel", name := "less", desc := "([J[J)V" } : Jvm.MethodName)) ∈ lw_all := lw_g (lw_at lw_m6 55 rfl) rfl
theorem q1299 : (Jvm.Cond.code ({ cls := "FloatClassesModel", name := "less", desc := "([J[J)V" } : Jvm.MethodName) prog_10_method_13_code (7 : Nat) (Option.none : Option Jvm.ClassFile.FieldType)) ∈ lw_all := lw_g (lw_at lw_m6 56 rfl) rfl
theorem q1300 : (Jvm.Cond.methodLink "FloatClassesModel" (136 : Nat) ({ cls := "FloatClassesModel", name := "half", desc := "([J)V" } : Jvm.MethodName)) ∈ lw_all := lw_g (lw_at lw_m6 57 rfl) rfl
theorem q1301 : (Jvm.Cond.static ({ cls := "FloatClassesModel", name := "half", desc := "([J)V" } : Jvm.MethodName)) ∈ lw_all := lw_g (lw_at lw_m6 58 rfl) rfl
theorem q1302 : (Jvm.Cond.code ({ cls := "FloatClassesModel", name := "half", desc := "([J)V" } : Jvm.MethodName) prog_10_method_11_code (4 : Nat) (Option.none : Option Jvm.ClassFile.FieldType)) ∈ lw_all := lw_g (lw_at lw_m6 59 rfl) rfl
theorem q1303 : (Jvm.Cond.constantLong "FloatClassesModel" (139 : Nat) (255 : Int64)) ∈ lw_all := lw_g (lw_at lw_m6 60 rfl) rfl
theorem q1304 : (Jvm.Cond.constantLong "FloatClassesModel" (141 : Nat) (2047 : Int64)) ∈ lw_all := lw_g (lw_at lw_m6 61 rfl) rfl
theorem q1306 : (Jvm.Cond.instanceMethod ({ cls := "FloatClassesModel", name := "exponent", desc := "(IJ)I" } : Jvm.MethodName)) ∈ lw_all := lw_g (lw_at lw_m6 63 rfl) rfl
theorem q1307 : (Jvm.Cond.selects "FloatClassesModel" ({ cls := "FloatClassesModel", name := "exponent", desc := "(IJ)I" } : Jvm.MethodName) ({ cls := "FloatClassesModel", name := "exponent", desc := "(IJ)I" } : Jvm.MethodName)) ∈ lw_all := lw_g (lw_at lw_m6 64 rfl) rfl
theorem q1308 : (Jvm.Cond.code ({ cls := "FloatClassesModel", name := "exponent", desc := "(IJ)I" } : Jvm.MethodName) prog_10_method_30_code (4 : Nat) (Option.some Jvm.ClassFile.FieldType.int)) ∈ lw_all := lw_g (lw_at lw_m6 65 rfl) rfl
theorem q1310 : (Jvm.Cond.instanceMethod ({ cls := "FloatClassesModel", name := "scale", desc := "(IJI)J" } : Jvm.MethodName)) ∈ lw_all := lw_g (lw_at lw_m6 67 rfl) rfl
theorem q1311 : (Jvm.Cond.selects "FloatClassesModel" ({ cls := "FloatClassesModel", name := "scale", desc := "(IJI)J" } : Jvm.MethodName) ({ cls := "FloatClassesModel", name := "scale", desc := "(IJI)J" } : Jvm.MethodName)) ∈ lw_all := lw_g (lw_at lw_m6 68 rfl) rfl
theorem q1312 : (Jvm.Cond.code ({ cls := "FloatClassesModel", name := "scale", desc := "(IJI)J" } : Jvm.MethodName) prog_10_method_31_code (5 : Nat) (Option.some Jvm.ClassFile.FieldType.long)) ∈ lw_all := lw_g (lw_at lw_m6 69 rfl) rfl
theorem q1313 : (Jvm.Cond.methodLink "FloatClassesModel" (167 : Nat) ({ cls := "FloatClassesModel", name := "told", desc := "(IJ)J" } : Jvm.MethodName)) ∈ lw_all := lw_g (lw_at lw_m6 70 rfl) rfl
theorem q1314 : (Jvm.Cond.privateMethod ({ cls := "FloatClassesModel", name := "told", desc := "(IJ)J" } : Jvm.MethodName)) ∈ lw_tbl := lw_at lw_m6 71 rfl
theorem q1315 : (Jvm.Cond.instanceMethod ({ cls := "FloatClassesModel", name := "told", desc := "(IJ)J" } : Jvm.MethodName)) ∈ lw_all := lw_g (lw_at lw_m6 72 rfl) rfl
theorem q1316 : (Jvm.Cond.code ({ cls := "FloatClassesModel", name := "told", desc := "(IJ)J" } : Jvm.MethodName) prog_10_method_23_code (4 : Nat) (Option.some Jvm.ClassFile.FieldType.long)) ∈ lw_all := lw_g (lw_at lw_m6 73 rfl) rfl
theorem q1317 : (Jvm.Cond.methodLink "FloatClassesModel" (103 : Nat) ({ cls := "FloatClassesModel", name := "nanOf", desc := "(I)J" } : Jvm.MethodName)) ∈ lw_all := lw_g (lw_at lw_m6 74 rfl) rfl
theorem q1318 : (Jvm.Cond.static ({ cls := "FloatClassesModel", name := "nanOf", desc := "(I)J" } : Jvm.MethodName)) ∈ lw_all := lw_g (lw_at lw_m6 75 rfl) rfl
theorem q1319 : (Jvm.Cond.code ({ cls := "FloatClassesModel", name := "nanOf", desc := "(I)J" } : Jvm.MethodName) prog_10_method_21_code (1 : Nat) (Option.some Jvm.ClassFile.FieldType.long)) ∈ lw_all := lw_g (lw_at lw_m6 76 rfl) rfl
theorem q1320 : (Jvm.Cond.constantLong "FloatClassesModel" (91 : Nat) (2143289344 : Int64)) ∈ lw_all := lw_g (lw_at lw_m6 77 rfl) rfl
theorem q1321 : (Jvm.Cond.constantLong "FloatClassesModel" (93 : Nat) (9221120237041090560 : Int64)) ∈ lw_all := lw_g (lw_at lw_m6 78 rfl) rfl
theorem q1323 : (Jvm.Cond.instanceMethod ({ cls := "FloatClassesModel", name := "sort", desc := "(IJ)I" } : Jvm.MethodName)) ∈ lw_all := lw_g (lw_at lw_m6 80 rfl) rfl
theorem q1324 : (Jvm.Cond.selects "FloatClassesModel" ({ cls := "FloatClassesModel", name := "sort", desc := "(IJ)I" } : Jvm.MethodName) ({ cls := "FloatClassesModel", name := "sort", desc := "(IJ)I" } : Jvm.MethodName)) ∈ lw_all := lw_g (lw_at lw_m6 81 rfl) rfl
theorem q1325 : (Jvm.Cond.code ({ cls := "FloatClassesModel", name := "sort", desc := "(IJ)I" } : Jvm.MethodName) prog_10_method_32_code (5 : Nat) (Option.some Jvm.ClassFile.FieldType.int)) ∈ lw_all := lw_g (lw_at lw_m6 82 rfl) rfl
theorem q1327 : (Jvm.Cond.instanceMethod ({ cls := "FloatClassesModel", name := "one", desc := "(IIJ)J" } : Jvm.MethodName)) ∈ lw_all := lw_g (lw_at lw_m6 84 rfl) rfl
theorem q1328 : (Jvm.Cond.selects "FloatClassesModel" ({ cls := "FloatClassesModel", name := "one", desc := "(IIJ)J" } : Jvm.MethodName) ({ cls := "FloatClassesModel", name := "one", desc := "(IIJ)J" } : Jvm.MethodName)) ∈ lw_all := lw_g (lw_at lw_m6 85 rfl) rfl
theorem q1329 : (Jvm.Cond.code ({ cls := "FloatClassesModel", name := "one", desc := "(IIJ)J" } : Jvm.MethodName) prog_10_method_56_code (5 : Nat) (Option.some Jvm.ClassFile.FieldType.long)) ∈ lw_all := lw_g (lw_at lw_m6 86 rfl) rfl
theorem q1330 : (Jvm.Cond.methodLink "FloatClassesModel" (224 : Nat) ({ cls := "FloatClassesModel", name := "turned", desc := "(IJ)J" } : Jvm.MethodName)) ∈ lw_all := lw_g (lw_at lw_m6 87 rfl) rfl
theorem q1331 : (Jvm.Cond.privateMethod ({ cls := "FloatClassesModel", name := "turned", desc := "(IJ)J" } : Jvm.MethodName)) ∈ lw_tbl := lw_at lw_m6 88 rfl
theorem q1332 : (Jvm.Cond.instanceMethod ({ cls := "FloatClassesModel", name := "turned", desc := "(IJ)J" } : Jvm.MethodName)) ∈ lw_all := lw_g (lw_at lw_m6 89 rfl) rfl
theorem q1333 : (Jvm.Cond.code ({ cls := "FloatClassesModel", name := "turned", desc := "(IJ)J" } : Jvm.MethodName) prog_10_method_34_code (5 : Nat) (Option.some Jvm.ClassFile.FieldType.long)) ∈ lw_all := lw_g (lw_at lw_m6 90 rfl) rfl
theorem q1334 : (Jvm.Cond.methodLink "FloatClassesModel" (171 : Nat) ({ cls := "FloatClassesModel", name := "sizeOf", desc := "(IJ)J" } : Jvm.MethodName)) ∈ lw_all := lw_g (lw_at lw_m6 91 rfl) rfl
theorem q1335 : (Jvm.Cond.static ({ cls := "FloatClassesModel", name := "sizeOf", desc := "(IJ)J" } : Jvm.MethodName)) ∈ lw_all := lw_g (lw_at lw_m6 92 rfl) rfl
theorem q1336 : (Jvm.Cond.code ({ cls := "FloatClassesModel", name := "sizeOf", desc := "(IJ)J" } : Jvm.MethodName) prog_10_method_35_code (3 : Nat) (Option.some Jvm.ClassFile.FieldType.long)) ∈ lw_all := lw_g (lw_at lw_m6 93 rfl) rfl
theorem q1337 : (Jvm.Cond.constantLong "FloatClassesModel" (174 : Nat) (2147483647 : Int64)) ∈ lw_all := lw_g (lw_at lw_m6 94 rfl) rfl
theorem q1338 : (Jvm.Cond.constantLong "FloatClassesModel" (176 : Nat) (9223372036854775807 : Int64)) ∈ lw_all := lw_g (lw_at lw_m6 95 rfl) rfl
theorem q1339 : (Jvm.Cond.constantFloat "FloatClassesModel" (227 : Nat) (3212836864 : UInt32)) ∈ lw_all := lw_g (lw_at lw_m6 96 rfl) rfl
theorem q1340 : (Jvm.Cond.methodLink "FloatClassesModel" (228 : Nat) ({ cls := "FloatClassesModel", name := "bits", desc := "(F)J" } : Jvm.MethodName)) ∈ lw_all := lw_g (lw_at lw_m6 97 rfl) rfl
theorem q1341 : (Jvm.Cond.static ({ cls := "FloatClassesModel", name := "bits", desc := "(F)J" } : Jvm.MethodName)) ∈ lw_all := lw_g (lw_at lw_m6 98 rfl) rfl
theorem q1342 : (Jvm.Cond.code ({ cls := "FloatClassesModel", name := "bits", desc := "(F)J" } : Jvm.MethodName) prog_10_method_53_code (1 : Nat) (Option.some Jvm.ClassFile.FieldType.long)) ∈ lw_all := lw_g (lw_at lw_m6 99 rfl) rfl
theorem q1343 : (Jvm.Cond.methodLink "FloatClassesModel" (216 : Nat) ({ cls := "java/lang/Float", name := "floatToIntBits", desc := "(F)I" } : Jvm.MethodName)) ∈ lw_all := lw_g (lw_at lw_m6 100 rfl) rfl
theorem q1344 : (Jvm.Cond.constantDouble "FloatClassesModel" (232 : Nat) (13830554455654793216 : UInt64)) ∈ lw_all := lw_g (lw_at lw_m6 101 rfl) rfl
theorem q1345 : (Jvm.Cond.methodLink "FloatClassesModel" (234 : Nat) ({ cls := "FloatClassesModel", name := "bits", desc := "(D)J" } : Jvm.MethodName)) ∈ lw_all := lw_g (lw_at lw_m6 102 rfl) rfl
theorem q1346 : (Jvm.Cond.static ({ cls := "FloatClassesModel", name := "bits", desc := "(D)J" } : Jvm.MethodName)) ∈ lw_all := lw_g (lw_at lw_m6 103 rfl) rfl
theorem q1347 : (Jvm.Cond.code ({ cls := "FloatClassesModel", name := "bits", desc := "(D)J" } : Jvm.MethodName) prog_10_method_54_code (2 : Nat) (Option.some Jvm.ClassFile.FieldType.long)) ∈ lw_all := lw_g (lw_at lw_m6 104 rfl) rfl
theorem q1348 : (Jvm.Cond.methodLink "FloatClassesModel" (220 : Nat) ({ cls := "java/lang/Double", name := "doubleToLongBits", desc := "(D)J" } : Jvm.MethodName)) ∈ lw_all := lw_g (lw_at lw_m6 105 rfl) rfl
theorem q1349 : (Jvm.Cond.methodLink "FloatClassesModel" (236 : Nat) ({ cls := "FloatClassesModel", name := "above", desc := "(IJ)J" } : Jvm.MethodName)) ∈ lw_all := lw_g (lw_at lw_m6 106 rfl) rfl
theorem q1350 : (Jvm.Cond.privateMethod ({ cls := "FloatClassesModel", name := "above", desc := "(IJ)J" } : Jvm.MethodName)) ∈ lw_tbl := lw_at lw_m6 107 rfl
theorem q1351 : (Jvm.Cond.instanceMethod ({ cls := "FloatClassesModel", name := "above", desc := "(IJ)J" } : Jvm.MethodName)) ∈ lw_all := lw_g (lw_at lw_m6 108 rfl) rfl
theorem q1352 : (Jvm.Cond.code ({ cls := "FloatClassesModel", name := "above", desc := "(IJ)J" } : Jvm.MethodName) prog_10_method_33_code (4 : Nat) (Option.some Jvm.ClassFile.FieldType.long)) ∈ lw_all := lw_g (lw_at lw_m6 109 rfl) rfl
theorem q1353 : (Jvm.Cond.methodLink "FloatClassesModel" (239 : Nat) ({ cls := "FloatClassesModel", name := "ulpOf", desc := "(IJ)J" } : Jvm.MethodName)) ∈ lw_all := lw_g (lw_at lw_m6 110 rfl) rfl
theorem q1354 : (Jvm.Cond.privateMethod ({ cls := "FloatClassesModel", name := "ulpOf", desc := "(IJ)J" } : Jvm.MethodName)) ∈ lw_tbl := lw_at lw_m6 111 rfl
theorem q1355 : (Jvm.Cond.instanceMethod ({ cls := "FloatClassesModel", name := "ulpOf", desc := "(IJ)J" } : Jvm.MethodName)) ∈ lw_all := lw_g (lw_at lw_m6 112 rfl) rfl
theorem q1356 : (Jvm.Cond.code ({ cls := "FloatClassesModel", name := "ulpOf", desc := "(IJ)J" } : Jvm.MethodName) prog_10_method_55_code (4 : Nat) (Option.some Jvm.ClassFile.FieldType.long)) ∈ lw_all := lw_g (lw_at lw_m6 113 rfl) rfl
theorem q1357 : (Jvm.Cond.methodLink "FloatClassesModel" (242 : Nat) ({ cls := "FloatClassesModel", name := "rootOf", desc := "(IJ)J" } : Jvm.MethodName)) ∈ lw_all := lw_g (lw_at lw_m6 114 rfl) rfl
theorem q1358 : (Jvm.Cond.privateMethod ({ cls := "FloatClassesModel", name := "rootOf", desc := "(IJ)J" } : Jvm.MethodName)) ∈ lw_tbl := lw_at lw_m6 115 rfl
theorem q1359 : (Jvm.Cond.instanceMethod ({ cls := "FloatClassesModel", name := "rootOf", desc := "(IJ)J" } : Jvm.MethodName)) ∈ lw_all := lw_g (lw_at lw_m6 116 rfl) rfl
theorem q1360 : (Jvm.Cond.code ({ cls := "FloatClassesModel", name := "rootOf", desc := "(IJ)J" } : Jvm.MethodName) prog_10_method_36_code (5 : Nat) (Option.some Jvm.ClassFile.FieldType.long)) ∈ lw_all := lw_g (lw_at lw_m6 117 rfl) rfl
theorem q1361 : (Jvm.Cond.constantLong "FloatClassesModel" (178 : Nat) (3 : Int64)) ∈ lw_all := lw_g (lw_at lw_m6 118 rfl) rfl
theorem q1362 : (Jvm.Cond.methodLink "FloatClassesModel" (191 : Nat) ({ cls := "FloatClassesModel", name := "single", desc := "(J)F" } : Jvm.MethodName)) ∈ lw_all := lw_g (lw_at lw_m6 119 rfl) rfl
theorem q1363 : (Jvm.Cond.static ({ cls := "FloatClassesModel", name := "single", desc := "(J)F" } : Jvm.MethodName)) ∈ lw_all := lw_g (lw_at lw_m6 120 rfl) rfl
theorem q1364 : (Jvm.Cond.code ({ cls := "FloatClassesModel", name := "single", desc := "(J)F" } : Jvm.MethodName) prog_10_method_37_code (2 : Nat) (Option.some Jvm.ClassFile.FieldType.float)) ∈ lw_all := lw_g (lw_at lw_m6 121 rfl) rfl
theorem q1365 : (Jvm.Cond.constantFloat "FloatClassesModel" (182 : Nat) (2143289344 : UInt32)) ∈ lw_all := lw_g (lw_at lw_m6 122 rfl) rfl
theorem q1366 : (Jvm.Cond.methodLink "FloatClassesModel" (183 : Nat) ({ cls := "java/lang/Float", name := "intBitsToFloat", desc := "(I)F" } : Jvm.MethodName)) ∈ lw_all := lw_g (lw_at lw_m6 123 rfl) rfl
theorem q1367 : (Jvm.Cond.methodLink "FloatClassesModel" (245 : Nat) ({ cls := "FloatClassesModel", name := "quotientOf", desc := "(FF)F" } : Jvm.MethodName)) ∈ lw_all := lw_g (lw_at lw_m6 124 rfl) rfl
theorem q1368 : (Jvm.Cond.static ({ cls := "FloatClassesModel", name := "quotientOf", desc := "(FF)F" } : Jvm.MethodName)) ∈ lw_all := lw_g (lw_at lw_m6 125 rfl) rfl
theorem q1369 : (Jvm.Cond.code ({ cls := "FloatClassesModel", name := "quotientOf", desc := "(FF)F" } : Jvm.MethodName) prog_10_method_45_code (2 : Nat) (Option.some Jvm.ClassFile.FieldType.float)) ∈ lw_all := lw_g (lw_at lw_m6 126 rfl) rfl
theorem q1370 : (Jvm.Cond.methodLink "FloatClassesModel" (205 : Nat) ({ cls := "FloatClassesModel", name := "endless", desc := "(F)Z" } : Jvm.MethodName)) ∈ lw_all := lw_g (lw_at lw_m6 127 rfl) rfl
theorem q1371 : (Jvm.Cond.static ({ cls := "FloatClassesModel", name := "endless", desc := "(F)Z" } : Jvm.MethodName)) ∈ lw_all := lw_g (lw_at lw_m6 128 rfl) rfl
theorem q1372 : (Jvm.Cond.code ({ cls := "FloatClassesModel", name := "endless", desc := "(F)Z" } : Jvm.MethodName) prog_10_method_41_code (1 : Nat) (Option.some Jvm.ClassFile.FieldType.boolean)) ∈ lw_all := lw_g (lw_at lw_m6 129 rfl) rfl
theorem q1373 : (Jvm.Cond.constantFloat "FloatClassesModel" (203 : Nat) (2139095040 : UInt32)) ∈ lw_all := lw_g (lw_at lw_m6 130 rfl) rfl
theorem q1374 : (Jvm.Cond.constantFloat "FloatClassesModel" (204 : Nat) (4286578688 : UInt32)) ∈ lw_all := lw_g (lw_at lw_m6 131 rfl) rfl
theorem q1375 : (Jvm.Cond.methodLink "FloatClassesModel" (249 : Nat) ({ cls := "FloatClassesModel", name := "real", desc := "(IJ)D" } : Jvm.MethodName)) ∈ lw_all := lw_g (lw_at lw_m6 132 rfl) rfl
theorem q1376 : (Jvm.Cond.static ({ cls := "FloatClassesModel", name := "real", desc := "(IJ)D" } : Jvm.MethodName)) ∈ lw_all := lw_g (lw_at lw_m6 133 rfl) rfl
theorem q1377 : (Jvm.Cond.code ({ cls := "FloatClassesModel", name := "real", desc := "(IJ)D" } : Jvm.MethodName) prog_10_method_40_code (3 : Nat) (Option.some Jvm.ClassFile.FieldType.double)) ∈ lw_all := lw_g (lw_at lw_m6 134 rfl) rfl
theorem q1378 : (Jvm.Cond.methodLink "FloatClassesModel" (195 : Nat) ({ cls := "FloatClassesModel", name := "wide", desc := "(F)D" } : Jvm.MethodName)) ∈ lw_all := lw_g (lw_at lw_m6 135 rfl) rfl
theorem q1379 : (Jvm.Cond.static ({ cls := "FloatClassesModel", name := "wide", desc := "(F)D" } : Jvm.MethodName)) ∈ lw_all := lw_g (lw_at lw_m6 136 rfl) rfl
theorem q1380 : (Jvm.Cond.code ({ cls := "FloatClassesModel", name := "wide", desc := "(F)D" } : Jvm.MethodName) prog_10_method_38_code (1 : Nat) (Option.some Jvm.ClassFile.FieldType.double)) ∈ lw_all := lw_g (lw_at lw_m6 137 rfl) rfl
theorem q1381 : (Jvm.Cond.constantDouble "FloatClassesModel" (189 : Nat) (9221120237041090560 : UInt64)) ∈ lw_all := lw_g (lw_at lw_m6 138 rfl) rfl
theorem q1382 : (Jvm.Cond.methodLink "FloatClassesModel" (199 : Nat) ({ cls := "java/lang/Double", name := "longBitsToDouble", desc := "(J)D" } : Jvm.MethodName)) ∈ lw_all := lw_g (lw_at lw_m6 139 rfl) rfl
theorem q1383 : (Jvm.Cond.methodLink "FloatClassesModel" (253 : Nat) ({ cls := "FloatClassesModel", name := "quotientOf", desc := "(DD)D" } : Jvm.MethodName)) ∈ lw_all := lw_g (lw_at lw_m6 140 rfl) rfl
theorem q1384 : (Jvm.Cond.static ({ cls := "FloatClassesModel", name := "quotientOf", desc := "(DD)D" } : Jvm.MethodName)) ∈ lw_all := lw_g (lw_at lw_m6 141 rfl) rfl
theorem q1385 : (Jvm.Cond.code ({ cls := "FloatClassesModel", name := "quotientOf", desc := "(DD)D" } : Jvm.MethodName) prog_10_method_51_code (4 : Nat) (Option.some Jvm.ClassFile.FieldType.double)) ∈ lw_all := lw_g (lw_at lw_m6 142 rfl) rfl
theorem q1386 : (Jvm.Cond.methodLink "FloatClassesModel" (213 : Nat) ({ cls := "FloatClassesModel", name := "endless", desc := "(D)Z" } : Jvm.MethodName)) ∈ lw_all := lw_g (lw_at lw_m6 143 rfl) rfl
theorem q1387 : (Jvm.Cond.static ({ cls := "FloatClassesModel", name := "endless", desc := "(D)Z" } : Jvm.MethodName)) ∈ lw_all := lw_g (lw_at lw_m6 144 rfl) rfl
theorem q1388 : (Jvm.Cond.code ({ cls := "FloatClassesModel", name := "endless", desc := "(D)Z" } : Jvm.MethodName) prog_10_method_47_code (2 : Nat) (Option.some Jvm.ClassFile.FieldType.boolean)) ∈ lw_all := lw_g (lw_at lw_m6 145 rfl) rfl
theorem q1389 : (Jvm.Cond.constantDouble "FloatClassesModel" (209 : Nat) (9218868437227405312 : UInt64)) ∈ lw_all := lw_g (lw_at lw_m6 146 rfl) rfl
theorem q1390 : (Jvm.Cond.constantDouble "FloatClassesModel" (211 : Nat) (18442240474082181120 : UInt64)) ∈ lw_all := lw_g (lw_at lw_m6 147 rfl) rfl
theorem q1391 : (Jvm.Cond.methodLink "FloatClassesModel" (256 : Nat) ({ cls := "FloatClassesModel", name := "narrow", desc := "(D)F" } : Jvm.MethodName)) ∈ lw_all := lw_g (lw_at lw_m6 148 rfl) rfl
theorem q1392 : (Jvm.Cond.static ({ cls := "FloatClassesModel", name := "narrow", desc := "(D)F" } : Jvm.MethodName)) ∈ lw_all := lw_g (lw_at lw_m6 149 rfl) rfl
theorem q1393 : (Jvm.Cond.code ({ cls := "FloatClassesModel", name := "narrow", desc := "(D)F" } : Jvm.MethodName) prog_10_method_39_code (2 : Nat) (Option.some Jvm.ClassFile.FieldType.float)) ∈ lw_all := lw_g (lw_at lw_m6 150 rfl) rfl
theorem q1395 : (Jvm.Cond.instanceMethod ({ cls := "FloatClassesModel", name := "two", desc := "(IIJJ)J" } : Jvm.MethodName)) ∈ lw_all := lw_g (lw_at lw_m6 152 rfl) rfl
theorem q1396 : (Jvm.Cond.selects "FloatClassesModel" ({ cls := "FloatClassesModel", name := "two", desc := "(IIJJ)J" } : Jvm.MethodName) ({ cls := "FloatClassesModel", name := "two", desc := "(IIJJ)J" } : Jvm.MethodName)) ∈ lw_all := lw_g (lw_at lw_m6 153 rfl) rfl
theorem q1397 : (Jvm.Cond.code ({ cls := "FloatClassesModel", name := "two", desc := "(IIJJ)J" } : Jvm.MethodName) prog_10_method_59_code (7 : Nat) (Option.some Jvm.ClassFile.FieldType.long)) ∈ lw_all := lw_g (lw_at lw_m6 154 rfl) rfl
theorem q1398 : (Jvm.Cond.methodLink "FloatClassesModel" (284 : Nat) ({ cls := "FloatClassesModel", name := "chosen", desc := "(IIJJ)J" } : Jvm.MethodName)) ∈ lw_all := lw_g (lw_at lw_m6 155 rfl) rfl
theorem q1399 : (Jvm.Cond.privateMethod ({ cls := "FloatClassesModel", name := "chosen", desc := "(IIJJ)J" } : Jvm.MethodName)) ∈ lw_tbl := lw_at lw_m6 156 rfl
theorem q1400 : (Jvm.Cond.instanceMethod ({ cls := "FloatClassesModel", name := "chosen", desc := "(IIJJ)J" } : Jvm.MethodName)) ∈ lw_all := lw_g (lw_at lw_m6 157 rfl) rfl
theorem q1401 : (Jvm.Cond.code ({ cls := "FloatClassesModel", name := "chosen", desc := "(IIJJ)J" } : Jvm.MethodName) prog_10_method_58_code (9 : Nat) (Option.some Jvm.ClassFile.FieldType.long)) ∈ lw_all := lw_g (lw_at lw_m6 158 rfl) rfl
theorem q1402 : (Jvm.Cond.methodLink "FloatClassesModel" (280 : Nat) ({ cls := "FloatClassesModel", name := "plain", desc := "(IIJJ)J" } : Jvm.MethodName)) ∈ lw_all := lw_g (lw_at lw_m6 159 rfl) rfl
theorem q1403 : (Jvm.Cond.privateMethod ({ cls := "FloatClassesModel", name := "plain", desc := "(IIJJ)J" } : Jvm.MethodName)) ∈ lw_tbl := lw_at lw_m6 160 rfl
theorem q1404 : (Jvm.Cond.instanceMethod ({ cls := "FloatClassesModel", name := "plain", desc := "(IIJJ)J" } : Jvm.MethodName)) ∈ lw_all := lw_g (lw_at lw_m6 161 rfl) rfl
theorem q1405 : (Jvm.Cond.code ({ cls := "FloatClassesModel", name := "plain", desc := "(IIJJ)J" } : Jvm.MethodName) prog_10_method_57_code (11 : Nat) (Option.some Jvm.ClassFile.FieldType.long)) ∈ lw_all := lw_g (lw_at lw_m6 162 rfl) rfl
theorem q1406 : (Jvm.Cond.methodLink "FloatClassesModel" (260 : Nat) ({ cls := "FloatClassesModel", name := "sumOf", desc := "(FF)F" } : Jvm.MethodName)) ∈ lw_all := lw_g (lw_at lw_m6 163 rfl) rfl
theorem q1407 : (Jvm.Cond.static ({ cls := "FloatClassesModel", name := "sumOf", desc := "(FF)F" } : Jvm.MethodName)) ∈ lw_all := lw_g (lw_at lw_m6 164 rfl) rfl
theorem q1408 : (Jvm.Cond.code ({ cls := "FloatClassesModel", name := "sumOf", desc := "(FF)F" } : Jvm.MethodName) prog_10_method_42_code (2 : Nat) (Option.some Jvm.ClassFile.FieldType.float)) ∈ lw_all := lw_g (lw_at lw_m6 165 rfl) rfl
theorem q1409 : (Jvm.Cond.methodLink "FloatClassesModel" (263 : Nat) ({ cls := "FloatClassesModel", name := "differenceOf", desc := "(FF)F" } : Jvm.MethodName)) ∈ lw_all := lw_g (lw_at lw_m6 166 rfl) rfl
theorem q1410 : (Jvm.Cond.static ({ cls := "FloatClassesModel", name := "differenceOf", desc := "(FF)F" } : Jvm.MethodName)) ∈ lw_all := lw_g (lw_at lw_m6 167 rfl) rfl
theorem q1411 : (Jvm.Cond.code ({ cls := "FloatClassesModel", name := "differenceOf", desc := "(FF)F" } : Jvm.MethodName) prog_10_method_43_code (2 : Nat) (Option.some Jvm.ClassFile.FieldType.float)) ∈ lw_all := lw_g (lw_at lw_m6 168 rfl) rfl
theorem q1412 : (Jvm.Cond.methodLink "FloatClassesModel" (266 : Nat) ({ cls := "FloatClassesModel", name := "productOf", desc := "(FF)F" } : Jvm.MethodName)) ∈ lw_all := lw_g (lw_at lw_m6 169 rfl) rfl
theorem q1413 : (Jvm.Cond.static ({ cls := "FloatClassesModel", name := "productOf", desc := "(FF)F" } : Jvm.MethodName)) ∈ lw_all := lw_g (lw_at lw_m6 170 rfl) rfl
theorem q1414 : (Jvm.Cond.code ({ cls := "FloatClassesModel", name := "productOf", desc := "(FF)F" } : Jvm.MethodName) prog_10_method_44_code (2 : Nat) (Option.some Jvm.ClassFile.FieldType.float)) ∈ lw_all := lw_g (lw_at lw_m6 171 rfl) rfl
theorem q1415 : (Jvm.Cond.methodLink "FloatClassesModel" (269 : Nat) ({ cls := "FloatClassesModel", name := "restOf", desc := "(FF)F" } : Jvm.MethodName)) ∈ lw_all := lw_g (lw_at lw_m6 172 rfl) rfl
theorem q1416 : (Jvm.Cond.static ({ cls := "FloatClassesModel", name := "restOf", desc := "(FF)F" } : Jvm.MethodName)) ∈ lw_all := lw_g (lw_at lw_m6 173 rfl) rfl
theorem q1417 : (Jvm.Cond.code ({ cls := "FloatClassesModel", name := "restOf", desc := "(FF)F" } : Jvm.MethodName) prog_10_method_46_code (2 : Nat) (Option.some Jvm.ClassFile.FieldType.float)) ∈ lw_all := lw_g (lw_at lw_m6 174 rfl) rfl
theorem q1418 : (Jvm.Cond.methodLink "FloatClassesModel" (272 : Nat) ({ cls := "FloatClassesModel", name := "sumOf", desc := "(DD)D" } : Jvm.MethodName)) ∈ lw_all := lw_g (lw_at lw_m6 175 rfl) rfl
theorem q1419 : (Jvm.Cond.static ({ cls := "FloatClassesModel", name := "sumOf", desc := "(DD)D" } : Jvm.MethodName)) ∈ lw_all := lw_g (lw_at lw_m6 176 rfl) rfl
theorem q1420 : (Jvm.Cond.code ({ cls := "FloatClassesModel", name := "sumOf", desc := "(DD)D" } : Jvm.MethodName) prog_10_method_48_code (4 : Nat) (Option.some Jvm.ClassFile.FieldType.double)) ∈ lw_all := lw_g (lw_at lw_m6 177 rfl) rfl
theorem q1421 : (Jvm.Cond.methodLink "FloatClassesModel" (274 : Nat) ({ cls := "FloatClassesModel", name := "differenceOf", desc := "(DD)D" } : Jvm.MethodName)) ∈ lw_all := lw_g (lw_at lw_m6 178 rfl) rfl
theorem q1422 : (Jvm.Cond.static ({ cls := "FloatClassesModel", name := "differenceOf", desc := "(DD)D" } : Jvm.MethodName)) ∈ lw_all := lw_g (lw_at lw_m6 179 rfl) rfl
theorem q1423 : (Jvm.Cond.code ({ cls := "FloatClassesModel", name := "differenceOf", desc := "(DD)D" } : Jvm.MethodName) prog_10_method_49_code (4 : Nat) (Option.some Jvm.ClassFile.FieldType.double)) ∈ lw_all := lw_g (lw_at lw_m6 180 rfl) rfl
theorem q1424 : (Jvm.Cond.methodLink "FloatClassesModel" (276 : Nat) ({ cls := "FloatClassesModel", name := "productOf", desc := "(DD)D" } : Jvm.MethodName)) ∈ lw_all := lw_g (lw_at lw_m6 181 rfl) rfl
theorem q1425 : (Jvm.Cond.static ({ cls := "FloatClassesModel", name := "productOf", desc := "(DD)D" } : Jvm.MethodName)) ∈ lw_all := lw_g (lw_at lw_m6 182 rfl) rfl
theorem q1426 : (Jvm.Cond.code ({ cls := "FloatClassesModel", name := "productOf", desc := "(DD)D" } : Jvm.MethodName) prog_10_method_50_code (4 : Nat) (Option.some Jvm.ClassFile.FieldType.double)) ∈ lw_all := lw_g (lw_at lw_m6 183 rfl) rfl
theorem q1427 : (Jvm.Cond.methodLink "FloatClassesModel" (278 : Nat) ({ cls := "FloatClassesModel", name := "restOf", desc := "(DD)D" } : Jvm.MethodName)) ∈ lw_all := lw_g (lw_at lw_m6 184 rfl) rfl
theorem q1428 : (Jvm.Cond.static ({ cls := "FloatClassesModel", name := "restOf", desc := "(DD)D" } : Jvm.MethodName)) ∈ lw_all := lw_g (lw_at lw_m6 185 rfl) rfl
theorem q1429 : (Jvm.Cond.code ({ cls := "FloatClassesModel", name := "restOf", desc := "(DD)D" } : Jvm.MethodName) prog_10_method_52_code (4 : Nat) (Option.some Jvm.ClassFile.FieldType.double)) ∈ lw_all := lw_g (lw_at lw_m6 186 rfl) rfl
theorem q1431 : (Jvm.Cond.instanceMethod ({ cls := "FloatClassesModel", name := "fused", desc := "(IJJJ)J" } : Jvm.MethodName)) ∈ lw_all := lw_g (lw_at lw_m6 188 rfl) rfl
theorem q1432 : (Jvm.Cond.selects "FloatClassesModel" ({ cls := "FloatClassesModel", name := "fused", desc := "(IJJJ)J" } : Jvm.MethodName) ({ cls := "FloatClassesModel", name := "fused", desc := "(IJJJ)J" } : Jvm.MethodName)) ∈ lw_all := lw_g (lw_at lw_m6 189 rfl) rfl
theorem q1433 : (Jvm.Cond.code ({ cls := "FloatClassesModel", name := "fused", desc := "(IJJJ)J" } : Jvm.MethodName) prog_10_method_63_code (8 : Nat) (Option.some Jvm.ClassFile.FieldType.long)) ∈ lw_all := lw_g (lw_at lw_m6 190 rfl) rfl
theorem q1434 : (Jvm.Cond.methodLink "FloatClassesModel" (301 : Nat) ({ cls := "FloatClassesModel", name := "fusedOf", desc := "(IJJJ)J" } : Jvm.MethodName)) ∈ lw_all := lw_g (lw_at lw_m6 191 rfl) rfl
theorem q1435 : (Jvm.Cond.privateMethod ({ cls := "FloatClassesModel", name := "fusedOf", desc := "(IJJJ)J" } : Jvm.MethodName)) ∈ lw_tbl := lw_at lw_m6 192 rfl
theorem q1436 : (Jvm.Cond.instanceMethod ({ cls := "FloatClassesModel", name := "fusedOf", desc := "(IJJJ)J" } : Jvm.MethodName)) ∈ lw_all := lw_g (lw_at lw_m6 193 rfl) rfl
theorem q1437 : (Jvm.Cond.code ({ cls := "FloatClassesModel", name := "fusedOf", desc := "(IJJJ)J" } : Jvm.MethodName) prog_10_method_60_code (25 : Nat) (Option.some Jvm.ClassFile.FieldType.long)) ∈ lw_all := lw_g (lw_at lw_m6 194 rfl) rfl
theorem q1438 : (Jvm.Cond.methodLink "FloatClassesModel" (287 : Nat) ({ cls := "FloatClassesModel", name := "infiniteOf", desc := "(IJ)Z" } : Jvm.MethodName)) ∈ lw_all := lw_g (lw_at lw_m6 195 rfl) rfl
theorem q1439 : (Jvm.Cond.privateMethod ({ cls := "FloatClassesModel", name := "infiniteOf", desc := "(IJ)Z" } : Jvm.MethodName)) ∈ lw_tbl := lw_at lw_m6 196 rfl
theorem q1440 : (Jvm.Cond.instanceMethod ({ cls := "FloatClassesModel", name := "infiniteOf", desc := "(IJ)Z" } : Jvm.MethodName)) ∈ lw_all := lw_g (lw_at lw_m6 197 rfl) rfl
theorem q1441 : (Jvm.Cond.code ({ cls := "FloatClassesModel", name := "infiniteOf", desc := "(IJ)Z" } : Jvm.MethodName) prog_10_method_61_code (4 : Nat) (Option.some Jvm.ClassFile.FieldType.boolean)) ∈ lw_all := lw_g (lw_at lw_m6 198 rfl) rfl
theorem q1442 : (Jvm.Cond.methodLink "FloatClassesModel" (290 : Nat) ({ cls := "FloatClassesModel", name := "timesLong", desc := "(J)V" } : Jvm.MethodName)) ∈ lw_all := lw_g (lw_at lw_m6 199 rfl) rfl
theorem q1443 : (Jvm.Cond.privateMethod ({ cls := "FloatClassesModel", name := "timesLong", desc := "(J)V" } : Jvm.MethodName)) ∈ lw_tbl := lw_at lw_m6 200 rfl
theorem q1444 : (Jvm.Cond.instanceMethod ({ cls := "FloatClassesModel", name := "timesLong", desc := "(J)V" } : Jvm.MethodName)) ∈ lw_all := lw_g (lw_at lw_m6 201 rfl) rfl
theorem q1445 : (Jvm.Cond.code ({ cls := "FloatClassesModel", name := "timesLong", desc := "(J)V" } : Jvm.MethodName) prog_10_method_62_code (3 : Nat) (Option.none : Option Jvm.ClassFile.FieldType)) ∈ lw_all := lw_g (lw_at lw_m6 202 rfl) rfl
theorem q1446 : (Jvm.Cond.methodLink "FloatClassesModel" (297 : Nat) ({ cls := "FloatClassesModel", name := "times", desc := "([JJJ)V" } : Jvm.MethodName)) ∈ lw_all := lw_g (lw_at lw_m6 203 rfl) rfl
theorem q1447 : (Jvm.Cond.static ({ cls := "FloatClassesModel", name := "times", desc := "([JJJ)V" } : Jvm.MethodName)) ∈ lw_all := lw_g (lw_at lw_m6 204 rfl) rfl
theorem q1448 : (Jvm.Cond.code ({ cls := "FloatClassesModel", name := "times", desc := "([JJJ)V" } : Jvm.MethodName) prog_10_method_9_code (10 : Nat) (Option.none : Option Jvm.ClassFile.FieldType)) ∈ lw_all := lw_g (lw_at lw_m6 205 rfl) rfl
theorem q1449 : (Jvm.Cond.methodLink "FloatClassesModel" (294 : Nat) ({ cls := "FloatClassesModel", name := "more", desc := "([J[J)V" } : Jvm.MethodName)) ∈ lw_all := lw_g (lw_at lw_m6 206 rfl) rfl
theorem q1450 : (Jvm.Cond.static ({ cls := "FloatClassesModel", name := "more", desc := "([J[J)V" } : Jvm.MethodName)) ∈ lw_all := lw_g (lw_at lw_m6 207 rfl) rfl
theorem q1451 : (Jvm.Cond.code ({ cls := "FloatClassesModel", name := "more", desc := "([J[J)V" } : Jvm.MethodName) prog_10_method_14_code (7 : Nat) (Option.none : Option Jvm.ClassFile.FieldType)) ∈ lw_all := lw_g (lw_at lw_m6 208 rfl) rfl
theorem q1453 : (Jvm.Cond.instanceMethod ({ cls := "FloatClassesModel", name := "compare", desc := "(IIJJ)I" } : Jvm.MethodName)) ∈ lw_all := lw_g (lw_at lw_m6 210 rfl) rfl
theorem q1454 : (Jvm.Cond.selects "FloatClassesModel" ({ cls := "FloatClassesModel", name := "compare", desc := "(IIJJ)I" } : Jvm.MethodName) ({ cls := "FloatClassesModel", name := "compare", desc := "(IIJJ)I" } : Jvm.MethodName)) ∈ lw_all := lw_g (lw_at lw_m6 211 rfl) rfl
theorem q1455 : (Jvm.Cond.code ({ cls := "FloatClassesModel", name := "compare", desc := "(IIJJ)I" } : Jvm.MethodName) prog_10_method_64_code (12 : Nat) (Option.some Jvm.ClassFile.FieldType.int)) ∈ lw_all := lw_g (lw_at lw_m6 212 rfl) rfl
theorem q1457 : (Jvm.Cond.instanceMethod ({ cls := "FloatClassesModel", name := "power", desc := "(IJI)J" } : Jvm.MethodName)) ∈ lw_all := lw_g (lw_at lw_m6 214 rfl) rfl
theorem q1458 : (Jvm.Cond.selects "FloatClassesModel" ({ cls := "FloatClassesModel", name := "power", desc := "(IJI)J" } : Jvm.MethodName) ({ cls := "FloatClassesModel", name := "power", desc := "(IJI)J" } : Jvm.MethodName)) ∈ lw_all := lw_g (lw_at lw_m6 215 rfl) rfl
theorem q1459 : (Jvm.Cond.code ({ cls := "FloatClassesModel", name := "power", desc := "(IJI)J" } : Jvm.MethodName) prog_10_method_66_code (11 : Nat) (Option.some Jvm.ClassFile.FieldType.long)) ∈ lw_all := lw_g (lw_at lw_m6 216 rfl) rfl
theorem q1460 : (Jvm.Cond.methodLink "FloatClassesModel" (305 : Nat) ({ cls := "FloatClassesModel", name := "oneOf", desc := "(I)J" } : Jvm.MethodName)) ∈ lw_all := lw_g (lw_at lw_m6 217 rfl) rfl
theorem q1461 : (Jvm.Cond.static ({ cls := "FloatClassesModel", name := "oneOf", desc := "(I)J" } : Jvm.MethodName)) ∈ lw_all := lw_g (lw_at lw_m6 218 rfl) rfl
theorem q1462 : (Jvm.Cond.code ({ cls := "FloatClassesModel", name := "oneOf", desc := "(I)J" } : Jvm.MethodName) prog_10_method_65_code (1 : Nat) (Option.some Jvm.ClassFile.FieldType.long)) ∈ lw_all := lw_g (lw_at lw_m6 219 rfl) rfl
theorem q1464 : (Jvm.Cond.instanceMethod ({ cls := "FloatClassesModel", name := "whole", desc := "(IJI)J" } : Jvm.MethodName)) ∈ lw_all := lw_g (lw_at lw_m6 221 rfl) rfl
theorem q1465 : (Jvm.Cond.selects "FloatClassesModel" ({ cls := "FloatClassesModel", name := "whole", desc := "(IJI)J" } : Jvm.MethodName) ({ cls := "FloatClassesModel", name := "whole", desc := "(IJI)J" } : Jvm.MethodName)) ∈ lw_all := lw_g (lw_at lw_m6 222 rfl) rfl
theorem q1466 : (Jvm.Cond.code ({ cls := "FloatClassesModel", name := "whole", desc := "(IJI)J" } : Jvm.MethodName) prog_10_method_68_code (7 : Nat) (Option.some Jvm.ClassFile.FieldType.long)) ∈ lw_all := lw_g (lw_at lw_m6 223 rfl) rfl
theorem q1467 : (Jvm.Cond.methodLink "FloatClassesModel" (308 : Nat) ({ cls := "FloatClassesModel", name := "wholeOf", desc := "(I)J" } : Jvm.MethodName)) ∈ lw_all := lw_g (lw_at lw_m6 224 rfl) rfl
theorem q1468 : (Jvm.Cond.privateMethod ({ cls := "FloatClassesModel", name := "wholeOf", desc := "(I)J" } : Jvm.MethodName)) ∈ lw_tbl := lw_at lw_m6 225 rfl
theorem q1469 : (Jvm.Cond.instanceMethod ({ cls := "FloatClassesModel", name := "wholeOf", desc := "(I)J" } : Jvm.MethodName)) ∈ lw_all := lw_g (lw_at lw_m6 226 rfl) rfl
theorem q1470 : (Jvm.Cond.code ({ cls := "FloatClassesModel", name := "wholeOf", desc := "(I)J" } : Jvm.MethodName) prog_10_method_67_code (10 : Nat) (Option.some Jvm.ClassFile.FieldType.long)) ∈ lw_all := lw_g (lw_at lw_m6 227 rfl) rfl
theorem q1471 : (Jvm.Cond.methodLink "FloatClassesModel" (311 : Nat) ({ cls := "FloatClassesModel", name := "fillDown", desc := "()V" } : Jvm.MethodName)) ∈ lw_all := lw_g (lw_at lw_m6 228 rfl) rfl
theorem q1472 : (Jvm.Cond.privateMethod ({ cls := "FloatClassesModel", name := "fillDown", desc := "()V" } : Jvm.MethodName)) ∈ lw_tbl := lw_at lw_m6 229 rfl
theorem q1473 : (Jvm.Cond.instanceMethod ({ cls := "FloatClassesModel", name := "fillDown", desc := "()V" } : Jvm.MethodName)) ∈ lw_all := lw_g (lw_at lw_m6 230 rfl) rfl
theorem q1474 : (Jvm.Cond.code ({ cls := "FloatClassesModel", name := "fillDown", desc := "()V" } : Jvm.MethodName) prog_10_method_69_code (1 : Nat) (Option.none : Option Jvm.ClassFile.FieldType)) ∈ lw_all := lw_g (lw_at lw_m6 231 rfl) rfl
theorem q1475 : (Jvm.Cond.methodLink "FloatClassesModel" (314 : Nat) ({ cls := "FloatClassesModel", name := "lengthOf", desc := "(J)I" } : Jvm.MethodName)) ∈ lw_all := lw_g (lw_at lw_m6 232 rfl) rfl
theorem q1476 : (Jvm.Cond.static ({ cls := "FloatClassesModel", name := "lengthOf", desc := "(J)I" } : Jvm.MethodName)) ∈ lw_all := lw_g (lw_at lw_m6 233 rfl) rfl
theorem q1477 : (Jvm.Cond.code ({ cls := "FloatClassesModel", name := "lengthOf", desc := "(J)I" } : Jvm.MethodName) prog_10_method_70_code (3 : Nat) (Option.some Jvm.ClassFile.FieldType.int)) ∈ lw_all := lw_g (lw_at lw_m6 234 rfl) rfl
theorem q1479 : (Jvm.Cond.instanceMethod ({ cls := "FloatClassesModel", name := "bounded", desc := "(IJII)J" } : Jvm.MethodName)) ∈ lw_all := lw_g (lw_at lw_m6 236 rfl) rfl
theorem q1480 : (Jvm.Cond.selects "FloatClassesModel" ({ cls := "FloatClassesModel", name := "bounded", desc := "(IJII)J" } : Jvm.MethodName) ({ cls := "FloatClassesModel", name := "bounded", desc := "(IJII)J" } : Jvm.MethodName)) ∈ lw_all := lw_g (lw_at lw_m6 237 rfl) rfl
theorem q1481 : (Jvm.Cond.code ({ cls := "FloatClassesModel", name := "bounded", desc := "(IJII)J" } : Jvm.MethodName) prog_10_method_71_code (8 : Nat) (Option.some Jvm.ClassFile.FieldType.long)) ∈ lw_all := lw_g (lw_at lw_m6 238 rfl) rfl
theorem q1483 : (Jvm.Cond.instanceMethod ({ cls := "FloatClassesModel", name := "fraction", desc := "(IJ)J" } : Jvm.MethodName)) ∈ lw_all := lw_g (lw_at lw_m7 0 rfl) rfl
theorem q1484 : (Jvm.Cond.selects "FloatClassesModel" ({ cls := "FloatClassesModel", name := "fraction", desc := "(IJ)J" } : Jvm.MethodName) ({ cls := "FloatClassesModel", name := "fraction", desc := "(IJ)J" } : Jvm.MethodName)) ∈ lw_all := lw_g (lw_at lw_m7 1 rfl) rfl
theorem q1485 : (Jvm.Cond.code ({ cls := "FloatClassesModel", name := "fraction", desc := "(IJ)J" } : Jvm.MethodName) prog_10_method_72_code (6 : Nat) (Option.some Jvm.ClassFile.FieldType.long)) ∈ lw_all := lw_g (lw_at lw_m7 2 rfl) rfl
theorem q1487 : (Jvm.Cond.instanceMethod ({ cls := "FloatClassesModel", name := "ratio", desc := "(IJI)J" } : Jvm.MethodName)) ∈ lw_all := lw_g (lw_at lw_m7 4 rfl) rfl
theorem q1488 : (Jvm.Cond.selects "FloatClassesModel" ({ cls := "FloatClassesModel", name := "ratio", desc := "(IJI)J" } : Jvm.MethodName) ({ cls := "FloatClassesModel", name := "ratio", desc := "(IJI)J" } : Jvm.MethodName)) ∈ lw_all := lw_g (lw_at lw_m7 5 rfl) rfl
theorem q1489 : (Jvm.Cond.code ({ cls := "FloatClassesModel", name := "ratio", desc := "(IJI)J" } : Jvm.MethodName) prog_10_method_73_code (8 : Nat) (Option.some Jvm.ClassFile.FieldType.long)) ∈ lw_all := lw_g (lw_at lw_m7 6 rfl) rfl
theorem q1491 : (Jvm.Cond.instanceMethod ({ cls := "FloatClassesModel", name := "nearest", desc := "(IJJ)J" } : Jvm.MethodName)) ∈ lw_all := lw_g (lw_at lw_m7 8 rfl) rfl
theorem q1492 : (Jvm.Cond.selects "FloatClassesModel" ({ cls := "FloatClassesModel", name := "nearest", desc := "(IJJ)J" } : Jvm.MethodName) ({ cls := "FloatClassesModel", name := "nearest", desc := "(IJJ)J" } : Jvm.MethodName)) ∈ lw_all := lw_g (lw_at lw_m7 9 rfl) rfl
theorem q1493 : (Jvm.Cond.code ({ cls := "FloatClassesModel", name := "nearest", desc := "(IJJ)J" } : Jvm.MethodName) prog_10_method_74_code (6 : Nat) (Option.some Jvm.ClassFile.FieldType.long)) ∈ lw_all := lw_g (lw_at lw_m7 10 rfl) rfl
theorem q1495 : (Jvm.Cond.instanceMethod ({ cls := "FloatClassesModel", name := "digit", desc := "(IJI)I" } : Jvm.MethodName)) ∈ lw_all := lw_g (lw_at lw_m7 12 rfl) rfl
theorem q1496 : (Jvm.Cond.selects "FloatClassesModel" ({ cls := "FloatClassesModel", name := "digit", desc := "(IJI)I" } : Jvm.MethodName) ({ cls := "FloatClassesModel", name := "digit", desc := "(IJI)I" } : Jvm.MethodName)) ∈ lw_all := lw_g (lw_at lw_m7 13 rfl) rfl
theorem q1497 : (Jvm.Cond.code ({ cls := "FloatClassesModel", name := "digit", desc := "(IJI)I" } : Jvm.MethodName) prog_10_method_75_code (5 : Nat) (Option.some Jvm.ClassFile.FieldType.int)) ∈ lw_all := lw_g (lw_at lw_m7 14 rfl) rfl
theorem q1499 : (Jvm.Cond.instanceMethod ({ cls := "FloatClassesModel", name := "count", desc := "(IJJJ)I" } : Jvm.MethodName)) ∈ lw_all := lw_g (lw_at lw_m7 16 rfl) rfl
theorem q1500 : (Jvm.Cond.selects "FloatClassesModel" ({ cls := "FloatClassesModel", name := "count", desc := "(IJJJ)I" } : Jvm.MethodName) ({ cls := "FloatClassesModel", name := "count", desc := "(IJJJ)I" } : Jvm.MethodName)) ∈ lw_all := lw_g (lw_at lw_m7 17 rfl) rfl
theorem q1501 : (Jvm.Cond.code ({ cls := "FloatClassesModel", name := "count", desc := "(IJJJ)I" } : Jvm.MethodName) prog_10_method_79_code (9 : Nat) (Option.some Jvm.ClassFile.FieldType.int)) ∈ lw_all := lw_g (lw_at lw_m7 18 rfl) rfl
theorem q1502 : (Jvm.Cond.methodLink "FloatClassesModel" (328 : Nat) ({ cls := "FloatClassesModel", name := "many", desc := "(IJJJ)I" } : Jvm.MethodName)) ∈ lw_all := lw_g (lw_at lw_m7 19 rfl) rfl
theorem q1503 : (Jvm.Cond.privateMethod ({ cls := "FloatClassesModel", name := "many", desc := "(IJJJ)I" } : Jvm.MethodName)) ∈ lw_tbl := lw_at lw_m7 20 rfl
theorem q1504 : (Jvm.Cond.instanceMethod ({ cls := "FloatClassesModel", name := "many", desc := "(IJJJ)I" } : Jvm.MethodName)) ∈ lw_all := lw_g (lw_at lw_m7 21 rfl) rfl
theorem q1505 : (Jvm.Cond.code ({ cls := "FloatClassesModel", name := "many", desc := "(IJJJ)I" } : Jvm.MethodName) prog_10_method_78_code (9 : Nat) (Option.some Jvm.ClassFile.FieldType.int)) ∈ lw_all := lw_g (lw_at lw_m7 22 rfl) rfl
theorem q1506 : (Jvm.Cond.methodLink "FloatClassesModel" (320 : Nat) ({ cls := "FloatClassesModel", name := "nth", desc := "(IJJI)J" } : Jvm.MethodName)) ∈ lw_all := lw_g (lw_at lw_m7 23 rfl) rfl
theorem q1507 : (Jvm.Cond.privateMethod ({ cls := "FloatClassesModel", name := "nth", desc := "(IJJI)J" } : Jvm.MethodName)) ∈ lw_tbl := lw_at lw_m7 24 rfl
theorem q1508 : (Jvm.Cond.instanceMethod ({ cls := "FloatClassesModel", name := "nth", desc := "(IJJI)J" } : Jvm.MethodName)) ∈ lw_all := lw_g (lw_at lw_m7 25 rfl) rfl
theorem q1509 : (Jvm.Cond.code ({ cls := "FloatClassesModel", name := "nth", desc := "(IJJI)J" } : Jvm.MethodName) prog_10_method_76_code (9 : Nat) (Option.some Jvm.ClassFile.FieldType.long)) ∈ lw_all := lw_g (lw_at lw_m7 26 rfl) rfl
theorem q1510 : (Jvm.Cond.methodLink "FloatClassesModel" (324 : Nat) ({ cls := "FloatClassesModel", name := "goes", desc := "(IJJJJ)Z" } : Jvm.MethodName)) ∈ lw_all := lw_g (lw_at lw_m7 27 rfl) rfl
theorem q1511 : (Jvm.Cond.privateMethod ({ cls := "FloatClassesModel", name := "goes", desc := "(IJJJJ)Z" } : Jvm.MethodName)) ∈ lw_tbl := lw_at lw_m7 28 rfl
theorem q1512 : (Jvm.Cond.instanceMethod ({ cls := "FloatClassesModel", name := "goes", desc := "(IJJJJ)Z" } : Jvm.MethodName)) ∈ lw_all := lw_g (lw_at lw_m7 29 rfl) rfl
theorem q1513 : (Jvm.Cond.code ({ cls := "FloatClassesModel", name := "goes", desc := "(IJJJJ)Z" } : Jvm.MethodName) prog_10_method_77_code (14 : Nat) (Option.some Jvm.ClassFile.FieldType.boolean)) ∈ lw_all := lw_g (lw_at lw_m7 30 rfl) rfl
theorem q1514 : (Jvm.Cond.constantDouble "FloatClassesModel" (318 : Nat) (4611686018427387904 : UInt64)) ∈ lw_all := lw_g (lw_at lw_m7 31 rfl) rfl
theorem q1516 : (Jvm.Cond.instanceMethod ({ cls := "FloatClassesModel", name := "counted", desc := "(IJJJI)J" } : Jvm.MethodName)) ∈ lw_all := lw_g (lw_at lw_m7 33 rfl) rfl
theorem q1517 : (Jvm.Cond.selects "FloatClassesModel" ({ cls := "FloatClassesModel", name := "counted", desc := "(IJJJI)J" } : Jvm.MethodName) ({ cls := "FloatClassesModel", name := "counted", desc := "(IJJJI)J" } : Jvm.MethodName)) ∈ lw_all := lw_g (lw_at lw_m7 34 rfl) rfl
theorem q1518 : (Jvm.Cond.code ({ cls := "FloatClassesModel", name := "counted", desc := "(IJJJI)J" } : Jvm.MethodName) prog_10_method_80_code (10 : Nat) (Option.some Jvm.ClassFile.FieldType.long)) ∈ lw_all := lw_g (lw_at lw_m7 35 rfl) rfl
theorem q1520 : (Jvm.Cond.instanceMethod ({ cls := "FloatClassesModel", name := "text", desc := "(J)I" } : Jvm.MethodName)) ∈ lw_all := lw_g (lw_at lw_m7 37 rfl) rfl
theorem q1521 : (Jvm.Cond.selects "FloatClassesModel" ({ cls := "FloatClassesModel", name := "text", desc := "(J)I" } : Jvm.MethodName) ({ cls := "FloatClassesModel", name := "text", desc := "(J)I" } : Jvm.MethodName)) ∈ lw_all := lw_g (lw_at lw_m7 38 rfl) rfl
theorem q1522 : (Jvm.Cond.code ({ cls := "FloatClassesModel", name := "text", desc := "(J)I" } : Jvm.MethodName) prog_10_method_81_code (6 : Nat) (Option.some Jvm.ClassFile.FieldType.int)) ∈ lw_all := lw_g (lw_at lw_m7 39 rfl) rfl
theorem q1524 : (Jvm.Cond.instanceMethod ({ cls := "FloatClassesModel", name := "read", desc := "(I)J" } : Jvm.MethodName)) ∈ lw_all := lw_g (lw_at lw_m7 41 rfl) rfl
theorem q1525 : (Jvm.Cond.selects "FloatClassesModel" ({ cls := "FloatClassesModel", name := "read", desc := "(I)J" } : Jvm.MethodName) ({ cls := "FloatClassesModel", name := "read", desc := "(I)J" } : Jvm.MethodName)) ∈ lw_all := lw_g (lw_at lw_m7 42 rfl) rfl
theorem q1526 : (Jvm.Cond.code ({ cls := "FloatClassesModel", name := "read", desc := "(I)J" } : Jvm.MethodName) prog_10_method_86_code (7 : Nat) (Option.some Jvm.ClassFile.FieldType.long)) ∈ lw_all := lw_g (lw_at lw_m7 43 rfl) rfl
theorem q1527 : (Jvm.Cond.methodLink "FloatClassesModel" (341 : Nat) ({ cls := "FloatClassesModel", name := "peek", desc := "()I" } : Jvm.MethodName)) ∈ lw_all := lw_g (lw_at lw_m7 44 rfl) rfl
theorem q1528 : (Jvm.Cond.privateMethod ({ cls := "FloatClassesModel", name := "peek", desc := "()I" } : Jvm.MethodName)) ∈ lw_tbl := lw_at lw_m7 45 rfl
theorem q1529 : (Jvm.Cond.instanceMethod ({ cls := "FloatClassesModel", name := "peek", desc := "()I" } : Jvm.MethodName)) ∈ lw_all := lw_g (lw_at lw_m7 46 rfl) rfl
theorem q1530 : (Jvm.Cond.code ({ cls := "FloatClassesModel", name := "peek", desc := "()I" } : Jvm.MethodName) prog_10_method_82_code (1 : Nat) (Option.some Jvm.ClassFile.FieldType.int)) ∈ lw_all := lw_g (lw_at lw_m7 47 rfl) rfl
theorem q1531 : (Jvm.Cond.methodLink "FloatClassesModel" (357 : Nat) ({ cls := "FloatClassesModel", name := "readDigits", desc := "()I" } : Jvm.MethodName)) ∈ lw_all := lw_g (lw_at lw_m7 48 rfl) rfl
theorem q1532 : (Jvm.Cond.privateMethod ({ cls := "FloatClassesModel", name := "readDigits", desc := "()I" } : Jvm.MethodName)) ∈ lw_tbl := lw_at lw_m7 49 rfl
theorem q1533 : (Jvm.Cond.instanceMethod ({ cls := "FloatClassesModel", name := "readDigits", desc := "()I" } : Jvm.MethodName)) ∈ lw_all := lw_g (lw_at lw_m7 50 rfl) rfl
theorem q1534 : (Jvm.Cond.code ({ cls := "FloatClassesModel", name := "readDigits", desc := "()I" } : Jvm.MethodName) prog_10_method_84_code (2 : Nat) (Option.some Jvm.ClassFile.FieldType.int)) ∈ lw_all := lw_g (lw_at lw_m7 51 rfl) rfl
theorem q1535 : (Jvm.Cond.methodLink "FloatClassesModel" (345 : Nat) ({ cls := "FloatClassesModel", name := "isDigit", desc := "()Z" } : Jvm.MethodName)) ∈ lw_all := lw_g (lw_at lw_m7 52 rfl) rfl
theorem q1536 : (Jvm.Cond.privateMethod ({ cls := "FloatClassesModel", name := "isDigit", desc := "()Z" } : Jvm.MethodName)) ∈ lw_tbl := lw_at lw_m7 53 rfl
theorem q1537 : (Jvm.Cond.instanceMethod ({ cls := "FloatClassesModel", name := "isDigit", desc := "()Z" } : Jvm.MethodName)) ∈ lw_all := lw_g (lw_at lw_m7 54 rfl) rfl
theorem q1538 : (Jvm.Cond.code ({ cls := "FloatClassesModel", name := "isDigit", desc := "()Z" } : Jvm.MethodName) prog_10_method_83_code (1 : Nat) (Option.some Jvm.ClassFile.FieldType.boolean)) ∈ lw_all := lw_g (lw_at lw_m7 55 rfl) rfl
theorem q1539 : (Jvm.Cond.constantLong "FloatClassesModel" (355 : Nat) (10 : Int64)) ∈ lw_all := lw_g (lw_at lw_m7 56 rfl) rfl
theorem q1540 : (Jvm.Cond.methodLink "FloatClassesModel" (360 : Nat) ({ cls := "FloatClassesModel", name := "readPower", desc := "()I" } : Jvm.MethodName)) ∈ lw_all := lw_g (lw_at lw_m7 57 rfl) rfl
theorem q1541 : (Jvm.Cond.privateMethod ({ cls := "FloatClassesModel", name := "readPower", desc := "()I" } : Jvm.MethodName)) ∈ lw_tbl := lw_at lw_m7 58 rfl
theorem q1542 : (Jvm.Cond.instanceMethod ({ cls := "FloatClassesModel", name := "readPower", desc := "()I" } : Jvm.MethodName)) ∈ lw_all := lw_g (lw_at lw_m7 59 rfl) rfl
theorem q1543 : (Jvm.Cond.code ({ cls := "FloatClassesModel", name := "readPower", desc := "()I" } : Jvm.MethodName) prog_10_method_85_code (4 : Nat) (Option.some Jvm.ClassFile.FieldType.int)) ∈ lw_all := lw_g (lw_at lw_m7 60 rfl) rfl
theorem q1544 : (Jvm.Cond.constantLong "FloatClassesModel" (363 : Nat) (-10 : Int64)) ∈ lw_all := lw_g (lw_at lw_m7 61 rfl) rfl
theorem q1546 : (Jvm.Cond.instanceMethod ({ cls := "FloatClassesModel", name := "row", desc := "(III)I" } : Jvm.MethodName)) ∈ lw_all := lw_g (lw_at lw_m7 63 rfl) rfl
theorem q1547 : (Jvm.Cond.selects "FloatClassesModel" ({ cls := "FloatClassesModel", name := "row", desc := "(III)I" } : Jvm.MethodName) ({ cls := "FloatClassesModel", name := "row", desc := "(III)I" } : Jvm.MethodName)) ∈ lw_all := lw_g (lw_at lw_m7 64 rfl) rfl
theorem q1548 : (Jvm.Cond.code ({ cls := "FloatClassesModel", name := "row", desc := "(III)I" } : Jvm.MethodName) prog_10_method_88_code (5 : Nat) (Option.some Jvm.ClassFile.FieldType.int)) ∈ lw_all := lw_g (lw_at lw_m7 65 rfl) rfl
theorem q1549 : (Jvm.Cond.methodLink "FloatClassesModel" (365 : Nat) ({ cls := "FloatClassesModel", name := "isRow", desc := "(I)Z" } : Jvm.MethodName)) ∈ lw_all := lw_g (lw_at lw_m7 66 rfl) rfl
theorem q1550 : (Jvm.Cond.static ({ cls := "FloatClassesModel", name := "isRow", desc := "(I)Z" } : Jvm.MethodName)) ∈ lw_all := lw_g (lw_at lw_m7 67 rfl) rfl
theorem q1551 : (Jvm.Cond.code ({ cls := "FloatClassesModel", name := "isRow", desc := "(I)Z" } : Jvm.MethodName) prog_10_method_87_code (1 : Nat) (Option.some Jvm.ClassFile.FieldType.boolean)) ∈ lw_all := lw_g (lw_at lw_m7 68 rfl) rfl
theorem q1553 : (Jvm.Cond.instanceMethod ({ cls := "FloatClassesModel", name := "drop", desc := "(I)I" } : Jvm.MethodName)) ∈ lw_all := lw_g (lw_at lw_m7 70 rfl) rfl
theorem q1554 : (Jvm.Cond.selects "FloatClassesModel" ({ cls := "FloatClassesModel", name := "drop", desc := "(I)I" } : Jvm.MethodName) ({ cls := "FloatClassesModel", name := "drop", desc := "(I)I" } : Jvm.MethodName)) ∈ lw_all := lw_g (lw_at lw_m7 71 rfl) rfl
theorem q1555 : (Jvm.Cond.code ({ cls := "FloatClassesModel", name := "drop", desc := "(I)I" } : Jvm.MethodName) prog_10_method_89_code (3 : Nat) (Option.some Jvm.ClassFile.FieldType.int)) ∈ lw_all := lw_g (lw_at lw_m7 72 rfl) rfl
theorem q1557 : (Jvm.Cond.instanceMethod ({ cls := "FloatClassesModel", name := "put", desc := "(IIIJ)I" } : Jvm.MethodName)) ∈ lw_all := lw_g (lw_at lw_m7 74 rfl) rfl
theorem q1558 : (Jvm.Cond.selects "FloatClassesModel" ({ cls := "FloatClassesModel", name := "put", desc := "(IIIJ)I" } : Jvm.MethodName) ({ cls := "FloatClassesModel", name := "put", desc := "(IIIJ)I" } : Jvm.MethodName)) ∈ lw_all := lw_g (lw_at lw_m7 75 rfl) rfl
theorem q1559 : (Jvm.Cond.code ({ cls := "FloatClassesModel", name := "put", desc := "(IIIJ)I" } : Jvm.MethodName) prog_10_method_91_code (7 : Nat) (Option.some Jvm.ClassFile.FieldType.int)) ∈ lw_all := lw_g (lw_at lw_m7 76 rfl) rfl
theorem q1560 : (Jvm.Cond.methodLink "FloatClassesModel" (368 : Nat) ({ cls := "FloatClassesModel", name := "barred", desc := "(III)I" } : Jvm.MethodName)) ∈ lw_all := lw_g (lw_at lw_m7 77 rfl) rfl
theorem q1561 : (Jvm.Cond.privateMethod ({ cls := "FloatClassesModel", name := "barred", desc := "(III)I" } : Jvm.MethodName)) ∈ lw_tbl := lw_at lw_m7 78 rfl
theorem q1562 : (Jvm.Cond.instanceMethod ({ cls := "FloatClassesModel", name := "barred", desc := "(III)I" } : Jvm.MethodName)) ∈ lw_all := lw_g (lw_at lw_m7 79 rfl) rfl
theorem q1563 : (Jvm.Cond.code ({ cls := "FloatClassesModel", name := "barred", desc := "(III)I" } : Jvm.MethodName) prog_10_method_90_code (4 : Nat) (Option.some Jvm.ClassFile.FieldType.int)) ∈ lw_all := lw_g (lw_at lw_m7 80 rfl) rfl
theorem q1565 : (Jvm.Cond.instanceMethod ({ cls := "FloatClassesModel", name := "at", desc := "(III)J" } : Jvm.MethodName)) ∈ lw_all := lw_g (lw_at lw_m7 82 rfl) rfl
theorem q1566 : (Jvm.Cond.selects "FloatClassesModel" ({ cls := "FloatClassesModel", name := "at", desc := "(III)J" } : Jvm.MethodName) ({ cls := "FloatClassesModel", name := "at", desc := "(III)J" } : Jvm.MethodName)) ∈ lw_all := lw_g (lw_at lw_m7 83 rfl) rfl
theorem q1567 : (Jvm.Cond.code ({ cls := "FloatClassesModel", name := "at", desc := "(III)J" } : Jvm.MethodName) prog_10_method_92_code (5 : Nat) (Option.some Jvm.ClassFile.FieldType.long)) ∈ lw_all := lw_g (lw_at lw_m7 84 rfl) rfl
theorem q1569 : (Jvm.Cond.instanceMethod ({ cls := "FloatClassesModel", name := "copy", desc := "(IIIII)I" } : Jvm.MethodName)) ∈ lw_all := lw_g (lw_at lw_m7 86 rfl) rfl
theorem q1570 : (Jvm.Cond.selects "FloatClassesModel" ({ cls := "FloatClassesModel", name := "copy", desc := "(IIIII)I" } : Jvm.MethodName) ({ cls := "FloatClassesModel", name := "copy", desc := "(IIIII)I" } : Jvm.MethodName)) ∈ lw_all := lw_g (lw_at lw_m7 87 rfl) rfl
theorem q1571 : (Jvm.Cond.code ({ cls := "FloatClassesModel", name := "copy", desc := "(IIIII)I" } : Jvm.MethodName) prog_10_method_93_code (7 : Nat) (Option.some Jvm.ClassFile.FieldType.int)) ∈ lw_all := lw_g (lw_at lw_m7 88 rfl) rfl
theorem q1573 : (Jvm.Cond.instanceMethod ({ cls := "FloatClassesModel", name := "of", desc := "(II)I" } : Jvm.MethodName)) ∈ lw_all := lw_g (lw_at lw_m7 90 rfl) rfl
theorem q1574 : (Jvm.Cond.selects "FloatClassesModel" ({ cls := "FloatClassesModel", name := "of", desc := "(II)I" } : Jvm.MethodName) ({ cls := "FloatClassesModel", name := "of", desc := "(II)I" } : Jvm.MethodName)) ∈ lw_all := lw_g (lw_at lw_m7 91 rfl) rfl
theorem q1575 : (Jvm.Cond.code ({ cls := "FloatClassesModel", name := "of", desc := "(II)I" } : Jvm.MethodName) prog_10_method_94_code (3 : Nat) (Option.some Jvm.ClassFile.FieldType.int)) ∈ lw_all := lw_g (lw_at lw_m7 92 rfl) rfl
theorem q1577 : (Jvm.Cond.instanceMethod ({ cls := "FloatClassesModel", name := "all", desc := "(III)J" } : Jvm.MethodName)) ∈ lw_all := lw_g (lw_at lw_m7 94 rfl) rfl
theorem q1578 : (Jvm.Cond.selects "FloatClassesModel" ({ cls := "FloatClassesModel", name := "all", desc := "(III)J" } : Jvm.MethodName) ({ cls := "FloatClassesModel", name := "all", desc := "(III)J" } : Jvm.MethodName)) ∈ lw_all := lw_g (lw_at lw_m7 95 rfl) rfl
theorem q1579 : (Jvm.Cond.code ({ cls := "FloatClassesModel", name := "all", desc := "(III)J" } : Jvm.MethodName) prog_10_method_95_code (8 : Nat) (Option.some Jvm.ClassFile.FieldType.long)) ∈ lw_all := lw_g (lw_at lw_m7 96 rfl) rfl
theorem q1581 : (Jvm.Cond.instanceMethod ({ cls := "FloatClassesModel", name := "joined", desc := "(III)J" } : Jvm.MethodName)) ∈ lw_all := lw_g (lw_at lw_m7 98 rfl) rfl
theorem q1582 : (Jvm.Cond.selects "FloatClassesModel" ({ cls := "FloatClassesModel", name := "joined", desc := "(III)J" } : Jvm.MethodName) ({ cls := "FloatClassesModel", name := "joined", desc := "(III)J" } : Jvm.MethodName)) ∈ lw_all := lw_g (lw_at lw_m7 99 rfl) rfl
theorem q1583 : (Jvm.Cond.code ({ cls := "FloatClassesModel", name := "joined", desc := "(III)J" } : Jvm.MethodName) prog_10_method_96_code (7 : Nat) (Option.some Jvm.ClassFile.FieldType.long)) ∈ lw_all := lw_g (lw_at lw_m7 100 rfl) rfl
theorem in_X6 : ∀ w ∈ wsX60, w ∈ lw_all := lw_in wsX60 [1167, 1169, 1171, 1173, 1175, 1177, 1179, 1181, 1183, 1185, 1187, 1189, 1191, 1193, 1195, 1197, 1199, 1201, 1203, 1205] (by decide +kernel) (by decide +kernel)
