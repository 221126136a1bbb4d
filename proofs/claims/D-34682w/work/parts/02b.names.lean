/-! FundBookModel -/
set_option maxRecDepth 100000
def RX4 : String := "FundBookModel"
def TX4 : u_T := fun k => match k with
  | 0 => ("FundBookModel", "thrown", "I", false)
  | 1 => ("FundBookModel", "now", "I", false)
  | 2 => ("FundBookModel", "curve", "[I", true)
  | 3 => ("FundBookModel", "depositRate", "I", false)
  | 4 => ("FundBookModel", "optionRate", "I", false)
  | 5 => ("FundBookModel", "share", "I", false)
  | 6 => ("FundBookModel", "loans", "I", false)
  | 7 => ("FundBookModel", "branch", "[I", true)
  | 8 => ("FundBookModel", "product", "[I", true)
  | 9 => ("FundBookModel", "customers", "[I", true)
  | 10 => ("FundBookModel", "option", "[I", true)
  | 11 => ("FundBookModel", "hasOption", "[Z", true)
  | 12 => ("FundBookModel", "born", "[I", true)
  | 13 => ("FundBookModel", "part", "[I", true)
  | 14 => ("FundBookModel", "funded", "[I", true)
  | 15 => ("FundBookModel", "balance", "[I", true)
  | 16 => ("FundBookModel", "tranche", "[I", true)
  | 17 => ("FundBookModel", "laidAt", "[I", true)
  | 18 => ("FundBookModel", "margins", "[I", true)
  | 19 => ("FundBookModel", "products", "[I", true)
  | 20 => ("FundBookModel", "treasuries", "[I", true)
  | _ => ("FundBookModel", "interests", "[I", true)
def tyX4 : Nat → FieldType := fun k => match k with
  | 0 => .int
  | 1 => .int
  | 2 => .array .int
  | 3 => .int
  | 4 => .int
  | 5 => .int
  | 6 => .int
  | 7 => .array .int
  | 8 => .array .int
  | 9 => .array .int
  | 10 => .array .int
  | 11 => .array .boolean
  | 12 => .array .int
  | 13 => .array .int
  | 14 => .array .int
  | 15 => .array .int
  | 16 => .array .int
  | 17 => .array .int
  | 18 => .array .int
  | 19 => .array .int
  | 20 => .array .int
  | _ => .array .int
abbrev wsX40 : List Cond := u_ws RX4 TX4 22
set_option maxRecDepth 100000 in
theorem nmX4 : ∀ a, a < 22 → ∀ b, b < 22 → a ≠ b → (TX4 a).2.1 ≠ (TX4 b).2.1 := by decide +kernel
set_option maxRecDepth 100000 in
theorem tyX4_ok : ∀ k, k < 22 → parseFieldDescriptor (TX4 k).2.2.1 = some (tyX4 k) := by decide +kernel
abbrev cX4_init : ByteArray := prog_12_method_1_code
def yX4_init : MethodName := ⟨RX4, "<init>", "()V"⟩
def dkwX4_init_6 : List UInt8 := [177]
abbrev dktX4_init_6 : List UInt8 := dkwX4_init_6 ++ []
def dkwX4_init_5 : List UInt8 := [17, 0, 144, 188, 10, 181, 0, 54, 42, 16, 48, 188, 10, 181, 0, 57, 42, 16, 48, 188, 10, 181, 0, 60]
abbrev dktX4_init_5 : List UInt8 := dkwX4_init_5 ++ dktX4_init_6
def dkwX4_init_4 : List UInt8 := [188, 10, 181, 0, 45, 42, 16, 6, 188, 10, 181, 0, 48, 42, 17, 0, 144, 188, 10, 181, 0, 51, 42]
abbrev dktX4_init_4 : List UInt8 := dkwX4_init_4 ++ dktX4_init_5
def dkwX4_init_3 : List UInt8 := [188, 10, 181, 0, 36, 42, 17, 0, 144, 188, 10, 181, 0, 39, 42, 6, 188, 10, 181, 0, 42, 42, 16, 6]
abbrev dktX4_init_3 : List UInt8 := dkwX4_init_3 ++ dktX4_init_4
def dkwX4_init_2 : List UInt8 := [181, 0, 26, 42, 16, 24, 188, 4, 181, 0, 29, 42, 16, 24, 188, 10, 181, 0, 33, 42, 17, 0, 144]
abbrev dktX4_init_2 : List UInt8 := dkwX4_init_2 ++ dktX4_init_3
def dkwX4_init_1 : List UInt8 := [181, 0, 17, 42, 16, 24, 188, 10, 181, 0, 20, 42, 16, 24, 188, 10, 181, 0, 23, 42, 16, 24, 188, 10]
abbrev dktX4_init_1 : List UInt8 := dkwX4_init_1 ++ dktX4_init_2
def dkwX4_init_0 : List UInt8 := [42, 183, 0, 1, 42, 16, 7, 188, 10, 181, 0, 7, 42, 16, 50, 181, 0, 13, 42, 16, 24, 188, 10]
abbrev dktX4_init_0 : List UInt8 := dkwX4_init_0 ++ dktX4_init_1
theorem dksX4_init_0 : cX4_init.data.toList.drop 0 = dktX4_init_0 := by decide +kernel
theorem dksX4_init_1 : cX4_init.data.toList.drop 23 = dktX4_init_1 := dk_seg dksX4_init_0 23 rfl rfl
theorem dksX4_init_2 : cX4_init.data.toList.drop 47 = dktX4_init_2 := dk_seg dksX4_init_1 24 rfl rfl
theorem dksX4_init_3 : cX4_init.data.toList.drop 70 = dktX4_init_3 := dk_seg dksX4_init_2 23 rfl rfl
theorem dksX4_init_4 : cX4_init.data.toList.drop 94 = dktX4_init_4 := dk_seg dksX4_init_3 24 rfl rfl
theorem dksX4_init_5 : cX4_init.data.toList.drop 117 = dktX4_init_5 := dk_seg dksX4_init_4 23 rfl rfl
theorem dksX4_init_6 : cX4_init.data.toList.drop 141 = dktX4_init_6 := dk_seg dksX4_init_5 24 rfl rfl
theorem dX4_init_0 : decode cX4_init 0 = .ok (.aload_n 0, 1) := dk_42 (dk_at dksX4_init_0 0 rfl rfl)
theorem dX4_init_1 : decode cX4_init 1 = .ok (.invokespecial 1, 3) := dk_183 0 1 (dk_at dksX4_init_0 1 rfl rfl)
theorem dX4_init_4 : decode cX4_init 4 = .ok (.aload_n 0, 1) := dk_42 (dk_at dksX4_init_0 4 rfl rfl)
theorem dX4_init_5 : decode cX4_init 5 = .ok (.bipush 7, 2) := dk_16 7 (dk_at dksX4_init_0 5 rfl rfl)
theorem dX4_init_7 : decode cX4_init 7 = .ok (.newarray .int, 2) := dk_188_10 (dk_at dksX4_init_0 7 rfl rfl)
theorem dX4_init_9 : decode cX4_init 9 = .ok (.putfield 7, 3) := dk_181 0 7 (dk_at dksX4_init_0 9 rfl rfl)
theorem dX4_init_12 : decode cX4_init 12 = .ok (.aload_n 0, 1) := dk_42 (dk_at dksX4_init_0 12 rfl rfl)
theorem dX4_init_13 : decode cX4_init 13 = .ok (.bipush 50, 2) := dk_16 50 (dk_at dksX4_init_0 13 rfl rfl)
theorem dX4_init_15 : decode cX4_init 15 = .ok (.putfield 13, 3) := dk_181 0 13 (dk_at dksX4_init_0 15 rfl rfl)
theorem dX4_init_18 : decode cX4_init 18 = .ok (.aload_n 0, 1) := dk_42 (dk_at dksX4_init_0 18 rfl rfl)
theorem dX4_init_19 : decode cX4_init 19 = .ok (.bipush 24, 2) := dk_16 24 (dk_at dksX4_init_0 19 rfl rfl)
theorem dX4_init_21 : decode cX4_init 21 = .ok (.newarray .int, 2) := dk_188_10 (dk_at dksX4_init_0 21 rfl rfl)
theorem dX4_init_23 : decode cX4_init 23 = .ok (.putfield 17, 3) := dk_181 0 17 (dk_at dksX4_init_1 0 rfl rfl)
theorem dX4_init_26 : decode cX4_init 26 = .ok (.aload_n 0, 1) := dk_42 (dk_at dksX4_init_1 3 rfl rfl)
theorem dX4_init_27 : decode cX4_init 27 = .ok (.bipush 24, 2) := dk_16 24 (dk_at dksX4_init_1 4 rfl rfl)
theorem dX4_init_29 : decode cX4_init 29 = .ok (.newarray .int, 2) := dk_188_10 (dk_at dksX4_init_1 6 rfl rfl)
theorem dX4_init_31 : decode cX4_init 31 = .ok (.putfield 20, 3) := dk_181 0 20 (dk_at dksX4_init_1 8 rfl rfl)
theorem dX4_init_34 : decode cX4_init 34 = .ok (.aload_n 0, 1) := dk_42 (dk_at dksX4_init_1 11 rfl rfl)
theorem dX4_init_35 : decode cX4_init 35 = .ok (.bipush 24, 2) := dk_16 24 (dk_at dksX4_init_1 12 rfl rfl)
theorem dX4_init_37 : decode cX4_init 37 = .ok (.newarray .int, 2) := dk_188_10 (dk_at dksX4_init_1 14 rfl rfl)
theorem dX4_init_39 : decode cX4_init 39 = .ok (.putfield 23, 3) := dk_181 0 23 (dk_at dksX4_init_1 16 rfl rfl)
theorem dX4_init_42 : decode cX4_init 42 = .ok (.aload_n 0, 1) := dk_42 (dk_at dksX4_init_1 19 rfl rfl)
theorem dX4_init_43 : decode cX4_init 43 = .ok (.bipush 24, 2) := dk_16 24 (dk_at dksX4_init_1 20 rfl rfl)
theorem dX4_init_45 : decode cX4_init 45 = .ok (.newarray .int, 2) := dk_188_10 (dk_at dksX4_init_1 22 rfl rfl)
theorem dX4_init_47 : decode cX4_init 47 = .ok (.putfield 26, 3) := dk_181 0 26 (dk_at dksX4_init_2 0 rfl rfl)
theorem dX4_init_50 : decode cX4_init 50 = .ok (.aload_n 0, 1) := dk_42 (dk_at dksX4_init_2 3 rfl rfl)
theorem dX4_init_51 : decode cX4_init 51 = .ok (.bipush 24, 2) := dk_16 24 (dk_at dksX4_init_2 4 rfl rfl)
theorem dX4_init_53 : decode cX4_init 53 = .ok (.newarray .boolean, 2) := dk_188_4 (dk_at dksX4_init_2 6 rfl rfl)
theorem dX4_init_55 : decode cX4_init 55 = .ok (.putfield 29, 3) := dk_181 0 29 (dk_at dksX4_init_2 8 rfl rfl)
theorem dX4_init_58 : decode cX4_init 58 = .ok (.aload_n 0, 1) := dk_42 (dk_at dksX4_init_2 11 rfl rfl)
theorem dX4_init_59 : decode cX4_init 59 = .ok (.bipush 24, 2) := dk_16 24 (dk_at dksX4_init_2 12 rfl rfl)
theorem dX4_init_61 : decode cX4_init 61 = .ok (.newarray .int, 2) := dk_188_10 (dk_at dksX4_init_2 14 rfl rfl)
theorem dX4_init_63 : decode cX4_init 63 = .ok (.putfield 33, 3) := dk_181 0 33 (dk_at dksX4_init_2 16 rfl rfl)
theorem dX4_init_66 : decode cX4_init 66 = .ok (.aload_n 0, 1) := dk_42 (dk_at dksX4_init_2 19 rfl rfl)
theorem dX4_init_67 : decode cX4_init 67 = .ok (.sipush 144, 3) := dk_17 0 144 (dk_at dksX4_init_2 20 rfl rfl)
theorem dX4_init_70 : decode cX4_init 70 = .ok (.newarray .int, 2) := dk_188_10 (dk_at dksX4_init_3 0 rfl rfl)
theorem dX4_init_72 : decode cX4_init 72 = .ok (.putfield 36, 3) := dk_181 0 36 (dk_at dksX4_init_3 2 rfl rfl)
theorem dX4_init_75 : decode cX4_init 75 = .ok (.aload_n 0, 1) := dk_42 (dk_at dksX4_init_3 5 rfl rfl)
theorem dX4_init_76 : decode cX4_init 76 = .ok (.sipush 144, 3) := dk_17 0 144 (dk_at dksX4_init_3 6 rfl rfl)
theorem dX4_init_79 : decode cX4_init 79 = .ok (.newarray .int, 2) := dk_188_10 (dk_at dksX4_init_3 9 rfl rfl)
theorem dX4_init_81 : decode cX4_init 81 = .ok (.putfield 39, 3) := dk_181 0 39 (dk_at dksX4_init_3 11 rfl rfl)
theorem dX4_init_84 : decode cX4_init 84 = .ok (.aload_n 0, 1) := dk_42 (dk_at dksX4_init_3 14 rfl rfl)
theorem dX4_init_85 : decode cX4_init 85 = .ok (.iconst 3, 1) := dk_6 (dk_at dksX4_init_3 15 rfl rfl)
theorem dX4_init_86 : decode cX4_init 86 = .ok (.newarray .int, 2) := dk_188_10 (dk_at dksX4_init_3 16 rfl rfl)
theorem dX4_init_88 : decode cX4_init 88 = .ok (.putfield 42, 3) := dk_181 0 42 (dk_at dksX4_init_3 18 rfl rfl)
theorem dX4_init_91 : decode cX4_init 91 = .ok (.aload_n 0, 1) := dk_42 (dk_at dksX4_init_3 21 rfl rfl)
theorem dX4_init_92 : decode cX4_init 92 = .ok (.bipush 6, 2) := dk_16 6 (dk_at dksX4_init_3 22 rfl rfl)
theorem dX4_init_94 : decode cX4_init 94 = .ok (.newarray .int, 2) := dk_188_10 (dk_at dksX4_init_4 0 rfl rfl)
theorem dX4_init_96 : decode cX4_init 96 = .ok (.putfield 45, 3) := dk_181 0 45 (dk_at dksX4_init_4 2 rfl rfl)
theorem dX4_init_99 : decode cX4_init 99 = .ok (.aload_n 0, 1) := dk_42 (dk_at dksX4_init_4 5 rfl rfl)
theorem dX4_init_100 : decode cX4_init 100 = .ok (.bipush 6, 2) := dk_16 6 (dk_at dksX4_init_4 6 rfl rfl)
theorem dX4_init_102 : decode cX4_init 102 = .ok (.newarray .int, 2) := dk_188_10 (dk_at dksX4_init_4 8 rfl rfl)
theorem dX4_init_104 : decode cX4_init 104 = .ok (.putfield 48, 3) := dk_181 0 48 (dk_at dksX4_init_4 10 rfl rfl)
theorem dX4_init_107 : decode cX4_init 107 = .ok (.aload_n 0, 1) := dk_42 (dk_at dksX4_init_4 13 rfl rfl)
theorem dX4_init_108 : decode cX4_init 108 = .ok (.sipush 144, 3) := dk_17 0 144 (dk_at dksX4_init_4 14 rfl rfl)
theorem dX4_init_111 : decode cX4_init 111 = .ok (.newarray .int, 2) := dk_188_10 (dk_at dksX4_init_4 17 rfl rfl)
theorem dX4_init_113 : decode cX4_init 113 = .ok (.putfield 51, 3) := dk_181 0 51 (dk_at dksX4_init_4 19 rfl rfl)
theorem dX4_init_116 : decode cX4_init 116 = .ok (.aload_n 0, 1) := dk_42 (dk_at dksX4_init_4 22 rfl rfl)
theorem dX4_init_117 : decode cX4_init 117 = .ok (.sipush 144, 3) := dk_17 0 144 (dk_at dksX4_init_5 0 rfl rfl)
theorem dX4_init_120 : decode cX4_init 120 = .ok (.newarray .int, 2) := dk_188_10 (dk_at dksX4_init_5 3 rfl rfl)
theorem dX4_init_122 : decode cX4_init 122 = .ok (.putfield 54, 3) := dk_181 0 54 (dk_at dksX4_init_5 5 rfl rfl)
theorem dX4_init_125 : decode cX4_init 125 = .ok (.aload_n 0, 1) := dk_42 (dk_at dksX4_init_5 8 rfl rfl)
theorem dX4_init_126 : decode cX4_init 126 = .ok (.bipush 48, 2) := dk_16 48 (dk_at dksX4_init_5 9 rfl rfl)
theorem dX4_init_128 : decode cX4_init 128 = .ok (.newarray .int, 2) := dk_188_10 (dk_at dksX4_init_5 11 rfl rfl)
theorem dX4_init_130 : decode cX4_init 130 = .ok (.putfield 57, 3) := dk_181 0 57 (dk_at dksX4_init_5 13 rfl rfl)
theorem dX4_init_133 : decode cX4_init 133 = .ok (.aload_n 0, 1) := dk_42 (dk_at dksX4_init_5 16 rfl rfl)
theorem dX4_init_134 : decode cX4_init 134 = .ok (.bipush 48, 2) := dk_16 48 (dk_at dksX4_init_5 17 rfl rfl)
theorem dX4_init_136 : decode cX4_init 136 = .ok (.newarray .int, 2) := dk_188_10 (dk_at dksX4_init_5 19 rfl rfl)
theorem dX4_init_138 : decode cX4_init 138 = .ok (.putfield 60, 3) := dk_181 0 60 (dk_at dksX4_init_5 21 rfl rfl)
theorem dX4_init_141 : decode cX4_init 141 = .ok (.return_, 1) := dk_177 (dk_at dksX4_init_6 0 rfl rfl)
abbrev cX4_thrown : ByteArray := prog_12_method_2_code
def yX4_thrown : MethodName := ⟨RX4, "thrown", "()I"⟩
theorem dX4_thrown_0 : decode cX4_thrown 0 = .ok (.aload_n 0, 1) := by decide +kernel
theorem dX4_thrown_1 : decode cX4_thrown 1 = .ok (.getfield 63, 3) := by decide +kernel
theorem dX4_thrown_4 : decode cX4_thrown 4 = .ok (.ireturn, 1) := by decide +kernel
abbrev cX4_setCurve : ByteArray := prog_12_method_8_code
def yX4_setCurve : MethodName := ⟨RX4, "setCurve", "(II)I"⟩
def dkwX4_setCurve_2 : List UInt8 := [180, 0, 7, 27, 28, 79, 29, 172]
abbrev dktX4_setCurve_2 : List UInt8 := dkwX4_setCurve_2 ++ []
def dkwX4_setCurve_1 : List UInt8 := [17, 19, 136, 184, 0, 69, 154, 0, 9, 42, 5, 182, 0, 76, 172, 42, 180, 0, 7, 27, 46, 62, 42]
abbrev dktX4_setCurve_1 : List UInt8 := dkwX4_setCurve_1 ++ dktX4_setCurve_2
def dkwX4_setCurve_0 : List UInt8 := [42, 3, 181, 0, 63, 27, 4, 16, 6, 184, 0, 69, 154, 0, 9, 42, 4, 182, 0, 76, 172, 28, 3]
abbrev dktX4_setCurve_0 : List UInt8 := dkwX4_setCurve_0 ++ dktX4_setCurve_1
theorem dksX4_setCurve_0 : cX4_setCurve.data.toList.drop 0 = dktX4_setCurve_0 := by decide +kernel
theorem dksX4_setCurve_1 : cX4_setCurve.data.toList.drop 23 = dktX4_setCurve_1 := dk_seg dksX4_setCurve_0 23 rfl rfl
theorem dksX4_setCurve_2 : cX4_setCurve.data.toList.drop 46 = dktX4_setCurve_2 := dk_seg dksX4_setCurve_1 23 rfl rfl
theorem dX4_setCurve_0 : decode cX4_setCurve 0 = .ok (.aload_n 0, 1) := dk_42 (dk_at dksX4_setCurve_0 0 rfl rfl)
theorem dX4_setCurve_1 : decode cX4_setCurve 1 = .ok (.iconst 0, 1) := dk_3 (dk_at dksX4_setCurve_0 1 rfl rfl)
theorem dX4_setCurve_2 : decode cX4_setCurve 2 = .ok (.putfield 63, 3) := dk_181 0 63 (dk_at dksX4_setCurve_0 2 rfl rfl)
theorem dX4_setCurve_5 : decode cX4_setCurve 5 = .ok (.iload_n 1, 1) := dk_27 (dk_at dksX4_setCurve_0 5 rfl rfl)
theorem dX4_setCurve_6 : decode cX4_setCurve 6 = .ok (.iconst 1, 1) := dk_4 (dk_at dksX4_setCurve_0 6 rfl rfl)
theorem dX4_setCurve_7 : decode cX4_setCurve 7 = .ok (.bipush 6, 2) := dk_16 6 (dk_at dksX4_setCurve_0 7 rfl rfl)
theorem dX4_setCurve_9 : decode cX4_setCurve 9 = .ok (.invokestatic 69, 3) := dk_184 0 69 (dk_at dksX4_setCurve_0 9 rfl rfl)
theorem dX4_setCurve_12 : decode cX4_setCurve 12 = .ok (.ifCond .ne 9, 3) := dk_154 0 9 (dk_at dksX4_setCurve_0 12 rfl rfl)
theorem dX4_setCurve_15 : decode cX4_setCurve 15 = .ok (.aload_n 0, 1) := dk_42 (dk_at dksX4_setCurve_0 15 rfl rfl)
theorem dX4_setCurve_16 : decode cX4_setCurve 16 = .ok (.iconst 1, 1) := dk_4 (dk_at dksX4_setCurve_0 16 rfl rfl)
theorem dX4_setCurve_17 : decode cX4_setCurve 17 = .ok (.invokevirtual 76, 3) := dk_182 0 76 (dk_at dksX4_setCurve_0 17 rfl rfl)
theorem dX4_setCurve_20 : decode cX4_setCurve 20 = .ok (.ireturn, 1) := dk_172 (dk_at dksX4_setCurve_0 20 rfl rfl)
theorem dX4_setCurve_21 : decode cX4_setCurve 21 = .ok (.iload_n 2, 1) := dk_28 (dk_at dksX4_setCurve_0 21 rfl rfl)
theorem dX4_setCurve_22 : decode cX4_setCurve 22 = .ok (.iconst 0, 1) := dk_3 (dk_at dksX4_setCurve_0 22 rfl rfl)
theorem dX4_setCurve_23 : decode cX4_setCurve 23 = .ok (.sipush 5000, 3) := dk_17 19 136 (dk_at dksX4_setCurve_1 0 rfl rfl)
theorem dX4_setCurve_26 : decode cX4_setCurve 26 = .ok (.invokestatic 69, 3) := dk_184 0 69 (dk_at dksX4_setCurve_1 3 rfl rfl)
theorem dX4_setCurve_29 : decode cX4_setCurve 29 = .ok (.ifCond .ne 9, 3) := dk_154 0 9 (dk_at dksX4_setCurve_1 6 rfl rfl)
theorem dX4_setCurve_32 : decode cX4_setCurve 32 = .ok (.aload_n 0, 1) := dk_42 (dk_at dksX4_setCurve_1 9 rfl rfl)
theorem dX4_setCurve_33 : decode cX4_setCurve 33 = .ok (.iconst 2, 1) := dk_5 (dk_at dksX4_setCurve_1 10 rfl rfl)
theorem dX4_setCurve_34 : decode cX4_setCurve 34 = .ok (.invokevirtual 76, 3) := dk_182 0 76 (dk_at dksX4_setCurve_1 11 rfl rfl)
theorem dX4_setCurve_37 : decode cX4_setCurve 37 = .ok (.ireturn, 1) := dk_172 (dk_at dksX4_setCurve_1 14 rfl rfl)
theorem dX4_setCurve_38 : decode cX4_setCurve 38 = .ok (.aload_n 0, 1) := dk_42 (dk_at dksX4_setCurve_1 15 rfl rfl)
theorem dX4_setCurve_39 : decode cX4_setCurve 39 = .ok (.getfield 7, 3) := dk_180 0 7 (dk_at dksX4_setCurve_1 16 rfl rfl)
theorem dX4_setCurve_42 : decode cX4_setCurve 42 = .ok (.iload_n 1, 1) := dk_27 (dk_at dksX4_setCurve_1 19 rfl rfl)
theorem dX4_setCurve_43 : decode cX4_setCurve 43 = .ok (.iaload, 1) := dk_46 (dk_at dksX4_setCurve_1 20 rfl rfl)
theorem dX4_setCurve_44 : decode cX4_setCurve 44 = .ok (.istore_n 3, 1) := dk_62 (dk_at dksX4_setCurve_1 21 rfl rfl)
theorem dX4_setCurve_45 : decode cX4_setCurve 45 = .ok (.aload_n 0, 1) := dk_42 (dk_at dksX4_setCurve_1 22 rfl rfl)
theorem dX4_setCurve_46 : decode cX4_setCurve 46 = .ok (.getfield 7, 3) := dk_180 0 7 (dk_at dksX4_setCurve_2 0 rfl rfl)
theorem dX4_setCurve_49 : decode cX4_setCurve 49 = .ok (.iload_n 1, 1) := dk_27 (dk_at dksX4_setCurve_2 3 rfl rfl)
theorem dX4_setCurve_50 : decode cX4_setCurve 50 = .ok (.iload_n 2, 1) := dk_28 (dk_at dksX4_setCurve_2 4 rfl rfl)
theorem dX4_setCurve_51 : decode cX4_setCurve 51 = .ok (.iastore, 1) := dk_79 (dk_at dksX4_setCurve_2 5 rfl rfl)
theorem dX4_setCurve_52 : decode cX4_setCurve 52 = .ok (.iload_n 3, 1) := dk_29 (dk_at dksX4_setCurve_2 6 rfl rfl)
theorem dX4_setCurve_53 : decode cX4_setCurve 53 = .ok (.ireturn, 1) := dk_172 (dk_at dksX4_setCurve_2 7 rfl rfl)
abbrev cX4_in : ByteArray := prog_12_method_4_code
def yX4_in : MethodName := ⟨RX4, "in", "(III)Z"⟩
def dkwX4_in_0 : List UInt8 := [26, 27, 161, 0, 12, 26, 28, 163, 0, 7, 4, 167, 0, 4, 3, 172]
abbrev dktX4_in_0 : List UInt8 := dkwX4_in_0 ++ []
theorem dksX4_in_0 : cX4_in.data.toList.drop 0 = dktX4_in_0 := by decide +kernel
theorem dX4_in_0 : decode cX4_in 0 = .ok (.iload_n 0, 1) := dk_26 (dk_at dksX4_in_0 0 rfl rfl)
theorem dX4_in_1 : decode cX4_in 1 = .ok (.iload_n 1, 1) := dk_27 (dk_at dksX4_in_0 1 rfl rfl)
theorem dX4_in_2 : decode cX4_in 2 = .ok (.if_icmp .lt 12, 3) := dk_161 0 12 (dk_at dksX4_in_0 2 rfl rfl)
theorem dX4_in_5 : decode cX4_in 5 = .ok (.iload_n 0, 1) := dk_26 (dk_at dksX4_in_0 5 rfl rfl)
theorem dX4_in_6 : decode cX4_in 6 = .ok (.iload_n 2, 1) := dk_28 (dk_at dksX4_in_0 6 rfl rfl)
theorem dX4_in_7 : decode cX4_in 7 = .ok (.if_icmp .gt 7, 3) := dk_163 0 7 (dk_at dksX4_in_0 7 rfl rfl)
theorem dX4_in_10 : decode cX4_in 10 = .ok (.iconst 1, 1) := dk_4 (dk_at dksX4_in_0 10 rfl rfl)
theorem dX4_in_11 : decode cX4_in 11 = .ok (.goto 4, 3) := dk_167 0 4 (dk_at dksX4_in_0 11 rfl rfl)
theorem dX4_in_14 : decode cX4_in 14 = .ok (.iconst 0, 1) := dk_3 (dk_at dksX4_in_0 14 rfl rfl)
theorem dX4_in_15 : decode cX4_in 15 = .ok (.ireturn, 1) := dk_172 (dk_at dksX4_in_0 15 rfl rfl)
abbrev cX4_fails : ByteArray := prog_12_method_3_code
def yX4_fails : MethodName := ⟨RX4, "fails", "(I)I"⟩
def dkwX4_fails_0 : List UInt8 := [42, 27, 181, 0, 63, 3, 172]
abbrev dktX4_fails_0 : List UInt8 := dkwX4_fails_0 ++ []
theorem dksX4_fails_0 : cX4_fails.data.toList.drop 0 = dktX4_fails_0 := by decide +kernel
theorem dX4_fails_0 : decode cX4_fails 0 = .ok (.aload_n 0, 1) := dk_42 (dk_at dksX4_fails_0 0 rfl rfl)
theorem dX4_fails_1 : decode cX4_fails 1 = .ok (.iload_n 1, 1) := dk_27 (dk_at dksX4_fails_0 1 rfl rfl)
theorem dX4_fails_2 : decode cX4_fails 2 = .ok (.putfield 63, 3) := dk_181 0 63 (dk_at dksX4_fails_0 2 rfl rfl)
theorem dX4_fails_5 : decode cX4_fails 5 = .ok (.iconst 0, 1) := dk_3 (dk_at dksX4_fails_0 5 rfl rfl)
theorem dX4_fails_6 : decode cX4_fails 6 = .ok (.ireturn, 1) := dk_172 (dk_at dksX4_fails_0 6 rfl rfl)
abbrev cX4_setRates : ByteArray := prog_12_method_9_code
def yX4_setRates : MethodName := ⟨RX4, "setRates", "(III)V"⟩
def dkwX4_setRates_2 : List UInt8 := [42, 27, 181, 0, 80, 42, 28, 181, 0, 83, 42, 29, 181, 0, 13, 177]
abbrev dktX4_setRates_2 : List UInt8 := dkwX4_setRates_2 ++ []
def dkwX4_setRates_1 : List UInt8 := [3, 16, 100, 184, 0, 69, 153, 0, 7, 3, 167, 0, 4, 4, 181, 0, 63, 42, 180, 0, 63, 154, 0, 18]
abbrev dktX4_setRates_1 : List UInt8 := dkwX4_setRates_1 ++ dktX4_setRates_2
def dkwX4_setRates_0 : List UInt8 := [42, 27, 3, 17, 19, 136, 184, 0, 69, 153, 0, 28, 28, 3, 17, 19, 136, 184, 0, 69, 153, 0, 17, 29]
abbrev dktX4_setRates_0 : List UInt8 := dkwX4_setRates_0 ++ dktX4_setRates_1
theorem dksX4_setRates_0 : cX4_setRates.data.toList.drop 0 = dktX4_setRates_0 := by decide +kernel
theorem dksX4_setRates_1 : cX4_setRates.data.toList.drop 24 = dktX4_setRates_1 := dk_seg dksX4_setRates_0 24 rfl rfl
theorem dksX4_setRates_2 : cX4_setRates.data.toList.drop 48 = dktX4_setRates_2 := dk_seg dksX4_setRates_1 24 rfl rfl
theorem dX4_setRates_0 : decode cX4_setRates 0 = .ok (.aload_n 0, 1) := dk_42 (dk_at dksX4_setRates_0 0 rfl rfl)
theorem dX4_setRates_1 : decode cX4_setRates 1 = .ok (.iload_n 1, 1) := dk_27 (dk_at dksX4_setRates_0 1 rfl rfl)
theorem dX4_setRates_2 : decode cX4_setRates 2 = .ok (.iconst 0, 1) := dk_3 (dk_at dksX4_setRates_0 2 rfl rfl)
theorem dX4_setRates_3 : decode cX4_setRates 3 = .ok (.sipush 5000, 3) := dk_17 19 136 (dk_at dksX4_setRates_0 3 rfl rfl)
theorem dX4_setRates_6 : decode cX4_setRates 6 = .ok (.invokestatic 69, 3) := dk_184 0 69 (dk_at dksX4_setRates_0 6 rfl rfl)
theorem dX4_setRates_9 : decode cX4_setRates 9 = .ok (.ifCond .eq 28, 3) := dk_153 0 28 (dk_at dksX4_setRates_0 9 rfl rfl)
theorem dX4_setRates_12 : decode cX4_setRates 12 = .ok (.iload_n 2, 1) := dk_28 (dk_at dksX4_setRates_0 12 rfl rfl)
theorem dX4_setRates_13 : decode cX4_setRates 13 = .ok (.iconst 0, 1) := dk_3 (dk_at dksX4_setRates_0 13 rfl rfl)
theorem dX4_setRates_14 : decode cX4_setRates 14 = .ok (.sipush 5000, 3) := dk_17 19 136 (dk_at dksX4_setRates_0 14 rfl rfl)
theorem dX4_setRates_17 : decode cX4_setRates 17 = .ok (.invokestatic 69, 3) := dk_184 0 69 (dk_at dksX4_setRates_0 17 rfl rfl)
theorem dX4_setRates_20 : decode cX4_setRates 20 = .ok (.ifCond .eq 17, 3) := dk_153 0 17 (dk_at dksX4_setRates_0 20 rfl rfl)
theorem dX4_setRates_23 : decode cX4_setRates 23 = .ok (.iload_n 3, 1) := dk_29 (dk_at dksX4_setRates_0 23 rfl rfl)
theorem dX4_setRates_24 : decode cX4_setRates 24 = .ok (.iconst 0, 1) := dk_3 (dk_at dksX4_setRates_1 0 rfl rfl)
theorem dX4_setRates_25 : decode cX4_setRates 25 = .ok (.bipush 100, 2) := dk_16 100 (dk_at dksX4_setRates_1 1 rfl rfl)
theorem dX4_setRates_27 : decode cX4_setRates 27 = .ok (.invokestatic 69, 3) := dk_184 0 69 (dk_at dksX4_setRates_1 3 rfl rfl)
theorem dX4_setRates_30 : decode cX4_setRates 30 = .ok (.ifCond .eq 7, 3) := dk_153 0 7 (dk_at dksX4_setRates_1 6 rfl rfl)
theorem dX4_setRates_33 : decode cX4_setRates 33 = .ok (.iconst 0, 1) := dk_3 (dk_at dksX4_setRates_1 9 rfl rfl)
theorem dX4_setRates_34 : decode cX4_setRates 34 = .ok (.goto 4, 3) := dk_167 0 4 (dk_at dksX4_setRates_1 10 rfl rfl)
theorem dX4_setRates_37 : decode cX4_setRates 37 = .ok (.iconst 1, 1) := dk_4 (dk_at dksX4_setRates_1 13 rfl rfl)
theorem dX4_setRates_38 : decode cX4_setRates 38 = .ok (.putfield 63, 3) := dk_181 0 63 (dk_at dksX4_setRates_1 14 rfl rfl)
theorem dX4_setRates_41 : decode cX4_setRates 41 = .ok (.aload_n 0, 1) := dk_42 (dk_at dksX4_setRates_1 17 rfl rfl)
theorem dX4_setRates_42 : decode cX4_setRates 42 = .ok (.getfield 63, 3) := dk_180 0 63 (dk_at dksX4_setRates_1 18 rfl rfl)
theorem dX4_setRates_45 : decode cX4_setRates 45 = .ok (.ifCond .ne 18, 3) := dk_154 0 18 (dk_at dksX4_setRates_1 21 rfl rfl)
theorem dX4_setRates_48 : decode cX4_setRates 48 = .ok (.aload_n 0, 1) := dk_42 (dk_at dksX4_setRates_2 0 rfl rfl)
theorem dX4_setRates_49 : decode cX4_setRates 49 = .ok (.iload_n 1, 1) := dk_27 (dk_at dksX4_setRates_2 1 rfl rfl)
theorem dX4_setRates_50 : decode cX4_setRates 50 = .ok (.putfield 80, 3) := dk_181 0 80 (dk_at dksX4_setRates_2 2 rfl rfl)
theorem dX4_setRates_53 : decode cX4_setRates 53 = .ok (.aload_n 0, 1) := dk_42 (dk_at dksX4_setRates_2 5 rfl rfl)
theorem dX4_setRates_54 : decode cX4_setRates 54 = .ok (.iload_n 2, 1) := dk_28 (dk_at dksX4_setRates_2 6 rfl rfl)
theorem dX4_setRates_55 : decode cX4_setRates 55 = .ok (.putfield 83, 3) := dk_181 0 83 (dk_at dksX4_setRates_2 7 rfl rfl)
theorem dX4_setRates_58 : decode cX4_setRates 58 = .ok (.aload_n 0, 1) := dk_42 (dk_at dksX4_setRates_2 10 rfl rfl)
theorem dX4_setRates_59 : decode cX4_setRates 59 = .ok (.iload_n 3, 1) := dk_29 (dk_at dksX4_setRates_2 11 rfl rfl)
theorem dX4_setRates_60 : decode cX4_setRates 60 = .ok (.putfield 13, 3) := dk_181 0 13 (dk_at dksX4_setRates_2 12 rfl rfl)
theorem dX4_setRates_63 : decode cX4_setRates 63 = .ok (.return_, 1) := dk_177 (dk_at dksX4_setRates_2 15 rfl rfl)
abbrev cX4_lend : ByteArray := prog_12_method_12_code
def yX4_lend : MethodName := ⟨RX4, "lend", "(IIIIIZ)I"⟩
def dkwX4_lend_10 : List UInt8 := [89, 180, 0, 66, 4, 96, 181, 0, 66, 42, 180, 0, 66, 4, 100, 172]
abbrev dktX4_lend_10 : List UInt8 := dkwX4_lend_10 ++ []
def dkwX4_lend_9 : List UInt8 := [180, 0, 66, 104, 21, 7, 96, 42, 180, 0, 7, 21, 7, 4, 96, 46, 79, 132, 7, 1, 167, 255, 180, 42]
abbrev dktX4_lend_9 : List UInt8 := dkwX4_lend_9 ++ dktX4_lend_10
def dkwX4_lend_8 : List UInt8 := [167, 0, 14, 29, 29, 21, 5, 108, 21, 5, 4, 100, 104, 100, 79, 42, 180, 0, 39, 16, 6, 42]
abbrev dktX4_lend_8 : List UInt8 := dkwX4_lend_8 ++ dktX4_lend_9
def dkwX4_lend_7 : List UInt8 := [16, 6, 42, 180, 0, 66, 104, 21, 7, 96, 21, 7, 21, 5, 4, 100, 162, 0, 10, 29, 21, 5, 108]
abbrev dktX4_lend_7 : List UInt8 := dkwX4_lend_7 ++ dktX4_lend_8
def dkwX4_lend_6 : List UInt8 := [42, 180, 0, 66, 42, 180, 0, 73, 79, 3, 54, 7, 21, 7, 21, 5, 162, 0, 75, 42, 180, 0, 36]
abbrev dktX4_lend_6 : List UInt8 := dkwX4_lend_6 ++ dktX4_lend_7
def dkwX4_lend_5 : List UInt8 := [42, 180, 0, 66, 42, 180, 0, 83, 79, 42, 180, 0, 29, 42, 180, 0, 66, 21, 6, 84, 42, 180, 0, 33]
abbrev dktX4_lend_5 : List UInt8 := dkwX4_lend_5 ++ dktX4_lend_6
def dkwX4_lend_4 : List UInt8 := [180, 0, 20, 42, 180, 0, 66, 28, 79, 42, 180, 0, 23, 42, 180, 0, 66, 21, 4, 79, 42, 180, 0, 26]
abbrev dktX4_lend_4 : List UInt8 := dkwX4_lend_4 ++ dktX4_lend_5
def dkwX4_lend_3 : List UInt8 := [16, 24, 160, 0, 9, 42, 6, 182, 0, 76, 172, 42, 180, 0, 17, 42, 180, 0, 66, 27, 79, 42]
abbrev dktX4_lend_3 : List UInt8 := dkwX4_lend_3 ++ dktX4_lend_4
def dkwX4_lend_2 : List UInt8 := [153, 0, 14, 21, 5, 4, 16, 6, 184, 0, 69, 154, 0, 9, 42, 5, 182, 0, 76, 172, 42, 180, 0, 66]
abbrev dktX4_lend_2 : List UInt8 := dkwX4_lend_2 ++ dktX4_lend_3
def dkwX4_lend_1 : List UInt8 := [182, 0, 76, 172, 29, 4, 18, 95, 184, 0, 69, 153, 0, 26, 21, 4, 3, 17, 19, 136, 184, 0, 69]
abbrev dktX4_lend_1 : List UInt8 := dkwX4_lend_1 ++ dktX4_lend_2
def dkwX4_lend_0 : List UInt8 := [42, 3, 181, 0, 63, 27, 184, 0, 91, 153, 0, 12, 28, 3, 5, 184, 0, 69, 154, 0, 9, 42, 4]
abbrev dktX4_lend_0 : List UInt8 := dkwX4_lend_0 ++ dktX4_lend_1
theorem dksX4_lend_0 : cX4_lend.data.toList.drop 0 = dktX4_lend_0 := by decide +kernel
theorem dksX4_lend_1 : cX4_lend.data.toList.drop 23 = dktX4_lend_1 := dk_seg dksX4_lend_0 23 rfl rfl
theorem dksX4_lend_2 : cX4_lend.data.toList.drop 46 = dktX4_lend_2 := dk_seg dksX4_lend_1 23 rfl rfl
theorem dksX4_lend_3 : cX4_lend.data.toList.drop 70 = dktX4_lend_3 := dk_seg dksX4_lend_2 24 rfl rfl
theorem dksX4_lend_4 : cX4_lend.data.toList.drop 92 = dktX4_lend_4 := dk_seg dksX4_lend_3 22 rfl rfl
theorem dksX4_lend_5 : cX4_lend.data.toList.drop 116 = dktX4_lend_5 := dk_seg dksX4_lend_4 24 rfl rfl
theorem dksX4_lend_6 : cX4_lend.data.toList.drop 140 = dktX4_lend_6 := dk_seg dksX4_lend_5 24 rfl rfl
theorem dksX4_lend_7 : cX4_lend.data.toList.drop 163 = dktX4_lend_7 := dk_seg dksX4_lend_6 23 rfl rfl
theorem dksX4_lend_8 : cX4_lend.data.toList.drop 186 = dktX4_lend_8 := dk_seg dksX4_lend_7 23 rfl rfl
theorem dksX4_lend_9 : cX4_lend.data.toList.drop 208 = dktX4_lend_9 := dk_seg dksX4_lend_8 22 rfl rfl
theorem dksX4_lend_10 : cX4_lend.data.toList.drop 232 = dktX4_lend_10 := dk_seg dksX4_lend_9 24 rfl rfl
theorem dX4_lend_0 : decode cX4_lend 0 = .ok (.aload_n 0, 1) := dk_42 (dk_at dksX4_lend_0 0 rfl rfl)
theorem dX4_lend_1 : decode cX4_lend 1 = .ok (.iconst 0, 1) := dk_3 (dk_at dksX4_lend_0 1 rfl rfl)
theorem dX4_lend_2 : decode cX4_lend 2 = .ok (.putfield 63, 3) := dk_181 0 63 (dk_at dksX4_lend_0 2 rfl rfl)
theorem dX4_lend_5 : decode cX4_lend 5 = .ok (.iload_n 1, 1) := dk_27 (dk_at dksX4_lend_0 5 rfl rfl)
theorem dX4_lend_6 : decode cX4_lend 6 = .ok (.invokestatic 91, 3) := dk_184 0 91 (dk_at dksX4_lend_0 6 rfl rfl)
theorem dX4_lend_9 : decode cX4_lend 9 = .ok (.ifCond .eq 12, 3) := dk_153 0 12 (dk_at dksX4_lend_0 9 rfl rfl)
theorem dX4_lend_12 : decode cX4_lend 12 = .ok (.iload_n 2, 1) := dk_28 (dk_at dksX4_lend_0 12 rfl rfl)
theorem dX4_lend_13 : decode cX4_lend 13 = .ok (.iconst 0, 1) := dk_3 (dk_at dksX4_lend_0 13 rfl rfl)
theorem dX4_lend_14 : decode cX4_lend 14 = .ok (.iconst 2, 1) := dk_5 (dk_at dksX4_lend_0 14 rfl rfl)
theorem dX4_lend_15 : decode cX4_lend 15 = .ok (.invokestatic 69, 3) := dk_184 0 69 (dk_at dksX4_lend_0 15 rfl rfl)
theorem dX4_lend_18 : decode cX4_lend 18 = .ok (.ifCond .ne 9, 3) := dk_154 0 9 (dk_at dksX4_lend_0 18 rfl rfl)
theorem dX4_lend_21 : decode cX4_lend 21 = .ok (.aload_n 0, 1) := dk_42 (dk_at dksX4_lend_0 21 rfl rfl)
theorem dX4_lend_22 : decode cX4_lend 22 = .ok (.iconst 1, 1) := dk_4 (dk_at dksX4_lend_0 22 rfl rfl)
theorem dX4_lend_23 : decode cX4_lend 23 = .ok (.invokevirtual 76, 3) := dk_182 0 76 (dk_at dksX4_lend_1 0 rfl rfl)
theorem dX4_lend_26 : decode cX4_lend 26 = .ok (.ireturn, 1) := dk_172 (dk_at dksX4_lend_1 3 rfl rfl)
theorem dX4_lend_27 : decode cX4_lend 27 = .ok (.iload_n 3, 1) := dk_29 (dk_at dksX4_lend_1 4 rfl rfl)
theorem dX4_lend_28 : decode cX4_lend 28 = .ok (.iconst 1, 1) := dk_4 (dk_at dksX4_lend_1 5 rfl rfl)
theorem dX4_lend_29 : decode cX4_lend 29 = .ok (.ldc 95, 2) := dk_18 95 (dk_at dksX4_lend_1 6 rfl rfl)
theorem dX4_lend_31 : decode cX4_lend 31 = .ok (.invokestatic 69, 3) := dk_184 0 69 (dk_at dksX4_lend_1 8 rfl rfl)
theorem dX4_lend_34 : decode cX4_lend 34 = .ok (.ifCond .eq 26, 3) := dk_153 0 26 (dk_at dksX4_lend_1 11 rfl rfl)
theorem dX4_lend_37 : decode cX4_lend 37 = .ok (.iload 4, 2) := dk_21 4 (dk_at dksX4_lend_1 14 rfl rfl)
theorem dX4_lend_39 : decode cX4_lend 39 = .ok (.iconst 0, 1) := dk_3 (dk_at dksX4_lend_1 16 rfl rfl)
theorem dX4_lend_40 : decode cX4_lend 40 = .ok (.sipush 5000, 3) := dk_17 19 136 (dk_at dksX4_lend_1 17 rfl rfl)
theorem dX4_lend_43 : decode cX4_lend 43 = .ok (.invokestatic 69, 3) := dk_184 0 69 (dk_at dksX4_lend_1 20 rfl rfl)
theorem dX4_lend_46 : decode cX4_lend 46 = .ok (.ifCond .eq 14, 3) := dk_153 0 14 (dk_at dksX4_lend_2 0 rfl rfl)
theorem dX4_lend_49 : decode cX4_lend 49 = .ok (.iload 5, 2) := dk_21 5 (dk_at dksX4_lend_2 3 rfl rfl)
theorem dX4_lend_51 : decode cX4_lend 51 = .ok (.iconst 1, 1) := dk_4 (dk_at dksX4_lend_2 5 rfl rfl)
theorem dX4_lend_52 : decode cX4_lend 52 = .ok (.bipush 6, 2) := dk_16 6 (dk_at dksX4_lend_2 6 rfl rfl)
theorem dX4_lend_54 : decode cX4_lend 54 = .ok (.invokestatic 69, 3) := dk_184 0 69 (dk_at dksX4_lend_2 8 rfl rfl)
theorem dX4_lend_57 : decode cX4_lend 57 = .ok (.ifCond .ne 9, 3) := dk_154 0 9 (dk_at dksX4_lend_2 11 rfl rfl)
theorem dX4_lend_60 : decode cX4_lend 60 = .ok (.aload_n 0, 1) := dk_42 (dk_at dksX4_lend_2 14 rfl rfl)
theorem dX4_lend_61 : decode cX4_lend 61 = .ok (.iconst 2, 1) := dk_5 (dk_at dksX4_lend_2 15 rfl rfl)
theorem dX4_lend_62 : decode cX4_lend 62 = .ok (.invokevirtual 76, 3) := dk_182 0 76 (dk_at dksX4_lend_2 16 rfl rfl)
theorem dX4_lend_65 : decode cX4_lend 65 = .ok (.ireturn, 1) := dk_172 (dk_at dksX4_lend_2 19 rfl rfl)
theorem dX4_lend_66 : decode cX4_lend 66 = .ok (.aload_n 0, 1) := dk_42 (dk_at dksX4_lend_2 20 rfl rfl)
theorem dX4_lend_67 : decode cX4_lend 67 = .ok (.getfield 66, 3) := dk_180 0 66 (dk_at dksX4_lend_2 21 rfl rfl)
theorem dX4_lend_70 : decode cX4_lend 70 = .ok (.bipush 24, 2) := dk_16 24 (dk_at dksX4_lend_3 0 rfl rfl)
theorem dX4_lend_72 : decode cX4_lend 72 = .ok (.if_icmp .ne 9, 3) := dk_160 0 9 (dk_at dksX4_lend_3 2 rfl rfl)
theorem dX4_lend_75 : decode cX4_lend 75 = .ok (.aload_n 0, 1) := dk_42 (dk_at dksX4_lend_3 5 rfl rfl)
theorem dX4_lend_76 : decode cX4_lend 76 = .ok (.iconst 3, 1) := dk_6 (dk_at dksX4_lend_3 6 rfl rfl)
theorem dX4_lend_77 : decode cX4_lend 77 = .ok (.invokevirtual 76, 3) := dk_182 0 76 (dk_at dksX4_lend_3 7 rfl rfl)
theorem dX4_lend_80 : decode cX4_lend 80 = .ok (.ireturn, 1) := dk_172 (dk_at dksX4_lend_3 10 rfl rfl)
theorem dX4_lend_81 : decode cX4_lend 81 = .ok (.aload_n 0, 1) := dk_42 (dk_at dksX4_lend_3 11 rfl rfl)
theorem dX4_lend_82 : decode cX4_lend 82 = .ok (.getfield 17, 3) := dk_180 0 17 (dk_at dksX4_lend_3 12 rfl rfl)
theorem dX4_lend_85 : decode cX4_lend 85 = .ok (.aload_n 0, 1) := dk_42 (dk_at dksX4_lend_3 15 rfl rfl)
theorem dX4_lend_86 : decode cX4_lend 86 = .ok (.getfield 66, 3) := dk_180 0 66 (dk_at dksX4_lend_3 16 rfl rfl)
theorem dX4_lend_89 : decode cX4_lend 89 = .ok (.iload_n 1, 1) := dk_27 (dk_at dksX4_lend_3 19 rfl rfl)
theorem dX4_lend_90 : decode cX4_lend 90 = .ok (.iastore, 1) := dk_79 (dk_at dksX4_lend_3 20 rfl rfl)
theorem dX4_lend_91 : decode cX4_lend 91 = .ok (.aload_n 0, 1) := dk_42 (dk_at dksX4_lend_3 21 rfl rfl)
theorem dX4_lend_92 : decode cX4_lend 92 = .ok (.getfield 20, 3) := dk_180 0 20 (dk_at dksX4_lend_4 0 rfl rfl)
theorem dX4_lend_95 : decode cX4_lend 95 = .ok (.aload_n 0, 1) := dk_42 (dk_at dksX4_lend_4 3 rfl rfl)
theorem dX4_lend_96 : decode cX4_lend 96 = .ok (.getfield 66, 3) := dk_180 0 66 (dk_at dksX4_lend_4 4 rfl rfl)
theorem dX4_lend_99 : decode cX4_lend 99 = .ok (.iload_n 2, 1) := dk_28 (dk_at dksX4_lend_4 7 rfl rfl)
theorem dX4_lend_100 : decode cX4_lend 100 = .ok (.iastore, 1) := dk_79 (dk_at dksX4_lend_4 8 rfl rfl)
theorem dX4_lend_101 : decode cX4_lend 101 = .ok (.aload_n 0, 1) := dk_42 (dk_at dksX4_lend_4 9 rfl rfl)
theorem dX4_lend_102 : decode cX4_lend 102 = .ok (.getfield 23, 3) := dk_180 0 23 (dk_at dksX4_lend_4 10 rfl rfl)
theorem dX4_lend_105 : decode cX4_lend 105 = .ok (.aload_n 0, 1) := dk_42 (dk_at dksX4_lend_4 13 rfl rfl)
theorem dX4_lend_106 : decode cX4_lend 106 = .ok (.getfield 66, 3) := dk_180 0 66 (dk_at dksX4_lend_4 14 rfl rfl)
theorem dX4_lend_109 : decode cX4_lend 109 = .ok (.iload 4, 2) := dk_21 4 (dk_at dksX4_lend_4 17 rfl rfl)
theorem dX4_lend_111 : decode cX4_lend 111 = .ok (.iastore, 1) := dk_79 (dk_at dksX4_lend_4 19 rfl rfl)
theorem dX4_lend_112 : decode cX4_lend 112 = .ok (.aload_n 0, 1) := dk_42 (dk_at dksX4_lend_4 20 rfl rfl)
theorem dX4_lend_113 : decode cX4_lend 113 = .ok (.getfield 26, 3) := dk_180 0 26 (dk_at dksX4_lend_4 21 rfl rfl)
theorem dX4_lend_116 : decode cX4_lend 116 = .ok (.aload_n 0, 1) := dk_42 (dk_at dksX4_lend_5 0 rfl rfl)
theorem dX4_lend_117 : decode cX4_lend 117 = .ok (.getfield 66, 3) := dk_180 0 66 (dk_at dksX4_lend_5 1 rfl rfl)
theorem dX4_lend_120 : decode cX4_lend 120 = .ok (.aload_n 0, 1) := dk_42 (dk_at dksX4_lend_5 4 rfl rfl)
theorem dX4_lend_121 : decode cX4_lend 121 = .ok (.getfield 83, 3) := dk_180 0 83 (dk_at dksX4_lend_5 5 rfl rfl)
theorem dX4_lend_124 : decode cX4_lend 124 = .ok (.iastore, 1) := dk_79 (dk_at dksX4_lend_5 8 rfl rfl)
theorem dX4_lend_125 : decode cX4_lend 125 = .ok (.aload_n 0, 1) := dk_42 (dk_at dksX4_lend_5 9 rfl rfl)
theorem dX4_lend_126 : decode cX4_lend 126 = .ok (.getfield 29, 3) := dk_180 0 29 (dk_at dksX4_lend_5 10 rfl rfl)
theorem dX4_lend_129 : decode cX4_lend 129 = .ok (.aload_n 0, 1) := dk_42 (dk_at dksX4_lend_5 13 rfl rfl)
theorem dX4_lend_130 : decode cX4_lend 130 = .ok (.getfield 66, 3) := dk_180 0 66 (dk_at dksX4_lend_5 14 rfl rfl)
theorem dX4_lend_133 : decode cX4_lend 133 = .ok (.iload 6, 2) := dk_21 6 (dk_at dksX4_lend_5 17 rfl rfl)
theorem dX4_lend_135 : decode cX4_lend 135 = .ok (.bastore, 1) := dk_84 (dk_at dksX4_lend_5 19 rfl rfl)
theorem dX4_lend_136 : decode cX4_lend 136 = .ok (.aload_n 0, 1) := dk_42 (dk_at dksX4_lend_5 20 rfl rfl)
theorem dX4_lend_137 : decode cX4_lend 137 = .ok (.getfield 33, 3) := dk_180 0 33 (dk_at dksX4_lend_5 21 rfl rfl)
theorem dX4_lend_140 : decode cX4_lend 140 = .ok (.aload_n 0, 1) := dk_42 (dk_at dksX4_lend_6 0 rfl rfl)
theorem dX4_lend_141 : decode cX4_lend 141 = .ok (.getfield 66, 3) := dk_180 0 66 (dk_at dksX4_lend_6 1 rfl rfl)
theorem dX4_lend_144 : decode cX4_lend 144 = .ok (.aload_n 0, 1) := dk_42 (dk_at dksX4_lend_6 4 rfl rfl)
theorem dX4_lend_145 : decode cX4_lend 145 = .ok (.getfield 73, 3) := dk_180 0 73 (dk_at dksX4_lend_6 5 rfl rfl)
theorem dX4_lend_148 : decode cX4_lend 148 = .ok (.iastore, 1) := dk_79 (dk_at dksX4_lend_6 8 rfl rfl)
theorem dX4_lend_149 : decode cX4_lend 149 = .ok (.iconst 0, 1) := dk_3 (dk_at dksX4_lend_6 9 rfl rfl)
theorem dX4_lend_150 : decode cX4_lend 150 = .ok (.istore 7, 2) := dk_54 7 (dk_at dksX4_lend_6 10 rfl rfl)
theorem dX4_lend_152 : decode cX4_lend 152 = .ok (.iload 7, 2) := dk_21 7 (dk_at dksX4_lend_6 12 rfl rfl)
theorem dX4_lend_154 : decode cX4_lend 154 = .ok (.iload 5, 2) := dk_21 5 (dk_at dksX4_lend_6 14 rfl rfl)
theorem dX4_lend_156 : decode cX4_lend 156 = .ok (.if_icmp .ge 75, 3) := dk_162 0 75 (dk_at dksX4_lend_6 16 rfl rfl)
theorem dX4_lend_159 : decode cX4_lend 159 = .ok (.aload_n 0, 1) := dk_42 (dk_at dksX4_lend_6 19 rfl rfl)
theorem dX4_lend_160 : decode cX4_lend 160 = .ok (.getfield 36, 3) := dk_180 0 36 (dk_at dksX4_lend_6 20 rfl rfl)
theorem dX4_lend_163 : decode cX4_lend 163 = .ok (.bipush 6, 2) := dk_16 6 (dk_at dksX4_lend_7 0 rfl rfl)
theorem dX4_lend_165 : decode cX4_lend 165 = .ok (.aload_n 0, 1) := dk_42 (dk_at dksX4_lend_7 2 rfl rfl)
theorem dX4_lend_166 : decode cX4_lend 166 = .ok (.getfield 66, 3) := dk_180 0 66 (dk_at dksX4_lend_7 3 rfl rfl)
theorem dX4_lend_169 : decode cX4_lend 169 = .ok (.imul, 1) := dk_104 (dk_at dksX4_lend_7 6 rfl rfl)
theorem dX4_lend_170 : decode cX4_lend 170 = .ok (.iload 7, 2) := dk_21 7 (dk_at dksX4_lend_7 7 rfl rfl)
theorem dX4_lend_172 : decode cX4_lend 172 = .ok (.iadd, 1) := dk_96 (dk_at dksX4_lend_7 9 rfl rfl)
theorem dX4_lend_173 : decode cX4_lend 173 = .ok (.iload 7, 2) := dk_21 7 (dk_at dksX4_lend_7 10 rfl rfl)
theorem dX4_lend_175 : decode cX4_lend 175 = .ok (.iload 5, 2) := dk_21 5 (dk_at dksX4_lend_7 12 rfl rfl)
theorem dX4_lend_177 : decode cX4_lend 177 = .ok (.iconst 1, 1) := dk_4 (dk_at dksX4_lend_7 14 rfl rfl)
theorem dX4_lend_178 : decode cX4_lend 178 = .ok (.isub, 1) := dk_100 (dk_at dksX4_lend_7 15 rfl rfl)
theorem dX4_lend_179 : decode cX4_lend 179 = .ok (.if_icmp .ge 10, 3) := dk_162 0 10 (dk_at dksX4_lend_7 16 rfl rfl)
theorem dX4_lend_182 : decode cX4_lend 182 = .ok (.iload_n 3, 1) := dk_29 (dk_at dksX4_lend_7 19 rfl rfl)
theorem dX4_lend_183 : decode cX4_lend 183 = .ok (.iload 5, 2) := dk_21 5 (dk_at dksX4_lend_7 20 rfl rfl)
theorem dX4_lend_185 : decode cX4_lend 185 = .ok (.idiv, 1) := dk_108 (dk_at dksX4_lend_7 22 rfl rfl)
theorem dX4_lend_186 : decode cX4_lend 186 = .ok (.goto 14, 3) := dk_167 0 14 (dk_at dksX4_lend_8 0 rfl rfl)
theorem dX4_lend_189 : decode cX4_lend 189 = .ok (.iload_n 3, 1) := dk_29 (dk_at dksX4_lend_8 3 rfl rfl)
theorem dX4_lend_190 : decode cX4_lend 190 = .ok (.iload_n 3, 1) := dk_29 (dk_at dksX4_lend_8 4 rfl rfl)
theorem dX4_lend_191 : decode cX4_lend 191 = .ok (.iload 5, 2) := dk_21 5 (dk_at dksX4_lend_8 5 rfl rfl)
theorem dX4_lend_193 : decode cX4_lend 193 = .ok (.idiv, 1) := dk_108 (dk_at dksX4_lend_8 7 rfl rfl)
theorem dX4_lend_194 : decode cX4_lend 194 = .ok (.iload 5, 2) := dk_21 5 (dk_at dksX4_lend_8 8 rfl rfl)
theorem dX4_lend_196 : decode cX4_lend 196 = .ok (.iconst 1, 1) := dk_4 (dk_at dksX4_lend_8 10 rfl rfl)
theorem dX4_lend_197 : decode cX4_lend 197 = .ok (.isub, 1) := dk_100 (dk_at dksX4_lend_8 11 rfl rfl)
theorem dX4_lend_198 : decode cX4_lend 198 = .ok (.imul, 1) := dk_104 (dk_at dksX4_lend_8 12 rfl rfl)
theorem dX4_lend_199 : decode cX4_lend 199 = .ok (.isub, 1) := dk_100 (dk_at dksX4_lend_8 13 rfl rfl)
theorem dX4_lend_200 : decode cX4_lend 200 = .ok (.iastore, 1) := dk_79 (dk_at dksX4_lend_8 14 rfl rfl)
theorem dX4_lend_201 : decode cX4_lend 201 = .ok (.aload_n 0, 1) := dk_42 (dk_at dksX4_lend_8 15 rfl rfl)
theorem dX4_lend_202 : decode cX4_lend 202 = .ok (.getfield 39, 3) := dk_180 0 39 (dk_at dksX4_lend_8 16 rfl rfl)
theorem dX4_lend_205 : decode cX4_lend 205 = .ok (.bipush 6, 2) := dk_16 6 (dk_at dksX4_lend_8 19 rfl rfl)
theorem dX4_lend_207 : decode cX4_lend 207 = .ok (.aload_n 0, 1) := dk_42 (dk_at dksX4_lend_8 21 rfl rfl)
theorem dX4_lend_208 : decode cX4_lend 208 = .ok (.getfield 66, 3) := dk_180 0 66 (dk_at dksX4_lend_9 0 rfl rfl)
theorem dX4_lend_211 : decode cX4_lend 211 = .ok (.imul, 1) := dk_104 (dk_at dksX4_lend_9 3 rfl rfl)
theorem dX4_lend_212 : decode cX4_lend 212 = .ok (.iload 7, 2) := dk_21 7 (dk_at dksX4_lend_9 4 rfl rfl)
theorem dX4_lend_214 : decode cX4_lend 214 = .ok (.iadd, 1) := dk_96 (dk_at dksX4_lend_9 6 rfl rfl)
theorem dX4_lend_215 : decode cX4_lend 215 = .ok (.aload_n 0, 1) := dk_42 (dk_at dksX4_lend_9 7 rfl rfl)
theorem dX4_lend_216 : decode cX4_lend 216 = .ok (.getfield 7, 3) := dk_180 0 7 (dk_at dksX4_lend_9 8 rfl rfl)
theorem dX4_lend_219 : decode cX4_lend 219 = .ok (.iload 7, 2) := dk_21 7 (dk_at dksX4_lend_9 11 rfl rfl)
theorem dX4_lend_221 : decode cX4_lend 221 = .ok (.iconst 1, 1) := dk_4 (dk_at dksX4_lend_9 13 rfl rfl)
theorem dX4_lend_222 : decode cX4_lend 222 = .ok (.iadd, 1) := dk_96 (dk_at dksX4_lend_9 14 rfl rfl)
theorem dX4_lend_223 : decode cX4_lend 223 = .ok (.iaload, 1) := dk_46 (dk_at dksX4_lend_9 15 rfl rfl)
theorem dX4_lend_224 : decode cX4_lend 224 = .ok (.iastore, 1) := dk_79 (dk_at dksX4_lend_9 16 rfl rfl)
theorem dX4_lend_225 : decode cX4_lend 225 = .ok (.iinc 7 1, 3) := dk_132 7 1 (dk_at dksX4_lend_9 17 rfl rfl)
theorem dX4_lend_228 : decode cX4_lend 228 = .ok (.goto (-76), 3) := dk_167 255 180 (dk_at dksX4_lend_9 20 rfl rfl)
theorem dX4_lend_231 : decode cX4_lend 231 = .ok (.aload_n 0, 1) := dk_42 (dk_at dksX4_lend_9 23 rfl rfl)
theorem dX4_lend_232 : decode cX4_lend 232 = .ok (.dup, 1) := dk_89 (dk_at dksX4_lend_10 0 rfl rfl)
theorem dX4_lend_233 : decode cX4_lend 233 = .ok (.getfield 66, 3) := dk_180 0 66 (dk_at dksX4_lend_10 1 rfl rfl)
theorem dX4_lend_236 : decode cX4_lend 236 = .ok (.iconst 1, 1) := dk_4 (dk_at dksX4_lend_10 4 rfl rfl)
theorem dX4_lend_237 : decode cX4_lend 237 = .ok (.iadd, 1) := dk_96 (dk_at dksX4_lend_10 5 rfl rfl)
theorem dX4_lend_238 : decode cX4_lend 238 = .ok (.putfield 66, 3) := dk_181 0 66 (dk_at dksX4_lend_10 6 rfl rfl)
theorem dX4_lend_241 : decode cX4_lend 241 = .ok (.aload_n 0, 1) := dk_42 (dk_at dksX4_lend_10 9 rfl rfl)
theorem dX4_lend_242 : decode cX4_lend 242 = .ok (.getfield 66, 3) := dk_180 0 66 (dk_at dksX4_lend_10 10 rfl rfl)
theorem dX4_lend_245 : decode cX4_lend 245 = .ok (.iconst 1, 1) := dk_4 (dk_at dksX4_lend_10 13 rfl rfl)
theorem dX4_lend_246 : decode cX4_lend 246 = .ok (.isub, 1) := dk_100 (dk_at dksX4_lend_10 14 rfl rfl)
theorem dX4_lend_247 : decode cX4_lend 247 = .ok (.ireturn, 1) := dk_172 (dk_at dksX4_lend_10 15 rfl rfl)
abbrev cX4_isBranch : ByteArray := prog_12_method_6_code
def yX4_isBranch : MethodName := ⟨RX4, "isBranch", "(I)Z"⟩
def dkwX4_isBranch_0 : List UInt8 := [26, 3, 5, 184, 0, 69, 172]
abbrev dktX4_isBranch_0 : List UInt8 := dkwX4_isBranch_0 ++ []
theorem dksX4_isBranch_0 : cX4_isBranch.data.toList.drop 0 = dktX4_isBranch_0 := by decide +kernel
theorem dX4_isBranch_0 : decode cX4_isBranch 0 = .ok (.iload_n 0, 1) := dk_26 (dk_at dksX4_isBranch_0 0 rfl rfl)
theorem dX4_isBranch_1 : decode cX4_isBranch 1 = .ok (.iconst 0, 1) := dk_3 (dk_at dksX4_isBranch_0 1 rfl rfl)
theorem dX4_isBranch_2 : decode cX4_isBranch 2 = .ok (.iconst 2, 1) := dk_5 (dk_at dksX4_isBranch_0 2 rfl rfl)
theorem dX4_isBranch_3 : decode cX4_isBranch 3 = .ok (.invokestatic 69, 3) := dk_184 0 69 (dk_at dksX4_isBranch_0 3 rfl rfl)
theorem dX4_isBranch_6 : decode cX4_isBranch 6 = .ok (.ireturn, 1) := dk_172 (dk_at dksX4_isBranch_0 6 rfl rfl)
abbrev cX4_repay : ByteArray := prog_12_method_13_code
def yX4_repay : MethodName := ⟨RX4, "repay", "(I)I"⟩
def dkwX4_repay_3 : List UInt8 := [172]
abbrev dktX4_repay_3 : List UInt8 := dkwX4_repay_3 ++ []
def dkwX4_repay_2 : List UInt8 := [16, 6, 162, 0, 21, 42, 180, 0, 36, 16, 6, 27, 104, 29, 96, 3, 79, 132, 3, 1, 167, 255, 235, 28]
abbrev dktX4_repay_2 : List UInt8 := dkwX4_repay_2 ++ dktX4_repay_3
def dkwX4_repay_1 : List UInt8 := [61, 42, 180, 0, 29, 27, 51, 153, 0, 7, 28, 154, 0, 9, 42, 5, 182, 0, 76, 172, 3, 62, 29]
abbrev dktX4_repay_1 : List UInt8 := dkwX4_repay_1 ++ dktX4_repay_2
def dkwX4_repay_0 : List UInt8 := [42, 3, 181, 0, 63, 42, 27, 182, 0, 96, 154, 0, 9, 42, 4, 182, 0, 76, 172, 42, 27, 182, 0, 86]
abbrev dktX4_repay_0 : List UInt8 := dkwX4_repay_0 ++ dktX4_repay_1
theorem dksX4_repay_0 : cX4_repay.data.toList.drop 0 = dktX4_repay_0 := by decide +kernel
theorem dksX4_repay_1 : cX4_repay.data.toList.drop 24 = dktX4_repay_1 := dk_seg dksX4_repay_0 24 rfl rfl
theorem dksX4_repay_2 : cX4_repay.data.toList.drop 47 = dktX4_repay_2 := dk_seg dksX4_repay_1 23 rfl rfl
theorem dksX4_repay_3 : cX4_repay.data.toList.drop 71 = dktX4_repay_3 := dk_seg dksX4_repay_2 24 rfl rfl
theorem dX4_repay_0 : decode cX4_repay 0 = .ok (.aload_n 0, 1) := dk_42 (dk_at dksX4_repay_0 0 rfl rfl)
theorem dX4_repay_1 : decode cX4_repay 1 = .ok (.iconst 0, 1) := dk_3 (dk_at dksX4_repay_0 1 rfl rfl)
theorem dX4_repay_2 : decode cX4_repay 2 = .ok (.putfield 63, 3) := dk_181 0 63 (dk_at dksX4_repay_0 2 rfl rfl)
theorem dX4_repay_5 : decode cX4_repay 5 = .ok (.aload_n 0, 1) := dk_42 (dk_at dksX4_repay_0 5 rfl rfl)
theorem dX4_repay_6 : decode cX4_repay 6 = .ok (.iload_n 1, 1) := dk_27 (dk_at dksX4_repay_0 6 rfl rfl)
theorem dX4_repay_7 : decode cX4_repay 7 = .ok (.invokevirtual 96, 3) := dk_182 0 96 (dk_at dksX4_repay_0 7 rfl rfl)
theorem dX4_repay_10 : decode cX4_repay 10 = .ok (.ifCond .ne 9, 3) := dk_154 0 9 (dk_at dksX4_repay_0 10 rfl rfl)
theorem dX4_repay_13 : decode cX4_repay 13 = .ok (.aload_n 0, 1) := dk_42 (dk_at dksX4_repay_0 13 rfl rfl)
theorem dX4_repay_14 : decode cX4_repay 14 = .ok (.iconst 1, 1) := dk_4 (dk_at dksX4_repay_0 14 rfl rfl)
theorem dX4_repay_15 : decode cX4_repay 15 = .ok (.invokevirtual 76, 3) := dk_182 0 76 (dk_at dksX4_repay_0 15 rfl rfl)
theorem dX4_repay_18 : decode cX4_repay 18 = .ok (.ireturn, 1) := dk_172 (dk_at dksX4_repay_0 18 rfl rfl)
theorem dX4_repay_19 : decode cX4_repay 19 = .ok (.aload_n 0, 1) := dk_42 (dk_at dksX4_repay_0 19 rfl rfl)
theorem dX4_repay_20 : decode cX4_repay 20 = .ok (.iload_n 1, 1) := dk_27 (dk_at dksX4_repay_0 20 rfl rfl)
theorem dX4_repay_21 : decode cX4_repay 21 = .ok (.invokevirtual 86, 3) := dk_182 0 86 (dk_at dksX4_repay_0 21 rfl rfl)
theorem dX4_repay_24 : decode cX4_repay 24 = .ok (.istore_n 2, 1) := dk_61 (dk_at dksX4_repay_1 0 rfl rfl)
theorem dX4_repay_25 : decode cX4_repay 25 = .ok (.aload_n 0, 1) := dk_42 (dk_at dksX4_repay_1 1 rfl rfl)
theorem dX4_repay_26 : decode cX4_repay 26 = .ok (.getfield 29, 3) := dk_180 0 29 (dk_at dksX4_repay_1 2 rfl rfl)
theorem dX4_repay_29 : decode cX4_repay 29 = .ok (.iload_n 1, 1) := dk_27 (dk_at dksX4_repay_1 5 rfl rfl)
theorem dX4_repay_30 : decode cX4_repay 30 = .ok (.baload, 1) := dk_51 (dk_at dksX4_repay_1 6 rfl rfl)
theorem dX4_repay_31 : decode cX4_repay 31 = .ok (.ifCond .eq 7, 3) := dk_153 0 7 (dk_at dksX4_repay_1 7 rfl rfl)
theorem dX4_repay_34 : decode cX4_repay 34 = .ok (.iload_n 2, 1) := dk_28 (dk_at dksX4_repay_1 10 rfl rfl)
theorem dX4_repay_35 : decode cX4_repay 35 = .ok (.ifCond .ne 9, 3) := dk_154 0 9 (dk_at dksX4_repay_1 11 rfl rfl)
theorem dX4_repay_38 : decode cX4_repay 38 = .ok (.aload_n 0, 1) := dk_42 (dk_at dksX4_repay_1 14 rfl rfl)
theorem dX4_repay_39 : decode cX4_repay 39 = .ok (.iconst 2, 1) := dk_5 (dk_at dksX4_repay_1 15 rfl rfl)
theorem dX4_repay_40 : decode cX4_repay 40 = .ok (.invokevirtual 76, 3) := dk_182 0 76 (dk_at dksX4_repay_1 16 rfl rfl)
theorem dX4_repay_43 : decode cX4_repay 43 = .ok (.ireturn, 1) := dk_172 (dk_at dksX4_repay_1 19 rfl rfl)
theorem dX4_repay_44 : decode cX4_repay 44 = .ok (.iconst 0, 1) := dk_3 (dk_at dksX4_repay_1 20 rfl rfl)
theorem dX4_repay_45 : decode cX4_repay 45 = .ok (.istore_n 3, 1) := dk_62 (dk_at dksX4_repay_1 21 rfl rfl)
theorem dX4_repay_46 : decode cX4_repay 46 = .ok (.iload_n 3, 1) := dk_29 (dk_at dksX4_repay_1 22 rfl rfl)
theorem dX4_repay_47 : decode cX4_repay 47 = .ok (.bipush 6, 2) := dk_16 6 (dk_at dksX4_repay_2 0 rfl rfl)
theorem dX4_repay_49 : decode cX4_repay 49 = .ok (.if_icmp .ge 21, 3) := dk_162 0 21 (dk_at dksX4_repay_2 2 rfl rfl)
theorem dX4_repay_52 : decode cX4_repay 52 = .ok (.aload_n 0, 1) := dk_42 (dk_at dksX4_repay_2 5 rfl rfl)
theorem dX4_repay_53 : decode cX4_repay 53 = .ok (.getfield 36, 3) := dk_180 0 36 (dk_at dksX4_repay_2 6 rfl rfl)
theorem dX4_repay_56 : decode cX4_repay 56 = .ok (.bipush 6, 2) := dk_16 6 (dk_at dksX4_repay_2 9 rfl rfl)
theorem dX4_repay_58 : decode cX4_repay 58 = .ok (.iload_n 1, 1) := dk_27 (dk_at dksX4_repay_2 11 rfl rfl)
theorem dX4_repay_59 : decode cX4_repay 59 = .ok (.imul, 1) := dk_104 (dk_at dksX4_repay_2 12 rfl rfl)
theorem dX4_repay_60 : decode cX4_repay 60 = .ok (.iload_n 3, 1) := dk_29 (dk_at dksX4_repay_2 13 rfl rfl)
theorem dX4_repay_61 : decode cX4_repay 61 = .ok (.iadd, 1) := dk_96 (dk_at dksX4_repay_2 14 rfl rfl)
theorem dX4_repay_62 : decode cX4_repay 62 = .ok (.iconst 0, 1) := dk_3 (dk_at dksX4_repay_2 15 rfl rfl)
theorem dX4_repay_63 : decode cX4_repay 63 = .ok (.iastore, 1) := dk_79 (dk_at dksX4_repay_2 16 rfl rfl)
theorem dX4_repay_64 : decode cX4_repay 64 = .ok (.iinc 3 1, 3) := dk_132 3 1 (dk_at dksX4_repay_2 17 rfl rfl)
theorem dX4_repay_67 : decode cX4_repay 67 = .ok (.goto (-21), 3) := dk_167 255 235 (dk_at dksX4_repay_2 20 rfl rfl)
theorem dX4_repay_70 : decode cX4_repay 70 = .ok (.iload_n 2, 1) := dk_28 (dk_at dksX4_repay_2 23 rfl rfl)
theorem dX4_repay_71 : decode cX4_repay 71 = .ok (.ireturn, 1) := dk_172 (dk_at dksX4_repay_3 0 rfl rfl)
abbrev cX4_isLoan : ByteArray := prog_12_method_5_code
def yX4_isLoan : MethodName := ⟨RX4, "isLoan", "(I)Z"⟩
def dkwX4_isLoan_0 : List UInt8 := [27, 3, 42, 180, 0, 66, 4, 100, 184, 0, 69, 172]
abbrev dktX4_isLoan_0 : List UInt8 := dkwX4_isLoan_0 ++ []
theorem dksX4_isLoan_0 : cX4_isLoan.data.toList.drop 0 = dktX4_isLoan_0 := by decide +kernel
theorem dX4_isLoan_0 : decode cX4_isLoan 0 = .ok (.iload_n 1, 1) := dk_27 (dk_at dksX4_isLoan_0 0 rfl rfl)
theorem dX4_isLoan_1 : decode cX4_isLoan 1 = .ok (.iconst 0, 1) := dk_3 (dk_at dksX4_isLoan_0 1 rfl rfl)
theorem dX4_isLoan_2 : decode cX4_isLoan 2 = .ok (.aload_n 0, 1) := dk_42 (dk_at dksX4_isLoan_0 2 rfl rfl)
theorem dX4_isLoan_3 : decode cX4_isLoan 3 = .ok (.getfield 66, 3) := dk_180 0 66 (dk_at dksX4_isLoan_0 3 rfl rfl)
theorem dX4_isLoan_6 : decode cX4_isLoan 6 = .ok (.iconst 1, 1) := dk_4 (dk_at dksX4_isLoan_0 6 rfl rfl)
theorem dX4_isLoan_7 : decode cX4_isLoan 7 = .ok (.isub, 1) := dk_100 (dk_at dksX4_isLoan_0 7 rfl rfl)
theorem dX4_isLoan_8 : decode cX4_isLoan 8 = .ok (.invokestatic 69, 3) := dk_184 0 69 (dk_at dksX4_isLoan_0 8 rfl rfl)
theorem dX4_isLoan_11 : decode cX4_isLoan 11 = .ok (.ireturn, 1) := dk_172 (dk_at dksX4_isLoan_0 11 rfl rfl)
abbrev cX4_leftOf : ByteArray := prog_12_method_10_code
def yX4_leftOf : MethodName := ⟨RX4, "leftOf", "(I)I"⟩
def dkwX4_leftOf_1 : List UInt8 := [132, 3, 1, 167, 255, 233, 28, 172]
abbrev dktX4_leftOf_1 : List UInt8 := dkwX4_leftOf_1 ++ []
def dkwX4_leftOf_0 : List UInt8 := [3, 61, 3, 62, 29, 16, 6, 162, 0, 23, 28, 42, 180, 0, 36, 16, 6, 27, 104, 29, 96, 46, 96, 61]
abbrev dktX4_leftOf_0 : List UInt8 := dkwX4_leftOf_0 ++ dktX4_leftOf_1
theorem dksX4_leftOf_0 : cX4_leftOf.data.toList.drop 0 = dktX4_leftOf_0 := by decide +kernel
theorem dksX4_leftOf_1 : cX4_leftOf.data.toList.drop 24 = dktX4_leftOf_1 := dk_seg dksX4_leftOf_0 24 rfl rfl
theorem dX4_leftOf_0 : decode cX4_leftOf 0 = .ok (.iconst 0, 1) := dk_3 (dk_at dksX4_leftOf_0 0 rfl rfl)
theorem dX4_leftOf_1 : decode cX4_leftOf 1 = .ok (.istore_n 2, 1) := dk_61 (dk_at dksX4_leftOf_0 1 rfl rfl)
theorem dX4_leftOf_2 : decode cX4_leftOf 2 = .ok (.iconst 0, 1) := dk_3 (dk_at dksX4_leftOf_0 2 rfl rfl)
theorem dX4_leftOf_3 : decode cX4_leftOf 3 = .ok (.istore_n 3, 1) := dk_62 (dk_at dksX4_leftOf_0 3 rfl rfl)
theorem dX4_leftOf_4 : decode cX4_leftOf 4 = .ok (.iload_n 3, 1) := dk_29 (dk_at dksX4_leftOf_0 4 rfl rfl)
theorem dX4_leftOf_5 : decode cX4_leftOf 5 = .ok (.bipush 6, 2) := dk_16 6 (dk_at dksX4_leftOf_0 5 rfl rfl)
theorem dX4_leftOf_7 : decode cX4_leftOf 7 = .ok (.if_icmp .ge 23, 3) := dk_162 0 23 (dk_at dksX4_leftOf_0 7 rfl rfl)
theorem dX4_leftOf_10 : decode cX4_leftOf 10 = .ok (.iload_n 2, 1) := dk_28 (dk_at dksX4_leftOf_0 10 rfl rfl)
theorem dX4_leftOf_11 : decode cX4_leftOf 11 = .ok (.aload_n 0, 1) := dk_42 (dk_at dksX4_leftOf_0 11 rfl rfl)
theorem dX4_leftOf_12 : decode cX4_leftOf 12 = .ok (.getfield 36, 3) := dk_180 0 36 (dk_at dksX4_leftOf_0 12 rfl rfl)
theorem dX4_leftOf_15 : decode cX4_leftOf 15 = .ok (.bipush 6, 2) := dk_16 6 (dk_at dksX4_leftOf_0 15 rfl rfl)
theorem dX4_leftOf_17 : decode cX4_leftOf 17 = .ok (.iload_n 1, 1) := dk_27 (dk_at dksX4_leftOf_0 17 rfl rfl)
theorem dX4_leftOf_18 : decode cX4_leftOf 18 = .ok (.imul, 1) := dk_104 (dk_at dksX4_leftOf_0 18 rfl rfl)
theorem dX4_leftOf_19 : decode cX4_leftOf 19 = .ok (.iload_n 3, 1) := dk_29 (dk_at dksX4_leftOf_0 19 rfl rfl)
theorem dX4_leftOf_20 : decode cX4_leftOf 20 = .ok (.iadd, 1) := dk_96 (dk_at dksX4_leftOf_0 20 rfl rfl)
theorem dX4_leftOf_21 : decode cX4_leftOf 21 = .ok (.iaload, 1) := dk_46 (dk_at dksX4_leftOf_0 21 rfl rfl)
theorem dX4_leftOf_22 : decode cX4_leftOf 22 = .ok (.iadd, 1) := dk_96 (dk_at dksX4_leftOf_0 22 rfl rfl)
theorem dX4_leftOf_23 : decode cX4_leftOf 23 = .ok (.istore_n 2, 1) := dk_61 (dk_at dksX4_leftOf_0 23 rfl rfl)
theorem dX4_leftOf_24 : decode cX4_leftOf 24 = .ok (.iinc 3 1, 3) := dk_132 3 1 (dk_at dksX4_leftOf_1 0 rfl rfl)
theorem dX4_leftOf_27 : decode cX4_leftOf 27 = .ok (.goto (-23), 3) := dk_167 255 233 (dk_at dksX4_leftOf_1 3 rfl rfl)
theorem dX4_leftOf_30 : decode cX4_leftOf 30 = .ok (.iload_n 2, 1) := dk_28 (dk_at dksX4_leftOf_1 6 rfl rfl)
theorem dX4_leftOf_31 : decode cX4_leftOf 31 = .ok (.ireturn, 1) := dk_172 (dk_at dksX4_leftOf_1 7 rfl rfl)
abbrev cX4_deposit : ByteArray := prog_12_method_17_code
def yX4_deposit : MethodName := ⟨RX4, "deposit", "(II)I"⟩
def dkwX4_deposit_4 : List UInt8 := [132, 3, 1, 167, 255, 231, 42, 180, 0, 42, 27, 46, 172]
abbrev dktX4_deposit_4 : List UInt8 := dkwX4_deposit_4 ++ []
def dkwX4_deposit_3 : List UInt8 := [29, 16, 6, 162, 0, 25, 42, 180, 0, 73, 154, 0, 18, 28, 153, 0, 14, 42, 29, 182, 0, 106]
abbrev dktX4_deposit_3 : List UInt8 := dkwX4_deposit_3 ++ dktX4_deposit_4
def dkwX4_deposit_2 : List UInt8 := [184, 0, 69, 154, 0, 9, 42, 6, 182, 0, 76, 172, 42, 180, 0, 42, 27, 92, 46, 28, 96, 79, 3, 62]
abbrev dktX4_deposit_2 : List UInt8 := dkwX4_deposit_2 ++ dktX4_deposit_3
def dkwX4_deposit_1 : List UInt8 := [184, 0, 69, 154, 0, 9, 42, 5, 182, 0, 76, 172, 42, 180, 0, 42, 27, 46, 28, 96, 3, 18, 95]
abbrev dktX4_deposit_1 : List UInt8 := dkwX4_deposit_1 ++ dktX4_deposit_2
def dkwX4_deposit_0 : List UInt8 := [42, 3, 181, 0, 63, 27, 184, 0, 91, 154, 0, 9, 42, 4, 182, 0, 76, 172, 28, 18, 105, 18, 95]
abbrev dktX4_deposit_0 : List UInt8 := dkwX4_deposit_0 ++ dktX4_deposit_1
theorem dksX4_deposit_0 : cX4_deposit.data.toList.drop 0 = dktX4_deposit_0 := by decide +kernel
theorem dksX4_deposit_1 : cX4_deposit.data.toList.drop 23 = dktX4_deposit_1 := dk_seg dksX4_deposit_0 23 rfl rfl
theorem dksX4_deposit_2 : cX4_deposit.data.toList.drop 46 = dktX4_deposit_2 := dk_seg dksX4_deposit_1 23 rfl rfl
theorem dksX4_deposit_3 : cX4_deposit.data.toList.drop 70 = dktX4_deposit_3 := dk_seg dksX4_deposit_2 24 rfl rfl
theorem dksX4_deposit_4 : cX4_deposit.data.toList.drop 92 = dktX4_deposit_4 := dk_seg dksX4_deposit_3 22 rfl rfl
theorem dX4_deposit_0 : decode cX4_deposit 0 = .ok (.aload_n 0, 1) := dk_42 (dk_at dksX4_deposit_0 0 rfl rfl)
theorem dX4_deposit_1 : decode cX4_deposit 1 = .ok (.iconst 0, 1) := dk_3 (dk_at dksX4_deposit_0 1 rfl rfl)
theorem dX4_deposit_2 : decode cX4_deposit 2 = .ok (.putfield 63, 3) := dk_181 0 63 (dk_at dksX4_deposit_0 2 rfl rfl)
theorem dX4_deposit_5 : decode cX4_deposit 5 = .ok (.iload_n 1, 1) := dk_27 (dk_at dksX4_deposit_0 5 rfl rfl)
theorem dX4_deposit_6 : decode cX4_deposit 6 = .ok (.invokestatic 91, 3) := dk_184 0 91 (dk_at dksX4_deposit_0 6 rfl rfl)
theorem dX4_deposit_9 : decode cX4_deposit 9 = .ok (.ifCond .ne 9, 3) := dk_154 0 9 (dk_at dksX4_deposit_0 9 rfl rfl)
theorem dX4_deposit_12 : decode cX4_deposit 12 = .ok (.aload_n 0, 1) := dk_42 (dk_at dksX4_deposit_0 12 rfl rfl)
theorem dX4_deposit_13 : decode cX4_deposit 13 = .ok (.iconst 1, 1) := dk_4 (dk_at dksX4_deposit_0 13 rfl rfl)
theorem dX4_deposit_14 : decode cX4_deposit 14 = .ok (.invokevirtual 76, 3) := dk_182 0 76 (dk_at dksX4_deposit_0 14 rfl rfl)
theorem dX4_deposit_17 : decode cX4_deposit 17 = .ok (.ireturn, 1) := dk_172 (dk_at dksX4_deposit_0 17 rfl rfl)
theorem dX4_deposit_18 : decode cX4_deposit 18 = .ok (.iload_n 2, 1) := dk_28 (dk_at dksX4_deposit_0 18 rfl rfl)
theorem dX4_deposit_19 : decode cX4_deposit 19 = .ok (.ldc 105, 2) := dk_18 105 (dk_at dksX4_deposit_0 19 rfl rfl)
theorem dX4_deposit_21 : decode cX4_deposit 21 = .ok (.ldc 95, 2) := dk_18 95 (dk_at dksX4_deposit_0 21 rfl rfl)
theorem dX4_deposit_23 : decode cX4_deposit 23 = .ok (.invokestatic 69, 3) := dk_184 0 69 (dk_at dksX4_deposit_1 0 rfl rfl)
theorem dX4_deposit_26 : decode cX4_deposit 26 = .ok (.ifCond .ne 9, 3) := dk_154 0 9 (dk_at dksX4_deposit_1 3 rfl rfl)
theorem dX4_deposit_29 : decode cX4_deposit 29 = .ok (.aload_n 0, 1) := dk_42 (dk_at dksX4_deposit_1 6 rfl rfl)
theorem dX4_deposit_30 : decode cX4_deposit 30 = .ok (.iconst 2, 1) := dk_5 (dk_at dksX4_deposit_1 7 rfl rfl)
theorem dX4_deposit_31 : decode cX4_deposit 31 = .ok (.invokevirtual 76, 3) := dk_182 0 76 (dk_at dksX4_deposit_1 8 rfl rfl)
theorem dX4_deposit_34 : decode cX4_deposit 34 = .ok (.ireturn, 1) := dk_172 (dk_at dksX4_deposit_1 11 rfl rfl)
theorem dX4_deposit_35 : decode cX4_deposit 35 = .ok (.aload_n 0, 1) := dk_42 (dk_at dksX4_deposit_1 12 rfl rfl)
theorem dX4_deposit_36 : decode cX4_deposit 36 = .ok (.getfield 42, 3) := dk_180 0 42 (dk_at dksX4_deposit_1 13 rfl rfl)
theorem dX4_deposit_39 : decode cX4_deposit 39 = .ok (.iload_n 1, 1) := dk_27 (dk_at dksX4_deposit_1 16 rfl rfl)
theorem dX4_deposit_40 : decode cX4_deposit 40 = .ok (.iaload, 1) := dk_46 (dk_at dksX4_deposit_1 17 rfl rfl)
theorem dX4_deposit_41 : decode cX4_deposit 41 = .ok (.iload_n 2, 1) := dk_28 (dk_at dksX4_deposit_1 18 rfl rfl)
theorem dX4_deposit_42 : decode cX4_deposit 42 = .ok (.iadd, 1) := dk_96 (dk_at dksX4_deposit_1 19 rfl rfl)
theorem dX4_deposit_43 : decode cX4_deposit 43 = .ok (.iconst 0, 1) := dk_3 (dk_at dksX4_deposit_1 20 rfl rfl)
theorem dX4_deposit_44 : decode cX4_deposit 44 = .ok (.ldc 95, 2) := dk_18 95 (dk_at dksX4_deposit_1 21 rfl rfl)
theorem dX4_deposit_46 : decode cX4_deposit 46 = .ok (.invokestatic 69, 3) := dk_184 0 69 (dk_at dksX4_deposit_2 0 rfl rfl)
theorem dX4_deposit_49 : decode cX4_deposit 49 = .ok (.ifCond .ne 9, 3) := dk_154 0 9 (dk_at dksX4_deposit_2 3 rfl rfl)
theorem dX4_deposit_52 : decode cX4_deposit 52 = .ok (.aload_n 0, 1) := dk_42 (dk_at dksX4_deposit_2 6 rfl rfl)
theorem dX4_deposit_53 : decode cX4_deposit 53 = .ok (.iconst 3, 1) := dk_6 (dk_at dksX4_deposit_2 7 rfl rfl)
theorem dX4_deposit_54 : decode cX4_deposit 54 = .ok (.invokevirtual 76, 3) := dk_182 0 76 (dk_at dksX4_deposit_2 8 rfl rfl)
theorem dX4_deposit_57 : decode cX4_deposit 57 = .ok (.ireturn, 1) := dk_172 (dk_at dksX4_deposit_2 11 rfl rfl)
theorem dX4_deposit_58 : decode cX4_deposit 58 = .ok (.aload_n 0, 1) := dk_42 (dk_at dksX4_deposit_2 12 rfl rfl)
theorem dX4_deposit_59 : decode cX4_deposit 59 = .ok (.getfield 42, 3) := dk_180 0 42 (dk_at dksX4_deposit_2 13 rfl rfl)
theorem dX4_deposit_62 : decode cX4_deposit 62 = .ok (.iload_n 1, 1) := dk_27 (dk_at dksX4_deposit_2 16 rfl rfl)
theorem dX4_deposit_63 : decode cX4_deposit 63 = .ok (.dup2, 1) := dk_92 (dk_at dksX4_deposit_2 17 rfl rfl)
theorem dX4_deposit_64 : decode cX4_deposit 64 = .ok (.iaload, 1) := dk_46 (dk_at dksX4_deposit_2 18 rfl rfl)
theorem dX4_deposit_65 : decode cX4_deposit 65 = .ok (.iload_n 2, 1) := dk_28 (dk_at dksX4_deposit_2 19 rfl rfl)
theorem dX4_deposit_66 : decode cX4_deposit 66 = .ok (.iadd, 1) := dk_96 (dk_at dksX4_deposit_2 20 rfl rfl)
theorem dX4_deposit_67 : decode cX4_deposit 67 = .ok (.iastore, 1) := dk_79 (dk_at dksX4_deposit_2 21 rfl rfl)
theorem dX4_deposit_68 : decode cX4_deposit 68 = .ok (.iconst 0, 1) := dk_3 (dk_at dksX4_deposit_2 22 rfl rfl)
theorem dX4_deposit_69 : decode cX4_deposit 69 = .ok (.istore_n 3, 1) := dk_62 (dk_at dksX4_deposit_2 23 rfl rfl)
theorem dX4_deposit_70 : decode cX4_deposit 70 = .ok (.iload_n 3, 1) := dk_29 (dk_at dksX4_deposit_3 0 rfl rfl)
theorem dX4_deposit_71 : decode cX4_deposit 71 = .ok (.bipush 6, 2) := dk_16 6 (dk_at dksX4_deposit_3 1 rfl rfl)
theorem dX4_deposit_73 : decode cX4_deposit 73 = .ok (.if_icmp .ge 25, 3) := dk_162 0 25 (dk_at dksX4_deposit_3 3 rfl rfl)
theorem dX4_deposit_76 : decode cX4_deposit 76 = .ok (.aload_n 0, 1) := dk_42 (dk_at dksX4_deposit_3 6 rfl rfl)
theorem dX4_deposit_77 : decode cX4_deposit 77 = .ok (.getfield 73, 3) := dk_180 0 73 (dk_at dksX4_deposit_3 7 rfl rfl)
theorem dX4_deposit_80 : decode cX4_deposit 80 = .ok (.ifCond .ne 18, 3) := dk_154 0 18 (dk_at dksX4_deposit_3 10 rfl rfl)
theorem dX4_deposit_83 : decode cX4_deposit 83 = .ok (.iload_n 2, 1) := dk_28 (dk_at dksX4_deposit_3 13 rfl rfl)
theorem dX4_deposit_84 : decode cX4_deposit 84 = .ok (.ifCond .eq 14, 3) := dk_153 0 14 (dk_at dksX4_deposit_3 14 rfl rfl)
theorem dX4_deposit_87 : decode cX4_deposit 87 = .ok (.aload_n 0, 1) := dk_42 (dk_at dksX4_deposit_3 17 rfl rfl)
theorem dX4_deposit_88 : decode cX4_deposit 88 = .ok (.iload_n 3, 1) := dk_29 (dk_at dksX4_deposit_3 18 rfl rfl)
theorem dX4_deposit_89 : decode cX4_deposit 89 = .ok (.invokevirtual 106, 3) := dk_182 0 106 (dk_at dksX4_deposit_3 19 rfl rfl)
theorem dX4_deposit_92 : decode cX4_deposit 92 = .ok (.iinc 3 1, 3) := dk_132 3 1 (dk_at dksX4_deposit_4 0 rfl rfl)
theorem dX4_deposit_95 : decode cX4_deposit 95 = .ok (.goto (-25), 3) := dk_167 255 231 (dk_at dksX4_deposit_4 3 rfl rfl)
theorem dX4_deposit_98 : decode cX4_deposit 98 = .ok (.aload_n 0, 1) := dk_42 (dk_at dksX4_deposit_4 6 rfl rfl)
theorem dX4_deposit_99 : decode cX4_deposit 99 = .ok (.getfield 42, 3) := dk_180 0 42 (dk_at dksX4_deposit_4 7 rfl rfl)
theorem dX4_deposit_102 : decode cX4_deposit 102 = .ok (.iload_n 1, 1) := dk_27 (dk_at dksX4_deposit_4 10 rfl rfl)
theorem dX4_deposit_103 : decode cX4_deposit 103 = .ok (.iaload, 1) := dk_46 (dk_at dksX4_deposit_4 11 rfl rfl)
theorem dX4_deposit_104 : decode cX4_deposit 104 = .ok (.ireturn, 1) := dk_172 (dk_at dksX4_deposit_4 12 rfl rfl)
abbrev cX4_lays : ByteArray := prog_12_method_15_code
def yX4_lays : MethodName := ⟨RX4, "lays", "(I)V"⟩
def dkwX4_lays_1 : List UInt8 := [46, 79, 177]
abbrev dktX4_lays_1 : List UInt8 := dkwX4_lays_1 ++ []
def dkwX4_lays_0 : List UInt8 := [42, 180, 0, 45, 27, 42, 182, 0, 101, 16, 6, 108, 79, 42, 180, 0, 48, 27, 42, 180, 0, 7, 16, 6]
abbrev dktX4_lays_0 : List UInt8 := dkwX4_lays_0 ++ dktX4_lays_1
theorem dksX4_lays_0 : cX4_lays.data.toList.drop 0 = dktX4_lays_0 := by decide +kernel
theorem dksX4_lays_1 : cX4_lays.data.toList.drop 24 = dktX4_lays_1 := dk_seg dksX4_lays_0 24 rfl rfl
theorem dX4_lays_0 : decode cX4_lays 0 = .ok (.aload_n 0, 1) := dk_42 (dk_at dksX4_lays_0 0 rfl rfl)
theorem dX4_lays_1 : decode cX4_lays 1 = .ok (.getfield 45, 3) := dk_180 0 45 (dk_at dksX4_lays_0 1 rfl rfl)
theorem dX4_lays_4 : decode cX4_lays 4 = .ok (.iload_n 1, 1) := dk_27 (dk_at dksX4_lays_0 4 rfl rfl)
theorem dX4_lays_5 : decode cX4_lays 5 = .ok (.aload_n 0, 1) := dk_42 (dk_at dksX4_lays_0 5 rfl rfl)
theorem dX4_lays_6 : decode cX4_lays 6 = .ok (.invokevirtual 101, 3) := dk_182 0 101 (dk_at dksX4_lays_0 6 rfl rfl)
theorem dX4_lays_9 : decode cX4_lays 9 = .ok (.bipush 6, 2) := dk_16 6 (dk_at dksX4_lays_0 9 rfl rfl)
theorem dX4_lays_11 : decode cX4_lays 11 = .ok (.idiv, 1) := dk_108 (dk_at dksX4_lays_0 11 rfl rfl)
theorem dX4_lays_12 : decode cX4_lays 12 = .ok (.iastore, 1) := dk_79 (dk_at dksX4_lays_0 12 rfl rfl)
theorem dX4_lays_13 : decode cX4_lays 13 = .ok (.aload_n 0, 1) := dk_42 (dk_at dksX4_lays_0 13 rfl rfl)
theorem dX4_lays_14 : decode cX4_lays 14 = .ok (.getfield 48, 3) := dk_180 0 48 (dk_at dksX4_lays_0 14 rfl rfl)
theorem dX4_lays_17 : decode cX4_lays 17 = .ok (.iload_n 1, 1) := dk_27 (dk_at dksX4_lays_0 17 rfl rfl)
theorem dX4_lays_18 : decode cX4_lays 18 = .ok (.aload_n 0, 1) := dk_42 (dk_at dksX4_lays_0 18 rfl rfl)
theorem dX4_lays_19 : decode cX4_lays 19 = .ok (.getfield 7, 3) := dk_180 0 7 (dk_at dksX4_lays_0 19 rfl rfl)
theorem dX4_lays_22 : decode cX4_lays 22 = .ok (.bipush 6, 2) := dk_16 6 (dk_at dksX4_lays_0 22 rfl rfl)
theorem dX4_lays_24 : decode cX4_lays 24 = .ok (.iaload, 1) := dk_46 (dk_at dksX4_lays_1 0 rfl rfl)
theorem dX4_lays_25 : decode cX4_lays 25 = .ok (.iastore, 1) := dk_79 (dk_at dksX4_lays_1 1 rfl rfl)
theorem dX4_lays_26 : decode cX4_lays 26 = .ok (.return_, 1) := dk_177 (dk_at dksX4_lays_1 2 rfl rfl)
abbrev cX4_core : ByteArray := prog_12_method_14_code
def yX4_core : MethodName := ⟨RX4, "core", "()I"⟩
def dkwX4_core_1 : List UInt8 := [167, 255, 238, 31, 42, 180, 0, 13, 133, 105, 20, 0, 99, 109, 136, 172]
abbrev dktX4_core_1 : List UInt8 := dkwX4_core_1 ++ []
def dkwX4_core_0 : List UInt8 := [9, 64, 3, 62, 29, 6, 162, 0, 19, 31, 42, 180, 0, 42, 29, 46, 133, 97, 64, 132, 3, 1]
abbrev dktX4_core_0 : List UInt8 := dkwX4_core_0 ++ dktX4_core_1
theorem dksX4_core_0 : cX4_core.data.toList.drop 0 = dktX4_core_0 := by decide +kernel
theorem dksX4_core_1 : cX4_core.data.toList.drop 22 = dktX4_core_1 := dk_seg dksX4_core_0 22 rfl rfl
theorem dX4_core_0 : decode cX4_core 0 = .ok (.lconst 0, 1) := dk_9 (dk_at dksX4_core_0 0 rfl rfl)
theorem dX4_core_1 : decode cX4_core 1 = .ok (.lstore_n 1, 1) := dk_64 (dk_at dksX4_core_0 1 rfl rfl)
theorem dX4_core_2 : decode cX4_core 2 = .ok (.iconst 0, 1) := dk_3 (dk_at dksX4_core_0 2 rfl rfl)
theorem dX4_core_3 : decode cX4_core 3 = .ok (.istore_n 3, 1) := dk_62 (dk_at dksX4_core_0 3 rfl rfl)
theorem dX4_core_4 : decode cX4_core 4 = .ok (.iload_n 3, 1) := dk_29 (dk_at dksX4_core_0 4 rfl rfl)
theorem dX4_core_5 : decode cX4_core 5 = .ok (.iconst 3, 1) := dk_6 (dk_at dksX4_core_0 5 rfl rfl)
theorem dX4_core_6 : decode cX4_core 6 = .ok (.if_icmp .ge 19, 3) := dk_162 0 19 (dk_at dksX4_core_0 6 rfl rfl)
theorem dX4_core_9 : decode cX4_core 9 = .ok (.lload_n 1, 1) := dk_31 (dk_at dksX4_core_0 9 rfl rfl)
theorem dX4_core_10 : decode cX4_core 10 = .ok (.aload_n 0, 1) := dk_42 (dk_at dksX4_core_0 10 rfl rfl)
theorem dX4_core_11 : decode cX4_core 11 = .ok (.getfield 42, 3) := dk_180 0 42 (dk_at dksX4_core_0 11 rfl rfl)
theorem dX4_core_14 : decode cX4_core 14 = .ok (.iload_n 3, 1) := dk_29 (dk_at dksX4_core_0 14 rfl rfl)
theorem dX4_core_15 : decode cX4_core 15 = .ok (.iaload, 1) := dk_46 (dk_at dksX4_core_0 15 rfl rfl)
theorem dX4_core_16 : decode cX4_core 16 = .ok (.i2l, 1) := dk_133 (dk_at dksX4_core_0 16 rfl rfl)
theorem dX4_core_17 : decode cX4_core 17 = .ok (.ladd, 1) := dk_97 (dk_at dksX4_core_0 17 rfl rfl)
theorem dX4_core_18 : decode cX4_core 18 = .ok (.lstore_n 1, 1) := dk_64 (dk_at dksX4_core_0 18 rfl rfl)
theorem dX4_core_19 : decode cX4_core 19 = .ok (.iinc 3 1, 3) := dk_132 3 1 (dk_at dksX4_core_0 19 rfl rfl)
theorem dX4_core_22 : decode cX4_core 22 = .ok (.goto (-18), 3) := dk_167 255 238 (dk_at dksX4_core_1 0 rfl rfl)
theorem dX4_core_25 : decode cX4_core 25 = .ok (.lload_n 1, 1) := dk_31 (dk_at dksX4_core_1 3 rfl rfl)
theorem dX4_core_26 : decode cX4_core 26 = .ok (.aload_n 0, 1) := dk_42 (dk_at dksX4_core_1 4 rfl rfl)
theorem dX4_core_27 : decode cX4_core 27 = .ok (.getfield 13, 3) := dk_180 0 13 (dk_at dksX4_core_1 5 rfl rfl)
theorem dX4_core_30 : decode cX4_core 30 = .ok (.i2l, 1) := dk_133 (dk_at dksX4_core_1 8 rfl rfl)
theorem dX4_core_31 : decode cX4_core 31 = .ok (.lmul, 1) := dk_105 (dk_at dksX4_core_1 9 rfl rfl)
theorem dX4_core_32 : decode cX4_core 32 = .ok (.ldc2_w 99, 3) := dk_20 0 99 (dk_at dksX4_core_1 10 rfl rfl)
theorem dX4_core_35 : decode cX4_core 35 = .ok (.ldiv, 1) := dk_109 (dk_at dksX4_core_1 13 rfl rfl)
theorem dX4_core_36 : decode cX4_core 36 = .ok (.l2i, 1) := dk_136 (dk_at dksX4_core_1 14 rfl rfl)
theorem dX4_core_37 : decode cX4_core 37 = .ok (.ireturn, 1) := dk_172 (dk_at dksX4_core_1 15 rfl rfl)
abbrev cX4_closeMonth : ByteArray := prog_12_method_20_code
def yX4_closeMonth : MethodName := ⟨RX4, "closeMonth", "()I"⟩
def dkwX4_closeMonth_11 : List UInt8 := [181, 0, 73, 42, 42, 180, 0, 73, 16, 6, 112, 182, 0, 106, 42, 180, 0, 73, 172]
abbrev dktX4_closeMonth_11 : List UInt8 := dkwX4_closeMonth_11 ++ []
def dkwX4_closeMonth_10 : List UInt8 := [42, 180, 0, 33, 29, 46, 100, 3, 79, 132, 3, 1, 167, 255, 207, 42, 89, 180, 0, 73, 4, 96]
abbrev dktX4_closeMonth_10 : List UInt8 := dkwX4_closeMonth_10 ++ dktX4_closeMonth_11
def dkwX4_closeMonth_9 : List UInt8 := [180, 0, 33, 29, 46, 100, 16, 6, 162, 0, 25, 42, 180, 0, 36, 16, 6, 29, 104, 42, 180, 0, 73, 96]
abbrev dktX4_closeMonth_9 : List UInt8 := dkwX4_closeMonth_9 ++ dktX4_closeMonth_10
def dkwX4_closeMonth_8 : List UInt8 := [180, 0, 60, 42, 180, 0, 73, 28, 79, 3, 62, 29, 42, 180, 0, 66, 162, 0, 47, 42, 180, 0, 73, 42]
abbrev dktX4_closeMonth_8 : List UInt8 := dkwX4_closeMonth_8 ++ dktX4_closeMonth_9
def dkwX4_closeMonth_7 : List UInt8 := [182, 0, 120, 100, 61, 132, 3, 1, 167, 255, 205, 42, 180, 0, 57, 42, 180, 0, 73, 27, 79, 42]
abbrev dktX4_closeMonth_7 : List UInt8 := dkwX4_closeMonth_7 ++ dktX4_closeMonth_8
def dkwX4_closeMonth_6 : List UInt8 := [182, 0, 117, 42, 29, 182, 0, 120, 100, 96, 79, 27, 42, 29, 182, 0, 117, 100, 60, 28, 42, 29]
abbrev dktX4_closeMonth_6 : List UInt8 := dkwX4_closeMonth_6 ++ dktX4_closeMonth_7
def dkwX4_closeMonth_5 : List UInt8 := [62, 29, 6, 162, 0, 52, 42, 180, 0, 51, 6, 42, 180, 0, 73, 104, 29, 96, 92, 46, 42, 29]
abbrev dktX4_closeMonth_5 : List UInt8 := dkwX4_closeMonth_5 ++ dktX4_closeMonth_6
def dkwX4_closeMonth_4 : List UInt8 := [29, 5, 182, 0, 113, 96, 96, 60, 28, 42, 29, 3, 182, 0, 113, 96, 61, 132, 3, 1, 167, 255, 166, 3]
abbrev dktX4_closeMonth_4 : List UInt8 := dkwX4_closeMonth_4 ++ dktX4_closeMonth_5
def dkwX4_closeMonth_3 : List UInt8 := [180, 0, 20, 29, 46, 96, 92, 46, 42, 29, 6, 182, 0, 113, 96, 79, 27, 42, 29, 4, 182, 0, 113, 42]
abbrev dktX4_closeMonth_3 : List UInt8 := dkwX4_closeMonth_3 ++ dktX4_closeMonth_4
def dkwX4_closeMonth_2 : List UInt8 := [29, 46, 96, 92, 46, 42, 29, 6, 182, 0, 113, 96, 79, 42, 180, 0, 54, 6, 42, 180, 0, 73, 104, 42]
abbrev dktX4_closeMonth_2 : List UInt8 := dkwX4_closeMonth_2 ++ dktX4_closeMonth_3
def dkwX4_closeMonth_1 : List UInt8 := [3, 62, 29, 42, 180, 0, 66, 162, 0, 88, 42, 180, 0, 51, 6, 42, 180, 0, 73, 104, 42, 180, 0, 17]
abbrev dktX4_closeMonth_1 : List UInt8 := dkwX4_closeMonth_1 ++ dktX4_closeMonth_2
def dkwX4_closeMonth_0 : List UInt8 := [42, 3, 181, 0, 63, 42, 180, 0, 73, 16, 47, 160, 0, 9, 42, 4, 182, 0, 76, 172, 3, 60, 3, 61]
abbrev dktX4_closeMonth_0 : List UInt8 := dkwX4_closeMonth_0 ++ dktX4_closeMonth_1
theorem dksX4_closeMonth_0 : cX4_closeMonth.data.toList.drop 0 = dktX4_closeMonth_0 := by decide +kernel
theorem dksX4_closeMonth_1 : cX4_closeMonth.data.toList.drop 24 = dktX4_closeMonth_1 := dk_seg dksX4_closeMonth_0 24 rfl rfl
theorem dksX4_closeMonth_2 : cX4_closeMonth.data.toList.drop 48 = dktX4_closeMonth_2 := dk_seg dksX4_closeMonth_1 24 rfl rfl
theorem dksX4_closeMonth_3 : cX4_closeMonth.data.toList.drop 72 = dktX4_closeMonth_3 := dk_seg dksX4_closeMonth_2 24 rfl rfl
theorem dksX4_closeMonth_4 : cX4_closeMonth.data.toList.drop 96 = dktX4_closeMonth_4 := dk_seg dksX4_closeMonth_3 24 rfl rfl
theorem dksX4_closeMonth_5 : cX4_closeMonth.data.toList.drop 120 = dktX4_closeMonth_5 := dk_seg dksX4_closeMonth_4 24 rfl rfl
theorem dksX4_closeMonth_6 : cX4_closeMonth.data.toList.drop 142 = dktX4_closeMonth_6 := dk_seg dksX4_closeMonth_5 22 rfl rfl
theorem dksX4_closeMonth_7 : cX4_closeMonth.data.toList.drop 164 = dktX4_closeMonth_7 := dk_seg dksX4_closeMonth_6 22 rfl rfl
theorem dksX4_closeMonth_8 : cX4_closeMonth.data.toList.drop 186 = dktX4_closeMonth_8 := dk_seg dksX4_closeMonth_7 22 rfl rfl
theorem dksX4_closeMonth_9 : cX4_closeMonth.data.toList.drop 210 = dktX4_closeMonth_9 := dk_seg dksX4_closeMonth_8 24 rfl rfl
theorem dksX4_closeMonth_10 : cX4_closeMonth.data.toList.drop 234 = dktX4_closeMonth_10 := dk_seg dksX4_closeMonth_9 24 rfl rfl
theorem dksX4_closeMonth_11 : cX4_closeMonth.data.toList.drop 256 = dktX4_closeMonth_11 := dk_seg dksX4_closeMonth_10 22 rfl rfl
theorem dX4_closeMonth_0 : decode cX4_closeMonth 0 = .ok (.aload_n 0, 1) := dk_42 (dk_at dksX4_closeMonth_0 0 rfl rfl)
theorem dX4_closeMonth_1 : decode cX4_closeMonth 1 = .ok (.iconst 0, 1) := dk_3 (dk_at dksX4_closeMonth_0 1 rfl rfl)
theorem dX4_closeMonth_2 : decode cX4_closeMonth 2 = .ok (.putfield 63, 3) := dk_181 0 63 (dk_at dksX4_closeMonth_0 2 rfl rfl)
theorem dX4_closeMonth_5 : decode cX4_closeMonth 5 = .ok (.aload_n 0, 1) := dk_42 (dk_at dksX4_closeMonth_0 5 rfl rfl)
theorem dX4_closeMonth_6 : decode cX4_closeMonth 6 = .ok (.getfield 73, 3) := dk_180 0 73 (dk_at dksX4_closeMonth_0 6 rfl rfl)
theorem dX4_closeMonth_9 : decode cX4_closeMonth 9 = .ok (.bipush 47, 2) := dk_16 47 (dk_at dksX4_closeMonth_0 9 rfl rfl)
theorem dX4_closeMonth_11 : decode cX4_closeMonth 11 = .ok (.if_icmp .ne 9, 3) := dk_160 0 9 (dk_at dksX4_closeMonth_0 11 rfl rfl)
theorem dX4_closeMonth_14 : decode cX4_closeMonth 14 = .ok (.aload_n 0, 1) := dk_42 (dk_at dksX4_closeMonth_0 14 rfl rfl)
theorem dX4_closeMonth_15 : decode cX4_closeMonth 15 = .ok (.iconst 1, 1) := dk_4 (dk_at dksX4_closeMonth_0 15 rfl rfl)
theorem dX4_closeMonth_16 : decode cX4_closeMonth 16 = .ok (.invokevirtual 76, 3) := dk_182 0 76 (dk_at dksX4_closeMonth_0 16 rfl rfl)
theorem dX4_closeMonth_19 : decode cX4_closeMonth 19 = .ok (.ireturn, 1) := dk_172 (dk_at dksX4_closeMonth_0 19 rfl rfl)
theorem dX4_closeMonth_20 : decode cX4_closeMonth 20 = .ok (.iconst 0, 1) := dk_3 (dk_at dksX4_closeMonth_0 20 rfl rfl)
theorem dX4_closeMonth_21 : decode cX4_closeMonth 21 = .ok (.istore_n 1, 1) := dk_60 (dk_at dksX4_closeMonth_0 21 rfl rfl)
theorem dX4_closeMonth_22 : decode cX4_closeMonth 22 = .ok (.iconst 0, 1) := dk_3 (dk_at dksX4_closeMonth_0 22 rfl rfl)
theorem dX4_closeMonth_23 : decode cX4_closeMonth 23 = .ok (.istore_n 2, 1) := dk_61 (dk_at dksX4_closeMonth_0 23 rfl rfl)
theorem dX4_closeMonth_24 : decode cX4_closeMonth 24 = .ok (.iconst 0, 1) := dk_3 (dk_at dksX4_closeMonth_1 0 rfl rfl)
theorem dX4_closeMonth_25 : decode cX4_closeMonth 25 = .ok (.istore_n 3, 1) := dk_62 (dk_at dksX4_closeMonth_1 1 rfl rfl)
theorem dX4_closeMonth_26 : decode cX4_closeMonth 26 = .ok (.iload_n 3, 1) := dk_29 (dk_at dksX4_closeMonth_1 2 rfl rfl)
theorem dX4_closeMonth_27 : decode cX4_closeMonth 27 = .ok (.aload_n 0, 1) := dk_42 (dk_at dksX4_closeMonth_1 3 rfl rfl)
theorem dX4_closeMonth_28 : decode cX4_closeMonth 28 = .ok (.getfield 66, 3) := dk_180 0 66 (dk_at dksX4_closeMonth_1 4 rfl rfl)
theorem dX4_closeMonth_31 : decode cX4_closeMonth 31 = .ok (.if_icmp .ge 88, 3) := dk_162 0 88 (dk_at dksX4_closeMonth_1 7 rfl rfl)
theorem dX4_closeMonth_34 : decode cX4_closeMonth 34 = .ok (.aload_n 0, 1) := dk_42 (dk_at dksX4_closeMonth_1 10 rfl rfl)
theorem dX4_closeMonth_35 : decode cX4_closeMonth 35 = .ok (.getfield 51, 3) := dk_180 0 51 (dk_at dksX4_closeMonth_1 11 rfl rfl)
theorem dX4_closeMonth_38 : decode cX4_closeMonth 38 = .ok (.iconst 3, 1) := dk_6 (dk_at dksX4_closeMonth_1 14 rfl rfl)
theorem dX4_closeMonth_39 : decode cX4_closeMonth 39 = .ok (.aload_n 0, 1) := dk_42 (dk_at dksX4_closeMonth_1 15 rfl rfl)
theorem dX4_closeMonth_40 : decode cX4_closeMonth 40 = .ok (.getfield 73, 3) := dk_180 0 73 (dk_at dksX4_closeMonth_1 16 rfl rfl)
theorem dX4_closeMonth_43 : decode cX4_closeMonth 43 = .ok (.imul, 1) := dk_104 (dk_at dksX4_closeMonth_1 19 rfl rfl)
theorem dX4_closeMonth_44 : decode cX4_closeMonth 44 = .ok (.aload_n 0, 1) := dk_42 (dk_at dksX4_closeMonth_1 20 rfl rfl)
theorem dX4_closeMonth_45 : decode cX4_closeMonth 45 = .ok (.getfield 17, 3) := dk_180 0 17 (dk_at dksX4_closeMonth_1 21 rfl rfl)
theorem dX4_closeMonth_48 : decode cX4_closeMonth 48 = .ok (.iload_n 3, 1) := dk_29 (dk_at dksX4_closeMonth_2 0 rfl rfl)
theorem dX4_closeMonth_49 : decode cX4_closeMonth 49 = .ok (.iaload, 1) := dk_46 (dk_at dksX4_closeMonth_2 1 rfl rfl)
theorem dX4_closeMonth_50 : decode cX4_closeMonth 50 = .ok (.iadd, 1) := dk_96 (dk_at dksX4_closeMonth_2 2 rfl rfl)
theorem dX4_closeMonth_51 : decode cX4_closeMonth 51 = .ok (.dup2, 1) := dk_92 (dk_at dksX4_closeMonth_2 3 rfl rfl)
theorem dX4_closeMonth_52 : decode cX4_closeMonth 52 = .ok (.iaload, 1) := dk_46 (dk_at dksX4_closeMonth_2 4 rfl rfl)
theorem dX4_closeMonth_53 : decode cX4_closeMonth 53 = .ok (.aload_n 0, 1) := dk_42 (dk_at dksX4_closeMonth_2 5 rfl rfl)
theorem dX4_closeMonth_54 : decode cX4_closeMonth 54 = .ok (.iload_n 3, 1) := dk_29 (dk_at dksX4_closeMonth_2 6 rfl rfl)
theorem dX4_closeMonth_55 : decode cX4_closeMonth 55 = .ok (.iconst 3, 1) := dk_6 (dk_at dksX4_closeMonth_2 7 rfl rfl)
theorem dX4_closeMonth_56 : decode cX4_closeMonth 56 = .ok (.invokevirtual 113, 3) := dk_182 0 113 (dk_at dksX4_closeMonth_2 8 rfl rfl)
theorem dX4_closeMonth_59 : decode cX4_closeMonth 59 = .ok (.iadd, 1) := dk_96 (dk_at dksX4_closeMonth_2 11 rfl rfl)
theorem dX4_closeMonth_60 : decode cX4_closeMonth 60 = .ok (.iastore, 1) := dk_79 (dk_at dksX4_closeMonth_2 12 rfl rfl)
theorem dX4_closeMonth_61 : decode cX4_closeMonth 61 = .ok (.aload_n 0, 1) := dk_42 (dk_at dksX4_closeMonth_2 13 rfl rfl)
theorem dX4_closeMonth_62 : decode cX4_closeMonth 62 = .ok (.getfield 54, 3) := dk_180 0 54 (dk_at dksX4_closeMonth_2 14 rfl rfl)
theorem dX4_closeMonth_65 : decode cX4_closeMonth 65 = .ok (.iconst 3, 1) := dk_6 (dk_at dksX4_closeMonth_2 17 rfl rfl)
theorem dX4_closeMonth_66 : decode cX4_closeMonth 66 = .ok (.aload_n 0, 1) := dk_42 (dk_at dksX4_closeMonth_2 18 rfl rfl)
theorem dX4_closeMonth_67 : decode cX4_closeMonth 67 = .ok (.getfield 73, 3) := dk_180 0 73 (dk_at dksX4_closeMonth_2 19 rfl rfl)
theorem dX4_closeMonth_70 : decode cX4_closeMonth 70 = .ok (.imul, 1) := dk_104 (dk_at dksX4_closeMonth_2 22 rfl rfl)
theorem dX4_closeMonth_71 : decode cX4_closeMonth 71 = .ok (.aload_n 0, 1) := dk_42 (dk_at dksX4_closeMonth_2 23 rfl rfl)
theorem dX4_closeMonth_72 : decode cX4_closeMonth 72 = .ok (.getfield 20, 3) := dk_180 0 20 (dk_at dksX4_closeMonth_3 0 rfl rfl)
theorem dX4_closeMonth_75 : decode cX4_closeMonth 75 = .ok (.iload_n 3, 1) := dk_29 (dk_at dksX4_closeMonth_3 3 rfl rfl)
theorem dX4_closeMonth_76 : decode cX4_closeMonth 76 = .ok (.iaload, 1) := dk_46 (dk_at dksX4_closeMonth_3 4 rfl rfl)
theorem dX4_closeMonth_77 : decode cX4_closeMonth 77 = .ok (.iadd, 1) := dk_96 (dk_at dksX4_closeMonth_3 5 rfl rfl)
theorem dX4_closeMonth_78 : decode cX4_closeMonth 78 = .ok (.dup2, 1) := dk_92 (dk_at dksX4_closeMonth_3 6 rfl rfl)
theorem dX4_closeMonth_79 : decode cX4_closeMonth 79 = .ok (.iaload, 1) := dk_46 (dk_at dksX4_closeMonth_3 7 rfl rfl)
theorem dX4_closeMonth_80 : decode cX4_closeMonth 80 = .ok (.aload_n 0, 1) := dk_42 (dk_at dksX4_closeMonth_3 8 rfl rfl)
theorem dX4_closeMonth_81 : decode cX4_closeMonth 81 = .ok (.iload_n 3, 1) := dk_29 (dk_at dksX4_closeMonth_3 9 rfl rfl)
theorem dX4_closeMonth_82 : decode cX4_closeMonth 82 = .ok (.iconst 3, 1) := dk_6 (dk_at dksX4_closeMonth_3 10 rfl rfl)
theorem dX4_closeMonth_83 : decode cX4_closeMonth 83 = .ok (.invokevirtual 113, 3) := dk_182 0 113 (dk_at dksX4_closeMonth_3 11 rfl rfl)
theorem dX4_closeMonth_86 : decode cX4_closeMonth 86 = .ok (.iadd, 1) := dk_96 (dk_at dksX4_closeMonth_3 14 rfl rfl)
theorem dX4_closeMonth_87 : decode cX4_closeMonth 87 = .ok (.iastore, 1) := dk_79 (dk_at dksX4_closeMonth_3 15 rfl rfl)
theorem dX4_closeMonth_88 : decode cX4_closeMonth 88 = .ok (.iload_n 1, 1) := dk_27 (dk_at dksX4_closeMonth_3 16 rfl rfl)
theorem dX4_closeMonth_89 : decode cX4_closeMonth 89 = .ok (.aload_n 0, 1) := dk_42 (dk_at dksX4_closeMonth_3 17 rfl rfl)
theorem dX4_closeMonth_90 : decode cX4_closeMonth 90 = .ok (.iload_n 3, 1) := dk_29 (dk_at dksX4_closeMonth_3 18 rfl rfl)
theorem dX4_closeMonth_91 : decode cX4_closeMonth 91 = .ok (.iconst 1, 1) := dk_4 (dk_at dksX4_closeMonth_3 19 rfl rfl)
theorem dX4_closeMonth_92 : decode cX4_closeMonth 92 = .ok (.invokevirtual 113, 3) := dk_182 0 113 (dk_at dksX4_closeMonth_3 20 rfl rfl)
theorem dX4_closeMonth_95 : decode cX4_closeMonth 95 = .ok (.aload_n 0, 1) := dk_42 (dk_at dksX4_closeMonth_3 23 rfl rfl)
theorem dX4_closeMonth_96 : decode cX4_closeMonth 96 = .ok (.iload_n 3, 1) := dk_29 (dk_at dksX4_closeMonth_4 0 rfl rfl)
theorem dX4_closeMonth_97 : decode cX4_closeMonth 97 = .ok (.iconst 2, 1) := dk_5 (dk_at dksX4_closeMonth_4 1 rfl rfl)
theorem dX4_closeMonth_98 : decode cX4_closeMonth 98 = .ok (.invokevirtual 113, 3) := dk_182 0 113 (dk_at dksX4_closeMonth_4 2 rfl rfl)
theorem dX4_closeMonth_101 : decode cX4_closeMonth 101 = .ok (.iadd, 1) := dk_96 (dk_at dksX4_closeMonth_4 5 rfl rfl)
theorem dX4_closeMonth_102 : decode cX4_closeMonth 102 = .ok (.iadd, 1) := dk_96 (dk_at dksX4_closeMonth_4 6 rfl rfl)
theorem dX4_closeMonth_103 : decode cX4_closeMonth 103 = .ok (.istore_n 1, 1) := dk_60 (dk_at dksX4_closeMonth_4 7 rfl rfl)
theorem dX4_closeMonth_104 : decode cX4_closeMonth 104 = .ok (.iload_n 2, 1) := dk_28 (dk_at dksX4_closeMonth_4 8 rfl rfl)
theorem dX4_closeMonth_105 : decode cX4_closeMonth 105 = .ok (.aload_n 0, 1) := dk_42 (dk_at dksX4_closeMonth_4 9 rfl rfl)
theorem dX4_closeMonth_106 : decode cX4_closeMonth 106 = .ok (.iload_n 3, 1) := dk_29 (dk_at dksX4_closeMonth_4 10 rfl rfl)
theorem dX4_closeMonth_107 : decode cX4_closeMonth 107 = .ok (.iconst 0, 1) := dk_3 (dk_at dksX4_closeMonth_4 11 rfl rfl)
theorem dX4_closeMonth_108 : decode cX4_closeMonth 108 = .ok (.invokevirtual 113, 3) := dk_182 0 113 (dk_at dksX4_closeMonth_4 12 rfl rfl)
theorem dX4_closeMonth_111 : decode cX4_closeMonth 111 = .ok (.iadd, 1) := dk_96 (dk_at dksX4_closeMonth_4 15 rfl rfl)
theorem dX4_closeMonth_112 : decode cX4_closeMonth 112 = .ok (.istore_n 2, 1) := dk_61 (dk_at dksX4_closeMonth_4 16 rfl rfl)
theorem dX4_closeMonth_113 : decode cX4_closeMonth 113 = .ok (.iinc 3 1, 3) := dk_132 3 1 (dk_at dksX4_closeMonth_4 17 rfl rfl)
theorem dX4_closeMonth_116 : decode cX4_closeMonth 116 = .ok (.goto (-90), 3) := dk_167 255 166 (dk_at dksX4_closeMonth_4 20 rfl rfl)
theorem dX4_closeMonth_119 : decode cX4_closeMonth 119 = .ok (.iconst 0, 1) := dk_3 (dk_at dksX4_closeMonth_4 23 rfl rfl)
theorem dX4_closeMonth_120 : decode cX4_closeMonth 120 = .ok (.istore_n 3, 1) := dk_62 (dk_at dksX4_closeMonth_5 0 rfl rfl)
theorem dX4_closeMonth_121 : decode cX4_closeMonth 121 = .ok (.iload_n 3, 1) := dk_29 (dk_at dksX4_closeMonth_5 1 rfl rfl)
theorem dX4_closeMonth_122 : decode cX4_closeMonth 122 = .ok (.iconst 3, 1) := dk_6 (dk_at dksX4_closeMonth_5 2 rfl rfl)
theorem dX4_closeMonth_123 : decode cX4_closeMonth 123 = .ok (.if_icmp .ge 52, 3) := dk_162 0 52 (dk_at dksX4_closeMonth_5 3 rfl rfl)
theorem dX4_closeMonth_126 : decode cX4_closeMonth 126 = .ok (.aload_n 0, 1) := dk_42 (dk_at dksX4_closeMonth_5 6 rfl rfl)
theorem dX4_closeMonth_127 : decode cX4_closeMonth 127 = .ok (.getfield 51, 3) := dk_180 0 51 (dk_at dksX4_closeMonth_5 7 rfl rfl)
theorem dX4_closeMonth_130 : decode cX4_closeMonth 130 = .ok (.iconst 3, 1) := dk_6 (dk_at dksX4_closeMonth_5 10 rfl rfl)
theorem dX4_closeMonth_131 : decode cX4_closeMonth 131 = .ok (.aload_n 0, 1) := dk_42 (dk_at dksX4_closeMonth_5 11 rfl rfl)
theorem dX4_closeMonth_132 : decode cX4_closeMonth 132 = .ok (.getfield 73, 3) := dk_180 0 73 (dk_at dksX4_closeMonth_5 12 rfl rfl)
theorem dX4_closeMonth_135 : decode cX4_closeMonth 135 = .ok (.imul, 1) := dk_104 (dk_at dksX4_closeMonth_5 15 rfl rfl)
theorem dX4_closeMonth_136 : decode cX4_closeMonth 136 = .ok (.iload_n 3, 1) := dk_29 (dk_at dksX4_closeMonth_5 16 rfl rfl)
theorem dX4_closeMonth_137 : decode cX4_closeMonth 137 = .ok (.iadd, 1) := dk_96 (dk_at dksX4_closeMonth_5 17 rfl rfl)
theorem dX4_closeMonth_138 : decode cX4_closeMonth 138 = .ok (.dup2, 1) := dk_92 (dk_at dksX4_closeMonth_5 18 rfl rfl)
theorem dX4_closeMonth_139 : decode cX4_closeMonth 139 = .ok (.iaload, 1) := dk_46 (dk_at dksX4_closeMonth_5 19 rfl rfl)
theorem dX4_closeMonth_140 : decode cX4_closeMonth 140 = .ok (.aload_n 0, 1) := dk_42 (dk_at dksX4_closeMonth_5 20 rfl rfl)
theorem dX4_closeMonth_141 : decode cX4_closeMonth 141 = .ok (.iload_n 3, 1) := dk_29 (dk_at dksX4_closeMonth_5 21 rfl rfl)
theorem dX4_closeMonth_142 : decode cX4_closeMonth 142 = .ok (.invokevirtual 117, 3) := dk_182 0 117 (dk_at dksX4_closeMonth_6 0 rfl rfl)
theorem dX4_closeMonth_145 : decode cX4_closeMonth 145 = .ok (.aload_n 0, 1) := dk_42 (dk_at dksX4_closeMonth_6 3 rfl rfl)
theorem dX4_closeMonth_146 : decode cX4_closeMonth 146 = .ok (.iload_n 3, 1) := dk_29 (dk_at dksX4_closeMonth_6 4 rfl rfl)
theorem dX4_closeMonth_147 : decode cX4_closeMonth 147 = .ok (.invokevirtual 120, 3) := dk_182 0 120 (dk_at dksX4_closeMonth_6 5 rfl rfl)
theorem dX4_closeMonth_150 : decode cX4_closeMonth 150 = .ok (.isub, 1) := dk_100 (dk_at dksX4_closeMonth_6 8 rfl rfl)
theorem dX4_closeMonth_151 : decode cX4_closeMonth 151 = .ok (.iadd, 1) := dk_96 (dk_at dksX4_closeMonth_6 9 rfl rfl)
theorem dX4_closeMonth_152 : decode cX4_closeMonth 152 = .ok (.iastore, 1) := dk_79 (dk_at dksX4_closeMonth_6 10 rfl rfl)
theorem dX4_closeMonth_153 : decode cX4_closeMonth 153 = .ok (.iload_n 1, 1) := dk_27 (dk_at dksX4_closeMonth_6 11 rfl rfl)
theorem dX4_closeMonth_154 : decode cX4_closeMonth 154 = .ok (.aload_n 0, 1) := dk_42 (dk_at dksX4_closeMonth_6 12 rfl rfl)
theorem dX4_closeMonth_155 : decode cX4_closeMonth 155 = .ok (.iload_n 3, 1) := dk_29 (dk_at dksX4_closeMonth_6 13 rfl rfl)
theorem dX4_closeMonth_156 : decode cX4_closeMonth 156 = .ok (.invokevirtual 117, 3) := dk_182 0 117 (dk_at dksX4_closeMonth_6 14 rfl rfl)
theorem dX4_closeMonth_159 : decode cX4_closeMonth 159 = .ok (.isub, 1) := dk_100 (dk_at dksX4_closeMonth_6 17 rfl rfl)
theorem dX4_closeMonth_160 : decode cX4_closeMonth 160 = .ok (.istore_n 1, 1) := dk_60 (dk_at dksX4_closeMonth_6 18 rfl rfl)
theorem dX4_closeMonth_161 : decode cX4_closeMonth 161 = .ok (.iload_n 2, 1) := dk_28 (dk_at dksX4_closeMonth_6 19 rfl rfl)
theorem dX4_closeMonth_162 : decode cX4_closeMonth 162 = .ok (.aload_n 0, 1) := dk_42 (dk_at dksX4_closeMonth_6 20 rfl rfl)
theorem dX4_closeMonth_163 : decode cX4_closeMonth 163 = .ok (.iload_n 3, 1) := dk_29 (dk_at dksX4_closeMonth_6 21 rfl rfl)
theorem dX4_closeMonth_164 : decode cX4_closeMonth 164 = .ok (.invokevirtual 120, 3) := dk_182 0 120 (dk_at dksX4_closeMonth_7 0 rfl rfl)
theorem dX4_closeMonth_167 : decode cX4_closeMonth 167 = .ok (.isub, 1) := dk_100 (dk_at dksX4_closeMonth_7 3 rfl rfl)
theorem dX4_closeMonth_168 : decode cX4_closeMonth 168 = .ok (.istore_n 2, 1) := dk_61 (dk_at dksX4_closeMonth_7 4 rfl rfl)
theorem dX4_closeMonth_169 : decode cX4_closeMonth 169 = .ok (.iinc 3 1, 3) := dk_132 3 1 (dk_at dksX4_closeMonth_7 5 rfl rfl)
theorem dX4_closeMonth_172 : decode cX4_closeMonth 172 = .ok (.goto (-51), 3) := dk_167 255 205 (dk_at dksX4_closeMonth_7 8 rfl rfl)
theorem dX4_closeMonth_175 : decode cX4_closeMonth 175 = .ok (.aload_n 0, 1) := dk_42 (dk_at dksX4_closeMonth_7 11 rfl rfl)
theorem dX4_closeMonth_176 : decode cX4_closeMonth 176 = .ok (.getfield 57, 3) := dk_180 0 57 (dk_at dksX4_closeMonth_7 12 rfl rfl)
theorem dX4_closeMonth_179 : decode cX4_closeMonth 179 = .ok (.aload_n 0, 1) := dk_42 (dk_at dksX4_closeMonth_7 15 rfl rfl)
theorem dX4_closeMonth_180 : decode cX4_closeMonth 180 = .ok (.getfield 73, 3) := dk_180 0 73 (dk_at dksX4_closeMonth_7 16 rfl rfl)
theorem dX4_closeMonth_183 : decode cX4_closeMonth 183 = .ok (.iload_n 1, 1) := dk_27 (dk_at dksX4_closeMonth_7 19 rfl rfl)
theorem dX4_closeMonth_184 : decode cX4_closeMonth 184 = .ok (.iastore, 1) := dk_79 (dk_at dksX4_closeMonth_7 20 rfl rfl)
theorem dX4_closeMonth_185 : decode cX4_closeMonth 185 = .ok (.aload_n 0, 1) := dk_42 (dk_at dksX4_closeMonth_7 21 rfl rfl)
theorem dX4_closeMonth_186 : decode cX4_closeMonth 186 = .ok (.getfield 60, 3) := dk_180 0 60 (dk_at dksX4_closeMonth_8 0 rfl rfl)
theorem dX4_closeMonth_189 : decode cX4_closeMonth 189 = .ok (.aload_n 0, 1) := dk_42 (dk_at dksX4_closeMonth_8 3 rfl rfl)
theorem dX4_closeMonth_190 : decode cX4_closeMonth 190 = .ok (.getfield 73, 3) := dk_180 0 73 (dk_at dksX4_closeMonth_8 4 rfl rfl)
theorem dX4_closeMonth_193 : decode cX4_closeMonth 193 = .ok (.iload_n 2, 1) := dk_28 (dk_at dksX4_closeMonth_8 7 rfl rfl)
theorem dX4_closeMonth_194 : decode cX4_closeMonth 194 = .ok (.iastore, 1) := dk_79 (dk_at dksX4_closeMonth_8 8 rfl rfl)
theorem dX4_closeMonth_195 : decode cX4_closeMonth 195 = .ok (.iconst 0, 1) := dk_3 (dk_at dksX4_closeMonth_8 9 rfl rfl)
theorem dX4_closeMonth_196 : decode cX4_closeMonth 196 = .ok (.istore_n 3, 1) := dk_62 (dk_at dksX4_closeMonth_8 10 rfl rfl)
theorem dX4_closeMonth_197 : decode cX4_closeMonth 197 = .ok (.iload_n 3, 1) := dk_29 (dk_at dksX4_closeMonth_8 11 rfl rfl)
theorem dX4_closeMonth_198 : decode cX4_closeMonth 198 = .ok (.aload_n 0, 1) := dk_42 (dk_at dksX4_closeMonth_8 12 rfl rfl)
theorem dX4_closeMonth_199 : decode cX4_closeMonth 199 = .ok (.getfield 66, 3) := dk_180 0 66 (dk_at dksX4_closeMonth_8 13 rfl rfl)
theorem dX4_closeMonth_202 : decode cX4_closeMonth 202 = .ok (.if_icmp .ge 47, 3) := dk_162 0 47 (dk_at dksX4_closeMonth_8 16 rfl rfl)
theorem dX4_closeMonth_205 : decode cX4_closeMonth 205 = .ok (.aload_n 0, 1) := dk_42 (dk_at dksX4_closeMonth_8 19 rfl rfl)
theorem dX4_closeMonth_206 : decode cX4_closeMonth 206 = .ok (.getfield 73, 3) := dk_180 0 73 (dk_at dksX4_closeMonth_8 20 rfl rfl)
theorem dX4_closeMonth_209 : decode cX4_closeMonth 209 = .ok (.aload_n 0, 1) := dk_42 (dk_at dksX4_closeMonth_8 23 rfl rfl)
theorem dX4_closeMonth_210 : decode cX4_closeMonth 210 = .ok (.getfield 33, 3) := dk_180 0 33 (dk_at dksX4_closeMonth_9 0 rfl rfl)
theorem dX4_closeMonth_213 : decode cX4_closeMonth 213 = .ok (.iload_n 3, 1) := dk_29 (dk_at dksX4_closeMonth_9 3 rfl rfl)
theorem dX4_closeMonth_214 : decode cX4_closeMonth 214 = .ok (.iaload, 1) := dk_46 (dk_at dksX4_closeMonth_9 4 rfl rfl)
theorem dX4_closeMonth_215 : decode cX4_closeMonth 215 = .ok (.isub, 1) := dk_100 (dk_at dksX4_closeMonth_9 5 rfl rfl)
theorem dX4_closeMonth_216 : decode cX4_closeMonth 216 = .ok (.bipush 6, 2) := dk_16 6 (dk_at dksX4_closeMonth_9 6 rfl rfl)
theorem dX4_closeMonth_218 : decode cX4_closeMonth 218 = .ok (.if_icmp .ge 25, 3) := dk_162 0 25 (dk_at dksX4_closeMonth_9 8 rfl rfl)
theorem dX4_closeMonth_221 : decode cX4_closeMonth 221 = .ok (.aload_n 0, 1) := dk_42 (dk_at dksX4_closeMonth_9 11 rfl rfl)
theorem dX4_closeMonth_222 : decode cX4_closeMonth 222 = .ok (.getfield 36, 3) := dk_180 0 36 (dk_at dksX4_closeMonth_9 12 rfl rfl)
theorem dX4_closeMonth_225 : decode cX4_closeMonth 225 = .ok (.bipush 6, 2) := dk_16 6 (dk_at dksX4_closeMonth_9 15 rfl rfl)
theorem dX4_closeMonth_227 : decode cX4_closeMonth 227 = .ok (.iload_n 3, 1) := dk_29 (dk_at dksX4_closeMonth_9 17 rfl rfl)
theorem dX4_closeMonth_228 : decode cX4_closeMonth 228 = .ok (.imul, 1) := dk_104 (dk_at dksX4_closeMonth_9 18 rfl rfl)
theorem dX4_closeMonth_229 : decode cX4_closeMonth 229 = .ok (.aload_n 0, 1) := dk_42 (dk_at dksX4_closeMonth_9 19 rfl rfl)
theorem dX4_closeMonth_230 : decode cX4_closeMonth 230 = .ok (.getfield 73, 3) := dk_180 0 73 (dk_at dksX4_closeMonth_9 20 rfl rfl)
theorem dX4_closeMonth_233 : decode cX4_closeMonth 233 = .ok (.iadd, 1) := dk_96 (dk_at dksX4_closeMonth_9 23 rfl rfl)
theorem dX4_closeMonth_234 : decode cX4_closeMonth 234 = .ok (.aload_n 0, 1) := dk_42 (dk_at dksX4_closeMonth_10 0 rfl rfl)
theorem dX4_closeMonth_235 : decode cX4_closeMonth 235 = .ok (.getfield 33, 3) := dk_180 0 33 (dk_at dksX4_closeMonth_10 1 rfl rfl)
theorem dX4_closeMonth_238 : decode cX4_closeMonth 238 = .ok (.iload_n 3, 1) := dk_29 (dk_at dksX4_closeMonth_10 4 rfl rfl)
theorem dX4_closeMonth_239 : decode cX4_closeMonth 239 = .ok (.iaload, 1) := dk_46 (dk_at dksX4_closeMonth_10 5 rfl rfl)
theorem dX4_closeMonth_240 : decode cX4_closeMonth 240 = .ok (.isub, 1) := dk_100 (dk_at dksX4_closeMonth_10 6 rfl rfl)
theorem dX4_closeMonth_241 : decode cX4_closeMonth 241 = .ok (.iconst 0, 1) := dk_3 (dk_at dksX4_closeMonth_10 7 rfl rfl)
theorem dX4_closeMonth_242 : decode cX4_closeMonth 242 = .ok (.iastore, 1) := dk_79 (dk_at dksX4_closeMonth_10 8 rfl rfl)
theorem dX4_closeMonth_243 : decode cX4_closeMonth 243 = .ok (.iinc 3 1, 3) := dk_132 3 1 (dk_at dksX4_closeMonth_10 9 rfl rfl)
theorem dX4_closeMonth_246 : decode cX4_closeMonth 246 = .ok (.goto (-49), 3) := dk_167 255 207 (dk_at dksX4_closeMonth_10 12 rfl rfl)
theorem dX4_closeMonth_249 : decode cX4_closeMonth 249 = .ok (.aload_n 0, 1) := dk_42 (dk_at dksX4_closeMonth_10 15 rfl rfl)
theorem dX4_closeMonth_250 : decode cX4_closeMonth 250 = .ok (.dup, 1) := dk_89 (dk_at dksX4_closeMonth_10 16 rfl rfl)
theorem dX4_closeMonth_251 : decode cX4_closeMonth 251 = .ok (.getfield 73, 3) := dk_180 0 73 (dk_at dksX4_closeMonth_10 17 rfl rfl)
theorem dX4_closeMonth_254 : decode cX4_closeMonth 254 = .ok (.iconst 1, 1) := dk_4 (dk_at dksX4_closeMonth_10 20 rfl rfl)
theorem dX4_closeMonth_255 : decode cX4_closeMonth 255 = .ok (.iadd, 1) := dk_96 (dk_at dksX4_closeMonth_10 21 rfl rfl)
theorem dX4_closeMonth_256 : decode cX4_closeMonth 256 = .ok (.putfield 73, 3) := dk_181 0 73 (dk_at dksX4_closeMonth_11 0 rfl rfl)
theorem dX4_closeMonth_259 : decode cX4_closeMonth 259 = .ok (.aload_n 0, 1) := dk_42 (dk_at dksX4_closeMonth_11 3 rfl rfl)
theorem dX4_closeMonth_260 : decode cX4_closeMonth 260 = .ok (.aload_n 0, 1) := dk_42 (dk_at dksX4_closeMonth_11 4 rfl rfl)
theorem dX4_closeMonth_261 : decode cX4_closeMonth 261 = .ok (.getfield 73, 3) := dk_180 0 73 (dk_at dksX4_closeMonth_11 5 rfl rfl)
theorem dX4_closeMonth_264 : decode cX4_closeMonth 264 = .ok (.bipush 6, 2) := dk_16 6 (dk_at dksX4_closeMonth_11 8 rfl rfl)
theorem dX4_closeMonth_266 : decode cX4_closeMonth 266 = .ok (.irem, 1) := dk_112 (dk_at dksX4_closeMonth_11 10 rfl rfl)
theorem dX4_closeMonth_267 : decode cX4_closeMonth 267 = .ok (.invokevirtual 106, 3) := dk_182 0 106 (dk_at dksX4_closeMonth_11 11 rfl rfl)
theorem dX4_closeMonth_270 : decode cX4_closeMonth 270 = .ok (.aload_n 0, 1) := dk_42 (dk_at dksX4_closeMonth_11 14 rfl rfl)
theorem dX4_closeMonth_271 : decode cX4_closeMonth 271 = .ok (.getfield 73, 3) := dk_180 0 73 (dk_at dksX4_closeMonth_11 15 rfl rfl)
theorem dX4_closeMonth_274 : decode cX4_closeMonth 274 = .ok (.ireturn, 1) := dk_172 (dk_at dksX4_closeMonth_11 18 rfl rfl)
abbrev cX4_bear : ByteArray := prog_12_method_11_code
def yX4_bear : MethodName := ⟨RX4, "bear", "(II)I"⟩
def dkwX4_bear_6 : List UInt8 := [21, 7, 21, 8, 100, 21, 9, 100, 172]
abbrev dktX4_bear_6 : List UInt8 := dkwX4_bear_6 ++ []
def dkwX4_bear_5 : List UInt8 := [167, 0, 31, 28, 4, 160, 0, 8, 21, 8, 167, 0, 21, 28, 5, 160, 0, 8, 21, 9, 167, 0, 11]
abbrev dktX4_bear_5 : List UInt8 := dkwX4_bear_5 ++ dktX4_bear_6
def dkwX4_bear_4 : List UInt8 := [180, 0, 26, 27, 46, 133, 105, 20, 0, 89, 109, 136, 167, 0, 4, 3, 54, 9, 28, 154, 0, 8, 21, 7]
abbrev dktX4_bear_4 : List UInt8 := dkwX4_bear_4 ++ dktX4_bear_5
def dkwX4_bear_3 : List UInt8 := [136, 54, 7, 22, 5, 20, 0, 89, 109, 136, 54, 8, 42, 180, 0, 29, 27, 51, 153, 0, 20, 33, 42]
abbrev dktX4_bear_3 : List UInt8 := dkwX4_bear_3 ++ dktX4_bear_4
def dkwX4_bear_2 : List UInt8 := [133, 105, 97, 55, 5, 132, 7, 1, 167, 255, 214, 33, 42, 180, 0, 23, 27, 46, 133, 105, 20, 0, 89, 109]
abbrev dktX4_bear_2 : List UInt8 := dkwX4_bear_2 ++ dktX4_bear_3
def dkwX4_bear_1 : List UInt8 := [180, 0, 36, 16, 6, 27, 104, 21, 7, 96, 46, 133, 42, 180, 0, 39, 16, 6, 27, 104, 21, 7, 96, 46]
abbrev dktX4_bear_1 : List UInt8 := dkwX4_bear_1 ++ dktX4_bear_2
def dkwX4_bear_0 : List UInt8 := [42, 27, 182, 0, 86, 133, 66, 9, 55, 5, 3, 54, 7, 21, 7, 16, 6, 162, 0, 41, 22, 5, 42]
abbrev dktX4_bear_0 : List UInt8 := dkwX4_bear_0 ++ dktX4_bear_1
theorem dksX4_bear_0 : cX4_bear.data.toList.drop 0 = dktX4_bear_0 := by decide +kernel
theorem dksX4_bear_1 : cX4_bear.data.toList.drop 23 = dktX4_bear_1 := dk_seg dksX4_bear_0 23 rfl rfl
theorem dksX4_bear_2 : cX4_bear.data.toList.drop 47 = dktX4_bear_2 := dk_seg dksX4_bear_1 24 rfl rfl
theorem dksX4_bear_3 : cX4_bear.data.toList.drop 71 = dktX4_bear_3 := dk_seg dksX4_bear_2 24 rfl rfl
theorem dksX4_bear_4 : cX4_bear.data.toList.drop 94 = dktX4_bear_4 := dk_seg dksX4_bear_3 23 rfl rfl
theorem dksX4_bear_5 : cX4_bear.data.toList.drop 118 = dktX4_bear_5 := dk_seg dksX4_bear_4 24 rfl rfl
theorem dksX4_bear_6 : cX4_bear.data.toList.drop 141 = dktX4_bear_6 := dk_seg dksX4_bear_5 23 rfl rfl
theorem dX4_bear_0 : decode cX4_bear 0 = .ok (.aload_n 0, 1) := dk_42 (dk_at dksX4_bear_0 0 rfl rfl)
theorem dX4_bear_1 : decode cX4_bear 1 = .ok (.iload_n 1, 1) := dk_27 (dk_at dksX4_bear_0 1 rfl rfl)
theorem dX4_bear_2 : decode cX4_bear 2 = .ok (.invokevirtual 86, 3) := dk_182 0 86 (dk_at dksX4_bear_0 2 rfl rfl)
theorem dX4_bear_5 : decode cX4_bear 5 = .ok (.i2l, 1) := dk_133 (dk_at dksX4_bear_0 5 rfl rfl)
theorem dX4_bear_6 : decode cX4_bear 6 = .ok (.lstore_n 3, 1) := dk_66 (dk_at dksX4_bear_0 6 rfl rfl)
theorem dX4_bear_7 : decode cX4_bear 7 = .ok (.lconst 0, 1) := dk_9 (dk_at dksX4_bear_0 7 rfl rfl)
theorem dX4_bear_8 : decode cX4_bear 8 = .ok (.lstore 5, 2) := dk_55 5 (dk_at dksX4_bear_0 8 rfl rfl)
theorem dX4_bear_10 : decode cX4_bear 10 = .ok (.iconst 0, 1) := dk_3 (dk_at dksX4_bear_0 10 rfl rfl)
theorem dX4_bear_11 : decode cX4_bear 11 = .ok (.istore 7, 2) := dk_54 7 (dk_at dksX4_bear_0 11 rfl rfl)
theorem dX4_bear_13 : decode cX4_bear 13 = .ok (.iload 7, 2) := dk_21 7 (dk_at dksX4_bear_0 13 rfl rfl)
theorem dX4_bear_15 : decode cX4_bear 15 = .ok (.bipush 6, 2) := dk_16 6 (dk_at dksX4_bear_0 15 rfl rfl)
theorem dX4_bear_17 : decode cX4_bear 17 = .ok (.if_icmp .ge 41, 3) := dk_162 0 41 (dk_at dksX4_bear_0 17 rfl rfl)
theorem dX4_bear_20 : decode cX4_bear 20 = .ok (.lload 5, 2) := dk_22 5 (dk_at dksX4_bear_0 20 rfl rfl)
theorem dX4_bear_22 : decode cX4_bear 22 = .ok (.aload_n 0, 1) := dk_42 (dk_at dksX4_bear_0 22 rfl rfl)
theorem dX4_bear_23 : decode cX4_bear 23 = .ok (.getfield 36, 3) := dk_180 0 36 (dk_at dksX4_bear_1 0 rfl rfl)
theorem dX4_bear_26 : decode cX4_bear 26 = .ok (.bipush 6, 2) := dk_16 6 (dk_at dksX4_bear_1 3 rfl rfl)
theorem dX4_bear_28 : decode cX4_bear 28 = .ok (.iload_n 1, 1) := dk_27 (dk_at dksX4_bear_1 5 rfl rfl)
theorem dX4_bear_29 : decode cX4_bear 29 = .ok (.imul, 1) := dk_104 (dk_at dksX4_bear_1 6 rfl rfl)
theorem dX4_bear_30 : decode cX4_bear 30 = .ok (.iload 7, 2) := dk_21 7 (dk_at dksX4_bear_1 7 rfl rfl)
theorem dX4_bear_32 : decode cX4_bear 32 = .ok (.iadd, 1) := dk_96 (dk_at dksX4_bear_1 9 rfl rfl)
theorem dX4_bear_33 : decode cX4_bear 33 = .ok (.iaload, 1) := dk_46 (dk_at dksX4_bear_1 10 rfl rfl)
theorem dX4_bear_34 : decode cX4_bear 34 = .ok (.i2l, 1) := dk_133 (dk_at dksX4_bear_1 11 rfl rfl)
theorem dX4_bear_35 : decode cX4_bear 35 = .ok (.aload_n 0, 1) := dk_42 (dk_at dksX4_bear_1 12 rfl rfl)
theorem dX4_bear_36 : decode cX4_bear 36 = .ok (.getfield 39, 3) := dk_180 0 39 (dk_at dksX4_bear_1 13 rfl rfl)
theorem dX4_bear_39 : decode cX4_bear 39 = .ok (.bipush 6, 2) := dk_16 6 (dk_at dksX4_bear_1 16 rfl rfl)
theorem dX4_bear_41 : decode cX4_bear 41 = .ok (.iload_n 1, 1) := dk_27 (dk_at dksX4_bear_1 18 rfl rfl)
theorem dX4_bear_42 : decode cX4_bear 42 = .ok (.imul, 1) := dk_104 (dk_at dksX4_bear_1 19 rfl rfl)
theorem dX4_bear_43 : decode cX4_bear 43 = .ok (.iload 7, 2) := dk_21 7 (dk_at dksX4_bear_1 20 rfl rfl)
theorem dX4_bear_45 : decode cX4_bear 45 = .ok (.iadd, 1) := dk_96 (dk_at dksX4_bear_1 22 rfl rfl)
theorem dX4_bear_46 : decode cX4_bear 46 = .ok (.iaload, 1) := dk_46 (dk_at dksX4_bear_1 23 rfl rfl)
theorem dX4_bear_47 : decode cX4_bear 47 = .ok (.i2l, 1) := dk_133 (dk_at dksX4_bear_2 0 rfl rfl)
theorem dX4_bear_48 : decode cX4_bear 48 = .ok (.lmul, 1) := dk_105 (dk_at dksX4_bear_2 1 rfl rfl)
theorem dX4_bear_49 : decode cX4_bear 49 = .ok (.ladd, 1) := dk_97 (dk_at dksX4_bear_2 2 rfl rfl)
theorem dX4_bear_50 : decode cX4_bear 50 = .ok (.lstore 5, 2) := dk_55 5 (dk_at dksX4_bear_2 3 rfl rfl)
theorem dX4_bear_52 : decode cX4_bear 52 = .ok (.iinc 7 1, 3) := dk_132 7 1 (dk_at dksX4_bear_2 5 rfl rfl)
theorem dX4_bear_55 : decode cX4_bear 55 = .ok (.goto (-42), 3) := dk_167 255 214 (dk_at dksX4_bear_2 8 rfl rfl)
theorem dX4_bear_58 : decode cX4_bear 58 = .ok (.lload_n 3, 1) := dk_33 (dk_at dksX4_bear_2 11 rfl rfl)
theorem dX4_bear_59 : decode cX4_bear 59 = .ok (.aload_n 0, 1) := dk_42 (dk_at dksX4_bear_2 12 rfl rfl)
theorem dX4_bear_60 : decode cX4_bear 60 = .ok (.getfield 23, 3) := dk_180 0 23 (dk_at dksX4_bear_2 13 rfl rfl)
theorem dX4_bear_63 : decode cX4_bear 63 = .ok (.iload_n 1, 1) := dk_27 (dk_at dksX4_bear_2 16 rfl rfl)
theorem dX4_bear_64 : decode cX4_bear 64 = .ok (.iaload, 1) := dk_46 (dk_at dksX4_bear_2 17 rfl rfl)
theorem dX4_bear_65 : decode cX4_bear 65 = .ok (.i2l, 1) := dk_133 (dk_at dksX4_bear_2 18 rfl rfl)
theorem dX4_bear_66 : decode cX4_bear 66 = .ok (.lmul, 1) := dk_105 (dk_at dksX4_bear_2 19 rfl rfl)
theorem dX4_bear_67 : decode cX4_bear 67 = .ok (.ldc2_w 89, 3) := dk_20 0 89 (dk_at dksX4_bear_2 20 rfl rfl)
theorem dX4_bear_70 : decode cX4_bear 70 = .ok (.ldiv, 1) := dk_109 (dk_at dksX4_bear_2 23 rfl rfl)
theorem dX4_bear_71 : decode cX4_bear 71 = .ok (.l2i, 1) := dk_136 (dk_at dksX4_bear_3 0 rfl rfl)
theorem dX4_bear_72 : decode cX4_bear 72 = .ok (.istore 7, 2) := dk_54 7 (dk_at dksX4_bear_3 1 rfl rfl)
theorem dX4_bear_74 : decode cX4_bear 74 = .ok (.lload 5, 2) := dk_22 5 (dk_at dksX4_bear_3 3 rfl rfl)
theorem dX4_bear_76 : decode cX4_bear 76 = .ok (.ldc2_w 89, 3) := dk_20 0 89 (dk_at dksX4_bear_3 5 rfl rfl)
theorem dX4_bear_79 : decode cX4_bear 79 = .ok (.ldiv, 1) := dk_109 (dk_at dksX4_bear_3 8 rfl rfl)
theorem dX4_bear_80 : decode cX4_bear 80 = .ok (.l2i, 1) := dk_136 (dk_at dksX4_bear_3 9 rfl rfl)
theorem dX4_bear_81 : decode cX4_bear 81 = .ok (.istore 8, 2) := dk_54 8 (dk_at dksX4_bear_3 10 rfl rfl)
theorem dX4_bear_83 : decode cX4_bear 83 = .ok (.aload_n 0, 1) := dk_42 (dk_at dksX4_bear_3 12 rfl rfl)
theorem dX4_bear_84 : decode cX4_bear 84 = .ok (.getfield 29, 3) := dk_180 0 29 (dk_at dksX4_bear_3 13 rfl rfl)
theorem dX4_bear_87 : decode cX4_bear 87 = .ok (.iload_n 1, 1) := dk_27 (dk_at dksX4_bear_3 16 rfl rfl)
theorem dX4_bear_88 : decode cX4_bear 88 = .ok (.baload, 1) := dk_51 (dk_at dksX4_bear_3 17 rfl rfl)
theorem dX4_bear_89 : decode cX4_bear 89 = .ok (.ifCond .eq 20, 3) := dk_153 0 20 (dk_at dksX4_bear_3 18 rfl rfl)
theorem dX4_bear_92 : decode cX4_bear 92 = .ok (.lload_n 3, 1) := dk_33 (dk_at dksX4_bear_3 21 rfl rfl)
theorem dX4_bear_93 : decode cX4_bear 93 = .ok (.aload_n 0, 1) := dk_42 (dk_at dksX4_bear_3 22 rfl rfl)
theorem dX4_bear_94 : decode cX4_bear 94 = .ok (.getfield 26, 3) := dk_180 0 26 (dk_at dksX4_bear_4 0 rfl rfl)
theorem dX4_bear_97 : decode cX4_bear 97 = .ok (.iload_n 1, 1) := dk_27 (dk_at dksX4_bear_4 3 rfl rfl)
theorem dX4_bear_98 : decode cX4_bear 98 = .ok (.iaload, 1) := dk_46 (dk_at dksX4_bear_4 4 rfl rfl)
theorem dX4_bear_99 : decode cX4_bear 99 = .ok (.i2l, 1) := dk_133 (dk_at dksX4_bear_4 5 rfl rfl)
theorem dX4_bear_100 : decode cX4_bear 100 = .ok (.lmul, 1) := dk_105 (dk_at dksX4_bear_4 6 rfl rfl)
theorem dX4_bear_101 : decode cX4_bear 101 = .ok (.ldc2_w 89, 3) := dk_20 0 89 (dk_at dksX4_bear_4 7 rfl rfl)
theorem dX4_bear_104 : decode cX4_bear 104 = .ok (.ldiv, 1) := dk_109 (dk_at dksX4_bear_4 10 rfl rfl)
theorem dX4_bear_105 : decode cX4_bear 105 = .ok (.l2i, 1) := dk_136 (dk_at dksX4_bear_4 11 rfl rfl)
theorem dX4_bear_106 : decode cX4_bear 106 = .ok (.goto 4, 3) := dk_167 0 4 (dk_at dksX4_bear_4 12 rfl rfl)
theorem dX4_bear_109 : decode cX4_bear 109 = .ok (.iconst 0, 1) := dk_3 (dk_at dksX4_bear_4 15 rfl rfl)
theorem dX4_bear_110 : decode cX4_bear 110 = .ok (.istore 9, 2) := dk_54 9 (dk_at dksX4_bear_4 16 rfl rfl)
theorem dX4_bear_112 : decode cX4_bear 112 = .ok (.iload_n 2, 1) := dk_28 (dk_at dksX4_bear_4 18 rfl rfl)
theorem dX4_bear_113 : decode cX4_bear 113 = .ok (.ifCond .ne 8, 3) := dk_154 0 8 (dk_at dksX4_bear_4 19 rfl rfl)
theorem dX4_bear_116 : decode cX4_bear 116 = .ok (.iload 7, 2) := dk_21 7 (dk_at dksX4_bear_4 22 rfl rfl)
theorem dX4_bear_118 : decode cX4_bear 118 = .ok (.goto 31, 3) := dk_167 0 31 (dk_at dksX4_bear_5 0 rfl rfl)
theorem dX4_bear_121 : decode cX4_bear 121 = .ok (.iload_n 2, 1) := dk_28 (dk_at dksX4_bear_5 3 rfl rfl)
theorem dX4_bear_122 : decode cX4_bear 122 = .ok (.iconst 1, 1) := dk_4 (dk_at dksX4_bear_5 4 rfl rfl)
theorem dX4_bear_123 : decode cX4_bear 123 = .ok (.if_icmp .ne 8, 3) := dk_160 0 8 (dk_at dksX4_bear_5 5 rfl rfl)
theorem dX4_bear_126 : decode cX4_bear 126 = .ok (.iload 8, 2) := dk_21 8 (dk_at dksX4_bear_5 8 rfl rfl)
theorem dX4_bear_128 : decode cX4_bear 128 = .ok (.goto 21, 3) := dk_167 0 21 (dk_at dksX4_bear_5 10 rfl rfl)
theorem dX4_bear_131 : decode cX4_bear 131 = .ok (.iload_n 2, 1) := dk_28 (dk_at dksX4_bear_5 13 rfl rfl)
theorem dX4_bear_132 : decode cX4_bear 132 = .ok (.iconst 2, 1) := dk_5 (dk_at dksX4_bear_5 14 rfl rfl)
theorem dX4_bear_133 : decode cX4_bear 133 = .ok (.if_icmp .ne 8, 3) := dk_160 0 8 (dk_at dksX4_bear_5 15 rfl rfl)
theorem dX4_bear_136 : decode cX4_bear 136 = .ok (.iload 9, 2) := dk_21 9 (dk_at dksX4_bear_5 18 rfl rfl)
theorem dX4_bear_138 : decode cX4_bear 138 = .ok (.goto 11, 3) := dk_167 0 11 (dk_at dksX4_bear_5 20 rfl rfl)
theorem dX4_bear_141 : decode cX4_bear 141 = .ok (.iload 7, 2) := dk_21 7 (dk_at dksX4_bear_6 0 rfl rfl)
theorem dX4_bear_143 : decode cX4_bear 143 = .ok (.iload 8, 2) := dk_21 8 (dk_at dksX4_bear_6 2 rfl rfl)
theorem dX4_bear_145 : decode cX4_bear 145 = .ok (.isub, 1) := dk_100 (dk_at dksX4_bear_6 4 rfl rfl)
theorem dX4_bear_146 : decode cX4_bear 146 = .ok (.iload 9, 2) := dk_21 9 (dk_at dksX4_bear_6 5 rfl rfl)
theorem dX4_bear_148 : decode cX4_bear 148 = .ok (.isub, 1) := dk_100 (dk_at dksX4_bear_6 7 rfl rfl)
theorem dX4_bear_149 : decode cX4_bear 149 = .ok (.ireturn, 1) := dk_172 (dk_at dksX4_bear_6 8 rfl rfl)
abbrev cX4_isPaid : ByteArray := prog_12_method_18_code
def yX4_isPaid : MethodName := ⟨RX4, "isPaid", "(I)I"⟩
def dkwX4_isPaid_2 : List UInt8 := [172]
abbrev dktX4_isPaid_2 : List UInt8 := dkwX4_isPaid_2 ++ []
def dkwX4_isPaid_1 : List UInt8 := [105, 42, 180, 0, 42, 27, 46, 133, 32, 101, 42, 180, 0, 7, 4, 46, 133, 105, 97, 20, 0, 89, 109, 136]
abbrev dktX4_isPaid_1 : List UInt8 := dkwX4_isPaid_1 ++ dktX4_isPaid_2
def dkwX4_isPaid_0 : List UInt8 := [42, 180, 0, 42, 27, 46, 133, 42, 180, 0, 13, 133, 105, 20, 0, 99, 109, 65, 32, 42, 182, 0, 110, 133]
abbrev dktX4_isPaid_0 : List UInt8 := dkwX4_isPaid_0 ++ dktX4_isPaid_1
theorem dksX4_isPaid_0 : cX4_isPaid.data.toList.drop 0 = dktX4_isPaid_0 := by decide +kernel
theorem dksX4_isPaid_1 : cX4_isPaid.data.toList.drop 24 = dktX4_isPaid_1 := dk_seg dksX4_isPaid_0 24 rfl rfl
theorem dksX4_isPaid_2 : cX4_isPaid.data.toList.drop 48 = dktX4_isPaid_2 := dk_seg dksX4_isPaid_1 24 rfl rfl
theorem dX4_isPaid_0 : decode cX4_isPaid 0 = .ok (.aload_n 0, 1) := dk_42 (dk_at dksX4_isPaid_0 0 rfl rfl)
theorem dX4_isPaid_1 : decode cX4_isPaid 1 = .ok (.getfield 42, 3) := dk_180 0 42 (dk_at dksX4_isPaid_0 1 rfl rfl)
theorem dX4_isPaid_4 : decode cX4_isPaid 4 = .ok (.iload_n 1, 1) := dk_27 (dk_at dksX4_isPaid_0 4 rfl rfl)
theorem dX4_isPaid_5 : decode cX4_isPaid 5 = .ok (.iaload, 1) := dk_46 (dk_at dksX4_isPaid_0 5 rfl rfl)
theorem dX4_isPaid_6 : decode cX4_isPaid 6 = .ok (.i2l, 1) := dk_133 (dk_at dksX4_isPaid_0 6 rfl rfl)
theorem dX4_isPaid_7 : decode cX4_isPaid 7 = .ok (.aload_n 0, 1) := dk_42 (dk_at dksX4_isPaid_0 7 rfl rfl)
theorem dX4_isPaid_8 : decode cX4_isPaid 8 = .ok (.getfield 13, 3) := dk_180 0 13 (dk_at dksX4_isPaid_0 8 rfl rfl)
theorem dX4_isPaid_11 : decode cX4_isPaid 11 = .ok (.i2l, 1) := dk_133 (dk_at dksX4_isPaid_0 11 rfl rfl)
theorem dX4_isPaid_12 : decode cX4_isPaid 12 = .ok (.lmul, 1) := dk_105 (dk_at dksX4_isPaid_0 12 rfl rfl)
theorem dX4_isPaid_13 : decode cX4_isPaid 13 = .ok (.ldc2_w 99, 3) := dk_20 0 99 (dk_at dksX4_isPaid_0 13 rfl rfl)
theorem dX4_isPaid_16 : decode cX4_isPaid 16 = .ok (.ldiv, 1) := dk_109 (dk_at dksX4_isPaid_0 16 rfl rfl)
theorem dX4_isPaid_17 : decode cX4_isPaid 17 = .ok (.lstore_n 2, 1) := dk_65 (dk_at dksX4_isPaid_0 17 rfl rfl)
theorem dX4_isPaid_18 : decode cX4_isPaid 18 = .ok (.lload_n 2, 1) := dk_32 (dk_at dksX4_isPaid_0 18 rfl rfl)
theorem dX4_isPaid_19 : decode cX4_isPaid 19 = .ok (.aload_n 0, 1) := dk_42 (dk_at dksX4_isPaid_0 19 rfl rfl)
theorem dX4_isPaid_20 : decode cX4_isPaid 20 = .ok (.invokevirtual 110, 3) := dk_182 0 110 (dk_at dksX4_isPaid_0 20 rfl rfl)
theorem dX4_isPaid_23 : decode cX4_isPaid 23 = .ok (.i2l, 1) := dk_133 (dk_at dksX4_isPaid_0 23 rfl rfl)
theorem dX4_isPaid_24 : decode cX4_isPaid 24 = .ok (.lmul, 1) := dk_105 (dk_at dksX4_isPaid_1 0 rfl rfl)
theorem dX4_isPaid_25 : decode cX4_isPaid 25 = .ok (.aload_n 0, 1) := dk_42 (dk_at dksX4_isPaid_1 1 rfl rfl)
theorem dX4_isPaid_26 : decode cX4_isPaid 26 = .ok (.getfield 42, 3) := dk_180 0 42 (dk_at dksX4_isPaid_1 2 rfl rfl)
theorem dX4_isPaid_29 : decode cX4_isPaid 29 = .ok (.iload_n 1, 1) := dk_27 (dk_at dksX4_isPaid_1 5 rfl rfl)
theorem dX4_isPaid_30 : decode cX4_isPaid 30 = .ok (.iaload, 1) := dk_46 (dk_at dksX4_isPaid_1 6 rfl rfl)
theorem dX4_isPaid_31 : decode cX4_isPaid 31 = .ok (.i2l, 1) := dk_133 (dk_at dksX4_isPaid_1 7 rfl rfl)
theorem dX4_isPaid_32 : decode cX4_isPaid 32 = .ok (.lload_n 2, 1) := dk_32 (dk_at dksX4_isPaid_1 8 rfl rfl)
theorem dX4_isPaid_33 : decode cX4_isPaid 33 = .ok (.lsub, 1) := dk_101 (dk_at dksX4_isPaid_1 9 rfl rfl)
theorem dX4_isPaid_34 : decode cX4_isPaid 34 = .ok (.aload_n 0, 1) := dk_42 (dk_at dksX4_isPaid_1 10 rfl rfl)
theorem dX4_isPaid_35 : decode cX4_isPaid 35 = .ok (.getfield 7, 3) := dk_180 0 7 (dk_at dksX4_isPaid_1 11 rfl rfl)
theorem dX4_isPaid_38 : decode cX4_isPaid 38 = .ok (.iconst 1, 1) := dk_4 (dk_at dksX4_isPaid_1 14 rfl rfl)
theorem dX4_isPaid_39 : decode cX4_isPaid 39 = .ok (.iaload, 1) := dk_46 (dk_at dksX4_isPaid_1 15 rfl rfl)
theorem dX4_isPaid_40 : decode cX4_isPaid 40 = .ok (.i2l, 1) := dk_133 (dk_at dksX4_isPaid_1 16 rfl rfl)
theorem dX4_isPaid_41 : decode cX4_isPaid 41 = .ok (.lmul, 1) := dk_105 (dk_at dksX4_isPaid_1 17 rfl rfl)
theorem dX4_isPaid_42 : decode cX4_isPaid 42 = .ok (.ladd, 1) := dk_97 (dk_at dksX4_isPaid_1 18 rfl rfl)
theorem dX4_isPaid_43 : decode cX4_isPaid 43 = .ok (.ldc2_w 89, 3) := dk_20 0 89 (dk_at dksX4_isPaid_1 19 rfl rfl)
theorem dX4_isPaid_46 : decode cX4_isPaid 46 = .ok (.ldiv, 1) := dk_109 (dk_at dksX4_isPaid_1 22 rfl rfl)
theorem dX4_isPaid_47 : decode cX4_isPaid 47 = .ok (.l2i, 1) := dk_136 (dk_at dksX4_isPaid_1 23 rfl rfl)
theorem dX4_isPaid_48 : decode cX4_isPaid 48 = .ok (.ireturn, 1) := dk_172 (dk_at dksX4_isPaid_2 0 rfl rfl)
abbrev cX4_replica : ByteArray := prog_12_method_16_code
def yX4_replica : MethodName := ⟨RX4, "replica", "()I"⟩
def dkwX4_replica_2 : List UInt8 := [167, 255, 215, 33, 9, 148, 154, 0, 7, 3, 167, 0, 7, 31, 33, 109, 136, 172]
abbrev dktX4_replica_2 : List UInt8 := dkwX4_replica_2 ++ []
def dkwX4_replica_1 : List UInt8 := [180, 0, 48, 21, 5, 46, 133, 105, 97, 64, 33, 42, 180, 0, 45, 21, 5, 46, 133, 97, 66, 132, 5, 1]
abbrev dktX4_replica_1 : List UInt8 := dkwX4_replica_1 ++ dktX4_replica_2
def dkwX4_replica_0 : List UInt8 := [9, 64, 9, 66, 3, 54, 5, 21, 5, 16, 6, 162, 0, 40, 31, 42, 180, 0, 45, 21, 5, 46, 133, 42]
abbrev dktX4_replica_0 : List UInt8 := dkwX4_replica_0 ++ dktX4_replica_1
theorem dksX4_replica_0 : cX4_replica.data.toList.drop 0 = dktX4_replica_0 := by decide +kernel
theorem dksX4_replica_1 : cX4_replica.data.toList.drop 24 = dktX4_replica_1 := dk_seg dksX4_replica_0 24 rfl rfl
theorem dksX4_replica_2 : cX4_replica.data.toList.drop 48 = dktX4_replica_2 := dk_seg dksX4_replica_1 24 rfl rfl
theorem dX4_replica_0 : decode cX4_replica 0 = .ok (.lconst 0, 1) := dk_9 (dk_at dksX4_replica_0 0 rfl rfl)
theorem dX4_replica_1 : decode cX4_replica 1 = .ok (.lstore_n 1, 1) := dk_64 (dk_at dksX4_replica_0 1 rfl rfl)
theorem dX4_replica_2 : decode cX4_replica 2 = .ok (.lconst 0, 1) := dk_9 (dk_at dksX4_replica_0 2 rfl rfl)
theorem dX4_replica_3 : decode cX4_replica 3 = .ok (.lstore_n 3, 1) := dk_66 (dk_at dksX4_replica_0 3 rfl rfl)
theorem dX4_replica_4 : decode cX4_replica 4 = .ok (.iconst 0, 1) := dk_3 (dk_at dksX4_replica_0 4 rfl rfl)
theorem dX4_replica_5 : decode cX4_replica 5 = .ok (.istore 5, 2) := dk_54 5 (dk_at dksX4_replica_0 5 rfl rfl)
theorem dX4_replica_7 : decode cX4_replica 7 = .ok (.iload 5, 2) := dk_21 5 (dk_at dksX4_replica_0 7 rfl rfl)
theorem dX4_replica_9 : decode cX4_replica 9 = .ok (.bipush 6, 2) := dk_16 6 (dk_at dksX4_replica_0 9 rfl rfl)
theorem dX4_replica_11 : decode cX4_replica 11 = .ok (.if_icmp .ge 40, 3) := dk_162 0 40 (dk_at dksX4_replica_0 11 rfl rfl)
theorem dX4_replica_14 : decode cX4_replica 14 = .ok (.lload_n 1, 1) := dk_31 (dk_at dksX4_replica_0 14 rfl rfl)
theorem dX4_replica_15 : decode cX4_replica 15 = .ok (.aload_n 0, 1) := dk_42 (dk_at dksX4_replica_0 15 rfl rfl)
theorem dX4_replica_16 : decode cX4_replica 16 = .ok (.getfield 45, 3) := dk_180 0 45 (dk_at dksX4_replica_0 16 rfl rfl)
theorem dX4_replica_19 : decode cX4_replica 19 = .ok (.iload 5, 2) := dk_21 5 (dk_at dksX4_replica_0 19 rfl rfl)
theorem dX4_replica_21 : decode cX4_replica 21 = .ok (.iaload, 1) := dk_46 (dk_at dksX4_replica_0 21 rfl rfl)
theorem dX4_replica_22 : decode cX4_replica 22 = .ok (.i2l, 1) := dk_133 (dk_at dksX4_replica_0 22 rfl rfl)
theorem dX4_replica_23 : decode cX4_replica 23 = .ok (.aload_n 0, 1) := dk_42 (dk_at dksX4_replica_0 23 rfl rfl)
theorem dX4_replica_24 : decode cX4_replica 24 = .ok (.getfield 48, 3) := dk_180 0 48 (dk_at dksX4_replica_1 0 rfl rfl)
theorem dX4_replica_27 : decode cX4_replica 27 = .ok (.iload 5, 2) := dk_21 5 (dk_at dksX4_replica_1 3 rfl rfl)
theorem dX4_replica_29 : decode cX4_replica 29 = .ok (.iaload, 1) := dk_46 (dk_at dksX4_replica_1 5 rfl rfl)
theorem dX4_replica_30 : decode cX4_replica 30 = .ok (.i2l, 1) := dk_133 (dk_at dksX4_replica_1 6 rfl rfl)
theorem dX4_replica_31 : decode cX4_replica 31 = .ok (.lmul, 1) := dk_105 (dk_at dksX4_replica_1 7 rfl rfl)
theorem dX4_replica_32 : decode cX4_replica 32 = .ok (.ladd, 1) := dk_97 (dk_at dksX4_replica_1 8 rfl rfl)
theorem dX4_replica_33 : decode cX4_replica 33 = .ok (.lstore_n 1, 1) := dk_64 (dk_at dksX4_replica_1 9 rfl rfl)
theorem dX4_replica_34 : decode cX4_replica 34 = .ok (.lload_n 3, 1) := dk_33 (dk_at dksX4_replica_1 10 rfl rfl)
theorem dX4_replica_35 : decode cX4_replica 35 = .ok (.aload_n 0, 1) := dk_42 (dk_at dksX4_replica_1 11 rfl rfl)
theorem dX4_replica_36 : decode cX4_replica 36 = .ok (.getfield 45, 3) := dk_180 0 45 (dk_at dksX4_replica_1 12 rfl rfl)
theorem dX4_replica_39 : decode cX4_replica 39 = .ok (.iload 5, 2) := dk_21 5 (dk_at dksX4_replica_1 15 rfl rfl)
theorem dX4_replica_41 : decode cX4_replica 41 = .ok (.iaload, 1) := dk_46 (dk_at dksX4_replica_1 17 rfl rfl)
theorem dX4_replica_42 : decode cX4_replica 42 = .ok (.i2l, 1) := dk_133 (dk_at dksX4_replica_1 18 rfl rfl)
theorem dX4_replica_43 : decode cX4_replica 43 = .ok (.ladd, 1) := dk_97 (dk_at dksX4_replica_1 19 rfl rfl)
theorem dX4_replica_44 : decode cX4_replica 44 = .ok (.lstore_n 3, 1) := dk_66 (dk_at dksX4_replica_1 20 rfl rfl)
theorem dX4_replica_45 : decode cX4_replica 45 = .ok (.iinc 5 1, 3) := dk_132 5 1 (dk_at dksX4_replica_1 21 rfl rfl)
theorem dX4_replica_48 : decode cX4_replica 48 = .ok (.goto (-41), 3) := dk_167 255 215 (dk_at dksX4_replica_2 0 rfl rfl)
theorem dX4_replica_51 : decode cX4_replica 51 = .ok (.lload_n 3, 1) := dk_33 (dk_at dksX4_replica_2 3 rfl rfl)
theorem dX4_replica_52 : decode cX4_replica 52 = .ok (.lconst 0, 1) := dk_9 (dk_at dksX4_replica_2 4 rfl rfl)
theorem dX4_replica_53 : decode cX4_replica 53 = .ok (.lcmp, 1) := dk_148 (dk_at dksX4_replica_2 5 rfl rfl)
theorem dX4_replica_54 : decode cX4_replica 54 = .ok (.ifCond .ne 7, 3) := dk_154 0 7 (dk_at dksX4_replica_2 6 rfl rfl)
theorem dX4_replica_57 : decode cX4_replica 57 = .ok (.iconst 0, 1) := dk_3 (dk_at dksX4_replica_2 9 rfl rfl)
theorem dX4_replica_58 : decode cX4_replica 58 = .ok (.goto 7, 3) := dk_167 0 7 (dk_at dksX4_replica_2 10 rfl rfl)
theorem dX4_replica_61 : decode cX4_replica 61 = .ok (.lload_n 1, 1) := dk_31 (dk_at dksX4_replica_2 13 rfl rfl)
theorem dX4_replica_62 : decode cX4_replica 62 = .ok (.lload_n 3, 1) := dk_33 (dk_at dksX4_replica_2 14 rfl rfl)
theorem dX4_replica_63 : decode cX4_replica 63 = .ok (.ldiv, 1) := dk_109 (dk_at dksX4_replica_2 15 rfl rfl)
theorem dX4_replica_64 : decode cX4_replica 64 = .ok (.l2i, 1) := dk_136 (dk_at dksX4_replica_2 16 rfl rfl)
theorem dX4_replica_65 : decode cX4_replica 65 = .ok (.ireturn, 1) := dk_172 (dk_at dksX4_replica_2 17 rfl rfl)
abbrev cX4_pays : ByteArray := prog_12_method_19_code
def yX4_pays : MethodName := ⟨RX4, "pays", "(I)I"⟩
def dkwX4_pays_0 : List UInt8 := [42, 180, 0, 42, 27, 46, 133, 42, 180, 0, 80, 133, 105, 20, 0, 89, 109, 136, 172]
abbrev dktX4_pays_0 : List UInt8 := dkwX4_pays_0 ++ []
theorem dksX4_pays_0 : cX4_pays.data.toList.drop 0 = dktX4_pays_0 := by decide +kernel
theorem dX4_pays_0 : decode cX4_pays 0 = .ok (.aload_n 0, 1) := dk_42 (dk_at dksX4_pays_0 0 rfl rfl)
theorem dX4_pays_1 : decode cX4_pays 1 = .ok (.getfield 42, 3) := dk_180 0 42 (dk_at dksX4_pays_0 1 rfl rfl)
theorem dX4_pays_4 : decode cX4_pays 4 = .ok (.iload_n 1, 1) := dk_27 (dk_at dksX4_pays_0 4 rfl rfl)
theorem dX4_pays_5 : decode cX4_pays 5 = .ok (.iaload, 1) := dk_46 (dk_at dksX4_pays_0 5 rfl rfl)
theorem dX4_pays_6 : decode cX4_pays 6 = .ok (.i2l, 1) := dk_133 (dk_at dksX4_pays_0 6 rfl rfl)
theorem dX4_pays_7 : decode cX4_pays 7 = .ok (.aload_n 0, 1) := dk_42 (dk_at dksX4_pays_0 7 rfl rfl)
theorem dX4_pays_8 : decode cX4_pays 8 = .ok (.getfield 80, 3) := dk_180 0 80 (dk_at dksX4_pays_0 8 rfl rfl)
theorem dX4_pays_11 : decode cX4_pays 11 = .ok (.i2l, 1) := dk_133 (dk_at dksX4_pays_0 11 rfl rfl)
theorem dX4_pays_12 : decode cX4_pays 12 = .ok (.lmul, 1) := dk_105 (dk_at dksX4_pays_0 12 rfl rfl)
theorem dX4_pays_13 : decode cX4_pays 13 = .ok (.ldc2_w 89, 3) := dk_20 0 89 (dk_at dksX4_pays_0 13 rfl rfl)
theorem dX4_pays_16 : decode cX4_pays 16 = .ok (.ldiv, 1) := dk_109 (dk_at dksX4_pays_0 16 rfl rfl)
theorem dX4_pays_17 : decode cX4_pays 17 = .ok (.l2i, 1) := dk_136 (dk_at dksX4_pays_0 17 rfl rfl)
theorem dX4_pays_18 : decode cX4_pays 18 = .ok (.ireturn, 1) := dk_172 (dk_at dksX4_pays_0 18 rfl rfl)
abbrev cX4_month : ByteArray := prog_12_method_21_code
def yX4_month : MethodName := ⟨RX4, "month", "()I"⟩
def dkwX4_month_0 : List UInt8 := [42, 3, 181, 0, 63, 42, 180, 0, 73, 172]
abbrev dktX4_month_0 : List UInt8 := dkwX4_month_0 ++ []
theorem dksX4_month_0 : cX4_month.data.toList.drop 0 = dktX4_month_0 := by decide +kernel
theorem dX4_month_0 : decode cX4_month 0 = .ok (.aload_n 0, 1) := dk_42 (dk_at dksX4_month_0 0 rfl rfl)
theorem dX4_month_1 : decode cX4_month 1 = .ok (.iconst 0, 1) := dk_3 (dk_at dksX4_month_0 1 rfl rfl)
theorem dX4_month_2 : decode cX4_month 2 = .ok (.putfield 63, 3) := dk_181 0 63 (dk_at dksX4_month_0 2 rfl rfl)
theorem dX4_month_5 : decode cX4_month 5 = .ok (.aload_n 0, 1) := dk_42 (dk_at dksX4_month_0 5 rfl rfl)
theorem dX4_month_6 : decode cX4_month 6 = .ok (.getfield 73, 3) := dk_180 0 73 (dk_at dksX4_month_0 6 rfl rfl)
theorem dX4_month_9 : decode cX4_month 9 = .ok (.ireturn, 1) := dk_172 (dk_at dksX4_month_0 9 rfl rfl)
abbrev cX4_loans : ByteArray := prog_12_method_22_code
def yX4_loans : MethodName := ⟨RX4, "loans", "()I"⟩
def dkwX4_loans_0 : List UInt8 := [42, 3, 181, 0, 63, 42, 180, 0, 66, 172]
abbrev dktX4_loans_0 : List UInt8 := dkwX4_loans_0 ++ []
theorem dksX4_loans_0 : cX4_loans.data.toList.drop 0 = dktX4_loans_0 := by decide +kernel
theorem dX4_loans_0 : decode cX4_loans 0 = .ok (.aload_n 0, 1) := dk_42 (dk_at dksX4_loans_0 0 rfl rfl)
theorem dX4_loans_1 : decode cX4_loans 1 = .ok (.iconst 0, 1) := dk_3 (dk_at dksX4_loans_0 1 rfl rfl)
theorem dX4_loans_2 : decode cX4_loans 2 = .ok (.putfield 63, 3) := dk_181 0 63 (dk_at dksX4_loans_0 2 rfl rfl)
theorem dX4_loans_5 : decode cX4_loans 5 = .ok (.aload_n 0, 1) := dk_42 (dk_at dksX4_loans_0 5 rfl rfl)
theorem dX4_loans_6 : decode cX4_loans 6 = .ok (.getfield 66, 3) := dk_180 0 66 (dk_at dksX4_loans_0 6 rfl rfl)
theorem dX4_loans_9 : decode cX4_loans 9 = .ok (.ireturn, 1) := dk_172 (dk_at dksX4_loans_0 9 rfl rfl)
abbrev cX4_left : ByteArray := prog_12_method_23_code
def yX4_left : MethodName := ⟨RX4, "left", "(I)I"⟩
def dkwX4_left_1 : List UInt8 := [182, 0, 76, 172]
abbrev dktX4_left_1 : List UInt8 := dkwX4_left_1 ++ []
def dkwX4_left_0 : List UInt8 := [42, 3, 181, 0, 63, 42, 27, 182, 0, 96, 153, 0, 11, 42, 27, 182, 0, 86, 167, 0, 8, 42, 4]
abbrev dktX4_left_0 : List UInt8 := dkwX4_left_0 ++ dktX4_left_1
theorem dksX4_left_0 : cX4_left.data.toList.drop 0 = dktX4_left_0 := by decide +kernel
theorem dksX4_left_1 : cX4_left.data.toList.drop 23 = dktX4_left_1 := dk_seg dksX4_left_0 23 rfl rfl
theorem dX4_left_0 : decode cX4_left 0 = .ok (.aload_n 0, 1) := dk_42 (dk_at dksX4_left_0 0 rfl rfl)
theorem dX4_left_1 : decode cX4_left 1 = .ok (.iconst 0, 1) := dk_3 (dk_at dksX4_left_0 1 rfl rfl)
theorem dX4_left_2 : decode cX4_left 2 = .ok (.putfield 63, 3) := dk_181 0 63 (dk_at dksX4_left_0 2 rfl rfl)
theorem dX4_left_5 : decode cX4_left 5 = .ok (.aload_n 0, 1) := dk_42 (dk_at dksX4_left_0 5 rfl rfl)
theorem dX4_left_6 : decode cX4_left 6 = .ok (.iload_n 1, 1) := dk_27 (dk_at dksX4_left_0 6 rfl rfl)
theorem dX4_left_7 : decode cX4_left 7 = .ok (.invokevirtual 96, 3) := dk_182 0 96 (dk_at dksX4_left_0 7 rfl rfl)
theorem dX4_left_10 : decode cX4_left 10 = .ok (.ifCond .eq 11, 3) := dk_153 0 11 (dk_at dksX4_left_0 10 rfl rfl)
theorem dX4_left_13 : decode cX4_left 13 = .ok (.aload_n 0, 1) := dk_42 (dk_at dksX4_left_0 13 rfl rfl)
theorem dX4_left_14 : decode cX4_left 14 = .ok (.iload_n 1, 1) := dk_27 (dk_at dksX4_left_0 14 rfl rfl)
theorem dX4_left_15 : decode cX4_left 15 = .ok (.invokevirtual 86, 3) := dk_182 0 86 (dk_at dksX4_left_0 15 rfl rfl)
theorem dX4_left_18 : decode cX4_left 18 = .ok (.goto 8, 3) := dk_167 0 8 (dk_at dksX4_left_0 18 rfl rfl)
theorem dX4_left_21 : decode cX4_left 21 = .ok (.aload_n 0, 1) := dk_42 (dk_at dksX4_left_0 21 rfl rfl)
theorem dX4_left_22 : decode cX4_left 22 = .ok (.iconst 1, 1) := dk_4 (dk_at dksX4_left_0 22 rfl rfl)
theorem dX4_left_23 : decode cX4_left 23 = .ok (.invokevirtual 76, 3) := dk_182 0 76 (dk_at dksX4_left_1 0 rfl rfl)
theorem dX4_left_26 : decode cX4_left 26 = .ok (.ireturn, 1) := dk_172 (dk_at dksX4_left_1 3 rfl rfl)
abbrev cX4_bears : ByteArray := prog_12_method_24_code
def yX4_bears : MethodName := ⟨RX4, "bears", "(II)I"⟩
def dkwX4_bears_1 : List UInt8 := [184, 0, 69, 153, 0, 12, 42, 27, 28, 182, 0, 113, 167, 0, 8, 42, 5, 182, 0, 76, 172]
abbrev dktX4_bears_1 : List UInt8 := dkwX4_bears_1 ++ []
def dkwX4_bears_0 : List UInt8 := [42, 3, 181, 0, 63, 42, 27, 182, 0, 96, 154, 0, 9, 42, 4, 182, 0, 76, 172, 28, 3, 6]
abbrev dktX4_bears_0 : List UInt8 := dkwX4_bears_0 ++ dktX4_bears_1
theorem dksX4_bears_0 : cX4_bears.data.toList.drop 0 = dktX4_bears_0 := by decide +kernel
theorem dksX4_bears_1 : cX4_bears.data.toList.drop 22 = dktX4_bears_1 := dk_seg dksX4_bears_0 22 rfl rfl
theorem dX4_bears_0 : decode cX4_bears 0 = .ok (.aload_n 0, 1) := dk_42 (dk_at dksX4_bears_0 0 rfl rfl)
theorem dX4_bears_1 : decode cX4_bears 1 = .ok (.iconst 0, 1) := dk_3 (dk_at dksX4_bears_0 1 rfl rfl)
theorem dX4_bears_2 : decode cX4_bears 2 = .ok (.putfield 63, 3) := dk_181 0 63 (dk_at dksX4_bears_0 2 rfl rfl)
theorem dX4_bears_5 : decode cX4_bears 5 = .ok (.aload_n 0, 1) := dk_42 (dk_at dksX4_bears_0 5 rfl rfl)
theorem dX4_bears_6 : decode cX4_bears 6 = .ok (.iload_n 1, 1) := dk_27 (dk_at dksX4_bears_0 6 rfl rfl)
theorem dX4_bears_7 : decode cX4_bears 7 = .ok (.invokevirtual 96, 3) := dk_182 0 96 (dk_at dksX4_bears_0 7 rfl rfl)
theorem dX4_bears_10 : decode cX4_bears 10 = .ok (.ifCond .ne 9, 3) := dk_154 0 9 (dk_at dksX4_bears_0 10 rfl rfl)
theorem dX4_bears_13 : decode cX4_bears 13 = .ok (.aload_n 0, 1) := dk_42 (dk_at dksX4_bears_0 13 rfl rfl)
theorem dX4_bears_14 : decode cX4_bears 14 = .ok (.iconst 1, 1) := dk_4 (dk_at dksX4_bears_0 14 rfl rfl)
theorem dX4_bears_15 : decode cX4_bears 15 = .ok (.invokevirtual 76, 3) := dk_182 0 76 (dk_at dksX4_bears_0 15 rfl rfl)
theorem dX4_bears_18 : decode cX4_bears 18 = .ok (.ireturn, 1) := dk_172 (dk_at dksX4_bears_0 18 rfl rfl)
theorem dX4_bears_19 : decode cX4_bears 19 = .ok (.iload_n 2, 1) := dk_28 (dk_at dksX4_bears_0 19 rfl rfl)
theorem dX4_bears_20 : decode cX4_bears 20 = .ok (.iconst 0, 1) := dk_3 (dk_at dksX4_bears_0 20 rfl rfl)
theorem dX4_bears_21 : decode cX4_bears 21 = .ok (.iconst 3, 1) := dk_6 (dk_at dksX4_bears_0 21 rfl rfl)
theorem dX4_bears_22 : decode cX4_bears 22 = .ok (.invokestatic 69, 3) := dk_184 0 69 (dk_at dksX4_bears_1 0 rfl rfl)
theorem dX4_bears_25 : decode cX4_bears 25 = .ok (.ifCond .eq 12, 3) := dk_153 0 12 (dk_at dksX4_bears_1 3 rfl rfl)
theorem dX4_bears_28 : decode cX4_bears 28 = .ok (.aload_n 0, 1) := dk_42 (dk_at dksX4_bears_1 6 rfl rfl)
theorem dX4_bears_29 : decode cX4_bears 29 = .ok (.iload_n 1, 1) := dk_27 (dk_at dksX4_bears_1 7 rfl rfl)
theorem dX4_bears_30 : decode cX4_bears 30 = .ok (.iload_n 2, 1) := dk_28 (dk_at dksX4_bears_1 8 rfl rfl)
theorem dX4_bears_31 : decode cX4_bears 31 = .ok (.invokevirtual 113, 3) := dk_182 0 113 (dk_at dksX4_bears_1 9 rfl rfl)
theorem dX4_bears_34 : decode cX4_bears 34 = .ok (.goto 8, 3) := dk_167 0 8 (dk_at dksX4_bears_1 12 rfl rfl)
theorem dX4_bears_37 : decode cX4_bears 37 = .ok (.aload_n 0, 1) := dk_42 (dk_at dksX4_bears_1 15 rfl rfl)
theorem dX4_bears_38 : decode cX4_bears 38 = .ok (.iconst 2, 1) := dk_5 (dk_at dksX4_bears_1 16 rfl rfl)
theorem dX4_bears_39 : decode cX4_bears 39 = .ok (.invokevirtual 76, 3) := dk_182 0 76 (dk_at dksX4_bears_1 17 rfl rfl)
theorem dX4_bears_42 : decode cX4_bears 42 = .ok (.ireturn, 1) := dk_172 (dk_at dksX4_bears_1 20 rfl rfl)
abbrev cX4_due : ByteArray := prog_12_method_25_code
def yX4_due : MethodName := ⟨RX4, "due", "(I)I"⟩
def dkwX4_due_3 : List UInt8 := [61, 132, 3, 1, 167, 255, 204, 28, 172]
abbrev dktX4_due_3 : List UInt8 := dkwX4_due_3 ++ []
def dkwX4_due_2 : List UInt8 := [21, 4, 16, 6, 162, 0, 18, 42, 180, 0, 36, 16, 6, 29, 104, 21, 4, 96, 46, 167, 0, 4, 3, 96]
abbrev dktX4_due_2 : List UInt8 := dkwX4_due_2 ++ dktX4_due_3
def dkwX4_due_1 : List UInt8 := [29, 42, 180, 0, 66, 162, 0, 50, 42, 180, 0, 73, 27, 96, 42, 180, 0, 33, 29, 46, 100, 54, 4, 28]
abbrev dktX4_due_1 : List UInt8 := dkwX4_due_1 ++ dktX4_due_2
def dkwX4_due_0 : List UInt8 := [42, 3, 181, 0, 63, 27, 3, 8, 184, 0, 69, 154, 0, 9, 42, 4, 182, 0, 76, 172, 3, 61, 3, 62]
abbrev dktX4_due_0 : List UInt8 := dkwX4_due_0 ++ dktX4_due_1
theorem dksX4_due_0 : cX4_due.data.toList.drop 0 = dktX4_due_0 := by decide +kernel
theorem dksX4_due_1 : cX4_due.data.toList.drop 24 = dktX4_due_1 := dk_seg dksX4_due_0 24 rfl rfl
theorem dksX4_due_2 : cX4_due.data.toList.drop 48 = dktX4_due_2 := dk_seg dksX4_due_1 24 rfl rfl
theorem dksX4_due_3 : cX4_due.data.toList.drop 72 = dktX4_due_3 := dk_seg dksX4_due_2 24 rfl rfl
theorem dX4_due_0 : decode cX4_due 0 = .ok (.aload_n 0, 1) := dk_42 (dk_at dksX4_due_0 0 rfl rfl)
theorem dX4_due_1 : decode cX4_due 1 = .ok (.iconst 0, 1) := dk_3 (dk_at dksX4_due_0 1 rfl rfl)
theorem dX4_due_2 : decode cX4_due 2 = .ok (.putfield 63, 3) := dk_181 0 63 (dk_at dksX4_due_0 2 rfl rfl)
theorem dX4_due_5 : decode cX4_due 5 = .ok (.iload_n 1, 1) := dk_27 (dk_at dksX4_due_0 5 rfl rfl)
theorem dX4_due_6 : decode cX4_due 6 = .ok (.iconst 0, 1) := dk_3 (dk_at dksX4_due_0 6 rfl rfl)
theorem dX4_due_7 : decode cX4_due 7 = .ok (.iconst 5, 1) := dk_8 (dk_at dksX4_due_0 7 rfl rfl)
theorem dX4_due_8 : decode cX4_due 8 = .ok (.invokestatic 69, 3) := dk_184 0 69 (dk_at dksX4_due_0 8 rfl rfl)
theorem dX4_due_11 : decode cX4_due 11 = .ok (.ifCond .ne 9, 3) := dk_154 0 9 (dk_at dksX4_due_0 11 rfl rfl)
theorem dX4_due_14 : decode cX4_due 14 = .ok (.aload_n 0, 1) := dk_42 (dk_at dksX4_due_0 14 rfl rfl)
theorem dX4_due_15 : decode cX4_due 15 = .ok (.iconst 1, 1) := dk_4 (dk_at dksX4_due_0 15 rfl rfl)
theorem dX4_due_16 : decode cX4_due 16 = .ok (.invokevirtual 76, 3) := dk_182 0 76 (dk_at dksX4_due_0 16 rfl rfl)
theorem dX4_due_19 : decode cX4_due 19 = .ok (.ireturn, 1) := dk_172 (dk_at dksX4_due_0 19 rfl rfl)
theorem dX4_due_20 : decode cX4_due 20 = .ok (.iconst 0, 1) := dk_3 (dk_at dksX4_due_0 20 rfl rfl)
theorem dX4_due_21 : decode cX4_due 21 = .ok (.istore_n 2, 1) := dk_61 (dk_at dksX4_due_0 21 rfl rfl)
theorem dX4_due_22 : decode cX4_due 22 = .ok (.iconst 0, 1) := dk_3 (dk_at dksX4_due_0 22 rfl rfl)
theorem dX4_due_23 : decode cX4_due 23 = .ok (.istore_n 3, 1) := dk_62 (dk_at dksX4_due_0 23 rfl rfl)
theorem dX4_due_24 : decode cX4_due 24 = .ok (.iload_n 3, 1) := dk_29 (dk_at dksX4_due_1 0 rfl rfl)
theorem dX4_due_25 : decode cX4_due 25 = .ok (.aload_n 0, 1) := dk_42 (dk_at dksX4_due_1 1 rfl rfl)
theorem dX4_due_26 : decode cX4_due 26 = .ok (.getfield 66, 3) := dk_180 0 66 (dk_at dksX4_due_1 2 rfl rfl)
theorem dX4_due_29 : decode cX4_due 29 = .ok (.if_icmp .ge 50, 3) := dk_162 0 50 (dk_at dksX4_due_1 5 rfl rfl)
theorem dX4_due_32 : decode cX4_due 32 = .ok (.aload_n 0, 1) := dk_42 (dk_at dksX4_due_1 8 rfl rfl)
theorem dX4_due_33 : decode cX4_due 33 = .ok (.getfield 73, 3) := dk_180 0 73 (dk_at dksX4_due_1 9 rfl rfl)
theorem dX4_due_36 : decode cX4_due 36 = .ok (.iload_n 1, 1) := dk_27 (dk_at dksX4_due_1 12 rfl rfl)
theorem dX4_due_37 : decode cX4_due 37 = .ok (.iadd, 1) := dk_96 (dk_at dksX4_due_1 13 rfl rfl)
theorem dX4_due_38 : decode cX4_due 38 = .ok (.aload_n 0, 1) := dk_42 (dk_at dksX4_due_1 14 rfl rfl)
theorem dX4_due_39 : decode cX4_due 39 = .ok (.getfield 33, 3) := dk_180 0 33 (dk_at dksX4_due_1 15 rfl rfl)
theorem dX4_due_42 : decode cX4_due 42 = .ok (.iload_n 3, 1) := dk_29 (dk_at dksX4_due_1 18 rfl rfl)
theorem dX4_due_43 : decode cX4_due 43 = .ok (.iaload, 1) := dk_46 (dk_at dksX4_due_1 19 rfl rfl)
theorem dX4_due_44 : decode cX4_due 44 = .ok (.isub, 1) := dk_100 (dk_at dksX4_due_1 20 rfl rfl)
theorem dX4_due_45 : decode cX4_due 45 = .ok (.istore 4, 2) := dk_54 4 (dk_at dksX4_due_1 21 rfl rfl)
theorem dX4_due_47 : decode cX4_due 47 = .ok (.iload_n 2, 1) := dk_28 (dk_at dksX4_due_1 23 rfl rfl)
theorem dX4_due_48 : decode cX4_due 48 = .ok (.iload 4, 2) := dk_21 4 (dk_at dksX4_due_2 0 rfl rfl)
theorem dX4_due_50 : decode cX4_due 50 = .ok (.bipush 6, 2) := dk_16 6 (dk_at dksX4_due_2 2 rfl rfl)
theorem dX4_due_52 : decode cX4_due 52 = .ok (.if_icmp .ge 18, 3) := dk_162 0 18 (dk_at dksX4_due_2 4 rfl rfl)
theorem dX4_due_55 : decode cX4_due 55 = .ok (.aload_n 0, 1) := dk_42 (dk_at dksX4_due_2 7 rfl rfl)
theorem dX4_due_56 : decode cX4_due 56 = .ok (.getfield 36, 3) := dk_180 0 36 (dk_at dksX4_due_2 8 rfl rfl)
theorem dX4_due_59 : decode cX4_due 59 = .ok (.bipush 6, 2) := dk_16 6 (dk_at dksX4_due_2 11 rfl rfl)
theorem dX4_due_61 : decode cX4_due 61 = .ok (.iload_n 3, 1) := dk_29 (dk_at dksX4_due_2 13 rfl rfl)
theorem dX4_due_62 : decode cX4_due 62 = .ok (.imul, 1) := dk_104 (dk_at dksX4_due_2 14 rfl rfl)
theorem dX4_due_63 : decode cX4_due 63 = .ok (.iload 4, 2) := dk_21 4 (dk_at dksX4_due_2 15 rfl rfl)
theorem dX4_due_65 : decode cX4_due 65 = .ok (.iadd, 1) := dk_96 (dk_at dksX4_due_2 17 rfl rfl)
theorem dX4_due_66 : decode cX4_due 66 = .ok (.iaload, 1) := dk_46 (dk_at dksX4_due_2 18 rfl rfl)
theorem dX4_due_67 : decode cX4_due 67 = .ok (.goto 4, 3) := dk_167 0 4 (dk_at dksX4_due_2 19 rfl rfl)
theorem dX4_due_70 : decode cX4_due 70 = .ok (.iconst 0, 1) := dk_3 (dk_at dksX4_due_2 22 rfl rfl)
theorem dX4_due_71 : decode cX4_due 71 = .ok (.iadd, 1) := dk_96 (dk_at dksX4_due_2 23 rfl rfl)
theorem dX4_due_72 : decode cX4_due 72 = .ok (.istore_n 2, 1) := dk_61 (dk_at dksX4_due_3 0 rfl rfl)
theorem dX4_due_73 : decode cX4_due 73 = .ok (.iinc 3 1, 3) := dk_132 3 1 (dk_at dksX4_due_3 1 rfl rfl)
theorem dX4_due_76 : decode cX4_due 76 = .ok (.goto (-52), 3) := dk_167 255 204 (dk_at dksX4_due_3 4 rfl rfl)
theorem dX4_due_79 : decode cX4_due 79 = .ok (.iload_n 2, 1) := dk_28 (dk_at dksX4_due_3 7 rfl rfl)
theorem dX4_due_80 : decode cX4_due 80 = .ok (.ireturn, 1) := dk_172 (dk_at dksX4_due_3 8 rfl rfl)
abbrev cX4_balance : ByteArray := prog_12_method_26_code
def yX4_balance : MethodName := ⟨RX4, "balance", "(I)I"⟩
def dkwX4_balance_1 : List UInt8 := [182, 0, 76, 172]
abbrev dktX4_balance_1 : List UInt8 := dkwX4_balance_1 ++ []
def dkwX4_balance_0 : List UInt8 := [42, 3, 181, 0, 63, 27, 184, 0, 91, 153, 0, 12, 42, 180, 0, 42, 27, 46, 167, 0, 8, 42, 4]
abbrev dktX4_balance_0 : List UInt8 := dkwX4_balance_0 ++ dktX4_balance_1
theorem dksX4_balance_0 : cX4_balance.data.toList.drop 0 = dktX4_balance_0 := by decide +kernel
theorem dksX4_balance_1 : cX4_balance.data.toList.drop 23 = dktX4_balance_1 := dk_seg dksX4_balance_0 23 rfl rfl
theorem dX4_balance_0 : decode cX4_balance 0 = .ok (.aload_n 0, 1) := dk_42 (dk_at dksX4_balance_0 0 rfl rfl)
theorem dX4_balance_1 : decode cX4_balance 1 = .ok (.iconst 0, 1) := dk_3 (dk_at dksX4_balance_0 1 rfl rfl)
theorem dX4_balance_2 : decode cX4_balance 2 = .ok (.putfield 63, 3) := dk_181 0 63 (dk_at dksX4_balance_0 2 rfl rfl)
theorem dX4_balance_5 : decode cX4_balance 5 = .ok (.iload_n 1, 1) := dk_27 (dk_at dksX4_balance_0 5 rfl rfl)
theorem dX4_balance_6 : decode cX4_balance 6 = .ok (.invokestatic 91, 3) := dk_184 0 91 (dk_at dksX4_balance_0 6 rfl rfl)
theorem dX4_balance_9 : decode cX4_balance 9 = .ok (.ifCond .eq 12, 3) := dk_153 0 12 (dk_at dksX4_balance_0 9 rfl rfl)
theorem dX4_balance_12 : decode cX4_balance 12 = .ok (.aload_n 0, 1) := dk_42 (dk_at dksX4_balance_0 12 rfl rfl)
theorem dX4_balance_13 : decode cX4_balance 13 = .ok (.getfield 42, 3) := dk_180 0 42 (dk_at dksX4_balance_0 13 rfl rfl)
theorem dX4_balance_16 : decode cX4_balance 16 = .ok (.iload_n 1, 1) := dk_27 (dk_at dksX4_balance_0 16 rfl rfl)
theorem dX4_balance_17 : decode cX4_balance 17 = .ok (.iaload, 1) := dk_46 (dk_at dksX4_balance_0 17 rfl rfl)
theorem dX4_balance_18 : decode cX4_balance 18 = .ok (.goto 8, 3) := dk_167 0 8 (dk_at dksX4_balance_0 18 rfl rfl)
theorem dX4_balance_21 : decode cX4_balance 21 = .ok (.aload_n 0, 1) := dk_42 (dk_at dksX4_balance_0 21 rfl rfl)
theorem dX4_balance_22 : decode cX4_balance 22 = .ok (.iconst 1, 1) := dk_4 (dk_at dksX4_balance_0 22 rfl rfl)
theorem dX4_balance_23 : decode cX4_balance 23 = .ok (.invokevirtual 76, 3) := dk_182 0 76 (dk_at dksX4_balance_1 0 rfl rfl)
theorem dX4_balance_26 : decode cX4_balance 26 = .ok (.ireturn, 1) := dk_172 (dk_at dksX4_balance_1 3 rfl rfl)
abbrev cX4_tranche : ByteArray := prog_12_method_27_code
def yX4_tranche : MethodName := ⟨RX4, "tranche", "(I)I"⟩
def dkwX4_tranche_1 : List UInt8 := [4, 182, 0, 76, 172]
abbrev dktX4_tranche_1 : List UInt8 := dkwX4_tranche_1 ++ []
def dkwX4_tranche_0 : List UInt8 := [42, 3, 181, 0, 63, 27, 3, 8, 184, 0, 69, 153, 0, 12, 42, 180, 0, 45, 27, 46, 167, 0, 8, 42]
abbrev dktX4_tranche_0 : List UInt8 := dkwX4_tranche_0 ++ dktX4_tranche_1
theorem dksX4_tranche_0 : cX4_tranche.data.toList.drop 0 = dktX4_tranche_0 := by decide +kernel
theorem dksX4_tranche_1 : cX4_tranche.data.toList.drop 24 = dktX4_tranche_1 := dk_seg dksX4_tranche_0 24 rfl rfl
theorem dX4_tranche_0 : decode cX4_tranche 0 = .ok (.aload_n 0, 1) := dk_42 (dk_at dksX4_tranche_0 0 rfl rfl)
theorem dX4_tranche_1 : decode cX4_tranche 1 = .ok (.iconst 0, 1) := dk_3 (dk_at dksX4_tranche_0 1 rfl rfl)
theorem dX4_tranche_2 : decode cX4_tranche 2 = .ok (.putfield 63, 3) := dk_181 0 63 (dk_at dksX4_tranche_0 2 rfl rfl)
theorem dX4_tranche_5 : decode cX4_tranche 5 = .ok (.iload_n 1, 1) := dk_27 (dk_at dksX4_tranche_0 5 rfl rfl)
theorem dX4_tranche_6 : decode cX4_tranche 6 = .ok (.iconst 0, 1) := dk_3 (dk_at dksX4_tranche_0 6 rfl rfl)
theorem dX4_tranche_7 : decode cX4_tranche 7 = .ok (.iconst 5, 1) := dk_8 (dk_at dksX4_tranche_0 7 rfl rfl)
theorem dX4_tranche_8 : decode cX4_tranche 8 = .ok (.invokestatic 69, 3) := dk_184 0 69 (dk_at dksX4_tranche_0 8 rfl rfl)
theorem dX4_tranche_11 : decode cX4_tranche 11 = .ok (.ifCond .eq 12, 3) := dk_153 0 12 (dk_at dksX4_tranche_0 11 rfl rfl)
theorem dX4_tranche_14 : decode cX4_tranche 14 = .ok (.aload_n 0, 1) := dk_42 (dk_at dksX4_tranche_0 14 rfl rfl)
theorem dX4_tranche_15 : decode cX4_tranche 15 = .ok (.getfield 45, 3) := dk_180 0 45 (dk_at dksX4_tranche_0 15 rfl rfl)
theorem dX4_tranche_18 : decode cX4_tranche 18 = .ok (.iload_n 1, 1) := dk_27 (dk_at dksX4_tranche_0 18 rfl rfl)
theorem dX4_tranche_19 : decode cX4_tranche 19 = .ok (.iaload, 1) := dk_46 (dk_at dksX4_tranche_0 19 rfl rfl)
theorem dX4_tranche_20 : decode cX4_tranche 20 = .ok (.goto 8, 3) := dk_167 0 8 (dk_at dksX4_tranche_0 20 rfl rfl)
theorem dX4_tranche_23 : decode cX4_tranche 23 = .ok (.aload_n 0, 1) := dk_42 (dk_at dksX4_tranche_0 23 rfl rfl)
theorem dX4_tranche_24 : decode cX4_tranche 24 = .ok (.iconst 1, 1) := dk_4 (dk_at dksX4_tranche_1 0 rfl rfl)
theorem dX4_tranche_25 : decode cX4_tranche 25 = .ok (.invokevirtual 76, 3) := dk_182 0 76 (dk_at dksX4_tranche_1 1 rfl rfl)
theorem dX4_tranche_28 : decode cX4_tranche 28 = .ok (.ireturn, 1) := dk_172 (dk_at dksX4_tranche_1 4 rfl rfl)
abbrev cX4_replicaRate : ByteArray := prog_12_method_28_code
def yX4_replicaRate : MethodName := ⟨RX4, "replicaRate", "()I"⟩
def dkwX4_replicaRate_0 : List UInt8 := [42, 3, 181, 0, 63, 42, 182, 0, 110, 172]
abbrev dktX4_replicaRate_0 : List UInt8 := dkwX4_replicaRate_0 ++ []
theorem dksX4_replicaRate_0 : cX4_replicaRate.data.toList.drop 0 = dktX4_replicaRate_0 := by decide +kernel
theorem dX4_replicaRate_0 : decode cX4_replicaRate 0 = .ok (.aload_n 0, 1) := dk_42 (dk_at dksX4_replicaRate_0 0 rfl rfl)
theorem dX4_replicaRate_1 : decode cX4_replicaRate 1 = .ok (.iconst 0, 1) := dk_3 (dk_at dksX4_replicaRate_0 1 rfl rfl)
theorem dX4_replicaRate_2 : decode cX4_replicaRate 2 = .ok (.putfield 63, 3) := dk_181 0 63 (dk_at dksX4_replicaRate_0 2 rfl rfl)
theorem dX4_replicaRate_5 : decode cX4_replicaRate 5 = .ok (.aload_n 0, 1) := dk_42 (dk_at dksX4_replicaRate_0 5 rfl rfl)
theorem dX4_replicaRate_6 : decode cX4_replicaRate 6 = .ok (.invokevirtual 110, 3) := dk_182 0 110 (dk_at dksX4_replicaRate_0 6 rfl rfl)
theorem dX4_replicaRate_9 : decode cX4_replicaRate 9 = .ok (.ireturn, 1) := dk_172 (dk_at dksX4_replicaRate_0 9 rfl rfl)
abbrev cX4_margin : ByteArray := prog_12_method_29_code
def yX4_margin : MethodName := ⟨RX4, "margin", "(II)I"⟩
def dkwX4_margin_1 : List UInt8 := [6, 28, 104, 27, 96, 46, 167, 0, 8, 42, 4, 182, 0, 76, 172]
abbrev dktX4_margin_1 : List UInt8 := dkwX4_margin_1 ++ []
def dkwX4_margin_0 : List UInt8 := [42, 3, 181, 0, 63, 27, 184, 0, 91, 153, 0, 24, 42, 28, 182, 0, 123, 153, 0, 16, 42, 180, 0, 51]
abbrev dktX4_margin_0 : List UInt8 := dkwX4_margin_0 ++ dktX4_margin_1
theorem dksX4_margin_0 : cX4_margin.data.toList.drop 0 = dktX4_margin_0 := by decide +kernel
theorem dksX4_margin_1 : cX4_margin.data.toList.drop 24 = dktX4_margin_1 := dk_seg dksX4_margin_0 24 rfl rfl
theorem dX4_margin_0 : decode cX4_margin 0 = .ok (.aload_n 0, 1) := dk_42 (dk_at dksX4_margin_0 0 rfl rfl)
theorem dX4_margin_1 : decode cX4_margin 1 = .ok (.iconst 0, 1) := dk_3 (dk_at dksX4_margin_0 1 rfl rfl)
theorem dX4_margin_2 : decode cX4_margin 2 = .ok (.putfield 63, 3) := dk_181 0 63 (dk_at dksX4_margin_0 2 rfl rfl)
theorem dX4_margin_5 : decode cX4_margin 5 = .ok (.iload_n 1, 1) := dk_27 (dk_at dksX4_margin_0 5 rfl rfl)
theorem dX4_margin_6 : decode cX4_margin 6 = .ok (.invokestatic 91, 3) := dk_184 0 91 (dk_at dksX4_margin_0 6 rfl rfl)
theorem dX4_margin_9 : decode cX4_margin 9 = .ok (.ifCond .eq 24, 3) := dk_153 0 24 (dk_at dksX4_margin_0 9 rfl rfl)
theorem dX4_margin_12 : decode cX4_margin 12 = .ok (.aload_n 0, 1) := dk_42 (dk_at dksX4_margin_0 12 rfl rfl)
theorem dX4_margin_13 : decode cX4_margin 13 = .ok (.iload_n 2, 1) := dk_28 (dk_at dksX4_margin_0 13 rfl rfl)
theorem dX4_margin_14 : decode cX4_margin 14 = .ok (.invokevirtual 123, 3) := dk_182 0 123 (dk_at dksX4_margin_0 14 rfl rfl)
theorem dX4_margin_17 : decode cX4_margin 17 = .ok (.ifCond .eq 16, 3) := dk_153 0 16 (dk_at dksX4_margin_0 17 rfl rfl)
theorem dX4_margin_20 : decode cX4_margin 20 = .ok (.aload_n 0, 1) := dk_42 (dk_at dksX4_margin_0 20 rfl rfl)
theorem dX4_margin_21 : decode cX4_margin 21 = .ok (.getfield 51, 3) := dk_180 0 51 (dk_at dksX4_margin_0 21 rfl rfl)
theorem dX4_margin_24 : decode cX4_margin 24 = .ok (.iconst 3, 1) := dk_6 (dk_at dksX4_margin_1 0 rfl rfl)
theorem dX4_margin_25 : decode cX4_margin 25 = .ok (.iload_n 2, 1) := dk_28 (dk_at dksX4_margin_1 1 rfl rfl)
theorem dX4_margin_26 : decode cX4_margin 26 = .ok (.imul, 1) := dk_104 (dk_at dksX4_margin_1 2 rfl rfl)
theorem dX4_margin_27 : decode cX4_margin 27 = .ok (.iload_n 1, 1) := dk_27 (dk_at dksX4_margin_1 3 rfl rfl)
theorem dX4_margin_28 : decode cX4_margin 28 = .ok (.iadd, 1) := dk_96 (dk_at dksX4_margin_1 4 rfl rfl)
theorem dX4_margin_29 : decode cX4_margin 29 = .ok (.iaload, 1) := dk_46 (dk_at dksX4_margin_1 5 rfl rfl)
theorem dX4_margin_30 : decode cX4_margin 30 = .ok (.goto 8, 3) := dk_167 0 8 (dk_at dksX4_margin_1 6 rfl rfl)
theorem dX4_margin_33 : decode cX4_margin 33 = .ok (.aload_n 0, 1) := dk_42 (dk_at dksX4_margin_1 9 rfl rfl)
theorem dX4_margin_34 : decode cX4_margin 34 = .ok (.iconst 1, 1) := dk_4 (dk_at dksX4_margin_1 10 rfl rfl)
theorem dX4_margin_35 : decode cX4_margin 35 = .ok (.invokevirtual 76, 3) := dk_182 0 76 (dk_at dksX4_margin_1 11 rfl rfl)
theorem dX4_margin_38 : decode cX4_margin 38 = .ok (.ireturn, 1) := dk_172 (dk_at dksX4_margin_1 14 rfl rfl)
abbrev cX4_isEnded : ByteArray := prog_12_method_7_code
def yX4_isEnded : MethodName := ⟨RX4, "isEnded", "(I)Z"⟩
def dkwX4_isEnded_0 : List UInt8 := [27, 3, 42, 180, 0, 73, 4, 100, 184, 0, 69, 172]
abbrev dktX4_isEnded_0 : List UInt8 := dkwX4_isEnded_0 ++ []
theorem dksX4_isEnded_0 : cX4_isEnded.data.toList.drop 0 = dktX4_isEnded_0 := by decide +kernel
theorem dX4_isEnded_0 : decode cX4_isEnded 0 = .ok (.iload_n 1, 1) := dk_27 (dk_at dksX4_isEnded_0 0 rfl rfl)
theorem dX4_isEnded_1 : decode cX4_isEnded 1 = .ok (.iconst 0, 1) := dk_3 (dk_at dksX4_isEnded_0 1 rfl rfl)
theorem dX4_isEnded_2 : decode cX4_isEnded 2 = .ok (.aload_n 0, 1) := dk_42 (dk_at dksX4_isEnded_0 2 rfl rfl)
theorem dX4_isEnded_3 : decode cX4_isEnded 3 = .ok (.getfield 73, 3) := dk_180 0 73 (dk_at dksX4_isEnded_0 3 rfl rfl)
theorem dX4_isEnded_6 : decode cX4_isEnded 6 = .ok (.iconst 1, 1) := dk_4 (dk_at dksX4_isEnded_0 6 rfl rfl)
theorem dX4_isEnded_7 : decode cX4_isEnded 7 = .ok (.isub, 1) := dk_100 (dk_at dksX4_isEnded_0 7 rfl rfl)
theorem dX4_isEnded_8 : decode cX4_isEnded 8 = .ok (.invokestatic 69, 3) := dk_184 0 69 (dk_at dksX4_isEnded_0 8 rfl rfl)
theorem dX4_isEnded_11 : decode cX4_isEnded 11 = .ok (.ireturn, 1) := dk_172 (dk_at dksX4_isEnded_0 11 rfl rfl)
abbrev cX4_byProduct : ByteArray := prog_12_method_30_code
def yX4_byProduct : MethodName := ⟨RX4, "byProduct", "(II)I"⟩
def dkwX4_byProduct_1 : List UInt8 := [180, 0, 54, 6, 28, 104, 27, 96, 46, 167, 0, 8, 42, 4, 182, 0, 76, 172]
abbrev dktX4_byProduct_1 : List UInt8 := dkwX4_byProduct_1 ++ []
def dkwX4_byProduct_0 : List UInt8 := [42, 3, 181, 0, 63, 27, 3, 5, 184, 0, 69, 153, 0, 24, 42, 28, 182, 0, 123, 153, 0, 16, 42]
abbrev dktX4_byProduct_0 : List UInt8 := dkwX4_byProduct_0 ++ dktX4_byProduct_1
theorem dksX4_byProduct_0 : cX4_byProduct.data.toList.drop 0 = dktX4_byProduct_0 := by decide +kernel
theorem dksX4_byProduct_1 : cX4_byProduct.data.toList.drop 23 = dktX4_byProduct_1 := dk_seg dksX4_byProduct_0 23 rfl rfl
theorem dX4_byProduct_0 : decode cX4_byProduct 0 = .ok (.aload_n 0, 1) := dk_42 (dk_at dksX4_byProduct_0 0 rfl rfl)
theorem dX4_byProduct_1 : decode cX4_byProduct 1 = .ok (.iconst 0, 1) := dk_3 (dk_at dksX4_byProduct_0 1 rfl rfl)
theorem dX4_byProduct_2 : decode cX4_byProduct 2 = .ok (.putfield 63, 3) := dk_181 0 63 (dk_at dksX4_byProduct_0 2 rfl rfl)
theorem dX4_byProduct_5 : decode cX4_byProduct 5 = .ok (.iload_n 1, 1) := dk_27 (dk_at dksX4_byProduct_0 5 rfl rfl)
theorem dX4_byProduct_6 : decode cX4_byProduct 6 = .ok (.iconst 0, 1) := dk_3 (dk_at dksX4_byProduct_0 6 rfl rfl)
theorem dX4_byProduct_7 : decode cX4_byProduct 7 = .ok (.iconst 2, 1) := dk_5 (dk_at dksX4_byProduct_0 7 rfl rfl)
theorem dX4_byProduct_8 : decode cX4_byProduct 8 = .ok (.invokestatic 69, 3) := dk_184 0 69 (dk_at dksX4_byProduct_0 8 rfl rfl)
theorem dX4_byProduct_11 : decode cX4_byProduct 11 = .ok (.ifCond .eq 24, 3) := dk_153 0 24 (dk_at dksX4_byProduct_0 11 rfl rfl)
theorem dX4_byProduct_14 : decode cX4_byProduct 14 = .ok (.aload_n 0, 1) := dk_42 (dk_at dksX4_byProduct_0 14 rfl rfl)
theorem dX4_byProduct_15 : decode cX4_byProduct 15 = .ok (.iload_n 2, 1) := dk_28 (dk_at dksX4_byProduct_0 15 rfl rfl)
theorem dX4_byProduct_16 : decode cX4_byProduct 16 = .ok (.invokevirtual 123, 3) := dk_182 0 123 (dk_at dksX4_byProduct_0 16 rfl rfl)
theorem dX4_byProduct_19 : decode cX4_byProduct 19 = .ok (.ifCond .eq 16, 3) := dk_153 0 16 (dk_at dksX4_byProduct_0 19 rfl rfl)
theorem dX4_byProduct_22 : decode cX4_byProduct 22 = .ok (.aload_n 0, 1) := dk_42 (dk_at dksX4_byProduct_0 22 rfl rfl)
theorem dX4_byProduct_23 : decode cX4_byProduct 23 = .ok (.getfield 54, 3) := dk_180 0 54 (dk_at dksX4_byProduct_1 0 rfl rfl)
theorem dX4_byProduct_26 : decode cX4_byProduct 26 = .ok (.iconst 3, 1) := dk_6 (dk_at dksX4_byProduct_1 3 rfl rfl)
theorem dX4_byProduct_27 : decode cX4_byProduct 27 = .ok (.iload_n 2, 1) := dk_28 (dk_at dksX4_byProduct_1 4 rfl rfl)
theorem dX4_byProduct_28 : decode cX4_byProduct 28 = .ok (.imul, 1) := dk_104 (dk_at dksX4_byProduct_1 5 rfl rfl)
theorem dX4_byProduct_29 : decode cX4_byProduct 29 = .ok (.iload_n 1, 1) := dk_27 (dk_at dksX4_byProduct_1 6 rfl rfl)
theorem dX4_byProduct_30 : decode cX4_byProduct 30 = .ok (.iadd, 1) := dk_96 (dk_at dksX4_byProduct_1 7 rfl rfl)
theorem dX4_byProduct_31 : decode cX4_byProduct 31 = .ok (.iaload, 1) := dk_46 (dk_at dksX4_byProduct_1 8 rfl rfl)
theorem dX4_byProduct_32 : decode cX4_byProduct 32 = .ok (.goto 8, 3) := dk_167 0 8 (dk_at dksX4_byProduct_1 9 rfl rfl)
theorem dX4_byProduct_35 : decode cX4_byProduct 35 = .ok (.aload_n 0, 1) := dk_42 (dk_at dksX4_byProduct_1 12 rfl rfl)
theorem dX4_byProduct_36 : decode cX4_byProduct 36 = .ok (.iconst 1, 1) := dk_4 (dk_at dksX4_byProduct_1 13 rfl rfl)
theorem dX4_byProduct_37 : decode cX4_byProduct 37 = .ok (.invokevirtual 76, 3) := dk_182 0 76 (dk_at dksX4_byProduct_1 14 rfl rfl)
theorem dX4_byProduct_40 : decode cX4_byProduct 40 = .ok (.ireturn, 1) := dk_172 (dk_at dksX4_byProduct_1 17 rfl rfl)
abbrev cX4_treasury : ByteArray := prog_12_method_31_code
def yX4_treasury : MethodName := ⟨RX4, "treasury", "(I)I"⟩
def dkwX4_treasury_1 : List UInt8 := [182, 0, 76, 172]
abbrev dktX4_treasury_1 : List UInt8 := dkwX4_treasury_1 ++ []
def dkwX4_treasury_0 : List UInt8 := [42, 3, 181, 0, 63, 42, 27, 182, 0, 123, 153, 0, 12, 42, 180, 0, 57, 27, 46, 167, 0, 8, 42, 4]
abbrev dktX4_treasury_0 : List UInt8 := dkwX4_treasury_0 ++ dktX4_treasury_1
theorem dksX4_treasury_0 : cX4_treasury.data.toList.drop 0 = dktX4_treasury_0 := by decide +kernel
theorem dksX4_treasury_1 : cX4_treasury.data.toList.drop 24 = dktX4_treasury_1 := dk_seg dksX4_treasury_0 24 rfl rfl
theorem dX4_treasury_0 : decode cX4_treasury 0 = .ok (.aload_n 0, 1) := dk_42 (dk_at dksX4_treasury_0 0 rfl rfl)
theorem dX4_treasury_1 : decode cX4_treasury 1 = .ok (.iconst 0, 1) := dk_3 (dk_at dksX4_treasury_0 1 rfl rfl)
theorem dX4_treasury_2 : decode cX4_treasury 2 = .ok (.putfield 63, 3) := dk_181 0 63 (dk_at dksX4_treasury_0 2 rfl rfl)
theorem dX4_treasury_5 : decode cX4_treasury 5 = .ok (.aload_n 0, 1) := dk_42 (dk_at dksX4_treasury_0 5 rfl rfl)
theorem dX4_treasury_6 : decode cX4_treasury 6 = .ok (.iload_n 1, 1) := dk_27 (dk_at dksX4_treasury_0 6 rfl rfl)
theorem dX4_treasury_7 : decode cX4_treasury 7 = .ok (.invokevirtual 123, 3) := dk_182 0 123 (dk_at dksX4_treasury_0 7 rfl rfl)
theorem dX4_treasury_10 : decode cX4_treasury 10 = .ok (.ifCond .eq 12, 3) := dk_153 0 12 (dk_at dksX4_treasury_0 10 rfl rfl)
theorem dX4_treasury_13 : decode cX4_treasury 13 = .ok (.aload_n 0, 1) := dk_42 (dk_at dksX4_treasury_0 13 rfl rfl)
theorem dX4_treasury_14 : decode cX4_treasury 14 = .ok (.getfield 57, 3) := dk_180 0 57 (dk_at dksX4_treasury_0 14 rfl rfl)
theorem dX4_treasury_17 : decode cX4_treasury 17 = .ok (.iload_n 1, 1) := dk_27 (dk_at dksX4_treasury_0 17 rfl rfl)
theorem dX4_treasury_18 : decode cX4_treasury 18 = .ok (.iaload, 1) := dk_46 (dk_at dksX4_treasury_0 18 rfl rfl)
theorem dX4_treasury_19 : decode cX4_treasury 19 = .ok (.goto 8, 3) := dk_167 0 8 (dk_at dksX4_treasury_0 19 rfl rfl)
theorem dX4_treasury_22 : decode cX4_treasury 22 = .ok (.aload_n 0, 1) := dk_42 (dk_at dksX4_treasury_0 22 rfl rfl)
theorem dX4_treasury_23 : decode cX4_treasury 23 = .ok (.iconst 1, 1) := dk_4 (dk_at dksX4_treasury_0 23 rfl rfl)
theorem dX4_treasury_24 : decode cX4_treasury 24 = .ok (.invokevirtual 76, 3) := dk_182 0 76 (dk_at dksX4_treasury_1 0 rfl rfl)
theorem dX4_treasury_27 : decode cX4_treasury 27 = .ok (.ireturn, 1) := dk_172 (dk_at dksX4_treasury_1 3 rfl rfl)
abbrev cX4_interest : ByteArray := prog_12_method_32_code
def yX4_interest : MethodName := ⟨RX4, "interest", "(I)I"⟩
def dkwX4_interest_1 : List UInt8 := [182, 0, 76, 172]
abbrev dktX4_interest_1 : List UInt8 := dkwX4_interest_1 ++ []
def dkwX4_interest_0 : List UInt8 := [42, 3, 181, 0, 63, 42, 27, 182, 0, 123, 153, 0, 12, 42, 180, 0, 60, 27, 46, 167, 0, 8, 42, 4]
abbrev dktX4_interest_0 : List UInt8 := dkwX4_interest_0 ++ dktX4_interest_1
theorem dksX4_interest_0 : cX4_interest.data.toList.drop 0 = dktX4_interest_0 := by decide +kernel
theorem dksX4_interest_1 : cX4_interest.data.toList.drop 24 = dktX4_interest_1 := dk_seg dksX4_interest_0 24 rfl rfl
theorem dX4_interest_0 : decode cX4_interest 0 = .ok (.aload_n 0, 1) := dk_42 (dk_at dksX4_interest_0 0 rfl rfl)
theorem dX4_interest_1 : decode cX4_interest 1 = .ok (.iconst 0, 1) := dk_3 (dk_at dksX4_interest_0 1 rfl rfl)
theorem dX4_interest_2 : decode cX4_interest 2 = .ok (.putfield 63, 3) := dk_181 0 63 (dk_at dksX4_interest_0 2 rfl rfl)
theorem dX4_interest_5 : decode cX4_interest 5 = .ok (.aload_n 0, 1) := dk_42 (dk_at dksX4_interest_0 5 rfl rfl)
theorem dX4_interest_6 : decode cX4_interest 6 = .ok (.iload_n 1, 1) := dk_27 (dk_at dksX4_interest_0 6 rfl rfl)
theorem dX4_interest_7 : decode cX4_interest 7 = .ok (.invokevirtual 123, 3) := dk_182 0 123 (dk_at dksX4_interest_0 7 rfl rfl)
theorem dX4_interest_10 : decode cX4_interest 10 = .ok (.ifCond .eq 12, 3) := dk_153 0 12 (dk_at dksX4_interest_0 10 rfl rfl)
theorem dX4_interest_13 : decode cX4_interest 13 = .ok (.aload_n 0, 1) := dk_42 (dk_at dksX4_interest_0 13 rfl rfl)
theorem dX4_interest_14 : decode cX4_interest 14 = .ok (.getfield 60, 3) := dk_180 0 60 (dk_at dksX4_interest_0 14 rfl rfl)
theorem dX4_interest_17 : decode cX4_interest 17 = .ok (.iload_n 1, 1) := dk_27 (dk_at dksX4_interest_0 17 rfl rfl)
theorem dX4_interest_18 : decode cX4_interest 18 = .ok (.iaload, 1) := dk_46 (dk_at dksX4_interest_0 18 rfl rfl)
theorem dX4_interest_19 : decode cX4_interest 19 = .ok (.goto 8, 3) := dk_167 0 8 (dk_at dksX4_interest_0 19 rfl rfl)
theorem dX4_interest_22 : decode cX4_interest 22 = .ok (.aload_n 0, 1) := dk_42 (dk_at dksX4_interest_0 22 rfl rfl)
theorem dX4_interest_23 : decode cX4_interest 23 = .ok (.iconst 1, 1) := dk_4 (dk_at dksX4_interest_0 23 rfl rfl)
theorem dX4_interest_24 : decode cX4_interest 24 = .ok (.invokevirtual 76, 3) := dk_182 0 76 (dk_at dksX4_interest_1 0 rfl rfl)
theorem dX4_interest_27 : decode cX4_interest 27 = .ok (.ireturn, 1) := dk_172 (dk_at dksX4_interest_1 3 rfl rfl)
theorem q31 : (Jvm.Cond.initialized "FundBookModel") ∈ lw_all := lw_g (lw_at lw_m1 9 rfl) rfl
theorem q439 : (Jvm.Cond.selects "FundBookModel" ({ cls := "java/lang/Object", name := "getClass", desc := "()Ljava/lang/Class;" } : Jvm.MethodName) ({ cls := "java/lang/Object", name := "getClass", desc := "()Ljava/lang/Class;" } : Jvm.MethodName)) ∈ lw_all := lw_g (lw_at lw_m2 177 rfl) rfl
theorem q675 : (Jvm.Cond.instantiable "FundBookModel" (22 : Nat)) ∈ lw_all := lw_g (lw_at lw_m3 173 rfl) rfl
theorem q677 : (Jvm.Cond.instanceMethod ({ cls := "FundBookModel", name := "<init>", desc := "()V" } : Jvm.MethodName)) ∈ lw_all := lw_g (lw_at lw_m3 175 rfl) rfl
theorem q678 : (Jvm.Cond.code ({ cls := "FundBookModel", name := "<init>", desc := "()V" } : Jvm.MethodName) prog_12_method_1_code (1 : Nat) (Option.none : Option Jvm.ClassFile.FieldType)) ∈ lw_all := lw_g (lw_at lw_m3 176 rfl) rfl
theorem q679 : (Jvm.Cond.methodLink "FundBookModel" (1 : Nat) ({ cls := "java/lang/Object", name := "<init>", desc := "()V" } : Jvm.MethodName)) ∈ lw_all := lw_g (lw_at lw_m3 177 rfl) rfl
theorem q680 : (Jvm.Cond.fieldLink "FundBookModel" (63 : Nat) "FundBookModel" "thrown" "I") ∈ lw_all := lw_g (lw_at lw_m3 178 rfl) rfl
theorem q681 : (Jvm.Cond.fieldLink "FundBookModel" (73 : Nat) "FundBookModel" "now" "I") ∈ lw_all := lw_g (lw_at lw_m3 179 rfl) rfl
theorem q682 : (Jvm.Cond.fieldLink "FundBookModel" (7 : Nat) "FundBookModel" "curve" "[I") ∈ lw_all := lw_g (lw_at lw_m3 180 rfl) rfl
theorem q683 : (Jvm.Cond.fieldLink "FundBookModel" (80 : Nat) "FundBookModel" "depositRate" "I") ∈ lw_all := lw_g (lw_at lw_m3 181 rfl) rfl
theorem q684 : (Jvm.Cond.fieldLink "FundBookModel" (83 : Nat) "FundBookModel" "optionRate" "I") ∈ lw_all := lw_g (lw_at lw_m3 182 rfl) rfl
theorem q685 : (Jvm.Cond.fieldLink "FundBookModel" (13 : Nat) "FundBookModel" "share" "I") ∈ lw_all := lw_g (lw_at lw_m3 183 rfl) rfl
theorem q686 : (Jvm.Cond.fieldLink "FundBookModel" (66 : Nat) "FundBookModel" "loans" "I") ∈ lw_all := lw_g (lw_at lw_m3 184 rfl) rfl
theorem q687 : (Jvm.Cond.fieldLink "FundBookModel" (17 : Nat) "FundBookModel" "branch" "[I") ∈ lw_all := lw_g (lw_at lw_m3 185 rfl) rfl
theorem q688 : (Jvm.Cond.fieldLink "FundBookModel" (20 : Nat) "FundBookModel" "product" "[I") ∈ lw_all := lw_g (lw_at lw_m3 186 rfl) rfl
theorem q689 : (Jvm.Cond.fieldLink "FundBookModel" (23 : Nat) "FundBookModel" "customers" "[I") ∈ lw_all := lw_g (lw_at lw_m3 187 rfl) rfl
theorem q690 : (Jvm.Cond.fieldLink "FundBookModel" (26 : Nat) "FundBookModel" "option" "[I") ∈ lw_all := lw_g (lw_at lw_m3 188 rfl) rfl
theorem q691 : (Jvm.Cond.fieldLink "FundBookModel" (29 : Nat) "FundBookModel" "hasOption" "[Z") ∈ lw_all := lw_g (lw_at lw_m3 189 rfl) rfl
theorem q692 : (Jvm.Cond.fieldLink "FundBookModel" (33 : Nat) "FundBookModel" "born" "[I") ∈ lw_all := lw_g (lw_at lw_m3 190 rfl) rfl
theorem q693 : (Jvm.Cond.fieldLink "FundBookModel" (36 : Nat) "FundBookModel" "part" "[I") ∈ lw_all := lw_g (lw_at lw_m3 191 rfl) rfl
theorem q694 : (Jvm.Cond.fieldLink "FundBookModel" (39 : Nat) "FundBookModel" "funded" "[I") ∈ lw_all := lw_g (lw_at lw_m3 192 rfl) rfl
theorem q695 : (Jvm.Cond.fieldLink "FundBookModel" (42 : Nat) "FundBookModel" "balance" "[I") ∈ lw_all := lw_g (lw_at lw_m3 193 rfl) rfl
theorem q696 : (Jvm.Cond.fieldLink "FundBookModel" (45 : Nat) "FundBookModel" "tranche" "[I") ∈ lw_all := lw_g (lw_at lw_m3 194 rfl) rfl
theorem q697 : (Jvm.Cond.fieldLink "FundBookModel" (48 : Nat) "FundBookModel" "laidAt" "[I") ∈ lw_all := lw_g (lw_at lw_m3 195 rfl) rfl
theorem q698 : (Jvm.Cond.fieldLink "FundBookModel" (51 : Nat) "FundBookModel" "margins" "[I") ∈ lw_all := lw_g (lw_at lw_m3 196 rfl) rfl
theorem q699 : (Jvm.Cond.fieldLink "FundBookModel" (54 : Nat) "FundBookModel" "products" "[I") ∈ lw_all := lw_g (lw_at lw_m3 197 rfl) rfl
theorem q700 : (Jvm.Cond.fieldLink "FundBookModel" (57 : Nat) "FundBookModel" "treasuries" "[I") ∈ lw_all := lw_g (lw_at lw_m3 198 rfl) rfl
theorem q701 : (Jvm.Cond.fieldLink "FundBookModel" (60 : Nat) "FundBookModel" "interests" "[I") ∈ lw_all := lw_g (lw_at lw_m3 199 rfl) rfl
theorem q702 : (Jvm.Cond.lays "FundBookModel" "FundBookModel" "thrown" "I") ∈ lw_all := lw_g (lw_at lw_m3 200 rfl) rfl
theorem q703 : (Jvm.Cond.soleField "FundBookModel" "thrown") ∈ lw_all := lw_g (lw_at lw_m3 201 rfl) rfl
theorem q704 : (Jvm.Cond.lays "FundBookModel" "FundBookModel" "now" "I") ∈ lw_all := lw_g (lw_at lw_m3 202 rfl) rfl
theorem q705 : (Jvm.Cond.soleField "FundBookModel" "now") ∈ lw_all := lw_g (lw_at lw_m3 203 rfl) rfl
theorem q706 : (Jvm.Cond.laysFinal "FundBookModel" "FundBookModel" "curve" "[I") ∈ lw_all := lw_g (lw_at lw_m3 204 rfl) rfl
theorem q707 : (Jvm.Cond.soleField "FundBookModel" "curve") ∈ lw_all := lw_g (lw_at lw_m3 205 rfl) rfl
theorem q708 : (Jvm.Cond.lays "FundBookModel" "FundBookModel" "depositRate" "I") ∈ lw_all := lw_g (lw_at lw_m3 206 rfl) rfl
theorem q709 : (Jvm.Cond.soleField "FundBookModel" "depositRate") ∈ lw_all := lw_g (lw_at lw_m3 207 rfl) rfl
theorem q710 : (Jvm.Cond.lays "FundBookModel" "FundBookModel" "optionRate" "I") ∈ lw_all := lw_g (lw_at lw_m3 208 rfl) rfl
theorem q711 : (Jvm.Cond.soleField "FundBookModel" "optionRate") ∈ lw_all := lw_g (lw_at lw_m3 209 rfl) rfl
theorem q712 : (Jvm.Cond.lays "FundBookModel" "FundBookModel" "share" "I") ∈ lw_all := lw_g (lw_at lw_m3 210 rfl) rfl
theorem q713 : (Jvm.Cond.soleField "FundBookModel" "share") ∈ lw_all := lw_g (lw_at lw_m3 211 rfl) rfl
theorem q714 : (Jvm.Cond.lays "FundBookModel" "FundBookModel" "loans" "I") ∈ lw_all := lw_g (lw_at lw_m3 212 rfl) rfl
theorem q715 : (Jvm.Cond.soleField "FundBookModel" "loans") ∈ lw_all := lw_g (lw_at lw_m3 213 rfl) rfl
theorem q716 : (Jvm.Cond.laysFinal "FundBookModel" "FundBookModel" "branch" "[I") ∈ lw_all := lw_g (lw_at lw_m3 214 rfl) rfl
theorem q717 : (Jvm.Cond.soleField "FundBookModel" "branch") ∈ lw_all := lw_g (lw_at lw_m3 215 rfl) rfl
theorem q718 : (Jvm.Cond.laysFinal "FundBookModel" "FundBookModel" "product" "[I") ∈ lw_all := lw_g (lw_at lw_m3 216 rfl) rfl
theorem q719 : (Jvm.Cond.soleField "FundBookModel" "product") ∈ lw_all := lw_g (lw_at lw_m3 217 rfl) rfl
theorem q720 : (Jvm.Cond.laysFinal "FundBookModel" "FundBookModel" "customers" "[I") ∈ lw_all := lw_g (lw_at lw_m3 218 rfl) rfl
theorem q721 : (Jvm.Cond.soleField "FundBookModel" "customers") ∈ lw_all := lw_g (lw_at lw_m3 219 rfl) rfl
theorem q722 : (Jvm.Cond.laysFinal "FundBookModel" "FundBookModel" "option" "[I") ∈ lw_all := lw_g (lw_at lw_m3 220 rfl) rfl
theorem q723 : (Jvm.Cond.soleField "FundBookModel" "option") ∈ lw_all := lw_g (lw_at lw_m3 221 rfl) rfl
theorem q724 : (Jvm.Cond.laysFinal "FundBookModel" "FundBookModel" "hasOption" "[Z") ∈ lw_all := lw_g (lw_at lw_m3 222 rfl) rfl
theorem q725 : (Jvm.Cond.soleField "FundBookModel" "hasOption") ∈ lw_all := lw_g (lw_at lw_m3 223 rfl) rfl
theorem q726 : (Jvm.Cond.laysFinal "FundBookModel" "FundBookModel" "born" "[I") ∈ lw_all := lw_g (lw_at lw_m3 224 rfl) rfl
theorem q727 : (Jvm.Cond.soleField "FundBookModel" "born") ∈ lw_all := lw_g (lw_at lw_m3 225 rfl) rfl
theorem q728 : (Jvm.Cond.laysFinal "FundBookModel" "FundBookModel" "part" "[I") ∈ lw_all := lw_g (lw_at lw_m3 226 rfl) rfl
theorem q729 : (Jvm.Cond.soleField "FundBookModel" "part") ∈ lw_all := lw_g (lw_at lw_m3 227 rfl) rfl
theorem q730 : (Jvm.Cond.laysFinal "FundBookModel" "FundBookModel" "funded" "[I") ∈ lw_all := lw_g (lw_at lw_m3 228 rfl) rfl
theorem q731 : (Jvm.Cond.soleField "FundBookModel" "funded") ∈ lw_all := lw_g (lw_at lw_m3 229 rfl) rfl
theorem q732 : (Jvm.Cond.laysFinal "FundBookModel" "FundBookModel" "balance" "[I") ∈ lw_all := lw_g (lw_at lw_m3 230 rfl) rfl
theorem q733 : (Jvm.Cond.soleField "FundBookModel" "balance") ∈ lw_all := lw_g (lw_at lw_m3 231 rfl) rfl
theorem q734 : (Jvm.Cond.laysFinal "FundBookModel" "FundBookModel" "tranche" "[I") ∈ lw_all := lw_g (lw_at lw_m3 232 rfl) rfl
theorem q735 : (Jvm.Cond.soleField "FundBookModel" "tranche") ∈ lw_all := lw_g (lw_at lw_m3 233 rfl) rfl
theorem q736 : (Jvm.Cond.laysFinal "FundBookModel" "FundBookModel" "laidAt" "[I") ∈ lw_all := lw_g (lw_at lw_m3 234 rfl) rfl
theorem q737 : (Jvm.Cond.soleField "FundBookModel" "laidAt") ∈ lw_all := lw_g (lw_at lw_m3 235 rfl) rfl
theorem q738 : (Jvm.Cond.laysFinal "FundBookModel" "FundBookModel" "margins" "[I") ∈ lw_all := lw_g (lw_at lw_m3 236 rfl) rfl
theorem q739 : (Jvm.Cond.soleField "FundBookModel" "margins") ∈ lw_all := lw_g (lw_at lw_m3 237 rfl) rfl
theorem q740 : (Jvm.Cond.laysFinal "FundBookModel" "FundBookModel" "products" "[I") ∈ lw_all := lw_g (lw_at lw_m3 238 rfl) rfl
theorem q741 : (Jvm.Cond.soleField "FundBookModel" "products") ∈ lw_all := lw_g (lw_at lw_m3 239 rfl) rfl
theorem q742 : (Jvm.Cond.laysFinal "FundBookModel" "FundBookModel" "treasuries" "[I") ∈ lw_all := lw_g (lw_at lw_m4 0 rfl) rfl
theorem q743 : (Jvm.Cond.soleField "FundBookModel" "treasuries") ∈ lw_all := lw_g (lw_at lw_m4 1 rfl) rfl
theorem q744 : (Jvm.Cond.laysFinal "FundBookModel" "FundBookModel" "interests" "[I") ∈ lw_all := lw_g (lw_at lw_m4 2 rfl) rfl
theorem q745 : (Jvm.Cond.soleField "FundBookModel" "interests") ∈ lw_all := lw_g (lw_at lw_m4 3 rfl) rfl
theorem q746 : (Jvm.Cond.superclass "FundBookModel" "java/lang/Object") ∈ lw_all := lw_g (lw_at lw_m4 4 rfl) rfl
theorem q749 : (Jvm.Cond.instanceMethod ({ cls := "FundBookModel", name := "thrown", desc := "()I" } : Jvm.MethodName)) ∈ lw_all := lw_g (lw_at lw_m4 7 rfl) rfl
theorem q750 : (Jvm.Cond.selects "FundBookModel" ({ cls := "FundBookModel", name := "thrown", desc := "()I" } : Jvm.MethodName) ({ cls := "FundBookModel", name := "thrown", desc := "()I" } : Jvm.MethodName)) ∈ lw_all := lw_g (lw_at lw_m4 8 rfl) rfl
theorem q751 : (Jvm.Cond.code ({ cls := "FundBookModel", name := "thrown", desc := "()I" } : Jvm.MethodName) prog_12_method_2_code (1 : Nat) (Option.some Jvm.ClassFile.FieldType.int)) ∈ lw_all := lw_g (lw_at lw_m4 9 rfl) rfl
theorem q753 : (Jvm.Cond.instanceMethod ({ cls := "FundBookModel", name := "setCurve", desc := "(II)I" } : Jvm.MethodName)) ∈ lw_all := lw_g (lw_at lw_m4 11 rfl) rfl
theorem q754 : (Jvm.Cond.selects "FundBookModel" ({ cls := "FundBookModel", name := "setCurve", desc := "(II)I" } : Jvm.MethodName) ({ cls := "FundBookModel", name := "setCurve", desc := "(II)I" } : Jvm.MethodName)) ∈ lw_all := lw_g (lw_at lw_m4 12 rfl) rfl
theorem q755 : (Jvm.Cond.code ({ cls := "FundBookModel", name := "setCurve", desc := "(II)I" } : Jvm.MethodName) prog_12_method_8_code (4 : Nat) (Option.some Jvm.ClassFile.FieldType.int)) ∈ lw_all := lw_g (lw_at lw_m4 13 rfl) rfl
theorem q756 : (Jvm.Cond.methodLink "FundBookModel" (69 : Nat) ({ cls := "FundBookModel", name := "in", desc := "(III)Z" } : Jvm.MethodName)) ∈ lw_all := lw_g (lw_at lw_m4 14 rfl) rfl
theorem q757 : (Jvm.Cond.static ({ cls := "FundBookModel", name := "in", desc := "(III)Z" } : Jvm.MethodName)) ∈ lw_all := lw_g (lw_at lw_m4 15 rfl) rfl
theorem q758 : (Jvm.Cond.code ({ cls := "FundBookModel", name := "in", desc := "(III)Z" } : Jvm.MethodName) prog_12_method_4_code (3 : Nat) (Option.some Jvm.ClassFile.FieldType.boolean)) ∈ lw_all := lw_g (lw_at lw_m4 16 rfl) rfl
theorem q759 : (Jvm.Cond.methodLink "FundBookModel" (76 : Nat) ({ cls := "FundBookModel", name := "fails", desc := "(I)I" } : Jvm.MethodName)) ∈ lw_all := lw_g (lw_at lw_m4 17 rfl) rfl
theorem q760 : (Jvm.Cond.privateMethod ({ cls := "FundBookModel", name := "fails", desc := "(I)I" } : Jvm.MethodName)) ∈ lw_tbl := lw_at lw_m4 18 rfl
theorem q761 : (Jvm.Cond.instanceMethod ({ cls := "FundBookModel", name := "fails", desc := "(I)I" } : Jvm.MethodName)) ∈ lw_all := lw_g (lw_at lw_m4 19 rfl) rfl
theorem q762 : (Jvm.Cond.code ({ cls := "FundBookModel", name := "fails", desc := "(I)I" } : Jvm.MethodName) prog_12_method_3_code (2 : Nat) (Option.some Jvm.ClassFile.FieldType.int)) ∈ lw_all := lw_g (lw_at lw_m4 20 rfl) rfl
theorem q764 : (Jvm.Cond.instanceMethod ({ cls := "FundBookModel", name := "setRates", desc := "(III)V" } : Jvm.MethodName)) ∈ lw_all := lw_g (lw_at lw_m4 22 rfl) rfl
theorem q765 : (Jvm.Cond.selects "FundBookModel" ({ cls := "FundBookModel", name := "setRates", desc := "(III)V" } : Jvm.MethodName) ({ cls := "FundBookModel", name := "setRates", desc := "(III)V" } : Jvm.MethodName)) ∈ lw_all := lw_g (lw_at lw_m4 23 rfl) rfl
theorem q766 : (Jvm.Cond.code ({ cls := "FundBookModel", name := "setRates", desc := "(III)V" } : Jvm.MethodName) prog_12_method_9_code (4 : Nat) (Option.none : Option Jvm.ClassFile.FieldType)) ∈ lw_all := lw_g (lw_at lw_m4 24 rfl) rfl
theorem q768 : (Jvm.Cond.instanceMethod ({ cls := "FundBookModel", name := "lend", desc := "(IIIIIZ)I" } : Jvm.MethodName)) ∈ lw_all := lw_g (lw_at lw_m4 26 rfl) rfl
theorem q769 : (Jvm.Cond.selects "FundBookModel" ({ cls := "FundBookModel", name := "lend", desc := "(IIIIIZ)I" } : Jvm.MethodName) ({ cls := "FundBookModel", name := "lend", desc := "(IIIIIZ)I" } : Jvm.MethodName)) ∈ lw_all := lw_g (lw_at lw_m4 27 rfl) rfl
theorem q770 : (Jvm.Cond.code ({ cls := "FundBookModel", name := "lend", desc := "(IIIIIZ)I" } : Jvm.MethodName) prog_12_method_12_code (8 : Nat) (Option.some Jvm.ClassFile.FieldType.int)) ∈ lw_all := lw_g (lw_at lw_m4 28 rfl) rfl
theorem q771 : (Jvm.Cond.methodLink "FundBookModel" (91 : Nat) ({ cls := "FundBookModel", name := "isBranch", desc := "(I)Z" } : Jvm.MethodName)) ∈ lw_all := lw_g (lw_at lw_m4 29 rfl) rfl
theorem q772 : (Jvm.Cond.static ({ cls := "FundBookModel", name := "isBranch", desc := "(I)Z" } : Jvm.MethodName)) ∈ lw_all := lw_g (lw_at lw_m4 30 rfl) rfl
theorem q773 : (Jvm.Cond.code ({ cls := "FundBookModel", name := "isBranch", desc := "(I)Z" } : Jvm.MethodName) prog_12_method_6_code (1 : Nat) (Option.some Jvm.ClassFile.FieldType.boolean)) ∈ lw_all := lw_g (lw_at lw_m4 31 rfl) rfl
theorem q774 : (Jvm.Cond.constant "FundBookModel" (95 : Nat) (10000000 : Int32)) ∈ lw_all := lw_g (lw_at lw_m4 32 rfl) rfl
theorem q776 : (Jvm.Cond.instanceMethod ({ cls := "FundBookModel", name := "repay", desc := "(I)I" } : Jvm.MethodName)) ∈ lw_all := lw_g (lw_at lw_m4 34 rfl) rfl
theorem q777 : (Jvm.Cond.selects "FundBookModel" ({ cls := "FundBookModel", name := "repay", desc := "(I)I" } : Jvm.MethodName) ({ cls := "FundBookModel", name := "repay", desc := "(I)I" } : Jvm.MethodName)) ∈ lw_all := lw_g (lw_at lw_m4 35 rfl) rfl
theorem q778 : (Jvm.Cond.code ({ cls := "FundBookModel", name := "repay", desc := "(I)I" } : Jvm.MethodName) prog_12_method_13_code (4 : Nat) (Option.some Jvm.ClassFile.FieldType.int)) ∈ lw_all := lw_g (lw_at lw_m4 36 rfl) rfl
theorem q779 : (Jvm.Cond.methodLink "FundBookModel" (96 : Nat) ({ cls := "FundBookModel", name := "isLoan", desc := "(I)Z" } : Jvm.MethodName)) ∈ lw_all := lw_g (lw_at lw_m4 37 rfl) rfl
theorem q780 : (Jvm.Cond.privateMethod ({ cls := "FundBookModel", name := "isLoan", desc := "(I)Z" } : Jvm.MethodName)) ∈ lw_tbl := lw_at lw_m4 38 rfl
theorem q781 : (Jvm.Cond.instanceMethod ({ cls := "FundBookModel", name := "isLoan", desc := "(I)Z" } : Jvm.MethodName)) ∈ lw_all := lw_g (lw_at lw_m4 39 rfl) rfl
theorem q782 : (Jvm.Cond.code ({ cls := "FundBookModel", name := "isLoan", desc := "(I)Z" } : Jvm.MethodName) prog_12_method_5_code (2 : Nat) (Option.some Jvm.ClassFile.FieldType.boolean)) ∈ lw_all := lw_g (lw_at lw_m4 40 rfl) rfl
theorem q783 : (Jvm.Cond.methodLink "FundBookModel" (86 : Nat) ({ cls := "FundBookModel", name := "leftOf", desc := "(I)I" } : Jvm.MethodName)) ∈ lw_all := lw_g (lw_at lw_m4 41 rfl) rfl
theorem q784 : (Jvm.Cond.privateMethod ({ cls := "FundBookModel", name := "leftOf", desc := "(I)I" } : Jvm.MethodName)) ∈ lw_tbl := lw_at lw_m4 42 rfl
theorem q785 : (Jvm.Cond.instanceMethod ({ cls := "FundBookModel", name := "leftOf", desc := "(I)I" } : Jvm.MethodName)) ∈ lw_all := lw_g (lw_at lw_m4 43 rfl) rfl
theorem q786 : (Jvm.Cond.code ({ cls := "FundBookModel", name := "leftOf", desc := "(I)I" } : Jvm.MethodName) prog_12_method_10_code (4 : Nat) (Option.some Jvm.ClassFile.FieldType.int)) ∈ lw_all := lw_g (lw_at lw_m4 44 rfl) rfl
theorem q788 : (Jvm.Cond.instanceMethod ({ cls := "FundBookModel", name := "deposit", desc := "(II)I" } : Jvm.MethodName)) ∈ lw_all := lw_g (lw_at lw_m4 46 rfl) rfl
theorem q789 : (Jvm.Cond.selects "FundBookModel" ({ cls := "FundBookModel", name := "deposit", desc := "(II)I" } : Jvm.MethodName) ({ cls := "FundBookModel", name := "deposit", desc := "(II)I" } : Jvm.MethodName)) ∈ lw_all := lw_g (lw_at lw_m4 47 rfl) rfl
theorem q790 : (Jvm.Cond.code ({ cls := "FundBookModel", name := "deposit", desc := "(II)I" } : Jvm.MethodName) prog_12_method_17_code (4 : Nat) (Option.some Jvm.ClassFile.FieldType.int)) ∈ lw_all := lw_g (lw_at lw_m4 48 rfl) rfl
theorem q791 : (Jvm.Cond.constant "FundBookModel" (105 : Nat) (-10000000 : Int32)) ∈ lw_all := lw_g (lw_at lw_m4 49 rfl) rfl
theorem q792 : (Jvm.Cond.methodLink "FundBookModel" (106 : Nat) ({ cls := "FundBookModel", name := "lays", desc := "(I)V" } : Jvm.MethodName)) ∈ lw_all := lw_g (lw_at lw_m4 50 rfl) rfl
theorem q793 : (Jvm.Cond.privateMethod ({ cls := "FundBookModel", name := "lays", desc := "(I)V" } : Jvm.MethodName)) ∈ lw_tbl := lw_at lw_m4 51 rfl
theorem q794 : (Jvm.Cond.instanceMethod ({ cls := "FundBookModel", name := "lays", desc := "(I)V" } : Jvm.MethodName)) ∈ lw_all := lw_g (lw_at lw_m4 52 rfl) rfl
theorem q795 : (Jvm.Cond.code ({ cls := "FundBookModel", name := "lays", desc := "(I)V" } : Jvm.MethodName) prog_12_method_15_code (2 : Nat) (Option.none : Option Jvm.ClassFile.FieldType)) ∈ lw_all := lw_g (lw_at lw_m4 53 rfl) rfl
theorem q796 : (Jvm.Cond.methodLink "FundBookModel" (101 : Nat) ({ cls := "FundBookModel", name := "core", desc := "()I" } : Jvm.MethodName)) ∈ lw_all := lw_g (lw_at lw_m4 54 rfl) rfl
theorem q797 : (Jvm.Cond.privateMethod ({ cls := "FundBookModel", name := "core", desc := "()I" } : Jvm.MethodName)) ∈ lw_tbl := lw_at lw_m4 55 rfl
theorem q798 : (Jvm.Cond.instanceMethod ({ cls := "FundBookModel", name := "core", desc := "()I" } : Jvm.MethodName)) ∈ lw_all := lw_g (lw_at lw_m4 56 rfl) rfl
theorem q799 : (Jvm.Cond.code ({ cls := "FundBookModel", name := "core", desc := "()I" } : Jvm.MethodName) prog_12_method_14_code (4 : Nat) (Option.some Jvm.ClassFile.FieldType.int)) ∈ lw_all := lw_g (lw_at lw_m4 57 rfl) rfl
theorem q800 : (Jvm.Cond.constantLong "FundBookModel" (99 : Nat) (100 : Int64)) ∈ lw_all := lw_g (lw_at lw_m4 58 rfl) rfl
theorem q802 : (Jvm.Cond.instanceMethod ({ cls := "FundBookModel", name := "closeMonth", desc := "()I" } : Jvm.MethodName)) ∈ lw_all := lw_g (lw_at lw_m4 60 rfl) rfl
theorem q803 : (Jvm.Cond.selects "FundBookModel" ({ cls := "FundBookModel", name := "closeMonth", desc := "()I" } : Jvm.MethodName) ({ cls := "FundBookModel", name := "closeMonth", desc := "()I" } : Jvm.MethodName)) ∈ lw_all := lw_g (lw_at lw_m4 61 rfl) rfl
theorem q804 : (Jvm.Cond.code ({ cls := "FundBookModel", name := "closeMonth", desc := "()I" } : Jvm.MethodName) prog_12_method_20_code (4 : Nat) (Option.some Jvm.ClassFile.FieldType.int)) ∈ lw_all := lw_g (lw_at lw_m4 62 rfl) rfl
theorem q805 : (Jvm.Cond.methodLink "FundBookModel" (113 : Nat) ({ cls := "FundBookModel", name := "bear", desc := "(II)I" } : Jvm.MethodName)) ∈ lw_all := lw_g (lw_at lw_m4 63 rfl) rfl
theorem q806 : (Jvm.Cond.privateMethod ({ cls := "FundBookModel", name := "bear", desc := "(II)I" } : Jvm.MethodName)) ∈ lw_tbl := lw_at lw_m4 64 rfl
theorem q807 : (Jvm.Cond.instanceMethod ({ cls := "FundBookModel", name := "bear", desc := "(II)I" } : Jvm.MethodName)) ∈ lw_all := lw_g (lw_at lw_m4 65 rfl) rfl
theorem q808 : (Jvm.Cond.code ({ cls := "FundBookModel", name := "bear", desc := "(II)I" } : Jvm.MethodName) prog_12_method_11_code (10 : Nat) (Option.some Jvm.ClassFile.FieldType.int)) ∈ lw_all := lw_g (lw_at lw_m4 66 rfl) rfl
theorem q809 : (Jvm.Cond.constantLong "FundBookModel" (89 : Nat) (120000 : Int64)) ∈ lw_all := lw_g (lw_at lw_m4 67 rfl) rfl
theorem q810 : (Jvm.Cond.methodLink "FundBookModel" (117 : Nat) ({ cls := "FundBookModel", name := "isPaid", desc := "(I)I" } : Jvm.MethodName)) ∈ lw_all := lw_g (lw_at lw_m4 68 rfl) rfl
theorem q811 : (Jvm.Cond.privateMethod ({ cls := "FundBookModel", name := "isPaid", desc := "(I)I" } : Jvm.MethodName)) ∈ lw_tbl := lw_at lw_m4 69 rfl
theorem q812 : (Jvm.Cond.instanceMethod ({ cls := "FundBookModel", name := "isPaid", desc := "(I)I" } : Jvm.MethodName)) ∈ lw_all := lw_g (lw_at lw_m4 70 rfl) rfl
theorem q813 : (Jvm.Cond.code ({ cls := "FundBookModel", name := "isPaid", desc := "(I)I" } : Jvm.MethodName) prog_12_method_18_code (4 : Nat) (Option.some Jvm.ClassFile.FieldType.int)) ∈ lw_all := lw_g (lw_at lw_m4 71 rfl) rfl
theorem q814 : (Jvm.Cond.methodLink "FundBookModel" (110 : Nat) ({ cls := "FundBookModel", name := "replica", desc := "()I" } : Jvm.MethodName)) ∈ lw_all := lw_g (lw_at lw_m4 72 rfl) rfl
theorem q815 : (Jvm.Cond.privateMethod ({ cls := "FundBookModel", name := "replica", desc := "()I" } : Jvm.MethodName)) ∈ lw_tbl := lw_at lw_m4 73 rfl
theorem q816 : (Jvm.Cond.instanceMethod ({ cls := "FundBookModel", name := "replica", desc := "()I" } : Jvm.MethodName)) ∈ lw_all := lw_g (lw_at lw_m4 74 rfl) rfl
theorem q817 : (Jvm.Cond.code ({ cls := "FundBookModel", name := "replica", desc := "()I" } : Jvm.MethodName) prog_12_method_16_code (6 : Nat) (Option.some Jvm.ClassFile.FieldType.int)) ∈ lw_all := lw_g (lw_at lw_m4 75 rfl) rfl
theorem q818 : (Jvm.Cond.methodLink "FundBookModel" (120 : Nat) ({ cls := "FundBookModel", name := "pays", desc := "(I)I" } : Jvm.MethodName)) ∈ lw_all := lw_g (lw_at lw_m4 76 rfl) rfl
theorem q819 : (Jvm.Cond.privateMethod ({ cls := "FundBookModel", name := "pays", desc := "(I)I" } : Jvm.MethodName)) ∈ lw_tbl := lw_at lw_m4 77 rfl
theorem q820 : (Jvm.Cond.instanceMethod ({ cls := "FundBookModel", name := "pays", desc := "(I)I" } : Jvm.MethodName)) ∈ lw_all := lw_g (lw_at lw_m4 78 rfl) rfl
theorem q821 : (Jvm.Cond.code ({ cls := "FundBookModel", name := "pays", desc := "(I)I" } : Jvm.MethodName) prog_12_method_19_code (2 : Nat) (Option.some Jvm.ClassFile.FieldType.int)) ∈ lw_all := lw_g (lw_at lw_m4 79 rfl) rfl
theorem q823 : (Jvm.Cond.instanceMethod ({ cls := "FundBookModel", name := "month", desc := "()I" } : Jvm.MethodName)) ∈ lw_all := lw_g (lw_at lw_m4 81 rfl) rfl
theorem q824 : (Jvm.Cond.selects "FundBookModel" ({ cls := "FundBookModel", name := "month", desc := "()I" } : Jvm.MethodName) ({ cls := "FundBookModel", name := "month", desc := "()I" } : Jvm.MethodName)) ∈ lw_all := lw_g (lw_at lw_m4 82 rfl) rfl
theorem q825 : (Jvm.Cond.code ({ cls := "FundBookModel", name := "month", desc := "()I" } : Jvm.MethodName) prog_12_method_21_code (1 : Nat) (Option.some Jvm.ClassFile.FieldType.int)) ∈ lw_all := lw_g (lw_at lw_m4 83 rfl) rfl
theorem q827 : (Jvm.Cond.instanceMethod ({ cls := "FundBookModel", name := "loans", desc := "()I" } : Jvm.MethodName)) ∈ lw_all := lw_g (lw_at lw_m4 85 rfl) rfl
theorem q828 : (Jvm.Cond.selects "FundBookModel" ({ cls := "FundBookModel", name := "loans", desc := "()I" } : Jvm.MethodName) ({ cls := "FundBookModel", name := "loans", desc := "()I" } : Jvm.MethodName)) ∈ lw_all := lw_g (lw_at lw_m4 86 rfl) rfl
theorem q829 : (Jvm.Cond.code ({ cls := "FundBookModel", name := "loans", desc := "()I" } : Jvm.MethodName) prog_12_method_22_code (1 : Nat) (Option.some Jvm.ClassFile.FieldType.int)) ∈ lw_all := lw_g (lw_at lw_m4 87 rfl) rfl
theorem q831 : (Jvm.Cond.instanceMethod ({ cls := "FundBookModel", name := "left", desc := "(I)I" } : Jvm.MethodName)) ∈ lw_all := lw_g (lw_at lw_m4 89 rfl) rfl
theorem q832 : (Jvm.Cond.selects "FundBookModel" ({ cls := "FundBookModel", name := "left", desc := "(I)I" } : Jvm.MethodName) ({ cls := "FundBookModel", name := "left", desc := "(I)I" } : Jvm.MethodName)) ∈ lw_all := lw_g (lw_at lw_m4 90 rfl) rfl
theorem q833 : (Jvm.Cond.code ({ cls := "FundBookModel", name := "left", desc := "(I)I" } : Jvm.MethodName) prog_12_method_23_code (2 : Nat) (Option.some Jvm.ClassFile.FieldType.int)) ∈ lw_all := lw_g (lw_at lw_m4 91 rfl) rfl
theorem q835 : (Jvm.Cond.instanceMethod ({ cls := "FundBookModel", name := "bears", desc := "(II)I" } : Jvm.MethodName)) ∈ lw_all := lw_g (lw_at lw_m4 93 rfl) rfl
theorem q836 : (Jvm.Cond.selects "FundBookModel" ({ cls := "FundBookModel", name := "bears", desc := "(II)I" } : Jvm.MethodName) ({ cls := "FundBookModel", name := "bears", desc := "(II)I" } : Jvm.MethodName)) ∈ lw_all := lw_g (lw_at lw_m4 94 rfl) rfl
theorem q837 : (Jvm.Cond.code ({ cls := "FundBookModel", name := "bears", desc := "(II)I" } : Jvm.MethodName) prog_12_method_24_code (3 : Nat) (Option.some Jvm.ClassFile.FieldType.int)) ∈ lw_all := lw_g (lw_at lw_m4 95 rfl) rfl
theorem q839 : (Jvm.Cond.instanceMethod ({ cls := "FundBookModel", name := "due", desc := "(I)I" } : Jvm.MethodName)) ∈ lw_all := lw_g (lw_at lw_m4 97 rfl) rfl
theorem q840 : (Jvm.Cond.selects "FundBookModel" ({ cls := "FundBookModel", name := "due", desc := "(I)I" } : Jvm.MethodName) ({ cls := "FundBookModel", name := "due", desc := "(I)I" } : Jvm.MethodName)) ∈ lw_all := lw_g (lw_at lw_m4 98 rfl) rfl
theorem q841 : (Jvm.Cond.code ({ cls := "FundBookModel", name := "due", desc := "(I)I" } : Jvm.MethodName) prog_12_method_25_code (5 : Nat) (Option.some Jvm.ClassFile.FieldType.int)) ∈ lw_all := lw_g (lw_at lw_m4 99 rfl) rfl
theorem q843 : (Jvm.Cond.instanceMethod ({ cls := "FundBookModel", name := "balance", desc := "(I)I" } : Jvm.MethodName)) ∈ lw_all := lw_g (lw_at lw_m4 101 rfl) rfl
theorem q844 : (Jvm.Cond.selects "FundBookModel" ({ cls := "FundBookModel", name := "balance", desc := "(I)I" } : Jvm.MethodName) ({ cls := "FundBookModel", name := "balance", desc := "(I)I" } : Jvm.MethodName)) ∈ lw_all := lw_g (lw_at lw_m4 102 rfl) rfl
theorem q845 : (Jvm.Cond.code ({ cls := "FundBookModel", name := "balance", desc := "(I)I" } : Jvm.MethodName) prog_12_method_26_code (2 : Nat) (Option.some Jvm.ClassFile.FieldType.int)) ∈ lw_all := lw_g (lw_at lw_m4 103 rfl) rfl
theorem q847 : (Jvm.Cond.instanceMethod ({ cls := "FundBookModel", name := "tranche", desc := "(I)I" } : Jvm.MethodName)) ∈ lw_all := lw_g (lw_at lw_m4 105 rfl) rfl
theorem q848 : (Jvm.Cond.selects "FundBookModel" ({ cls := "FundBookModel", name := "tranche", desc := "(I)I" } : Jvm.MethodName) ({ cls := "FundBookModel", name := "tranche", desc := "(I)I" } : Jvm.MethodName)) ∈ lw_all := lw_g (lw_at lw_m4 106 rfl) rfl
theorem q849 : (Jvm.Cond.code ({ cls := "FundBookModel", name := "tranche", desc := "(I)I" } : Jvm.MethodName) prog_12_method_27_code (2 : Nat) (Option.some Jvm.ClassFile.FieldType.int)) ∈ lw_all := lw_g (lw_at lw_m4 107 rfl) rfl
theorem q851 : (Jvm.Cond.instanceMethod ({ cls := "FundBookModel", name := "replicaRate", desc := "()I" } : Jvm.MethodName)) ∈ lw_all := lw_g (lw_at lw_m4 109 rfl) rfl
theorem q852 : (Jvm.Cond.selects "FundBookModel" ({ cls := "FundBookModel", name := "replicaRate", desc := "()I" } : Jvm.MethodName) ({ cls := "FundBookModel", name := "replicaRate", desc := "()I" } : Jvm.MethodName)) ∈ lw_all := lw_g (lw_at lw_m4 110 rfl) rfl
theorem q853 : (Jvm.Cond.code ({ cls := "FundBookModel", name := "replicaRate", desc := "()I" } : Jvm.MethodName) prog_12_method_28_code (1 : Nat) (Option.some Jvm.ClassFile.FieldType.int)) ∈ lw_all := lw_g (lw_at lw_m4 111 rfl) rfl
theorem q855 : (Jvm.Cond.instanceMethod ({ cls := "FundBookModel", name := "margin", desc := "(II)I" } : Jvm.MethodName)) ∈ lw_all := lw_g (lw_at lw_m4 113 rfl) rfl
theorem q856 : (Jvm.Cond.selects "FundBookModel" ({ cls := "FundBookModel", name := "margin", desc := "(II)I" } : Jvm.MethodName) ({ cls := "FundBookModel", name := "margin", desc := "(II)I" } : Jvm.MethodName)) ∈ lw_all := lw_g (lw_at lw_m4 114 rfl) rfl
theorem q857 : (Jvm.Cond.code ({ cls := "FundBookModel", name := "margin", desc := "(II)I" } : Jvm.MethodName) prog_12_method_29_code (3 : Nat) (Option.some Jvm.ClassFile.FieldType.int)) ∈ lw_all := lw_g (lw_at lw_m4 115 rfl) rfl
theorem q858 : (Jvm.Cond.methodLink "FundBookModel" (123 : Nat) ({ cls := "FundBookModel", name := "isEnded", desc := "(I)Z" } : Jvm.MethodName)) ∈ lw_all := lw_g (lw_at lw_m4 116 rfl) rfl
theorem q859 : (Jvm.Cond.privateMethod ({ cls := "FundBookModel", name := "isEnded", desc := "(I)Z" } : Jvm.MethodName)) ∈ lw_tbl := lw_at lw_m4 117 rfl
theorem q860 : (Jvm.Cond.instanceMethod ({ cls := "FundBookModel", name := "isEnded", desc := "(I)Z" } : Jvm.MethodName)) ∈ lw_all := lw_g (lw_at lw_m4 118 rfl) rfl
theorem q861 : (Jvm.Cond.code ({ cls := "FundBookModel", name := "isEnded", desc := "(I)Z" } : Jvm.MethodName) prog_12_method_7_code (2 : Nat) (Option.some Jvm.ClassFile.FieldType.boolean)) ∈ lw_all := lw_g (lw_at lw_m4 119 rfl) rfl
theorem q863 : (Jvm.Cond.instanceMethod ({ cls := "FundBookModel", name := "byProduct", desc := "(II)I" } : Jvm.MethodName)) ∈ lw_all := lw_g (lw_at lw_m4 121 rfl) rfl
theorem q864 : (Jvm.Cond.selects "FundBookModel" ({ cls := "FundBookModel", name := "byProduct", desc := "(II)I" } : Jvm.MethodName) ({ cls := "FundBookModel", name := "byProduct", desc := "(II)I" } : Jvm.MethodName)) ∈ lw_all := lw_g (lw_at lw_m4 122 rfl) rfl
theorem q865 : (Jvm.Cond.code ({ cls := "FundBookModel", name := "byProduct", desc := "(II)I" } : Jvm.MethodName) prog_12_method_30_code (3 : Nat) (Option.some Jvm.ClassFile.FieldType.int)) ∈ lw_all := lw_g (lw_at lw_m4 123 rfl) rfl
theorem q867 : (Jvm.Cond.instanceMethod ({ cls := "FundBookModel", name := "treasury", desc := "(I)I" } : Jvm.MethodName)) ∈ lw_all := lw_g (lw_at lw_m4 125 rfl) rfl
theorem q868 : (Jvm.Cond.selects "FundBookModel" ({ cls := "FundBookModel", name := "treasury", desc := "(I)I" } : Jvm.MethodName) ({ cls := "FundBookModel", name := "treasury", desc := "(I)I" } : Jvm.MethodName)) ∈ lw_all := lw_g (lw_at lw_m4 126 rfl) rfl
theorem q869 : (Jvm.Cond.code ({ cls := "FundBookModel", name := "treasury", desc := "(I)I" } : Jvm.MethodName) prog_12_method_31_code (2 : Nat) (Option.some Jvm.ClassFile.FieldType.int)) ∈ lw_all := lw_g (lw_at lw_m4 127 rfl) rfl
theorem q871 : (Jvm.Cond.instanceMethod ({ cls := "FundBookModel", name := "interest", desc := "(I)I" } : Jvm.MethodName)) ∈ lw_all := lw_g (lw_at lw_m4 129 rfl) rfl
theorem q872 : (Jvm.Cond.selects "FundBookModel" ({ cls := "FundBookModel", name := "interest", desc := "(I)I" } : Jvm.MethodName) ({ cls := "FundBookModel", name := "interest", desc := "(I)I" } : Jvm.MethodName)) ∈ lw_all := lw_g (lw_at lw_m4 130 rfl) rfl
theorem q873 : (Jvm.Cond.code ({ cls := "FundBookModel", name := "interest", desc := "(I)I" } : Jvm.MethodName) prog_12_method_32_code (2 : Nat) (Option.some Jvm.ClassFile.FieldType.int)) ∈ lw_all := lw_g (lw_at lw_m4 131 rfl) rfl
theorem q886 : (Jvm.Cond.castable "FundBookModel" "java/lang/Object") ∈ lw_tbl := lw_at lw_m4 144 rfl
theorem in_X4 : ∀ w ∈ wsX40, w ∈ lw_all := lw_in wsX40 [702, 704, 706, 708, 710, 712, 714, 716, 718, 720, 722, 724, 726, 728, 730, 732, 734, 736, 738, 740, 742, 744] (by decide +kernel) (by decide +kernel)
