/-! CakeDivisionModel -/
set_option maxRecDepth 100000
def RX6 : String := "CakeDivisionModel"
def TX6 : u_T := fun k => match k with
  | 0 => ("CakeDivisionModel", "m", "[I", true)
  | 1 => ("CakeDivisionModel", "isSaved", "[Z", true)
  | 2 => ("CakeDivisionModel", "undoable", "I", false)
  | 3 => ("CakeDivisionModel", "buffer", "[I", true)
  | 4 => ("CakeDivisionModel", "length", "I", false)
  | 5 => ("CakeDivisionModel", "errorCode", "I", false)
  | 6 => ("CakeDivisionModel", "errorPosition", "I", false)
  | 7 => ("CakeDivisionModel", "written", "[I", true)
  | 8 => ("CakeDivisionModel", "writtenLength", "I", false)
  | 9 => ("CakeDivisionModel", "thrown", "I", false)
  | 10 => ("CakeDivisionModel", "steps", "[I", true)
  | 11 => ("CakeDivisionModel", "cycle", "[I", true)
  | 12 => ("CakeDivisionModel", "hasPiece", "[Z", true)
  | 13 => ("CakeDivisionModel", "best", "[I", true)
  | 14 => ("CakeDivisionModel", "sequence", "[I", true)
  | 15 => ("CakeDivisionModel", "ahead", "I", false)
  | 16 => ("CakeDivisionModel", "type", "I", false)
  | 17 => ("CakeDivisionModel", "from", "I", false)
  | 18 => ("CakeDivisionModel", "value", "I", false)
  | _ => ("CakeDivisionModel", "commands", "[I", true)
def tyX6 : Nat → FieldType := fun k => match k with
  | 0 => .array .int
  | 1 => .array .boolean
  | 2 => .int
  | 3 => .array .int
  | 4 => .int
  | 5 => .int
  | 6 => .int
  | 7 => .array .int
  | 8 => .int
  | 9 => .int
  | 10 => .array .int
  | 11 => .array .int
  | 12 => .array .boolean
  | 13 => .array .int
  | 14 => .array .int
  | 15 => .int
  | 16 => .int
  | 17 => .int
  | 18 => .int
  | _ => .array .int
abbrev wsX60 : List Cond := u_ws RX6 TX6 20
set_option maxRecDepth 100000 in
theorem nmX6 : ∀ a, a < 20 → ∀ b, b < 20 → a ≠ b → (TX6 a).2.1 ≠ (TX6 b).2.1 := by decide +kernel
set_option maxRecDepth 100000 in
theorem tyX6_ok : ∀ k, k < 20 → parseFieldDescriptor (TX6 k).2.2.1 = some (tyX6 k) := by decide +kernel
abbrev cX6_thrown : ByteArray := prog_9_method_1_code
def yX6_thrown : MethodName := ⟨RX6, "thrown", "()I"⟩
theorem dX6_thrown_0 : decode cX6_thrown 0 = .ok (.aload_n 0, 1) := by decide +kernel
theorem dX6_thrown_1 : decode cX6_thrown 1 = .ok (.getfield 1, 3) := by decide +kernel
theorem dX6_thrown_4 : decode cX6_thrown 4 = .ok (.ireturn, 1) := by decide +kernel
abbrev cX6_init : ByteArray := prog_9_method_2_code
def yX6_init : MethodName := ⟨RX6, "<init>", "()V"⟩
def dkwX6_init_8 : List UInt8 := [181, 0, 27, 177]
abbrev dktX6_init_8 : List UInt8 := dkwX6_init_8 ++ []
def dkwX6_init_7 : List UInt8 := [167, 255, 234, 42, 43, 182, 0, 74, 181, 0, 27, 42, 182, 0, 83, 42, 182, 0, 86, 87, 42, 3]
abbrev dktX6_init_7 : List UInt8 := dkwX6_init_7 ++ dktX6_init_8
def dkwX6_init_6 : List UInt8 := [3, 61, 28, 43, 182, 0, 74, 162, 0, 20, 42, 180, 0, 24, 28, 43, 28, 182, 0, 79, 79, 132, 2, 1]
abbrev dktX6_init_6 : List UInt8 := dkwX6_init_6 ++ dktX6_init_7
def dkwX6_init_5 : List UInt8 := [181, 0, 60, 42, 3, 181, 0, 63, 42, 3, 181, 0, 66, 42, 16, 120, 188, 10, 181, 0, 69, 18, 72, 76]
abbrev dktX6_init_5 : List UInt8 := dkwX6_init_5 ++ dktX6_init_6
def dkwX6_init_4 : List UInt8 := [17, 6, 64, 188, 10, 181, 0, 51, 42, 16, 6, 188, 10, 181, 0, 54, 42, 3, 181, 0, 57, 42, 3]
abbrev dktX6_init_4 : List UInt8 := dkwX6_init_4 ++ dktX6_init_5
def dkwX6_init_3 : List UInt8 := [16, 6, 188, 10, 181, 0, 42, 42, 16, 6, 188, 10, 181, 0, 45, 42, 16, 6, 188, 4, 181, 0, 48, 42]
abbrev dktX6_init_3 : List UInt8 := dkwX6_init_3 ++ dktX6_init_4
def dkwX6_init_2 : List UInt8 := [181, 0, 33, 42, 17, 0, 240, 188, 10, 181, 0, 36, 42, 3, 181, 0, 39, 42, 3, 181, 0, 1, 42]
abbrev dktX6_init_2 : List UInt8 := dkwX6_init_2 ++ dktX6_init_3
def dkwX6_init_1 : List UInt8 := [181, 0, 21, 42, 17, 2, 88, 188, 10, 181, 0, 24, 42, 3, 181, 0, 27, 42, 3, 181, 0, 30, 42, 2]
abbrev dktX6_init_1 : List UInt8 := dkwX6_init_1 ++ dktX6_init_2
def dkwX6_init_0 : List UInt8 := [42, 183, 0, 7, 42, 17, 8, 72, 188, 10, 181, 0, 13, 42, 5, 188, 4, 181, 0, 17, 42, 3]
abbrev dktX6_init_0 : List UInt8 := dkwX6_init_0 ++ dktX6_init_1
theorem dksX6_init_0 : cX6_init.data.toList.drop 0 = dktX6_init_0 := by decide +kernel
theorem dksX6_init_1 : cX6_init.data.toList.drop 22 = dktX6_init_1 := dk_seg dksX6_init_0 22 rfl rfl
theorem dksX6_init_2 : cX6_init.data.toList.drop 46 = dktX6_init_2 := dk_seg dksX6_init_1 24 rfl rfl
theorem dksX6_init_3 : cX6_init.data.toList.drop 69 = dktX6_init_3 := dk_seg dksX6_init_2 23 rfl rfl
theorem dksX6_init_4 : cX6_init.data.toList.drop 93 = dktX6_init_4 := dk_seg dksX6_init_3 24 rfl rfl
theorem dksX6_init_5 : cX6_init.data.toList.drop 116 = dktX6_init_5 := dk_seg dksX6_init_4 23 rfl rfl
theorem dksX6_init_6 : cX6_init.data.toList.drop 140 = dktX6_init_6 := dk_seg dksX6_init_5 24 rfl rfl
theorem dksX6_init_7 : cX6_init.data.toList.drop 164 = dktX6_init_7 := dk_seg dksX6_init_6 24 rfl rfl
theorem dksX6_init_8 : cX6_init.data.toList.drop 186 = dktX6_init_8 := dk_seg dksX6_init_7 22 rfl rfl
theorem dX6_init_0 : decode cX6_init 0 = .ok (.aload_n 0, 1) := dk_42 (dk_at dksX6_init_0 0 rfl rfl)
theorem dX6_init_1 : decode cX6_init 1 = .ok (.invokespecial 7, 3) := dk_183 0 7 (dk_at dksX6_init_0 1 rfl rfl)
theorem dX6_init_4 : decode cX6_init 4 = .ok (.aload_n 0, 1) := dk_42 (dk_at dksX6_init_0 4 rfl rfl)
theorem dX6_init_5 : decode cX6_init 5 = .ok (.sipush 2120, 3) := dk_17 8 72 (dk_at dksX6_init_0 5 rfl rfl)
theorem dX6_init_8 : decode cX6_init 8 = .ok (.newarray .int, 2) := dk_188_10 (dk_at dksX6_init_0 8 rfl rfl)
theorem dX6_init_10 : decode cX6_init 10 = .ok (.putfield 13, 3) := dk_181 0 13 (dk_at dksX6_init_0 10 rfl rfl)
theorem dX6_init_13 : decode cX6_init 13 = .ok (.aload_n 0, 1) := dk_42 (dk_at dksX6_init_0 13 rfl rfl)
theorem dX6_init_14 : decode cX6_init 14 = .ok (.iconst 2, 1) := dk_5 (dk_at dksX6_init_0 14 rfl rfl)
theorem dX6_init_15 : decode cX6_init 15 = .ok (.newarray .boolean, 2) := dk_188_4 (dk_at dksX6_init_0 15 rfl rfl)
theorem dX6_init_17 : decode cX6_init 17 = .ok (.putfield 17, 3) := dk_181 0 17 (dk_at dksX6_init_0 17 rfl rfl)
theorem dX6_init_20 : decode cX6_init 20 = .ok (.aload_n 0, 1) := dk_42 (dk_at dksX6_init_0 20 rfl rfl)
theorem dX6_init_21 : decode cX6_init 21 = .ok (.iconst 0, 1) := dk_3 (dk_at dksX6_init_0 21 rfl rfl)
theorem dX6_init_22 : decode cX6_init 22 = .ok (.putfield 21, 3) := dk_181 0 21 (dk_at dksX6_init_1 0 rfl rfl)
theorem dX6_init_25 : decode cX6_init 25 = .ok (.aload_n 0, 1) := dk_42 (dk_at dksX6_init_1 3 rfl rfl)
theorem dX6_init_26 : decode cX6_init 26 = .ok (.sipush 600, 3) := dk_17 2 88 (dk_at dksX6_init_1 4 rfl rfl)
theorem dX6_init_29 : decode cX6_init 29 = .ok (.newarray .int, 2) := dk_188_10 (dk_at dksX6_init_1 7 rfl rfl)
theorem dX6_init_31 : decode cX6_init 31 = .ok (.putfield 24, 3) := dk_181 0 24 (dk_at dksX6_init_1 9 rfl rfl)
theorem dX6_init_34 : decode cX6_init 34 = .ok (.aload_n 0, 1) := dk_42 (dk_at dksX6_init_1 12 rfl rfl)
theorem dX6_init_35 : decode cX6_init 35 = .ok (.iconst 0, 1) := dk_3 (dk_at dksX6_init_1 13 rfl rfl)
theorem dX6_init_36 : decode cX6_init 36 = .ok (.putfield 27, 3) := dk_181 0 27 (dk_at dksX6_init_1 14 rfl rfl)
theorem dX6_init_39 : decode cX6_init 39 = .ok (.aload_n 0, 1) := dk_42 (dk_at dksX6_init_1 17 rfl rfl)
theorem dX6_init_40 : decode cX6_init 40 = .ok (.iconst 0, 1) := dk_3 (dk_at dksX6_init_1 18 rfl rfl)
theorem dX6_init_41 : decode cX6_init 41 = .ok (.putfield 30, 3) := dk_181 0 30 (dk_at dksX6_init_1 19 rfl rfl)
theorem dX6_init_44 : decode cX6_init 44 = .ok (.aload_n 0, 1) := dk_42 (dk_at dksX6_init_1 22 rfl rfl)
theorem dX6_init_45 : decode cX6_init 45 = .ok (.iconst (-1), 1) := dk_2 (dk_at dksX6_init_1 23 rfl rfl)
theorem dX6_init_46 : decode cX6_init 46 = .ok (.putfield 33, 3) := dk_181 0 33 (dk_at dksX6_init_2 0 rfl rfl)
theorem dX6_init_49 : decode cX6_init 49 = .ok (.aload_n 0, 1) := dk_42 (dk_at dksX6_init_2 3 rfl rfl)
theorem dX6_init_50 : decode cX6_init 50 = .ok (.sipush 240, 3) := dk_17 0 240 (dk_at dksX6_init_2 4 rfl rfl)
theorem dX6_init_53 : decode cX6_init 53 = .ok (.newarray .int, 2) := dk_188_10 (dk_at dksX6_init_2 7 rfl rfl)
theorem dX6_init_55 : decode cX6_init 55 = .ok (.putfield 36, 3) := dk_181 0 36 (dk_at dksX6_init_2 9 rfl rfl)
theorem dX6_init_58 : decode cX6_init 58 = .ok (.aload_n 0, 1) := dk_42 (dk_at dksX6_init_2 12 rfl rfl)
theorem dX6_init_59 : decode cX6_init 59 = .ok (.iconst 0, 1) := dk_3 (dk_at dksX6_init_2 13 rfl rfl)
theorem dX6_init_60 : decode cX6_init 60 = .ok (.putfield 39, 3) := dk_181 0 39 (dk_at dksX6_init_2 14 rfl rfl)
theorem dX6_init_63 : decode cX6_init 63 = .ok (.aload_n 0, 1) := dk_42 (dk_at dksX6_init_2 17 rfl rfl)
theorem dX6_init_64 : decode cX6_init 64 = .ok (.iconst 0, 1) := dk_3 (dk_at dksX6_init_2 18 rfl rfl)
theorem dX6_init_65 : decode cX6_init 65 = .ok (.putfield 1, 3) := dk_181 0 1 (dk_at dksX6_init_2 19 rfl rfl)
theorem dX6_init_68 : decode cX6_init 68 = .ok (.aload_n 0, 1) := dk_42 (dk_at dksX6_init_2 22 rfl rfl)
theorem dX6_init_69 : decode cX6_init 69 = .ok (.bipush 6, 2) := dk_16 6 (dk_at dksX6_init_3 0 rfl rfl)
theorem dX6_init_71 : decode cX6_init 71 = .ok (.newarray .int, 2) := dk_188_10 (dk_at dksX6_init_3 2 rfl rfl)
theorem dX6_init_73 : decode cX6_init 73 = .ok (.putfield 42, 3) := dk_181 0 42 (dk_at dksX6_init_3 4 rfl rfl)
theorem dX6_init_76 : decode cX6_init 76 = .ok (.aload_n 0, 1) := dk_42 (dk_at dksX6_init_3 7 rfl rfl)
theorem dX6_init_77 : decode cX6_init 77 = .ok (.bipush 6, 2) := dk_16 6 (dk_at dksX6_init_3 8 rfl rfl)
theorem dX6_init_79 : decode cX6_init 79 = .ok (.newarray .int, 2) := dk_188_10 (dk_at dksX6_init_3 10 rfl rfl)
theorem dX6_init_81 : decode cX6_init 81 = .ok (.putfield 45, 3) := dk_181 0 45 (dk_at dksX6_init_3 12 rfl rfl)
theorem dX6_init_84 : decode cX6_init 84 = .ok (.aload_n 0, 1) := dk_42 (dk_at dksX6_init_3 15 rfl rfl)
theorem dX6_init_85 : decode cX6_init 85 = .ok (.bipush 6, 2) := dk_16 6 (dk_at dksX6_init_3 16 rfl rfl)
theorem dX6_init_87 : decode cX6_init 87 = .ok (.newarray .boolean, 2) := dk_188_4 (dk_at dksX6_init_3 18 rfl rfl)
theorem dX6_init_89 : decode cX6_init 89 = .ok (.putfield 48, 3) := dk_181 0 48 (dk_at dksX6_init_3 20 rfl rfl)
theorem dX6_init_92 : decode cX6_init 92 = .ok (.aload_n 0, 1) := dk_42 (dk_at dksX6_init_3 23 rfl rfl)
theorem dX6_init_93 : decode cX6_init 93 = .ok (.sipush 1600, 3) := dk_17 6 64 (dk_at dksX6_init_4 0 rfl rfl)
theorem dX6_init_96 : decode cX6_init 96 = .ok (.newarray .int, 2) := dk_188_10 (dk_at dksX6_init_4 3 rfl rfl)
theorem dX6_init_98 : decode cX6_init 98 = .ok (.putfield 51, 3) := dk_181 0 51 (dk_at dksX6_init_4 5 rfl rfl)
theorem dX6_init_101 : decode cX6_init 101 = .ok (.aload_n 0, 1) := dk_42 (dk_at dksX6_init_4 8 rfl rfl)
theorem dX6_init_102 : decode cX6_init 102 = .ok (.bipush 6, 2) := dk_16 6 (dk_at dksX6_init_4 9 rfl rfl)
theorem dX6_init_104 : decode cX6_init 104 = .ok (.newarray .int, 2) := dk_188_10 (dk_at dksX6_init_4 11 rfl rfl)
theorem dX6_init_106 : decode cX6_init 106 = .ok (.putfield 54, 3) := dk_181 0 54 (dk_at dksX6_init_4 13 rfl rfl)
theorem dX6_init_109 : decode cX6_init 109 = .ok (.aload_n 0, 1) := dk_42 (dk_at dksX6_init_4 16 rfl rfl)
theorem dX6_init_110 : decode cX6_init 110 = .ok (.iconst 0, 1) := dk_3 (dk_at dksX6_init_4 17 rfl rfl)
theorem dX6_init_111 : decode cX6_init 111 = .ok (.putfield 57, 3) := dk_181 0 57 (dk_at dksX6_init_4 18 rfl rfl)
theorem dX6_init_114 : decode cX6_init 114 = .ok (.aload_n 0, 1) := dk_42 (dk_at dksX6_init_4 21 rfl rfl)
theorem dX6_init_115 : decode cX6_init 115 = .ok (.iconst 0, 1) := dk_3 (dk_at dksX6_init_4 22 rfl rfl)
theorem dX6_init_116 : decode cX6_init 116 = .ok (.putfield 60, 3) := dk_181 0 60 (dk_at dksX6_init_5 0 rfl rfl)
theorem dX6_init_119 : decode cX6_init 119 = .ok (.aload_n 0, 1) := dk_42 (dk_at dksX6_init_5 3 rfl rfl)
theorem dX6_init_120 : decode cX6_init 120 = .ok (.iconst 0, 1) := dk_3 (dk_at dksX6_init_5 4 rfl rfl)
theorem dX6_init_121 : decode cX6_init 121 = .ok (.putfield 63, 3) := dk_181 0 63 (dk_at dksX6_init_5 5 rfl rfl)
theorem dX6_init_124 : decode cX6_init 124 = .ok (.aload_n 0, 1) := dk_42 (dk_at dksX6_init_5 8 rfl rfl)
theorem dX6_init_125 : decode cX6_init 125 = .ok (.iconst 0, 1) := dk_3 (dk_at dksX6_init_5 9 rfl rfl)
theorem dX6_init_126 : decode cX6_init 126 = .ok (.putfield 66, 3) := dk_181 0 66 (dk_at dksX6_init_5 10 rfl rfl)
theorem dX6_init_129 : decode cX6_init 129 = .ok (.aload_n 0, 1) := dk_42 (dk_at dksX6_init_5 13 rfl rfl)
theorem dX6_init_130 : decode cX6_init 130 = .ok (.bipush 120, 2) := dk_16 120 (dk_at dksX6_init_5 14 rfl rfl)
theorem dX6_init_132 : decode cX6_init 132 = .ok (.newarray .int, 2) := dk_188_10 (dk_at dksX6_init_5 16 rfl rfl)
theorem dX6_init_134 : decode cX6_init 134 = .ok (.putfield 69, 3) := dk_181 0 69 (dk_at dksX6_init_5 18 rfl rfl)
theorem dX6_init_137 : decode cX6_init 137 = .ok (.ldc 72, 2) := dk_18 72 (dk_at dksX6_init_5 21 rfl rfl)
theorem dX6_init_139 : decode cX6_init 139 = .ok (.astore_n 1, 1) := dk_76 (dk_at dksX6_init_5 23 rfl rfl)
theorem dX6_init_140 : decode cX6_init 140 = .ok (.iconst 0, 1) := dk_3 (dk_at dksX6_init_6 0 rfl rfl)
theorem dX6_init_141 : decode cX6_init 141 = .ok (.istore_n 2, 1) := dk_61 (dk_at dksX6_init_6 1 rfl rfl)
theorem dX6_init_142 : decode cX6_init 142 = .ok (.iload_n 2, 1) := dk_28 (dk_at dksX6_init_6 2 rfl rfl)
theorem dX6_init_143 : decode cX6_init 143 = .ok (.aload_n 1, 1) := dk_43 (dk_at dksX6_init_6 3 rfl rfl)
theorem dX6_init_144 : decode cX6_init 144 = .ok (.invokevirtual 74, 3) := dk_182 0 74 (dk_at dksX6_init_6 4 rfl rfl)
theorem dX6_init_147 : decode cX6_init 147 = .ok (.if_icmp .ge 20, 3) := dk_162 0 20 (dk_at dksX6_init_6 7 rfl rfl)
theorem dX6_init_150 : decode cX6_init 150 = .ok (.aload_n 0, 1) := dk_42 (dk_at dksX6_init_6 10 rfl rfl)
theorem dX6_init_151 : decode cX6_init 151 = .ok (.getfield 24, 3) := dk_180 0 24 (dk_at dksX6_init_6 11 rfl rfl)
theorem dX6_init_154 : decode cX6_init 154 = .ok (.iload_n 2, 1) := dk_28 (dk_at dksX6_init_6 14 rfl rfl)
theorem dX6_init_155 : decode cX6_init 155 = .ok (.aload_n 1, 1) := dk_43 (dk_at dksX6_init_6 15 rfl rfl)
theorem dX6_init_156 : decode cX6_init 156 = .ok (.iload_n 2, 1) := dk_28 (dk_at dksX6_init_6 16 rfl rfl)
theorem dX6_init_157 : decode cX6_init 157 = .ok (.invokevirtual 79, 3) := dk_182 0 79 (dk_at dksX6_init_6 17 rfl rfl)
theorem dX6_init_160 : decode cX6_init 160 = .ok (.iastore, 1) := dk_79 (dk_at dksX6_init_6 20 rfl rfl)
theorem dX6_init_161 : decode cX6_init 161 = .ok (.iinc 2 1, 3) := dk_132 2 1 (dk_at dksX6_init_6 21 rfl rfl)
theorem dX6_init_164 : decode cX6_init 164 = .ok (.goto (-22), 3) := dk_167 255 234 (dk_at dksX6_init_7 0 rfl rfl)
theorem dX6_init_167 : decode cX6_init 167 = .ok (.aload_n 0, 1) := dk_42 (dk_at dksX6_init_7 3 rfl rfl)
theorem dX6_init_168 : decode cX6_init 168 = .ok (.aload_n 1, 1) := dk_43 (dk_at dksX6_init_7 4 rfl rfl)
theorem dX6_init_169 : decode cX6_init 169 = .ok (.invokevirtual 74, 3) := dk_182 0 74 (dk_at dksX6_init_7 5 rfl rfl)
theorem dX6_init_172 : decode cX6_init 172 = .ok (.putfield 27, 3) := dk_181 0 27 (dk_at dksX6_init_7 8 rfl rfl)
theorem dX6_init_175 : decode cX6_init 175 = .ok (.aload_n 0, 1) := dk_42 (dk_at dksX6_init_7 11 rfl rfl)
theorem dX6_init_176 : decode cX6_init 176 = .ok (.invokevirtual 83, 3) := dk_182 0 83 (dk_at dksX6_init_7 12 rfl rfl)
theorem dX6_init_179 : decode cX6_init 179 = .ok (.aload_n 0, 1) := dk_42 (dk_at dksX6_init_7 15 rfl rfl)
theorem dX6_init_180 : decode cX6_init 180 = .ok (.invokevirtual 86, 3) := dk_182 0 86 (dk_at dksX6_init_7 16 rfl rfl)
theorem dX6_init_183 : decode cX6_init 183 = .ok (.pop, 1) := dk_87 (dk_at dksX6_init_7 19 rfl rfl)
theorem dX6_init_184 : decode cX6_init 184 = .ok (.aload_n 0, 1) := dk_42 (dk_at dksX6_init_7 20 rfl rfl)
theorem dX6_init_185 : decode cX6_init 185 = .ok (.iconst 0, 1) := dk_3 (dk_at dksX6_init_7 21 rfl rfl)
theorem dX6_init_186 : decode cX6_init 186 = .ok (.putfield 27, 3) := dk_181 0 27 (dk_at dksX6_init_8 0 rfl rfl)
theorem dX6_init_189 : decode cX6_init 189 = .ok (.return_, 1) := dk_177 (dk_at dksX6_init_8 3 rfl rfl)
abbrev cX6_begin : ByteArray := prog_9_method_49_code
def yX6_begin : MethodName := ⟨RX6, "begin", "()V"⟩
def dkwX6_begin_0 : List UInt8 := [42, 3, 181, 0, 30, 42, 2, 181, 0, 33, 42, 3, 181, 0, 57, 42, 182, 0, 184, 177]
abbrev dktX6_begin_0 : List UInt8 := dkwX6_begin_0 ++ []
theorem dksX6_begin_0 : cX6_begin.data.toList.drop 0 = dktX6_begin_0 := by decide +kernel
theorem dX6_begin_0 : decode cX6_begin 0 = .ok (.aload_n 0, 1) := dk_42 (dk_at dksX6_begin_0 0 rfl rfl)
theorem dX6_begin_1 : decode cX6_begin 1 = .ok (.iconst 0, 1) := dk_3 (dk_at dksX6_begin_0 1 rfl rfl)
theorem dX6_begin_2 : decode cX6_begin 2 = .ok (.putfield 30, 3) := dk_181 0 30 (dk_at dksX6_begin_0 2 rfl rfl)
theorem dX6_begin_5 : decode cX6_begin 5 = .ok (.aload_n 0, 1) := dk_42 (dk_at dksX6_begin_0 5 rfl rfl)
theorem dX6_begin_6 : decode cX6_begin 6 = .ok (.iconst (-1), 1) := dk_2 (dk_at dksX6_begin_0 6 rfl rfl)
theorem dX6_begin_7 : decode cX6_begin 7 = .ok (.putfield 33, 3) := dk_181 0 33 (dk_at dksX6_begin_0 7 rfl rfl)
theorem dX6_begin_10 : decode cX6_begin 10 = .ok (.aload_n 0, 1) := dk_42 (dk_at dksX6_begin_0 10 rfl rfl)
theorem dX6_begin_11 : decode cX6_begin 11 = .ok (.iconst 0, 1) := dk_3 (dk_at dksX6_begin_0 11 rfl rfl)
theorem dX6_begin_12 : decode cX6_begin 12 = .ok (.putfield 57, 3) := dk_181 0 57 (dk_at dksX6_begin_0 12 rfl rfl)
theorem dX6_begin_15 : decode cX6_begin 15 = .ok (.aload_n 0, 1) := dk_42 (dk_at dksX6_begin_0 15 rfl rfl)
theorem dX6_begin_16 : decode cX6_begin 16 = .ok (.invokevirtual 184, 3) := dk_182 0 184 (dk_at dksX6_begin_0 16 rfl rfl)
theorem dX6_begin_19 : decode cX6_begin 19 = .ok (.return_, 1) := dk_177 (dk_at dksX6_begin_0 19 rfl rfl)
abbrev cX6_token : ByteArray := prog_9_method_48_code
def yX6_token : MethodName := ⟨RX6, "token", "()V"⟩
def dkwX6_token_13 : List UInt8 := [180, 0, 57, 4, 96, 181, 0, 57, 177]
abbrev dktX6_token_13 : List UInt8 := dkwX6_token_13 ++ []
def dkwX6_token_12 : List UInt8 := [180, 0, 24, 42, 180, 0, 57, 46, 16, 59, 160, 0, 7, 6, 167, 0, 4, 7, 181, 0, 60, 42, 89]
abbrev dktX6_token_12 : List UInt8 := dkwX6_token_12 ++ dktX6_token_13
def dkwX6_token_11 : List UInt8 := [180, 0, 57, 42, 180, 0, 63, 100, 5, 164, 0, 7, 7, 167, 0, 4, 5, 181, 0, 60, 177, 42, 42]
abbrev dktX6_token_11 : List UInt8 := dkwX6_token_11 ++ dktX6_token_12
def dkwX6_token_10 : List UInt8 := [46, 96, 16, 48, 100, 181, 0, 66, 42, 89, 180, 0, 57, 4, 96, 181, 0, 57, 167, 255, 183, 42, 42]
abbrev dktX6_token_10 : List UInt8 := dkwX6_token_10 ++ dktX6_token_11
def dkwX6_token_9 : List UInt8 := [180, 0, 63, 100, 5, 162, 0, 27, 42, 42, 180, 0, 66, 16, 10, 104, 42, 180, 0, 24, 42, 180, 0, 57]
abbrev dktX6_token_9 : List UInt8 := dkwX6_token_9 ++ dktX6_token_10
def dkwX6_token_8 : List UInt8 := [162, 0, 68, 42, 180, 0, 24, 42, 180, 0, 57, 46, 184, 0, 181, 153, 0, 53, 42, 180, 0, 57, 42]
abbrev dktX6_token_8 : List UInt8 := dkwX6_token_8 ++ dktX6_token_9
def dkwX6_token_7 : List UInt8 := [180, 0, 57, 46, 184, 0, 181, 153, 0, 107, 42, 3, 181, 0, 66, 42, 180, 0, 57, 42, 180, 0, 27]
abbrev dktX6_token_7 : List UInt8 := dkwX6_token_7 ++ dktX6_token_8
def dkwX6_token_6 : List UInt8 := [180, 0, 63, 100, 16, 8, 164, 0, 7, 7, 167, 0, 4, 4, 181, 0, 60, 177, 42, 180, 0, 24, 42]
abbrev dktX6_token_6 : List UInt8 := dkwX6_token_6 ++ dktX6_token_7
def dkwX6_token_5 : List UInt8 := [153, 0, 16, 42, 89, 180, 0, 57, 4, 96, 181, 0, 57, 167, 255, 220, 42, 42, 180, 0, 57, 42]
abbrev dktX6_token_5 : List UInt8 := dkwX6_token_5 ++ dktX6_token_6
def dkwX6_token_4 : List UInt8 := [42, 180, 0, 57, 42, 180, 0, 27, 162, 0, 31, 42, 180, 0, 24, 42, 180, 0, 57, 46, 184, 0, 178]
abbrev dktX6_token_4 : List UInt8 := dkwX6_token_4 ++ dktX6_token_5
def dkwX6_token_3 : List UInt8 := [160, 0, 9, 42, 3, 181, 0, 60, 177, 42, 180, 0, 24, 42, 180, 0, 57, 46, 184, 0, 178, 153, 0, 66]
abbrev dktX6_token_3 : List UInt8 := dkwX6_token_3 ++ dktX6_token_4
def dkwX6_token_2 : List UInt8 := [181, 0, 57, 167, 255, 207, 42, 42, 180, 0, 57, 181, 0, 63, 42, 180, 0, 57, 42, 180, 0, 27]
abbrev dktX6_token_2 : List UInt8 := dkwX6_token_2 ++ dktX6_token_3
def dkwX6_token_1 : List UInt8 := [159, 0, 17, 42, 180, 0, 24, 42, 180, 0, 57, 46, 16, 10, 160, 0, 16, 42, 89, 180, 0, 57, 4, 96]
abbrev dktX6_token_1 : List UInt8 := dkwX6_token_1 ++ dktX6_token_2
def dkwX6_token_0 : List UInt8 := [42, 180, 0, 57, 42, 180, 0, 27, 162, 0, 44, 42, 180, 0, 24, 42, 180, 0, 57, 46, 16, 32]
abbrev dktX6_token_0 : List UInt8 := dkwX6_token_0 ++ dktX6_token_1
theorem dksX6_token_0 : cX6_token.data.toList.drop 0 = dktX6_token_0 := by decide +kernel
theorem dksX6_token_1 : cX6_token.data.toList.drop 22 = dktX6_token_1 := dk_seg dksX6_token_0 22 rfl rfl
theorem dksX6_token_2 : cX6_token.data.toList.drop 46 = dktX6_token_2 := dk_seg dksX6_token_1 24 rfl rfl
theorem dksX6_token_3 : cX6_token.data.toList.drop 68 = dktX6_token_3 := dk_seg dksX6_token_2 22 rfl rfl
theorem dksX6_token_4 : cX6_token.data.toList.drop 92 = dktX6_token_4 := dk_seg dksX6_token_3 24 rfl rfl
theorem dksX6_token_5 : cX6_token.data.toList.drop 115 = dktX6_token_5 := dk_seg dksX6_token_4 23 rfl rfl
theorem dksX6_token_6 : cX6_token.data.toList.drop 137 = dktX6_token_6 := dk_seg dksX6_token_5 22 rfl rfl
theorem dksX6_token_7 : cX6_token.data.toList.drop 160 = dktX6_token_7 := dk_seg dksX6_token_6 23 rfl rfl
theorem dksX6_token_8 : cX6_token.data.toList.drop 183 = dktX6_token_8 := dk_seg dksX6_token_7 23 rfl rfl
theorem dksX6_token_9 : cX6_token.data.toList.drop 206 = dktX6_token_9 := dk_seg dksX6_token_8 23 rfl rfl
theorem dksX6_token_10 : cX6_token.data.toList.drop 230 = dktX6_token_10 := dk_seg dksX6_token_9 24 rfl rfl
theorem dksX6_token_11 : cX6_token.data.toList.drop 253 = dktX6_token_11 := dk_seg dksX6_token_10 23 rfl rfl
theorem dksX6_token_12 : cX6_token.data.toList.drop 276 = dktX6_token_12 := dk_seg dksX6_token_11 23 rfl rfl
theorem dksX6_token_13 : cX6_token.data.toList.drop 299 = dktX6_token_13 := dk_seg dksX6_token_12 23 rfl rfl
theorem dX6_token_0 : decode cX6_token 0 = .ok (.aload_n 0, 1) := dk_42 (dk_at dksX6_token_0 0 rfl rfl)
theorem dX6_token_1 : decode cX6_token 1 = .ok (.getfield 57, 3) := dk_180 0 57 (dk_at dksX6_token_0 1 rfl rfl)
theorem dX6_token_4 : decode cX6_token 4 = .ok (.aload_n 0, 1) := dk_42 (dk_at dksX6_token_0 4 rfl rfl)
theorem dX6_token_5 : decode cX6_token 5 = .ok (.getfield 27, 3) := dk_180 0 27 (dk_at dksX6_token_0 5 rfl rfl)
theorem dX6_token_8 : decode cX6_token 8 = .ok (.if_icmp .ge 44, 3) := dk_162 0 44 (dk_at dksX6_token_0 8 rfl rfl)
theorem dX6_token_11 : decode cX6_token 11 = .ok (.aload_n 0, 1) := dk_42 (dk_at dksX6_token_0 11 rfl rfl)
theorem dX6_token_12 : decode cX6_token 12 = .ok (.getfield 24, 3) := dk_180 0 24 (dk_at dksX6_token_0 12 rfl rfl)
theorem dX6_token_15 : decode cX6_token 15 = .ok (.aload_n 0, 1) := dk_42 (dk_at dksX6_token_0 15 rfl rfl)
theorem dX6_token_16 : decode cX6_token 16 = .ok (.getfield 57, 3) := dk_180 0 57 (dk_at dksX6_token_0 16 rfl rfl)
theorem dX6_token_19 : decode cX6_token 19 = .ok (.iaload, 1) := dk_46 (dk_at dksX6_token_0 19 rfl rfl)
theorem dX6_token_20 : decode cX6_token 20 = .ok (.bipush 32, 2) := dk_16 32 (dk_at dksX6_token_0 20 rfl rfl)
theorem dX6_token_22 : decode cX6_token 22 = .ok (.if_icmp .eq 17, 3) := dk_159 0 17 (dk_at dksX6_token_1 0 rfl rfl)
theorem dX6_token_25 : decode cX6_token 25 = .ok (.aload_n 0, 1) := dk_42 (dk_at dksX6_token_1 3 rfl rfl)
theorem dX6_token_26 : decode cX6_token 26 = .ok (.getfield 24, 3) := dk_180 0 24 (dk_at dksX6_token_1 4 rfl rfl)
theorem dX6_token_29 : decode cX6_token 29 = .ok (.aload_n 0, 1) := dk_42 (dk_at dksX6_token_1 7 rfl rfl)
theorem dX6_token_30 : decode cX6_token 30 = .ok (.getfield 57, 3) := dk_180 0 57 (dk_at dksX6_token_1 8 rfl rfl)
theorem dX6_token_33 : decode cX6_token 33 = .ok (.iaload, 1) := dk_46 (dk_at dksX6_token_1 11 rfl rfl)
theorem dX6_token_34 : decode cX6_token 34 = .ok (.bipush 10, 2) := dk_16 10 (dk_at dksX6_token_1 12 rfl rfl)
theorem dX6_token_36 : decode cX6_token 36 = .ok (.if_icmp .ne 16, 3) := dk_160 0 16 (dk_at dksX6_token_1 14 rfl rfl)
theorem dX6_token_39 : decode cX6_token 39 = .ok (.aload_n 0, 1) := dk_42 (dk_at dksX6_token_1 17 rfl rfl)
theorem dX6_token_40 : decode cX6_token 40 = .ok (.dup, 1) := dk_89 (dk_at dksX6_token_1 18 rfl rfl)
theorem dX6_token_41 : decode cX6_token 41 = .ok (.getfield 57, 3) := dk_180 0 57 (dk_at dksX6_token_1 19 rfl rfl)
theorem dX6_token_44 : decode cX6_token 44 = .ok (.iconst 1, 1) := dk_4 (dk_at dksX6_token_1 22 rfl rfl)
theorem dX6_token_45 : decode cX6_token 45 = .ok (.iadd, 1) := dk_96 (dk_at dksX6_token_1 23 rfl rfl)
theorem dX6_token_46 : decode cX6_token 46 = .ok (.putfield 57, 3) := dk_181 0 57 (dk_at dksX6_token_2 0 rfl rfl)
theorem dX6_token_49 : decode cX6_token 49 = .ok (.goto (-49), 3) := dk_167 255 207 (dk_at dksX6_token_2 3 rfl rfl)
theorem dX6_token_52 : decode cX6_token 52 = .ok (.aload_n 0, 1) := dk_42 (dk_at dksX6_token_2 6 rfl rfl)
theorem dX6_token_53 : decode cX6_token 53 = .ok (.aload_n 0, 1) := dk_42 (dk_at dksX6_token_2 7 rfl rfl)
theorem dX6_token_54 : decode cX6_token 54 = .ok (.getfield 57, 3) := dk_180 0 57 (dk_at dksX6_token_2 8 rfl rfl)
theorem dX6_token_57 : decode cX6_token 57 = .ok (.putfield 63, 3) := dk_181 0 63 (dk_at dksX6_token_2 11 rfl rfl)
theorem dX6_token_60 : decode cX6_token 60 = .ok (.aload_n 0, 1) := dk_42 (dk_at dksX6_token_2 14 rfl rfl)
theorem dX6_token_61 : decode cX6_token 61 = .ok (.getfield 57, 3) := dk_180 0 57 (dk_at dksX6_token_2 15 rfl rfl)
theorem dX6_token_64 : decode cX6_token 64 = .ok (.aload_n 0, 1) := dk_42 (dk_at dksX6_token_2 18 rfl rfl)
theorem dX6_token_65 : decode cX6_token 65 = .ok (.getfield 27, 3) := dk_180 0 27 (dk_at dksX6_token_2 19 rfl rfl)
theorem dX6_token_68 : decode cX6_token 68 = .ok (.if_icmp .ne 9, 3) := dk_160 0 9 (dk_at dksX6_token_3 0 rfl rfl)
theorem dX6_token_71 : decode cX6_token 71 = .ok (.aload_n 0, 1) := dk_42 (dk_at dksX6_token_3 3 rfl rfl)
theorem dX6_token_72 : decode cX6_token 72 = .ok (.iconst 0, 1) := dk_3 (dk_at dksX6_token_3 4 rfl rfl)
theorem dX6_token_73 : decode cX6_token 73 = .ok (.putfield 60, 3) := dk_181 0 60 (dk_at dksX6_token_3 5 rfl rfl)
theorem dX6_token_76 : decode cX6_token 76 = .ok (.return_, 1) := dk_177 (dk_at dksX6_token_3 8 rfl rfl)
theorem dX6_token_77 : decode cX6_token 77 = .ok (.aload_n 0, 1) := dk_42 (dk_at dksX6_token_3 9 rfl rfl)
theorem dX6_token_78 : decode cX6_token 78 = .ok (.getfield 24, 3) := dk_180 0 24 (dk_at dksX6_token_3 10 rfl rfl)
theorem dX6_token_81 : decode cX6_token 81 = .ok (.aload_n 0, 1) := dk_42 (dk_at dksX6_token_3 13 rfl rfl)
theorem dX6_token_82 : decode cX6_token 82 = .ok (.getfield 57, 3) := dk_180 0 57 (dk_at dksX6_token_3 14 rfl rfl)
theorem dX6_token_85 : decode cX6_token 85 = .ok (.iaload, 1) := dk_46 (dk_at dksX6_token_3 17 rfl rfl)
theorem dX6_token_86 : decode cX6_token 86 = .ok (.invokestatic 178, 3) := dk_184 0 178 (dk_at dksX6_token_3 18 rfl rfl)
theorem dX6_token_89 : decode cX6_token 89 = .ok (.ifCond .eq 66, 3) := dk_153 0 66 (dk_at dksX6_token_3 21 rfl rfl)
theorem dX6_token_92 : decode cX6_token 92 = .ok (.aload_n 0, 1) := dk_42 (dk_at dksX6_token_4 0 rfl rfl)
theorem dX6_token_93 : decode cX6_token 93 = .ok (.getfield 57, 3) := dk_180 0 57 (dk_at dksX6_token_4 1 rfl rfl)
theorem dX6_token_96 : decode cX6_token 96 = .ok (.aload_n 0, 1) := dk_42 (dk_at dksX6_token_4 4 rfl rfl)
theorem dX6_token_97 : decode cX6_token 97 = .ok (.getfield 27, 3) := dk_180 0 27 (dk_at dksX6_token_4 5 rfl rfl)
theorem dX6_token_100 : decode cX6_token 100 = .ok (.if_icmp .ge 31, 3) := dk_162 0 31 (dk_at dksX6_token_4 8 rfl rfl)
theorem dX6_token_103 : decode cX6_token 103 = .ok (.aload_n 0, 1) := dk_42 (dk_at dksX6_token_4 11 rfl rfl)
theorem dX6_token_104 : decode cX6_token 104 = .ok (.getfield 24, 3) := dk_180 0 24 (dk_at dksX6_token_4 12 rfl rfl)
theorem dX6_token_107 : decode cX6_token 107 = .ok (.aload_n 0, 1) := dk_42 (dk_at dksX6_token_4 15 rfl rfl)
theorem dX6_token_108 : decode cX6_token 108 = .ok (.getfield 57, 3) := dk_180 0 57 (dk_at dksX6_token_4 16 rfl rfl)
theorem dX6_token_111 : decode cX6_token 111 = .ok (.iaload, 1) := dk_46 (dk_at dksX6_token_4 19 rfl rfl)
theorem dX6_token_112 : decode cX6_token 112 = .ok (.invokestatic 178, 3) := dk_184 0 178 (dk_at dksX6_token_4 20 rfl rfl)
theorem dX6_token_115 : decode cX6_token 115 = .ok (.ifCond .eq 16, 3) := dk_153 0 16 (dk_at dksX6_token_5 0 rfl rfl)
theorem dX6_token_118 : decode cX6_token 118 = .ok (.aload_n 0, 1) := dk_42 (dk_at dksX6_token_5 3 rfl rfl)
theorem dX6_token_119 : decode cX6_token 119 = .ok (.dup, 1) := dk_89 (dk_at dksX6_token_5 4 rfl rfl)
theorem dX6_token_120 : decode cX6_token 120 = .ok (.getfield 57, 3) := dk_180 0 57 (dk_at dksX6_token_5 5 rfl rfl)
theorem dX6_token_123 : decode cX6_token 123 = .ok (.iconst 1, 1) := dk_4 (dk_at dksX6_token_5 8 rfl rfl)
theorem dX6_token_124 : decode cX6_token 124 = .ok (.iadd, 1) := dk_96 (dk_at dksX6_token_5 9 rfl rfl)
theorem dX6_token_125 : decode cX6_token 125 = .ok (.putfield 57, 3) := dk_181 0 57 (dk_at dksX6_token_5 10 rfl rfl)
theorem dX6_token_128 : decode cX6_token 128 = .ok (.goto (-36), 3) := dk_167 255 220 (dk_at dksX6_token_5 13 rfl rfl)
theorem dX6_token_131 : decode cX6_token 131 = .ok (.aload_n 0, 1) := dk_42 (dk_at dksX6_token_5 16 rfl rfl)
theorem dX6_token_132 : decode cX6_token 132 = .ok (.aload_n 0, 1) := dk_42 (dk_at dksX6_token_5 17 rfl rfl)
theorem dX6_token_133 : decode cX6_token 133 = .ok (.getfield 57, 3) := dk_180 0 57 (dk_at dksX6_token_5 18 rfl rfl)
theorem dX6_token_136 : decode cX6_token 136 = .ok (.aload_n 0, 1) := dk_42 (dk_at dksX6_token_5 21 rfl rfl)
theorem dX6_token_137 : decode cX6_token 137 = .ok (.getfield 63, 3) := dk_180 0 63 (dk_at dksX6_token_6 0 rfl rfl)
theorem dX6_token_140 : decode cX6_token 140 = .ok (.isub, 1) := dk_100 (dk_at dksX6_token_6 3 rfl rfl)
theorem dX6_token_141 : decode cX6_token 141 = .ok (.bipush 8, 2) := dk_16 8 (dk_at dksX6_token_6 4 rfl rfl)
theorem dX6_token_143 : decode cX6_token 143 = .ok (.if_icmp .le 7, 3) := dk_164 0 7 (dk_at dksX6_token_6 6 rfl rfl)
theorem dX6_token_146 : decode cX6_token 146 = .ok (.iconst 4, 1) := dk_7 (dk_at dksX6_token_6 9 rfl rfl)
theorem dX6_token_147 : decode cX6_token 147 = .ok (.goto 4, 3) := dk_167 0 4 (dk_at dksX6_token_6 10 rfl rfl)
theorem dX6_token_150 : decode cX6_token 150 = .ok (.iconst 1, 1) := dk_4 (dk_at dksX6_token_6 13 rfl rfl)
theorem dX6_token_151 : decode cX6_token 151 = .ok (.putfield 60, 3) := dk_181 0 60 (dk_at dksX6_token_6 14 rfl rfl)
theorem dX6_token_154 : decode cX6_token 154 = .ok (.return_, 1) := dk_177 (dk_at dksX6_token_6 17 rfl rfl)
theorem dX6_token_155 : decode cX6_token 155 = .ok (.aload_n 0, 1) := dk_42 (dk_at dksX6_token_6 18 rfl rfl)
theorem dX6_token_156 : decode cX6_token 156 = .ok (.getfield 24, 3) := dk_180 0 24 (dk_at dksX6_token_6 19 rfl rfl)
theorem dX6_token_159 : decode cX6_token 159 = .ok (.aload_n 0, 1) := dk_42 (dk_at dksX6_token_6 22 rfl rfl)
theorem dX6_token_160 : decode cX6_token 160 = .ok (.getfield 57, 3) := dk_180 0 57 (dk_at dksX6_token_7 0 rfl rfl)
theorem dX6_token_163 : decode cX6_token 163 = .ok (.iaload, 1) := dk_46 (dk_at dksX6_token_7 3 rfl rfl)
theorem dX6_token_164 : decode cX6_token 164 = .ok (.invokestatic 181, 3) := dk_184 0 181 (dk_at dksX6_token_7 4 rfl rfl)
theorem dX6_token_167 : decode cX6_token 167 = .ok (.ifCond .eq 107, 3) := dk_153 0 107 (dk_at dksX6_token_7 7 rfl rfl)
theorem dX6_token_170 : decode cX6_token 170 = .ok (.aload_n 0, 1) := dk_42 (dk_at dksX6_token_7 10 rfl rfl)
theorem dX6_token_171 : decode cX6_token 171 = .ok (.iconst 0, 1) := dk_3 (dk_at dksX6_token_7 11 rfl rfl)
theorem dX6_token_172 : decode cX6_token 172 = .ok (.putfield 66, 3) := dk_181 0 66 (dk_at dksX6_token_7 12 rfl rfl)
theorem dX6_token_175 : decode cX6_token 175 = .ok (.aload_n 0, 1) := dk_42 (dk_at dksX6_token_7 15 rfl rfl)
theorem dX6_token_176 : decode cX6_token 176 = .ok (.getfield 57, 3) := dk_180 0 57 (dk_at dksX6_token_7 16 rfl rfl)
theorem dX6_token_179 : decode cX6_token 179 = .ok (.aload_n 0, 1) := dk_42 (dk_at dksX6_token_7 19 rfl rfl)
theorem dX6_token_180 : decode cX6_token 180 = .ok (.getfield 27, 3) := dk_180 0 27 (dk_at dksX6_token_7 20 rfl rfl)
theorem dX6_token_183 : decode cX6_token 183 = .ok (.if_icmp .ge 68, 3) := dk_162 0 68 (dk_at dksX6_token_8 0 rfl rfl)
theorem dX6_token_186 : decode cX6_token 186 = .ok (.aload_n 0, 1) := dk_42 (dk_at dksX6_token_8 3 rfl rfl)
theorem dX6_token_187 : decode cX6_token 187 = .ok (.getfield 24, 3) := dk_180 0 24 (dk_at dksX6_token_8 4 rfl rfl)
theorem dX6_token_190 : decode cX6_token 190 = .ok (.aload_n 0, 1) := dk_42 (dk_at dksX6_token_8 7 rfl rfl)
theorem dX6_token_191 : decode cX6_token 191 = .ok (.getfield 57, 3) := dk_180 0 57 (dk_at dksX6_token_8 8 rfl rfl)
theorem dX6_token_194 : decode cX6_token 194 = .ok (.iaload, 1) := dk_46 (dk_at dksX6_token_8 11 rfl rfl)
theorem dX6_token_195 : decode cX6_token 195 = .ok (.invokestatic 181, 3) := dk_184 0 181 (dk_at dksX6_token_8 12 rfl rfl)
theorem dX6_token_198 : decode cX6_token 198 = .ok (.ifCond .eq 53, 3) := dk_153 0 53 (dk_at dksX6_token_8 15 rfl rfl)
theorem dX6_token_201 : decode cX6_token 201 = .ok (.aload_n 0, 1) := dk_42 (dk_at dksX6_token_8 18 rfl rfl)
theorem dX6_token_202 : decode cX6_token 202 = .ok (.getfield 57, 3) := dk_180 0 57 (dk_at dksX6_token_8 19 rfl rfl)
theorem dX6_token_205 : decode cX6_token 205 = .ok (.aload_n 0, 1) := dk_42 (dk_at dksX6_token_8 22 rfl rfl)
theorem dX6_token_206 : decode cX6_token 206 = .ok (.getfield 63, 3) := dk_180 0 63 (dk_at dksX6_token_9 0 rfl rfl)
theorem dX6_token_209 : decode cX6_token 209 = .ok (.isub, 1) := dk_100 (dk_at dksX6_token_9 3 rfl rfl)
theorem dX6_token_210 : decode cX6_token 210 = .ok (.iconst 2, 1) := dk_5 (dk_at dksX6_token_9 4 rfl rfl)
theorem dX6_token_211 : decode cX6_token 211 = .ok (.if_icmp .ge 27, 3) := dk_162 0 27 (dk_at dksX6_token_9 5 rfl rfl)
theorem dX6_token_214 : decode cX6_token 214 = .ok (.aload_n 0, 1) := dk_42 (dk_at dksX6_token_9 8 rfl rfl)
theorem dX6_token_215 : decode cX6_token 215 = .ok (.aload_n 0, 1) := dk_42 (dk_at dksX6_token_9 9 rfl rfl)
theorem dX6_token_216 : decode cX6_token 216 = .ok (.getfield 66, 3) := dk_180 0 66 (dk_at dksX6_token_9 10 rfl rfl)
theorem dX6_token_219 : decode cX6_token 219 = .ok (.bipush 10, 2) := dk_16 10 (dk_at dksX6_token_9 13 rfl rfl)
theorem dX6_token_221 : decode cX6_token 221 = .ok (.imul, 1) := dk_104 (dk_at dksX6_token_9 15 rfl rfl)
theorem dX6_token_222 : decode cX6_token 222 = .ok (.aload_n 0, 1) := dk_42 (dk_at dksX6_token_9 16 rfl rfl)
theorem dX6_token_223 : decode cX6_token 223 = .ok (.getfield 24, 3) := dk_180 0 24 (dk_at dksX6_token_9 17 rfl rfl)
theorem dX6_token_226 : decode cX6_token 226 = .ok (.aload_n 0, 1) := dk_42 (dk_at dksX6_token_9 20 rfl rfl)
theorem dX6_token_227 : decode cX6_token 227 = .ok (.getfield 57, 3) := dk_180 0 57 (dk_at dksX6_token_9 21 rfl rfl)
theorem dX6_token_230 : decode cX6_token 230 = .ok (.iaload, 1) := dk_46 (dk_at dksX6_token_10 0 rfl rfl)
theorem dX6_token_231 : decode cX6_token 231 = .ok (.iadd, 1) := dk_96 (dk_at dksX6_token_10 1 rfl rfl)
theorem dX6_token_232 : decode cX6_token 232 = .ok (.bipush 48, 2) := dk_16 48 (dk_at dksX6_token_10 2 rfl rfl)
theorem dX6_token_234 : decode cX6_token 234 = .ok (.isub, 1) := dk_100 (dk_at dksX6_token_10 4 rfl rfl)
theorem dX6_token_235 : decode cX6_token 235 = .ok (.putfield 66, 3) := dk_181 0 66 (dk_at dksX6_token_10 5 rfl rfl)
theorem dX6_token_238 : decode cX6_token 238 = .ok (.aload_n 0, 1) := dk_42 (dk_at dksX6_token_10 8 rfl rfl)
theorem dX6_token_239 : decode cX6_token 239 = .ok (.dup, 1) := dk_89 (dk_at dksX6_token_10 9 rfl rfl)
theorem dX6_token_240 : decode cX6_token 240 = .ok (.getfield 57, 3) := dk_180 0 57 (dk_at dksX6_token_10 10 rfl rfl)
theorem dX6_token_243 : decode cX6_token 243 = .ok (.iconst 1, 1) := dk_4 (dk_at dksX6_token_10 13 rfl rfl)
theorem dX6_token_244 : decode cX6_token 244 = .ok (.iadd, 1) := dk_96 (dk_at dksX6_token_10 14 rfl rfl)
theorem dX6_token_245 : decode cX6_token 245 = .ok (.putfield 57, 3) := dk_181 0 57 (dk_at dksX6_token_10 15 rfl rfl)
theorem dX6_token_248 : decode cX6_token 248 = .ok (.goto (-73), 3) := dk_167 255 183 (dk_at dksX6_token_10 18 rfl rfl)
theorem dX6_token_251 : decode cX6_token 251 = .ok (.aload_n 0, 1) := dk_42 (dk_at dksX6_token_10 21 rfl rfl)
theorem dX6_token_252 : decode cX6_token 252 = .ok (.aload_n 0, 1) := dk_42 (dk_at dksX6_token_10 22 rfl rfl)
theorem dX6_token_253 : decode cX6_token 253 = .ok (.getfield 57, 3) := dk_180 0 57 (dk_at dksX6_token_11 0 rfl rfl)
theorem dX6_token_256 : decode cX6_token 256 = .ok (.aload_n 0, 1) := dk_42 (dk_at dksX6_token_11 3 rfl rfl)
theorem dX6_token_257 : decode cX6_token 257 = .ok (.getfield 63, 3) := dk_180 0 63 (dk_at dksX6_token_11 4 rfl rfl)
theorem dX6_token_260 : decode cX6_token 260 = .ok (.isub, 1) := dk_100 (dk_at dksX6_token_11 7 rfl rfl)
theorem dX6_token_261 : decode cX6_token 261 = .ok (.iconst 2, 1) := dk_5 (dk_at dksX6_token_11 8 rfl rfl)
theorem dX6_token_262 : decode cX6_token 262 = .ok (.if_icmp .le 7, 3) := dk_164 0 7 (dk_at dksX6_token_11 9 rfl rfl)
theorem dX6_token_265 : decode cX6_token 265 = .ok (.iconst 4, 1) := dk_7 (dk_at dksX6_token_11 12 rfl rfl)
theorem dX6_token_266 : decode cX6_token 266 = .ok (.goto 4, 3) := dk_167 0 4 (dk_at dksX6_token_11 13 rfl rfl)
theorem dX6_token_269 : decode cX6_token 269 = .ok (.iconst 2, 1) := dk_5 (dk_at dksX6_token_11 16 rfl rfl)
theorem dX6_token_270 : decode cX6_token 270 = .ok (.putfield 60, 3) := dk_181 0 60 (dk_at dksX6_token_11 17 rfl rfl)
theorem dX6_token_273 : decode cX6_token 273 = .ok (.return_, 1) := dk_177 (dk_at dksX6_token_11 20 rfl rfl)
theorem dX6_token_274 : decode cX6_token 274 = .ok (.aload_n 0, 1) := dk_42 (dk_at dksX6_token_11 21 rfl rfl)
theorem dX6_token_275 : decode cX6_token 275 = .ok (.aload_n 0, 1) := dk_42 (dk_at dksX6_token_11 22 rfl rfl)
theorem dX6_token_276 : decode cX6_token 276 = .ok (.getfield 24, 3) := dk_180 0 24 (dk_at dksX6_token_12 0 rfl rfl)
theorem dX6_token_279 : decode cX6_token 279 = .ok (.aload_n 0, 1) := dk_42 (dk_at dksX6_token_12 3 rfl rfl)
theorem dX6_token_280 : decode cX6_token 280 = .ok (.getfield 57, 3) := dk_180 0 57 (dk_at dksX6_token_12 4 rfl rfl)
theorem dX6_token_283 : decode cX6_token 283 = .ok (.iaload, 1) := dk_46 (dk_at dksX6_token_12 7 rfl rfl)
theorem dX6_token_284 : decode cX6_token 284 = .ok (.bipush 59, 2) := dk_16 59 (dk_at dksX6_token_12 8 rfl rfl)
theorem dX6_token_286 : decode cX6_token 286 = .ok (.if_icmp .ne 7, 3) := dk_160 0 7 (dk_at dksX6_token_12 10 rfl rfl)
theorem dX6_token_289 : decode cX6_token 289 = .ok (.iconst 3, 1) := dk_6 (dk_at dksX6_token_12 13 rfl rfl)
theorem dX6_token_290 : decode cX6_token 290 = .ok (.goto 4, 3) := dk_167 0 4 (dk_at dksX6_token_12 14 rfl rfl)
theorem dX6_token_293 : decode cX6_token 293 = .ok (.iconst 4, 1) := dk_7 (dk_at dksX6_token_12 17 rfl rfl)
theorem dX6_token_294 : decode cX6_token 294 = .ok (.putfield 60, 3) := dk_181 0 60 (dk_at dksX6_token_12 18 rfl rfl)
theorem dX6_token_297 : decode cX6_token 297 = .ok (.aload_n 0, 1) := dk_42 (dk_at dksX6_token_12 21 rfl rfl)
theorem dX6_token_298 : decode cX6_token 298 = .ok (.dup, 1) := dk_89 (dk_at dksX6_token_12 22 rfl rfl)
theorem dX6_token_299 : decode cX6_token 299 = .ok (.getfield 57, 3) := dk_180 0 57 (dk_at dksX6_token_13 0 rfl rfl)
theorem dX6_token_302 : decode cX6_token 302 = .ok (.iconst 1, 1) := dk_4 (dk_at dksX6_token_13 3 rfl rfl)
theorem dX6_token_303 : decode cX6_token 303 = .ok (.iadd, 1) := dk_96 (dk_at dksX6_token_13 4 rfl rfl)
theorem dX6_token_304 : decode cX6_token 304 = .ok (.putfield 57, 3) := dk_181 0 57 (dk_at dksX6_token_13 5 rfl rfl)
theorem dX6_token_307 : decode cX6_token 307 = .ok (.return_, 1) := dk_177 (dk_at dksX6_token_13 8 rfl rfl)
abbrev cX6_isSmall : ByteArray := prog_9_method_46_code
def yX6_isSmall : MethodName := ⟨RX6, "isSmall", "(I)Z"⟩
def dkwX6_isSmall_0 : List UInt8 := [26, 16, 97, 161, 0, 13, 26, 16, 122, 163, 0, 7, 4, 167, 0, 4, 3, 172]
abbrev dktX6_isSmall_0 : List UInt8 := dkwX6_isSmall_0 ++ []
theorem dksX6_isSmall_0 : cX6_isSmall.data.toList.drop 0 = dktX6_isSmall_0 := by decide +kernel
theorem dX6_isSmall_0 : decode cX6_isSmall 0 = .ok (.iload_n 0, 1) := dk_26 (dk_at dksX6_isSmall_0 0 rfl rfl)
theorem dX6_isSmall_1 : decode cX6_isSmall 1 = .ok (.bipush 97, 2) := dk_16 97 (dk_at dksX6_isSmall_0 1 rfl rfl)
theorem dX6_isSmall_3 : decode cX6_isSmall 3 = .ok (.if_icmp .lt 13, 3) := dk_161 0 13 (dk_at dksX6_isSmall_0 3 rfl rfl)
theorem dX6_isSmall_6 : decode cX6_isSmall 6 = .ok (.iload_n 0, 1) := dk_26 (dk_at dksX6_isSmall_0 6 rfl rfl)
theorem dX6_isSmall_7 : decode cX6_isSmall 7 = .ok (.bipush 122, 2) := dk_16 122 (dk_at dksX6_isSmall_0 7 rfl rfl)
theorem dX6_isSmall_9 : decode cX6_isSmall 9 = .ok (.if_icmp .gt 7, 3) := dk_163 0 7 (dk_at dksX6_isSmall_0 9 rfl rfl)
theorem dX6_isSmall_12 : decode cX6_isSmall 12 = .ok (.iconst 1, 1) := dk_4 (dk_at dksX6_isSmall_0 12 rfl rfl)
theorem dX6_isSmall_13 : decode cX6_isSmall 13 = .ok (.goto 4, 3) := dk_167 0 4 (dk_at dksX6_isSmall_0 13 rfl rfl)
theorem dX6_isSmall_16 : decode cX6_isSmall 16 = .ok (.iconst 0, 1) := dk_3 (dk_at dksX6_isSmall_0 16 rfl rfl)
theorem dX6_isSmall_17 : decode cX6_isSmall 17 = .ok (.ireturn, 1) := dk_172 (dk_at dksX6_isSmall_0 17 rfl rfl)
abbrev cX6_isDigit : ByteArray := prog_9_method_47_code
def yX6_isDigit : MethodName := ⟨RX6, "isDigit", "(I)Z"⟩
def dkwX6_isDigit_0 : List UInt8 := [26, 16, 48, 161, 0, 13, 26, 16, 57, 163, 0, 7, 4, 167, 0, 4, 3, 172]
abbrev dktX6_isDigit_0 : List UInt8 := dkwX6_isDigit_0 ++ []
theorem dksX6_isDigit_0 : cX6_isDigit.data.toList.drop 0 = dktX6_isDigit_0 := by decide +kernel
theorem dX6_isDigit_0 : decode cX6_isDigit 0 = .ok (.iload_n 0, 1) := dk_26 (dk_at dksX6_isDigit_0 0 rfl rfl)
theorem dX6_isDigit_1 : decode cX6_isDigit 1 = .ok (.bipush 48, 2) := dk_16 48 (dk_at dksX6_isDigit_0 1 rfl rfl)
theorem dX6_isDigit_3 : decode cX6_isDigit 3 = .ok (.if_icmp .lt 13, 3) := dk_161 0 13 (dk_at dksX6_isDigit_0 3 rfl rfl)
theorem dX6_isDigit_6 : decode cX6_isDigit 6 = .ok (.iload_n 0, 1) := dk_26 (dk_at dksX6_isDigit_0 6 rfl rfl)
theorem dX6_isDigit_7 : decode cX6_isDigit 7 = .ok (.bipush 57, 2) := dk_16 57 (dk_at dksX6_isDigit_0 7 rfl rfl)
theorem dX6_isDigit_9 : decode cX6_isDigit 9 = .ok (.if_icmp .gt 7, 3) := dk_163 0 7 (dk_at dksX6_isDigit_0 9 rfl rfl)
theorem dX6_isDigit_12 : decode cX6_isDigit 12 = .ok (.iconst 1, 1) := dk_4 (dk_at dksX6_isDigit_0 12 rfl rfl)
theorem dX6_isDigit_13 : decode cX6_isDigit 13 = .ok (.goto 4, 3) := dk_167 0 4 (dk_at dksX6_isDigit_0 13 rfl rfl)
theorem dX6_isDigit_16 : decode cX6_isDigit 16 = .ok (.iconst 0, 1) := dk_3 (dk_at dksX6_isDigit_0 16 rfl rfl)
theorem dX6_isDigit_17 : decode cX6_isDigit 17 = .ok (.ireturn, 1) := dk_172 (dk_at dksX6_isDigit_0 17 rfl rfl)
abbrev cX6_parseSetup : ByteArray := prog_9_method_57_code
def yX6_parseSetup : MethodName := ⟨RX6, "parseSetup", "()Z"⟩
def dkwX6_parseSetup_5 : List UInt8 := [167, 0, 4, 3, 172]
abbrev dktX6_parseSetup_5 : List UInt8 := dkwX6_parseSetup_5 ++ []
def dkwX6_parseSetup_4 : List UInt8 := [182, 0, 210, 154, 255, 243, 3, 172, 42, 180, 0, 60, 153, 0, 11, 42, 4, 182, 0, 187, 153, 0, 7, 4]
abbrev dktX6_parseSetup_4 : List UInt8 := dkwX6_parseSetup_4 ++ dktX6_parseSetup_5
def dkwX6_parseSetup_3 : List UInt8 := [182, 0, 204, 154, 0, 9, 42, 4, 182, 0, 187, 172, 42, 18, 208, 182, 0, 204, 153, 0, 12, 42]
abbrev dktX6_parseSetup_3 : List UInt8 := dkwX6_parseSetup_3 ++ dktX6_parseSetup_4
def dkwX6_parseSetup_2 : List UInt8 := [182, 0, 196, 153, 0, 10, 42, 182, 0, 199, 154, 0, 5, 3, 172, 42, 182, 0, 144, 42, 18, 208]
abbrev dktX6_parseSetup_2 : List UInt8 := dkwX6_parseSetup_2 ++ dktX6_parseSetup_3
def dkwX6_parseSetup_1 : List UInt8 := [18, 202, 182, 0, 204, 154, 0, 9, 42, 4, 182, 0, 187, 172, 42, 182, 0, 184, 42, 3, 4, 16, 24]
abbrev dktX6_parseSetup_1 : List UInt8 := dkwX6_parseSetup_1 ++ dktX6_parseSetup_2
def dkwX6_parseSetup_0 : List UInt8 := [3, 60, 27, 17, 0, 212, 162, 0, 16, 42, 180, 0, 13, 27, 3, 79, 132, 1, 1, 167, 255, 239, 42]
abbrev dktX6_parseSetup_0 : List UInt8 := dkwX6_parseSetup_0 ++ dktX6_parseSetup_1
theorem dksX6_parseSetup_0 : cX6_parseSetup.data.toList.drop 0 = dktX6_parseSetup_0 := by decide +kernel
theorem dksX6_parseSetup_1 : cX6_parseSetup.data.toList.drop 23 = dktX6_parseSetup_1 := dk_seg dksX6_parseSetup_0 23 rfl rfl
theorem dksX6_parseSetup_2 : cX6_parseSetup.data.toList.drop 46 = dktX6_parseSetup_2 := dk_seg dksX6_parseSetup_1 23 rfl rfl
theorem dksX6_parseSetup_3 : cX6_parseSetup.data.toList.drop 68 = dktX6_parseSetup_3 := dk_seg dksX6_parseSetup_2 22 rfl rfl
theorem dksX6_parseSetup_4 : cX6_parseSetup.data.toList.drop 90 = dktX6_parseSetup_4 := dk_seg dksX6_parseSetup_3 22 rfl rfl
theorem dksX6_parseSetup_5 : cX6_parseSetup.data.toList.drop 114 = dktX6_parseSetup_5 := dk_seg dksX6_parseSetup_4 24 rfl rfl
theorem dX6_parseSetup_0 : decode cX6_parseSetup 0 = .ok (.iconst 0, 1) := dk_3 (dk_at dksX6_parseSetup_0 0 rfl rfl)
theorem dX6_parseSetup_1 : decode cX6_parseSetup 1 = .ok (.istore_n 1, 1) := dk_60 (dk_at dksX6_parseSetup_0 1 rfl rfl)
theorem dX6_parseSetup_2 : decode cX6_parseSetup 2 = .ok (.iload_n 1, 1) := dk_27 (dk_at dksX6_parseSetup_0 2 rfl rfl)
theorem dX6_parseSetup_3 : decode cX6_parseSetup 3 = .ok (.sipush 212, 3) := dk_17 0 212 (dk_at dksX6_parseSetup_0 3 rfl rfl)
theorem dX6_parseSetup_6 : decode cX6_parseSetup 6 = .ok (.if_icmp .ge 16, 3) := dk_162 0 16 (dk_at dksX6_parseSetup_0 6 rfl rfl)
theorem dX6_parseSetup_9 : decode cX6_parseSetup 9 = .ok (.aload_n 0, 1) := dk_42 (dk_at dksX6_parseSetup_0 9 rfl rfl)
theorem dX6_parseSetup_10 : decode cX6_parseSetup 10 = .ok (.getfield 13, 3) := dk_180 0 13 (dk_at dksX6_parseSetup_0 10 rfl rfl)
theorem dX6_parseSetup_13 : decode cX6_parseSetup 13 = .ok (.iload_n 1, 1) := dk_27 (dk_at dksX6_parseSetup_0 13 rfl rfl)
theorem dX6_parseSetup_14 : decode cX6_parseSetup 14 = .ok (.iconst 0, 1) := dk_3 (dk_at dksX6_parseSetup_0 14 rfl rfl)
theorem dX6_parseSetup_15 : decode cX6_parseSetup 15 = .ok (.iastore, 1) := dk_79 (dk_at dksX6_parseSetup_0 15 rfl rfl)
theorem dX6_parseSetup_16 : decode cX6_parseSetup 16 = .ok (.iinc 1 1, 3) := dk_132 1 1 (dk_at dksX6_parseSetup_0 16 rfl rfl)
theorem dX6_parseSetup_19 : decode cX6_parseSetup 19 = .ok (.goto (-17), 3) := dk_167 255 239 (dk_at dksX6_parseSetup_0 19 rfl rfl)
theorem dX6_parseSetup_22 : decode cX6_parseSetup 22 = .ok (.aload_n 0, 1) := dk_42 (dk_at dksX6_parseSetup_0 22 rfl rfl)
theorem dX6_parseSetup_23 : decode cX6_parseSetup 23 = .ok (.ldc 202, 2) := dk_18 202 (dk_at dksX6_parseSetup_1 0 rfl rfl)
theorem dX6_parseSetup_25 : decode cX6_parseSetup 25 = .ok (.invokevirtual 204, 3) := dk_182 0 204 (dk_at dksX6_parseSetup_1 2 rfl rfl)
theorem dX6_parseSetup_28 : decode cX6_parseSetup 28 = .ok (.ifCond .ne 9, 3) := dk_154 0 9 (dk_at dksX6_parseSetup_1 5 rfl rfl)
theorem dX6_parseSetup_31 : decode cX6_parseSetup 31 = .ok (.aload_n 0, 1) := dk_42 (dk_at dksX6_parseSetup_1 8 rfl rfl)
theorem dX6_parseSetup_32 : decode cX6_parseSetup 32 = .ok (.iconst 1, 1) := dk_4 (dk_at dksX6_parseSetup_1 9 rfl rfl)
theorem dX6_parseSetup_33 : decode cX6_parseSetup 33 = .ok (.invokevirtual 187, 3) := dk_182 0 187 (dk_at dksX6_parseSetup_1 10 rfl rfl)
theorem dX6_parseSetup_36 : decode cX6_parseSetup 36 = .ok (.ireturn, 1) := dk_172 (dk_at dksX6_parseSetup_1 13 rfl rfl)
theorem dX6_parseSetup_37 : decode cX6_parseSetup 37 = .ok (.aload_n 0, 1) := dk_42 (dk_at dksX6_parseSetup_1 14 rfl rfl)
theorem dX6_parseSetup_38 : decode cX6_parseSetup 38 = .ok (.invokevirtual 184, 3) := dk_182 0 184 (dk_at dksX6_parseSetup_1 15 rfl rfl)
theorem dX6_parseSetup_41 : decode cX6_parseSetup 41 = .ok (.aload_n 0, 1) := dk_42 (dk_at dksX6_parseSetup_1 18 rfl rfl)
theorem dX6_parseSetup_42 : decode cX6_parseSetup 42 = .ok (.iconst 0, 1) := dk_3 (dk_at dksX6_parseSetup_1 19 rfl rfl)
theorem dX6_parseSetup_43 : decode cX6_parseSetup 43 = .ok (.iconst 1, 1) := dk_4 (dk_at dksX6_parseSetup_1 20 rfl rfl)
theorem dX6_parseSetup_44 : decode cX6_parseSetup 44 = .ok (.bipush 24, 2) := dk_16 24 (dk_at dksX6_parseSetup_1 21 rfl rfl)
theorem dX6_parseSetup_46 : decode cX6_parseSetup 46 = .ok (.invokevirtual 196, 3) := dk_182 0 196 (dk_at dksX6_parseSetup_2 0 rfl rfl)
theorem dX6_parseSetup_49 : decode cX6_parseSetup 49 = .ok (.ifCond .eq 10, 3) := dk_153 0 10 (dk_at dksX6_parseSetup_2 3 rfl rfl)
theorem dX6_parseSetup_52 : decode cX6_parseSetup 52 = .ok (.aload_n 0, 1) := dk_42 (dk_at dksX6_parseSetup_2 6 rfl rfl)
theorem dX6_parseSetup_53 : decode cX6_parseSetup 53 = .ok (.invokevirtual 199, 3) := dk_182 0 199 (dk_at dksX6_parseSetup_2 7 rfl rfl)
theorem dX6_parseSetup_56 : decode cX6_parseSetup 56 = .ok (.ifCond .ne 5, 3) := dk_154 0 5 (dk_at dksX6_parseSetup_2 10 rfl rfl)
theorem dX6_parseSetup_59 : decode cX6_parseSetup 59 = .ok (.iconst 0, 1) := dk_3 (dk_at dksX6_parseSetup_2 13 rfl rfl)
theorem dX6_parseSetup_60 : decode cX6_parseSetup 60 = .ok (.ireturn, 1) := dk_172 (dk_at dksX6_parseSetup_2 14 rfl rfl)
theorem dX6_parseSetup_61 : decode cX6_parseSetup 61 = .ok (.aload_n 0, 1) := dk_42 (dk_at dksX6_parseSetup_2 15 rfl rfl)
theorem dX6_parseSetup_62 : decode cX6_parseSetup 62 = .ok (.invokevirtual 144, 3) := dk_182 0 144 (dk_at dksX6_parseSetup_2 16 rfl rfl)
theorem dX6_parseSetup_65 : decode cX6_parseSetup 65 = .ok (.aload_n 0, 1) := dk_42 (dk_at dksX6_parseSetup_2 19 rfl rfl)
theorem dX6_parseSetup_66 : decode cX6_parseSetup 66 = .ok (.ldc 208, 2) := dk_18 208 (dk_at dksX6_parseSetup_2 20 rfl rfl)
theorem dX6_parseSetup_68 : decode cX6_parseSetup 68 = .ok (.invokevirtual 204, 3) := dk_182 0 204 (dk_at dksX6_parseSetup_3 0 rfl rfl)
theorem dX6_parseSetup_71 : decode cX6_parseSetup 71 = .ok (.ifCond .ne 9, 3) := dk_154 0 9 (dk_at dksX6_parseSetup_3 3 rfl rfl)
theorem dX6_parseSetup_74 : decode cX6_parseSetup 74 = .ok (.aload_n 0, 1) := dk_42 (dk_at dksX6_parseSetup_3 6 rfl rfl)
theorem dX6_parseSetup_75 : decode cX6_parseSetup 75 = .ok (.iconst 1, 1) := dk_4 (dk_at dksX6_parseSetup_3 7 rfl rfl)
theorem dX6_parseSetup_76 : decode cX6_parseSetup 76 = .ok (.invokevirtual 187, 3) := dk_182 0 187 (dk_at dksX6_parseSetup_3 8 rfl rfl)
theorem dX6_parseSetup_79 : decode cX6_parseSetup 79 = .ok (.ireturn, 1) := dk_172 (dk_at dksX6_parseSetup_3 11 rfl rfl)
theorem dX6_parseSetup_80 : decode cX6_parseSetup 80 = .ok (.aload_n 0, 1) := dk_42 (dk_at dksX6_parseSetup_3 12 rfl rfl)
theorem dX6_parseSetup_81 : decode cX6_parseSetup 81 = .ok (.ldc 208, 2) := dk_18 208 (dk_at dksX6_parseSetup_3 13 rfl rfl)
theorem dX6_parseSetup_83 : decode cX6_parseSetup 83 = .ok (.invokevirtual 204, 3) := dk_182 0 204 (dk_at dksX6_parseSetup_3 15 rfl rfl)
theorem dX6_parseSetup_86 : decode cX6_parseSetup 86 = .ok (.ifCond .eq 12, 3) := dk_153 0 12 (dk_at dksX6_parseSetup_3 18 rfl rfl)
theorem dX6_parseSetup_89 : decode cX6_parseSetup 89 = .ok (.aload_n 0, 1) := dk_42 (dk_at dksX6_parseSetup_3 21 rfl rfl)
theorem dX6_parseSetup_90 : decode cX6_parseSetup 90 = .ok (.invokevirtual 210, 3) := dk_182 0 210 (dk_at dksX6_parseSetup_4 0 rfl rfl)
theorem dX6_parseSetup_93 : decode cX6_parseSetup 93 = .ok (.ifCond .ne (-13), 3) := dk_154 255 243 (dk_at dksX6_parseSetup_4 3 rfl rfl)
theorem dX6_parseSetup_96 : decode cX6_parseSetup 96 = .ok (.iconst 0, 1) := dk_3 (dk_at dksX6_parseSetup_4 6 rfl rfl)
theorem dX6_parseSetup_97 : decode cX6_parseSetup 97 = .ok (.ireturn, 1) := dk_172 (dk_at dksX6_parseSetup_4 7 rfl rfl)
theorem dX6_parseSetup_98 : decode cX6_parseSetup 98 = .ok (.aload_n 0, 1) := dk_42 (dk_at dksX6_parseSetup_4 8 rfl rfl)
theorem dX6_parseSetup_99 : decode cX6_parseSetup 99 = .ok (.getfield 60, 3) := dk_180 0 60 (dk_at dksX6_parseSetup_4 9 rfl rfl)
theorem dX6_parseSetup_102 : decode cX6_parseSetup 102 = .ok (.ifCond .eq 11, 3) := dk_153 0 11 (dk_at dksX6_parseSetup_4 12 rfl rfl)
theorem dX6_parseSetup_105 : decode cX6_parseSetup 105 = .ok (.aload_n 0, 1) := dk_42 (dk_at dksX6_parseSetup_4 15 rfl rfl)
theorem dX6_parseSetup_106 : decode cX6_parseSetup 106 = .ok (.iconst 1, 1) := dk_4 (dk_at dksX6_parseSetup_4 16 rfl rfl)
theorem dX6_parseSetup_107 : decode cX6_parseSetup 107 = .ok (.invokevirtual 187, 3) := dk_182 0 187 (dk_at dksX6_parseSetup_4 17 rfl rfl)
theorem dX6_parseSetup_110 : decode cX6_parseSetup 110 = .ok (.ifCond .eq 7, 3) := dk_153 0 7 (dk_at dksX6_parseSetup_4 20 rfl rfl)
theorem dX6_parseSetup_113 : decode cX6_parseSetup 113 = .ok (.iconst 1, 1) := dk_4 (dk_at dksX6_parseSetup_4 23 rfl rfl)
theorem dX6_parseSetup_114 : decode cX6_parseSetup 114 = .ok (.goto 4, 3) := dk_167 0 4 (dk_at dksX6_parseSetup_5 0 rfl rfl)
theorem dX6_parseSetup_117 : decode cX6_parseSetup 117 = .ok (.iconst 0, 1) := dk_3 (dk_at dksX6_parseSetup_5 3 rfl rfl)
theorem dX6_parseSetup_118 : decode cX6_parseSetup 118 = .ok (.ireturn, 1) := dk_172 (dk_at dksX6_parseSetup_5 4 rfl rfl)
abbrev cX6_isWord : ByteArray := prog_9_method_51_code
def yX6_isWord : MethodName := ⟨RX6, "isWord", "(Ljava/lang/String;)Z"⟩
def dkwX6_isWord_2 : List UInt8 := [28, 182, 0, 79, 159, 0, 5, 3, 172, 132, 2, 1, 167, 255, 224, 4, 172]
abbrev dktX6_isWord_2 : List UInt8 := dkwX6_isWord_2 ++ []
def dkwX6_isWord_1 : List UInt8 := [3, 172, 3, 61, 28, 43, 182, 0, 74, 162, 0, 30, 42, 180, 0, 24, 42, 180, 0, 63, 28, 96, 46, 43]
abbrev dktX6_isWord_1 : List UInt8 := dkwX6_isWord_1 ++ dktX6_isWord_2
def dkwX6_isWord_0 : List UInt8 := [42, 180, 0, 60, 4, 160, 0, 19, 42, 180, 0, 57, 42, 180, 0, 63, 100, 43, 182, 0, 74, 159, 0, 5]
abbrev dktX6_isWord_0 : List UInt8 := dkwX6_isWord_0 ++ dktX6_isWord_1
theorem dksX6_isWord_0 : cX6_isWord.data.toList.drop 0 = dktX6_isWord_0 := by decide +kernel
theorem dksX6_isWord_1 : cX6_isWord.data.toList.drop 24 = dktX6_isWord_1 := dk_seg dksX6_isWord_0 24 rfl rfl
theorem dksX6_isWord_2 : cX6_isWord.data.toList.drop 48 = dktX6_isWord_2 := dk_seg dksX6_isWord_1 24 rfl rfl
theorem dX6_isWord_0 : decode cX6_isWord 0 = .ok (.aload_n 0, 1) := dk_42 (dk_at dksX6_isWord_0 0 rfl rfl)
theorem dX6_isWord_1 : decode cX6_isWord 1 = .ok (.getfield 60, 3) := dk_180 0 60 (dk_at dksX6_isWord_0 1 rfl rfl)
theorem dX6_isWord_4 : decode cX6_isWord 4 = .ok (.iconst 1, 1) := dk_4 (dk_at dksX6_isWord_0 4 rfl rfl)
theorem dX6_isWord_5 : decode cX6_isWord 5 = .ok (.if_icmp .ne 19, 3) := dk_160 0 19 (dk_at dksX6_isWord_0 5 rfl rfl)
theorem dX6_isWord_8 : decode cX6_isWord 8 = .ok (.aload_n 0, 1) := dk_42 (dk_at dksX6_isWord_0 8 rfl rfl)
theorem dX6_isWord_9 : decode cX6_isWord 9 = .ok (.getfield 57, 3) := dk_180 0 57 (dk_at dksX6_isWord_0 9 rfl rfl)
theorem dX6_isWord_12 : decode cX6_isWord 12 = .ok (.aload_n 0, 1) := dk_42 (dk_at dksX6_isWord_0 12 rfl rfl)
theorem dX6_isWord_13 : decode cX6_isWord 13 = .ok (.getfield 63, 3) := dk_180 0 63 (dk_at dksX6_isWord_0 13 rfl rfl)
theorem dX6_isWord_16 : decode cX6_isWord 16 = .ok (.isub, 1) := dk_100 (dk_at dksX6_isWord_0 16 rfl rfl)
theorem dX6_isWord_17 : decode cX6_isWord 17 = .ok (.aload_n 1, 1) := dk_43 (dk_at dksX6_isWord_0 17 rfl rfl)
theorem dX6_isWord_18 : decode cX6_isWord 18 = .ok (.invokevirtual 74, 3) := dk_182 0 74 (dk_at dksX6_isWord_0 18 rfl rfl)
theorem dX6_isWord_21 : decode cX6_isWord 21 = .ok (.if_icmp .eq 5, 3) := dk_159 0 5 (dk_at dksX6_isWord_0 21 rfl rfl)
theorem dX6_isWord_24 : decode cX6_isWord 24 = .ok (.iconst 0, 1) := dk_3 (dk_at dksX6_isWord_1 0 rfl rfl)
theorem dX6_isWord_25 : decode cX6_isWord 25 = .ok (.ireturn, 1) := dk_172 (dk_at dksX6_isWord_1 1 rfl rfl)
theorem dX6_isWord_26 : decode cX6_isWord 26 = .ok (.iconst 0, 1) := dk_3 (dk_at dksX6_isWord_1 2 rfl rfl)
theorem dX6_isWord_27 : decode cX6_isWord 27 = .ok (.istore_n 2, 1) := dk_61 (dk_at dksX6_isWord_1 3 rfl rfl)
theorem dX6_isWord_28 : decode cX6_isWord 28 = .ok (.iload_n 2, 1) := dk_28 (dk_at dksX6_isWord_1 4 rfl rfl)
theorem dX6_isWord_29 : decode cX6_isWord 29 = .ok (.aload_n 1, 1) := dk_43 (dk_at dksX6_isWord_1 5 rfl rfl)
theorem dX6_isWord_30 : decode cX6_isWord 30 = .ok (.invokevirtual 74, 3) := dk_182 0 74 (dk_at dksX6_isWord_1 6 rfl rfl)
theorem dX6_isWord_33 : decode cX6_isWord 33 = .ok (.if_icmp .ge 30, 3) := dk_162 0 30 (dk_at dksX6_isWord_1 9 rfl rfl)
theorem dX6_isWord_36 : decode cX6_isWord 36 = .ok (.aload_n 0, 1) := dk_42 (dk_at dksX6_isWord_1 12 rfl rfl)
theorem dX6_isWord_37 : decode cX6_isWord 37 = .ok (.getfield 24, 3) := dk_180 0 24 (dk_at dksX6_isWord_1 13 rfl rfl)
theorem dX6_isWord_40 : decode cX6_isWord 40 = .ok (.aload_n 0, 1) := dk_42 (dk_at dksX6_isWord_1 16 rfl rfl)
theorem dX6_isWord_41 : decode cX6_isWord 41 = .ok (.getfield 63, 3) := dk_180 0 63 (dk_at dksX6_isWord_1 17 rfl rfl)
theorem dX6_isWord_44 : decode cX6_isWord 44 = .ok (.iload_n 2, 1) := dk_28 (dk_at dksX6_isWord_1 20 rfl rfl)
theorem dX6_isWord_45 : decode cX6_isWord 45 = .ok (.iadd, 1) := dk_96 (dk_at dksX6_isWord_1 21 rfl rfl)
theorem dX6_isWord_46 : decode cX6_isWord 46 = .ok (.iaload, 1) := dk_46 (dk_at dksX6_isWord_1 22 rfl rfl)
theorem dX6_isWord_47 : decode cX6_isWord 47 = .ok (.aload_n 1, 1) := dk_43 (dk_at dksX6_isWord_1 23 rfl rfl)
theorem dX6_isWord_48 : decode cX6_isWord 48 = .ok (.iload_n 2, 1) := dk_28 (dk_at dksX6_isWord_2 0 rfl rfl)
theorem dX6_isWord_49 : decode cX6_isWord 49 = .ok (.invokevirtual 79, 3) := dk_182 0 79 (dk_at dksX6_isWord_2 1 rfl rfl)
theorem dX6_isWord_52 : decode cX6_isWord 52 = .ok (.if_icmp .eq 5, 3) := dk_159 0 5 (dk_at dksX6_isWord_2 4 rfl rfl)
theorem dX6_isWord_55 : decode cX6_isWord 55 = .ok (.iconst 0, 1) := dk_3 (dk_at dksX6_isWord_2 7 rfl rfl)
theorem dX6_isWord_56 : decode cX6_isWord 56 = .ok (.ireturn, 1) := dk_172 (dk_at dksX6_isWord_2 8 rfl rfl)
theorem dX6_isWord_57 : decode cX6_isWord 57 = .ok (.iinc 2 1, 3) := dk_132 2 1 (dk_at dksX6_isWord_2 9 rfl rfl)
theorem dX6_isWord_60 : decode cX6_isWord 60 = .ok (.goto (-32), 3) := dk_167 255 224 (dk_at dksX6_isWord_2 12 rfl rfl)
theorem dX6_isWord_63 : decode cX6_isWord 63 = .ok (.iconst 1, 1) := dk_4 (dk_at dksX6_isWord_2 15 rfl rfl)
theorem dX6_isWord_64 : decode cX6_isWord 64 = .ok (.ireturn, 1) := dk_172 (dk_at dksX6_isWord_2 16 rfl rfl)
abbrev cX6_wrong : ByteArray := prog_9_method_50_code
def yX6_wrong : MethodName := ⟨RX6, "wrong", "(I)Z"⟩
def dkwX6_wrong_0 : List UInt8 := [42, 27, 181, 0, 30, 42, 42, 180, 0, 63, 181, 0, 33, 3, 172]
abbrev dktX6_wrong_0 : List UInt8 := dkwX6_wrong_0 ++ []
theorem dksX6_wrong_0 : cX6_wrong.data.toList.drop 0 = dktX6_wrong_0 := by decide +kernel
theorem dX6_wrong_0 : decode cX6_wrong 0 = .ok (.aload_n 0, 1) := dk_42 (dk_at dksX6_wrong_0 0 rfl rfl)
theorem dX6_wrong_1 : decode cX6_wrong 1 = .ok (.iload_n 1, 1) := dk_27 (dk_at dksX6_wrong_0 1 rfl rfl)
theorem dX6_wrong_2 : decode cX6_wrong 2 = .ok (.putfield 30, 3) := dk_181 0 30 (dk_at dksX6_wrong_0 2 rfl rfl)
theorem dX6_wrong_5 : decode cX6_wrong 5 = .ok (.aload_n 0, 1) := dk_42 (dk_at dksX6_wrong_0 5 rfl rfl)
theorem dX6_wrong_6 : decode cX6_wrong 6 = .ok (.aload_n 0, 1) := dk_42 (dk_at dksX6_wrong_0 6 rfl rfl)
theorem dX6_wrong_7 : decode cX6_wrong 7 = .ok (.getfield 63, 3) := dk_180 0 63 (dk_at dksX6_wrong_0 7 rfl rfl)
theorem dX6_wrong_10 : decode cX6_wrong 10 = .ok (.putfield 33, 3) := dk_181 0 33 (dk_at dksX6_wrong_0 10 rfl rfl)
theorem dX6_wrong_13 : decode cX6_wrong 13 = .ok (.iconst 0, 1) := dk_3 (dk_at dksX6_wrong_0 13 rfl rfl)
theorem dX6_wrong_14 : decode cX6_wrong 14 = .ok (.ireturn, 1) := dk_172 (dk_at dksX6_wrong_0 14 rfl rfl)
abbrev cX6_parseRanged : ByteArray := prog_9_method_55_code
def yX6_parseRanged : MethodName := ⟨RX6, "parseRanged", "(III)Z"⟩
def dkwX6_parseRanged_2 : List UInt8 := [172]
abbrev dktX6_parseRanged_2 : List UInt8 := dkwX6_parseRanged_2 ++ []
def dkwX6_parseRanged_1 : List UInt8 := [154, 0, 9, 42, 5, 182, 0, 187, 172, 42, 180, 0, 13, 27, 42, 180, 0, 66, 79, 42, 182, 0, 184, 4]
abbrev dktX6_parseRanged_1 : List UInt8 := dkwX6_parseRanged_1 ++ dktX6_parseRanged_2
def dkwX6_parseRanged_0 : List UInt8 := [42, 180, 0, 60, 5, 159, 0, 9, 42, 4, 182, 0, 187, 172, 42, 180, 0, 66, 28, 29, 184, 0, 90]
abbrev dktX6_parseRanged_0 : List UInt8 := dkwX6_parseRanged_0 ++ dktX6_parseRanged_1
theorem dksX6_parseRanged_0 : cX6_parseRanged.data.toList.drop 0 = dktX6_parseRanged_0 := by decide +kernel
theorem dksX6_parseRanged_1 : cX6_parseRanged.data.toList.drop 23 = dktX6_parseRanged_1 := dk_seg dksX6_parseRanged_0 23 rfl rfl
theorem dksX6_parseRanged_2 : cX6_parseRanged.data.toList.drop 47 = dktX6_parseRanged_2 := dk_seg dksX6_parseRanged_1 24 rfl rfl
theorem dX6_parseRanged_0 : decode cX6_parseRanged 0 = .ok (.aload_n 0, 1) := dk_42 (dk_at dksX6_parseRanged_0 0 rfl rfl)
theorem dX6_parseRanged_1 : decode cX6_parseRanged 1 = .ok (.getfield 60, 3) := dk_180 0 60 (dk_at dksX6_parseRanged_0 1 rfl rfl)
theorem dX6_parseRanged_4 : decode cX6_parseRanged 4 = .ok (.iconst 2, 1) := dk_5 (dk_at dksX6_parseRanged_0 4 rfl rfl)
theorem dX6_parseRanged_5 : decode cX6_parseRanged 5 = .ok (.if_icmp .eq 9, 3) := dk_159 0 9 (dk_at dksX6_parseRanged_0 5 rfl rfl)
theorem dX6_parseRanged_8 : decode cX6_parseRanged 8 = .ok (.aload_n 0, 1) := dk_42 (dk_at dksX6_parseRanged_0 8 rfl rfl)
theorem dX6_parseRanged_9 : decode cX6_parseRanged 9 = .ok (.iconst 1, 1) := dk_4 (dk_at dksX6_parseRanged_0 9 rfl rfl)
theorem dX6_parseRanged_10 : decode cX6_parseRanged 10 = .ok (.invokevirtual 187, 3) := dk_182 0 187 (dk_at dksX6_parseRanged_0 10 rfl rfl)
theorem dX6_parseRanged_13 : decode cX6_parseRanged 13 = .ok (.ireturn, 1) := dk_172 (dk_at dksX6_parseRanged_0 13 rfl rfl)
theorem dX6_parseRanged_14 : decode cX6_parseRanged 14 = .ok (.aload_n 0, 1) := dk_42 (dk_at dksX6_parseRanged_0 14 rfl rfl)
theorem dX6_parseRanged_15 : decode cX6_parseRanged 15 = .ok (.getfield 66, 3) := dk_180 0 66 (dk_at dksX6_parseRanged_0 15 rfl rfl)
theorem dX6_parseRanged_18 : decode cX6_parseRanged 18 = .ok (.iload_n 2, 1) := dk_28 (dk_at dksX6_parseRanged_0 18 rfl rfl)
theorem dX6_parseRanged_19 : decode cX6_parseRanged 19 = .ok (.iload_n 3, 1) := dk_29 (dk_at dksX6_parseRanged_0 19 rfl rfl)
theorem dX6_parseRanged_20 : decode cX6_parseRanged 20 = .ok (.invokestatic 90, 3) := dk_184 0 90 (dk_at dksX6_parseRanged_0 20 rfl rfl)
theorem dX6_parseRanged_23 : decode cX6_parseRanged 23 = .ok (.ifCond .ne 9, 3) := dk_154 0 9 (dk_at dksX6_parseRanged_1 0 rfl rfl)
theorem dX6_parseRanged_26 : decode cX6_parseRanged 26 = .ok (.aload_n 0, 1) := dk_42 (dk_at dksX6_parseRanged_1 3 rfl rfl)
theorem dX6_parseRanged_27 : decode cX6_parseRanged 27 = .ok (.iconst 2, 1) := dk_5 (dk_at dksX6_parseRanged_1 4 rfl rfl)
theorem dX6_parseRanged_28 : decode cX6_parseRanged 28 = .ok (.invokevirtual 187, 3) := dk_182 0 187 (dk_at dksX6_parseRanged_1 5 rfl rfl)
theorem dX6_parseRanged_31 : decode cX6_parseRanged 31 = .ok (.ireturn, 1) := dk_172 (dk_at dksX6_parseRanged_1 8 rfl rfl)
theorem dX6_parseRanged_32 : decode cX6_parseRanged 32 = .ok (.aload_n 0, 1) := dk_42 (dk_at dksX6_parseRanged_1 9 rfl rfl)
theorem dX6_parseRanged_33 : decode cX6_parseRanged 33 = .ok (.getfield 13, 3) := dk_180 0 13 (dk_at dksX6_parseRanged_1 10 rfl rfl)
theorem dX6_parseRanged_36 : decode cX6_parseRanged 36 = .ok (.iload_n 1, 1) := dk_27 (dk_at dksX6_parseRanged_1 13 rfl rfl)
theorem dX6_parseRanged_37 : decode cX6_parseRanged 37 = .ok (.aload_n 0, 1) := dk_42 (dk_at dksX6_parseRanged_1 14 rfl rfl)
theorem dX6_parseRanged_38 : decode cX6_parseRanged 38 = .ok (.getfield 66, 3) := dk_180 0 66 (dk_at dksX6_parseRanged_1 15 rfl rfl)
theorem dX6_parseRanged_41 : decode cX6_parseRanged 41 = .ok (.iastore, 1) := dk_79 (dk_at dksX6_parseRanged_1 18 rfl rfl)
theorem dX6_parseRanged_42 : decode cX6_parseRanged 42 = .ok (.aload_n 0, 1) := dk_42 (dk_at dksX6_parseRanged_1 19 rfl rfl)
theorem dX6_parseRanged_43 : decode cX6_parseRanged 43 = .ok (.invokevirtual 184, 3) := dk_182 0 184 (dk_at dksX6_parseRanged_1 20 rfl rfl)
theorem dX6_parseRanged_46 : decode cX6_parseRanged 46 = .ok (.iconst 1, 1) := dk_4 (dk_at dksX6_parseRanged_1 23 rfl rfl)
theorem dX6_parseRanged_47 : decode cX6_parseRanged 47 = .ok (.ireturn, 1) := dk_172 (dk_at dksX6_parseRanged_2 0 rfl rfl)
abbrev cX6_in : ByteArray := prog_9_method_4_code
def yX6_in : MethodName := ⟨RX6, "in", "(III)Z"⟩
def dkwX6_in_0 : List UInt8 := [26, 27, 161, 0, 12, 26, 28, 163, 0, 7, 4, 167, 0, 4, 3, 172]
abbrev dktX6_in_0 : List UInt8 := dkwX6_in_0 ++ []
theorem dksX6_in_0 : cX6_in.data.toList.drop 0 = dktX6_in_0 := by decide +kernel
theorem dX6_in_0 : decode cX6_in 0 = .ok (.iload_n 0, 1) := dk_26 (dk_at dksX6_in_0 0 rfl rfl)
theorem dX6_in_1 : decode cX6_in 1 = .ok (.iload_n 1, 1) := dk_27 (dk_at dksX6_in_0 1 rfl rfl)
theorem dX6_in_2 : decode cX6_in 2 = .ok (.if_icmp .lt 12, 3) := dk_161 0 12 (dk_at dksX6_in_0 2 rfl rfl)
theorem dX6_in_5 : decode cX6_in 5 = .ok (.iload_n 0, 1) := dk_26 (dk_at dksX6_in_0 5 rfl rfl)
theorem dX6_in_6 : decode cX6_in 6 = .ok (.iload_n 2, 1) := dk_28 (dk_at dksX6_in_0 6 rfl rfl)
theorem dX6_in_7 : decode cX6_in 7 = .ok (.if_icmp .gt 7, 3) := dk_163 0 7 (dk_at dksX6_in_0 7 rfl rfl)
theorem dX6_in_10 : decode cX6_in 10 = .ok (.iconst 1, 1) := dk_4 (dk_at dksX6_in_0 10 rfl rfl)
theorem dX6_in_11 : decode cX6_in 11 = .ok (.goto 4, 3) := dk_167 0 4 (dk_at dksX6_in_0 11 rfl rfl)
theorem dX6_in_14 : decode cX6_in 14 = .ok (.iconst 0, 1) := dk_3 (dk_at dksX6_in_0 14 rfl rfl)
theorem dX6_in_15 : decode cX6_in 15 = .ok (.ireturn, 1) := dk_172 (dk_at dksX6_in_0 15 rfl rfl)
abbrev cX6_semicolon : ByteArray := prog_9_method_52_code
def yX6_semicolon : MethodName := ⟨RX6, "semicolon", "()Z"⟩
def dkwX6_semicolon_0 : List UInt8 := [42, 180, 0, 60, 6, 159, 0, 9, 42, 4, 182, 0, 187, 172, 42, 182, 0, 184, 4, 172]
abbrev dktX6_semicolon_0 : List UInt8 := dkwX6_semicolon_0 ++ []
theorem dksX6_semicolon_0 : cX6_semicolon.data.toList.drop 0 = dktX6_semicolon_0 := by decide +kernel
theorem dX6_semicolon_0 : decode cX6_semicolon 0 = .ok (.aload_n 0, 1) := dk_42 (dk_at dksX6_semicolon_0 0 rfl rfl)
theorem dX6_semicolon_1 : decode cX6_semicolon 1 = .ok (.getfield 60, 3) := dk_180 0 60 (dk_at dksX6_semicolon_0 1 rfl rfl)
theorem dX6_semicolon_4 : decode cX6_semicolon 4 = .ok (.iconst 3, 1) := dk_6 (dk_at dksX6_semicolon_0 4 rfl rfl)
theorem dX6_semicolon_5 : decode cX6_semicolon 5 = .ok (.if_icmp .eq 9, 3) := dk_159 0 9 (dk_at dksX6_semicolon_0 5 rfl rfl)
theorem dX6_semicolon_8 : decode cX6_semicolon 8 = .ok (.aload_n 0, 1) := dk_42 (dk_at dksX6_semicolon_0 8 rfl rfl)
theorem dX6_semicolon_9 : decode cX6_semicolon 9 = .ok (.iconst 1, 1) := dk_4 (dk_at dksX6_semicolon_0 9 rfl rfl)
theorem dX6_semicolon_10 : decode cX6_semicolon 10 = .ok (.invokevirtual 187, 3) := dk_182 0 187 (dk_at dksX6_semicolon_0 10 rfl rfl)
theorem dX6_semicolon_13 : decode cX6_semicolon 13 = .ok (.ireturn, 1) := dk_172 (dk_at dksX6_semicolon_0 13 rfl rfl)
theorem dX6_semicolon_14 : decode cX6_semicolon 14 = .ok (.aload_n 0, 1) := dk_42 (dk_at dksX6_semicolon_0 14 rfl rfl)
theorem dX6_semicolon_15 : decode cX6_semicolon 15 = .ok (.invokevirtual 184, 3) := dk_182 0 184 (dk_at dksX6_semicolon_0 15 rfl rfl)
theorem dX6_semicolon_18 : decode cX6_semicolon 18 = .ok (.iconst 1, 1) := dk_4 (dk_at dksX6_semicolon_0 18 rfl rfl)
theorem dX6_semicolon_19 : decode cX6_semicolon 19 = .ok (.ireturn, 1) := dk_172 (dk_at dksX6_semicolon_0 19 rfl rfl)
abbrev cX6_clear : ByteArray := prog_9_method_28_code
def yX6_clear : MethodName := ⟨RX6, "clear", "()V"⟩
def dkwX6_clear_1 : List UInt8 := [167, 255, 234, 177]
abbrev dktX6_clear_1 : List UInt8 := dkwX6_clear_1 ++ []
def dkwX6_clear_0 : List UInt8 := [3, 60, 27, 42, 180, 0, 13, 3, 46, 162, 0, 18, 42, 180, 0, 13, 5, 27, 96, 2, 79, 132, 1, 1]
abbrev dktX6_clear_0 : List UInt8 := dkwX6_clear_0 ++ dktX6_clear_1
theorem dksX6_clear_0 : cX6_clear.data.toList.drop 0 = dktX6_clear_0 := by decide +kernel
theorem dksX6_clear_1 : cX6_clear.data.toList.drop 24 = dktX6_clear_1 := dk_seg dksX6_clear_0 24 rfl rfl
theorem dX6_clear_0 : decode cX6_clear 0 = .ok (.iconst 0, 1) := dk_3 (dk_at dksX6_clear_0 0 rfl rfl)
theorem dX6_clear_1 : decode cX6_clear 1 = .ok (.istore_n 1, 1) := dk_60 (dk_at dksX6_clear_0 1 rfl rfl)
theorem dX6_clear_2 : decode cX6_clear 2 = .ok (.iload_n 1, 1) := dk_27 (dk_at dksX6_clear_0 2 rfl rfl)
theorem dX6_clear_3 : decode cX6_clear 3 = .ok (.aload_n 0, 1) := dk_42 (dk_at dksX6_clear_0 3 rfl rfl)
theorem dX6_clear_4 : decode cX6_clear 4 = .ok (.getfield 13, 3) := dk_180 0 13 (dk_at dksX6_clear_0 4 rfl rfl)
theorem dX6_clear_7 : decode cX6_clear 7 = .ok (.iconst 0, 1) := dk_3 (dk_at dksX6_clear_0 7 rfl rfl)
theorem dX6_clear_8 : decode cX6_clear 8 = .ok (.iaload, 1) := dk_46 (dk_at dksX6_clear_0 8 rfl rfl)
theorem dX6_clear_9 : decode cX6_clear 9 = .ok (.if_icmp .ge 18, 3) := dk_162 0 18 (dk_at dksX6_clear_0 9 rfl rfl)
theorem dX6_clear_12 : decode cX6_clear 12 = .ok (.aload_n 0, 1) := dk_42 (dk_at dksX6_clear_0 12 rfl rfl)
theorem dX6_clear_13 : decode cX6_clear 13 = .ok (.getfield 13, 3) := dk_180 0 13 (dk_at dksX6_clear_0 13 rfl rfl)
theorem dX6_clear_16 : decode cX6_clear 16 = .ok (.iconst 2, 1) := dk_5 (dk_at dksX6_clear_0 16 rfl rfl)
theorem dX6_clear_17 : decode cX6_clear 17 = .ok (.iload_n 1, 1) := dk_27 (dk_at dksX6_clear_0 17 rfl rfl)
theorem dX6_clear_18 : decode cX6_clear 18 = .ok (.iadd, 1) := dk_96 (dk_at dksX6_clear_0 18 rfl rfl)
theorem dX6_clear_19 : decode cX6_clear 19 = .ok (.iconst (-1), 1) := dk_2 (dk_at dksX6_clear_0 19 rfl rfl)
theorem dX6_clear_20 : decode cX6_clear 20 = .ok (.iastore, 1) := dk_79 (dk_at dksX6_clear_0 20 rfl rfl)
theorem dX6_clear_21 : decode cX6_clear 21 = .ok (.iinc 1 1, 3) := dk_132 1 1 (dk_at dksX6_clear_0 21 rfl rfl)
theorem dX6_clear_24 : decode cX6_clear 24 = .ok (.goto (-22), 3) := dk_167 255 234 (dk_at dksX6_clear_1 0 rfl rfl)
theorem dX6_clear_27 : decode cX6_clear 27 = .ok (.return_, 1) := dk_177 (dk_at dksX6_clear_1 3 rfl rfl)
abbrev cX6_parseNewSibling : ByteArray := prog_9_method_56_code
def yX6_parseNewSibling : MethodName := ⟨RX6, "parseNewSibling", "()Z"⟩
def dkwX6_parseNewSibling_7 : List UInt8 := [167, 255, 225, 42, 182, 0, 199, 154, 0, 5, 3, 172, 42, 180, 0, 13, 4, 92, 46, 4, 96, 79, 4, 172]
abbrev dktX6_parseNewSibling_7 : List UInt8 := dkwX6_parseNewSibling_7 ++ []
def dkwX6_parseNewSibling_6 : List UInt8 := [162, 0, 27, 42, 27, 16, 7, 96, 28, 96, 3, 16, 9, 182, 0, 196, 154, 0, 5, 3, 172, 132, 2, 1]
abbrev dktX6_parseNewSibling_6 : List UInt8 := dkwX6_parseNewSibling_6 ++ dktX6_parseNewSibling_7
def dkwX6_parseNewSibling_5 : List UInt8 := [28, 46, 79, 132, 2, 1, 167, 255, 224, 42, 182, 0, 184, 3, 61, 28, 42, 180, 0, 13, 3, 46]
abbrev dktX6_parseNewSibling_5 : List UInt8 := dkwX6_parseNewSibling_5 ++ dktX6_parseNewSibling_6
def dkwX6_parseNewSibling_4 : List UInt8 := [180, 0, 57, 162, 0, 30, 42, 180, 0, 13, 27, 4, 96, 28, 96, 42, 180, 0, 63, 100, 42, 180, 0, 24]
abbrev dktX6_parseNewSibling_4 : List UInt8 := dkwX6_parseNewSibling_4 ++ dktX6_parseNewSibling_5
def dkwX6_parseNewSibling_3 : List UInt8 := [96, 60, 42, 180, 0, 13, 27, 42, 180, 0, 57, 42, 180, 0, 63, 100, 79, 42, 180, 0, 63, 61, 28, 42]
abbrev dktX6_parseNewSibling_3 : List UInt8 := dkwX6_parseNewSibling_3 ++ dktX6_parseNewSibling_4
def dkwX6_parseNewSibling_2 : List UInt8 := [182, 0, 193, 2, 159, 0, 9, 42, 6, 182, 0, 187, 172, 16, 26, 42, 180, 0, 13, 4, 46, 16, 31, 104]
abbrev dktX6_parseNewSibling_2 : List UInt8 := dkwX6_parseNewSibling_2 ++ dktX6_parseNewSibling_3
def dkwX6_parseNewSibling_1 : List UInt8 := [182, 0, 190, 154, 0, 5, 3, 172, 42, 42, 180, 0, 63, 42, 180, 0, 57, 42, 180, 0, 63, 100]
abbrev dktX6_parseNewSibling_1 : List UInt8 := dkwX6_parseNewSibling_1 ++ dktX6_parseNewSibling_2
def dkwX6_parseNewSibling_0 : List UInt8 := [42, 180, 0, 13, 4, 46, 16, 6, 160, 0, 9, 42, 7, 182, 0, 187, 172, 42, 182, 0, 184, 42]
abbrev dktX6_parseNewSibling_0 : List UInt8 := dkwX6_parseNewSibling_0 ++ dktX6_parseNewSibling_1
theorem dksX6_parseNewSibling_0 : cX6_parseNewSibling.data.toList.drop 0 = dktX6_parseNewSibling_0 := by decide +kernel
theorem dksX6_parseNewSibling_1 : cX6_parseNewSibling.data.toList.drop 22 = dktX6_parseNewSibling_1 := dk_seg dksX6_parseNewSibling_0 22 rfl rfl
theorem dksX6_parseNewSibling_2 : cX6_parseNewSibling.data.toList.drop 44 = dktX6_parseNewSibling_2 := dk_seg dksX6_parseNewSibling_1 22 rfl rfl
theorem dksX6_parseNewSibling_3 : cX6_parseNewSibling.data.toList.drop 68 = dktX6_parseNewSibling_3 := dk_seg dksX6_parseNewSibling_2 24 rfl rfl
theorem dksX6_parseNewSibling_4 : cX6_parseNewSibling.data.toList.drop 92 = dktX6_parseNewSibling_4 := dk_seg dksX6_parseNewSibling_3 24 rfl rfl
theorem dksX6_parseNewSibling_5 : cX6_parseNewSibling.data.toList.drop 116 = dktX6_parseNewSibling_5 := dk_seg dksX6_parseNewSibling_4 24 rfl rfl
theorem dksX6_parseNewSibling_6 : cX6_parseNewSibling.data.toList.drop 138 = dktX6_parseNewSibling_6 := dk_seg dksX6_parseNewSibling_5 22 rfl rfl
theorem dksX6_parseNewSibling_7 : cX6_parseNewSibling.data.toList.drop 162 = dktX6_parseNewSibling_7 := dk_seg dksX6_parseNewSibling_6 24 rfl rfl
theorem dX6_parseNewSibling_0 : decode cX6_parseNewSibling 0 = .ok (.aload_n 0, 1) := dk_42 (dk_at dksX6_parseNewSibling_0 0 rfl rfl)
theorem dX6_parseNewSibling_1 : decode cX6_parseNewSibling 1 = .ok (.getfield 13, 3) := dk_180 0 13 (dk_at dksX6_parseNewSibling_0 1 rfl rfl)
theorem dX6_parseNewSibling_4 : decode cX6_parseNewSibling 4 = .ok (.iconst 1, 1) := dk_4 (dk_at dksX6_parseNewSibling_0 4 rfl rfl)
theorem dX6_parseNewSibling_5 : decode cX6_parseNewSibling 5 = .ok (.iaload, 1) := dk_46 (dk_at dksX6_parseNewSibling_0 5 rfl rfl)
theorem dX6_parseNewSibling_6 : decode cX6_parseNewSibling 6 = .ok (.bipush 6, 2) := dk_16 6 (dk_at dksX6_parseNewSibling_0 6 rfl rfl)
theorem dX6_parseNewSibling_8 : decode cX6_parseNewSibling 8 = .ok (.if_icmp .ne 9, 3) := dk_160 0 9 (dk_at dksX6_parseNewSibling_0 8 rfl rfl)
theorem dX6_parseNewSibling_11 : decode cX6_parseNewSibling 11 = .ok (.aload_n 0, 1) := dk_42 (dk_at dksX6_parseNewSibling_0 11 rfl rfl)
theorem dX6_parseNewSibling_12 : decode cX6_parseNewSibling 12 = .ok (.iconst 4, 1) := dk_7 (dk_at dksX6_parseNewSibling_0 12 rfl rfl)
theorem dX6_parseNewSibling_13 : decode cX6_parseNewSibling 13 = .ok (.invokevirtual 187, 3) := dk_182 0 187 (dk_at dksX6_parseNewSibling_0 13 rfl rfl)
theorem dX6_parseNewSibling_16 : decode cX6_parseNewSibling 16 = .ok (.ireturn, 1) := dk_172 (dk_at dksX6_parseNewSibling_0 16 rfl rfl)
theorem dX6_parseNewSibling_17 : decode cX6_parseNewSibling 17 = .ok (.aload_n 0, 1) := dk_42 (dk_at dksX6_parseNewSibling_0 17 rfl rfl)
theorem dX6_parseNewSibling_18 : decode cX6_parseNewSibling 18 = .ok (.invokevirtual 184, 3) := dk_182 0 184 (dk_at dksX6_parseNewSibling_0 18 rfl rfl)
theorem dX6_parseNewSibling_21 : decode cX6_parseNewSibling 21 = .ok (.aload_n 0, 1) := dk_42 (dk_at dksX6_parseNewSibling_0 21 rfl rfl)
theorem dX6_parseNewSibling_22 : decode cX6_parseNewSibling 22 = .ok (.invokevirtual 190, 3) := dk_182 0 190 (dk_at dksX6_parseNewSibling_1 0 rfl rfl)
theorem dX6_parseNewSibling_25 : decode cX6_parseNewSibling 25 = .ok (.ifCond .ne 5, 3) := dk_154 0 5 (dk_at dksX6_parseNewSibling_1 3 rfl rfl)
theorem dX6_parseNewSibling_28 : decode cX6_parseNewSibling 28 = .ok (.iconst 0, 1) := dk_3 (dk_at dksX6_parseNewSibling_1 6 rfl rfl)
theorem dX6_parseNewSibling_29 : decode cX6_parseNewSibling 29 = .ok (.ireturn, 1) := dk_172 (dk_at dksX6_parseNewSibling_1 7 rfl rfl)
theorem dX6_parseNewSibling_30 : decode cX6_parseNewSibling 30 = .ok (.aload_n 0, 1) := dk_42 (dk_at dksX6_parseNewSibling_1 8 rfl rfl)
theorem dX6_parseNewSibling_31 : decode cX6_parseNewSibling 31 = .ok (.aload_n 0, 1) := dk_42 (dk_at dksX6_parseNewSibling_1 9 rfl rfl)
theorem dX6_parseNewSibling_32 : decode cX6_parseNewSibling 32 = .ok (.getfield 63, 3) := dk_180 0 63 (dk_at dksX6_parseNewSibling_1 10 rfl rfl)
theorem dX6_parseNewSibling_35 : decode cX6_parseNewSibling 35 = .ok (.aload_n 0, 1) := dk_42 (dk_at dksX6_parseNewSibling_1 13 rfl rfl)
theorem dX6_parseNewSibling_36 : decode cX6_parseNewSibling 36 = .ok (.getfield 57, 3) := dk_180 0 57 (dk_at dksX6_parseNewSibling_1 14 rfl rfl)
theorem dX6_parseNewSibling_39 : decode cX6_parseNewSibling 39 = .ok (.aload_n 0, 1) := dk_42 (dk_at dksX6_parseNewSibling_1 17 rfl rfl)
theorem dX6_parseNewSibling_40 : decode cX6_parseNewSibling 40 = .ok (.getfield 63, 3) := dk_180 0 63 (dk_at dksX6_parseNewSibling_1 18 rfl rfl)
theorem dX6_parseNewSibling_43 : decode cX6_parseNewSibling 43 = .ok (.isub, 1) := dk_100 (dk_at dksX6_parseNewSibling_1 21 rfl rfl)
theorem dX6_parseNewSibling_44 : decode cX6_parseNewSibling 44 = .ok (.invokevirtual 193, 3) := dk_182 0 193 (dk_at dksX6_parseNewSibling_2 0 rfl rfl)
theorem dX6_parseNewSibling_47 : decode cX6_parseNewSibling 47 = .ok (.iconst (-1), 1) := dk_2 (dk_at dksX6_parseNewSibling_2 3 rfl rfl)
theorem dX6_parseNewSibling_48 : decode cX6_parseNewSibling 48 = .ok (.if_icmp .eq 9, 3) := dk_159 0 9 (dk_at dksX6_parseNewSibling_2 4 rfl rfl)
theorem dX6_parseNewSibling_51 : decode cX6_parseNewSibling 51 = .ok (.aload_n 0, 1) := dk_42 (dk_at dksX6_parseNewSibling_2 7 rfl rfl)
theorem dX6_parseNewSibling_52 : decode cX6_parseNewSibling 52 = .ok (.iconst 3, 1) := dk_6 (dk_at dksX6_parseNewSibling_2 8 rfl rfl)
theorem dX6_parseNewSibling_53 : decode cX6_parseNewSibling 53 = .ok (.invokevirtual 187, 3) := dk_182 0 187 (dk_at dksX6_parseNewSibling_2 9 rfl rfl)
theorem dX6_parseNewSibling_56 : decode cX6_parseNewSibling 56 = .ok (.ireturn, 1) := dk_172 (dk_at dksX6_parseNewSibling_2 12 rfl rfl)
theorem dX6_parseNewSibling_57 : decode cX6_parseNewSibling 57 = .ok (.bipush 26, 2) := dk_16 26 (dk_at dksX6_parseNewSibling_2 13 rfl rfl)
theorem dX6_parseNewSibling_59 : decode cX6_parseNewSibling 59 = .ok (.aload_n 0, 1) := dk_42 (dk_at dksX6_parseNewSibling_2 15 rfl rfl)
theorem dX6_parseNewSibling_60 : decode cX6_parseNewSibling 60 = .ok (.getfield 13, 3) := dk_180 0 13 (dk_at dksX6_parseNewSibling_2 16 rfl rfl)
theorem dX6_parseNewSibling_63 : decode cX6_parseNewSibling 63 = .ok (.iconst 1, 1) := dk_4 (dk_at dksX6_parseNewSibling_2 19 rfl rfl)
theorem dX6_parseNewSibling_64 : decode cX6_parseNewSibling 64 = .ok (.iaload, 1) := dk_46 (dk_at dksX6_parseNewSibling_2 20 rfl rfl)
theorem dX6_parseNewSibling_65 : decode cX6_parseNewSibling 65 = .ok (.bipush 31, 2) := dk_16 31 (dk_at dksX6_parseNewSibling_2 21 rfl rfl)
theorem dX6_parseNewSibling_67 : decode cX6_parseNewSibling 67 = .ok (.imul, 1) := dk_104 (dk_at dksX6_parseNewSibling_2 23 rfl rfl)
theorem dX6_parseNewSibling_68 : decode cX6_parseNewSibling 68 = .ok (.iadd, 1) := dk_96 (dk_at dksX6_parseNewSibling_3 0 rfl rfl)
theorem dX6_parseNewSibling_69 : decode cX6_parseNewSibling 69 = .ok (.istore_n 1, 1) := dk_60 (dk_at dksX6_parseNewSibling_3 1 rfl rfl)
theorem dX6_parseNewSibling_70 : decode cX6_parseNewSibling 70 = .ok (.aload_n 0, 1) := dk_42 (dk_at dksX6_parseNewSibling_3 2 rfl rfl)
theorem dX6_parseNewSibling_71 : decode cX6_parseNewSibling 71 = .ok (.getfield 13, 3) := dk_180 0 13 (dk_at dksX6_parseNewSibling_3 3 rfl rfl)
theorem dX6_parseNewSibling_74 : decode cX6_parseNewSibling 74 = .ok (.iload_n 1, 1) := dk_27 (dk_at dksX6_parseNewSibling_3 6 rfl rfl)
theorem dX6_parseNewSibling_75 : decode cX6_parseNewSibling 75 = .ok (.aload_n 0, 1) := dk_42 (dk_at dksX6_parseNewSibling_3 7 rfl rfl)
theorem dX6_parseNewSibling_76 : decode cX6_parseNewSibling 76 = .ok (.getfield 57, 3) := dk_180 0 57 (dk_at dksX6_parseNewSibling_3 8 rfl rfl)
theorem dX6_parseNewSibling_79 : decode cX6_parseNewSibling 79 = .ok (.aload_n 0, 1) := dk_42 (dk_at dksX6_parseNewSibling_3 11 rfl rfl)
theorem dX6_parseNewSibling_80 : decode cX6_parseNewSibling 80 = .ok (.getfield 63, 3) := dk_180 0 63 (dk_at dksX6_parseNewSibling_3 12 rfl rfl)
theorem dX6_parseNewSibling_83 : decode cX6_parseNewSibling 83 = .ok (.isub, 1) := dk_100 (dk_at dksX6_parseNewSibling_3 15 rfl rfl)
theorem dX6_parseNewSibling_84 : decode cX6_parseNewSibling 84 = .ok (.iastore, 1) := dk_79 (dk_at dksX6_parseNewSibling_3 16 rfl rfl)
theorem dX6_parseNewSibling_85 : decode cX6_parseNewSibling 85 = .ok (.aload_n 0, 1) := dk_42 (dk_at dksX6_parseNewSibling_3 17 rfl rfl)
theorem dX6_parseNewSibling_86 : decode cX6_parseNewSibling 86 = .ok (.getfield 63, 3) := dk_180 0 63 (dk_at dksX6_parseNewSibling_3 18 rfl rfl)
theorem dX6_parseNewSibling_89 : decode cX6_parseNewSibling 89 = .ok (.istore_n 2, 1) := dk_61 (dk_at dksX6_parseNewSibling_3 21 rfl rfl)
theorem dX6_parseNewSibling_90 : decode cX6_parseNewSibling 90 = .ok (.iload_n 2, 1) := dk_28 (dk_at dksX6_parseNewSibling_3 22 rfl rfl)
theorem dX6_parseNewSibling_91 : decode cX6_parseNewSibling 91 = .ok (.aload_n 0, 1) := dk_42 (dk_at dksX6_parseNewSibling_3 23 rfl rfl)
theorem dX6_parseNewSibling_92 : decode cX6_parseNewSibling 92 = .ok (.getfield 57, 3) := dk_180 0 57 (dk_at dksX6_parseNewSibling_4 0 rfl rfl)
theorem dX6_parseNewSibling_95 : decode cX6_parseNewSibling 95 = .ok (.if_icmp .ge 30, 3) := dk_162 0 30 (dk_at dksX6_parseNewSibling_4 3 rfl rfl)
theorem dX6_parseNewSibling_98 : decode cX6_parseNewSibling 98 = .ok (.aload_n 0, 1) := dk_42 (dk_at dksX6_parseNewSibling_4 6 rfl rfl)
theorem dX6_parseNewSibling_99 : decode cX6_parseNewSibling 99 = .ok (.getfield 13, 3) := dk_180 0 13 (dk_at dksX6_parseNewSibling_4 7 rfl rfl)
theorem dX6_parseNewSibling_102 : decode cX6_parseNewSibling 102 = .ok (.iload_n 1, 1) := dk_27 (dk_at dksX6_parseNewSibling_4 10 rfl rfl)
theorem dX6_parseNewSibling_103 : decode cX6_parseNewSibling 103 = .ok (.iconst 1, 1) := dk_4 (dk_at dksX6_parseNewSibling_4 11 rfl rfl)
theorem dX6_parseNewSibling_104 : decode cX6_parseNewSibling 104 = .ok (.iadd, 1) := dk_96 (dk_at dksX6_parseNewSibling_4 12 rfl rfl)
theorem dX6_parseNewSibling_105 : decode cX6_parseNewSibling 105 = .ok (.iload_n 2, 1) := dk_28 (dk_at dksX6_parseNewSibling_4 13 rfl rfl)
theorem dX6_parseNewSibling_106 : decode cX6_parseNewSibling 106 = .ok (.iadd, 1) := dk_96 (dk_at dksX6_parseNewSibling_4 14 rfl rfl)
theorem dX6_parseNewSibling_107 : decode cX6_parseNewSibling 107 = .ok (.aload_n 0, 1) := dk_42 (dk_at dksX6_parseNewSibling_4 15 rfl rfl)
theorem dX6_parseNewSibling_108 : decode cX6_parseNewSibling 108 = .ok (.getfield 63, 3) := dk_180 0 63 (dk_at dksX6_parseNewSibling_4 16 rfl rfl)
theorem dX6_parseNewSibling_111 : decode cX6_parseNewSibling 111 = .ok (.isub, 1) := dk_100 (dk_at dksX6_parseNewSibling_4 19 rfl rfl)
theorem dX6_parseNewSibling_112 : decode cX6_parseNewSibling 112 = .ok (.aload_n 0, 1) := dk_42 (dk_at dksX6_parseNewSibling_4 20 rfl rfl)
theorem dX6_parseNewSibling_113 : decode cX6_parseNewSibling 113 = .ok (.getfield 24, 3) := dk_180 0 24 (dk_at dksX6_parseNewSibling_4 21 rfl rfl)
theorem dX6_parseNewSibling_116 : decode cX6_parseNewSibling 116 = .ok (.iload_n 2, 1) := dk_28 (dk_at dksX6_parseNewSibling_5 0 rfl rfl)
theorem dX6_parseNewSibling_117 : decode cX6_parseNewSibling 117 = .ok (.iaload, 1) := dk_46 (dk_at dksX6_parseNewSibling_5 1 rfl rfl)
theorem dX6_parseNewSibling_118 : decode cX6_parseNewSibling 118 = .ok (.iastore, 1) := dk_79 (dk_at dksX6_parseNewSibling_5 2 rfl rfl)
theorem dX6_parseNewSibling_119 : decode cX6_parseNewSibling 119 = .ok (.iinc 2 1, 3) := dk_132 2 1 (dk_at dksX6_parseNewSibling_5 3 rfl rfl)
theorem dX6_parseNewSibling_122 : decode cX6_parseNewSibling 122 = .ok (.goto (-32), 3) := dk_167 255 224 (dk_at dksX6_parseNewSibling_5 6 rfl rfl)
theorem dX6_parseNewSibling_125 : decode cX6_parseNewSibling 125 = .ok (.aload_n 0, 1) := dk_42 (dk_at dksX6_parseNewSibling_5 9 rfl rfl)
theorem dX6_parseNewSibling_126 : decode cX6_parseNewSibling 126 = .ok (.invokevirtual 184, 3) := dk_182 0 184 (dk_at dksX6_parseNewSibling_5 10 rfl rfl)
theorem dX6_parseNewSibling_129 : decode cX6_parseNewSibling 129 = .ok (.iconst 0, 1) := dk_3 (dk_at dksX6_parseNewSibling_5 13 rfl rfl)
theorem dX6_parseNewSibling_130 : decode cX6_parseNewSibling 130 = .ok (.istore_n 2, 1) := dk_61 (dk_at dksX6_parseNewSibling_5 14 rfl rfl)
theorem dX6_parseNewSibling_131 : decode cX6_parseNewSibling 131 = .ok (.iload_n 2, 1) := dk_28 (dk_at dksX6_parseNewSibling_5 15 rfl rfl)
theorem dX6_parseNewSibling_132 : decode cX6_parseNewSibling 132 = .ok (.aload_n 0, 1) := dk_42 (dk_at dksX6_parseNewSibling_5 16 rfl rfl)
theorem dX6_parseNewSibling_133 : decode cX6_parseNewSibling 133 = .ok (.getfield 13, 3) := dk_180 0 13 (dk_at dksX6_parseNewSibling_5 17 rfl rfl)
theorem dX6_parseNewSibling_136 : decode cX6_parseNewSibling 136 = .ok (.iconst 0, 1) := dk_3 (dk_at dksX6_parseNewSibling_5 20 rfl rfl)
theorem dX6_parseNewSibling_137 : decode cX6_parseNewSibling 137 = .ok (.iaload, 1) := dk_46 (dk_at dksX6_parseNewSibling_5 21 rfl rfl)
theorem dX6_parseNewSibling_138 : decode cX6_parseNewSibling 138 = .ok (.if_icmp .ge 27, 3) := dk_162 0 27 (dk_at dksX6_parseNewSibling_6 0 rfl rfl)
theorem dX6_parseNewSibling_141 : decode cX6_parseNewSibling 141 = .ok (.aload_n 0, 1) := dk_42 (dk_at dksX6_parseNewSibling_6 3 rfl rfl)
theorem dX6_parseNewSibling_142 : decode cX6_parseNewSibling 142 = .ok (.iload_n 1, 1) := dk_27 (dk_at dksX6_parseNewSibling_6 4 rfl rfl)
theorem dX6_parseNewSibling_143 : decode cX6_parseNewSibling 143 = .ok (.bipush 7, 2) := dk_16 7 (dk_at dksX6_parseNewSibling_6 5 rfl rfl)
theorem dX6_parseNewSibling_145 : decode cX6_parseNewSibling 145 = .ok (.iadd, 1) := dk_96 (dk_at dksX6_parseNewSibling_6 7 rfl rfl)
theorem dX6_parseNewSibling_146 : decode cX6_parseNewSibling 146 = .ok (.iload_n 2, 1) := dk_28 (dk_at dksX6_parseNewSibling_6 8 rfl rfl)
theorem dX6_parseNewSibling_147 : decode cX6_parseNewSibling 147 = .ok (.iadd, 1) := dk_96 (dk_at dksX6_parseNewSibling_6 9 rfl rfl)
theorem dX6_parseNewSibling_148 : decode cX6_parseNewSibling 148 = .ok (.iconst 0, 1) := dk_3 (dk_at dksX6_parseNewSibling_6 10 rfl rfl)
theorem dX6_parseNewSibling_149 : decode cX6_parseNewSibling 149 = .ok (.bipush 9, 2) := dk_16 9 (dk_at dksX6_parseNewSibling_6 11 rfl rfl)
theorem dX6_parseNewSibling_151 : decode cX6_parseNewSibling 151 = .ok (.invokevirtual 196, 3) := dk_182 0 196 (dk_at dksX6_parseNewSibling_6 13 rfl rfl)
theorem dX6_parseNewSibling_154 : decode cX6_parseNewSibling 154 = .ok (.ifCond .ne 5, 3) := dk_154 0 5 (dk_at dksX6_parseNewSibling_6 16 rfl rfl)
theorem dX6_parseNewSibling_157 : decode cX6_parseNewSibling 157 = .ok (.iconst 0, 1) := dk_3 (dk_at dksX6_parseNewSibling_6 19 rfl rfl)
theorem dX6_parseNewSibling_158 : decode cX6_parseNewSibling 158 = .ok (.ireturn, 1) := dk_172 (dk_at dksX6_parseNewSibling_6 20 rfl rfl)
theorem dX6_parseNewSibling_159 : decode cX6_parseNewSibling 159 = .ok (.iinc 2 1, 3) := dk_132 2 1 (dk_at dksX6_parseNewSibling_6 21 rfl rfl)
theorem dX6_parseNewSibling_162 : decode cX6_parseNewSibling 162 = .ok (.goto (-31), 3) := dk_167 255 225 (dk_at dksX6_parseNewSibling_7 0 rfl rfl)
theorem dX6_parseNewSibling_165 : decode cX6_parseNewSibling 165 = .ok (.aload_n 0, 1) := dk_42 (dk_at dksX6_parseNewSibling_7 3 rfl rfl)
theorem dX6_parseNewSibling_166 : decode cX6_parseNewSibling 166 = .ok (.invokevirtual 199, 3) := dk_182 0 199 (dk_at dksX6_parseNewSibling_7 4 rfl rfl)
theorem dX6_parseNewSibling_169 : decode cX6_parseNewSibling 169 = .ok (.ifCond .ne 5, 3) := dk_154 0 5 (dk_at dksX6_parseNewSibling_7 7 rfl rfl)
theorem dX6_parseNewSibling_172 : decode cX6_parseNewSibling 172 = .ok (.iconst 0, 1) := dk_3 (dk_at dksX6_parseNewSibling_7 10 rfl rfl)
theorem dX6_parseNewSibling_173 : decode cX6_parseNewSibling 173 = .ok (.ireturn, 1) := dk_172 (dk_at dksX6_parseNewSibling_7 11 rfl rfl)
theorem dX6_parseNewSibling_174 : decode cX6_parseNewSibling 174 = .ok (.aload_n 0, 1) := dk_42 (dk_at dksX6_parseNewSibling_7 12 rfl rfl)
theorem dX6_parseNewSibling_175 : decode cX6_parseNewSibling 175 = .ok (.getfield 13, 3) := dk_180 0 13 (dk_at dksX6_parseNewSibling_7 13 rfl rfl)
theorem dX6_parseNewSibling_178 : decode cX6_parseNewSibling 178 = .ok (.iconst 1, 1) := dk_4 (dk_at dksX6_parseNewSibling_7 16 rfl rfl)
theorem dX6_parseNewSibling_179 : decode cX6_parseNewSibling 179 = .ok (.dup2, 1) := dk_92 (dk_at dksX6_parseNewSibling_7 17 rfl rfl)
theorem dX6_parseNewSibling_180 : decode cX6_parseNewSibling 180 = .ok (.iaload, 1) := dk_46 (dk_at dksX6_parseNewSibling_7 18 rfl rfl)
theorem dX6_parseNewSibling_181 : decode cX6_parseNewSibling 181 = .ok (.iconst 1, 1) := dk_4 (dk_at dksX6_parseNewSibling_7 19 rfl rfl)
theorem dX6_parseNewSibling_182 : decode cX6_parseNewSibling 182 = .ok (.iadd, 1) := dk_96 (dk_at dksX6_parseNewSibling_7 20 rfl rfl)
theorem dX6_parseNewSibling_183 : decode cX6_parseNewSibling 183 = .ok (.iastore, 1) := dk_79 (dk_at dksX6_parseNewSibling_7 21 rfl rfl)
theorem dX6_parseNewSibling_184 : decode cX6_parseNewSibling 184 = .ok (.iconst 1, 1) := dk_4 (dk_at dksX6_parseNewSibling_7 22 rfl rfl)
theorem dX6_parseNewSibling_185 : decode cX6_parseNewSibling 185 = .ok (.ireturn, 1) := dk_172 (dk_at dksX6_parseNewSibling_7 23 rfl rfl)
abbrev cX6_isShortWord : ByteArray := prog_9_method_54_code
def yX6_isShortWord : MethodName := ⟨RX6, "isShortWord", "()Z"⟩
def dkwX6_isShortWord_1 : List UInt8 := [16, 6, 164, 0, 11, 42, 6, 182, 0, 187, 153, 0, 7, 4, 167, 0, 4, 3, 172]
abbrev dktX6_isShortWord_1 : List UInt8 := dkwX6_isShortWord_1 ++ []
def dkwX6_isShortWord_0 : List UInt8 := [42, 180, 0, 60, 4, 159, 0, 9, 42, 4, 182, 0, 187, 172, 42, 180, 0, 57, 42, 180, 0, 63, 100]
abbrev dktX6_isShortWord_0 : List UInt8 := dkwX6_isShortWord_0 ++ dktX6_isShortWord_1
theorem dksX6_isShortWord_0 : cX6_isShortWord.data.toList.drop 0 = dktX6_isShortWord_0 := by decide +kernel
theorem dksX6_isShortWord_1 : cX6_isShortWord.data.toList.drop 23 = dktX6_isShortWord_1 := dk_seg dksX6_isShortWord_0 23 rfl rfl
theorem dX6_isShortWord_0 : decode cX6_isShortWord 0 = .ok (.aload_n 0, 1) := dk_42 (dk_at dksX6_isShortWord_0 0 rfl rfl)
theorem dX6_isShortWord_1 : decode cX6_isShortWord 1 = .ok (.getfield 60, 3) := dk_180 0 60 (dk_at dksX6_isShortWord_0 1 rfl rfl)
theorem dX6_isShortWord_4 : decode cX6_isShortWord 4 = .ok (.iconst 1, 1) := dk_4 (dk_at dksX6_isShortWord_0 4 rfl rfl)
theorem dX6_isShortWord_5 : decode cX6_isShortWord 5 = .ok (.if_icmp .eq 9, 3) := dk_159 0 9 (dk_at dksX6_isShortWord_0 5 rfl rfl)
theorem dX6_isShortWord_8 : decode cX6_isShortWord 8 = .ok (.aload_n 0, 1) := dk_42 (dk_at dksX6_isShortWord_0 8 rfl rfl)
theorem dX6_isShortWord_9 : decode cX6_isShortWord 9 = .ok (.iconst 1, 1) := dk_4 (dk_at dksX6_isShortWord_0 9 rfl rfl)
theorem dX6_isShortWord_10 : decode cX6_isShortWord 10 = .ok (.invokevirtual 187, 3) := dk_182 0 187 (dk_at dksX6_isShortWord_0 10 rfl rfl)
theorem dX6_isShortWord_13 : decode cX6_isShortWord 13 = .ok (.ireturn, 1) := dk_172 (dk_at dksX6_isShortWord_0 13 rfl rfl)
theorem dX6_isShortWord_14 : decode cX6_isShortWord 14 = .ok (.aload_n 0, 1) := dk_42 (dk_at dksX6_isShortWord_0 14 rfl rfl)
theorem dX6_isShortWord_15 : decode cX6_isShortWord 15 = .ok (.getfield 57, 3) := dk_180 0 57 (dk_at dksX6_isShortWord_0 15 rfl rfl)
theorem dX6_isShortWord_18 : decode cX6_isShortWord 18 = .ok (.aload_n 0, 1) := dk_42 (dk_at dksX6_isShortWord_0 18 rfl rfl)
theorem dX6_isShortWord_19 : decode cX6_isShortWord 19 = .ok (.getfield 63, 3) := dk_180 0 63 (dk_at dksX6_isShortWord_0 19 rfl rfl)
theorem dX6_isShortWord_22 : decode cX6_isShortWord 22 = .ok (.isub, 1) := dk_100 (dk_at dksX6_isShortWord_0 22 rfl rfl)
theorem dX6_isShortWord_23 : decode cX6_isShortWord 23 = .ok (.bipush 6, 2) := dk_16 6 (dk_at dksX6_isShortWord_1 0 rfl rfl)
theorem dX6_isShortWord_25 : decode cX6_isShortWord 25 = .ok (.if_icmp .le 11, 3) := dk_164 0 11 (dk_at dksX6_isShortWord_1 2 rfl rfl)
theorem dX6_isShortWord_28 : decode cX6_isShortWord 28 = .ok (.aload_n 0, 1) := dk_42 (dk_at dksX6_isShortWord_1 5 rfl rfl)
theorem dX6_isShortWord_29 : decode cX6_isShortWord 29 = .ok (.iconst 3, 1) := dk_6 (dk_at dksX6_isShortWord_1 6 rfl rfl)
theorem dX6_isShortWord_30 : decode cX6_isShortWord 30 = .ok (.invokevirtual 187, 3) := dk_182 0 187 (dk_at dksX6_isShortWord_1 7 rfl rfl)
theorem dX6_isShortWord_33 : decode cX6_isShortWord 33 = .ok (.ifCond .eq 7, 3) := dk_153 0 7 (dk_at dksX6_isShortWord_1 10 rfl rfl)
theorem dX6_isShortWord_36 : decode cX6_isShortWord 36 = .ok (.iconst 1, 1) := dk_4 (dk_at dksX6_isShortWord_1 13 rfl rfl)
theorem dX6_isShortWord_37 : decode cX6_isShortWord 37 = .ok (.goto 4, 3) := dk_167 0 4 (dk_at dksX6_isShortWord_1 14 rfl rfl)
theorem dX6_isShortWord_40 : decode cX6_isShortWord 40 = .ok (.iconst 0, 1) := dk_3 (dk_at dksX6_isShortWord_1 17 rfl rfl)
theorem dX6_isShortWord_41 : decode cX6_isShortWord 41 = .ok (.ireturn, 1) := dk_172 (dk_at dksX6_isShortWord_1 18 rfl rfl)
abbrev cX6_siblingNamed : ByteArray := prog_9_method_53_code
def yX6_siblingNamed : MethodName := ⟨RX6, "siblingNamed", "(II)I"⟩
def dkwX6_siblingNamed_4 : List UInt8 := [21, 5, 153, 0, 5, 29, 172, 132, 3, 1, 167, 255, 158, 2, 172]
abbrev dktX6_siblingNamed_4 : List UInt8 := dkwX6_siblingNamed_4 ++ []
def dkwX6_siblingNamed_3 : List UInt8 := [180, 0, 24, 27, 21, 6, 96, 46, 160, 0, 7, 4, 167, 0, 4, 3, 54, 5, 132, 6, 1, 167, 255, 211]
abbrev dktX6_siblingNamed_3 : List UInt8 := dkwX6_siblingNamed_3 ++ dktX6_siblingNamed_4
def dkwX6_siblingNamed_2 : List UInt8 := [153, 0, 46, 21, 6, 28, 162, 0, 40, 42, 180, 0, 13, 21, 4, 4, 96, 21, 6, 96, 46, 42]
abbrev dktX6_siblingNamed_2 : List UInt8 := dkwX6_siblingNamed_2 ++ dktX6_siblingNamed_3
def dkwX6_siblingNamed_1 : List UInt8 := [180, 0, 13, 21, 4, 46, 28, 160, 0, 7, 4, 167, 0, 4, 3, 54, 5, 3, 54, 6, 21, 5]
abbrev dktX6_siblingNamed_1 : List UInt8 := dkwX6_siblingNamed_1 ++ dktX6_siblingNamed_2
def dkwX6_siblingNamed_0 : List UInt8 := [3, 62, 29, 42, 180, 0, 13, 4, 46, 162, 0, 94, 16, 26, 29, 16, 31, 104, 96, 54, 4, 42]
abbrev dktX6_siblingNamed_0 : List UInt8 := dkwX6_siblingNamed_0 ++ dktX6_siblingNamed_1
theorem dksX6_siblingNamed_0 : cX6_siblingNamed.data.toList.drop 0 = dktX6_siblingNamed_0 := by decide +kernel
theorem dksX6_siblingNamed_1 : cX6_siblingNamed.data.toList.drop 22 = dktX6_siblingNamed_1 := dk_seg dksX6_siblingNamed_0 22 rfl rfl
theorem dksX6_siblingNamed_2 : cX6_siblingNamed.data.toList.drop 44 = dktX6_siblingNamed_2 := dk_seg dksX6_siblingNamed_1 22 rfl rfl
theorem dksX6_siblingNamed_3 : cX6_siblingNamed.data.toList.drop 66 = dktX6_siblingNamed_3 := dk_seg dksX6_siblingNamed_2 22 rfl rfl
theorem dksX6_siblingNamed_4 : cX6_siblingNamed.data.toList.drop 90 = dktX6_siblingNamed_4 := dk_seg dksX6_siblingNamed_3 24 rfl rfl
theorem dX6_siblingNamed_0 : decode cX6_siblingNamed 0 = .ok (.iconst 0, 1) := dk_3 (dk_at dksX6_siblingNamed_0 0 rfl rfl)
theorem dX6_siblingNamed_1 : decode cX6_siblingNamed 1 = .ok (.istore_n 3, 1) := dk_62 (dk_at dksX6_siblingNamed_0 1 rfl rfl)
theorem dX6_siblingNamed_2 : decode cX6_siblingNamed 2 = .ok (.iload_n 3, 1) := dk_29 (dk_at dksX6_siblingNamed_0 2 rfl rfl)
theorem dX6_siblingNamed_3 : decode cX6_siblingNamed 3 = .ok (.aload_n 0, 1) := dk_42 (dk_at dksX6_siblingNamed_0 3 rfl rfl)
theorem dX6_siblingNamed_4 : decode cX6_siblingNamed 4 = .ok (.getfield 13, 3) := dk_180 0 13 (dk_at dksX6_siblingNamed_0 4 rfl rfl)
theorem dX6_siblingNamed_7 : decode cX6_siblingNamed 7 = .ok (.iconst 1, 1) := dk_4 (dk_at dksX6_siblingNamed_0 7 rfl rfl)
theorem dX6_siblingNamed_8 : decode cX6_siblingNamed 8 = .ok (.iaload, 1) := dk_46 (dk_at dksX6_siblingNamed_0 8 rfl rfl)
theorem dX6_siblingNamed_9 : decode cX6_siblingNamed 9 = .ok (.if_icmp .ge 94, 3) := dk_162 0 94 (dk_at dksX6_siblingNamed_0 9 rfl rfl)
theorem dX6_siblingNamed_12 : decode cX6_siblingNamed 12 = .ok (.bipush 26, 2) := dk_16 26 (dk_at dksX6_siblingNamed_0 12 rfl rfl)
theorem dX6_siblingNamed_14 : decode cX6_siblingNamed 14 = .ok (.iload_n 3, 1) := dk_29 (dk_at dksX6_siblingNamed_0 14 rfl rfl)
theorem dX6_siblingNamed_15 : decode cX6_siblingNamed 15 = .ok (.bipush 31, 2) := dk_16 31 (dk_at dksX6_siblingNamed_0 15 rfl rfl)
theorem dX6_siblingNamed_17 : decode cX6_siblingNamed 17 = .ok (.imul, 1) := dk_104 (dk_at dksX6_siblingNamed_0 17 rfl rfl)
theorem dX6_siblingNamed_18 : decode cX6_siblingNamed 18 = .ok (.iadd, 1) := dk_96 (dk_at dksX6_siblingNamed_0 18 rfl rfl)
theorem dX6_siblingNamed_19 : decode cX6_siblingNamed 19 = .ok (.istore 4, 2) := dk_54 4 (dk_at dksX6_siblingNamed_0 19 rfl rfl)
theorem dX6_siblingNamed_21 : decode cX6_siblingNamed 21 = .ok (.aload_n 0, 1) := dk_42 (dk_at dksX6_siblingNamed_0 21 rfl rfl)
theorem dX6_siblingNamed_22 : decode cX6_siblingNamed 22 = .ok (.getfield 13, 3) := dk_180 0 13 (dk_at dksX6_siblingNamed_1 0 rfl rfl)
theorem dX6_siblingNamed_25 : decode cX6_siblingNamed 25 = .ok (.iload 4, 2) := dk_21 4 (dk_at dksX6_siblingNamed_1 3 rfl rfl)
theorem dX6_siblingNamed_27 : decode cX6_siblingNamed 27 = .ok (.iaload, 1) := dk_46 (dk_at dksX6_siblingNamed_1 5 rfl rfl)
theorem dX6_siblingNamed_28 : decode cX6_siblingNamed 28 = .ok (.iload_n 2, 1) := dk_28 (dk_at dksX6_siblingNamed_1 6 rfl rfl)
theorem dX6_siblingNamed_29 : decode cX6_siblingNamed 29 = .ok (.if_icmp .ne 7, 3) := dk_160 0 7 (dk_at dksX6_siblingNamed_1 7 rfl rfl)
theorem dX6_siblingNamed_32 : decode cX6_siblingNamed 32 = .ok (.iconst 1, 1) := dk_4 (dk_at dksX6_siblingNamed_1 10 rfl rfl)
theorem dX6_siblingNamed_33 : decode cX6_siblingNamed 33 = .ok (.goto 4, 3) := dk_167 0 4 (dk_at dksX6_siblingNamed_1 11 rfl rfl)
theorem dX6_siblingNamed_36 : decode cX6_siblingNamed 36 = .ok (.iconst 0, 1) := dk_3 (dk_at dksX6_siblingNamed_1 14 rfl rfl)
theorem dX6_siblingNamed_37 : decode cX6_siblingNamed 37 = .ok (.istore 5, 2) := dk_54 5 (dk_at dksX6_siblingNamed_1 15 rfl rfl)
theorem dX6_siblingNamed_39 : decode cX6_siblingNamed 39 = .ok (.iconst 0, 1) := dk_3 (dk_at dksX6_siblingNamed_1 17 rfl rfl)
theorem dX6_siblingNamed_40 : decode cX6_siblingNamed 40 = .ok (.istore 6, 2) := dk_54 6 (dk_at dksX6_siblingNamed_1 18 rfl rfl)
theorem dX6_siblingNamed_42 : decode cX6_siblingNamed 42 = .ok (.iload 5, 2) := dk_21 5 (dk_at dksX6_siblingNamed_1 20 rfl rfl)
theorem dX6_siblingNamed_44 : decode cX6_siblingNamed 44 = .ok (.ifCond .eq 46, 3) := dk_153 0 46 (dk_at dksX6_siblingNamed_2 0 rfl rfl)
theorem dX6_siblingNamed_47 : decode cX6_siblingNamed 47 = .ok (.iload 6, 2) := dk_21 6 (dk_at dksX6_siblingNamed_2 3 rfl rfl)
theorem dX6_siblingNamed_49 : decode cX6_siblingNamed 49 = .ok (.iload_n 2, 1) := dk_28 (dk_at dksX6_siblingNamed_2 5 rfl rfl)
theorem dX6_siblingNamed_50 : decode cX6_siblingNamed 50 = .ok (.if_icmp .ge 40, 3) := dk_162 0 40 (dk_at dksX6_siblingNamed_2 6 rfl rfl)
theorem dX6_siblingNamed_53 : decode cX6_siblingNamed 53 = .ok (.aload_n 0, 1) := dk_42 (dk_at dksX6_siblingNamed_2 9 rfl rfl)
theorem dX6_siblingNamed_54 : decode cX6_siblingNamed 54 = .ok (.getfield 13, 3) := dk_180 0 13 (dk_at dksX6_siblingNamed_2 10 rfl rfl)
theorem dX6_siblingNamed_57 : decode cX6_siblingNamed 57 = .ok (.iload 4, 2) := dk_21 4 (dk_at dksX6_siblingNamed_2 13 rfl rfl)
theorem dX6_siblingNamed_59 : decode cX6_siblingNamed 59 = .ok (.iconst 1, 1) := dk_4 (dk_at dksX6_siblingNamed_2 15 rfl rfl)
theorem dX6_siblingNamed_60 : decode cX6_siblingNamed 60 = .ok (.iadd, 1) := dk_96 (dk_at dksX6_siblingNamed_2 16 rfl rfl)
theorem dX6_siblingNamed_61 : decode cX6_siblingNamed 61 = .ok (.iload 6, 2) := dk_21 6 (dk_at dksX6_siblingNamed_2 17 rfl rfl)
theorem dX6_siblingNamed_63 : decode cX6_siblingNamed 63 = .ok (.iadd, 1) := dk_96 (dk_at dksX6_siblingNamed_2 19 rfl rfl)
theorem dX6_siblingNamed_64 : decode cX6_siblingNamed 64 = .ok (.iaload, 1) := dk_46 (dk_at dksX6_siblingNamed_2 20 rfl rfl)
theorem dX6_siblingNamed_65 : decode cX6_siblingNamed 65 = .ok (.aload_n 0, 1) := dk_42 (dk_at dksX6_siblingNamed_2 21 rfl rfl)
theorem dX6_siblingNamed_66 : decode cX6_siblingNamed 66 = .ok (.getfield 24, 3) := dk_180 0 24 (dk_at dksX6_siblingNamed_3 0 rfl rfl)
theorem dX6_siblingNamed_69 : decode cX6_siblingNamed 69 = .ok (.iload_n 1, 1) := dk_27 (dk_at dksX6_siblingNamed_3 3 rfl rfl)
theorem dX6_siblingNamed_70 : decode cX6_siblingNamed 70 = .ok (.iload 6, 2) := dk_21 6 (dk_at dksX6_siblingNamed_3 4 rfl rfl)
theorem dX6_siblingNamed_72 : decode cX6_siblingNamed 72 = .ok (.iadd, 1) := dk_96 (dk_at dksX6_siblingNamed_3 6 rfl rfl)
theorem dX6_siblingNamed_73 : decode cX6_siblingNamed 73 = .ok (.iaload, 1) := dk_46 (dk_at dksX6_siblingNamed_3 7 rfl rfl)
theorem dX6_siblingNamed_74 : decode cX6_siblingNamed 74 = .ok (.if_icmp .ne 7, 3) := dk_160 0 7 (dk_at dksX6_siblingNamed_3 8 rfl rfl)
theorem dX6_siblingNamed_77 : decode cX6_siblingNamed 77 = .ok (.iconst 1, 1) := dk_4 (dk_at dksX6_siblingNamed_3 11 rfl rfl)
theorem dX6_siblingNamed_78 : decode cX6_siblingNamed 78 = .ok (.goto 4, 3) := dk_167 0 4 (dk_at dksX6_siblingNamed_3 12 rfl rfl)
theorem dX6_siblingNamed_81 : decode cX6_siblingNamed 81 = .ok (.iconst 0, 1) := dk_3 (dk_at dksX6_siblingNamed_3 15 rfl rfl)
theorem dX6_siblingNamed_82 : decode cX6_siblingNamed 82 = .ok (.istore 5, 2) := dk_54 5 (dk_at dksX6_siblingNamed_3 16 rfl rfl)
theorem dX6_siblingNamed_84 : decode cX6_siblingNamed 84 = .ok (.iinc 6 1, 3) := dk_132 6 1 (dk_at dksX6_siblingNamed_3 18 rfl rfl)
theorem dX6_siblingNamed_87 : decode cX6_siblingNamed 87 = .ok (.goto (-45), 3) := dk_167 255 211 (dk_at dksX6_siblingNamed_3 21 rfl rfl)
theorem dX6_siblingNamed_90 : decode cX6_siblingNamed 90 = .ok (.iload 5, 2) := dk_21 5 (dk_at dksX6_siblingNamed_4 0 rfl rfl)
theorem dX6_siblingNamed_92 : decode cX6_siblingNamed 92 = .ok (.ifCond .eq 5, 3) := dk_153 0 5 (dk_at dksX6_siblingNamed_4 2 rfl rfl)
theorem dX6_siblingNamed_95 : decode cX6_siblingNamed 95 = .ok (.iload_n 3, 1) := dk_29 (dk_at dksX6_siblingNamed_4 5 rfl rfl)
theorem dX6_siblingNamed_96 : decode cX6_siblingNamed 96 = .ok (.ireturn, 1) := dk_172 (dk_at dksX6_siblingNamed_4 6 rfl rfl)
theorem dX6_siblingNamed_97 : decode cX6_siblingNamed 97 = .ok (.iinc 3 1, 3) := dk_132 3 1 (dk_at dksX6_siblingNamed_4 7 rfl rfl)
theorem dX6_siblingNamed_100 : decode cX6_siblingNamed 100 = .ok (.goto (-98), 3) := dk_167 255 158 (dk_at dksX6_siblingNamed_4 10 rfl rfl)
theorem dX6_siblingNamed_103 : decode cX6_siblingNamed 103 = .ok (.iconst (-1), 1) := dk_2 (dk_at dksX6_siblingNamed_4 13 rfl rfl)
theorem dX6_siblingNamed_104 : decode cX6_siblingNamed 104 = .ok (.ireturn, 1) := dk_172 (dk_at dksX6_siblingNamed_4 14 rfl rfl)
abbrev cX6_append : ByteArray := prog_9_method_44_code
def yX6_append : MethodName := ⟨RX6, "append", "(IIIII)I"⟩
def dkwX6_append_2 : List UInt8 := [182, 0, 175, 42, 21, 5, 182, 0, 175, 42, 180, 0, 27, 172]
abbrev dktX6_append_2 : List UInt8 := dkwX6_append_2 ++ []
def dkwX6_append_1 : List UInt8 := [153, 0, 5, 3, 172, 42, 27, 182, 0, 175, 42, 28, 182, 0, 175, 42, 29, 182, 0, 175, 42, 21, 4]
abbrev dktX6_append_1 : List UInt8 := dkwX6_append_1 ++ dktX6_append_2
def dkwX6_append_0 : List UInt8 := [42, 42, 180, 0, 27, 16, 20, 96, 17, 2, 88, 164, 0, 7, 4, 167, 0, 4, 3, 3, 3, 182, 0, 171]
abbrev dktX6_append_0 : List UInt8 := dkwX6_append_0 ++ dktX6_append_1
theorem dksX6_append_0 : cX6_append.data.toList.drop 0 = dktX6_append_0 := by decide +kernel
theorem dksX6_append_1 : cX6_append.data.toList.drop 24 = dktX6_append_1 := dk_seg dksX6_append_0 24 rfl rfl
theorem dksX6_append_2 : cX6_append.data.toList.drop 47 = dktX6_append_2 := dk_seg dksX6_append_1 23 rfl rfl
theorem dX6_append_0 : decode cX6_append 0 = .ok (.aload_n 0, 1) := dk_42 (dk_at dksX6_append_0 0 rfl rfl)
theorem dX6_append_1 : decode cX6_append 1 = .ok (.aload_n 0, 1) := dk_42 (dk_at dksX6_append_0 1 rfl rfl)
theorem dX6_append_2 : decode cX6_append 2 = .ok (.getfield 27, 3) := dk_180 0 27 (dk_at dksX6_append_0 2 rfl rfl)
theorem dX6_append_5 : decode cX6_append 5 = .ok (.bipush 20, 2) := dk_16 20 (dk_at dksX6_append_0 5 rfl rfl)
theorem dX6_append_7 : decode cX6_append 7 = .ok (.iadd, 1) := dk_96 (dk_at dksX6_append_0 7 rfl rfl)
theorem dX6_append_8 : decode cX6_append 8 = .ok (.sipush 600, 3) := dk_17 2 88 (dk_at dksX6_append_0 8 rfl rfl)
theorem dX6_append_11 : decode cX6_append 11 = .ok (.if_icmp .le 7, 3) := dk_164 0 7 (dk_at dksX6_append_0 11 rfl rfl)
theorem dX6_append_14 : decode cX6_append 14 = .ok (.iconst 1, 1) := dk_4 (dk_at dksX6_append_0 14 rfl rfl)
theorem dX6_append_15 : decode cX6_append 15 = .ok (.goto 4, 3) := dk_167 0 4 (dk_at dksX6_append_0 15 rfl rfl)
theorem dX6_append_18 : decode cX6_append 18 = .ok (.iconst 0, 1) := dk_3 (dk_at dksX6_append_0 18 rfl rfl)
theorem dX6_append_19 : decode cX6_append 19 = .ok (.iconst 0, 1) := dk_3 (dk_at dksX6_append_0 19 rfl rfl)
theorem dX6_append_20 : decode cX6_append 20 = .ok (.iconst 0, 1) := dk_3 (dk_at dksX6_append_0 20 rfl rfl)
theorem dX6_append_21 : decode cX6_append 21 = .ok (.invokevirtual 171, 3) := dk_182 0 171 (dk_at dksX6_append_0 21 rfl rfl)
theorem dX6_append_24 : decode cX6_append 24 = .ok (.ifCond .eq 5, 3) := dk_153 0 5 (dk_at dksX6_append_1 0 rfl rfl)
theorem dX6_append_27 : decode cX6_append 27 = .ok (.iconst 0, 1) := dk_3 (dk_at dksX6_append_1 3 rfl rfl)
theorem dX6_append_28 : decode cX6_append 28 = .ok (.ireturn, 1) := dk_172 (dk_at dksX6_append_1 4 rfl rfl)
theorem dX6_append_29 : decode cX6_append 29 = .ok (.aload_n 0, 1) := dk_42 (dk_at dksX6_append_1 5 rfl rfl)
theorem dX6_append_30 : decode cX6_append 30 = .ok (.iload_n 1, 1) := dk_27 (dk_at dksX6_append_1 6 rfl rfl)
theorem dX6_append_31 : decode cX6_append 31 = .ok (.invokevirtual 175, 3) := dk_182 0 175 (dk_at dksX6_append_1 7 rfl rfl)
theorem dX6_append_34 : decode cX6_append 34 = .ok (.aload_n 0, 1) := dk_42 (dk_at dksX6_append_1 10 rfl rfl)
theorem dX6_append_35 : decode cX6_append 35 = .ok (.iload_n 2, 1) := dk_28 (dk_at dksX6_append_1 11 rfl rfl)
theorem dX6_append_36 : decode cX6_append 36 = .ok (.invokevirtual 175, 3) := dk_182 0 175 (dk_at dksX6_append_1 12 rfl rfl)
theorem dX6_append_39 : decode cX6_append 39 = .ok (.aload_n 0, 1) := dk_42 (dk_at dksX6_append_1 15 rfl rfl)
theorem dX6_append_40 : decode cX6_append 40 = .ok (.iload_n 3, 1) := dk_29 (dk_at dksX6_append_1 16 rfl rfl)
theorem dX6_append_41 : decode cX6_append 41 = .ok (.invokevirtual 175, 3) := dk_182 0 175 (dk_at dksX6_append_1 17 rfl rfl)
theorem dX6_append_44 : decode cX6_append 44 = .ok (.aload_n 0, 1) := dk_42 (dk_at dksX6_append_1 20 rfl rfl)
theorem dX6_append_45 : decode cX6_append 45 = .ok (.iload 4, 2) := dk_21 4 (dk_at dksX6_append_1 21 rfl rfl)
theorem dX6_append_47 : decode cX6_append 47 = .ok (.invokevirtual 175, 3) := dk_182 0 175 (dk_at dksX6_append_2 0 rfl rfl)
theorem dX6_append_50 : decode cX6_append 50 = .ok (.aload_n 0, 1) := dk_42 (dk_at dksX6_append_2 3 rfl rfl)
theorem dX6_append_51 : decode cX6_append 51 = .ok (.iload 5, 2) := dk_21 5 (dk_at dksX6_append_2 4 rfl rfl)
theorem dX6_append_53 : decode cX6_append 53 = .ok (.invokevirtual 175, 3) := dk_182 0 175 (dk_at dksX6_append_2 6 rfl rfl)
theorem dX6_append_56 : decode cX6_append 56 = .ok (.aload_n 0, 1) := dk_42 (dk_at dksX6_append_2 9 rfl rfl)
theorem dX6_append_57 : decode cX6_append 57 = .ok (.getfield 27, 3) := dk_180 0 27 (dk_at dksX6_append_2 10 rfl rfl)
theorem dX6_append_60 : decode cX6_append 60 = .ok (.ireturn, 1) := dk_172 (dk_at dksX6_append_2 13 rfl rfl)
abbrev cX6_fails : ByteArray := prog_9_method_3_code
def yX6_fails : MethodName := ⟨RX6, "fails", "(ZZZ)Z"⟩
def dkwX6_fails_1 : List UInt8 := [167, 0, 4, 3, 181, 0, 1, 42, 180, 0, 1, 158, 0, 7, 4, 167, 0, 4, 3, 172]
abbrev dktX6_fails_1 : List UInt8 := dkwX6_fails_1 ++ []
def dkwX6_fails_0 : List UInt8 := [42, 27, 153, 0, 7, 4, 167, 0, 20, 28, 153, 0, 7, 5, 167, 0, 12, 29, 153, 0, 7, 6]
abbrev dktX6_fails_0 : List UInt8 := dkwX6_fails_0 ++ dktX6_fails_1
theorem dksX6_fails_0 : cX6_fails.data.toList.drop 0 = dktX6_fails_0 := by decide +kernel
theorem dksX6_fails_1 : cX6_fails.data.toList.drop 22 = dktX6_fails_1 := dk_seg dksX6_fails_0 22 rfl rfl
theorem dX6_fails_0 : decode cX6_fails 0 = .ok (.aload_n 0, 1) := dk_42 (dk_at dksX6_fails_0 0 rfl rfl)
theorem dX6_fails_1 : decode cX6_fails 1 = .ok (.iload_n 1, 1) := dk_27 (dk_at dksX6_fails_0 1 rfl rfl)
theorem dX6_fails_2 : decode cX6_fails 2 = .ok (.ifCond .eq 7, 3) := dk_153 0 7 (dk_at dksX6_fails_0 2 rfl rfl)
theorem dX6_fails_5 : decode cX6_fails 5 = .ok (.iconst 1, 1) := dk_4 (dk_at dksX6_fails_0 5 rfl rfl)
theorem dX6_fails_6 : decode cX6_fails 6 = .ok (.goto 20, 3) := dk_167 0 20 (dk_at dksX6_fails_0 6 rfl rfl)
theorem dX6_fails_9 : decode cX6_fails 9 = .ok (.iload_n 2, 1) := dk_28 (dk_at dksX6_fails_0 9 rfl rfl)
theorem dX6_fails_10 : decode cX6_fails 10 = .ok (.ifCond .eq 7, 3) := dk_153 0 7 (dk_at dksX6_fails_0 10 rfl rfl)
theorem dX6_fails_13 : decode cX6_fails 13 = .ok (.iconst 2, 1) := dk_5 (dk_at dksX6_fails_0 13 rfl rfl)
theorem dX6_fails_14 : decode cX6_fails 14 = .ok (.goto 12, 3) := dk_167 0 12 (dk_at dksX6_fails_0 14 rfl rfl)
theorem dX6_fails_17 : decode cX6_fails 17 = .ok (.iload_n 3, 1) := dk_29 (dk_at dksX6_fails_0 17 rfl rfl)
theorem dX6_fails_18 : decode cX6_fails 18 = .ok (.ifCond .eq 7, 3) := dk_153 0 7 (dk_at dksX6_fails_0 18 rfl rfl)
theorem dX6_fails_21 : decode cX6_fails 21 = .ok (.iconst 3, 1) := dk_6 (dk_at dksX6_fails_0 21 rfl rfl)
theorem dX6_fails_22 : decode cX6_fails 22 = .ok (.goto 4, 3) := dk_167 0 4 (dk_at dksX6_fails_1 0 rfl rfl)
theorem dX6_fails_25 : decode cX6_fails 25 = .ok (.iconst 0, 1) := dk_3 (dk_at dksX6_fails_1 3 rfl rfl)
theorem dX6_fails_26 : decode cX6_fails 26 = .ok (.putfield 1, 3) := dk_181 0 1 (dk_at dksX6_fails_1 4 rfl rfl)
theorem dX6_fails_29 : decode cX6_fails 29 = .ok (.aload_n 0, 1) := dk_42 (dk_at dksX6_fails_1 7 rfl rfl)
theorem dX6_fails_30 : decode cX6_fails 30 = .ok (.getfield 1, 3) := dk_180 0 1 (dk_at dksX6_fails_1 8 rfl rfl)
theorem dX6_fails_33 : decode cX6_fails 33 = .ok (.ifCond .le 7, 3) := dk_158 0 7 (dk_at dksX6_fails_1 11 rfl rfl)
theorem dX6_fails_36 : decode cX6_fails 36 = .ok (.iconst 1, 1) := dk_4 (dk_at dksX6_fails_1 14 rfl rfl)
theorem dX6_fails_37 : decode cX6_fails 37 = .ok (.goto 4, 3) := dk_167 0 4 (dk_at dksX6_fails_1 15 rfl rfl)
theorem dX6_fails_40 : decode cX6_fails 40 = .ok (.iconst 0, 1) := dk_3 (dk_at dksX6_fails_1 18 rfl rfl)
theorem dX6_fails_41 : decode cX6_fails 41 = .ok (.ireturn, 1) := dk_172 (dk_at dksX6_fails_1 19 rfl rfl)
abbrev cX6_appendWord : ByteArray := prog_9_method_43_code
def yX6_appendWord : MethodName := ⟨RX6, "appendWord", "(I)V"⟩
def dkwX6_appendWord_1 : List UInt8 := [89, 180, 0, 27, 4, 96, 181, 0, 27, 132, 2, 248, 167, 255, 223, 177]
abbrev dktX6_appendWord_1 : List UInt8 := dkwX6_appendWord_1 ++ []
def dkwX6_appendWord_0 : List UInt8 := [16, 24, 61, 28, 155, 0, 35, 42, 180, 0, 24, 42, 180, 0, 27, 27, 28, 122, 17, 0, 255, 126, 79, 42]
abbrev dktX6_appendWord_0 : List UInt8 := dkwX6_appendWord_0 ++ dktX6_appendWord_1
theorem dksX6_appendWord_0 : cX6_appendWord.data.toList.drop 0 = dktX6_appendWord_0 := by decide +kernel
theorem dksX6_appendWord_1 : cX6_appendWord.data.toList.drop 24 = dktX6_appendWord_1 := dk_seg dksX6_appendWord_0 24 rfl rfl
theorem dX6_appendWord_0 : decode cX6_appendWord 0 = .ok (.bipush 24, 2) := dk_16 24 (dk_at dksX6_appendWord_0 0 rfl rfl)
theorem dX6_appendWord_2 : decode cX6_appendWord 2 = .ok (.istore_n 2, 1) := dk_61 (dk_at dksX6_appendWord_0 2 rfl rfl)
theorem dX6_appendWord_3 : decode cX6_appendWord 3 = .ok (.iload_n 2, 1) := dk_28 (dk_at dksX6_appendWord_0 3 rfl rfl)
theorem dX6_appendWord_4 : decode cX6_appendWord 4 = .ok (.ifCond .lt 35, 3) := dk_155 0 35 (dk_at dksX6_appendWord_0 4 rfl rfl)
theorem dX6_appendWord_7 : decode cX6_appendWord 7 = .ok (.aload_n 0, 1) := dk_42 (dk_at dksX6_appendWord_0 7 rfl rfl)
theorem dX6_appendWord_8 : decode cX6_appendWord 8 = .ok (.getfield 24, 3) := dk_180 0 24 (dk_at dksX6_appendWord_0 8 rfl rfl)
theorem dX6_appendWord_11 : decode cX6_appendWord 11 = .ok (.aload_n 0, 1) := dk_42 (dk_at dksX6_appendWord_0 11 rfl rfl)
theorem dX6_appendWord_12 : decode cX6_appendWord 12 = .ok (.getfield 27, 3) := dk_180 0 27 (dk_at dksX6_appendWord_0 12 rfl rfl)
theorem dX6_appendWord_15 : decode cX6_appendWord 15 = .ok (.iload_n 1, 1) := dk_27 (dk_at dksX6_appendWord_0 15 rfl rfl)
theorem dX6_appendWord_16 : decode cX6_appendWord 16 = .ok (.iload_n 2, 1) := dk_28 (dk_at dksX6_appendWord_0 16 rfl rfl)
theorem dX6_appendWord_17 : decode cX6_appendWord 17 = .ok (.ishr, 1) := dk_122 (dk_at dksX6_appendWord_0 17 rfl rfl)
theorem dX6_appendWord_18 : decode cX6_appendWord 18 = .ok (.sipush 255, 3) := dk_17 0 255 (dk_at dksX6_appendWord_0 18 rfl rfl)
theorem dX6_appendWord_21 : decode cX6_appendWord 21 = .ok (.iand, 1) := dk_126 (dk_at dksX6_appendWord_0 21 rfl rfl)
theorem dX6_appendWord_22 : decode cX6_appendWord 22 = .ok (.iastore, 1) := dk_79 (dk_at dksX6_appendWord_0 22 rfl rfl)
theorem dX6_appendWord_23 : decode cX6_appendWord 23 = .ok (.aload_n 0, 1) := dk_42 (dk_at dksX6_appendWord_0 23 rfl rfl)
theorem dX6_appendWord_24 : decode cX6_appendWord 24 = .ok (.dup, 1) := dk_89 (dk_at dksX6_appendWord_1 0 rfl rfl)
theorem dX6_appendWord_25 : decode cX6_appendWord 25 = .ok (.getfield 27, 3) := dk_180 0 27 (dk_at dksX6_appendWord_1 1 rfl rfl)
theorem dX6_appendWord_28 : decode cX6_appendWord 28 = .ok (.iconst 1, 1) := dk_4 (dk_at dksX6_appendWord_1 4 rfl rfl)
theorem dX6_appendWord_29 : decode cX6_appendWord 29 = .ok (.iadd, 1) := dk_96 (dk_at dksX6_appendWord_1 5 rfl rfl)
theorem dX6_appendWord_30 : decode cX6_appendWord 30 = .ok (.putfield 27, 3) := dk_181 0 27 (dk_at dksX6_appendWord_1 6 rfl rfl)
theorem dX6_appendWord_33 : decode cX6_appendWord 33 = .ok (.iinc 2 (-8), 3) := dk_132 2 248 (dk_at dksX6_appendWord_1 9 rfl rfl)
theorem dX6_appendWord_36 : decode cX6_appendWord 36 = .ok (.goto (-33), 3) := dk_167 255 223 (dk_at dksX6_appendWord_1 12 rfl rfl)
theorem dX6_appendWord_39 : decode cX6_appendWord 39 = .ok (.return_, 1) := dk_177 (dk_at dksX6_appendWord_1 15 rfl rfl)
abbrev cX6_truncate : ByteArray := prog_9_method_45_code
def yX6_truncate : MethodName := ⟨RX6, "truncate", "(I)I"⟩
def dkwX6_truncate_1 : List UInt8 := [153, 0, 5, 3, 172, 42, 27, 181, 0, 27, 27, 172]
abbrev dktX6_truncate_1 : List UInt8 := dkwX6_truncate_1 ++ []
def dkwX6_truncate_0 : List UInt8 := [42, 27, 3, 42, 180, 0, 27, 184, 0, 90, 154, 0, 7, 4, 167, 0, 4, 3, 3, 3, 182, 0, 171]
abbrev dktX6_truncate_0 : List UInt8 := dkwX6_truncate_0 ++ dktX6_truncate_1
theorem dksX6_truncate_0 : cX6_truncate.data.toList.drop 0 = dktX6_truncate_0 := by decide +kernel
theorem dksX6_truncate_1 : cX6_truncate.data.toList.drop 23 = dktX6_truncate_1 := dk_seg dksX6_truncate_0 23 rfl rfl
theorem dX6_truncate_0 : decode cX6_truncate 0 = .ok (.aload_n 0, 1) := dk_42 (dk_at dksX6_truncate_0 0 rfl rfl)
theorem dX6_truncate_1 : decode cX6_truncate 1 = .ok (.iload_n 1, 1) := dk_27 (dk_at dksX6_truncate_0 1 rfl rfl)
theorem dX6_truncate_2 : decode cX6_truncate 2 = .ok (.iconst 0, 1) := dk_3 (dk_at dksX6_truncate_0 2 rfl rfl)
theorem dX6_truncate_3 : decode cX6_truncate 3 = .ok (.aload_n 0, 1) := dk_42 (dk_at dksX6_truncate_0 3 rfl rfl)
theorem dX6_truncate_4 : decode cX6_truncate 4 = .ok (.getfield 27, 3) := dk_180 0 27 (dk_at dksX6_truncate_0 4 rfl rfl)
theorem dX6_truncate_7 : decode cX6_truncate 7 = .ok (.invokestatic 90, 3) := dk_184 0 90 (dk_at dksX6_truncate_0 7 rfl rfl)
theorem dX6_truncate_10 : decode cX6_truncate 10 = .ok (.ifCond .ne 7, 3) := dk_154 0 7 (dk_at dksX6_truncate_0 10 rfl rfl)
theorem dX6_truncate_13 : decode cX6_truncate 13 = .ok (.iconst 1, 1) := dk_4 (dk_at dksX6_truncate_0 13 rfl rfl)
theorem dX6_truncate_14 : decode cX6_truncate 14 = .ok (.goto 4, 3) := dk_167 0 4 (dk_at dksX6_truncate_0 14 rfl rfl)
theorem dX6_truncate_17 : decode cX6_truncate 17 = .ok (.iconst 0, 1) := dk_3 (dk_at dksX6_truncate_0 17 rfl rfl)
theorem dX6_truncate_18 : decode cX6_truncate 18 = .ok (.iconst 0, 1) := dk_3 (dk_at dksX6_truncate_0 18 rfl rfl)
theorem dX6_truncate_19 : decode cX6_truncate 19 = .ok (.iconst 0, 1) := dk_3 (dk_at dksX6_truncate_0 19 rfl rfl)
theorem dX6_truncate_20 : decode cX6_truncate 20 = .ok (.invokevirtual 171, 3) := dk_182 0 171 (dk_at dksX6_truncate_0 20 rfl rfl)
theorem dX6_truncate_23 : decode cX6_truncate 23 = .ok (.ifCond .eq 5, 3) := dk_153 0 5 (dk_at dksX6_truncate_1 0 rfl rfl)
theorem dX6_truncate_26 : decode cX6_truncate 26 = .ok (.iconst 0, 1) := dk_3 (dk_at dksX6_truncate_1 3 rfl rfl)
theorem dX6_truncate_27 : decode cX6_truncate 27 = .ok (.ireturn, 1) := dk_172 (dk_at dksX6_truncate_1 4 rfl rfl)
theorem dX6_truncate_28 : decode cX6_truncate 28 = .ok (.aload_n 0, 1) := dk_42 (dk_at dksX6_truncate_1 5 rfl rfl)
theorem dX6_truncate_29 : decode cX6_truncate 29 = .ok (.iload_n 1, 1) := dk_27 (dk_at dksX6_truncate_1 6 rfl rfl)
theorem dX6_truncate_30 : decode cX6_truncate 30 = .ok (.putfield 27, 3) := dk_181 0 27 (dk_at dksX6_truncate_1 7 rfl rfl)
theorem dX6_truncate_33 : decode cX6_truncate 33 = .ok (.iload_n 1, 1) := dk_27 (dk_at dksX6_truncate_1 10 rfl rfl)
theorem dX6_truncate_34 : decode cX6_truncate 34 = .ok (.ireturn, 1) := dk_172 (dk_at dksX6_truncate_1 11 rfl rfl)
abbrev cX6_load : ByteArray := prog_9_method_58_code
def yX6_load : MethodName := ⟨RX6, "load", "()I"⟩
def dkwX6_load_3 : List UInt8 := [4, 3, 84, 42, 180, 0, 13, 4, 46, 172]
abbrev dktX6_load_3 : List UInt8 := dkwX6_load_3 ++ []
def dkwX6_load_2 : List UInt8 := [182, 0, 171, 153, 0, 5, 3, 172, 42, 3, 181, 0, 21, 42, 180, 0, 17, 3, 3, 84, 42, 180, 0, 17]
abbrev dktX6_load_2 : List UInt8 := dkwX6_load_2 ++ dktX6_load_3
def dkwX6_load_1 : List UInt8 := [154, 0, 10, 42, 16, 9, 3, 182, 0, 101, 42, 27, 154, 0, 7, 4, 167, 0, 4, 3, 3, 3]
abbrev dktX6_load_1 : List UInt8 := dkwX6_load_1 ++ dktX6_load_2
def dkwX6_load_0 : List UInt8 := [42, 3, 16, 9, 182, 0, 101, 42, 182, 0, 83, 42, 182, 0, 86, 60, 42, 3, 181, 0, 27, 27]
abbrev dktX6_load_0 : List UInt8 := dkwX6_load_0 ++ dktX6_load_1
theorem dksX6_load_0 : cX6_load.data.toList.drop 0 = dktX6_load_0 := by decide +kernel
theorem dksX6_load_1 : cX6_load.data.toList.drop 22 = dktX6_load_1 := dk_seg dksX6_load_0 22 rfl rfl
theorem dksX6_load_2 : cX6_load.data.toList.drop 44 = dktX6_load_2 := dk_seg dksX6_load_1 22 rfl rfl
theorem dksX6_load_3 : cX6_load.data.toList.drop 68 = dktX6_load_3 := dk_seg dksX6_load_2 24 rfl rfl
theorem dX6_load_0 : decode cX6_load 0 = .ok (.aload_n 0, 1) := dk_42 (dk_at dksX6_load_0 0 rfl rfl)
theorem dX6_load_1 : decode cX6_load 1 = .ok (.iconst 0, 1) := dk_3 (dk_at dksX6_load_0 1 rfl rfl)
theorem dX6_load_2 : decode cX6_load 2 = .ok (.bipush 9, 2) := dk_16 9 (dk_at dksX6_load_0 2 rfl rfl)
theorem dX6_load_4 : decode cX6_load 4 = .ok (.invokevirtual 101, 3) := dk_182 0 101 (dk_at dksX6_load_0 4 rfl rfl)
theorem dX6_load_7 : decode cX6_load 7 = .ok (.aload_n 0, 1) := dk_42 (dk_at dksX6_load_0 7 rfl rfl)
theorem dX6_load_8 : decode cX6_load 8 = .ok (.invokevirtual 83, 3) := dk_182 0 83 (dk_at dksX6_load_0 8 rfl rfl)
theorem dX6_load_11 : decode cX6_load 11 = .ok (.aload_n 0, 1) := dk_42 (dk_at dksX6_load_0 11 rfl rfl)
theorem dX6_load_12 : decode cX6_load 12 = .ok (.invokevirtual 86, 3) := dk_182 0 86 (dk_at dksX6_load_0 12 rfl rfl)
theorem dX6_load_15 : decode cX6_load 15 = .ok (.istore_n 1, 1) := dk_60 (dk_at dksX6_load_0 15 rfl rfl)
theorem dX6_load_16 : decode cX6_load 16 = .ok (.aload_n 0, 1) := dk_42 (dk_at dksX6_load_0 16 rfl rfl)
theorem dX6_load_17 : decode cX6_load 17 = .ok (.iconst 0, 1) := dk_3 (dk_at dksX6_load_0 17 rfl rfl)
theorem dX6_load_18 : decode cX6_load 18 = .ok (.putfield 27, 3) := dk_181 0 27 (dk_at dksX6_load_0 18 rfl rfl)
theorem dX6_load_21 : decode cX6_load 21 = .ok (.iload_n 1, 1) := dk_27 (dk_at dksX6_load_0 21 rfl rfl)
theorem dX6_load_22 : decode cX6_load 22 = .ok (.ifCond .ne 10, 3) := dk_154 0 10 (dk_at dksX6_load_1 0 rfl rfl)
theorem dX6_load_25 : decode cX6_load 25 = .ok (.aload_n 0, 1) := dk_42 (dk_at dksX6_load_1 3 rfl rfl)
theorem dX6_load_26 : decode cX6_load 26 = .ok (.bipush 9, 2) := dk_16 9 (dk_at dksX6_load_1 4 rfl rfl)
theorem dX6_load_28 : decode cX6_load 28 = .ok (.iconst 0, 1) := dk_3 (dk_at dksX6_load_1 6 rfl rfl)
theorem dX6_load_29 : decode cX6_load 29 = .ok (.invokevirtual 101, 3) := dk_182 0 101 (dk_at dksX6_load_1 7 rfl rfl)
theorem dX6_load_32 : decode cX6_load 32 = .ok (.aload_n 0, 1) := dk_42 (dk_at dksX6_load_1 10 rfl rfl)
theorem dX6_load_33 : decode cX6_load 33 = .ok (.iload_n 1, 1) := dk_27 (dk_at dksX6_load_1 11 rfl rfl)
theorem dX6_load_34 : decode cX6_load 34 = .ok (.ifCond .ne 7, 3) := dk_154 0 7 (dk_at dksX6_load_1 12 rfl rfl)
theorem dX6_load_37 : decode cX6_load 37 = .ok (.iconst 1, 1) := dk_4 (dk_at dksX6_load_1 15 rfl rfl)
theorem dX6_load_38 : decode cX6_load 38 = .ok (.goto 4, 3) := dk_167 0 4 (dk_at dksX6_load_1 16 rfl rfl)
theorem dX6_load_41 : decode cX6_load 41 = .ok (.iconst 0, 1) := dk_3 (dk_at dksX6_load_1 19 rfl rfl)
theorem dX6_load_42 : decode cX6_load 42 = .ok (.iconst 0, 1) := dk_3 (dk_at dksX6_load_1 20 rfl rfl)
theorem dX6_load_43 : decode cX6_load 43 = .ok (.iconst 0, 1) := dk_3 (dk_at dksX6_load_1 21 rfl rfl)
theorem dX6_load_44 : decode cX6_load 44 = .ok (.invokevirtual 171, 3) := dk_182 0 171 (dk_at dksX6_load_2 0 rfl rfl)
theorem dX6_load_47 : decode cX6_load 47 = .ok (.ifCond .eq 5, 3) := dk_153 0 5 (dk_at dksX6_load_2 3 rfl rfl)
theorem dX6_load_50 : decode cX6_load 50 = .ok (.iconst 0, 1) := dk_3 (dk_at dksX6_load_2 6 rfl rfl)
theorem dX6_load_51 : decode cX6_load 51 = .ok (.ireturn, 1) := dk_172 (dk_at dksX6_load_2 7 rfl rfl)
theorem dX6_load_52 : decode cX6_load 52 = .ok (.aload_n 0, 1) := dk_42 (dk_at dksX6_load_2 8 rfl rfl)
theorem dX6_load_53 : decode cX6_load 53 = .ok (.iconst 0, 1) := dk_3 (dk_at dksX6_load_2 9 rfl rfl)
theorem dX6_load_54 : decode cX6_load 54 = .ok (.putfield 21, 3) := dk_181 0 21 (dk_at dksX6_load_2 10 rfl rfl)
theorem dX6_load_57 : decode cX6_load 57 = .ok (.aload_n 0, 1) := dk_42 (dk_at dksX6_load_2 13 rfl rfl)
theorem dX6_load_58 : decode cX6_load 58 = .ok (.getfield 17, 3) := dk_180 0 17 (dk_at dksX6_load_2 14 rfl rfl)
theorem dX6_load_61 : decode cX6_load 61 = .ok (.iconst 0, 1) := dk_3 (dk_at dksX6_load_2 17 rfl rfl)
theorem dX6_load_62 : decode cX6_load 62 = .ok (.iconst 0, 1) := dk_3 (dk_at dksX6_load_2 18 rfl rfl)
theorem dX6_load_63 : decode cX6_load 63 = .ok (.bastore, 1) := dk_84 (dk_at dksX6_load_2 19 rfl rfl)
theorem dX6_load_64 : decode cX6_load 64 = .ok (.aload_n 0, 1) := dk_42 (dk_at dksX6_load_2 20 rfl rfl)
theorem dX6_load_65 : decode cX6_load 65 = .ok (.getfield 17, 3) := dk_180 0 17 (dk_at dksX6_load_2 21 rfl rfl)
theorem dX6_load_68 : decode cX6_load 68 = .ok (.iconst 1, 1) := dk_4 (dk_at dksX6_load_3 0 rfl rfl)
theorem dX6_load_69 : decode cX6_load 69 = .ok (.iconst 0, 1) := dk_3 (dk_at dksX6_load_3 1 rfl rfl)
theorem dX6_load_70 : decode cX6_load 70 = .ok (.bastore, 1) := dk_84 (dk_at dksX6_load_3 2 rfl rfl)
theorem dX6_load_71 : decode cX6_load 71 = .ok (.aload_n 0, 1) := dk_42 (dk_at dksX6_load_3 3 rfl rfl)
theorem dX6_load_72 : decode cX6_load 72 = .ok (.getfield 13, 3) := dk_180 0 13 (dk_at dksX6_load_3 4 rfl rfl)
theorem dX6_load_75 : decode cX6_load 75 = .ok (.iconst 1, 1) := dk_4 (dk_at dksX6_load_3 7 rfl rfl)
theorem dX6_load_76 : decode cX6_load 76 = .ok (.iaload, 1) := dk_46 (dk_at dksX6_load_3 8 rfl rfl)
theorem dX6_load_77 : decode cX6_load 77 = .ok (.ireturn, 1) := dk_172 (dk_at dksX6_load_3 9 rfl rfl)
abbrev cX6_copyBlock : ByteArray := prog_9_method_11_code
def yX6_copyBlock : MethodName := ⟨RX6, "copyBlock", "(II)V"⟩
def dkwX6_copyBlock_1 : List UInt8 := [27, 17, 0, 212, 104, 29, 96, 46, 79, 132, 3, 1, 167, 255, 222, 177]
abbrev dktX6_copyBlock_1 : List UInt8 := dkwX6_copyBlock_1 ++ []
def dkwX6_copyBlock_0 : List UInt8 := [3, 62, 29, 17, 0, 212, 162, 0, 33, 42, 180, 0, 13, 28, 17, 0, 212, 104, 29, 96, 42, 180, 0, 13]
abbrev dktX6_copyBlock_0 : List UInt8 := dkwX6_copyBlock_0 ++ dktX6_copyBlock_1
theorem dksX6_copyBlock_0 : cX6_copyBlock.data.toList.drop 0 = dktX6_copyBlock_0 := by decide +kernel
theorem dksX6_copyBlock_1 : cX6_copyBlock.data.toList.drop 24 = dktX6_copyBlock_1 := dk_seg dksX6_copyBlock_0 24 rfl rfl
theorem dX6_copyBlock_0 : decode cX6_copyBlock 0 = .ok (.iconst 0, 1) := dk_3 (dk_at dksX6_copyBlock_0 0 rfl rfl)
theorem dX6_copyBlock_1 : decode cX6_copyBlock 1 = .ok (.istore_n 3, 1) := dk_62 (dk_at dksX6_copyBlock_0 1 rfl rfl)
theorem dX6_copyBlock_2 : decode cX6_copyBlock 2 = .ok (.iload_n 3, 1) := dk_29 (dk_at dksX6_copyBlock_0 2 rfl rfl)
theorem dX6_copyBlock_3 : decode cX6_copyBlock 3 = .ok (.sipush 212, 3) := dk_17 0 212 (dk_at dksX6_copyBlock_0 3 rfl rfl)
theorem dX6_copyBlock_6 : decode cX6_copyBlock 6 = .ok (.if_icmp .ge 33, 3) := dk_162 0 33 (dk_at dksX6_copyBlock_0 6 rfl rfl)
theorem dX6_copyBlock_9 : decode cX6_copyBlock 9 = .ok (.aload_n 0, 1) := dk_42 (dk_at dksX6_copyBlock_0 9 rfl rfl)
theorem dX6_copyBlock_10 : decode cX6_copyBlock 10 = .ok (.getfield 13, 3) := dk_180 0 13 (dk_at dksX6_copyBlock_0 10 rfl rfl)
theorem dX6_copyBlock_13 : decode cX6_copyBlock 13 = .ok (.iload_n 2, 1) := dk_28 (dk_at dksX6_copyBlock_0 13 rfl rfl)
theorem dX6_copyBlock_14 : decode cX6_copyBlock 14 = .ok (.sipush 212, 3) := dk_17 0 212 (dk_at dksX6_copyBlock_0 14 rfl rfl)
theorem dX6_copyBlock_17 : decode cX6_copyBlock 17 = .ok (.imul, 1) := dk_104 (dk_at dksX6_copyBlock_0 17 rfl rfl)
theorem dX6_copyBlock_18 : decode cX6_copyBlock 18 = .ok (.iload_n 3, 1) := dk_29 (dk_at dksX6_copyBlock_0 18 rfl rfl)
theorem dX6_copyBlock_19 : decode cX6_copyBlock 19 = .ok (.iadd, 1) := dk_96 (dk_at dksX6_copyBlock_0 19 rfl rfl)
theorem dX6_copyBlock_20 : decode cX6_copyBlock 20 = .ok (.aload_n 0, 1) := dk_42 (dk_at dksX6_copyBlock_0 20 rfl rfl)
theorem dX6_copyBlock_21 : decode cX6_copyBlock 21 = .ok (.getfield 13, 3) := dk_180 0 13 (dk_at dksX6_copyBlock_0 21 rfl rfl)
theorem dX6_copyBlock_24 : decode cX6_copyBlock 24 = .ok (.iload_n 1, 1) := dk_27 (dk_at dksX6_copyBlock_1 0 rfl rfl)
theorem dX6_copyBlock_25 : decode cX6_copyBlock 25 = .ok (.sipush 212, 3) := dk_17 0 212 (dk_at dksX6_copyBlock_1 1 rfl rfl)
theorem dX6_copyBlock_28 : decode cX6_copyBlock 28 = .ok (.imul, 1) := dk_104 (dk_at dksX6_copyBlock_1 4 rfl rfl)
theorem dX6_copyBlock_29 : decode cX6_copyBlock 29 = .ok (.iload_n 3, 1) := dk_29 (dk_at dksX6_copyBlock_1 5 rfl rfl)
theorem dX6_copyBlock_30 : decode cX6_copyBlock 30 = .ok (.iadd, 1) := dk_96 (dk_at dksX6_copyBlock_1 6 rfl rfl)
theorem dX6_copyBlock_31 : decode cX6_copyBlock 31 = .ok (.iaload, 1) := dk_46 (dk_at dksX6_copyBlock_1 7 rfl rfl)
theorem dX6_copyBlock_32 : decode cX6_copyBlock 32 = .ok (.iastore, 1) := dk_79 (dk_at dksX6_copyBlock_1 8 rfl rfl)
theorem dX6_copyBlock_33 : decode cX6_copyBlock 33 = .ok (.iinc 3 1, 3) := dk_132 3 1 (dk_at dksX6_copyBlock_1 9 rfl rfl)
theorem dX6_copyBlock_36 : decode cX6_copyBlock 36 = .ok (.goto (-34), 3) := dk_167 255 222 (dk_at dksX6_copyBlock_1 12 rfl rfl)
theorem dX6_copyBlock_39 : decode cX6_copyBlock 39 = .ok (.return_, 1) := dk_177 (dk_at dksX6_copyBlock_1 15 rfl rfl)
abbrev cX6_runScript : ByteArray := prog_9_method_67_code
def yX6_runScript : MethodName := ⟨RX6, "runScript", "()I"⟩
def dkwX6_runScript_5 : List UInt8 := [46, 182, 1, 13, 132, 2, 1, 167, 255, 171, 27, 172]
abbrev dktX6_runScript_5 : List UInt8 := dkwX6_runScript_5 ++ []
def dkwX6_runScript_4 : List UInt8 := [46, 42, 180, 0, 69, 29, 4, 96, 46, 42, 180, 0, 69, 29, 5, 96, 46, 42, 180, 0, 69, 29, 6, 96]
abbrev dktX6_runScript_4 : List UInt8 := dkwX6_runScript_4 ++ dktX6_runScript_5
def dkwX6_runScript_3 : List UInt8 := [96, 46, 42, 180, 0, 69, 29, 6, 96, 46, 182, 1, 9, 154, 0, 5, 28, 172, 42, 42, 180, 0, 69, 29]
abbrev dktX6_runScript_3 : List UInt8 := dkwX6_runScript_3 ++ dktX6_runScript_4
def dkwX6_runScript_2 : List UInt8 := [7, 104, 62, 42, 42, 180, 0, 69, 29, 46, 42, 180, 0, 69, 29, 4, 96, 46, 42, 180, 0, 69, 29, 5]
abbrev dktX6_runScript_2 : List UInt8 := dkwX6_runScript_2 ++ dktX6_runScript_3
def dkwX6_runScript_1 : List UInt8 := [3, 3, 3, 182, 0, 171, 153, 0, 5, 3, 172, 42, 3, 182, 1, 6, 3, 61, 28, 27, 162, 0, 86, 28]
abbrev dktX6_runScript_1 : List UInt8 := dkwX6_runScript_1 ++ dktX6_runScript_2
def dkwX6_runScript_0 : List UInt8 := [42, 182, 0, 83, 42, 182, 1, 3, 60, 42, 3, 181, 0, 27, 42, 27, 2, 160, 0, 7, 4, 167, 0, 4]
abbrev dktX6_runScript_0 : List UInt8 := dkwX6_runScript_0 ++ dktX6_runScript_1
theorem dksX6_runScript_0 : cX6_runScript.data.toList.drop 0 = dktX6_runScript_0 := by decide +kernel
theorem dksX6_runScript_1 : cX6_runScript.data.toList.drop 24 = dktX6_runScript_1 := dk_seg dksX6_runScript_0 24 rfl rfl
theorem dksX6_runScript_2 : cX6_runScript.data.toList.drop 48 = dktX6_runScript_2 := dk_seg dksX6_runScript_1 24 rfl rfl
theorem dksX6_runScript_3 : cX6_runScript.data.toList.drop 72 = dktX6_runScript_3 := dk_seg dksX6_runScript_2 24 rfl rfl
theorem dksX6_runScript_4 : cX6_runScript.data.toList.drop 96 = dktX6_runScript_4 := dk_seg dksX6_runScript_3 24 rfl rfl
theorem dksX6_runScript_5 : cX6_runScript.data.toList.drop 120 = dktX6_runScript_5 := dk_seg dksX6_runScript_4 24 rfl rfl
theorem dX6_runScript_0 : decode cX6_runScript 0 = .ok (.aload_n 0, 1) := dk_42 (dk_at dksX6_runScript_0 0 rfl rfl)
theorem dX6_runScript_1 : decode cX6_runScript 1 = .ok (.invokevirtual 83, 3) := dk_182 0 83 (dk_at dksX6_runScript_0 1 rfl rfl)
theorem dX6_runScript_4 : decode cX6_runScript 4 = .ok (.aload_n 0, 1) := dk_42 (dk_at dksX6_runScript_0 4 rfl rfl)
theorem dX6_runScript_5 : decode cX6_runScript 5 = .ok (.invokevirtual 259, 3) := dk_182 1 3 (dk_at dksX6_runScript_0 5 rfl rfl)
theorem dX6_runScript_8 : decode cX6_runScript 8 = .ok (.istore_n 1, 1) := dk_60 (dk_at dksX6_runScript_0 8 rfl rfl)
theorem dX6_runScript_9 : decode cX6_runScript 9 = .ok (.aload_n 0, 1) := dk_42 (dk_at dksX6_runScript_0 9 rfl rfl)
theorem dX6_runScript_10 : decode cX6_runScript 10 = .ok (.iconst 0, 1) := dk_3 (dk_at dksX6_runScript_0 10 rfl rfl)
theorem dX6_runScript_11 : decode cX6_runScript 11 = .ok (.putfield 27, 3) := dk_181 0 27 (dk_at dksX6_runScript_0 11 rfl rfl)
theorem dX6_runScript_14 : decode cX6_runScript 14 = .ok (.aload_n 0, 1) := dk_42 (dk_at dksX6_runScript_0 14 rfl rfl)
theorem dX6_runScript_15 : decode cX6_runScript 15 = .ok (.iload_n 1, 1) := dk_27 (dk_at dksX6_runScript_0 15 rfl rfl)
theorem dX6_runScript_16 : decode cX6_runScript 16 = .ok (.iconst (-1), 1) := dk_2 (dk_at dksX6_runScript_0 16 rfl rfl)
theorem dX6_runScript_17 : decode cX6_runScript 17 = .ok (.if_icmp .ne 7, 3) := dk_160 0 7 (dk_at dksX6_runScript_0 17 rfl rfl)
theorem dX6_runScript_20 : decode cX6_runScript 20 = .ok (.iconst 1, 1) := dk_4 (dk_at dksX6_runScript_0 20 rfl rfl)
theorem dX6_runScript_21 : decode cX6_runScript 21 = .ok (.goto 4, 3) := dk_167 0 4 (dk_at dksX6_runScript_0 21 rfl rfl)
theorem dX6_runScript_24 : decode cX6_runScript 24 = .ok (.iconst 0, 1) := dk_3 (dk_at dksX6_runScript_1 0 rfl rfl)
theorem dX6_runScript_25 : decode cX6_runScript 25 = .ok (.iconst 0, 1) := dk_3 (dk_at dksX6_runScript_1 1 rfl rfl)
theorem dX6_runScript_26 : decode cX6_runScript 26 = .ok (.iconst 0, 1) := dk_3 (dk_at dksX6_runScript_1 2 rfl rfl)
theorem dX6_runScript_27 : decode cX6_runScript 27 = .ok (.invokevirtual 171, 3) := dk_182 0 171 (dk_at dksX6_runScript_1 3 rfl rfl)
theorem dX6_runScript_30 : decode cX6_runScript 30 = .ok (.ifCond .eq 5, 3) := dk_153 0 5 (dk_at dksX6_runScript_1 6 rfl rfl)
theorem dX6_runScript_33 : decode cX6_runScript 33 = .ok (.iconst 0, 1) := dk_3 (dk_at dksX6_runScript_1 9 rfl rfl)
theorem dX6_runScript_34 : decode cX6_runScript 34 = .ok (.ireturn, 1) := dk_172 (dk_at dksX6_runScript_1 10 rfl rfl)
theorem dX6_runScript_35 : decode cX6_runScript 35 = .ok (.aload_n 0, 1) := dk_42 (dk_at dksX6_runScript_1 11 rfl rfl)
theorem dX6_runScript_36 : decode cX6_runScript 36 = .ok (.iconst 0, 1) := dk_3 (dk_at dksX6_runScript_1 12 rfl rfl)
theorem dX6_runScript_37 : decode cX6_runScript 37 = .ok (.invokevirtual 262, 3) := dk_182 1 6 (dk_at dksX6_runScript_1 13 rfl rfl)
theorem dX6_runScript_40 : decode cX6_runScript 40 = .ok (.iconst 0, 1) := dk_3 (dk_at dksX6_runScript_1 16 rfl rfl)
theorem dX6_runScript_41 : decode cX6_runScript 41 = .ok (.istore_n 2, 1) := dk_61 (dk_at dksX6_runScript_1 17 rfl rfl)
theorem dX6_runScript_42 : decode cX6_runScript 42 = .ok (.iload_n 2, 1) := dk_28 (dk_at dksX6_runScript_1 18 rfl rfl)
theorem dX6_runScript_43 : decode cX6_runScript 43 = .ok (.iload_n 1, 1) := dk_27 (dk_at dksX6_runScript_1 19 rfl rfl)
theorem dX6_runScript_44 : decode cX6_runScript 44 = .ok (.if_icmp .ge 86, 3) := dk_162 0 86 (dk_at dksX6_runScript_1 20 rfl rfl)
theorem dX6_runScript_47 : decode cX6_runScript 47 = .ok (.iload_n 2, 1) := dk_28 (dk_at dksX6_runScript_1 23 rfl rfl)
theorem dX6_runScript_48 : decode cX6_runScript 48 = .ok (.iconst 4, 1) := dk_7 (dk_at dksX6_runScript_2 0 rfl rfl)
theorem dX6_runScript_49 : decode cX6_runScript 49 = .ok (.imul, 1) := dk_104 (dk_at dksX6_runScript_2 1 rfl rfl)
theorem dX6_runScript_50 : decode cX6_runScript 50 = .ok (.istore_n 3, 1) := dk_62 (dk_at dksX6_runScript_2 2 rfl rfl)
theorem dX6_runScript_51 : decode cX6_runScript 51 = .ok (.aload_n 0, 1) := dk_42 (dk_at dksX6_runScript_2 3 rfl rfl)
theorem dX6_runScript_52 : decode cX6_runScript 52 = .ok (.aload_n 0, 1) := dk_42 (dk_at dksX6_runScript_2 4 rfl rfl)
theorem dX6_runScript_53 : decode cX6_runScript 53 = .ok (.getfield 69, 3) := dk_180 0 69 (dk_at dksX6_runScript_2 5 rfl rfl)
theorem dX6_runScript_56 : decode cX6_runScript 56 = .ok (.iload_n 3, 1) := dk_29 (dk_at dksX6_runScript_2 8 rfl rfl)
theorem dX6_runScript_57 : decode cX6_runScript 57 = .ok (.iaload, 1) := dk_46 (dk_at dksX6_runScript_2 9 rfl rfl)
theorem dX6_runScript_58 : decode cX6_runScript 58 = .ok (.aload_n 0, 1) := dk_42 (dk_at dksX6_runScript_2 10 rfl rfl)
theorem dX6_runScript_59 : decode cX6_runScript 59 = .ok (.getfield 69, 3) := dk_180 0 69 (dk_at dksX6_runScript_2 11 rfl rfl)
theorem dX6_runScript_62 : decode cX6_runScript 62 = .ok (.iload_n 3, 1) := dk_29 (dk_at dksX6_runScript_2 14 rfl rfl)
theorem dX6_runScript_63 : decode cX6_runScript 63 = .ok (.iconst 1, 1) := dk_4 (dk_at dksX6_runScript_2 15 rfl rfl)
theorem dX6_runScript_64 : decode cX6_runScript 64 = .ok (.iadd, 1) := dk_96 (dk_at dksX6_runScript_2 16 rfl rfl)
theorem dX6_runScript_65 : decode cX6_runScript 65 = .ok (.iaload, 1) := dk_46 (dk_at dksX6_runScript_2 17 rfl rfl)
theorem dX6_runScript_66 : decode cX6_runScript 66 = .ok (.aload_n 0, 1) := dk_42 (dk_at dksX6_runScript_2 18 rfl rfl)
theorem dX6_runScript_67 : decode cX6_runScript 67 = .ok (.getfield 69, 3) := dk_180 0 69 (dk_at dksX6_runScript_2 19 rfl rfl)
theorem dX6_runScript_70 : decode cX6_runScript 70 = .ok (.iload_n 3, 1) := dk_29 (dk_at dksX6_runScript_2 22 rfl rfl)
theorem dX6_runScript_71 : decode cX6_runScript 71 = .ok (.iconst 2, 1) := dk_5 (dk_at dksX6_runScript_2 23 rfl rfl)
theorem dX6_runScript_72 : decode cX6_runScript 72 = .ok (.iadd, 1) := dk_96 (dk_at dksX6_runScript_3 0 rfl rfl)
theorem dX6_runScript_73 : decode cX6_runScript 73 = .ok (.iaload, 1) := dk_46 (dk_at dksX6_runScript_3 1 rfl rfl)
theorem dX6_runScript_74 : decode cX6_runScript 74 = .ok (.aload_n 0, 1) := dk_42 (dk_at dksX6_runScript_3 2 rfl rfl)
theorem dX6_runScript_75 : decode cX6_runScript 75 = .ok (.getfield 69, 3) := dk_180 0 69 (dk_at dksX6_runScript_3 3 rfl rfl)
theorem dX6_runScript_78 : decode cX6_runScript 78 = .ok (.iload_n 3, 1) := dk_29 (dk_at dksX6_runScript_3 6 rfl rfl)
theorem dX6_runScript_79 : decode cX6_runScript 79 = .ok (.iconst 3, 1) := dk_6 (dk_at dksX6_runScript_3 7 rfl rfl)
theorem dX6_runScript_80 : decode cX6_runScript 80 = .ok (.iadd, 1) := dk_96 (dk_at dksX6_runScript_3 8 rfl rfl)
theorem dX6_runScript_81 : decode cX6_runScript 81 = .ok (.iaload, 1) := dk_46 (dk_at dksX6_runScript_3 9 rfl rfl)
theorem dX6_runScript_82 : decode cX6_runScript 82 = .ok (.invokevirtual 265, 3) := dk_182 1 9 (dk_at dksX6_runScript_3 10 rfl rfl)
theorem dX6_runScript_85 : decode cX6_runScript 85 = .ok (.ifCond .ne 5, 3) := dk_154 0 5 (dk_at dksX6_runScript_3 13 rfl rfl)
theorem dX6_runScript_88 : decode cX6_runScript 88 = .ok (.iload_n 2, 1) := dk_28 (dk_at dksX6_runScript_3 16 rfl rfl)
theorem dX6_runScript_89 : decode cX6_runScript 89 = .ok (.ireturn, 1) := dk_172 (dk_at dksX6_runScript_3 17 rfl rfl)
theorem dX6_runScript_90 : decode cX6_runScript 90 = .ok (.aload_n 0, 1) := dk_42 (dk_at dksX6_runScript_3 18 rfl rfl)
theorem dX6_runScript_91 : decode cX6_runScript 91 = .ok (.aload_n 0, 1) := dk_42 (dk_at dksX6_runScript_3 19 rfl rfl)
theorem dX6_runScript_92 : decode cX6_runScript 92 = .ok (.getfield 69, 3) := dk_180 0 69 (dk_at dksX6_runScript_3 20 rfl rfl)
theorem dX6_runScript_95 : decode cX6_runScript 95 = .ok (.iload_n 3, 1) := dk_29 (dk_at dksX6_runScript_3 23 rfl rfl)
theorem dX6_runScript_96 : decode cX6_runScript 96 = .ok (.iaload, 1) := dk_46 (dk_at dksX6_runScript_4 0 rfl rfl)
theorem dX6_runScript_97 : decode cX6_runScript 97 = .ok (.aload_n 0, 1) := dk_42 (dk_at dksX6_runScript_4 1 rfl rfl)
theorem dX6_runScript_98 : decode cX6_runScript 98 = .ok (.getfield 69, 3) := dk_180 0 69 (dk_at dksX6_runScript_4 2 rfl rfl)
theorem dX6_runScript_101 : decode cX6_runScript 101 = .ok (.iload_n 3, 1) := dk_29 (dk_at dksX6_runScript_4 5 rfl rfl)
theorem dX6_runScript_102 : decode cX6_runScript 102 = .ok (.iconst 1, 1) := dk_4 (dk_at dksX6_runScript_4 6 rfl rfl)
theorem dX6_runScript_103 : decode cX6_runScript 103 = .ok (.iadd, 1) := dk_96 (dk_at dksX6_runScript_4 7 rfl rfl)
theorem dX6_runScript_104 : decode cX6_runScript 104 = .ok (.iaload, 1) := dk_46 (dk_at dksX6_runScript_4 8 rfl rfl)
theorem dX6_runScript_105 : decode cX6_runScript 105 = .ok (.aload_n 0, 1) := dk_42 (dk_at dksX6_runScript_4 9 rfl rfl)
theorem dX6_runScript_106 : decode cX6_runScript 106 = .ok (.getfield 69, 3) := dk_180 0 69 (dk_at dksX6_runScript_4 10 rfl rfl)
theorem dX6_runScript_109 : decode cX6_runScript 109 = .ok (.iload_n 3, 1) := dk_29 (dk_at dksX6_runScript_4 13 rfl rfl)
theorem dX6_runScript_110 : decode cX6_runScript 110 = .ok (.iconst 2, 1) := dk_5 (dk_at dksX6_runScript_4 14 rfl rfl)
theorem dX6_runScript_111 : decode cX6_runScript 111 = .ok (.iadd, 1) := dk_96 (dk_at dksX6_runScript_4 15 rfl rfl)
theorem dX6_runScript_112 : decode cX6_runScript 112 = .ok (.iaload, 1) := dk_46 (dk_at dksX6_runScript_4 16 rfl rfl)
theorem dX6_runScript_113 : decode cX6_runScript 113 = .ok (.aload_n 0, 1) := dk_42 (dk_at dksX6_runScript_4 17 rfl rfl)
theorem dX6_runScript_114 : decode cX6_runScript 114 = .ok (.getfield 69, 3) := dk_180 0 69 (dk_at dksX6_runScript_4 18 rfl rfl)
theorem dX6_runScript_117 : decode cX6_runScript 117 = .ok (.iload_n 3, 1) := dk_29 (dk_at dksX6_runScript_4 21 rfl rfl)
theorem dX6_runScript_118 : decode cX6_runScript 118 = .ok (.iconst 3, 1) := dk_6 (dk_at dksX6_runScript_4 22 rfl rfl)
theorem dX6_runScript_119 : decode cX6_runScript 119 = .ok (.iadd, 1) := dk_96 (dk_at dksX6_runScript_4 23 rfl rfl)
theorem dX6_runScript_120 : decode cX6_runScript 120 = .ok (.iaload, 1) := dk_46 (dk_at dksX6_runScript_5 0 rfl rfl)
theorem dX6_runScript_121 : decode cX6_runScript 121 = .ok (.invokevirtual 269, 3) := dk_182 1 13 (dk_at dksX6_runScript_5 1 rfl rfl)
theorem dX6_runScript_124 : decode cX6_runScript 124 = .ok (.iinc 2 1, 3) := dk_132 2 1 (dk_at dksX6_runScript_5 4 rfl rfl)
theorem dX6_runScript_127 : decode cX6_runScript 127 = .ok (.goto (-85), 3) := dk_167 255 171 (dk_at dksX6_runScript_5 7 rfl rfl)
theorem dX6_runScript_130 : decode cX6_runScript 130 = .ok (.iload_n 1, 1) := dk_27 (dk_at dksX6_runScript_5 10 rfl rfl)
theorem dX6_runScript_131 : decode cX6_runScript 131 = .ok (.ireturn, 1) := dk_172 (dk_at dksX6_runScript_5 11 rfl rfl)
abbrev cX6_parseScript : ByteArray := prog_9_method_64_code
def yX6_parseScript : MethodName := ⟨RX6, "parseScript", "()I"⟩
def dkwX6_parseScript_4 : List UInt8 := [27, 172]
abbrev dktX6_parseScript_4 : List UInt8 := dkwX6_parseScript_4 ++ []
def dkwX6_parseScript_3 : List UInt8 := [104, 4, 96, 182, 0, 241, 153, 0, 10, 42, 182, 0, 199, 154, 0, 5, 2, 172, 132, 1, 1, 167, 255, 167]
abbrev dktX6_parseScript_3 : List UInt8 := dkwX6_parseScript_3 ++ dktX6_parseScript_4
def dkwX6_parseScript_2 : List UInt8 := [62, 29, 154, 0, 5, 2, 172, 42, 182, 0, 184, 42, 180, 0, 69, 27, 7, 104, 28, 79, 42, 28, 27, 7]
abbrev dktX6_parseScript_2 : List UInt8 := dkwX6_parseScript_2 ++ dktX6_parseScript_3
def dkwX6_parseScript_1 : List UInt8 := [161, 0, 11, 42, 7, 182, 0, 187, 153, 0, 7, 4, 167, 0, 12, 3, 167, 0, 8, 42, 4, 182, 0, 187]
abbrev dktX6_parseScript_1 : List UInt8 := dkwX6_parseScript_1 ++ dktX6_parseScript_2
def dkwX6_parseScript_0 : List UInt8 := [3, 60, 42, 180, 0, 60, 153, 0, 88, 42, 182, 0, 238, 61, 28, 2, 159, 0, 25, 27, 16, 30]
abbrev dktX6_parseScript_0 : List UInt8 := dkwX6_parseScript_0 ++ dktX6_parseScript_1
theorem dksX6_parseScript_0 : cX6_parseScript.data.toList.drop 0 = dktX6_parseScript_0 := by decide +kernel
theorem dksX6_parseScript_1 : cX6_parseScript.data.toList.drop 22 = dktX6_parseScript_1 := dk_seg dksX6_parseScript_0 22 rfl rfl
theorem dksX6_parseScript_2 : cX6_parseScript.data.toList.drop 46 = dktX6_parseScript_2 := dk_seg dksX6_parseScript_1 24 rfl rfl
theorem dksX6_parseScript_3 : cX6_parseScript.data.toList.drop 70 = dktX6_parseScript_3 := dk_seg dksX6_parseScript_2 24 rfl rfl
theorem dksX6_parseScript_4 : cX6_parseScript.data.toList.drop 94 = dktX6_parseScript_4 := dk_seg dksX6_parseScript_3 24 rfl rfl
theorem dX6_parseScript_0 : decode cX6_parseScript 0 = .ok (.iconst 0, 1) := dk_3 (dk_at dksX6_parseScript_0 0 rfl rfl)
theorem dX6_parseScript_1 : decode cX6_parseScript 1 = .ok (.istore_n 1, 1) := dk_60 (dk_at dksX6_parseScript_0 1 rfl rfl)
theorem dX6_parseScript_2 : decode cX6_parseScript 2 = .ok (.aload_n 0, 1) := dk_42 (dk_at dksX6_parseScript_0 2 rfl rfl)
theorem dX6_parseScript_3 : decode cX6_parseScript 3 = .ok (.getfield 60, 3) := dk_180 0 60 (dk_at dksX6_parseScript_0 3 rfl rfl)
theorem dX6_parseScript_6 : decode cX6_parseScript 6 = .ok (.ifCond .eq 88, 3) := dk_153 0 88 (dk_at dksX6_parseScript_0 6 rfl rfl)
theorem dX6_parseScript_9 : decode cX6_parseScript 9 = .ok (.aload_n 0, 1) := dk_42 (dk_at dksX6_parseScript_0 9 rfl rfl)
theorem dX6_parseScript_10 : decode cX6_parseScript 10 = .ok (.invokevirtual 238, 3) := dk_182 0 238 (dk_at dksX6_parseScript_0 10 rfl rfl)
theorem dX6_parseScript_13 : decode cX6_parseScript 13 = .ok (.istore_n 2, 1) := dk_61 (dk_at dksX6_parseScript_0 13 rfl rfl)
theorem dX6_parseScript_14 : decode cX6_parseScript 14 = .ok (.iload_n 2, 1) := dk_28 (dk_at dksX6_parseScript_0 14 rfl rfl)
theorem dX6_parseScript_15 : decode cX6_parseScript 15 = .ok (.iconst (-1), 1) := dk_2 (dk_at dksX6_parseScript_0 15 rfl rfl)
theorem dX6_parseScript_16 : decode cX6_parseScript 16 = .ok (.if_icmp .eq 25, 3) := dk_159 0 25 (dk_at dksX6_parseScript_0 16 rfl rfl)
theorem dX6_parseScript_19 : decode cX6_parseScript 19 = .ok (.iload_n 1, 1) := dk_27 (dk_at dksX6_parseScript_0 19 rfl rfl)
theorem dX6_parseScript_20 : decode cX6_parseScript 20 = .ok (.bipush 30, 2) := dk_16 30 (dk_at dksX6_parseScript_0 20 rfl rfl)
theorem dX6_parseScript_22 : decode cX6_parseScript 22 = .ok (.if_icmp .lt 11, 3) := dk_161 0 11 (dk_at dksX6_parseScript_1 0 rfl rfl)
theorem dX6_parseScript_25 : decode cX6_parseScript 25 = .ok (.aload_n 0, 1) := dk_42 (dk_at dksX6_parseScript_1 3 rfl rfl)
theorem dX6_parseScript_26 : decode cX6_parseScript 26 = .ok (.iconst 4, 1) := dk_7 (dk_at dksX6_parseScript_1 4 rfl rfl)
theorem dX6_parseScript_27 : decode cX6_parseScript 27 = .ok (.invokevirtual 187, 3) := dk_182 0 187 (dk_at dksX6_parseScript_1 5 rfl rfl)
theorem dX6_parseScript_30 : decode cX6_parseScript 30 = .ok (.ifCond .eq 7, 3) := dk_153 0 7 (dk_at dksX6_parseScript_1 8 rfl rfl)
theorem dX6_parseScript_33 : decode cX6_parseScript 33 = .ok (.iconst 1, 1) := dk_4 (dk_at dksX6_parseScript_1 11 rfl rfl)
theorem dX6_parseScript_34 : decode cX6_parseScript 34 = .ok (.goto 12, 3) := dk_167 0 12 (dk_at dksX6_parseScript_1 12 rfl rfl)
theorem dX6_parseScript_37 : decode cX6_parseScript 37 = .ok (.iconst 0, 1) := dk_3 (dk_at dksX6_parseScript_1 15 rfl rfl)
theorem dX6_parseScript_38 : decode cX6_parseScript 38 = .ok (.goto 8, 3) := dk_167 0 8 (dk_at dksX6_parseScript_1 16 rfl rfl)
theorem dX6_parseScript_41 : decode cX6_parseScript 41 = .ok (.aload_n 0, 1) := dk_42 (dk_at dksX6_parseScript_1 19 rfl rfl)
theorem dX6_parseScript_42 : decode cX6_parseScript 42 = .ok (.iconst 1, 1) := dk_4 (dk_at dksX6_parseScript_1 20 rfl rfl)
theorem dX6_parseScript_43 : decode cX6_parseScript 43 = .ok (.invokevirtual 187, 3) := dk_182 0 187 (dk_at dksX6_parseScript_1 21 rfl rfl)
theorem dX6_parseScript_46 : decode cX6_parseScript 46 = .ok (.istore_n 3, 1) := dk_62 (dk_at dksX6_parseScript_2 0 rfl rfl)
theorem dX6_parseScript_47 : decode cX6_parseScript 47 = .ok (.iload_n 3, 1) := dk_29 (dk_at dksX6_parseScript_2 1 rfl rfl)
theorem dX6_parseScript_48 : decode cX6_parseScript 48 = .ok (.ifCond .ne 5, 3) := dk_154 0 5 (dk_at dksX6_parseScript_2 2 rfl rfl)
theorem dX6_parseScript_51 : decode cX6_parseScript 51 = .ok (.iconst (-1), 1) := dk_2 (dk_at dksX6_parseScript_2 5 rfl rfl)
theorem dX6_parseScript_52 : decode cX6_parseScript 52 = .ok (.ireturn, 1) := dk_172 (dk_at dksX6_parseScript_2 6 rfl rfl)
theorem dX6_parseScript_53 : decode cX6_parseScript 53 = .ok (.aload_n 0, 1) := dk_42 (dk_at dksX6_parseScript_2 7 rfl rfl)
theorem dX6_parseScript_54 : decode cX6_parseScript 54 = .ok (.invokevirtual 184, 3) := dk_182 0 184 (dk_at dksX6_parseScript_2 8 rfl rfl)
theorem dX6_parseScript_57 : decode cX6_parseScript 57 = .ok (.aload_n 0, 1) := dk_42 (dk_at dksX6_parseScript_2 11 rfl rfl)
theorem dX6_parseScript_58 : decode cX6_parseScript 58 = .ok (.getfield 69, 3) := dk_180 0 69 (dk_at dksX6_parseScript_2 12 rfl rfl)
theorem dX6_parseScript_61 : decode cX6_parseScript 61 = .ok (.iload_n 1, 1) := dk_27 (dk_at dksX6_parseScript_2 15 rfl rfl)
theorem dX6_parseScript_62 : decode cX6_parseScript 62 = .ok (.iconst 4, 1) := dk_7 (dk_at dksX6_parseScript_2 16 rfl rfl)
theorem dX6_parseScript_63 : decode cX6_parseScript 63 = .ok (.imul, 1) := dk_104 (dk_at dksX6_parseScript_2 17 rfl rfl)
theorem dX6_parseScript_64 : decode cX6_parseScript 64 = .ok (.iload_n 2, 1) := dk_28 (dk_at dksX6_parseScript_2 18 rfl rfl)
theorem dX6_parseScript_65 : decode cX6_parseScript 65 = .ok (.iastore, 1) := dk_79 (dk_at dksX6_parseScript_2 19 rfl rfl)
theorem dX6_parseScript_66 : decode cX6_parseScript 66 = .ok (.aload_n 0, 1) := dk_42 (dk_at dksX6_parseScript_2 20 rfl rfl)
theorem dX6_parseScript_67 : decode cX6_parseScript 67 = .ok (.iload_n 2, 1) := dk_28 (dk_at dksX6_parseScript_2 21 rfl rfl)
theorem dX6_parseScript_68 : decode cX6_parseScript 68 = .ok (.iload_n 1, 1) := dk_27 (dk_at dksX6_parseScript_2 22 rfl rfl)
theorem dX6_parseScript_69 : decode cX6_parseScript 69 = .ok (.iconst 4, 1) := dk_7 (dk_at dksX6_parseScript_2 23 rfl rfl)
theorem dX6_parseScript_70 : decode cX6_parseScript 70 = .ok (.imul, 1) := dk_104 (dk_at dksX6_parseScript_3 0 rfl rfl)
theorem dX6_parseScript_71 : decode cX6_parseScript 71 = .ok (.iconst 1, 1) := dk_4 (dk_at dksX6_parseScript_3 1 rfl rfl)
theorem dX6_parseScript_72 : decode cX6_parseScript 72 = .ok (.iadd, 1) := dk_96 (dk_at dksX6_parseScript_3 2 rfl rfl)
theorem dX6_parseScript_73 : decode cX6_parseScript 73 = .ok (.invokevirtual 241, 3) := dk_182 0 241 (dk_at dksX6_parseScript_3 3 rfl rfl)
theorem dX6_parseScript_76 : decode cX6_parseScript 76 = .ok (.ifCond .eq 10, 3) := dk_153 0 10 (dk_at dksX6_parseScript_3 6 rfl rfl)
theorem dX6_parseScript_79 : decode cX6_parseScript 79 = .ok (.aload_n 0, 1) := dk_42 (dk_at dksX6_parseScript_3 9 rfl rfl)
theorem dX6_parseScript_80 : decode cX6_parseScript 80 = .ok (.invokevirtual 199, 3) := dk_182 0 199 (dk_at dksX6_parseScript_3 10 rfl rfl)
theorem dX6_parseScript_83 : decode cX6_parseScript 83 = .ok (.ifCond .ne 5, 3) := dk_154 0 5 (dk_at dksX6_parseScript_3 13 rfl rfl)
theorem dX6_parseScript_86 : decode cX6_parseScript 86 = .ok (.iconst (-1), 1) := dk_2 (dk_at dksX6_parseScript_3 16 rfl rfl)
theorem dX6_parseScript_87 : decode cX6_parseScript 87 = .ok (.ireturn, 1) := dk_172 (dk_at dksX6_parseScript_3 17 rfl rfl)
theorem dX6_parseScript_88 : decode cX6_parseScript 88 = .ok (.iinc 1 1, 3) := dk_132 1 1 (dk_at dksX6_parseScript_3 18 rfl rfl)
theorem dX6_parseScript_91 : decode cX6_parseScript 91 = .ok (.goto (-89), 3) := dk_167 255 167 (dk_at dksX6_parseScript_3 21 rfl rfl)
theorem dX6_parseScript_94 : decode cX6_parseScript 94 = .ok (.iload_n 1, 1) := dk_27 (dk_at dksX6_parseScript_4 0 rfl rfl)
theorem dX6_parseScript_95 : decode cX6_parseScript 95 = .ok (.ireturn, 1) := dk_172 (dk_at dksX6_parseScript_4 1 rfl rfl)
abbrev cX6_commandHere : ByteArray := prog_9_method_60_code
def yX6_commandHere : MethodName := ⟨RX6, "commandHere", "()I"⟩
def dkwX6_commandHere_1 : List UInt8 := [167, 255, 234, 2, 172]
abbrev dktX6_commandHere_1 : List UInt8 := dkwX6_commandHere_1 ++ []
def dkwX6_commandHere_0 : List UInt8 := [3, 60, 27, 16, 7, 163, 0, 22, 42, 27, 184, 0, 228, 182, 0, 204, 153, 0, 5, 27, 172, 132, 1, 1]
abbrev dktX6_commandHere_0 : List UInt8 := dkwX6_commandHere_0 ++ dktX6_commandHere_1
theorem dksX6_commandHere_0 : cX6_commandHere.data.toList.drop 0 = dktX6_commandHere_0 := by decide +kernel
theorem dksX6_commandHere_1 : cX6_commandHere.data.toList.drop 24 = dktX6_commandHere_1 := dk_seg dksX6_commandHere_0 24 rfl rfl
theorem dX6_commandHere_0 : decode cX6_commandHere 0 = .ok (.iconst 0, 1) := dk_3 (dk_at dksX6_commandHere_0 0 rfl rfl)
theorem dX6_commandHere_1 : decode cX6_commandHere 1 = .ok (.istore_n 1, 1) := dk_60 (dk_at dksX6_commandHere_0 1 rfl rfl)
theorem dX6_commandHere_2 : decode cX6_commandHere 2 = .ok (.iload_n 1, 1) := dk_27 (dk_at dksX6_commandHere_0 2 rfl rfl)
theorem dX6_commandHere_3 : decode cX6_commandHere 3 = .ok (.bipush 7, 2) := dk_16 7 (dk_at dksX6_commandHere_0 3 rfl rfl)
theorem dX6_commandHere_5 : decode cX6_commandHere 5 = .ok (.if_icmp .gt 22, 3) := dk_163 0 22 (dk_at dksX6_commandHere_0 5 rfl rfl)
theorem dX6_commandHere_8 : decode cX6_commandHere 8 = .ok (.aload_n 0, 1) := dk_42 (dk_at dksX6_commandHere_0 8 rfl rfl)
theorem dX6_commandHere_9 : decode cX6_commandHere 9 = .ok (.iload_n 1, 1) := dk_27 (dk_at dksX6_commandHere_0 9 rfl rfl)
theorem dX6_commandHere_10 : decode cX6_commandHere 10 = .ok (.invokestatic 228, 3) := dk_184 0 228 (dk_at dksX6_commandHere_0 10 rfl rfl)
theorem dX6_commandHere_13 : decode cX6_commandHere 13 = .ok (.invokevirtual 204, 3) := dk_182 0 204 (dk_at dksX6_commandHere_0 13 rfl rfl)
theorem dX6_commandHere_16 : decode cX6_commandHere 16 = .ok (.ifCond .eq 5, 3) := dk_153 0 5 (dk_at dksX6_commandHere_0 16 rfl rfl)
theorem dX6_commandHere_19 : decode cX6_commandHere 19 = .ok (.iload_n 1, 1) := dk_27 (dk_at dksX6_commandHere_0 19 rfl rfl)
theorem dX6_commandHere_20 : decode cX6_commandHere 20 = .ok (.ireturn, 1) := dk_172 (dk_at dksX6_commandHere_0 20 rfl rfl)
theorem dX6_commandHere_21 : decode cX6_commandHere 21 = .ok (.iinc 1 1, 3) := dk_132 1 1 (dk_at dksX6_commandHere_0 21 rfl rfl)
theorem dX6_commandHere_24 : decode cX6_commandHere 24 = .ok (.goto (-22), 3) := dk_167 255 234 (dk_at dksX6_commandHere_1 0 rfl rfl)
theorem dX6_commandHere_27 : decode cX6_commandHere 27 = .ok (.iconst (-1), 1) := dk_2 (dk_at dksX6_commandHere_1 3 rfl rfl)
theorem dX6_commandHere_28 : decode cX6_commandHere 28 = .ok (.ireturn, 1) := dk_172 (dk_at dksX6_commandHere_1 4 rfl rfl)
abbrev cX6_nameOf : ByteArray := prog_9_method_59_code
def yX6_nameOf : MethodName := ⟨RX6, "nameOf", "(I)Ljava/lang/String;"⟩
def dkwX6_nameOf_2 : List UInt8 := [18, 213, 176, 18, 215, 176, 18, 217, 176, 18, 219, 176, 18, 220, 176, 18, 222, 176, 18, 224, 176, 18, 226, 176]
abbrev dktX6_nameOf_2 : List UInt8 := dkwX6_nameOf_2 ++ []
def dkwX6_nameOf_1 : List UInt8 := [170, 0, 0, 0, 0, 0, 64, 0, 0, 0, 0, 0, 0, 0, 6, 0, 0, 0, 43, 0, 0, 0, 46, 0, 0, 0, 49, 0, 0, 0, 52, 0, 0, 0, 55, 0, 0, 0, 58, 0, 0, 0, 61]
abbrev dktX6_nameOf_1 : List UInt8 := dkwX6_nameOf_1 ++ dktX6_nameOf_2
def dkwX6_nameOf_0 : List UInt8 := [26]
abbrev dktX6_nameOf_0 : List UInt8 := dkwX6_nameOf_0 ++ dktX6_nameOf_1
theorem dksX6_nameOf_0 : cX6_nameOf.data.toList.drop 0 = dktX6_nameOf_0 := by decide +kernel
theorem dksX6_nameOf_1 : cX6_nameOf.data.toList.drop 1 = dktX6_nameOf_1 := dk_seg dksX6_nameOf_0 1 rfl rfl
theorem dksX6_nameOf_2 : cX6_nameOf.data.toList.drop 44 = dktX6_nameOf_2 := dk_seg dksX6_nameOf_1 43 rfl rfl
theorem dX6_nameOf_0 : decode cX6_nameOf 0 = .ok (.iload_n 0, 1) := dk_26 (dk_at dksX6_nameOf_0 0 rfl rfl)
theorem dX6_nameOf_1 : decode cX6_nameOf 1 = .ok (.tableswitch 64 0 6 #[43, 46, 49, 52, 55, 58, 61], 43) := by decide +kernel
theorem dX6_nameOf_44 : decode cX6_nameOf 44 = .ok (.ldc 213, 2) := dk_18 213 (dk_at dksX6_nameOf_2 0 rfl rfl)
theorem dX6_nameOf_46 : decode cX6_nameOf 46 = .ok (.areturn, 1) := dk_176 (dk_at dksX6_nameOf_2 2 rfl rfl)
theorem dX6_nameOf_47 : decode cX6_nameOf 47 = .ok (.ldc 215, 2) := dk_18 215 (dk_at dksX6_nameOf_2 3 rfl rfl)
theorem dX6_nameOf_49 : decode cX6_nameOf 49 = .ok (.areturn, 1) := dk_176 (dk_at dksX6_nameOf_2 5 rfl rfl)
theorem dX6_nameOf_50 : decode cX6_nameOf 50 = .ok (.ldc 217, 2) := dk_18 217 (dk_at dksX6_nameOf_2 6 rfl rfl)
theorem dX6_nameOf_52 : decode cX6_nameOf 52 = .ok (.areturn, 1) := dk_176 (dk_at dksX6_nameOf_2 8 rfl rfl)
theorem dX6_nameOf_53 : decode cX6_nameOf 53 = .ok (.ldc 219, 2) := dk_18 219 (dk_at dksX6_nameOf_2 9 rfl rfl)
theorem dX6_nameOf_55 : decode cX6_nameOf 55 = .ok (.areturn, 1) := dk_176 (dk_at dksX6_nameOf_2 11 rfl rfl)
theorem dX6_nameOf_56 : decode cX6_nameOf 56 = .ok (.ldc 220, 2) := dk_18 220 (dk_at dksX6_nameOf_2 12 rfl rfl)
theorem dX6_nameOf_58 : decode cX6_nameOf 58 = .ok (.areturn, 1) := dk_176 (dk_at dksX6_nameOf_2 14 rfl rfl)
theorem dX6_nameOf_59 : decode cX6_nameOf 59 = .ok (.ldc 222, 2) := dk_18 222 (dk_at dksX6_nameOf_2 15 rfl rfl)
theorem dX6_nameOf_61 : decode cX6_nameOf 61 = .ok (.areturn, 1) := dk_176 (dk_at dksX6_nameOf_2 17 rfl rfl)
theorem dX6_nameOf_62 : decode cX6_nameOf 62 = .ok (.ldc 224, 2) := dk_18 224 (dk_at dksX6_nameOf_2 18 rfl rfl)
theorem dX6_nameOf_64 : decode cX6_nameOf 64 = .ok (.areturn, 1) := dk_176 (dk_at dksX6_nameOf_2 20 rfl rfl)
theorem dX6_nameOf_65 : decode cX6_nameOf 65 = .ok (.ldc 226, 2) := dk_18 226 (dk_at dksX6_nameOf_2 21 rfl rfl)
theorem dX6_nameOf_67 : decode cX6_nameOf 67 = .ok (.areturn, 1) := dk_176 (dk_at dksX6_nameOf_2 23 rfl rfl)
abbrev cX6_parseArguments : ByteArray := prog_9_method_63_code
def yX6_parseArguments : MethodName := ⟨RX6, "parseArguments", "(II)Z"⟩
def dkwX6_parseArguments_5 : List UInt8 := [4, 96, 182, 0, 232, 153, 0, 7, 4, 167, 0, 4, 3, 172, 4, 172, 42, 28, 182, 0, 232, 172]
abbrev dktX6_parseArguments_5 : List UInt8 := dkwX6_parseArguments_5 ++ []
def dkwX6_parseArguments_4 : List UInt8 := [5, 96, 182, 0, 235, 153, 0, 7, 4, 167, 0, 4, 3, 172, 42, 28, 182, 0, 232, 153, 0, 17, 42, 28]
abbrev dktX6_parseArguments_4 : List UInt8 := dkwX6_parseArguments_4 ++ dktX6_parseArguments_5
def dkwX6_parseArguments_3 : List UInt8 := [182, 0, 235, 153, 0, 7, 4, 167, 0, 4, 3, 172, 42, 28, 4, 96, 182, 0, 235, 153, 0, 17, 42, 28]
abbrev dktX6_parseArguments_3 : List UInt8 := dkwX6_parseArguments_3 ++ dktX6_parseArguments_4
def dkwX6_parseArguments_2 : List UInt8 := [42, 28, 182, 0, 232, 153, 0, 27, 42, 28, 4, 96, 182, 0, 235, 153, 0, 17, 42, 28, 5, 96]
abbrev dktX6_parseArguments_2 : List UInt8 := dkwX6_parseArguments_2 ++ dktX6_parseArguments_3
def dkwX6_parseArguments_1 : List UInt8 := [170, 0, 0, 0, 0, 0, 125, 0, 0, 0, 0, 0, 0, 0, 5, 0, 0, 0, 39, 0, 0, 0, 73, 0, 0, 0, 99, 0, 0, 0, 39, 0, 0, 0, 99, 0, 0, 0, 123]
abbrev dktX6_parseArguments_1 : List UInt8 := dkwX6_parseArguments_1 ++ dktX6_parseArguments_2
def dkwX6_parseArguments_0 : List UInt8 := [27]
abbrev dktX6_parseArguments_0 : List UInt8 := dkwX6_parseArguments_0 ++ dktX6_parseArguments_1
theorem dksX6_parseArguments_0 : cX6_parseArguments.data.toList.drop 0 = dktX6_parseArguments_0 := by decide +kernel
theorem dksX6_parseArguments_1 : cX6_parseArguments.data.toList.drop 1 = dktX6_parseArguments_1 := dk_seg dksX6_parseArguments_0 1 rfl rfl
theorem dksX6_parseArguments_2 : cX6_parseArguments.data.toList.drop 40 = dktX6_parseArguments_2 := dk_seg dksX6_parseArguments_1 39 rfl rfl
theorem dksX6_parseArguments_3 : cX6_parseArguments.data.toList.drop 62 = dktX6_parseArguments_3 := dk_seg dksX6_parseArguments_2 22 rfl rfl
theorem dksX6_parseArguments_4 : cX6_parseArguments.data.toList.drop 86 = dktX6_parseArguments_4 := dk_seg dksX6_parseArguments_3 24 rfl rfl
theorem dksX6_parseArguments_5 : cX6_parseArguments.data.toList.drop 110 = dktX6_parseArguments_5 := dk_seg dksX6_parseArguments_4 24 rfl rfl
theorem dX6_parseArguments_0 : decode cX6_parseArguments 0 = .ok (.iload_n 1, 1) := dk_27 (dk_at dksX6_parseArguments_0 0 rfl rfl)
theorem dX6_parseArguments_1 : decode cX6_parseArguments 1 = .ok (.tableswitch 125 0 5 #[39, 73, 99, 39, 99, 123], 39) := by decide +kernel
theorem dX6_parseArguments_40 : decode cX6_parseArguments 40 = .ok (.aload_n 0, 1) := dk_42 (dk_at dksX6_parseArguments_2 0 rfl rfl)
theorem dX6_parseArguments_41 : decode cX6_parseArguments 41 = .ok (.iload_n 2, 1) := dk_28 (dk_at dksX6_parseArguments_2 1 rfl rfl)
theorem dX6_parseArguments_42 : decode cX6_parseArguments 42 = .ok (.invokevirtual 232, 3) := dk_182 0 232 (dk_at dksX6_parseArguments_2 2 rfl rfl)
theorem dX6_parseArguments_45 : decode cX6_parseArguments 45 = .ok (.ifCond .eq 27, 3) := dk_153 0 27 (dk_at dksX6_parseArguments_2 5 rfl rfl)
theorem dX6_parseArguments_48 : decode cX6_parseArguments 48 = .ok (.aload_n 0, 1) := dk_42 (dk_at dksX6_parseArguments_2 8 rfl rfl)
theorem dX6_parseArguments_49 : decode cX6_parseArguments 49 = .ok (.iload_n 2, 1) := dk_28 (dk_at dksX6_parseArguments_2 9 rfl rfl)
theorem dX6_parseArguments_50 : decode cX6_parseArguments 50 = .ok (.iconst 1, 1) := dk_4 (dk_at dksX6_parseArguments_2 10 rfl rfl)
theorem dX6_parseArguments_51 : decode cX6_parseArguments 51 = .ok (.iadd, 1) := dk_96 (dk_at dksX6_parseArguments_2 11 rfl rfl)
theorem dX6_parseArguments_52 : decode cX6_parseArguments 52 = .ok (.invokevirtual 235, 3) := dk_182 0 235 (dk_at dksX6_parseArguments_2 12 rfl rfl)
theorem dX6_parseArguments_55 : decode cX6_parseArguments 55 = .ok (.ifCond .eq 17, 3) := dk_153 0 17 (dk_at dksX6_parseArguments_2 15 rfl rfl)
theorem dX6_parseArguments_58 : decode cX6_parseArguments 58 = .ok (.aload_n 0, 1) := dk_42 (dk_at dksX6_parseArguments_2 18 rfl rfl)
theorem dX6_parseArguments_59 : decode cX6_parseArguments 59 = .ok (.iload_n 2, 1) := dk_28 (dk_at dksX6_parseArguments_2 19 rfl rfl)
theorem dX6_parseArguments_60 : decode cX6_parseArguments 60 = .ok (.iconst 2, 1) := dk_5 (dk_at dksX6_parseArguments_2 20 rfl rfl)
theorem dX6_parseArguments_61 : decode cX6_parseArguments 61 = .ok (.iadd, 1) := dk_96 (dk_at dksX6_parseArguments_2 21 rfl rfl)
theorem dX6_parseArguments_62 : decode cX6_parseArguments 62 = .ok (.invokevirtual 235, 3) := dk_182 0 235 (dk_at dksX6_parseArguments_3 0 rfl rfl)
theorem dX6_parseArguments_65 : decode cX6_parseArguments 65 = .ok (.ifCond .eq 7, 3) := dk_153 0 7 (dk_at dksX6_parseArguments_3 3 rfl rfl)
theorem dX6_parseArguments_68 : decode cX6_parseArguments 68 = .ok (.iconst 1, 1) := dk_4 (dk_at dksX6_parseArguments_3 6 rfl rfl)
theorem dX6_parseArguments_69 : decode cX6_parseArguments 69 = .ok (.goto 4, 3) := dk_167 0 4 (dk_at dksX6_parseArguments_3 7 rfl rfl)
theorem dX6_parseArguments_72 : decode cX6_parseArguments 72 = .ok (.iconst 0, 1) := dk_3 (dk_at dksX6_parseArguments_3 10 rfl rfl)
theorem dX6_parseArguments_73 : decode cX6_parseArguments 73 = .ok (.ireturn, 1) := dk_172 (dk_at dksX6_parseArguments_3 11 rfl rfl)
theorem dX6_parseArguments_74 : decode cX6_parseArguments 74 = .ok (.aload_n 0, 1) := dk_42 (dk_at dksX6_parseArguments_3 12 rfl rfl)
theorem dX6_parseArguments_75 : decode cX6_parseArguments 75 = .ok (.iload_n 2, 1) := dk_28 (dk_at dksX6_parseArguments_3 13 rfl rfl)
theorem dX6_parseArguments_76 : decode cX6_parseArguments 76 = .ok (.iconst 1, 1) := dk_4 (dk_at dksX6_parseArguments_3 14 rfl rfl)
theorem dX6_parseArguments_77 : decode cX6_parseArguments 77 = .ok (.iadd, 1) := dk_96 (dk_at dksX6_parseArguments_3 15 rfl rfl)
theorem dX6_parseArguments_78 : decode cX6_parseArguments 78 = .ok (.invokevirtual 235, 3) := dk_182 0 235 (dk_at dksX6_parseArguments_3 16 rfl rfl)
theorem dX6_parseArguments_81 : decode cX6_parseArguments 81 = .ok (.ifCond .eq 17, 3) := dk_153 0 17 (dk_at dksX6_parseArguments_3 19 rfl rfl)
theorem dX6_parseArguments_84 : decode cX6_parseArguments 84 = .ok (.aload_n 0, 1) := dk_42 (dk_at dksX6_parseArguments_3 22 rfl rfl)
theorem dX6_parseArguments_85 : decode cX6_parseArguments 85 = .ok (.iload_n 2, 1) := dk_28 (dk_at dksX6_parseArguments_3 23 rfl rfl)
theorem dX6_parseArguments_86 : decode cX6_parseArguments 86 = .ok (.iconst 2, 1) := dk_5 (dk_at dksX6_parseArguments_4 0 rfl rfl)
theorem dX6_parseArguments_87 : decode cX6_parseArguments 87 = .ok (.iadd, 1) := dk_96 (dk_at dksX6_parseArguments_4 1 rfl rfl)
theorem dX6_parseArguments_88 : decode cX6_parseArguments 88 = .ok (.invokevirtual 235, 3) := dk_182 0 235 (dk_at dksX6_parseArguments_4 2 rfl rfl)
theorem dX6_parseArguments_91 : decode cX6_parseArguments 91 = .ok (.ifCond .eq 7, 3) := dk_153 0 7 (dk_at dksX6_parseArguments_4 5 rfl rfl)
theorem dX6_parseArguments_94 : decode cX6_parseArguments 94 = .ok (.iconst 1, 1) := dk_4 (dk_at dksX6_parseArguments_4 8 rfl rfl)
theorem dX6_parseArguments_95 : decode cX6_parseArguments 95 = .ok (.goto 4, 3) := dk_167 0 4 (dk_at dksX6_parseArguments_4 9 rfl rfl)
theorem dX6_parseArguments_98 : decode cX6_parseArguments 98 = .ok (.iconst 0, 1) := dk_3 (dk_at dksX6_parseArguments_4 12 rfl rfl)
theorem dX6_parseArguments_99 : decode cX6_parseArguments 99 = .ok (.ireturn, 1) := dk_172 (dk_at dksX6_parseArguments_4 13 rfl rfl)
theorem dX6_parseArguments_100 : decode cX6_parseArguments 100 = .ok (.aload_n 0, 1) := dk_42 (dk_at dksX6_parseArguments_4 14 rfl rfl)
theorem dX6_parseArguments_101 : decode cX6_parseArguments 101 = .ok (.iload_n 2, 1) := dk_28 (dk_at dksX6_parseArguments_4 15 rfl rfl)
theorem dX6_parseArguments_102 : decode cX6_parseArguments 102 = .ok (.invokevirtual 232, 3) := dk_182 0 232 (dk_at dksX6_parseArguments_4 16 rfl rfl)
theorem dX6_parseArguments_105 : decode cX6_parseArguments 105 = .ok (.ifCond .eq 17, 3) := dk_153 0 17 (dk_at dksX6_parseArguments_4 19 rfl rfl)
theorem dX6_parseArguments_108 : decode cX6_parseArguments 108 = .ok (.aload_n 0, 1) := dk_42 (dk_at dksX6_parseArguments_4 22 rfl rfl)
theorem dX6_parseArguments_109 : decode cX6_parseArguments 109 = .ok (.iload_n 2, 1) := dk_28 (dk_at dksX6_parseArguments_4 23 rfl rfl)
theorem dX6_parseArguments_110 : decode cX6_parseArguments 110 = .ok (.iconst 1, 1) := dk_4 (dk_at dksX6_parseArguments_5 0 rfl rfl)
theorem dX6_parseArguments_111 : decode cX6_parseArguments 111 = .ok (.iadd, 1) := dk_96 (dk_at dksX6_parseArguments_5 1 rfl rfl)
theorem dX6_parseArguments_112 : decode cX6_parseArguments 112 = .ok (.invokevirtual 232, 3) := dk_182 0 232 (dk_at dksX6_parseArguments_5 2 rfl rfl)
theorem dX6_parseArguments_115 : decode cX6_parseArguments 115 = .ok (.ifCond .eq 7, 3) := dk_153 0 7 (dk_at dksX6_parseArguments_5 5 rfl rfl)
theorem dX6_parseArguments_118 : decode cX6_parseArguments 118 = .ok (.iconst 1, 1) := dk_4 (dk_at dksX6_parseArguments_5 8 rfl rfl)
theorem dX6_parseArguments_119 : decode cX6_parseArguments 119 = .ok (.goto 4, 3) := dk_167 0 4 (dk_at dksX6_parseArguments_5 9 rfl rfl)
theorem dX6_parseArguments_122 : decode cX6_parseArguments 122 = .ok (.iconst 0, 1) := dk_3 (dk_at dksX6_parseArguments_5 12 rfl rfl)
theorem dX6_parseArguments_123 : decode cX6_parseArguments 123 = .ok (.ireturn, 1) := dk_172 (dk_at dksX6_parseArguments_5 13 rfl rfl)
theorem dX6_parseArguments_124 : decode cX6_parseArguments 124 = .ok (.iconst 1, 1) := dk_4 (dk_at dksX6_parseArguments_5 14 rfl rfl)
theorem dX6_parseArguments_125 : decode cX6_parseArguments 125 = .ok (.ireturn, 1) := dk_172 (dk_at dksX6_parseArguments_5 15 rfl rfl)
theorem dX6_parseArguments_126 : decode cX6_parseArguments 126 = .ok (.aload_n 0, 1) := dk_42 (dk_at dksX6_parseArguments_5 16 rfl rfl)
theorem dX6_parseArguments_127 : decode cX6_parseArguments 127 = .ok (.iload_n 2, 1) := dk_28 (dk_at dksX6_parseArguments_5 17 rfl rfl)
theorem dX6_parseArguments_128 : decode cX6_parseArguments 128 = .ok (.invokevirtual 232, 3) := dk_182 0 232 (dk_at dksX6_parseArguments_5 18 rfl rfl)
theorem dX6_parseArguments_131 : decode cX6_parseArguments 131 = .ok (.ireturn, 1) := dk_172 (dk_at dksX6_parseArguments_5 21 rfl rfl)
abbrev cX6_parseSibling : ByteArray := prog_9_method_62_code
def yX6_parseSibling : MethodName := ⟨RX6, "parseSibling", "(I)Z"⟩
def dkwX6_parseSibling_2 : List UInt8 := [42, 182, 0, 184, 4, 172]
abbrev dktX6_parseSibling_2 : List UInt8 := dkwX6_parseSibling_2 ++ []
def dkwX6_parseSibling_1 : List UInt8 := [180, 0, 63, 100, 182, 0, 193, 79, 42, 180, 0, 69, 27, 46, 2, 160, 0, 9, 42, 6, 182, 0, 187, 172]
abbrev dktX6_parseSibling_1 : List UInt8 := dkwX6_parseSibling_1 ++ dktX6_parseSibling_2
def dkwX6_parseSibling_0 : List UInt8 := [42, 182, 0, 190, 154, 0, 5, 3, 172, 42, 180, 0, 69, 27, 42, 42, 180, 0, 63, 42, 180, 0, 57, 42]
abbrev dktX6_parseSibling_0 : List UInt8 := dkwX6_parseSibling_0 ++ dktX6_parseSibling_1
theorem dksX6_parseSibling_0 : cX6_parseSibling.data.toList.drop 0 = dktX6_parseSibling_0 := by decide +kernel
theorem dksX6_parseSibling_1 : cX6_parseSibling.data.toList.drop 24 = dktX6_parseSibling_1 := dk_seg dksX6_parseSibling_0 24 rfl rfl
theorem dksX6_parseSibling_2 : cX6_parseSibling.data.toList.drop 48 = dktX6_parseSibling_2 := dk_seg dksX6_parseSibling_1 24 rfl rfl
theorem dX6_parseSibling_0 : decode cX6_parseSibling 0 = .ok (.aload_n 0, 1) := dk_42 (dk_at dksX6_parseSibling_0 0 rfl rfl)
theorem dX6_parseSibling_1 : decode cX6_parseSibling 1 = .ok (.invokevirtual 190, 3) := dk_182 0 190 (dk_at dksX6_parseSibling_0 1 rfl rfl)
theorem dX6_parseSibling_4 : decode cX6_parseSibling 4 = .ok (.ifCond .ne 5, 3) := dk_154 0 5 (dk_at dksX6_parseSibling_0 4 rfl rfl)
theorem dX6_parseSibling_7 : decode cX6_parseSibling 7 = .ok (.iconst 0, 1) := dk_3 (dk_at dksX6_parseSibling_0 7 rfl rfl)
theorem dX6_parseSibling_8 : decode cX6_parseSibling 8 = .ok (.ireturn, 1) := dk_172 (dk_at dksX6_parseSibling_0 8 rfl rfl)
theorem dX6_parseSibling_9 : decode cX6_parseSibling 9 = .ok (.aload_n 0, 1) := dk_42 (dk_at dksX6_parseSibling_0 9 rfl rfl)
theorem dX6_parseSibling_10 : decode cX6_parseSibling 10 = .ok (.getfield 69, 3) := dk_180 0 69 (dk_at dksX6_parseSibling_0 10 rfl rfl)
theorem dX6_parseSibling_13 : decode cX6_parseSibling 13 = .ok (.iload_n 1, 1) := dk_27 (dk_at dksX6_parseSibling_0 13 rfl rfl)
theorem dX6_parseSibling_14 : decode cX6_parseSibling 14 = .ok (.aload_n 0, 1) := dk_42 (dk_at dksX6_parseSibling_0 14 rfl rfl)
theorem dX6_parseSibling_15 : decode cX6_parseSibling 15 = .ok (.aload_n 0, 1) := dk_42 (dk_at dksX6_parseSibling_0 15 rfl rfl)
theorem dX6_parseSibling_16 : decode cX6_parseSibling 16 = .ok (.getfield 63, 3) := dk_180 0 63 (dk_at dksX6_parseSibling_0 16 rfl rfl)
theorem dX6_parseSibling_19 : decode cX6_parseSibling 19 = .ok (.aload_n 0, 1) := dk_42 (dk_at dksX6_parseSibling_0 19 rfl rfl)
theorem dX6_parseSibling_20 : decode cX6_parseSibling 20 = .ok (.getfield 57, 3) := dk_180 0 57 (dk_at dksX6_parseSibling_0 20 rfl rfl)
theorem dX6_parseSibling_23 : decode cX6_parseSibling 23 = .ok (.aload_n 0, 1) := dk_42 (dk_at dksX6_parseSibling_0 23 rfl rfl)
theorem dX6_parseSibling_24 : decode cX6_parseSibling 24 = .ok (.getfield 63, 3) := dk_180 0 63 (dk_at dksX6_parseSibling_1 0 rfl rfl)
theorem dX6_parseSibling_27 : decode cX6_parseSibling 27 = .ok (.isub, 1) := dk_100 (dk_at dksX6_parseSibling_1 3 rfl rfl)
theorem dX6_parseSibling_28 : decode cX6_parseSibling 28 = .ok (.invokevirtual 193, 3) := dk_182 0 193 (dk_at dksX6_parseSibling_1 4 rfl rfl)
theorem dX6_parseSibling_31 : decode cX6_parseSibling 31 = .ok (.iastore, 1) := dk_79 (dk_at dksX6_parseSibling_1 7 rfl rfl)
theorem dX6_parseSibling_32 : decode cX6_parseSibling 32 = .ok (.aload_n 0, 1) := dk_42 (dk_at dksX6_parseSibling_1 8 rfl rfl)
theorem dX6_parseSibling_33 : decode cX6_parseSibling 33 = .ok (.getfield 69, 3) := dk_180 0 69 (dk_at dksX6_parseSibling_1 9 rfl rfl)
theorem dX6_parseSibling_36 : decode cX6_parseSibling 36 = .ok (.iload_n 1, 1) := dk_27 (dk_at dksX6_parseSibling_1 12 rfl rfl)
theorem dX6_parseSibling_37 : decode cX6_parseSibling 37 = .ok (.iaload, 1) := dk_46 (dk_at dksX6_parseSibling_1 13 rfl rfl)
theorem dX6_parseSibling_38 : decode cX6_parseSibling 38 = .ok (.iconst (-1), 1) := dk_2 (dk_at dksX6_parseSibling_1 14 rfl rfl)
theorem dX6_parseSibling_39 : decode cX6_parseSibling 39 = .ok (.if_icmp .ne 9, 3) := dk_160 0 9 (dk_at dksX6_parseSibling_1 15 rfl rfl)
theorem dX6_parseSibling_42 : decode cX6_parseSibling 42 = .ok (.aload_n 0, 1) := dk_42 (dk_at dksX6_parseSibling_1 18 rfl rfl)
theorem dX6_parseSibling_43 : decode cX6_parseSibling 43 = .ok (.iconst 3, 1) := dk_6 (dk_at dksX6_parseSibling_1 19 rfl rfl)
theorem dX6_parseSibling_44 : decode cX6_parseSibling 44 = .ok (.invokevirtual 187, 3) := dk_182 0 187 (dk_at dksX6_parseSibling_1 20 rfl rfl)
theorem dX6_parseSibling_47 : decode cX6_parseSibling 47 = .ok (.ireturn, 1) := dk_172 (dk_at dksX6_parseSibling_1 23 rfl rfl)
theorem dX6_parseSibling_48 : decode cX6_parseSibling 48 = .ok (.aload_n 0, 1) := dk_42 (dk_at dksX6_parseSibling_2 0 rfl rfl)
theorem dX6_parseSibling_49 : decode cX6_parseSibling 49 = .ok (.invokevirtual 184, 3) := dk_182 0 184 (dk_at dksX6_parseSibling_2 1 rfl rfl)
theorem dX6_parseSibling_52 : decode cX6_parseSibling 52 = .ok (.iconst 1, 1) := dk_4 (dk_at dksX6_parseSibling_2 4 rfl rfl)
theorem dX6_parseSibling_53 : decode cX6_parseSibling 53 = .ok (.ireturn, 1) := dk_172 (dk_at dksX6_parseSibling_2 5 rfl rfl)
abbrev cX6_parseNumber : ByteArray := prog_9_method_61_code
def yX6_parseNumber : MethodName := ⟨RX6, "parseNumber", "(I)Z"⟩
def dkwX6_parseNumber_1 : List UInt8 := [42, 182, 0, 184, 4, 172]
abbrev dktX6_parseNumber_1 : List UInt8 := dkwX6_parseNumber_1 ++ []
def dkwX6_parseNumber_0 : List UInt8 := [42, 180, 0, 60, 5, 159, 0, 9, 42, 4, 182, 0, 187, 172, 42, 180, 0, 69, 27, 42, 180, 0, 66, 79]
abbrev dktX6_parseNumber_0 : List UInt8 := dkwX6_parseNumber_0 ++ dktX6_parseNumber_1
theorem dksX6_parseNumber_0 : cX6_parseNumber.data.toList.drop 0 = dktX6_parseNumber_0 := by decide +kernel
theorem dksX6_parseNumber_1 : cX6_parseNumber.data.toList.drop 24 = dktX6_parseNumber_1 := dk_seg dksX6_parseNumber_0 24 rfl rfl
theorem dX6_parseNumber_0 : decode cX6_parseNumber 0 = .ok (.aload_n 0, 1) := dk_42 (dk_at dksX6_parseNumber_0 0 rfl rfl)
theorem dX6_parseNumber_1 : decode cX6_parseNumber 1 = .ok (.getfield 60, 3) := dk_180 0 60 (dk_at dksX6_parseNumber_0 1 rfl rfl)
theorem dX6_parseNumber_4 : decode cX6_parseNumber 4 = .ok (.iconst 2, 1) := dk_5 (dk_at dksX6_parseNumber_0 4 rfl rfl)
theorem dX6_parseNumber_5 : decode cX6_parseNumber 5 = .ok (.if_icmp .eq 9, 3) := dk_159 0 9 (dk_at dksX6_parseNumber_0 5 rfl rfl)
theorem dX6_parseNumber_8 : decode cX6_parseNumber 8 = .ok (.aload_n 0, 1) := dk_42 (dk_at dksX6_parseNumber_0 8 rfl rfl)
theorem dX6_parseNumber_9 : decode cX6_parseNumber 9 = .ok (.iconst 1, 1) := dk_4 (dk_at dksX6_parseNumber_0 9 rfl rfl)
theorem dX6_parseNumber_10 : decode cX6_parseNumber 10 = .ok (.invokevirtual 187, 3) := dk_182 0 187 (dk_at dksX6_parseNumber_0 10 rfl rfl)
theorem dX6_parseNumber_13 : decode cX6_parseNumber 13 = .ok (.ireturn, 1) := dk_172 (dk_at dksX6_parseNumber_0 13 rfl rfl)
theorem dX6_parseNumber_14 : decode cX6_parseNumber 14 = .ok (.aload_n 0, 1) := dk_42 (dk_at dksX6_parseNumber_0 14 rfl rfl)
theorem dX6_parseNumber_15 : decode cX6_parseNumber 15 = .ok (.getfield 69, 3) := dk_180 0 69 (dk_at dksX6_parseNumber_0 15 rfl rfl)
theorem dX6_parseNumber_18 : decode cX6_parseNumber 18 = .ok (.iload_n 1, 1) := dk_27 (dk_at dksX6_parseNumber_0 18 rfl rfl)
theorem dX6_parseNumber_19 : decode cX6_parseNumber 19 = .ok (.aload_n 0, 1) := dk_42 (dk_at dksX6_parseNumber_0 19 rfl rfl)
theorem dX6_parseNumber_20 : decode cX6_parseNumber 20 = .ok (.getfield 66, 3) := dk_180 0 66 (dk_at dksX6_parseNumber_0 20 rfl rfl)
theorem dX6_parseNumber_23 : decode cX6_parseNumber 23 = .ok (.iastore, 1) := dk_79 (dk_at dksX6_parseNumber_0 23 rfl rfl)
theorem dX6_parseNumber_24 : decode cX6_parseNumber 24 = .ok (.aload_n 0, 1) := dk_42 (dk_at dksX6_parseNumber_1 0 rfl rfl)
theorem dX6_parseNumber_25 : decode cX6_parseNumber 25 = .ok (.invokevirtual 184, 3) := dk_182 0 184 (dk_at dksX6_parseNumber_1 1 rfl rfl)
theorem dX6_parseNumber_28 : decode cX6_parseNumber 28 = .ok (.iconst 1, 1) := dk_4 (dk_at dksX6_parseNumber_1 4 rfl rfl)
theorem dX6_parseNumber_29 : decode cX6_parseNumber 29 = .ok (.ireturn, 1) := dk_172 (dk_at dksX6_parseNumber_1 5 rfl rfl)
abbrev cX6_remember : ByteArray := prog_9_method_12_code
def yX6_remember : MethodName := ⟨RX6, "remember", "(I)V"⟩
def dkwX6_remember_2 : List UInt8 := [4, 96, 181, 0, 21, 42, 27, 42, 180, 0, 21, 182, 0, 101, 177]
abbrev dktX6_remember_2 : List UInt8 := dkwX6_remember_2 ++ []
def dkwX6_remember_1 : List UInt8 := [182, 0, 101, 132, 2, 1, 167, 255, 239, 42, 89, 180, 0, 21, 4, 100, 181, 0, 21, 42, 89, 180, 0, 21]
abbrev dktX6_remember_1 : List UInt8 := dkwX6_remember_1 ++ dktX6_remember_2
def dkwX6_remember_0 : List UInt8 := [42, 180, 0, 21, 16, 6, 160, 0, 35, 4, 61, 28, 16, 6, 162, 0, 17, 42, 28, 4, 96, 28]
abbrev dktX6_remember_0 : List UInt8 := dkwX6_remember_0 ++ dktX6_remember_1
theorem dksX6_remember_0 : cX6_remember.data.toList.drop 0 = dktX6_remember_0 := by decide +kernel
theorem dksX6_remember_1 : cX6_remember.data.toList.drop 22 = dktX6_remember_1 := dk_seg dksX6_remember_0 22 rfl rfl
theorem dksX6_remember_2 : cX6_remember.data.toList.drop 46 = dktX6_remember_2 := dk_seg dksX6_remember_1 24 rfl rfl
theorem dX6_remember_0 : decode cX6_remember 0 = .ok (.aload_n 0, 1) := dk_42 (dk_at dksX6_remember_0 0 rfl rfl)
theorem dX6_remember_1 : decode cX6_remember 1 = .ok (.getfield 21, 3) := dk_180 0 21 (dk_at dksX6_remember_0 1 rfl rfl)
theorem dX6_remember_4 : decode cX6_remember 4 = .ok (.bipush 6, 2) := dk_16 6 (dk_at dksX6_remember_0 4 rfl rfl)
theorem dX6_remember_6 : decode cX6_remember 6 = .ok (.if_icmp .ne 35, 3) := dk_160 0 35 (dk_at dksX6_remember_0 6 rfl rfl)
theorem dX6_remember_9 : decode cX6_remember 9 = .ok (.iconst 1, 1) := dk_4 (dk_at dksX6_remember_0 9 rfl rfl)
theorem dX6_remember_10 : decode cX6_remember 10 = .ok (.istore_n 2, 1) := dk_61 (dk_at dksX6_remember_0 10 rfl rfl)
theorem dX6_remember_11 : decode cX6_remember 11 = .ok (.iload_n 2, 1) := dk_28 (dk_at dksX6_remember_0 11 rfl rfl)
theorem dX6_remember_12 : decode cX6_remember 12 = .ok (.bipush 6, 2) := dk_16 6 (dk_at dksX6_remember_0 12 rfl rfl)
theorem dX6_remember_14 : decode cX6_remember 14 = .ok (.if_icmp .ge 17, 3) := dk_162 0 17 (dk_at dksX6_remember_0 14 rfl rfl)
theorem dX6_remember_17 : decode cX6_remember 17 = .ok (.aload_n 0, 1) := dk_42 (dk_at dksX6_remember_0 17 rfl rfl)
theorem dX6_remember_18 : decode cX6_remember 18 = .ok (.iload_n 2, 1) := dk_28 (dk_at dksX6_remember_0 18 rfl rfl)
theorem dX6_remember_19 : decode cX6_remember 19 = .ok (.iconst 1, 1) := dk_4 (dk_at dksX6_remember_0 19 rfl rfl)
theorem dX6_remember_20 : decode cX6_remember 20 = .ok (.iadd, 1) := dk_96 (dk_at dksX6_remember_0 20 rfl rfl)
theorem dX6_remember_21 : decode cX6_remember 21 = .ok (.iload_n 2, 1) := dk_28 (dk_at dksX6_remember_0 21 rfl rfl)
theorem dX6_remember_22 : decode cX6_remember 22 = .ok (.invokevirtual 101, 3) := dk_182 0 101 (dk_at dksX6_remember_1 0 rfl rfl)
theorem dX6_remember_25 : decode cX6_remember 25 = .ok (.iinc 2 1, 3) := dk_132 2 1 (dk_at dksX6_remember_1 3 rfl rfl)
theorem dX6_remember_28 : decode cX6_remember 28 = .ok (.goto (-17), 3) := dk_167 255 239 (dk_at dksX6_remember_1 6 rfl rfl)
theorem dX6_remember_31 : decode cX6_remember 31 = .ok (.aload_n 0, 1) := dk_42 (dk_at dksX6_remember_1 9 rfl rfl)
theorem dX6_remember_32 : decode cX6_remember 32 = .ok (.dup, 1) := dk_89 (dk_at dksX6_remember_1 10 rfl rfl)
theorem dX6_remember_33 : decode cX6_remember 33 = .ok (.getfield 21, 3) := dk_180 0 21 (dk_at dksX6_remember_1 11 rfl rfl)
theorem dX6_remember_36 : decode cX6_remember 36 = .ok (.iconst 1, 1) := dk_4 (dk_at dksX6_remember_1 14 rfl rfl)
theorem dX6_remember_37 : decode cX6_remember 37 = .ok (.isub, 1) := dk_100 (dk_at dksX6_remember_1 15 rfl rfl)
theorem dX6_remember_38 : decode cX6_remember 38 = .ok (.putfield 21, 3) := dk_181 0 21 (dk_at dksX6_remember_1 16 rfl rfl)
theorem dX6_remember_41 : decode cX6_remember 41 = .ok (.aload_n 0, 1) := dk_42 (dk_at dksX6_remember_1 19 rfl rfl)
theorem dX6_remember_42 : decode cX6_remember 42 = .ok (.dup, 1) := dk_89 (dk_at dksX6_remember_1 20 rfl rfl)
theorem dX6_remember_43 : decode cX6_remember 43 = .ok (.getfield 21, 3) := dk_180 0 21 (dk_at dksX6_remember_1 21 rfl rfl)
theorem dX6_remember_46 : decode cX6_remember 46 = .ok (.iconst 1, 1) := dk_4 (dk_at dksX6_remember_2 0 rfl rfl)
theorem dX6_remember_47 : decode cX6_remember 47 = .ok (.iadd, 1) := dk_96 (dk_at dksX6_remember_2 1 rfl rfl)
theorem dX6_remember_48 : decode cX6_remember 48 = .ok (.putfield 21, 3) := dk_181 0 21 (dk_at dksX6_remember_2 2 rfl rfl)
theorem dX6_remember_51 : decode cX6_remember 51 = .ok (.aload_n 0, 1) := dk_42 (dk_at dksX6_remember_2 5 rfl rfl)
theorem dX6_remember_52 : decode cX6_remember 52 = .ok (.iload_n 1, 1) := dk_27 (dk_at dksX6_remember_2 6 rfl rfl)
theorem dX6_remember_53 : decode cX6_remember 53 = .ok (.aload_n 0, 1) := dk_42 (dk_at dksX6_remember_2 7 rfl rfl)
theorem dX6_remember_54 : decode cX6_remember 54 = .ok (.getfield 21, 3) := dk_180 0 21 (dk_at dksX6_remember_2 8 rfl rfl)
theorem dX6_remember_57 : decode cX6_remember 57 = .ok (.invokevirtual 101, 3) := dk_182 0 101 (dk_at dksX6_remember_2 11 rfl rfl)
theorem dX6_remember_60 : decode cX6_remember 60 = .ok (.return_, 1) := dk_177 (dk_at dksX6_remember_2 14 rfl rfl)
abbrev cX6_canDo : ByteArray := prog_9_method_65_code
def yX6_canDo : MethodName := ⟨RX6, "canDo", "(IIII)Z"⟩
def dkwX6_canDo_4 : List UInt8 := [159, 0, 7, 4, 167, 0, 4, 3, 172, 4, 172]
abbrev dktX6_canDo_4 : List UInt8 := dkwX6_canDo_4 ++ []
def dkwX6_canDo_3 : List UInt8 := [153, 0, 14, 21, 4, 16, 9, 163, 0, 7, 4, 167, 0, 4, 3, 172, 42, 28, 182, 0, 156, 2]
abbrev dktX6_canDo_3 : List UInt8 := dkwX6_canDo_3 ++ dktX6_canDo_4
def dkwX6_canDo_2 : List UInt8 := [42, 29, 21, 4, 182, 0, 244, 172, 28, 29, 159, 0, 7, 4, 167, 0, 4, 3, 172, 42, 29, 182, 0, 98]
abbrev dktX6_canDo_2 : List UInt8 := dkwX6_canDo_2 ++ dktX6_canDo_3
def dkwX6_canDo_1 : List UInt8 := [170, 0, 0, 0, 0, 0, 102, 0, 0, 0, 0, 0, 0, 0, 7, 0, 0, 0, 47, 0, 0, 0, 47, 0, 0, 0, 55, 0, 0, 0, 66, 0, 0, 0, 55, 0, 0, 0, 102, 0, 0, 0, 102, 0, 0, 0, 87]
abbrev dktX6_canDo_1 : List UInt8 := dkwX6_canDo_1 ++ dktX6_canDo_2
def dkwX6_canDo_0 : List UInt8 := [27]
abbrev dktX6_canDo_0 : List UInt8 := dkwX6_canDo_0 ++ dktX6_canDo_1
theorem dksX6_canDo_0 : cX6_canDo.data.toList.drop 0 = dktX6_canDo_0 := by decide +kernel
theorem dksX6_canDo_1 : cX6_canDo.data.toList.drop 1 = dktX6_canDo_1 := dk_seg dksX6_canDo_0 1 rfl rfl
theorem dksX6_canDo_2 : cX6_canDo.data.toList.drop 48 = dktX6_canDo_2 := dk_seg dksX6_canDo_1 47 rfl rfl
theorem dksX6_canDo_3 : cX6_canDo.data.toList.drop 72 = dktX6_canDo_3 := dk_seg dksX6_canDo_2 24 rfl rfl
theorem dksX6_canDo_4 : cX6_canDo.data.toList.drop 94 = dktX6_canDo_4 := dk_seg dksX6_canDo_3 22 rfl rfl
theorem dX6_canDo_0 : decode cX6_canDo 0 = .ok (.iload_n 1, 1) := dk_27 (dk_at dksX6_canDo_0 0 rfl rfl)
theorem dX6_canDo_1 : decode cX6_canDo 1 = .ok (.tableswitch 102 0 7 #[47, 47, 55, 66, 55, 102, 102, 87], 47) := by decide +kernel
theorem dX6_canDo_48 : decode cX6_canDo 48 = .ok (.aload_n 0, 1) := dk_42 (dk_at dksX6_canDo_2 0 rfl rfl)
theorem dX6_canDo_49 : decode cX6_canDo 49 = .ok (.iload_n 3, 1) := dk_29 (dk_at dksX6_canDo_2 1 rfl rfl)
theorem dX6_canDo_50 : decode cX6_canDo 50 = .ok (.iload 4, 2) := dk_21 4 (dk_at dksX6_canDo_2 2 rfl rfl)
theorem dX6_canDo_52 : decode cX6_canDo 52 = .ok (.invokevirtual 244, 3) := dk_182 0 244 (dk_at dksX6_canDo_2 4 rfl rfl)
theorem dX6_canDo_55 : decode cX6_canDo 55 = .ok (.ireturn, 1) := dk_172 (dk_at dksX6_canDo_2 7 rfl rfl)
theorem dX6_canDo_56 : decode cX6_canDo 56 = .ok (.iload_n 2, 1) := dk_28 (dk_at dksX6_canDo_2 8 rfl rfl)
theorem dX6_canDo_57 : decode cX6_canDo 57 = .ok (.iload_n 3, 1) := dk_29 (dk_at dksX6_canDo_2 9 rfl rfl)
theorem dX6_canDo_58 : decode cX6_canDo 58 = .ok (.if_icmp .eq 7, 3) := dk_159 0 7 (dk_at dksX6_canDo_2 10 rfl rfl)
theorem dX6_canDo_61 : decode cX6_canDo 61 = .ok (.iconst 1, 1) := dk_4 (dk_at dksX6_canDo_2 13 rfl rfl)
theorem dX6_canDo_62 : decode cX6_canDo 62 = .ok (.goto 4, 3) := dk_167 0 4 (dk_at dksX6_canDo_2 14 rfl rfl)
theorem dX6_canDo_65 : decode cX6_canDo 65 = .ok (.iconst 0, 1) := dk_3 (dk_at dksX6_canDo_2 17 rfl rfl)
theorem dX6_canDo_66 : decode cX6_canDo 66 = .ok (.ireturn, 1) := dk_172 (dk_at dksX6_canDo_2 18 rfl rfl)
theorem dX6_canDo_67 : decode cX6_canDo 67 = .ok (.aload_n 0, 1) := dk_42 (dk_at dksX6_canDo_2 19 rfl rfl)
theorem dX6_canDo_68 : decode cX6_canDo 68 = .ok (.iload_n 3, 1) := dk_29 (dk_at dksX6_canDo_2 20 rfl rfl)
theorem dX6_canDo_69 : decode cX6_canDo 69 = .ok (.invokevirtual 98, 3) := dk_182 0 98 (dk_at dksX6_canDo_2 21 rfl rfl)
theorem dX6_canDo_72 : decode cX6_canDo 72 = .ok (.ifCond .eq 14, 3) := dk_153 0 14 (dk_at dksX6_canDo_3 0 rfl rfl)
theorem dX6_canDo_75 : decode cX6_canDo 75 = .ok (.iload 4, 2) := dk_21 4 (dk_at dksX6_canDo_3 3 rfl rfl)
theorem dX6_canDo_77 : decode cX6_canDo 77 = .ok (.bipush 9, 2) := dk_16 9 (dk_at dksX6_canDo_3 5 rfl rfl)
theorem dX6_canDo_79 : decode cX6_canDo 79 = .ok (.if_icmp .gt 7, 3) := dk_163 0 7 (dk_at dksX6_canDo_3 7 rfl rfl)
theorem dX6_canDo_82 : decode cX6_canDo 82 = .ok (.iconst 1, 1) := dk_4 (dk_at dksX6_canDo_3 10 rfl rfl)
theorem dX6_canDo_83 : decode cX6_canDo 83 = .ok (.goto 4, 3) := dk_167 0 4 (dk_at dksX6_canDo_3 11 rfl rfl)
theorem dX6_canDo_86 : decode cX6_canDo 86 = .ok (.iconst 0, 1) := dk_3 (dk_at dksX6_canDo_3 14 rfl rfl)
theorem dX6_canDo_87 : decode cX6_canDo 87 = .ok (.ireturn, 1) := dk_172 (dk_at dksX6_canDo_3 15 rfl rfl)
theorem dX6_canDo_88 : decode cX6_canDo 88 = .ok (.aload_n 0, 1) := dk_42 (dk_at dksX6_canDo_3 16 rfl rfl)
theorem dX6_canDo_89 : decode cX6_canDo 89 = .ok (.iload_n 2, 1) := dk_28 (dk_at dksX6_canDo_3 17 rfl rfl)
theorem dX6_canDo_90 : decode cX6_canDo 90 = .ok (.invokevirtual 156, 3) := dk_182 0 156 (dk_at dksX6_canDo_3 18 rfl rfl)
theorem dX6_canDo_93 : decode cX6_canDo 93 = .ok (.iconst (-1), 1) := dk_2 (dk_at dksX6_canDo_3 21 rfl rfl)
theorem dX6_canDo_94 : decode cX6_canDo 94 = .ok (.if_icmp .eq 7, 3) := dk_159 0 7 (dk_at dksX6_canDo_4 0 rfl rfl)
theorem dX6_canDo_97 : decode cX6_canDo 97 = .ok (.iconst 1, 1) := dk_4 (dk_at dksX6_canDo_4 3 rfl rfl)
theorem dX6_canDo_98 : decode cX6_canDo 98 = .ok (.goto 4, 3) := dk_167 0 4 (dk_at dksX6_canDo_4 4 rfl rfl)
theorem dX6_canDo_101 : decode cX6_canDo 101 = .ok (.iconst 0, 1) := dk_3 (dk_at dksX6_canDo_4 7 rfl rfl)
theorem dX6_canDo_102 : decode cX6_canDo 102 = .ok (.ireturn, 1) := dk_172 (dk_at dksX6_canDo_4 8 rfl rfl)
theorem dX6_canDo_103 : decode cX6_canDo 103 = .ok (.iconst 1, 1) := dk_4 (dk_at dksX6_canDo_4 9 rfl rfl)
theorem dX6_canDo_104 : decode cX6_canDo 104 = .ok (.ireturn, 1) := dk_172 (dk_at dksX6_canDo_4 10 rfl rfl)
abbrev cX6_isRange : ByteArray := prog_9_method_8_code
def yX6_isRange : MethodName := ⟨RX6, "isRange", "(II)Z"⟩
def dkwX6_isRange_1 : List UInt8 := [167, 0, 4, 3, 172]
abbrev dktX6_isRange_1 : List UInt8 := dkwX6_isRange_1 ++ []
def dkwX6_isRange_0 : List UInt8 := [42, 27, 182, 0, 98, 153, 0, 20, 42, 28, 182, 0, 98, 153, 0, 12, 27, 28, 163, 0, 7, 4]
abbrev dktX6_isRange_0 : List UInt8 := dkwX6_isRange_0 ++ dktX6_isRange_1
theorem dksX6_isRange_0 : cX6_isRange.data.toList.drop 0 = dktX6_isRange_0 := by decide +kernel
theorem dksX6_isRange_1 : cX6_isRange.data.toList.drop 22 = dktX6_isRange_1 := dk_seg dksX6_isRange_0 22 rfl rfl
theorem dX6_isRange_0 : decode cX6_isRange 0 = .ok (.aload_n 0, 1) := dk_42 (dk_at dksX6_isRange_0 0 rfl rfl)
theorem dX6_isRange_1 : decode cX6_isRange 1 = .ok (.iload_n 1, 1) := dk_27 (dk_at dksX6_isRange_0 1 rfl rfl)
theorem dX6_isRange_2 : decode cX6_isRange 2 = .ok (.invokevirtual 98, 3) := dk_182 0 98 (dk_at dksX6_isRange_0 2 rfl rfl)
theorem dX6_isRange_5 : decode cX6_isRange 5 = .ok (.ifCond .eq 20, 3) := dk_153 0 20 (dk_at dksX6_isRange_0 5 rfl rfl)
theorem dX6_isRange_8 : decode cX6_isRange 8 = .ok (.aload_n 0, 1) := dk_42 (dk_at dksX6_isRange_0 8 rfl rfl)
theorem dX6_isRange_9 : decode cX6_isRange 9 = .ok (.iload_n 2, 1) := dk_28 (dk_at dksX6_isRange_0 9 rfl rfl)
theorem dX6_isRange_10 : decode cX6_isRange 10 = .ok (.invokevirtual 98, 3) := dk_182 0 98 (dk_at dksX6_isRange_0 10 rfl rfl)
theorem dX6_isRange_13 : decode cX6_isRange 13 = .ok (.ifCond .eq 12, 3) := dk_153 0 12 (dk_at dksX6_isRange_0 13 rfl rfl)
theorem dX6_isRange_16 : decode cX6_isRange 16 = .ok (.iload_n 1, 1) := dk_27 (dk_at dksX6_isRange_0 16 rfl rfl)
theorem dX6_isRange_17 : decode cX6_isRange 17 = .ok (.iload_n 2, 1) := dk_28 (dk_at dksX6_isRange_0 17 rfl rfl)
theorem dX6_isRange_18 : decode cX6_isRange 18 = .ok (.if_icmp .gt 7, 3) := dk_163 0 7 (dk_at dksX6_isRange_0 18 rfl rfl)
theorem dX6_isRange_21 : decode cX6_isRange 21 = .ok (.iconst 1, 1) := dk_4 (dk_at dksX6_isRange_0 21 rfl rfl)
theorem dX6_isRange_22 : decode cX6_isRange 22 = .ok (.goto 4, 3) := dk_167 0 4 (dk_at dksX6_isRange_1 0 rfl rfl)
theorem dX6_isRange_25 : decode cX6_isRange 25 = .ok (.iconst 0, 1) := dk_3 (dk_at dksX6_isRange_1 3 rfl rfl)
theorem dX6_isRange_26 : decode cX6_isRange 26 = .ok (.ireturn, 1) := dk_172 (dk_at dksX6_isRange_1 4 rfl rfl)
abbrev cX6_isCell : ByteArray := prog_9_method_7_code
def yX6_isCell : MethodName := ⟨RX6, "isCell", "(I)Z"⟩
def dkwX6_isCell_0 : List UInt8 := [27, 3, 42, 180, 0, 13, 3, 46, 4, 100, 184, 0, 90, 172]
abbrev dktX6_isCell_0 : List UInt8 := dkwX6_isCell_0 ++ []
theorem dksX6_isCell_0 : cX6_isCell.data.toList.drop 0 = dktX6_isCell_0 := by decide +kernel
theorem dX6_isCell_0 : decode cX6_isCell 0 = .ok (.iload_n 1, 1) := dk_27 (dk_at dksX6_isCell_0 0 rfl rfl)
theorem dX6_isCell_1 : decode cX6_isCell 1 = .ok (.iconst 0, 1) := dk_3 (dk_at dksX6_isCell_0 1 rfl rfl)
theorem dX6_isCell_2 : decode cX6_isCell 2 = .ok (.aload_n 0, 1) := dk_42 (dk_at dksX6_isCell_0 2 rfl rfl)
theorem dX6_isCell_3 : decode cX6_isCell 3 = .ok (.getfield 13, 3) := dk_180 0 13 (dk_at dksX6_isCell_0 3 rfl rfl)
theorem dX6_isCell_6 : decode cX6_isCell 6 = .ok (.iconst 0, 1) := dk_3 (dk_at dksX6_isCell_0 6 rfl rfl)
theorem dX6_isCell_7 : decode cX6_isCell 7 = .ok (.iaload, 1) := dk_46 (dk_at dksX6_isCell_0 7 rfl rfl)
theorem dX6_isCell_8 : decode cX6_isCell 8 = .ok (.iconst 1, 1) := dk_4 (dk_at dksX6_isCell_0 8 rfl rfl)
theorem dX6_isCell_9 : decode cX6_isCell 9 = .ok (.isub, 1) := dk_100 (dk_at dksX6_isCell_0 9 rfl rfl)
theorem dX6_isCell_10 : decode cX6_isCell 10 = .ok (.invokestatic 90, 3) := dk_184 0 90 (dk_at dksX6_isCell_0 10 rfl rfl)
theorem dX6_isCell_13 : decode cX6_isCell 13 = .ok (.ireturn, 1) := dk_172 (dk_at dksX6_isCell_0 13 rfl rfl)
abbrev cX6_findCycle : ByteArray := prog_9_method_27_code
def yX6_findCycle : MethodName := ⟨RX6, "findCycle", "(I)I"⟩
def dkwX6_findCycle_3 : List UInt8 := [132, 4, 1, 167, 255, 217, 42, 180, 0, 45, 29, 21, 4, 79, 132, 3, 1, 167, 255, 195, 28, 172]
abbrev dktX6_findCycle_3 : List UInt8 := dkwX6_findCycle_3 ++ []
def dkwX6_findCycle_2 : List UInt8 := [46, 28, 29, 100, 160, 0, 20, 42, 42, 180, 0, 45, 29, 4, 100, 46, 21, 4, 182, 0, 129, 154, 0, 9]
abbrev dktX6_findCycle_2 : List UInt8 := dkwX6_findCycle_2 ++ dktX6_findCycle_3
def dkwX6_findCycle_1 : List UInt8 := [27, 79, 4, 62, 29, 28, 162, 0, 62, 3, 54, 4, 21, 4, 27, 159, 0, 33, 42, 180, 0, 42, 21, 4]
abbrev dktX6_findCycle_1 : List UInt8 := dkwX6_findCycle_1 ++ dktX6_findCycle_2
def dkwX6_findCycle_0 : List UInt8 := [42, 27, 182, 0, 133, 42, 180, 0, 42, 27, 46, 61, 28, 2, 160, 0, 5, 2, 172, 42, 180, 0, 45, 3]
abbrev dktX6_findCycle_0 : List UInt8 := dkwX6_findCycle_0 ++ dktX6_findCycle_1
theorem dksX6_findCycle_0 : cX6_findCycle.data.toList.drop 0 = dktX6_findCycle_0 := by decide +kernel
theorem dksX6_findCycle_1 : cX6_findCycle.data.toList.drop 24 = dktX6_findCycle_1 := dk_seg dksX6_findCycle_0 24 rfl rfl
theorem dksX6_findCycle_2 : cX6_findCycle.data.toList.drop 48 = dktX6_findCycle_2 := dk_seg dksX6_findCycle_1 24 rfl rfl
theorem dksX6_findCycle_3 : cX6_findCycle.data.toList.drop 72 = dktX6_findCycle_3 := dk_seg dksX6_findCycle_2 24 rfl rfl
theorem dX6_findCycle_0 : decode cX6_findCycle 0 = .ok (.aload_n 0, 1) := dk_42 (dk_at dksX6_findCycle_0 0 rfl rfl)
theorem dX6_findCycle_1 : decode cX6_findCycle 1 = .ok (.iload_n 1, 1) := dk_27 (dk_at dksX6_findCycle_0 1 rfl rfl)
theorem dX6_findCycle_2 : decode cX6_findCycle 2 = .ok (.invokevirtual 133, 3) := dk_182 0 133 (dk_at dksX6_findCycle_0 2 rfl rfl)
theorem dX6_findCycle_5 : decode cX6_findCycle 5 = .ok (.aload_n 0, 1) := dk_42 (dk_at dksX6_findCycle_0 5 rfl rfl)
theorem dX6_findCycle_6 : decode cX6_findCycle 6 = .ok (.getfield 42, 3) := dk_180 0 42 (dk_at dksX6_findCycle_0 6 rfl rfl)
theorem dX6_findCycle_9 : decode cX6_findCycle 9 = .ok (.iload_n 1, 1) := dk_27 (dk_at dksX6_findCycle_0 9 rfl rfl)
theorem dX6_findCycle_10 : decode cX6_findCycle 10 = .ok (.iaload, 1) := dk_46 (dk_at dksX6_findCycle_0 10 rfl rfl)
theorem dX6_findCycle_11 : decode cX6_findCycle 11 = .ok (.istore_n 2, 1) := dk_61 (dk_at dksX6_findCycle_0 11 rfl rfl)
theorem dX6_findCycle_12 : decode cX6_findCycle 12 = .ok (.iload_n 2, 1) := dk_28 (dk_at dksX6_findCycle_0 12 rfl rfl)
theorem dX6_findCycle_13 : decode cX6_findCycle 13 = .ok (.iconst (-1), 1) := dk_2 (dk_at dksX6_findCycle_0 13 rfl rfl)
theorem dX6_findCycle_14 : decode cX6_findCycle 14 = .ok (.if_icmp .ne 5, 3) := dk_160 0 5 (dk_at dksX6_findCycle_0 14 rfl rfl)
theorem dX6_findCycle_17 : decode cX6_findCycle 17 = .ok (.iconst (-1), 1) := dk_2 (dk_at dksX6_findCycle_0 17 rfl rfl)
theorem dX6_findCycle_18 : decode cX6_findCycle 18 = .ok (.ireturn, 1) := dk_172 (dk_at dksX6_findCycle_0 18 rfl rfl)
theorem dX6_findCycle_19 : decode cX6_findCycle 19 = .ok (.aload_n 0, 1) := dk_42 (dk_at dksX6_findCycle_0 19 rfl rfl)
theorem dX6_findCycle_20 : decode cX6_findCycle 20 = .ok (.getfield 45, 3) := dk_180 0 45 (dk_at dksX6_findCycle_0 20 rfl rfl)
theorem dX6_findCycle_23 : decode cX6_findCycle 23 = .ok (.iconst 0, 1) := dk_3 (dk_at dksX6_findCycle_0 23 rfl rfl)
theorem dX6_findCycle_24 : decode cX6_findCycle 24 = .ok (.iload_n 1, 1) := dk_27 (dk_at dksX6_findCycle_1 0 rfl rfl)
theorem dX6_findCycle_25 : decode cX6_findCycle 25 = .ok (.iastore, 1) := dk_79 (dk_at dksX6_findCycle_1 1 rfl rfl)
theorem dX6_findCycle_26 : decode cX6_findCycle 26 = .ok (.iconst 1, 1) := dk_4 (dk_at dksX6_findCycle_1 2 rfl rfl)
theorem dX6_findCycle_27 : decode cX6_findCycle 27 = .ok (.istore_n 3, 1) := dk_62 (dk_at dksX6_findCycle_1 3 rfl rfl)
theorem dX6_findCycle_28 : decode cX6_findCycle 28 = .ok (.iload_n 3, 1) := dk_29 (dk_at dksX6_findCycle_1 4 rfl rfl)
theorem dX6_findCycle_29 : decode cX6_findCycle 29 = .ok (.iload_n 2, 1) := dk_28 (dk_at dksX6_findCycle_1 5 rfl rfl)
theorem dX6_findCycle_30 : decode cX6_findCycle 30 = .ok (.if_icmp .ge 62, 3) := dk_162 0 62 (dk_at dksX6_findCycle_1 6 rfl rfl)
theorem dX6_findCycle_33 : decode cX6_findCycle 33 = .ok (.iconst 0, 1) := dk_3 (dk_at dksX6_findCycle_1 9 rfl rfl)
theorem dX6_findCycle_34 : decode cX6_findCycle 34 = .ok (.istore 4, 2) := dk_54 4 (dk_at dksX6_findCycle_1 10 rfl rfl)
theorem dX6_findCycle_36 : decode cX6_findCycle 36 = .ok (.iload 4, 2) := dk_21 4 (dk_at dksX6_findCycle_1 12 rfl rfl)
theorem dX6_findCycle_38 : decode cX6_findCycle 38 = .ok (.iload_n 1, 1) := dk_27 (dk_at dksX6_findCycle_1 14 rfl rfl)
theorem dX6_findCycle_39 : decode cX6_findCycle 39 = .ok (.if_icmp .eq 33, 3) := dk_159 0 33 (dk_at dksX6_findCycle_1 15 rfl rfl)
theorem dX6_findCycle_42 : decode cX6_findCycle 42 = .ok (.aload_n 0, 1) := dk_42 (dk_at dksX6_findCycle_1 18 rfl rfl)
theorem dX6_findCycle_43 : decode cX6_findCycle 43 = .ok (.getfield 42, 3) := dk_180 0 42 (dk_at dksX6_findCycle_1 19 rfl rfl)
theorem dX6_findCycle_46 : decode cX6_findCycle 46 = .ok (.iload 4, 2) := dk_21 4 (dk_at dksX6_findCycle_1 22 rfl rfl)
theorem dX6_findCycle_48 : decode cX6_findCycle 48 = .ok (.iaload, 1) := dk_46 (dk_at dksX6_findCycle_2 0 rfl rfl)
theorem dX6_findCycle_49 : decode cX6_findCycle 49 = .ok (.iload_n 2, 1) := dk_28 (dk_at dksX6_findCycle_2 1 rfl rfl)
theorem dX6_findCycle_50 : decode cX6_findCycle 50 = .ok (.iload_n 3, 1) := dk_29 (dk_at dksX6_findCycle_2 2 rfl rfl)
theorem dX6_findCycle_51 : decode cX6_findCycle 51 = .ok (.isub, 1) := dk_100 (dk_at dksX6_findCycle_2 3 rfl rfl)
theorem dX6_findCycle_52 : decode cX6_findCycle 52 = .ok (.if_icmp .ne 20, 3) := dk_160 0 20 (dk_at dksX6_findCycle_2 4 rfl rfl)
theorem dX6_findCycle_55 : decode cX6_findCycle 55 = .ok (.aload_n 0, 1) := dk_42 (dk_at dksX6_findCycle_2 7 rfl rfl)
theorem dX6_findCycle_56 : decode cX6_findCycle 56 = .ok (.aload_n 0, 1) := dk_42 (dk_at dksX6_findCycle_2 8 rfl rfl)
theorem dX6_findCycle_57 : decode cX6_findCycle 57 = .ok (.getfield 45, 3) := dk_180 0 45 (dk_at dksX6_findCycle_2 9 rfl rfl)
theorem dX6_findCycle_60 : decode cX6_findCycle 60 = .ok (.iload_n 3, 1) := dk_29 (dk_at dksX6_findCycle_2 12 rfl rfl)
theorem dX6_findCycle_61 : decode cX6_findCycle 61 = .ok (.iconst 1, 1) := dk_4 (dk_at dksX6_findCycle_2 13 rfl rfl)
theorem dX6_findCycle_62 : decode cX6_findCycle 62 = .ok (.isub, 1) := dk_100 (dk_at dksX6_findCycle_2 14 rfl rfl)
theorem dX6_findCycle_63 : decode cX6_findCycle 63 = .ok (.iaload, 1) := dk_46 (dk_at dksX6_findCycle_2 15 rfl rfl)
theorem dX6_findCycle_64 : decode cX6_findCycle 64 = .ok (.iload 4, 2) := dk_21 4 (dk_at dksX6_findCycle_2 16 rfl rfl)
theorem dX6_findCycle_66 : decode cX6_findCycle 66 = .ok (.invokevirtual 129, 3) := dk_182 0 129 (dk_at dksX6_findCycle_2 18 rfl rfl)
theorem dX6_findCycle_69 : decode cX6_findCycle 69 = .ok (.ifCond .ne 9, 3) := dk_154 0 9 (dk_at dksX6_findCycle_2 21 rfl rfl)
theorem dX6_findCycle_72 : decode cX6_findCycle 72 = .ok (.iinc 4 1, 3) := dk_132 4 1 (dk_at dksX6_findCycle_3 0 rfl rfl)
theorem dX6_findCycle_75 : decode cX6_findCycle 75 = .ok (.goto (-39), 3) := dk_167 255 217 (dk_at dksX6_findCycle_3 3 rfl rfl)
theorem dX6_findCycle_78 : decode cX6_findCycle 78 = .ok (.aload_n 0, 1) := dk_42 (dk_at dksX6_findCycle_3 6 rfl rfl)
theorem dX6_findCycle_79 : decode cX6_findCycle 79 = .ok (.getfield 45, 3) := dk_180 0 45 (dk_at dksX6_findCycle_3 7 rfl rfl)
theorem dX6_findCycle_82 : decode cX6_findCycle 82 = .ok (.iload_n 3, 1) := dk_29 (dk_at dksX6_findCycle_3 10 rfl rfl)
theorem dX6_findCycle_83 : decode cX6_findCycle 83 = .ok (.iload 4, 2) := dk_21 4 (dk_at dksX6_findCycle_3 11 rfl rfl)
theorem dX6_findCycle_85 : decode cX6_findCycle 85 = .ok (.iastore, 1) := dk_79 (dk_at dksX6_findCycle_3 13 rfl rfl)
theorem dX6_findCycle_86 : decode cX6_findCycle 86 = .ok (.iinc 3 1, 3) := dk_132 3 1 (dk_at dksX6_findCycle_3 14 rfl rfl)
theorem dX6_findCycle_89 : decode cX6_findCycle 89 = .ok (.goto (-61), 3) := dk_167 255 195 (dk_at dksX6_findCycle_3 17 rfl rfl)
theorem dX6_findCycle_92 : decode cX6_findCycle 92 = .ok (.iload_n 2, 1) := dk_28 (dk_at dksX6_findCycle_3 20 rfl rfl)
theorem dX6_findCycle_93 : decode cX6_findCycle 93 = .ok (.ireturn, 1) := dk_172 (dk_at dksX6_findCycle_3 21 rfl rfl)
abbrev cX6_walkTo : ByteArray := prog_9_method_26_code
def yX6_walkTo : MethodName := ⟨RX6, "walkTo", "(I)V"⟩
def dkwX6_walkTo_6 : List UInt8 := [132, 3, 1, 167, 255, 146, 132, 2, 1, 167, 255, 128, 177]
abbrev dktX6_walkTo_6 : List UInt8 := dkwX6_walkTo_6 ++ []
def dkwX6_walkTo_5 : List UInt8 := [42, 29, 21, 4, 182, 0, 129, 153, 0, 10, 42, 180, 0, 42, 29, 28, 79, 132, 4, 1, 167, 255, 165]
abbrev dktX6_walkTo_5 : List UInt8 := dkwX6_walkTo_5 ++ dktX6_walkTo_6
def dkwX6_walkTo_4 : List UInt8 := [180, 0, 42, 21, 4, 46, 28, 4, 100, 160, 0, 7, 4, 167, 0, 4, 3, 54, 5, 21, 5, 153, 0, 20]
abbrev dktX6_walkTo_4 : List UInt8 := dkwX6_walkTo_4 ++ dktX6_walkTo_5
def dkwX6_walkTo_3 : List UInt8 := [160, 0, 17, 21, 4, 27, 160, 0, 7, 4, 167, 0, 31, 3, 167, 0, 27, 21, 4, 27, 159, 0, 20, 42]
abbrev dktX6_walkTo_3 : List UInt8 := dkwX6_walkTo_3 ++ dktX6_walkTo_4
def dkwX6_walkTo_2 : List UInt8 := [42, 180, 0, 42, 29, 46, 2, 160, 0, 87, 21, 4, 42, 180, 0, 13, 4, 46, 162, 0, 76, 28, 4]
abbrev dktX6_walkTo_2 : List UInt8 := dkwX6_walkTo_2 ++ dktX6_walkTo_3
def dkwX6_walkTo_1 : List UInt8 := [42, 180, 0, 13, 4, 46, 163, 0, 124, 3, 62, 29, 42, 180, 0, 13, 4, 46, 162, 0, 106, 3, 54, 4]
abbrev dktX6_walkTo_1 : List UInt8 := dkwX6_walkTo_1 ++ dktX6_walkTo_2
def dkwX6_walkTo_0 : List UInt8 := [3, 61, 28, 16, 6, 162, 0, 16, 42, 180, 0, 42, 28, 2, 79, 132, 2, 1, 167, 255, 240, 4, 61, 28]
abbrev dktX6_walkTo_0 : List UInt8 := dkwX6_walkTo_0 ++ dktX6_walkTo_1
theorem dksX6_walkTo_0 : cX6_walkTo.data.toList.drop 0 = dktX6_walkTo_0 := by decide +kernel
theorem dksX6_walkTo_1 : cX6_walkTo.data.toList.drop 24 = dktX6_walkTo_1 := dk_seg dksX6_walkTo_0 24 rfl rfl
theorem dksX6_walkTo_2 : cX6_walkTo.data.toList.drop 48 = dktX6_walkTo_2 := dk_seg dksX6_walkTo_1 24 rfl rfl
theorem dksX6_walkTo_3 : cX6_walkTo.data.toList.drop 71 = dktX6_walkTo_3 := dk_seg dksX6_walkTo_2 23 rfl rfl
theorem dksX6_walkTo_4 : cX6_walkTo.data.toList.drop 95 = dktX6_walkTo_4 := dk_seg dksX6_walkTo_3 24 rfl rfl
theorem dksX6_walkTo_5 : cX6_walkTo.data.toList.drop 119 = dktX6_walkTo_5 := dk_seg dksX6_walkTo_4 24 rfl rfl
theorem dksX6_walkTo_6 : cX6_walkTo.data.toList.drop 142 = dktX6_walkTo_6 := dk_seg dksX6_walkTo_5 23 rfl rfl
theorem dX6_walkTo_0 : decode cX6_walkTo 0 = .ok (.iconst 0, 1) := dk_3 (dk_at dksX6_walkTo_0 0 rfl rfl)
theorem dX6_walkTo_1 : decode cX6_walkTo 1 = .ok (.istore_n 2, 1) := dk_61 (dk_at dksX6_walkTo_0 1 rfl rfl)
theorem dX6_walkTo_2 : decode cX6_walkTo 2 = .ok (.iload_n 2, 1) := dk_28 (dk_at dksX6_walkTo_0 2 rfl rfl)
theorem dX6_walkTo_3 : decode cX6_walkTo 3 = .ok (.bipush 6, 2) := dk_16 6 (dk_at dksX6_walkTo_0 3 rfl rfl)
theorem dX6_walkTo_5 : decode cX6_walkTo 5 = .ok (.if_icmp .ge 16, 3) := dk_162 0 16 (dk_at dksX6_walkTo_0 5 rfl rfl)
theorem dX6_walkTo_8 : decode cX6_walkTo 8 = .ok (.aload_n 0, 1) := dk_42 (dk_at dksX6_walkTo_0 8 rfl rfl)
theorem dX6_walkTo_9 : decode cX6_walkTo 9 = .ok (.getfield 42, 3) := dk_180 0 42 (dk_at dksX6_walkTo_0 9 rfl rfl)
theorem dX6_walkTo_12 : decode cX6_walkTo 12 = .ok (.iload_n 2, 1) := dk_28 (dk_at dksX6_walkTo_0 12 rfl rfl)
theorem dX6_walkTo_13 : decode cX6_walkTo 13 = .ok (.iconst (-1), 1) := dk_2 (dk_at dksX6_walkTo_0 13 rfl rfl)
theorem dX6_walkTo_14 : decode cX6_walkTo 14 = .ok (.iastore, 1) := dk_79 (dk_at dksX6_walkTo_0 14 rfl rfl)
theorem dX6_walkTo_15 : decode cX6_walkTo 15 = .ok (.iinc 2 1, 3) := dk_132 2 1 (dk_at dksX6_walkTo_0 15 rfl rfl)
theorem dX6_walkTo_18 : decode cX6_walkTo 18 = .ok (.goto (-16), 3) := dk_167 255 240 (dk_at dksX6_walkTo_0 18 rfl rfl)
theorem dX6_walkTo_21 : decode cX6_walkTo 21 = .ok (.iconst 1, 1) := dk_4 (dk_at dksX6_walkTo_0 21 rfl rfl)
theorem dX6_walkTo_22 : decode cX6_walkTo 22 = .ok (.istore_n 2, 1) := dk_61 (dk_at dksX6_walkTo_0 22 rfl rfl)
theorem dX6_walkTo_23 : decode cX6_walkTo 23 = .ok (.iload_n 2, 1) := dk_28 (dk_at dksX6_walkTo_0 23 rfl rfl)
theorem dX6_walkTo_24 : decode cX6_walkTo 24 = .ok (.aload_n 0, 1) := dk_42 (dk_at dksX6_walkTo_1 0 rfl rfl)
theorem dX6_walkTo_25 : decode cX6_walkTo 25 = .ok (.getfield 13, 3) := dk_180 0 13 (dk_at dksX6_walkTo_1 1 rfl rfl)
theorem dX6_walkTo_28 : decode cX6_walkTo 28 = .ok (.iconst 1, 1) := dk_4 (dk_at dksX6_walkTo_1 4 rfl rfl)
theorem dX6_walkTo_29 : decode cX6_walkTo 29 = .ok (.iaload, 1) := dk_46 (dk_at dksX6_walkTo_1 5 rfl rfl)
theorem dX6_walkTo_30 : decode cX6_walkTo 30 = .ok (.if_icmp .gt 124, 3) := dk_163 0 124 (dk_at dksX6_walkTo_1 6 rfl rfl)
theorem dX6_walkTo_33 : decode cX6_walkTo 33 = .ok (.iconst 0, 1) := dk_3 (dk_at dksX6_walkTo_1 9 rfl rfl)
theorem dX6_walkTo_34 : decode cX6_walkTo 34 = .ok (.istore_n 3, 1) := dk_62 (dk_at dksX6_walkTo_1 10 rfl rfl)
theorem dX6_walkTo_35 : decode cX6_walkTo 35 = .ok (.iload_n 3, 1) := dk_29 (dk_at dksX6_walkTo_1 11 rfl rfl)
theorem dX6_walkTo_36 : decode cX6_walkTo 36 = .ok (.aload_n 0, 1) := dk_42 (dk_at dksX6_walkTo_1 12 rfl rfl)
theorem dX6_walkTo_37 : decode cX6_walkTo 37 = .ok (.getfield 13, 3) := dk_180 0 13 (dk_at dksX6_walkTo_1 13 rfl rfl)
theorem dX6_walkTo_40 : decode cX6_walkTo 40 = .ok (.iconst 1, 1) := dk_4 (dk_at dksX6_walkTo_1 16 rfl rfl)
theorem dX6_walkTo_41 : decode cX6_walkTo 41 = .ok (.iaload, 1) := dk_46 (dk_at dksX6_walkTo_1 17 rfl rfl)
theorem dX6_walkTo_42 : decode cX6_walkTo 42 = .ok (.if_icmp .ge 106, 3) := dk_162 0 106 (dk_at dksX6_walkTo_1 18 rfl rfl)
theorem dX6_walkTo_45 : decode cX6_walkTo 45 = .ok (.iconst 0, 1) := dk_3 (dk_at dksX6_walkTo_1 21 rfl rfl)
theorem dX6_walkTo_46 : decode cX6_walkTo 46 = .ok (.istore 4, 2) := dk_54 4 (dk_at dksX6_walkTo_1 22 rfl rfl)
theorem dX6_walkTo_48 : decode cX6_walkTo 48 = .ok (.aload_n 0, 1) := dk_42 (dk_at dksX6_walkTo_2 0 rfl rfl)
theorem dX6_walkTo_49 : decode cX6_walkTo 49 = .ok (.getfield 42, 3) := dk_180 0 42 (dk_at dksX6_walkTo_2 1 rfl rfl)
theorem dX6_walkTo_52 : decode cX6_walkTo 52 = .ok (.iload_n 3, 1) := dk_29 (dk_at dksX6_walkTo_2 4 rfl rfl)
theorem dX6_walkTo_53 : decode cX6_walkTo 53 = .ok (.iaload, 1) := dk_46 (dk_at dksX6_walkTo_2 5 rfl rfl)
theorem dX6_walkTo_54 : decode cX6_walkTo 54 = .ok (.iconst (-1), 1) := dk_2 (dk_at dksX6_walkTo_2 6 rfl rfl)
theorem dX6_walkTo_55 : decode cX6_walkTo 55 = .ok (.if_icmp .ne 87, 3) := dk_160 0 87 (dk_at dksX6_walkTo_2 7 rfl rfl)
theorem dX6_walkTo_58 : decode cX6_walkTo 58 = .ok (.iload 4, 2) := dk_21 4 (dk_at dksX6_walkTo_2 10 rfl rfl)
theorem dX6_walkTo_60 : decode cX6_walkTo 60 = .ok (.aload_n 0, 1) := dk_42 (dk_at dksX6_walkTo_2 12 rfl rfl)
theorem dX6_walkTo_61 : decode cX6_walkTo 61 = .ok (.getfield 13, 3) := dk_180 0 13 (dk_at dksX6_walkTo_2 13 rfl rfl)
theorem dX6_walkTo_64 : decode cX6_walkTo 64 = .ok (.iconst 1, 1) := dk_4 (dk_at dksX6_walkTo_2 16 rfl rfl)
theorem dX6_walkTo_65 : decode cX6_walkTo 65 = .ok (.iaload, 1) := dk_46 (dk_at dksX6_walkTo_2 17 rfl rfl)
theorem dX6_walkTo_66 : decode cX6_walkTo 66 = .ok (.if_icmp .ge 76, 3) := dk_162 0 76 (dk_at dksX6_walkTo_2 18 rfl rfl)
theorem dX6_walkTo_69 : decode cX6_walkTo 69 = .ok (.iload_n 2, 1) := dk_28 (dk_at dksX6_walkTo_2 21 rfl rfl)
theorem dX6_walkTo_70 : decode cX6_walkTo 70 = .ok (.iconst 1, 1) := dk_4 (dk_at dksX6_walkTo_2 22 rfl rfl)
theorem dX6_walkTo_71 : decode cX6_walkTo 71 = .ok (.if_icmp .ne 17, 3) := dk_160 0 17 (dk_at dksX6_walkTo_3 0 rfl rfl)
theorem dX6_walkTo_74 : decode cX6_walkTo 74 = .ok (.iload 4, 2) := dk_21 4 (dk_at dksX6_walkTo_3 3 rfl rfl)
theorem dX6_walkTo_76 : decode cX6_walkTo 76 = .ok (.iload_n 1, 1) := dk_27 (dk_at dksX6_walkTo_3 5 rfl rfl)
theorem dX6_walkTo_77 : decode cX6_walkTo 77 = .ok (.if_icmp .ne 7, 3) := dk_160 0 7 (dk_at dksX6_walkTo_3 6 rfl rfl)
theorem dX6_walkTo_80 : decode cX6_walkTo 80 = .ok (.iconst 1, 1) := dk_4 (dk_at dksX6_walkTo_3 9 rfl rfl)
theorem dX6_walkTo_81 : decode cX6_walkTo 81 = .ok (.goto 31, 3) := dk_167 0 31 (dk_at dksX6_walkTo_3 10 rfl rfl)
theorem dX6_walkTo_84 : decode cX6_walkTo 84 = .ok (.iconst 0, 1) := dk_3 (dk_at dksX6_walkTo_3 13 rfl rfl)
theorem dX6_walkTo_85 : decode cX6_walkTo 85 = .ok (.goto 27, 3) := dk_167 0 27 (dk_at dksX6_walkTo_3 14 rfl rfl)
theorem dX6_walkTo_88 : decode cX6_walkTo 88 = .ok (.iload 4, 2) := dk_21 4 (dk_at dksX6_walkTo_3 17 rfl rfl)
theorem dX6_walkTo_90 : decode cX6_walkTo 90 = .ok (.iload_n 1, 1) := dk_27 (dk_at dksX6_walkTo_3 19 rfl rfl)
theorem dX6_walkTo_91 : decode cX6_walkTo 91 = .ok (.if_icmp .eq 20, 3) := dk_159 0 20 (dk_at dksX6_walkTo_3 20 rfl rfl)
theorem dX6_walkTo_94 : decode cX6_walkTo 94 = .ok (.aload_n 0, 1) := dk_42 (dk_at dksX6_walkTo_3 23 rfl rfl)
theorem dX6_walkTo_95 : decode cX6_walkTo 95 = .ok (.getfield 42, 3) := dk_180 0 42 (dk_at dksX6_walkTo_4 0 rfl rfl)
theorem dX6_walkTo_98 : decode cX6_walkTo 98 = .ok (.iload 4, 2) := dk_21 4 (dk_at dksX6_walkTo_4 3 rfl rfl)
theorem dX6_walkTo_100 : decode cX6_walkTo 100 = .ok (.iaload, 1) := dk_46 (dk_at dksX6_walkTo_4 5 rfl rfl)
theorem dX6_walkTo_101 : decode cX6_walkTo 101 = .ok (.iload_n 2, 1) := dk_28 (dk_at dksX6_walkTo_4 6 rfl rfl)
theorem dX6_walkTo_102 : decode cX6_walkTo 102 = .ok (.iconst 1, 1) := dk_4 (dk_at dksX6_walkTo_4 7 rfl rfl)
theorem dX6_walkTo_103 : decode cX6_walkTo 103 = .ok (.isub, 1) := dk_100 (dk_at dksX6_walkTo_4 8 rfl rfl)
theorem dX6_walkTo_104 : decode cX6_walkTo 104 = .ok (.if_icmp .ne 7, 3) := dk_160 0 7 (dk_at dksX6_walkTo_4 9 rfl rfl)
theorem dX6_walkTo_107 : decode cX6_walkTo 107 = .ok (.iconst 1, 1) := dk_4 (dk_at dksX6_walkTo_4 12 rfl rfl)
theorem dX6_walkTo_108 : decode cX6_walkTo 108 = .ok (.goto 4, 3) := dk_167 0 4 (dk_at dksX6_walkTo_4 13 rfl rfl)
theorem dX6_walkTo_111 : decode cX6_walkTo 111 = .ok (.iconst 0, 1) := dk_3 (dk_at dksX6_walkTo_4 16 rfl rfl)
theorem dX6_walkTo_112 : decode cX6_walkTo 112 = .ok (.istore 5, 2) := dk_54 5 (dk_at dksX6_walkTo_4 17 rfl rfl)
theorem dX6_walkTo_114 : decode cX6_walkTo 114 = .ok (.iload 5, 2) := dk_21 5 (dk_at dksX6_walkTo_4 19 rfl rfl)
theorem dX6_walkTo_116 : decode cX6_walkTo 116 = .ok (.ifCond .eq 20, 3) := dk_153 0 20 (dk_at dksX6_walkTo_4 21 rfl rfl)
theorem dX6_walkTo_119 : decode cX6_walkTo 119 = .ok (.aload_n 0, 1) := dk_42 (dk_at dksX6_walkTo_5 0 rfl rfl)
theorem dX6_walkTo_120 : decode cX6_walkTo 120 = .ok (.iload_n 3, 1) := dk_29 (dk_at dksX6_walkTo_5 1 rfl rfl)
theorem dX6_walkTo_121 : decode cX6_walkTo 121 = .ok (.iload 4, 2) := dk_21 4 (dk_at dksX6_walkTo_5 2 rfl rfl)
theorem dX6_walkTo_123 : decode cX6_walkTo 123 = .ok (.invokevirtual 129, 3) := dk_182 0 129 (dk_at dksX6_walkTo_5 4 rfl rfl)
theorem dX6_walkTo_126 : decode cX6_walkTo 126 = .ok (.ifCond .eq 10, 3) := dk_153 0 10 (dk_at dksX6_walkTo_5 7 rfl rfl)
theorem dX6_walkTo_129 : decode cX6_walkTo 129 = .ok (.aload_n 0, 1) := dk_42 (dk_at dksX6_walkTo_5 10 rfl rfl)
theorem dX6_walkTo_130 : decode cX6_walkTo 130 = .ok (.getfield 42, 3) := dk_180 0 42 (dk_at dksX6_walkTo_5 11 rfl rfl)
theorem dX6_walkTo_133 : decode cX6_walkTo 133 = .ok (.iload_n 3, 1) := dk_29 (dk_at dksX6_walkTo_5 14 rfl rfl)
theorem dX6_walkTo_134 : decode cX6_walkTo 134 = .ok (.iload_n 2, 1) := dk_28 (dk_at dksX6_walkTo_5 15 rfl rfl)
theorem dX6_walkTo_135 : decode cX6_walkTo 135 = .ok (.iastore, 1) := dk_79 (dk_at dksX6_walkTo_5 16 rfl rfl)
theorem dX6_walkTo_136 : decode cX6_walkTo 136 = .ok (.iinc 4 1, 3) := dk_132 4 1 (dk_at dksX6_walkTo_5 17 rfl rfl)
theorem dX6_walkTo_139 : decode cX6_walkTo 139 = .ok (.goto (-91), 3) := dk_167 255 165 (dk_at dksX6_walkTo_5 20 rfl rfl)
theorem dX6_walkTo_142 : decode cX6_walkTo 142 = .ok (.iinc 3 1, 3) := dk_132 3 1 (dk_at dksX6_walkTo_6 0 rfl rfl)
theorem dX6_walkTo_145 : decode cX6_walkTo 145 = .ok (.goto (-110), 3) := dk_167 255 146 (dk_at dksX6_walkTo_6 3 rfl rfl)
theorem dX6_walkTo_148 : decode cX6_walkTo 148 = .ok (.iinc 2 1, 3) := dk_132 2 1 (dk_at dksX6_walkTo_6 6 rfl rfl)
theorem dX6_walkTo_151 : decode cX6_walkTo 151 = .ok (.goto (-128), 3) := dk_167 255 128 (dk_at dksX6_walkTo_6 9 rfl rfl)
theorem dX6_walkTo_154 : decode cX6_walkTo 154 = .ok (.return_, 1) := dk_177 (dk_at dksX6_walkTo_6 12 rfl rfl)
abbrev cX6_hasEnvy : ByteArray := prog_9_method_21_code
def yX6_hasEnvy : MethodName := ⟨RX6, "hasEnvy", "(II)Z"⟩
def dkwX6_hasEnvy_0 : List UInt8 := [42, 27, 28, 182, 0, 117, 42, 27, 182, 0, 120, 164, 0, 7, 4, 167, 0, 4, 3, 172]
abbrev dktX6_hasEnvy_0 : List UInt8 := dkwX6_hasEnvy_0 ++ []
theorem dksX6_hasEnvy_0 : cX6_hasEnvy.data.toList.drop 0 = dktX6_hasEnvy_0 := by decide +kernel
theorem dX6_hasEnvy_0 : decode cX6_hasEnvy 0 = .ok (.aload_n 0, 1) := dk_42 (dk_at dksX6_hasEnvy_0 0 rfl rfl)
theorem dX6_hasEnvy_1 : decode cX6_hasEnvy 1 = .ok (.iload_n 1, 1) := dk_27 (dk_at dksX6_hasEnvy_0 1 rfl rfl)
theorem dX6_hasEnvy_2 : decode cX6_hasEnvy 2 = .ok (.iload_n 2, 1) := dk_28 (dk_at dksX6_hasEnvy_0 2 rfl rfl)
theorem dX6_hasEnvy_3 : decode cX6_hasEnvy 3 = .ok (.invokevirtual 117, 3) := dk_182 0 117 (dk_at dksX6_hasEnvy_0 3 rfl rfl)
theorem dX6_hasEnvy_6 : decode cX6_hasEnvy 6 = .ok (.aload_n 0, 1) := dk_42 (dk_at dksX6_hasEnvy_0 6 rfl rfl)
theorem dX6_hasEnvy_7 : decode cX6_hasEnvy 7 = .ok (.iload_n 1, 1) := dk_27 (dk_at dksX6_hasEnvy_0 7 rfl rfl)
theorem dX6_hasEnvy_8 : decode cX6_hasEnvy 8 = .ok (.invokevirtual 120, 3) := dk_182 0 120 (dk_at dksX6_hasEnvy_0 8 rfl rfl)
theorem dX6_hasEnvy_11 : decode cX6_hasEnvy 11 = .ok (.if_icmp .le 7, 3) := dk_164 0 7 (dk_at dksX6_hasEnvy_0 11 rfl rfl)
theorem dX6_hasEnvy_14 : decode cX6_hasEnvy 14 = .ok (.iconst 1, 1) := dk_4 (dk_at dksX6_hasEnvy_0 14 rfl rfl)
theorem dX6_hasEnvy_15 : decode cX6_hasEnvy 15 = .ok (.goto 4, 3) := dk_167 0 4 (dk_at dksX6_hasEnvy_0 15 rfl rfl)
theorem dX6_hasEnvy_18 : decode cX6_hasEnvy 18 = .ok (.iconst 0, 1) := dk_3 (dk_at dksX6_hasEnvy_0 18 rfl rfl)
theorem dX6_hasEnvy_19 : decode cX6_hasEnvy 19 = .ok (.ireturn, 1) := dk_172 (dk_at dksX6_hasEnvy_0 19 rfl rfl)
abbrev cX6_worthShare : ByteArray := prog_9_method_15_code
def yX6_worthShare : MethodName := ⟨RX6, "worthShare", "(II)I"⟩
def dkwX6_worthShare_1 : List UInt8 := [160, 0, 13, 42, 27, 21, 4, 182, 0, 105, 167, 0, 4, 3, 96, 62, 132, 4, 1, 167, 255, 218, 29, 172]
abbrev dktX6_worthShare_1 : List UInt8 := dkwX6_worthShare_1 ++ []
def dkwX6_worthShare_0 : List UInt8 := [3, 62, 3, 54, 4, 21, 4, 42, 180, 0, 13, 3, 46, 162, 0, 33, 29, 42, 21, 4, 182, 0, 113, 28]
abbrev dktX6_worthShare_0 : List UInt8 := dkwX6_worthShare_0 ++ dktX6_worthShare_1
theorem dksX6_worthShare_0 : cX6_worthShare.data.toList.drop 0 = dktX6_worthShare_0 := by decide +kernel
theorem dksX6_worthShare_1 : cX6_worthShare.data.toList.drop 24 = dktX6_worthShare_1 := dk_seg dksX6_worthShare_0 24 rfl rfl
theorem dX6_worthShare_0 : decode cX6_worthShare 0 = .ok (.iconst 0, 1) := dk_3 (dk_at dksX6_worthShare_0 0 rfl rfl)
theorem dX6_worthShare_1 : decode cX6_worthShare 1 = .ok (.istore_n 3, 1) := dk_62 (dk_at dksX6_worthShare_0 1 rfl rfl)
theorem dX6_worthShare_2 : decode cX6_worthShare 2 = .ok (.iconst 0, 1) := dk_3 (dk_at dksX6_worthShare_0 2 rfl rfl)
theorem dX6_worthShare_3 : decode cX6_worthShare 3 = .ok (.istore 4, 2) := dk_54 4 (dk_at dksX6_worthShare_0 3 rfl rfl)
theorem dX6_worthShare_5 : decode cX6_worthShare 5 = .ok (.iload 4, 2) := dk_21 4 (dk_at dksX6_worthShare_0 5 rfl rfl)
theorem dX6_worthShare_7 : decode cX6_worthShare 7 = .ok (.aload_n 0, 1) := dk_42 (dk_at dksX6_worthShare_0 7 rfl rfl)
theorem dX6_worthShare_8 : decode cX6_worthShare 8 = .ok (.getfield 13, 3) := dk_180 0 13 (dk_at dksX6_worthShare_0 8 rfl rfl)
theorem dX6_worthShare_11 : decode cX6_worthShare 11 = .ok (.iconst 0, 1) := dk_3 (dk_at dksX6_worthShare_0 11 rfl rfl)
theorem dX6_worthShare_12 : decode cX6_worthShare 12 = .ok (.iaload, 1) := dk_46 (dk_at dksX6_worthShare_0 12 rfl rfl)
theorem dX6_worthShare_13 : decode cX6_worthShare 13 = .ok (.if_icmp .ge 33, 3) := dk_162 0 33 (dk_at dksX6_worthShare_0 13 rfl rfl)
theorem dX6_worthShare_16 : decode cX6_worthShare 16 = .ok (.iload_n 3, 1) := dk_29 (dk_at dksX6_worthShare_0 16 rfl rfl)
theorem dX6_worthShare_17 : decode cX6_worthShare 17 = .ok (.aload_n 0, 1) := dk_42 (dk_at dksX6_worthShare_0 17 rfl rfl)
theorem dX6_worthShare_18 : decode cX6_worthShare 18 = .ok (.iload 4, 2) := dk_21 4 (dk_at dksX6_worthShare_0 18 rfl rfl)
theorem dX6_worthShare_20 : decode cX6_worthShare 20 = .ok (.invokevirtual 113, 3) := dk_182 0 113 (dk_at dksX6_worthShare_0 20 rfl rfl)
theorem dX6_worthShare_23 : decode cX6_worthShare 23 = .ok (.iload_n 2, 1) := dk_28 (dk_at dksX6_worthShare_0 23 rfl rfl)
theorem dX6_worthShare_24 : decode cX6_worthShare 24 = .ok (.if_icmp .ne 13, 3) := dk_160 0 13 (dk_at dksX6_worthShare_1 0 rfl rfl)
theorem dX6_worthShare_27 : decode cX6_worthShare 27 = .ok (.aload_n 0, 1) := dk_42 (dk_at dksX6_worthShare_1 3 rfl rfl)
theorem dX6_worthShare_28 : decode cX6_worthShare 28 = .ok (.iload_n 1, 1) := dk_27 (dk_at dksX6_worthShare_1 4 rfl rfl)
theorem dX6_worthShare_29 : decode cX6_worthShare 29 = .ok (.iload 4, 2) := dk_21 4 (dk_at dksX6_worthShare_1 5 rfl rfl)
theorem dX6_worthShare_31 : decode cX6_worthShare 31 = .ok (.invokevirtual 105, 3) := dk_182 0 105 (dk_at dksX6_worthShare_1 7 rfl rfl)
theorem dX6_worthShare_34 : decode cX6_worthShare 34 = .ok (.goto 4, 3) := dk_167 0 4 (dk_at dksX6_worthShare_1 10 rfl rfl)
theorem dX6_worthShare_37 : decode cX6_worthShare 37 = .ok (.iconst 0, 1) := dk_3 (dk_at dksX6_worthShare_1 13 rfl rfl)
theorem dX6_worthShare_38 : decode cX6_worthShare 38 = .ok (.iadd, 1) := dk_96 (dk_at dksX6_worthShare_1 14 rfl rfl)
theorem dX6_worthShare_39 : decode cX6_worthShare 39 = .ok (.istore_n 3, 1) := dk_62 (dk_at dksX6_worthShare_1 15 rfl rfl)
theorem dX6_worthShare_40 : decode cX6_worthShare 40 = .ok (.iinc 4 1, 3) := dk_132 4 1 (dk_at dksX6_worthShare_1 16 rfl rfl)
theorem dX6_worthShare_43 : decode cX6_worthShare 43 = .ok (.goto (-38), 3) := dk_167 255 218 (dk_at dksX6_worthShare_1 19 rfl rfl)
theorem dX6_worthShare_46 : decode cX6_worthShare 46 = .ok (.iload_n 3, 1) := dk_29 (dk_at dksX6_worthShare_1 22 rfl rfl)
theorem dX6_worthShare_47 : decode cX6_worthShare 47 = .ok (.ireturn, 1) := dk_172 (dk_at dksX6_worthShare_1 23 rfl rfl)
abbrev cX6_ownerOf : ByteArray := prog_9_method_10_code
def yX6_ownerOf : MethodName := ⟨RX6, "ownerOf", "(I)I"⟩
def dkwX6_ownerOf_0 : List UInt8 := [42, 180, 0, 13, 5, 27, 96, 46, 172]
abbrev dktX6_ownerOf_0 : List UInt8 := dkwX6_ownerOf_0 ++ []
theorem dksX6_ownerOf_0 : cX6_ownerOf.data.toList.drop 0 = dktX6_ownerOf_0 := by decide +kernel
theorem dX6_ownerOf_0 : decode cX6_ownerOf 0 = .ok (.aload_n 0, 1) := dk_42 (dk_at dksX6_ownerOf_0 0 rfl rfl)
theorem dX6_ownerOf_1 : decode cX6_ownerOf 1 = .ok (.getfield 13, 3) := dk_180 0 13 (dk_at dksX6_ownerOf_0 1 rfl rfl)
theorem dX6_ownerOf_4 : decode cX6_ownerOf 4 = .ok (.iconst 2, 1) := dk_5 (dk_at dksX6_ownerOf_0 4 rfl rfl)
theorem dX6_ownerOf_5 : decode cX6_ownerOf 5 = .ok (.iload_n 1, 1) := dk_27 (dk_at dksX6_ownerOf_0 5 rfl rfl)
theorem dX6_ownerOf_6 : decode cX6_ownerOf 6 = .ok (.iadd, 1) := dk_96 (dk_at dksX6_ownerOf_0 6 rfl rfl)
theorem dX6_ownerOf_7 : decode cX6_ownerOf 7 = .ok (.iaload, 1) := dk_46 (dk_at dksX6_ownerOf_0 7 rfl rfl)
theorem dX6_ownerOf_8 : decode cX6_ownerOf 8 = .ok (.ireturn, 1) := dk_172 (dk_at dksX6_ownerOf_0 8 rfl rfl)
abbrev cX6_valueOf : ByteArray := prog_9_method_9_code
def yX6_valueOf : MethodName := ⟨RX6, "valueOf", "(II)I"⟩
def dkwX6_valueOf_0 : List UInt8 := [42, 180, 0, 13, 16, 26, 27, 16, 31, 104, 96, 16, 7, 96, 28, 96, 46, 172]
abbrev dktX6_valueOf_0 : List UInt8 := dkwX6_valueOf_0 ++ []
theorem dksX6_valueOf_0 : cX6_valueOf.data.toList.drop 0 = dktX6_valueOf_0 := by decide +kernel
theorem dX6_valueOf_0 : decode cX6_valueOf 0 = .ok (.aload_n 0, 1) := dk_42 (dk_at dksX6_valueOf_0 0 rfl rfl)
theorem dX6_valueOf_1 : decode cX6_valueOf 1 = .ok (.getfield 13, 3) := dk_180 0 13 (dk_at dksX6_valueOf_0 1 rfl rfl)
theorem dX6_valueOf_4 : decode cX6_valueOf 4 = .ok (.bipush 26, 2) := dk_16 26 (dk_at dksX6_valueOf_0 4 rfl rfl)
theorem dX6_valueOf_6 : decode cX6_valueOf 6 = .ok (.iload_n 1, 1) := dk_27 (dk_at dksX6_valueOf_0 6 rfl rfl)
theorem dX6_valueOf_7 : decode cX6_valueOf 7 = .ok (.bipush 31, 2) := dk_16 31 (dk_at dksX6_valueOf_0 7 rfl rfl)
theorem dX6_valueOf_9 : decode cX6_valueOf 9 = .ok (.imul, 1) := dk_104 (dk_at dksX6_valueOf_0 9 rfl rfl)
theorem dX6_valueOf_10 : decode cX6_valueOf 10 = .ok (.iadd, 1) := dk_96 (dk_at dksX6_valueOf_0 10 rfl rfl)
theorem dX6_valueOf_11 : decode cX6_valueOf 11 = .ok (.bipush 7, 2) := dk_16 7 (dk_at dksX6_valueOf_0 11 rfl rfl)
theorem dX6_valueOf_13 : decode cX6_valueOf 13 = .ok (.iadd, 1) := dk_96 (dk_at dksX6_valueOf_0 13 rfl rfl)
theorem dX6_valueOf_14 : decode cX6_valueOf 14 = .ok (.iload_n 2, 1) := dk_28 (dk_at dksX6_valueOf_0 14 rfl rfl)
theorem dX6_valueOf_15 : decode cX6_valueOf 15 = .ok (.iadd, 1) := dk_96 (dk_at dksX6_valueOf_0 15 rfl rfl)
theorem dX6_valueOf_16 : decode cX6_valueOf 16 = .ok (.iaload, 1) := dk_46 (dk_at dksX6_valueOf_0 16 rfl rfl)
theorem dX6_valueOf_17 : decode cX6_valueOf 17 = .ok (.ireturn, 1) := dk_172 (dk_at dksX6_valueOf_0 17 rfl rfl)
abbrev cX6_welfareOf : ByteArray := prog_9_method_16_code
def yX6_welfareOf : MethodName := ⟨RX6, "welfareOf", "(I)I"⟩
def dkwX6_welfareOf_0 : List UInt8 := [42, 27, 27, 182, 0, 117, 172]
abbrev dktX6_welfareOf_0 : List UInt8 := dkwX6_welfareOf_0 ++ []
theorem dksX6_welfareOf_0 : cX6_welfareOf.data.toList.drop 0 = dktX6_welfareOf_0 := by decide +kernel
theorem dX6_welfareOf_0 : decode cX6_welfareOf 0 = .ok (.aload_n 0, 1) := dk_42 (dk_at dksX6_welfareOf_0 0 rfl rfl)
theorem dX6_welfareOf_1 : decode cX6_welfareOf 1 = .ok (.iload_n 1, 1) := dk_27 (dk_at dksX6_welfareOf_0 1 rfl rfl)
theorem dX6_welfareOf_2 : decode cX6_welfareOf 2 = .ok (.iload_n 1, 1) := dk_27 (dk_at dksX6_welfareOf_0 2 rfl rfl)
theorem dX6_welfareOf_3 : decode cX6_welfareOf 3 = .ok (.invokevirtual 117, 3) := dk_182 0 117 (dk_at dksX6_welfareOf_0 3 rfl rfl)
theorem dX6_welfareOf_6 : decode cX6_welfareOf 6 = .ok (.ireturn, 1) := dk_172 (dk_at dksX6_welfareOf_0 6 rfl rfl)
abbrev cX6_doIt : ByteArray := prog_9_method_66_code
def yX6_doIt : MethodName := ⟨RX6, "doIt", "(IIII)V"⟩
def dkwX6_doIt_5 : List UInt8 := [42, 28, 182, 0, 254, 87, 167, 0, 9, 42, 28, 182, 1, 0, 87, 177]
abbrev dktX6_doIt_5 : List UInt8 := dkwX6_doIt_5 ++ []
def dkwX6_doIt_4 : List UInt8 := [21, 4, 79, 167, 0, 36, 42, 28, 29, 182, 0, 250, 87, 167, 0, 26, 42, 182, 0, 252, 87, 167, 0, 18]
abbrev dktX6_doIt_4 : List UInt8 := dkwX6_doIt_4 ++ dktX6_doIt_5
def dkwX6_doIt_3 : List UInt8 := [29, 182, 0, 247, 167, 0, 58, 42, 180, 0, 13, 16, 26, 28, 16, 31, 104, 96, 16, 7, 96, 29, 96]
abbrev dktX6_doIt_3 : List UInt8 := dkwX6_doIt_3 ++ dktX6_doIt_4
def dkwX6_doIt_2 : List UInt8 := [42, 28, 29, 21, 4, 182, 0, 140, 167, 0, 78, 42, 2, 29, 21, 4, 182, 0, 140, 167, 0, 67, 42, 28]
abbrev dktX6_doIt_2 : List UInt8 := dkwX6_doIt_2 ++ dktX6_doIt_3
def dkwX6_doIt_1 : List UInt8 := [170, 0, 0, 0, 0, 0, 123, 0, 0, 0, 0, 0, 0, 0, 6, 0, 0, 0, 43, 0, 0, 0, 54, 0, 0, 0, 65, 0, 0, 0, 74, 0, 0, 0, 96, 0, 0, 0, 106, 0, 0, 0, 114]
abbrev dktX6_doIt_1 : List UInt8 := dkwX6_doIt_1 ++ dktX6_doIt_2
def dkwX6_doIt_0 : List UInt8 := [27]
abbrev dktX6_doIt_0 : List UInt8 := dkwX6_doIt_0 ++ dktX6_doIt_1
theorem dksX6_doIt_0 : cX6_doIt.data.toList.drop 0 = dktX6_doIt_0 := by decide +kernel
theorem dksX6_doIt_1 : cX6_doIt.data.toList.drop 1 = dktX6_doIt_1 := dk_seg dksX6_doIt_0 1 rfl rfl
theorem dksX6_doIt_2 : cX6_doIt.data.toList.drop 44 = dktX6_doIt_2 := dk_seg dksX6_doIt_1 43 rfl rfl
theorem dksX6_doIt_3 : cX6_doIt.data.toList.drop 68 = dktX6_doIt_3 := dk_seg dksX6_doIt_2 24 rfl rfl
theorem dksX6_doIt_4 : cX6_doIt.data.toList.drop 91 = dktX6_doIt_4 := dk_seg dksX6_doIt_3 23 rfl rfl
theorem dksX6_doIt_5 : cX6_doIt.data.toList.drop 115 = dktX6_doIt_5 := dk_seg dksX6_doIt_4 24 rfl rfl
theorem dX6_doIt_0 : decode cX6_doIt 0 = .ok (.iload_n 1, 1) := dk_27 (dk_at dksX6_doIt_0 0 rfl rfl)
theorem dX6_doIt_1 : decode cX6_doIt 1 = .ok (.tableswitch 123 0 6 #[43, 54, 65, 74, 96, 106, 114], 43) := by decide +kernel
theorem dX6_doIt_44 : decode cX6_doIt 44 = .ok (.aload_n 0, 1) := dk_42 (dk_at dksX6_doIt_2 0 rfl rfl)
theorem dX6_doIt_45 : decode cX6_doIt 45 = .ok (.iload_n 2, 1) := dk_28 (dk_at dksX6_doIt_2 1 rfl rfl)
theorem dX6_doIt_46 : decode cX6_doIt 46 = .ok (.iload_n 3, 1) := dk_29 (dk_at dksX6_doIt_2 2 rfl rfl)
theorem dX6_doIt_47 : decode cX6_doIt 47 = .ok (.iload 4, 2) := dk_21 4 (dk_at dksX6_doIt_2 3 rfl rfl)
theorem dX6_doIt_49 : decode cX6_doIt 49 = .ok (.invokevirtual 140, 3) := dk_182 0 140 (dk_at dksX6_doIt_2 5 rfl rfl)
theorem dX6_doIt_52 : decode cX6_doIt 52 = .ok (.goto 78, 3) := dk_167 0 78 (dk_at dksX6_doIt_2 8 rfl rfl)
theorem dX6_doIt_55 : decode cX6_doIt 55 = .ok (.aload_n 0, 1) := dk_42 (dk_at dksX6_doIt_2 11 rfl rfl)
theorem dX6_doIt_56 : decode cX6_doIt 56 = .ok (.iconst (-1), 1) := dk_2 (dk_at dksX6_doIt_2 12 rfl rfl)
theorem dX6_doIt_57 : decode cX6_doIt 57 = .ok (.iload_n 3, 1) := dk_29 (dk_at dksX6_doIt_2 13 rfl rfl)
theorem dX6_doIt_58 : decode cX6_doIt 58 = .ok (.iload 4, 2) := dk_21 4 (dk_at dksX6_doIt_2 14 rfl rfl)
theorem dX6_doIt_60 : decode cX6_doIt 60 = .ok (.invokevirtual 140, 3) := dk_182 0 140 (dk_at dksX6_doIt_2 16 rfl rfl)
theorem dX6_doIt_63 : decode cX6_doIt 63 = .ok (.goto 67, 3) := dk_167 0 67 (dk_at dksX6_doIt_2 19 rfl rfl)
theorem dX6_doIt_66 : decode cX6_doIt 66 = .ok (.aload_n 0, 1) := dk_42 (dk_at dksX6_doIt_2 22 rfl rfl)
theorem dX6_doIt_67 : decode cX6_doIt 67 = .ok (.iload_n 2, 1) := dk_28 (dk_at dksX6_doIt_2 23 rfl rfl)
theorem dX6_doIt_68 : decode cX6_doIt 68 = .ok (.iload_n 3, 1) := dk_29 (dk_at dksX6_doIt_3 0 rfl rfl)
theorem dX6_doIt_69 : decode cX6_doIt 69 = .ok (.invokevirtual 247, 3) := dk_182 0 247 (dk_at dksX6_doIt_3 1 rfl rfl)
theorem dX6_doIt_72 : decode cX6_doIt 72 = .ok (.goto 58, 3) := dk_167 0 58 (dk_at dksX6_doIt_3 4 rfl rfl)
theorem dX6_doIt_75 : decode cX6_doIt 75 = .ok (.aload_n 0, 1) := dk_42 (dk_at dksX6_doIt_3 7 rfl rfl)
theorem dX6_doIt_76 : decode cX6_doIt 76 = .ok (.getfield 13, 3) := dk_180 0 13 (dk_at dksX6_doIt_3 8 rfl rfl)
theorem dX6_doIt_79 : decode cX6_doIt 79 = .ok (.bipush 26, 2) := dk_16 26 (dk_at dksX6_doIt_3 11 rfl rfl)
theorem dX6_doIt_81 : decode cX6_doIt 81 = .ok (.iload_n 2, 1) := dk_28 (dk_at dksX6_doIt_3 13 rfl rfl)
theorem dX6_doIt_82 : decode cX6_doIt 82 = .ok (.bipush 31, 2) := dk_16 31 (dk_at dksX6_doIt_3 14 rfl rfl)
theorem dX6_doIt_84 : decode cX6_doIt 84 = .ok (.imul, 1) := dk_104 (dk_at dksX6_doIt_3 16 rfl rfl)
theorem dX6_doIt_85 : decode cX6_doIt 85 = .ok (.iadd, 1) := dk_96 (dk_at dksX6_doIt_3 17 rfl rfl)
theorem dX6_doIt_86 : decode cX6_doIt 86 = .ok (.bipush 7, 2) := dk_16 7 (dk_at dksX6_doIt_3 18 rfl rfl)
theorem dX6_doIt_88 : decode cX6_doIt 88 = .ok (.iadd, 1) := dk_96 (dk_at dksX6_doIt_3 20 rfl rfl)
theorem dX6_doIt_89 : decode cX6_doIt 89 = .ok (.iload_n 3, 1) := dk_29 (dk_at dksX6_doIt_3 21 rfl rfl)
theorem dX6_doIt_90 : decode cX6_doIt 90 = .ok (.iadd, 1) := dk_96 (dk_at dksX6_doIt_3 22 rfl rfl)
theorem dX6_doIt_91 : decode cX6_doIt 91 = .ok (.iload 4, 2) := dk_21 4 (dk_at dksX6_doIt_4 0 rfl rfl)
theorem dX6_doIt_93 : decode cX6_doIt 93 = .ok (.iastore, 1) := dk_79 (dk_at dksX6_doIt_4 2 rfl rfl)
theorem dX6_doIt_94 : decode cX6_doIt 94 = .ok (.goto 36, 3) := dk_167 0 36 (dk_at dksX6_doIt_4 3 rfl rfl)
theorem dX6_doIt_97 : decode cX6_doIt 97 = .ok (.aload_n 0, 1) := dk_42 (dk_at dksX6_doIt_4 6 rfl rfl)
theorem dX6_doIt_98 : decode cX6_doIt 98 = .ok (.iload_n 2, 1) := dk_28 (dk_at dksX6_doIt_4 7 rfl rfl)
theorem dX6_doIt_99 : decode cX6_doIt 99 = .ok (.iload_n 3, 1) := dk_29 (dk_at dksX6_doIt_4 8 rfl rfl)
theorem dX6_doIt_100 : decode cX6_doIt 100 = .ok (.invokevirtual 250, 3) := dk_182 0 250 (dk_at dksX6_doIt_4 9 rfl rfl)
theorem dX6_doIt_103 : decode cX6_doIt 103 = .ok (.pop, 1) := dk_87 (dk_at dksX6_doIt_4 12 rfl rfl)
theorem dX6_doIt_104 : decode cX6_doIt 104 = .ok (.goto 26, 3) := dk_167 0 26 (dk_at dksX6_doIt_4 13 rfl rfl)
theorem dX6_doIt_107 : decode cX6_doIt 107 = .ok (.aload_n 0, 1) := dk_42 (dk_at dksX6_doIt_4 16 rfl rfl)
theorem dX6_doIt_108 : decode cX6_doIt 108 = .ok (.invokevirtual 252, 3) := dk_182 0 252 (dk_at dksX6_doIt_4 17 rfl rfl)
theorem dX6_doIt_111 : decode cX6_doIt 111 = .ok (.pop, 1) := dk_87 (dk_at dksX6_doIt_4 20 rfl rfl)
theorem dX6_doIt_112 : decode cX6_doIt 112 = .ok (.goto 18, 3) := dk_167 0 18 (dk_at dksX6_doIt_4 21 rfl rfl)
theorem dX6_doIt_115 : decode cX6_doIt 115 = .ok (.aload_n 0, 1) := dk_42 (dk_at dksX6_doIt_5 0 rfl rfl)
theorem dX6_doIt_116 : decode cX6_doIt 116 = .ok (.iload_n 2, 1) := dk_28 (dk_at dksX6_doIt_5 1 rfl rfl)
theorem dX6_doIt_117 : decode cX6_doIt 117 = .ok (.invokevirtual 254, 3) := dk_182 0 254 (dk_at dksX6_doIt_5 2 rfl rfl)
theorem dX6_doIt_120 : decode cX6_doIt 120 = .ok (.pop, 1) := dk_87 (dk_at dksX6_doIt_5 5 rfl rfl)
theorem dX6_doIt_121 : decode cX6_doIt 121 = .ok (.goto 9, 3) := dk_167 0 9 (dk_at dksX6_doIt_5 6 rfl rfl)
theorem dX6_doIt_124 : decode cX6_doIt 124 = .ok (.aload_n 0, 1) := dk_42 (dk_at dksX6_doIt_5 9 rfl rfl)
theorem dX6_doIt_125 : decode cX6_doIt 125 = .ok (.iload_n 2, 1) := dk_28 (dk_at dksX6_doIt_5 10 rfl rfl)
theorem dX6_doIt_126 : decode cX6_doIt 126 = .ok (.invokevirtual 256, 3) := dk_182 1 0 (dk_at dksX6_doIt_5 11 rfl rfl)
theorem dX6_doIt_129 : decode cX6_doIt 129 = .ok (.pop, 1) := dk_87 (dk_at dksX6_doIt_5 14 rfl rfl)
theorem dX6_doIt_130 : decode cX6_doIt 130 = .ok (.return_, 1) := dk_177 (dk_at dksX6_doIt_5 15 rfl rfl)
abbrev cX6_own : ByteArray := prog_9_method_29_code
def yX6_own : MethodName := ⟨RX6, "own", "(III)V"⟩
def dkwX6_own_1 : List UInt8 := [167, 255, 237, 177]
abbrev dktX6_own_1 : List UInt8 := dkwX6_own_1 ++ []
def dkwX6_own_0 : List UInt8 := [28, 54, 4, 21, 4, 29, 163, 0, 19, 42, 180, 0, 13, 5, 21, 4, 96, 27, 79, 132, 4, 1]
abbrev dktX6_own_0 : List UInt8 := dkwX6_own_0 ++ dktX6_own_1
theorem dksX6_own_0 : cX6_own.data.toList.drop 0 = dktX6_own_0 := by decide +kernel
theorem dksX6_own_1 : cX6_own.data.toList.drop 22 = dktX6_own_1 := dk_seg dksX6_own_0 22 rfl rfl
theorem dX6_own_0 : decode cX6_own 0 = .ok (.iload_n 2, 1) := dk_28 (dk_at dksX6_own_0 0 rfl rfl)
theorem dX6_own_1 : decode cX6_own 1 = .ok (.istore 4, 2) := dk_54 4 (dk_at dksX6_own_0 1 rfl rfl)
theorem dX6_own_3 : decode cX6_own 3 = .ok (.iload 4, 2) := dk_21 4 (dk_at dksX6_own_0 3 rfl rfl)
theorem dX6_own_5 : decode cX6_own 5 = .ok (.iload_n 3, 1) := dk_29 (dk_at dksX6_own_0 5 rfl rfl)
theorem dX6_own_6 : decode cX6_own 6 = .ok (.if_icmp .gt 19, 3) := dk_163 0 19 (dk_at dksX6_own_0 6 rfl rfl)
theorem dX6_own_9 : decode cX6_own 9 = .ok (.aload_n 0, 1) := dk_42 (dk_at dksX6_own_0 9 rfl rfl)
theorem dX6_own_10 : decode cX6_own 10 = .ok (.getfield 13, 3) := dk_180 0 13 (dk_at dksX6_own_0 10 rfl rfl)
theorem dX6_own_13 : decode cX6_own 13 = .ok (.iconst 2, 1) := dk_5 (dk_at dksX6_own_0 13 rfl rfl)
theorem dX6_own_14 : decode cX6_own 14 = .ok (.iload 4, 2) := dk_21 4 (dk_at dksX6_own_0 14 rfl rfl)
theorem dX6_own_16 : decode cX6_own 16 = .ok (.iadd, 1) := dk_96 (dk_at dksX6_own_0 16 rfl rfl)
theorem dX6_own_17 : decode cX6_own 17 = .ok (.iload_n 1, 1) := dk_27 (dk_at dksX6_own_0 17 rfl rfl)
theorem dX6_own_18 : decode cX6_own 18 = .ok (.iastore, 1) := dk_79 (dk_at dksX6_own_0 18 rfl rfl)
theorem dX6_own_19 : decode cX6_own 19 = .ok (.iinc 4 1, 3) := dk_132 4 1 (dk_at dksX6_own_0 19 rfl rfl)
theorem dX6_own_22 : decode cX6_own 22 = .ok (.goto (-19), 3) := dk_167 255 237 (dk_at dksX6_own_1 0 rfl rfl)
theorem dX6_own_25 : decode cX6_own 25 = .ok (.return_, 1) := dk_177 (dk_at dksX6_own_1 3 rfl rfl)
abbrev cX6_exchange : ByteArray := prog_9_method_34_code
def yX6_exchange : MethodName := ⟨RX6, "exchange", "(II)V"⟩
def dkwX6_exchange_2 : List UInt8 := [96, 27, 79, 132, 3, 1, 167, 255, 206, 177]
abbrev dktX6_exchange_2 : List UInt8 := dkwX6_exchange_2 ++ []
def dkwX6_exchange_1 : List UInt8 := [160, 0, 12, 42, 180, 0, 13, 5, 29, 96, 28, 79, 21, 4, 28, 160, 0, 12, 42, 180, 0, 13, 5, 29]
abbrev dktX6_exchange_1 : List UInt8 := dkwX6_exchange_1 ++ dktX6_exchange_2
def dkwX6_exchange_0 : List UInt8 := [3, 62, 29, 42, 180, 0, 13, 3, 46, 162, 0, 46, 42, 29, 182, 0, 113, 54, 4, 21, 4, 27]
abbrev dktX6_exchange_0 : List UInt8 := dkwX6_exchange_0 ++ dktX6_exchange_1
theorem dksX6_exchange_0 : cX6_exchange.data.toList.drop 0 = dktX6_exchange_0 := by decide +kernel
theorem dksX6_exchange_1 : cX6_exchange.data.toList.drop 22 = dktX6_exchange_1 := dk_seg dksX6_exchange_0 22 rfl rfl
theorem dksX6_exchange_2 : cX6_exchange.data.toList.drop 46 = dktX6_exchange_2 := dk_seg dksX6_exchange_1 24 rfl rfl
theorem dX6_exchange_0 : decode cX6_exchange 0 = .ok (.iconst 0, 1) := dk_3 (dk_at dksX6_exchange_0 0 rfl rfl)
theorem dX6_exchange_1 : decode cX6_exchange 1 = .ok (.istore_n 3, 1) := dk_62 (dk_at dksX6_exchange_0 1 rfl rfl)
theorem dX6_exchange_2 : decode cX6_exchange 2 = .ok (.iload_n 3, 1) := dk_29 (dk_at dksX6_exchange_0 2 rfl rfl)
theorem dX6_exchange_3 : decode cX6_exchange 3 = .ok (.aload_n 0, 1) := dk_42 (dk_at dksX6_exchange_0 3 rfl rfl)
theorem dX6_exchange_4 : decode cX6_exchange 4 = .ok (.getfield 13, 3) := dk_180 0 13 (dk_at dksX6_exchange_0 4 rfl rfl)
theorem dX6_exchange_7 : decode cX6_exchange 7 = .ok (.iconst 0, 1) := dk_3 (dk_at dksX6_exchange_0 7 rfl rfl)
theorem dX6_exchange_8 : decode cX6_exchange 8 = .ok (.iaload, 1) := dk_46 (dk_at dksX6_exchange_0 8 rfl rfl)
theorem dX6_exchange_9 : decode cX6_exchange 9 = .ok (.if_icmp .ge 46, 3) := dk_162 0 46 (dk_at dksX6_exchange_0 9 rfl rfl)
theorem dX6_exchange_12 : decode cX6_exchange 12 = .ok (.aload_n 0, 1) := dk_42 (dk_at dksX6_exchange_0 12 rfl rfl)
theorem dX6_exchange_13 : decode cX6_exchange 13 = .ok (.iload_n 3, 1) := dk_29 (dk_at dksX6_exchange_0 13 rfl rfl)
theorem dX6_exchange_14 : decode cX6_exchange 14 = .ok (.invokevirtual 113, 3) := dk_182 0 113 (dk_at dksX6_exchange_0 14 rfl rfl)
theorem dX6_exchange_17 : decode cX6_exchange 17 = .ok (.istore 4, 2) := dk_54 4 (dk_at dksX6_exchange_0 17 rfl rfl)
theorem dX6_exchange_19 : decode cX6_exchange 19 = .ok (.iload 4, 2) := dk_21 4 (dk_at dksX6_exchange_0 19 rfl rfl)
theorem dX6_exchange_21 : decode cX6_exchange 21 = .ok (.iload_n 1, 1) := dk_27 (dk_at dksX6_exchange_0 21 rfl rfl)
theorem dX6_exchange_22 : decode cX6_exchange 22 = .ok (.if_icmp .ne 12, 3) := dk_160 0 12 (dk_at dksX6_exchange_1 0 rfl rfl)
theorem dX6_exchange_25 : decode cX6_exchange 25 = .ok (.aload_n 0, 1) := dk_42 (dk_at dksX6_exchange_1 3 rfl rfl)
theorem dX6_exchange_26 : decode cX6_exchange 26 = .ok (.getfield 13, 3) := dk_180 0 13 (dk_at dksX6_exchange_1 4 rfl rfl)
theorem dX6_exchange_29 : decode cX6_exchange 29 = .ok (.iconst 2, 1) := dk_5 (dk_at dksX6_exchange_1 7 rfl rfl)
theorem dX6_exchange_30 : decode cX6_exchange 30 = .ok (.iload_n 3, 1) := dk_29 (dk_at dksX6_exchange_1 8 rfl rfl)
theorem dX6_exchange_31 : decode cX6_exchange 31 = .ok (.iadd, 1) := dk_96 (dk_at dksX6_exchange_1 9 rfl rfl)
theorem dX6_exchange_32 : decode cX6_exchange 32 = .ok (.iload_n 2, 1) := dk_28 (dk_at dksX6_exchange_1 10 rfl rfl)
theorem dX6_exchange_33 : decode cX6_exchange 33 = .ok (.iastore, 1) := dk_79 (dk_at dksX6_exchange_1 11 rfl rfl)
theorem dX6_exchange_34 : decode cX6_exchange 34 = .ok (.iload 4, 2) := dk_21 4 (dk_at dksX6_exchange_1 12 rfl rfl)
theorem dX6_exchange_36 : decode cX6_exchange 36 = .ok (.iload_n 2, 1) := dk_28 (dk_at dksX6_exchange_1 14 rfl rfl)
theorem dX6_exchange_37 : decode cX6_exchange 37 = .ok (.if_icmp .ne 12, 3) := dk_160 0 12 (dk_at dksX6_exchange_1 15 rfl rfl)
theorem dX6_exchange_40 : decode cX6_exchange 40 = .ok (.aload_n 0, 1) := dk_42 (dk_at dksX6_exchange_1 18 rfl rfl)
theorem dX6_exchange_41 : decode cX6_exchange 41 = .ok (.getfield 13, 3) := dk_180 0 13 (dk_at dksX6_exchange_1 19 rfl rfl)
theorem dX6_exchange_44 : decode cX6_exchange 44 = .ok (.iconst 2, 1) := dk_5 (dk_at dksX6_exchange_1 22 rfl rfl)
theorem dX6_exchange_45 : decode cX6_exchange 45 = .ok (.iload_n 3, 1) := dk_29 (dk_at dksX6_exchange_1 23 rfl rfl)
theorem dX6_exchange_46 : decode cX6_exchange 46 = .ok (.iadd, 1) := dk_96 (dk_at dksX6_exchange_2 0 rfl rfl)
theorem dX6_exchange_47 : decode cX6_exchange 47 = .ok (.iload_n 1, 1) := dk_27 (dk_at dksX6_exchange_2 1 rfl rfl)
theorem dX6_exchange_48 : decode cX6_exchange 48 = .ok (.iastore, 1) := dk_79 (dk_at dksX6_exchange_2 2 rfl rfl)
theorem dX6_exchange_49 : decode cX6_exchange 49 = .ok (.iinc 3 1, 3) := dk_132 3 1 (dk_at dksX6_exchange_2 3 rfl rfl)
theorem dX6_exchange_52 : decode cX6_exchange 52 = .ok (.goto (-50), 3) := dk_167 255 206 (dk_at dksX6_exchange_2 6 rfl rfl)
theorem dX6_exchange_55 : decode cX6_exchange 55 = .ok (.return_, 1) := dk_177 (dk_at dksX6_exchange_2 9 rfl rfl)
abbrev cX6_divide : ByteArray := prog_9_method_31_code
def yX6_divide : MethodName := ⟨RX6, "divide", "(II)I"⟩
def dkwX6_divide_3 : List UInt8 := [182, 0, 140, 29, 172]
abbrev dktX6_divide_3 : List UInt8 := dkwX6_divide_3 ++ []
def dkwX6_divide_2 : List UInt8 := [100, 182, 0, 140, 42, 21, 4, 153, 0, 7, 27, 167, 0, 4, 28, 29, 42, 180, 0, 13, 3, 46, 4, 100]
abbrev dktX6_divide_2 : List UInt8 := dkwX6_divide_2 ++ dktX6_divide_3
def dkwX6_divide_1 : List UInt8 := [161, 0, 7, 4, 167, 0, 4, 3, 54, 4, 42, 21, 4, 153, 0, 7, 28, 167, 0, 4, 27, 3, 29, 4]
abbrev dktX6_divide_1 : List UInt8 := dkwX6_divide_1 ++ dktX6_divide_2
def dkwX6_divide_0 : List UInt8 := [42, 27, 182, 0, 137, 62, 5, 42, 28, 3, 29, 4, 100, 182, 0, 109, 104, 42, 28, 182, 0, 123]
abbrev dktX6_divide_0 : List UInt8 := dkwX6_divide_0 ++ dktX6_divide_1
theorem dksX6_divide_0 : cX6_divide.data.toList.drop 0 = dktX6_divide_0 := by decide +kernel
theorem dksX6_divide_1 : cX6_divide.data.toList.drop 22 = dktX6_divide_1 := dk_seg dksX6_divide_0 22 rfl rfl
theorem dksX6_divide_2 : cX6_divide.data.toList.drop 46 = dktX6_divide_2 := dk_seg dksX6_divide_1 24 rfl rfl
theorem dksX6_divide_3 : cX6_divide.data.toList.drop 70 = dktX6_divide_3 := dk_seg dksX6_divide_2 24 rfl rfl
theorem dX6_divide_0 : decode cX6_divide 0 = .ok (.aload_n 0, 1) := dk_42 (dk_at dksX6_divide_0 0 rfl rfl)
theorem dX6_divide_1 : decode cX6_divide 1 = .ok (.iload_n 1, 1) := dk_27 (dk_at dksX6_divide_0 1 rfl rfl)
theorem dX6_divide_2 : decode cX6_divide 2 = .ok (.invokevirtual 137, 3) := dk_182 0 137 (dk_at dksX6_divide_0 2 rfl rfl)
theorem dX6_divide_5 : decode cX6_divide 5 = .ok (.istore_n 3, 1) := dk_62 (dk_at dksX6_divide_0 5 rfl rfl)
theorem dX6_divide_6 : decode cX6_divide 6 = .ok (.iconst 2, 1) := dk_5 (dk_at dksX6_divide_0 6 rfl rfl)
theorem dX6_divide_7 : decode cX6_divide 7 = .ok (.aload_n 0, 1) := dk_42 (dk_at dksX6_divide_0 7 rfl rfl)
theorem dX6_divide_8 : decode cX6_divide 8 = .ok (.iload_n 2, 1) := dk_28 (dk_at dksX6_divide_0 8 rfl rfl)
theorem dX6_divide_9 : decode cX6_divide 9 = .ok (.iconst 0, 1) := dk_3 (dk_at dksX6_divide_0 9 rfl rfl)
theorem dX6_divide_10 : decode cX6_divide 10 = .ok (.iload_n 3, 1) := dk_29 (dk_at dksX6_divide_0 10 rfl rfl)
theorem dX6_divide_11 : decode cX6_divide 11 = .ok (.iconst 1, 1) := dk_4 (dk_at dksX6_divide_0 11 rfl rfl)
theorem dX6_divide_12 : decode cX6_divide 12 = .ok (.isub, 1) := dk_100 (dk_at dksX6_divide_0 12 rfl rfl)
theorem dX6_divide_13 : decode cX6_divide 13 = .ok (.invokevirtual 109, 3) := dk_182 0 109 (dk_at dksX6_divide_0 13 rfl rfl)
theorem dX6_divide_16 : decode cX6_divide 16 = .ok (.imul, 1) := dk_104 (dk_at dksX6_divide_0 16 rfl rfl)
theorem dX6_divide_17 : decode cX6_divide 17 = .ok (.aload_n 0, 1) := dk_42 (dk_at dksX6_divide_0 17 rfl rfl)
theorem dX6_divide_18 : decode cX6_divide 18 = .ok (.iload_n 2, 1) := dk_28 (dk_at dksX6_divide_0 18 rfl rfl)
theorem dX6_divide_19 : decode cX6_divide 19 = .ok (.invokevirtual 123, 3) := dk_182 0 123 (dk_at dksX6_divide_0 19 rfl rfl)
theorem dX6_divide_22 : decode cX6_divide 22 = .ok (.if_icmp .lt 7, 3) := dk_161 0 7 (dk_at dksX6_divide_1 0 rfl rfl)
theorem dX6_divide_25 : decode cX6_divide 25 = .ok (.iconst 1, 1) := dk_4 (dk_at dksX6_divide_1 3 rfl rfl)
theorem dX6_divide_26 : decode cX6_divide 26 = .ok (.goto 4, 3) := dk_167 0 4 (dk_at dksX6_divide_1 4 rfl rfl)
theorem dX6_divide_29 : decode cX6_divide 29 = .ok (.iconst 0, 1) := dk_3 (dk_at dksX6_divide_1 7 rfl rfl)
theorem dX6_divide_30 : decode cX6_divide 30 = .ok (.istore 4, 2) := dk_54 4 (dk_at dksX6_divide_1 8 rfl rfl)
theorem dX6_divide_32 : decode cX6_divide 32 = .ok (.aload_n 0, 1) := dk_42 (dk_at dksX6_divide_1 10 rfl rfl)
theorem dX6_divide_33 : decode cX6_divide 33 = .ok (.iload 4, 2) := dk_21 4 (dk_at dksX6_divide_1 11 rfl rfl)
theorem dX6_divide_35 : decode cX6_divide 35 = .ok (.ifCond .eq 7, 3) := dk_153 0 7 (dk_at dksX6_divide_1 13 rfl rfl)
theorem dX6_divide_38 : decode cX6_divide 38 = .ok (.iload_n 2, 1) := dk_28 (dk_at dksX6_divide_1 16 rfl rfl)
theorem dX6_divide_39 : decode cX6_divide 39 = .ok (.goto 4, 3) := dk_167 0 4 (dk_at dksX6_divide_1 17 rfl rfl)
theorem dX6_divide_42 : decode cX6_divide 42 = .ok (.iload_n 1, 1) := dk_27 (dk_at dksX6_divide_1 20 rfl rfl)
theorem dX6_divide_43 : decode cX6_divide 43 = .ok (.iconst 0, 1) := dk_3 (dk_at dksX6_divide_1 21 rfl rfl)
theorem dX6_divide_44 : decode cX6_divide 44 = .ok (.iload_n 3, 1) := dk_29 (dk_at dksX6_divide_1 22 rfl rfl)
theorem dX6_divide_45 : decode cX6_divide 45 = .ok (.iconst 1, 1) := dk_4 (dk_at dksX6_divide_1 23 rfl rfl)
theorem dX6_divide_46 : decode cX6_divide 46 = .ok (.isub, 1) := dk_100 (dk_at dksX6_divide_2 0 rfl rfl)
theorem dX6_divide_47 : decode cX6_divide 47 = .ok (.invokevirtual 140, 3) := dk_182 0 140 (dk_at dksX6_divide_2 1 rfl rfl)
theorem dX6_divide_50 : decode cX6_divide 50 = .ok (.aload_n 0, 1) := dk_42 (dk_at dksX6_divide_2 4 rfl rfl)
theorem dX6_divide_51 : decode cX6_divide 51 = .ok (.iload 4, 2) := dk_21 4 (dk_at dksX6_divide_2 5 rfl rfl)
theorem dX6_divide_53 : decode cX6_divide 53 = .ok (.ifCond .eq 7, 3) := dk_153 0 7 (dk_at dksX6_divide_2 7 rfl rfl)
theorem dX6_divide_56 : decode cX6_divide 56 = .ok (.iload_n 1, 1) := dk_27 (dk_at dksX6_divide_2 10 rfl rfl)
theorem dX6_divide_57 : decode cX6_divide 57 = .ok (.goto 4, 3) := dk_167 0 4 (dk_at dksX6_divide_2 11 rfl rfl)
theorem dX6_divide_60 : decode cX6_divide 60 = .ok (.iload_n 2, 1) := dk_28 (dk_at dksX6_divide_2 14 rfl rfl)
theorem dX6_divide_61 : decode cX6_divide 61 = .ok (.iload_n 3, 1) := dk_29 (dk_at dksX6_divide_2 15 rfl rfl)
theorem dX6_divide_62 : decode cX6_divide 62 = .ok (.aload_n 0, 1) := dk_42 (dk_at dksX6_divide_2 16 rfl rfl)
theorem dX6_divide_63 : decode cX6_divide 63 = .ok (.getfield 13, 3) := dk_180 0 13 (dk_at dksX6_divide_2 17 rfl rfl)
theorem dX6_divide_66 : decode cX6_divide 66 = .ok (.iconst 0, 1) := dk_3 (dk_at dksX6_divide_2 20 rfl rfl)
theorem dX6_divide_67 : decode cX6_divide 67 = .ok (.iaload, 1) := dk_46 (dk_at dksX6_divide_2 21 rfl rfl)
theorem dX6_divide_68 : decode cX6_divide 68 = .ok (.iconst 1, 1) := dk_4 (dk_at dksX6_divide_2 22 rfl rfl)
theorem dX6_divide_69 : decode cX6_divide 69 = .ok (.isub, 1) := dk_100 (dk_at dksX6_divide_2 23 rfl rfl)
theorem dX6_divide_70 : decode cX6_divide 70 = .ok (.invokevirtual 140, 3) := dk_182 0 140 (dk_at dksX6_divide_3 0 rfl rfl)
theorem dX6_divide_73 : decode cX6_divide 73 = .ok (.iload_n 3, 1) := dk_29 (dk_at dksX6_divide_3 3 rfl rfl)
theorem dX6_divide_74 : decode cX6_divide 74 = .ok (.ireturn, 1) := dk_172 (dk_at dksX6_divide_3 4 rfl rfl)
abbrev cX6_cutOf : ByteArray := prog_9_method_30_code
def yX6_cutOf : MethodName := ⟨RX6, "cutOf", "(I)I"⟩
def dkwX6_cutOf_3 : List UInt8 := [167, 255, 197, 28, 172]
abbrev dktX6_cutOf_3 : List UInt8 := dkwX6_cutOf_3 ++ []
def dkwX6_cutOf_2 : List UInt8 := [21, 5, 116, 54, 5, 21, 5, 29, 161, 0, 6, 167, 0, 9, 21, 4, 61, 21, 5, 62, 132, 4, 1]
abbrev dktX6_cutOf_2 : List UInt8 := dkwX6_cutOf_2 ++ dktX6_cutOf_3
def dkwX6_cutOf_1 : List UInt8 := [182, 0, 123, 5, 42, 27, 3, 21, 4, 4, 100, 182, 0, 109, 104, 100, 54, 5, 21, 5, 156, 0, 8]
abbrev dktX6_cutOf_1 : List UInt8 := dkwX6_cutOf_1 ++ dktX6_cutOf_2
def dkwX6_cutOf_0 : List UInt8 := [3, 61, 42, 27, 182, 0, 123, 62, 4, 54, 4, 21, 4, 42, 180, 0, 13, 3, 46, 163, 0, 54, 42, 27]
abbrev dktX6_cutOf_0 : List UInt8 := dkwX6_cutOf_0 ++ dktX6_cutOf_1
theorem dksX6_cutOf_0 : cX6_cutOf.data.toList.drop 0 = dktX6_cutOf_0 := by decide +kernel
theorem dksX6_cutOf_1 : cX6_cutOf.data.toList.drop 24 = dktX6_cutOf_1 := dk_seg dksX6_cutOf_0 24 rfl rfl
theorem dksX6_cutOf_2 : cX6_cutOf.data.toList.drop 47 = dktX6_cutOf_2 := dk_seg dksX6_cutOf_1 23 rfl rfl
theorem dksX6_cutOf_3 : cX6_cutOf.data.toList.drop 70 = dktX6_cutOf_3 := dk_seg dksX6_cutOf_2 23 rfl rfl
theorem dX6_cutOf_0 : decode cX6_cutOf 0 = .ok (.iconst 0, 1) := dk_3 (dk_at dksX6_cutOf_0 0 rfl rfl)
theorem dX6_cutOf_1 : decode cX6_cutOf 1 = .ok (.istore_n 2, 1) := dk_61 (dk_at dksX6_cutOf_0 1 rfl rfl)
theorem dX6_cutOf_2 : decode cX6_cutOf 2 = .ok (.aload_n 0, 1) := dk_42 (dk_at dksX6_cutOf_0 2 rfl rfl)
theorem dX6_cutOf_3 : decode cX6_cutOf 3 = .ok (.iload_n 1, 1) := dk_27 (dk_at dksX6_cutOf_0 3 rfl rfl)
theorem dX6_cutOf_4 : decode cX6_cutOf 4 = .ok (.invokevirtual 123, 3) := dk_182 0 123 (dk_at dksX6_cutOf_0 4 rfl rfl)
theorem dX6_cutOf_7 : decode cX6_cutOf 7 = .ok (.istore_n 3, 1) := dk_62 (dk_at dksX6_cutOf_0 7 rfl rfl)
theorem dX6_cutOf_8 : decode cX6_cutOf 8 = .ok (.iconst 1, 1) := dk_4 (dk_at dksX6_cutOf_0 8 rfl rfl)
theorem dX6_cutOf_9 : decode cX6_cutOf 9 = .ok (.istore 4, 2) := dk_54 4 (dk_at dksX6_cutOf_0 9 rfl rfl)
theorem dX6_cutOf_11 : decode cX6_cutOf 11 = .ok (.iload 4, 2) := dk_21 4 (dk_at dksX6_cutOf_0 11 rfl rfl)
theorem dX6_cutOf_13 : decode cX6_cutOf 13 = .ok (.aload_n 0, 1) := dk_42 (dk_at dksX6_cutOf_0 13 rfl rfl)
theorem dX6_cutOf_14 : decode cX6_cutOf 14 = .ok (.getfield 13, 3) := dk_180 0 13 (dk_at dksX6_cutOf_0 14 rfl rfl)
theorem dX6_cutOf_17 : decode cX6_cutOf 17 = .ok (.iconst 0, 1) := dk_3 (dk_at dksX6_cutOf_0 17 rfl rfl)
theorem dX6_cutOf_18 : decode cX6_cutOf 18 = .ok (.iaload, 1) := dk_46 (dk_at dksX6_cutOf_0 18 rfl rfl)
theorem dX6_cutOf_19 : decode cX6_cutOf 19 = .ok (.if_icmp .gt 54, 3) := dk_163 0 54 (dk_at dksX6_cutOf_0 19 rfl rfl)
theorem dX6_cutOf_22 : decode cX6_cutOf 22 = .ok (.aload_n 0, 1) := dk_42 (dk_at dksX6_cutOf_0 22 rfl rfl)
theorem dX6_cutOf_23 : decode cX6_cutOf 23 = .ok (.iload_n 1, 1) := dk_27 (dk_at dksX6_cutOf_0 23 rfl rfl)
theorem dX6_cutOf_24 : decode cX6_cutOf 24 = .ok (.invokevirtual 123, 3) := dk_182 0 123 (dk_at dksX6_cutOf_1 0 rfl rfl)
theorem dX6_cutOf_27 : decode cX6_cutOf 27 = .ok (.iconst 2, 1) := dk_5 (dk_at dksX6_cutOf_1 3 rfl rfl)
theorem dX6_cutOf_28 : decode cX6_cutOf 28 = .ok (.aload_n 0, 1) := dk_42 (dk_at dksX6_cutOf_1 4 rfl rfl)
theorem dX6_cutOf_29 : decode cX6_cutOf 29 = .ok (.iload_n 1, 1) := dk_27 (dk_at dksX6_cutOf_1 5 rfl rfl)
theorem dX6_cutOf_30 : decode cX6_cutOf 30 = .ok (.iconst 0, 1) := dk_3 (dk_at dksX6_cutOf_1 6 rfl rfl)
theorem dX6_cutOf_31 : decode cX6_cutOf 31 = .ok (.iload 4, 2) := dk_21 4 (dk_at dksX6_cutOf_1 7 rfl rfl)
theorem dX6_cutOf_33 : decode cX6_cutOf 33 = .ok (.iconst 1, 1) := dk_4 (dk_at dksX6_cutOf_1 9 rfl rfl)
theorem dX6_cutOf_34 : decode cX6_cutOf 34 = .ok (.isub, 1) := dk_100 (dk_at dksX6_cutOf_1 10 rfl rfl)
theorem dX6_cutOf_35 : decode cX6_cutOf 35 = .ok (.invokevirtual 109, 3) := dk_182 0 109 (dk_at dksX6_cutOf_1 11 rfl rfl)
theorem dX6_cutOf_38 : decode cX6_cutOf 38 = .ok (.imul, 1) := dk_104 (dk_at dksX6_cutOf_1 14 rfl rfl)
theorem dX6_cutOf_39 : decode cX6_cutOf 39 = .ok (.isub, 1) := dk_100 (dk_at dksX6_cutOf_1 15 rfl rfl)
theorem dX6_cutOf_40 : decode cX6_cutOf 40 = .ok (.istore 5, 2) := dk_54 5 (dk_at dksX6_cutOf_1 16 rfl rfl)
theorem dX6_cutOf_42 : decode cX6_cutOf 42 = .ok (.iload 5, 2) := dk_21 5 (dk_at dksX6_cutOf_1 18 rfl rfl)
theorem dX6_cutOf_44 : decode cX6_cutOf 44 = .ok (.ifCond .ge 8, 3) := dk_156 0 8 (dk_at dksX6_cutOf_1 20 rfl rfl)
theorem dX6_cutOf_47 : decode cX6_cutOf 47 = .ok (.iload 5, 2) := dk_21 5 (dk_at dksX6_cutOf_2 0 rfl rfl)
theorem dX6_cutOf_49 : decode cX6_cutOf 49 = .ok (.ineg, 1) := dk_116 (dk_at dksX6_cutOf_2 2 rfl rfl)
theorem dX6_cutOf_50 : decode cX6_cutOf 50 = .ok (.istore 5, 2) := dk_54 5 (dk_at dksX6_cutOf_2 3 rfl rfl)
theorem dX6_cutOf_52 : decode cX6_cutOf 52 = .ok (.iload 5, 2) := dk_21 5 (dk_at dksX6_cutOf_2 5 rfl rfl)
theorem dX6_cutOf_54 : decode cX6_cutOf 54 = .ok (.iload_n 3, 1) := dk_29 (dk_at dksX6_cutOf_2 7 rfl rfl)
theorem dX6_cutOf_55 : decode cX6_cutOf 55 = .ok (.if_icmp .lt 6, 3) := dk_161 0 6 (dk_at dksX6_cutOf_2 8 rfl rfl)
theorem dX6_cutOf_58 : decode cX6_cutOf 58 = .ok (.goto 9, 3) := dk_167 0 9 (dk_at dksX6_cutOf_2 11 rfl rfl)
theorem dX6_cutOf_61 : decode cX6_cutOf 61 = .ok (.iload 4, 2) := dk_21 4 (dk_at dksX6_cutOf_2 14 rfl rfl)
theorem dX6_cutOf_63 : decode cX6_cutOf 63 = .ok (.istore_n 2, 1) := dk_61 (dk_at dksX6_cutOf_2 16 rfl rfl)
theorem dX6_cutOf_64 : decode cX6_cutOf 64 = .ok (.iload 5, 2) := dk_21 5 (dk_at dksX6_cutOf_2 17 rfl rfl)
theorem dX6_cutOf_66 : decode cX6_cutOf 66 = .ok (.istore_n 3, 1) := dk_62 (dk_at dksX6_cutOf_2 19 rfl rfl)
theorem dX6_cutOf_67 : decode cX6_cutOf 67 = .ok (.iinc 4 1, 3) := dk_132 4 1 (dk_at dksX6_cutOf_2 20 rfl rfl)
theorem dX6_cutOf_70 : decode cX6_cutOf 70 = .ok (.goto (-59), 3) := dk_167 255 197 (dk_at dksX6_cutOf_3 0 rfl rfl)
theorem dX6_cutOf_73 : decode cX6_cutOf 73 = .ok (.iload_n 2, 1) := dk_28 (dk_at dksX6_cutOf_3 3 rfl rfl)
theorem dX6_cutOf_74 : decode cX6_cutOf 74 = .ok (.ireturn, 1) := dk_172 (dk_at dksX6_cutOf_3 4 rfl rfl)
abbrev cX6_totalOf : ByteArray := prog_9_method_14_code
def yX6_totalOf : MethodName := ⟨RX6, "totalOf", "(I)I"⟩
def dkwX6_totalOf_0 : List UInt8 := [42, 27, 3, 42, 180, 0, 13, 3, 46, 4, 100, 182, 0, 109, 172]
abbrev dktX6_totalOf_0 : List UInt8 := dkwX6_totalOf_0 ++ []
theorem dksX6_totalOf_0 : cX6_totalOf.data.toList.drop 0 = dktX6_totalOf_0 := by decide +kernel
theorem dX6_totalOf_0 : decode cX6_totalOf 0 = .ok (.aload_n 0, 1) := dk_42 (dk_at dksX6_totalOf_0 0 rfl rfl)
theorem dX6_totalOf_1 : decode cX6_totalOf 1 = .ok (.iload_n 1, 1) := dk_27 (dk_at dksX6_totalOf_0 1 rfl rfl)
theorem dX6_totalOf_2 : decode cX6_totalOf 2 = .ok (.iconst 0, 1) := dk_3 (dk_at dksX6_totalOf_0 2 rfl rfl)
theorem dX6_totalOf_3 : decode cX6_totalOf 3 = .ok (.aload_n 0, 1) := dk_42 (dk_at dksX6_totalOf_0 3 rfl rfl)
theorem dX6_totalOf_4 : decode cX6_totalOf 4 = .ok (.getfield 13, 3) := dk_180 0 13 (dk_at dksX6_totalOf_0 4 rfl rfl)
theorem dX6_totalOf_7 : decode cX6_totalOf 7 = .ok (.iconst 0, 1) := dk_3 (dk_at dksX6_totalOf_0 7 rfl rfl)
theorem dX6_totalOf_8 : decode cX6_totalOf 8 = .ok (.iaload, 1) := dk_46 (dk_at dksX6_totalOf_0 8 rfl rfl)
theorem dX6_totalOf_9 : decode cX6_totalOf 9 = .ok (.iconst 1, 1) := dk_4 (dk_at dksX6_totalOf_0 9 rfl rfl)
theorem dX6_totalOf_10 : decode cX6_totalOf 10 = .ok (.isub, 1) := dk_100 (dk_at dksX6_totalOf_0 10 rfl rfl)
theorem dX6_totalOf_11 : decode cX6_totalOf 11 = .ok (.invokevirtual 109, 3) := dk_182 0 109 (dk_at dksX6_totalOf_0 11 rfl rfl)
theorem dX6_totalOf_14 : decode cX6_totalOf 14 = .ok (.ireturn, 1) := dk_172 (dk_at dksX6_totalOf_0 14 rfl rfl)
abbrev cX6_worthOf : ByteArray := prog_9_method_13_code
def yX6_worthOf : MethodName := ⟨RX6, "worthOf", "(III)I"⟩
def dkwX6_worthOf_1 : List UInt8 := [132, 5, 1, 167, 255, 235, 21, 4, 172]
abbrev dktX6_worthOf_1 : List UInt8 := dkwX6_worthOf_1 ++ []
def dkwX6_worthOf_0 : List UInt8 := [3, 54, 4, 28, 54, 5, 21, 5, 29, 163, 0, 21, 21, 4, 42, 27, 21, 5, 182, 0, 105, 96, 54, 4]
abbrev dktX6_worthOf_0 : List UInt8 := dkwX6_worthOf_0 ++ dktX6_worthOf_1
theorem dksX6_worthOf_0 : cX6_worthOf.data.toList.drop 0 = dktX6_worthOf_0 := by decide +kernel
theorem dksX6_worthOf_1 : cX6_worthOf.data.toList.drop 24 = dktX6_worthOf_1 := dk_seg dksX6_worthOf_0 24 rfl rfl
theorem dX6_worthOf_0 : decode cX6_worthOf 0 = .ok (.iconst 0, 1) := dk_3 (dk_at dksX6_worthOf_0 0 rfl rfl)
theorem dX6_worthOf_1 : decode cX6_worthOf 1 = .ok (.istore 4, 2) := dk_54 4 (dk_at dksX6_worthOf_0 1 rfl rfl)
theorem dX6_worthOf_3 : decode cX6_worthOf 3 = .ok (.iload_n 2, 1) := dk_28 (dk_at dksX6_worthOf_0 3 rfl rfl)
theorem dX6_worthOf_4 : decode cX6_worthOf 4 = .ok (.istore 5, 2) := dk_54 5 (dk_at dksX6_worthOf_0 4 rfl rfl)
theorem dX6_worthOf_6 : decode cX6_worthOf 6 = .ok (.iload 5, 2) := dk_21 5 (dk_at dksX6_worthOf_0 6 rfl rfl)
theorem dX6_worthOf_8 : decode cX6_worthOf 8 = .ok (.iload_n 3, 1) := dk_29 (dk_at dksX6_worthOf_0 8 rfl rfl)
theorem dX6_worthOf_9 : decode cX6_worthOf 9 = .ok (.if_icmp .gt 21, 3) := dk_163 0 21 (dk_at dksX6_worthOf_0 9 rfl rfl)
theorem dX6_worthOf_12 : decode cX6_worthOf 12 = .ok (.iload 4, 2) := dk_21 4 (dk_at dksX6_worthOf_0 12 rfl rfl)
theorem dX6_worthOf_14 : decode cX6_worthOf 14 = .ok (.aload_n 0, 1) := dk_42 (dk_at dksX6_worthOf_0 14 rfl rfl)
theorem dX6_worthOf_15 : decode cX6_worthOf 15 = .ok (.iload_n 1, 1) := dk_27 (dk_at dksX6_worthOf_0 15 rfl rfl)
theorem dX6_worthOf_16 : decode cX6_worthOf 16 = .ok (.iload 5, 2) := dk_21 5 (dk_at dksX6_worthOf_0 16 rfl rfl)
theorem dX6_worthOf_18 : decode cX6_worthOf 18 = .ok (.invokevirtual 105, 3) := dk_182 0 105 (dk_at dksX6_worthOf_0 18 rfl rfl)
theorem dX6_worthOf_21 : decode cX6_worthOf 21 = .ok (.iadd, 1) := dk_96 (dk_at dksX6_worthOf_0 21 rfl rfl)
theorem dX6_worthOf_22 : decode cX6_worthOf 22 = .ok (.istore 4, 2) := dk_54 4 (dk_at dksX6_worthOf_0 22 rfl rfl)
theorem dX6_worthOf_24 : decode cX6_worthOf 24 = .ok (.iinc 5 1, 3) := dk_132 5 1 (dk_at dksX6_worthOf_1 0 rfl rfl)
theorem dX6_worthOf_27 : decode cX6_worthOf 27 = .ok (.goto (-21), 3) := dk_167 255 235 (dk_at dksX6_worthOf_1 3 rfl rfl)
theorem dX6_worthOf_30 : decode cX6_worthOf 30 = .ok (.iload 4, 2) := dk_21 4 (dk_at dksX6_worthOf_1 6 rfl rfl)
theorem dX6_worthOf_32 : decode cX6_worthOf 32 = .ok (.ireturn, 1) := dk_172 (dk_at dksX6_worthOf_1 8 rfl rfl)
abbrev cX6_knife : ByteArray := prog_9_method_32_code
def yX6_knife : MethodName := ⟨RX6, "knife", "()I"⟩
def dkwX6_knife_7 : List UInt8 := [132, 2, 255, 167, 255, 126, 42, 182, 0, 150, 172]
abbrev dktX6_knife_7 : List UInt8 := dkwX6_knife_7 ++ []
def dkwX6_knife_6 : List UInt8 := [167, 255, 181, 42, 29, 27, 21, 4, 182, 0, 140, 42, 180, 0, 48, 29, 4, 84, 21, 4, 4, 96, 60]
abbrev dktX6_knife_6 : List UInt8 := dkwX6_knife_6 ++ dktX6_knife_7
def dkwX6_knife_5 : List UInt8 := [159, 0, 13, 21, 6, 21, 4, 161, 0, 6, 167, 0, 10, 21, 5, 62, 21, 6, 54, 4, 132, 5, 1]
abbrev dktX6_knife_5 : List UInt8 := dkwX6_knife_5 ++ dktX6_knife_6
def dkwX6_knife_4 : List UInt8 := [180, 0, 13, 3, 46, 4, 100, 167, 0, 11, 42, 21, 5, 27, 28, 182, 0, 147, 54, 6, 29, 2]
abbrev dktX6_knife_4 : List UInt8 := dkwX6_knife_4 ++ dktX6_knife_5
def dkwX6_knife_3 : List UInt8 := [4, 46, 162, 0, 70, 42, 180, 0, 48, 21, 5, 51, 153, 0, 6, 167, 0, 51, 28, 4, 160, 0, 14, 42]
abbrev dktX6_knife_3 : List UInt8 := dkwX6_knife_3 ++ dktX6_knife_4
def dkwX6_knife_2 : List UInt8 := [162, 0, 122, 2, 62, 42, 180, 0, 13, 3, 46, 4, 100, 54, 4, 3, 54, 5, 21, 5, 42, 180, 0, 13]
abbrev dktX6_knife_2 : List UInt8 := dkwX6_knife_2 ++ dktX6_knife_3
def dkwX6_knife_1 : List UInt8 := [167, 255, 240, 3, 60, 42, 180, 0, 13, 4, 46, 61, 28, 158, 0, 132, 27, 42, 180, 0, 13, 3, 46]
abbrev dktX6_knife_1 : List UInt8 := dkwX6_knife_1 ++ dktX6_knife_2
def dkwX6_knife_0 : List UInt8 := [42, 182, 0, 144, 3, 60, 27, 16, 6, 162, 0, 16, 42, 180, 0, 48, 27, 3, 84, 132, 1, 1]
abbrev dktX6_knife_0 : List UInt8 := dkwX6_knife_0 ++ dktX6_knife_1
theorem dksX6_knife_0 : cX6_knife.data.toList.drop 0 = dktX6_knife_0 := by decide +kernel
theorem dksX6_knife_1 : cX6_knife.data.toList.drop 22 = dktX6_knife_1 := dk_seg dksX6_knife_0 22 rfl rfl
theorem dksX6_knife_2 : cX6_knife.data.toList.drop 45 = dktX6_knife_2 := dk_seg dksX6_knife_1 23 rfl rfl
theorem dksX6_knife_3 : cX6_knife.data.toList.drop 69 = dktX6_knife_3 := dk_seg dksX6_knife_2 24 rfl rfl
theorem dksX6_knife_4 : cX6_knife.data.toList.drop 93 = dktX6_knife_4 := dk_seg dksX6_knife_3 24 rfl rfl
theorem dksX6_knife_5 : cX6_knife.data.toList.drop 115 = dktX6_knife_5 := dk_seg dksX6_knife_4 22 rfl rfl
theorem dksX6_knife_6 : cX6_knife.data.toList.drop 138 = dktX6_knife_6 := dk_seg dksX6_knife_5 23 rfl rfl
theorem dksX6_knife_7 : cX6_knife.data.toList.drop 161 = dktX6_knife_7 := dk_seg dksX6_knife_6 23 rfl rfl
theorem dX6_knife_0 : decode cX6_knife 0 = .ok (.aload_n 0, 1) := dk_42 (dk_at dksX6_knife_0 0 rfl rfl)
theorem dX6_knife_1 : decode cX6_knife 1 = .ok (.invokevirtual 144, 3) := dk_182 0 144 (dk_at dksX6_knife_0 1 rfl rfl)
theorem dX6_knife_4 : decode cX6_knife 4 = .ok (.iconst 0, 1) := dk_3 (dk_at dksX6_knife_0 4 rfl rfl)
theorem dX6_knife_5 : decode cX6_knife 5 = .ok (.istore_n 1, 1) := dk_60 (dk_at dksX6_knife_0 5 rfl rfl)
theorem dX6_knife_6 : decode cX6_knife 6 = .ok (.iload_n 1, 1) := dk_27 (dk_at dksX6_knife_0 6 rfl rfl)
theorem dX6_knife_7 : decode cX6_knife 7 = .ok (.bipush 6, 2) := dk_16 6 (dk_at dksX6_knife_0 7 rfl rfl)
theorem dX6_knife_9 : decode cX6_knife 9 = .ok (.if_icmp .ge 16, 3) := dk_162 0 16 (dk_at dksX6_knife_0 9 rfl rfl)
theorem dX6_knife_12 : decode cX6_knife 12 = .ok (.aload_n 0, 1) := dk_42 (dk_at dksX6_knife_0 12 rfl rfl)
theorem dX6_knife_13 : decode cX6_knife 13 = .ok (.getfield 48, 3) := dk_180 0 48 (dk_at dksX6_knife_0 13 rfl rfl)
theorem dX6_knife_16 : decode cX6_knife 16 = .ok (.iload_n 1, 1) := dk_27 (dk_at dksX6_knife_0 16 rfl rfl)
theorem dX6_knife_17 : decode cX6_knife 17 = .ok (.iconst 0, 1) := dk_3 (dk_at dksX6_knife_0 17 rfl rfl)
theorem dX6_knife_18 : decode cX6_knife 18 = .ok (.bastore, 1) := dk_84 (dk_at dksX6_knife_0 18 rfl rfl)
theorem dX6_knife_19 : decode cX6_knife 19 = .ok (.iinc 1 1, 3) := dk_132 1 1 (dk_at dksX6_knife_0 19 rfl rfl)
theorem dX6_knife_22 : decode cX6_knife 22 = .ok (.goto (-16), 3) := dk_167 255 240 (dk_at dksX6_knife_1 0 rfl rfl)
theorem dX6_knife_25 : decode cX6_knife 25 = .ok (.iconst 0, 1) := dk_3 (dk_at dksX6_knife_1 3 rfl rfl)
theorem dX6_knife_26 : decode cX6_knife 26 = .ok (.istore_n 1, 1) := dk_60 (dk_at dksX6_knife_1 4 rfl rfl)
theorem dX6_knife_27 : decode cX6_knife 27 = .ok (.aload_n 0, 1) := dk_42 (dk_at dksX6_knife_1 5 rfl rfl)
theorem dX6_knife_28 : decode cX6_knife 28 = .ok (.getfield 13, 3) := dk_180 0 13 (dk_at dksX6_knife_1 6 rfl rfl)
theorem dX6_knife_31 : decode cX6_knife 31 = .ok (.iconst 1, 1) := dk_4 (dk_at dksX6_knife_1 9 rfl rfl)
theorem dX6_knife_32 : decode cX6_knife 32 = .ok (.iaload, 1) := dk_46 (dk_at dksX6_knife_1 10 rfl rfl)
theorem dX6_knife_33 : decode cX6_knife 33 = .ok (.istore_n 2, 1) := dk_61 (dk_at dksX6_knife_1 11 rfl rfl)
theorem dX6_knife_34 : decode cX6_knife 34 = .ok (.iload_n 2, 1) := dk_28 (dk_at dksX6_knife_1 12 rfl rfl)
theorem dX6_knife_35 : decode cX6_knife 35 = .ok (.ifCond .le 132, 3) := dk_158 0 132 (dk_at dksX6_knife_1 13 rfl rfl)
theorem dX6_knife_38 : decode cX6_knife 38 = .ok (.iload_n 1, 1) := dk_27 (dk_at dksX6_knife_1 16 rfl rfl)
theorem dX6_knife_39 : decode cX6_knife 39 = .ok (.aload_n 0, 1) := dk_42 (dk_at dksX6_knife_1 17 rfl rfl)
theorem dX6_knife_40 : decode cX6_knife 40 = .ok (.getfield 13, 3) := dk_180 0 13 (dk_at dksX6_knife_1 18 rfl rfl)
theorem dX6_knife_43 : decode cX6_knife 43 = .ok (.iconst 0, 1) := dk_3 (dk_at dksX6_knife_1 21 rfl rfl)
theorem dX6_knife_44 : decode cX6_knife 44 = .ok (.iaload, 1) := dk_46 (dk_at dksX6_knife_1 22 rfl rfl)
theorem dX6_knife_45 : decode cX6_knife 45 = .ok (.if_icmp .ge 122, 3) := dk_162 0 122 (dk_at dksX6_knife_2 0 rfl rfl)
theorem dX6_knife_48 : decode cX6_knife 48 = .ok (.iconst (-1), 1) := dk_2 (dk_at dksX6_knife_2 3 rfl rfl)
theorem dX6_knife_49 : decode cX6_knife 49 = .ok (.istore_n 3, 1) := dk_62 (dk_at dksX6_knife_2 4 rfl rfl)
theorem dX6_knife_50 : decode cX6_knife 50 = .ok (.aload_n 0, 1) := dk_42 (dk_at dksX6_knife_2 5 rfl rfl)
theorem dX6_knife_51 : decode cX6_knife 51 = .ok (.getfield 13, 3) := dk_180 0 13 (dk_at dksX6_knife_2 6 rfl rfl)
theorem dX6_knife_54 : decode cX6_knife 54 = .ok (.iconst 0, 1) := dk_3 (dk_at dksX6_knife_2 9 rfl rfl)
theorem dX6_knife_55 : decode cX6_knife 55 = .ok (.iaload, 1) := dk_46 (dk_at dksX6_knife_2 10 rfl rfl)
theorem dX6_knife_56 : decode cX6_knife 56 = .ok (.iconst 1, 1) := dk_4 (dk_at dksX6_knife_2 11 rfl rfl)
theorem dX6_knife_57 : decode cX6_knife 57 = .ok (.isub, 1) := dk_100 (dk_at dksX6_knife_2 12 rfl rfl)
theorem dX6_knife_58 : decode cX6_knife 58 = .ok (.istore 4, 2) := dk_54 4 (dk_at dksX6_knife_2 13 rfl rfl)
theorem dX6_knife_60 : decode cX6_knife 60 = .ok (.iconst 0, 1) := dk_3 (dk_at dksX6_knife_2 15 rfl rfl)
theorem dX6_knife_61 : decode cX6_knife 61 = .ok (.istore 5, 2) := dk_54 5 (dk_at dksX6_knife_2 16 rfl rfl)
theorem dX6_knife_63 : decode cX6_knife 63 = .ok (.iload 5, 2) := dk_21 5 (dk_at dksX6_knife_2 18 rfl rfl)
theorem dX6_knife_65 : decode cX6_knife 65 = .ok (.aload_n 0, 1) := dk_42 (dk_at dksX6_knife_2 20 rfl rfl)
theorem dX6_knife_66 : decode cX6_knife 66 = .ok (.getfield 13, 3) := dk_180 0 13 (dk_at dksX6_knife_2 21 rfl rfl)
theorem dX6_knife_69 : decode cX6_knife 69 = .ok (.iconst 1, 1) := dk_4 (dk_at dksX6_knife_3 0 rfl rfl)
theorem dX6_knife_70 : decode cX6_knife 70 = .ok (.iaload, 1) := dk_46 (dk_at dksX6_knife_3 1 rfl rfl)
theorem dX6_knife_71 : decode cX6_knife 71 = .ok (.if_icmp .ge 70, 3) := dk_162 0 70 (dk_at dksX6_knife_3 2 rfl rfl)
theorem dX6_knife_74 : decode cX6_knife 74 = .ok (.aload_n 0, 1) := dk_42 (dk_at dksX6_knife_3 5 rfl rfl)
theorem dX6_knife_75 : decode cX6_knife 75 = .ok (.getfield 48, 3) := dk_180 0 48 (dk_at dksX6_knife_3 6 rfl rfl)
theorem dX6_knife_78 : decode cX6_knife 78 = .ok (.iload 5, 2) := dk_21 5 (dk_at dksX6_knife_3 9 rfl rfl)
theorem dX6_knife_80 : decode cX6_knife 80 = .ok (.baload, 1) := dk_51 (dk_at dksX6_knife_3 11 rfl rfl)
theorem dX6_knife_81 : decode cX6_knife 81 = .ok (.ifCond .eq 6, 3) := dk_153 0 6 (dk_at dksX6_knife_3 12 rfl rfl)
theorem dX6_knife_84 : decode cX6_knife 84 = .ok (.goto 51, 3) := dk_167 0 51 (dk_at dksX6_knife_3 15 rfl rfl)
theorem dX6_knife_87 : decode cX6_knife 87 = .ok (.iload_n 2, 1) := dk_28 (dk_at dksX6_knife_3 18 rfl rfl)
theorem dX6_knife_88 : decode cX6_knife 88 = .ok (.iconst 1, 1) := dk_4 (dk_at dksX6_knife_3 19 rfl rfl)
theorem dX6_knife_89 : decode cX6_knife 89 = .ok (.if_icmp .ne 14, 3) := dk_160 0 14 (dk_at dksX6_knife_3 20 rfl rfl)
theorem dX6_knife_92 : decode cX6_knife 92 = .ok (.aload_n 0, 1) := dk_42 (dk_at dksX6_knife_3 23 rfl rfl)
theorem dX6_knife_93 : decode cX6_knife 93 = .ok (.getfield 13, 3) := dk_180 0 13 (dk_at dksX6_knife_4 0 rfl rfl)
theorem dX6_knife_96 : decode cX6_knife 96 = .ok (.iconst 0, 1) := dk_3 (dk_at dksX6_knife_4 3 rfl rfl)
theorem dX6_knife_97 : decode cX6_knife 97 = .ok (.iaload, 1) := dk_46 (dk_at dksX6_knife_4 4 rfl rfl)
theorem dX6_knife_98 : decode cX6_knife 98 = .ok (.iconst 1, 1) := dk_4 (dk_at dksX6_knife_4 5 rfl rfl)
theorem dX6_knife_99 : decode cX6_knife 99 = .ok (.isub, 1) := dk_100 (dk_at dksX6_knife_4 6 rfl rfl)
theorem dX6_knife_100 : decode cX6_knife 100 = .ok (.goto 11, 3) := dk_167 0 11 (dk_at dksX6_knife_4 7 rfl rfl)
theorem dX6_knife_103 : decode cX6_knife 103 = .ok (.aload_n 0, 1) := dk_42 (dk_at dksX6_knife_4 10 rfl rfl)
theorem dX6_knife_104 : decode cX6_knife 104 = .ok (.iload 5, 2) := dk_21 5 (dk_at dksX6_knife_4 11 rfl rfl)
theorem dX6_knife_106 : decode cX6_knife 106 = .ok (.iload_n 1, 1) := dk_27 (dk_at dksX6_knife_4 13 rfl rfl)
theorem dX6_knife_107 : decode cX6_knife 107 = .ok (.iload_n 2, 1) := dk_28 (dk_at dksX6_knife_4 14 rfl rfl)
theorem dX6_knife_108 : decode cX6_knife 108 = .ok (.invokevirtual 147, 3) := dk_182 0 147 (dk_at dksX6_knife_4 15 rfl rfl)
theorem dX6_knife_111 : decode cX6_knife 111 = .ok (.istore 6, 2) := dk_54 6 (dk_at dksX6_knife_4 18 rfl rfl)
theorem dX6_knife_113 : decode cX6_knife 113 = .ok (.iload_n 3, 1) := dk_29 (dk_at dksX6_knife_4 20 rfl rfl)
theorem dX6_knife_114 : decode cX6_knife 114 = .ok (.iconst (-1), 1) := dk_2 (dk_at dksX6_knife_4 21 rfl rfl)
theorem dX6_knife_115 : decode cX6_knife 115 = .ok (.if_icmp .eq 13, 3) := dk_159 0 13 (dk_at dksX6_knife_5 0 rfl rfl)
theorem dX6_knife_118 : decode cX6_knife 118 = .ok (.iload 6, 2) := dk_21 6 (dk_at dksX6_knife_5 3 rfl rfl)
theorem dX6_knife_120 : decode cX6_knife 120 = .ok (.iload 4, 2) := dk_21 4 (dk_at dksX6_knife_5 5 rfl rfl)
theorem dX6_knife_122 : decode cX6_knife 122 = .ok (.if_icmp .lt 6, 3) := dk_161 0 6 (dk_at dksX6_knife_5 7 rfl rfl)
theorem dX6_knife_125 : decode cX6_knife 125 = .ok (.goto 10, 3) := dk_167 0 10 (dk_at dksX6_knife_5 10 rfl rfl)
theorem dX6_knife_128 : decode cX6_knife 128 = .ok (.iload 5, 2) := dk_21 5 (dk_at dksX6_knife_5 13 rfl rfl)
theorem dX6_knife_130 : decode cX6_knife 130 = .ok (.istore_n 3, 1) := dk_62 (dk_at dksX6_knife_5 15 rfl rfl)
theorem dX6_knife_131 : decode cX6_knife 131 = .ok (.iload 6, 2) := dk_21 6 (dk_at dksX6_knife_5 16 rfl rfl)
theorem dX6_knife_133 : decode cX6_knife 133 = .ok (.istore 4, 2) := dk_54 4 (dk_at dksX6_knife_5 18 rfl rfl)
theorem dX6_knife_135 : decode cX6_knife 135 = .ok (.iinc 5 1, 3) := dk_132 5 1 (dk_at dksX6_knife_5 20 rfl rfl)
theorem dX6_knife_138 : decode cX6_knife 138 = .ok (.goto (-75), 3) := dk_167 255 181 (dk_at dksX6_knife_6 0 rfl rfl)
theorem dX6_knife_141 : decode cX6_knife 141 = .ok (.aload_n 0, 1) := dk_42 (dk_at dksX6_knife_6 3 rfl rfl)
theorem dX6_knife_142 : decode cX6_knife 142 = .ok (.iload_n 3, 1) := dk_29 (dk_at dksX6_knife_6 4 rfl rfl)
theorem dX6_knife_143 : decode cX6_knife 143 = .ok (.iload_n 1, 1) := dk_27 (dk_at dksX6_knife_6 5 rfl rfl)
theorem dX6_knife_144 : decode cX6_knife 144 = .ok (.iload 4, 2) := dk_21 4 (dk_at dksX6_knife_6 6 rfl rfl)
theorem dX6_knife_146 : decode cX6_knife 146 = .ok (.invokevirtual 140, 3) := dk_182 0 140 (dk_at dksX6_knife_6 8 rfl rfl)
theorem dX6_knife_149 : decode cX6_knife 149 = .ok (.aload_n 0, 1) := dk_42 (dk_at dksX6_knife_6 11 rfl rfl)
theorem dX6_knife_150 : decode cX6_knife 150 = .ok (.getfield 48, 3) := dk_180 0 48 (dk_at dksX6_knife_6 12 rfl rfl)
theorem dX6_knife_153 : decode cX6_knife 153 = .ok (.iload_n 3, 1) := dk_29 (dk_at dksX6_knife_6 15 rfl rfl)
theorem dX6_knife_154 : decode cX6_knife 154 = .ok (.iconst 1, 1) := dk_4 (dk_at dksX6_knife_6 16 rfl rfl)
theorem dX6_knife_155 : decode cX6_knife 155 = .ok (.bastore, 1) := dk_84 (dk_at dksX6_knife_6 17 rfl rfl)
theorem dX6_knife_156 : decode cX6_knife 156 = .ok (.iload 4, 2) := dk_21 4 (dk_at dksX6_knife_6 18 rfl rfl)
theorem dX6_knife_158 : decode cX6_knife 158 = .ok (.iconst 1, 1) := dk_4 (dk_at dksX6_knife_6 20 rfl rfl)
theorem dX6_knife_159 : decode cX6_knife 159 = .ok (.iadd, 1) := dk_96 (dk_at dksX6_knife_6 21 rfl rfl)
theorem dX6_knife_160 : decode cX6_knife 160 = .ok (.istore_n 1, 1) := dk_60 (dk_at dksX6_knife_6 22 rfl rfl)
theorem dX6_knife_161 : decode cX6_knife 161 = .ok (.iinc 2 (-1), 3) := dk_132 2 255 (dk_at dksX6_knife_7 0 rfl rfl)
theorem dX6_knife_164 : decode cX6_knife 164 = .ok (.goto (-130), 3) := dk_167 255 126 (dk_at dksX6_knife_7 3 rfl rfl)
theorem dX6_knife_167 : decode cX6_knife 167 = .ok (.aload_n 0, 1) := dk_42 (dk_at dksX6_knife_7 6 rfl rfl)
theorem dX6_knife_168 : decode cX6_knife 168 = .ok (.invokevirtual 150, 3) := dk_182 0 150 (dk_at dksX6_knife_7 7 rfl rfl)
theorem dX6_knife_171 : decode cX6_knife 171 = .ok (.ireturn, 1) := dk_172 (dk_at dksX6_knife_7 10 rfl rfl)
abbrev cX6_markOf : ByteArray := prog_9_method_19_code
def yX6_markOf : MethodName := ⟨RX6, "markOf", "(III)I"⟩
def dkwX6_markOf_2 : List UInt8 := [182, 0, 105, 96, 54, 6, 167, 255, 232, 21, 5, 172]
abbrev dktX6_markOf_2 : List UInt8 := dkwX6_markOf_2 ++ []
def dkwX6_markOf_1 : List UInt8 := [182, 0, 105, 54, 6, 21, 6, 29, 104, 21, 4, 162, 0, 21, 132, 5, 1, 21, 6, 42, 27, 21, 5]
abbrev dktX6_markOf_1 : List UInt8 := dkwX6_markOf_1 ++ dktX6_markOf_2
def dkwX6_markOf_0 : List UInt8 := [42, 27, 28, 42, 180, 0, 13, 3, 46, 4, 100, 182, 0, 109, 54, 4, 28, 54, 5, 42, 27, 28]
abbrev dktX6_markOf_0 : List UInt8 := dkwX6_markOf_0 ++ dktX6_markOf_1
theorem dksX6_markOf_0 : cX6_markOf.data.toList.drop 0 = dktX6_markOf_0 := by decide +kernel
theorem dksX6_markOf_1 : cX6_markOf.data.toList.drop 22 = dktX6_markOf_1 := dk_seg dksX6_markOf_0 22 rfl rfl
theorem dksX6_markOf_2 : cX6_markOf.data.toList.drop 45 = dktX6_markOf_2 := dk_seg dksX6_markOf_1 23 rfl rfl
theorem dX6_markOf_0 : decode cX6_markOf 0 = .ok (.aload_n 0, 1) := dk_42 (dk_at dksX6_markOf_0 0 rfl rfl)
theorem dX6_markOf_1 : decode cX6_markOf 1 = .ok (.iload_n 1, 1) := dk_27 (dk_at dksX6_markOf_0 1 rfl rfl)
theorem dX6_markOf_2 : decode cX6_markOf 2 = .ok (.iload_n 2, 1) := dk_28 (dk_at dksX6_markOf_0 2 rfl rfl)
theorem dX6_markOf_3 : decode cX6_markOf 3 = .ok (.aload_n 0, 1) := dk_42 (dk_at dksX6_markOf_0 3 rfl rfl)
theorem dX6_markOf_4 : decode cX6_markOf 4 = .ok (.getfield 13, 3) := dk_180 0 13 (dk_at dksX6_markOf_0 4 rfl rfl)
theorem dX6_markOf_7 : decode cX6_markOf 7 = .ok (.iconst 0, 1) := dk_3 (dk_at dksX6_markOf_0 7 rfl rfl)
theorem dX6_markOf_8 : decode cX6_markOf 8 = .ok (.iaload, 1) := dk_46 (dk_at dksX6_markOf_0 8 rfl rfl)
theorem dX6_markOf_9 : decode cX6_markOf 9 = .ok (.iconst 1, 1) := dk_4 (dk_at dksX6_markOf_0 9 rfl rfl)
theorem dX6_markOf_10 : decode cX6_markOf 10 = .ok (.isub, 1) := dk_100 (dk_at dksX6_markOf_0 10 rfl rfl)
theorem dX6_markOf_11 : decode cX6_markOf 11 = .ok (.invokevirtual 109, 3) := dk_182 0 109 (dk_at dksX6_markOf_0 11 rfl rfl)
theorem dX6_markOf_14 : decode cX6_markOf 14 = .ok (.istore 4, 2) := dk_54 4 (dk_at dksX6_markOf_0 14 rfl rfl)
theorem dX6_markOf_16 : decode cX6_markOf 16 = .ok (.iload_n 2, 1) := dk_28 (dk_at dksX6_markOf_0 16 rfl rfl)
theorem dX6_markOf_17 : decode cX6_markOf 17 = .ok (.istore 5, 2) := dk_54 5 (dk_at dksX6_markOf_0 17 rfl rfl)
theorem dX6_markOf_19 : decode cX6_markOf 19 = .ok (.aload_n 0, 1) := dk_42 (dk_at dksX6_markOf_0 19 rfl rfl)
theorem dX6_markOf_20 : decode cX6_markOf 20 = .ok (.iload_n 1, 1) := dk_27 (dk_at dksX6_markOf_0 20 rfl rfl)
theorem dX6_markOf_21 : decode cX6_markOf 21 = .ok (.iload_n 2, 1) := dk_28 (dk_at dksX6_markOf_0 21 rfl rfl)
theorem dX6_markOf_22 : decode cX6_markOf 22 = .ok (.invokevirtual 105, 3) := dk_182 0 105 (dk_at dksX6_markOf_1 0 rfl rfl)
theorem dX6_markOf_25 : decode cX6_markOf 25 = .ok (.istore 6, 2) := dk_54 6 (dk_at dksX6_markOf_1 3 rfl rfl)
theorem dX6_markOf_27 : decode cX6_markOf 27 = .ok (.iload 6, 2) := dk_21 6 (dk_at dksX6_markOf_1 5 rfl rfl)
theorem dX6_markOf_29 : decode cX6_markOf 29 = .ok (.iload_n 3, 1) := dk_29 (dk_at dksX6_markOf_1 7 rfl rfl)
theorem dX6_markOf_30 : decode cX6_markOf 30 = .ok (.imul, 1) := dk_104 (dk_at dksX6_markOf_1 8 rfl rfl)
theorem dX6_markOf_31 : decode cX6_markOf 31 = .ok (.iload 4, 2) := dk_21 4 (dk_at dksX6_markOf_1 9 rfl rfl)
theorem dX6_markOf_33 : decode cX6_markOf 33 = .ok (.if_icmp .ge 21, 3) := dk_162 0 21 (dk_at dksX6_markOf_1 11 rfl rfl)
theorem dX6_markOf_36 : decode cX6_markOf 36 = .ok (.iinc 5 1, 3) := dk_132 5 1 (dk_at dksX6_markOf_1 14 rfl rfl)
theorem dX6_markOf_39 : decode cX6_markOf 39 = .ok (.iload 6, 2) := dk_21 6 (dk_at dksX6_markOf_1 17 rfl rfl)
theorem dX6_markOf_41 : decode cX6_markOf 41 = .ok (.aload_n 0, 1) := dk_42 (dk_at dksX6_markOf_1 19 rfl rfl)
theorem dX6_markOf_42 : decode cX6_markOf 42 = .ok (.iload_n 1, 1) := dk_27 (dk_at dksX6_markOf_1 20 rfl rfl)
theorem dX6_markOf_43 : decode cX6_markOf 43 = .ok (.iload 5, 2) := dk_21 5 (dk_at dksX6_markOf_1 21 rfl rfl)
theorem dX6_markOf_45 : decode cX6_markOf 45 = .ok (.invokevirtual 105, 3) := dk_182 0 105 (dk_at dksX6_markOf_2 0 rfl rfl)
theorem dX6_markOf_48 : decode cX6_markOf 48 = .ok (.iadd, 1) := dk_96 (dk_at dksX6_markOf_2 3 rfl rfl)
theorem dX6_markOf_49 : decode cX6_markOf 49 = .ok (.istore 6, 2) := dk_54 6 (dk_at dksX6_markOf_2 4 rfl rfl)
theorem dX6_markOf_51 : decode cX6_markOf 51 = .ok (.goto (-24), 3) := dk_167 255 232 (dk_at dksX6_markOf_2 6 rfl rfl)
theorem dX6_markOf_54 : decode cX6_markOf 54 = .ok (.iload 5, 2) := dk_21 5 (dk_at dksX6_markOf_2 9 rfl rfl)
theorem dX6_markOf_56 : decode cX6_markOf 56 = .ok (.ireturn, 1) := dk_172 (dk_at dksX6_markOf_2 11 rfl rfl)
abbrev cX6_contentCount : ByteArray := prog_9_method_24_code
def yX6_contentCount : MethodName := ⟨RX6, "contentCount", "()I"⟩
def dkwX6_contentCount_1 : List UInt8 := [167, 0, 4, 3, 96, 60, 132, 2, 1, 167, 255, 227, 27, 172]
abbrev dktX6_contentCount_1 : List UInt8 := dkwX6_contentCount_1 ++ []
def dkwX6_contentCount_0 : List UInt8 := [3, 60, 3, 61, 28, 42, 180, 0, 13, 4, 46, 162, 0, 25, 27, 42, 28, 182, 0, 126, 153, 0, 7, 4]
abbrev dktX6_contentCount_0 : List UInt8 := dkwX6_contentCount_0 ++ dktX6_contentCount_1
theorem dksX6_contentCount_0 : cX6_contentCount.data.toList.drop 0 = dktX6_contentCount_0 := by decide +kernel
theorem dksX6_contentCount_1 : cX6_contentCount.data.toList.drop 24 = dktX6_contentCount_1 := dk_seg dksX6_contentCount_0 24 rfl rfl
theorem dX6_contentCount_0 : decode cX6_contentCount 0 = .ok (.iconst 0, 1) := dk_3 (dk_at dksX6_contentCount_0 0 rfl rfl)
theorem dX6_contentCount_1 : decode cX6_contentCount 1 = .ok (.istore_n 1, 1) := dk_60 (dk_at dksX6_contentCount_0 1 rfl rfl)
theorem dX6_contentCount_2 : decode cX6_contentCount 2 = .ok (.iconst 0, 1) := dk_3 (dk_at dksX6_contentCount_0 2 rfl rfl)
theorem dX6_contentCount_3 : decode cX6_contentCount 3 = .ok (.istore_n 2, 1) := dk_61 (dk_at dksX6_contentCount_0 3 rfl rfl)
theorem dX6_contentCount_4 : decode cX6_contentCount 4 = .ok (.iload_n 2, 1) := dk_28 (dk_at dksX6_contentCount_0 4 rfl rfl)
theorem dX6_contentCount_5 : decode cX6_contentCount 5 = .ok (.aload_n 0, 1) := dk_42 (dk_at dksX6_contentCount_0 5 rfl rfl)
theorem dX6_contentCount_6 : decode cX6_contentCount 6 = .ok (.getfield 13, 3) := dk_180 0 13 (dk_at dksX6_contentCount_0 6 rfl rfl)
theorem dX6_contentCount_9 : decode cX6_contentCount 9 = .ok (.iconst 1, 1) := dk_4 (dk_at dksX6_contentCount_0 9 rfl rfl)
theorem dX6_contentCount_10 : decode cX6_contentCount 10 = .ok (.iaload, 1) := dk_46 (dk_at dksX6_contentCount_0 10 rfl rfl)
theorem dX6_contentCount_11 : decode cX6_contentCount 11 = .ok (.if_icmp .ge 25, 3) := dk_162 0 25 (dk_at dksX6_contentCount_0 11 rfl rfl)
theorem dX6_contentCount_14 : decode cX6_contentCount 14 = .ok (.iload_n 1, 1) := dk_27 (dk_at dksX6_contentCount_0 14 rfl rfl)
theorem dX6_contentCount_15 : decode cX6_contentCount 15 = .ok (.aload_n 0, 1) := dk_42 (dk_at dksX6_contentCount_0 15 rfl rfl)
theorem dX6_contentCount_16 : decode cX6_contentCount 16 = .ok (.iload_n 2, 1) := dk_28 (dk_at dksX6_contentCount_0 16 rfl rfl)
theorem dX6_contentCount_17 : decode cX6_contentCount 17 = .ok (.invokevirtual 126, 3) := dk_182 0 126 (dk_at dksX6_contentCount_0 17 rfl rfl)
theorem dX6_contentCount_20 : decode cX6_contentCount 20 = .ok (.ifCond .eq 7, 3) := dk_153 0 7 (dk_at dksX6_contentCount_0 20 rfl rfl)
theorem dX6_contentCount_23 : decode cX6_contentCount 23 = .ok (.iconst 1, 1) := dk_4 (dk_at dksX6_contentCount_0 23 rfl rfl)
theorem dX6_contentCount_24 : decode cX6_contentCount 24 = .ok (.goto 4, 3) := dk_167 0 4 (dk_at dksX6_contentCount_1 0 rfl rfl)
theorem dX6_contentCount_27 : decode cX6_contentCount 27 = .ok (.iconst 0, 1) := dk_3 (dk_at dksX6_contentCount_1 3 rfl rfl)
theorem dX6_contentCount_28 : decode cX6_contentCount 28 = .ok (.iadd, 1) := dk_96 (dk_at dksX6_contentCount_1 4 rfl rfl)
theorem dX6_contentCount_29 : decode cX6_contentCount 29 = .ok (.istore_n 1, 1) := dk_60 (dk_at dksX6_contentCount_1 5 rfl rfl)
theorem dX6_contentCount_30 : decode cX6_contentCount 30 = .ok (.iinc 2 1, 3) := dk_132 2 1 (dk_at dksX6_contentCount_1 6 rfl rfl)
theorem dX6_contentCount_33 : decode cX6_contentCount 33 = .ok (.goto (-29), 3) := dk_167 255 227 (dk_at dksX6_contentCount_1 9 rfl rfl)
theorem dX6_contentCount_36 : decode cX6_contentCount 36 = .ok (.iload_n 1, 1) := dk_27 (dk_at dksX6_contentCount_1 12 rfl rfl)
theorem dX6_contentCount_37 : decode cX6_contentCount 37 = .ok (.ireturn, 1) := dk_172 (dk_at dksX6_contentCount_1 13 rfl rfl)
abbrev cX6_isContent : ByteArray := prog_9_method_23_code
def yX6_isContent : MethodName := ⟨RX6, "isContent", "(I)Z"⟩
def dkwX6_isContent_1 : List UInt8 := [3, 172]
abbrev dktX6_isContent_1 : List UInt8 := dkwX6_isContent_1 ++ []
def dkwX6_isContent_0 : List UInt8 := [42, 27, 182, 0, 120, 42, 180, 0, 13, 4, 46, 104, 42, 27, 182, 0, 123, 161, 0, 7, 4, 167, 0, 4]
abbrev dktX6_isContent_0 : List UInt8 := dkwX6_isContent_0 ++ dktX6_isContent_1
theorem dksX6_isContent_0 : cX6_isContent.data.toList.drop 0 = dktX6_isContent_0 := by decide +kernel
theorem dksX6_isContent_1 : cX6_isContent.data.toList.drop 24 = dktX6_isContent_1 := dk_seg dksX6_isContent_0 24 rfl rfl
theorem dX6_isContent_0 : decode cX6_isContent 0 = .ok (.aload_n 0, 1) := dk_42 (dk_at dksX6_isContent_0 0 rfl rfl)
theorem dX6_isContent_1 : decode cX6_isContent 1 = .ok (.iload_n 1, 1) := dk_27 (dk_at dksX6_isContent_0 1 rfl rfl)
theorem dX6_isContent_2 : decode cX6_isContent 2 = .ok (.invokevirtual 120, 3) := dk_182 0 120 (dk_at dksX6_isContent_0 2 rfl rfl)
theorem dX6_isContent_5 : decode cX6_isContent 5 = .ok (.aload_n 0, 1) := dk_42 (dk_at dksX6_isContent_0 5 rfl rfl)
theorem dX6_isContent_6 : decode cX6_isContent 6 = .ok (.getfield 13, 3) := dk_180 0 13 (dk_at dksX6_isContent_0 6 rfl rfl)
theorem dX6_isContent_9 : decode cX6_isContent 9 = .ok (.iconst 1, 1) := dk_4 (dk_at dksX6_isContent_0 9 rfl rfl)
theorem dX6_isContent_10 : decode cX6_isContent 10 = .ok (.iaload, 1) := dk_46 (dk_at dksX6_isContent_0 10 rfl rfl)
theorem dX6_isContent_11 : decode cX6_isContent 11 = .ok (.imul, 1) := dk_104 (dk_at dksX6_isContent_0 11 rfl rfl)
theorem dX6_isContent_12 : decode cX6_isContent 12 = .ok (.aload_n 0, 1) := dk_42 (dk_at dksX6_isContent_0 12 rfl rfl)
theorem dX6_isContent_13 : decode cX6_isContent 13 = .ok (.iload_n 1, 1) := dk_27 (dk_at dksX6_isContent_0 13 rfl rfl)
theorem dX6_isContent_14 : decode cX6_isContent 14 = .ok (.invokevirtual 123, 3) := dk_182 0 123 (dk_at dksX6_isContent_0 14 rfl rfl)
theorem dX6_isContent_17 : decode cX6_isContent 17 = .ok (.if_icmp .lt 7, 3) := dk_161 0 7 (dk_at dksX6_isContent_0 17 rfl rfl)
theorem dX6_isContent_20 : decode cX6_isContent 20 = .ok (.iconst 1, 1) := dk_4 (dk_at dksX6_isContent_0 20 rfl rfl)
theorem dX6_isContent_21 : decode cX6_isContent 21 = .ok (.goto 4, 3) := dk_167 0 4 (dk_at dksX6_isContent_0 21 rfl rfl)
theorem dX6_isContent_24 : decode cX6_isContent 24 = .ok (.iconst 0, 1) := dk_3 (dk_at dksX6_isContent_1 0 rfl rfl)
theorem dX6_isContent_25 : decode cX6_isContent 25 = .ok (.ireturn, 1) := dk_172 (dk_at dksX6_isContent_1 1 rfl rfl)
abbrev cX6_robin : ByteArray := prog_9_method_33_code
def yX6_robin : MethodName := ⟨RX6, "robin", "(I)I"⟩
def dkwX6_robin_2 : List UInt8 := [167, 255, 219, 28, 172]
abbrev dktX6_robin_2 : List UInt8 := dkwX6_robin_2 ++ []
def dkwX6_robin_1 : List UInt8 := [96, 29, 79, 132, 2, 1, 29, 4, 96, 42, 180, 0, 13, 4, 46, 112, 62, 42, 29, 182, 0, 153, 54, 4]
abbrev dktX6_robin_1 : List UInt8 := dkwX6_robin_1 ++ dktX6_robin_2
def dkwX6_robin_0 : List UInt8 := [3, 61, 27, 62, 42, 29, 182, 0, 153, 54, 4, 21, 4, 2, 159, 0, 37, 42, 180, 0, 13, 5, 21, 4]
abbrev dktX6_robin_0 : List UInt8 := dkwX6_robin_0 ++ dktX6_robin_1
theorem dksX6_robin_0 : cX6_robin.data.toList.drop 0 = dktX6_robin_0 := by decide +kernel
theorem dksX6_robin_1 : cX6_robin.data.toList.drop 24 = dktX6_robin_1 := dk_seg dksX6_robin_0 24 rfl rfl
theorem dksX6_robin_2 : cX6_robin.data.toList.drop 48 = dktX6_robin_2 := dk_seg dksX6_robin_1 24 rfl rfl
theorem dX6_robin_0 : decode cX6_robin 0 = .ok (.iconst 0, 1) := dk_3 (dk_at dksX6_robin_0 0 rfl rfl)
theorem dX6_robin_1 : decode cX6_robin 1 = .ok (.istore_n 2, 1) := dk_61 (dk_at dksX6_robin_0 1 rfl rfl)
theorem dX6_robin_2 : decode cX6_robin 2 = .ok (.iload_n 1, 1) := dk_27 (dk_at dksX6_robin_0 2 rfl rfl)
theorem dX6_robin_3 : decode cX6_robin 3 = .ok (.istore_n 3, 1) := dk_62 (dk_at dksX6_robin_0 3 rfl rfl)
theorem dX6_robin_4 : decode cX6_robin 4 = .ok (.aload_n 0, 1) := dk_42 (dk_at dksX6_robin_0 4 rfl rfl)
theorem dX6_robin_5 : decode cX6_robin 5 = .ok (.iload_n 3, 1) := dk_29 (dk_at dksX6_robin_0 5 rfl rfl)
theorem dX6_robin_6 : decode cX6_robin 6 = .ok (.invokevirtual 153, 3) := dk_182 0 153 (dk_at dksX6_robin_0 6 rfl rfl)
theorem dX6_robin_9 : decode cX6_robin 9 = .ok (.istore 4, 2) := dk_54 4 (dk_at dksX6_robin_0 9 rfl rfl)
theorem dX6_robin_11 : decode cX6_robin 11 = .ok (.iload 4, 2) := dk_21 4 (dk_at dksX6_robin_0 11 rfl rfl)
theorem dX6_robin_13 : decode cX6_robin 13 = .ok (.iconst (-1), 1) := dk_2 (dk_at dksX6_robin_0 13 rfl rfl)
theorem dX6_robin_14 : decode cX6_robin 14 = .ok (.if_icmp .eq 37, 3) := dk_159 0 37 (dk_at dksX6_robin_0 14 rfl rfl)
theorem dX6_robin_17 : decode cX6_robin 17 = .ok (.aload_n 0, 1) := dk_42 (dk_at dksX6_robin_0 17 rfl rfl)
theorem dX6_robin_18 : decode cX6_robin 18 = .ok (.getfield 13, 3) := dk_180 0 13 (dk_at dksX6_robin_0 18 rfl rfl)
theorem dX6_robin_21 : decode cX6_robin 21 = .ok (.iconst 2, 1) := dk_5 (dk_at dksX6_robin_0 21 rfl rfl)
theorem dX6_robin_22 : decode cX6_robin 22 = .ok (.iload 4, 2) := dk_21 4 (dk_at dksX6_robin_0 22 rfl rfl)
theorem dX6_robin_24 : decode cX6_robin 24 = .ok (.iadd, 1) := dk_96 (dk_at dksX6_robin_1 0 rfl rfl)
theorem dX6_robin_25 : decode cX6_robin 25 = .ok (.iload_n 3, 1) := dk_29 (dk_at dksX6_robin_1 1 rfl rfl)
theorem dX6_robin_26 : decode cX6_robin 26 = .ok (.iastore, 1) := dk_79 (dk_at dksX6_robin_1 2 rfl rfl)
theorem dX6_robin_27 : decode cX6_robin 27 = .ok (.iinc 2 1, 3) := dk_132 2 1 (dk_at dksX6_robin_1 3 rfl rfl)
theorem dX6_robin_30 : decode cX6_robin 30 = .ok (.iload_n 3, 1) := dk_29 (dk_at dksX6_robin_1 6 rfl rfl)
theorem dX6_robin_31 : decode cX6_robin 31 = .ok (.iconst 1, 1) := dk_4 (dk_at dksX6_robin_1 7 rfl rfl)
theorem dX6_robin_32 : decode cX6_robin 32 = .ok (.iadd, 1) := dk_96 (dk_at dksX6_robin_1 8 rfl rfl)
theorem dX6_robin_33 : decode cX6_robin 33 = .ok (.aload_n 0, 1) := dk_42 (dk_at dksX6_robin_1 9 rfl rfl)
theorem dX6_robin_34 : decode cX6_robin 34 = .ok (.getfield 13, 3) := dk_180 0 13 (dk_at dksX6_robin_1 10 rfl rfl)
theorem dX6_robin_37 : decode cX6_robin 37 = .ok (.iconst 1, 1) := dk_4 (dk_at dksX6_robin_1 13 rfl rfl)
theorem dX6_robin_38 : decode cX6_robin 38 = .ok (.iaload, 1) := dk_46 (dk_at dksX6_robin_1 14 rfl rfl)
theorem dX6_robin_39 : decode cX6_robin 39 = .ok (.irem, 1) := dk_112 (dk_at dksX6_robin_1 15 rfl rfl)
theorem dX6_robin_40 : decode cX6_robin 40 = .ok (.istore_n 3, 1) := dk_62 (dk_at dksX6_robin_1 16 rfl rfl)
theorem dX6_robin_41 : decode cX6_robin 41 = .ok (.aload_n 0, 1) := dk_42 (dk_at dksX6_robin_1 17 rfl rfl)
theorem dX6_robin_42 : decode cX6_robin 42 = .ok (.iload_n 3, 1) := dk_29 (dk_at dksX6_robin_1 18 rfl rfl)
theorem dX6_robin_43 : decode cX6_robin 43 = .ok (.invokevirtual 153, 3) := dk_182 0 153 (dk_at dksX6_robin_1 19 rfl rfl)
theorem dX6_robin_46 : decode cX6_robin 46 = .ok (.istore 4, 2) := dk_54 4 (dk_at dksX6_robin_1 22 rfl rfl)
theorem dX6_robin_48 : decode cX6_robin 48 = .ok (.goto (-37), 3) := dk_167 255 219 (dk_at dksX6_robin_2 0 rfl rfl)
theorem dX6_robin_51 : decode cX6_robin 51 = .ok (.iload_n 2, 1) := dk_28 (dk_at dksX6_robin_2 3 rfl rfl)
theorem dX6_robin_52 : decode cX6_robin 52 = .ok (.ireturn, 1) := dk_172 (dk_at dksX6_robin_2 4 rfl rfl)
abbrev cX6_favourite : ByteArray := prog_9_method_20_code
def yX6_favourite : MethodName := ⟨RX6, "favourite", "(I)I"⟩
def dkwX6_favourite_2 : List UInt8 := [167, 255, 212, 28, 172]
abbrev dktX6_favourite_2 : List UInt8 := dkwX6_favourite_2 ++ []
def dkwX6_favourite_1 : List UInt8 := [2, 159, 0, 18, 42, 27, 29, 182, 0, 105, 42, 27, 28, 182, 0, 105, 164, 0, 5, 29, 61, 132, 3, 1]
abbrev dktX6_favourite_1 : List UInt8 := dkwX6_favourite_1 ++ dktX6_favourite_2
def dkwX6_favourite_0 : List UInt8 := [2, 61, 3, 62, 29, 42, 180, 0, 13, 3, 46, 162, 0, 40, 42, 29, 182, 0, 113, 2, 160, 0, 25, 28]
abbrev dktX6_favourite_0 : List UInt8 := dkwX6_favourite_0 ++ dktX6_favourite_1
theorem dksX6_favourite_0 : cX6_favourite.data.toList.drop 0 = dktX6_favourite_0 := by decide +kernel
theorem dksX6_favourite_1 : cX6_favourite.data.toList.drop 24 = dktX6_favourite_1 := dk_seg dksX6_favourite_0 24 rfl rfl
theorem dksX6_favourite_2 : cX6_favourite.data.toList.drop 48 = dktX6_favourite_2 := dk_seg dksX6_favourite_1 24 rfl rfl
theorem dX6_favourite_0 : decode cX6_favourite 0 = .ok (.iconst (-1), 1) := dk_2 (dk_at dksX6_favourite_0 0 rfl rfl)
theorem dX6_favourite_1 : decode cX6_favourite 1 = .ok (.istore_n 2, 1) := dk_61 (dk_at dksX6_favourite_0 1 rfl rfl)
theorem dX6_favourite_2 : decode cX6_favourite 2 = .ok (.iconst 0, 1) := dk_3 (dk_at dksX6_favourite_0 2 rfl rfl)
theorem dX6_favourite_3 : decode cX6_favourite 3 = .ok (.istore_n 3, 1) := dk_62 (dk_at dksX6_favourite_0 3 rfl rfl)
theorem dX6_favourite_4 : decode cX6_favourite 4 = .ok (.iload_n 3, 1) := dk_29 (dk_at dksX6_favourite_0 4 rfl rfl)
theorem dX6_favourite_5 : decode cX6_favourite 5 = .ok (.aload_n 0, 1) := dk_42 (dk_at dksX6_favourite_0 5 rfl rfl)
theorem dX6_favourite_6 : decode cX6_favourite 6 = .ok (.getfield 13, 3) := dk_180 0 13 (dk_at dksX6_favourite_0 6 rfl rfl)
theorem dX6_favourite_9 : decode cX6_favourite 9 = .ok (.iconst 0, 1) := dk_3 (dk_at dksX6_favourite_0 9 rfl rfl)
theorem dX6_favourite_10 : decode cX6_favourite 10 = .ok (.iaload, 1) := dk_46 (dk_at dksX6_favourite_0 10 rfl rfl)
theorem dX6_favourite_11 : decode cX6_favourite 11 = .ok (.if_icmp .ge 40, 3) := dk_162 0 40 (dk_at dksX6_favourite_0 11 rfl rfl)
theorem dX6_favourite_14 : decode cX6_favourite 14 = .ok (.aload_n 0, 1) := dk_42 (dk_at dksX6_favourite_0 14 rfl rfl)
theorem dX6_favourite_15 : decode cX6_favourite 15 = .ok (.iload_n 3, 1) := dk_29 (dk_at dksX6_favourite_0 15 rfl rfl)
theorem dX6_favourite_16 : decode cX6_favourite 16 = .ok (.invokevirtual 113, 3) := dk_182 0 113 (dk_at dksX6_favourite_0 16 rfl rfl)
theorem dX6_favourite_19 : decode cX6_favourite 19 = .ok (.iconst (-1), 1) := dk_2 (dk_at dksX6_favourite_0 19 rfl rfl)
theorem dX6_favourite_20 : decode cX6_favourite 20 = .ok (.if_icmp .ne 25, 3) := dk_160 0 25 (dk_at dksX6_favourite_0 20 rfl rfl)
theorem dX6_favourite_23 : decode cX6_favourite 23 = .ok (.iload_n 2, 1) := dk_28 (dk_at dksX6_favourite_0 23 rfl rfl)
theorem dX6_favourite_24 : decode cX6_favourite 24 = .ok (.iconst (-1), 1) := dk_2 (dk_at dksX6_favourite_1 0 rfl rfl)
theorem dX6_favourite_25 : decode cX6_favourite 25 = .ok (.if_icmp .eq 18, 3) := dk_159 0 18 (dk_at dksX6_favourite_1 1 rfl rfl)
theorem dX6_favourite_28 : decode cX6_favourite 28 = .ok (.aload_n 0, 1) := dk_42 (dk_at dksX6_favourite_1 4 rfl rfl)
theorem dX6_favourite_29 : decode cX6_favourite 29 = .ok (.iload_n 1, 1) := dk_27 (dk_at dksX6_favourite_1 5 rfl rfl)
theorem dX6_favourite_30 : decode cX6_favourite 30 = .ok (.iload_n 3, 1) := dk_29 (dk_at dksX6_favourite_1 6 rfl rfl)
theorem dX6_favourite_31 : decode cX6_favourite 31 = .ok (.invokevirtual 105, 3) := dk_182 0 105 (dk_at dksX6_favourite_1 7 rfl rfl)
theorem dX6_favourite_34 : decode cX6_favourite 34 = .ok (.aload_n 0, 1) := dk_42 (dk_at dksX6_favourite_1 10 rfl rfl)
theorem dX6_favourite_35 : decode cX6_favourite 35 = .ok (.iload_n 1, 1) := dk_27 (dk_at dksX6_favourite_1 11 rfl rfl)
theorem dX6_favourite_36 : decode cX6_favourite 36 = .ok (.iload_n 2, 1) := dk_28 (dk_at dksX6_favourite_1 12 rfl rfl)
theorem dX6_favourite_37 : decode cX6_favourite 37 = .ok (.invokevirtual 105, 3) := dk_182 0 105 (dk_at dksX6_favourite_1 13 rfl rfl)
theorem dX6_favourite_40 : decode cX6_favourite 40 = .ok (.if_icmp .le 5, 3) := dk_164 0 5 (dk_at dksX6_favourite_1 16 rfl rfl)
theorem dX6_favourite_43 : decode cX6_favourite 43 = .ok (.iload_n 3, 1) := dk_29 (dk_at dksX6_favourite_1 19 rfl rfl)
theorem dX6_favourite_44 : decode cX6_favourite 44 = .ok (.istore_n 2, 1) := dk_61 (dk_at dksX6_favourite_1 20 rfl rfl)
theorem dX6_favourite_45 : decode cX6_favourite 45 = .ok (.iinc 3 1, 3) := dk_132 3 1 (dk_at dksX6_favourite_1 21 rfl rfl)
theorem dX6_favourite_48 : decode cX6_favourite 48 = .ok (.goto (-44), 3) := dk_167 255 212 (dk_at dksX6_favourite_2 0 rfl rfl)
theorem dX6_favourite_51 : decode cX6_favourite 51 = .ok (.iload_n 2, 1) := dk_28 (dk_at dksX6_favourite_2 3 rfl rfl)
theorem dX6_favourite_52 : decode cX6_favourite 52 = .ok (.ireturn, 1) := dk_172 (dk_at dksX6_favourite_2 4 rfl rfl)
abbrev cX6_turnCycle : ByteArray := prog_9_method_35_code
def yX6_turnCycle : MethodName := ⟨RX6, "turnCycle", "(I)I"⟩
def dkwX6_turnCycle_3 : List UInt8 := [167, 255, 214, 132, 3, 1, 167, 255, 188, 28, 172]
abbrev dktX6_turnCycle_3 : List UInt8 := dkwX6_turnCycle_3 ++ []
def dkwX6_turnCycle_2 : List UInt8 := [180, 0, 13, 5, 29, 96, 42, 180, 0, 45, 21, 5, 28, 96, 4, 100, 28, 112, 46, 79, 132, 5, 1]
abbrev dktX6_turnCycle_2 : List UInt8 := dkwX6_turnCycle_2 ++ dktX6_turnCycle_3
def dkwX6_turnCycle_1 : List UInt8 := [54, 4, 3, 54, 5, 21, 5, 28, 162, 0, 42, 42, 180, 0, 45, 21, 5, 46, 21, 4, 160, 0, 24, 42]
abbrev dktX6_turnCycle_1 : List UInt8 := dkwX6_turnCycle_1 ++ dktX6_turnCycle_2
def dkwX6_turnCycle_0 : List UInt8 := [42, 27, 182, 0, 156, 61, 3, 62, 29, 42, 180, 0, 13, 3, 46, 162, 0, 64, 42, 29, 182, 0, 113]
abbrev dktX6_turnCycle_0 : List UInt8 := dkwX6_turnCycle_0 ++ dktX6_turnCycle_1
theorem dksX6_turnCycle_0 : cX6_turnCycle.data.toList.drop 0 = dktX6_turnCycle_0 := by decide +kernel
theorem dksX6_turnCycle_1 : cX6_turnCycle.data.toList.drop 23 = dktX6_turnCycle_1 := dk_seg dksX6_turnCycle_0 23 rfl rfl
theorem dksX6_turnCycle_2 : cX6_turnCycle.data.toList.drop 47 = dktX6_turnCycle_2 := dk_seg dksX6_turnCycle_1 24 rfl rfl
theorem dksX6_turnCycle_3 : cX6_turnCycle.data.toList.drop 70 = dktX6_turnCycle_3 := dk_seg dksX6_turnCycle_2 23 rfl rfl
theorem dX6_turnCycle_0 : decode cX6_turnCycle 0 = .ok (.aload_n 0, 1) := dk_42 (dk_at dksX6_turnCycle_0 0 rfl rfl)
theorem dX6_turnCycle_1 : decode cX6_turnCycle 1 = .ok (.iload_n 1, 1) := dk_27 (dk_at dksX6_turnCycle_0 1 rfl rfl)
theorem dX6_turnCycle_2 : decode cX6_turnCycle 2 = .ok (.invokevirtual 156, 3) := dk_182 0 156 (dk_at dksX6_turnCycle_0 2 rfl rfl)
theorem dX6_turnCycle_5 : decode cX6_turnCycle 5 = .ok (.istore_n 2, 1) := dk_61 (dk_at dksX6_turnCycle_0 5 rfl rfl)
theorem dX6_turnCycle_6 : decode cX6_turnCycle 6 = .ok (.iconst 0, 1) := dk_3 (dk_at dksX6_turnCycle_0 6 rfl rfl)
theorem dX6_turnCycle_7 : decode cX6_turnCycle 7 = .ok (.istore_n 3, 1) := dk_62 (dk_at dksX6_turnCycle_0 7 rfl rfl)
theorem dX6_turnCycle_8 : decode cX6_turnCycle 8 = .ok (.iload_n 3, 1) := dk_29 (dk_at dksX6_turnCycle_0 8 rfl rfl)
theorem dX6_turnCycle_9 : decode cX6_turnCycle 9 = .ok (.aload_n 0, 1) := dk_42 (dk_at dksX6_turnCycle_0 9 rfl rfl)
theorem dX6_turnCycle_10 : decode cX6_turnCycle 10 = .ok (.getfield 13, 3) := dk_180 0 13 (dk_at dksX6_turnCycle_0 10 rfl rfl)
theorem dX6_turnCycle_13 : decode cX6_turnCycle 13 = .ok (.iconst 0, 1) := dk_3 (dk_at dksX6_turnCycle_0 13 rfl rfl)
theorem dX6_turnCycle_14 : decode cX6_turnCycle 14 = .ok (.iaload, 1) := dk_46 (dk_at dksX6_turnCycle_0 14 rfl rfl)
theorem dX6_turnCycle_15 : decode cX6_turnCycle 15 = .ok (.if_icmp .ge 64, 3) := dk_162 0 64 (dk_at dksX6_turnCycle_0 15 rfl rfl)
theorem dX6_turnCycle_18 : decode cX6_turnCycle 18 = .ok (.aload_n 0, 1) := dk_42 (dk_at dksX6_turnCycle_0 18 rfl rfl)
theorem dX6_turnCycle_19 : decode cX6_turnCycle 19 = .ok (.iload_n 3, 1) := dk_29 (dk_at dksX6_turnCycle_0 19 rfl rfl)
theorem dX6_turnCycle_20 : decode cX6_turnCycle 20 = .ok (.invokevirtual 113, 3) := dk_182 0 113 (dk_at dksX6_turnCycle_0 20 rfl rfl)
theorem dX6_turnCycle_23 : decode cX6_turnCycle 23 = .ok (.istore 4, 2) := dk_54 4 (dk_at dksX6_turnCycle_1 0 rfl rfl)
theorem dX6_turnCycle_25 : decode cX6_turnCycle 25 = .ok (.iconst 0, 1) := dk_3 (dk_at dksX6_turnCycle_1 2 rfl rfl)
theorem dX6_turnCycle_26 : decode cX6_turnCycle 26 = .ok (.istore 5, 2) := dk_54 5 (dk_at dksX6_turnCycle_1 3 rfl rfl)
theorem dX6_turnCycle_28 : decode cX6_turnCycle 28 = .ok (.iload 5, 2) := dk_21 5 (dk_at dksX6_turnCycle_1 5 rfl rfl)
theorem dX6_turnCycle_30 : decode cX6_turnCycle 30 = .ok (.iload_n 2, 1) := dk_28 (dk_at dksX6_turnCycle_1 7 rfl rfl)
theorem dX6_turnCycle_31 : decode cX6_turnCycle 31 = .ok (.if_icmp .ge 42, 3) := dk_162 0 42 (dk_at dksX6_turnCycle_1 8 rfl rfl)
theorem dX6_turnCycle_34 : decode cX6_turnCycle 34 = .ok (.aload_n 0, 1) := dk_42 (dk_at dksX6_turnCycle_1 11 rfl rfl)
theorem dX6_turnCycle_35 : decode cX6_turnCycle 35 = .ok (.getfield 45, 3) := dk_180 0 45 (dk_at dksX6_turnCycle_1 12 rfl rfl)
theorem dX6_turnCycle_38 : decode cX6_turnCycle 38 = .ok (.iload 5, 2) := dk_21 5 (dk_at dksX6_turnCycle_1 15 rfl rfl)
theorem dX6_turnCycle_40 : decode cX6_turnCycle 40 = .ok (.iaload, 1) := dk_46 (dk_at dksX6_turnCycle_1 17 rfl rfl)
theorem dX6_turnCycle_41 : decode cX6_turnCycle 41 = .ok (.iload 4, 2) := dk_21 4 (dk_at dksX6_turnCycle_1 18 rfl rfl)
theorem dX6_turnCycle_43 : decode cX6_turnCycle 43 = .ok (.if_icmp .ne 24, 3) := dk_160 0 24 (dk_at dksX6_turnCycle_1 20 rfl rfl)
theorem dX6_turnCycle_46 : decode cX6_turnCycle 46 = .ok (.aload_n 0, 1) := dk_42 (dk_at dksX6_turnCycle_1 23 rfl rfl)
theorem dX6_turnCycle_47 : decode cX6_turnCycle 47 = .ok (.getfield 13, 3) := dk_180 0 13 (dk_at dksX6_turnCycle_2 0 rfl rfl)
theorem dX6_turnCycle_50 : decode cX6_turnCycle 50 = .ok (.iconst 2, 1) := dk_5 (dk_at dksX6_turnCycle_2 3 rfl rfl)
theorem dX6_turnCycle_51 : decode cX6_turnCycle 51 = .ok (.iload_n 3, 1) := dk_29 (dk_at dksX6_turnCycle_2 4 rfl rfl)
theorem dX6_turnCycle_52 : decode cX6_turnCycle 52 = .ok (.iadd, 1) := dk_96 (dk_at dksX6_turnCycle_2 5 rfl rfl)
theorem dX6_turnCycle_53 : decode cX6_turnCycle 53 = .ok (.aload_n 0, 1) := dk_42 (dk_at dksX6_turnCycle_2 6 rfl rfl)
theorem dX6_turnCycle_54 : decode cX6_turnCycle 54 = .ok (.getfield 45, 3) := dk_180 0 45 (dk_at dksX6_turnCycle_2 7 rfl rfl)
theorem dX6_turnCycle_57 : decode cX6_turnCycle 57 = .ok (.iload 5, 2) := dk_21 5 (dk_at dksX6_turnCycle_2 10 rfl rfl)
theorem dX6_turnCycle_59 : decode cX6_turnCycle 59 = .ok (.iload_n 2, 1) := dk_28 (dk_at dksX6_turnCycle_2 12 rfl rfl)
theorem dX6_turnCycle_60 : decode cX6_turnCycle 60 = .ok (.iadd, 1) := dk_96 (dk_at dksX6_turnCycle_2 13 rfl rfl)
theorem dX6_turnCycle_61 : decode cX6_turnCycle 61 = .ok (.iconst 1, 1) := dk_4 (dk_at dksX6_turnCycle_2 14 rfl rfl)
theorem dX6_turnCycle_62 : decode cX6_turnCycle 62 = .ok (.isub, 1) := dk_100 (dk_at dksX6_turnCycle_2 15 rfl rfl)
theorem dX6_turnCycle_63 : decode cX6_turnCycle 63 = .ok (.iload_n 2, 1) := dk_28 (dk_at dksX6_turnCycle_2 16 rfl rfl)
theorem dX6_turnCycle_64 : decode cX6_turnCycle 64 = .ok (.irem, 1) := dk_112 (dk_at dksX6_turnCycle_2 17 rfl rfl)
theorem dX6_turnCycle_65 : decode cX6_turnCycle 65 = .ok (.iaload, 1) := dk_46 (dk_at dksX6_turnCycle_2 18 rfl rfl)
theorem dX6_turnCycle_66 : decode cX6_turnCycle 66 = .ok (.iastore, 1) := dk_79 (dk_at dksX6_turnCycle_2 19 rfl rfl)
theorem dX6_turnCycle_67 : decode cX6_turnCycle 67 = .ok (.iinc 5 1, 3) := dk_132 5 1 (dk_at dksX6_turnCycle_2 20 rfl rfl)
theorem dX6_turnCycle_70 : decode cX6_turnCycle 70 = .ok (.goto (-42), 3) := dk_167 255 214 (dk_at dksX6_turnCycle_3 0 rfl rfl)
theorem dX6_turnCycle_73 : decode cX6_turnCycle 73 = .ok (.iinc 3 1, 3) := dk_132 3 1 (dk_at dksX6_turnCycle_3 3 rfl rfl)
theorem dX6_turnCycle_76 : decode cX6_turnCycle 76 = .ok (.goto (-68), 3) := dk_167 255 188 (dk_at dksX6_turnCycle_3 6 rfl rfl)
theorem dX6_turnCycle_79 : decode cX6_turnCycle 79 = .ok (.iload_n 2, 1) := dk_28 (dk_at dksX6_turnCycle_3 9 rfl rfl)
theorem dX6_turnCycle_80 : decode cX6_turnCycle 80 = .ok (.ireturn, 1) := dk_172 (dk_at dksX6_turnCycle_3 10 rfl rfl)
abbrev cX6_errorCode : ByteArray := prog_9_method_68_code
def yX6_errorCode : MethodName := ⟨RX6, "errorCode", "()I"⟩
def dkwX6_errorCode_0 : List UInt8 := [42, 3, 181, 0, 1, 42, 180, 0, 30, 172]
abbrev dktX6_errorCode_0 : List UInt8 := dkwX6_errorCode_0 ++ []
theorem dksX6_errorCode_0 : cX6_errorCode.data.toList.drop 0 = dktX6_errorCode_0 := by decide +kernel
theorem dX6_errorCode_0 : decode cX6_errorCode 0 = .ok (.aload_n 0, 1) := dk_42 (dk_at dksX6_errorCode_0 0 rfl rfl)
theorem dX6_errorCode_1 : decode cX6_errorCode 1 = .ok (.iconst 0, 1) := dk_3 (dk_at dksX6_errorCode_0 1 rfl rfl)
theorem dX6_errorCode_2 : decode cX6_errorCode 2 = .ok (.putfield 1, 3) := dk_181 0 1 (dk_at dksX6_errorCode_0 2 rfl rfl)
theorem dX6_errorCode_5 : decode cX6_errorCode 5 = .ok (.aload_n 0, 1) := dk_42 (dk_at dksX6_errorCode_0 5 rfl rfl)
theorem dX6_errorCode_6 : decode cX6_errorCode 6 = .ok (.getfield 30, 3) := dk_180 0 30 (dk_at dksX6_errorCode_0 6 rfl rfl)
theorem dX6_errorCode_9 : decode cX6_errorCode 9 = .ok (.ireturn, 1) := dk_172 (dk_at dksX6_errorCode_0 9 rfl rfl)
abbrev cX6_errorPosition : ByteArray := prog_9_method_69_code
def yX6_errorPosition : MethodName := ⟨RX6, "errorPosition", "()I"⟩
def dkwX6_errorPosition_0 : List UInt8 := [42, 3, 181, 0, 1, 42, 180, 0, 33, 172]
abbrev dktX6_errorPosition_0 : List UInt8 := dkwX6_errorPosition_0 ++ []
theorem dksX6_errorPosition_0 : cX6_errorPosition.data.toList.drop 0 = dktX6_errorPosition_0 := by decide +kernel
theorem dX6_errorPosition_0 : decode cX6_errorPosition 0 = .ok (.aload_n 0, 1) := dk_42 (dk_at dksX6_errorPosition_0 0 rfl rfl)
theorem dX6_errorPosition_1 : decode cX6_errorPosition 1 = .ok (.iconst 0, 1) := dk_3 (dk_at dksX6_errorPosition_0 1 rfl rfl)
theorem dX6_errorPosition_2 : decode cX6_errorPosition 2 = .ok (.putfield 1, 3) := dk_181 0 1 (dk_at dksX6_errorPosition_0 2 rfl rfl)
theorem dX6_errorPosition_5 : decode cX6_errorPosition 5 = .ok (.aload_n 0, 1) := dk_42 (dk_at dksX6_errorPosition_0 5 rfl rfl)
theorem dX6_errorPosition_6 : decode cX6_errorPosition 6 = .ok (.getfield 33, 3) := dk_180 0 33 (dk_at dksX6_errorPosition_0 6 rfl rfl)
theorem dX6_errorPosition_9 : decode cX6_errorPosition 9 = .ok (.ireturn, 1) := dk_172 (dk_at dksX6_errorPosition_0 9 rfl rfl)
abbrev cX6_cellCount : ByteArray := prog_9_method_71_code
def yX6_cellCount : MethodName := ⟨RX6, "cellCount", "()I"⟩
def dkwX6_cellCount_0 : List UInt8 := [42, 42, 180, 0, 13, 3, 46, 182, 1, 17, 172]
abbrev dktX6_cellCount_0 : List UInt8 := dkwX6_cellCount_0 ++ []
theorem dksX6_cellCount_0 : cX6_cellCount.data.toList.drop 0 = dktX6_cellCount_0 := by decide +kernel
theorem dX6_cellCount_0 : decode cX6_cellCount 0 = .ok (.aload_n 0, 1) := dk_42 (dk_at dksX6_cellCount_0 0 rfl rfl)
theorem dX6_cellCount_1 : decode cX6_cellCount 1 = .ok (.aload_n 0, 1) := dk_42 (dk_at dksX6_cellCount_0 1 rfl rfl)
theorem dX6_cellCount_2 : decode cX6_cellCount 2 = .ok (.getfield 13, 3) := dk_180 0 13 (dk_at dksX6_cellCount_0 2 rfl rfl)
theorem dX6_cellCount_5 : decode cX6_cellCount 5 = .ok (.iconst 0, 1) := dk_3 (dk_at dksX6_cellCount_0 5 rfl rfl)
theorem dX6_cellCount_6 : decode cX6_cellCount 6 = .ok (.iaload, 1) := dk_46 (dk_at dksX6_cellCount_0 6 rfl rfl)
theorem dX6_cellCount_7 : decode cX6_cellCount 7 = .ok (.invokevirtual 273, 3) := dk_182 1 17 (dk_at dksX6_cellCount_0 7 rfl rfl)
theorem dX6_cellCount_10 : decode cX6_cellCount 10 = .ok (.ireturn, 1) := dk_172 (dk_at dksX6_cellCount_0 10 rfl rfl)
abbrev cX6_plain : ByteArray := prog_9_method_70_code
def yX6_plain : MethodName := ⟨RX6, "plain", "(I)I"⟩
def dkwX6_plain_0 : List UInt8 := [42, 3, 181, 0, 1, 27, 172]
abbrev dktX6_plain_0 : List UInt8 := dkwX6_plain_0 ++ []
theorem dksX6_plain_0 : cX6_plain.data.toList.drop 0 = dktX6_plain_0 := by decide +kernel
theorem dX6_plain_0 : decode cX6_plain 0 = .ok (.aload_n 0, 1) := dk_42 (dk_at dksX6_plain_0 0 rfl rfl)
theorem dX6_plain_1 : decode cX6_plain 1 = .ok (.iconst 0, 1) := dk_3 (dk_at dksX6_plain_0 1 rfl rfl)
theorem dX6_plain_2 : decode cX6_plain 2 = .ok (.putfield 1, 3) := dk_181 0 1 (dk_at dksX6_plain_0 2 rfl rfl)
theorem dX6_plain_5 : decode cX6_plain 5 = .ok (.iload_n 1, 1) := dk_27 (dk_at dksX6_plain_0 5 rfl rfl)
theorem dX6_plain_6 : decode cX6_plain 6 = .ok (.ireturn, 1) := dk_172 (dk_at dksX6_plain_0 6 rfl rfl)
abbrev cX6_siblingCount : ByteArray := prog_9_method_72_code
def yX6_siblingCount : MethodName := ⟨RX6, "siblingCount", "()I"⟩
def dkwX6_siblingCount_0 : List UInt8 := [42, 42, 180, 0, 13, 4, 46, 182, 1, 17, 172]
abbrev dktX6_siblingCount_0 : List UInt8 := dkwX6_siblingCount_0 ++ []
theorem dksX6_siblingCount_0 : cX6_siblingCount.data.toList.drop 0 = dktX6_siblingCount_0 := by decide +kernel
theorem dX6_siblingCount_0 : decode cX6_siblingCount 0 = .ok (.aload_n 0, 1) := dk_42 (dk_at dksX6_siblingCount_0 0 rfl rfl)
theorem dX6_siblingCount_1 : decode cX6_siblingCount 1 = .ok (.aload_n 0, 1) := dk_42 (dk_at dksX6_siblingCount_0 1 rfl rfl)
theorem dX6_siblingCount_2 : decode cX6_siblingCount 2 = .ok (.getfield 13, 3) := dk_180 0 13 (dk_at dksX6_siblingCount_0 2 rfl rfl)
theorem dX6_siblingCount_5 : decode cX6_siblingCount 5 = .ok (.iconst 1, 1) := dk_4 (dk_at dksX6_siblingCount_0 5 rfl rfl)
theorem dX6_siblingCount_6 : decode cX6_siblingCount 6 = .ok (.iaload, 1) := dk_46 (dk_at dksX6_siblingCount_0 6 rfl rfl)
theorem dX6_siblingCount_7 : decode cX6_siblingCount 7 = .ok (.invokevirtual 273, 3) := dk_182 1 17 (dk_at dksX6_siblingCount_0 7 rfl rfl)
theorem dX6_siblingCount_10 : decode cX6_siblingCount 10 = .ok (.ireturn, 1) := dk_172 (dk_at dksX6_siblingCount_0 10 rfl rfl)
abbrev cX6_nameByte : ByteArray := prog_9_method_73_code
def yX6_nameByte : MethodName := ⟨RX6, "nameByte", "(II)I"⟩
def dkwX6_nameByte_3 : List UInt8 := [172]
abbrev dktX6_nameByte_3 : List UInt8 := dkwX6_nameByte_3 ++ []
def dkwX6_nameByte_2 : List UInt8 := [167, 0, 4, 3, 3, 3, 182, 0, 171, 153, 0, 5, 3, 172, 42, 180, 0, 13, 29, 4, 96, 28, 96, 46]
abbrev dktX6_nameByte_2 : List UInt8 := dkwX6_nameByte_2 ++ dktX6_nameByte_3
def dkwX6_nameByte_1 : List UInt8 := [182, 0, 94, 153, 0, 19, 28, 3, 42, 180, 0, 13, 29, 46, 4, 100, 184, 0, 90, 154, 0, 7, 4]
abbrev dktX6_nameByte_1 : List UInt8 := dkwX6_nameByte_1 ++ dktX6_nameByte_2
def dkwX6_nameByte_0 : List UInt8 := [16, 26, 42, 27, 182, 0, 94, 153, 0, 7, 27, 167, 0, 4, 3, 16, 31, 104, 96, 62, 42, 42, 27]
abbrev dktX6_nameByte_0 : List UInt8 := dkwX6_nameByte_0 ++ dktX6_nameByte_1
theorem dksX6_nameByte_0 : cX6_nameByte.data.toList.drop 0 = dktX6_nameByte_0 := by decide +kernel
theorem dksX6_nameByte_1 : cX6_nameByte.data.toList.drop 23 = dktX6_nameByte_1 := dk_seg dksX6_nameByte_0 23 rfl rfl
theorem dksX6_nameByte_2 : cX6_nameByte.data.toList.drop 46 = dktX6_nameByte_2 := dk_seg dksX6_nameByte_1 23 rfl rfl
theorem dksX6_nameByte_3 : cX6_nameByte.data.toList.drop 70 = dktX6_nameByte_3 := dk_seg dksX6_nameByte_2 24 rfl rfl
theorem dX6_nameByte_0 : decode cX6_nameByte 0 = .ok (.bipush 26, 2) := dk_16 26 (dk_at dksX6_nameByte_0 0 rfl rfl)
theorem dX6_nameByte_2 : decode cX6_nameByte 2 = .ok (.aload_n 0, 1) := dk_42 (dk_at dksX6_nameByte_0 2 rfl rfl)
theorem dX6_nameByte_3 : decode cX6_nameByte 3 = .ok (.iload_n 1, 1) := dk_27 (dk_at dksX6_nameByte_0 3 rfl rfl)
theorem dX6_nameByte_4 : decode cX6_nameByte 4 = .ok (.invokevirtual 94, 3) := dk_182 0 94 (dk_at dksX6_nameByte_0 4 rfl rfl)
theorem dX6_nameByte_7 : decode cX6_nameByte 7 = .ok (.ifCond .eq 7, 3) := dk_153 0 7 (dk_at dksX6_nameByte_0 7 rfl rfl)
theorem dX6_nameByte_10 : decode cX6_nameByte 10 = .ok (.iload_n 1, 1) := dk_27 (dk_at dksX6_nameByte_0 10 rfl rfl)
theorem dX6_nameByte_11 : decode cX6_nameByte 11 = .ok (.goto 4, 3) := dk_167 0 4 (dk_at dksX6_nameByte_0 11 rfl rfl)
theorem dX6_nameByte_14 : decode cX6_nameByte 14 = .ok (.iconst 0, 1) := dk_3 (dk_at dksX6_nameByte_0 14 rfl rfl)
theorem dX6_nameByte_15 : decode cX6_nameByte 15 = .ok (.bipush 31, 2) := dk_16 31 (dk_at dksX6_nameByte_0 15 rfl rfl)
theorem dX6_nameByte_17 : decode cX6_nameByte 17 = .ok (.imul, 1) := dk_104 (dk_at dksX6_nameByte_0 17 rfl rfl)
theorem dX6_nameByte_18 : decode cX6_nameByte 18 = .ok (.iadd, 1) := dk_96 (dk_at dksX6_nameByte_0 18 rfl rfl)
theorem dX6_nameByte_19 : decode cX6_nameByte 19 = .ok (.istore_n 3, 1) := dk_62 (dk_at dksX6_nameByte_0 19 rfl rfl)
theorem dX6_nameByte_20 : decode cX6_nameByte 20 = .ok (.aload_n 0, 1) := dk_42 (dk_at dksX6_nameByte_0 20 rfl rfl)
theorem dX6_nameByte_21 : decode cX6_nameByte 21 = .ok (.aload_n 0, 1) := dk_42 (dk_at dksX6_nameByte_0 21 rfl rfl)
theorem dX6_nameByte_22 : decode cX6_nameByte 22 = .ok (.iload_n 1, 1) := dk_27 (dk_at dksX6_nameByte_0 22 rfl rfl)
theorem dX6_nameByte_23 : decode cX6_nameByte 23 = .ok (.invokevirtual 94, 3) := dk_182 0 94 (dk_at dksX6_nameByte_1 0 rfl rfl)
theorem dX6_nameByte_26 : decode cX6_nameByte 26 = .ok (.ifCond .eq 19, 3) := dk_153 0 19 (dk_at dksX6_nameByte_1 3 rfl rfl)
theorem dX6_nameByte_29 : decode cX6_nameByte 29 = .ok (.iload_n 2, 1) := dk_28 (dk_at dksX6_nameByte_1 6 rfl rfl)
theorem dX6_nameByte_30 : decode cX6_nameByte 30 = .ok (.iconst 0, 1) := dk_3 (dk_at dksX6_nameByte_1 7 rfl rfl)
theorem dX6_nameByte_31 : decode cX6_nameByte 31 = .ok (.aload_n 0, 1) := dk_42 (dk_at dksX6_nameByte_1 8 rfl rfl)
theorem dX6_nameByte_32 : decode cX6_nameByte 32 = .ok (.getfield 13, 3) := dk_180 0 13 (dk_at dksX6_nameByte_1 9 rfl rfl)
theorem dX6_nameByte_35 : decode cX6_nameByte 35 = .ok (.iload_n 3, 1) := dk_29 (dk_at dksX6_nameByte_1 12 rfl rfl)
theorem dX6_nameByte_36 : decode cX6_nameByte 36 = .ok (.iaload, 1) := dk_46 (dk_at dksX6_nameByte_1 13 rfl rfl)
theorem dX6_nameByte_37 : decode cX6_nameByte 37 = .ok (.iconst 1, 1) := dk_4 (dk_at dksX6_nameByte_1 14 rfl rfl)
theorem dX6_nameByte_38 : decode cX6_nameByte 38 = .ok (.isub, 1) := dk_100 (dk_at dksX6_nameByte_1 15 rfl rfl)
theorem dX6_nameByte_39 : decode cX6_nameByte 39 = .ok (.invokestatic 90, 3) := dk_184 0 90 (dk_at dksX6_nameByte_1 16 rfl rfl)
theorem dX6_nameByte_42 : decode cX6_nameByte 42 = .ok (.ifCond .ne 7, 3) := dk_154 0 7 (dk_at dksX6_nameByte_1 19 rfl rfl)
theorem dX6_nameByte_45 : decode cX6_nameByte 45 = .ok (.iconst 1, 1) := dk_4 (dk_at dksX6_nameByte_1 22 rfl rfl)
theorem dX6_nameByte_46 : decode cX6_nameByte 46 = .ok (.goto 4, 3) := dk_167 0 4 (dk_at dksX6_nameByte_2 0 rfl rfl)
theorem dX6_nameByte_49 : decode cX6_nameByte 49 = .ok (.iconst 0, 1) := dk_3 (dk_at dksX6_nameByte_2 3 rfl rfl)
theorem dX6_nameByte_50 : decode cX6_nameByte 50 = .ok (.iconst 0, 1) := dk_3 (dk_at dksX6_nameByte_2 4 rfl rfl)
theorem dX6_nameByte_51 : decode cX6_nameByte 51 = .ok (.iconst 0, 1) := dk_3 (dk_at dksX6_nameByte_2 5 rfl rfl)
theorem dX6_nameByte_52 : decode cX6_nameByte 52 = .ok (.invokevirtual 171, 3) := dk_182 0 171 (dk_at dksX6_nameByte_2 6 rfl rfl)
theorem dX6_nameByte_55 : decode cX6_nameByte 55 = .ok (.ifCond .eq 5, 3) := dk_153 0 5 (dk_at dksX6_nameByte_2 9 rfl rfl)
theorem dX6_nameByte_58 : decode cX6_nameByte 58 = .ok (.iconst 0, 1) := dk_3 (dk_at dksX6_nameByte_2 12 rfl rfl)
theorem dX6_nameByte_59 : decode cX6_nameByte 59 = .ok (.ireturn, 1) := dk_172 (dk_at dksX6_nameByte_2 13 rfl rfl)
theorem dX6_nameByte_60 : decode cX6_nameByte 60 = .ok (.aload_n 0, 1) := dk_42 (dk_at dksX6_nameByte_2 14 rfl rfl)
theorem dX6_nameByte_61 : decode cX6_nameByte 61 = .ok (.getfield 13, 3) := dk_180 0 13 (dk_at dksX6_nameByte_2 15 rfl rfl)
theorem dX6_nameByte_64 : decode cX6_nameByte 64 = .ok (.iload_n 3, 1) := dk_29 (dk_at dksX6_nameByte_2 18 rfl rfl)
theorem dX6_nameByte_65 : decode cX6_nameByte 65 = .ok (.iconst 1, 1) := dk_4 (dk_at dksX6_nameByte_2 19 rfl rfl)
theorem dX6_nameByte_66 : decode cX6_nameByte 66 = .ok (.iadd, 1) := dk_96 (dk_at dksX6_nameByte_2 20 rfl rfl)
theorem dX6_nameByte_67 : decode cX6_nameByte 67 = .ok (.iload_n 2, 1) := dk_28 (dk_at dksX6_nameByte_2 21 rfl rfl)
theorem dX6_nameByte_68 : decode cX6_nameByte 68 = .ok (.iadd, 1) := dk_96 (dk_at dksX6_nameByte_2 22 rfl rfl)
theorem dX6_nameByte_69 : decode cX6_nameByte 69 = .ok (.iaload, 1) := dk_46 (dk_at dksX6_nameByte_2 23 rfl rfl)
theorem dX6_nameByte_70 : decode cX6_nameByte 70 = .ok (.ireturn, 1) := dk_172 (dk_at dksX6_nameByte_3 0 rfl rfl)
abbrev cX6_isSibling : ByteArray := prog_9_method_5_code
def yX6_isSibling : MethodName := ⟨RX6, "isSibling", "(I)Z"⟩
def dkwX6_isSibling_0 : List UInt8 := [27, 3, 42, 180, 0, 13, 4, 46, 4, 100, 184, 0, 90, 172]
abbrev dktX6_isSibling_0 : List UInt8 := dkwX6_isSibling_0 ++ []
theorem dksX6_isSibling_0 : cX6_isSibling.data.toList.drop 0 = dktX6_isSibling_0 := by decide +kernel
theorem dX6_isSibling_0 : decode cX6_isSibling 0 = .ok (.iload_n 1, 1) := dk_27 (dk_at dksX6_isSibling_0 0 rfl rfl)
theorem dX6_isSibling_1 : decode cX6_isSibling 1 = .ok (.iconst 0, 1) := dk_3 (dk_at dksX6_isSibling_0 1 rfl rfl)
theorem dX6_isSibling_2 : decode cX6_isSibling 2 = .ok (.aload_n 0, 1) := dk_42 (dk_at dksX6_isSibling_0 2 rfl rfl)
theorem dX6_isSibling_3 : decode cX6_isSibling 3 = .ok (.getfield 13, 3) := dk_180 0 13 (dk_at dksX6_isSibling_0 3 rfl rfl)
theorem dX6_isSibling_6 : decode cX6_isSibling 6 = .ok (.iconst 1, 1) := dk_4 (dk_at dksX6_isSibling_0 6 rfl rfl)
theorem dX6_isSibling_7 : decode cX6_isSibling 7 = .ok (.iaload, 1) := dk_46 (dk_at dksX6_isSibling_0 7 rfl rfl)
theorem dX6_isSibling_8 : decode cX6_isSibling 8 = .ok (.iconst 1, 1) := dk_4 (dk_at dksX6_isSibling_0 8 rfl rfl)
theorem dX6_isSibling_9 : decode cX6_isSibling 9 = .ok (.isub, 1) := dk_100 (dk_at dksX6_isSibling_0 9 rfl rfl)
theorem dX6_isSibling_10 : decode cX6_isSibling 10 = .ok (.invokestatic 90, 3) := dk_184 0 90 (dk_at dksX6_isSibling_0 10 rfl rfl)
theorem dX6_isSibling_13 : decode cX6_isSibling 13 = .ok (.ireturn, 1) := dk_172 (dk_at dksX6_isSibling_0 13 rfl rfl)
abbrev cX6_findSibling : ByteArray := prog_9_method_74_code
def yX6_findSibling : MethodName := ⟨RX6, "findSibling", "()I"⟩
def dkwX6_findSibling_1 : List UInt8 := [182, 0, 171, 153, 0, 5, 3, 172, 27, 172]
abbrev dktX6_findSibling_1 : List UInt8 := dkwX6_findSibling_1 ++ []
def dkwX6_findSibling_0 : List UInt8 := [42, 3, 42, 180, 0, 27, 182, 0, 193, 60, 42, 27, 2, 160, 0, 7, 4, 167, 0, 4, 3, 3, 3]
abbrev dktX6_findSibling_0 : List UInt8 := dkwX6_findSibling_0 ++ dktX6_findSibling_1
theorem dksX6_findSibling_0 : cX6_findSibling.data.toList.drop 0 = dktX6_findSibling_0 := by decide +kernel
theorem dksX6_findSibling_1 : cX6_findSibling.data.toList.drop 23 = dktX6_findSibling_1 := dk_seg dksX6_findSibling_0 23 rfl rfl
theorem dX6_findSibling_0 : decode cX6_findSibling 0 = .ok (.aload_n 0, 1) := dk_42 (dk_at dksX6_findSibling_0 0 rfl rfl)
theorem dX6_findSibling_1 : decode cX6_findSibling 1 = .ok (.iconst 0, 1) := dk_3 (dk_at dksX6_findSibling_0 1 rfl rfl)
theorem dX6_findSibling_2 : decode cX6_findSibling 2 = .ok (.aload_n 0, 1) := dk_42 (dk_at dksX6_findSibling_0 2 rfl rfl)
theorem dX6_findSibling_3 : decode cX6_findSibling 3 = .ok (.getfield 27, 3) := dk_180 0 27 (dk_at dksX6_findSibling_0 3 rfl rfl)
theorem dX6_findSibling_6 : decode cX6_findSibling 6 = .ok (.invokevirtual 193, 3) := dk_182 0 193 (dk_at dksX6_findSibling_0 6 rfl rfl)
theorem dX6_findSibling_9 : decode cX6_findSibling 9 = .ok (.istore_n 1, 1) := dk_60 (dk_at dksX6_findSibling_0 9 rfl rfl)
theorem dX6_findSibling_10 : decode cX6_findSibling 10 = .ok (.aload_n 0, 1) := dk_42 (dk_at dksX6_findSibling_0 10 rfl rfl)
theorem dX6_findSibling_11 : decode cX6_findSibling 11 = .ok (.iload_n 1, 1) := dk_27 (dk_at dksX6_findSibling_0 11 rfl rfl)
theorem dX6_findSibling_12 : decode cX6_findSibling 12 = .ok (.iconst (-1), 1) := dk_2 (dk_at dksX6_findSibling_0 12 rfl rfl)
theorem dX6_findSibling_13 : decode cX6_findSibling 13 = .ok (.if_icmp .ne 7, 3) := dk_160 0 7 (dk_at dksX6_findSibling_0 13 rfl rfl)
theorem dX6_findSibling_16 : decode cX6_findSibling 16 = .ok (.iconst 1, 1) := dk_4 (dk_at dksX6_findSibling_0 16 rfl rfl)
theorem dX6_findSibling_17 : decode cX6_findSibling 17 = .ok (.goto 4, 3) := dk_167 0 4 (dk_at dksX6_findSibling_0 17 rfl rfl)
theorem dX6_findSibling_20 : decode cX6_findSibling 20 = .ok (.iconst 0, 1) := dk_3 (dk_at dksX6_findSibling_0 20 rfl rfl)
theorem dX6_findSibling_21 : decode cX6_findSibling 21 = .ok (.iconst 0, 1) := dk_3 (dk_at dksX6_findSibling_0 21 rfl rfl)
theorem dX6_findSibling_22 : decode cX6_findSibling 22 = .ok (.iconst 0, 1) := dk_3 (dk_at dksX6_findSibling_0 22 rfl rfl)
theorem dX6_findSibling_23 : decode cX6_findSibling 23 = .ok (.invokevirtual 171, 3) := dk_182 0 171 (dk_at dksX6_findSibling_1 0 rfl rfl)
theorem dX6_findSibling_26 : decode cX6_findSibling 26 = .ok (.ifCond .eq 5, 3) := dk_153 0 5 (dk_at dksX6_findSibling_1 3 rfl rfl)
theorem dX6_findSibling_29 : decode cX6_findSibling 29 = .ok (.iconst 0, 1) := dk_3 (dk_at dksX6_findSibling_1 6 rfl rfl)
theorem dX6_findSibling_30 : decode cX6_findSibling 30 = .ok (.ireturn, 1) := dk_172 (dk_at dksX6_findSibling_1 7 rfl rfl)
theorem dX6_findSibling_31 : decode cX6_findSibling 31 = .ok (.iload_n 1, 1) := dk_27 (dk_at dksX6_findSibling_1 8 rfl rfl)
theorem dX6_findSibling_32 : decode cX6_findSibling 32 = .ok (.ireturn, 1) := dk_172 (dk_at dksX6_findSibling_1 9 rfl rfl)
abbrev cX6_value : ByteArray := prog_9_method_75_code
def yX6_value : MethodName := ⟨RX6, "value", "(II)I"⟩
def dkwX6_value_1 : List UInt8 := [182, 0, 171, 153, 0, 5, 3, 172, 42, 27, 28, 182, 0, 105, 172]
abbrev dktX6_value_1 : List UInt8 := dkwX6_value_1 ++ []
def dkwX6_value_0 : List UInt8 := [42, 42, 27, 182, 0, 94, 153, 0, 11, 42, 28, 182, 0, 98, 154, 0, 7, 4, 167, 0, 4, 3, 3, 3]
abbrev dktX6_value_0 : List UInt8 := dkwX6_value_0 ++ dktX6_value_1
theorem dksX6_value_0 : cX6_value.data.toList.drop 0 = dktX6_value_0 := by decide +kernel
theorem dksX6_value_1 : cX6_value.data.toList.drop 24 = dktX6_value_1 := dk_seg dksX6_value_0 24 rfl rfl
theorem dX6_value_0 : decode cX6_value 0 = .ok (.aload_n 0, 1) := dk_42 (dk_at dksX6_value_0 0 rfl rfl)
theorem dX6_value_1 : decode cX6_value 1 = .ok (.aload_n 0, 1) := dk_42 (dk_at dksX6_value_0 1 rfl rfl)
theorem dX6_value_2 : decode cX6_value 2 = .ok (.iload_n 1, 1) := dk_27 (dk_at dksX6_value_0 2 rfl rfl)
theorem dX6_value_3 : decode cX6_value 3 = .ok (.invokevirtual 94, 3) := dk_182 0 94 (dk_at dksX6_value_0 3 rfl rfl)
theorem dX6_value_6 : decode cX6_value 6 = .ok (.ifCond .eq 11, 3) := dk_153 0 11 (dk_at dksX6_value_0 6 rfl rfl)
theorem dX6_value_9 : decode cX6_value 9 = .ok (.aload_n 0, 1) := dk_42 (dk_at dksX6_value_0 9 rfl rfl)
theorem dX6_value_10 : decode cX6_value 10 = .ok (.iload_n 2, 1) := dk_28 (dk_at dksX6_value_0 10 rfl rfl)
theorem dX6_value_11 : decode cX6_value 11 = .ok (.invokevirtual 98, 3) := dk_182 0 98 (dk_at dksX6_value_0 11 rfl rfl)
theorem dX6_value_14 : decode cX6_value 14 = .ok (.ifCond .ne 7, 3) := dk_154 0 7 (dk_at dksX6_value_0 14 rfl rfl)
theorem dX6_value_17 : decode cX6_value 17 = .ok (.iconst 1, 1) := dk_4 (dk_at dksX6_value_0 17 rfl rfl)
theorem dX6_value_18 : decode cX6_value 18 = .ok (.goto 4, 3) := dk_167 0 4 (dk_at dksX6_value_0 18 rfl rfl)
theorem dX6_value_21 : decode cX6_value 21 = .ok (.iconst 0, 1) := dk_3 (dk_at dksX6_value_0 21 rfl rfl)
theorem dX6_value_22 : decode cX6_value 22 = .ok (.iconst 0, 1) := dk_3 (dk_at dksX6_value_0 22 rfl rfl)
theorem dX6_value_23 : decode cX6_value 23 = .ok (.iconst 0, 1) := dk_3 (dk_at dksX6_value_0 23 rfl rfl)
theorem dX6_value_24 : decode cX6_value 24 = .ok (.invokevirtual 171, 3) := dk_182 0 171 (dk_at dksX6_value_1 0 rfl rfl)
theorem dX6_value_27 : decode cX6_value 27 = .ok (.ifCond .eq 5, 3) := dk_153 0 5 (dk_at dksX6_value_1 3 rfl rfl)
theorem dX6_value_30 : decode cX6_value 30 = .ok (.iconst 0, 1) := dk_3 (dk_at dksX6_value_1 6 rfl rfl)
theorem dX6_value_31 : decode cX6_value 31 = .ok (.ireturn, 1) := dk_172 (dk_at dksX6_value_1 7 rfl rfl)
theorem dX6_value_32 : decode cX6_value 32 = .ok (.aload_n 0, 1) := dk_42 (dk_at dksX6_value_1 8 rfl rfl)
theorem dX6_value_33 : decode cX6_value 33 = .ok (.iload_n 1, 1) := dk_27 (dk_at dksX6_value_1 9 rfl rfl)
theorem dX6_value_34 : decode cX6_value 34 = .ok (.iload_n 2, 1) := dk_28 (dk_at dksX6_value_1 10 rfl rfl)
theorem dX6_value_35 : decode cX6_value 35 = .ok (.invokevirtual 105, 3) := dk_182 0 105 (dk_at dksX6_value_1 11 rfl rfl)
theorem dX6_value_38 : decode cX6_value 38 = .ok (.ireturn, 1) := dk_172 (dk_at dksX6_value_1 14 rfl rfl)
abbrev cX6_owner : ByteArray := prog_9_method_76_code
def yX6_owner : MethodName := ⟨RX6, "owner", "(I)I"⟩
def dkwX6_owner_1 : List UInt8 := [42, 27, 182, 0, 113, 172]
abbrev dktX6_owner_1 : List UInt8 := dkwX6_owner_1 ++ []
def dkwX6_owner_0 : List UInt8 := [42, 42, 27, 182, 0, 98, 154, 0, 7, 4, 167, 0, 4, 3, 3, 3, 182, 0, 171, 153, 0, 5, 3, 172]
abbrev dktX6_owner_0 : List UInt8 := dkwX6_owner_0 ++ dktX6_owner_1
theorem dksX6_owner_0 : cX6_owner.data.toList.drop 0 = dktX6_owner_0 := by decide +kernel
theorem dksX6_owner_1 : cX6_owner.data.toList.drop 24 = dktX6_owner_1 := dk_seg dksX6_owner_0 24 rfl rfl
theorem dX6_owner_0 : decode cX6_owner 0 = .ok (.aload_n 0, 1) := dk_42 (dk_at dksX6_owner_0 0 rfl rfl)
theorem dX6_owner_1 : decode cX6_owner 1 = .ok (.aload_n 0, 1) := dk_42 (dk_at dksX6_owner_0 1 rfl rfl)
theorem dX6_owner_2 : decode cX6_owner 2 = .ok (.iload_n 1, 1) := dk_27 (dk_at dksX6_owner_0 2 rfl rfl)
theorem dX6_owner_3 : decode cX6_owner 3 = .ok (.invokevirtual 98, 3) := dk_182 0 98 (dk_at dksX6_owner_0 3 rfl rfl)
theorem dX6_owner_6 : decode cX6_owner 6 = .ok (.ifCond .ne 7, 3) := dk_154 0 7 (dk_at dksX6_owner_0 6 rfl rfl)
theorem dX6_owner_9 : decode cX6_owner 9 = .ok (.iconst 1, 1) := dk_4 (dk_at dksX6_owner_0 9 rfl rfl)
theorem dX6_owner_10 : decode cX6_owner 10 = .ok (.goto 4, 3) := dk_167 0 4 (dk_at dksX6_owner_0 10 rfl rfl)
theorem dX6_owner_13 : decode cX6_owner 13 = .ok (.iconst 0, 1) := dk_3 (dk_at dksX6_owner_0 13 rfl rfl)
theorem dX6_owner_14 : decode cX6_owner 14 = .ok (.iconst 0, 1) := dk_3 (dk_at dksX6_owner_0 14 rfl rfl)
theorem dX6_owner_15 : decode cX6_owner 15 = .ok (.iconst 0, 1) := dk_3 (dk_at dksX6_owner_0 15 rfl rfl)
theorem dX6_owner_16 : decode cX6_owner 16 = .ok (.invokevirtual 171, 3) := dk_182 0 171 (dk_at dksX6_owner_0 16 rfl rfl)
theorem dX6_owner_19 : decode cX6_owner 19 = .ok (.ifCond .eq 5, 3) := dk_153 0 5 (dk_at dksX6_owner_0 19 rfl rfl)
theorem dX6_owner_22 : decode cX6_owner 22 = .ok (.iconst 0, 1) := dk_3 (dk_at dksX6_owner_0 22 rfl rfl)
theorem dX6_owner_23 : decode cX6_owner 23 = .ok (.ireturn, 1) := dk_172 (dk_at dksX6_owner_0 23 rfl rfl)
theorem dX6_owner_24 : decode cX6_owner 24 = .ok (.aload_n 0, 1) := dk_42 (dk_at dksX6_owner_1 0 rfl rfl)
theorem dX6_owner_25 : decode cX6_owner 25 = .ok (.iload_n 1, 1) := dk_27 (dk_at dksX6_owner_1 1 rfl rfl)
theorem dX6_owner_26 : decode cX6_owner 26 = .ok (.invokevirtual 113, 3) := dk_182 0 113 (dk_at dksX6_owner_1 2 rfl rfl)
theorem dX6_owner_29 : decode cX6_owner 29 = .ok (.ireturn, 1) := dk_172 (dk_at dksX6_owner_1 5 rfl rfl)
abbrev cX6_worth : ByteArray := prog_9_method_77_code
def yX6_worth : MethodName := ⟨RX6, "worth", "(III)I"⟩
def dkwX6_worth_1 : List UInt8 := [167, 0, 4, 3, 3, 182, 0, 171, 153, 0, 5, 3, 172, 42, 27, 28, 29, 182, 0, 109, 172]
abbrev dktX6_worth_1 : List UInt8 := dkwX6_worth_1 ++ []
def dkwX6_worth_0 : List UInt8 := [42, 42, 27, 182, 0, 94, 154, 0, 7, 4, 167, 0, 4, 3, 42, 28, 29, 182, 0, 244, 154, 0, 7, 4]
abbrev dktX6_worth_0 : List UInt8 := dkwX6_worth_0 ++ dktX6_worth_1
theorem dksX6_worth_0 : cX6_worth.data.toList.drop 0 = dktX6_worth_0 := by decide +kernel
theorem dksX6_worth_1 : cX6_worth.data.toList.drop 24 = dktX6_worth_1 := dk_seg dksX6_worth_0 24 rfl rfl
theorem dX6_worth_0 : decode cX6_worth 0 = .ok (.aload_n 0, 1) := dk_42 (dk_at dksX6_worth_0 0 rfl rfl)
theorem dX6_worth_1 : decode cX6_worth 1 = .ok (.aload_n 0, 1) := dk_42 (dk_at dksX6_worth_0 1 rfl rfl)
theorem dX6_worth_2 : decode cX6_worth 2 = .ok (.iload_n 1, 1) := dk_27 (dk_at dksX6_worth_0 2 rfl rfl)
theorem dX6_worth_3 : decode cX6_worth 3 = .ok (.invokevirtual 94, 3) := dk_182 0 94 (dk_at dksX6_worth_0 3 rfl rfl)
theorem dX6_worth_6 : decode cX6_worth 6 = .ok (.ifCond .ne 7, 3) := dk_154 0 7 (dk_at dksX6_worth_0 6 rfl rfl)
theorem dX6_worth_9 : decode cX6_worth 9 = .ok (.iconst 1, 1) := dk_4 (dk_at dksX6_worth_0 9 rfl rfl)
theorem dX6_worth_10 : decode cX6_worth 10 = .ok (.goto 4, 3) := dk_167 0 4 (dk_at dksX6_worth_0 10 rfl rfl)
theorem dX6_worth_13 : decode cX6_worth 13 = .ok (.iconst 0, 1) := dk_3 (dk_at dksX6_worth_0 13 rfl rfl)
theorem dX6_worth_14 : decode cX6_worth 14 = .ok (.aload_n 0, 1) := dk_42 (dk_at dksX6_worth_0 14 rfl rfl)
theorem dX6_worth_15 : decode cX6_worth 15 = .ok (.iload_n 2, 1) := dk_28 (dk_at dksX6_worth_0 15 rfl rfl)
theorem dX6_worth_16 : decode cX6_worth 16 = .ok (.iload_n 3, 1) := dk_29 (dk_at dksX6_worth_0 16 rfl rfl)
theorem dX6_worth_17 : decode cX6_worth 17 = .ok (.invokevirtual 244, 3) := dk_182 0 244 (dk_at dksX6_worth_0 17 rfl rfl)
theorem dX6_worth_20 : decode cX6_worth 20 = .ok (.ifCond .ne 7, 3) := dk_154 0 7 (dk_at dksX6_worth_0 20 rfl rfl)
theorem dX6_worth_23 : decode cX6_worth 23 = .ok (.iconst 1, 1) := dk_4 (dk_at dksX6_worth_0 23 rfl rfl)
theorem dX6_worth_24 : decode cX6_worth 24 = .ok (.goto 4, 3) := dk_167 0 4 (dk_at dksX6_worth_1 0 rfl rfl)
theorem dX6_worth_27 : decode cX6_worth 27 = .ok (.iconst 0, 1) := dk_3 (dk_at dksX6_worth_1 3 rfl rfl)
theorem dX6_worth_28 : decode cX6_worth 28 = .ok (.iconst 0, 1) := dk_3 (dk_at dksX6_worth_1 4 rfl rfl)
theorem dX6_worth_29 : decode cX6_worth 29 = .ok (.invokevirtual 171, 3) := dk_182 0 171 (dk_at dksX6_worth_1 5 rfl rfl)
theorem dX6_worth_32 : decode cX6_worth 32 = .ok (.ifCond .eq 5, 3) := dk_153 0 5 (dk_at dksX6_worth_1 8 rfl rfl)
theorem dX6_worth_35 : decode cX6_worth 35 = .ok (.iconst 0, 1) := dk_3 (dk_at dksX6_worth_1 11 rfl rfl)
theorem dX6_worth_36 : decode cX6_worth 36 = .ok (.ireturn, 1) := dk_172 (dk_at dksX6_worth_1 12 rfl rfl)
theorem dX6_worth_37 : decode cX6_worth 37 = .ok (.aload_n 0, 1) := dk_42 (dk_at dksX6_worth_1 13 rfl rfl)
theorem dX6_worth_38 : decode cX6_worth 38 = .ok (.iload_n 1, 1) := dk_27 (dk_at dksX6_worth_1 14 rfl rfl)
theorem dX6_worth_39 : decode cX6_worth 39 = .ok (.iload_n 2, 1) := dk_28 (dk_at dksX6_worth_1 15 rfl rfl)
theorem dX6_worth_40 : decode cX6_worth 40 = .ok (.iload_n 3, 1) := dk_29 (dk_at dksX6_worth_1 16 rfl rfl)
theorem dX6_worth_41 : decode cX6_worth 41 = .ok (.invokevirtual 109, 3) := dk_182 0 109 (dk_at dksX6_worth_1 17 rfl rfl)
theorem dX6_worth_44 : decode cX6_worth 44 = .ok (.ireturn, 1) := dk_172 (dk_at dksX6_worth_1 20 rfl rfl)
abbrev cX6_total : ByteArray := prog_9_method_78_code
def yX6_total : MethodName := ⟨RX6, "total", "(I)I"⟩
def dkwX6_total_1 : List UInt8 := [42, 27, 182, 0, 123, 172]
abbrev dktX6_total_1 : List UInt8 := dkwX6_total_1 ++ []
def dkwX6_total_0 : List UInt8 := [42, 42, 27, 182, 0, 94, 154, 0, 7, 4, 167, 0, 4, 3, 3, 3, 182, 0, 171, 153, 0, 5, 3, 172]
abbrev dktX6_total_0 : List UInt8 := dkwX6_total_0 ++ dktX6_total_1
theorem dksX6_total_0 : cX6_total.data.toList.drop 0 = dktX6_total_0 := by decide +kernel
theorem dksX6_total_1 : cX6_total.data.toList.drop 24 = dktX6_total_1 := dk_seg dksX6_total_0 24 rfl rfl
theorem dX6_total_0 : decode cX6_total 0 = .ok (.aload_n 0, 1) := dk_42 (dk_at dksX6_total_0 0 rfl rfl)
theorem dX6_total_1 : decode cX6_total 1 = .ok (.aload_n 0, 1) := dk_42 (dk_at dksX6_total_0 1 rfl rfl)
theorem dX6_total_2 : decode cX6_total 2 = .ok (.iload_n 1, 1) := dk_27 (dk_at dksX6_total_0 2 rfl rfl)
theorem dX6_total_3 : decode cX6_total 3 = .ok (.invokevirtual 94, 3) := dk_182 0 94 (dk_at dksX6_total_0 3 rfl rfl)
theorem dX6_total_6 : decode cX6_total 6 = .ok (.ifCond .ne 7, 3) := dk_154 0 7 (dk_at dksX6_total_0 6 rfl rfl)
theorem dX6_total_9 : decode cX6_total 9 = .ok (.iconst 1, 1) := dk_4 (dk_at dksX6_total_0 9 rfl rfl)
theorem dX6_total_10 : decode cX6_total 10 = .ok (.goto 4, 3) := dk_167 0 4 (dk_at dksX6_total_0 10 rfl rfl)
theorem dX6_total_13 : decode cX6_total 13 = .ok (.iconst 0, 1) := dk_3 (dk_at dksX6_total_0 13 rfl rfl)
theorem dX6_total_14 : decode cX6_total 14 = .ok (.iconst 0, 1) := dk_3 (dk_at dksX6_total_0 14 rfl rfl)
theorem dX6_total_15 : decode cX6_total 15 = .ok (.iconst 0, 1) := dk_3 (dk_at dksX6_total_0 15 rfl rfl)
theorem dX6_total_16 : decode cX6_total 16 = .ok (.invokevirtual 171, 3) := dk_182 0 171 (dk_at dksX6_total_0 16 rfl rfl)
theorem dX6_total_19 : decode cX6_total 19 = .ok (.ifCond .eq 5, 3) := dk_153 0 5 (dk_at dksX6_total_0 19 rfl rfl)
theorem dX6_total_22 : decode cX6_total 22 = .ok (.iconst 0, 1) := dk_3 (dk_at dksX6_total_0 22 rfl rfl)
theorem dX6_total_23 : decode cX6_total 23 = .ok (.ireturn, 1) := dk_172 (dk_at dksX6_total_0 23 rfl rfl)
theorem dX6_total_24 : decode cX6_total 24 = .ok (.aload_n 0, 1) := dk_42 (dk_at dksX6_total_1 0 rfl rfl)
theorem dX6_total_25 : decode cX6_total 25 = .ok (.iload_n 1, 1) := dk_27 (dk_at dksX6_total_1 1 rfl rfl)
theorem dX6_total_26 : decode cX6_total 26 = .ok (.invokevirtual 123, 3) := dk_182 0 123 (dk_at dksX6_total_1 2 rfl rfl)
theorem dX6_total_29 : decode cX6_total 29 = .ok (.ireturn, 1) := dk_172 (dk_at dksX6_total_1 5 rfl rfl)
abbrev cX6_worthOfShare : ByteArray := prog_9_method_79_code
def yX6_worthOfShare : MethodName := ⟨RX6, "worthOfShare", "(II)I"⟩
def dkwX6_worthOfShare_1 : List UInt8 := [172, 42, 27, 28, 182, 0, 117, 172]
abbrev dktX6_worthOfShare_1 : List UInt8 := dkwX6_worthOfShare_1 ++ []
def dkwX6_worthOfShare_0 : List UInt8 := [42, 42, 27, 28, 182, 1, 20, 154, 0, 7, 4, 167, 0, 4, 3, 3, 3, 182, 0, 171, 153, 0, 5, 3]
abbrev dktX6_worthOfShare_0 : List UInt8 := dkwX6_worthOfShare_0 ++ dktX6_worthOfShare_1
theorem dksX6_worthOfShare_0 : cX6_worthOfShare.data.toList.drop 0 = dktX6_worthOfShare_0 := by decide +kernel
theorem dksX6_worthOfShare_1 : cX6_worthOfShare.data.toList.drop 24 = dktX6_worthOfShare_1 := dk_seg dksX6_worthOfShare_0 24 rfl rfl
theorem dX6_worthOfShare_0 : decode cX6_worthOfShare 0 = .ok (.aload_n 0, 1) := dk_42 (dk_at dksX6_worthOfShare_0 0 rfl rfl)
theorem dX6_worthOfShare_1 : decode cX6_worthOfShare 1 = .ok (.aload_n 0, 1) := dk_42 (dk_at dksX6_worthOfShare_0 1 rfl rfl)
theorem dX6_worthOfShare_2 : decode cX6_worthOfShare 2 = .ok (.iload_n 1, 1) := dk_27 (dk_at dksX6_worthOfShare_0 2 rfl rfl)
theorem dX6_worthOfShare_3 : decode cX6_worthOfShare 3 = .ok (.iload_n 2, 1) := dk_28 (dk_at dksX6_worthOfShare_0 3 rfl rfl)
theorem dX6_worthOfShare_4 : decode cX6_worthOfShare 4 = .ok (.invokevirtual 276, 3) := dk_182 1 20 (dk_at dksX6_worthOfShare_0 4 rfl rfl)
theorem dX6_worthOfShare_7 : decode cX6_worthOfShare 7 = .ok (.ifCond .ne 7, 3) := dk_154 0 7 (dk_at dksX6_worthOfShare_0 7 rfl rfl)
theorem dX6_worthOfShare_10 : decode cX6_worthOfShare 10 = .ok (.iconst 1, 1) := dk_4 (dk_at dksX6_worthOfShare_0 10 rfl rfl)
theorem dX6_worthOfShare_11 : decode cX6_worthOfShare 11 = .ok (.goto 4, 3) := dk_167 0 4 (dk_at dksX6_worthOfShare_0 11 rfl rfl)
theorem dX6_worthOfShare_14 : decode cX6_worthOfShare 14 = .ok (.iconst 0, 1) := dk_3 (dk_at dksX6_worthOfShare_0 14 rfl rfl)
theorem dX6_worthOfShare_15 : decode cX6_worthOfShare 15 = .ok (.iconst 0, 1) := dk_3 (dk_at dksX6_worthOfShare_0 15 rfl rfl)
theorem dX6_worthOfShare_16 : decode cX6_worthOfShare 16 = .ok (.iconst 0, 1) := dk_3 (dk_at dksX6_worthOfShare_0 16 rfl rfl)
theorem dX6_worthOfShare_17 : decode cX6_worthOfShare 17 = .ok (.invokevirtual 171, 3) := dk_182 0 171 (dk_at dksX6_worthOfShare_0 17 rfl rfl)
theorem dX6_worthOfShare_20 : decode cX6_worthOfShare 20 = .ok (.ifCond .eq 5, 3) := dk_153 0 5 (dk_at dksX6_worthOfShare_0 20 rfl rfl)
theorem dX6_worthOfShare_23 : decode cX6_worthOfShare 23 = .ok (.iconst 0, 1) := dk_3 (dk_at dksX6_worthOfShare_0 23 rfl rfl)
theorem dX6_worthOfShare_24 : decode cX6_worthOfShare 24 = .ok (.ireturn, 1) := dk_172 (dk_at dksX6_worthOfShare_1 0 rfl rfl)
theorem dX6_worthOfShare_25 : decode cX6_worthOfShare 25 = .ok (.aload_n 0, 1) := dk_42 (dk_at dksX6_worthOfShare_1 1 rfl rfl)
theorem dX6_worthOfShare_26 : decode cX6_worthOfShare 26 = .ok (.iload_n 1, 1) := dk_27 (dk_at dksX6_worthOfShare_1 2 rfl rfl)
theorem dX6_worthOfShare_27 : decode cX6_worthOfShare 27 = .ok (.iload_n 2, 1) := dk_28 (dk_at dksX6_worthOfShare_1 3 rfl rfl)
theorem dX6_worthOfShare_28 : decode cX6_worthOfShare 28 = .ok (.invokevirtual 117, 3) := dk_182 0 117 (dk_at dksX6_worthOfShare_1 4 rfl rfl)
theorem dX6_worthOfShare_31 : decode cX6_worthOfShare 31 = .ok (.ireturn, 1) := dk_172 (dk_at dksX6_worthOfShare_1 7 rfl rfl)
abbrev cX6_areSiblings : ByteArray := prog_9_method_6_code
def yX6_areSiblings : MethodName := ⟨RX6, "areSiblings", "(II)Z"⟩
def dkwX6_areSiblings_0 : List UInt8 := [42, 27, 182, 0, 94, 153, 0, 15, 42, 28, 182, 0, 94, 153, 0, 7, 4, 167, 0, 4, 3, 172]
abbrev dktX6_areSiblings_0 : List UInt8 := dkwX6_areSiblings_0 ++ []
theorem dksX6_areSiblings_0 : cX6_areSiblings.data.toList.drop 0 = dktX6_areSiblings_0 := by decide +kernel
theorem dX6_areSiblings_0 : decode cX6_areSiblings 0 = .ok (.aload_n 0, 1) := dk_42 (dk_at dksX6_areSiblings_0 0 rfl rfl)
theorem dX6_areSiblings_1 : decode cX6_areSiblings 1 = .ok (.iload_n 1, 1) := dk_27 (dk_at dksX6_areSiblings_0 1 rfl rfl)
theorem dX6_areSiblings_2 : decode cX6_areSiblings 2 = .ok (.invokevirtual 94, 3) := dk_182 0 94 (dk_at dksX6_areSiblings_0 2 rfl rfl)
theorem dX6_areSiblings_5 : decode cX6_areSiblings 5 = .ok (.ifCond .eq 15, 3) := dk_153 0 15 (dk_at dksX6_areSiblings_0 5 rfl rfl)
theorem dX6_areSiblings_8 : decode cX6_areSiblings 8 = .ok (.aload_n 0, 1) := dk_42 (dk_at dksX6_areSiblings_0 8 rfl rfl)
theorem dX6_areSiblings_9 : decode cX6_areSiblings 9 = .ok (.iload_n 2, 1) := dk_28 (dk_at dksX6_areSiblings_0 9 rfl rfl)
theorem dX6_areSiblings_10 : decode cX6_areSiblings 10 = .ok (.invokevirtual 94, 3) := dk_182 0 94 (dk_at dksX6_areSiblings_0 10 rfl rfl)
theorem dX6_areSiblings_13 : decode cX6_areSiblings 13 = .ok (.ifCond .eq 7, 3) := dk_153 0 7 (dk_at dksX6_areSiblings_0 13 rfl rfl)
theorem dX6_areSiblings_16 : decode cX6_areSiblings 16 = .ok (.iconst 1, 1) := dk_4 (dk_at dksX6_areSiblings_0 16 rfl rfl)
theorem dX6_areSiblings_17 : decode cX6_areSiblings 17 = .ok (.goto 4, 3) := dk_167 0 4 (dk_at dksX6_areSiblings_0 17 rfl rfl)
theorem dX6_areSiblings_20 : decode cX6_areSiblings 20 = .ok (.iconst 0, 1) := dk_3 (dk_at dksX6_areSiblings_0 20 rfl rfl)
theorem dX6_areSiblings_21 : decode cX6_areSiblings 21 = .ok (.ireturn, 1) := dk_172 (dk_at dksX6_areSiblings_0 21 rfl rfl)
abbrev cX6_shareSize : ByteArray := prog_9_method_80_code
def yX6_shareSize : MethodName := ⟨RX6, "shareSize", "(I)I"⟩
def dkwX6_shareSize_1 : List UInt8 := [42, 27, 182, 1, 23, 172]
abbrev dktX6_shareSize_1 : List UInt8 := dkwX6_shareSize_1 ++ []
def dkwX6_shareSize_0 : List UInt8 := [42, 42, 27, 182, 0, 94, 154, 0, 7, 4, 167, 0, 4, 3, 3, 3, 182, 0, 171, 153, 0, 5, 3, 172]
abbrev dktX6_shareSize_0 : List UInt8 := dkwX6_shareSize_0 ++ dktX6_shareSize_1
theorem dksX6_shareSize_0 : cX6_shareSize.data.toList.drop 0 = dktX6_shareSize_0 := by decide +kernel
theorem dksX6_shareSize_1 : cX6_shareSize.data.toList.drop 24 = dktX6_shareSize_1 := dk_seg dksX6_shareSize_0 24 rfl rfl
theorem dX6_shareSize_0 : decode cX6_shareSize 0 = .ok (.aload_n 0, 1) := dk_42 (dk_at dksX6_shareSize_0 0 rfl rfl)
theorem dX6_shareSize_1 : decode cX6_shareSize 1 = .ok (.aload_n 0, 1) := dk_42 (dk_at dksX6_shareSize_0 1 rfl rfl)
theorem dX6_shareSize_2 : decode cX6_shareSize 2 = .ok (.iload_n 1, 1) := dk_27 (dk_at dksX6_shareSize_0 2 rfl rfl)
theorem dX6_shareSize_3 : decode cX6_shareSize 3 = .ok (.invokevirtual 94, 3) := dk_182 0 94 (dk_at dksX6_shareSize_0 3 rfl rfl)
theorem dX6_shareSize_6 : decode cX6_shareSize 6 = .ok (.ifCond .ne 7, 3) := dk_154 0 7 (dk_at dksX6_shareSize_0 6 rfl rfl)
theorem dX6_shareSize_9 : decode cX6_shareSize 9 = .ok (.iconst 1, 1) := dk_4 (dk_at dksX6_shareSize_0 9 rfl rfl)
theorem dX6_shareSize_10 : decode cX6_shareSize 10 = .ok (.goto 4, 3) := dk_167 0 4 (dk_at dksX6_shareSize_0 10 rfl rfl)
theorem dX6_shareSize_13 : decode cX6_shareSize 13 = .ok (.iconst 0, 1) := dk_3 (dk_at dksX6_shareSize_0 13 rfl rfl)
theorem dX6_shareSize_14 : decode cX6_shareSize 14 = .ok (.iconst 0, 1) := dk_3 (dk_at dksX6_shareSize_0 14 rfl rfl)
theorem dX6_shareSize_15 : decode cX6_shareSize 15 = .ok (.iconst 0, 1) := dk_3 (dk_at dksX6_shareSize_0 15 rfl rfl)
theorem dX6_shareSize_16 : decode cX6_shareSize 16 = .ok (.invokevirtual 171, 3) := dk_182 0 171 (dk_at dksX6_shareSize_0 16 rfl rfl)
theorem dX6_shareSize_19 : decode cX6_shareSize 19 = .ok (.ifCond .eq 5, 3) := dk_153 0 5 (dk_at dksX6_shareSize_0 19 rfl rfl)
theorem dX6_shareSize_22 : decode cX6_shareSize 22 = .ok (.iconst 0, 1) := dk_3 (dk_at dksX6_shareSize_0 22 rfl rfl)
theorem dX6_shareSize_23 : decode cX6_shareSize 23 = .ok (.ireturn, 1) := dk_172 (dk_at dksX6_shareSize_0 23 rfl rfl)
theorem dX6_shareSize_24 : decode cX6_shareSize 24 = .ok (.aload_n 0, 1) := dk_42 (dk_at dksX6_shareSize_1 0 rfl rfl)
theorem dX6_shareSize_25 : decode cX6_shareSize 25 = .ok (.iload_n 1, 1) := dk_27 (dk_at dksX6_shareSize_1 1 rfl rfl)
theorem dX6_shareSize_26 : decode cX6_shareSize 26 = .ok (.invokevirtual 279, 3) := dk_182 1 23 (dk_at dksX6_shareSize_1 2 rfl rfl)
theorem dX6_shareSize_29 : decode cX6_shareSize 29 = .ok (.ireturn, 1) := dk_172 (dk_at dksX6_shareSize_1 5 rfl rfl)
abbrev cX6_sizeOf : ByteArray := prog_9_method_17_code
def yX6_sizeOf : MethodName := ⟨RX6, "sizeOf", "(I)I"⟩
def dkwX6_sizeOf_1 : List UInt8 := [4, 167, 0, 4, 3, 96, 61, 132, 3, 1, 167, 255, 226, 28, 172]
abbrev dktX6_sizeOf_1 : List UInt8 := dkwX6_sizeOf_1 ++ []
def dkwX6_sizeOf_0 : List UInt8 := [3, 61, 3, 62, 29, 42, 180, 0, 13, 3, 46, 162, 0, 26, 28, 42, 29, 182, 0, 113, 27, 160, 0, 7]
abbrev dktX6_sizeOf_0 : List UInt8 := dkwX6_sizeOf_0 ++ dktX6_sizeOf_1
theorem dksX6_sizeOf_0 : cX6_sizeOf.data.toList.drop 0 = dktX6_sizeOf_0 := by decide +kernel
theorem dksX6_sizeOf_1 : cX6_sizeOf.data.toList.drop 24 = dktX6_sizeOf_1 := dk_seg dksX6_sizeOf_0 24 rfl rfl
theorem dX6_sizeOf_0 : decode cX6_sizeOf 0 = .ok (.iconst 0, 1) := dk_3 (dk_at dksX6_sizeOf_0 0 rfl rfl)
theorem dX6_sizeOf_1 : decode cX6_sizeOf 1 = .ok (.istore_n 2, 1) := dk_61 (dk_at dksX6_sizeOf_0 1 rfl rfl)
theorem dX6_sizeOf_2 : decode cX6_sizeOf 2 = .ok (.iconst 0, 1) := dk_3 (dk_at dksX6_sizeOf_0 2 rfl rfl)
theorem dX6_sizeOf_3 : decode cX6_sizeOf 3 = .ok (.istore_n 3, 1) := dk_62 (dk_at dksX6_sizeOf_0 3 rfl rfl)
theorem dX6_sizeOf_4 : decode cX6_sizeOf 4 = .ok (.iload_n 3, 1) := dk_29 (dk_at dksX6_sizeOf_0 4 rfl rfl)
theorem dX6_sizeOf_5 : decode cX6_sizeOf 5 = .ok (.aload_n 0, 1) := dk_42 (dk_at dksX6_sizeOf_0 5 rfl rfl)
theorem dX6_sizeOf_6 : decode cX6_sizeOf 6 = .ok (.getfield 13, 3) := dk_180 0 13 (dk_at dksX6_sizeOf_0 6 rfl rfl)
theorem dX6_sizeOf_9 : decode cX6_sizeOf 9 = .ok (.iconst 0, 1) := dk_3 (dk_at dksX6_sizeOf_0 9 rfl rfl)
theorem dX6_sizeOf_10 : decode cX6_sizeOf 10 = .ok (.iaload, 1) := dk_46 (dk_at dksX6_sizeOf_0 10 rfl rfl)
theorem dX6_sizeOf_11 : decode cX6_sizeOf 11 = .ok (.if_icmp .ge 26, 3) := dk_162 0 26 (dk_at dksX6_sizeOf_0 11 rfl rfl)
theorem dX6_sizeOf_14 : decode cX6_sizeOf 14 = .ok (.iload_n 2, 1) := dk_28 (dk_at dksX6_sizeOf_0 14 rfl rfl)
theorem dX6_sizeOf_15 : decode cX6_sizeOf 15 = .ok (.aload_n 0, 1) := dk_42 (dk_at dksX6_sizeOf_0 15 rfl rfl)
theorem dX6_sizeOf_16 : decode cX6_sizeOf 16 = .ok (.iload_n 3, 1) := dk_29 (dk_at dksX6_sizeOf_0 16 rfl rfl)
theorem dX6_sizeOf_17 : decode cX6_sizeOf 17 = .ok (.invokevirtual 113, 3) := dk_182 0 113 (dk_at dksX6_sizeOf_0 17 rfl rfl)
theorem dX6_sizeOf_20 : decode cX6_sizeOf 20 = .ok (.iload_n 1, 1) := dk_27 (dk_at dksX6_sizeOf_0 20 rfl rfl)
theorem dX6_sizeOf_21 : decode cX6_sizeOf 21 = .ok (.if_icmp .ne 7, 3) := dk_160 0 7 (dk_at dksX6_sizeOf_0 21 rfl rfl)
theorem dX6_sizeOf_24 : decode cX6_sizeOf 24 = .ok (.iconst 1, 1) := dk_4 (dk_at dksX6_sizeOf_1 0 rfl rfl)
theorem dX6_sizeOf_25 : decode cX6_sizeOf 25 = .ok (.goto 4, 3) := dk_167 0 4 (dk_at dksX6_sizeOf_1 1 rfl rfl)
theorem dX6_sizeOf_28 : decode cX6_sizeOf 28 = .ok (.iconst 0, 1) := dk_3 (dk_at dksX6_sizeOf_1 4 rfl rfl)
theorem dX6_sizeOf_29 : decode cX6_sizeOf 29 = .ok (.iadd, 1) := dk_96 (dk_at dksX6_sizeOf_1 5 rfl rfl)
theorem dX6_sizeOf_30 : decode cX6_sizeOf 30 = .ok (.istore_n 2, 1) := dk_61 (dk_at dksX6_sizeOf_1 6 rfl rfl)
theorem dX6_sizeOf_31 : decode cX6_sizeOf 31 = .ok (.iinc 3 1, 3) := dk_132 3 1 (dk_at dksX6_sizeOf_1 7 rfl rfl)
theorem dX6_sizeOf_34 : decode cX6_sizeOf 34 = .ok (.goto (-30), 3) := dk_167 255 226 (dk_at dksX6_sizeOf_1 10 rfl rfl)
theorem dX6_sizeOf_37 : decode cX6_sizeOf 37 = .ok (.iload_n 2, 1) := dk_28 (dk_at dksX6_sizeOf_1 13 rfl rfl)
theorem dX6_sizeOf_38 : decode cX6_sizeOf 38 = .ok (.ireturn, 1) := dk_172 (dk_at dksX6_sizeOf_1 14 rfl rfl)
abbrev cX6_pieceCount : ByteArray := prog_9_method_81_code
def yX6_pieceCount : MethodName := ⟨RX6, "pieceCount", "(I)I"⟩
def dkwX6_pieceCount_1 : List UInt8 := [42, 27, 182, 1, 26, 172]
abbrev dktX6_pieceCount_1 : List UInt8 := dkwX6_pieceCount_1 ++ []
def dkwX6_pieceCount_0 : List UInt8 := [42, 42, 27, 182, 0, 94, 154, 0, 7, 4, 167, 0, 4, 3, 3, 3, 182, 0, 171, 153, 0, 5, 3, 172]
abbrev dktX6_pieceCount_0 : List UInt8 := dkwX6_pieceCount_0 ++ dktX6_pieceCount_1
theorem dksX6_pieceCount_0 : cX6_pieceCount.data.toList.drop 0 = dktX6_pieceCount_0 := by decide +kernel
theorem dksX6_pieceCount_1 : cX6_pieceCount.data.toList.drop 24 = dktX6_pieceCount_1 := dk_seg dksX6_pieceCount_0 24 rfl rfl
theorem dX6_pieceCount_0 : decode cX6_pieceCount 0 = .ok (.aload_n 0, 1) := dk_42 (dk_at dksX6_pieceCount_0 0 rfl rfl)
theorem dX6_pieceCount_1 : decode cX6_pieceCount 1 = .ok (.aload_n 0, 1) := dk_42 (dk_at dksX6_pieceCount_0 1 rfl rfl)
theorem dX6_pieceCount_2 : decode cX6_pieceCount 2 = .ok (.iload_n 1, 1) := dk_27 (dk_at dksX6_pieceCount_0 2 rfl rfl)
theorem dX6_pieceCount_3 : decode cX6_pieceCount 3 = .ok (.invokevirtual 94, 3) := dk_182 0 94 (dk_at dksX6_pieceCount_0 3 rfl rfl)
theorem dX6_pieceCount_6 : decode cX6_pieceCount 6 = .ok (.ifCond .ne 7, 3) := dk_154 0 7 (dk_at dksX6_pieceCount_0 6 rfl rfl)
theorem dX6_pieceCount_9 : decode cX6_pieceCount 9 = .ok (.iconst 1, 1) := dk_4 (dk_at dksX6_pieceCount_0 9 rfl rfl)
theorem dX6_pieceCount_10 : decode cX6_pieceCount 10 = .ok (.goto 4, 3) := dk_167 0 4 (dk_at dksX6_pieceCount_0 10 rfl rfl)
theorem dX6_pieceCount_13 : decode cX6_pieceCount 13 = .ok (.iconst 0, 1) := dk_3 (dk_at dksX6_pieceCount_0 13 rfl rfl)
theorem dX6_pieceCount_14 : decode cX6_pieceCount 14 = .ok (.iconst 0, 1) := dk_3 (dk_at dksX6_pieceCount_0 14 rfl rfl)
theorem dX6_pieceCount_15 : decode cX6_pieceCount 15 = .ok (.iconst 0, 1) := dk_3 (dk_at dksX6_pieceCount_0 15 rfl rfl)
theorem dX6_pieceCount_16 : decode cX6_pieceCount 16 = .ok (.invokevirtual 171, 3) := dk_182 0 171 (dk_at dksX6_pieceCount_0 16 rfl rfl)
theorem dX6_pieceCount_19 : decode cX6_pieceCount 19 = .ok (.ifCond .eq 5, 3) := dk_153 0 5 (dk_at dksX6_pieceCount_0 19 rfl rfl)
theorem dX6_pieceCount_22 : decode cX6_pieceCount 22 = .ok (.iconst 0, 1) := dk_3 (dk_at dksX6_pieceCount_0 22 rfl rfl)
theorem dX6_pieceCount_23 : decode cX6_pieceCount 23 = .ok (.ireturn, 1) := dk_172 (dk_at dksX6_pieceCount_0 23 rfl rfl)
theorem dX6_pieceCount_24 : decode cX6_pieceCount 24 = .ok (.aload_n 0, 1) := dk_42 (dk_at dksX6_pieceCount_1 0 rfl rfl)
theorem dX6_pieceCount_25 : decode cX6_pieceCount 25 = .ok (.iload_n 1, 1) := dk_27 (dk_at dksX6_pieceCount_1 1 rfl rfl)
theorem dX6_pieceCount_26 : decode cX6_pieceCount 26 = .ok (.invokevirtual 282, 3) := dk_182 1 26 (dk_at dksX6_pieceCount_1 2 rfl rfl)
theorem dX6_pieceCount_29 : decode cX6_pieceCount 29 = .ok (.ireturn, 1) := dk_172 (dk_at dksX6_pieceCount_1 5 rfl rfl)
abbrev cX6_pieces : ByteArray := prog_9_method_18_code
def yX6_pieces : MethodName := ⟨RX6, "pieces", "(I)I"⟩
def dkwX6_pieces_2 : List UInt8 := [132, 3, 1, 167, 255, 211, 28, 172]
abbrev dktX6_pieces_2 : List UInt8 := dkwX6_pieces_2 ++ []
def dkwX6_pieces_1 : List UInt8 := [29, 153, 0, 14, 42, 29, 4, 100, 182, 0, 113, 27, 159, 0, 7, 4, 167, 0, 4, 3, 96, 61]
abbrev dktX6_pieces_1 : List UInt8 := dkwX6_pieces_1 ++ dktX6_pieces_2
def dkwX6_pieces_0 : List UInt8 := [3, 61, 3, 62, 29, 42, 180, 0, 13, 3, 46, 162, 0, 41, 28, 42, 29, 182, 0, 113, 27, 160, 0, 22]
abbrev dktX6_pieces_0 : List UInt8 := dkwX6_pieces_0 ++ dktX6_pieces_1
theorem dksX6_pieces_0 : cX6_pieces.data.toList.drop 0 = dktX6_pieces_0 := by decide +kernel
theorem dksX6_pieces_1 : cX6_pieces.data.toList.drop 24 = dktX6_pieces_1 := dk_seg dksX6_pieces_0 24 rfl rfl
theorem dksX6_pieces_2 : cX6_pieces.data.toList.drop 46 = dktX6_pieces_2 := dk_seg dksX6_pieces_1 22 rfl rfl
theorem dX6_pieces_0 : decode cX6_pieces 0 = .ok (.iconst 0, 1) := dk_3 (dk_at dksX6_pieces_0 0 rfl rfl)
theorem dX6_pieces_1 : decode cX6_pieces 1 = .ok (.istore_n 2, 1) := dk_61 (dk_at dksX6_pieces_0 1 rfl rfl)
theorem dX6_pieces_2 : decode cX6_pieces 2 = .ok (.iconst 0, 1) := dk_3 (dk_at dksX6_pieces_0 2 rfl rfl)
theorem dX6_pieces_3 : decode cX6_pieces 3 = .ok (.istore_n 3, 1) := dk_62 (dk_at dksX6_pieces_0 3 rfl rfl)
theorem dX6_pieces_4 : decode cX6_pieces 4 = .ok (.iload_n 3, 1) := dk_29 (dk_at dksX6_pieces_0 4 rfl rfl)
theorem dX6_pieces_5 : decode cX6_pieces 5 = .ok (.aload_n 0, 1) := dk_42 (dk_at dksX6_pieces_0 5 rfl rfl)
theorem dX6_pieces_6 : decode cX6_pieces 6 = .ok (.getfield 13, 3) := dk_180 0 13 (dk_at dksX6_pieces_0 6 rfl rfl)
theorem dX6_pieces_9 : decode cX6_pieces 9 = .ok (.iconst 0, 1) := dk_3 (dk_at dksX6_pieces_0 9 rfl rfl)
theorem dX6_pieces_10 : decode cX6_pieces 10 = .ok (.iaload, 1) := dk_46 (dk_at dksX6_pieces_0 10 rfl rfl)
theorem dX6_pieces_11 : decode cX6_pieces 11 = .ok (.if_icmp .ge 41, 3) := dk_162 0 41 (dk_at dksX6_pieces_0 11 rfl rfl)
theorem dX6_pieces_14 : decode cX6_pieces 14 = .ok (.iload_n 2, 1) := dk_28 (dk_at dksX6_pieces_0 14 rfl rfl)
theorem dX6_pieces_15 : decode cX6_pieces 15 = .ok (.aload_n 0, 1) := dk_42 (dk_at dksX6_pieces_0 15 rfl rfl)
theorem dX6_pieces_16 : decode cX6_pieces 16 = .ok (.iload_n 3, 1) := dk_29 (dk_at dksX6_pieces_0 16 rfl rfl)
theorem dX6_pieces_17 : decode cX6_pieces 17 = .ok (.invokevirtual 113, 3) := dk_182 0 113 (dk_at dksX6_pieces_0 17 rfl rfl)
theorem dX6_pieces_20 : decode cX6_pieces 20 = .ok (.iload_n 1, 1) := dk_27 (dk_at dksX6_pieces_0 20 rfl rfl)
theorem dX6_pieces_21 : decode cX6_pieces 21 = .ok (.if_icmp .ne 22, 3) := dk_160 0 22 (dk_at dksX6_pieces_0 21 rfl rfl)
theorem dX6_pieces_24 : decode cX6_pieces 24 = .ok (.iload_n 3, 1) := dk_29 (dk_at dksX6_pieces_1 0 rfl rfl)
theorem dX6_pieces_25 : decode cX6_pieces 25 = .ok (.ifCond .eq 14, 3) := dk_153 0 14 (dk_at dksX6_pieces_1 1 rfl rfl)
theorem dX6_pieces_28 : decode cX6_pieces 28 = .ok (.aload_n 0, 1) := dk_42 (dk_at dksX6_pieces_1 4 rfl rfl)
theorem dX6_pieces_29 : decode cX6_pieces 29 = .ok (.iload_n 3, 1) := dk_29 (dk_at dksX6_pieces_1 5 rfl rfl)
theorem dX6_pieces_30 : decode cX6_pieces 30 = .ok (.iconst 1, 1) := dk_4 (dk_at dksX6_pieces_1 6 rfl rfl)
theorem dX6_pieces_31 : decode cX6_pieces 31 = .ok (.isub, 1) := dk_100 (dk_at dksX6_pieces_1 7 rfl rfl)
theorem dX6_pieces_32 : decode cX6_pieces 32 = .ok (.invokevirtual 113, 3) := dk_182 0 113 (dk_at dksX6_pieces_1 8 rfl rfl)
theorem dX6_pieces_35 : decode cX6_pieces 35 = .ok (.iload_n 1, 1) := dk_27 (dk_at dksX6_pieces_1 11 rfl rfl)
theorem dX6_pieces_36 : decode cX6_pieces 36 = .ok (.if_icmp .eq 7, 3) := dk_159 0 7 (dk_at dksX6_pieces_1 12 rfl rfl)
theorem dX6_pieces_39 : decode cX6_pieces 39 = .ok (.iconst 1, 1) := dk_4 (dk_at dksX6_pieces_1 15 rfl rfl)
theorem dX6_pieces_40 : decode cX6_pieces 40 = .ok (.goto 4, 3) := dk_167 0 4 (dk_at dksX6_pieces_1 16 rfl rfl)
theorem dX6_pieces_43 : decode cX6_pieces 43 = .ok (.iconst 0, 1) := dk_3 (dk_at dksX6_pieces_1 19 rfl rfl)
theorem dX6_pieces_44 : decode cX6_pieces 44 = .ok (.iadd, 1) := dk_96 (dk_at dksX6_pieces_1 20 rfl rfl)
theorem dX6_pieces_45 : decode cX6_pieces 45 = .ok (.istore_n 2, 1) := dk_61 (dk_at dksX6_pieces_1 21 rfl rfl)
theorem dX6_pieces_46 : decode cX6_pieces 46 = .ok (.iinc 3 1, 3) := dk_132 3 1 (dk_at dksX6_pieces_2 0 rfl rfl)
theorem dX6_pieces_49 : decode cX6_pieces 49 = .ok (.goto (-45), 3) := dk_167 255 211 (dk_at dksX6_pieces_2 3 rfl rfl)
theorem dX6_pieces_52 : decode cX6_pieces 52 = .ok (.iload_n 2, 1) := dk_28 (dk_at dksX6_pieces_2 6 rfl rfl)
theorem dX6_pieces_53 : decode cX6_pieces 53 = .ok (.ireturn, 1) := dk_172 (dk_at dksX6_pieces_2 7 rfl rfl)
abbrev cX6_freeCount : ByteArray := prog_9_method_82_code
def yX6_freeCount : MethodName := ⟨RX6, "freeCount", "()I"⟩
def dkwX6_freeCount_0 : List UInt8 := [42, 42, 2, 182, 1, 23, 182, 1, 17, 172]
abbrev dktX6_freeCount_0 : List UInt8 := dkwX6_freeCount_0 ++ []
theorem dksX6_freeCount_0 : cX6_freeCount.data.toList.drop 0 = dktX6_freeCount_0 := by decide +kernel
theorem dX6_freeCount_0 : decode cX6_freeCount 0 = .ok (.aload_n 0, 1) := dk_42 (dk_at dksX6_freeCount_0 0 rfl rfl)
theorem dX6_freeCount_1 : decode cX6_freeCount 1 = .ok (.aload_n 0, 1) := dk_42 (dk_at dksX6_freeCount_0 1 rfl rfl)
theorem dX6_freeCount_2 : decode cX6_freeCount 2 = .ok (.iconst (-1), 1) := dk_2 (dk_at dksX6_freeCount_0 2 rfl rfl)
theorem dX6_freeCount_3 : decode cX6_freeCount 3 = .ok (.invokevirtual 279, 3) := dk_182 1 23 (dk_at dksX6_freeCount_0 3 rfl rfl)
theorem dX6_freeCount_6 : decode cX6_freeCount 6 = .ok (.invokevirtual 273, 3) := dk_182 1 17 (dk_at dksX6_freeCount_0 6 rfl rfl)
theorem dX6_freeCount_9 : decode cX6_freeCount 9 = .ok (.ireturn, 1) := dk_172 (dk_at dksX6_freeCount_0 9 rfl rfl)
abbrev cX6_mark : ByteArray := prog_9_method_83_code
def yX6_mark : MethodName := ⟨RX6, "mark", "(III)I"⟩
def dkwX6_mark_2 : List UInt8 := [28, 29, 182, 0, 147, 172]
abbrev dktX6_mark_2 : List UInt8 := dkwX6_mark_2 ++ []
def dkwX6_mark_1 : List UInt8 := [16, 24, 184, 0, 90, 154, 0, 7, 4, 167, 0, 4, 3, 3, 182, 0, 171, 153, 0, 5, 3, 172, 42, 27]
abbrev dktX6_mark_1 : List UInt8 := dkwX6_mark_1 ++ dktX6_mark_2
def dkwX6_mark_0 : List UInt8 := [42, 42, 27, 182, 0, 94, 153, 0, 11, 42, 28, 182, 0, 98, 154, 0, 7, 4, 167, 0, 4, 3, 29, 4]
abbrev dktX6_mark_0 : List UInt8 := dkwX6_mark_0 ++ dktX6_mark_1
theorem dksX6_mark_0 : cX6_mark.data.toList.drop 0 = dktX6_mark_0 := by decide +kernel
theorem dksX6_mark_1 : cX6_mark.data.toList.drop 24 = dktX6_mark_1 := dk_seg dksX6_mark_0 24 rfl rfl
theorem dksX6_mark_2 : cX6_mark.data.toList.drop 48 = dktX6_mark_2 := dk_seg dksX6_mark_1 24 rfl rfl
theorem dX6_mark_0 : decode cX6_mark 0 = .ok (.aload_n 0, 1) := dk_42 (dk_at dksX6_mark_0 0 rfl rfl)
theorem dX6_mark_1 : decode cX6_mark 1 = .ok (.aload_n 0, 1) := dk_42 (dk_at dksX6_mark_0 1 rfl rfl)
theorem dX6_mark_2 : decode cX6_mark 2 = .ok (.iload_n 1, 1) := dk_27 (dk_at dksX6_mark_0 2 rfl rfl)
theorem dX6_mark_3 : decode cX6_mark 3 = .ok (.invokevirtual 94, 3) := dk_182 0 94 (dk_at dksX6_mark_0 3 rfl rfl)
theorem dX6_mark_6 : decode cX6_mark 6 = .ok (.ifCond .eq 11, 3) := dk_153 0 11 (dk_at dksX6_mark_0 6 rfl rfl)
theorem dX6_mark_9 : decode cX6_mark 9 = .ok (.aload_n 0, 1) := dk_42 (dk_at dksX6_mark_0 9 rfl rfl)
theorem dX6_mark_10 : decode cX6_mark 10 = .ok (.iload_n 2, 1) := dk_28 (dk_at dksX6_mark_0 10 rfl rfl)
theorem dX6_mark_11 : decode cX6_mark 11 = .ok (.invokevirtual 98, 3) := dk_182 0 98 (dk_at dksX6_mark_0 11 rfl rfl)
theorem dX6_mark_14 : decode cX6_mark 14 = .ok (.ifCond .ne 7, 3) := dk_154 0 7 (dk_at dksX6_mark_0 14 rfl rfl)
theorem dX6_mark_17 : decode cX6_mark 17 = .ok (.iconst 1, 1) := dk_4 (dk_at dksX6_mark_0 17 rfl rfl)
theorem dX6_mark_18 : decode cX6_mark 18 = .ok (.goto 4, 3) := dk_167 0 4 (dk_at dksX6_mark_0 18 rfl rfl)
theorem dX6_mark_21 : decode cX6_mark 21 = .ok (.iconst 0, 1) := dk_3 (dk_at dksX6_mark_0 21 rfl rfl)
theorem dX6_mark_22 : decode cX6_mark 22 = .ok (.iload_n 3, 1) := dk_29 (dk_at dksX6_mark_0 22 rfl rfl)
theorem dX6_mark_23 : decode cX6_mark 23 = .ok (.iconst 1, 1) := dk_4 (dk_at dksX6_mark_0 23 rfl rfl)
theorem dX6_mark_24 : decode cX6_mark 24 = .ok (.bipush 24, 2) := dk_16 24 (dk_at dksX6_mark_1 0 rfl rfl)
theorem dX6_mark_26 : decode cX6_mark 26 = .ok (.invokestatic 90, 3) := dk_184 0 90 (dk_at dksX6_mark_1 2 rfl rfl)
theorem dX6_mark_29 : decode cX6_mark 29 = .ok (.ifCond .ne 7, 3) := dk_154 0 7 (dk_at dksX6_mark_1 5 rfl rfl)
theorem dX6_mark_32 : decode cX6_mark 32 = .ok (.iconst 1, 1) := dk_4 (dk_at dksX6_mark_1 8 rfl rfl)
theorem dX6_mark_33 : decode cX6_mark 33 = .ok (.goto 4, 3) := dk_167 0 4 (dk_at dksX6_mark_1 9 rfl rfl)
theorem dX6_mark_36 : decode cX6_mark 36 = .ok (.iconst 0, 1) := dk_3 (dk_at dksX6_mark_1 12 rfl rfl)
theorem dX6_mark_37 : decode cX6_mark 37 = .ok (.iconst 0, 1) := dk_3 (dk_at dksX6_mark_1 13 rfl rfl)
theorem dX6_mark_38 : decode cX6_mark 38 = .ok (.invokevirtual 171, 3) := dk_182 0 171 (dk_at dksX6_mark_1 14 rfl rfl)
theorem dX6_mark_41 : decode cX6_mark 41 = .ok (.ifCond .eq 5, 3) := dk_153 0 5 (dk_at dksX6_mark_1 17 rfl rfl)
theorem dX6_mark_44 : decode cX6_mark 44 = .ok (.iconst 0, 1) := dk_3 (dk_at dksX6_mark_1 20 rfl rfl)
theorem dX6_mark_45 : decode cX6_mark 45 = .ok (.ireturn, 1) := dk_172 (dk_at dksX6_mark_1 21 rfl rfl)
theorem dX6_mark_46 : decode cX6_mark 46 = .ok (.aload_n 0, 1) := dk_42 (dk_at dksX6_mark_1 22 rfl rfl)
theorem dX6_mark_47 : decode cX6_mark 47 = .ok (.iload_n 1, 1) := dk_27 (dk_at dksX6_mark_1 23 rfl rfl)
theorem dX6_mark_48 : decode cX6_mark 48 = .ok (.iload_n 2, 1) := dk_28 (dk_at dksX6_mark_2 0 rfl rfl)
theorem dX6_mark_49 : decode cX6_mark 49 = .ok (.iload_n 3, 1) := dk_29 (dk_at dksX6_mark_2 1 rfl rfl)
theorem dX6_mark_50 : decode cX6_mark 50 = .ok (.invokevirtual 147, 3) := dk_182 0 147 (dk_at dksX6_mark_2 2 rfl rfl)
theorem dX6_mark_53 : decode cX6_mark 53 = .ok (.ireturn, 1) := dk_172 (dk_at dksX6_mark_2 5 rfl rfl)
abbrev cX6_favouriteFreeCell : ByteArray := prog_9_method_84_code
def yX6_favouriteFreeCell : MethodName := ⟨RX6, "favouriteFreeCell", "(I)I"⟩
def dkwX6_favouriteFreeCell_1 : List UInt8 := [42, 27, 182, 0, 153, 172]
abbrev dktX6_favouriteFreeCell_1 : List UInt8 := dkwX6_favouriteFreeCell_1 ++ []
def dkwX6_favouriteFreeCell_0 : List UInt8 := [42, 42, 27, 182, 0, 94, 154, 0, 7, 4, 167, 0, 4, 3, 3, 3, 182, 0, 171, 153, 0, 5, 3, 172]
abbrev dktX6_favouriteFreeCell_0 : List UInt8 := dkwX6_favouriteFreeCell_0 ++ dktX6_favouriteFreeCell_1
theorem dksX6_favouriteFreeCell_0 : cX6_favouriteFreeCell.data.toList.drop 0 = dktX6_favouriteFreeCell_0 := by decide +kernel
theorem dksX6_favouriteFreeCell_1 : cX6_favouriteFreeCell.data.toList.drop 24 = dktX6_favouriteFreeCell_1 := dk_seg dksX6_favouriteFreeCell_0 24 rfl rfl
theorem dX6_favouriteFreeCell_0 : decode cX6_favouriteFreeCell 0 = .ok (.aload_n 0, 1) := dk_42 (dk_at dksX6_favouriteFreeCell_0 0 rfl rfl)
theorem dX6_favouriteFreeCell_1 : decode cX6_favouriteFreeCell 1 = .ok (.aload_n 0, 1) := dk_42 (dk_at dksX6_favouriteFreeCell_0 1 rfl rfl)
theorem dX6_favouriteFreeCell_2 : decode cX6_favouriteFreeCell 2 = .ok (.iload_n 1, 1) := dk_27 (dk_at dksX6_favouriteFreeCell_0 2 rfl rfl)
theorem dX6_favouriteFreeCell_3 : decode cX6_favouriteFreeCell 3 = .ok (.invokevirtual 94, 3) := dk_182 0 94 (dk_at dksX6_favouriteFreeCell_0 3 rfl rfl)
theorem dX6_favouriteFreeCell_6 : decode cX6_favouriteFreeCell 6 = .ok (.ifCond .ne 7, 3) := dk_154 0 7 (dk_at dksX6_favouriteFreeCell_0 6 rfl rfl)
theorem dX6_favouriteFreeCell_9 : decode cX6_favouriteFreeCell 9 = .ok (.iconst 1, 1) := dk_4 (dk_at dksX6_favouriteFreeCell_0 9 rfl rfl)
theorem dX6_favouriteFreeCell_10 : decode cX6_favouriteFreeCell 10 = .ok (.goto 4, 3) := dk_167 0 4 (dk_at dksX6_favouriteFreeCell_0 10 rfl rfl)
theorem dX6_favouriteFreeCell_13 : decode cX6_favouriteFreeCell 13 = .ok (.iconst 0, 1) := dk_3 (dk_at dksX6_favouriteFreeCell_0 13 rfl rfl)
theorem dX6_favouriteFreeCell_14 : decode cX6_favouriteFreeCell 14 = .ok (.iconst 0, 1) := dk_3 (dk_at dksX6_favouriteFreeCell_0 14 rfl rfl)
theorem dX6_favouriteFreeCell_15 : decode cX6_favouriteFreeCell 15 = .ok (.iconst 0, 1) := dk_3 (dk_at dksX6_favouriteFreeCell_0 15 rfl rfl)
theorem dX6_favouriteFreeCell_16 : decode cX6_favouriteFreeCell 16 = .ok (.invokevirtual 171, 3) := dk_182 0 171 (dk_at dksX6_favouriteFreeCell_0 16 rfl rfl)
theorem dX6_favouriteFreeCell_19 : decode cX6_favouriteFreeCell 19 = .ok (.ifCond .eq 5, 3) := dk_153 0 5 (dk_at dksX6_favouriteFreeCell_0 19 rfl rfl)
theorem dX6_favouriteFreeCell_22 : decode cX6_favouriteFreeCell 22 = .ok (.iconst 0, 1) := dk_3 (dk_at dksX6_favouriteFreeCell_0 22 rfl rfl)
theorem dX6_favouriteFreeCell_23 : decode cX6_favouriteFreeCell 23 = .ok (.ireturn, 1) := dk_172 (dk_at dksX6_favouriteFreeCell_0 23 rfl rfl)
theorem dX6_favouriteFreeCell_24 : decode cX6_favouriteFreeCell 24 = .ok (.aload_n 0, 1) := dk_42 (dk_at dksX6_favouriteFreeCell_1 0 rfl rfl)
theorem dX6_favouriteFreeCell_25 : decode cX6_favouriteFreeCell 25 = .ok (.iload_n 1, 1) := dk_27 (dk_at dksX6_favouriteFreeCell_1 1 rfl rfl)
theorem dX6_favouriteFreeCell_26 : decode cX6_favouriteFreeCell 26 = .ok (.invokevirtual 153, 3) := dk_182 0 153 (dk_at dksX6_favouriteFreeCell_1 2 rfl rfl)
theorem dX6_favouriteFreeCell_29 : decode cX6_favouriteFreeCell 29 = .ok (.ireturn, 1) := dk_172 (dk_at dksX6_favouriteFreeCell_1 5 rfl rfl)
abbrev cX6_envies : ByteArray := prog_9_method_85_code
def yX6_envies : MethodName := ⟨RX6, "envies", "(II)Z"⟩
def dkwX6_envies_1 : List UInt8 := [172, 42, 27, 28, 182, 0, 129, 172]
abbrev dktX6_envies_1 : List UInt8 := dkwX6_envies_1 ++ []
def dkwX6_envies_0 : List UInt8 := [42, 42, 27, 28, 182, 1, 20, 154, 0, 7, 4, 167, 0, 4, 3, 3, 3, 182, 0, 171, 153, 0, 5, 3]
abbrev dktX6_envies_0 : List UInt8 := dkwX6_envies_0 ++ dktX6_envies_1
theorem dksX6_envies_0 : cX6_envies.data.toList.drop 0 = dktX6_envies_0 := by decide +kernel
theorem dksX6_envies_1 : cX6_envies.data.toList.drop 24 = dktX6_envies_1 := dk_seg dksX6_envies_0 24 rfl rfl
theorem dX6_envies_0 : decode cX6_envies 0 = .ok (.aload_n 0, 1) := dk_42 (dk_at dksX6_envies_0 0 rfl rfl)
theorem dX6_envies_1 : decode cX6_envies 1 = .ok (.aload_n 0, 1) := dk_42 (dk_at dksX6_envies_0 1 rfl rfl)
theorem dX6_envies_2 : decode cX6_envies 2 = .ok (.iload_n 1, 1) := dk_27 (dk_at dksX6_envies_0 2 rfl rfl)
theorem dX6_envies_3 : decode cX6_envies 3 = .ok (.iload_n 2, 1) := dk_28 (dk_at dksX6_envies_0 3 rfl rfl)
theorem dX6_envies_4 : decode cX6_envies 4 = .ok (.invokevirtual 276, 3) := dk_182 1 20 (dk_at dksX6_envies_0 4 rfl rfl)
theorem dX6_envies_7 : decode cX6_envies 7 = .ok (.ifCond .ne 7, 3) := dk_154 0 7 (dk_at dksX6_envies_0 7 rfl rfl)
theorem dX6_envies_10 : decode cX6_envies 10 = .ok (.iconst 1, 1) := dk_4 (dk_at dksX6_envies_0 10 rfl rfl)
theorem dX6_envies_11 : decode cX6_envies 11 = .ok (.goto 4, 3) := dk_167 0 4 (dk_at dksX6_envies_0 11 rfl rfl)
theorem dX6_envies_14 : decode cX6_envies 14 = .ok (.iconst 0, 1) := dk_3 (dk_at dksX6_envies_0 14 rfl rfl)
theorem dX6_envies_15 : decode cX6_envies 15 = .ok (.iconst 0, 1) := dk_3 (dk_at dksX6_envies_0 15 rfl rfl)
theorem dX6_envies_16 : decode cX6_envies 16 = .ok (.iconst 0, 1) := dk_3 (dk_at dksX6_envies_0 16 rfl rfl)
theorem dX6_envies_17 : decode cX6_envies 17 = .ok (.invokevirtual 171, 3) := dk_182 0 171 (dk_at dksX6_envies_0 17 rfl rfl)
theorem dX6_envies_20 : decode cX6_envies 20 = .ok (.ifCond .eq 5, 3) := dk_153 0 5 (dk_at dksX6_envies_0 20 rfl rfl)
theorem dX6_envies_23 : decode cX6_envies 23 = .ok (.iconst 0, 1) := dk_3 (dk_at dksX6_envies_0 23 rfl rfl)
theorem dX6_envies_24 : decode cX6_envies 24 = .ok (.ireturn, 1) := dk_172 (dk_at dksX6_envies_1 0 rfl rfl)
theorem dX6_envies_25 : decode cX6_envies 25 = .ok (.aload_n 0, 1) := dk_42 (dk_at dksX6_envies_1 1 rfl rfl)
theorem dX6_envies_26 : decode cX6_envies 26 = .ok (.iload_n 1, 1) := dk_27 (dk_at dksX6_envies_1 2 rfl rfl)
theorem dX6_envies_27 : decode cX6_envies 27 = .ok (.iload_n 2, 1) := dk_28 (dk_at dksX6_envies_1 3 rfl rfl)
theorem dX6_envies_28 : decode cX6_envies 28 = .ok (.invokevirtual 129, 3) := dk_182 0 129 (dk_at dksX6_envies_1 4 rfl rfl)
theorem dX6_envies_31 : decode cX6_envies 31 = .ok (.ireturn, 1) := dk_172 (dk_at dksX6_envies_1 7 rfl rfl)
abbrev cX6_isMild : ByteArray := prog_9_method_86_code
def yX6_isMild : MethodName := ⟨RX6, "isMild", "(II)Z"⟩
def dkwX6_isMild_2 : List UInt8 := [182, 1, 29, 172]
abbrev dktX6_isMild_2 : List UInt8 := dkwX6_isMild_2 ++ []
def dkwX6_isMild_1 : List UInt8 := [182, 0, 129, 154, 0, 7, 4, 167, 0, 4, 3, 3, 182, 0, 171, 153, 0, 5, 3, 172, 42, 27, 28]
abbrev dktX6_isMild_1 : List UInt8 := dkwX6_isMild_1 ++ dktX6_isMild_2
def dkwX6_isMild_0 : List UInt8 := [42, 27, 28, 182, 1, 20, 62, 42, 29, 154, 0, 7, 4, 167, 0, 4, 3, 29, 153, 0, 16, 42, 27, 28]
abbrev dktX6_isMild_0 : List UInt8 := dkwX6_isMild_0 ++ dktX6_isMild_1
theorem dksX6_isMild_0 : cX6_isMild.data.toList.drop 0 = dktX6_isMild_0 := by decide +kernel
theorem dksX6_isMild_1 : cX6_isMild.data.toList.drop 24 = dktX6_isMild_1 := dk_seg dksX6_isMild_0 24 rfl rfl
theorem dksX6_isMild_2 : cX6_isMild.data.toList.drop 47 = dktX6_isMild_2 := dk_seg dksX6_isMild_1 23 rfl rfl
theorem dX6_isMild_0 : decode cX6_isMild 0 = .ok (.aload_n 0, 1) := dk_42 (dk_at dksX6_isMild_0 0 rfl rfl)
theorem dX6_isMild_1 : decode cX6_isMild 1 = .ok (.iload_n 1, 1) := dk_27 (dk_at dksX6_isMild_0 1 rfl rfl)
theorem dX6_isMild_2 : decode cX6_isMild 2 = .ok (.iload_n 2, 1) := dk_28 (dk_at dksX6_isMild_0 2 rfl rfl)
theorem dX6_isMild_3 : decode cX6_isMild 3 = .ok (.invokevirtual 276, 3) := dk_182 1 20 (dk_at dksX6_isMild_0 3 rfl rfl)
theorem dX6_isMild_6 : decode cX6_isMild 6 = .ok (.istore_n 3, 1) := dk_62 (dk_at dksX6_isMild_0 6 rfl rfl)
theorem dX6_isMild_7 : decode cX6_isMild 7 = .ok (.aload_n 0, 1) := dk_42 (dk_at dksX6_isMild_0 7 rfl rfl)
theorem dX6_isMild_8 : decode cX6_isMild 8 = .ok (.iload_n 3, 1) := dk_29 (dk_at dksX6_isMild_0 8 rfl rfl)
theorem dX6_isMild_9 : decode cX6_isMild 9 = .ok (.ifCond .ne 7, 3) := dk_154 0 7 (dk_at dksX6_isMild_0 9 rfl rfl)
theorem dX6_isMild_12 : decode cX6_isMild 12 = .ok (.iconst 1, 1) := dk_4 (dk_at dksX6_isMild_0 12 rfl rfl)
theorem dX6_isMild_13 : decode cX6_isMild 13 = .ok (.goto 4, 3) := dk_167 0 4 (dk_at dksX6_isMild_0 13 rfl rfl)
theorem dX6_isMild_16 : decode cX6_isMild 16 = .ok (.iconst 0, 1) := dk_3 (dk_at dksX6_isMild_0 16 rfl rfl)
theorem dX6_isMild_17 : decode cX6_isMild 17 = .ok (.iload_n 3, 1) := dk_29 (dk_at dksX6_isMild_0 17 rfl rfl)
theorem dX6_isMild_18 : decode cX6_isMild 18 = .ok (.ifCond .eq 16, 3) := dk_153 0 16 (dk_at dksX6_isMild_0 18 rfl rfl)
theorem dX6_isMild_21 : decode cX6_isMild 21 = .ok (.aload_n 0, 1) := dk_42 (dk_at dksX6_isMild_0 21 rfl rfl)
theorem dX6_isMild_22 : decode cX6_isMild 22 = .ok (.iload_n 1, 1) := dk_27 (dk_at dksX6_isMild_0 22 rfl rfl)
theorem dX6_isMild_23 : decode cX6_isMild 23 = .ok (.iload_n 2, 1) := dk_28 (dk_at dksX6_isMild_0 23 rfl rfl)
theorem dX6_isMild_24 : decode cX6_isMild 24 = .ok (.invokevirtual 129, 3) := dk_182 0 129 (dk_at dksX6_isMild_1 0 rfl rfl)
theorem dX6_isMild_27 : decode cX6_isMild 27 = .ok (.ifCond .ne 7, 3) := dk_154 0 7 (dk_at dksX6_isMild_1 3 rfl rfl)
theorem dX6_isMild_30 : decode cX6_isMild 30 = .ok (.iconst 1, 1) := dk_4 (dk_at dksX6_isMild_1 6 rfl rfl)
theorem dX6_isMild_31 : decode cX6_isMild 31 = .ok (.goto 4, 3) := dk_167 0 4 (dk_at dksX6_isMild_1 7 rfl rfl)
theorem dX6_isMild_34 : decode cX6_isMild 34 = .ok (.iconst 0, 1) := dk_3 (dk_at dksX6_isMild_1 10 rfl rfl)
theorem dX6_isMild_35 : decode cX6_isMild 35 = .ok (.iconst 0, 1) := dk_3 (dk_at dksX6_isMild_1 11 rfl rfl)
theorem dX6_isMild_36 : decode cX6_isMild 36 = .ok (.invokevirtual 171, 3) := dk_182 0 171 (dk_at dksX6_isMild_1 12 rfl rfl)
theorem dX6_isMild_39 : decode cX6_isMild 39 = .ok (.ifCond .eq 5, 3) := dk_153 0 5 (dk_at dksX6_isMild_1 15 rfl rfl)
theorem dX6_isMild_42 : decode cX6_isMild 42 = .ok (.iconst 0, 1) := dk_3 (dk_at dksX6_isMild_1 18 rfl rfl)
theorem dX6_isMild_43 : decode cX6_isMild 43 = .ok (.ireturn, 1) := dk_172 (dk_at dksX6_isMild_1 19 rfl rfl)
theorem dX6_isMild_44 : decode cX6_isMild 44 = .ok (.aload_n 0, 1) := dk_42 (dk_at dksX6_isMild_1 20 rfl rfl)
theorem dX6_isMild_45 : decode cX6_isMild 45 = .ok (.iload_n 1, 1) := dk_27 (dk_at dksX6_isMild_1 21 rfl rfl)
theorem dX6_isMild_46 : decode cX6_isMild 46 = .ok (.iload_n 2, 1) := dk_28 (dk_at dksX6_isMild_1 22 rfl rfl)
theorem dX6_isMild_47 : decode cX6_isMild 47 = .ok (.invokevirtual 285, 3) := dk_182 1 29 (dk_at dksX6_isMild_2 0 rfl rfl)
theorem dX6_isMild_50 : decode cX6_isMild 50 = .ok (.ireturn, 1) := dk_172 (dk_at dksX6_isMild_2 3 rfl rfl)
abbrev cX6_hasMildEnvy : ByteArray := prog_9_method_22_code
def yX6_hasMildEnvy : MethodName := ⟨RX6, "hasMildEnvy", "(II)Z"⟩
def dkwX6_hasMildEnvy_3 : List UInt8 := [167, 0, 4, 3, 172]
abbrev dktX6_hasMildEnvy_3 : List UInt8 := dkwX6_hasMildEnvy_3 ++ []
def dkwX6_hasMildEnvy_2 : List UInt8 := [132, 4, 1, 167, 255, 213, 42, 27, 28, 182, 0, 117, 29, 100, 42, 27, 182, 0, 120, 163, 0, 7, 4]
abbrev dktX6_hasMildEnvy_2 : List UInt8 := dkwX6_hasMildEnvy_2 ++ dktX6_hasMildEnvy_3
def dkwX6_hasMildEnvy_1 : List UInt8 := [160, 0, 22, 42, 27, 21, 4, 182, 0, 105, 29, 164, 0, 11, 42, 27, 21, 4, 182, 0, 105, 62]
abbrev dktX6_hasMildEnvy_1 : List UInt8 := dkwX6_hasMildEnvy_1 ++ dktX6_hasMildEnvy_2
def dkwX6_hasMildEnvy_0 : List UInt8 := [3, 62, 3, 54, 4, 21, 4, 42, 180, 0, 13, 3, 46, 162, 0, 38, 42, 21, 4, 182, 0, 113, 28]
abbrev dktX6_hasMildEnvy_0 : List UInt8 := dkwX6_hasMildEnvy_0 ++ dktX6_hasMildEnvy_1
theorem dksX6_hasMildEnvy_0 : cX6_hasMildEnvy.data.toList.drop 0 = dktX6_hasMildEnvy_0 := by decide +kernel
theorem dksX6_hasMildEnvy_1 : cX6_hasMildEnvy.data.toList.drop 23 = dktX6_hasMildEnvy_1 := dk_seg dksX6_hasMildEnvy_0 23 rfl rfl
theorem dksX6_hasMildEnvy_2 : cX6_hasMildEnvy.data.toList.drop 45 = dktX6_hasMildEnvy_2 := dk_seg dksX6_hasMildEnvy_1 22 rfl rfl
theorem dksX6_hasMildEnvy_3 : cX6_hasMildEnvy.data.toList.drop 68 = dktX6_hasMildEnvy_3 := dk_seg dksX6_hasMildEnvy_2 23 rfl rfl
theorem dX6_hasMildEnvy_0 : decode cX6_hasMildEnvy 0 = .ok (.iconst 0, 1) := dk_3 (dk_at dksX6_hasMildEnvy_0 0 rfl rfl)
theorem dX6_hasMildEnvy_1 : decode cX6_hasMildEnvy 1 = .ok (.istore_n 3, 1) := dk_62 (dk_at dksX6_hasMildEnvy_0 1 rfl rfl)
theorem dX6_hasMildEnvy_2 : decode cX6_hasMildEnvy 2 = .ok (.iconst 0, 1) := dk_3 (dk_at dksX6_hasMildEnvy_0 2 rfl rfl)
theorem dX6_hasMildEnvy_3 : decode cX6_hasMildEnvy 3 = .ok (.istore 4, 2) := dk_54 4 (dk_at dksX6_hasMildEnvy_0 3 rfl rfl)
theorem dX6_hasMildEnvy_5 : decode cX6_hasMildEnvy 5 = .ok (.iload 4, 2) := dk_21 4 (dk_at dksX6_hasMildEnvy_0 5 rfl rfl)
theorem dX6_hasMildEnvy_7 : decode cX6_hasMildEnvy 7 = .ok (.aload_n 0, 1) := dk_42 (dk_at dksX6_hasMildEnvy_0 7 rfl rfl)
theorem dX6_hasMildEnvy_8 : decode cX6_hasMildEnvy 8 = .ok (.getfield 13, 3) := dk_180 0 13 (dk_at dksX6_hasMildEnvy_0 8 rfl rfl)
theorem dX6_hasMildEnvy_11 : decode cX6_hasMildEnvy 11 = .ok (.iconst 0, 1) := dk_3 (dk_at dksX6_hasMildEnvy_0 11 rfl rfl)
theorem dX6_hasMildEnvy_12 : decode cX6_hasMildEnvy 12 = .ok (.iaload, 1) := dk_46 (dk_at dksX6_hasMildEnvy_0 12 rfl rfl)
theorem dX6_hasMildEnvy_13 : decode cX6_hasMildEnvy 13 = .ok (.if_icmp .ge 38, 3) := dk_162 0 38 (dk_at dksX6_hasMildEnvy_0 13 rfl rfl)
theorem dX6_hasMildEnvy_16 : decode cX6_hasMildEnvy 16 = .ok (.aload_n 0, 1) := dk_42 (dk_at dksX6_hasMildEnvy_0 16 rfl rfl)
theorem dX6_hasMildEnvy_17 : decode cX6_hasMildEnvy 17 = .ok (.iload 4, 2) := dk_21 4 (dk_at dksX6_hasMildEnvy_0 17 rfl rfl)
theorem dX6_hasMildEnvy_19 : decode cX6_hasMildEnvy 19 = .ok (.invokevirtual 113, 3) := dk_182 0 113 (dk_at dksX6_hasMildEnvy_0 19 rfl rfl)
theorem dX6_hasMildEnvy_22 : decode cX6_hasMildEnvy 22 = .ok (.iload_n 2, 1) := dk_28 (dk_at dksX6_hasMildEnvy_0 22 rfl rfl)
theorem dX6_hasMildEnvy_23 : decode cX6_hasMildEnvy 23 = .ok (.if_icmp .ne 22, 3) := dk_160 0 22 (dk_at dksX6_hasMildEnvy_1 0 rfl rfl)
theorem dX6_hasMildEnvy_26 : decode cX6_hasMildEnvy 26 = .ok (.aload_n 0, 1) := dk_42 (dk_at dksX6_hasMildEnvy_1 3 rfl rfl)
theorem dX6_hasMildEnvy_27 : decode cX6_hasMildEnvy 27 = .ok (.iload_n 1, 1) := dk_27 (dk_at dksX6_hasMildEnvy_1 4 rfl rfl)
theorem dX6_hasMildEnvy_28 : decode cX6_hasMildEnvy 28 = .ok (.iload 4, 2) := dk_21 4 (dk_at dksX6_hasMildEnvy_1 5 rfl rfl)
theorem dX6_hasMildEnvy_30 : decode cX6_hasMildEnvy 30 = .ok (.invokevirtual 105, 3) := dk_182 0 105 (dk_at dksX6_hasMildEnvy_1 7 rfl rfl)
theorem dX6_hasMildEnvy_33 : decode cX6_hasMildEnvy 33 = .ok (.iload_n 3, 1) := dk_29 (dk_at dksX6_hasMildEnvy_1 10 rfl rfl)
theorem dX6_hasMildEnvy_34 : decode cX6_hasMildEnvy 34 = .ok (.if_icmp .le 11, 3) := dk_164 0 11 (dk_at dksX6_hasMildEnvy_1 11 rfl rfl)
theorem dX6_hasMildEnvy_37 : decode cX6_hasMildEnvy 37 = .ok (.aload_n 0, 1) := dk_42 (dk_at dksX6_hasMildEnvy_1 14 rfl rfl)
theorem dX6_hasMildEnvy_38 : decode cX6_hasMildEnvy 38 = .ok (.iload_n 1, 1) := dk_27 (dk_at dksX6_hasMildEnvy_1 15 rfl rfl)
theorem dX6_hasMildEnvy_39 : decode cX6_hasMildEnvy 39 = .ok (.iload 4, 2) := dk_21 4 (dk_at dksX6_hasMildEnvy_1 16 rfl rfl)
theorem dX6_hasMildEnvy_41 : decode cX6_hasMildEnvy 41 = .ok (.invokevirtual 105, 3) := dk_182 0 105 (dk_at dksX6_hasMildEnvy_1 18 rfl rfl)
theorem dX6_hasMildEnvy_44 : decode cX6_hasMildEnvy 44 = .ok (.istore_n 3, 1) := dk_62 (dk_at dksX6_hasMildEnvy_1 21 rfl rfl)
theorem dX6_hasMildEnvy_45 : decode cX6_hasMildEnvy 45 = .ok (.iinc 4 1, 3) := dk_132 4 1 (dk_at dksX6_hasMildEnvy_2 0 rfl rfl)
theorem dX6_hasMildEnvy_48 : decode cX6_hasMildEnvy 48 = .ok (.goto (-43), 3) := dk_167 255 213 (dk_at dksX6_hasMildEnvy_2 3 rfl rfl)
theorem dX6_hasMildEnvy_51 : decode cX6_hasMildEnvy 51 = .ok (.aload_n 0, 1) := dk_42 (dk_at dksX6_hasMildEnvy_2 6 rfl rfl)
theorem dX6_hasMildEnvy_52 : decode cX6_hasMildEnvy 52 = .ok (.iload_n 1, 1) := dk_27 (dk_at dksX6_hasMildEnvy_2 7 rfl rfl)
theorem dX6_hasMildEnvy_53 : decode cX6_hasMildEnvy 53 = .ok (.iload_n 2, 1) := dk_28 (dk_at dksX6_hasMildEnvy_2 8 rfl rfl)
theorem dX6_hasMildEnvy_54 : decode cX6_hasMildEnvy 54 = .ok (.invokevirtual 117, 3) := dk_182 0 117 (dk_at dksX6_hasMildEnvy_2 9 rfl rfl)
theorem dX6_hasMildEnvy_57 : decode cX6_hasMildEnvy 57 = .ok (.iload_n 3, 1) := dk_29 (dk_at dksX6_hasMildEnvy_2 12 rfl rfl)
theorem dX6_hasMildEnvy_58 : decode cX6_hasMildEnvy 58 = .ok (.isub, 1) := dk_100 (dk_at dksX6_hasMildEnvy_2 13 rfl rfl)
theorem dX6_hasMildEnvy_59 : decode cX6_hasMildEnvy 59 = .ok (.aload_n 0, 1) := dk_42 (dk_at dksX6_hasMildEnvy_2 14 rfl rfl)
theorem dX6_hasMildEnvy_60 : decode cX6_hasMildEnvy 60 = .ok (.iload_n 1, 1) := dk_27 (dk_at dksX6_hasMildEnvy_2 15 rfl rfl)
theorem dX6_hasMildEnvy_61 : decode cX6_hasMildEnvy 61 = .ok (.invokevirtual 120, 3) := dk_182 0 120 (dk_at dksX6_hasMildEnvy_2 16 rfl rfl)
theorem dX6_hasMildEnvy_64 : decode cX6_hasMildEnvy 64 = .ok (.if_icmp .gt 7, 3) := dk_163 0 7 (dk_at dksX6_hasMildEnvy_2 19 rfl rfl)
theorem dX6_hasMildEnvy_67 : decode cX6_hasMildEnvy 67 = .ok (.iconst 1, 1) := dk_4 (dk_at dksX6_hasMildEnvy_2 22 rfl rfl)
theorem dX6_hasMildEnvy_68 : decode cX6_hasMildEnvy 68 = .ok (.goto 4, 3) := dk_167 0 4 (dk_at dksX6_hasMildEnvy_3 0 rfl rfl)
theorem dX6_hasMildEnvy_71 : decode cX6_hasMildEnvy 71 = .ok (.iconst 0, 1) := dk_3 (dk_at dksX6_hasMildEnvy_3 3 rfl rfl)
theorem dX6_hasMildEnvy_72 : decode cX6_hasMildEnvy 72 = .ok (.ireturn, 1) := dk_172 (dk_at dksX6_hasMildEnvy_3 4 rfl rfl)
abbrev cX6_envyCount : ByteArray := prog_9_method_87_code
def yX6_envyCount : MethodName := ⟨RX6, "envyCount", "()I"⟩
def dkwX6_envyCount_0 : List UInt8 := [42, 42, 182, 1, 32, 182, 1, 17, 172]
abbrev dktX6_envyCount_0 : List UInt8 := dkwX6_envyCount_0 ++ []
theorem dksX6_envyCount_0 : cX6_envyCount.data.toList.drop 0 = dktX6_envyCount_0 := by decide +kernel
theorem dX6_envyCount_0 : decode cX6_envyCount 0 = .ok (.aload_n 0, 1) := dk_42 (dk_at dksX6_envyCount_0 0 rfl rfl)
theorem dX6_envyCount_1 : decode cX6_envyCount 1 = .ok (.aload_n 0, 1) := dk_42 (dk_at dksX6_envyCount_0 1 rfl rfl)
theorem dX6_envyCount_2 : decode cX6_envyCount 2 = .ok (.invokevirtual 288, 3) := dk_182 1 32 (dk_at dksX6_envyCount_0 2 rfl rfl)
theorem dX6_envyCount_5 : decode cX6_envyCount 5 = .ok (.invokevirtual 273, 3) := dk_182 1 17 (dk_at dksX6_envyCount_0 5 rfl rfl)
theorem dX6_envyCount_8 : decode cX6_envyCount 8 = .ok (.ireturn, 1) := dk_172 (dk_at dksX6_envyCount_0 8 rfl rfl)
abbrev cX6_envyTotal : ByteArray := prog_9_method_25_code
def yX6_envyTotal : MethodName := ⟨RX6, "envyTotal", "()I"⟩
def dkwX6_envyTotal_2 : List UInt8 := [167, 255, 226, 132, 2, 1, 167, 255, 208, 27, 172]
abbrev dktX6_envyTotal_2 : List UInt8 := dkwX6_envyTotal_2 ++ []
def dkwX6_envyTotal_1 : List UInt8 := [162, 0, 26, 27, 42, 28, 29, 182, 0, 129, 153, 0, 7, 4, 167, 0, 4, 3, 96, 60, 132, 3, 1]
abbrev dktX6_envyTotal_1 : List UInt8 := dkwX6_envyTotal_1 ++ dktX6_envyTotal_2
def dkwX6_envyTotal_0 : List UInt8 := [3, 60, 3, 61, 28, 42, 180, 0, 13, 4, 46, 162, 0, 44, 3, 62, 29, 42, 180, 0, 13, 4, 46]
abbrev dktX6_envyTotal_0 : List UInt8 := dkwX6_envyTotal_0 ++ dktX6_envyTotal_1
theorem dksX6_envyTotal_0 : cX6_envyTotal.data.toList.drop 0 = dktX6_envyTotal_0 := by decide +kernel
theorem dksX6_envyTotal_1 : cX6_envyTotal.data.toList.drop 23 = dktX6_envyTotal_1 := dk_seg dksX6_envyTotal_0 23 rfl rfl
theorem dksX6_envyTotal_2 : cX6_envyTotal.data.toList.drop 46 = dktX6_envyTotal_2 := dk_seg dksX6_envyTotal_1 23 rfl rfl
theorem dX6_envyTotal_0 : decode cX6_envyTotal 0 = .ok (.iconst 0, 1) := dk_3 (dk_at dksX6_envyTotal_0 0 rfl rfl)
theorem dX6_envyTotal_1 : decode cX6_envyTotal 1 = .ok (.istore_n 1, 1) := dk_60 (dk_at dksX6_envyTotal_0 1 rfl rfl)
theorem dX6_envyTotal_2 : decode cX6_envyTotal 2 = .ok (.iconst 0, 1) := dk_3 (dk_at dksX6_envyTotal_0 2 rfl rfl)
theorem dX6_envyTotal_3 : decode cX6_envyTotal 3 = .ok (.istore_n 2, 1) := dk_61 (dk_at dksX6_envyTotal_0 3 rfl rfl)
theorem dX6_envyTotal_4 : decode cX6_envyTotal 4 = .ok (.iload_n 2, 1) := dk_28 (dk_at dksX6_envyTotal_0 4 rfl rfl)
theorem dX6_envyTotal_5 : decode cX6_envyTotal 5 = .ok (.aload_n 0, 1) := dk_42 (dk_at dksX6_envyTotal_0 5 rfl rfl)
theorem dX6_envyTotal_6 : decode cX6_envyTotal 6 = .ok (.getfield 13, 3) := dk_180 0 13 (dk_at dksX6_envyTotal_0 6 rfl rfl)
theorem dX6_envyTotal_9 : decode cX6_envyTotal 9 = .ok (.iconst 1, 1) := dk_4 (dk_at dksX6_envyTotal_0 9 rfl rfl)
theorem dX6_envyTotal_10 : decode cX6_envyTotal 10 = .ok (.iaload, 1) := dk_46 (dk_at dksX6_envyTotal_0 10 rfl rfl)
theorem dX6_envyTotal_11 : decode cX6_envyTotal 11 = .ok (.if_icmp .ge 44, 3) := dk_162 0 44 (dk_at dksX6_envyTotal_0 11 rfl rfl)
theorem dX6_envyTotal_14 : decode cX6_envyTotal 14 = .ok (.iconst 0, 1) := dk_3 (dk_at dksX6_envyTotal_0 14 rfl rfl)
theorem dX6_envyTotal_15 : decode cX6_envyTotal 15 = .ok (.istore_n 3, 1) := dk_62 (dk_at dksX6_envyTotal_0 15 rfl rfl)
theorem dX6_envyTotal_16 : decode cX6_envyTotal 16 = .ok (.iload_n 3, 1) := dk_29 (dk_at dksX6_envyTotal_0 16 rfl rfl)
theorem dX6_envyTotal_17 : decode cX6_envyTotal 17 = .ok (.aload_n 0, 1) := dk_42 (dk_at dksX6_envyTotal_0 17 rfl rfl)
theorem dX6_envyTotal_18 : decode cX6_envyTotal 18 = .ok (.getfield 13, 3) := dk_180 0 13 (dk_at dksX6_envyTotal_0 18 rfl rfl)
theorem dX6_envyTotal_21 : decode cX6_envyTotal 21 = .ok (.iconst 1, 1) := dk_4 (dk_at dksX6_envyTotal_0 21 rfl rfl)
theorem dX6_envyTotal_22 : decode cX6_envyTotal 22 = .ok (.iaload, 1) := dk_46 (dk_at dksX6_envyTotal_0 22 rfl rfl)
theorem dX6_envyTotal_23 : decode cX6_envyTotal 23 = .ok (.if_icmp .ge 26, 3) := dk_162 0 26 (dk_at dksX6_envyTotal_1 0 rfl rfl)
theorem dX6_envyTotal_26 : decode cX6_envyTotal 26 = .ok (.iload_n 1, 1) := dk_27 (dk_at dksX6_envyTotal_1 3 rfl rfl)
theorem dX6_envyTotal_27 : decode cX6_envyTotal 27 = .ok (.aload_n 0, 1) := dk_42 (dk_at dksX6_envyTotal_1 4 rfl rfl)
theorem dX6_envyTotal_28 : decode cX6_envyTotal 28 = .ok (.iload_n 2, 1) := dk_28 (dk_at dksX6_envyTotal_1 5 rfl rfl)
theorem dX6_envyTotal_29 : decode cX6_envyTotal 29 = .ok (.iload_n 3, 1) := dk_29 (dk_at dksX6_envyTotal_1 6 rfl rfl)
theorem dX6_envyTotal_30 : decode cX6_envyTotal 30 = .ok (.invokevirtual 129, 3) := dk_182 0 129 (dk_at dksX6_envyTotal_1 7 rfl rfl)
theorem dX6_envyTotal_33 : decode cX6_envyTotal 33 = .ok (.ifCond .eq 7, 3) := dk_153 0 7 (dk_at dksX6_envyTotal_1 10 rfl rfl)
theorem dX6_envyTotal_36 : decode cX6_envyTotal 36 = .ok (.iconst 1, 1) := dk_4 (dk_at dksX6_envyTotal_1 13 rfl rfl)
theorem dX6_envyTotal_37 : decode cX6_envyTotal 37 = .ok (.goto 4, 3) := dk_167 0 4 (dk_at dksX6_envyTotal_1 14 rfl rfl)
theorem dX6_envyTotal_40 : decode cX6_envyTotal 40 = .ok (.iconst 0, 1) := dk_3 (dk_at dksX6_envyTotal_1 17 rfl rfl)
theorem dX6_envyTotal_41 : decode cX6_envyTotal 41 = .ok (.iadd, 1) := dk_96 (dk_at dksX6_envyTotal_1 18 rfl rfl)
theorem dX6_envyTotal_42 : decode cX6_envyTotal 42 = .ok (.istore_n 1, 1) := dk_60 (dk_at dksX6_envyTotal_1 19 rfl rfl)
theorem dX6_envyTotal_43 : decode cX6_envyTotal 43 = .ok (.iinc 3 1, 3) := dk_132 3 1 (dk_at dksX6_envyTotal_1 20 rfl rfl)
theorem dX6_envyTotal_46 : decode cX6_envyTotal 46 = .ok (.goto (-30), 3) := dk_167 255 226 (dk_at dksX6_envyTotal_2 0 rfl rfl)
theorem dX6_envyTotal_49 : decode cX6_envyTotal 49 = .ok (.iinc 2 1, 3) := dk_132 2 1 (dk_at dksX6_envyTotal_2 3 rfl rfl)
theorem dX6_envyTotal_52 : decode cX6_envyTotal 52 = .ok (.goto (-48), 3) := dk_167 255 208 (dk_at dksX6_envyTotal_2 6 rfl rfl)
theorem dX6_envyTotal_55 : decode cX6_envyTotal 55 = .ok (.iload_n 1, 1) := dk_27 (dk_at dksX6_envyTotal_2 9 rfl rfl)
theorem dX6_envyTotal_56 : decode cX6_envyTotal 56 = .ok (.ireturn, 1) := dk_172 (dk_at dksX6_envyTotal_2 10 rfl rfl)
abbrev cX6_strongEnvyCount : ByteArray := prog_9_method_88_code
def yX6_strongEnvyCount : MethodName := ⟨RX6, "strongEnvyCount", "()I"⟩
def dkwX6_strongEnvyCount_2 : List UInt8 := [154, 0, 7, 4, 167, 0, 4, 3, 96, 60, 132, 3, 1, 167, 255, 217, 132, 2, 1, 167, 255, 199, 27, 172]
abbrev dktX6_strongEnvyCount_2 : List UInt8 := dkwX6_strongEnvyCount_2 ++ []
def dkwX6_strongEnvyCount_1 : List UInt8 := [180, 0, 13, 4, 46, 162, 0, 35, 27, 42, 28, 29, 182, 0, 129, 153, 0, 16, 42, 28, 29, 182, 1, 29]
abbrev dktX6_strongEnvyCount_1 : List UInt8 := dkwX6_strongEnvyCount_1 ++ dktX6_strongEnvyCount_2
def dkwX6_strongEnvyCount_0 : List UInt8 := [42, 3, 181, 0, 1, 3, 60, 3, 61, 28, 42, 180, 0, 13, 4, 46, 162, 0, 53, 3, 62, 29, 42]
abbrev dktX6_strongEnvyCount_0 : List UInt8 := dkwX6_strongEnvyCount_0 ++ dktX6_strongEnvyCount_1
theorem dksX6_strongEnvyCount_0 : cX6_strongEnvyCount.data.toList.drop 0 = dktX6_strongEnvyCount_0 := by decide +kernel
theorem dksX6_strongEnvyCount_1 : cX6_strongEnvyCount.data.toList.drop 23 = dktX6_strongEnvyCount_1 := dk_seg dksX6_strongEnvyCount_0 23 rfl rfl
theorem dksX6_strongEnvyCount_2 : cX6_strongEnvyCount.data.toList.drop 47 = dktX6_strongEnvyCount_2 := dk_seg dksX6_strongEnvyCount_1 24 rfl rfl
theorem dX6_strongEnvyCount_0 : decode cX6_strongEnvyCount 0 = .ok (.aload_n 0, 1) := dk_42 (dk_at dksX6_strongEnvyCount_0 0 rfl rfl)
theorem dX6_strongEnvyCount_1 : decode cX6_strongEnvyCount 1 = .ok (.iconst 0, 1) := dk_3 (dk_at dksX6_strongEnvyCount_0 1 rfl rfl)
theorem dX6_strongEnvyCount_2 : decode cX6_strongEnvyCount 2 = .ok (.putfield 1, 3) := dk_181 0 1 (dk_at dksX6_strongEnvyCount_0 2 rfl rfl)
theorem dX6_strongEnvyCount_5 : decode cX6_strongEnvyCount 5 = .ok (.iconst 0, 1) := dk_3 (dk_at dksX6_strongEnvyCount_0 5 rfl rfl)
theorem dX6_strongEnvyCount_6 : decode cX6_strongEnvyCount 6 = .ok (.istore_n 1, 1) := dk_60 (dk_at dksX6_strongEnvyCount_0 6 rfl rfl)
theorem dX6_strongEnvyCount_7 : decode cX6_strongEnvyCount 7 = .ok (.iconst 0, 1) := dk_3 (dk_at dksX6_strongEnvyCount_0 7 rfl rfl)
theorem dX6_strongEnvyCount_8 : decode cX6_strongEnvyCount 8 = .ok (.istore_n 2, 1) := dk_61 (dk_at dksX6_strongEnvyCount_0 8 rfl rfl)
theorem dX6_strongEnvyCount_9 : decode cX6_strongEnvyCount 9 = .ok (.iload_n 2, 1) := dk_28 (dk_at dksX6_strongEnvyCount_0 9 rfl rfl)
theorem dX6_strongEnvyCount_10 : decode cX6_strongEnvyCount 10 = .ok (.aload_n 0, 1) := dk_42 (dk_at dksX6_strongEnvyCount_0 10 rfl rfl)
theorem dX6_strongEnvyCount_11 : decode cX6_strongEnvyCount 11 = .ok (.getfield 13, 3) := dk_180 0 13 (dk_at dksX6_strongEnvyCount_0 11 rfl rfl)
theorem dX6_strongEnvyCount_14 : decode cX6_strongEnvyCount 14 = .ok (.iconst 1, 1) := dk_4 (dk_at dksX6_strongEnvyCount_0 14 rfl rfl)
theorem dX6_strongEnvyCount_15 : decode cX6_strongEnvyCount 15 = .ok (.iaload, 1) := dk_46 (dk_at dksX6_strongEnvyCount_0 15 rfl rfl)
theorem dX6_strongEnvyCount_16 : decode cX6_strongEnvyCount 16 = .ok (.if_icmp .ge 53, 3) := dk_162 0 53 (dk_at dksX6_strongEnvyCount_0 16 rfl rfl)
theorem dX6_strongEnvyCount_19 : decode cX6_strongEnvyCount 19 = .ok (.iconst 0, 1) := dk_3 (dk_at dksX6_strongEnvyCount_0 19 rfl rfl)
theorem dX6_strongEnvyCount_20 : decode cX6_strongEnvyCount 20 = .ok (.istore_n 3, 1) := dk_62 (dk_at dksX6_strongEnvyCount_0 20 rfl rfl)
theorem dX6_strongEnvyCount_21 : decode cX6_strongEnvyCount 21 = .ok (.iload_n 3, 1) := dk_29 (dk_at dksX6_strongEnvyCount_0 21 rfl rfl)
theorem dX6_strongEnvyCount_22 : decode cX6_strongEnvyCount 22 = .ok (.aload_n 0, 1) := dk_42 (dk_at dksX6_strongEnvyCount_0 22 rfl rfl)
theorem dX6_strongEnvyCount_23 : decode cX6_strongEnvyCount 23 = .ok (.getfield 13, 3) := dk_180 0 13 (dk_at dksX6_strongEnvyCount_1 0 rfl rfl)
theorem dX6_strongEnvyCount_26 : decode cX6_strongEnvyCount 26 = .ok (.iconst 1, 1) := dk_4 (dk_at dksX6_strongEnvyCount_1 3 rfl rfl)
theorem dX6_strongEnvyCount_27 : decode cX6_strongEnvyCount 27 = .ok (.iaload, 1) := dk_46 (dk_at dksX6_strongEnvyCount_1 4 rfl rfl)
theorem dX6_strongEnvyCount_28 : decode cX6_strongEnvyCount 28 = .ok (.if_icmp .ge 35, 3) := dk_162 0 35 (dk_at dksX6_strongEnvyCount_1 5 rfl rfl)
theorem dX6_strongEnvyCount_31 : decode cX6_strongEnvyCount 31 = .ok (.iload_n 1, 1) := dk_27 (dk_at dksX6_strongEnvyCount_1 8 rfl rfl)
theorem dX6_strongEnvyCount_32 : decode cX6_strongEnvyCount 32 = .ok (.aload_n 0, 1) := dk_42 (dk_at dksX6_strongEnvyCount_1 9 rfl rfl)
theorem dX6_strongEnvyCount_33 : decode cX6_strongEnvyCount 33 = .ok (.iload_n 2, 1) := dk_28 (dk_at dksX6_strongEnvyCount_1 10 rfl rfl)
theorem dX6_strongEnvyCount_34 : decode cX6_strongEnvyCount 34 = .ok (.iload_n 3, 1) := dk_29 (dk_at dksX6_strongEnvyCount_1 11 rfl rfl)
theorem dX6_strongEnvyCount_35 : decode cX6_strongEnvyCount 35 = .ok (.invokevirtual 129, 3) := dk_182 0 129 (dk_at dksX6_strongEnvyCount_1 12 rfl rfl)
theorem dX6_strongEnvyCount_38 : decode cX6_strongEnvyCount 38 = .ok (.ifCond .eq 16, 3) := dk_153 0 16 (dk_at dksX6_strongEnvyCount_1 15 rfl rfl)
theorem dX6_strongEnvyCount_41 : decode cX6_strongEnvyCount 41 = .ok (.aload_n 0, 1) := dk_42 (dk_at dksX6_strongEnvyCount_1 18 rfl rfl)
theorem dX6_strongEnvyCount_42 : decode cX6_strongEnvyCount 42 = .ok (.iload_n 2, 1) := dk_28 (dk_at dksX6_strongEnvyCount_1 19 rfl rfl)
theorem dX6_strongEnvyCount_43 : decode cX6_strongEnvyCount 43 = .ok (.iload_n 3, 1) := dk_29 (dk_at dksX6_strongEnvyCount_1 20 rfl rfl)
theorem dX6_strongEnvyCount_44 : decode cX6_strongEnvyCount 44 = .ok (.invokevirtual 285, 3) := dk_182 1 29 (dk_at dksX6_strongEnvyCount_1 21 rfl rfl)
theorem dX6_strongEnvyCount_47 : decode cX6_strongEnvyCount 47 = .ok (.ifCond .ne 7, 3) := dk_154 0 7 (dk_at dksX6_strongEnvyCount_2 0 rfl rfl)
theorem dX6_strongEnvyCount_50 : decode cX6_strongEnvyCount 50 = .ok (.iconst 1, 1) := dk_4 (dk_at dksX6_strongEnvyCount_2 3 rfl rfl)
theorem dX6_strongEnvyCount_51 : decode cX6_strongEnvyCount 51 = .ok (.goto 4, 3) := dk_167 0 4 (dk_at dksX6_strongEnvyCount_2 4 rfl rfl)
theorem dX6_strongEnvyCount_54 : decode cX6_strongEnvyCount 54 = .ok (.iconst 0, 1) := dk_3 (dk_at dksX6_strongEnvyCount_2 7 rfl rfl)
theorem dX6_strongEnvyCount_55 : decode cX6_strongEnvyCount 55 = .ok (.iadd, 1) := dk_96 (dk_at dksX6_strongEnvyCount_2 8 rfl rfl)
theorem dX6_strongEnvyCount_56 : decode cX6_strongEnvyCount 56 = .ok (.istore_n 1, 1) := dk_60 (dk_at dksX6_strongEnvyCount_2 9 rfl rfl)
theorem dX6_strongEnvyCount_57 : decode cX6_strongEnvyCount 57 = .ok (.iinc 3 1, 3) := dk_132 3 1 (dk_at dksX6_strongEnvyCount_2 10 rfl rfl)
theorem dX6_strongEnvyCount_60 : decode cX6_strongEnvyCount 60 = .ok (.goto (-39), 3) := dk_167 255 217 (dk_at dksX6_strongEnvyCount_2 13 rfl rfl)
theorem dX6_strongEnvyCount_63 : decode cX6_strongEnvyCount 63 = .ok (.iinc 2 1, 3) := dk_132 2 1 (dk_at dksX6_strongEnvyCount_2 16 rfl rfl)
theorem dX6_strongEnvyCount_66 : decode cX6_strongEnvyCount 66 = .ok (.goto (-57), 3) := dk_167 255 199 (dk_at dksX6_strongEnvyCount_2 19 rfl rfl)
theorem dX6_strongEnvyCount_69 : decode cX6_strongEnvyCount 69 = .ok (.iload_n 1, 1) := dk_27 (dk_at dksX6_strongEnvyCount_2 22 rfl rfl)
theorem dX6_strongEnvyCount_70 : decode cX6_strongEnvyCount 70 = .ok (.ireturn, 1) := dk_172 (dk_at dksX6_strongEnvyCount_2 23 rfl rfl)
abbrev cX6_mostEnvied : ByteArray := prog_9_method_90_code
def yX6_mostEnvied : MethodName := ⟨RX6, "mostEnvied", "()I"⟩
def dkwX6_mostEnvied_1 : List UInt8 := [42, 27, 182, 1, 35, 164, 0, 5, 28, 60, 132, 2, 1, 167, 255, 228, 27, 172]
abbrev dktX6_mostEnvied_1 : List UInt8 := dkwX6_mostEnvied_1 ++ []
def dkwX6_mostEnvied_0 : List UInt8 := [42, 3, 181, 0, 1, 3, 60, 4, 61, 28, 42, 180, 0, 13, 4, 46, 162, 0, 24, 42, 28, 182, 1, 35]
abbrev dktX6_mostEnvied_0 : List UInt8 := dkwX6_mostEnvied_0 ++ dktX6_mostEnvied_1
theorem dksX6_mostEnvied_0 : cX6_mostEnvied.data.toList.drop 0 = dktX6_mostEnvied_0 := by decide +kernel
theorem dksX6_mostEnvied_1 : cX6_mostEnvied.data.toList.drop 24 = dktX6_mostEnvied_1 := dk_seg dksX6_mostEnvied_0 24 rfl rfl
theorem dX6_mostEnvied_0 : decode cX6_mostEnvied 0 = .ok (.aload_n 0, 1) := dk_42 (dk_at dksX6_mostEnvied_0 0 rfl rfl)
theorem dX6_mostEnvied_1 : decode cX6_mostEnvied 1 = .ok (.iconst 0, 1) := dk_3 (dk_at dksX6_mostEnvied_0 1 rfl rfl)
theorem dX6_mostEnvied_2 : decode cX6_mostEnvied 2 = .ok (.putfield 1, 3) := dk_181 0 1 (dk_at dksX6_mostEnvied_0 2 rfl rfl)
theorem dX6_mostEnvied_5 : decode cX6_mostEnvied 5 = .ok (.iconst 0, 1) := dk_3 (dk_at dksX6_mostEnvied_0 5 rfl rfl)
theorem dX6_mostEnvied_6 : decode cX6_mostEnvied 6 = .ok (.istore_n 1, 1) := dk_60 (dk_at dksX6_mostEnvied_0 6 rfl rfl)
theorem dX6_mostEnvied_7 : decode cX6_mostEnvied 7 = .ok (.iconst 1, 1) := dk_4 (dk_at dksX6_mostEnvied_0 7 rfl rfl)
theorem dX6_mostEnvied_8 : decode cX6_mostEnvied 8 = .ok (.istore_n 2, 1) := dk_61 (dk_at dksX6_mostEnvied_0 8 rfl rfl)
theorem dX6_mostEnvied_9 : decode cX6_mostEnvied 9 = .ok (.iload_n 2, 1) := dk_28 (dk_at dksX6_mostEnvied_0 9 rfl rfl)
theorem dX6_mostEnvied_10 : decode cX6_mostEnvied 10 = .ok (.aload_n 0, 1) := dk_42 (dk_at dksX6_mostEnvied_0 10 rfl rfl)
theorem dX6_mostEnvied_11 : decode cX6_mostEnvied 11 = .ok (.getfield 13, 3) := dk_180 0 13 (dk_at dksX6_mostEnvied_0 11 rfl rfl)
theorem dX6_mostEnvied_14 : decode cX6_mostEnvied 14 = .ok (.iconst 1, 1) := dk_4 (dk_at dksX6_mostEnvied_0 14 rfl rfl)
theorem dX6_mostEnvied_15 : decode cX6_mostEnvied 15 = .ok (.iaload, 1) := dk_46 (dk_at dksX6_mostEnvied_0 15 rfl rfl)
theorem dX6_mostEnvied_16 : decode cX6_mostEnvied 16 = .ok (.if_icmp .ge 24, 3) := dk_162 0 24 (dk_at dksX6_mostEnvied_0 16 rfl rfl)
theorem dX6_mostEnvied_19 : decode cX6_mostEnvied 19 = .ok (.aload_n 0, 1) := dk_42 (dk_at dksX6_mostEnvied_0 19 rfl rfl)
theorem dX6_mostEnvied_20 : decode cX6_mostEnvied 20 = .ok (.iload_n 2, 1) := dk_28 (dk_at dksX6_mostEnvied_0 20 rfl rfl)
theorem dX6_mostEnvied_21 : decode cX6_mostEnvied 21 = .ok (.invokevirtual 291, 3) := dk_182 1 35 (dk_at dksX6_mostEnvied_0 21 rfl rfl)
theorem dX6_mostEnvied_24 : decode cX6_mostEnvied 24 = .ok (.aload_n 0, 1) := dk_42 (dk_at dksX6_mostEnvied_1 0 rfl rfl)
theorem dX6_mostEnvied_25 : decode cX6_mostEnvied 25 = .ok (.iload_n 1, 1) := dk_27 (dk_at dksX6_mostEnvied_1 1 rfl rfl)
theorem dX6_mostEnvied_26 : decode cX6_mostEnvied 26 = .ok (.invokevirtual 291, 3) := dk_182 1 35 (dk_at dksX6_mostEnvied_1 2 rfl rfl)
theorem dX6_mostEnvied_29 : decode cX6_mostEnvied 29 = .ok (.if_icmp .le 5, 3) := dk_164 0 5 (dk_at dksX6_mostEnvied_1 5 rfl rfl)
theorem dX6_mostEnvied_32 : decode cX6_mostEnvied 32 = .ok (.iload_n 2, 1) := dk_28 (dk_at dksX6_mostEnvied_1 8 rfl rfl)
theorem dX6_mostEnvied_33 : decode cX6_mostEnvied 33 = .ok (.istore_n 1, 1) := dk_60 (dk_at dksX6_mostEnvied_1 9 rfl rfl)
theorem dX6_mostEnvied_34 : decode cX6_mostEnvied 34 = .ok (.iinc 2 1, 3) := dk_132 2 1 (dk_at dksX6_mostEnvied_1 10 rfl rfl)
theorem dX6_mostEnvied_37 : decode cX6_mostEnvied 37 = .ok (.goto (-28), 3) := dk_167 255 228 (dk_at dksX6_mostEnvied_1 13 rfl rfl)
theorem dX6_mostEnvied_40 : decode cX6_mostEnvied 40 = .ok (.iload_n 1, 1) := dk_27 (dk_at dksX6_mostEnvied_1 16 rfl rfl)
theorem dX6_mostEnvied_41 : decode cX6_mostEnvied 41 = .ok (.ireturn, 1) := dk_172 (dk_at dksX6_mostEnvied_1 17 rfl rfl)
abbrev cX6_enviersOf : ByteArray := prog_9_method_89_code
def yX6_enviersOf : MethodName := ⟨RX6, "enviersOf", "(I)I"⟩
def dkwX6_enviersOf_1 : List UInt8 := [4, 167, 0, 4, 3, 96, 61, 132, 3, 1, 167, 255, 226, 28, 172]
abbrev dktX6_enviersOf_1 : List UInt8 := dkwX6_enviersOf_1 ++ []
def dkwX6_enviersOf_0 : List UInt8 := [3, 61, 3, 62, 29, 42, 180, 0, 13, 4, 46, 162, 0, 26, 28, 42, 29, 27, 182, 0, 129, 153, 0, 7]
abbrev dktX6_enviersOf_0 : List UInt8 := dkwX6_enviersOf_0 ++ dktX6_enviersOf_1
theorem dksX6_enviersOf_0 : cX6_enviersOf.data.toList.drop 0 = dktX6_enviersOf_0 := by decide +kernel
theorem dksX6_enviersOf_1 : cX6_enviersOf.data.toList.drop 24 = dktX6_enviersOf_1 := dk_seg dksX6_enviersOf_0 24 rfl rfl
theorem dX6_enviersOf_0 : decode cX6_enviersOf 0 = .ok (.iconst 0, 1) := dk_3 (dk_at dksX6_enviersOf_0 0 rfl rfl)
theorem dX6_enviersOf_1 : decode cX6_enviersOf 1 = .ok (.istore_n 2, 1) := dk_61 (dk_at dksX6_enviersOf_0 1 rfl rfl)
theorem dX6_enviersOf_2 : decode cX6_enviersOf 2 = .ok (.iconst 0, 1) := dk_3 (dk_at dksX6_enviersOf_0 2 rfl rfl)
theorem dX6_enviersOf_3 : decode cX6_enviersOf 3 = .ok (.istore_n 3, 1) := dk_62 (dk_at dksX6_enviersOf_0 3 rfl rfl)
theorem dX6_enviersOf_4 : decode cX6_enviersOf 4 = .ok (.iload_n 3, 1) := dk_29 (dk_at dksX6_enviersOf_0 4 rfl rfl)
theorem dX6_enviersOf_5 : decode cX6_enviersOf 5 = .ok (.aload_n 0, 1) := dk_42 (dk_at dksX6_enviersOf_0 5 rfl rfl)
theorem dX6_enviersOf_6 : decode cX6_enviersOf 6 = .ok (.getfield 13, 3) := dk_180 0 13 (dk_at dksX6_enviersOf_0 6 rfl rfl)
theorem dX6_enviersOf_9 : decode cX6_enviersOf 9 = .ok (.iconst 1, 1) := dk_4 (dk_at dksX6_enviersOf_0 9 rfl rfl)
theorem dX6_enviersOf_10 : decode cX6_enviersOf 10 = .ok (.iaload, 1) := dk_46 (dk_at dksX6_enviersOf_0 10 rfl rfl)
theorem dX6_enviersOf_11 : decode cX6_enviersOf 11 = .ok (.if_icmp .ge 26, 3) := dk_162 0 26 (dk_at dksX6_enviersOf_0 11 rfl rfl)
theorem dX6_enviersOf_14 : decode cX6_enviersOf 14 = .ok (.iload_n 2, 1) := dk_28 (dk_at dksX6_enviersOf_0 14 rfl rfl)
theorem dX6_enviersOf_15 : decode cX6_enviersOf 15 = .ok (.aload_n 0, 1) := dk_42 (dk_at dksX6_enviersOf_0 15 rfl rfl)
theorem dX6_enviersOf_16 : decode cX6_enviersOf 16 = .ok (.iload_n 3, 1) := dk_29 (dk_at dksX6_enviersOf_0 16 rfl rfl)
theorem dX6_enviersOf_17 : decode cX6_enviersOf 17 = .ok (.iload_n 1, 1) := dk_27 (dk_at dksX6_enviersOf_0 17 rfl rfl)
theorem dX6_enviersOf_18 : decode cX6_enviersOf 18 = .ok (.invokevirtual 129, 3) := dk_182 0 129 (dk_at dksX6_enviersOf_0 18 rfl rfl)
theorem dX6_enviersOf_21 : decode cX6_enviersOf 21 = .ok (.ifCond .eq 7, 3) := dk_153 0 7 (dk_at dksX6_enviersOf_0 21 rfl rfl)
theorem dX6_enviersOf_24 : decode cX6_enviersOf 24 = .ok (.iconst 1, 1) := dk_4 (dk_at dksX6_enviersOf_1 0 rfl rfl)
theorem dX6_enviersOf_25 : decode cX6_enviersOf 25 = .ok (.goto 4, 3) := dk_167 0 4 (dk_at dksX6_enviersOf_1 1 rfl rfl)
theorem dX6_enviersOf_28 : decode cX6_enviersOf 28 = .ok (.iconst 0, 1) := dk_3 (dk_at dksX6_enviersOf_1 4 rfl rfl)
theorem dX6_enviersOf_29 : decode cX6_enviersOf 29 = .ok (.iadd, 1) := dk_96 (dk_at dksX6_enviersOf_1 5 rfl rfl)
theorem dX6_enviersOf_30 : decode cX6_enviersOf 30 = .ok (.istore_n 2, 1) := dk_61 (dk_at dksX6_enviersOf_1 6 rfl rfl)
theorem dX6_enviersOf_31 : decode cX6_enviersOf 31 = .ok (.iinc 3 1, 3) := dk_132 3 1 (dk_at dksX6_enviersOf_1 7 rfl rfl)
theorem dX6_enviersOf_34 : decode cX6_enviersOf 34 = .ok (.goto (-30), 3) := dk_167 255 226 (dk_at dksX6_enviersOf_1 10 rfl rfl)
theorem dX6_enviersOf_37 : decode cX6_enviersOf 37 = .ok (.iload_n 2, 1) := dk_28 (dk_at dksX6_enviersOf_1 13 rfl rfl)
theorem dX6_enviersOf_38 : decode cX6_enviersOf 38 = .ok (.ireturn, 1) := dk_172 (dk_at dksX6_enviersOf_1 14 rfl rfl)
abbrev cX6_isSatisfied : ByteArray := prog_9_method_91_code
def yX6_isSatisfied : MethodName := ⟨RX6, "isSatisfied", "(I)Z"⟩
def dkwX6_isSatisfied_1 : List UInt8 := [42, 27, 182, 0, 126, 172]
abbrev dktX6_isSatisfied_1 : List UInt8 := dkwX6_isSatisfied_1 ++ []
def dkwX6_isSatisfied_0 : List UInt8 := [42, 42, 27, 182, 0, 94, 154, 0, 7, 4, 167, 0, 4, 3, 3, 3, 182, 0, 171, 153, 0, 5, 3, 172]
abbrev dktX6_isSatisfied_0 : List UInt8 := dkwX6_isSatisfied_0 ++ dktX6_isSatisfied_1
theorem dksX6_isSatisfied_0 : cX6_isSatisfied.data.toList.drop 0 = dktX6_isSatisfied_0 := by decide +kernel
theorem dksX6_isSatisfied_1 : cX6_isSatisfied.data.toList.drop 24 = dktX6_isSatisfied_1 := dk_seg dksX6_isSatisfied_0 24 rfl rfl
theorem dX6_isSatisfied_0 : decode cX6_isSatisfied 0 = .ok (.aload_n 0, 1) := dk_42 (dk_at dksX6_isSatisfied_0 0 rfl rfl)
theorem dX6_isSatisfied_1 : decode cX6_isSatisfied 1 = .ok (.aload_n 0, 1) := dk_42 (dk_at dksX6_isSatisfied_0 1 rfl rfl)
theorem dX6_isSatisfied_2 : decode cX6_isSatisfied 2 = .ok (.iload_n 1, 1) := dk_27 (dk_at dksX6_isSatisfied_0 2 rfl rfl)
theorem dX6_isSatisfied_3 : decode cX6_isSatisfied 3 = .ok (.invokevirtual 94, 3) := dk_182 0 94 (dk_at dksX6_isSatisfied_0 3 rfl rfl)
theorem dX6_isSatisfied_6 : decode cX6_isSatisfied 6 = .ok (.ifCond .ne 7, 3) := dk_154 0 7 (dk_at dksX6_isSatisfied_0 6 rfl rfl)
theorem dX6_isSatisfied_9 : decode cX6_isSatisfied 9 = .ok (.iconst 1, 1) := dk_4 (dk_at dksX6_isSatisfied_0 9 rfl rfl)
theorem dX6_isSatisfied_10 : decode cX6_isSatisfied 10 = .ok (.goto 4, 3) := dk_167 0 4 (dk_at dksX6_isSatisfied_0 10 rfl rfl)
theorem dX6_isSatisfied_13 : decode cX6_isSatisfied 13 = .ok (.iconst 0, 1) := dk_3 (dk_at dksX6_isSatisfied_0 13 rfl rfl)
theorem dX6_isSatisfied_14 : decode cX6_isSatisfied 14 = .ok (.iconst 0, 1) := dk_3 (dk_at dksX6_isSatisfied_0 14 rfl rfl)
theorem dX6_isSatisfied_15 : decode cX6_isSatisfied 15 = .ok (.iconst 0, 1) := dk_3 (dk_at dksX6_isSatisfied_0 15 rfl rfl)
theorem dX6_isSatisfied_16 : decode cX6_isSatisfied 16 = .ok (.invokevirtual 171, 3) := dk_182 0 171 (dk_at dksX6_isSatisfied_0 16 rfl rfl)
theorem dX6_isSatisfied_19 : decode cX6_isSatisfied 19 = .ok (.ifCond .eq 5, 3) := dk_153 0 5 (dk_at dksX6_isSatisfied_0 19 rfl rfl)
theorem dX6_isSatisfied_22 : decode cX6_isSatisfied 22 = .ok (.iconst 0, 1) := dk_3 (dk_at dksX6_isSatisfied_0 22 rfl rfl)
theorem dX6_isSatisfied_23 : decode cX6_isSatisfied 23 = .ok (.ireturn, 1) := dk_172 (dk_at dksX6_isSatisfied_0 23 rfl rfl)
theorem dX6_isSatisfied_24 : decode cX6_isSatisfied 24 = .ok (.aload_n 0, 1) := dk_42 (dk_at dksX6_isSatisfied_1 0 rfl rfl)
theorem dX6_isSatisfied_25 : decode cX6_isSatisfied 25 = .ok (.iload_n 1, 1) := dk_27 (dk_at dksX6_isSatisfied_1 1 rfl rfl)
theorem dX6_isSatisfied_26 : decode cX6_isSatisfied 26 = .ok (.invokevirtual 126, 3) := dk_182 0 126 (dk_at dksX6_isSatisfied_1 2 rfl rfl)
theorem dX6_isSatisfied_29 : decode cX6_isSatisfied 29 = .ok (.ireturn, 1) := dk_172 (dk_at dksX6_isSatisfied_1 5 rfl rfl)
abbrev cX6_satisfiedCount : ByteArray := prog_9_method_92_code
def yX6_satisfiedCount : MethodName := ⟨RX6, "satisfiedCount", "()I"⟩
def dkwX6_satisfiedCount_0 : List UInt8 := [42, 42, 182, 0, 150, 182, 1, 17, 172]
abbrev dktX6_satisfiedCount_0 : List UInt8 := dkwX6_satisfiedCount_0 ++ []
theorem dksX6_satisfiedCount_0 : cX6_satisfiedCount.data.toList.drop 0 = dktX6_satisfiedCount_0 := by decide +kernel
theorem dX6_satisfiedCount_0 : decode cX6_satisfiedCount 0 = .ok (.aload_n 0, 1) := dk_42 (dk_at dksX6_satisfiedCount_0 0 rfl rfl)
theorem dX6_satisfiedCount_1 : decode cX6_satisfiedCount 1 = .ok (.aload_n 0, 1) := dk_42 (dk_at dksX6_satisfiedCount_0 1 rfl rfl)
theorem dX6_satisfiedCount_2 : decode cX6_satisfiedCount 2 = .ok (.invokevirtual 150, 3) := dk_182 0 150 (dk_at dksX6_satisfiedCount_0 2 rfl rfl)
theorem dX6_satisfiedCount_5 : decode cX6_satisfiedCount 5 = .ok (.invokevirtual 273, 3) := dk_182 1 17 (dk_at dksX6_satisfiedCount_0 5 rfl rfl)
theorem dX6_satisfiedCount_8 : decode cX6_satisfiedCount 8 = .ok (.ireturn, 1) := dk_172 (dk_at dksX6_satisfiedCount_0 8 rfl rfl)
abbrev cX6_envyCycleLength : ByteArray := prog_9_method_93_code
def yX6_envyCycleLength : MethodName := ⟨RX6, "envyCycleLength", "(I)I"⟩
def dkwX6_envyCycleLength_1 : List UInt8 := [42, 27, 182, 0, 156, 172]
abbrev dktX6_envyCycleLength_1 : List UInt8 := dkwX6_envyCycleLength_1 ++ []
def dkwX6_envyCycleLength_0 : List UInt8 := [42, 42, 27, 182, 0, 94, 154, 0, 7, 4, 167, 0, 4, 3, 3, 3, 182, 0, 171, 153, 0, 5, 3, 172]
abbrev dktX6_envyCycleLength_0 : List UInt8 := dkwX6_envyCycleLength_0 ++ dktX6_envyCycleLength_1
theorem dksX6_envyCycleLength_0 : cX6_envyCycleLength.data.toList.drop 0 = dktX6_envyCycleLength_0 := by decide +kernel
theorem dksX6_envyCycleLength_1 : cX6_envyCycleLength.data.toList.drop 24 = dktX6_envyCycleLength_1 := dk_seg dksX6_envyCycleLength_0 24 rfl rfl
theorem dX6_envyCycleLength_0 : decode cX6_envyCycleLength 0 = .ok (.aload_n 0, 1) := dk_42 (dk_at dksX6_envyCycleLength_0 0 rfl rfl)
theorem dX6_envyCycleLength_1 : decode cX6_envyCycleLength 1 = .ok (.aload_n 0, 1) := dk_42 (dk_at dksX6_envyCycleLength_0 1 rfl rfl)
theorem dX6_envyCycleLength_2 : decode cX6_envyCycleLength 2 = .ok (.iload_n 1, 1) := dk_27 (dk_at dksX6_envyCycleLength_0 2 rfl rfl)
theorem dX6_envyCycleLength_3 : decode cX6_envyCycleLength 3 = .ok (.invokevirtual 94, 3) := dk_182 0 94 (dk_at dksX6_envyCycleLength_0 3 rfl rfl)
theorem dX6_envyCycleLength_6 : decode cX6_envyCycleLength 6 = .ok (.ifCond .ne 7, 3) := dk_154 0 7 (dk_at dksX6_envyCycleLength_0 6 rfl rfl)
theorem dX6_envyCycleLength_9 : decode cX6_envyCycleLength 9 = .ok (.iconst 1, 1) := dk_4 (dk_at dksX6_envyCycleLength_0 9 rfl rfl)
theorem dX6_envyCycleLength_10 : decode cX6_envyCycleLength 10 = .ok (.goto 4, 3) := dk_167 0 4 (dk_at dksX6_envyCycleLength_0 10 rfl rfl)
theorem dX6_envyCycleLength_13 : decode cX6_envyCycleLength 13 = .ok (.iconst 0, 1) := dk_3 (dk_at dksX6_envyCycleLength_0 13 rfl rfl)
theorem dX6_envyCycleLength_14 : decode cX6_envyCycleLength 14 = .ok (.iconst 0, 1) := dk_3 (dk_at dksX6_envyCycleLength_0 14 rfl rfl)
theorem dX6_envyCycleLength_15 : decode cX6_envyCycleLength 15 = .ok (.iconst 0, 1) := dk_3 (dk_at dksX6_envyCycleLength_0 15 rfl rfl)
theorem dX6_envyCycleLength_16 : decode cX6_envyCycleLength 16 = .ok (.invokevirtual 171, 3) := dk_182 0 171 (dk_at dksX6_envyCycleLength_0 16 rfl rfl)
theorem dX6_envyCycleLength_19 : decode cX6_envyCycleLength 19 = .ok (.ifCond .eq 5, 3) := dk_153 0 5 (dk_at dksX6_envyCycleLength_0 19 rfl rfl)
theorem dX6_envyCycleLength_22 : decode cX6_envyCycleLength 22 = .ok (.iconst 0, 1) := dk_3 (dk_at dksX6_envyCycleLength_0 22 rfl rfl)
theorem dX6_envyCycleLength_23 : decode cX6_envyCycleLength 23 = .ok (.ireturn, 1) := dk_172 (dk_at dksX6_envyCycleLength_0 23 rfl rfl)
theorem dX6_envyCycleLength_24 : decode cX6_envyCycleLength 24 = .ok (.aload_n 0, 1) := dk_42 (dk_at dksX6_envyCycleLength_1 0 rfl rfl)
theorem dX6_envyCycleLength_25 : decode cX6_envyCycleLength 25 = .ok (.iload_n 1, 1) := dk_27 (dk_at dksX6_envyCycleLength_1 1 rfl rfl)
theorem dX6_envyCycleLength_26 : decode cX6_envyCycleLength 26 = .ok (.invokevirtual 156, 3) := dk_182 0 156 (dk_at dksX6_envyCycleLength_1 2 rfl rfl)
theorem dX6_envyCycleLength_29 : decode cX6_envyCycleLength 29 = .ok (.ireturn, 1) := dk_172 (dk_at dksX6_envyCycleLength_1 5 rfl rfl)
abbrev cX6_envyCycleMember : ByteArray := prog_9_method_94_code
def yX6_envyCycleMember : MethodName := ⟨RX6, "envyCycleMember", "(II)I"⟩
def dkwX6_envyCycleMember_2 : List UInt8 := [3, 182, 0, 171, 153, 0, 5, 3, 172, 42, 180, 0, 45, 28, 46, 172]
abbrev dktX6_envyCycleMember_2 : List UInt8 := dkwX6_envyCycleMember_2 ++ []
def dkwX6_envyCycleMember_1 : List UInt8 := [153, 0, 7, 27, 167, 0, 4, 3, 182, 0, 156, 4, 100, 184, 0, 90, 154, 0, 7, 4, 167, 0, 4, 3]
abbrev dktX6_envyCycleMember_1 : List UInt8 := dkwX6_envyCycleMember_1 ++ dktX6_envyCycleMember_2
def dkwX6_envyCycleMember_0 : List UInt8 := [42, 27, 182, 0, 94, 62, 42, 29, 154, 0, 7, 4, 167, 0, 4, 3, 29, 153, 0, 30, 28, 3, 42, 29]
abbrev dktX6_envyCycleMember_0 : List UInt8 := dkwX6_envyCycleMember_0 ++ dktX6_envyCycleMember_1
theorem dksX6_envyCycleMember_0 : cX6_envyCycleMember.data.toList.drop 0 = dktX6_envyCycleMember_0 := by decide +kernel
theorem dksX6_envyCycleMember_1 : cX6_envyCycleMember.data.toList.drop 24 = dktX6_envyCycleMember_1 := dk_seg dksX6_envyCycleMember_0 24 rfl rfl
theorem dksX6_envyCycleMember_2 : cX6_envyCycleMember.data.toList.drop 48 = dktX6_envyCycleMember_2 := dk_seg dksX6_envyCycleMember_1 24 rfl rfl
theorem dX6_envyCycleMember_0 : decode cX6_envyCycleMember 0 = .ok (.aload_n 0, 1) := dk_42 (dk_at dksX6_envyCycleMember_0 0 rfl rfl)
theorem dX6_envyCycleMember_1 : decode cX6_envyCycleMember 1 = .ok (.iload_n 1, 1) := dk_27 (dk_at dksX6_envyCycleMember_0 1 rfl rfl)
theorem dX6_envyCycleMember_2 : decode cX6_envyCycleMember 2 = .ok (.invokevirtual 94, 3) := dk_182 0 94 (dk_at dksX6_envyCycleMember_0 2 rfl rfl)
theorem dX6_envyCycleMember_5 : decode cX6_envyCycleMember 5 = .ok (.istore_n 3, 1) := dk_62 (dk_at dksX6_envyCycleMember_0 5 rfl rfl)
theorem dX6_envyCycleMember_6 : decode cX6_envyCycleMember 6 = .ok (.aload_n 0, 1) := dk_42 (dk_at dksX6_envyCycleMember_0 6 rfl rfl)
theorem dX6_envyCycleMember_7 : decode cX6_envyCycleMember 7 = .ok (.iload_n 3, 1) := dk_29 (dk_at dksX6_envyCycleMember_0 7 rfl rfl)
theorem dX6_envyCycleMember_8 : decode cX6_envyCycleMember 8 = .ok (.ifCond .ne 7, 3) := dk_154 0 7 (dk_at dksX6_envyCycleMember_0 8 rfl rfl)
theorem dX6_envyCycleMember_11 : decode cX6_envyCycleMember 11 = .ok (.iconst 1, 1) := dk_4 (dk_at dksX6_envyCycleMember_0 11 rfl rfl)
theorem dX6_envyCycleMember_12 : decode cX6_envyCycleMember 12 = .ok (.goto 4, 3) := dk_167 0 4 (dk_at dksX6_envyCycleMember_0 12 rfl rfl)
theorem dX6_envyCycleMember_15 : decode cX6_envyCycleMember 15 = .ok (.iconst 0, 1) := dk_3 (dk_at dksX6_envyCycleMember_0 15 rfl rfl)
theorem dX6_envyCycleMember_16 : decode cX6_envyCycleMember 16 = .ok (.iload_n 3, 1) := dk_29 (dk_at dksX6_envyCycleMember_0 16 rfl rfl)
theorem dX6_envyCycleMember_17 : decode cX6_envyCycleMember 17 = .ok (.ifCond .eq 30, 3) := dk_153 0 30 (dk_at dksX6_envyCycleMember_0 17 rfl rfl)
theorem dX6_envyCycleMember_20 : decode cX6_envyCycleMember 20 = .ok (.iload_n 2, 1) := dk_28 (dk_at dksX6_envyCycleMember_0 20 rfl rfl)
theorem dX6_envyCycleMember_21 : decode cX6_envyCycleMember 21 = .ok (.iconst 0, 1) := dk_3 (dk_at dksX6_envyCycleMember_0 21 rfl rfl)
theorem dX6_envyCycleMember_22 : decode cX6_envyCycleMember 22 = .ok (.aload_n 0, 1) := dk_42 (dk_at dksX6_envyCycleMember_0 22 rfl rfl)
theorem dX6_envyCycleMember_23 : decode cX6_envyCycleMember 23 = .ok (.iload_n 3, 1) := dk_29 (dk_at dksX6_envyCycleMember_0 23 rfl rfl)
theorem dX6_envyCycleMember_24 : decode cX6_envyCycleMember 24 = .ok (.ifCond .eq 7, 3) := dk_153 0 7 (dk_at dksX6_envyCycleMember_1 0 rfl rfl)
theorem dX6_envyCycleMember_27 : decode cX6_envyCycleMember 27 = .ok (.iload_n 1, 1) := dk_27 (dk_at dksX6_envyCycleMember_1 3 rfl rfl)
theorem dX6_envyCycleMember_28 : decode cX6_envyCycleMember 28 = .ok (.goto 4, 3) := dk_167 0 4 (dk_at dksX6_envyCycleMember_1 4 rfl rfl)
theorem dX6_envyCycleMember_31 : decode cX6_envyCycleMember 31 = .ok (.iconst 0, 1) := dk_3 (dk_at dksX6_envyCycleMember_1 7 rfl rfl)
theorem dX6_envyCycleMember_32 : decode cX6_envyCycleMember 32 = .ok (.invokevirtual 156, 3) := dk_182 0 156 (dk_at dksX6_envyCycleMember_1 8 rfl rfl)
theorem dX6_envyCycleMember_35 : decode cX6_envyCycleMember 35 = .ok (.iconst 1, 1) := dk_4 (dk_at dksX6_envyCycleMember_1 11 rfl rfl)
theorem dX6_envyCycleMember_36 : decode cX6_envyCycleMember 36 = .ok (.isub, 1) := dk_100 (dk_at dksX6_envyCycleMember_1 12 rfl rfl)
theorem dX6_envyCycleMember_37 : decode cX6_envyCycleMember 37 = .ok (.invokestatic 90, 3) := dk_184 0 90 (dk_at dksX6_envyCycleMember_1 13 rfl rfl)
theorem dX6_envyCycleMember_40 : decode cX6_envyCycleMember 40 = .ok (.ifCond .ne 7, 3) := dk_154 0 7 (dk_at dksX6_envyCycleMember_1 16 rfl rfl)
theorem dX6_envyCycleMember_43 : decode cX6_envyCycleMember 43 = .ok (.iconst 1, 1) := dk_4 (dk_at dksX6_envyCycleMember_1 19 rfl rfl)
theorem dX6_envyCycleMember_44 : decode cX6_envyCycleMember 44 = .ok (.goto 4, 3) := dk_167 0 4 (dk_at dksX6_envyCycleMember_1 20 rfl rfl)
theorem dX6_envyCycleMember_47 : decode cX6_envyCycleMember 47 = .ok (.iconst 0, 1) := dk_3 (dk_at dksX6_envyCycleMember_1 23 rfl rfl)
theorem dX6_envyCycleMember_48 : decode cX6_envyCycleMember 48 = .ok (.iconst 0, 1) := dk_3 (dk_at dksX6_envyCycleMember_2 0 rfl rfl)
theorem dX6_envyCycleMember_49 : decode cX6_envyCycleMember 49 = .ok (.invokevirtual 171, 3) := dk_182 0 171 (dk_at dksX6_envyCycleMember_2 1 rfl rfl)
theorem dX6_envyCycleMember_52 : decode cX6_envyCycleMember 52 = .ok (.ifCond .eq 5, 3) := dk_153 0 5 (dk_at dksX6_envyCycleMember_2 4 rfl rfl)
theorem dX6_envyCycleMember_55 : decode cX6_envyCycleMember 55 = .ok (.iconst 0, 1) := dk_3 (dk_at dksX6_envyCycleMember_2 7 rfl rfl)
theorem dX6_envyCycleMember_56 : decode cX6_envyCycleMember 56 = .ok (.ireturn, 1) := dk_172 (dk_at dksX6_envyCycleMember_2 8 rfl rfl)
theorem dX6_envyCycleMember_57 : decode cX6_envyCycleMember 57 = .ok (.aload_n 0, 1) := dk_42 (dk_at dksX6_envyCycleMember_2 9 rfl rfl)
theorem dX6_envyCycleMember_58 : decode cX6_envyCycleMember 58 = .ok (.getfield 45, 3) := dk_180 0 45 (dk_at dksX6_envyCycleMember_2 10 rfl rfl)
theorem dX6_envyCycleMember_61 : decode cX6_envyCycleMember 61 = .ok (.iload_n 2, 1) := dk_28 (dk_at dksX6_envyCycleMember_2 13 rfl rfl)
theorem dX6_envyCycleMember_62 : decode cX6_envyCycleMember 62 = .ok (.iaload, 1) := dk_46 (dk_at dksX6_envyCycleMember_2 14 rfl rfl)
theorem dX6_envyCycleMember_63 : decode cX6_envyCycleMember 63 = .ok (.ireturn, 1) := dk_172 (dk_at dksX6_envyCycleMember_2 15 rfl rfl)
abbrev cX6_wouldSwap : ByteArray := prog_9_method_95_code
def yX6_wouldSwap : MethodName := ⟨RX6, "wouldSwap", "(II)Z"⟩
def dkwX6_wouldSwap_2 : List UInt8 := [172]
abbrev dktX6_wouldSwap_2 : List UInt8 := dkwX6_wouldSwap_2 ++ []
def dkwX6_wouldSwap_1 : List UInt8 := [172, 42, 27, 28, 182, 0, 129, 153, 0, 16, 42, 28, 27, 182, 0, 129, 153, 0, 7, 4, 167, 0, 4, 3]
abbrev dktX6_wouldSwap_1 : List UInt8 := dkwX6_wouldSwap_1 ++ dktX6_wouldSwap_2
def dkwX6_wouldSwap_0 : List UInt8 := [42, 42, 27, 28, 182, 1, 20, 154, 0, 7, 4, 167, 0, 4, 3, 3, 3, 182, 0, 171, 153, 0, 5, 3]
abbrev dktX6_wouldSwap_0 : List UInt8 := dkwX6_wouldSwap_0 ++ dktX6_wouldSwap_1
theorem dksX6_wouldSwap_0 : cX6_wouldSwap.data.toList.drop 0 = dktX6_wouldSwap_0 := by decide +kernel
theorem dksX6_wouldSwap_1 : cX6_wouldSwap.data.toList.drop 24 = dktX6_wouldSwap_1 := dk_seg dksX6_wouldSwap_0 24 rfl rfl
theorem dksX6_wouldSwap_2 : cX6_wouldSwap.data.toList.drop 48 = dktX6_wouldSwap_2 := dk_seg dksX6_wouldSwap_1 24 rfl rfl
theorem dX6_wouldSwap_0 : decode cX6_wouldSwap 0 = .ok (.aload_n 0, 1) := dk_42 (dk_at dksX6_wouldSwap_0 0 rfl rfl)
theorem dX6_wouldSwap_1 : decode cX6_wouldSwap 1 = .ok (.aload_n 0, 1) := dk_42 (dk_at dksX6_wouldSwap_0 1 rfl rfl)
theorem dX6_wouldSwap_2 : decode cX6_wouldSwap 2 = .ok (.iload_n 1, 1) := dk_27 (dk_at dksX6_wouldSwap_0 2 rfl rfl)
theorem dX6_wouldSwap_3 : decode cX6_wouldSwap 3 = .ok (.iload_n 2, 1) := dk_28 (dk_at dksX6_wouldSwap_0 3 rfl rfl)
theorem dX6_wouldSwap_4 : decode cX6_wouldSwap 4 = .ok (.invokevirtual 276, 3) := dk_182 1 20 (dk_at dksX6_wouldSwap_0 4 rfl rfl)
theorem dX6_wouldSwap_7 : decode cX6_wouldSwap 7 = .ok (.ifCond .ne 7, 3) := dk_154 0 7 (dk_at dksX6_wouldSwap_0 7 rfl rfl)
theorem dX6_wouldSwap_10 : decode cX6_wouldSwap 10 = .ok (.iconst 1, 1) := dk_4 (dk_at dksX6_wouldSwap_0 10 rfl rfl)
theorem dX6_wouldSwap_11 : decode cX6_wouldSwap 11 = .ok (.goto 4, 3) := dk_167 0 4 (dk_at dksX6_wouldSwap_0 11 rfl rfl)
theorem dX6_wouldSwap_14 : decode cX6_wouldSwap 14 = .ok (.iconst 0, 1) := dk_3 (dk_at dksX6_wouldSwap_0 14 rfl rfl)
theorem dX6_wouldSwap_15 : decode cX6_wouldSwap 15 = .ok (.iconst 0, 1) := dk_3 (dk_at dksX6_wouldSwap_0 15 rfl rfl)
theorem dX6_wouldSwap_16 : decode cX6_wouldSwap 16 = .ok (.iconst 0, 1) := dk_3 (dk_at dksX6_wouldSwap_0 16 rfl rfl)
theorem dX6_wouldSwap_17 : decode cX6_wouldSwap 17 = .ok (.invokevirtual 171, 3) := dk_182 0 171 (dk_at dksX6_wouldSwap_0 17 rfl rfl)
theorem dX6_wouldSwap_20 : decode cX6_wouldSwap 20 = .ok (.ifCond .eq 5, 3) := dk_153 0 5 (dk_at dksX6_wouldSwap_0 20 rfl rfl)
theorem dX6_wouldSwap_23 : decode cX6_wouldSwap 23 = .ok (.iconst 0, 1) := dk_3 (dk_at dksX6_wouldSwap_0 23 rfl rfl)
theorem dX6_wouldSwap_24 : decode cX6_wouldSwap 24 = .ok (.ireturn, 1) := dk_172 (dk_at dksX6_wouldSwap_1 0 rfl rfl)
theorem dX6_wouldSwap_25 : decode cX6_wouldSwap 25 = .ok (.aload_n 0, 1) := dk_42 (dk_at dksX6_wouldSwap_1 1 rfl rfl)
theorem dX6_wouldSwap_26 : decode cX6_wouldSwap 26 = .ok (.iload_n 1, 1) := dk_27 (dk_at dksX6_wouldSwap_1 2 rfl rfl)
theorem dX6_wouldSwap_27 : decode cX6_wouldSwap 27 = .ok (.iload_n 2, 1) := dk_28 (dk_at dksX6_wouldSwap_1 3 rfl rfl)
theorem dX6_wouldSwap_28 : decode cX6_wouldSwap 28 = .ok (.invokevirtual 129, 3) := dk_182 0 129 (dk_at dksX6_wouldSwap_1 4 rfl rfl)
theorem dX6_wouldSwap_31 : decode cX6_wouldSwap 31 = .ok (.ifCond .eq 16, 3) := dk_153 0 16 (dk_at dksX6_wouldSwap_1 7 rfl rfl)
theorem dX6_wouldSwap_34 : decode cX6_wouldSwap 34 = .ok (.aload_n 0, 1) := dk_42 (dk_at dksX6_wouldSwap_1 10 rfl rfl)
theorem dX6_wouldSwap_35 : decode cX6_wouldSwap 35 = .ok (.iload_n 2, 1) := dk_28 (dk_at dksX6_wouldSwap_1 11 rfl rfl)
theorem dX6_wouldSwap_36 : decode cX6_wouldSwap 36 = .ok (.iload_n 1, 1) := dk_27 (dk_at dksX6_wouldSwap_1 12 rfl rfl)
theorem dX6_wouldSwap_37 : decode cX6_wouldSwap 37 = .ok (.invokevirtual 129, 3) := dk_182 0 129 (dk_at dksX6_wouldSwap_1 13 rfl rfl)
theorem dX6_wouldSwap_40 : decode cX6_wouldSwap 40 = .ok (.ifCond .eq 7, 3) := dk_153 0 7 (dk_at dksX6_wouldSwap_1 16 rfl rfl)
theorem dX6_wouldSwap_43 : decode cX6_wouldSwap 43 = .ok (.iconst 1, 1) := dk_4 (dk_at dksX6_wouldSwap_1 19 rfl rfl)
theorem dX6_wouldSwap_44 : decode cX6_wouldSwap 44 = .ok (.goto 4, 3) := dk_167 0 4 (dk_at dksX6_wouldSwap_1 20 rfl rfl)
theorem dX6_wouldSwap_47 : decode cX6_wouldSwap 47 = .ok (.iconst 0, 1) := dk_3 (dk_at dksX6_wouldSwap_1 23 rfl rfl)
theorem dX6_wouldSwap_48 : decode cX6_wouldSwap 48 = .ok (.ireturn, 1) := dk_172 (dk_at dksX6_wouldSwap_2 0 rfl rfl)
abbrev cX6_totalWelfare : ByteArray := prog_9_method_96_code
def yX6_totalWelfare : MethodName := ⟨RX6, "totalWelfare", "()I"⟩
def dkwX6_totalWelfare_1 : List UInt8 := [182, 0, 120, 96, 60, 132, 2, 1, 167, 255, 235, 27, 172]
abbrev dktX6_totalWelfare_1 : List UInt8 := dkwX6_totalWelfare_1 ++ []
def dkwX6_totalWelfare_0 : List UInt8 := [42, 3, 181, 0, 1, 3, 60, 3, 61, 28, 42, 180, 0, 13, 4, 46, 162, 0, 17, 27, 42, 28]
abbrev dktX6_totalWelfare_0 : List UInt8 := dkwX6_totalWelfare_0 ++ dktX6_totalWelfare_1
theorem dksX6_totalWelfare_0 : cX6_totalWelfare.data.toList.drop 0 = dktX6_totalWelfare_0 := by decide +kernel
theorem dksX6_totalWelfare_1 : cX6_totalWelfare.data.toList.drop 22 = dktX6_totalWelfare_1 := dk_seg dksX6_totalWelfare_0 22 rfl rfl
theorem dX6_totalWelfare_0 : decode cX6_totalWelfare 0 = .ok (.aload_n 0, 1) := dk_42 (dk_at dksX6_totalWelfare_0 0 rfl rfl)
theorem dX6_totalWelfare_1 : decode cX6_totalWelfare 1 = .ok (.iconst 0, 1) := dk_3 (dk_at dksX6_totalWelfare_0 1 rfl rfl)
theorem dX6_totalWelfare_2 : decode cX6_totalWelfare 2 = .ok (.putfield 1, 3) := dk_181 0 1 (dk_at dksX6_totalWelfare_0 2 rfl rfl)
theorem dX6_totalWelfare_5 : decode cX6_totalWelfare 5 = .ok (.iconst 0, 1) := dk_3 (dk_at dksX6_totalWelfare_0 5 rfl rfl)
theorem dX6_totalWelfare_6 : decode cX6_totalWelfare 6 = .ok (.istore_n 1, 1) := dk_60 (dk_at dksX6_totalWelfare_0 6 rfl rfl)
theorem dX6_totalWelfare_7 : decode cX6_totalWelfare 7 = .ok (.iconst 0, 1) := dk_3 (dk_at dksX6_totalWelfare_0 7 rfl rfl)
theorem dX6_totalWelfare_8 : decode cX6_totalWelfare 8 = .ok (.istore_n 2, 1) := dk_61 (dk_at dksX6_totalWelfare_0 8 rfl rfl)
theorem dX6_totalWelfare_9 : decode cX6_totalWelfare 9 = .ok (.iload_n 2, 1) := dk_28 (dk_at dksX6_totalWelfare_0 9 rfl rfl)
theorem dX6_totalWelfare_10 : decode cX6_totalWelfare 10 = .ok (.aload_n 0, 1) := dk_42 (dk_at dksX6_totalWelfare_0 10 rfl rfl)
theorem dX6_totalWelfare_11 : decode cX6_totalWelfare 11 = .ok (.getfield 13, 3) := dk_180 0 13 (dk_at dksX6_totalWelfare_0 11 rfl rfl)
theorem dX6_totalWelfare_14 : decode cX6_totalWelfare 14 = .ok (.iconst 1, 1) := dk_4 (dk_at dksX6_totalWelfare_0 14 rfl rfl)
theorem dX6_totalWelfare_15 : decode cX6_totalWelfare 15 = .ok (.iaload, 1) := dk_46 (dk_at dksX6_totalWelfare_0 15 rfl rfl)
theorem dX6_totalWelfare_16 : decode cX6_totalWelfare 16 = .ok (.if_icmp .ge 17, 3) := dk_162 0 17 (dk_at dksX6_totalWelfare_0 16 rfl rfl)
theorem dX6_totalWelfare_19 : decode cX6_totalWelfare 19 = .ok (.iload_n 1, 1) := dk_27 (dk_at dksX6_totalWelfare_0 19 rfl rfl)
theorem dX6_totalWelfare_20 : decode cX6_totalWelfare 20 = .ok (.aload_n 0, 1) := dk_42 (dk_at dksX6_totalWelfare_0 20 rfl rfl)
theorem dX6_totalWelfare_21 : decode cX6_totalWelfare 21 = .ok (.iload_n 2, 1) := dk_28 (dk_at dksX6_totalWelfare_0 21 rfl rfl)
theorem dX6_totalWelfare_22 : decode cX6_totalWelfare 22 = .ok (.invokevirtual 120, 3) := dk_182 0 120 (dk_at dksX6_totalWelfare_1 0 rfl rfl)
theorem dX6_totalWelfare_25 : decode cX6_totalWelfare 25 = .ok (.iadd, 1) := dk_96 (dk_at dksX6_totalWelfare_1 3 rfl rfl)
theorem dX6_totalWelfare_26 : decode cX6_totalWelfare 26 = .ok (.istore_n 1, 1) := dk_60 (dk_at dksX6_totalWelfare_1 4 rfl rfl)
theorem dX6_totalWelfare_27 : decode cX6_totalWelfare 27 = .ok (.iinc 2 1, 3) := dk_132 2 1 (dk_at dksX6_totalWelfare_1 5 rfl rfl)
theorem dX6_totalWelfare_30 : decode cX6_totalWelfare 30 = .ok (.goto (-21), 3) := dk_167 255 235 (dk_at dksX6_totalWelfare_1 8 rfl rfl)
theorem dX6_totalWelfare_33 : decode cX6_totalWelfare 33 = .ok (.iload_n 1, 1) := dk_27 (dk_at dksX6_totalWelfare_1 11 rfl rfl)
theorem dX6_totalWelfare_34 : decode cX6_totalWelfare 34 = .ok (.ireturn, 1) := dk_172 (dk_at dksX6_totalWelfare_1 12 rfl rfl)
abbrev cX6_leastWelfare : ByteArray := prog_9_method_97_code
def yX6_leastWelfare : MethodName := ⟨RX6, "leastWelfare", "()I"⟩
def dkwX6_leastWelfare_0 : List UInt8 := [42, 42, 182, 1, 38, 182, 1, 17, 172]
abbrev dktX6_leastWelfare_0 : List UInt8 := dkwX6_leastWelfare_0 ++ []
theorem dksX6_leastWelfare_0 : cX6_leastWelfare.data.toList.drop 0 = dktX6_leastWelfare_0 := by decide +kernel
theorem dX6_leastWelfare_0 : decode cX6_leastWelfare 0 = .ok (.aload_n 0, 1) := dk_42 (dk_at dksX6_leastWelfare_0 0 rfl rfl)
theorem dX6_leastWelfare_1 : decode cX6_leastWelfare 1 = .ok (.aload_n 0, 1) := dk_42 (dk_at dksX6_leastWelfare_0 1 rfl rfl)
theorem dX6_leastWelfare_2 : decode cX6_leastWelfare 2 = .ok (.invokevirtual 294, 3) := dk_182 1 38 (dk_at dksX6_leastWelfare_0 2 rfl rfl)
theorem dX6_leastWelfare_5 : decode cX6_leastWelfare 5 = .ok (.invokevirtual 273, 3) := dk_182 1 17 (dk_at dksX6_leastWelfare_0 5 rfl rfl)
theorem dX6_leastWelfare_8 : decode cX6_leastWelfare 8 = .ok (.ireturn, 1) := dk_172 (dk_at dksX6_leastWelfare_0 8 rfl rfl)
abbrev cX6_least : ByteArray := prog_9_method_36_code
def yX6_least : MethodName := ⟨RX6, "least", "()I"⟩
def dkwX6_least_1 : List UInt8 := [162, 0, 11, 42, 28, 182, 0, 120, 167, 0, 4, 27, 60, 132, 2, 1, 167, 255, 224, 27, 172]
abbrev dktX6_least_1 : List UInt8 := dkwX6_least_1 ++ []
def dkwX6_least_0 : List UInt8 := [42, 3, 182, 0, 120, 60, 4, 61, 28, 42, 180, 0, 13, 4, 46, 162, 0, 28, 42, 28, 182, 0, 120, 27]
abbrev dktX6_least_0 : List UInt8 := dkwX6_least_0 ++ dktX6_least_1
theorem dksX6_least_0 : cX6_least.data.toList.drop 0 = dktX6_least_0 := by decide +kernel
theorem dksX6_least_1 : cX6_least.data.toList.drop 24 = dktX6_least_1 := dk_seg dksX6_least_0 24 rfl rfl
theorem dX6_least_0 : decode cX6_least 0 = .ok (.aload_n 0, 1) := dk_42 (dk_at dksX6_least_0 0 rfl rfl)
theorem dX6_least_1 : decode cX6_least 1 = .ok (.iconst 0, 1) := dk_3 (dk_at dksX6_least_0 1 rfl rfl)
theorem dX6_least_2 : decode cX6_least 2 = .ok (.invokevirtual 120, 3) := dk_182 0 120 (dk_at dksX6_least_0 2 rfl rfl)
theorem dX6_least_5 : decode cX6_least 5 = .ok (.istore_n 1, 1) := dk_60 (dk_at dksX6_least_0 5 rfl rfl)
theorem dX6_least_6 : decode cX6_least 6 = .ok (.iconst 1, 1) := dk_4 (dk_at dksX6_least_0 6 rfl rfl)
theorem dX6_least_7 : decode cX6_least 7 = .ok (.istore_n 2, 1) := dk_61 (dk_at dksX6_least_0 7 rfl rfl)
theorem dX6_least_8 : decode cX6_least 8 = .ok (.iload_n 2, 1) := dk_28 (dk_at dksX6_least_0 8 rfl rfl)
theorem dX6_least_9 : decode cX6_least 9 = .ok (.aload_n 0, 1) := dk_42 (dk_at dksX6_least_0 9 rfl rfl)
theorem dX6_least_10 : decode cX6_least 10 = .ok (.getfield 13, 3) := dk_180 0 13 (dk_at dksX6_least_0 10 rfl rfl)
theorem dX6_least_13 : decode cX6_least 13 = .ok (.iconst 1, 1) := dk_4 (dk_at dksX6_least_0 13 rfl rfl)
theorem dX6_least_14 : decode cX6_least 14 = .ok (.iaload, 1) := dk_46 (dk_at dksX6_least_0 14 rfl rfl)
theorem dX6_least_15 : decode cX6_least 15 = .ok (.if_icmp .ge 28, 3) := dk_162 0 28 (dk_at dksX6_least_0 15 rfl rfl)
theorem dX6_least_18 : decode cX6_least 18 = .ok (.aload_n 0, 1) := dk_42 (dk_at dksX6_least_0 18 rfl rfl)
theorem dX6_least_19 : decode cX6_least 19 = .ok (.iload_n 2, 1) := dk_28 (dk_at dksX6_least_0 19 rfl rfl)
theorem dX6_least_20 : decode cX6_least 20 = .ok (.invokevirtual 120, 3) := dk_182 0 120 (dk_at dksX6_least_0 20 rfl rfl)
theorem dX6_least_23 : decode cX6_least 23 = .ok (.iload_n 1, 1) := dk_27 (dk_at dksX6_least_0 23 rfl rfl)
theorem dX6_least_24 : decode cX6_least 24 = .ok (.if_icmp .ge 11, 3) := dk_162 0 11 (dk_at dksX6_least_1 0 rfl rfl)
theorem dX6_least_27 : decode cX6_least 27 = .ok (.aload_n 0, 1) := dk_42 (dk_at dksX6_least_1 3 rfl rfl)
theorem dX6_least_28 : decode cX6_least 28 = .ok (.iload_n 2, 1) := dk_28 (dk_at dksX6_least_1 4 rfl rfl)
theorem dX6_least_29 : decode cX6_least 29 = .ok (.invokevirtual 120, 3) := dk_182 0 120 (dk_at dksX6_least_1 5 rfl rfl)
theorem dX6_least_32 : decode cX6_least 32 = .ok (.goto 4, 3) := dk_167 0 4 (dk_at dksX6_least_1 8 rfl rfl)
theorem dX6_least_35 : decode cX6_least 35 = .ok (.iload_n 1, 1) := dk_27 (dk_at dksX6_least_1 11 rfl rfl)
theorem dX6_least_36 : decode cX6_least 36 = .ok (.istore_n 1, 1) := dk_60 (dk_at dksX6_least_1 12 rfl rfl)
theorem dX6_least_37 : decode cX6_least 37 = .ok (.iinc 2 1, 3) := dk_132 2 1 (dk_at dksX6_least_1 13 rfl rfl)
theorem dX6_least_40 : decode cX6_least 40 = .ok (.goto (-32), 3) := dk_167 255 224 (dk_at dksX6_least_1 16 rfl rfl)
theorem dX6_least_43 : decode cX6_least 43 = .ok (.iload_n 1, 1) := dk_27 (dk_at dksX6_least_1 19 rfl rfl)
theorem dX6_least_44 : decode cX6_least 44 = .ok (.ireturn, 1) := dk_172 (dk_at dksX6_least_1 20 rfl rfl)
abbrev cX6_welfareProduct : ByteArray := prog_9_method_98_code
def yX6_welfareProduct : MethodName := ⟨RX6, "welfareProduct", "()J"⟩
def dkwX6_welfareProduct_1 : List UInt8 := [182, 0, 120, 133, 105, 64, 132, 3, 1, 167, 255, 234, 31, 173]
abbrev dktX6_welfareProduct_1 : List UInt8 := dkwX6_welfareProduct_1 ++ []
def dkwX6_welfareProduct_0 : List UInt8 := [42, 3, 181, 0, 1, 10, 64, 3, 62, 29, 42, 180, 0, 13, 4, 46, 162, 0, 18, 31, 42, 29]
abbrev dktX6_welfareProduct_0 : List UInt8 := dkwX6_welfareProduct_0 ++ dktX6_welfareProduct_1
theorem dksX6_welfareProduct_0 : cX6_welfareProduct.data.toList.drop 0 = dktX6_welfareProduct_0 := by decide +kernel
theorem dksX6_welfareProduct_1 : cX6_welfareProduct.data.toList.drop 22 = dktX6_welfareProduct_1 := dk_seg dksX6_welfareProduct_0 22 rfl rfl
theorem dX6_welfareProduct_0 : decode cX6_welfareProduct 0 = .ok (.aload_n 0, 1) := dk_42 (dk_at dksX6_welfareProduct_0 0 rfl rfl)
theorem dX6_welfareProduct_1 : decode cX6_welfareProduct 1 = .ok (.iconst 0, 1) := dk_3 (dk_at dksX6_welfareProduct_0 1 rfl rfl)
theorem dX6_welfareProduct_2 : decode cX6_welfareProduct 2 = .ok (.putfield 1, 3) := dk_181 0 1 (dk_at dksX6_welfareProduct_0 2 rfl rfl)
theorem dX6_welfareProduct_5 : decode cX6_welfareProduct 5 = .ok (.lconst 1, 1) := dk_10 (dk_at dksX6_welfareProduct_0 5 rfl rfl)
theorem dX6_welfareProduct_6 : decode cX6_welfareProduct 6 = .ok (.lstore_n 1, 1) := dk_64 (dk_at dksX6_welfareProduct_0 6 rfl rfl)
theorem dX6_welfareProduct_7 : decode cX6_welfareProduct 7 = .ok (.iconst 0, 1) := dk_3 (dk_at dksX6_welfareProduct_0 7 rfl rfl)
theorem dX6_welfareProduct_8 : decode cX6_welfareProduct 8 = .ok (.istore_n 3, 1) := dk_62 (dk_at dksX6_welfareProduct_0 8 rfl rfl)
theorem dX6_welfareProduct_9 : decode cX6_welfareProduct 9 = .ok (.iload_n 3, 1) := dk_29 (dk_at dksX6_welfareProduct_0 9 rfl rfl)
theorem dX6_welfareProduct_10 : decode cX6_welfareProduct 10 = .ok (.aload_n 0, 1) := dk_42 (dk_at dksX6_welfareProduct_0 10 rfl rfl)
theorem dX6_welfareProduct_11 : decode cX6_welfareProduct 11 = .ok (.getfield 13, 3) := dk_180 0 13 (dk_at dksX6_welfareProduct_0 11 rfl rfl)
theorem dX6_welfareProduct_14 : decode cX6_welfareProduct 14 = .ok (.iconst 1, 1) := dk_4 (dk_at dksX6_welfareProduct_0 14 rfl rfl)
theorem dX6_welfareProduct_15 : decode cX6_welfareProduct 15 = .ok (.iaload, 1) := dk_46 (dk_at dksX6_welfareProduct_0 15 rfl rfl)
theorem dX6_welfareProduct_16 : decode cX6_welfareProduct 16 = .ok (.if_icmp .ge 18, 3) := dk_162 0 18 (dk_at dksX6_welfareProduct_0 16 rfl rfl)
theorem dX6_welfareProduct_19 : decode cX6_welfareProduct 19 = .ok (.lload_n 1, 1) := dk_31 (dk_at dksX6_welfareProduct_0 19 rfl rfl)
theorem dX6_welfareProduct_20 : decode cX6_welfareProduct 20 = .ok (.aload_n 0, 1) := dk_42 (dk_at dksX6_welfareProduct_0 20 rfl rfl)
theorem dX6_welfareProduct_21 : decode cX6_welfareProduct 21 = .ok (.iload_n 3, 1) := dk_29 (dk_at dksX6_welfareProduct_0 21 rfl rfl)
theorem dX6_welfareProduct_22 : decode cX6_welfareProduct 22 = .ok (.invokevirtual 120, 3) := dk_182 0 120 (dk_at dksX6_welfareProduct_1 0 rfl rfl)
theorem dX6_welfareProduct_25 : decode cX6_welfareProduct 25 = .ok (.i2l, 1) := dk_133 (dk_at dksX6_welfareProduct_1 3 rfl rfl)
theorem dX6_welfareProduct_26 : decode cX6_welfareProduct 26 = .ok (.lmul, 1) := dk_105 (dk_at dksX6_welfareProduct_1 4 rfl rfl)
theorem dX6_welfareProduct_27 : decode cX6_welfareProduct 27 = .ok (.lstore_n 1, 1) := dk_64 (dk_at dksX6_welfareProduct_1 5 rfl rfl)
theorem dX6_welfareProduct_28 : decode cX6_welfareProduct 28 = .ok (.iinc 3 1, 3) := dk_132 3 1 (dk_at dksX6_welfareProduct_1 6 rfl rfl)
theorem dX6_welfareProduct_31 : decode cX6_welfareProduct 31 = .ok (.goto (-22), 3) := dk_167 255 234 (dk_at dksX6_welfareProduct_1 9 rfl rfl)
theorem dX6_welfareProduct_34 : decode cX6_welfareProduct 34 = .ok (.lload_n 1, 1) := dk_31 (dk_at dksX6_welfareProduct_1 12 rfl rfl)
theorem dX6_welfareProduct_35 : decode cX6_welfareProduct 35 = .ok (.lreturn, 1) := dk_173 (dk_at dksX6_welfareProduct_1 13 rfl rfl)
abbrev cX6_greatestTotalWelfare : ByteArray := prog_9_method_99_code
def yX6_greatestTotalWelfare : MethodName := ⟨RX6, "greatestTotalWelfare", "()I"⟩
def dkwX6_greatestTotalWelfare_3 : List UInt8 := [167, 255, 194, 27, 172]
abbrev dktX6_greatestTotalWelfare_3 : List UInt8 := dkwX6_greatestTotalWelfare_3 ++ []
def dkwX6_greatestTotalWelfare_2 : List UInt8 := [21, 4, 28, 182, 0, 105, 167, 0, 4, 29, 62, 132, 4, 1, 167, 255, 219, 27, 29, 96, 60, 132, 2, 1]
abbrev dktX6_greatestTotalWelfare_2 : List UInt8 := dkwX6_greatestTotalWelfare_2 ++ dktX6_greatestTotalWelfare_3
def dkwX6_greatestTotalWelfare_1 : List UInt8 := [21, 4, 42, 180, 0, 13, 4, 46, 162, 0, 32, 42, 21, 4, 28, 182, 0, 105, 29, 164, 0, 13, 42]
abbrev dktX6_greatestTotalWelfare_1 : List UInt8 := dkwX6_greatestTotalWelfare_1 ++ dktX6_greatestTotalWelfare_2
def dkwX6_greatestTotalWelfare_0 : List UInt8 := [42, 3, 181, 0, 1, 3, 60, 3, 61, 28, 42, 180, 0, 13, 3, 46, 162, 0, 58, 3, 62, 3, 54, 4]
abbrev dktX6_greatestTotalWelfare_0 : List UInt8 := dkwX6_greatestTotalWelfare_0 ++ dktX6_greatestTotalWelfare_1
theorem dksX6_greatestTotalWelfare_0 : cX6_greatestTotalWelfare.data.toList.drop 0 = dktX6_greatestTotalWelfare_0 := by decide +kernel
theorem dksX6_greatestTotalWelfare_1 : cX6_greatestTotalWelfare.data.toList.drop 24 = dktX6_greatestTotalWelfare_1 := dk_seg dksX6_greatestTotalWelfare_0 24 rfl rfl
theorem dksX6_greatestTotalWelfare_2 : cX6_greatestTotalWelfare.data.toList.drop 47 = dktX6_greatestTotalWelfare_2 := dk_seg dksX6_greatestTotalWelfare_1 23 rfl rfl
theorem dksX6_greatestTotalWelfare_3 : cX6_greatestTotalWelfare.data.toList.drop 71 = dktX6_greatestTotalWelfare_3 := dk_seg dksX6_greatestTotalWelfare_2 24 rfl rfl
theorem dX6_greatestTotalWelfare_0 : decode cX6_greatestTotalWelfare 0 = .ok (.aload_n 0, 1) := dk_42 (dk_at dksX6_greatestTotalWelfare_0 0 rfl rfl)
theorem dX6_greatestTotalWelfare_1 : decode cX6_greatestTotalWelfare 1 = .ok (.iconst 0, 1) := dk_3 (dk_at dksX6_greatestTotalWelfare_0 1 rfl rfl)
theorem dX6_greatestTotalWelfare_2 : decode cX6_greatestTotalWelfare 2 = .ok (.putfield 1, 3) := dk_181 0 1 (dk_at dksX6_greatestTotalWelfare_0 2 rfl rfl)
theorem dX6_greatestTotalWelfare_5 : decode cX6_greatestTotalWelfare 5 = .ok (.iconst 0, 1) := dk_3 (dk_at dksX6_greatestTotalWelfare_0 5 rfl rfl)
theorem dX6_greatestTotalWelfare_6 : decode cX6_greatestTotalWelfare 6 = .ok (.istore_n 1, 1) := dk_60 (dk_at dksX6_greatestTotalWelfare_0 6 rfl rfl)
theorem dX6_greatestTotalWelfare_7 : decode cX6_greatestTotalWelfare 7 = .ok (.iconst 0, 1) := dk_3 (dk_at dksX6_greatestTotalWelfare_0 7 rfl rfl)
theorem dX6_greatestTotalWelfare_8 : decode cX6_greatestTotalWelfare 8 = .ok (.istore_n 2, 1) := dk_61 (dk_at dksX6_greatestTotalWelfare_0 8 rfl rfl)
theorem dX6_greatestTotalWelfare_9 : decode cX6_greatestTotalWelfare 9 = .ok (.iload_n 2, 1) := dk_28 (dk_at dksX6_greatestTotalWelfare_0 9 rfl rfl)
theorem dX6_greatestTotalWelfare_10 : decode cX6_greatestTotalWelfare 10 = .ok (.aload_n 0, 1) := dk_42 (dk_at dksX6_greatestTotalWelfare_0 10 rfl rfl)
theorem dX6_greatestTotalWelfare_11 : decode cX6_greatestTotalWelfare 11 = .ok (.getfield 13, 3) := dk_180 0 13 (dk_at dksX6_greatestTotalWelfare_0 11 rfl rfl)
theorem dX6_greatestTotalWelfare_14 : decode cX6_greatestTotalWelfare 14 = .ok (.iconst 0, 1) := dk_3 (dk_at dksX6_greatestTotalWelfare_0 14 rfl rfl)
theorem dX6_greatestTotalWelfare_15 : decode cX6_greatestTotalWelfare 15 = .ok (.iaload, 1) := dk_46 (dk_at dksX6_greatestTotalWelfare_0 15 rfl rfl)
theorem dX6_greatestTotalWelfare_16 : decode cX6_greatestTotalWelfare 16 = .ok (.if_icmp .ge 58, 3) := dk_162 0 58 (dk_at dksX6_greatestTotalWelfare_0 16 rfl rfl)
theorem dX6_greatestTotalWelfare_19 : decode cX6_greatestTotalWelfare 19 = .ok (.iconst 0, 1) := dk_3 (dk_at dksX6_greatestTotalWelfare_0 19 rfl rfl)
theorem dX6_greatestTotalWelfare_20 : decode cX6_greatestTotalWelfare 20 = .ok (.istore_n 3, 1) := dk_62 (dk_at dksX6_greatestTotalWelfare_0 20 rfl rfl)
theorem dX6_greatestTotalWelfare_21 : decode cX6_greatestTotalWelfare 21 = .ok (.iconst 0, 1) := dk_3 (dk_at dksX6_greatestTotalWelfare_0 21 rfl rfl)
theorem dX6_greatestTotalWelfare_22 : decode cX6_greatestTotalWelfare 22 = .ok (.istore 4, 2) := dk_54 4 (dk_at dksX6_greatestTotalWelfare_0 22 rfl rfl)
theorem dX6_greatestTotalWelfare_24 : decode cX6_greatestTotalWelfare 24 = .ok (.iload 4, 2) := dk_21 4 (dk_at dksX6_greatestTotalWelfare_1 0 rfl rfl)
theorem dX6_greatestTotalWelfare_26 : decode cX6_greatestTotalWelfare 26 = .ok (.aload_n 0, 1) := dk_42 (dk_at dksX6_greatestTotalWelfare_1 2 rfl rfl)
theorem dX6_greatestTotalWelfare_27 : decode cX6_greatestTotalWelfare 27 = .ok (.getfield 13, 3) := dk_180 0 13 (dk_at dksX6_greatestTotalWelfare_1 3 rfl rfl)
theorem dX6_greatestTotalWelfare_30 : decode cX6_greatestTotalWelfare 30 = .ok (.iconst 1, 1) := dk_4 (dk_at dksX6_greatestTotalWelfare_1 6 rfl rfl)
theorem dX6_greatestTotalWelfare_31 : decode cX6_greatestTotalWelfare 31 = .ok (.iaload, 1) := dk_46 (dk_at dksX6_greatestTotalWelfare_1 7 rfl rfl)
theorem dX6_greatestTotalWelfare_32 : decode cX6_greatestTotalWelfare 32 = .ok (.if_icmp .ge 32, 3) := dk_162 0 32 (dk_at dksX6_greatestTotalWelfare_1 8 rfl rfl)
theorem dX6_greatestTotalWelfare_35 : decode cX6_greatestTotalWelfare 35 = .ok (.aload_n 0, 1) := dk_42 (dk_at dksX6_greatestTotalWelfare_1 11 rfl rfl)
theorem dX6_greatestTotalWelfare_36 : decode cX6_greatestTotalWelfare 36 = .ok (.iload 4, 2) := dk_21 4 (dk_at dksX6_greatestTotalWelfare_1 12 rfl rfl)
theorem dX6_greatestTotalWelfare_38 : decode cX6_greatestTotalWelfare 38 = .ok (.iload_n 2, 1) := dk_28 (dk_at dksX6_greatestTotalWelfare_1 14 rfl rfl)
theorem dX6_greatestTotalWelfare_39 : decode cX6_greatestTotalWelfare 39 = .ok (.invokevirtual 105, 3) := dk_182 0 105 (dk_at dksX6_greatestTotalWelfare_1 15 rfl rfl)
theorem dX6_greatestTotalWelfare_42 : decode cX6_greatestTotalWelfare 42 = .ok (.iload_n 3, 1) := dk_29 (dk_at dksX6_greatestTotalWelfare_1 18 rfl rfl)
theorem dX6_greatestTotalWelfare_43 : decode cX6_greatestTotalWelfare 43 = .ok (.if_icmp .le 13, 3) := dk_164 0 13 (dk_at dksX6_greatestTotalWelfare_1 19 rfl rfl)
theorem dX6_greatestTotalWelfare_46 : decode cX6_greatestTotalWelfare 46 = .ok (.aload_n 0, 1) := dk_42 (dk_at dksX6_greatestTotalWelfare_1 22 rfl rfl)
theorem dX6_greatestTotalWelfare_47 : decode cX6_greatestTotalWelfare 47 = .ok (.iload 4, 2) := dk_21 4 (dk_at dksX6_greatestTotalWelfare_2 0 rfl rfl)
theorem dX6_greatestTotalWelfare_49 : decode cX6_greatestTotalWelfare 49 = .ok (.iload_n 2, 1) := dk_28 (dk_at dksX6_greatestTotalWelfare_2 2 rfl rfl)
theorem dX6_greatestTotalWelfare_50 : decode cX6_greatestTotalWelfare 50 = .ok (.invokevirtual 105, 3) := dk_182 0 105 (dk_at dksX6_greatestTotalWelfare_2 3 rfl rfl)
theorem dX6_greatestTotalWelfare_53 : decode cX6_greatestTotalWelfare 53 = .ok (.goto 4, 3) := dk_167 0 4 (dk_at dksX6_greatestTotalWelfare_2 6 rfl rfl)
theorem dX6_greatestTotalWelfare_56 : decode cX6_greatestTotalWelfare 56 = .ok (.iload_n 3, 1) := dk_29 (dk_at dksX6_greatestTotalWelfare_2 9 rfl rfl)
theorem dX6_greatestTotalWelfare_57 : decode cX6_greatestTotalWelfare 57 = .ok (.istore_n 3, 1) := dk_62 (dk_at dksX6_greatestTotalWelfare_2 10 rfl rfl)
theorem dX6_greatestTotalWelfare_58 : decode cX6_greatestTotalWelfare 58 = .ok (.iinc 4 1, 3) := dk_132 4 1 (dk_at dksX6_greatestTotalWelfare_2 11 rfl rfl)
theorem dX6_greatestTotalWelfare_61 : decode cX6_greatestTotalWelfare 61 = .ok (.goto (-37), 3) := dk_167 255 219 (dk_at dksX6_greatestTotalWelfare_2 14 rfl rfl)
theorem dX6_greatestTotalWelfare_64 : decode cX6_greatestTotalWelfare 64 = .ok (.iload_n 1, 1) := dk_27 (dk_at dksX6_greatestTotalWelfare_2 17 rfl rfl)
theorem dX6_greatestTotalWelfare_65 : decode cX6_greatestTotalWelfare 65 = .ok (.iload_n 3, 1) := dk_29 (dk_at dksX6_greatestTotalWelfare_2 18 rfl rfl)
theorem dX6_greatestTotalWelfare_66 : decode cX6_greatestTotalWelfare 66 = .ok (.iadd, 1) := dk_96 (dk_at dksX6_greatestTotalWelfare_2 19 rfl rfl)
theorem dX6_greatestTotalWelfare_67 : decode cX6_greatestTotalWelfare 67 = .ok (.istore_n 1, 1) := dk_60 (dk_at dksX6_greatestTotalWelfare_2 20 rfl rfl)
theorem dX6_greatestTotalWelfare_68 : decode cX6_greatestTotalWelfare 68 = .ok (.iinc 2 1, 3) := dk_132 2 1 (dk_at dksX6_greatestTotalWelfare_2 21 rfl rfl)
theorem dX6_greatestTotalWelfare_71 : decode cX6_greatestTotalWelfare 71 = .ok (.goto (-62), 3) := dk_167 255 194 (dk_at dksX6_greatestTotalWelfare_3 0 rfl rfl)
theorem dX6_greatestTotalWelfare_74 : decode cX6_greatestTotalWelfare 74 = .ok (.iload_n 1, 1) := dk_27 (dk_at dksX6_greatestTotalWelfare_3 3 rfl rfl)
theorem dX6_greatestTotalWelfare_75 : decode cX6_greatestTotalWelfare 75 = .ok (.ireturn, 1) := dk_172 (dk_at dksX6_greatestTotalWelfare_3 4 rfl rfl)
abbrev cX6_greatestContiguousWelfare : ByteArray := prog_9_method_100_code
def yX6_greatestContiguousWelfare : MethodName := ⟨RX6, "greatestContiguousWelfare", "()I"⟩
def dkwX6_greatestContiguousWelfare_0 : List UInt8 := [42, 42, 182, 1, 41, 182, 1, 17, 172]
abbrev dktX6_greatestContiguousWelfare_0 : List UInt8 := dkwX6_greatestContiguousWelfare_0 ++ []
theorem dksX6_greatestContiguousWelfare_0 : cX6_greatestContiguousWelfare.data.toList.drop 0 = dktX6_greatestContiguousWelfare_0 := by decide +kernel
theorem dX6_greatestContiguousWelfare_0 : decode cX6_greatestContiguousWelfare 0 = .ok (.aload_n 0, 1) := dk_42 (dk_at dksX6_greatestContiguousWelfare_0 0 rfl rfl)
theorem dX6_greatestContiguousWelfare_1 : decode cX6_greatestContiguousWelfare 1 = .ok (.aload_n 0, 1) := dk_42 (dk_at dksX6_greatestContiguousWelfare_0 1 rfl rfl)
theorem dX6_greatestContiguousWelfare_2 : decode cX6_greatestContiguousWelfare 2 = .ok (.invokevirtual 297, 3) := dk_182 1 41 (dk_at dksX6_greatestContiguousWelfare_0 2 rfl rfl)
theorem dX6_greatestContiguousWelfare_5 : decode cX6_greatestContiguousWelfare 5 = .ok (.invokevirtual 273, 3) := dk_182 1 17 (dk_at dksX6_greatestContiguousWelfare_0 5 rfl rfl)
theorem dX6_greatestContiguousWelfare_8 : decode cX6_greatestContiguousWelfare 8 = .ok (.ireturn, 1) := dk_172 (dk_at dksX6_greatestContiguousWelfare_0 8 rfl rfl)
abbrev cX6_contiguousWelfare : ByteArray := prog_9_method_37_code
def yX6_contiguousWelfare : MethodName := ⟨RX6, "contiguousWelfare", "()I"⟩
def dkwX6_contiguousWelfare_5 : List UInt8 := [46, 96, 46, 172]
abbrev dktX6_contiguousWelfare_5 : List UInt8 := dkwX6_contiguousWelfare_5 ++ []
def dkwX6_contiguousWelfare_4 : List UInt8 := [167, 255, 221, 132, 2, 1, 167, 255, 166, 42, 180, 0, 51, 27, 4, 100, 16, 25, 104, 42, 180, 0, 13, 3]
abbrev dktX6_contiguousWelfare_4 : List UInt8 := dkwX6_contiguousWelfare_4 ++ dktX6_contiguousWelfare_5
def dkwX6_contiguousWelfare_3 : List UInt8 := [29, 122, 4, 126, 4, 160, 0, 16, 42, 28, 28, 4, 29, 120, 2, 130, 126, 29, 182, 0, 159, 132, 3, 1]
abbrev dktX6_contiguousWelfare_3 : List UInt8 := dkwX6_contiguousWelfare_3 ++ dktX6_contiguousWelfare_4
def dkwX6_contiguousWelfare_2 : List UInt8 := [167, 0, 4, 3, 79, 132, 3, 1, 167, 255, 219, 3, 62, 29, 42, 180, 0, 13, 4, 46, 162, 0, 31, 28]
abbrev dktX6_contiguousWelfare_2 : List UInt8 := dkwX6_contiguousWelfare_2 ++ dktX6_contiguousWelfare_3
def dkwX6_contiguousWelfare_1 : List UInt8 := [46, 163, 0, 33, 42, 180, 0, 51, 28, 16, 25, 104, 29, 96, 28, 154, 0, 11, 29, 158, 0, 7, 2]
abbrev dktX6_contiguousWelfare_1 : List UInt8 := dkwX6_contiguousWelfare_1 ++ dktX6_contiguousWelfare_2
def dkwX6_contiguousWelfare_0 : List UInt8 := [4, 42, 180, 0, 13, 4, 46, 120, 60, 3, 61, 28, 27, 162, 0, 91, 3, 62, 29, 42, 180, 0, 13, 3]
abbrev dktX6_contiguousWelfare_0 : List UInt8 := dkwX6_contiguousWelfare_0 ++ dktX6_contiguousWelfare_1
theorem dksX6_contiguousWelfare_0 : cX6_contiguousWelfare.data.toList.drop 0 = dktX6_contiguousWelfare_0 := by decide +kernel
theorem dksX6_contiguousWelfare_1 : cX6_contiguousWelfare.data.toList.drop 24 = dktX6_contiguousWelfare_1 := dk_seg dksX6_contiguousWelfare_0 24 rfl rfl
theorem dksX6_contiguousWelfare_2 : cX6_contiguousWelfare.data.toList.drop 47 = dktX6_contiguousWelfare_2 := dk_seg dksX6_contiguousWelfare_1 23 rfl rfl
theorem dksX6_contiguousWelfare_3 : cX6_contiguousWelfare.data.toList.drop 71 = dktX6_contiguousWelfare_3 := dk_seg dksX6_contiguousWelfare_2 24 rfl rfl
theorem dksX6_contiguousWelfare_4 : cX6_contiguousWelfare.data.toList.drop 95 = dktX6_contiguousWelfare_4 := dk_seg dksX6_contiguousWelfare_3 24 rfl rfl
theorem dksX6_contiguousWelfare_5 : cX6_contiguousWelfare.data.toList.drop 119 = dktX6_contiguousWelfare_5 := dk_seg dksX6_contiguousWelfare_4 24 rfl rfl
theorem dX6_contiguousWelfare_0 : decode cX6_contiguousWelfare 0 = .ok (.iconst 1, 1) := dk_4 (dk_at dksX6_contiguousWelfare_0 0 rfl rfl)
theorem dX6_contiguousWelfare_1 : decode cX6_contiguousWelfare 1 = .ok (.aload_n 0, 1) := dk_42 (dk_at dksX6_contiguousWelfare_0 1 rfl rfl)
theorem dX6_contiguousWelfare_2 : decode cX6_contiguousWelfare 2 = .ok (.getfield 13, 3) := dk_180 0 13 (dk_at dksX6_contiguousWelfare_0 2 rfl rfl)
theorem dX6_contiguousWelfare_5 : decode cX6_contiguousWelfare 5 = .ok (.iconst 1, 1) := dk_4 (dk_at dksX6_contiguousWelfare_0 5 rfl rfl)
theorem dX6_contiguousWelfare_6 : decode cX6_contiguousWelfare 6 = .ok (.iaload, 1) := dk_46 (dk_at dksX6_contiguousWelfare_0 6 rfl rfl)
theorem dX6_contiguousWelfare_7 : decode cX6_contiguousWelfare 7 = .ok (.ishl, 1) := dk_120 (dk_at dksX6_contiguousWelfare_0 7 rfl rfl)
theorem dX6_contiguousWelfare_8 : decode cX6_contiguousWelfare 8 = .ok (.istore_n 1, 1) := dk_60 (dk_at dksX6_contiguousWelfare_0 8 rfl rfl)
theorem dX6_contiguousWelfare_9 : decode cX6_contiguousWelfare 9 = .ok (.iconst 0, 1) := dk_3 (dk_at dksX6_contiguousWelfare_0 9 rfl rfl)
theorem dX6_contiguousWelfare_10 : decode cX6_contiguousWelfare 10 = .ok (.istore_n 2, 1) := dk_61 (dk_at dksX6_contiguousWelfare_0 10 rfl rfl)
theorem dX6_contiguousWelfare_11 : decode cX6_contiguousWelfare 11 = .ok (.iload_n 2, 1) := dk_28 (dk_at dksX6_contiguousWelfare_0 11 rfl rfl)
theorem dX6_contiguousWelfare_12 : decode cX6_contiguousWelfare 12 = .ok (.iload_n 1, 1) := dk_27 (dk_at dksX6_contiguousWelfare_0 12 rfl rfl)
theorem dX6_contiguousWelfare_13 : decode cX6_contiguousWelfare 13 = .ok (.if_icmp .ge 91, 3) := dk_162 0 91 (dk_at dksX6_contiguousWelfare_0 13 rfl rfl)
theorem dX6_contiguousWelfare_16 : decode cX6_contiguousWelfare 16 = .ok (.iconst 0, 1) := dk_3 (dk_at dksX6_contiguousWelfare_0 16 rfl rfl)
theorem dX6_contiguousWelfare_17 : decode cX6_contiguousWelfare 17 = .ok (.istore_n 3, 1) := dk_62 (dk_at dksX6_contiguousWelfare_0 17 rfl rfl)
theorem dX6_contiguousWelfare_18 : decode cX6_contiguousWelfare 18 = .ok (.iload_n 3, 1) := dk_29 (dk_at dksX6_contiguousWelfare_0 18 rfl rfl)
theorem dX6_contiguousWelfare_19 : decode cX6_contiguousWelfare 19 = .ok (.aload_n 0, 1) := dk_42 (dk_at dksX6_contiguousWelfare_0 19 rfl rfl)
theorem dX6_contiguousWelfare_20 : decode cX6_contiguousWelfare 20 = .ok (.getfield 13, 3) := dk_180 0 13 (dk_at dksX6_contiguousWelfare_0 20 rfl rfl)
theorem dX6_contiguousWelfare_23 : decode cX6_contiguousWelfare 23 = .ok (.iconst 0, 1) := dk_3 (dk_at dksX6_contiguousWelfare_0 23 rfl rfl)
theorem dX6_contiguousWelfare_24 : decode cX6_contiguousWelfare 24 = .ok (.iaload, 1) := dk_46 (dk_at dksX6_contiguousWelfare_1 0 rfl rfl)
theorem dX6_contiguousWelfare_25 : decode cX6_contiguousWelfare 25 = .ok (.if_icmp .gt 33, 3) := dk_163 0 33 (dk_at dksX6_contiguousWelfare_1 1 rfl rfl)
theorem dX6_contiguousWelfare_28 : decode cX6_contiguousWelfare 28 = .ok (.aload_n 0, 1) := dk_42 (dk_at dksX6_contiguousWelfare_1 4 rfl rfl)
theorem dX6_contiguousWelfare_29 : decode cX6_contiguousWelfare 29 = .ok (.getfield 51, 3) := dk_180 0 51 (dk_at dksX6_contiguousWelfare_1 5 rfl rfl)
theorem dX6_contiguousWelfare_32 : decode cX6_contiguousWelfare 32 = .ok (.iload_n 2, 1) := dk_28 (dk_at dksX6_contiguousWelfare_1 8 rfl rfl)
theorem dX6_contiguousWelfare_33 : decode cX6_contiguousWelfare 33 = .ok (.bipush 25, 2) := dk_16 25 (dk_at dksX6_contiguousWelfare_1 9 rfl rfl)
theorem dX6_contiguousWelfare_35 : decode cX6_contiguousWelfare 35 = .ok (.imul, 1) := dk_104 (dk_at dksX6_contiguousWelfare_1 11 rfl rfl)
theorem dX6_contiguousWelfare_36 : decode cX6_contiguousWelfare 36 = .ok (.iload_n 3, 1) := dk_29 (dk_at dksX6_contiguousWelfare_1 12 rfl rfl)
theorem dX6_contiguousWelfare_37 : decode cX6_contiguousWelfare 37 = .ok (.iadd, 1) := dk_96 (dk_at dksX6_contiguousWelfare_1 13 rfl rfl)
theorem dX6_contiguousWelfare_38 : decode cX6_contiguousWelfare 38 = .ok (.iload_n 2, 1) := dk_28 (dk_at dksX6_contiguousWelfare_1 14 rfl rfl)
theorem dX6_contiguousWelfare_39 : decode cX6_contiguousWelfare 39 = .ok (.ifCond .ne 11, 3) := dk_154 0 11 (dk_at dksX6_contiguousWelfare_1 15 rfl rfl)
theorem dX6_contiguousWelfare_42 : decode cX6_contiguousWelfare 42 = .ok (.iload_n 3, 1) := dk_29 (dk_at dksX6_contiguousWelfare_1 18 rfl rfl)
theorem dX6_contiguousWelfare_43 : decode cX6_contiguousWelfare 43 = .ok (.ifCond .le 7, 3) := dk_158 0 7 (dk_at dksX6_contiguousWelfare_1 19 rfl rfl)
theorem dX6_contiguousWelfare_46 : decode cX6_contiguousWelfare 46 = .ok (.iconst (-1), 1) := dk_2 (dk_at dksX6_contiguousWelfare_1 22 rfl rfl)
theorem dX6_contiguousWelfare_47 : decode cX6_contiguousWelfare 47 = .ok (.goto 4, 3) := dk_167 0 4 (dk_at dksX6_contiguousWelfare_2 0 rfl rfl)
theorem dX6_contiguousWelfare_50 : decode cX6_contiguousWelfare 50 = .ok (.iconst 0, 1) := dk_3 (dk_at dksX6_contiguousWelfare_2 3 rfl rfl)
theorem dX6_contiguousWelfare_51 : decode cX6_contiguousWelfare 51 = .ok (.iastore, 1) := dk_79 (dk_at dksX6_contiguousWelfare_2 4 rfl rfl)
theorem dX6_contiguousWelfare_52 : decode cX6_contiguousWelfare 52 = .ok (.iinc 3 1, 3) := dk_132 3 1 (dk_at dksX6_contiguousWelfare_2 5 rfl rfl)
theorem dX6_contiguousWelfare_55 : decode cX6_contiguousWelfare 55 = .ok (.goto (-37), 3) := dk_167 255 219 (dk_at dksX6_contiguousWelfare_2 8 rfl rfl)
theorem dX6_contiguousWelfare_58 : decode cX6_contiguousWelfare 58 = .ok (.iconst 0, 1) := dk_3 (dk_at dksX6_contiguousWelfare_2 11 rfl rfl)
theorem dX6_contiguousWelfare_59 : decode cX6_contiguousWelfare 59 = .ok (.istore_n 3, 1) := dk_62 (dk_at dksX6_contiguousWelfare_2 12 rfl rfl)
theorem dX6_contiguousWelfare_60 : decode cX6_contiguousWelfare 60 = .ok (.iload_n 3, 1) := dk_29 (dk_at dksX6_contiguousWelfare_2 13 rfl rfl)
theorem dX6_contiguousWelfare_61 : decode cX6_contiguousWelfare 61 = .ok (.aload_n 0, 1) := dk_42 (dk_at dksX6_contiguousWelfare_2 14 rfl rfl)
theorem dX6_contiguousWelfare_62 : decode cX6_contiguousWelfare 62 = .ok (.getfield 13, 3) := dk_180 0 13 (dk_at dksX6_contiguousWelfare_2 15 rfl rfl)
theorem dX6_contiguousWelfare_65 : decode cX6_contiguousWelfare 65 = .ok (.iconst 1, 1) := dk_4 (dk_at dksX6_contiguousWelfare_2 18 rfl rfl)
theorem dX6_contiguousWelfare_66 : decode cX6_contiguousWelfare 66 = .ok (.iaload, 1) := dk_46 (dk_at dksX6_contiguousWelfare_2 19 rfl rfl)
theorem dX6_contiguousWelfare_67 : decode cX6_contiguousWelfare 67 = .ok (.if_icmp .ge 31, 3) := dk_162 0 31 (dk_at dksX6_contiguousWelfare_2 20 rfl rfl)
theorem dX6_contiguousWelfare_70 : decode cX6_contiguousWelfare 70 = .ok (.iload_n 2, 1) := dk_28 (dk_at dksX6_contiguousWelfare_2 23 rfl rfl)
theorem dX6_contiguousWelfare_71 : decode cX6_contiguousWelfare 71 = .ok (.iload_n 3, 1) := dk_29 (dk_at dksX6_contiguousWelfare_3 0 rfl rfl)
theorem dX6_contiguousWelfare_72 : decode cX6_contiguousWelfare 72 = .ok (.ishr, 1) := dk_122 (dk_at dksX6_contiguousWelfare_3 1 rfl rfl)
theorem dX6_contiguousWelfare_73 : decode cX6_contiguousWelfare 73 = .ok (.iconst 1, 1) := dk_4 (dk_at dksX6_contiguousWelfare_3 2 rfl rfl)
theorem dX6_contiguousWelfare_74 : decode cX6_contiguousWelfare 74 = .ok (.iand, 1) := dk_126 (dk_at dksX6_contiguousWelfare_3 3 rfl rfl)
theorem dX6_contiguousWelfare_75 : decode cX6_contiguousWelfare 75 = .ok (.iconst 1, 1) := dk_4 (dk_at dksX6_contiguousWelfare_3 4 rfl rfl)
theorem dX6_contiguousWelfare_76 : decode cX6_contiguousWelfare 76 = .ok (.if_icmp .ne 16, 3) := dk_160 0 16 (dk_at dksX6_contiguousWelfare_3 5 rfl rfl)
theorem dX6_contiguousWelfare_79 : decode cX6_contiguousWelfare 79 = .ok (.aload_n 0, 1) := dk_42 (dk_at dksX6_contiguousWelfare_3 8 rfl rfl)
theorem dX6_contiguousWelfare_80 : decode cX6_contiguousWelfare 80 = .ok (.iload_n 2, 1) := dk_28 (dk_at dksX6_contiguousWelfare_3 9 rfl rfl)
theorem dX6_contiguousWelfare_81 : decode cX6_contiguousWelfare 81 = .ok (.iload_n 2, 1) := dk_28 (dk_at dksX6_contiguousWelfare_3 10 rfl rfl)
theorem dX6_contiguousWelfare_82 : decode cX6_contiguousWelfare 82 = .ok (.iconst 1, 1) := dk_4 (dk_at dksX6_contiguousWelfare_3 11 rfl rfl)
theorem dX6_contiguousWelfare_83 : decode cX6_contiguousWelfare 83 = .ok (.iload_n 3, 1) := dk_29 (dk_at dksX6_contiguousWelfare_3 12 rfl rfl)
theorem dX6_contiguousWelfare_84 : decode cX6_contiguousWelfare 84 = .ok (.ishl, 1) := dk_120 (dk_at dksX6_contiguousWelfare_3 13 rfl rfl)
theorem dX6_contiguousWelfare_85 : decode cX6_contiguousWelfare 85 = .ok (.iconst (-1), 1) := dk_2 (dk_at dksX6_contiguousWelfare_3 14 rfl rfl)
theorem dX6_contiguousWelfare_86 : decode cX6_contiguousWelfare 86 = .ok (.ixor, 1) := dk_130 (dk_at dksX6_contiguousWelfare_3 15 rfl rfl)
theorem dX6_contiguousWelfare_87 : decode cX6_contiguousWelfare 87 = .ok (.iand, 1) := dk_126 (dk_at dksX6_contiguousWelfare_3 16 rfl rfl)
theorem dX6_contiguousWelfare_88 : decode cX6_contiguousWelfare 88 = .ok (.iload_n 3, 1) := dk_29 (dk_at dksX6_contiguousWelfare_3 17 rfl rfl)
theorem dX6_contiguousWelfare_89 : decode cX6_contiguousWelfare 89 = .ok (.invokevirtual 159, 3) := dk_182 0 159 (dk_at dksX6_contiguousWelfare_3 18 rfl rfl)
theorem dX6_contiguousWelfare_92 : decode cX6_contiguousWelfare 92 = .ok (.iinc 3 1, 3) := dk_132 3 1 (dk_at dksX6_contiguousWelfare_3 21 rfl rfl)
theorem dX6_contiguousWelfare_95 : decode cX6_contiguousWelfare 95 = .ok (.goto (-35), 3) := dk_167 255 221 (dk_at dksX6_contiguousWelfare_4 0 rfl rfl)
theorem dX6_contiguousWelfare_98 : decode cX6_contiguousWelfare 98 = .ok (.iinc 2 1, 3) := dk_132 2 1 (dk_at dksX6_contiguousWelfare_4 3 rfl rfl)
theorem dX6_contiguousWelfare_101 : decode cX6_contiguousWelfare 101 = .ok (.goto (-90), 3) := dk_167 255 166 (dk_at dksX6_contiguousWelfare_4 6 rfl rfl)
theorem dX6_contiguousWelfare_104 : decode cX6_contiguousWelfare 104 = .ok (.aload_n 0, 1) := dk_42 (dk_at dksX6_contiguousWelfare_4 9 rfl rfl)
theorem dX6_contiguousWelfare_105 : decode cX6_contiguousWelfare 105 = .ok (.getfield 51, 3) := dk_180 0 51 (dk_at dksX6_contiguousWelfare_4 10 rfl rfl)
theorem dX6_contiguousWelfare_108 : decode cX6_contiguousWelfare 108 = .ok (.iload_n 1, 1) := dk_27 (dk_at dksX6_contiguousWelfare_4 13 rfl rfl)
theorem dX6_contiguousWelfare_109 : decode cX6_contiguousWelfare 109 = .ok (.iconst 1, 1) := dk_4 (dk_at dksX6_contiguousWelfare_4 14 rfl rfl)
theorem dX6_contiguousWelfare_110 : decode cX6_contiguousWelfare 110 = .ok (.isub, 1) := dk_100 (dk_at dksX6_contiguousWelfare_4 15 rfl rfl)
theorem dX6_contiguousWelfare_111 : decode cX6_contiguousWelfare 111 = .ok (.bipush 25, 2) := dk_16 25 (dk_at dksX6_contiguousWelfare_4 16 rfl rfl)
theorem dX6_contiguousWelfare_113 : decode cX6_contiguousWelfare 113 = .ok (.imul, 1) := dk_104 (dk_at dksX6_contiguousWelfare_4 18 rfl rfl)
theorem dX6_contiguousWelfare_114 : decode cX6_contiguousWelfare 114 = .ok (.aload_n 0, 1) := dk_42 (dk_at dksX6_contiguousWelfare_4 19 rfl rfl)
theorem dX6_contiguousWelfare_115 : decode cX6_contiguousWelfare 115 = .ok (.getfield 13, 3) := dk_180 0 13 (dk_at dksX6_contiguousWelfare_4 20 rfl rfl)
theorem dX6_contiguousWelfare_118 : decode cX6_contiguousWelfare 118 = .ok (.iconst 0, 1) := dk_3 (dk_at dksX6_contiguousWelfare_4 23 rfl rfl)
theorem dX6_contiguousWelfare_119 : decode cX6_contiguousWelfare 119 = .ok (.iaload, 1) := dk_46 (dk_at dksX6_contiguousWelfare_5 0 rfl rfl)
theorem dX6_contiguousWelfare_120 : decode cX6_contiguousWelfare 120 = .ok (.iadd, 1) := dk_96 (dk_at dksX6_contiguousWelfare_5 1 rfl rfl)
theorem dX6_contiguousWelfare_121 : decode cX6_contiguousWelfare 121 = .ok (.iaload, 1) := dk_46 (dk_at dksX6_contiguousWelfare_5 2 rfl rfl)
theorem dX6_contiguousWelfare_122 : decode cX6_contiguousWelfare 122 = .ok (.ireturn, 1) := dk_172 (dk_at dksX6_contiguousWelfare_5 3 rfl rfl)
abbrev cX6_extend : ByteArray := prog_9_method_38_code
def yX6_extend : MethodName := ⟨RX6, "extend", "(III)V"⟩
def dkwX6_extend_5 : List UInt8 := [132, 4, 1, 167, 255, 138, 177]
abbrev dktX6_extend_5 : List UInt8 := dkwX6_extend_5 ++ []
def dkwX6_extend_4 : List UInt8 := [21, 8, 46, 164, 0, 15, 42, 180, 0, 51, 21, 8, 21, 5, 21, 6, 96, 79, 132, 7, 1, 167, 255, 185]
abbrev dktX6_extend_4 : List UInt8 := dkwX6_extend_4 ++ dktX6_extend_5
def dkwX6_extend_3 : List UInt8 := [182, 0, 105, 96, 54, 6, 27, 16, 25, 104, 21, 7, 96, 54, 8, 21, 5, 21, 6, 96, 42, 180, 0, 51]
abbrev dktX6_extend_3 : List UInt8 := dkwX6_extend_3 ++ dktX6_extend_4
def dkwX6_extend_2 : List UInt8 := [180, 0, 13, 3, 46, 163, 0, 66, 21, 7, 21, 4, 164, 0, 17, 21, 6, 42, 29, 21, 7, 4, 100]
abbrev dktX6_extend_2 : List UInt8 := dkwX6_extend_2 ++ dktX6_extend_3
def dkwX6_extend_1 : List UInt8 := [96, 46, 54, 5, 21, 5, 2, 160, 0, 6, 167, 0, 84, 3, 54, 6, 21, 4, 54, 7, 21, 7, 42]
abbrev dktX6_extend_1 : List UInt8 := dkwX6_extend_1 ++ dktX6_extend_2
def dkwX6_extend_0 : List UInt8 := [3, 54, 4, 21, 4, 42, 180, 0, 13, 3, 46, 163, 0, 113, 42, 180, 0, 51, 28, 16, 25, 104, 21, 4]
abbrev dktX6_extend_0 : List UInt8 := dkwX6_extend_0 ++ dktX6_extend_1
theorem dksX6_extend_0 : cX6_extend.data.toList.drop 0 = dktX6_extend_0 := by decide +kernel
theorem dksX6_extend_1 : cX6_extend.data.toList.drop 24 = dktX6_extend_1 := dk_seg dksX6_extend_0 24 rfl rfl
theorem dksX6_extend_2 : cX6_extend.data.toList.drop 47 = dktX6_extend_2 := dk_seg dksX6_extend_1 23 rfl rfl
theorem dksX6_extend_3 : cX6_extend.data.toList.drop 70 = dktX6_extend_3 := dk_seg dksX6_extend_2 23 rfl rfl
theorem dksX6_extend_4 : cX6_extend.data.toList.drop 94 = dktX6_extend_4 := dk_seg dksX6_extend_3 24 rfl rfl
theorem dksX6_extend_5 : cX6_extend.data.toList.drop 118 = dktX6_extend_5 := dk_seg dksX6_extend_4 24 rfl rfl
theorem dX6_extend_0 : decode cX6_extend 0 = .ok (.iconst 0, 1) := dk_3 (dk_at dksX6_extend_0 0 rfl rfl)
theorem dX6_extend_1 : decode cX6_extend 1 = .ok (.istore 4, 2) := dk_54 4 (dk_at dksX6_extend_0 1 rfl rfl)
theorem dX6_extend_3 : decode cX6_extend 3 = .ok (.iload 4, 2) := dk_21 4 (dk_at dksX6_extend_0 3 rfl rfl)
theorem dX6_extend_5 : decode cX6_extend 5 = .ok (.aload_n 0, 1) := dk_42 (dk_at dksX6_extend_0 5 rfl rfl)
theorem dX6_extend_6 : decode cX6_extend 6 = .ok (.getfield 13, 3) := dk_180 0 13 (dk_at dksX6_extend_0 6 rfl rfl)
theorem dX6_extend_9 : decode cX6_extend 9 = .ok (.iconst 0, 1) := dk_3 (dk_at dksX6_extend_0 9 rfl rfl)
theorem dX6_extend_10 : decode cX6_extend 10 = .ok (.iaload, 1) := dk_46 (dk_at dksX6_extend_0 10 rfl rfl)
theorem dX6_extend_11 : decode cX6_extend 11 = .ok (.if_icmp .gt 113, 3) := dk_163 0 113 (dk_at dksX6_extend_0 11 rfl rfl)
theorem dX6_extend_14 : decode cX6_extend 14 = .ok (.aload_n 0, 1) := dk_42 (dk_at dksX6_extend_0 14 rfl rfl)
theorem dX6_extend_15 : decode cX6_extend 15 = .ok (.getfield 51, 3) := dk_180 0 51 (dk_at dksX6_extend_0 15 rfl rfl)
theorem dX6_extend_18 : decode cX6_extend 18 = .ok (.iload_n 2, 1) := dk_28 (dk_at dksX6_extend_0 18 rfl rfl)
theorem dX6_extend_19 : decode cX6_extend 19 = .ok (.bipush 25, 2) := dk_16 25 (dk_at dksX6_extend_0 19 rfl rfl)
theorem dX6_extend_21 : decode cX6_extend 21 = .ok (.imul, 1) := dk_104 (dk_at dksX6_extend_0 21 rfl rfl)
theorem dX6_extend_22 : decode cX6_extend 22 = .ok (.iload 4, 2) := dk_21 4 (dk_at dksX6_extend_0 22 rfl rfl)
theorem dX6_extend_24 : decode cX6_extend 24 = .ok (.iadd, 1) := dk_96 (dk_at dksX6_extend_1 0 rfl rfl)
theorem dX6_extend_25 : decode cX6_extend 25 = .ok (.iaload, 1) := dk_46 (dk_at dksX6_extend_1 1 rfl rfl)
theorem dX6_extend_26 : decode cX6_extend 26 = .ok (.istore 5, 2) := dk_54 5 (dk_at dksX6_extend_1 2 rfl rfl)
theorem dX6_extend_28 : decode cX6_extend 28 = .ok (.iload 5, 2) := dk_21 5 (dk_at dksX6_extend_1 4 rfl rfl)
theorem dX6_extend_30 : decode cX6_extend 30 = .ok (.iconst (-1), 1) := dk_2 (dk_at dksX6_extend_1 6 rfl rfl)
theorem dX6_extend_31 : decode cX6_extend 31 = .ok (.if_icmp .ne 6, 3) := dk_160 0 6 (dk_at dksX6_extend_1 7 rfl rfl)
theorem dX6_extend_34 : decode cX6_extend 34 = .ok (.goto 84, 3) := dk_167 0 84 (dk_at dksX6_extend_1 10 rfl rfl)
theorem dX6_extend_37 : decode cX6_extend 37 = .ok (.iconst 0, 1) := dk_3 (dk_at dksX6_extend_1 13 rfl rfl)
theorem dX6_extend_38 : decode cX6_extend 38 = .ok (.istore 6, 2) := dk_54 6 (dk_at dksX6_extend_1 14 rfl rfl)
theorem dX6_extend_40 : decode cX6_extend 40 = .ok (.iload 4, 2) := dk_21 4 (dk_at dksX6_extend_1 16 rfl rfl)
theorem dX6_extend_42 : decode cX6_extend 42 = .ok (.istore 7, 2) := dk_54 7 (dk_at dksX6_extend_1 18 rfl rfl)
theorem dX6_extend_44 : decode cX6_extend 44 = .ok (.iload 7, 2) := dk_21 7 (dk_at dksX6_extend_1 20 rfl rfl)
theorem dX6_extend_46 : decode cX6_extend 46 = .ok (.aload_n 0, 1) := dk_42 (dk_at dksX6_extend_1 22 rfl rfl)
theorem dX6_extend_47 : decode cX6_extend 47 = .ok (.getfield 13, 3) := dk_180 0 13 (dk_at dksX6_extend_2 0 rfl rfl)
theorem dX6_extend_50 : decode cX6_extend 50 = .ok (.iconst 0, 1) := dk_3 (dk_at dksX6_extend_2 3 rfl rfl)
theorem dX6_extend_51 : decode cX6_extend 51 = .ok (.iaload, 1) := dk_46 (dk_at dksX6_extend_2 4 rfl rfl)
theorem dX6_extend_52 : decode cX6_extend 52 = .ok (.if_icmp .gt 66, 3) := dk_163 0 66 (dk_at dksX6_extend_2 5 rfl rfl)
theorem dX6_extend_55 : decode cX6_extend 55 = .ok (.iload 7, 2) := dk_21 7 (dk_at dksX6_extend_2 8 rfl rfl)
theorem dX6_extend_57 : decode cX6_extend 57 = .ok (.iload 4, 2) := dk_21 4 (dk_at dksX6_extend_2 10 rfl rfl)
theorem dX6_extend_59 : decode cX6_extend 59 = .ok (.if_icmp .le 17, 3) := dk_164 0 17 (dk_at dksX6_extend_2 12 rfl rfl)
theorem dX6_extend_62 : decode cX6_extend 62 = .ok (.iload 6, 2) := dk_21 6 (dk_at dksX6_extend_2 15 rfl rfl)
theorem dX6_extend_64 : decode cX6_extend 64 = .ok (.aload_n 0, 1) := dk_42 (dk_at dksX6_extend_2 17 rfl rfl)
theorem dX6_extend_65 : decode cX6_extend 65 = .ok (.iload_n 3, 1) := dk_29 (dk_at dksX6_extend_2 18 rfl rfl)
theorem dX6_extend_66 : decode cX6_extend 66 = .ok (.iload 7, 2) := dk_21 7 (dk_at dksX6_extend_2 19 rfl rfl)
theorem dX6_extend_68 : decode cX6_extend 68 = .ok (.iconst 1, 1) := dk_4 (dk_at dksX6_extend_2 21 rfl rfl)
theorem dX6_extend_69 : decode cX6_extend 69 = .ok (.isub, 1) := dk_100 (dk_at dksX6_extend_2 22 rfl rfl)
theorem dX6_extend_70 : decode cX6_extend 70 = .ok (.invokevirtual 105, 3) := dk_182 0 105 (dk_at dksX6_extend_3 0 rfl rfl)
theorem dX6_extend_73 : decode cX6_extend 73 = .ok (.iadd, 1) := dk_96 (dk_at dksX6_extend_3 3 rfl rfl)
theorem dX6_extend_74 : decode cX6_extend 74 = .ok (.istore 6, 2) := dk_54 6 (dk_at dksX6_extend_3 4 rfl rfl)
theorem dX6_extend_76 : decode cX6_extend 76 = .ok (.iload_n 1, 1) := dk_27 (dk_at dksX6_extend_3 6 rfl rfl)
theorem dX6_extend_77 : decode cX6_extend 77 = .ok (.bipush 25, 2) := dk_16 25 (dk_at dksX6_extend_3 7 rfl rfl)
theorem dX6_extend_79 : decode cX6_extend 79 = .ok (.imul, 1) := dk_104 (dk_at dksX6_extend_3 9 rfl rfl)
theorem dX6_extend_80 : decode cX6_extend 80 = .ok (.iload 7, 2) := dk_21 7 (dk_at dksX6_extend_3 10 rfl rfl)
theorem dX6_extend_82 : decode cX6_extend 82 = .ok (.iadd, 1) := dk_96 (dk_at dksX6_extend_3 12 rfl rfl)
theorem dX6_extend_83 : decode cX6_extend 83 = .ok (.istore 8, 2) := dk_54 8 (dk_at dksX6_extend_3 13 rfl rfl)
theorem dX6_extend_85 : decode cX6_extend 85 = .ok (.iload 5, 2) := dk_21 5 (dk_at dksX6_extend_3 15 rfl rfl)
theorem dX6_extend_87 : decode cX6_extend 87 = .ok (.iload 6, 2) := dk_21 6 (dk_at dksX6_extend_3 17 rfl rfl)
theorem dX6_extend_89 : decode cX6_extend 89 = .ok (.iadd, 1) := dk_96 (dk_at dksX6_extend_3 19 rfl rfl)
theorem dX6_extend_90 : decode cX6_extend 90 = .ok (.aload_n 0, 1) := dk_42 (dk_at dksX6_extend_3 20 rfl rfl)
theorem dX6_extend_91 : decode cX6_extend 91 = .ok (.getfield 51, 3) := dk_180 0 51 (dk_at dksX6_extend_3 21 rfl rfl)
theorem dX6_extend_94 : decode cX6_extend 94 = .ok (.iload 8, 2) := dk_21 8 (dk_at dksX6_extend_4 0 rfl rfl)
theorem dX6_extend_96 : decode cX6_extend 96 = .ok (.iaload, 1) := dk_46 (dk_at dksX6_extend_4 2 rfl rfl)
theorem dX6_extend_97 : decode cX6_extend 97 = .ok (.if_icmp .le 15, 3) := dk_164 0 15 (dk_at dksX6_extend_4 3 rfl rfl)
theorem dX6_extend_100 : decode cX6_extend 100 = .ok (.aload_n 0, 1) := dk_42 (dk_at dksX6_extend_4 6 rfl rfl)
theorem dX6_extend_101 : decode cX6_extend 101 = .ok (.getfield 51, 3) := dk_180 0 51 (dk_at dksX6_extend_4 7 rfl rfl)
theorem dX6_extend_104 : decode cX6_extend 104 = .ok (.iload 8, 2) := dk_21 8 (dk_at dksX6_extend_4 10 rfl rfl)
theorem dX6_extend_106 : decode cX6_extend 106 = .ok (.iload 5, 2) := dk_21 5 (dk_at dksX6_extend_4 12 rfl rfl)
theorem dX6_extend_108 : decode cX6_extend 108 = .ok (.iload 6, 2) := dk_21 6 (dk_at dksX6_extend_4 14 rfl rfl)
theorem dX6_extend_110 : decode cX6_extend 110 = .ok (.iadd, 1) := dk_96 (dk_at dksX6_extend_4 16 rfl rfl)
theorem dX6_extend_111 : decode cX6_extend 111 = .ok (.iastore, 1) := dk_79 (dk_at dksX6_extend_4 17 rfl rfl)
theorem dX6_extend_112 : decode cX6_extend 112 = .ok (.iinc 7 1, 3) := dk_132 7 1 (dk_at dksX6_extend_4 18 rfl rfl)
theorem dX6_extend_115 : decode cX6_extend 115 = .ok (.goto (-71), 3) := dk_167 255 185 (dk_at dksX6_extend_4 21 rfl rfl)
theorem dX6_extend_118 : decode cX6_extend 118 = .ok (.iinc 4 1, 3) := dk_132 4 1 (dk_at dksX6_extend_5 0 rfl rfl)
theorem dX6_extend_121 : decode cX6_extend 121 = .ok (.goto (-118), 3) := dk_167 255 138 (dk_at dksX6_extend_5 3 rfl rfl)
theorem dX6_extend_124 : decode cX6_extend 124 = .ok (.return_, 1) := dk_177 (dk_at dksX6_extend_5 6 rfl rfl)
abbrev cX6_bestLeastWelfare : ByteArray := prog_9_method_101_code
def yX6_bestLeastWelfare : MethodName := ⟨RX6, "bestLeastWelfare", "()I"⟩
def dkwX6_bestLeastWelfare_0 : List UInt8 := [42, 42, 182, 1, 44, 182, 1, 17, 172]
abbrev dktX6_bestLeastWelfare_0 : List UInt8 := dkwX6_bestLeastWelfare_0 ++ []
theorem dksX6_bestLeastWelfare_0 : cX6_bestLeastWelfare.data.toList.drop 0 = dktX6_bestLeastWelfare_0 := by decide +kernel
theorem dX6_bestLeastWelfare_0 : decode cX6_bestLeastWelfare 0 = .ok (.aload_n 0, 1) := dk_42 (dk_at dksX6_bestLeastWelfare_0 0 rfl rfl)
theorem dX6_bestLeastWelfare_1 : decode cX6_bestLeastWelfare 1 = .ok (.aload_n 0, 1) := dk_42 (dk_at dksX6_bestLeastWelfare_0 1 rfl rfl)
theorem dX6_bestLeastWelfare_2 : decode cX6_bestLeastWelfare 2 = .ok (.invokevirtual 300, 3) := dk_182 1 44 (dk_at dksX6_bestLeastWelfare_0 2 rfl rfl)
theorem dX6_bestLeastWelfare_5 : decode cX6_bestLeastWelfare 5 = .ok (.invokevirtual 273, 3) := dk_182 1 17 (dk_at dksX6_bestLeastWelfare_0 5 rfl rfl)
theorem dX6_bestLeastWelfare_8 : decode cX6_bestLeastWelfare 8 = .ok (.ireturn, 1) := dk_172 (dk_at dksX6_bestLeastWelfare_0 8 rfl rfl)
abbrev cX6_contiguousLeast : ByteArray := prog_9_method_42_code
def yX6_contiguousLeast : MethodName := ⟨RX6, "contiguousLeast", "()I"⟩
def dkwX6_contiguousLeast_2 : List UInt8 := [167, 255, 243, 42, 182, 0, 168, 61, 167, 255, 231, 27, 172]
abbrev dktX6_contiguousLeast_2 : List UInt8 := dkwX6_contiguousLeast_2 ++ []
def dkwX6_contiguousLeast_1 : List UInt8 := [167, 255, 236, 3, 60, 4, 61, 28, 153, 0, 27, 42, 27, 4, 96, 182, 0, 165, 153, 0, 9, 132, 1, 1]
abbrev dktX6_contiguousLeast_1 : List UInt8 := dkwX6_contiguousLeast_1 ++ dktX6_contiguousLeast_2
def dkwX6_contiguousLeast_0 : List UInt8 := [3, 60, 27, 42, 180, 0, 13, 4, 46, 162, 0, 16, 42, 180, 0, 54, 27, 27, 79, 132, 1, 1]
abbrev dktX6_contiguousLeast_0 : List UInt8 := dkwX6_contiguousLeast_0 ++ dktX6_contiguousLeast_1
theorem dksX6_contiguousLeast_0 : cX6_contiguousLeast.data.toList.drop 0 = dktX6_contiguousLeast_0 := by decide +kernel
theorem dksX6_contiguousLeast_1 : cX6_contiguousLeast.data.toList.drop 22 = dktX6_contiguousLeast_1 := dk_seg dksX6_contiguousLeast_0 22 rfl rfl
theorem dksX6_contiguousLeast_2 : cX6_contiguousLeast.data.toList.drop 46 = dktX6_contiguousLeast_2 := dk_seg dksX6_contiguousLeast_1 24 rfl rfl
theorem dX6_contiguousLeast_0 : decode cX6_contiguousLeast 0 = .ok (.iconst 0, 1) := dk_3 (dk_at dksX6_contiguousLeast_0 0 rfl rfl)
theorem dX6_contiguousLeast_1 : decode cX6_contiguousLeast 1 = .ok (.istore_n 1, 1) := dk_60 (dk_at dksX6_contiguousLeast_0 1 rfl rfl)
theorem dX6_contiguousLeast_2 : decode cX6_contiguousLeast 2 = .ok (.iload_n 1, 1) := dk_27 (dk_at dksX6_contiguousLeast_0 2 rfl rfl)
theorem dX6_contiguousLeast_3 : decode cX6_contiguousLeast 3 = .ok (.aload_n 0, 1) := dk_42 (dk_at dksX6_contiguousLeast_0 3 rfl rfl)
theorem dX6_contiguousLeast_4 : decode cX6_contiguousLeast 4 = .ok (.getfield 13, 3) := dk_180 0 13 (dk_at dksX6_contiguousLeast_0 4 rfl rfl)
theorem dX6_contiguousLeast_7 : decode cX6_contiguousLeast 7 = .ok (.iconst 1, 1) := dk_4 (dk_at dksX6_contiguousLeast_0 7 rfl rfl)
theorem dX6_contiguousLeast_8 : decode cX6_contiguousLeast 8 = .ok (.iaload, 1) := dk_46 (dk_at dksX6_contiguousLeast_0 8 rfl rfl)
theorem dX6_contiguousLeast_9 : decode cX6_contiguousLeast 9 = .ok (.if_icmp .ge 16, 3) := dk_162 0 16 (dk_at dksX6_contiguousLeast_0 9 rfl rfl)
theorem dX6_contiguousLeast_12 : decode cX6_contiguousLeast 12 = .ok (.aload_n 0, 1) := dk_42 (dk_at dksX6_contiguousLeast_0 12 rfl rfl)
theorem dX6_contiguousLeast_13 : decode cX6_contiguousLeast 13 = .ok (.getfield 54, 3) := dk_180 0 54 (dk_at dksX6_contiguousLeast_0 13 rfl rfl)
theorem dX6_contiguousLeast_16 : decode cX6_contiguousLeast 16 = .ok (.iload_n 1, 1) := dk_27 (dk_at dksX6_contiguousLeast_0 16 rfl rfl)
theorem dX6_contiguousLeast_17 : decode cX6_contiguousLeast 17 = .ok (.iload_n 1, 1) := dk_27 (dk_at dksX6_contiguousLeast_0 17 rfl rfl)
theorem dX6_contiguousLeast_18 : decode cX6_contiguousLeast 18 = .ok (.iastore, 1) := dk_79 (dk_at dksX6_contiguousLeast_0 18 rfl rfl)
theorem dX6_contiguousLeast_19 : decode cX6_contiguousLeast 19 = .ok (.iinc 1 1, 3) := dk_132 1 1 (dk_at dksX6_contiguousLeast_0 19 rfl rfl)
theorem dX6_contiguousLeast_22 : decode cX6_contiguousLeast 22 = .ok (.goto (-20), 3) := dk_167 255 236 (dk_at dksX6_contiguousLeast_1 0 rfl rfl)
theorem dX6_contiguousLeast_25 : decode cX6_contiguousLeast 25 = .ok (.iconst 0, 1) := dk_3 (dk_at dksX6_contiguousLeast_1 3 rfl rfl)
theorem dX6_contiguousLeast_26 : decode cX6_contiguousLeast 26 = .ok (.istore_n 1, 1) := dk_60 (dk_at dksX6_contiguousLeast_1 4 rfl rfl)
theorem dX6_contiguousLeast_27 : decode cX6_contiguousLeast 27 = .ok (.iconst 1, 1) := dk_4 (dk_at dksX6_contiguousLeast_1 5 rfl rfl)
theorem dX6_contiguousLeast_28 : decode cX6_contiguousLeast 28 = .ok (.istore_n 2, 1) := dk_61 (dk_at dksX6_contiguousLeast_1 6 rfl rfl)
theorem dX6_contiguousLeast_29 : decode cX6_contiguousLeast 29 = .ok (.iload_n 2, 1) := dk_28 (dk_at dksX6_contiguousLeast_1 7 rfl rfl)
theorem dX6_contiguousLeast_30 : decode cX6_contiguousLeast 30 = .ok (.ifCond .eq 27, 3) := dk_153 0 27 (dk_at dksX6_contiguousLeast_1 8 rfl rfl)
theorem dX6_contiguousLeast_33 : decode cX6_contiguousLeast 33 = .ok (.aload_n 0, 1) := dk_42 (dk_at dksX6_contiguousLeast_1 11 rfl rfl)
theorem dX6_contiguousLeast_34 : decode cX6_contiguousLeast 34 = .ok (.iload_n 1, 1) := dk_27 (dk_at dksX6_contiguousLeast_1 12 rfl rfl)
theorem dX6_contiguousLeast_35 : decode cX6_contiguousLeast 35 = .ok (.iconst 1, 1) := dk_4 (dk_at dksX6_contiguousLeast_1 13 rfl rfl)
theorem dX6_contiguousLeast_36 : decode cX6_contiguousLeast 36 = .ok (.iadd, 1) := dk_96 (dk_at dksX6_contiguousLeast_1 14 rfl rfl)
theorem dX6_contiguousLeast_37 : decode cX6_contiguousLeast 37 = .ok (.invokevirtual 165, 3) := dk_182 0 165 (dk_at dksX6_contiguousLeast_1 15 rfl rfl)
theorem dX6_contiguousLeast_40 : decode cX6_contiguousLeast 40 = .ok (.ifCond .eq 9, 3) := dk_153 0 9 (dk_at dksX6_contiguousLeast_1 18 rfl rfl)
theorem dX6_contiguousLeast_43 : decode cX6_contiguousLeast 43 = .ok (.iinc 1 1, 3) := dk_132 1 1 (dk_at dksX6_contiguousLeast_1 21 rfl rfl)
theorem dX6_contiguousLeast_46 : decode cX6_contiguousLeast 46 = .ok (.goto (-13), 3) := dk_167 255 243 (dk_at dksX6_contiguousLeast_2 0 rfl rfl)
theorem dX6_contiguousLeast_49 : decode cX6_contiguousLeast 49 = .ok (.aload_n 0, 1) := dk_42 (dk_at dksX6_contiguousLeast_2 3 rfl rfl)
theorem dX6_contiguousLeast_50 : decode cX6_contiguousLeast 50 = .ok (.invokevirtual 168, 3) := dk_182 0 168 (dk_at dksX6_contiguousLeast_2 4 rfl rfl)
theorem dX6_contiguousLeast_53 : decode cX6_contiguousLeast 53 = .ok (.istore_n 2, 1) := dk_61 (dk_at dksX6_contiguousLeast_2 7 rfl rfl)
theorem dX6_contiguousLeast_54 : decode cX6_contiguousLeast 54 = .ok (.goto (-25), 3) := dk_167 255 231 (dk_at dksX6_contiguousLeast_2 8 rfl rfl)
theorem dX6_contiguousLeast_57 : decode cX6_contiguousLeast 57 = .ok (.iload_n 1, 1) := dk_27 (dk_at dksX6_contiguousLeast_2 11 rfl rfl)
theorem dX6_contiguousLeast_58 : decode cX6_contiguousLeast 58 = .ok (.ireturn, 1) := dk_172 (dk_at dksX6_contiguousLeast_2 12 rfl rfl)
abbrev cX6_reaches : ByteArray := prog_9_method_39_code
def yX6_reaches : MethodName := ⟨RX6, "reaches", "(I)Z"⟩
def dkwX6_reaches_2 : List UInt8 := [54, 4, 132, 2, 1, 167, 255, 221, 21, 4, 27, 162, 0, 5, 3, 172, 132, 3, 1, 167, 255, 194, 4, 172]
abbrev dktX6_reaches_2 : List UInt8 := dkwX6_reaches_2 ++ []
def dkwX6_reaches_1 : List UInt8 := [42, 180, 0, 13, 3, 46, 162, 0, 25, 21, 4, 42, 42, 180, 0, 54, 29, 46, 28, 182, 0, 105, 96]
abbrev dktX6_reaches_1 : List UInt8 := dkwX6_reaches_1 ++ dktX6_reaches_2
def dkwX6_reaches_0 : List UInt8 := [3, 61, 3, 62, 29, 42, 180, 0, 13, 4, 46, 162, 0, 58, 3, 54, 4, 21, 4, 27, 162, 0, 35, 28]
abbrev dktX6_reaches_0 : List UInt8 := dkwX6_reaches_0 ++ dktX6_reaches_1
theorem dksX6_reaches_0 : cX6_reaches.data.toList.drop 0 = dktX6_reaches_0 := by decide +kernel
theorem dksX6_reaches_1 : cX6_reaches.data.toList.drop 24 = dktX6_reaches_1 := dk_seg dksX6_reaches_0 24 rfl rfl
theorem dksX6_reaches_2 : cX6_reaches.data.toList.drop 47 = dktX6_reaches_2 := dk_seg dksX6_reaches_1 23 rfl rfl
theorem dX6_reaches_0 : decode cX6_reaches 0 = .ok (.iconst 0, 1) := dk_3 (dk_at dksX6_reaches_0 0 rfl rfl)
theorem dX6_reaches_1 : decode cX6_reaches 1 = .ok (.istore_n 2, 1) := dk_61 (dk_at dksX6_reaches_0 1 rfl rfl)
theorem dX6_reaches_2 : decode cX6_reaches 2 = .ok (.iconst 0, 1) := dk_3 (dk_at dksX6_reaches_0 2 rfl rfl)
theorem dX6_reaches_3 : decode cX6_reaches 3 = .ok (.istore_n 3, 1) := dk_62 (dk_at dksX6_reaches_0 3 rfl rfl)
theorem dX6_reaches_4 : decode cX6_reaches 4 = .ok (.iload_n 3, 1) := dk_29 (dk_at dksX6_reaches_0 4 rfl rfl)
theorem dX6_reaches_5 : decode cX6_reaches 5 = .ok (.aload_n 0, 1) := dk_42 (dk_at dksX6_reaches_0 5 rfl rfl)
theorem dX6_reaches_6 : decode cX6_reaches 6 = .ok (.getfield 13, 3) := dk_180 0 13 (dk_at dksX6_reaches_0 6 rfl rfl)
theorem dX6_reaches_9 : decode cX6_reaches 9 = .ok (.iconst 1, 1) := dk_4 (dk_at dksX6_reaches_0 9 rfl rfl)
theorem dX6_reaches_10 : decode cX6_reaches 10 = .ok (.iaload, 1) := dk_46 (dk_at dksX6_reaches_0 10 rfl rfl)
theorem dX6_reaches_11 : decode cX6_reaches 11 = .ok (.if_icmp .ge 58, 3) := dk_162 0 58 (dk_at dksX6_reaches_0 11 rfl rfl)
theorem dX6_reaches_14 : decode cX6_reaches 14 = .ok (.iconst 0, 1) := dk_3 (dk_at dksX6_reaches_0 14 rfl rfl)
theorem dX6_reaches_15 : decode cX6_reaches 15 = .ok (.istore 4, 2) := dk_54 4 (dk_at dksX6_reaches_0 15 rfl rfl)
theorem dX6_reaches_17 : decode cX6_reaches 17 = .ok (.iload 4, 2) := dk_21 4 (dk_at dksX6_reaches_0 17 rfl rfl)
theorem dX6_reaches_19 : decode cX6_reaches 19 = .ok (.iload_n 1, 1) := dk_27 (dk_at dksX6_reaches_0 19 rfl rfl)
theorem dX6_reaches_20 : decode cX6_reaches 20 = .ok (.if_icmp .ge 35, 3) := dk_162 0 35 (dk_at dksX6_reaches_0 20 rfl rfl)
theorem dX6_reaches_23 : decode cX6_reaches 23 = .ok (.iload_n 2, 1) := dk_28 (dk_at dksX6_reaches_0 23 rfl rfl)
theorem dX6_reaches_24 : decode cX6_reaches 24 = .ok (.aload_n 0, 1) := dk_42 (dk_at dksX6_reaches_1 0 rfl rfl)
theorem dX6_reaches_25 : decode cX6_reaches 25 = .ok (.getfield 13, 3) := dk_180 0 13 (dk_at dksX6_reaches_1 1 rfl rfl)
theorem dX6_reaches_28 : decode cX6_reaches 28 = .ok (.iconst 0, 1) := dk_3 (dk_at dksX6_reaches_1 4 rfl rfl)
theorem dX6_reaches_29 : decode cX6_reaches 29 = .ok (.iaload, 1) := dk_46 (dk_at dksX6_reaches_1 5 rfl rfl)
theorem dX6_reaches_30 : decode cX6_reaches 30 = .ok (.if_icmp .ge 25, 3) := dk_162 0 25 (dk_at dksX6_reaches_1 6 rfl rfl)
theorem dX6_reaches_33 : decode cX6_reaches 33 = .ok (.iload 4, 2) := dk_21 4 (dk_at dksX6_reaches_1 9 rfl rfl)
theorem dX6_reaches_35 : decode cX6_reaches 35 = .ok (.aload_n 0, 1) := dk_42 (dk_at dksX6_reaches_1 11 rfl rfl)
theorem dX6_reaches_36 : decode cX6_reaches 36 = .ok (.aload_n 0, 1) := dk_42 (dk_at dksX6_reaches_1 12 rfl rfl)
theorem dX6_reaches_37 : decode cX6_reaches 37 = .ok (.getfield 54, 3) := dk_180 0 54 (dk_at dksX6_reaches_1 13 rfl rfl)
theorem dX6_reaches_40 : decode cX6_reaches 40 = .ok (.iload_n 3, 1) := dk_29 (dk_at dksX6_reaches_1 16 rfl rfl)
theorem dX6_reaches_41 : decode cX6_reaches 41 = .ok (.iaload, 1) := dk_46 (dk_at dksX6_reaches_1 17 rfl rfl)
theorem dX6_reaches_42 : decode cX6_reaches 42 = .ok (.iload_n 2, 1) := dk_28 (dk_at dksX6_reaches_1 18 rfl rfl)
theorem dX6_reaches_43 : decode cX6_reaches 43 = .ok (.invokevirtual 105, 3) := dk_182 0 105 (dk_at dksX6_reaches_1 19 rfl rfl)
theorem dX6_reaches_46 : decode cX6_reaches 46 = .ok (.iadd, 1) := dk_96 (dk_at dksX6_reaches_1 22 rfl rfl)
theorem dX6_reaches_47 : decode cX6_reaches 47 = .ok (.istore 4, 2) := dk_54 4 (dk_at dksX6_reaches_2 0 rfl rfl)
theorem dX6_reaches_49 : decode cX6_reaches 49 = .ok (.iinc 2 1, 3) := dk_132 2 1 (dk_at dksX6_reaches_2 2 rfl rfl)
theorem dX6_reaches_52 : decode cX6_reaches 52 = .ok (.goto (-35), 3) := dk_167 255 221 (dk_at dksX6_reaches_2 5 rfl rfl)
theorem dX6_reaches_55 : decode cX6_reaches 55 = .ok (.iload 4, 2) := dk_21 4 (dk_at dksX6_reaches_2 8 rfl rfl)
theorem dX6_reaches_57 : decode cX6_reaches 57 = .ok (.iload_n 1, 1) := dk_27 (dk_at dksX6_reaches_2 10 rfl rfl)
theorem dX6_reaches_58 : decode cX6_reaches 58 = .ok (.if_icmp .ge 5, 3) := dk_162 0 5 (dk_at dksX6_reaches_2 11 rfl rfl)
theorem dX6_reaches_61 : decode cX6_reaches 61 = .ok (.iconst 0, 1) := dk_3 (dk_at dksX6_reaches_2 14 rfl rfl)
theorem dX6_reaches_62 : decode cX6_reaches 62 = .ok (.ireturn, 1) := dk_172 (dk_at dksX6_reaches_2 15 rfl rfl)
theorem dX6_reaches_63 : decode cX6_reaches 63 = .ok (.iinc 3 1, 3) := dk_132 3 1 (dk_at dksX6_reaches_2 16 rfl rfl)
theorem dX6_reaches_66 : decode cX6_reaches 66 = .ok (.goto (-62), 3) := dk_167 255 194 (dk_at dksX6_reaches_2 19 rfl rfl)
theorem dX6_reaches_69 : decode cX6_reaches 69 = .ok (.iconst 1, 1) := dk_4 (dk_at dksX6_reaches_2 22 rfl rfl)
theorem dX6_reaches_70 : decode cX6_reaches 70 = .ok (.ireturn, 1) := dk_172 (dk_at dksX6_reaches_2 23 rfl rfl)
abbrev cX6_advanceSequence : ByteArray := prog_9_method_40_code
def yX6_advanceSequence : MethodName := ⟨RX6, "advanceSequence", "()Z"⟩
def dkwX6_advanceSequence_4 : List UInt8 := [162, 0, 19, 42, 29, 21, 4, 182, 0, 162, 132, 3, 1, 132, 4, 255, 167, 255, 237, 4, 172]
abbrev dktX6_advanceSequence_4 : List UInt8 := dkwX6_advanceSequence_4 ++ []
def dkwX6_advanceSequence_3 : List UInt8 := [42, 27, 28, 182, 0, 162, 27, 4, 96, 62, 42, 180, 0, 13, 4, 46, 4, 100, 54, 4, 29, 21, 4]
abbrev dktX6_advanceSequence_3 : List UInt8 := dkwX6_advanceSequence_3 ++ dktX6_advanceSequence_4
def dkwX6_advanceSequence_2 : List UInt8 := [4, 100, 61, 42, 180, 0, 54, 28, 46, 42, 180, 0, 54, 27, 46, 162, 0, 9, 132, 2, 255, 167, 255, 238]
abbrev dktX6_advanceSequence_2 : List UInt8 := dkwX6_advanceSequence_2 ++ dktX6_advanceSequence_3
def dkwX6_advanceSequence_1 : List UInt8 := [4, 96, 46, 164, 0, 9, 132, 1, 255, 167, 255, 232, 27, 156, 0, 5, 3, 172, 42, 180, 0, 13, 4, 46]
abbrev dktX6_advanceSequence_1 : List UInt8 := dkwX6_advanceSequence_1 ++ dktX6_advanceSequence_2
def dkwX6_advanceSequence_0 : List UInt8 := [42, 180, 0, 13, 4, 46, 5, 100, 60, 27, 155, 0, 26, 42, 180, 0, 54, 27, 46, 42, 180, 0, 54, 27]
abbrev dktX6_advanceSequence_0 : List UInt8 := dkwX6_advanceSequence_0 ++ dktX6_advanceSequence_1
theorem dksX6_advanceSequence_0 : cX6_advanceSequence.data.toList.drop 0 = dktX6_advanceSequence_0 := by decide +kernel
theorem dksX6_advanceSequence_1 : cX6_advanceSequence.data.toList.drop 24 = dktX6_advanceSequence_1 := dk_seg dksX6_advanceSequence_0 24 rfl rfl
theorem dksX6_advanceSequence_2 : cX6_advanceSequence.data.toList.drop 48 = dktX6_advanceSequence_2 := dk_seg dksX6_advanceSequence_1 24 rfl rfl
theorem dksX6_advanceSequence_3 : cX6_advanceSequence.data.toList.drop 72 = dktX6_advanceSequence_3 := dk_seg dksX6_advanceSequence_2 24 rfl rfl
theorem dksX6_advanceSequence_4 : cX6_advanceSequence.data.toList.drop 95 = dktX6_advanceSequence_4 := dk_seg dksX6_advanceSequence_3 23 rfl rfl
theorem dX6_advanceSequence_0 : decode cX6_advanceSequence 0 = .ok (.aload_n 0, 1) := dk_42 (dk_at dksX6_advanceSequence_0 0 rfl rfl)
theorem dX6_advanceSequence_1 : decode cX6_advanceSequence 1 = .ok (.getfield 13, 3) := dk_180 0 13 (dk_at dksX6_advanceSequence_0 1 rfl rfl)
theorem dX6_advanceSequence_4 : decode cX6_advanceSequence 4 = .ok (.iconst 1, 1) := dk_4 (dk_at dksX6_advanceSequence_0 4 rfl rfl)
theorem dX6_advanceSequence_5 : decode cX6_advanceSequence 5 = .ok (.iaload, 1) := dk_46 (dk_at dksX6_advanceSequence_0 5 rfl rfl)
theorem dX6_advanceSequence_6 : decode cX6_advanceSequence 6 = .ok (.iconst 2, 1) := dk_5 (dk_at dksX6_advanceSequence_0 6 rfl rfl)
theorem dX6_advanceSequence_7 : decode cX6_advanceSequence 7 = .ok (.isub, 1) := dk_100 (dk_at dksX6_advanceSequence_0 7 rfl rfl)
theorem dX6_advanceSequence_8 : decode cX6_advanceSequence 8 = .ok (.istore_n 1, 1) := dk_60 (dk_at dksX6_advanceSequence_0 8 rfl rfl)
theorem dX6_advanceSequence_9 : decode cX6_advanceSequence 9 = .ok (.iload_n 1, 1) := dk_27 (dk_at dksX6_advanceSequence_0 9 rfl rfl)
theorem dX6_advanceSequence_10 : decode cX6_advanceSequence 10 = .ok (.ifCond .lt 26, 3) := dk_155 0 26 (dk_at dksX6_advanceSequence_0 10 rfl rfl)
theorem dX6_advanceSequence_13 : decode cX6_advanceSequence 13 = .ok (.aload_n 0, 1) := dk_42 (dk_at dksX6_advanceSequence_0 13 rfl rfl)
theorem dX6_advanceSequence_14 : decode cX6_advanceSequence 14 = .ok (.getfield 54, 3) := dk_180 0 54 (dk_at dksX6_advanceSequence_0 14 rfl rfl)
theorem dX6_advanceSequence_17 : decode cX6_advanceSequence 17 = .ok (.iload_n 1, 1) := dk_27 (dk_at dksX6_advanceSequence_0 17 rfl rfl)
theorem dX6_advanceSequence_18 : decode cX6_advanceSequence 18 = .ok (.iaload, 1) := dk_46 (dk_at dksX6_advanceSequence_0 18 rfl rfl)
theorem dX6_advanceSequence_19 : decode cX6_advanceSequence 19 = .ok (.aload_n 0, 1) := dk_42 (dk_at dksX6_advanceSequence_0 19 rfl rfl)
theorem dX6_advanceSequence_20 : decode cX6_advanceSequence 20 = .ok (.getfield 54, 3) := dk_180 0 54 (dk_at dksX6_advanceSequence_0 20 rfl rfl)
theorem dX6_advanceSequence_23 : decode cX6_advanceSequence 23 = .ok (.iload_n 1, 1) := dk_27 (dk_at dksX6_advanceSequence_0 23 rfl rfl)
theorem dX6_advanceSequence_24 : decode cX6_advanceSequence 24 = .ok (.iconst 1, 1) := dk_4 (dk_at dksX6_advanceSequence_1 0 rfl rfl)
theorem dX6_advanceSequence_25 : decode cX6_advanceSequence 25 = .ok (.iadd, 1) := dk_96 (dk_at dksX6_advanceSequence_1 1 rfl rfl)
theorem dX6_advanceSequence_26 : decode cX6_advanceSequence 26 = .ok (.iaload, 1) := dk_46 (dk_at dksX6_advanceSequence_1 2 rfl rfl)
theorem dX6_advanceSequence_27 : decode cX6_advanceSequence 27 = .ok (.if_icmp .le 9, 3) := dk_164 0 9 (dk_at dksX6_advanceSequence_1 3 rfl rfl)
theorem dX6_advanceSequence_30 : decode cX6_advanceSequence 30 = .ok (.iinc 1 (-1), 3) := dk_132 1 255 (dk_at dksX6_advanceSequence_1 6 rfl rfl)
theorem dX6_advanceSequence_33 : decode cX6_advanceSequence 33 = .ok (.goto (-24), 3) := dk_167 255 232 (dk_at dksX6_advanceSequence_1 9 rfl rfl)
theorem dX6_advanceSequence_36 : decode cX6_advanceSequence 36 = .ok (.iload_n 1, 1) := dk_27 (dk_at dksX6_advanceSequence_1 12 rfl rfl)
theorem dX6_advanceSequence_37 : decode cX6_advanceSequence 37 = .ok (.ifCond .ge 5, 3) := dk_156 0 5 (dk_at dksX6_advanceSequence_1 13 rfl rfl)
theorem dX6_advanceSequence_40 : decode cX6_advanceSequence 40 = .ok (.iconst 0, 1) := dk_3 (dk_at dksX6_advanceSequence_1 16 rfl rfl)
theorem dX6_advanceSequence_41 : decode cX6_advanceSequence 41 = .ok (.ireturn, 1) := dk_172 (dk_at dksX6_advanceSequence_1 17 rfl rfl)
theorem dX6_advanceSequence_42 : decode cX6_advanceSequence 42 = .ok (.aload_n 0, 1) := dk_42 (dk_at dksX6_advanceSequence_1 18 rfl rfl)
theorem dX6_advanceSequence_43 : decode cX6_advanceSequence 43 = .ok (.getfield 13, 3) := dk_180 0 13 (dk_at dksX6_advanceSequence_1 19 rfl rfl)
theorem dX6_advanceSequence_46 : decode cX6_advanceSequence 46 = .ok (.iconst 1, 1) := dk_4 (dk_at dksX6_advanceSequence_1 22 rfl rfl)
theorem dX6_advanceSequence_47 : decode cX6_advanceSequence 47 = .ok (.iaload, 1) := dk_46 (dk_at dksX6_advanceSequence_1 23 rfl rfl)
theorem dX6_advanceSequence_48 : decode cX6_advanceSequence 48 = .ok (.iconst 1, 1) := dk_4 (dk_at dksX6_advanceSequence_2 0 rfl rfl)
theorem dX6_advanceSequence_49 : decode cX6_advanceSequence 49 = .ok (.isub, 1) := dk_100 (dk_at dksX6_advanceSequence_2 1 rfl rfl)
theorem dX6_advanceSequence_50 : decode cX6_advanceSequence 50 = .ok (.istore_n 2, 1) := dk_61 (dk_at dksX6_advanceSequence_2 2 rfl rfl)
theorem dX6_advanceSequence_51 : decode cX6_advanceSequence 51 = .ok (.aload_n 0, 1) := dk_42 (dk_at dksX6_advanceSequence_2 3 rfl rfl)
theorem dX6_advanceSequence_52 : decode cX6_advanceSequence 52 = .ok (.getfield 54, 3) := dk_180 0 54 (dk_at dksX6_advanceSequence_2 4 rfl rfl)
theorem dX6_advanceSequence_55 : decode cX6_advanceSequence 55 = .ok (.iload_n 2, 1) := dk_28 (dk_at dksX6_advanceSequence_2 7 rfl rfl)
theorem dX6_advanceSequence_56 : decode cX6_advanceSequence 56 = .ok (.iaload, 1) := dk_46 (dk_at dksX6_advanceSequence_2 8 rfl rfl)
theorem dX6_advanceSequence_57 : decode cX6_advanceSequence 57 = .ok (.aload_n 0, 1) := dk_42 (dk_at dksX6_advanceSequence_2 9 rfl rfl)
theorem dX6_advanceSequence_58 : decode cX6_advanceSequence 58 = .ok (.getfield 54, 3) := dk_180 0 54 (dk_at dksX6_advanceSequence_2 10 rfl rfl)
theorem dX6_advanceSequence_61 : decode cX6_advanceSequence 61 = .ok (.iload_n 1, 1) := dk_27 (dk_at dksX6_advanceSequence_2 13 rfl rfl)
theorem dX6_advanceSequence_62 : decode cX6_advanceSequence 62 = .ok (.iaload, 1) := dk_46 (dk_at dksX6_advanceSequence_2 14 rfl rfl)
theorem dX6_advanceSequence_63 : decode cX6_advanceSequence 63 = .ok (.if_icmp .ge 9, 3) := dk_162 0 9 (dk_at dksX6_advanceSequence_2 15 rfl rfl)
theorem dX6_advanceSequence_66 : decode cX6_advanceSequence 66 = .ok (.iinc 2 (-1), 3) := dk_132 2 255 (dk_at dksX6_advanceSequence_2 18 rfl rfl)
theorem dX6_advanceSequence_69 : decode cX6_advanceSequence 69 = .ok (.goto (-18), 3) := dk_167 255 238 (dk_at dksX6_advanceSequence_2 21 rfl rfl)
theorem dX6_advanceSequence_72 : decode cX6_advanceSequence 72 = .ok (.aload_n 0, 1) := dk_42 (dk_at dksX6_advanceSequence_3 0 rfl rfl)
theorem dX6_advanceSequence_73 : decode cX6_advanceSequence 73 = .ok (.iload_n 1, 1) := dk_27 (dk_at dksX6_advanceSequence_3 1 rfl rfl)
theorem dX6_advanceSequence_74 : decode cX6_advanceSequence 74 = .ok (.iload_n 2, 1) := dk_28 (dk_at dksX6_advanceSequence_3 2 rfl rfl)
theorem dX6_advanceSequence_75 : decode cX6_advanceSequence 75 = .ok (.invokevirtual 162, 3) := dk_182 0 162 (dk_at dksX6_advanceSequence_3 3 rfl rfl)
theorem dX6_advanceSequence_78 : decode cX6_advanceSequence 78 = .ok (.iload_n 1, 1) := dk_27 (dk_at dksX6_advanceSequence_3 6 rfl rfl)
theorem dX6_advanceSequence_79 : decode cX6_advanceSequence 79 = .ok (.iconst 1, 1) := dk_4 (dk_at dksX6_advanceSequence_3 7 rfl rfl)
theorem dX6_advanceSequence_80 : decode cX6_advanceSequence 80 = .ok (.iadd, 1) := dk_96 (dk_at dksX6_advanceSequence_3 8 rfl rfl)
theorem dX6_advanceSequence_81 : decode cX6_advanceSequence 81 = .ok (.istore_n 3, 1) := dk_62 (dk_at dksX6_advanceSequence_3 9 rfl rfl)
theorem dX6_advanceSequence_82 : decode cX6_advanceSequence 82 = .ok (.aload_n 0, 1) := dk_42 (dk_at dksX6_advanceSequence_3 10 rfl rfl)
theorem dX6_advanceSequence_83 : decode cX6_advanceSequence 83 = .ok (.getfield 13, 3) := dk_180 0 13 (dk_at dksX6_advanceSequence_3 11 rfl rfl)
theorem dX6_advanceSequence_86 : decode cX6_advanceSequence 86 = .ok (.iconst 1, 1) := dk_4 (dk_at dksX6_advanceSequence_3 14 rfl rfl)
theorem dX6_advanceSequence_87 : decode cX6_advanceSequence 87 = .ok (.iaload, 1) := dk_46 (dk_at dksX6_advanceSequence_3 15 rfl rfl)
theorem dX6_advanceSequence_88 : decode cX6_advanceSequence 88 = .ok (.iconst 1, 1) := dk_4 (dk_at dksX6_advanceSequence_3 16 rfl rfl)
theorem dX6_advanceSequence_89 : decode cX6_advanceSequence 89 = .ok (.isub, 1) := dk_100 (dk_at dksX6_advanceSequence_3 17 rfl rfl)
theorem dX6_advanceSequence_90 : decode cX6_advanceSequence 90 = .ok (.istore 4, 2) := dk_54 4 (dk_at dksX6_advanceSequence_3 18 rfl rfl)
theorem dX6_advanceSequence_92 : decode cX6_advanceSequence 92 = .ok (.iload_n 3, 1) := dk_29 (dk_at dksX6_advanceSequence_3 20 rfl rfl)
theorem dX6_advanceSequence_93 : decode cX6_advanceSequence 93 = .ok (.iload 4, 2) := dk_21 4 (dk_at dksX6_advanceSequence_3 21 rfl rfl)
theorem dX6_advanceSequence_95 : decode cX6_advanceSequence 95 = .ok (.if_icmp .ge 19, 3) := dk_162 0 19 (dk_at dksX6_advanceSequence_4 0 rfl rfl)
theorem dX6_advanceSequence_98 : decode cX6_advanceSequence 98 = .ok (.aload_n 0, 1) := dk_42 (dk_at dksX6_advanceSequence_4 3 rfl rfl)
theorem dX6_advanceSequence_99 : decode cX6_advanceSequence 99 = .ok (.iload_n 3, 1) := dk_29 (dk_at dksX6_advanceSequence_4 4 rfl rfl)
theorem dX6_advanceSequence_100 : decode cX6_advanceSequence 100 = .ok (.iload 4, 2) := dk_21 4 (dk_at dksX6_advanceSequence_4 5 rfl rfl)
theorem dX6_advanceSequence_102 : decode cX6_advanceSequence 102 = .ok (.invokevirtual 162, 3) := dk_182 0 162 (dk_at dksX6_advanceSequence_4 7 rfl rfl)
theorem dX6_advanceSequence_105 : decode cX6_advanceSequence 105 = .ok (.iinc 3 1, 3) := dk_132 3 1 (dk_at dksX6_advanceSequence_4 10 rfl rfl)
theorem dX6_advanceSequence_108 : decode cX6_advanceSequence 108 = .ok (.iinc 4 (-1), 3) := dk_132 4 255 (dk_at dksX6_advanceSequence_4 13 rfl rfl)
theorem dX6_advanceSequence_111 : decode cX6_advanceSequence 111 = .ok (.goto (-19), 3) := dk_167 255 237 (dk_at dksX6_advanceSequence_4 16 rfl rfl)
theorem dX6_advanceSequence_114 : decode cX6_advanceSequence 114 = .ok (.iconst 1, 1) := dk_4 (dk_at dksX6_advanceSequence_4 19 rfl rfl)
theorem dX6_advanceSequence_115 : decode cX6_advanceSequence 115 = .ok (.ireturn, 1) := dk_172 (dk_at dksX6_advanceSequence_4 20 rfl rfl)
abbrev cX6_swapSequence : ByteArray := prog_9_method_41_code
def yX6_swapSequence : MethodName := ⟨RX6, "swapSequence", "(II)V"⟩
def dkwX6_swapSequence_1 : List UInt8 := [29, 79, 177]
abbrev dktX6_swapSequence_1 : List UInt8 := dkwX6_swapSequence_1 ++ []
def dkwX6_swapSequence_0 : List UInt8 := [42, 180, 0, 54, 27, 46, 62, 42, 180, 0, 54, 27, 42, 180, 0, 54, 28, 46, 79, 42, 180, 0, 54, 28]
abbrev dktX6_swapSequence_0 : List UInt8 := dkwX6_swapSequence_0 ++ dktX6_swapSequence_1
theorem dksX6_swapSequence_0 : cX6_swapSequence.data.toList.drop 0 = dktX6_swapSequence_0 := by decide +kernel
theorem dksX6_swapSequence_1 : cX6_swapSequence.data.toList.drop 24 = dktX6_swapSequence_1 := dk_seg dksX6_swapSequence_0 24 rfl rfl
theorem dX6_swapSequence_0 : decode cX6_swapSequence 0 = .ok (.aload_n 0, 1) := dk_42 (dk_at dksX6_swapSequence_0 0 rfl rfl)
theorem dX6_swapSequence_1 : decode cX6_swapSequence 1 = .ok (.getfield 54, 3) := dk_180 0 54 (dk_at dksX6_swapSequence_0 1 rfl rfl)
theorem dX6_swapSequence_4 : decode cX6_swapSequence 4 = .ok (.iload_n 1, 1) := dk_27 (dk_at dksX6_swapSequence_0 4 rfl rfl)
theorem dX6_swapSequence_5 : decode cX6_swapSequence 5 = .ok (.iaload, 1) := dk_46 (dk_at dksX6_swapSequence_0 5 rfl rfl)
theorem dX6_swapSequence_6 : decode cX6_swapSequence 6 = .ok (.istore_n 3, 1) := dk_62 (dk_at dksX6_swapSequence_0 6 rfl rfl)
theorem dX6_swapSequence_7 : decode cX6_swapSequence 7 = .ok (.aload_n 0, 1) := dk_42 (dk_at dksX6_swapSequence_0 7 rfl rfl)
theorem dX6_swapSequence_8 : decode cX6_swapSequence 8 = .ok (.getfield 54, 3) := dk_180 0 54 (dk_at dksX6_swapSequence_0 8 rfl rfl)
theorem dX6_swapSequence_11 : decode cX6_swapSequence 11 = .ok (.iload_n 1, 1) := dk_27 (dk_at dksX6_swapSequence_0 11 rfl rfl)
theorem dX6_swapSequence_12 : decode cX6_swapSequence 12 = .ok (.aload_n 0, 1) := dk_42 (dk_at dksX6_swapSequence_0 12 rfl rfl)
theorem dX6_swapSequence_13 : decode cX6_swapSequence 13 = .ok (.getfield 54, 3) := dk_180 0 54 (dk_at dksX6_swapSequence_0 13 rfl rfl)
theorem dX6_swapSequence_16 : decode cX6_swapSequence 16 = .ok (.iload_n 2, 1) := dk_28 (dk_at dksX6_swapSequence_0 16 rfl rfl)
theorem dX6_swapSequence_17 : decode cX6_swapSequence 17 = .ok (.iaload, 1) := dk_46 (dk_at dksX6_swapSequence_0 17 rfl rfl)
theorem dX6_swapSequence_18 : decode cX6_swapSequence 18 = .ok (.iastore, 1) := dk_79 (dk_at dksX6_swapSequence_0 18 rfl rfl)
theorem dX6_swapSequence_19 : decode cX6_swapSequence 19 = .ok (.aload_n 0, 1) := dk_42 (dk_at dksX6_swapSequence_0 19 rfl rfl)
theorem dX6_swapSequence_20 : decode cX6_swapSequence 20 = .ok (.getfield 54, 3) := dk_180 0 54 (dk_at dksX6_swapSequence_0 20 rfl rfl)
theorem dX6_swapSequence_23 : decode cX6_swapSequence 23 = .ok (.iload_n 2, 1) := dk_28 (dk_at dksX6_swapSequence_0 23 rfl rfl)
theorem dX6_swapSequence_24 : decode cX6_swapSequence 24 = .ok (.iload_n 3, 1) := dk_29 (dk_at dksX6_swapSequence_1 0 rfl rfl)
theorem dX6_swapSequence_25 : decode cX6_swapSequence 25 = .ok (.iastore, 1) := dk_79 (dk_at dksX6_swapSequence_1 1 rfl rfl)
theorem dX6_swapSequence_26 : decode cX6_swapSequence 26 = .ok (.return_, 1) := dk_177 (dk_at dksX6_swapSequence_1 2 rfl rfl)
abbrev cX6_cutCount : ByteArray := prog_9_method_102_code
def yX6_cutCount : MethodName := ⟨RX6, "cutCount", "()I"⟩
def dkwX6_cutCount_2 : List UInt8 := [167, 255, 220, 27, 172]
abbrev dktX6_cutCount_2 : List UInt8 := dkwX6_cutCount_2 ++ []
def dkwX6_cutCount_1 : List UInt8 := [182, 0, 113, 42, 28, 4, 100, 182, 0, 113, 159, 0, 7, 4, 167, 0, 4, 3, 96, 60, 132, 2, 1]
abbrev dktX6_cutCount_1 : List UInt8 := dkwX6_cutCount_1 ++ dktX6_cutCount_2
def dkwX6_cutCount_0 : List UInt8 := [42, 3, 181, 0, 1, 3, 60, 4, 61, 28, 42, 180, 0, 13, 3, 46, 162, 0, 32, 27, 42, 28]
abbrev dktX6_cutCount_0 : List UInt8 := dkwX6_cutCount_0 ++ dktX6_cutCount_1
theorem dksX6_cutCount_0 : cX6_cutCount.data.toList.drop 0 = dktX6_cutCount_0 := by decide +kernel
theorem dksX6_cutCount_1 : cX6_cutCount.data.toList.drop 22 = dktX6_cutCount_1 := dk_seg dksX6_cutCount_0 22 rfl rfl
theorem dksX6_cutCount_2 : cX6_cutCount.data.toList.drop 45 = dktX6_cutCount_2 := dk_seg dksX6_cutCount_1 23 rfl rfl
theorem dX6_cutCount_0 : decode cX6_cutCount 0 = .ok (.aload_n 0, 1) := dk_42 (dk_at dksX6_cutCount_0 0 rfl rfl)
theorem dX6_cutCount_1 : decode cX6_cutCount 1 = .ok (.iconst 0, 1) := dk_3 (dk_at dksX6_cutCount_0 1 rfl rfl)
theorem dX6_cutCount_2 : decode cX6_cutCount 2 = .ok (.putfield 1, 3) := dk_181 0 1 (dk_at dksX6_cutCount_0 2 rfl rfl)
theorem dX6_cutCount_5 : decode cX6_cutCount 5 = .ok (.iconst 0, 1) := dk_3 (dk_at dksX6_cutCount_0 5 rfl rfl)
theorem dX6_cutCount_6 : decode cX6_cutCount 6 = .ok (.istore_n 1, 1) := dk_60 (dk_at dksX6_cutCount_0 6 rfl rfl)
theorem dX6_cutCount_7 : decode cX6_cutCount 7 = .ok (.iconst 1, 1) := dk_4 (dk_at dksX6_cutCount_0 7 rfl rfl)
theorem dX6_cutCount_8 : decode cX6_cutCount 8 = .ok (.istore_n 2, 1) := dk_61 (dk_at dksX6_cutCount_0 8 rfl rfl)
theorem dX6_cutCount_9 : decode cX6_cutCount 9 = .ok (.iload_n 2, 1) := dk_28 (dk_at dksX6_cutCount_0 9 rfl rfl)
theorem dX6_cutCount_10 : decode cX6_cutCount 10 = .ok (.aload_n 0, 1) := dk_42 (dk_at dksX6_cutCount_0 10 rfl rfl)
theorem dX6_cutCount_11 : decode cX6_cutCount 11 = .ok (.getfield 13, 3) := dk_180 0 13 (dk_at dksX6_cutCount_0 11 rfl rfl)
theorem dX6_cutCount_14 : decode cX6_cutCount 14 = .ok (.iconst 0, 1) := dk_3 (dk_at dksX6_cutCount_0 14 rfl rfl)
theorem dX6_cutCount_15 : decode cX6_cutCount 15 = .ok (.iaload, 1) := dk_46 (dk_at dksX6_cutCount_0 15 rfl rfl)
theorem dX6_cutCount_16 : decode cX6_cutCount 16 = .ok (.if_icmp .ge 32, 3) := dk_162 0 32 (dk_at dksX6_cutCount_0 16 rfl rfl)
theorem dX6_cutCount_19 : decode cX6_cutCount 19 = .ok (.iload_n 1, 1) := dk_27 (dk_at dksX6_cutCount_0 19 rfl rfl)
theorem dX6_cutCount_20 : decode cX6_cutCount 20 = .ok (.aload_n 0, 1) := dk_42 (dk_at dksX6_cutCount_0 20 rfl rfl)
theorem dX6_cutCount_21 : decode cX6_cutCount 21 = .ok (.iload_n 2, 1) := dk_28 (dk_at dksX6_cutCount_0 21 rfl rfl)
theorem dX6_cutCount_22 : decode cX6_cutCount 22 = .ok (.invokevirtual 113, 3) := dk_182 0 113 (dk_at dksX6_cutCount_1 0 rfl rfl)
theorem dX6_cutCount_25 : decode cX6_cutCount 25 = .ok (.aload_n 0, 1) := dk_42 (dk_at dksX6_cutCount_1 3 rfl rfl)
theorem dX6_cutCount_26 : decode cX6_cutCount 26 = .ok (.iload_n 2, 1) := dk_28 (dk_at dksX6_cutCount_1 4 rfl rfl)
theorem dX6_cutCount_27 : decode cX6_cutCount 27 = .ok (.iconst 1, 1) := dk_4 (dk_at dksX6_cutCount_1 5 rfl rfl)
theorem dX6_cutCount_28 : decode cX6_cutCount 28 = .ok (.isub, 1) := dk_100 (dk_at dksX6_cutCount_1 6 rfl rfl)
theorem dX6_cutCount_29 : decode cX6_cutCount 29 = .ok (.invokevirtual 113, 3) := dk_182 0 113 (dk_at dksX6_cutCount_1 7 rfl rfl)
theorem dX6_cutCount_32 : decode cX6_cutCount 32 = .ok (.if_icmp .eq 7, 3) := dk_159 0 7 (dk_at dksX6_cutCount_1 10 rfl rfl)
theorem dX6_cutCount_35 : decode cX6_cutCount 35 = .ok (.iconst 1, 1) := dk_4 (dk_at dksX6_cutCount_1 13 rfl rfl)
theorem dX6_cutCount_36 : decode cX6_cutCount 36 = .ok (.goto 4, 3) := dk_167 0 4 (dk_at dksX6_cutCount_1 14 rfl rfl)
theorem dX6_cutCount_39 : decode cX6_cutCount 39 = .ok (.iconst 0, 1) := dk_3 (dk_at dksX6_cutCount_1 17 rfl rfl)
theorem dX6_cutCount_40 : decode cX6_cutCount 40 = .ok (.iadd, 1) := dk_96 (dk_at dksX6_cutCount_1 18 rfl rfl)
theorem dX6_cutCount_41 : decode cX6_cutCount 41 = .ok (.istore_n 1, 1) := dk_60 (dk_at dksX6_cutCount_1 19 rfl rfl)
theorem dX6_cutCount_42 : decode cX6_cutCount 42 = .ok (.iinc 2 1, 3) := dk_132 2 1 (dk_at dksX6_cutCount_1 20 rfl rfl)
theorem dX6_cutCount_45 : decode cX6_cutCount 45 = .ok (.goto (-36), 3) := dk_167 255 220 (dk_at dksX6_cutCount_2 0 rfl rfl)
theorem dX6_cutCount_48 : decode cX6_cutCount 48 = .ok (.iload_n 1, 1) := dk_27 (dk_at dksX6_cutCount_2 3 rfl rfl)
theorem dX6_cutCount_49 : decode cX6_cutCount 49 = .ok (.ireturn, 1) := dk_172 (dk_at dksX6_cutCount_2 4 rfl rfl)
abbrev cX6_satisfaction : ByteArray := prog_9_method_103_code
def yX6_satisfaction : MethodName := ⟨RX6, "satisfaction", "(I)F"⟩
def dkwX6_satisfaction_2 : List UInt8 := [110, 174]
abbrev dktX6_satisfaction_2 : List UInt8 := dkwX6_satisfaction_2 ++ []
def dkwX6_satisfaction_1 : List UInt8 := [42, 27, 182, 0, 123, 154, 0, 7, 11, 167, 0, 16, 42, 27, 182, 0, 120, 134, 42, 27, 182, 0, 123, 134]
abbrev dktX6_satisfaction_1 : List UInt8 := dkwX6_satisfaction_1 ++ dktX6_satisfaction_2
def dkwX6_satisfaction_0 : List UInt8 := [42, 42, 27, 182, 0, 94, 154, 0, 7, 4, 167, 0, 4, 3, 3, 3, 182, 0, 171, 153, 0, 5, 11, 174]
abbrev dktX6_satisfaction_0 : List UInt8 := dkwX6_satisfaction_0 ++ dktX6_satisfaction_1
theorem dksX6_satisfaction_0 : cX6_satisfaction.data.toList.drop 0 = dktX6_satisfaction_0 := by decide +kernel
theorem dksX6_satisfaction_1 : cX6_satisfaction.data.toList.drop 24 = dktX6_satisfaction_1 := dk_seg dksX6_satisfaction_0 24 rfl rfl
theorem dksX6_satisfaction_2 : cX6_satisfaction.data.toList.drop 48 = dktX6_satisfaction_2 := dk_seg dksX6_satisfaction_1 24 rfl rfl
theorem dX6_satisfaction_0 : decode cX6_satisfaction 0 = .ok (.aload_n 0, 1) := dk_42 (dk_at dksX6_satisfaction_0 0 rfl rfl)
theorem dX6_satisfaction_1 : decode cX6_satisfaction 1 = .ok (.aload_n 0, 1) := dk_42 (dk_at dksX6_satisfaction_0 1 rfl rfl)
theorem dX6_satisfaction_2 : decode cX6_satisfaction 2 = .ok (.iload_n 1, 1) := dk_27 (dk_at dksX6_satisfaction_0 2 rfl rfl)
theorem dX6_satisfaction_3 : decode cX6_satisfaction 3 = .ok (.invokevirtual 94, 3) := dk_182 0 94 (dk_at dksX6_satisfaction_0 3 rfl rfl)
theorem dX6_satisfaction_6 : decode cX6_satisfaction 6 = .ok (.ifCond .ne 7, 3) := dk_154 0 7 (dk_at dksX6_satisfaction_0 6 rfl rfl)
theorem dX6_satisfaction_9 : decode cX6_satisfaction 9 = .ok (.iconst 1, 1) := dk_4 (dk_at dksX6_satisfaction_0 9 rfl rfl)
theorem dX6_satisfaction_10 : decode cX6_satisfaction 10 = .ok (.goto 4, 3) := dk_167 0 4 (dk_at dksX6_satisfaction_0 10 rfl rfl)
theorem dX6_satisfaction_13 : decode cX6_satisfaction 13 = .ok (.iconst 0, 1) := dk_3 (dk_at dksX6_satisfaction_0 13 rfl rfl)
theorem dX6_satisfaction_14 : decode cX6_satisfaction 14 = .ok (.iconst 0, 1) := dk_3 (dk_at dksX6_satisfaction_0 14 rfl rfl)
theorem dX6_satisfaction_15 : decode cX6_satisfaction 15 = .ok (.iconst 0, 1) := dk_3 (dk_at dksX6_satisfaction_0 15 rfl rfl)
theorem dX6_satisfaction_16 : decode cX6_satisfaction 16 = .ok (.invokevirtual 171, 3) := dk_182 0 171 (dk_at dksX6_satisfaction_0 16 rfl rfl)
theorem dX6_satisfaction_19 : decode cX6_satisfaction 19 = .ok (.ifCond .eq 5, 3) := dk_153 0 5 (dk_at dksX6_satisfaction_0 19 rfl rfl)
theorem dX6_satisfaction_22 : decode cX6_satisfaction 22 = .ok (.fconst 0, 1) := dk_11 (dk_at dksX6_satisfaction_0 22 rfl rfl)
theorem dX6_satisfaction_23 : decode cX6_satisfaction 23 = .ok (.freturn, 1) := dk_174 (dk_at dksX6_satisfaction_0 23 rfl rfl)
theorem dX6_satisfaction_24 : decode cX6_satisfaction 24 = .ok (.aload_n 0, 1) := dk_42 (dk_at dksX6_satisfaction_1 0 rfl rfl)
theorem dX6_satisfaction_25 : decode cX6_satisfaction 25 = .ok (.iload_n 1, 1) := dk_27 (dk_at dksX6_satisfaction_1 1 rfl rfl)
theorem dX6_satisfaction_26 : decode cX6_satisfaction 26 = .ok (.invokevirtual 123, 3) := dk_182 0 123 (dk_at dksX6_satisfaction_1 2 rfl rfl)
theorem dX6_satisfaction_29 : decode cX6_satisfaction 29 = .ok (.ifCond .ne 7, 3) := dk_154 0 7 (dk_at dksX6_satisfaction_1 5 rfl rfl)
theorem dX6_satisfaction_32 : decode cX6_satisfaction 32 = .ok (.fconst 0, 1) := dk_11 (dk_at dksX6_satisfaction_1 8 rfl rfl)
theorem dX6_satisfaction_33 : decode cX6_satisfaction 33 = .ok (.goto 16, 3) := dk_167 0 16 (dk_at dksX6_satisfaction_1 9 rfl rfl)
theorem dX6_satisfaction_36 : decode cX6_satisfaction 36 = .ok (.aload_n 0, 1) := dk_42 (dk_at dksX6_satisfaction_1 12 rfl rfl)
theorem dX6_satisfaction_37 : decode cX6_satisfaction 37 = .ok (.iload_n 1, 1) := dk_27 (dk_at dksX6_satisfaction_1 13 rfl rfl)
theorem dX6_satisfaction_38 : decode cX6_satisfaction 38 = .ok (.invokevirtual 120, 3) := dk_182 0 120 (dk_at dksX6_satisfaction_1 14 rfl rfl)
theorem dX6_satisfaction_41 : decode cX6_satisfaction 41 = .ok (.i2f, 1) := dk_134 (dk_at dksX6_satisfaction_1 17 rfl rfl)
theorem dX6_satisfaction_42 : decode cX6_satisfaction 42 = .ok (.aload_n 0, 1) := dk_42 (dk_at dksX6_satisfaction_1 18 rfl rfl)
theorem dX6_satisfaction_43 : decode cX6_satisfaction 43 = .ok (.iload_n 1, 1) := dk_27 (dk_at dksX6_satisfaction_1 19 rfl rfl)
theorem dX6_satisfaction_44 : decode cX6_satisfaction 44 = .ok (.invokevirtual 123, 3) := dk_182 0 123 (dk_at dksX6_satisfaction_1 20 rfl rfl)
theorem dX6_satisfaction_47 : decode cX6_satisfaction 47 = .ok (.i2f, 1) := dk_134 (dk_at dksX6_satisfaction_1 23 rfl rfl)
theorem dX6_satisfaction_48 : decode cX6_satisfaction 48 = .ok (.fdiv, 1) := dk_110 (dk_at dksX6_satisfaction_2 0 rfl rfl)
theorem dX6_satisfaction_49 : decode cX6_satisfaction 49 = .ok (.freturn, 1) := dk_174 (dk_at dksX6_satisfaction_2 1 rfl rfl)
abbrev cX6_meanPieces : ByteArray := prog_9_method_104_code
def yX6_meanPieces : MethodName := ⟨RX6, "meanPieces", "()D"⟩
def dkwX6_meanPieces_1 : List UInt8 := [182, 1, 26, 96, 60, 132, 2, 1, 167, 255, 235, 27, 135, 42, 180, 0, 13, 4, 46, 135, 111, 175]
abbrev dktX6_meanPieces_1 : List UInt8 := dkwX6_meanPieces_1 ++ []
def dkwX6_meanPieces_0 : List UInt8 := [42, 3, 181, 0, 1, 3, 60, 3, 61, 28, 42, 180, 0, 13, 4, 46, 162, 0, 17, 27, 42, 28]
abbrev dktX6_meanPieces_0 : List UInt8 := dkwX6_meanPieces_0 ++ dktX6_meanPieces_1
theorem dksX6_meanPieces_0 : cX6_meanPieces.data.toList.drop 0 = dktX6_meanPieces_0 := by decide +kernel
theorem dksX6_meanPieces_1 : cX6_meanPieces.data.toList.drop 22 = dktX6_meanPieces_1 := dk_seg dksX6_meanPieces_0 22 rfl rfl
theorem dX6_meanPieces_0 : decode cX6_meanPieces 0 = .ok (.aload_n 0, 1) := dk_42 (dk_at dksX6_meanPieces_0 0 rfl rfl)
theorem dX6_meanPieces_1 : decode cX6_meanPieces 1 = .ok (.iconst 0, 1) := dk_3 (dk_at dksX6_meanPieces_0 1 rfl rfl)
theorem dX6_meanPieces_2 : decode cX6_meanPieces 2 = .ok (.putfield 1, 3) := dk_181 0 1 (dk_at dksX6_meanPieces_0 2 rfl rfl)
theorem dX6_meanPieces_5 : decode cX6_meanPieces 5 = .ok (.iconst 0, 1) := dk_3 (dk_at dksX6_meanPieces_0 5 rfl rfl)
theorem dX6_meanPieces_6 : decode cX6_meanPieces 6 = .ok (.istore_n 1, 1) := dk_60 (dk_at dksX6_meanPieces_0 6 rfl rfl)
theorem dX6_meanPieces_7 : decode cX6_meanPieces 7 = .ok (.iconst 0, 1) := dk_3 (dk_at dksX6_meanPieces_0 7 rfl rfl)
theorem dX6_meanPieces_8 : decode cX6_meanPieces 8 = .ok (.istore_n 2, 1) := dk_61 (dk_at dksX6_meanPieces_0 8 rfl rfl)
theorem dX6_meanPieces_9 : decode cX6_meanPieces 9 = .ok (.iload_n 2, 1) := dk_28 (dk_at dksX6_meanPieces_0 9 rfl rfl)
theorem dX6_meanPieces_10 : decode cX6_meanPieces 10 = .ok (.aload_n 0, 1) := dk_42 (dk_at dksX6_meanPieces_0 10 rfl rfl)
theorem dX6_meanPieces_11 : decode cX6_meanPieces 11 = .ok (.getfield 13, 3) := dk_180 0 13 (dk_at dksX6_meanPieces_0 11 rfl rfl)
theorem dX6_meanPieces_14 : decode cX6_meanPieces 14 = .ok (.iconst 1, 1) := dk_4 (dk_at dksX6_meanPieces_0 14 rfl rfl)
theorem dX6_meanPieces_15 : decode cX6_meanPieces 15 = .ok (.iaload, 1) := dk_46 (dk_at dksX6_meanPieces_0 15 rfl rfl)
theorem dX6_meanPieces_16 : decode cX6_meanPieces 16 = .ok (.if_icmp .ge 17, 3) := dk_162 0 17 (dk_at dksX6_meanPieces_0 16 rfl rfl)
theorem dX6_meanPieces_19 : decode cX6_meanPieces 19 = .ok (.iload_n 1, 1) := dk_27 (dk_at dksX6_meanPieces_0 19 rfl rfl)
theorem dX6_meanPieces_20 : decode cX6_meanPieces 20 = .ok (.aload_n 0, 1) := dk_42 (dk_at dksX6_meanPieces_0 20 rfl rfl)
theorem dX6_meanPieces_21 : decode cX6_meanPieces 21 = .ok (.iload_n 2, 1) := dk_28 (dk_at dksX6_meanPieces_0 21 rfl rfl)
theorem dX6_meanPieces_22 : decode cX6_meanPieces 22 = .ok (.invokevirtual 282, 3) := dk_182 1 26 (dk_at dksX6_meanPieces_1 0 rfl rfl)
theorem dX6_meanPieces_25 : decode cX6_meanPieces 25 = .ok (.iadd, 1) := dk_96 (dk_at dksX6_meanPieces_1 3 rfl rfl)
theorem dX6_meanPieces_26 : decode cX6_meanPieces 26 = .ok (.istore_n 1, 1) := dk_60 (dk_at dksX6_meanPieces_1 4 rfl rfl)
theorem dX6_meanPieces_27 : decode cX6_meanPieces 27 = .ok (.iinc 2 1, 3) := dk_132 2 1 (dk_at dksX6_meanPieces_1 5 rfl rfl)
theorem dX6_meanPieces_30 : decode cX6_meanPieces 30 = .ok (.goto (-21), 3) := dk_167 255 235 (dk_at dksX6_meanPieces_1 8 rfl rfl)
theorem dX6_meanPieces_33 : decode cX6_meanPieces 33 = .ok (.iload_n 1, 1) := dk_27 (dk_at dksX6_meanPieces_1 11 rfl rfl)
theorem dX6_meanPieces_34 : decode cX6_meanPieces 34 = .ok (.i2d, 1) := dk_135 (dk_at dksX6_meanPieces_1 12 rfl rfl)
theorem dX6_meanPieces_35 : decode cX6_meanPieces 35 = .ok (.aload_n 0, 1) := dk_42 (dk_at dksX6_meanPieces_1 13 rfl rfl)
theorem dX6_meanPieces_36 : decode cX6_meanPieces 36 = .ok (.getfield 13, 3) := dk_180 0 13 (dk_at dksX6_meanPieces_1 14 rfl rfl)
theorem dX6_meanPieces_39 : decode cX6_meanPieces 39 = .ok (.iconst 1, 1) := dk_4 (dk_at dksX6_meanPieces_1 17 rfl rfl)
theorem dX6_meanPieces_40 : decode cX6_meanPieces 40 = .ok (.iaload, 1) := dk_46 (dk_at dksX6_meanPieces_1 18 rfl rfl)
theorem dX6_meanPieces_41 : decode cX6_meanPieces 41 = .ok (.i2d, 1) := dk_135 (dk_at dksX6_meanPieces_1 19 rfl rfl)
theorem dX6_meanPieces_42 : decode cX6_meanPieces 42 = .ok (.ddiv, 1) := dk_111 (dk_at dksX6_meanPieces_1 20 rfl rfl)
theorem dX6_meanPieces_43 : decode cX6_meanPieces 43 = .ok (.dreturn, 1) := dk_175 (dk_at dksX6_meanPieces_1 21 rfl rfl)
abbrev cX6_inconsistencies : ByteArray := prog_9_method_105_code
def yX6_inconsistencies : MethodName := ⟨RX6, "inconsistencies", "()I"⟩
def dkwX6_inconsistencies_2 : List UInt8 := [28, 182, 1, 23, 100, 96, 60, 132, 2, 1, 167, 255, 220, 27, 172]
abbrev dktX6_inconsistencies_2 : List UInt8 := dkwX6_inconsistencies_2 ++ []
def dkwX6_inconsistencies_1 : List UInt8 := [180, 0, 13, 4, 46, 162, 0, 32, 27, 42, 28, 28, 182, 0, 129, 153, 0, 7, 4, 167, 0, 4, 3, 42]
abbrev dktX6_inconsistencies_1 : List UInt8 := dkwX6_inconsistencies_1 ++ dktX6_inconsistencies_2
def dkwX6_inconsistencies_0 : List UInt8 := [42, 3, 181, 0, 1, 42, 180, 0, 13, 3, 46, 42, 2, 182, 1, 23, 100, 60, 3, 61, 28, 42]
abbrev dktX6_inconsistencies_0 : List UInt8 := dkwX6_inconsistencies_0 ++ dktX6_inconsistencies_1
theorem dksX6_inconsistencies_0 : cX6_inconsistencies.data.toList.drop 0 = dktX6_inconsistencies_0 := by decide +kernel
theorem dksX6_inconsistencies_1 : cX6_inconsistencies.data.toList.drop 22 = dktX6_inconsistencies_1 := dk_seg dksX6_inconsistencies_0 22 rfl rfl
theorem dksX6_inconsistencies_2 : cX6_inconsistencies.data.toList.drop 46 = dktX6_inconsistencies_2 := dk_seg dksX6_inconsistencies_1 24 rfl rfl
theorem dX6_inconsistencies_0 : decode cX6_inconsistencies 0 = .ok (.aload_n 0, 1) := dk_42 (dk_at dksX6_inconsistencies_0 0 rfl rfl)
theorem dX6_inconsistencies_1 : decode cX6_inconsistencies 1 = .ok (.iconst 0, 1) := dk_3 (dk_at dksX6_inconsistencies_0 1 rfl rfl)
theorem dX6_inconsistencies_2 : decode cX6_inconsistencies 2 = .ok (.putfield 1, 3) := dk_181 0 1 (dk_at dksX6_inconsistencies_0 2 rfl rfl)
theorem dX6_inconsistencies_5 : decode cX6_inconsistencies 5 = .ok (.aload_n 0, 1) := dk_42 (dk_at dksX6_inconsistencies_0 5 rfl rfl)
theorem dX6_inconsistencies_6 : decode cX6_inconsistencies 6 = .ok (.getfield 13, 3) := dk_180 0 13 (dk_at dksX6_inconsistencies_0 6 rfl rfl)
theorem dX6_inconsistencies_9 : decode cX6_inconsistencies 9 = .ok (.iconst 0, 1) := dk_3 (dk_at dksX6_inconsistencies_0 9 rfl rfl)
theorem dX6_inconsistencies_10 : decode cX6_inconsistencies 10 = .ok (.iaload, 1) := dk_46 (dk_at dksX6_inconsistencies_0 10 rfl rfl)
theorem dX6_inconsistencies_11 : decode cX6_inconsistencies 11 = .ok (.aload_n 0, 1) := dk_42 (dk_at dksX6_inconsistencies_0 11 rfl rfl)
theorem dX6_inconsistencies_12 : decode cX6_inconsistencies 12 = .ok (.iconst (-1), 1) := dk_2 (dk_at dksX6_inconsistencies_0 12 rfl rfl)
theorem dX6_inconsistencies_13 : decode cX6_inconsistencies 13 = .ok (.invokevirtual 279, 3) := dk_182 1 23 (dk_at dksX6_inconsistencies_0 13 rfl rfl)
theorem dX6_inconsistencies_16 : decode cX6_inconsistencies 16 = .ok (.isub, 1) := dk_100 (dk_at dksX6_inconsistencies_0 16 rfl rfl)
theorem dX6_inconsistencies_17 : decode cX6_inconsistencies 17 = .ok (.istore_n 1, 1) := dk_60 (dk_at dksX6_inconsistencies_0 17 rfl rfl)
theorem dX6_inconsistencies_18 : decode cX6_inconsistencies 18 = .ok (.iconst 0, 1) := dk_3 (dk_at dksX6_inconsistencies_0 18 rfl rfl)
theorem dX6_inconsistencies_19 : decode cX6_inconsistencies 19 = .ok (.istore_n 2, 1) := dk_61 (dk_at dksX6_inconsistencies_0 19 rfl rfl)
theorem dX6_inconsistencies_20 : decode cX6_inconsistencies 20 = .ok (.iload_n 2, 1) := dk_28 (dk_at dksX6_inconsistencies_0 20 rfl rfl)
theorem dX6_inconsistencies_21 : decode cX6_inconsistencies 21 = .ok (.aload_n 0, 1) := dk_42 (dk_at dksX6_inconsistencies_0 21 rfl rfl)
theorem dX6_inconsistencies_22 : decode cX6_inconsistencies 22 = .ok (.getfield 13, 3) := dk_180 0 13 (dk_at dksX6_inconsistencies_1 0 rfl rfl)
theorem dX6_inconsistencies_25 : decode cX6_inconsistencies 25 = .ok (.iconst 1, 1) := dk_4 (dk_at dksX6_inconsistencies_1 3 rfl rfl)
theorem dX6_inconsistencies_26 : decode cX6_inconsistencies 26 = .ok (.iaload, 1) := dk_46 (dk_at dksX6_inconsistencies_1 4 rfl rfl)
theorem dX6_inconsistencies_27 : decode cX6_inconsistencies 27 = .ok (.if_icmp .ge 32, 3) := dk_162 0 32 (dk_at dksX6_inconsistencies_1 5 rfl rfl)
theorem dX6_inconsistencies_30 : decode cX6_inconsistencies 30 = .ok (.iload_n 1, 1) := dk_27 (dk_at dksX6_inconsistencies_1 8 rfl rfl)
theorem dX6_inconsistencies_31 : decode cX6_inconsistencies 31 = .ok (.aload_n 0, 1) := dk_42 (dk_at dksX6_inconsistencies_1 9 rfl rfl)
theorem dX6_inconsistencies_32 : decode cX6_inconsistencies 32 = .ok (.iload_n 2, 1) := dk_28 (dk_at dksX6_inconsistencies_1 10 rfl rfl)
theorem dX6_inconsistencies_33 : decode cX6_inconsistencies 33 = .ok (.iload_n 2, 1) := dk_28 (dk_at dksX6_inconsistencies_1 11 rfl rfl)
theorem dX6_inconsistencies_34 : decode cX6_inconsistencies 34 = .ok (.invokevirtual 129, 3) := dk_182 0 129 (dk_at dksX6_inconsistencies_1 12 rfl rfl)
theorem dX6_inconsistencies_37 : decode cX6_inconsistencies 37 = .ok (.ifCond .eq 7, 3) := dk_153 0 7 (dk_at dksX6_inconsistencies_1 15 rfl rfl)
theorem dX6_inconsistencies_40 : decode cX6_inconsistencies 40 = .ok (.iconst 1, 1) := dk_4 (dk_at dksX6_inconsistencies_1 18 rfl rfl)
theorem dX6_inconsistencies_41 : decode cX6_inconsistencies 41 = .ok (.goto 4, 3) := dk_167 0 4 (dk_at dksX6_inconsistencies_1 19 rfl rfl)
theorem dX6_inconsistencies_44 : decode cX6_inconsistencies 44 = .ok (.iconst 0, 1) := dk_3 (dk_at dksX6_inconsistencies_1 22 rfl rfl)
theorem dX6_inconsistencies_45 : decode cX6_inconsistencies 45 = .ok (.aload_n 0, 1) := dk_42 (dk_at dksX6_inconsistencies_1 23 rfl rfl)
theorem dX6_inconsistencies_46 : decode cX6_inconsistencies 46 = .ok (.iload_n 2, 1) := dk_28 (dk_at dksX6_inconsistencies_2 0 rfl rfl)
theorem dX6_inconsistencies_47 : decode cX6_inconsistencies 47 = .ok (.invokevirtual 279, 3) := dk_182 1 23 (dk_at dksX6_inconsistencies_2 1 rfl rfl)
theorem dX6_inconsistencies_50 : decode cX6_inconsistencies 50 = .ok (.isub, 1) := dk_100 (dk_at dksX6_inconsistencies_2 4 rfl rfl)
theorem dX6_inconsistencies_51 : decode cX6_inconsistencies 51 = .ok (.iadd, 1) := dk_96 (dk_at dksX6_inconsistencies_2 5 rfl rfl)
theorem dX6_inconsistencies_52 : decode cX6_inconsistencies 52 = .ok (.istore_n 1, 1) := dk_60 (dk_at dksX6_inconsistencies_2 6 rfl rfl)
theorem dX6_inconsistencies_53 : decode cX6_inconsistencies 53 = .ok (.iinc 2 1, 3) := dk_132 2 1 (dk_at dksX6_inconsistencies_2 7 rfl rfl)
theorem dX6_inconsistencies_56 : decode cX6_inconsistencies 56 = .ok (.goto (-36), 3) := dk_167 255 220 (dk_at dksX6_inconsistencies_2 10 rfl rfl)
theorem dX6_inconsistencies_59 : decode cX6_inconsistencies 59 = .ok (.iload_n 1, 1) := dk_27 (dk_at dksX6_inconsistencies_2 13 rfl rfl)
theorem dX6_inconsistencies_60 : decode cX6_inconsistencies 60 = .ok (.ireturn, 1) := dk_172 (dk_at dksX6_inconsistencies_2 14 rfl rfl)
abbrev cX6_cutFor : ByteArray := prog_9_method_106_code
def yX6_cutFor : MethodName := ⟨RX6, "cutFor", "(I)I"⟩
def dkwX6_cutFor_1 : List UInt8 := [42, 27, 182, 0, 137, 172]
abbrev dktX6_cutFor_1 : List UInt8 := dkwX6_cutFor_1 ++ []
def dkwX6_cutFor_0 : List UInt8 := [42, 42, 27, 182, 0, 94, 154, 0, 7, 4, 167, 0, 4, 3, 3, 3, 182, 0, 171, 153, 0, 5, 3, 172]
abbrev dktX6_cutFor_0 : List UInt8 := dkwX6_cutFor_0 ++ dktX6_cutFor_1
theorem dksX6_cutFor_0 : cX6_cutFor.data.toList.drop 0 = dktX6_cutFor_0 := by decide +kernel
theorem dksX6_cutFor_1 : cX6_cutFor.data.toList.drop 24 = dktX6_cutFor_1 := dk_seg dksX6_cutFor_0 24 rfl rfl
theorem dX6_cutFor_0 : decode cX6_cutFor 0 = .ok (.aload_n 0, 1) := dk_42 (dk_at dksX6_cutFor_0 0 rfl rfl)
theorem dX6_cutFor_1 : decode cX6_cutFor 1 = .ok (.aload_n 0, 1) := dk_42 (dk_at dksX6_cutFor_0 1 rfl rfl)
theorem dX6_cutFor_2 : decode cX6_cutFor 2 = .ok (.iload_n 1, 1) := dk_27 (dk_at dksX6_cutFor_0 2 rfl rfl)
theorem dX6_cutFor_3 : decode cX6_cutFor 3 = .ok (.invokevirtual 94, 3) := dk_182 0 94 (dk_at dksX6_cutFor_0 3 rfl rfl)
theorem dX6_cutFor_6 : decode cX6_cutFor 6 = .ok (.ifCond .ne 7, 3) := dk_154 0 7 (dk_at dksX6_cutFor_0 6 rfl rfl)
theorem dX6_cutFor_9 : decode cX6_cutFor 9 = .ok (.iconst 1, 1) := dk_4 (dk_at dksX6_cutFor_0 9 rfl rfl)
theorem dX6_cutFor_10 : decode cX6_cutFor 10 = .ok (.goto 4, 3) := dk_167 0 4 (dk_at dksX6_cutFor_0 10 rfl rfl)
theorem dX6_cutFor_13 : decode cX6_cutFor 13 = .ok (.iconst 0, 1) := dk_3 (dk_at dksX6_cutFor_0 13 rfl rfl)
theorem dX6_cutFor_14 : decode cX6_cutFor 14 = .ok (.iconst 0, 1) := dk_3 (dk_at dksX6_cutFor_0 14 rfl rfl)
theorem dX6_cutFor_15 : decode cX6_cutFor 15 = .ok (.iconst 0, 1) := dk_3 (dk_at dksX6_cutFor_0 15 rfl rfl)
theorem dX6_cutFor_16 : decode cX6_cutFor 16 = .ok (.invokevirtual 171, 3) := dk_182 0 171 (dk_at dksX6_cutFor_0 16 rfl rfl)
theorem dX6_cutFor_19 : decode cX6_cutFor 19 = .ok (.ifCond .eq 5, 3) := dk_153 0 5 (dk_at dksX6_cutFor_0 19 rfl rfl)
theorem dX6_cutFor_22 : decode cX6_cutFor 22 = .ok (.iconst 0, 1) := dk_3 (dk_at dksX6_cutFor_0 22 rfl rfl)
theorem dX6_cutFor_23 : decode cX6_cutFor 23 = .ok (.ireturn, 1) := dk_172 (dk_at dksX6_cutFor_0 23 rfl rfl)
theorem dX6_cutFor_24 : decode cX6_cutFor 24 = .ok (.aload_n 0, 1) := dk_42 (dk_at dksX6_cutFor_1 0 rfl rfl)
theorem dX6_cutFor_25 : decode cX6_cutFor 25 = .ok (.iload_n 1, 1) := dk_27 (dk_at dksX6_cutFor_1 1 rfl rfl)
theorem dX6_cutFor_26 : decode cX6_cutFor 26 = .ok (.invokevirtual 137, 3) := dk_182 0 137 (dk_at dksX6_cutFor_1 2 rfl rfl)
theorem dX6_cutFor_29 : decode cX6_cutFor 29 = .ok (.ireturn, 1) := dk_172 (dk_at dksX6_cutFor_1 5 rfl rfl)
abbrev cX6_welfareByKnife : ByteArray := prog_9_method_107_code
def yX6_welfareByKnife : MethodName := ⟨RX6, "welfareByKnife", "(I)I"⟩
def dkwX6_welfareByKnife_2 : List UInt8 := [182, 0, 101, 28, 172]
abbrev dktX6_welfareByKnife_2 : List UInt8 := dkwX6_welfareByKnife_2 ++ []
def dkwX6_welfareByKnife_1 : List UInt8 := [42, 3, 16, 9, 182, 0, 101, 42, 182, 0, 252, 87, 42, 27, 182, 0, 120, 61, 42, 16, 9, 3]
abbrev dktX6_welfareByKnife_1 : List UInt8 := dkwX6_welfareByKnife_1 ++ dktX6_welfareByKnife_2
def dkwX6_welfareByKnife_0 : List UInt8 := [42, 42, 27, 182, 0, 94, 154, 0, 7, 4, 167, 0, 4, 3, 3, 3, 182, 0, 171, 153, 0, 5, 3, 172]
abbrev dktX6_welfareByKnife_0 : List UInt8 := dkwX6_welfareByKnife_0 ++ dktX6_welfareByKnife_1
theorem dksX6_welfareByKnife_0 : cX6_welfareByKnife.data.toList.drop 0 = dktX6_welfareByKnife_0 := by decide +kernel
theorem dksX6_welfareByKnife_1 : cX6_welfareByKnife.data.toList.drop 24 = dktX6_welfareByKnife_1 := dk_seg dksX6_welfareByKnife_0 24 rfl rfl
theorem dksX6_welfareByKnife_2 : cX6_welfareByKnife.data.toList.drop 46 = dktX6_welfareByKnife_2 := dk_seg dksX6_welfareByKnife_1 22 rfl rfl
theorem dX6_welfareByKnife_0 : decode cX6_welfareByKnife 0 = .ok (.aload_n 0, 1) := dk_42 (dk_at dksX6_welfareByKnife_0 0 rfl rfl)
theorem dX6_welfareByKnife_1 : decode cX6_welfareByKnife 1 = .ok (.aload_n 0, 1) := dk_42 (dk_at dksX6_welfareByKnife_0 1 rfl rfl)
theorem dX6_welfareByKnife_2 : decode cX6_welfareByKnife 2 = .ok (.iload_n 1, 1) := dk_27 (dk_at dksX6_welfareByKnife_0 2 rfl rfl)
theorem dX6_welfareByKnife_3 : decode cX6_welfareByKnife 3 = .ok (.invokevirtual 94, 3) := dk_182 0 94 (dk_at dksX6_welfareByKnife_0 3 rfl rfl)
theorem dX6_welfareByKnife_6 : decode cX6_welfareByKnife 6 = .ok (.ifCond .ne 7, 3) := dk_154 0 7 (dk_at dksX6_welfareByKnife_0 6 rfl rfl)
theorem dX6_welfareByKnife_9 : decode cX6_welfareByKnife 9 = .ok (.iconst 1, 1) := dk_4 (dk_at dksX6_welfareByKnife_0 9 rfl rfl)
theorem dX6_welfareByKnife_10 : decode cX6_welfareByKnife 10 = .ok (.goto 4, 3) := dk_167 0 4 (dk_at dksX6_welfareByKnife_0 10 rfl rfl)
theorem dX6_welfareByKnife_13 : decode cX6_welfareByKnife 13 = .ok (.iconst 0, 1) := dk_3 (dk_at dksX6_welfareByKnife_0 13 rfl rfl)
theorem dX6_welfareByKnife_14 : decode cX6_welfareByKnife 14 = .ok (.iconst 0, 1) := dk_3 (dk_at dksX6_welfareByKnife_0 14 rfl rfl)
theorem dX6_welfareByKnife_15 : decode cX6_welfareByKnife 15 = .ok (.iconst 0, 1) := dk_3 (dk_at dksX6_welfareByKnife_0 15 rfl rfl)
theorem dX6_welfareByKnife_16 : decode cX6_welfareByKnife 16 = .ok (.invokevirtual 171, 3) := dk_182 0 171 (dk_at dksX6_welfareByKnife_0 16 rfl rfl)
theorem dX6_welfareByKnife_19 : decode cX6_welfareByKnife 19 = .ok (.ifCond .eq 5, 3) := dk_153 0 5 (dk_at dksX6_welfareByKnife_0 19 rfl rfl)
theorem dX6_welfareByKnife_22 : decode cX6_welfareByKnife 22 = .ok (.iconst 0, 1) := dk_3 (dk_at dksX6_welfareByKnife_0 22 rfl rfl)
theorem dX6_welfareByKnife_23 : decode cX6_welfareByKnife 23 = .ok (.ireturn, 1) := dk_172 (dk_at dksX6_welfareByKnife_0 23 rfl rfl)
theorem dX6_welfareByKnife_24 : decode cX6_welfareByKnife 24 = .ok (.aload_n 0, 1) := dk_42 (dk_at dksX6_welfareByKnife_1 0 rfl rfl)
theorem dX6_welfareByKnife_25 : decode cX6_welfareByKnife 25 = .ok (.iconst 0, 1) := dk_3 (dk_at dksX6_welfareByKnife_1 1 rfl rfl)
theorem dX6_welfareByKnife_26 : decode cX6_welfareByKnife 26 = .ok (.bipush 9, 2) := dk_16 9 (dk_at dksX6_welfareByKnife_1 2 rfl rfl)
theorem dX6_welfareByKnife_28 : decode cX6_welfareByKnife 28 = .ok (.invokevirtual 101, 3) := dk_182 0 101 (dk_at dksX6_welfareByKnife_1 4 rfl rfl)
theorem dX6_welfareByKnife_31 : decode cX6_welfareByKnife 31 = .ok (.aload_n 0, 1) := dk_42 (dk_at dksX6_welfareByKnife_1 7 rfl rfl)
theorem dX6_welfareByKnife_32 : decode cX6_welfareByKnife 32 = .ok (.invokevirtual 252, 3) := dk_182 0 252 (dk_at dksX6_welfareByKnife_1 8 rfl rfl)
theorem dX6_welfareByKnife_35 : decode cX6_welfareByKnife 35 = .ok (.pop, 1) := dk_87 (dk_at dksX6_welfareByKnife_1 11 rfl rfl)
theorem dX6_welfareByKnife_36 : decode cX6_welfareByKnife 36 = .ok (.aload_n 0, 1) := dk_42 (dk_at dksX6_welfareByKnife_1 12 rfl rfl)
theorem dX6_welfareByKnife_37 : decode cX6_welfareByKnife 37 = .ok (.iload_n 1, 1) := dk_27 (dk_at dksX6_welfareByKnife_1 13 rfl rfl)
theorem dX6_welfareByKnife_38 : decode cX6_welfareByKnife 38 = .ok (.invokevirtual 120, 3) := dk_182 0 120 (dk_at dksX6_welfareByKnife_1 14 rfl rfl)
theorem dX6_welfareByKnife_41 : decode cX6_welfareByKnife 41 = .ok (.istore_n 2, 1) := dk_61 (dk_at dksX6_welfareByKnife_1 17 rfl rfl)
theorem dX6_welfareByKnife_42 : decode cX6_welfareByKnife 42 = .ok (.aload_n 0, 1) := dk_42 (dk_at dksX6_welfareByKnife_1 18 rfl rfl)
theorem dX6_welfareByKnife_43 : decode cX6_welfareByKnife 43 = .ok (.bipush 9, 2) := dk_16 9 (dk_at dksX6_welfareByKnife_1 19 rfl rfl)
theorem dX6_welfareByKnife_45 : decode cX6_welfareByKnife 45 = .ok (.iconst 0, 1) := dk_3 (dk_at dksX6_welfareByKnife_1 21 rfl rfl)
theorem dX6_welfareByKnife_46 : decode cX6_welfareByKnife 46 = .ok (.invokevirtual 101, 3) := dk_182 0 101 (dk_at dksX6_welfareByKnife_2 0 rfl rfl)
theorem dX6_welfareByKnife_49 : decode cX6_welfareByKnife 49 = .ok (.iload_n 2, 1) := dk_28 (dk_at dksX6_welfareByKnife_2 3 rfl rfl)
theorem dX6_welfareByKnife_50 : decode cX6_welfareByKnife 50 = .ok (.ireturn, 1) := dk_172 (dk_at dksX6_welfareByKnife_2 4 rfl rfl)
abbrev cX6_welfareByRobin : ByteArray := prog_9_method_108_code
def yX6_welfareByRobin : MethodName := ⟨RX6, "welfareByRobin", "(II)I"⟩
def dkwX6_welfareByRobin_2 : List UInt8 := [42, 16, 9, 3, 182, 0, 101, 29, 172]
abbrev dktX6_welfareByRobin_2 : List UInt8 := dkwX6_welfareByRobin_2 ++ []
def dkwX6_welfareByRobin_1 : List UInt8 := [172, 42, 3, 16, 9, 182, 0, 101, 42, 182, 0, 144, 42, 28, 182, 0, 254, 87, 42, 27, 182, 0, 120, 62]
abbrev dktX6_welfareByRobin_1 : List UInt8 := dkwX6_welfareByRobin_1 ++ dktX6_welfareByRobin_2
def dkwX6_welfareByRobin_0 : List UInt8 := [42, 42, 27, 28, 182, 1, 20, 154, 0, 7, 4, 167, 0, 4, 3, 3, 3, 182, 0, 171, 153, 0, 5, 3]
abbrev dktX6_welfareByRobin_0 : List UInt8 := dkwX6_welfareByRobin_0 ++ dktX6_welfareByRobin_1
theorem dksX6_welfareByRobin_0 : cX6_welfareByRobin.data.toList.drop 0 = dktX6_welfareByRobin_0 := by decide +kernel
theorem dksX6_welfareByRobin_1 : cX6_welfareByRobin.data.toList.drop 24 = dktX6_welfareByRobin_1 := dk_seg dksX6_welfareByRobin_0 24 rfl rfl
theorem dksX6_welfareByRobin_2 : cX6_welfareByRobin.data.toList.drop 48 = dktX6_welfareByRobin_2 := dk_seg dksX6_welfareByRobin_1 24 rfl rfl
theorem dX6_welfareByRobin_0 : decode cX6_welfareByRobin 0 = .ok (.aload_n 0, 1) := dk_42 (dk_at dksX6_welfareByRobin_0 0 rfl rfl)
theorem dX6_welfareByRobin_1 : decode cX6_welfareByRobin 1 = .ok (.aload_n 0, 1) := dk_42 (dk_at dksX6_welfareByRobin_0 1 rfl rfl)
theorem dX6_welfareByRobin_2 : decode cX6_welfareByRobin 2 = .ok (.iload_n 1, 1) := dk_27 (dk_at dksX6_welfareByRobin_0 2 rfl rfl)
theorem dX6_welfareByRobin_3 : decode cX6_welfareByRobin 3 = .ok (.iload_n 2, 1) := dk_28 (dk_at dksX6_welfareByRobin_0 3 rfl rfl)
theorem dX6_welfareByRobin_4 : decode cX6_welfareByRobin 4 = .ok (.invokevirtual 276, 3) := dk_182 1 20 (dk_at dksX6_welfareByRobin_0 4 rfl rfl)
theorem dX6_welfareByRobin_7 : decode cX6_welfareByRobin 7 = .ok (.ifCond .ne 7, 3) := dk_154 0 7 (dk_at dksX6_welfareByRobin_0 7 rfl rfl)
theorem dX6_welfareByRobin_10 : decode cX6_welfareByRobin 10 = .ok (.iconst 1, 1) := dk_4 (dk_at dksX6_welfareByRobin_0 10 rfl rfl)
theorem dX6_welfareByRobin_11 : decode cX6_welfareByRobin 11 = .ok (.goto 4, 3) := dk_167 0 4 (dk_at dksX6_welfareByRobin_0 11 rfl rfl)
theorem dX6_welfareByRobin_14 : decode cX6_welfareByRobin 14 = .ok (.iconst 0, 1) := dk_3 (dk_at dksX6_welfareByRobin_0 14 rfl rfl)
theorem dX6_welfareByRobin_15 : decode cX6_welfareByRobin 15 = .ok (.iconst 0, 1) := dk_3 (dk_at dksX6_welfareByRobin_0 15 rfl rfl)
theorem dX6_welfareByRobin_16 : decode cX6_welfareByRobin 16 = .ok (.iconst 0, 1) := dk_3 (dk_at dksX6_welfareByRobin_0 16 rfl rfl)
theorem dX6_welfareByRobin_17 : decode cX6_welfareByRobin 17 = .ok (.invokevirtual 171, 3) := dk_182 0 171 (dk_at dksX6_welfareByRobin_0 17 rfl rfl)
theorem dX6_welfareByRobin_20 : decode cX6_welfareByRobin 20 = .ok (.ifCond .eq 5, 3) := dk_153 0 5 (dk_at dksX6_welfareByRobin_0 20 rfl rfl)
theorem dX6_welfareByRobin_23 : decode cX6_welfareByRobin 23 = .ok (.iconst 0, 1) := dk_3 (dk_at dksX6_welfareByRobin_0 23 rfl rfl)
theorem dX6_welfareByRobin_24 : decode cX6_welfareByRobin 24 = .ok (.ireturn, 1) := dk_172 (dk_at dksX6_welfareByRobin_1 0 rfl rfl)
theorem dX6_welfareByRobin_25 : decode cX6_welfareByRobin 25 = .ok (.aload_n 0, 1) := dk_42 (dk_at dksX6_welfareByRobin_1 1 rfl rfl)
theorem dX6_welfareByRobin_26 : decode cX6_welfareByRobin 26 = .ok (.iconst 0, 1) := dk_3 (dk_at dksX6_welfareByRobin_1 2 rfl rfl)
theorem dX6_welfareByRobin_27 : decode cX6_welfareByRobin 27 = .ok (.bipush 9, 2) := dk_16 9 (dk_at dksX6_welfareByRobin_1 3 rfl rfl)
theorem dX6_welfareByRobin_29 : decode cX6_welfareByRobin 29 = .ok (.invokevirtual 101, 3) := dk_182 0 101 (dk_at dksX6_welfareByRobin_1 5 rfl rfl)
theorem dX6_welfareByRobin_32 : decode cX6_welfareByRobin 32 = .ok (.aload_n 0, 1) := dk_42 (dk_at dksX6_welfareByRobin_1 8 rfl rfl)
theorem dX6_welfareByRobin_33 : decode cX6_welfareByRobin 33 = .ok (.invokevirtual 144, 3) := dk_182 0 144 (dk_at dksX6_welfareByRobin_1 9 rfl rfl)
theorem dX6_welfareByRobin_36 : decode cX6_welfareByRobin 36 = .ok (.aload_n 0, 1) := dk_42 (dk_at dksX6_welfareByRobin_1 12 rfl rfl)
theorem dX6_welfareByRobin_37 : decode cX6_welfareByRobin 37 = .ok (.iload_n 2, 1) := dk_28 (dk_at dksX6_welfareByRobin_1 13 rfl rfl)
theorem dX6_welfareByRobin_38 : decode cX6_welfareByRobin 38 = .ok (.invokevirtual 254, 3) := dk_182 0 254 (dk_at dksX6_welfareByRobin_1 14 rfl rfl)
theorem dX6_welfareByRobin_41 : decode cX6_welfareByRobin 41 = .ok (.pop, 1) := dk_87 (dk_at dksX6_welfareByRobin_1 17 rfl rfl)
theorem dX6_welfareByRobin_42 : decode cX6_welfareByRobin 42 = .ok (.aload_n 0, 1) := dk_42 (dk_at dksX6_welfareByRobin_1 18 rfl rfl)
theorem dX6_welfareByRobin_43 : decode cX6_welfareByRobin 43 = .ok (.iload_n 1, 1) := dk_27 (dk_at dksX6_welfareByRobin_1 19 rfl rfl)
theorem dX6_welfareByRobin_44 : decode cX6_welfareByRobin 44 = .ok (.invokevirtual 120, 3) := dk_182 0 120 (dk_at dksX6_welfareByRobin_1 20 rfl rfl)
theorem dX6_welfareByRobin_47 : decode cX6_welfareByRobin 47 = .ok (.istore_n 3, 1) := dk_62 (dk_at dksX6_welfareByRobin_1 23 rfl rfl)
theorem dX6_welfareByRobin_48 : decode cX6_welfareByRobin 48 = .ok (.aload_n 0, 1) := dk_42 (dk_at dksX6_welfareByRobin_2 0 rfl rfl)
theorem dX6_welfareByRobin_49 : decode cX6_welfareByRobin 49 = .ok (.bipush 9, 2) := dk_16 9 (dk_at dksX6_welfareByRobin_2 1 rfl rfl)
theorem dX6_welfareByRobin_51 : decode cX6_welfareByRobin 51 = .ok (.iconst 0, 1) := dk_3 (dk_at dksX6_welfareByRobin_2 3 rfl rfl)
theorem dX6_welfareByRobin_52 : decode cX6_welfareByRobin 52 = .ok (.invokevirtual 101, 3) := dk_182 0 101 (dk_at dksX6_welfareByRobin_2 4 rfl rfl)
theorem dX6_welfareByRobin_55 : decode cX6_welfareByRobin 55 = .ok (.iload_n 3, 1) := dk_29 (dk_at dksX6_welfareByRobin_2 7 rfl rfl)
theorem dX6_welfareByRobin_56 : decode cX6_welfareByRobin 56 = .ok (.ireturn, 1) := dk_172 (dk_at dksX6_welfareByRobin_2 8 rfl rfl)
abbrev cX6_bestFirst : ByteArray := prog_9_method_109_code
def yX6_bestFirst : MethodName := ⟨RX6, "bestFirst", "()I"⟩
def dkwX6_bestFirst_3 : List UInt8 := [172]
abbrev dktX6_bestFirst_3 : List UInt8 := dkwX6_bestFirst_3 ++ []
def dkwX6_bestFirst_2 : List UInt8 := [167, 0, 10, 29, 60, 42, 182, 1, 38, 61, 132, 3, 1, 167, 255, 215, 42, 16, 9, 3, 182, 0, 101, 27]
abbrev dktX6_bestFirst_2 : List UInt8 := dkwX6_bestFirst_2 ++ dktX6_bestFirst_3
def dkwX6_bestFirst_1 : List UInt8 := [46, 162, 0, 37, 42, 182, 0, 144, 42, 29, 182, 0, 254, 87, 42, 182, 1, 38, 28, 163, 0, 6]
abbrev dktX6_bestFirst_1 : List UInt8 := dkwX6_bestFirst_1 ++ dktX6_bestFirst_2
def dkwX6_bestFirst_0 : List UInt8 := [42, 3, 181, 0, 1, 42, 3, 16, 9, 182, 0, 101, 2, 60, 2, 61, 3, 62, 29, 42, 180, 0, 13, 4]
abbrev dktX6_bestFirst_0 : List UInt8 := dkwX6_bestFirst_0 ++ dktX6_bestFirst_1
theorem dksX6_bestFirst_0 : cX6_bestFirst.data.toList.drop 0 = dktX6_bestFirst_0 := by decide +kernel
theorem dksX6_bestFirst_1 : cX6_bestFirst.data.toList.drop 24 = dktX6_bestFirst_1 := dk_seg dksX6_bestFirst_0 24 rfl rfl
theorem dksX6_bestFirst_2 : cX6_bestFirst.data.toList.drop 46 = dktX6_bestFirst_2 := dk_seg dksX6_bestFirst_1 22 rfl rfl
theorem dksX6_bestFirst_3 : cX6_bestFirst.data.toList.drop 70 = dktX6_bestFirst_3 := dk_seg dksX6_bestFirst_2 24 rfl rfl
theorem dX6_bestFirst_0 : decode cX6_bestFirst 0 = .ok (.aload_n 0, 1) := dk_42 (dk_at dksX6_bestFirst_0 0 rfl rfl)
theorem dX6_bestFirst_1 : decode cX6_bestFirst 1 = .ok (.iconst 0, 1) := dk_3 (dk_at dksX6_bestFirst_0 1 rfl rfl)
theorem dX6_bestFirst_2 : decode cX6_bestFirst 2 = .ok (.putfield 1, 3) := dk_181 0 1 (dk_at dksX6_bestFirst_0 2 rfl rfl)
theorem dX6_bestFirst_5 : decode cX6_bestFirst 5 = .ok (.aload_n 0, 1) := dk_42 (dk_at dksX6_bestFirst_0 5 rfl rfl)
theorem dX6_bestFirst_6 : decode cX6_bestFirst 6 = .ok (.iconst 0, 1) := dk_3 (dk_at dksX6_bestFirst_0 6 rfl rfl)
theorem dX6_bestFirst_7 : decode cX6_bestFirst 7 = .ok (.bipush 9, 2) := dk_16 9 (dk_at dksX6_bestFirst_0 7 rfl rfl)
theorem dX6_bestFirst_9 : decode cX6_bestFirst 9 = .ok (.invokevirtual 101, 3) := dk_182 0 101 (dk_at dksX6_bestFirst_0 9 rfl rfl)
theorem dX6_bestFirst_12 : decode cX6_bestFirst 12 = .ok (.iconst (-1), 1) := dk_2 (dk_at dksX6_bestFirst_0 12 rfl rfl)
theorem dX6_bestFirst_13 : decode cX6_bestFirst 13 = .ok (.istore_n 1, 1) := dk_60 (dk_at dksX6_bestFirst_0 13 rfl rfl)
theorem dX6_bestFirst_14 : decode cX6_bestFirst 14 = .ok (.iconst (-1), 1) := dk_2 (dk_at dksX6_bestFirst_0 14 rfl rfl)
theorem dX6_bestFirst_15 : decode cX6_bestFirst 15 = .ok (.istore_n 2, 1) := dk_61 (dk_at dksX6_bestFirst_0 15 rfl rfl)
theorem dX6_bestFirst_16 : decode cX6_bestFirst 16 = .ok (.iconst 0, 1) := dk_3 (dk_at dksX6_bestFirst_0 16 rfl rfl)
theorem dX6_bestFirst_17 : decode cX6_bestFirst 17 = .ok (.istore_n 3, 1) := dk_62 (dk_at dksX6_bestFirst_0 17 rfl rfl)
theorem dX6_bestFirst_18 : decode cX6_bestFirst 18 = .ok (.iload_n 3, 1) := dk_29 (dk_at dksX6_bestFirst_0 18 rfl rfl)
theorem dX6_bestFirst_19 : decode cX6_bestFirst 19 = .ok (.aload_n 0, 1) := dk_42 (dk_at dksX6_bestFirst_0 19 rfl rfl)
theorem dX6_bestFirst_20 : decode cX6_bestFirst 20 = .ok (.getfield 13, 3) := dk_180 0 13 (dk_at dksX6_bestFirst_0 20 rfl rfl)
theorem dX6_bestFirst_23 : decode cX6_bestFirst 23 = .ok (.iconst 1, 1) := dk_4 (dk_at dksX6_bestFirst_0 23 rfl rfl)
theorem dX6_bestFirst_24 : decode cX6_bestFirst 24 = .ok (.iaload, 1) := dk_46 (dk_at dksX6_bestFirst_1 0 rfl rfl)
theorem dX6_bestFirst_25 : decode cX6_bestFirst 25 = .ok (.if_icmp .ge 37, 3) := dk_162 0 37 (dk_at dksX6_bestFirst_1 1 rfl rfl)
theorem dX6_bestFirst_28 : decode cX6_bestFirst 28 = .ok (.aload_n 0, 1) := dk_42 (dk_at dksX6_bestFirst_1 4 rfl rfl)
theorem dX6_bestFirst_29 : decode cX6_bestFirst 29 = .ok (.invokevirtual 144, 3) := dk_182 0 144 (dk_at dksX6_bestFirst_1 5 rfl rfl)
theorem dX6_bestFirst_32 : decode cX6_bestFirst 32 = .ok (.aload_n 0, 1) := dk_42 (dk_at dksX6_bestFirst_1 8 rfl rfl)
theorem dX6_bestFirst_33 : decode cX6_bestFirst 33 = .ok (.iload_n 3, 1) := dk_29 (dk_at dksX6_bestFirst_1 9 rfl rfl)
theorem dX6_bestFirst_34 : decode cX6_bestFirst 34 = .ok (.invokevirtual 254, 3) := dk_182 0 254 (dk_at dksX6_bestFirst_1 10 rfl rfl)
theorem dX6_bestFirst_37 : decode cX6_bestFirst 37 = .ok (.pop, 1) := dk_87 (dk_at dksX6_bestFirst_1 13 rfl rfl)
theorem dX6_bestFirst_38 : decode cX6_bestFirst 38 = .ok (.aload_n 0, 1) := dk_42 (dk_at dksX6_bestFirst_1 14 rfl rfl)
theorem dX6_bestFirst_39 : decode cX6_bestFirst 39 = .ok (.invokevirtual 294, 3) := dk_182 1 38 (dk_at dksX6_bestFirst_1 15 rfl rfl)
theorem dX6_bestFirst_42 : decode cX6_bestFirst 42 = .ok (.iload_n 2, 1) := dk_28 (dk_at dksX6_bestFirst_1 18 rfl rfl)
theorem dX6_bestFirst_43 : decode cX6_bestFirst 43 = .ok (.if_icmp .gt 6, 3) := dk_163 0 6 (dk_at dksX6_bestFirst_1 19 rfl rfl)
theorem dX6_bestFirst_46 : decode cX6_bestFirst 46 = .ok (.goto 10, 3) := dk_167 0 10 (dk_at dksX6_bestFirst_2 0 rfl rfl)
theorem dX6_bestFirst_49 : decode cX6_bestFirst 49 = .ok (.iload_n 3, 1) := dk_29 (dk_at dksX6_bestFirst_2 3 rfl rfl)
theorem dX6_bestFirst_50 : decode cX6_bestFirst 50 = .ok (.istore_n 1, 1) := dk_60 (dk_at dksX6_bestFirst_2 4 rfl rfl)
theorem dX6_bestFirst_51 : decode cX6_bestFirst 51 = .ok (.aload_n 0, 1) := dk_42 (dk_at dksX6_bestFirst_2 5 rfl rfl)
theorem dX6_bestFirst_52 : decode cX6_bestFirst 52 = .ok (.invokevirtual 294, 3) := dk_182 1 38 (dk_at dksX6_bestFirst_2 6 rfl rfl)
theorem dX6_bestFirst_55 : decode cX6_bestFirst 55 = .ok (.istore_n 2, 1) := dk_61 (dk_at dksX6_bestFirst_2 9 rfl rfl)
theorem dX6_bestFirst_56 : decode cX6_bestFirst 56 = .ok (.iinc 3 1, 3) := dk_132 3 1 (dk_at dksX6_bestFirst_2 10 rfl rfl)
theorem dX6_bestFirst_59 : decode cX6_bestFirst 59 = .ok (.goto (-41), 3) := dk_167 255 215 (dk_at dksX6_bestFirst_2 13 rfl rfl)
theorem dX6_bestFirst_62 : decode cX6_bestFirst 62 = .ok (.aload_n 0, 1) := dk_42 (dk_at dksX6_bestFirst_2 16 rfl rfl)
theorem dX6_bestFirst_63 : decode cX6_bestFirst 63 = .ok (.bipush 9, 2) := dk_16 9 (dk_at dksX6_bestFirst_2 17 rfl rfl)
theorem dX6_bestFirst_65 : decode cX6_bestFirst 65 = .ok (.iconst 0, 1) := dk_3 (dk_at dksX6_bestFirst_2 19 rfl rfl)
theorem dX6_bestFirst_66 : decode cX6_bestFirst 66 = .ok (.invokevirtual 101, 3) := dk_182 0 101 (dk_at dksX6_bestFirst_2 20 rfl rfl)
theorem dX6_bestFirst_69 : decode cX6_bestFirst 69 = .ok (.iload_n 1, 1) := dk_27 (dk_at dksX6_bestFirst_2 23 rfl rfl)
theorem dX6_bestFirst_70 : decode cX6_bestFirst 70 = .ok (.ireturn, 1) := dk_172 (dk_at dksX6_bestFirst_3 0 rfl rfl)
abbrev cX6_give : ByteArray := prog_9_method_110_code
def yX6_give : MethodName := ⟨RX6, "give", "(III)I"⟩
def dkwX6_give_2 : List UInt8 := [182, 0, 140, 42, 27, 182, 0, 120, 172]
abbrev dktX6_give_2 : List UInt8 := dkwX6_give_2 ++ []
def dkwX6_give_1 : List UInt8 := [167, 0, 4, 3, 3, 182, 0, 171, 153, 0, 5, 3, 172, 42, 3, 182, 1, 6, 42, 27, 28, 29]
abbrev dktX6_give_1 : List UInt8 := dkwX6_give_1 ++ dktX6_give_2
def dkwX6_give_0 : List UInt8 := [42, 42, 27, 182, 0, 94, 154, 0, 7, 4, 167, 0, 4, 3, 42, 28, 29, 182, 0, 244, 154, 0, 7, 4]
abbrev dktX6_give_0 : List UInt8 := dkwX6_give_0 ++ dktX6_give_1
theorem dksX6_give_0 : cX6_give.data.toList.drop 0 = dktX6_give_0 := by decide +kernel
theorem dksX6_give_1 : cX6_give.data.toList.drop 24 = dktX6_give_1 := dk_seg dksX6_give_0 24 rfl rfl
theorem dksX6_give_2 : cX6_give.data.toList.drop 46 = dktX6_give_2 := dk_seg dksX6_give_1 22 rfl rfl
theorem dX6_give_0 : decode cX6_give 0 = .ok (.aload_n 0, 1) := dk_42 (dk_at dksX6_give_0 0 rfl rfl)
theorem dX6_give_1 : decode cX6_give 1 = .ok (.aload_n 0, 1) := dk_42 (dk_at dksX6_give_0 1 rfl rfl)
theorem dX6_give_2 : decode cX6_give 2 = .ok (.iload_n 1, 1) := dk_27 (dk_at dksX6_give_0 2 rfl rfl)
theorem dX6_give_3 : decode cX6_give 3 = .ok (.invokevirtual 94, 3) := dk_182 0 94 (dk_at dksX6_give_0 3 rfl rfl)
theorem dX6_give_6 : decode cX6_give 6 = .ok (.ifCond .ne 7, 3) := dk_154 0 7 (dk_at dksX6_give_0 6 rfl rfl)
theorem dX6_give_9 : decode cX6_give 9 = .ok (.iconst 1, 1) := dk_4 (dk_at dksX6_give_0 9 rfl rfl)
theorem dX6_give_10 : decode cX6_give 10 = .ok (.goto 4, 3) := dk_167 0 4 (dk_at dksX6_give_0 10 rfl rfl)
theorem dX6_give_13 : decode cX6_give 13 = .ok (.iconst 0, 1) := dk_3 (dk_at dksX6_give_0 13 rfl rfl)
theorem dX6_give_14 : decode cX6_give 14 = .ok (.aload_n 0, 1) := dk_42 (dk_at dksX6_give_0 14 rfl rfl)
theorem dX6_give_15 : decode cX6_give 15 = .ok (.iload_n 2, 1) := dk_28 (dk_at dksX6_give_0 15 rfl rfl)
theorem dX6_give_16 : decode cX6_give 16 = .ok (.iload_n 3, 1) := dk_29 (dk_at dksX6_give_0 16 rfl rfl)
theorem dX6_give_17 : decode cX6_give 17 = .ok (.invokevirtual 244, 3) := dk_182 0 244 (dk_at dksX6_give_0 17 rfl rfl)
theorem dX6_give_20 : decode cX6_give 20 = .ok (.ifCond .ne 7, 3) := dk_154 0 7 (dk_at dksX6_give_0 20 rfl rfl)
theorem dX6_give_23 : decode cX6_give 23 = .ok (.iconst 1, 1) := dk_4 (dk_at dksX6_give_0 23 rfl rfl)
theorem dX6_give_24 : decode cX6_give 24 = .ok (.goto 4, 3) := dk_167 0 4 (dk_at dksX6_give_1 0 rfl rfl)
theorem dX6_give_27 : decode cX6_give 27 = .ok (.iconst 0, 1) := dk_3 (dk_at dksX6_give_1 3 rfl rfl)
theorem dX6_give_28 : decode cX6_give 28 = .ok (.iconst 0, 1) := dk_3 (dk_at dksX6_give_1 4 rfl rfl)
theorem dX6_give_29 : decode cX6_give 29 = .ok (.invokevirtual 171, 3) := dk_182 0 171 (dk_at dksX6_give_1 5 rfl rfl)
theorem dX6_give_32 : decode cX6_give 32 = .ok (.ifCond .eq 5, 3) := dk_153 0 5 (dk_at dksX6_give_1 8 rfl rfl)
theorem dX6_give_35 : decode cX6_give 35 = .ok (.iconst 0, 1) := dk_3 (dk_at dksX6_give_1 11 rfl rfl)
theorem dX6_give_36 : decode cX6_give 36 = .ok (.ireturn, 1) := dk_172 (dk_at dksX6_give_1 12 rfl rfl)
theorem dX6_give_37 : decode cX6_give 37 = .ok (.aload_n 0, 1) := dk_42 (dk_at dksX6_give_1 13 rfl rfl)
theorem dX6_give_38 : decode cX6_give 38 = .ok (.iconst 0, 1) := dk_3 (dk_at dksX6_give_1 14 rfl rfl)
theorem dX6_give_39 : decode cX6_give 39 = .ok (.invokevirtual 262, 3) := dk_182 1 6 (dk_at dksX6_give_1 15 rfl rfl)
theorem dX6_give_42 : decode cX6_give 42 = .ok (.aload_n 0, 1) := dk_42 (dk_at dksX6_give_1 18 rfl rfl)
theorem dX6_give_43 : decode cX6_give 43 = .ok (.iload_n 1, 1) := dk_27 (dk_at dksX6_give_1 19 rfl rfl)
theorem dX6_give_44 : decode cX6_give 44 = .ok (.iload_n 2, 1) := dk_28 (dk_at dksX6_give_1 20 rfl rfl)
theorem dX6_give_45 : decode cX6_give 45 = .ok (.iload_n 3, 1) := dk_29 (dk_at dksX6_give_1 21 rfl rfl)
theorem dX6_give_46 : decode cX6_give 46 = .ok (.invokevirtual 140, 3) := dk_182 0 140 (dk_at dksX6_give_2 0 rfl rfl)
theorem dX6_give_49 : decode cX6_give 49 = .ok (.aload_n 0, 1) := dk_42 (dk_at dksX6_give_2 3 rfl rfl)
theorem dX6_give_50 : decode cX6_give 50 = .ok (.iload_n 1, 1) := dk_27 (dk_at dksX6_give_2 4 rfl rfl)
theorem dX6_give_51 : decode cX6_give 51 = .ok (.invokevirtual 120, 3) := dk_182 0 120 (dk_at dksX6_give_2 5 rfl rfl)
theorem dX6_give_54 : decode cX6_give 54 = .ok (.ireturn, 1) := dk_172 (dk_at dksX6_give_2 8 rfl rfl)
abbrev cX6_release : ByteArray := prog_9_method_111_code
def yX6_release : MethodName := ⟨RX6, "release", "(II)I"⟩
def dkwX6_release_1 : List UInt8 := [172, 42, 3, 182, 1, 6, 42, 2, 27, 28, 182, 0, 140, 42, 2, 182, 1, 23, 172]
abbrev dktX6_release_1 : List UInt8 := dkwX6_release_1 ++ []
def dkwX6_release_0 : List UInt8 := [42, 42, 27, 28, 182, 0, 244, 154, 0, 7, 4, 167, 0, 4, 3, 3, 3, 182, 0, 171, 153, 0, 5, 3]
abbrev dktX6_release_0 : List UInt8 := dkwX6_release_0 ++ dktX6_release_1
theorem dksX6_release_0 : cX6_release.data.toList.drop 0 = dktX6_release_0 := by decide +kernel
theorem dksX6_release_1 : cX6_release.data.toList.drop 24 = dktX6_release_1 := dk_seg dksX6_release_0 24 rfl rfl
theorem dX6_release_0 : decode cX6_release 0 = .ok (.aload_n 0, 1) := dk_42 (dk_at dksX6_release_0 0 rfl rfl)
theorem dX6_release_1 : decode cX6_release 1 = .ok (.aload_n 0, 1) := dk_42 (dk_at dksX6_release_0 1 rfl rfl)
theorem dX6_release_2 : decode cX6_release 2 = .ok (.iload_n 1, 1) := dk_27 (dk_at dksX6_release_0 2 rfl rfl)
theorem dX6_release_3 : decode cX6_release 3 = .ok (.iload_n 2, 1) := dk_28 (dk_at dksX6_release_0 3 rfl rfl)
theorem dX6_release_4 : decode cX6_release 4 = .ok (.invokevirtual 244, 3) := dk_182 0 244 (dk_at dksX6_release_0 4 rfl rfl)
theorem dX6_release_7 : decode cX6_release 7 = .ok (.ifCond .ne 7, 3) := dk_154 0 7 (dk_at dksX6_release_0 7 rfl rfl)
theorem dX6_release_10 : decode cX6_release 10 = .ok (.iconst 1, 1) := dk_4 (dk_at dksX6_release_0 10 rfl rfl)
theorem dX6_release_11 : decode cX6_release 11 = .ok (.goto 4, 3) := dk_167 0 4 (dk_at dksX6_release_0 11 rfl rfl)
theorem dX6_release_14 : decode cX6_release 14 = .ok (.iconst 0, 1) := dk_3 (dk_at dksX6_release_0 14 rfl rfl)
theorem dX6_release_15 : decode cX6_release 15 = .ok (.iconst 0, 1) := dk_3 (dk_at dksX6_release_0 15 rfl rfl)
theorem dX6_release_16 : decode cX6_release 16 = .ok (.iconst 0, 1) := dk_3 (dk_at dksX6_release_0 16 rfl rfl)
theorem dX6_release_17 : decode cX6_release 17 = .ok (.invokevirtual 171, 3) := dk_182 0 171 (dk_at dksX6_release_0 17 rfl rfl)
theorem dX6_release_20 : decode cX6_release 20 = .ok (.ifCond .eq 5, 3) := dk_153 0 5 (dk_at dksX6_release_0 20 rfl rfl)
theorem dX6_release_23 : decode cX6_release 23 = .ok (.iconst 0, 1) := dk_3 (dk_at dksX6_release_0 23 rfl rfl)
theorem dX6_release_24 : decode cX6_release 24 = .ok (.ireturn, 1) := dk_172 (dk_at dksX6_release_1 0 rfl rfl)
theorem dX6_release_25 : decode cX6_release 25 = .ok (.aload_n 0, 1) := dk_42 (dk_at dksX6_release_1 1 rfl rfl)
theorem dX6_release_26 : decode cX6_release 26 = .ok (.iconst 0, 1) := dk_3 (dk_at dksX6_release_1 2 rfl rfl)
theorem dX6_release_27 : decode cX6_release 27 = .ok (.invokevirtual 262, 3) := dk_182 1 6 (dk_at dksX6_release_1 3 rfl rfl)
theorem dX6_release_30 : decode cX6_release 30 = .ok (.aload_n 0, 1) := dk_42 (dk_at dksX6_release_1 6 rfl rfl)
theorem dX6_release_31 : decode cX6_release 31 = .ok (.iconst (-1), 1) := dk_2 (dk_at dksX6_release_1 7 rfl rfl)
theorem dX6_release_32 : decode cX6_release 32 = .ok (.iload_n 1, 1) := dk_27 (dk_at dksX6_release_1 8 rfl rfl)
theorem dX6_release_33 : decode cX6_release 33 = .ok (.iload_n 2, 1) := dk_28 (dk_at dksX6_release_1 9 rfl rfl)
theorem dX6_release_34 : decode cX6_release 34 = .ok (.invokevirtual 140, 3) := dk_182 0 140 (dk_at dksX6_release_1 10 rfl rfl)
theorem dX6_release_37 : decode cX6_release 37 = .ok (.aload_n 0, 1) := dk_42 (dk_at dksX6_release_1 13 rfl rfl)
theorem dX6_release_38 : decode cX6_release 38 = .ok (.iconst (-1), 1) := dk_2 (dk_at dksX6_release_1 14 rfl rfl)
theorem dX6_release_39 : decode cX6_release 39 = .ok (.invokevirtual 279, 3) := dk_182 1 23 (dk_at dksX6_release_1 15 rfl rfl)
theorem dX6_release_42 : decode cX6_release 42 = .ok (.ireturn, 1) := dk_172 (dk_at dksX6_release_1 18 rfl rfl)
abbrev cX6_swapShares : ByteArray := prog_9_method_112_code
def yX6_swapShares : MethodName := ⟨RX6, "swapShares", "(II)I"⟩
def dkwX6_swapShares_2 : List UInt8 := [182, 1, 32, 172]
abbrev dktX6_swapShares_2 : List UInt8 := dkwX6_swapShares_2 ++ []
def dkwX6_swapShares_1 : List UInt8 := [3, 3, 182, 0, 171, 153, 0, 5, 3, 172, 42, 3, 182, 1, 6, 42, 27, 28, 182, 0, 247, 42]
abbrev dktX6_swapShares_1 : List UInt8 := dkwX6_swapShares_1 ++ dktX6_swapShares_2
def dkwX6_swapShares_0 : List UInt8 := [42, 42, 27, 28, 182, 1, 20, 154, 0, 7, 4, 167, 0, 4, 3, 27, 28, 160, 0, 7, 4, 167, 0, 4]
abbrev dktX6_swapShares_0 : List UInt8 := dkwX6_swapShares_0 ++ dktX6_swapShares_1
theorem dksX6_swapShares_0 : cX6_swapShares.data.toList.drop 0 = dktX6_swapShares_0 := by decide +kernel
theorem dksX6_swapShares_1 : cX6_swapShares.data.toList.drop 24 = dktX6_swapShares_1 := dk_seg dksX6_swapShares_0 24 rfl rfl
theorem dksX6_swapShares_2 : cX6_swapShares.data.toList.drop 46 = dktX6_swapShares_2 := dk_seg dksX6_swapShares_1 22 rfl rfl
theorem dX6_swapShares_0 : decode cX6_swapShares 0 = .ok (.aload_n 0, 1) := dk_42 (dk_at dksX6_swapShares_0 0 rfl rfl)
theorem dX6_swapShares_1 : decode cX6_swapShares 1 = .ok (.aload_n 0, 1) := dk_42 (dk_at dksX6_swapShares_0 1 rfl rfl)
theorem dX6_swapShares_2 : decode cX6_swapShares 2 = .ok (.iload_n 1, 1) := dk_27 (dk_at dksX6_swapShares_0 2 rfl rfl)
theorem dX6_swapShares_3 : decode cX6_swapShares 3 = .ok (.iload_n 2, 1) := dk_28 (dk_at dksX6_swapShares_0 3 rfl rfl)
theorem dX6_swapShares_4 : decode cX6_swapShares 4 = .ok (.invokevirtual 276, 3) := dk_182 1 20 (dk_at dksX6_swapShares_0 4 rfl rfl)
theorem dX6_swapShares_7 : decode cX6_swapShares 7 = .ok (.ifCond .ne 7, 3) := dk_154 0 7 (dk_at dksX6_swapShares_0 7 rfl rfl)
theorem dX6_swapShares_10 : decode cX6_swapShares 10 = .ok (.iconst 1, 1) := dk_4 (dk_at dksX6_swapShares_0 10 rfl rfl)
theorem dX6_swapShares_11 : decode cX6_swapShares 11 = .ok (.goto 4, 3) := dk_167 0 4 (dk_at dksX6_swapShares_0 11 rfl rfl)
theorem dX6_swapShares_14 : decode cX6_swapShares 14 = .ok (.iconst 0, 1) := dk_3 (dk_at dksX6_swapShares_0 14 rfl rfl)
theorem dX6_swapShares_15 : decode cX6_swapShares 15 = .ok (.iload_n 1, 1) := dk_27 (dk_at dksX6_swapShares_0 15 rfl rfl)
theorem dX6_swapShares_16 : decode cX6_swapShares 16 = .ok (.iload_n 2, 1) := dk_28 (dk_at dksX6_swapShares_0 16 rfl rfl)
theorem dX6_swapShares_17 : decode cX6_swapShares 17 = .ok (.if_icmp .ne 7, 3) := dk_160 0 7 (dk_at dksX6_swapShares_0 17 rfl rfl)
theorem dX6_swapShares_20 : decode cX6_swapShares 20 = .ok (.iconst 1, 1) := dk_4 (dk_at dksX6_swapShares_0 20 rfl rfl)
theorem dX6_swapShares_21 : decode cX6_swapShares 21 = .ok (.goto 4, 3) := dk_167 0 4 (dk_at dksX6_swapShares_0 21 rfl rfl)
theorem dX6_swapShares_24 : decode cX6_swapShares 24 = .ok (.iconst 0, 1) := dk_3 (dk_at dksX6_swapShares_1 0 rfl rfl)
theorem dX6_swapShares_25 : decode cX6_swapShares 25 = .ok (.iconst 0, 1) := dk_3 (dk_at dksX6_swapShares_1 1 rfl rfl)
theorem dX6_swapShares_26 : decode cX6_swapShares 26 = .ok (.invokevirtual 171, 3) := dk_182 0 171 (dk_at dksX6_swapShares_1 2 rfl rfl)
theorem dX6_swapShares_29 : decode cX6_swapShares 29 = .ok (.ifCond .eq 5, 3) := dk_153 0 5 (dk_at dksX6_swapShares_1 5 rfl rfl)
theorem dX6_swapShares_32 : decode cX6_swapShares 32 = .ok (.iconst 0, 1) := dk_3 (dk_at dksX6_swapShares_1 8 rfl rfl)
theorem dX6_swapShares_33 : decode cX6_swapShares 33 = .ok (.ireturn, 1) := dk_172 (dk_at dksX6_swapShares_1 9 rfl rfl)
theorem dX6_swapShares_34 : decode cX6_swapShares 34 = .ok (.aload_n 0, 1) := dk_42 (dk_at dksX6_swapShares_1 10 rfl rfl)
theorem dX6_swapShares_35 : decode cX6_swapShares 35 = .ok (.iconst 0, 1) := dk_3 (dk_at dksX6_swapShares_1 11 rfl rfl)
theorem dX6_swapShares_36 : decode cX6_swapShares 36 = .ok (.invokevirtual 262, 3) := dk_182 1 6 (dk_at dksX6_swapShares_1 12 rfl rfl)
theorem dX6_swapShares_39 : decode cX6_swapShares 39 = .ok (.aload_n 0, 1) := dk_42 (dk_at dksX6_swapShares_1 15 rfl rfl)
theorem dX6_swapShares_40 : decode cX6_swapShares 40 = .ok (.iload_n 1, 1) := dk_27 (dk_at dksX6_swapShares_1 16 rfl rfl)
theorem dX6_swapShares_41 : decode cX6_swapShares 41 = .ok (.iload_n 2, 1) := dk_28 (dk_at dksX6_swapShares_1 17 rfl rfl)
theorem dX6_swapShares_42 : decode cX6_swapShares 42 = .ok (.invokevirtual 247, 3) := dk_182 0 247 (dk_at dksX6_swapShares_1 18 rfl rfl)
theorem dX6_swapShares_45 : decode cX6_swapShares 45 = .ok (.aload_n 0, 1) := dk_42 (dk_at dksX6_swapShares_1 21 rfl rfl)
theorem dX6_swapShares_46 : decode cX6_swapShares 46 = .ok (.invokevirtual 288, 3) := dk_182 1 32 (dk_at dksX6_swapShares_2 0 rfl rfl)
theorem dX6_swapShares_49 : decode cX6_swapShares 49 = .ok (.ireturn, 1) := dk_172 (dk_at dksX6_swapShares_2 3 rfl rfl)
abbrev cX6_setValue : ByteArray := prog_9_method_113_code
def yX6_setValue : MethodName := ⟨RX6, "setValue", "(III)I"⟩
def dkwX6_setValue_3 : List UInt8 := [96, 28, 96, 29, 79, 21, 4, 172]
abbrev dktX6_setValue_3 : List UInt8 := dkwX6_setValue_3 ++ []
def dkwX6_setValue_2 : List UInt8 := [182, 1, 6, 42, 27, 28, 182, 0, 105, 54, 4, 42, 180, 0, 13, 16, 26, 27, 16, 31, 104, 96, 16, 7]
abbrev dktX6_setValue_2 : List UInt8 := dkwX6_setValue_2 ++ dktX6_setValue_3
def dkwX6_setValue_1 : List UInt8 := [16, 9, 184, 0, 90, 154, 0, 7, 4, 167, 0, 4, 3, 3, 182, 0, 171, 153, 0, 5, 3, 172, 42, 3]
abbrev dktX6_setValue_1 : List UInt8 := dkwX6_setValue_1 ++ dktX6_setValue_2
def dkwX6_setValue_0 : List UInt8 := [42, 42, 27, 182, 0, 94, 153, 0, 11, 42, 28, 182, 0, 98, 154, 0, 7, 4, 167, 0, 4, 3, 29, 3]
abbrev dktX6_setValue_0 : List UInt8 := dkwX6_setValue_0 ++ dktX6_setValue_1
theorem dksX6_setValue_0 : cX6_setValue.data.toList.drop 0 = dktX6_setValue_0 := by decide +kernel
theorem dksX6_setValue_1 : cX6_setValue.data.toList.drop 24 = dktX6_setValue_1 := dk_seg dksX6_setValue_0 24 rfl rfl
theorem dksX6_setValue_2 : cX6_setValue.data.toList.drop 48 = dktX6_setValue_2 := dk_seg dksX6_setValue_1 24 rfl rfl
theorem dksX6_setValue_3 : cX6_setValue.data.toList.drop 72 = dktX6_setValue_3 := dk_seg dksX6_setValue_2 24 rfl rfl
theorem dX6_setValue_0 : decode cX6_setValue 0 = .ok (.aload_n 0, 1) := dk_42 (dk_at dksX6_setValue_0 0 rfl rfl)
theorem dX6_setValue_1 : decode cX6_setValue 1 = .ok (.aload_n 0, 1) := dk_42 (dk_at dksX6_setValue_0 1 rfl rfl)
theorem dX6_setValue_2 : decode cX6_setValue 2 = .ok (.iload_n 1, 1) := dk_27 (dk_at dksX6_setValue_0 2 rfl rfl)
theorem dX6_setValue_3 : decode cX6_setValue 3 = .ok (.invokevirtual 94, 3) := dk_182 0 94 (dk_at dksX6_setValue_0 3 rfl rfl)
theorem dX6_setValue_6 : decode cX6_setValue 6 = .ok (.ifCond .eq 11, 3) := dk_153 0 11 (dk_at dksX6_setValue_0 6 rfl rfl)
theorem dX6_setValue_9 : decode cX6_setValue 9 = .ok (.aload_n 0, 1) := dk_42 (dk_at dksX6_setValue_0 9 rfl rfl)
theorem dX6_setValue_10 : decode cX6_setValue 10 = .ok (.iload_n 2, 1) := dk_28 (dk_at dksX6_setValue_0 10 rfl rfl)
theorem dX6_setValue_11 : decode cX6_setValue 11 = .ok (.invokevirtual 98, 3) := dk_182 0 98 (dk_at dksX6_setValue_0 11 rfl rfl)
theorem dX6_setValue_14 : decode cX6_setValue 14 = .ok (.ifCond .ne 7, 3) := dk_154 0 7 (dk_at dksX6_setValue_0 14 rfl rfl)
theorem dX6_setValue_17 : decode cX6_setValue 17 = .ok (.iconst 1, 1) := dk_4 (dk_at dksX6_setValue_0 17 rfl rfl)
theorem dX6_setValue_18 : decode cX6_setValue 18 = .ok (.goto 4, 3) := dk_167 0 4 (dk_at dksX6_setValue_0 18 rfl rfl)
theorem dX6_setValue_21 : decode cX6_setValue 21 = .ok (.iconst 0, 1) := dk_3 (dk_at dksX6_setValue_0 21 rfl rfl)
theorem dX6_setValue_22 : decode cX6_setValue 22 = .ok (.iload_n 3, 1) := dk_29 (dk_at dksX6_setValue_0 22 rfl rfl)
theorem dX6_setValue_23 : decode cX6_setValue 23 = .ok (.iconst 0, 1) := dk_3 (dk_at dksX6_setValue_0 23 rfl rfl)
theorem dX6_setValue_24 : decode cX6_setValue 24 = .ok (.bipush 9, 2) := dk_16 9 (dk_at dksX6_setValue_1 0 rfl rfl)
theorem dX6_setValue_26 : decode cX6_setValue 26 = .ok (.invokestatic 90, 3) := dk_184 0 90 (dk_at dksX6_setValue_1 2 rfl rfl)
theorem dX6_setValue_29 : decode cX6_setValue 29 = .ok (.ifCond .ne 7, 3) := dk_154 0 7 (dk_at dksX6_setValue_1 5 rfl rfl)
theorem dX6_setValue_32 : decode cX6_setValue 32 = .ok (.iconst 1, 1) := dk_4 (dk_at dksX6_setValue_1 8 rfl rfl)
theorem dX6_setValue_33 : decode cX6_setValue 33 = .ok (.goto 4, 3) := dk_167 0 4 (dk_at dksX6_setValue_1 9 rfl rfl)
theorem dX6_setValue_36 : decode cX6_setValue 36 = .ok (.iconst 0, 1) := dk_3 (dk_at dksX6_setValue_1 12 rfl rfl)
theorem dX6_setValue_37 : decode cX6_setValue 37 = .ok (.iconst 0, 1) := dk_3 (dk_at dksX6_setValue_1 13 rfl rfl)
theorem dX6_setValue_38 : decode cX6_setValue 38 = .ok (.invokevirtual 171, 3) := dk_182 0 171 (dk_at dksX6_setValue_1 14 rfl rfl)
theorem dX6_setValue_41 : decode cX6_setValue 41 = .ok (.ifCond .eq 5, 3) := dk_153 0 5 (dk_at dksX6_setValue_1 17 rfl rfl)
theorem dX6_setValue_44 : decode cX6_setValue 44 = .ok (.iconst 0, 1) := dk_3 (dk_at dksX6_setValue_1 20 rfl rfl)
theorem dX6_setValue_45 : decode cX6_setValue 45 = .ok (.ireturn, 1) := dk_172 (dk_at dksX6_setValue_1 21 rfl rfl)
theorem dX6_setValue_46 : decode cX6_setValue 46 = .ok (.aload_n 0, 1) := dk_42 (dk_at dksX6_setValue_1 22 rfl rfl)
theorem dX6_setValue_47 : decode cX6_setValue 47 = .ok (.iconst 0, 1) := dk_3 (dk_at dksX6_setValue_1 23 rfl rfl)
theorem dX6_setValue_48 : decode cX6_setValue 48 = .ok (.invokevirtual 262, 3) := dk_182 1 6 (dk_at dksX6_setValue_2 0 rfl rfl)
theorem dX6_setValue_51 : decode cX6_setValue 51 = .ok (.aload_n 0, 1) := dk_42 (dk_at dksX6_setValue_2 3 rfl rfl)
theorem dX6_setValue_52 : decode cX6_setValue 52 = .ok (.iload_n 1, 1) := dk_27 (dk_at dksX6_setValue_2 4 rfl rfl)
theorem dX6_setValue_53 : decode cX6_setValue 53 = .ok (.iload_n 2, 1) := dk_28 (dk_at dksX6_setValue_2 5 rfl rfl)
theorem dX6_setValue_54 : decode cX6_setValue 54 = .ok (.invokevirtual 105, 3) := dk_182 0 105 (dk_at dksX6_setValue_2 6 rfl rfl)
theorem dX6_setValue_57 : decode cX6_setValue 57 = .ok (.istore 4, 2) := dk_54 4 (dk_at dksX6_setValue_2 9 rfl rfl)
theorem dX6_setValue_59 : decode cX6_setValue 59 = .ok (.aload_n 0, 1) := dk_42 (dk_at dksX6_setValue_2 11 rfl rfl)
theorem dX6_setValue_60 : decode cX6_setValue 60 = .ok (.getfield 13, 3) := dk_180 0 13 (dk_at dksX6_setValue_2 12 rfl rfl)
theorem dX6_setValue_63 : decode cX6_setValue 63 = .ok (.bipush 26, 2) := dk_16 26 (dk_at dksX6_setValue_2 15 rfl rfl)
theorem dX6_setValue_65 : decode cX6_setValue 65 = .ok (.iload_n 1, 1) := dk_27 (dk_at dksX6_setValue_2 17 rfl rfl)
theorem dX6_setValue_66 : decode cX6_setValue 66 = .ok (.bipush 31, 2) := dk_16 31 (dk_at dksX6_setValue_2 18 rfl rfl)
theorem dX6_setValue_68 : decode cX6_setValue 68 = .ok (.imul, 1) := dk_104 (dk_at dksX6_setValue_2 20 rfl rfl)
theorem dX6_setValue_69 : decode cX6_setValue 69 = .ok (.iadd, 1) := dk_96 (dk_at dksX6_setValue_2 21 rfl rfl)
theorem dX6_setValue_70 : decode cX6_setValue 70 = .ok (.bipush 7, 2) := dk_16 7 (dk_at dksX6_setValue_2 22 rfl rfl)
theorem dX6_setValue_72 : decode cX6_setValue 72 = .ok (.iadd, 1) := dk_96 (dk_at dksX6_setValue_3 0 rfl rfl)
theorem dX6_setValue_73 : decode cX6_setValue 73 = .ok (.iload_n 2, 1) := dk_28 (dk_at dksX6_setValue_3 1 rfl rfl)
theorem dX6_setValue_74 : decode cX6_setValue 74 = .ok (.iadd, 1) := dk_96 (dk_at dksX6_setValue_3 2 rfl rfl)
theorem dX6_setValue_75 : decode cX6_setValue 75 = .ok (.iload_n 3, 1) := dk_29 (dk_at dksX6_setValue_3 3 rfl rfl)
theorem dX6_setValue_76 : decode cX6_setValue 76 = .ok (.iastore, 1) := dk_79 (dk_at dksX6_setValue_3 4 rfl rfl)
theorem dX6_setValue_77 : decode cX6_setValue 77 = .ok (.iload 4, 2) := dk_21 4 (dk_at dksX6_setValue_3 5 rfl rfl)
theorem dX6_setValue_79 : decode cX6_setValue 79 = .ok (.ireturn, 1) := dk_172 (dk_at dksX6_setValue_3 7 rfl rfl)
abbrev cX6_divideAndChoose : ByteArray := prog_9_method_114_code
def yX6_divideAndChoose : MethodName := ⟨RX6, "divideAndChoose", "(II)I"⟩
def dkwX6_divideAndChoose_1 : List UInt8 := [3, 3, 182, 0, 171, 153, 0, 5, 3, 172, 42, 3, 182, 1, 6, 42, 27, 28, 182, 0, 250, 172]
abbrev dktX6_divideAndChoose_1 : List UInt8 := dkwX6_divideAndChoose_1 ++ []
def dkwX6_divideAndChoose_0 : List UInt8 := [42, 42, 27, 28, 182, 1, 20, 154, 0, 7, 4, 167, 0, 4, 3, 27, 28, 160, 0, 7, 4, 167, 0, 4]
abbrev dktX6_divideAndChoose_0 : List UInt8 := dkwX6_divideAndChoose_0 ++ dktX6_divideAndChoose_1
theorem dksX6_divideAndChoose_0 : cX6_divideAndChoose.data.toList.drop 0 = dktX6_divideAndChoose_0 := by decide +kernel
theorem dksX6_divideAndChoose_1 : cX6_divideAndChoose.data.toList.drop 24 = dktX6_divideAndChoose_1 := dk_seg dksX6_divideAndChoose_0 24 rfl rfl
theorem dX6_divideAndChoose_0 : decode cX6_divideAndChoose 0 = .ok (.aload_n 0, 1) := dk_42 (dk_at dksX6_divideAndChoose_0 0 rfl rfl)
theorem dX6_divideAndChoose_1 : decode cX6_divideAndChoose 1 = .ok (.aload_n 0, 1) := dk_42 (dk_at dksX6_divideAndChoose_0 1 rfl rfl)
theorem dX6_divideAndChoose_2 : decode cX6_divideAndChoose 2 = .ok (.iload_n 1, 1) := dk_27 (dk_at dksX6_divideAndChoose_0 2 rfl rfl)
theorem dX6_divideAndChoose_3 : decode cX6_divideAndChoose 3 = .ok (.iload_n 2, 1) := dk_28 (dk_at dksX6_divideAndChoose_0 3 rfl rfl)
theorem dX6_divideAndChoose_4 : decode cX6_divideAndChoose 4 = .ok (.invokevirtual 276, 3) := dk_182 1 20 (dk_at dksX6_divideAndChoose_0 4 rfl rfl)
theorem dX6_divideAndChoose_7 : decode cX6_divideAndChoose 7 = .ok (.ifCond .ne 7, 3) := dk_154 0 7 (dk_at dksX6_divideAndChoose_0 7 rfl rfl)
theorem dX6_divideAndChoose_10 : decode cX6_divideAndChoose 10 = .ok (.iconst 1, 1) := dk_4 (dk_at dksX6_divideAndChoose_0 10 rfl rfl)
theorem dX6_divideAndChoose_11 : decode cX6_divideAndChoose 11 = .ok (.goto 4, 3) := dk_167 0 4 (dk_at dksX6_divideAndChoose_0 11 rfl rfl)
theorem dX6_divideAndChoose_14 : decode cX6_divideAndChoose 14 = .ok (.iconst 0, 1) := dk_3 (dk_at dksX6_divideAndChoose_0 14 rfl rfl)
theorem dX6_divideAndChoose_15 : decode cX6_divideAndChoose 15 = .ok (.iload_n 1, 1) := dk_27 (dk_at dksX6_divideAndChoose_0 15 rfl rfl)
theorem dX6_divideAndChoose_16 : decode cX6_divideAndChoose 16 = .ok (.iload_n 2, 1) := dk_28 (dk_at dksX6_divideAndChoose_0 16 rfl rfl)
theorem dX6_divideAndChoose_17 : decode cX6_divideAndChoose 17 = .ok (.if_icmp .ne 7, 3) := dk_160 0 7 (dk_at dksX6_divideAndChoose_0 17 rfl rfl)
theorem dX6_divideAndChoose_20 : decode cX6_divideAndChoose 20 = .ok (.iconst 1, 1) := dk_4 (dk_at dksX6_divideAndChoose_0 20 rfl rfl)
theorem dX6_divideAndChoose_21 : decode cX6_divideAndChoose 21 = .ok (.goto 4, 3) := dk_167 0 4 (dk_at dksX6_divideAndChoose_0 21 rfl rfl)
theorem dX6_divideAndChoose_24 : decode cX6_divideAndChoose 24 = .ok (.iconst 0, 1) := dk_3 (dk_at dksX6_divideAndChoose_1 0 rfl rfl)
theorem dX6_divideAndChoose_25 : decode cX6_divideAndChoose 25 = .ok (.iconst 0, 1) := dk_3 (dk_at dksX6_divideAndChoose_1 1 rfl rfl)
theorem dX6_divideAndChoose_26 : decode cX6_divideAndChoose 26 = .ok (.invokevirtual 171, 3) := dk_182 0 171 (dk_at dksX6_divideAndChoose_1 2 rfl rfl)
theorem dX6_divideAndChoose_29 : decode cX6_divideAndChoose 29 = .ok (.ifCond .eq 5, 3) := dk_153 0 5 (dk_at dksX6_divideAndChoose_1 5 rfl rfl)
theorem dX6_divideAndChoose_32 : decode cX6_divideAndChoose 32 = .ok (.iconst 0, 1) := dk_3 (dk_at dksX6_divideAndChoose_1 8 rfl rfl)
theorem dX6_divideAndChoose_33 : decode cX6_divideAndChoose 33 = .ok (.ireturn, 1) := dk_172 (dk_at dksX6_divideAndChoose_1 9 rfl rfl)
theorem dX6_divideAndChoose_34 : decode cX6_divideAndChoose 34 = .ok (.aload_n 0, 1) := dk_42 (dk_at dksX6_divideAndChoose_1 10 rfl rfl)
theorem dX6_divideAndChoose_35 : decode cX6_divideAndChoose 35 = .ok (.iconst 0, 1) := dk_3 (dk_at dksX6_divideAndChoose_1 11 rfl rfl)
theorem dX6_divideAndChoose_36 : decode cX6_divideAndChoose 36 = .ok (.invokevirtual 262, 3) := dk_182 1 6 (dk_at dksX6_divideAndChoose_1 12 rfl rfl)
theorem dX6_divideAndChoose_39 : decode cX6_divideAndChoose 39 = .ok (.aload_n 0, 1) := dk_42 (dk_at dksX6_divideAndChoose_1 15 rfl rfl)
theorem dX6_divideAndChoose_40 : decode cX6_divideAndChoose 40 = .ok (.iload_n 1, 1) := dk_27 (dk_at dksX6_divideAndChoose_1 16 rfl rfl)
theorem dX6_divideAndChoose_41 : decode cX6_divideAndChoose 41 = .ok (.iload_n 2, 1) := dk_28 (dk_at dksX6_divideAndChoose_1 17 rfl rfl)
theorem dX6_divideAndChoose_42 : decode cX6_divideAndChoose 42 = .ok (.invokevirtual 250, 3) := dk_182 0 250 (dk_at dksX6_divideAndChoose_1 18 rfl rfl)
theorem dX6_divideAndChoose_45 : decode cX6_divideAndChoose 45 = .ok (.ireturn, 1) := dk_172 (dk_at dksX6_divideAndChoose_1 21 rfl rfl)
abbrev cX6_movingKnife : ByteArray := prog_9_method_115_code
def yX6_movingKnife : MethodName := ⟨RX6, "movingKnife", "()I"⟩
def dkwX6_movingKnife_0 : List UInt8 := [42, 3, 181, 0, 1, 42, 3, 182, 1, 6, 42, 182, 0, 252, 172]
abbrev dktX6_movingKnife_0 : List UInt8 := dkwX6_movingKnife_0 ++ []
theorem dksX6_movingKnife_0 : cX6_movingKnife.data.toList.drop 0 = dktX6_movingKnife_0 := by decide +kernel
theorem dX6_movingKnife_0 : decode cX6_movingKnife 0 = .ok (.aload_n 0, 1) := dk_42 (dk_at dksX6_movingKnife_0 0 rfl rfl)
theorem dX6_movingKnife_1 : decode cX6_movingKnife 1 = .ok (.iconst 0, 1) := dk_3 (dk_at dksX6_movingKnife_0 1 rfl rfl)
theorem dX6_movingKnife_2 : decode cX6_movingKnife 2 = .ok (.putfield 1, 3) := dk_181 0 1 (dk_at dksX6_movingKnife_0 2 rfl rfl)
theorem dX6_movingKnife_5 : decode cX6_movingKnife 5 = .ok (.aload_n 0, 1) := dk_42 (dk_at dksX6_movingKnife_0 5 rfl rfl)
theorem dX6_movingKnife_6 : decode cX6_movingKnife 6 = .ok (.iconst 0, 1) := dk_3 (dk_at dksX6_movingKnife_0 6 rfl rfl)
theorem dX6_movingKnife_7 : decode cX6_movingKnife 7 = .ok (.invokevirtual 262, 3) := dk_182 1 6 (dk_at dksX6_movingKnife_0 7 rfl rfl)
theorem dX6_movingKnife_10 : decode cX6_movingKnife 10 = .ok (.aload_n 0, 1) := dk_42 (dk_at dksX6_movingKnife_0 10 rfl rfl)
theorem dX6_movingKnife_11 : decode cX6_movingKnife 11 = .ok (.invokevirtual 252, 3) := dk_182 0 252 (dk_at dksX6_movingKnife_0 11 rfl rfl)
theorem dX6_movingKnife_14 : decode cX6_movingKnife 14 = .ok (.ireturn, 1) := dk_172 (dk_at dksX6_movingKnife_0 14 rfl rfl)
abbrev cX6_roundRobin : ByteArray := prog_9_method_116_code
def yX6_roundRobin : MethodName := ⟨RX6, "roundRobin", "(I)I"⟩
def dkwX6_roundRobin_1 : List UInt8 := [42, 3, 182, 1, 6, 42, 27, 182, 0, 254, 172]
abbrev dktX6_roundRobin_1 : List UInt8 := dkwX6_roundRobin_1 ++ []
def dkwX6_roundRobin_0 : List UInt8 := [42, 42, 27, 182, 0, 94, 154, 0, 7, 4, 167, 0, 4, 3, 3, 3, 182, 0, 171, 153, 0, 5, 3, 172]
abbrev dktX6_roundRobin_0 : List UInt8 := dkwX6_roundRobin_0 ++ dktX6_roundRobin_1
theorem dksX6_roundRobin_0 : cX6_roundRobin.data.toList.drop 0 = dktX6_roundRobin_0 := by decide +kernel
theorem dksX6_roundRobin_1 : cX6_roundRobin.data.toList.drop 24 = dktX6_roundRobin_1 := dk_seg dksX6_roundRobin_0 24 rfl rfl
theorem dX6_roundRobin_0 : decode cX6_roundRobin 0 = .ok (.aload_n 0, 1) := dk_42 (dk_at dksX6_roundRobin_0 0 rfl rfl)
theorem dX6_roundRobin_1 : decode cX6_roundRobin 1 = .ok (.aload_n 0, 1) := dk_42 (dk_at dksX6_roundRobin_0 1 rfl rfl)
theorem dX6_roundRobin_2 : decode cX6_roundRobin 2 = .ok (.iload_n 1, 1) := dk_27 (dk_at dksX6_roundRobin_0 2 rfl rfl)
theorem dX6_roundRobin_3 : decode cX6_roundRobin 3 = .ok (.invokevirtual 94, 3) := dk_182 0 94 (dk_at dksX6_roundRobin_0 3 rfl rfl)
theorem dX6_roundRobin_6 : decode cX6_roundRobin 6 = .ok (.ifCond .ne 7, 3) := dk_154 0 7 (dk_at dksX6_roundRobin_0 6 rfl rfl)
theorem dX6_roundRobin_9 : decode cX6_roundRobin 9 = .ok (.iconst 1, 1) := dk_4 (dk_at dksX6_roundRobin_0 9 rfl rfl)
theorem dX6_roundRobin_10 : decode cX6_roundRobin 10 = .ok (.goto 4, 3) := dk_167 0 4 (dk_at dksX6_roundRobin_0 10 rfl rfl)
theorem dX6_roundRobin_13 : decode cX6_roundRobin 13 = .ok (.iconst 0, 1) := dk_3 (dk_at dksX6_roundRobin_0 13 rfl rfl)
theorem dX6_roundRobin_14 : decode cX6_roundRobin 14 = .ok (.iconst 0, 1) := dk_3 (dk_at dksX6_roundRobin_0 14 rfl rfl)
theorem dX6_roundRobin_15 : decode cX6_roundRobin 15 = .ok (.iconst 0, 1) := dk_3 (dk_at dksX6_roundRobin_0 15 rfl rfl)
theorem dX6_roundRobin_16 : decode cX6_roundRobin 16 = .ok (.invokevirtual 171, 3) := dk_182 0 171 (dk_at dksX6_roundRobin_0 16 rfl rfl)
theorem dX6_roundRobin_19 : decode cX6_roundRobin 19 = .ok (.ifCond .eq 5, 3) := dk_153 0 5 (dk_at dksX6_roundRobin_0 19 rfl rfl)
theorem dX6_roundRobin_22 : decode cX6_roundRobin 22 = .ok (.iconst 0, 1) := dk_3 (dk_at dksX6_roundRobin_0 22 rfl rfl)
theorem dX6_roundRobin_23 : decode cX6_roundRobin 23 = .ok (.ireturn, 1) := dk_172 (dk_at dksX6_roundRobin_0 23 rfl rfl)
theorem dX6_roundRobin_24 : decode cX6_roundRobin 24 = .ok (.aload_n 0, 1) := dk_42 (dk_at dksX6_roundRobin_1 0 rfl rfl)
theorem dX6_roundRobin_25 : decode cX6_roundRobin 25 = .ok (.iconst 0, 1) := dk_3 (dk_at dksX6_roundRobin_1 1 rfl rfl)
theorem dX6_roundRobin_26 : decode cX6_roundRobin 26 = .ok (.invokevirtual 262, 3) := dk_182 1 6 (dk_at dksX6_roundRobin_1 2 rfl rfl)
theorem dX6_roundRobin_29 : decode cX6_roundRobin 29 = .ok (.aload_n 0, 1) := dk_42 (dk_at dksX6_roundRobin_1 5 rfl rfl)
theorem dX6_roundRobin_30 : decode cX6_roundRobin 30 = .ok (.iload_n 1, 1) := dk_27 (dk_at dksX6_roundRobin_1 6 rfl rfl)
theorem dX6_roundRobin_31 : decode cX6_roundRobin 31 = .ok (.invokevirtual 254, 3) := dk_182 0 254 (dk_at dksX6_roundRobin_1 7 rfl rfl)
theorem dX6_roundRobin_34 : decode cX6_roundRobin 34 = .ok (.ireturn, 1) := dk_172 (dk_at dksX6_roundRobin_1 10 rfl rfl)
abbrev cX6_rotate : ByteArray := prog_9_method_117_code
def yX6_rotate : MethodName := ⟨RX6, "rotate", "(I)I"⟩
def dkwX6_rotate_2 : List UInt8 := [182, 1, 6, 42, 27, 182, 1, 0, 172]
abbrev dktX6_rotate_2 : List UInt8 := dkwX6_rotate_2 ++ []
def dkwX6_rotate_1 : List UInt8 := [182, 0, 156, 2, 160, 0, 7, 4, 167, 0, 4, 3, 3, 182, 0, 171, 153, 0, 5, 3, 172, 42, 3]
abbrev dktX6_rotate_1 : List UInt8 := dkwX6_rotate_1 ++ dktX6_rotate_2
def dkwX6_rotate_0 : List UInt8 := [42, 27, 182, 0, 94, 61, 42, 28, 154, 0, 7, 4, 167, 0, 4, 3, 28, 153, 0, 16, 42, 27]
abbrev dktX6_rotate_0 : List UInt8 := dkwX6_rotate_0 ++ dktX6_rotate_1
theorem dksX6_rotate_0 : cX6_rotate.data.toList.drop 0 = dktX6_rotate_0 := by decide +kernel
theorem dksX6_rotate_1 : cX6_rotate.data.toList.drop 22 = dktX6_rotate_1 := dk_seg dksX6_rotate_0 22 rfl rfl
theorem dksX6_rotate_2 : cX6_rotate.data.toList.drop 45 = dktX6_rotate_2 := dk_seg dksX6_rotate_1 23 rfl rfl
theorem dX6_rotate_0 : decode cX6_rotate 0 = .ok (.aload_n 0, 1) := dk_42 (dk_at dksX6_rotate_0 0 rfl rfl)
theorem dX6_rotate_1 : decode cX6_rotate 1 = .ok (.iload_n 1, 1) := dk_27 (dk_at dksX6_rotate_0 1 rfl rfl)
theorem dX6_rotate_2 : decode cX6_rotate 2 = .ok (.invokevirtual 94, 3) := dk_182 0 94 (dk_at dksX6_rotate_0 2 rfl rfl)
theorem dX6_rotate_5 : decode cX6_rotate 5 = .ok (.istore_n 2, 1) := dk_61 (dk_at dksX6_rotate_0 5 rfl rfl)
theorem dX6_rotate_6 : decode cX6_rotate 6 = .ok (.aload_n 0, 1) := dk_42 (dk_at dksX6_rotate_0 6 rfl rfl)
theorem dX6_rotate_7 : decode cX6_rotate 7 = .ok (.iload_n 2, 1) := dk_28 (dk_at dksX6_rotate_0 7 rfl rfl)
theorem dX6_rotate_8 : decode cX6_rotate 8 = .ok (.ifCond .ne 7, 3) := dk_154 0 7 (dk_at dksX6_rotate_0 8 rfl rfl)
theorem dX6_rotate_11 : decode cX6_rotate 11 = .ok (.iconst 1, 1) := dk_4 (dk_at dksX6_rotate_0 11 rfl rfl)
theorem dX6_rotate_12 : decode cX6_rotate 12 = .ok (.goto 4, 3) := dk_167 0 4 (dk_at dksX6_rotate_0 12 rfl rfl)
theorem dX6_rotate_15 : decode cX6_rotate 15 = .ok (.iconst 0, 1) := dk_3 (dk_at dksX6_rotate_0 15 rfl rfl)
theorem dX6_rotate_16 : decode cX6_rotate 16 = .ok (.iload_n 2, 1) := dk_28 (dk_at dksX6_rotate_0 16 rfl rfl)
theorem dX6_rotate_17 : decode cX6_rotate 17 = .ok (.ifCond .eq 16, 3) := dk_153 0 16 (dk_at dksX6_rotate_0 17 rfl rfl)
theorem dX6_rotate_20 : decode cX6_rotate 20 = .ok (.aload_n 0, 1) := dk_42 (dk_at dksX6_rotate_0 20 rfl rfl)
theorem dX6_rotate_21 : decode cX6_rotate 21 = .ok (.iload_n 1, 1) := dk_27 (dk_at dksX6_rotate_0 21 rfl rfl)
theorem dX6_rotate_22 : decode cX6_rotate 22 = .ok (.invokevirtual 156, 3) := dk_182 0 156 (dk_at dksX6_rotate_1 0 rfl rfl)
theorem dX6_rotate_25 : decode cX6_rotate 25 = .ok (.iconst (-1), 1) := dk_2 (dk_at dksX6_rotate_1 3 rfl rfl)
theorem dX6_rotate_26 : decode cX6_rotate 26 = .ok (.if_icmp .ne 7, 3) := dk_160 0 7 (dk_at dksX6_rotate_1 4 rfl rfl)
theorem dX6_rotate_29 : decode cX6_rotate 29 = .ok (.iconst 1, 1) := dk_4 (dk_at dksX6_rotate_1 7 rfl rfl)
theorem dX6_rotate_30 : decode cX6_rotate 30 = .ok (.goto 4, 3) := dk_167 0 4 (dk_at dksX6_rotate_1 8 rfl rfl)
theorem dX6_rotate_33 : decode cX6_rotate 33 = .ok (.iconst 0, 1) := dk_3 (dk_at dksX6_rotate_1 11 rfl rfl)
theorem dX6_rotate_34 : decode cX6_rotate 34 = .ok (.iconst 0, 1) := dk_3 (dk_at dksX6_rotate_1 12 rfl rfl)
theorem dX6_rotate_35 : decode cX6_rotate 35 = .ok (.invokevirtual 171, 3) := dk_182 0 171 (dk_at dksX6_rotate_1 13 rfl rfl)
theorem dX6_rotate_38 : decode cX6_rotate 38 = .ok (.ifCond .eq 5, 3) := dk_153 0 5 (dk_at dksX6_rotate_1 16 rfl rfl)
theorem dX6_rotate_41 : decode cX6_rotate 41 = .ok (.iconst 0, 1) := dk_3 (dk_at dksX6_rotate_1 19 rfl rfl)
theorem dX6_rotate_42 : decode cX6_rotate 42 = .ok (.ireturn, 1) := dk_172 (dk_at dksX6_rotate_1 20 rfl rfl)
theorem dX6_rotate_43 : decode cX6_rotate 43 = .ok (.aload_n 0, 1) := dk_42 (dk_at dksX6_rotate_1 21 rfl rfl)
theorem dX6_rotate_44 : decode cX6_rotate 44 = .ok (.iconst 0, 1) := dk_3 (dk_at dksX6_rotate_1 22 rfl rfl)
theorem dX6_rotate_45 : decode cX6_rotate 45 = .ok (.invokevirtual 262, 3) := dk_182 1 6 (dk_at dksX6_rotate_2 0 rfl rfl)
theorem dX6_rotate_48 : decode cX6_rotate 48 = .ok (.aload_n 0, 1) := dk_42 (dk_at dksX6_rotate_2 3 rfl rfl)
theorem dX6_rotate_49 : decode cX6_rotate 49 = .ok (.iload_n 1, 1) := dk_27 (dk_at dksX6_rotate_2 4 rfl rfl)
theorem dX6_rotate_50 : decode cX6_rotate 50 = .ok (.invokevirtual 256, 3) := dk_182 1 0 (dk_at dksX6_rotate_2 5 rfl rfl)
theorem dX6_rotate_53 : decode cX6_rotate 53 = .ok (.ireturn, 1) := dk_172 (dk_at dksX6_rotate_2 8 rfl rfl)
abbrev cX6_undo : ByteArray := prog_9_method_118_code
def yX6_undo : MethodName := ⟨RX6, "undo", "()I"⟩
def dkwX6_undo_1 : List UInt8 := [42, 180, 0, 21, 3, 182, 0, 101, 42, 89, 180, 0, 21, 4, 100, 181, 0, 21, 42, 180, 0, 21, 172]
abbrev dktX6_undo_1 : List UInt8 := dkwX6_undo_1 ++ []
def dkwX6_undo_0 : List UInt8 := [42, 42, 180, 0, 21, 154, 0, 7, 4, 167, 0, 4, 3, 3, 3, 182, 0, 171, 153, 0, 5, 3, 172, 42]
abbrev dktX6_undo_0 : List UInt8 := dkwX6_undo_0 ++ dktX6_undo_1
theorem dksX6_undo_0 : cX6_undo.data.toList.drop 0 = dktX6_undo_0 := by decide +kernel
theorem dksX6_undo_1 : cX6_undo.data.toList.drop 24 = dktX6_undo_1 := dk_seg dksX6_undo_0 24 rfl rfl
theorem dX6_undo_0 : decode cX6_undo 0 = .ok (.aload_n 0, 1) := dk_42 (dk_at dksX6_undo_0 0 rfl rfl)
theorem dX6_undo_1 : decode cX6_undo 1 = .ok (.aload_n 0, 1) := dk_42 (dk_at dksX6_undo_0 1 rfl rfl)
theorem dX6_undo_2 : decode cX6_undo 2 = .ok (.getfield 21, 3) := dk_180 0 21 (dk_at dksX6_undo_0 2 rfl rfl)
theorem dX6_undo_5 : decode cX6_undo 5 = .ok (.ifCond .ne 7, 3) := dk_154 0 7 (dk_at dksX6_undo_0 5 rfl rfl)
theorem dX6_undo_8 : decode cX6_undo 8 = .ok (.iconst 1, 1) := dk_4 (dk_at dksX6_undo_0 8 rfl rfl)
theorem dX6_undo_9 : decode cX6_undo 9 = .ok (.goto 4, 3) := dk_167 0 4 (dk_at dksX6_undo_0 9 rfl rfl)
theorem dX6_undo_12 : decode cX6_undo 12 = .ok (.iconst 0, 1) := dk_3 (dk_at dksX6_undo_0 12 rfl rfl)
theorem dX6_undo_13 : decode cX6_undo 13 = .ok (.iconst 0, 1) := dk_3 (dk_at dksX6_undo_0 13 rfl rfl)
theorem dX6_undo_14 : decode cX6_undo 14 = .ok (.iconst 0, 1) := dk_3 (dk_at dksX6_undo_0 14 rfl rfl)
theorem dX6_undo_15 : decode cX6_undo 15 = .ok (.invokevirtual 171, 3) := dk_182 0 171 (dk_at dksX6_undo_0 15 rfl rfl)
theorem dX6_undo_18 : decode cX6_undo 18 = .ok (.ifCond .eq 5, 3) := dk_153 0 5 (dk_at dksX6_undo_0 18 rfl rfl)
theorem dX6_undo_21 : decode cX6_undo 21 = .ok (.iconst 0, 1) := dk_3 (dk_at dksX6_undo_0 21 rfl rfl)
theorem dX6_undo_22 : decode cX6_undo 22 = .ok (.ireturn, 1) := dk_172 (dk_at dksX6_undo_0 22 rfl rfl)
theorem dX6_undo_23 : decode cX6_undo 23 = .ok (.aload_n 0, 1) := dk_42 (dk_at dksX6_undo_0 23 rfl rfl)
theorem dX6_undo_24 : decode cX6_undo 24 = .ok (.aload_n 0, 1) := dk_42 (dk_at dksX6_undo_1 0 rfl rfl)
theorem dX6_undo_25 : decode cX6_undo 25 = .ok (.getfield 21, 3) := dk_180 0 21 (dk_at dksX6_undo_1 1 rfl rfl)
theorem dX6_undo_28 : decode cX6_undo 28 = .ok (.iconst 0, 1) := dk_3 (dk_at dksX6_undo_1 4 rfl rfl)
theorem dX6_undo_29 : decode cX6_undo 29 = .ok (.invokevirtual 101, 3) := dk_182 0 101 (dk_at dksX6_undo_1 5 rfl rfl)
theorem dX6_undo_32 : decode cX6_undo 32 = .ok (.aload_n 0, 1) := dk_42 (dk_at dksX6_undo_1 8 rfl rfl)
theorem dX6_undo_33 : decode cX6_undo 33 = .ok (.dup, 1) := dk_89 (dk_at dksX6_undo_1 9 rfl rfl)
theorem dX6_undo_34 : decode cX6_undo 34 = .ok (.getfield 21, 3) := dk_180 0 21 (dk_at dksX6_undo_1 10 rfl rfl)
theorem dX6_undo_37 : decode cX6_undo 37 = .ok (.iconst 1, 1) := dk_4 (dk_at dksX6_undo_1 13 rfl rfl)
theorem dX6_undo_38 : decode cX6_undo 38 = .ok (.isub, 1) := dk_100 (dk_at dksX6_undo_1 14 rfl rfl)
theorem dX6_undo_39 : decode cX6_undo 39 = .ok (.putfield 21, 3) := dk_181 0 21 (dk_at dksX6_undo_1 15 rfl rfl)
theorem dX6_undo_42 : decode cX6_undo 42 = .ok (.aload_n 0, 1) := dk_42 (dk_at dksX6_undo_1 18 rfl rfl)
theorem dX6_undo_43 : decode cX6_undo 43 = .ok (.getfield 21, 3) := dk_180 0 21 (dk_at dksX6_undo_1 19 rfl rfl)
theorem dX6_undo_46 : decode cX6_undo 46 = .ok (.ireturn, 1) := dk_172 (dk_at dksX6_undo_1 22 rfl rfl)
abbrev cX6_save : ByteArray := prog_9_method_119_code
def yX6_save : MethodName := ⟨RX6, "save", "(I)I"⟩
def dkwX6_save_1 : List UInt8 := [172, 42, 3, 16, 7, 27, 96, 182, 0, 101, 42, 180, 0, 17, 27, 4, 84, 42, 2, 182, 1, 23, 172]
abbrev dktX6_save_1 : List UInt8 := dkwX6_save_1 ++ []
def dkwX6_save_0 : List UInt8 := [42, 27, 3, 4, 184, 0, 90, 154, 0, 7, 4, 167, 0, 4, 3, 3, 3, 182, 0, 171, 153, 0, 5, 3]
abbrev dktX6_save_0 : List UInt8 := dkwX6_save_0 ++ dktX6_save_1
theorem dksX6_save_0 : cX6_save.data.toList.drop 0 = dktX6_save_0 := by decide +kernel
theorem dksX6_save_1 : cX6_save.data.toList.drop 24 = dktX6_save_1 := dk_seg dksX6_save_0 24 rfl rfl
theorem dX6_save_0 : decode cX6_save 0 = .ok (.aload_n 0, 1) := dk_42 (dk_at dksX6_save_0 0 rfl rfl)
theorem dX6_save_1 : decode cX6_save 1 = .ok (.iload_n 1, 1) := dk_27 (dk_at dksX6_save_0 1 rfl rfl)
theorem dX6_save_2 : decode cX6_save 2 = .ok (.iconst 0, 1) := dk_3 (dk_at dksX6_save_0 2 rfl rfl)
theorem dX6_save_3 : decode cX6_save 3 = .ok (.iconst 1, 1) := dk_4 (dk_at dksX6_save_0 3 rfl rfl)
theorem dX6_save_4 : decode cX6_save 4 = .ok (.invokestatic 90, 3) := dk_184 0 90 (dk_at dksX6_save_0 4 rfl rfl)
theorem dX6_save_7 : decode cX6_save 7 = .ok (.ifCond .ne 7, 3) := dk_154 0 7 (dk_at dksX6_save_0 7 rfl rfl)
theorem dX6_save_10 : decode cX6_save 10 = .ok (.iconst 1, 1) := dk_4 (dk_at dksX6_save_0 10 rfl rfl)
theorem dX6_save_11 : decode cX6_save 11 = .ok (.goto 4, 3) := dk_167 0 4 (dk_at dksX6_save_0 11 rfl rfl)
theorem dX6_save_14 : decode cX6_save 14 = .ok (.iconst 0, 1) := dk_3 (dk_at dksX6_save_0 14 rfl rfl)
theorem dX6_save_15 : decode cX6_save 15 = .ok (.iconst 0, 1) := dk_3 (dk_at dksX6_save_0 15 rfl rfl)
theorem dX6_save_16 : decode cX6_save 16 = .ok (.iconst 0, 1) := dk_3 (dk_at dksX6_save_0 16 rfl rfl)
theorem dX6_save_17 : decode cX6_save 17 = .ok (.invokevirtual 171, 3) := dk_182 0 171 (dk_at dksX6_save_0 17 rfl rfl)
theorem dX6_save_20 : decode cX6_save 20 = .ok (.ifCond .eq 5, 3) := dk_153 0 5 (dk_at dksX6_save_0 20 rfl rfl)
theorem dX6_save_23 : decode cX6_save 23 = .ok (.iconst 0, 1) := dk_3 (dk_at dksX6_save_0 23 rfl rfl)
theorem dX6_save_24 : decode cX6_save 24 = .ok (.ireturn, 1) := dk_172 (dk_at dksX6_save_1 0 rfl rfl)
theorem dX6_save_25 : decode cX6_save 25 = .ok (.aload_n 0, 1) := dk_42 (dk_at dksX6_save_1 1 rfl rfl)
theorem dX6_save_26 : decode cX6_save 26 = .ok (.iconst 0, 1) := dk_3 (dk_at dksX6_save_1 2 rfl rfl)
theorem dX6_save_27 : decode cX6_save 27 = .ok (.bipush 7, 2) := dk_16 7 (dk_at dksX6_save_1 3 rfl rfl)
theorem dX6_save_29 : decode cX6_save 29 = .ok (.iload_n 1, 1) := dk_27 (dk_at dksX6_save_1 5 rfl rfl)
theorem dX6_save_30 : decode cX6_save 30 = .ok (.iadd, 1) := dk_96 (dk_at dksX6_save_1 6 rfl rfl)
theorem dX6_save_31 : decode cX6_save 31 = .ok (.invokevirtual 101, 3) := dk_182 0 101 (dk_at dksX6_save_1 7 rfl rfl)
theorem dX6_save_34 : decode cX6_save 34 = .ok (.aload_n 0, 1) := dk_42 (dk_at dksX6_save_1 10 rfl rfl)
theorem dX6_save_35 : decode cX6_save 35 = .ok (.getfield 17, 3) := dk_180 0 17 (dk_at dksX6_save_1 11 rfl rfl)
theorem dX6_save_38 : decode cX6_save 38 = .ok (.iload_n 1, 1) := dk_27 (dk_at dksX6_save_1 14 rfl rfl)
theorem dX6_save_39 : decode cX6_save 39 = .ok (.iconst 1, 1) := dk_4 (dk_at dksX6_save_1 15 rfl rfl)
theorem dX6_save_40 : decode cX6_save 40 = .ok (.bastore, 1) := dk_84 (dk_at dksX6_save_1 16 rfl rfl)
theorem dX6_save_41 : decode cX6_save 41 = .ok (.aload_n 0, 1) := dk_42 (dk_at dksX6_save_1 17 rfl rfl)
theorem dX6_save_42 : decode cX6_save 42 = .ok (.iconst (-1), 1) := dk_2 (dk_at dksX6_save_1 18 rfl rfl)
theorem dX6_save_43 : decode cX6_save 43 = .ok (.invokevirtual 279, 3) := dk_182 1 23 (dk_at dksX6_save_1 19 rfl rfl)
theorem dX6_save_46 : decode cX6_save 46 = .ok (.ireturn, 1) := dk_172 (dk_at dksX6_save_1 22 rfl rfl)
abbrev cX6_restore : ByteArray := prog_9_method_120_code
def yX6_restore : MethodName := ⟨RX6, "restore", "(I)I"⟩
def dkwX6_restore_2 : List UInt8 := [16, 7, 27, 96, 3, 182, 0, 101, 42, 3, 181, 0, 21, 42, 2, 182, 1, 23, 172]
abbrev dktX6_restore_2 : List UInt8 := dkwX6_restore_2 ++ []
def dkwX6_restore_1 : List UInt8 := [180, 0, 17, 27, 51, 154, 0, 7, 4, 167, 0, 4, 3, 3, 182, 0, 171, 153, 0, 5, 3, 172, 42]
abbrev dktX6_restore_1 : List UInt8 := dkwX6_restore_1 ++ dktX6_restore_2
def dkwX6_restore_0 : List UInt8 := [27, 3, 4, 184, 0, 90, 61, 42, 28, 154, 0, 7, 4, 167, 0, 4, 3, 28, 153, 0, 16, 42]
abbrev dktX6_restore_0 : List UInt8 := dkwX6_restore_0 ++ dktX6_restore_1
theorem dksX6_restore_0 : cX6_restore.data.toList.drop 0 = dktX6_restore_0 := by decide +kernel
theorem dksX6_restore_1 : cX6_restore.data.toList.drop 22 = dktX6_restore_1 := dk_seg dksX6_restore_0 22 rfl rfl
theorem dksX6_restore_2 : cX6_restore.data.toList.drop 45 = dktX6_restore_2 := dk_seg dksX6_restore_1 23 rfl rfl
theorem dX6_restore_0 : decode cX6_restore 0 = .ok (.iload_n 1, 1) := dk_27 (dk_at dksX6_restore_0 0 rfl rfl)
theorem dX6_restore_1 : decode cX6_restore 1 = .ok (.iconst 0, 1) := dk_3 (dk_at dksX6_restore_0 1 rfl rfl)
theorem dX6_restore_2 : decode cX6_restore 2 = .ok (.iconst 1, 1) := dk_4 (dk_at dksX6_restore_0 2 rfl rfl)
theorem dX6_restore_3 : decode cX6_restore 3 = .ok (.invokestatic 90, 3) := dk_184 0 90 (dk_at dksX6_restore_0 3 rfl rfl)
theorem dX6_restore_6 : decode cX6_restore 6 = .ok (.istore_n 2, 1) := dk_61 (dk_at dksX6_restore_0 6 rfl rfl)
theorem dX6_restore_7 : decode cX6_restore 7 = .ok (.aload_n 0, 1) := dk_42 (dk_at dksX6_restore_0 7 rfl rfl)
theorem dX6_restore_8 : decode cX6_restore 8 = .ok (.iload_n 2, 1) := dk_28 (dk_at dksX6_restore_0 8 rfl rfl)
theorem dX6_restore_9 : decode cX6_restore 9 = .ok (.ifCond .ne 7, 3) := dk_154 0 7 (dk_at dksX6_restore_0 9 rfl rfl)
theorem dX6_restore_12 : decode cX6_restore 12 = .ok (.iconst 1, 1) := dk_4 (dk_at dksX6_restore_0 12 rfl rfl)
theorem dX6_restore_13 : decode cX6_restore 13 = .ok (.goto 4, 3) := dk_167 0 4 (dk_at dksX6_restore_0 13 rfl rfl)
theorem dX6_restore_16 : decode cX6_restore 16 = .ok (.iconst 0, 1) := dk_3 (dk_at dksX6_restore_0 16 rfl rfl)
theorem dX6_restore_17 : decode cX6_restore 17 = .ok (.iload_n 2, 1) := dk_28 (dk_at dksX6_restore_0 17 rfl rfl)
theorem dX6_restore_18 : decode cX6_restore 18 = .ok (.ifCond .eq 16, 3) := dk_153 0 16 (dk_at dksX6_restore_0 18 rfl rfl)
theorem dX6_restore_21 : decode cX6_restore 21 = .ok (.aload_n 0, 1) := dk_42 (dk_at dksX6_restore_0 21 rfl rfl)
theorem dX6_restore_22 : decode cX6_restore 22 = .ok (.getfield 17, 3) := dk_180 0 17 (dk_at dksX6_restore_1 0 rfl rfl)
theorem dX6_restore_25 : decode cX6_restore 25 = .ok (.iload_n 1, 1) := dk_27 (dk_at dksX6_restore_1 3 rfl rfl)
theorem dX6_restore_26 : decode cX6_restore 26 = .ok (.baload, 1) := dk_51 (dk_at dksX6_restore_1 4 rfl rfl)
theorem dX6_restore_27 : decode cX6_restore 27 = .ok (.ifCond .ne 7, 3) := dk_154 0 7 (dk_at dksX6_restore_1 5 rfl rfl)
theorem dX6_restore_30 : decode cX6_restore 30 = .ok (.iconst 1, 1) := dk_4 (dk_at dksX6_restore_1 8 rfl rfl)
theorem dX6_restore_31 : decode cX6_restore 31 = .ok (.goto 4, 3) := dk_167 0 4 (dk_at dksX6_restore_1 9 rfl rfl)
theorem dX6_restore_34 : decode cX6_restore 34 = .ok (.iconst 0, 1) := dk_3 (dk_at dksX6_restore_1 12 rfl rfl)
theorem dX6_restore_35 : decode cX6_restore 35 = .ok (.iconst 0, 1) := dk_3 (dk_at dksX6_restore_1 13 rfl rfl)
theorem dX6_restore_36 : decode cX6_restore 36 = .ok (.invokevirtual 171, 3) := dk_182 0 171 (dk_at dksX6_restore_1 14 rfl rfl)
theorem dX6_restore_39 : decode cX6_restore 39 = .ok (.ifCond .eq 5, 3) := dk_153 0 5 (dk_at dksX6_restore_1 17 rfl rfl)
theorem dX6_restore_42 : decode cX6_restore 42 = .ok (.iconst 0, 1) := dk_3 (dk_at dksX6_restore_1 20 rfl rfl)
theorem dX6_restore_43 : decode cX6_restore 43 = .ok (.ireturn, 1) := dk_172 (dk_at dksX6_restore_1 21 rfl rfl)
theorem dX6_restore_44 : decode cX6_restore 44 = .ok (.aload_n 0, 1) := dk_42 (dk_at dksX6_restore_1 22 rfl rfl)
theorem dX6_restore_45 : decode cX6_restore 45 = .ok (.bipush 7, 2) := dk_16 7 (dk_at dksX6_restore_2 0 rfl rfl)
theorem dX6_restore_47 : decode cX6_restore 47 = .ok (.iload_n 1, 1) := dk_27 (dk_at dksX6_restore_2 2 rfl rfl)
theorem dX6_restore_48 : decode cX6_restore 48 = .ok (.iadd, 1) := dk_96 (dk_at dksX6_restore_2 3 rfl rfl)
theorem dX6_restore_49 : decode cX6_restore 49 = .ok (.iconst 0, 1) := dk_3 (dk_at dksX6_restore_2 4 rfl rfl)
theorem dX6_restore_50 : decode cX6_restore 50 = .ok (.invokevirtual 101, 3) := dk_182 0 101 (dk_at dksX6_restore_2 5 rfl rfl)
theorem dX6_restore_53 : decode cX6_restore 53 = .ok (.aload_n 0, 1) := dk_42 (dk_at dksX6_restore_2 8 rfl rfl)
theorem dX6_restore_54 : decode cX6_restore 54 = .ok (.iconst 0, 1) := dk_3 (dk_at dksX6_restore_2 9 rfl rfl)
theorem dX6_restore_55 : decode cX6_restore 55 = .ok (.putfield 21, 3) := dk_181 0 21 (dk_at dksX6_restore_2 10 rfl rfl)
theorem dX6_restore_58 : decode cX6_restore 58 = .ok (.aload_n 0, 1) := dk_42 (dk_at dksX6_restore_2 13 rfl rfl)
theorem dX6_restore_59 : decode cX6_restore 59 = .ok (.iconst (-1), 1) := dk_2 (dk_at dksX6_restore_2 14 rfl rfl)
theorem dX6_restore_60 : decode cX6_restore 60 = .ok (.invokevirtual 279, 3) := dk_182 1 23 (dk_at dksX6_restore_2 15 rfl rfl)
theorem dX6_restore_63 : decode cX6_restore 63 = .ok (.ireturn, 1) := dk_172 (dk_at dksX6_restore_2 18 rfl rfl)
abbrev cX6_writeOwners : ByteArray := prog_9_method_123_code
def yX6_writeOwners : MethodName := ⟨RX6, "writeOwners", "()I"⟩
def dkwX6_writeOwners_3 : List UInt8 := [180, 0, 39, 172]
abbrev dktX6_writeOwners_3 : List UInt8 := dkwX6_writeOwners_3 ++ []
def dkwX6_writeOwners_2 : List UInt8 := [167, 0, 17, 42, 28, 27, 100, 42, 27, 182, 0, 113, 182, 1, 50, 28, 60, 132, 2, 1, 167, 255, 203, 42]
abbrev dktX6_writeOwners_2 : List UInt8 := dkwX6_writeOwners_2 ++ dktX6_writeOwners_3
def dkwX6_writeOwners_1 : List UInt8 := [28, 42, 180, 0, 13, 3, 46, 162, 0, 19, 42, 28, 182, 0, 113, 42, 27, 182, 0, 113, 160, 0, 6]
abbrev dktX6_writeOwners_1 : List UInt8 := dkwX6_writeOwners_1 ++ dktX6_writeOwners_2
def dkwX6_writeOwners_0 : List UInt8 := [42, 3, 181, 0, 1, 42, 3, 181, 0, 39, 3, 60, 4, 61, 28, 42, 180, 0, 13, 3, 46, 163, 0, 49]
abbrev dktX6_writeOwners_0 : List UInt8 := dkwX6_writeOwners_0 ++ dktX6_writeOwners_1
theorem dksX6_writeOwners_0 : cX6_writeOwners.data.toList.drop 0 = dktX6_writeOwners_0 := by decide +kernel
theorem dksX6_writeOwners_1 : cX6_writeOwners.data.toList.drop 24 = dktX6_writeOwners_1 := dk_seg dksX6_writeOwners_0 24 rfl rfl
theorem dksX6_writeOwners_2 : cX6_writeOwners.data.toList.drop 47 = dktX6_writeOwners_2 := dk_seg dksX6_writeOwners_1 23 rfl rfl
theorem dksX6_writeOwners_3 : cX6_writeOwners.data.toList.drop 71 = dktX6_writeOwners_3 := dk_seg dksX6_writeOwners_2 24 rfl rfl
theorem dX6_writeOwners_0 : decode cX6_writeOwners 0 = .ok (.aload_n 0, 1) := dk_42 (dk_at dksX6_writeOwners_0 0 rfl rfl)
theorem dX6_writeOwners_1 : decode cX6_writeOwners 1 = .ok (.iconst 0, 1) := dk_3 (dk_at dksX6_writeOwners_0 1 rfl rfl)
theorem dX6_writeOwners_2 : decode cX6_writeOwners 2 = .ok (.putfield 1, 3) := dk_181 0 1 (dk_at dksX6_writeOwners_0 2 rfl rfl)
theorem dX6_writeOwners_5 : decode cX6_writeOwners 5 = .ok (.aload_n 0, 1) := dk_42 (dk_at dksX6_writeOwners_0 5 rfl rfl)
theorem dX6_writeOwners_6 : decode cX6_writeOwners 6 = .ok (.iconst 0, 1) := dk_3 (dk_at dksX6_writeOwners_0 6 rfl rfl)
theorem dX6_writeOwners_7 : decode cX6_writeOwners 7 = .ok (.putfield 39, 3) := dk_181 0 39 (dk_at dksX6_writeOwners_0 7 rfl rfl)
theorem dX6_writeOwners_10 : decode cX6_writeOwners 10 = .ok (.iconst 0, 1) := dk_3 (dk_at dksX6_writeOwners_0 10 rfl rfl)
theorem dX6_writeOwners_11 : decode cX6_writeOwners 11 = .ok (.istore_n 1, 1) := dk_60 (dk_at dksX6_writeOwners_0 11 rfl rfl)
theorem dX6_writeOwners_12 : decode cX6_writeOwners 12 = .ok (.iconst 1, 1) := dk_4 (dk_at dksX6_writeOwners_0 12 rfl rfl)
theorem dX6_writeOwners_13 : decode cX6_writeOwners 13 = .ok (.istore_n 2, 1) := dk_61 (dk_at dksX6_writeOwners_0 13 rfl rfl)
theorem dX6_writeOwners_14 : decode cX6_writeOwners 14 = .ok (.iload_n 2, 1) := dk_28 (dk_at dksX6_writeOwners_0 14 rfl rfl)
theorem dX6_writeOwners_15 : decode cX6_writeOwners 15 = .ok (.aload_n 0, 1) := dk_42 (dk_at dksX6_writeOwners_0 15 rfl rfl)
theorem dX6_writeOwners_16 : decode cX6_writeOwners 16 = .ok (.getfield 13, 3) := dk_180 0 13 (dk_at dksX6_writeOwners_0 16 rfl rfl)
theorem dX6_writeOwners_19 : decode cX6_writeOwners 19 = .ok (.iconst 0, 1) := dk_3 (dk_at dksX6_writeOwners_0 19 rfl rfl)
theorem dX6_writeOwners_20 : decode cX6_writeOwners 20 = .ok (.iaload, 1) := dk_46 (dk_at dksX6_writeOwners_0 20 rfl rfl)
theorem dX6_writeOwners_21 : decode cX6_writeOwners 21 = .ok (.if_icmp .gt 49, 3) := dk_163 0 49 (dk_at dksX6_writeOwners_0 21 rfl rfl)
theorem dX6_writeOwners_24 : decode cX6_writeOwners 24 = .ok (.iload_n 2, 1) := dk_28 (dk_at dksX6_writeOwners_1 0 rfl rfl)
theorem dX6_writeOwners_25 : decode cX6_writeOwners 25 = .ok (.aload_n 0, 1) := dk_42 (dk_at dksX6_writeOwners_1 1 rfl rfl)
theorem dX6_writeOwners_26 : decode cX6_writeOwners 26 = .ok (.getfield 13, 3) := dk_180 0 13 (dk_at dksX6_writeOwners_1 2 rfl rfl)
theorem dX6_writeOwners_29 : decode cX6_writeOwners 29 = .ok (.iconst 0, 1) := dk_3 (dk_at dksX6_writeOwners_1 5 rfl rfl)
theorem dX6_writeOwners_30 : decode cX6_writeOwners 30 = .ok (.iaload, 1) := dk_46 (dk_at dksX6_writeOwners_1 6 rfl rfl)
theorem dX6_writeOwners_31 : decode cX6_writeOwners 31 = .ok (.if_icmp .ge 19, 3) := dk_162 0 19 (dk_at dksX6_writeOwners_1 7 rfl rfl)
theorem dX6_writeOwners_34 : decode cX6_writeOwners 34 = .ok (.aload_n 0, 1) := dk_42 (dk_at dksX6_writeOwners_1 10 rfl rfl)
theorem dX6_writeOwners_35 : decode cX6_writeOwners 35 = .ok (.iload_n 2, 1) := dk_28 (dk_at dksX6_writeOwners_1 11 rfl rfl)
theorem dX6_writeOwners_36 : decode cX6_writeOwners 36 = .ok (.invokevirtual 113, 3) := dk_182 0 113 (dk_at dksX6_writeOwners_1 12 rfl rfl)
theorem dX6_writeOwners_39 : decode cX6_writeOwners 39 = .ok (.aload_n 0, 1) := dk_42 (dk_at dksX6_writeOwners_1 15 rfl rfl)
theorem dX6_writeOwners_40 : decode cX6_writeOwners 40 = .ok (.iload_n 1, 1) := dk_27 (dk_at dksX6_writeOwners_1 16 rfl rfl)
theorem dX6_writeOwners_41 : decode cX6_writeOwners 41 = .ok (.invokevirtual 113, 3) := dk_182 0 113 (dk_at dksX6_writeOwners_1 17 rfl rfl)
theorem dX6_writeOwners_44 : decode cX6_writeOwners 44 = .ok (.if_icmp .ne 6, 3) := dk_160 0 6 (dk_at dksX6_writeOwners_1 20 rfl rfl)
theorem dX6_writeOwners_47 : decode cX6_writeOwners 47 = .ok (.goto 17, 3) := dk_167 0 17 (dk_at dksX6_writeOwners_2 0 rfl rfl)
theorem dX6_writeOwners_50 : decode cX6_writeOwners 50 = .ok (.aload_n 0, 1) := dk_42 (dk_at dksX6_writeOwners_2 3 rfl rfl)
theorem dX6_writeOwners_51 : decode cX6_writeOwners 51 = .ok (.iload_n 2, 1) := dk_28 (dk_at dksX6_writeOwners_2 4 rfl rfl)
theorem dX6_writeOwners_52 : decode cX6_writeOwners 52 = .ok (.iload_n 1, 1) := dk_27 (dk_at dksX6_writeOwners_2 5 rfl rfl)
theorem dX6_writeOwners_53 : decode cX6_writeOwners 53 = .ok (.isub, 1) := dk_100 (dk_at dksX6_writeOwners_2 6 rfl rfl)
theorem dX6_writeOwners_54 : decode cX6_writeOwners 54 = .ok (.aload_n 0, 1) := dk_42 (dk_at dksX6_writeOwners_2 7 rfl rfl)
theorem dX6_writeOwners_55 : decode cX6_writeOwners 55 = .ok (.iload_n 1, 1) := dk_27 (dk_at dksX6_writeOwners_2 8 rfl rfl)
theorem dX6_writeOwners_56 : decode cX6_writeOwners 56 = .ok (.invokevirtual 113, 3) := dk_182 0 113 (dk_at dksX6_writeOwners_2 9 rfl rfl)
theorem dX6_writeOwners_59 : decode cX6_writeOwners 59 = .ok (.invokevirtual 306, 3) := dk_182 1 50 (dk_at dksX6_writeOwners_2 12 rfl rfl)
theorem dX6_writeOwners_62 : decode cX6_writeOwners 62 = .ok (.iload_n 2, 1) := dk_28 (dk_at dksX6_writeOwners_2 15 rfl rfl)
theorem dX6_writeOwners_63 : decode cX6_writeOwners 63 = .ok (.istore_n 1, 1) := dk_60 (dk_at dksX6_writeOwners_2 16 rfl rfl)
theorem dX6_writeOwners_64 : decode cX6_writeOwners 64 = .ok (.iinc 2 1, 3) := dk_132 2 1 (dk_at dksX6_writeOwners_2 17 rfl rfl)
theorem dX6_writeOwners_67 : decode cX6_writeOwners 67 = .ok (.goto (-53), 3) := dk_167 255 203 (dk_at dksX6_writeOwners_2 20 rfl rfl)
theorem dX6_writeOwners_70 : decode cX6_writeOwners 70 = .ok (.aload_n 0, 1) := dk_42 (dk_at dksX6_writeOwners_2 23 rfl rfl)
theorem dX6_writeOwners_71 : decode cX6_writeOwners 71 = .ok (.getfield 39, 3) := dk_180 0 39 (dk_at dksX6_writeOwners_3 0 rfl rfl)
theorem dX6_writeOwners_74 : decode cX6_writeOwners 74 = .ok (.ireturn, 1) := dk_172 (dk_at dksX6_writeOwners_3 3 rfl rfl)
abbrev cX6_putRun : ByteArray := prog_9_method_122_code
def yX6_putRun : MethodName := ⟨RX6, "putRun", "(II)V"⟩
def dkwX6_putRun_4 : List UInt8 := [167, 255, 227, 177]
abbrev dktX6_putRun_4 : List UInt8 := dkwX6_putRun_4 ++ []
def dkwX6_putRun_3 : List UInt8 := [46, 162, 0, 24, 42, 42, 180, 0, 13, 29, 4, 96, 21, 4, 96, 46, 182, 1, 47, 132, 4, 1]
abbrev dktX6_putRun_3 : List UInt8 := dkwX6_putRun_3 ++ dktX6_putRun_4
def dkwX6_putRun_2 : List UInt8 := [16, 45, 182, 1, 47, 177, 16, 26, 28, 16, 31, 104, 96, 62, 3, 54, 4, 21, 4, 42, 180, 0, 13, 29]
abbrev dktX6_putRun_2 : List UInt8 := dkwX6_putRun_2 ++ dktX6_putRun_3
def dkwX6_putRun_1 : List UInt8 := [16, 10, 108, 96, 182, 1, 47, 42, 16, 48, 27, 16, 10, 112, 96, 182, 1, 47, 28, 2, 160, 0, 10, 42]
abbrev dktX6_putRun_1 : List UInt8 := dkwX6_putRun_1 ++ dktX6_putRun_2
def dkwX6_putRun_0 : List UInt8 := [42, 180, 0, 39, 158, 0, 9, 42, 16, 32, 182, 1, 47, 27, 16, 10, 161, 0, 14, 42, 16, 48, 27]
abbrev dktX6_putRun_0 : List UInt8 := dkwX6_putRun_0 ++ dktX6_putRun_1
theorem dksX6_putRun_0 : cX6_putRun.data.toList.drop 0 = dktX6_putRun_0 := by decide +kernel
theorem dksX6_putRun_1 : cX6_putRun.data.toList.drop 23 = dktX6_putRun_1 := dk_seg dksX6_putRun_0 23 rfl rfl
theorem dksX6_putRun_2 : cX6_putRun.data.toList.drop 47 = dktX6_putRun_2 := dk_seg dksX6_putRun_1 24 rfl rfl
theorem dksX6_putRun_3 : cX6_putRun.data.toList.drop 71 = dktX6_putRun_3 := dk_seg dksX6_putRun_2 24 rfl rfl
theorem dksX6_putRun_4 : cX6_putRun.data.toList.drop 93 = dktX6_putRun_4 := dk_seg dksX6_putRun_3 22 rfl rfl
theorem dX6_putRun_0 : decode cX6_putRun 0 = .ok (.aload_n 0, 1) := dk_42 (dk_at dksX6_putRun_0 0 rfl rfl)
theorem dX6_putRun_1 : decode cX6_putRun 1 = .ok (.getfield 39, 3) := dk_180 0 39 (dk_at dksX6_putRun_0 1 rfl rfl)
theorem dX6_putRun_4 : decode cX6_putRun 4 = .ok (.ifCond .le 9, 3) := dk_158 0 9 (dk_at dksX6_putRun_0 4 rfl rfl)
theorem dX6_putRun_7 : decode cX6_putRun 7 = .ok (.aload_n 0, 1) := dk_42 (dk_at dksX6_putRun_0 7 rfl rfl)
theorem dX6_putRun_8 : decode cX6_putRun 8 = .ok (.bipush 32, 2) := dk_16 32 (dk_at dksX6_putRun_0 8 rfl rfl)
theorem dX6_putRun_10 : decode cX6_putRun 10 = .ok (.invokevirtual 303, 3) := dk_182 1 47 (dk_at dksX6_putRun_0 10 rfl rfl)
theorem dX6_putRun_13 : decode cX6_putRun 13 = .ok (.iload_n 1, 1) := dk_27 (dk_at dksX6_putRun_0 13 rfl rfl)
theorem dX6_putRun_14 : decode cX6_putRun 14 = .ok (.bipush 10, 2) := dk_16 10 (dk_at dksX6_putRun_0 14 rfl rfl)
theorem dX6_putRun_16 : decode cX6_putRun 16 = .ok (.if_icmp .lt 14, 3) := dk_161 0 14 (dk_at dksX6_putRun_0 16 rfl rfl)
theorem dX6_putRun_19 : decode cX6_putRun 19 = .ok (.aload_n 0, 1) := dk_42 (dk_at dksX6_putRun_0 19 rfl rfl)
theorem dX6_putRun_20 : decode cX6_putRun 20 = .ok (.bipush 48, 2) := dk_16 48 (dk_at dksX6_putRun_0 20 rfl rfl)
theorem dX6_putRun_22 : decode cX6_putRun 22 = .ok (.iload_n 1, 1) := dk_27 (dk_at dksX6_putRun_0 22 rfl rfl)
theorem dX6_putRun_23 : decode cX6_putRun 23 = .ok (.bipush 10, 2) := dk_16 10 (dk_at dksX6_putRun_1 0 rfl rfl)
theorem dX6_putRun_25 : decode cX6_putRun 25 = .ok (.idiv, 1) := dk_108 (dk_at dksX6_putRun_1 2 rfl rfl)
theorem dX6_putRun_26 : decode cX6_putRun 26 = .ok (.iadd, 1) := dk_96 (dk_at dksX6_putRun_1 3 rfl rfl)
theorem dX6_putRun_27 : decode cX6_putRun 27 = .ok (.invokevirtual 303, 3) := dk_182 1 47 (dk_at dksX6_putRun_1 4 rfl rfl)
theorem dX6_putRun_30 : decode cX6_putRun 30 = .ok (.aload_n 0, 1) := dk_42 (dk_at dksX6_putRun_1 7 rfl rfl)
theorem dX6_putRun_31 : decode cX6_putRun 31 = .ok (.bipush 48, 2) := dk_16 48 (dk_at dksX6_putRun_1 8 rfl rfl)
theorem dX6_putRun_33 : decode cX6_putRun 33 = .ok (.iload_n 1, 1) := dk_27 (dk_at dksX6_putRun_1 10 rfl rfl)
theorem dX6_putRun_34 : decode cX6_putRun 34 = .ok (.bipush 10, 2) := dk_16 10 (dk_at dksX6_putRun_1 11 rfl rfl)
theorem dX6_putRun_36 : decode cX6_putRun 36 = .ok (.irem, 1) := dk_112 (dk_at dksX6_putRun_1 13 rfl rfl)
theorem dX6_putRun_37 : decode cX6_putRun 37 = .ok (.iadd, 1) := dk_96 (dk_at dksX6_putRun_1 14 rfl rfl)
theorem dX6_putRun_38 : decode cX6_putRun 38 = .ok (.invokevirtual 303, 3) := dk_182 1 47 (dk_at dksX6_putRun_1 15 rfl rfl)
theorem dX6_putRun_41 : decode cX6_putRun 41 = .ok (.iload_n 2, 1) := dk_28 (dk_at dksX6_putRun_1 18 rfl rfl)
theorem dX6_putRun_42 : decode cX6_putRun 42 = .ok (.iconst (-1), 1) := dk_2 (dk_at dksX6_putRun_1 19 rfl rfl)
theorem dX6_putRun_43 : decode cX6_putRun 43 = .ok (.if_icmp .ne 10, 3) := dk_160 0 10 (dk_at dksX6_putRun_1 20 rfl rfl)
theorem dX6_putRun_46 : decode cX6_putRun 46 = .ok (.aload_n 0, 1) := dk_42 (dk_at dksX6_putRun_1 23 rfl rfl)
theorem dX6_putRun_47 : decode cX6_putRun 47 = .ok (.bipush 45, 2) := dk_16 45 (dk_at dksX6_putRun_2 0 rfl rfl)
theorem dX6_putRun_49 : decode cX6_putRun 49 = .ok (.invokevirtual 303, 3) := dk_182 1 47 (dk_at dksX6_putRun_2 2 rfl rfl)
theorem dX6_putRun_52 : decode cX6_putRun 52 = .ok (.return_, 1) := dk_177 (dk_at dksX6_putRun_2 5 rfl rfl)
theorem dX6_putRun_53 : decode cX6_putRun 53 = .ok (.bipush 26, 2) := dk_16 26 (dk_at dksX6_putRun_2 6 rfl rfl)
theorem dX6_putRun_55 : decode cX6_putRun 55 = .ok (.iload_n 2, 1) := dk_28 (dk_at dksX6_putRun_2 8 rfl rfl)
theorem dX6_putRun_56 : decode cX6_putRun 56 = .ok (.bipush 31, 2) := dk_16 31 (dk_at dksX6_putRun_2 9 rfl rfl)
theorem dX6_putRun_58 : decode cX6_putRun 58 = .ok (.imul, 1) := dk_104 (dk_at dksX6_putRun_2 11 rfl rfl)
theorem dX6_putRun_59 : decode cX6_putRun 59 = .ok (.iadd, 1) := dk_96 (dk_at dksX6_putRun_2 12 rfl rfl)
theorem dX6_putRun_60 : decode cX6_putRun 60 = .ok (.istore_n 3, 1) := dk_62 (dk_at dksX6_putRun_2 13 rfl rfl)
theorem dX6_putRun_61 : decode cX6_putRun 61 = .ok (.iconst 0, 1) := dk_3 (dk_at dksX6_putRun_2 14 rfl rfl)
theorem dX6_putRun_62 : decode cX6_putRun 62 = .ok (.istore 4, 2) := dk_54 4 (dk_at dksX6_putRun_2 15 rfl rfl)
theorem dX6_putRun_64 : decode cX6_putRun 64 = .ok (.iload 4, 2) := dk_21 4 (dk_at dksX6_putRun_2 17 rfl rfl)
theorem dX6_putRun_66 : decode cX6_putRun 66 = .ok (.aload_n 0, 1) := dk_42 (dk_at dksX6_putRun_2 19 rfl rfl)
theorem dX6_putRun_67 : decode cX6_putRun 67 = .ok (.getfield 13, 3) := dk_180 0 13 (dk_at dksX6_putRun_2 20 rfl rfl)
theorem dX6_putRun_70 : decode cX6_putRun 70 = .ok (.iload_n 3, 1) := dk_29 (dk_at dksX6_putRun_2 23 rfl rfl)
theorem dX6_putRun_71 : decode cX6_putRun 71 = .ok (.iaload, 1) := dk_46 (dk_at dksX6_putRun_3 0 rfl rfl)
theorem dX6_putRun_72 : decode cX6_putRun 72 = .ok (.if_icmp .ge 24, 3) := dk_162 0 24 (dk_at dksX6_putRun_3 1 rfl rfl)
theorem dX6_putRun_75 : decode cX6_putRun 75 = .ok (.aload_n 0, 1) := dk_42 (dk_at dksX6_putRun_3 4 rfl rfl)
theorem dX6_putRun_76 : decode cX6_putRun 76 = .ok (.aload_n 0, 1) := dk_42 (dk_at dksX6_putRun_3 5 rfl rfl)
theorem dX6_putRun_77 : decode cX6_putRun 77 = .ok (.getfield 13, 3) := dk_180 0 13 (dk_at dksX6_putRun_3 6 rfl rfl)
theorem dX6_putRun_80 : decode cX6_putRun 80 = .ok (.iload_n 3, 1) := dk_29 (dk_at dksX6_putRun_3 9 rfl rfl)
theorem dX6_putRun_81 : decode cX6_putRun 81 = .ok (.iconst 1, 1) := dk_4 (dk_at dksX6_putRun_3 10 rfl rfl)
theorem dX6_putRun_82 : decode cX6_putRun 82 = .ok (.iadd, 1) := dk_96 (dk_at dksX6_putRun_3 11 rfl rfl)
theorem dX6_putRun_83 : decode cX6_putRun 83 = .ok (.iload 4, 2) := dk_21 4 (dk_at dksX6_putRun_3 12 rfl rfl)
theorem dX6_putRun_85 : decode cX6_putRun 85 = .ok (.iadd, 1) := dk_96 (dk_at dksX6_putRun_3 14 rfl rfl)
theorem dX6_putRun_86 : decode cX6_putRun 86 = .ok (.iaload, 1) := dk_46 (dk_at dksX6_putRun_3 15 rfl rfl)
theorem dX6_putRun_87 : decode cX6_putRun 87 = .ok (.invokevirtual 303, 3) := dk_182 1 47 (dk_at dksX6_putRun_3 16 rfl rfl)
theorem dX6_putRun_90 : decode cX6_putRun 90 = .ok (.iinc 4 1, 3) := dk_132 4 1 (dk_at dksX6_putRun_3 19 rfl rfl)
theorem dX6_putRun_93 : decode cX6_putRun 93 = .ok (.goto (-29), 3) := dk_167 255 227 (dk_at dksX6_putRun_4 0 rfl rfl)
theorem dX6_putRun_96 : decode cX6_putRun 96 = .ok (.return_, 1) := dk_177 (dk_at dksX6_putRun_4 3 rfl rfl)
abbrev cX6_put : ByteArray := prog_9_method_121_code
def yX6_put : MethodName := ⟨RX6, "put", "(I)V"⟩
def dkwX6_put_0 : List UInt8 := [42, 180, 0, 36, 42, 180, 0, 39, 27, 79, 42, 89, 180, 0, 39, 4, 96, 181, 0, 39, 177]
abbrev dktX6_put_0 : List UInt8 := dkwX6_put_0 ++ []
theorem dksX6_put_0 : cX6_put.data.toList.drop 0 = dktX6_put_0 := by decide +kernel
theorem dX6_put_0 : decode cX6_put 0 = .ok (.aload_n 0, 1) := dk_42 (dk_at dksX6_put_0 0 rfl rfl)
theorem dX6_put_1 : decode cX6_put 1 = .ok (.getfield 36, 3) := dk_180 0 36 (dk_at dksX6_put_0 1 rfl rfl)
theorem dX6_put_4 : decode cX6_put 4 = .ok (.aload_n 0, 1) := dk_42 (dk_at dksX6_put_0 4 rfl rfl)
theorem dX6_put_5 : decode cX6_put 5 = .ok (.getfield 39, 3) := dk_180 0 39 (dk_at dksX6_put_0 5 rfl rfl)
theorem dX6_put_8 : decode cX6_put 8 = .ok (.iload_n 1, 1) := dk_27 (dk_at dksX6_put_0 8 rfl rfl)
theorem dX6_put_9 : decode cX6_put 9 = .ok (.iastore, 1) := dk_79 (dk_at dksX6_put_0 9 rfl rfl)
theorem dX6_put_10 : decode cX6_put 10 = .ok (.aload_n 0, 1) := dk_42 (dk_at dksX6_put_0 10 rfl rfl)
theorem dX6_put_11 : decode cX6_put 11 = .ok (.dup, 1) := dk_89 (dk_at dksX6_put_0 11 rfl rfl)
theorem dX6_put_12 : decode cX6_put 12 = .ok (.getfield 39, 3) := dk_180 0 39 (dk_at dksX6_put_0 12 rfl rfl)
theorem dX6_put_15 : decode cX6_put 15 = .ok (.iconst 1, 1) := dk_4 (dk_at dksX6_put_0 15 rfl rfl)
theorem dX6_put_16 : decode cX6_put 16 = .ok (.iadd, 1) := dk_96 (dk_at dksX6_put_0 16 rfl rfl)
theorem dX6_put_17 : decode cX6_put 17 = .ok (.putfield 39, 3) := dk_181 0 39 (dk_at dksX6_put_0 17 rfl rfl)
theorem dX6_put_20 : decode cX6_put 20 = .ok (.return_, 1) := dk_177 (dk_at dksX6_put_0 20 rfl rfl)
abbrev cX6_outputByte : ByteArray := prog_9_method_124_code
def yX6_outputByte : MethodName := ⟨RX6, "outputByte", "(I)I"⟩
def dkwX6_outputByte_1 : List UInt8 := [182, 0, 171, 153, 0, 5, 3, 172, 42, 180, 0, 36, 27, 46, 172]
abbrev dktX6_outputByte_1 : List UInt8 := dkwX6_outputByte_1 ++ []
def dkwX6_outputByte_0 : List UInt8 := [42, 27, 3, 42, 180, 0, 39, 4, 100, 184, 0, 90, 154, 0, 7, 4, 167, 0, 4, 3, 3, 3]
abbrev dktX6_outputByte_0 : List UInt8 := dkwX6_outputByte_0 ++ dktX6_outputByte_1
theorem dksX6_outputByte_0 : cX6_outputByte.data.toList.drop 0 = dktX6_outputByte_0 := by decide +kernel
theorem dksX6_outputByte_1 : cX6_outputByte.data.toList.drop 22 = dktX6_outputByte_1 := dk_seg dksX6_outputByte_0 22 rfl rfl
theorem dX6_outputByte_0 : decode cX6_outputByte 0 = .ok (.aload_n 0, 1) := dk_42 (dk_at dksX6_outputByte_0 0 rfl rfl)
theorem dX6_outputByte_1 : decode cX6_outputByte 1 = .ok (.iload_n 1, 1) := dk_27 (dk_at dksX6_outputByte_0 1 rfl rfl)
theorem dX6_outputByte_2 : decode cX6_outputByte 2 = .ok (.iconst 0, 1) := dk_3 (dk_at dksX6_outputByte_0 2 rfl rfl)
theorem dX6_outputByte_3 : decode cX6_outputByte 3 = .ok (.aload_n 0, 1) := dk_42 (dk_at dksX6_outputByte_0 3 rfl rfl)
theorem dX6_outputByte_4 : decode cX6_outputByte 4 = .ok (.getfield 39, 3) := dk_180 0 39 (dk_at dksX6_outputByte_0 4 rfl rfl)
theorem dX6_outputByte_7 : decode cX6_outputByte 7 = .ok (.iconst 1, 1) := dk_4 (dk_at dksX6_outputByte_0 7 rfl rfl)
theorem dX6_outputByte_8 : decode cX6_outputByte 8 = .ok (.isub, 1) := dk_100 (dk_at dksX6_outputByte_0 8 rfl rfl)
theorem dX6_outputByte_9 : decode cX6_outputByte 9 = .ok (.invokestatic 90, 3) := dk_184 0 90 (dk_at dksX6_outputByte_0 9 rfl rfl)
theorem dX6_outputByte_12 : decode cX6_outputByte 12 = .ok (.ifCond .ne 7, 3) := dk_154 0 7 (dk_at dksX6_outputByte_0 12 rfl rfl)
theorem dX6_outputByte_15 : decode cX6_outputByte 15 = .ok (.iconst 1, 1) := dk_4 (dk_at dksX6_outputByte_0 15 rfl rfl)
theorem dX6_outputByte_16 : decode cX6_outputByte 16 = .ok (.goto 4, 3) := dk_167 0 4 (dk_at dksX6_outputByte_0 16 rfl rfl)
theorem dX6_outputByte_19 : decode cX6_outputByte 19 = .ok (.iconst 0, 1) := dk_3 (dk_at dksX6_outputByte_0 19 rfl rfl)
theorem dX6_outputByte_20 : decode cX6_outputByte 20 = .ok (.iconst 0, 1) := dk_3 (dk_at dksX6_outputByte_0 20 rfl rfl)
theorem dX6_outputByte_21 : decode cX6_outputByte 21 = .ok (.iconst 0, 1) := dk_3 (dk_at dksX6_outputByte_0 21 rfl rfl)
theorem dX6_outputByte_22 : decode cX6_outputByte 22 = .ok (.invokevirtual 171, 3) := dk_182 0 171 (dk_at dksX6_outputByte_1 0 rfl rfl)
theorem dX6_outputByte_25 : decode cX6_outputByte 25 = .ok (.ifCond .eq 5, 3) := dk_153 0 5 (dk_at dksX6_outputByte_1 3 rfl rfl)
theorem dX6_outputByte_28 : decode cX6_outputByte 28 = .ok (.iconst 0, 1) := dk_3 (dk_at dksX6_outputByte_1 6 rfl rfl)
theorem dX6_outputByte_29 : decode cX6_outputByte 29 = .ok (.ireturn, 1) := dk_172 (dk_at dksX6_outputByte_1 7 rfl rfl)
theorem dX6_outputByte_30 : decode cX6_outputByte 30 = .ok (.aload_n 0, 1) := dk_42 (dk_at dksX6_outputByte_1 8 rfl rfl)
theorem dX6_outputByte_31 : decode cX6_outputByte 31 = .ok (.getfield 36, 3) := dk_180 0 36 (dk_at dksX6_outputByte_1 9 rfl rfl)
theorem dX6_outputByte_34 : decode cX6_outputByte 34 = .ok (.iload_n 1, 1) := dk_27 (dk_at dksX6_outputByte_1 12 rfl rfl)
theorem dX6_outputByte_35 : decode cX6_outputByte 35 = .ok (.iaload, 1) := dk_46 (dk_at dksX6_outputByte_1 13 rfl rfl)
theorem dX6_outputByte_36 : decode cX6_outputByte 36 = .ok (.ireturn, 1) := dk_172 (dk_at dksX6_outputByte_1 14 rfl rfl)
theorem q122 : (Jvm.Cond.initialized "CakeDivisionModel") ∈ lw_all := lw_g (lw_at lw_m1 27 rfl) rfl
theorem q737 : (Jvm.Cond.selects "CakeDivisionModel" ({ cls := "java/lang/Object", name := "getClass", desc := "()Ljava/lang/Class;" } : Jvm.MethodName) ({ cls := "java/lang/Object", name := "getClass", desc := "()Ljava/lang/Class;" } : Jvm.MethodName)) ∈ lw_all := lw_g (lw_at lw_m3 162 rfl) rfl
theorem q1585 : (Jvm.Cond.instanceMethod ({ cls := "CakeDivisionModel", name := "thrown", desc := "()I" } : Jvm.MethodName)) ∈ lw_all := lw_g (lw_at lw_m7 50 rfl) rfl
theorem q1586 : (Jvm.Cond.selects "CakeDivisionModel" ({ cls := "CakeDivisionModel", name := "thrown", desc := "()I" } : Jvm.MethodName) ({ cls := "CakeDivisionModel", name := "thrown", desc := "()I" } : Jvm.MethodName)) ∈ lw_all := lw_g (lw_at lw_m7 51 rfl) rfl
theorem q1587 : (Jvm.Cond.code ({ cls := "CakeDivisionModel", name := "thrown", desc := "()I" } : Jvm.MethodName) prog_9_method_1_code (1 : Nat) (Option.some Jvm.ClassFile.FieldType.int)) ∈ lw_all := lw_g (lw_at lw_m7 52 rfl) rfl
theorem q1589 : (Jvm.Cond.instantiable "CakeDivisionModel" (20 : Nat)) ∈ lw_all := lw_g (lw_at lw_m7 54 rfl) rfl
theorem q1591 : (Jvm.Cond.instanceMethod ({ cls := "CakeDivisionModel", name := "<init>", desc := "()V" } : Jvm.MethodName)) ∈ lw_all := lw_g (lw_at lw_m7 56 rfl) rfl
theorem q1592 : (Jvm.Cond.code ({ cls := "CakeDivisionModel", name := "<init>", desc := "()V" } : Jvm.MethodName) prog_9_method_2_code (3 : Nat) (Option.none : Option Jvm.ClassFile.FieldType)) ∈ lw_all := lw_g (lw_at lw_m7 57 rfl) rfl
theorem q1593 : (Jvm.Cond.methodLink "CakeDivisionModel" (7 : Nat) ({ cls := "java/lang/Object", name := "<init>", desc := "()V" } : Jvm.MethodName)) ∈ lw_all := lw_g (lw_at lw_m7 58 rfl) rfl
theorem q1594 : (Jvm.Cond.stringRef "CakeDivisionModel" (72 : Nat) "cake 8;sibling ann 1 2 3 4 4 3 2 1;sibling bob 9 0 0 0 0 0 0 9;sibling cid 1 1 1 1 1 1 1 1;") ∈ lw_tbl := lw_at lw_m7 59 rfl
theorem q1595 : (Jvm.Cond.methodLink "CakeDivisionModel" (74 : Nat) ({ cls := "java/lang/String", name := "length", desc := "()I" } : Jvm.MethodName)) ∈ lw_all := lw_g (lw_at lw_m7 60 rfl) rfl
theorem q1596 : (Jvm.Cond.methodLink "CakeDivisionModel" (79 : Nat) ({ cls := "java/lang/String", name := "charAt", desc := "(I)C" } : Jvm.MethodName)) ∈ lw_all := lw_g (lw_at lw_m7 61 rfl) rfl
theorem q1597 : (Jvm.Cond.methodLink "CakeDivisionModel" (83 : Nat) ({ cls := "CakeDivisionModel", name := "begin", desc := "()V" } : Jvm.MethodName)) ∈ lw_all := lw_g (lw_at lw_m7 62 rfl) rfl
theorem q1598 : (Jvm.Cond.privateMethod ({ cls := "CakeDivisionModel", name := "begin", desc := "()V" } : Jvm.MethodName)) ∈ lw_tbl := lw_at lw_m7 63 rfl
theorem q1599 : (Jvm.Cond.instanceMethod ({ cls := "CakeDivisionModel", name := "begin", desc := "()V" } : Jvm.MethodName)) ∈ lw_all := lw_g (lw_at lw_m7 64 rfl) rfl
theorem q1600 : (Jvm.Cond.code ({ cls := "CakeDivisionModel", name := "begin", desc := "()V" } : Jvm.MethodName) prog_9_method_49_code (1 : Nat) (Option.none : Option Jvm.ClassFile.FieldType)) ∈ lw_all := lw_g (lw_at lw_m7 65 rfl) rfl
theorem q1601 : (Jvm.Cond.methodLink "CakeDivisionModel" (184 : Nat) ({ cls := "CakeDivisionModel", name := "token", desc := "()V" } : Jvm.MethodName)) ∈ lw_all := lw_g (lw_at lw_m7 66 rfl) rfl
theorem q1602 : (Jvm.Cond.privateMethod ({ cls := "CakeDivisionModel", name := "token", desc := "()V" } : Jvm.MethodName)) ∈ lw_tbl := lw_at lw_m7 67 rfl
theorem q1603 : (Jvm.Cond.instanceMethod ({ cls := "CakeDivisionModel", name := "token", desc := "()V" } : Jvm.MethodName)) ∈ lw_all := lw_g (lw_at lw_m7 68 rfl) rfl
theorem q1604 : (Jvm.Cond.code ({ cls := "CakeDivisionModel", name := "token", desc := "()V" } : Jvm.MethodName) prog_9_method_48_code (1 : Nat) (Option.none : Option Jvm.ClassFile.FieldType)) ∈ lw_all := lw_g (lw_at lw_m7 69 rfl) rfl
theorem q1605 : (Jvm.Cond.methodLink "CakeDivisionModel" (178 : Nat) ({ cls := "CakeDivisionModel", name := "isSmall", desc := "(I)Z" } : Jvm.MethodName)) ∈ lw_all := lw_g (lw_at lw_m7 70 rfl) rfl
theorem q1606 : (Jvm.Cond.static ({ cls := "CakeDivisionModel", name := "isSmall", desc := "(I)Z" } : Jvm.MethodName)) ∈ lw_all := lw_g (lw_at lw_m7 71 rfl) rfl
theorem q1607 : (Jvm.Cond.code ({ cls := "CakeDivisionModel", name := "isSmall", desc := "(I)Z" } : Jvm.MethodName) prog_9_method_46_code (1 : Nat) (Option.some Jvm.ClassFile.FieldType.boolean)) ∈ lw_all := lw_g (lw_at lw_m7 72 rfl) rfl
theorem q1608 : (Jvm.Cond.methodLink "CakeDivisionModel" (181 : Nat) ({ cls := "CakeDivisionModel", name := "isDigit", desc := "(I)Z" } : Jvm.MethodName)) ∈ lw_all := lw_g (lw_at lw_m7 73 rfl) rfl
theorem q1609 : (Jvm.Cond.static ({ cls := "CakeDivisionModel", name := "isDigit", desc := "(I)Z" } : Jvm.MethodName)) ∈ lw_all := lw_g (lw_at lw_m7 74 rfl) rfl
theorem q1610 : (Jvm.Cond.code ({ cls := "CakeDivisionModel", name := "isDigit", desc := "(I)Z" } : Jvm.MethodName) prog_9_method_47_code (1 : Nat) (Option.some Jvm.ClassFile.FieldType.boolean)) ∈ lw_all := lw_g (lw_at lw_m7 75 rfl) rfl
theorem q1611 : (Jvm.Cond.methodLink "CakeDivisionModel" (86 : Nat) ({ cls := "CakeDivisionModel", name := "parseSetup", desc := "()Z" } : Jvm.MethodName)) ∈ lw_all := lw_g (lw_at lw_m7 76 rfl) rfl
theorem q1612 : (Jvm.Cond.privateMethod ({ cls := "CakeDivisionModel", name := "parseSetup", desc := "()Z" } : Jvm.MethodName)) ∈ lw_tbl := lw_at lw_m7 77 rfl
theorem q1613 : (Jvm.Cond.instanceMethod ({ cls := "CakeDivisionModel", name := "parseSetup", desc := "()Z" } : Jvm.MethodName)) ∈ lw_all := lw_g (lw_at lw_m7 78 rfl) rfl
theorem q1614 : (Jvm.Cond.code ({ cls := "CakeDivisionModel", name := "parseSetup", desc := "()Z" } : Jvm.MethodName) prog_9_method_57_code (2 : Nat) (Option.some Jvm.ClassFile.FieldType.boolean)) ∈ lw_all := lw_g (lw_at lw_m7 79 rfl) rfl
theorem q1615 : (Jvm.Cond.stringRef "CakeDivisionModel" (202 : Nat) "cake") ∈ lw_tbl := lw_at lw_m7 80 rfl
theorem q1616 : (Jvm.Cond.methodLink "CakeDivisionModel" (204 : Nat) ({ cls := "CakeDivisionModel", name := "isWord", desc := "(Ljava/lang/String;)Z" } : Jvm.MethodName)) ∈ lw_all := lw_g (lw_at lw_m7 81 rfl) rfl
theorem q1617 : (Jvm.Cond.privateMethod ({ cls := "CakeDivisionModel", name := "isWord", desc := "(Ljava/lang/String;)Z" } : Jvm.MethodName)) ∈ lw_tbl := lw_at lw_m7 82 rfl
theorem q1618 : (Jvm.Cond.instanceMethod ({ cls := "CakeDivisionModel", name := "isWord", desc := "(Ljava/lang/String;)Z" } : Jvm.MethodName)) ∈ lw_all := lw_g (lw_at lw_m7 83 rfl) rfl
theorem q1619 : (Jvm.Cond.code ({ cls := "CakeDivisionModel", name := "isWord", desc := "(Ljava/lang/String;)Z" } : Jvm.MethodName) prog_9_method_51_code (3 : Nat) (Option.some Jvm.ClassFile.FieldType.boolean)) ∈ lw_all := lw_g (lw_at lw_m7 84 rfl) rfl
theorem q1620 : (Jvm.Cond.methodLink "CakeDivisionModel" (187 : Nat) ({ cls := "CakeDivisionModel", name := "wrong", desc := "(I)Z" } : Jvm.MethodName)) ∈ lw_all := lw_g (lw_at lw_m7 85 rfl) rfl
theorem q1621 : (Jvm.Cond.privateMethod ({ cls := "CakeDivisionModel", name := "wrong", desc := "(I)Z" } : Jvm.MethodName)) ∈ lw_tbl := lw_at lw_m7 86 rfl
theorem q1622 : (Jvm.Cond.instanceMethod ({ cls := "CakeDivisionModel", name := "wrong", desc := "(I)Z" } : Jvm.MethodName)) ∈ lw_all := lw_g (lw_at lw_m7 87 rfl) rfl
theorem q1623 : (Jvm.Cond.code ({ cls := "CakeDivisionModel", name := "wrong", desc := "(I)Z" } : Jvm.MethodName) prog_9_method_50_code (2 : Nat) (Option.some Jvm.ClassFile.FieldType.boolean)) ∈ lw_all := lw_g (lw_at lw_m7 88 rfl) rfl
theorem q1624 : (Jvm.Cond.methodLink "CakeDivisionModel" (196 : Nat) ({ cls := "CakeDivisionModel", name := "parseRanged", desc := "(III)Z" } : Jvm.MethodName)) ∈ lw_all := lw_g (lw_at lw_m7 89 rfl) rfl
theorem q1625 : (Jvm.Cond.privateMethod ({ cls := "CakeDivisionModel", name := "parseRanged", desc := "(III)Z" } : Jvm.MethodName)) ∈ lw_tbl := lw_at lw_m7 90 rfl
theorem q1626 : (Jvm.Cond.instanceMethod ({ cls := "CakeDivisionModel", name := "parseRanged", desc := "(III)Z" } : Jvm.MethodName)) ∈ lw_all := lw_g (lw_at lw_m7 91 rfl) rfl
theorem q1627 : (Jvm.Cond.code ({ cls := "CakeDivisionModel", name := "parseRanged", desc := "(III)Z" } : Jvm.MethodName) prog_9_method_55_code (4 : Nat) (Option.some Jvm.ClassFile.FieldType.boolean)) ∈ lw_all := lw_g (lw_at lw_m7 92 rfl) rfl
theorem q1628 : (Jvm.Cond.methodLink "CakeDivisionModel" (90 : Nat) ({ cls := "CakeDivisionModel", name := "in", desc := "(III)Z" } : Jvm.MethodName)) ∈ lw_all := lw_g (lw_at lw_m7 93 rfl) rfl
theorem q1629 : (Jvm.Cond.static ({ cls := "CakeDivisionModel", name := "in", desc := "(III)Z" } : Jvm.MethodName)) ∈ lw_all := lw_g (lw_at lw_m7 94 rfl) rfl
theorem q1630 : (Jvm.Cond.code ({ cls := "CakeDivisionModel", name := "in", desc := "(III)Z" } : Jvm.MethodName) prog_9_method_4_code (3 : Nat) (Option.some Jvm.ClassFile.FieldType.boolean)) ∈ lw_all := lw_g (lw_at lw_m7 95 rfl) rfl
theorem q1631 : (Jvm.Cond.methodLink "CakeDivisionModel" (199 : Nat) ({ cls := "CakeDivisionModel", name := "semicolon", desc := "()Z" } : Jvm.MethodName)) ∈ lw_all := lw_g (lw_at lw_m7 96 rfl) rfl
theorem q1632 : (Jvm.Cond.privateMethod ({ cls := "CakeDivisionModel", name := "semicolon", desc := "()Z" } : Jvm.MethodName)) ∈ lw_tbl := lw_at lw_m7 97 rfl
theorem q1633 : (Jvm.Cond.instanceMethod ({ cls := "CakeDivisionModel", name := "semicolon", desc := "()Z" } : Jvm.MethodName)) ∈ lw_all := lw_g (lw_at lw_m7 98 rfl) rfl
theorem q1634 : (Jvm.Cond.code ({ cls := "CakeDivisionModel", name := "semicolon", desc := "()Z" } : Jvm.MethodName) prog_9_method_52_code (1 : Nat) (Option.some Jvm.ClassFile.FieldType.boolean)) ∈ lw_all := lw_g (lw_at lw_m7 99 rfl) rfl
theorem q1635 : (Jvm.Cond.methodLink "CakeDivisionModel" (144 : Nat) ({ cls := "CakeDivisionModel", name := "clear", desc := "()V" } : Jvm.MethodName)) ∈ lw_all := lw_g (lw_at lw_m7 100 rfl) rfl
theorem q1636 : (Jvm.Cond.privateMethod ({ cls := "CakeDivisionModel", name := "clear", desc := "()V" } : Jvm.MethodName)) ∈ lw_tbl := lw_at lw_m7 101 rfl
theorem q1637 : (Jvm.Cond.instanceMethod ({ cls := "CakeDivisionModel", name := "clear", desc := "()V" } : Jvm.MethodName)) ∈ lw_all := lw_g (lw_at lw_m7 102 rfl) rfl
theorem q1638 : (Jvm.Cond.code ({ cls := "CakeDivisionModel", name := "clear", desc := "()V" } : Jvm.MethodName) prog_9_method_28_code (2 : Nat) (Option.none : Option Jvm.ClassFile.FieldType)) ∈ lw_all := lw_g (lw_at lw_m7 103 rfl) rfl
theorem q1639 : (Jvm.Cond.stringRef "CakeDivisionModel" (208 : Nat) "sibling") ∈ lw_tbl := lw_at lw_m7 104 rfl
theorem q1640 : (Jvm.Cond.methodLink "CakeDivisionModel" (210 : Nat) ({ cls := "CakeDivisionModel", name := "parseNewSibling", desc := "()Z" } : Jvm.MethodName)) ∈ lw_all := lw_g (lw_at lw_m7 105 rfl) rfl
theorem q1641 : (Jvm.Cond.privateMethod ({ cls := "CakeDivisionModel", name := "parseNewSibling", desc := "()Z" } : Jvm.MethodName)) ∈ lw_tbl := lw_at lw_m7 106 rfl
theorem q1642 : (Jvm.Cond.instanceMethod ({ cls := "CakeDivisionModel", name := "parseNewSibling", desc := "()Z" } : Jvm.MethodName)) ∈ lw_all := lw_g (lw_at lw_m7 107 rfl) rfl
theorem q1643 : (Jvm.Cond.code ({ cls := "CakeDivisionModel", name := "parseNewSibling", desc := "()Z" } : Jvm.MethodName) prog_9_method_56_code (3 : Nat) (Option.some Jvm.ClassFile.FieldType.boolean)) ∈ lw_all := lw_g (lw_at lw_m7 108 rfl) rfl
theorem q1644 : (Jvm.Cond.methodLink "CakeDivisionModel" (190 : Nat) ({ cls := "CakeDivisionModel", name := "isShortWord", desc := "()Z" } : Jvm.MethodName)) ∈ lw_all := lw_g (lw_at lw_m7 109 rfl) rfl
theorem q1645 : (Jvm.Cond.privateMethod ({ cls := "CakeDivisionModel", name := "isShortWord", desc := "()Z" } : Jvm.MethodName)) ∈ lw_tbl := lw_at lw_m7 110 rfl
theorem q1646 : (Jvm.Cond.instanceMethod ({ cls := "CakeDivisionModel", name := "isShortWord", desc := "()Z" } : Jvm.MethodName)) ∈ lw_all := lw_g (lw_at lw_m7 111 rfl) rfl
theorem q1647 : (Jvm.Cond.code ({ cls := "CakeDivisionModel", name := "isShortWord", desc := "()Z" } : Jvm.MethodName) prog_9_method_54_code (1 : Nat) (Option.some Jvm.ClassFile.FieldType.boolean)) ∈ lw_all := lw_g (lw_at lw_m7 112 rfl) rfl
theorem q1648 : (Jvm.Cond.methodLink "CakeDivisionModel" (193 : Nat) ({ cls := "CakeDivisionModel", name := "siblingNamed", desc := "(II)I" } : Jvm.MethodName)) ∈ lw_all := lw_g (lw_at lw_m7 113 rfl) rfl
theorem q1649 : (Jvm.Cond.privateMethod ({ cls := "CakeDivisionModel", name := "siblingNamed", desc := "(II)I" } : Jvm.MethodName)) ∈ lw_tbl := lw_at lw_m7 114 rfl
theorem q1650 : (Jvm.Cond.instanceMethod ({ cls := "CakeDivisionModel", name := "siblingNamed", desc := "(II)I" } : Jvm.MethodName)) ∈ lw_all := lw_g (lw_at lw_m7 115 rfl) rfl
theorem q1651 : (Jvm.Cond.code ({ cls := "CakeDivisionModel", name := "siblingNamed", desc := "(II)I" } : Jvm.MethodName) prog_9_method_53_code (7 : Nat) (Option.some Jvm.ClassFile.FieldType.int)) ∈ lw_all := lw_g (lw_at lw_m7 116 rfl) rfl
theorem q1652 : (Jvm.Cond.fieldLink "CakeDivisionModel" (13 : Nat) "CakeDivisionModel" "m" "[I") ∈ lw_all := lw_g (lw_at lw_m7 117 rfl) rfl
theorem q1653 : (Jvm.Cond.fieldLink "CakeDivisionModel" (17 : Nat) "CakeDivisionModel" "isSaved" "[Z") ∈ lw_all := lw_g (lw_at lw_m7 118 rfl) rfl
theorem q1654 : (Jvm.Cond.fieldLink "CakeDivisionModel" (21 : Nat) "CakeDivisionModel" "undoable" "I") ∈ lw_all := lw_g (lw_at lw_m7 119 rfl) rfl
theorem q1655 : (Jvm.Cond.fieldLink "CakeDivisionModel" (24 : Nat) "CakeDivisionModel" "buffer" "[I") ∈ lw_all := lw_g (lw_at lw_m7 120 rfl) rfl
theorem q1656 : (Jvm.Cond.fieldLink "CakeDivisionModel" (27 : Nat) "CakeDivisionModel" "length" "I") ∈ lw_all := lw_g (lw_at lw_m7 121 rfl) rfl
theorem q1657 : (Jvm.Cond.fieldLink "CakeDivisionModel" (30 : Nat) "CakeDivisionModel" "errorCode" "I") ∈ lw_all := lw_g (lw_at lw_m7 122 rfl) rfl
theorem q1658 : (Jvm.Cond.fieldLink "CakeDivisionModel" (33 : Nat) "CakeDivisionModel" "errorPosition" "I") ∈ lw_all := lw_g (lw_at lw_m7 123 rfl) rfl
theorem q1659 : (Jvm.Cond.fieldLink "CakeDivisionModel" (36 : Nat) "CakeDivisionModel" "written" "[I") ∈ lw_all := lw_g (lw_at lw_m7 124 rfl) rfl
theorem q1660 : (Jvm.Cond.fieldLink "CakeDivisionModel" (39 : Nat) "CakeDivisionModel" "writtenLength" "I") ∈ lw_all := lw_g (lw_at lw_m7 125 rfl) rfl
theorem q1661 : (Jvm.Cond.fieldLink "CakeDivisionModel" (1 : Nat) "CakeDivisionModel" "thrown" "I") ∈ lw_all := lw_g (lw_at lw_m7 126 rfl) rfl
theorem q1662 : (Jvm.Cond.fieldLink "CakeDivisionModel" (42 : Nat) "CakeDivisionModel" "steps" "[I") ∈ lw_all := lw_g (lw_at lw_m7 127 rfl) rfl
theorem q1663 : (Jvm.Cond.fieldLink "CakeDivisionModel" (45 : Nat) "CakeDivisionModel" "cycle" "[I") ∈ lw_all := lw_g (lw_at lw_m7 128 rfl) rfl
theorem q1664 : (Jvm.Cond.fieldLink "CakeDivisionModel" (48 : Nat) "CakeDivisionModel" "hasPiece" "[Z") ∈ lw_all := lw_g (lw_at lw_m7 129 rfl) rfl
theorem q1665 : (Jvm.Cond.fieldLink "CakeDivisionModel" (51 : Nat) "CakeDivisionModel" "best" "[I") ∈ lw_all := lw_g (lw_at lw_m7 130 rfl) rfl
theorem q1666 : (Jvm.Cond.fieldLink "CakeDivisionModel" (54 : Nat) "CakeDivisionModel" "sequence" "[I") ∈ lw_all := lw_g (lw_at lw_m7 131 rfl) rfl
theorem q1667 : (Jvm.Cond.fieldLink "CakeDivisionModel" (57 : Nat) "CakeDivisionModel" "ahead" "I") ∈ lw_all := lw_g (lw_at lw_m7 132 rfl) rfl
theorem q1668 : (Jvm.Cond.fieldLink "CakeDivisionModel" (60 : Nat) "CakeDivisionModel" "type" "I") ∈ lw_all := lw_g (lw_at lw_m7 133 rfl) rfl
theorem q1669 : (Jvm.Cond.fieldLink "CakeDivisionModel" (63 : Nat) "CakeDivisionModel" "from" "I") ∈ lw_all := lw_g (lw_at lw_m7 134 rfl) rfl
theorem q1670 : (Jvm.Cond.fieldLink "CakeDivisionModel" (66 : Nat) "CakeDivisionModel" "value" "I") ∈ lw_all := lw_g (lw_at lw_m7 135 rfl) rfl
theorem q1671 : (Jvm.Cond.fieldLink "CakeDivisionModel" (69 : Nat) "CakeDivisionModel" "commands" "[I") ∈ lw_all := lw_g (lw_at lw_m7 136 rfl) rfl
theorem q1672 : (Jvm.Cond.laysFinal "CakeDivisionModel" "CakeDivisionModel" "m" "[I") ∈ lw_all := lw_g (lw_at lw_m7 137 rfl) rfl
theorem q1673 : (Jvm.Cond.soleField "CakeDivisionModel" "m") ∈ lw_all := lw_g (lw_at lw_m7 138 rfl) rfl
theorem q1674 : (Jvm.Cond.laysFinal "CakeDivisionModel" "CakeDivisionModel" "isSaved" "[Z") ∈ lw_all := lw_g (lw_at lw_m7 139 rfl) rfl
theorem q1675 : (Jvm.Cond.soleField "CakeDivisionModel" "isSaved") ∈ lw_all := lw_g (lw_at lw_m7 140 rfl) rfl
theorem q1676 : (Jvm.Cond.lays "CakeDivisionModel" "CakeDivisionModel" "undoable" "I") ∈ lw_all := lw_g (lw_at lw_m7 141 rfl) rfl
theorem q1677 : (Jvm.Cond.soleField "CakeDivisionModel" "undoable") ∈ lw_all := lw_g (lw_at lw_m7 142 rfl) rfl
theorem q1678 : (Jvm.Cond.laysFinal "CakeDivisionModel" "CakeDivisionModel" "buffer" "[I") ∈ lw_all := lw_g (lw_at lw_m7 143 rfl) rfl
theorem q1679 : (Jvm.Cond.soleField "CakeDivisionModel" "buffer") ∈ lw_all := lw_g (lw_at lw_m7 144 rfl) rfl
theorem q1680 : (Jvm.Cond.lays "CakeDivisionModel" "CakeDivisionModel" "length" "I") ∈ lw_all := lw_g (lw_at lw_m7 145 rfl) rfl
theorem q1681 : (Jvm.Cond.soleField "CakeDivisionModel" "length") ∈ lw_all := lw_g (lw_at lw_m7 146 rfl) rfl
theorem q1682 : (Jvm.Cond.lays "CakeDivisionModel" "CakeDivisionModel" "errorCode" "I") ∈ lw_all := lw_g (lw_at lw_m7 147 rfl) rfl
theorem q1683 : (Jvm.Cond.soleField "CakeDivisionModel" "errorCode") ∈ lw_all := lw_g (lw_at lw_m7 148 rfl) rfl
theorem q1684 : (Jvm.Cond.lays "CakeDivisionModel" "CakeDivisionModel" "errorPosition" "I") ∈ lw_all := lw_g (lw_at lw_m7 149 rfl) rfl
theorem q1685 : (Jvm.Cond.soleField "CakeDivisionModel" "errorPosition") ∈ lw_all := lw_g (lw_at lw_m7 150 rfl) rfl
theorem q1686 : (Jvm.Cond.laysFinal "CakeDivisionModel" "CakeDivisionModel" "written" "[I") ∈ lw_all := lw_g (lw_at lw_m7 151 rfl) rfl
theorem q1687 : (Jvm.Cond.soleField "CakeDivisionModel" "written") ∈ lw_all := lw_g (lw_at lw_m7 152 rfl) rfl
theorem q1688 : (Jvm.Cond.lays "CakeDivisionModel" "CakeDivisionModel" "writtenLength" "I") ∈ lw_all := lw_g (lw_at lw_m7 153 rfl) rfl
theorem q1689 : (Jvm.Cond.soleField "CakeDivisionModel" "writtenLength") ∈ lw_all := lw_g (lw_at lw_m7 154 rfl) rfl
theorem q1690 : (Jvm.Cond.lays "CakeDivisionModel" "CakeDivisionModel" "thrown" "I") ∈ lw_all := lw_g (lw_at lw_m7 155 rfl) rfl
theorem q1691 : (Jvm.Cond.soleField "CakeDivisionModel" "thrown") ∈ lw_all := lw_g (lw_at lw_m7 156 rfl) rfl
theorem q1692 : (Jvm.Cond.laysFinal "CakeDivisionModel" "CakeDivisionModel" "steps" "[I") ∈ lw_all := lw_g (lw_at lw_m7 157 rfl) rfl
theorem q1693 : (Jvm.Cond.soleField "CakeDivisionModel" "steps") ∈ lw_all := lw_g (lw_at lw_m7 158 rfl) rfl
theorem q1694 : (Jvm.Cond.laysFinal "CakeDivisionModel" "CakeDivisionModel" "cycle" "[I") ∈ lw_all := lw_g (lw_at lw_m7 159 rfl) rfl
theorem q1695 : (Jvm.Cond.soleField "CakeDivisionModel" "cycle") ∈ lw_all := lw_g (lw_at lw_m7 160 rfl) rfl
theorem q1696 : (Jvm.Cond.laysFinal "CakeDivisionModel" "CakeDivisionModel" "hasPiece" "[Z") ∈ lw_all := lw_g (lw_at lw_m7 161 rfl) rfl
theorem q1697 : (Jvm.Cond.soleField "CakeDivisionModel" "hasPiece") ∈ lw_all := lw_g (lw_at lw_m7 162 rfl) rfl
theorem q1698 : (Jvm.Cond.laysFinal "CakeDivisionModel" "CakeDivisionModel" "best" "[I") ∈ lw_all := lw_g (lw_at lw_m7 163 rfl) rfl
theorem q1699 : (Jvm.Cond.soleField "CakeDivisionModel" "best") ∈ lw_all := lw_g (lw_at lw_m7 164 rfl) rfl
theorem q1700 : (Jvm.Cond.laysFinal "CakeDivisionModel" "CakeDivisionModel" "sequence" "[I") ∈ lw_all := lw_g (lw_at lw_m7 165 rfl) rfl
theorem q1701 : (Jvm.Cond.soleField "CakeDivisionModel" "sequence") ∈ lw_all := lw_g (lw_at lw_m7 166 rfl) rfl
theorem q1702 : (Jvm.Cond.lays "CakeDivisionModel" "CakeDivisionModel" "ahead" "I") ∈ lw_all := lw_g (lw_at lw_m7 167 rfl) rfl
theorem q1703 : (Jvm.Cond.soleField "CakeDivisionModel" "ahead") ∈ lw_all := lw_g (lw_at lw_m7 168 rfl) rfl
theorem q1704 : (Jvm.Cond.lays "CakeDivisionModel" "CakeDivisionModel" "type" "I") ∈ lw_all := lw_g (lw_at lw_m7 169 rfl) rfl
theorem q1705 : (Jvm.Cond.soleField "CakeDivisionModel" "type") ∈ lw_all := lw_g (lw_at lw_m7 170 rfl) rfl
theorem q1706 : (Jvm.Cond.lays "CakeDivisionModel" "CakeDivisionModel" "from" "I") ∈ lw_all := lw_g (lw_at lw_m7 171 rfl) rfl
theorem q1707 : (Jvm.Cond.soleField "CakeDivisionModel" "from") ∈ lw_all := lw_g (lw_at lw_m7 172 rfl) rfl
theorem q1708 : (Jvm.Cond.lays "CakeDivisionModel" "CakeDivisionModel" "value" "I") ∈ lw_all := lw_g (lw_at lw_m7 173 rfl) rfl
theorem q1709 : (Jvm.Cond.soleField "CakeDivisionModel" "value") ∈ lw_all := lw_g (lw_at lw_m7 174 rfl) rfl
theorem q1710 : (Jvm.Cond.laysFinal "CakeDivisionModel" "CakeDivisionModel" "commands" "[I") ∈ lw_all := lw_g (lw_at lw_m7 175 rfl) rfl
theorem q1711 : (Jvm.Cond.soleField "CakeDivisionModel" "commands") ∈ lw_all := lw_g (lw_at lw_m7 176 rfl) rfl
theorem q1712 : (Jvm.Cond.superclass "CakeDivisionModel" "java/lang/Object") ∈ lw_all := lw_g (lw_at lw_m7 177 rfl) rfl
theorem q1714 : (Jvm.Cond.instanceMethod ({ cls := "CakeDivisionModel", name := "append", desc := "(IIIII)I" } : Jvm.MethodName)) ∈ lw_all := lw_g (lw_at lw_m7 179 rfl) rfl
theorem q1715 : (Jvm.Cond.selects "CakeDivisionModel" ({ cls := "CakeDivisionModel", name := "append", desc := "(IIIII)I" } : Jvm.MethodName) ({ cls := "CakeDivisionModel", name := "append", desc := "(IIIII)I" } : Jvm.MethodName)) ∈ lw_all := lw_g (lw_at lw_m7 180 rfl) rfl
theorem q1716 : (Jvm.Cond.code ({ cls := "CakeDivisionModel", name := "append", desc := "(IIIII)I" } : Jvm.MethodName) prog_9_method_44_code (6 : Nat) (Option.some Jvm.ClassFile.FieldType.int)) ∈ lw_all := lw_g (lw_at lw_m7 181 rfl) rfl
theorem q1717 : (Jvm.Cond.methodLink "CakeDivisionModel" (171 : Nat) ({ cls := "CakeDivisionModel", name := "fails", desc := "(ZZZ)Z" } : Jvm.MethodName)) ∈ lw_all := lw_g (lw_at lw_m7 182 rfl) rfl
theorem q1718 : (Jvm.Cond.privateMethod ({ cls := "CakeDivisionModel", name := "fails", desc := "(ZZZ)Z" } : Jvm.MethodName)) ∈ lw_tbl := lw_at lw_m7 183 rfl
theorem q1719 : (Jvm.Cond.instanceMethod ({ cls := "CakeDivisionModel", name := "fails", desc := "(ZZZ)Z" } : Jvm.MethodName)) ∈ lw_all := lw_g (lw_at lw_m7 184 rfl) rfl
theorem q1720 : (Jvm.Cond.code ({ cls := "CakeDivisionModel", name := "fails", desc := "(ZZZ)Z" } : Jvm.MethodName) prog_9_method_3_code (4 : Nat) (Option.some Jvm.ClassFile.FieldType.boolean)) ∈ lw_all := lw_g (lw_at lw_m7 185 rfl) rfl
theorem q1721 : (Jvm.Cond.methodLink "CakeDivisionModel" (175 : Nat) ({ cls := "CakeDivisionModel", name := "appendWord", desc := "(I)V" } : Jvm.MethodName)) ∈ lw_all := lw_g (lw_at lw_m7 186 rfl) rfl
theorem q1722 : (Jvm.Cond.privateMethod ({ cls := "CakeDivisionModel", name := "appendWord", desc := "(I)V" } : Jvm.MethodName)) ∈ lw_tbl := lw_at lw_m7 187 rfl
theorem q1723 : (Jvm.Cond.instanceMethod ({ cls := "CakeDivisionModel", name := "appendWord", desc := "(I)V" } : Jvm.MethodName)) ∈ lw_all := lw_g (lw_at lw_m7 188 rfl) rfl
theorem q1724 : (Jvm.Cond.code ({ cls := "CakeDivisionModel", name := "appendWord", desc := "(I)V" } : Jvm.MethodName) prog_9_method_43_code (3 : Nat) (Option.none : Option Jvm.ClassFile.FieldType)) ∈ lw_all := lw_g (lw_at lw_m7 189 rfl) rfl
theorem q1726 : (Jvm.Cond.instanceMethod ({ cls := "CakeDivisionModel", name := "truncate", desc := "(I)I" } : Jvm.MethodName)) ∈ lw_all := lw_g (lw_at lw_m7 191 rfl) rfl
theorem q1727 : (Jvm.Cond.selects "CakeDivisionModel" ({ cls := "CakeDivisionModel", name := "truncate", desc := "(I)I" } : Jvm.MethodName) ({ cls := "CakeDivisionModel", name := "truncate", desc := "(I)I" } : Jvm.MethodName)) ∈ lw_all := lw_g (lw_at lw_m7 192 rfl) rfl
theorem q1728 : (Jvm.Cond.code ({ cls := "CakeDivisionModel", name := "truncate", desc := "(I)I" } : Jvm.MethodName) prog_9_method_45_code (2 : Nat) (Option.some Jvm.ClassFile.FieldType.int)) ∈ lw_all := lw_g (lw_at lw_m7 193 rfl) rfl
theorem q1730 : (Jvm.Cond.instanceMethod ({ cls := "CakeDivisionModel", name := "load", desc := "()I" } : Jvm.MethodName)) ∈ lw_all := lw_g (lw_at lw_m7 195 rfl) rfl
theorem q1731 : (Jvm.Cond.selects "CakeDivisionModel" ({ cls := "CakeDivisionModel", name := "load", desc := "()I" } : Jvm.MethodName) ({ cls := "CakeDivisionModel", name := "load", desc := "()I" } : Jvm.MethodName)) ∈ lw_all := lw_g (lw_at lw_m7 196 rfl) rfl
theorem q1732 : (Jvm.Cond.code ({ cls := "CakeDivisionModel", name := "load", desc := "()I" } : Jvm.MethodName) prog_9_method_58_code (2 : Nat) (Option.some Jvm.ClassFile.FieldType.int)) ∈ lw_all := lw_g (lw_at lw_m7 197 rfl) rfl
theorem q1733 : (Jvm.Cond.methodLink "CakeDivisionModel" (101 : Nat) ({ cls := "CakeDivisionModel", name := "copyBlock", desc := "(II)V" } : Jvm.MethodName)) ∈ lw_all := lw_g (lw_at lw_m7 198 rfl) rfl
theorem q1734 : (Jvm.Cond.privateMethod ({ cls := "CakeDivisionModel", name := "copyBlock", desc := "(II)V" } : Jvm.MethodName)) ∈ lw_tbl := lw_at lw_m7 199 rfl
theorem q1735 : (Jvm.Cond.instanceMethod ({ cls := "CakeDivisionModel", name := "copyBlock", desc := "(II)V" } : Jvm.MethodName)) ∈ lw_all := lw_g (lw_at lw_m7 200 rfl) rfl
theorem q1736 : (Jvm.Cond.code ({ cls := "CakeDivisionModel", name := "copyBlock", desc := "(II)V" } : Jvm.MethodName) prog_9_method_11_code (4 : Nat) (Option.none : Option Jvm.ClassFile.FieldType)) ∈ lw_all := lw_g (lw_at lw_m7 201 rfl) rfl
theorem q1738 : (Jvm.Cond.instanceMethod ({ cls := "CakeDivisionModel", name := "runScript", desc := "()I" } : Jvm.MethodName)) ∈ lw_all := lw_g (lw_at lw_m7 203 rfl) rfl
theorem q1739 : (Jvm.Cond.selects "CakeDivisionModel" ({ cls := "CakeDivisionModel", name := "runScript", desc := "()I" } : Jvm.MethodName) ({ cls := "CakeDivisionModel", name := "runScript", desc := "()I" } : Jvm.MethodName)) ∈ lw_all := lw_g (lw_at lw_m7 204 rfl) rfl
theorem q1740 : (Jvm.Cond.code ({ cls := "CakeDivisionModel", name := "runScript", desc := "()I" } : Jvm.MethodName) prog_9_method_67_code (4 : Nat) (Option.some Jvm.ClassFile.FieldType.int)) ∈ lw_all := lw_g (lw_at lw_m7 205 rfl) rfl
theorem q1741 : (Jvm.Cond.methodLink "CakeDivisionModel" (259 : Nat) ({ cls := "CakeDivisionModel", name := "parseScript", desc := "()I" } : Jvm.MethodName)) ∈ lw_all := lw_g (lw_at lw_m7 206 rfl) rfl
theorem q1742 : (Jvm.Cond.privateMethod ({ cls := "CakeDivisionModel", name := "parseScript", desc := "()I" } : Jvm.MethodName)) ∈ lw_tbl := lw_at lw_m7 207 rfl
theorem q1743 : (Jvm.Cond.instanceMethod ({ cls := "CakeDivisionModel", name := "parseScript", desc := "()I" } : Jvm.MethodName)) ∈ lw_all := lw_g (lw_at lw_m7 208 rfl) rfl
theorem q1744 : (Jvm.Cond.code ({ cls := "CakeDivisionModel", name := "parseScript", desc := "()I" } : Jvm.MethodName) prog_9_method_64_code (4 : Nat) (Option.some Jvm.ClassFile.FieldType.int)) ∈ lw_all := lw_g (lw_at lw_m7 209 rfl) rfl
theorem q1745 : (Jvm.Cond.methodLink "CakeDivisionModel" (238 : Nat) ({ cls := "CakeDivisionModel", name := "commandHere", desc := "()I" } : Jvm.MethodName)) ∈ lw_all := lw_g (lw_at lw_m7 210 rfl) rfl
theorem q1746 : (Jvm.Cond.privateMethod ({ cls := "CakeDivisionModel", name := "commandHere", desc := "()I" } : Jvm.MethodName)) ∈ lw_tbl := lw_at lw_m7 211 rfl
theorem q1747 : (Jvm.Cond.instanceMethod ({ cls := "CakeDivisionModel", name := "commandHere", desc := "()I" } : Jvm.MethodName)) ∈ lw_all := lw_g (lw_at lw_m7 212 rfl) rfl
theorem q1748 : (Jvm.Cond.code ({ cls := "CakeDivisionModel", name := "commandHere", desc := "()I" } : Jvm.MethodName) prog_9_method_60_code (2 : Nat) (Option.some Jvm.ClassFile.FieldType.int)) ∈ lw_all := lw_g (lw_at lw_m7 213 rfl) rfl
theorem q1749 : (Jvm.Cond.methodLink "CakeDivisionModel" (228 : Nat) ({ cls := "CakeDivisionModel", name := "nameOf", desc := "(I)Ljava/lang/String;" } : Jvm.MethodName)) ∈ lw_all := lw_g (lw_at lw_m7 214 rfl) rfl
theorem q1750 : (Jvm.Cond.static ({ cls := "CakeDivisionModel", name := "nameOf", desc := "(I)Ljava/lang/String;" } : Jvm.MethodName)) ∈ lw_all := lw_g (lw_at lw_m7 215 rfl) rfl
theorem q1751 : (Jvm.Cond.code ({ cls := "CakeDivisionModel", name := "nameOf", desc := "(I)Ljava/lang/String;" } : Jvm.MethodName) prog_9_method_59_code (1 : Nat) (Option.some (Jvm.ClassFile.FieldType.object "java/lang/String"))) ∈ lw_all := lw_g (lw_at lw_m7 216 rfl) rfl
theorem q1752 : (Jvm.Cond.stringRef "CakeDivisionModel" (213 : Nat) "give") ∈ lw_tbl := lw_at lw_m7 217 rfl
theorem q1753 : (Jvm.Cond.stringRef "CakeDivisionModel" (215 : Nat) "free") ∈ lw_tbl := lw_at lw_m7 218 rfl
theorem q1754 : (Jvm.Cond.stringRef "CakeDivisionModel" (217 : Nat) "swap") ∈ lw_tbl := lw_at lw_m7 219 rfl
theorem q1755 : (Jvm.Cond.stringRef "CakeDivisionModel" (219 : Nat) "value") ∈ lw_tbl := lw_at lw_m7 220 rfl
theorem q1756 : (Jvm.Cond.stringRef "CakeDivisionModel" (220 : Nat) "divide") ∈ lw_tbl := lw_at lw_m7 221 rfl
theorem q1757 : (Jvm.Cond.stringRef "CakeDivisionModel" (222 : Nat) "knife") ∈ lw_tbl := lw_at lw_m7 222 rfl
theorem q1758 : (Jvm.Cond.stringRef "CakeDivisionModel" (224 : Nat) "robin") ∈ lw_tbl := lw_at lw_m7 223 rfl
theorem q1759 : (Jvm.Cond.stringRef "CakeDivisionModel" (226 : Nat) "rotate") ∈ lw_tbl := lw_at lw_m7 224 rfl
theorem q1760 : (Jvm.Cond.methodLink "CakeDivisionModel" (241 : Nat) ({ cls := "CakeDivisionModel", name := "parseArguments", desc := "(II)Z" } : Jvm.MethodName)) ∈ lw_all := lw_g (lw_at lw_m7 225 rfl) rfl
theorem q1761 : (Jvm.Cond.privateMethod ({ cls := "CakeDivisionModel", name := "parseArguments", desc := "(II)Z" } : Jvm.MethodName)) ∈ lw_tbl := lw_at lw_m7 226 rfl
theorem q1762 : (Jvm.Cond.instanceMethod ({ cls := "CakeDivisionModel", name := "parseArguments", desc := "(II)Z" } : Jvm.MethodName)) ∈ lw_all := lw_g (lw_at lw_m7 227 rfl) rfl
theorem q1763 : (Jvm.Cond.code ({ cls := "CakeDivisionModel", name := "parseArguments", desc := "(II)Z" } : Jvm.MethodName) prog_9_method_63_code (3 : Nat) (Option.some Jvm.ClassFile.FieldType.boolean)) ∈ lw_all := lw_g (lw_at lw_m7 228 rfl) rfl
theorem q1764 : (Jvm.Cond.methodLink "CakeDivisionModel" (232 : Nat) ({ cls := "CakeDivisionModel", name := "parseSibling", desc := "(I)Z" } : Jvm.MethodName)) ∈ lw_all := lw_g (lw_at lw_m7 229 rfl) rfl
theorem q1765 : (Jvm.Cond.privateMethod ({ cls := "CakeDivisionModel", name := "parseSibling", desc := "(I)Z" } : Jvm.MethodName)) ∈ lw_tbl := lw_at lw_m7 230 rfl
theorem q1766 : (Jvm.Cond.instanceMethod ({ cls := "CakeDivisionModel", name := "parseSibling", desc := "(I)Z" } : Jvm.MethodName)) ∈ lw_all := lw_g (lw_at lw_m7 231 rfl) rfl
theorem q1767 : (Jvm.Cond.code ({ cls := "CakeDivisionModel", name := "parseSibling", desc := "(I)Z" } : Jvm.MethodName) prog_9_method_62_code (2 : Nat) (Option.some Jvm.ClassFile.FieldType.boolean)) ∈ lw_all := lw_g (lw_at lw_m7 232 rfl) rfl
theorem q1768 : (Jvm.Cond.methodLink "CakeDivisionModel" (235 : Nat) ({ cls := "CakeDivisionModel", name := "parseNumber", desc := "(I)Z" } : Jvm.MethodName)) ∈ lw_all := lw_g (lw_at lw_m7 233 rfl) rfl
theorem q1769 : (Jvm.Cond.privateMethod ({ cls := "CakeDivisionModel", name := "parseNumber", desc := "(I)Z" } : Jvm.MethodName)) ∈ lw_tbl := lw_at lw_m7 234 rfl
theorem q1770 : (Jvm.Cond.instanceMethod ({ cls := "CakeDivisionModel", name := "parseNumber", desc := "(I)Z" } : Jvm.MethodName)) ∈ lw_all := lw_g (lw_at lw_m7 235 rfl) rfl
theorem q1771 : (Jvm.Cond.code ({ cls := "CakeDivisionModel", name := "parseNumber", desc := "(I)Z" } : Jvm.MethodName) prog_9_method_61_code (2 : Nat) (Option.some Jvm.ClassFile.FieldType.boolean)) ∈ lw_all := lw_g (lw_at lw_m7 236 rfl) rfl
theorem q1772 : (Jvm.Cond.methodLink "CakeDivisionModel" (262 : Nat) ({ cls := "CakeDivisionModel", name := "remember", desc := "(I)V" } : Jvm.MethodName)) ∈ lw_all := lw_g (lw_at lw_m7 237 rfl) rfl
theorem q1773 : (Jvm.Cond.privateMethod ({ cls := "CakeDivisionModel", name := "remember", desc := "(I)V" } : Jvm.MethodName)) ∈ lw_tbl := lw_at lw_m7 238 rfl
theorem q1774 : (Jvm.Cond.instanceMethod ({ cls := "CakeDivisionModel", name := "remember", desc := "(I)V" } : Jvm.MethodName)) ∈ lw_all := lw_g (lw_at lw_m7 239 rfl) rfl
theorem q1775 : (Jvm.Cond.code ({ cls := "CakeDivisionModel", name := "remember", desc := "(I)V" } : Jvm.MethodName) prog_9_method_12_code (3 : Nat) (Option.none : Option Jvm.ClassFile.FieldType)) ∈ lw_all := lw_g (lw_at lw_m8 0 rfl) rfl
theorem q1776 : (Jvm.Cond.methodLink "CakeDivisionModel" (265 : Nat) ({ cls := "CakeDivisionModel", name := "canDo", desc := "(IIII)Z" } : Jvm.MethodName)) ∈ lw_all := lw_g (lw_at lw_m8 1 rfl) rfl
theorem q1777 : (Jvm.Cond.privateMethod ({ cls := "CakeDivisionModel", name := "canDo", desc := "(IIII)Z" } : Jvm.MethodName)) ∈ lw_tbl := lw_at lw_m8 2 rfl
theorem q1778 : (Jvm.Cond.instanceMethod ({ cls := "CakeDivisionModel", name := "canDo", desc := "(IIII)Z" } : Jvm.MethodName)) ∈ lw_all := lw_g (lw_at lw_m8 3 rfl) rfl
theorem q1779 : (Jvm.Cond.code ({ cls := "CakeDivisionModel", name := "canDo", desc := "(IIII)Z" } : Jvm.MethodName) prog_9_method_65_code (5 : Nat) (Option.some Jvm.ClassFile.FieldType.boolean)) ∈ lw_all := lw_g (lw_at lw_m8 4 rfl) rfl
theorem q1780 : (Jvm.Cond.methodLink "CakeDivisionModel" (244 : Nat) ({ cls := "CakeDivisionModel", name := "isRange", desc := "(II)Z" } : Jvm.MethodName)) ∈ lw_all := lw_g (lw_at lw_m8 5 rfl) rfl
theorem q1781 : (Jvm.Cond.privateMethod ({ cls := "CakeDivisionModel", name := "isRange", desc := "(II)Z" } : Jvm.MethodName)) ∈ lw_tbl := lw_at lw_m8 6 rfl
theorem q1782 : (Jvm.Cond.instanceMethod ({ cls := "CakeDivisionModel", name := "isRange", desc := "(II)Z" } : Jvm.MethodName)) ∈ lw_all := lw_g (lw_at lw_m8 7 rfl) rfl
theorem q1783 : (Jvm.Cond.code ({ cls := "CakeDivisionModel", name := "isRange", desc := "(II)Z" } : Jvm.MethodName) prog_9_method_8_code (3 : Nat) (Option.some Jvm.ClassFile.FieldType.boolean)) ∈ lw_all := lw_g (lw_at lw_m8 8 rfl) rfl
theorem q1784 : (Jvm.Cond.methodLink "CakeDivisionModel" (98 : Nat) ({ cls := "CakeDivisionModel", name := "isCell", desc := "(I)Z" } : Jvm.MethodName)) ∈ lw_all := lw_g (lw_at lw_m8 9 rfl) rfl
theorem q1785 : (Jvm.Cond.privateMethod ({ cls := "CakeDivisionModel", name := "isCell", desc := "(I)Z" } : Jvm.MethodName)) ∈ lw_tbl := lw_at lw_m8 10 rfl
theorem q1786 : (Jvm.Cond.instanceMethod ({ cls := "CakeDivisionModel", name := "isCell", desc := "(I)Z" } : Jvm.MethodName)) ∈ lw_all := lw_g (lw_at lw_m8 11 rfl) rfl
theorem q1787 : (Jvm.Cond.code ({ cls := "CakeDivisionModel", name := "isCell", desc := "(I)Z" } : Jvm.MethodName) prog_9_method_7_code (2 : Nat) (Option.some Jvm.ClassFile.FieldType.boolean)) ∈ lw_all := lw_g (lw_at lw_m8 12 rfl) rfl
theorem q1788 : (Jvm.Cond.methodLink "CakeDivisionModel" (156 : Nat) ({ cls := "CakeDivisionModel", name := "findCycle", desc := "(I)I" } : Jvm.MethodName)) ∈ lw_all := lw_g (lw_at lw_m8 13 rfl) rfl
theorem q1789 : (Jvm.Cond.privateMethod ({ cls := "CakeDivisionModel", name := "findCycle", desc := "(I)I" } : Jvm.MethodName)) ∈ lw_tbl := lw_at lw_m8 14 rfl
theorem q1790 : (Jvm.Cond.instanceMethod ({ cls := "CakeDivisionModel", name := "findCycle", desc := "(I)I" } : Jvm.MethodName)) ∈ lw_all := lw_g (lw_at lw_m8 15 rfl) rfl
theorem q1791 : (Jvm.Cond.code ({ cls := "CakeDivisionModel", name := "findCycle", desc := "(I)I" } : Jvm.MethodName) prog_9_method_27_code (5 : Nat) (Option.some Jvm.ClassFile.FieldType.int)) ∈ lw_all := lw_g (lw_at lw_m8 16 rfl) rfl
theorem q1792 : (Jvm.Cond.methodLink "CakeDivisionModel" (133 : Nat) ({ cls := "CakeDivisionModel", name := "walkTo", desc := "(I)V" } : Jvm.MethodName)) ∈ lw_all := lw_g (lw_at lw_m8 17 rfl) rfl
theorem q1793 : (Jvm.Cond.privateMethod ({ cls := "CakeDivisionModel", name := "walkTo", desc := "(I)V" } : Jvm.MethodName)) ∈ lw_tbl := lw_at lw_m8 18 rfl
theorem q1794 : (Jvm.Cond.instanceMethod ({ cls := "CakeDivisionModel", name := "walkTo", desc := "(I)V" } : Jvm.MethodName)) ∈ lw_all := lw_g (lw_at lw_m8 19 rfl) rfl
theorem q1795 : (Jvm.Cond.code ({ cls := "CakeDivisionModel", name := "walkTo", desc := "(I)V" } : Jvm.MethodName) prog_9_method_26_code (6 : Nat) (Option.none : Option Jvm.ClassFile.FieldType)) ∈ lw_all := lw_g (lw_at lw_m8 20 rfl) rfl
theorem q1796 : (Jvm.Cond.methodLink "CakeDivisionModel" (129 : Nat) ({ cls := "CakeDivisionModel", name := "hasEnvy", desc := "(II)Z" } : Jvm.MethodName)) ∈ lw_all := lw_g (lw_at lw_m8 21 rfl) rfl
theorem q1797 : (Jvm.Cond.privateMethod ({ cls := "CakeDivisionModel", name := "hasEnvy", desc := "(II)Z" } : Jvm.MethodName)) ∈ lw_tbl := lw_at lw_m8 22 rfl
theorem q1798 : (Jvm.Cond.instanceMethod ({ cls := "CakeDivisionModel", name := "hasEnvy", desc := "(II)Z" } : Jvm.MethodName)) ∈ lw_all := lw_g (lw_at lw_m8 23 rfl) rfl
theorem q1799 : (Jvm.Cond.code ({ cls := "CakeDivisionModel", name := "hasEnvy", desc := "(II)Z" } : Jvm.MethodName) prog_9_method_21_code (3 : Nat) (Option.some Jvm.ClassFile.FieldType.boolean)) ∈ lw_all := lw_g (lw_at lw_m8 24 rfl) rfl
theorem q1800 : (Jvm.Cond.methodLink "CakeDivisionModel" (117 : Nat) ({ cls := "CakeDivisionModel", name := "worthShare", desc := "(II)I" } : Jvm.MethodName)) ∈ lw_all := lw_g (lw_at lw_m8 25 rfl) rfl
theorem q1801 : (Jvm.Cond.privateMethod ({ cls := "CakeDivisionModel", name := "worthShare", desc := "(II)I" } : Jvm.MethodName)) ∈ lw_tbl := lw_at lw_m8 26 rfl
theorem q1802 : (Jvm.Cond.instanceMethod ({ cls := "CakeDivisionModel", name := "worthShare", desc := "(II)I" } : Jvm.MethodName)) ∈ lw_all := lw_g (lw_at lw_m8 27 rfl) rfl
theorem q1803 : (Jvm.Cond.code ({ cls := "CakeDivisionModel", name := "worthShare", desc := "(II)I" } : Jvm.MethodName) prog_9_method_15_code (5 : Nat) (Option.some Jvm.ClassFile.FieldType.int)) ∈ lw_all := lw_g (lw_at lw_m8 28 rfl) rfl
theorem q1804 : (Jvm.Cond.methodLink "CakeDivisionModel" (113 : Nat) ({ cls := "CakeDivisionModel", name := "ownerOf", desc := "(I)I" } : Jvm.MethodName)) ∈ lw_all := lw_g (lw_at lw_m8 29 rfl) rfl
theorem q1805 : (Jvm.Cond.privateMethod ({ cls := "CakeDivisionModel", name := "ownerOf", desc := "(I)I" } : Jvm.MethodName)) ∈ lw_tbl := lw_at lw_m8 30 rfl
theorem q1806 : (Jvm.Cond.instanceMethod ({ cls := "CakeDivisionModel", name := "ownerOf", desc := "(I)I" } : Jvm.MethodName)) ∈ lw_all := lw_g (lw_at lw_m8 31 rfl) rfl
theorem q1807 : (Jvm.Cond.code ({ cls := "CakeDivisionModel", name := "ownerOf", desc := "(I)I" } : Jvm.MethodName) prog_9_method_10_code (2 : Nat) (Option.some Jvm.ClassFile.FieldType.int)) ∈ lw_all := lw_g (lw_at lw_m8 32 rfl) rfl
theorem q1808 : (Jvm.Cond.methodLink "CakeDivisionModel" (105 : Nat) ({ cls := "CakeDivisionModel", name := "valueOf", desc := "(II)I" } : Jvm.MethodName)) ∈ lw_all := lw_g (lw_at lw_m8 33 rfl) rfl
theorem q1809 : (Jvm.Cond.privateMethod ({ cls := "CakeDivisionModel", name := "valueOf", desc := "(II)I" } : Jvm.MethodName)) ∈ lw_tbl := lw_at lw_m8 34 rfl
theorem q1810 : (Jvm.Cond.instanceMethod ({ cls := "CakeDivisionModel", name := "valueOf", desc := "(II)I" } : Jvm.MethodName)) ∈ lw_all := lw_g (lw_at lw_m8 35 rfl) rfl
theorem q1811 : (Jvm.Cond.code ({ cls := "CakeDivisionModel", name := "valueOf", desc := "(II)I" } : Jvm.MethodName) prog_9_method_9_code (3 : Nat) (Option.some Jvm.ClassFile.FieldType.int)) ∈ lw_all := lw_g (lw_at lw_m8 36 rfl) rfl
theorem q1812 : (Jvm.Cond.methodLink "CakeDivisionModel" (120 : Nat) ({ cls := "CakeDivisionModel", name := "welfareOf", desc := "(I)I" } : Jvm.MethodName)) ∈ lw_all := lw_g (lw_at lw_m8 37 rfl) rfl
theorem q1813 : (Jvm.Cond.privateMethod ({ cls := "CakeDivisionModel", name := "welfareOf", desc := "(I)I" } : Jvm.MethodName)) ∈ lw_tbl := lw_at lw_m8 38 rfl
theorem q1814 : (Jvm.Cond.instanceMethod ({ cls := "CakeDivisionModel", name := "welfareOf", desc := "(I)I" } : Jvm.MethodName)) ∈ lw_all := lw_g (lw_at lw_m8 39 rfl) rfl
theorem q1815 : (Jvm.Cond.code ({ cls := "CakeDivisionModel", name := "welfareOf", desc := "(I)I" } : Jvm.MethodName) prog_9_method_16_code (2 : Nat) (Option.some Jvm.ClassFile.FieldType.int)) ∈ lw_all := lw_g (lw_at lw_m8 40 rfl) rfl
theorem q1816 : (Jvm.Cond.methodLink "CakeDivisionModel" (269 : Nat) ({ cls := "CakeDivisionModel", name := "doIt", desc := "(IIII)V" } : Jvm.MethodName)) ∈ lw_all := lw_g (lw_at lw_m8 41 rfl) rfl
theorem q1817 : (Jvm.Cond.privateMethod ({ cls := "CakeDivisionModel", name := "doIt", desc := "(IIII)V" } : Jvm.MethodName)) ∈ lw_tbl := lw_at lw_m8 42 rfl
theorem q1818 : (Jvm.Cond.instanceMethod ({ cls := "CakeDivisionModel", name := "doIt", desc := "(IIII)V" } : Jvm.MethodName)) ∈ lw_all := lw_g (lw_at lw_m8 43 rfl) rfl
theorem q1819 : (Jvm.Cond.code ({ cls := "CakeDivisionModel", name := "doIt", desc := "(IIII)V" } : Jvm.MethodName) prog_9_method_66_code (5 : Nat) (Option.none : Option Jvm.ClassFile.FieldType)) ∈ lw_all := lw_g (lw_at lw_m8 44 rfl) rfl
theorem q1820 : (Jvm.Cond.methodLink "CakeDivisionModel" (140 : Nat) ({ cls := "CakeDivisionModel", name := "own", desc := "(III)V" } : Jvm.MethodName)) ∈ lw_all := lw_g (lw_at lw_m8 45 rfl) rfl
theorem q1821 : (Jvm.Cond.privateMethod ({ cls := "CakeDivisionModel", name := "own", desc := "(III)V" } : Jvm.MethodName)) ∈ lw_tbl := lw_at lw_m8 46 rfl
theorem q1822 : (Jvm.Cond.instanceMethod ({ cls := "CakeDivisionModel", name := "own", desc := "(III)V" } : Jvm.MethodName)) ∈ lw_all := lw_g (lw_at lw_m8 47 rfl) rfl
theorem q1823 : (Jvm.Cond.code ({ cls := "CakeDivisionModel", name := "own", desc := "(III)V" } : Jvm.MethodName) prog_9_method_29_code (5 : Nat) (Option.none : Option Jvm.ClassFile.FieldType)) ∈ lw_all := lw_g (lw_at lw_m8 48 rfl) rfl
theorem q1824 : (Jvm.Cond.methodLink "CakeDivisionModel" (247 : Nat) ({ cls := "CakeDivisionModel", name := "exchange", desc := "(II)V" } : Jvm.MethodName)) ∈ lw_all := lw_g (lw_at lw_m8 49 rfl) rfl
theorem q1825 : (Jvm.Cond.privateMethod ({ cls := "CakeDivisionModel", name := "exchange", desc := "(II)V" } : Jvm.MethodName)) ∈ lw_tbl := lw_at lw_m8 50 rfl
theorem q1826 : (Jvm.Cond.instanceMethod ({ cls := "CakeDivisionModel", name := "exchange", desc := "(II)V" } : Jvm.MethodName)) ∈ lw_all := lw_g (lw_at lw_m8 51 rfl) rfl
theorem q1827 : (Jvm.Cond.code ({ cls := "CakeDivisionModel", name := "exchange", desc := "(II)V" } : Jvm.MethodName) prog_9_method_34_code (5 : Nat) (Option.none : Option Jvm.ClassFile.FieldType)) ∈ lw_all := lw_g (lw_at lw_m8 52 rfl) rfl
theorem q1828 : (Jvm.Cond.methodLink "CakeDivisionModel" (250 : Nat) ({ cls := "CakeDivisionModel", name := "divide", desc := "(II)I" } : Jvm.MethodName)) ∈ lw_all := lw_g (lw_at lw_m8 53 rfl) rfl
theorem q1829 : (Jvm.Cond.privateMethod ({ cls := "CakeDivisionModel", name := "divide", desc := "(II)I" } : Jvm.MethodName)) ∈ lw_tbl := lw_at lw_m8 54 rfl
theorem q1830 : (Jvm.Cond.instanceMethod ({ cls := "CakeDivisionModel", name := "divide", desc := "(II)I" } : Jvm.MethodName)) ∈ lw_all := lw_g (lw_at lw_m8 55 rfl) rfl
theorem q1831 : (Jvm.Cond.code ({ cls := "CakeDivisionModel", name := "divide", desc := "(II)I" } : Jvm.MethodName) prog_9_method_31_code (5 : Nat) (Option.some Jvm.ClassFile.FieldType.int)) ∈ lw_all := lw_g (lw_at lw_m8 56 rfl) rfl
theorem q1832 : (Jvm.Cond.methodLink "CakeDivisionModel" (137 : Nat) ({ cls := "CakeDivisionModel", name := "cutOf", desc := "(I)I" } : Jvm.MethodName)) ∈ lw_all := lw_g (lw_at lw_m8 57 rfl) rfl
theorem q1833 : (Jvm.Cond.privateMethod ({ cls := "CakeDivisionModel", name := "cutOf", desc := "(I)I" } : Jvm.MethodName)) ∈ lw_tbl := lw_at lw_m8 58 rfl
theorem q1834 : (Jvm.Cond.instanceMethod ({ cls := "CakeDivisionModel", name := "cutOf", desc := "(I)I" } : Jvm.MethodName)) ∈ lw_all := lw_g (lw_at lw_m8 59 rfl) rfl
theorem q1835 : (Jvm.Cond.code ({ cls := "CakeDivisionModel", name := "cutOf", desc := "(I)I" } : Jvm.MethodName) prog_9_method_30_code (6 : Nat) (Option.some Jvm.ClassFile.FieldType.int)) ∈ lw_all := lw_g (lw_at lw_m8 60 rfl) rfl
theorem q1836 : (Jvm.Cond.methodLink "CakeDivisionModel" (123 : Nat) ({ cls := "CakeDivisionModel", name := "totalOf", desc := "(I)I" } : Jvm.MethodName)) ∈ lw_all := lw_g (lw_at lw_m8 61 rfl) rfl
theorem q1837 : (Jvm.Cond.privateMethod ({ cls := "CakeDivisionModel", name := "totalOf", desc := "(I)I" } : Jvm.MethodName)) ∈ lw_tbl := lw_at lw_m8 62 rfl
theorem q1838 : (Jvm.Cond.instanceMethod ({ cls := "CakeDivisionModel", name := "totalOf", desc := "(I)I" } : Jvm.MethodName)) ∈ lw_all := lw_g (lw_at lw_m8 63 rfl) rfl
theorem q1839 : (Jvm.Cond.code ({ cls := "CakeDivisionModel", name := "totalOf", desc := "(I)I" } : Jvm.MethodName) prog_9_method_14_code (2 : Nat) (Option.some Jvm.ClassFile.FieldType.int)) ∈ lw_all := lw_g (lw_at lw_m8 64 rfl) rfl
theorem q1840 : (Jvm.Cond.methodLink "CakeDivisionModel" (109 : Nat) ({ cls := "CakeDivisionModel", name := "worthOf", desc := "(III)I" } : Jvm.MethodName)) ∈ lw_all := lw_g (lw_at lw_m8 65 rfl) rfl
theorem q1841 : (Jvm.Cond.privateMethod ({ cls := "CakeDivisionModel", name := "worthOf", desc := "(III)I" } : Jvm.MethodName)) ∈ lw_tbl := lw_at lw_m8 66 rfl
theorem q1842 : (Jvm.Cond.instanceMethod ({ cls := "CakeDivisionModel", name := "worthOf", desc := "(III)I" } : Jvm.MethodName)) ∈ lw_all := lw_g (lw_at lw_m8 67 rfl) rfl
theorem q1843 : (Jvm.Cond.code ({ cls := "CakeDivisionModel", name := "worthOf", desc := "(III)I" } : Jvm.MethodName) prog_9_method_13_code (6 : Nat) (Option.some Jvm.ClassFile.FieldType.int)) ∈ lw_all := lw_g (lw_at lw_m8 68 rfl) rfl
theorem q1844 : (Jvm.Cond.methodLink "CakeDivisionModel" (252 : Nat) ({ cls := "CakeDivisionModel", name := "knife", desc := "()I" } : Jvm.MethodName)) ∈ lw_all := lw_g (lw_at lw_m8 69 rfl) rfl
theorem q1845 : (Jvm.Cond.privateMethod ({ cls := "CakeDivisionModel", name := "knife", desc := "()I" } : Jvm.MethodName)) ∈ lw_tbl := lw_at lw_m8 70 rfl
theorem q1846 : (Jvm.Cond.instanceMethod ({ cls := "CakeDivisionModel", name := "knife", desc := "()I" } : Jvm.MethodName)) ∈ lw_all := lw_g (lw_at lw_m8 71 rfl) rfl
theorem q1847 : (Jvm.Cond.code ({ cls := "CakeDivisionModel", name := "knife", desc := "()I" } : Jvm.MethodName) prog_9_method_32_code (7 : Nat) (Option.some Jvm.ClassFile.FieldType.int)) ∈ lw_all := lw_g (lw_at lw_m8 72 rfl) rfl
theorem q1848 : (Jvm.Cond.methodLink "CakeDivisionModel" (147 : Nat) ({ cls := "CakeDivisionModel", name := "markOf", desc := "(III)I" } : Jvm.MethodName)) ∈ lw_all := lw_g (lw_at lw_m8 73 rfl) rfl
theorem q1849 : (Jvm.Cond.privateMethod ({ cls := "CakeDivisionModel", name := "markOf", desc := "(III)I" } : Jvm.MethodName)) ∈ lw_tbl := lw_at lw_m8 74 rfl
theorem q1850 : (Jvm.Cond.instanceMethod ({ cls := "CakeDivisionModel", name := "markOf", desc := "(III)I" } : Jvm.MethodName)) ∈ lw_all := lw_g (lw_at lw_m8 75 rfl) rfl
theorem q1851 : (Jvm.Cond.code ({ cls := "CakeDivisionModel", name := "markOf", desc := "(III)I" } : Jvm.MethodName) prog_9_method_19_code (7 : Nat) (Option.some Jvm.ClassFile.FieldType.int)) ∈ lw_all := lw_g (lw_at lw_m8 76 rfl) rfl
theorem q1852 : (Jvm.Cond.methodLink "CakeDivisionModel" (150 : Nat) ({ cls := "CakeDivisionModel", name := "contentCount", desc := "()I" } : Jvm.MethodName)) ∈ lw_all := lw_g (lw_at lw_m8 77 rfl) rfl
theorem q1853 : (Jvm.Cond.privateMethod ({ cls := "CakeDivisionModel", name := "contentCount", desc := "()I" } : Jvm.MethodName)) ∈ lw_tbl := lw_at lw_m8 78 rfl
theorem q1854 : (Jvm.Cond.instanceMethod ({ cls := "CakeDivisionModel", name := "contentCount", desc := "()I" } : Jvm.MethodName)) ∈ lw_all := lw_g (lw_at lw_m8 79 rfl) rfl
theorem q1855 : (Jvm.Cond.code ({ cls := "CakeDivisionModel", name := "contentCount", desc := "()I" } : Jvm.MethodName) prog_9_method_24_code (3 : Nat) (Option.some Jvm.ClassFile.FieldType.int)) ∈ lw_all := lw_g (lw_at lw_m8 80 rfl) rfl
theorem q1856 : (Jvm.Cond.methodLink "CakeDivisionModel" (126 : Nat) ({ cls := "CakeDivisionModel", name := "isContent", desc := "(I)Z" } : Jvm.MethodName)) ∈ lw_all := lw_g (lw_at lw_m8 81 rfl) rfl
theorem q1857 : (Jvm.Cond.privateMethod ({ cls := "CakeDivisionModel", name := "isContent", desc := "(I)Z" } : Jvm.MethodName)) ∈ lw_tbl := lw_at lw_m8 82 rfl
theorem q1858 : (Jvm.Cond.instanceMethod ({ cls := "CakeDivisionModel", name := "isContent", desc := "(I)Z" } : Jvm.MethodName)) ∈ lw_all := lw_g (lw_at lw_m8 83 rfl) rfl
theorem q1859 : (Jvm.Cond.code ({ cls := "CakeDivisionModel", name := "isContent", desc := "(I)Z" } : Jvm.MethodName) prog_9_method_23_code (2 : Nat) (Option.some Jvm.ClassFile.FieldType.boolean)) ∈ lw_all := lw_g (lw_at lw_m8 84 rfl) rfl
theorem q1860 : (Jvm.Cond.methodLink "CakeDivisionModel" (254 : Nat) ({ cls := "CakeDivisionModel", name := "robin", desc := "(I)I" } : Jvm.MethodName)) ∈ lw_all := lw_g (lw_at lw_m8 85 rfl) rfl
theorem q1861 : (Jvm.Cond.privateMethod ({ cls := "CakeDivisionModel", name := "robin", desc := "(I)I" } : Jvm.MethodName)) ∈ lw_tbl := lw_at lw_m8 86 rfl
theorem q1862 : (Jvm.Cond.instanceMethod ({ cls := "CakeDivisionModel", name := "robin", desc := "(I)I" } : Jvm.MethodName)) ∈ lw_all := lw_g (lw_at lw_m8 87 rfl) rfl
theorem q1863 : (Jvm.Cond.code ({ cls := "CakeDivisionModel", name := "robin", desc := "(I)I" } : Jvm.MethodName) prog_9_method_33_code (5 : Nat) (Option.some Jvm.ClassFile.FieldType.int)) ∈ lw_all := lw_g (lw_at lw_m8 88 rfl) rfl
theorem q1864 : (Jvm.Cond.methodLink "CakeDivisionModel" (153 : Nat) ({ cls := "CakeDivisionModel", name := "favourite", desc := "(I)I" } : Jvm.MethodName)) ∈ lw_all := lw_g (lw_at lw_m8 89 rfl) rfl
theorem q1865 : (Jvm.Cond.privateMethod ({ cls := "CakeDivisionModel", name := "favourite", desc := "(I)I" } : Jvm.MethodName)) ∈ lw_tbl := lw_at lw_m8 90 rfl
theorem q1866 : (Jvm.Cond.instanceMethod ({ cls := "CakeDivisionModel", name := "favourite", desc := "(I)I" } : Jvm.MethodName)) ∈ lw_all := lw_g (lw_at lw_m8 91 rfl) rfl
theorem q1867 : (Jvm.Cond.code ({ cls := "CakeDivisionModel", name := "favourite", desc := "(I)I" } : Jvm.MethodName) prog_9_method_20_code (4 : Nat) (Option.some Jvm.ClassFile.FieldType.int)) ∈ lw_all := lw_g (lw_at lw_m8 92 rfl) rfl
theorem q1868 : (Jvm.Cond.methodLink "CakeDivisionModel" (256 : Nat) ({ cls := "CakeDivisionModel", name := "turnCycle", desc := "(I)I" } : Jvm.MethodName)) ∈ lw_all := lw_g (lw_at lw_m8 93 rfl) rfl
theorem q1869 : (Jvm.Cond.privateMethod ({ cls := "CakeDivisionModel", name := "turnCycle", desc := "(I)I" } : Jvm.MethodName)) ∈ lw_tbl := lw_at lw_m8 94 rfl
theorem q1870 : (Jvm.Cond.instanceMethod ({ cls := "CakeDivisionModel", name := "turnCycle", desc := "(I)I" } : Jvm.MethodName)) ∈ lw_all := lw_g (lw_at lw_m8 95 rfl) rfl
theorem q1871 : (Jvm.Cond.code ({ cls := "CakeDivisionModel", name := "turnCycle", desc := "(I)I" } : Jvm.MethodName) prog_9_method_35_code (6 : Nat) (Option.some Jvm.ClassFile.FieldType.int)) ∈ lw_all := lw_g (lw_at lw_m8 96 rfl) rfl
theorem q1873 : (Jvm.Cond.instanceMethod ({ cls := "CakeDivisionModel", name := "errorCode", desc := "()I" } : Jvm.MethodName)) ∈ lw_all := lw_g (lw_at lw_m8 98 rfl) rfl
theorem q1874 : (Jvm.Cond.selects "CakeDivisionModel" ({ cls := "CakeDivisionModel", name := "errorCode", desc := "()I" } : Jvm.MethodName) ({ cls := "CakeDivisionModel", name := "errorCode", desc := "()I" } : Jvm.MethodName)) ∈ lw_all := lw_g (lw_at lw_m8 99 rfl) rfl
theorem q1875 : (Jvm.Cond.code ({ cls := "CakeDivisionModel", name := "errorCode", desc := "()I" } : Jvm.MethodName) prog_9_method_68_code (1 : Nat) (Option.some Jvm.ClassFile.FieldType.int)) ∈ lw_all := lw_g (lw_at lw_m8 100 rfl) rfl
theorem q1877 : (Jvm.Cond.instanceMethod ({ cls := "CakeDivisionModel", name := "errorPosition", desc := "()I" } : Jvm.MethodName)) ∈ lw_all := lw_g (lw_at lw_m8 102 rfl) rfl
theorem q1878 : (Jvm.Cond.selects "CakeDivisionModel" ({ cls := "CakeDivisionModel", name := "errorPosition", desc := "()I" } : Jvm.MethodName) ({ cls := "CakeDivisionModel", name := "errorPosition", desc := "()I" } : Jvm.MethodName)) ∈ lw_all := lw_g (lw_at lw_m8 103 rfl) rfl
theorem q1879 : (Jvm.Cond.code ({ cls := "CakeDivisionModel", name := "errorPosition", desc := "()I" } : Jvm.MethodName) prog_9_method_69_code (1 : Nat) (Option.some Jvm.ClassFile.FieldType.int)) ∈ lw_all := lw_g (lw_at lw_m8 104 rfl) rfl
theorem q1881 : (Jvm.Cond.instanceMethod ({ cls := "CakeDivisionModel", name := "cellCount", desc := "()I" } : Jvm.MethodName)) ∈ lw_all := lw_g (lw_at lw_m8 106 rfl) rfl
theorem q1882 : (Jvm.Cond.selects "CakeDivisionModel" ({ cls := "CakeDivisionModel", name := "cellCount", desc := "()I" } : Jvm.MethodName) ({ cls := "CakeDivisionModel", name := "cellCount", desc := "()I" } : Jvm.MethodName)) ∈ lw_all := lw_g (lw_at lw_m8 107 rfl) rfl
theorem q1883 : (Jvm.Cond.code ({ cls := "CakeDivisionModel", name := "cellCount", desc := "()I" } : Jvm.MethodName) prog_9_method_71_code (1 : Nat) (Option.some Jvm.ClassFile.FieldType.int)) ∈ lw_all := lw_g (lw_at lw_m8 108 rfl) rfl
theorem q1884 : (Jvm.Cond.methodLink "CakeDivisionModel" (273 : Nat) ({ cls := "CakeDivisionModel", name := "plain", desc := "(I)I" } : Jvm.MethodName)) ∈ lw_all := lw_g (lw_at lw_m8 109 rfl) rfl
theorem q1885 : (Jvm.Cond.privateMethod ({ cls := "CakeDivisionModel", name := "plain", desc := "(I)I" } : Jvm.MethodName)) ∈ lw_tbl := lw_at lw_m8 110 rfl
theorem q1886 : (Jvm.Cond.instanceMethod ({ cls := "CakeDivisionModel", name := "plain", desc := "(I)I" } : Jvm.MethodName)) ∈ lw_all := lw_g (lw_at lw_m8 111 rfl) rfl
theorem q1887 : (Jvm.Cond.code ({ cls := "CakeDivisionModel", name := "plain", desc := "(I)I" } : Jvm.MethodName) prog_9_method_70_code (2 : Nat) (Option.some Jvm.ClassFile.FieldType.int)) ∈ lw_all := lw_g (lw_at lw_m8 112 rfl) rfl
theorem q1889 : (Jvm.Cond.instanceMethod ({ cls := "CakeDivisionModel", name := "siblingCount", desc := "()I" } : Jvm.MethodName)) ∈ lw_all := lw_g (lw_at lw_m8 114 rfl) rfl
theorem q1890 : (Jvm.Cond.selects "CakeDivisionModel" ({ cls := "CakeDivisionModel", name := "siblingCount", desc := "()I" } : Jvm.MethodName) ({ cls := "CakeDivisionModel", name := "siblingCount", desc := "()I" } : Jvm.MethodName)) ∈ lw_all := lw_g (lw_at lw_m8 115 rfl) rfl
theorem q1891 : (Jvm.Cond.code ({ cls := "CakeDivisionModel", name := "siblingCount", desc := "()I" } : Jvm.MethodName) prog_9_method_72_code (1 : Nat) (Option.some Jvm.ClassFile.FieldType.int)) ∈ lw_all := lw_g (lw_at lw_m8 116 rfl) rfl
theorem q1893 : (Jvm.Cond.instanceMethod ({ cls := "CakeDivisionModel", name := "nameByte", desc := "(II)I" } : Jvm.MethodName)) ∈ lw_all := lw_g (lw_at lw_m8 118 rfl) rfl
theorem q1894 : (Jvm.Cond.selects "CakeDivisionModel" ({ cls := "CakeDivisionModel", name := "nameByte", desc := "(II)I" } : Jvm.MethodName) ({ cls := "CakeDivisionModel", name := "nameByte", desc := "(II)I" } : Jvm.MethodName)) ∈ lw_all := lw_g (lw_at lw_m8 119 rfl) rfl
theorem q1895 : (Jvm.Cond.code ({ cls := "CakeDivisionModel", name := "nameByte", desc := "(II)I" } : Jvm.MethodName) prog_9_method_73_code (4 : Nat) (Option.some Jvm.ClassFile.FieldType.int)) ∈ lw_all := lw_g (lw_at lw_m8 120 rfl) rfl
theorem q1896 : (Jvm.Cond.methodLink "CakeDivisionModel" (94 : Nat) ({ cls := "CakeDivisionModel", name := "isSibling", desc := "(I)Z" } : Jvm.MethodName)) ∈ lw_all := lw_g (lw_at lw_m8 121 rfl) rfl
theorem q1897 : (Jvm.Cond.privateMethod ({ cls := "CakeDivisionModel", name := "isSibling", desc := "(I)Z" } : Jvm.MethodName)) ∈ lw_tbl := lw_at lw_m8 122 rfl
theorem q1898 : (Jvm.Cond.instanceMethod ({ cls := "CakeDivisionModel", name := "isSibling", desc := "(I)Z" } : Jvm.MethodName)) ∈ lw_all := lw_g (lw_at lw_m8 123 rfl) rfl
theorem q1899 : (Jvm.Cond.code ({ cls := "CakeDivisionModel", name := "isSibling", desc := "(I)Z" } : Jvm.MethodName) prog_9_method_5_code (2 : Nat) (Option.some Jvm.ClassFile.FieldType.boolean)) ∈ lw_all := lw_g (lw_at lw_m8 124 rfl) rfl
theorem q1901 : (Jvm.Cond.instanceMethod ({ cls := "CakeDivisionModel", name := "findSibling", desc := "()I" } : Jvm.MethodName)) ∈ lw_all := lw_g (lw_at lw_m8 126 rfl) rfl
theorem q1902 : (Jvm.Cond.selects "CakeDivisionModel" ({ cls := "CakeDivisionModel", name := "findSibling", desc := "()I" } : Jvm.MethodName) ({ cls := "CakeDivisionModel", name := "findSibling", desc := "()I" } : Jvm.MethodName)) ∈ lw_all := lw_g (lw_at lw_m8 127 rfl) rfl
theorem q1903 : (Jvm.Cond.code ({ cls := "CakeDivisionModel", name := "findSibling", desc := "()I" } : Jvm.MethodName) prog_9_method_74_code (2 : Nat) (Option.some Jvm.ClassFile.FieldType.int)) ∈ lw_all := lw_g (lw_at lw_m8 128 rfl) rfl
theorem q1905 : (Jvm.Cond.instanceMethod ({ cls := "CakeDivisionModel", name := "value", desc := "(II)I" } : Jvm.MethodName)) ∈ lw_all := lw_g (lw_at lw_m8 130 rfl) rfl
theorem q1906 : (Jvm.Cond.selects "CakeDivisionModel" ({ cls := "CakeDivisionModel", name := "value", desc := "(II)I" } : Jvm.MethodName) ({ cls := "CakeDivisionModel", name := "value", desc := "(II)I" } : Jvm.MethodName)) ∈ lw_all := lw_g (lw_at lw_m8 131 rfl) rfl
theorem q1907 : (Jvm.Cond.code ({ cls := "CakeDivisionModel", name := "value", desc := "(II)I" } : Jvm.MethodName) prog_9_method_75_code (3 : Nat) (Option.some Jvm.ClassFile.FieldType.int)) ∈ lw_all := lw_g (lw_at lw_m8 132 rfl) rfl
theorem q1909 : (Jvm.Cond.instanceMethod ({ cls := "CakeDivisionModel", name := "owner", desc := "(I)I" } : Jvm.MethodName)) ∈ lw_all := lw_g (lw_at lw_m8 134 rfl) rfl
theorem q1910 : (Jvm.Cond.selects "CakeDivisionModel" ({ cls := "CakeDivisionModel", name := "owner", desc := "(I)I" } : Jvm.MethodName) ({ cls := "CakeDivisionModel", name := "owner", desc := "(I)I" } : Jvm.MethodName)) ∈ lw_all := lw_g (lw_at lw_m8 135 rfl) rfl
theorem q1911 : (Jvm.Cond.code ({ cls := "CakeDivisionModel", name := "owner", desc := "(I)I" } : Jvm.MethodName) prog_9_method_76_code (2 : Nat) (Option.some Jvm.ClassFile.FieldType.int)) ∈ lw_all := lw_g (lw_at lw_m8 136 rfl) rfl
theorem q1913 : (Jvm.Cond.instanceMethod ({ cls := "CakeDivisionModel", name := "worth", desc := "(III)I" } : Jvm.MethodName)) ∈ lw_all := lw_g (lw_at lw_m8 138 rfl) rfl
theorem q1914 : (Jvm.Cond.selects "CakeDivisionModel" ({ cls := "CakeDivisionModel", name := "worth", desc := "(III)I" } : Jvm.MethodName) ({ cls := "CakeDivisionModel", name := "worth", desc := "(III)I" } : Jvm.MethodName)) ∈ lw_all := lw_g (lw_at lw_m8 139 rfl) rfl
theorem q1915 : (Jvm.Cond.code ({ cls := "CakeDivisionModel", name := "worth", desc := "(III)I" } : Jvm.MethodName) prog_9_method_77_code (4 : Nat) (Option.some Jvm.ClassFile.FieldType.int)) ∈ lw_all := lw_g (lw_at lw_m8 140 rfl) rfl
theorem q1917 : (Jvm.Cond.instanceMethod ({ cls := "CakeDivisionModel", name := "total", desc := "(I)I" } : Jvm.MethodName)) ∈ lw_all := lw_g (lw_at lw_m8 142 rfl) rfl
theorem q1918 : (Jvm.Cond.selects "CakeDivisionModel" ({ cls := "CakeDivisionModel", name := "total", desc := "(I)I" } : Jvm.MethodName) ({ cls := "CakeDivisionModel", name := "total", desc := "(I)I" } : Jvm.MethodName)) ∈ lw_all := lw_g (lw_at lw_m8 143 rfl) rfl
theorem q1919 : (Jvm.Cond.code ({ cls := "CakeDivisionModel", name := "total", desc := "(I)I" } : Jvm.MethodName) prog_9_method_78_code (2 : Nat) (Option.some Jvm.ClassFile.FieldType.int)) ∈ lw_all := lw_g (lw_at lw_m8 144 rfl) rfl
theorem q1921 : (Jvm.Cond.instanceMethod ({ cls := "CakeDivisionModel", name := "worthOfShare", desc := "(II)I" } : Jvm.MethodName)) ∈ lw_all := lw_g (lw_at lw_m8 146 rfl) rfl
theorem q1922 : (Jvm.Cond.selects "CakeDivisionModel" ({ cls := "CakeDivisionModel", name := "worthOfShare", desc := "(II)I" } : Jvm.MethodName) ({ cls := "CakeDivisionModel", name := "worthOfShare", desc := "(II)I" } : Jvm.MethodName)) ∈ lw_all := lw_g (lw_at lw_m8 147 rfl) rfl
theorem q1923 : (Jvm.Cond.code ({ cls := "CakeDivisionModel", name := "worthOfShare", desc := "(II)I" } : Jvm.MethodName) prog_9_method_79_code (3 : Nat) (Option.some Jvm.ClassFile.FieldType.int)) ∈ lw_all := lw_g (lw_at lw_m8 148 rfl) rfl
theorem q1924 : (Jvm.Cond.methodLink "CakeDivisionModel" (276 : Nat) ({ cls := "CakeDivisionModel", name := "areSiblings", desc := "(II)Z" } : Jvm.MethodName)) ∈ lw_all := lw_g (lw_at lw_m8 149 rfl) rfl
theorem q1925 : (Jvm.Cond.privateMethod ({ cls := "CakeDivisionModel", name := "areSiblings", desc := "(II)Z" } : Jvm.MethodName)) ∈ lw_tbl := lw_at lw_m8 150 rfl
theorem q1926 : (Jvm.Cond.instanceMethod ({ cls := "CakeDivisionModel", name := "areSiblings", desc := "(II)Z" } : Jvm.MethodName)) ∈ lw_all := lw_g (lw_at lw_m8 151 rfl) rfl
theorem q1927 : (Jvm.Cond.code ({ cls := "CakeDivisionModel", name := "areSiblings", desc := "(II)Z" } : Jvm.MethodName) prog_9_method_6_code (3 : Nat) (Option.some Jvm.ClassFile.FieldType.boolean)) ∈ lw_all := lw_g (lw_at lw_m8 152 rfl) rfl
theorem q1929 : (Jvm.Cond.instanceMethod ({ cls := "CakeDivisionModel", name := "shareSize", desc := "(I)I" } : Jvm.MethodName)) ∈ lw_all := lw_g (lw_at lw_m8 154 rfl) rfl
theorem q1930 : (Jvm.Cond.selects "CakeDivisionModel" ({ cls := "CakeDivisionModel", name := "shareSize", desc := "(I)I" } : Jvm.MethodName) ({ cls := "CakeDivisionModel", name := "shareSize", desc := "(I)I" } : Jvm.MethodName)) ∈ lw_all := lw_g (lw_at lw_m8 155 rfl) rfl
theorem q1931 : (Jvm.Cond.code ({ cls := "CakeDivisionModel", name := "shareSize", desc := "(I)I" } : Jvm.MethodName) prog_9_method_80_code (2 : Nat) (Option.some Jvm.ClassFile.FieldType.int)) ∈ lw_all := lw_g (lw_at lw_m8 156 rfl) rfl
theorem q1932 : (Jvm.Cond.methodLink "CakeDivisionModel" (279 : Nat) ({ cls := "CakeDivisionModel", name := "sizeOf", desc := "(I)I" } : Jvm.MethodName)) ∈ lw_all := lw_g (lw_at lw_m8 157 rfl) rfl
theorem q1933 : (Jvm.Cond.privateMethod ({ cls := "CakeDivisionModel", name := "sizeOf", desc := "(I)I" } : Jvm.MethodName)) ∈ lw_tbl := lw_at lw_m8 158 rfl
theorem q1934 : (Jvm.Cond.instanceMethod ({ cls := "CakeDivisionModel", name := "sizeOf", desc := "(I)I" } : Jvm.MethodName)) ∈ lw_all := lw_g (lw_at lw_m8 159 rfl) rfl
theorem q1935 : (Jvm.Cond.code ({ cls := "CakeDivisionModel", name := "sizeOf", desc := "(I)I" } : Jvm.MethodName) prog_9_method_17_code (4 : Nat) (Option.some Jvm.ClassFile.FieldType.int)) ∈ lw_all := lw_g (lw_at lw_m8 160 rfl) rfl
theorem q1937 : (Jvm.Cond.instanceMethod ({ cls := "CakeDivisionModel", name := "pieceCount", desc := "(I)I" } : Jvm.MethodName)) ∈ lw_all := lw_g (lw_at lw_m8 162 rfl) rfl
theorem q1938 : (Jvm.Cond.selects "CakeDivisionModel" ({ cls := "CakeDivisionModel", name := "pieceCount", desc := "(I)I" } : Jvm.MethodName) ({ cls := "CakeDivisionModel", name := "pieceCount", desc := "(I)I" } : Jvm.MethodName)) ∈ lw_all := lw_g (lw_at lw_m8 163 rfl) rfl
theorem q1939 : (Jvm.Cond.code ({ cls := "CakeDivisionModel", name := "pieceCount", desc := "(I)I" } : Jvm.MethodName) prog_9_method_81_code (2 : Nat) (Option.some Jvm.ClassFile.FieldType.int)) ∈ lw_all := lw_g (lw_at lw_m8 164 rfl) rfl
theorem q1940 : (Jvm.Cond.methodLink "CakeDivisionModel" (282 : Nat) ({ cls := "CakeDivisionModel", name := "pieces", desc := "(I)I" } : Jvm.MethodName)) ∈ lw_all := lw_g (lw_at lw_m8 165 rfl) rfl
theorem q1941 : (Jvm.Cond.privateMethod ({ cls := "CakeDivisionModel", name := "pieces", desc := "(I)I" } : Jvm.MethodName)) ∈ lw_tbl := lw_at lw_m8 166 rfl
theorem q1942 : (Jvm.Cond.instanceMethod ({ cls := "CakeDivisionModel", name := "pieces", desc := "(I)I" } : Jvm.MethodName)) ∈ lw_all := lw_g (lw_at lw_m8 167 rfl) rfl
theorem q1943 : (Jvm.Cond.code ({ cls := "CakeDivisionModel", name := "pieces", desc := "(I)I" } : Jvm.MethodName) prog_9_method_18_code (4 : Nat) (Option.some Jvm.ClassFile.FieldType.int)) ∈ lw_all := lw_g (lw_at lw_m8 168 rfl) rfl
theorem q1945 : (Jvm.Cond.instanceMethod ({ cls := "CakeDivisionModel", name := "freeCount", desc := "()I" } : Jvm.MethodName)) ∈ lw_all := lw_g (lw_at lw_m8 170 rfl) rfl
theorem q1946 : (Jvm.Cond.selects "CakeDivisionModel" ({ cls := "CakeDivisionModel", name := "freeCount", desc := "()I" } : Jvm.MethodName) ({ cls := "CakeDivisionModel", name := "freeCount", desc := "()I" } : Jvm.MethodName)) ∈ lw_all := lw_g (lw_at lw_m8 171 rfl) rfl
theorem q1947 : (Jvm.Cond.code ({ cls := "CakeDivisionModel", name := "freeCount", desc := "()I" } : Jvm.MethodName) prog_9_method_82_code (1 : Nat) (Option.some Jvm.ClassFile.FieldType.int)) ∈ lw_all := lw_g (lw_at lw_m8 172 rfl) rfl
theorem q1949 : (Jvm.Cond.instanceMethod ({ cls := "CakeDivisionModel", name := "mark", desc := "(III)I" } : Jvm.MethodName)) ∈ lw_all := lw_g (lw_at lw_m8 174 rfl) rfl
theorem q1950 : (Jvm.Cond.selects "CakeDivisionModel" ({ cls := "CakeDivisionModel", name := "mark", desc := "(III)I" } : Jvm.MethodName) ({ cls := "CakeDivisionModel", name := "mark", desc := "(III)I" } : Jvm.MethodName)) ∈ lw_all := lw_g (lw_at lw_m8 175 rfl) rfl
theorem q1951 : (Jvm.Cond.code ({ cls := "CakeDivisionModel", name := "mark", desc := "(III)I" } : Jvm.MethodName) prog_9_method_83_code (4 : Nat) (Option.some Jvm.ClassFile.FieldType.int)) ∈ lw_all := lw_g (lw_at lw_m8 176 rfl) rfl
theorem q1953 : (Jvm.Cond.instanceMethod ({ cls := "CakeDivisionModel", name := "favouriteFreeCell", desc := "(I)I" } : Jvm.MethodName)) ∈ lw_all := lw_g (lw_at lw_m8 178 rfl) rfl
theorem q1954 : (Jvm.Cond.selects "CakeDivisionModel" ({ cls := "CakeDivisionModel", name := "favouriteFreeCell", desc := "(I)I" } : Jvm.MethodName) ({ cls := "CakeDivisionModel", name := "favouriteFreeCell", desc := "(I)I" } : Jvm.MethodName)) ∈ lw_all := lw_g (lw_at lw_m8 179 rfl) rfl
theorem q1955 : (Jvm.Cond.code ({ cls := "CakeDivisionModel", name := "favouriteFreeCell", desc := "(I)I" } : Jvm.MethodName) prog_9_method_84_code (2 : Nat) (Option.some Jvm.ClassFile.FieldType.int)) ∈ lw_all := lw_g (lw_at lw_m8 180 rfl) rfl
theorem q1957 : (Jvm.Cond.instanceMethod ({ cls := "CakeDivisionModel", name := "envies", desc := "(II)Z" } : Jvm.MethodName)) ∈ lw_all := lw_g (lw_at lw_m8 182 rfl) rfl
theorem q1958 : (Jvm.Cond.selects "CakeDivisionModel" ({ cls := "CakeDivisionModel", name := "envies", desc := "(II)Z" } : Jvm.MethodName) ({ cls := "CakeDivisionModel", name := "envies", desc := "(II)Z" } : Jvm.MethodName)) ∈ lw_all := lw_g (lw_at lw_m8 183 rfl) rfl
theorem q1959 : (Jvm.Cond.code ({ cls := "CakeDivisionModel", name := "envies", desc := "(II)Z" } : Jvm.MethodName) prog_9_method_85_code (3 : Nat) (Option.some Jvm.ClassFile.FieldType.boolean)) ∈ lw_all := lw_g (lw_at lw_m8 184 rfl) rfl
theorem q1961 : (Jvm.Cond.instanceMethod ({ cls := "CakeDivisionModel", name := "isMild", desc := "(II)Z" } : Jvm.MethodName)) ∈ lw_all := lw_g (lw_at lw_m8 186 rfl) rfl
theorem q1962 : (Jvm.Cond.selects "CakeDivisionModel" ({ cls := "CakeDivisionModel", name := "isMild", desc := "(II)Z" } : Jvm.MethodName) ({ cls := "CakeDivisionModel", name := "isMild", desc := "(II)Z" } : Jvm.MethodName)) ∈ lw_all := lw_g (lw_at lw_m8 187 rfl) rfl
theorem q1963 : (Jvm.Cond.code ({ cls := "CakeDivisionModel", name := "isMild", desc := "(II)Z" } : Jvm.MethodName) prog_9_method_86_code (4 : Nat) (Option.some Jvm.ClassFile.FieldType.boolean)) ∈ lw_all := lw_g (lw_at lw_m8 188 rfl) rfl
theorem q1964 : (Jvm.Cond.methodLink "CakeDivisionModel" (285 : Nat) ({ cls := "CakeDivisionModel", name := "hasMildEnvy", desc := "(II)Z" } : Jvm.MethodName)) ∈ lw_all := lw_g (lw_at lw_m8 189 rfl) rfl
theorem q1965 : (Jvm.Cond.privateMethod ({ cls := "CakeDivisionModel", name := "hasMildEnvy", desc := "(II)Z" } : Jvm.MethodName)) ∈ lw_tbl := lw_at lw_m8 190 rfl
theorem q1966 : (Jvm.Cond.instanceMethod ({ cls := "CakeDivisionModel", name := "hasMildEnvy", desc := "(II)Z" } : Jvm.MethodName)) ∈ lw_all := lw_g (lw_at lw_m8 191 rfl) rfl
theorem q1967 : (Jvm.Cond.code ({ cls := "CakeDivisionModel", name := "hasMildEnvy", desc := "(II)Z" } : Jvm.MethodName) prog_9_method_22_code (5 : Nat) (Option.some Jvm.ClassFile.FieldType.boolean)) ∈ lw_all := lw_g (lw_at lw_m8 192 rfl) rfl
theorem q1969 : (Jvm.Cond.instanceMethod ({ cls := "CakeDivisionModel", name := "envyCount", desc := "()I" } : Jvm.MethodName)) ∈ lw_all := lw_g (lw_at lw_m8 194 rfl) rfl
theorem q1970 : (Jvm.Cond.selects "CakeDivisionModel" ({ cls := "CakeDivisionModel", name := "envyCount", desc := "()I" } : Jvm.MethodName) ({ cls := "CakeDivisionModel", name := "envyCount", desc := "()I" } : Jvm.MethodName)) ∈ lw_all := lw_g (lw_at lw_m8 195 rfl) rfl
theorem q1971 : (Jvm.Cond.code ({ cls := "CakeDivisionModel", name := "envyCount", desc := "()I" } : Jvm.MethodName) prog_9_method_87_code (1 : Nat) (Option.some Jvm.ClassFile.FieldType.int)) ∈ lw_all := lw_g (lw_at lw_m8 196 rfl) rfl
theorem q1972 : (Jvm.Cond.methodLink "CakeDivisionModel" (288 : Nat) ({ cls := "CakeDivisionModel", name := "envyTotal", desc := "()I" } : Jvm.MethodName)) ∈ lw_all := lw_g (lw_at lw_m8 197 rfl) rfl
theorem q1973 : (Jvm.Cond.privateMethod ({ cls := "CakeDivisionModel", name := "envyTotal", desc := "()I" } : Jvm.MethodName)) ∈ lw_tbl := lw_at lw_m8 198 rfl
theorem q1974 : (Jvm.Cond.instanceMethod ({ cls := "CakeDivisionModel", name := "envyTotal", desc := "()I" } : Jvm.MethodName)) ∈ lw_all := lw_g (lw_at lw_m8 199 rfl) rfl
theorem q1975 : (Jvm.Cond.code ({ cls := "CakeDivisionModel", name := "envyTotal", desc := "()I" } : Jvm.MethodName) prog_9_method_25_code (4 : Nat) (Option.some Jvm.ClassFile.FieldType.int)) ∈ lw_all := lw_g (lw_at lw_m8 200 rfl) rfl
theorem q1977 : (Jvm.Cond.instanceMethod ({ cls := "CakeDivisionModel", name := "strongEnvyCount", desc := "()I" } : Jvm.MethodName)) ∈ lw_all := lw_g (lw_at lw_m8 202 rfl) rfl
theorem q1978 : (Jvm.Cond.selects "CakeDivisionModel" ({ cls := "CakeDivisionModel", name := "strongEnvyCount", desc := "()I" } : Jvm.MethodName) ({ cls := "CakeDivisionModel", name := "strongEnvyCount", desc := "()I" } : Jvm.MethodName)) ∈ lw_all := lw_g (lw_at lw_m8 203 rfl) rfl
theorem q1979 : (Jvm.Cond.code ({ cls := "CakeDivisionModel", name := "strongEnvyCount", desc := "()I" } : Jvm.MethodName) prog_9_method_88_code (4 : Nat) (Option.some Jvm.ClassFile.FieldType.int)) ∈ lw_all := lw_g (lw_at lw_m8 204 rfl) rfl
theorem q1981 : (Jvm.Cond.instanceMethod ({ cls := "CakeDivisionModel", name := "mostEnvied", desc := "()I" } : Jvm.MethodName)) ∈ lw_all := lw_g (lw_at lw_m8 206 rfl) rfl
theorem q1982 : (Jvm.Cond.selects "CakeDivisionModel" ({ cls := "CakeDivisionModel", name := "mostEnvied", desc := "()I" } : Jvm.MethodName) ({ cls := "CakeDivisionModel", name := "mostEnvied", desc := "()I" } : Jvm.MethodName)) ∈ lw_all := lw_g (lw_at lw_m8 207 rfl) rfl
theorem q1983 : (Jvm.Cond.code ({ cls := "CakeDivisionModel", name := "mostEnvied", desc := "()I" } : Jvm.MethodName) prog_9_method_90_code (3 : Nat) (Option.some Jvm.ClassFile.FieldType.int)) ∈ lw_all := lw_g (lw_at lw_m8 208 rfl) rfl
theorem q1984 : (Jvm.Cond.methodLink "CakeDivisionModel" (291 : Nat) ({ cls := "CakeDivisionModel", name := "enviersOf", desc := "(I)I" } : Jvm.MethodName)) ∈ lw_all := lw_g (lw_at lw_m8 209 rfl) rfl
theorem q1985 : (Jvm.Cond.privateMethod ({ cls := "CakeDivisionModel", name := "enviersOf", desc := "(I)I" } : Jvm.MethodName)) ∈ lw_tbl := lw_at lw_m8 210 rfl
theorem q1986 : (Jvm.Cond.instanceMethod ({ cls := "CakeDivisionModel", name := "enviersOf", desc := "(I)I" } : Jvm.MethodName)) ∈ lw_all := lw_g (lw_at lw_m8 211 rfl) rfl
theorem q1987 : (Jvm.Cond.code ({ cls := "CakeDivisionModel", name := "enviersOf", desc := "(I)I" } : Jvm.MethodName) prog_9_method_89_code (4 : Nat) (Option.some Jvm.ClassFile.FieldType.int)) ∈ lw_all := lw_g (lw_at lw_m8 212 rfl) rfl
theorem q1989 : (Jvm.Cond.instanceMethod ({ cls := "CakeDivisionModel", name := "isSatisfied", desc := "(I)Z" } : Jvm.MethodName)) ∈ lw_all := lw_g (lw_at lw_m8 214 rfl) rfl
theorem q1990 : (Jvm.Cond.selects "CakeDivisionModel" ({ cls := "CakeDivisionModel", name := "isSatisfied", desc := "(I)Z" } : Jvm.MethodName) ({ cls := "CakeDivisionModel", name := "isSatisfied", desc := "(I)Z" } : Jvm.MethodName)) ∈ lw_all := lw_g (lw_at lw_m8 215 rfl) rfl
theorem q1991 : (Jvm.Cond.code ({ cls := "CakeDivisionModel", name := "isSatisfied", desc := "(I)Z" } : Jvm.MethodName) prog_9_method_91_code (2 : Nat) (Option.some Jvm.ClassFile.FieldType.boolean)) ∈ lw_all := lw_g (lw_at lw_m8 216 rfl) rfl
theorem q1993 : (Jvm.Cond.instanceMethod ({ cls := "CakeDivisionModel", name := "satisfiedCount", desc := "()I" } : Jvm.MethodName)) ∈ lw_all := lw_g (lw_at lw_m8 218 rfl) rfl
theorem q1994 : (Jvm.Cond.selects "CakeDivisionModel" ({ cls := "CakeDivisionModel", name := "satisfiedCount", desc := "()I" } : Jvm.MethodName) ({ cls := "CakeDivisionModel", name := "satisfiedCount", desc := "()I" } : Jvm.MethodName)) ∈ lw_all := lw_g (lw_at lw_m8 219 rfl) rfl
theorem q1995 : (Jvm.Cond.code ({ cls := "CakeDivisionModel", name := "satisfiedCount", desc := "()I" } : Jvm.MethodName) prog_9_method_92_code (1 : Nat) (Option.some Jvm.ClassFile.FieldType.int)) ∈ lw_all := lw_g (lw_at lw_m8 220 rfl) rfl
theorem q1997 : (Jvm.Cond.instanceMethod ({ cls := "CakeDivisionModel", name := "envyCycleLength", desc := "(I)I" } : Jvm.MethodName)) ∈ lw_all := lw_g (lw_at lw_m8 222 rfl) rfl
theorem q1998 : (Jvm.Cond.selects "CakeDivisionModel" ({ cls := "CakeDivisionModel", name := "envyCycleLength", desc := "(I)I" } : Jvm.MethodName) ({ cls := "CakeDivisionModel", name := "envyCycleLength", desc := "(I)I" } : Jvm.MethodName)) ∈ lw_all := lw_g (lw_at lw_m8 223 rfl) rfl
theorem q1999 : (Jvm.Cond.code ({ cls := "CakeDivisionModel", name := "envyCycleLength", desc := "(I)I" } : Jvm.MethodName) prog_9_method_93_code (2 : Nat) (Option.some Jvm.ClassFile.FieldType.int)) ∈ lw_all := lw_g (lw_at lw_m8 224 rfl) rfl
theorem q2001 : (Jvm.Cond.instanceMethod ({ cls := "CakeDivisionModel", name := "envyCycleMember", desc := "(II)I" } : Jvm.MethodName)) ∈ lw_all := lw_g (lw_at lw_m8 226 rfl) rfl
theorem q2002 : (Jvm.Cond.selects "CakeDivisionModel" ({ cls := "CakeDivisionModel", name := "envyCycleMember", desc := "(II)I" } : Jvm.MethodName) ({ cls := "CakeDivisionModel", name := "envyCycleMember", desc := "(II)I" } : Jvm.MethodName)) ∈ lw_all := lw_g (lw_at lw_m8 227 rfl) rfl
theorem q2003 : (Jvm.Cond.code ({ cls := "CakeDivisionModel", name := "envyCycleMember", desc := "(II)I" } : Jvm.MethodName) prog_9_method_94_code (4 : Nat) (Option.some Jvm.ClassFile.FieldType.int)) ∈ lw_all := lw_g (lw_at lw_m8 228 rfl) rfl
theorem q2005 : (Jvm.Cond.instanceMethod ({ cls := "CakeDivisionModel", name := "wouldSwap", desc := "(II)Z" } : Jvm.MethodName)) ∈ lw_all := lw_g (lw_at lw_m8 230 rfl) rfl
theorem q2006 : (Jvm.Cond.selects "CakeDivisionModel" ({ cls := "CakeDivisionModel", name := "wouldSwap", desc := "(II)Z" } : Jvm.MethodName) ({ cls := "CakeDivisionModel", name := "wouldSwap", desc := "(II)Z" } : Jvm.MethodName)) ∈ lw_all := lw_g (lw_at lw_m8 231 rfl) rfl
theorem q2007 : (Jvm.Cond.code ({ cls := "CakeDivisionModel", name := "wouldSwap", desc := "(II)Z" } : Jvm.MethodName) prog_9_method_95_code (3 : Nat) (Option.some Jvm.ClassFile.FieldType.boolean)) ∈ lw_all := lw_g (lw_at lw_m8 232 rfl) rfl
theorem q2009 : (Jvm.Cond.instanceMethod ({ cls := "CakeDivisionModel", name := "totalWelfare", desc := "()I" } : Jvm.MethodName)) ∈ lw_all := lw_g (lw_at lw_m8 234 rfl) rfl
theorem q2010 : (Jvm.Cond.selects "CakeDivisionModel" ({ cls := "CakeDivisionModel", name := "totalWelfare", desc := "()I" } : Jvm.MethodName) ({ cls := "CakeDivisionModel", name := "totalWelfare", desc := "()I" } : Jvm.MethodName)) ∈ lw_all := lw_g (lw_at lw_m8 235 rfl) rfl
theorem q2011 : (Jvm.Cond.code ({ cls := "CakeDivisionModel", name := "totalWelfare", desc := "()I" } : Jvm.MethodName) prog_9_method_96_code (3 : Nat) (Option.some Jvm.ClassFile.FieldType.int)) ∈ lw_all := lw_g (lw_at lw_m8 236 rfl) rfl
theorem q2013 : (Jvm.Cond.instanceMethod ({ cls := "CakeDivisionModel", name := "leastWelfare", desc := "()I" } : Jvm.MethodName)) ∈ lw_all := lw_g (lw_at lw_m8 238 rfl) rfl
theorem q2014 : (Jvm.Cond.selects "CakeDivisionModel" ({ cls := "CakeDivisionModel", name := "leastWelfare", desc := "()I" } : Jvm.MethodName) ({ cls := "CakeDivisionModel", name := "leastWelfare", desc := "()I" } : Jvm.MethodName)) ∈ lw_all := lw_g (lw_at lw_m8 239 rfl) rfl
theorem q2015 : (Jvm.Cond.code ({ cls := "CakeDivisionModel", name := "leastWelfare", desc := "()I" } : Jvm.MethodName) prog_9_method_97_code (1 : Nat) (Option.some Jvm.ClassFile.FieldType.int)) ∈ lw_all := lw_g (lw_at lw_m9 0 rfl) rfl
theorem q2016 : (Jvm.Cond.methodLink "CakeDivisionModel" (294 : Nat) ({ cls := "CakeDivisionModel", name := "least", desc := "()I" } : Jvm.MethodName)) ∈ lw_all := lw_g (lw_at lw_m9 1 rfl) rfl
theorem q2017 : (Jvm.Cond.privateMethod ({ cls := "CakeDivisionModel", name := "least", desc := "()I" } : Jvm.MethodName)) ∈ lw_tbl := lw_at lw_m9 2 rfl
theorem q2018 : (Jvm.Cond.instanceMethod ({ cls := "CakeDivisionModel", name := "least", desc := "()I" } : Jvm.MethodName)) ∈ lw_all := lw_g (lw_at lw_m9 3 rfl) rfl
theorem q2019 : (Jvm.Cond.code ({ cls := "CakeDivisionModel", name := "least", desc := "()I" } : Jvm.MethodName) prog_9_method_36_code (3 : Nat) (Option.some Jvm.ClassFile.FieldType.int)) ∈ lw_all := lw_g (lw_at lw_m9 4 rfl) rfl
theorem q2021 : (Jvm.Cond.instanceMethod ({ cls := "CakeDivisionModel", name := "welfareProduct", desc := "()J" } : Jvm.MethodName)) ∈ lw_all := lw_g (lw_at lw_m9 6 rfl) rfl
theorem q2022 : (Jvm.Cond.selects "CakeDivisionModel" ({ cls := "CakeDivisionModel", name := "welfareProduct", desc := "()J" } : Jvm.MethodName) ({ cls := "CakeDivisionModel", name := "welfareProduct", desc := "()J" } : Jvm.MethodName)) ∈ lw_all := lw_g (lw_at lw_m9 7 rfl) rfl
theorem q2023 : (Jvm.Cond.code ({ cls := "CakeDivisionModel", name := "welfareProduct", desc := "()J" } : Jvm.MethodName) prog_9_method_98_code (4 : Nat) (Option.some Jvm.ClassFile.FieldType.long)) ∈ lw_all := lw_g (lw_at lw_m9 8 rfl) rfl
theorem q2025 : (Jvm.Cond.instanceMethod ({ cls := "CakeDivisionModel", name := "greatestTotalWelfare", desc := "()I" } : Jvm.MethodName)) ∈ lw_all := lw_g (lw_at lw_m9 10 rfl) rfl
theorem q2026 : (Jvm.Cond.selects "CakeDivisionModel" ({ cls := "CakeDivisionModel", name := "greatestTotalWelfare", desc := "()I" } : Jvm.MethodName) ({ cls := "CakeDivisionModel", name := "greatestTotalWelfare", desc := "()I" } : Jvm.MethodName)) ∈ lw_all := lw_g (lw_at lw_m9 11 rfl) rfl
theorem q2027 : (Jvm.Cond.code ({ cls := "CakeDivisionModel", name := "greatestTotalWelfare", desc := "()I" } : Jvm.MethodName) prog_9_method_99_code (5 : Nat) (Option.some Jvm.ClassFile.FieldType.int)) ∈ lw_all := lw_g (lw_at lw_m9 12 rfl) rfl
theorem q2029 : (Jvm.Cond.instanceMethod ({ cls := "CakeDivisionModel", name := "greatestContiguousWelfare", desc := "()I" } : Jvm.MethodName)) ∈ lw_all := lw_g (lw_at lw_m9 14 rfl) rfl
theorem q2030 : (Jvm.Cond.selects "CakeDivisionModel" ({ cls := "CakeDivisionModel", name := "greatestContiguousWelfare", desc := "()I" } : Jvm.MethodName) ({ cls := "CakeDivisionModel", name := "greatestContiguousWelfare", desc := "()I" } : Jvm.MethodName)) ∈ lw_all := lw_g (lw_at lw_m9 15 rfl) rfl
theorem q2031 : (Jvm.Cond.code ({ cls := "CakeDivisionModel", name := "greatestContiguousWelfare", desc := "()I" } : Jvm.MethodName) prog_9_method_100_code (1 : Nat) (Option.some Jvm.ClassFile.FieldType.int)) ∈ lw_all := lw_g (lw_at lw_m9 16 rfl) rfl
theorem q2032 : (Jvm.Cond.methodLink "CakeDivisionModel" (297 : Nat) ({ cls := "CakeDivisionModel", name := "contiguousWelfare", desc := "()I" } : Jvm.MethodName)) ∈ lw_all := lw_g (lw_at lw_m9 17 rfl) rfl
theorem q2033 : (Jvm.Cond.privateMethod ({ cls := "CakeDivisionModel", name := "contiguousWelfare", desc := "()I" } : Jvm.MethodName)) ∈ lw_tbl := lw_at lw_m9 18 rfl
theorem q2034 : (Jvm.Cond.instanceMethod ({ cls := "CakeDivisionModel", name := "contiguousWelfare", desc := "()I" } : Jvm.MethodName)) ∈ lw_all := lw_g (lw_at lw_m9 19 rfl) rfl
theorem q2035 : (Jvm.Cond.code ({ cls := "CakeDivisionModel", name := "contiguousWelfare", desc := "()I" } : Jvm.MethodName) prog_9_method_37_code (4 : Nat) (Option.some Jvm.ClassFile.FieldType.int)) ∈ lw_all := lw_g (lw_at lw_m9 20 rfl) rfl
theorem q2036 : (Jvm.Cond.methodLink "CakeDivisionModel" (159 : Nat) ({ cls := "CakeDivisionModel", name := "extend", desc := "(III)V" } : Jvm.MethodName)) ∈ lw_all := lw_g (lw_at lw_m9 21 rfl) rfl
theorem q2037 : (Jvm.Cond.privateMethod ({ cls := "CakeDivisionModel", name := "extend", desc := "(III)V" } : Jvm.MethodName)) ∈ lw_tbl := lw_at lw_m9 22 rfl
theorem q2038 : (Jvm.Cond.instanceMethod ({ cls := "CakeDivisionModel", name := "extend", desc := "(III)V" } : Jvm.MethodName)) ∈ lw_all := lw_g (lw_at lw_m9 23 rfl) rfl
theorem q2039 : (Jvm.Cond.code ({ cls := "CakeDivisionModel", name := "extend", desc := "(III)V" } : Jvm.MethodName) prog_9_method_38_code (9 : Nat) (Option.none : Option Jvm.ClassFile.FieldType)) ∈ lw_all := lw_g (lw_at lw_m9 24 rfl) rfl
theorem q2041 : (Jvm.Cond.instanceMethod ({ cls := "CakeDivisionModel", name := "bestLeastWelfare", desc := "()I" } : Jvm.MethodName)) ∈ lw_all := lw_g (lw_at lw_m9 26 rfl) rfl
theorem q2042 : (Jvm.Cond.selects "CakeDivisionModel" ({ cls := "CakeDivisionModel", name := "bestLeastWelfare", desc := "()I" } : Jvm.MethodName) ({ cls := "CakeDivisionModel", name := "bestLeastWelfare", desc := "()I" } : Jvm.MethodName)) ∈ lw_all := lw_g (lw_at lw_m9 27 rfl) rfl
theorem q2043 : (Jvm.Cond.code ({ cls := "CakeDivisionModel", name := "bestLeastWelfare", desc := "()I" } : Jvm.MethodName) prog_9_method_101_code (1 : Nat) (Option.some Jvm.ClassFile.FieldType.int)) ∈ lw_all := lw_g (lw_at lw_m9 28 rfl) rfl
theorem q2044 : (Jvm.Cond.methodLink "CakeDivisionModel" (300 : Nat) ({ cls := "CakeDivisionModel", name := "contiguousLeast", desc := "()I" } : Jvm.MethodName)) ∈ lw_all := lw_g (lw_at lw_m9 29 rfl) rfl
theorem q2045 : (Jvm.Cond.privateMethod ({ cls := "CakeDivisionModel", name := "contiguousLeast", desc := "()I" } : Jvm.MethodName)) ∈ lw_tbl := lw_at lw_m9 30 rfl
theorem q2046 : (Jvm.Cond.instanceMethod ({ cls := "CakeDivisionModel", name := "contiguousLeast", desc := "()I" } : Jvm.MethodName)) ∈ lw_all := lw_g (lw_at lw_m9 31 rfl) rfl
theorem q2047 : (Jvm.Cond.code ({ cls := "CakeDivisionModel", name := "contiguousLeast", desc := "()I" } : Jvm.MethodName) prog_9_method_42_code (3 : Nat) (Option.some Jvm.ClassFile.FieldType.int)) ∈ lw_all := lw_g (lw_at lw_m9 32 rfl) rfl
theorem q2048 : (Jvm.Cond.methodLink "CakeDivisionModel" (165 : Nat) ({ cls := "CakeDivisionModel", name := "reaches", desc := "(I)Z" } : Jvm.MethodName)) ∈ lw_all := lw_g (lw_at lw_m9 33 rfl) rfl
theorem q2049 : (Jvm.Cond.privateMethod ({ cls := "CakeDivisionModel", name := "reaches", desc := "(I)Z" } : Jvm.MethodName)) ∈ lw_tbl := lw_at lw_m9 34 rfl
theorem q2050 : (Jvm.Cond.instanceMethod ({ cls := "CakeDivisionModel", name := "reaches", desc := "(I)Z" } : Jvm.MethodName)) ∈ lw_all := lw_g (lw_at lw_m9 35 rfl) rfl
theorem q2051 : (Jvm.Cond.code ({ cls := "CakeDivisionModel", name := "reaches", desc := "(I)Z" } : Jvm.MethodName) prog_9_method_39_code (5 : Nat) (Option.some Jvm.ClassFile.FieldType.boolean)) ∈ lw_all := lw_g (lw_at lw_m9 36 rfl) rfl
theorem q2052 : (Jvm.Cond.methodLink "CakeDivisionModel" (168 : Nat) ({ cls := "CakeDivisionModel", name := "advanceSequence", desc := "()Z" } : Jvm.MethodName)) ∈ lw_all := lw_g (lw_at lw_m9 37 rfl) rfl
theorem q2053 : (Jvm.Cond.privateMethod ({ cls := "CakeDivisionModel", name := "advanceSequence", desc := "()Z" } : Jvm.MethodName)) ∈ lw_tbl := lw_at lw_m9 38 rfl
theorem q2054 : (Jvm.Cond.instanceMethod ({ cls := "CakeDivisionModel", name := "advanceSequence", desc := "()Z" } : Jvm.MethodName)) ∈ lw_all := lw_g (lw_at lw_m9 39 rfl) rfl
theorem q2055 : (Jvm.Cond.code ({ cls := "CakeDivisionModel", name := "advanceSequence", desc := "()Z" } : Jvm.MethodName) prog_9_method_40_code (5 : Nat) (Option.some Jvm.ClassFile.FieldType.boolean)) ∈ lw_all := lw_g (lw_at lw_m9 40 rfl) rfl
theorem q2056 : (Jvm.Cond.methodLink "CakeDivisionModel" (162 : Nat) ({ cls := "CakeDivisionModel", name := "swapSequence", desc := "(II)V" } : Jvm.MethodName)) ∈ lw_all := lw_g (lw_at lw_m9 41 rfl) rfl
theorem q2057 : (Jvm.Cond.privateMethod ({ cls := "CakeDivisionModel", name := "swapSequence", desc := "(II)V" } : Jvm.MethodName)) ∈ lw_tbl := lw_at lw_m9 42 rfl
theorem q2058 : (Jvm.Cond.instanceMethod ({ cls := "CakeDivisionModel", name := "swapSequence", desc := "(II)V" } : Jvm.MethodName)) ∈ lw_all := lw_g (lw_at lw_m9 43 rfl) rfl
theorem q2059 : (Jvm.Cond.code ({ cls := "CakeDivisionModel", name := "swapSequence", desc := "(II)V" } : Jvm.MethodName) prog_9_method_41_code (4 : Nat) (Option.none : Option Jvm.ClassFile.FieldType)) ∈ lw_all := lw_g (lw_at lw_m9 44 rfl) rfl
theorem q2061 : (Jvm.Cond.instanceMethod ({ cls := "CakeDivisionModel", name := "cutCount", desc := "()I" } : Jvm.MethodName)) ∈ lw_all := lw_g (lw_at lw_m9 46 rfl) rfl
theorem q2062 : (Jvm.Cond.selects "CakeDivisionModel" ({ cls := "CakeDivisionModel", name := "cutCount", desc := "()I" } : Jvm.MethodName) ({ cls := "CakeDivisionModel", name := "cutCount", desc := "()I" } : Jvm.MethodName)) ∈ lw_all := lw_g (lw_at lw_m9 47 rfl) rfl
theorem q2063 : (Jvm.Cond.code ({ cls := "CakeDivisionModel", name := "cutCount", desc := "()I" } : Jvm.MethodName) prog_9_method_102_code (3 : Nat) (Option.some Jvm.ClassFile.FieldType.int)) ∈ lw_all := lw_g (lw_at lw_m9 48 rfl) rfl
theorem q2065 : (Jvm.Cond.instanceMethod ({ cls := "CakeDivisionModel", name := "satisfaction", desc := "(I)F" } : Jvm.MethodName)) ∈ lw_all := lw_g (lw_at lw_m9 50 rfl) rfl
theorem q2066 : (Jvm.Cond.selects "CakeDivisionModel" ({ cls := "CakeDivisionModel", name := "satisfaction", desc := "(I)F" } : Jvm.MethodName) ({ cls := "CakeDivisionModel", name := "satisfaction", desc := "(I)F" } : Jvm.MethodName)) ∈ lw_all := lw_g (lw_at lw_m9 51 rfl) rfl
theorem q2067 : (Jvm.Cond.code ({ cls := "CakeDivisionModel", name := "satisfaction", desc := "(I)F" } : Jvm.MethodName) prog_9_method_103_code (2 : Nat) (Option.some Jvm.ClassFile.FieldType.float)) ∈ lw_all := lw_g (lw_at lw_m9 52 rfl) rfl
theorem q2069 : (Jvm.Cond.instanceMethod ({ cls := "CakeDivisionModel", name := "meanPieces", desc := "()D" } : Jvm.MethodName)) ∈ lw_all := lw_g (lw_at lw_m9 54 rfl) rfl
theorem q2070 : (Jvm.Cond.selects "CakeDivisionModel" ({ cls := "CakeDivisionModel", name := "meanPieces", desc := "()D" } : Jvm.MethodName) ({ cls := "CakeDivisionModel", name := "meanPieces", desc := "()D" } : Jvm.MethodName)) ∈ lw_all := lw_g (lw_at lw_m9 55 rfl) rfl
theorem q2071 : (Jvm.Cond.code ({ cls := "CakeDivisionModel", name := "meanPieces", desc := "()D" } : Jvm.MethodName) prog_9_method_104_code (3 : Nat) (Option.some Jvm.ClassFile.FieldType.double)) ∈ lw_all := lw_g (lw_at lw_m9 56 rfl) rfl
theorem q2073 : (Jvm.Cond.instanceMethod ({ cls := "CakeDivisionModel", name := "inconsistencies", desc := "()I" } : Jvm.MethodName)) ∈ lw_all := lw_g (lw_at lw_m9 58 rfl) rfl
theorem q2074 : (Jvm.Cond.selects "CakeDivisionModel" ({ cls := "CakeDivisionModel", name := "inconsistencies", desc := "()I" } : Jvm.MethodName) ({ cls := "CakeDivisionModel", name := "inconsistencies", desc := "()I" } : Jvm.MethodName)) ∈ lw_all := lw_g (lw_at lw_m9 59 rfl) rfl
theorem q2075 : (Jvm.Cond.code ({ cls := "CakeDivisionModel", name := "inconsistencies", desc := "()I" } : Jvm.MethodName) prog_9_method_105_code (3 : Nat) (Option.some Jvm.ClassFile.FieldType.int)) ∈ lw_all := lw_g (lw_at lw_m9 60 rfl) rfl
theorem q2077 : (Jvm.Cond.instanceMethod ({ cls := "CakeDivisionModel", name := "cutFor", desc := "(I)I" } : Jvm.MethodName)) ∈ lw_all := lw_g (lw_at lw_m9 62 rfl) rfl
theorem q2078 : (Jvm.Cond.selects "CakeDivisionModel" ({ cls := "CakeDivisionModel", name := "cutFor", desc := "(I)I" } : Jvm.MethodName) ({ cls := "CakeDivisionModel", name := "cutFor", desc := "(I)I" } : Jvm.MethodName)) ∈ lw_all := lw_g (lw_at lw_m9 63 rfl) rfl
theorem q2079 : (Jvm.Cond.code ({ cls := "CakeDivisionModel", name := "cutFor", desc := "(I)I" } : Jvm.MethodName) prog_9_method_106_code (2 : Nat) (Option.some Jvm.ClassFile.FieldType.int)) ∈ lw_all := lw_g (lw_at lw_m9 64 rfl) rfl
theorem q2081 : (Jvm.Cond.instanceMethod ({ cls := "CakeDivisionModel", name := "welfareByKnife", desc := "(I)I" } : Jvm.MethodName)) ∈ lw_all := lw_g (lw_at lw_m9 66 rfl) rfl
theorem q2082 : (Jvm.Cond.selects "CakeDivisionModel" ({ cls := "CakeDivisionModel", name := "welfareByKnife", desc := "(I)I" } : Jvm.MethodName) ({ cls := "CakeDivisionModel", name := "welfareByKnife", desc := "(I)I" } : Jvm.MethodName)) ∈ lw_all := lw_g (lw_at lw_m9 67 rfl) rfl
theorem q2083 : (Jvm.Cond.code ({ cls := "CakeDivisionModel", name := "welfareByKnife", desc := "(I)I" } : Jvm.MethodName) prog_9_method_107_code (3 : Nat) (Option.some Jvm.ClassFile.FieldType.int)) ∈ lw_all := lw_g (lw_at lw_m9 68 rfl) rfl
theorem q2085 : (Jvm.Cond.instanceMethod ({ cls := "CakeDivisionModel", name := "welfareByRobin", desc := "(II)I" } : Jvm.MethodName)) ∈ lw_all := lw_g (lw_at lw_m9 70 rfl) rfl
theorem q2086 : (Jvm.Cond.selects "CakeDivisionModel" ({ cls := "CakeDivisionModel", name := "welfareByRobin", desc := "(II)I" } : Jvm.MethodName) ({ cls := "CakeDivisionModel", name := "welfareByRobin", desc := "(II)I" } : Jvm.MethodName)) ∈ lw_all := lw_g (lw_at lw_m9 71 rfl) rfl
theorem q2087 : (Jvm.Cond.code ({ cls := "CakeDivisionModel", name := "welfareByRobin", desc := "(II)I" } : Jvm.MethodName) prog_9_method_108_code (4 : Nat) (Option.some Jvm.ClassFile.FieldType.int)) ∈ lw_all := lw_g (lw_at lw_m9 72 rfl) rfl
theorem q2089 : (Jvm.Cond.instanceMethod ({ cls := "CakeDivisionModel", name := "bestFirst", desc := "()I" } : Jvm.MethodName)) ∈ lw_all := lw_g (lw_at lw_m9 74 rfl) rfl
theorem q2090 : (Jvm.Cond.selects "CakeDivisionModel" ({ cls := "CakeDivisionModel", name := "bestFirst", desc := "()I" } : Jvm.MethodName) ({ cls := "CakeDivisionModel", name := "bestFirst", desc := "()I" } : Jvm.MethodName)) ∈ lw_all := lw_g (lw_at lw_m9 75 rfl) rfl
theorem q2091 : (Jvm.Cond.code ({ cls := "CakeDivisionModel", name := "bestFirst", desc := "()I" } : Jvm.MethodName) prog_9_method_109_code (4 : Nat) (Option.some Jvm.ClassFile.FieldType.int)) ∈ lw_all := lw_g (lw_at lw_m9 76 rfl) rfl
theorem q2093 : (Jvm.Cond.instanceMethod ({ cls := "CakeDivisionModel", name := "give", desc := "(III)I" } : Jvm.MethodName)) ∈ lw_all := lw_g (lw_at lw_m9 78 rfl) rfl
theorem q2094 : (Jvm.Cond.selects "CakeDivisionModel" ({ cls := "CakeDivisionModel", name := "give", desc := "(III)I" } : Jvm.MethodName) ({ cls := "CakeDivisionModel", name := "give", desc := "(III)I" } : Jvm.MethodName)) ∈ lw_all := lw_g (lw_at lw_m9 79 rfl) rfl
theorem q2095 : (Jvm.Cond.code ({ cls := "CakeDivisionModel", name := "give", desc := "(III)I" } : Jvm.MethodName) prog_9_method_110_code (4 : Nat) (Option.some Jvm.ClassFile.FieldType.int)) ∈ lw_all := lw_g (lw_at lw_m9 80 rfl) rfl
theorem q2097 : (Jvm.Cond.instanceMethod ({ cls := "CakeDivisionModel", name := "release", desc := "(II)I" } : Jvm.MethodName)) ∈ lw_all := lw_g (lw_at lw_m9 82 rfl) rfl
theorem q2098 : (Jvm.Cond.selects "CakeDivisionModel" ({ cls := "CakeDivisionModel", name := "release", desc := "(II)I" } : Jvm.MethodName) ({ cls := "CakeDivisionModel", name := "release", desc := "(II)I" } : Jvm.MethodName)) ∈ lw_all := lw_g (lw_at lw_m9 83 rfl) rfl
theorem q2099 : (Jvm.Cond.code ({ cls := "CakeDivisionModel", name := "release", desc := "(II)I" } : Jvm.MethodName) prog_9_method_111_code (3 : Nat) (Option.some Jvm.ClassFile.FieldType.int)) ∈ lw_all := lw_g (lw_at lw_m9 84 rfl) rfl
theorem q2101 : (Jvm.Cond.instanceMethod ({ cls := "CakeDivisionModel", name := "swapShares", desc := "(II)I" } : Jvm.MethodName)) ∈ lw_all := lw_g (lw_at lw_m9 86 rfl) rfl
theorem q2102 : (Jvm.Cond.selects "CakeDivisionModel" ({ cls := "CakeDivisionModel", name := "swapShares", desc := "(II)I" } : Jvm.MethodName) ({ cls := "CakeDivisionModel", name := "swapShares", desc := "(II)I" } : Jvm.MethodName)) ∈ lw_all := lw_g (lw_at lw_m9 87 rfl) rfl
theorem q2103 : (Jvm.Cond.code ({ cls := "CakeDivisionModel", name := "swapShares", desc := "(II)I" } : Jvm.MethodName) prog_9_method_112_code (3 : Nat) (Option.some Jvm.ClassFile.FieldType.int)) ∈ lw_all := lw_g (lw_at lw_m9 88 rfl) rfl
theorem q2105 : (Jvm.Cond.instanceMethod ({ cls := "CakeDivisionModel", name := "setValue", desc := "(III)I" } : Jvm.MethodName)) ∈ lw_all := lw_g (lw_at lw_m9 90 rfl) rfl
theorem q2106 : (Jvm.Cond.selects "CakeDivisionModel" ({ cls := "CakeDivisionModel", name := "setValue", desc := "(III)I" } : Jvm.MethodName) ({ cls := "CakeDivisionModel", name := "setValue", desc := "(III)I" } : Jvm.MethodName)) ∈ lw_all := lw_g (lw_at lw_m9 91 rfl) rfl
theorem q2107 : (Jvm.Cond.code ({ cls := "CakeDivisionModel", name := "setValue", desc := "(III)I" } : Jvm.MethodName) prog_9_method_113_code (5 : Nat) (Option.some Jvm.ClassFile.FieldType.int)) ∈ lw_all := lw_g (lw_at lw_m9 92 rfl) rfl
theorem q2109 : (Jvm.Cond.instanceMethod ({ cls := "CakeDivisionModel", name := "divideAndChoose", desc := "(II)I" } : Jvm.MethodName)) ∈ lw_all := lw_g (lw_at lw_m9 94 rfl) rfl
theorem q2110 : (Jvm.Cond.selects "CakeDivisionModel" ({ cls := "CakeDivisionModel", name := "divideAndChoose", desc := "(II)I" } : Jvm.MethodName) ({ cls := "CakeDivisionModel", name := "divideAndChoose", desc := "(II)I" } : Jvm.MethodName)) ∈ lw_all := lw_g (lw_at lw_m9 95 rfl) rfl
theorem q2111 : (Jvm.Cond.code ({ cls := "CakeDivisionModel", name := "divideAndChoose", desc := "(II)I" } : Jvm.MethodName) prog_9_method_114_code (3 : Nat) (Option.some Jvm.ClassFile.FieldType.int)) ∈ lw_all := lw_g (lw_at lw_m9 96 rfl) rfl
theorem q2113 : (Jvm.Cond.instanceMethod ({ cls := "CakeDivisionModel", name := "movingKnife", desc := "()I" } : Jvm.MethodName)) ∈ lw_all := lw_g (lw_at lw_m9 98 rfl) rfl
theorem q2114 : (Jvm.Cond.selects "CakeDivisionModel" ({ cls := "CakeDivisionModel", name := "movingKnife", desc := "()I" } : Jvm.MethodName) ({ cls := "CakeDivisionModel", name := "movingKnife", desc := "()I" } : Jvm.MethodName)) ∈ lw_all := lw_g (lw_at lw_m9 99 rfl) rfl
theorem q2115 : (Jvm.Cond.code ({ cls := "CakeDivisionModel", name := "movingKnife", desc := "()I" } : Jvm.MethodName) prog_9_method_115_code (1 : Nat) (Option.some Jvm.ClassFile.FieldType.int)) ∈ lw_all := lw_g (lw_at lw_m9 100 rfl) rfl
theorem q2117 : (Jvm.Cond.instanceMethod ({ cls := "CakeDivisionModel", name := "roundRobin", desc := "(I)I" } : Jvm.MethodName)) ∈ lw_all := lw_g (lw_at lw_m9 102 rfl) rfl
theorem q2118 : (Jvm.Cond.selects "CakeDivisionModel" ({ cls := "CakeDivisionModel", name := "roundRobin", desc := "(I)I" } : Jvm.MethodName) ({ cls := "CakeDivisionModel", name := "roundRobin", desc := "(I)I" } : Jvm.MethodName)) ∈ lw_all := lw_g (lw_at lw_m9 103 rfl) rfl
theorem q2119 : (Jvm.Cond.code ({ cls := "CakeDivisionModel", name := "roundRobin", desc := "(I)I" } : Jvm.MethodName) prog_9_method_116_code (2 : Nat) (Option.some Jvm.ClassFile.FieldType.int)) ∈ lw_all := lw_g (lw_at lw_m9 104 rfl) rfl
theorem q2121 : (Jvm.Cond.instanceMethod ({ cls := "CakeDivisionModel", name := "rotate", desc := "(I)I" } : Jvm.MethodName)) ∈ lw_all := lw_g (lw_at lw_m9 106 rfl) rfl
theorem q2122 : (Jvm.Cond.selects "CakeDivisionModel" ({ cls := "CakeDivisionModel", name := "rotate", desc := "(I)I" } : Jvm.MethodName) ({ cls := "CakeDivisionModel", name := "rotate", desc := "(I)I" } : Jvm.MethodName)) ∈ lw_all := lw_g (lw_at lw_m9 107 rfl) rfl
theorem q2123 : (Jvm.Cond.code ({ cls := "CakeDivisionModel", name := "rotate", desc := "(I)I" } : Jvm.MethodName) prog_9_method_117_code (3 : Nat) (Option.some Jvm.ClassFile.FieldType.int)) ∈ lw_all := lw_g (lw_at lw_m9 108 rfl) rfl
theorem q2125 : (Jvm.Cond.instanceMethod ({ cls := "CakeDivisionModel", name := "undo", desc := "()I" } : Jvm.MethodName)) ∈ lw_all := lw_g (lw_at lw_m9 110 rfl) rfl
theorem q2126 : (Jvm.Cond.selects "CakeDivisionModel" ({ cls := "CakeDivisionModel", name := "undo", desc := "()I" } : Jvm.MethodName) ({ cls := "CakeDivisionModel", name := "undo", desc := "()I" } : Jvm.MethodName)) ∈ lw_all := lw_g (lw_at lw_m9 111 rfl) rfl
theorem q2127 : (Jvm.Cond.code ({ cls := "CakeDivisionModel", name := "undo", desc := "()I" } : Jvm.MethodName) prog_9_method_118_code (1 : Nat) (Option.some Jvm.ClassFile.FieldType.int)) ∈ lw_all := lw_g (lw_at lw_m9 112 rfl) rfl
theorem q2129 : (Jvm.Cond.instanceMethod ({ cls := "CakeDivisionModel", name := "save", desc := "(I)I" } : Jvm.MethodName)) ∈ lw_all := lw_g (lw_at lw_m9 114 rfl) rfl
theorem q2130 : (Jvm.Cond.selects "CakeDivisionModel" ({ cls := "CakeDivisionModel", name := "save", desc := "(I)I" } : Jvm.MethodName) ({ cls := "CakeDivisionModel", name := "save", desc := "(I)I" } : Jvm.MethodName)) ∈ lw_all := lw_g (lw_at lw_m9 115 rfl) rfl
theorem q2131 : (Jvm.Cond.code ({ cls := "CakeDivisionModel", name := "save", desc := "(I)I" } : Jvm.MethodName) prog_9_method_119_code (2 : Nat) (Option.some Jvm.ClassFile.FieldType.int)) ∈ lw_all := lw_g (lw_at lw_m9 116 rfl) rfl
theorem q2133 : (Jvm.Cond.instanceMethod ({ cls := "CakeDivisionModel", name := "restore", desc := "(I)I" } : Jvm.MethodName)) ∈ lw_all := lw_g (lw_at lw_m9 118 rfl) rfl
theorem q2134 : (Jvm.Cond.selects "CakeDivisionModel" ({ cls := "CakeDivisionModel", name := "restore", desc := "(I)I" } : Jvm.MethodName) ({ cls := "CakeDivisionModel", name := "restore", desc := "(I)I" } : Jvm.MethodName)) ∈ lw_all := lw_g (lw_at lw_m9 119 rfl) rfl
theorem q2135 : (Jvm.Cond.code ({ cls := "CakeDivisionModel", name := "restore", desc := "(I)I" } : Jvm.MethodName) prog_9_method_120_code (3 : Nat) (Option.some Jvm.ClassFile.FieldType.int)) ∈ lw_all := lw_g (lw_at lw_m9 120 rfl) rfl
theorem q2137 : (Jvm.Cond.instanceMethod ({ cls := "CakeDivisionModel", name := "writeOwners", desc := "()I" } : Jvm.MethodName)) ∈ lw_all := lw_g (lw_at lw_m9 122 rfl) rfl
theorem q2138 : (Jvm.Cond.selects "CakeDivisionModel" ({ cls := "CakeDivisionModel", name := "writeOwners", desc := "()I" } : Jvm.MethodName) ({ cls := "CakeDivisionModel", name := "writeOwners", desc := "()I" } : Jvm.MethodName)) ∈ lw_all := lw_g (lw_at lw_m9 123 rfl) rfl
theorem q2139 : (Jvm.Cond.code ({ cls := "CakeDivisionModel", name := "writeOwners", desc := "()I" } : Jvm.MethodName) prog_9_method_123_code (3 : Nat) (Option.some Jvm.ClassFile.FieldType.int)) ∈ lw_all := lw_g (lw_at lw_m9 124 rfl) rfl
theorem q2140 : (Jvm.Cond.methodLink "CakeDivisionModel" (306 : Nat) ({ cls := "CakeDivisionModel", name := "putRun", desc := "(II)V" } : Jvm.MethodName)) ∈ lw_all := lw_g (lw_at lw_m9 125 rfl) rfl
theorem q2141 : (Jvm.Cond.privateMethod ({ cls := "CakeDivisionModel", name := "putRun", desc := "(II)V" } : Jvm.MethodName)) ∈ lw_tbl := lw_at lw_m9 126 rfl
theorem q2142 : (Jvm.Cond.instanceMethod ({ cls := "CakeDivisionModel", name := "putRun", desc := "(II)V" } : Jvm.MethodName)) ∈ lw_all := lw_g (lw_at lw_m9 127 rfl) rfl
theorem q2143 : (Jvm.Cond.code ({ cls := "CakeDivisionModel", name := "putRun", desc := "(II)V" } : Jvm.MethodName) prog_9_method_122_code (5 : Nat) (Option.none : Option Jvm.ClassFile.FieldType)) ∈ lw_all := lw_g (lw_at lw_m9 128 rfl) rfl
theorem q2144 : (Jvm.Cond.methodLink "CakeDivisionModel" (303 : Nat) ({ cls := "CakeDivisionModel", name := "put", desc := "(I)V" } : Jvm.MethodName)) ∈ lw_all := lw_g (lw_at lw_m9 129 rfl) rfl
theorem q2145 : (Jvm.Cond.privateMethod ({ cls := "CakeDivisionModel", name := "put", desc := "(I)V" } : Jvm.MethodName)) ∈ lw_tbl := lw_at lw_m9 130 rfl
theorem q2146 : (Jvm.Cond.instanceMethod ({ cls := "CakeDivisionModel", name := "put", desc := "(I)V" } : Jvm.MethodName)) ∈ lw_all := lw_g (lw_at lw_m9 131 rfl) rfl
theorem q2147 : (Jvm.Cond.code ({ cls := "CakeDivisionModel", name := "put", desc := "(I)V" } : Jvm.MethodName) prog_9_method_121_code (2 : Nat) (Option.none : Option Jvm.ClassFile.FieldType)) ∈ lw_all := lw_g (lw_at lw_m9 132 rfl) rfl
theorem q2149 : (Jvm.Cond.instanceMethod ({ cls := "CakeDivisionModel", name := "outputByte", desc := "(I)I" } : Jvm.MethodName)) ∈ lw_all := lw_g (lw_at lw_m9 134 rfl) rfl
theorem q2150 : (Jvm.Cond.selects "CakeDivisionModel" ({ cls := "CakeDivisionModel", name := "outputByte", desc := "(I)I" } : Jvm.MethodName) ({ cls := "CakeDivisionModel", name := "outputByte", desc := "(I)I" } : Jvm.MethodName)) ∈ lw_all := lw_g (lw_at lw_m9 135 rfl) rfl
theorem q2151 : (Jvm.Cond.code ({ cls := "CakeDivisionModel", name := "outputByte", desc := "(I)I" } : Jvm.MethodName) prog_9_method_124_code (2 : Nat) (Option.some Jvm.ClassFile.FieldType.int)) ∈ lw_all := lw_g (lw_at lw_m9 136 rfl) rfl
theorem q2175 : (Jvm.Cond.castable "CakeDivisionModel" "java/lang/Object") ∈ lw_tbl := lw_at lw_m9 160 rfl
theorem in_X6 : ∀ w ∈ wsX60, w ∈ lw_all := lw_in wsX60 [1672, 1674, 1676, 1678, 1680, 1682, 1684, 1686, 1688, 1690, 1692, 1694, 1696, 1698, 1700, 1702, 1704, 1706, 1708, 1710] (by decide +kernel) (by decide +kernel)
