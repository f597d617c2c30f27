/-! CakeDivision -/
set_option maxRecDepth 100000
def RX1 : String := "CakeDivision"
def TX1 : u_T := fun k => match k with
  | 0 => ("CakeDivision", "buffer", "[B", true)
  | 1 => ("CakeDivision", "length", "I", false)
  | 2 => ("CakeDivision", "errorCode", "I", false)
  | 3 => ("CakeDivision", "errorPosition", "I", false)
  | 4 => ("CakeDivision", "state", "LCakeDivision$State;", false)
  | 5 => ("CakeDivision", "history", "Ljava/util/ArrayDeque;", true)
  | 6 => ("CakeDivision", "saved", "[LCakeDivision$State;", true)
  | 7 => ("CakeDivision", "program", "[I", true)
  | 8 => ("CakeDivision", "output", "[B", true)
  | _ => ("CakeDivision", "outputLength", "I", false)
def tyX1 : Nat → FieldType := fun k => match k with
  | 0 => .array .byte
  | 1 => .int
  | 2 => .int
  | 3 => .int
  | 4 => .object "CakeDivision$State"
  | 5 => .object "java/util/ArrayDeque"
  | 6 => .array (.object "CakeDivision$State")
  | 7 => .array .int
  | 8 => .array .byte
  | _ => .int
abbrev wsX10 : List Cond := u_ws RX1 TX1 10
theorem nmX1 : ∀ a, a < 10 → ∀ b, b < 10 → a ≠ b → (TX1 a).2.1 ≠ (TX1 b).2.1 := by decide +kernel
theorem tyX1_ok : ∀ k, k < 10 → parseFieldDescriptor (TX1 k).2.2.1 = some (tyX1 k) := by decide +kernel
abbrev cX1_init : ByteArray := prog_1_method_1_code
def yX1_init : MethodName := ⟨RX1, "<init>", "()V"⟩
def dkwX1_init_0 : List UInt8 := [42, 18, 1, 183, 0, 3, 177]
abbrev dktX1_init_0 : List UInt8 := dkwX1_init_0 ++ []
theorem dksX1_init_0 : cX1_init.data.toList.drop 0 = dktX1_init_0 := by decide +kernel
theorem dX1_init_0 : decode cX1_init 0 = .ok (.aload_n 0, 1) := dk_42 (dk_at dksX1_init_0 0 rfl rfl)
theorem dX1_init_1 : decode cX1_init 1 = .ok (.ldc 1, 2) := dk_18 1 (dk_at dksX1_init_0 1 rfl rfl)
theorem dX1_init_3 : decode cX1_init 3 = .ok (.invokespecial 3, 3) := dk_183 0 3 (dk_at dksX1_init_0 3 rfl rfl)
theorem dX1_init_6 : decode cX1_init 6 = .ok (.return_, 1) := dk_177 (dk_at dksX1_init_0 6 rfl rfl)
abbrev cX1_init_2 : ByteArray := prog_1_method_2_code
def yX1_init_2 : MethodName := ⟨RX1, "<init>", "(Ljava/lang/String;)V"⟩
def dkwX1_init_2_5 : List UInt8 := [181, 0, 27, 167, 0, 12, 77, 42, 44, 180, 0, 72, 181, 0, 75, 42, 3, 181, 0, 55, 177]
abbrev dktX1_init_2_5 : List UInt8 := dkwX1_init_2_5 ++ []
def dkwX1_init_2_4 : List UInt8 := [182, 0, 57, 145, 84, 132, 2, 1, 167, 255, 223, 42, 42, 187, 0, 61, 89, 42, 183, 0, 63, 182, 0, 66]
abbrev dktX1_init_2_4 : List UInt8 := dkwX1_init_2_4 ++ dktX1_init_2_5
def dkwX1_init_2_3 : List UInt8 := [182, 0, 49, 162, 0, 31, 42, 180, 0, 14, 42, 89, 180, 0, 55, 90, 4, 96, 181, 0, 55, 43, 28]
abbrev dktX1_init_2_3 : List UInt8 := dkwX1_init_2_3 ++ dktX1_init_2_4
def dkwX1_init_2_2 : List UInt8 := [181, 0, 38, 42, 16, 120, 188, 10, 181, 0, 42, 42, 17, 0, 240, 188, 8, 181, 0, 46, 3, 61, 28, 43]
abbrev dktX1_init_2_2 : List UInt8 := dkwX1_init_2_2 ++ dktX1_init_2_3
def dkwX1_init_2_1 : List UInt8 := [183, 0, 24, 181, 0, 27, 42, 187, 0, 31, 89, 183, 0, 33, 181, 0, 34, 42, 5, 189, 0, 22]
abbrev dktX1_init_2_1 : List UInt8 := dkwX1_init_2_1 ++ dktX1_init_2_2
def dkwX1_init_2_0 : List UInt8 := [42, 183, 0, 9, 42, 17, 2, 88, 188, 8, 181, 0, 14, 42, 2, 181, 0, 18, 42, 187, 0, 22, 89, 4]
abbrev dktX1_init_2_0 : List UInt8 := dkwX1_init_2_0 ++ dktX1_init_2_1
theorem dksX1_init_2_0 : cX1_init_2.data.toList.drop 0 = dktX1_init_2_0 := by decide +kernel
theorem dksX1_init_2_1 : cX1_init_2.data.toList.drop 24 = dktX1_init_2_1 := dk_seg dksX1_init_2_0 24 rfl rfl
theorem dksX1_init_2_2 : cX1_init_2.data.toList.drop 46 = dktX1_init_2_2 := dk_seg dksX1_init_2_1 22 rfl rfl
theorem dksX1_init_2_3 : cX1_init_2.data.toList.drop 70 = dktX1_init_2_3 := dk_seg dksX1_init_2_2 24 rfl rfl
theorem dksX1_init_2_4 : cX1_init_2.data.toList.drop 93 = dktX1_init_2_4 := dk_seg dksX1_init_2_3 23 rfl rfl
theorem dksX1_init_2_5 : cX1_init_2.data.toList.drop 117 = dktX1_init_2_5 := dk_seg dksX1_init_2_4 24 rfl rfl
theorem dX1_init_2_0 : decode cX1_init_2 0 = .ok (.aload_n 0, 1) := dk_42 (dk_at dksX1_init_2_0 0 rfl rfl)
theorem dX1_init_2_1 : decode cX1_init_2 1 = .ok (.invokespecial 9, 3) := dk_183 0 9 (dk_at dksX1_init_2_0 1 rfl rfl)
theorem dX1_init_2_4 : decode cX1_init_2 4 = .ok (.aload_n 0, 1) := dk_42 (dk_at dksX1_init_2_0 4 rfl rfl)
theorem dX1_init_2_5 : decode cX1_init_2 5 = .ok (.sipush 600, 3) := dk_17 2 88 (dk_at dksX1_init_2_0 5 rfl rfl)
theorem dX1_init_2_8 : decode cX1_init_2 8 = .ok (.newarray .byte, 2) := dk_188_8 (dk_at dksX1_init_2_0 8 rfl rfl)
theorem dX1_init_2_10 : decode cX1_init_2 10 = .ok (.putfield 14, 3) := dk_181 0 14 (dk_at dksX1_init_2_0 10 rfl rfl)
theorem dX1_init_2_13 : decode cX1_init_2 13 = .ok (.aload_n 0, 1) := dk_42 (dk_at dksX1_init_2_0 13 rfl rfl)
theorem dX1_init_2_14 : decode cX1_init_2 14 = .ok (.iconst (-1), 1) := dk_2 (dk_at dksX1_init_2_0 14 rfl rfl)
theorem dX1_init_2_15 : decode cX1_init_2 15 = .ok (.putfield 18, 3) := dk_181 0 18 (dk_at dksX1_init_2_0 15 rfl rfl)
theorem dX1_init_2_18 : decode cX1_init_2 18 = .ok (.aload_n 0, 1) := dk_42 (dk_at dksX1_init_2_0 18 rfl rfl)
theorem dX1_init_2_19 : decode cX1_init_2 19 = .ok (.new 22, 3) := dk_187 0 22 (dk_at dksX1_init_2_0 19 rfl rfl)
theorem dX1_init_2_22 : decode cX1_init_2 22 = .ok (.dup, 1) := dk_89 (dk_at dksX1_init_2_0 22 rfl rfl)
theorem dX1_init_2_23 : decode cX1_init_2 23 = .ok (.iconst 1, 1) := dk_4 (dk_at dksX1_init_2_0 23 rfl rfl)
theorem dX1_init_2_24 : decode cX1_init_2 24 = .ok (.invokespecial 24, 3) := dk_183 0 24 (dk_at dksX1_init_2_1 0 rfl rfl)
theorem dX1_init_2_27 : decode cX1_init_2 27 = .ok (.putfield 27, 3) := dk_181 0 27 (dk_at dksX1_init_2_1 3 rfl rfl)
theorem dX1_init_2_30 : decode cX1_init_2 30 = .ok (.aload_n 0, 1) := dk_42 (dk_at dksX1_init_2_1 6 rfl rfl)
theorem dX1_init_2_31 : decode cX1_init_2 31 = .ok (.new 31, 3) := dk_187 0 31 (dk_at dksX1_init_2_1 7 rfl rfl)
theorem dX1_init_2_34 : decode cX1_init_2 34 = .ok (.dup, 1) := dk_89 (dk_at dksX1_init_2_1 10 rfl rfl)
theorem dX1_init_2_35 : decode cX1_init_2 35 = .ok (.invokespecial 33, 3) := dk_183 0 33 (dk_at dksX1_init_2_1 11 rfl rfl)
theorem dX1_init_2_38 : decode cX1_init_2 38 = .ok (.putfield 34, 3) := dk_181 0 34 (dk_at dksX1_init_2_1 14 rfl rfl)
theorem dX1_init_2_41 : decode cX1_init_2 41 = .ok (.aload_n 0, 1) := dk_42 (dk_at dksX1_init_2_1 17 rfl rfl)
theorem dX1_init_2_42 : decode cX1_init_2 42 = .ok (.iconst 2, 1) := dk_5 (dk_at dksX1_init_2_1 18 rfl rfl)
theorem dX1_init_2_43 : decode cX1_init_2 43 = .ok (.anewarray 22, 3) := dk_189 0 22 (dk_at dksX1_init_2_1 19 rfl rfl)
theorem dX1_init_2_46 : decode cX1_init_2 46 = .ok (.putfield 38, 3) := dk_181 0 38 (dk_at dksX1_init_2_2 0 rfl rfl)
theorem dX1_init_2_49 : decode cX1_init_2 49 = .ok (.aload_n 0, 1) := dk_42 (dk_at dksX1_init_2_2 3 rfl rfl)
theorem dX1_init_2_50 : decode cX1_init_2 50 = .ok (.bipush 120, 2) := dk_16 120 (dk_at dksX1_init_2_2 4 rfl rfl)
theorem dX1_init_2_52 : decode cX1_init_2 52 = .ok (.newarray .int, 2) := dk_188_10 (dk_at dksX1_init_2_2 6 rfl rfl)
theorem dX1_init_2_54 : decode cX1_init_2 54 = .ok (.putfield 42, 3) := dk_181 0 42 (dk_at dksX1_init_2_2 8 rfl rfl)
theorem dX1_init_2_57 : decode cX1_init_2 57 = .ok (.aload_n 0, 1) := dk_42 (dk_at dksX1_init_2_2 11 rfl rfl)
theorem dX1_init_2_58 : decode cX1_init_2 58 = .ok (.sipush 240, 3) := dk_17 0 240 (dk_at dksX1_init_2_2 12 rfl rfl)
theorem dX1_init_2_61 : decode cX1_init_2 61 = .ok (.newarray .byte, 2) := dk_188_8 (dk_at dksX1_init_2_2 15 rfl rfl)
theorem dX1_init_2_63 : decode cX1_init_2 63 = .ok (.putfield 46, 3) := dk_181 0 46 (dk_at dksX1_init_2_2 17 rfl rfl)
theorem dX1_init_2_66 : decode cX1_init_2 66 = .ok (.iconst 0, 1) := dk_3 (dk_at dksX1_init_2_2 20 rfl rfl)
theorem dX1_init_2_67 : decode cX1_init_2 67 = .ok (.istore_n 2, 1) := dk_61 (dk_at dksX1_init_2_2 21 rfl rfl)
theorem dX1_init_2_68 : decode cX1_init_2 68 = .ok (.iload_n 2, 1) := dk_28 (dk_at dksX1_init_2_2 22 rfl rfl)
theorem dX1_init_2_69 : decode cX1_init_2 69 = .ok (.aload_n 1, 1) := dk_43 (dk_at dksX1_init_2_2 23 rfl rfl)
theorem dX1_init_2_70 : decode cX1_init_2 70 = .ok (.invokevirtual 49, 3) := dk_182 0 49 (dk_at dksX1_init_2_3 0 rfl rfl)
theorem dX1_init_2_73 : decode cX1_init_2 73 = .ok (.if_icmp .ge 31, 3) := dk_162 0 31 (dk_at dksX1_init_2_3 3 rfl rfl)
theorem dX1_init_2_76 : decode cX1_init_2 76 = .ok (.aload_n 0, 1) := dk_42 (dk_at dksX1_init_2_3 6 rfl rfl)
theorem dX1_init_2_77 : decode cX1_init_2 77 = .ok (.getfield 14, 3) := dk_180 0 14 (dk_at dksX1_init_2_3 7 rfl rfl)
theorem dX1_init_2_80 : decode cX1_init_2 80 = .ok (.aload_n 0, 1) := dk_42 (dk_at dksX1_init_2_3 10 rfl rfl)
theorem dX1_init_2_81 : decode cX1_init_2 81 = .ok (.dup, 1) := dk_89 (dk_at dksX1_init_2_3 11 rfl rfl)
theorem dX1_init_2_82 : decode cX1_init_2 82 = .ok (.getfield 55, 3) := dk_180 0 55 (dk_at dksX1_init_2_3 12 rfl rfl)
theorem dX1_init_2_85 : decode cX1_init_2 85 = .ok (.dup_x1, 1) := dk_90 (dk_at dksX1_init_2_3 15 rfl rfl)
theorem dX1_init_2_86 : decode cX1_init_2 86 = .ok (.iconst 1, 1) := dk_4 (dk_at dksX1_init_2_3 16 rfl rfl)
theorem dX1_init_2_87 : decode cX1_init_2 87 = .ok (.iadd, 1) := dk_96 (dk_at dksX1_init_2_3 17 rfl rfl)
theorem dX1_init_2_88 : decode cX1_init_2 88 = .ok (.putfield 55, 3) := dk_181 0 55 (dk_at dksX1_init_2_3 18 rfl rfl)
theorem dX1_init_2_91 : decode cX1_init_2 91 = .ok (.aload_n 1, 1) := dk_43 (dk_at dksX1_init_2_3 21 rfl rfl)
theorem dX1_init_2_92 : decode cX1_init_2 92 = .ok (.iload_n 2, 1) := dk_28 (dk_at dksX1_init_2_3 22 rfl rfl)
theorem dX1_init_2_93 : decode cX1_init_2 93 = .ok (.invokevirtual 57, 3) := dk_182 0 57 (dk_at dksX1_init_2_4 0 rfl rfl)
theorem dX1_init_2_96 : decode cX1_init_2 96 = .ok (.i2b, 1) := dk_145 (dk_at dksX1_init_2_4 3 rfl rfl)
theorem dX1_init_2_97 : decode cX1_init_2 97 = .ok (.bastore, 1) := dk_84 (dk_at dksX1_init_2_4 4 rfl rfl)
theorem dX1_init_2_98 : decode cX1_init_2 98 = .ok (.iinc 2 1, 3) := dk_132 2 1 (dk_at dksX1_init_2_4 5 rfl rfl)
theorem dX1_init_2_101 : decode cX1_init_2 101 = .ok (.goto (-33), 3) := dk_167 255 223 (dk_at dksX1_init_2_4 8 rfl rfl)
theorem dX1_init_2_104 : decode cX1_init_2 104 = .ok (.aload_n 0, 1) := dk_42 (dk_at dksX1_init_2_4 11 rfl rfl)
theorem dX1_init_2_105 : decode cX1_init_2 105 = .ok (.aload_n 0, 1) := dk_42 (dk_at dksX1_init_2_4 12 rfl rfl)
theorem dX1_init_2_106 : decode cX1_init_2 106 = .ok (.new 61, 3) := dk_187 0 61 (dk_at dksX1_init_2_4 13 rfl rfl)
theorem dX1_init_2_109 : decode cX1_init_2 109 = .ok (.dup, 1) := dk_89 (dk_at dksX1_init_2_4 16 rfl rfl)
theorem dX1_init_2_110 : decode cX1_init_2 110 = .ok (.aload_n 0, 1) := dk_42 (dk_at dksX1_init_2_4 17 rfl rfl)
theorem dX1_init_2_111 : decode cX1_init_2 111 = .ok (.invokespecial 63, 3) := dk_183 0 63 (dk_at dksX1_init_2_4 18 rfl rfl)
theorem dX1_init_2_114 : decode cX1_init_2 114 = .ok (.invokevirtual 66, 3) := dk_182 0 66 (dk_at dksX1_init_2_4 21 rfl rfl)
theorem dX1_init_2_117 : decode cX1_init_2 117 = .ok (.putfield 27, 3) := dk_181 0 27 (dk_at dksX1_init_2_5 0 rfl rfl)
theorem dX1_init_2_120 : decode cX1_init_2 120 = .ok (.goto 12, 3) := dk_167 0 12 (dk_at dksX1_init_2_5 3 rfl rfl)
theorem dX1_init_2_123 : decode cX1_init_2 123 = .ok (.astore_n 2, 1) := dk_77 (dk_at dksX1_init_2_5 6 rfl rfl)
theorem dX1_init_2_124 : decode cX1_init_2 124 = .ok (.aload_n 0, 1) := dk_42 (dk_at dksX1_init_2_5 7 rfl rfl)
theorem dX1_init_2_125 : decode cX1_init_2 125 = .ok (.aload_n 2, 1) := dk_44 (dk_at dksX1_init_2_5 8 rfl rfl)
theorem dX1_init_2_126 : decode cX1_init_2 126 = .ok (.getfield 72, 3) := dk_180 0 72 (dk_at dksX1_init_2_5 9 rfl rfl)
theorem dX1_init_2_129 : decode cX1_init_2 129 = .ok (.putfield 75, 3) := dk_181 0 75 (dk_at dksX1_init_2_5 12 rfl rfl)
theorem dX1_init_2_132 : decode cX1_init_2 132 = .ok (.aload_n 0, 1) := dk_42 (dk_at dksX1_init_2_5 15 rfl rfl)
theorem dX1_init_2_133 : decode cX1_init_2 133 = .ok (.iconst 0, 1) := dk_3 (dk_at dksX1_init_2_5 16 rfl rfl)
theorem dX1_init_2_134 : decode cX1_init_2 134 = .ok (.putfield 55, 3) := dk_181 0 55 (dk_at dksX1_init_2_5 17 rfl rfl)
theorem dX1_init_2_137 : decode cX1_init_2 137 = .ok (.return_, 1) := dk_177 (dk_at dksX1_init_2_5 20 rfl rfl)
abbrev cX1_parseSetup : ByteArray := prog_1_method_6_code
def yX1_parseSetup : MethodName := ⟨RX1, "parseSetup", "(LCakeDivision$Scanner;)LCakeDivision$State;"⟩
def dkwX1_parseSetup_5 : List UInt8 := [182, 0, 129, 87, 43, 180, 0, 135, 154, 255, 157, 44, 176]
abbrev dktX1_parseSetup_5 : List UInt8 := dkwX1_parseSetup_5 ++ []
def dkwX1_parseSetup_4 : List UInt8 := [132, 5, 1, 167, 255, 233, 43, 182, 0, 97, 44, 180, 0, 120, 187, 0, 124, 89, 45, 25, 4, 183, 0, 126]
abbrev dktX1_parseSetup_4 : List UInt8 := dkwX1_parseSetup_4 ++ dktX1_parseSetup_5
def dkwX1_parseSetup_3 : List UInt8 := [3, 54, 5, 21, 5, 25, 4, 190, 162, 0, 21, 25, 4, 21, 5, 43, 3, 16, 9, 182, 0, 93, 79]
abbrev dktX1_parseSetup_3 : List UInt8 := dkwX1_parseSetup_3 ++ dktX1_parseSetup_4
def dkwX1_parseSetup_2 : List UInt8 := [182, 0, 109, 191, 43, 18, 100, 182, 0, 90, 43, 44, 182, 0, 113, 78, 44, 182, 0, 117, 188, 10, 58, 4]
abbrev dktX1_parseSetup_2 : List UInt8 := dkwX1_parseSetup_2 ++ dktX1_parseSetup_3
def dkwX1_parseSetup_1 : List UInt8 := [182, 0, 97, 43, 18, 100, 182, 0, 102, 153, 0, 18, 44, 182, 0, 106, 16, 6, 160, 0, 9, 43, 7]
abbrev dktX1_parseSetup_1 : List UInt8 := dkwX1_parseSetup_1 ++ dktX1_parseSetup_2
def dkwX1_parseSetup_0 : List UInt8 := [43, 18, 88, 182, 0, 90, 187, 0, 22, 89, 43, 4, 16, 24, 182, 0, 93, 183, 0, 24, 77, 43]
abbrev dktX1_parseSetup_0 : List UInt8 := dkwX1_parseSetup_0 ++ dktX1_parseSetup_1
theorem dksX1_parseSetup_0 : cX1_parseSetup.data.toList.drop 0 = dktX1_parseSetup_0 := by decide +kernel
theorem dksX1_parseSetup_1 : cX1_parseSetup.data.toList.drop 22 = dktX1_parseSetup_1 := dk_seg dksX1_parseSetup_0 22 rfl rfl
theorem dksX1_parseSetup_2 : cX1_parseSetup.data.toList.drop 45 = dktX1_parseSetup_2 := dk_seg dksX1_parseSetup_1 23 rfl rfl
theorem dksX1_parseSetup_3 : cX1_parseSetup.data.toList.drop 69 = dktX1_parseSetup_3 := dk_seg dksX1_parseSetup_2 24 rfl rfl
theorem dksX1_parseSetup_4 : cX1_parseSetup.data.toList.drop 92 = dktX1_parseSetup_4 := dk_seg dksX1_parseSetup_3 23 rfl rfl
theorem dksX1_parseSetup_5 : cX1_parseSetup.data.toList.drop 116 = dktX1_parseSetup_5 := dk_seg dksX1_parseSetup_4 24 rfl rfl
theorem dX1_parseSetup_0 : decode cX1_parseSetup 0 = .ok (.aload_n 1, 1) := dk_43 (dk_at dksX1_parseSetup_0 0 rfl rfl)
theorem dX1_parseSetup_1 : decode cX1_parseSetup 1 = .ok (.ldc 88, 2) := dk_18 88 (dk_at dksX1_parseSetup_0 1 rfl rfl)
theorem dX1_parseSetup_3 : decode cX1_parseSetup 3 = .ok (.invokevirtual 90, 3) := dk_182 0 90 (dk_at dksX1_parseSetup_0 3 rfl rfl)
theorem dX1_parseSetup_6 : decode cX1_parseSetup 6 = .ok (.new 22, 3) := dk_187 0 22 (dk_at dksX1_parseSetup_0 6 rfl rfl)
theorem dX1_parseSetup_9 : decode cX1_parseSetup 9 = .ok (.dup, 1) := dk_89 (dk_at dksX1_parseSetup_0 9 rfl rfl)
theorem dX1_parseSetup_10 : decode cX1_parseSetup 10 = .ok (.aload_n 1, 1) := dk_43 (dk_at dksX1_parseSetup_0 10 rfl rfl)
theorem dX1_parseSetup_11 : decode cX1_parseSetup 11 = .ok (.iconst 1, 1) := dk_4 (dk_at dksX1_parseSetup_0 11 rfl rfl)
theorem dX1_parseSetup_12 : decode cX1_parseSetup 12 = .ok (.bipush 24, 2) := dk_16 24 (dk_at dksX1_parseSetup_0 12 rfl rfl)
theorem dX1_parseSetup_14 : decode cX1_parseSetup 14 = .ok (.invokevirtual 93, 3) := dk_182 0 93 (dk_at dksX1_parseSetup_0 14 rfl rfl)
theorem dX1_parseSetup_17 : decode cX1_parseSetup 17 = .ok (.invokespecial 24, 3) := dk_183 0 24 (dk_at dksX1_parseSetup_0 17 rfl rfl)
theorem dX1_parseSetup_20 : decode cX1_parseSetup 20 = .ok (.astore_n 2, 1) := dk_77 (dk_at dksX1_parseSetup_0 20 rfl rfl)
theorem dX1_parseSetup_21 : decode cX1_parseSetup 21 = .ok (.aload_n 1, 1) := dk_43 (dk_at dksX1_parseSetup_0 21 rfl rfl)
theorem dX1_parseSetup_22 : decode cX1_parseSetup 22 = .ok (.invokevirtual 97, 3) := dk_182 0 97 (dk_at dksX1_parseSetup_1 0 rfl rfl)
theorem dX1_parseSetup_25 : decode cX1_parseSetup 25 = .ok (.aload_n 1, 1) := dk_43 (dk_at dksX1_parseSetup_1 3 rfl rfl)
theorem dX1_parseSetup_26 : decode cX1_parseSetup 26 = .ok (.ldc 100, 2) := dk_18 100 (dk_at dksX1_parseSetup_1 4 rfl rfl)
theorem dX1_parseSetup_28 : decode cX1_parseSetup 28 = .ok (.invokevirtual 102, 3) := dk_182 0 102 (dk_at dksX1_parseSetup_1 6 rfl rfl)
theorem dX1_parseSetup_31 : decode cX1_parseSetup 31 = .ok (.ifCond .eq 18, 3) := dk_153 0 18 (dk_at dksX1_parseSetup_1 9 rfl rfl)
theorem dX1_parseSetup_34 : decode cX1_parseSetup 34 = .ok (.aload_n 2, 1) := dk_44 (dk_at dksX1_parseSetup_1 12 rfl rfl)
theorem dX1_parseSetup_35 : decode cX1_parseSetup 35 = .ok (.invokevirtual 106, 3) := dk_182 0 106 (dk_at dksX1_parseSetup_1 13 rfl rfl)
theorem dX1_parseSetup_38 : decode cX1_parseSetup 38 = .ok (.bipush 6, 2) := dk_16 6 (dk_at dksX1_parseSetup_1 16 rfl rfl)
theorem dX1_parseSetup_40 : decode cX1_parseSetup 40 = .ok (.if_icmp .ne 9, 3) := dk_160 0 9 (dk_at dksX1_parseSetup_1 18 rfl rfl)
theorem dX1_parseSetup_43 : decode cX1_parseSetup 43 = .ok (.aload_n 1, 1) := dk_43 (dk_at dksX1_parseSetup_1 21 rfl rfl)
theorem dX1_parseSetup_44 : decode cX1_parseSetup 44 = .ok (.iconst 4, 1) := dk_7 (dk_at dksX1_parseSetup_1 22 rfl rfl)
theorem dX1_parseSetup_45 : decode cX1_parseSetup 45 = .ok (.invokevirtual 109, 3) := dk_182 0 109 (dk_at dksX1_parseSetup_2 0 rfl rfl)
theorem dX1_parseSetup_48 : decode cX1_parseSetup 48 = .ok (.athrow, 1) := dk_191 (dk_at dksX1_parseSetup_2 3 rfl rfl)
theorem dX1_parseSetup_49 : decode cX1_parseSetup 49 = .ok (.aload_n 1, 1) := dk_43 (dk_at dksX1_parseSetup_2 4 rfl rfl)
theorem dX1_parseSetup_50 : decode cX1_parseSetup 50 = .ok (.ldc 100, 2) := dk_18 100 (dk_at dksX1_parseSetup_2 5 rfl rfl)
theorem dX1_parseSetup_52 : decode cX1_parseSetup 52 = .ok (.invokevirtual 90, 3) := dk_182 0 90 (dk_at dksX1_parseSetup_2 7 rfl rfl)
theorem dX1_parseSetup_55 : decode cX1_parseSetup 55 = .ok (.aload_n 1, 1) := dk_43 (dk_at dksX1_parseSetup_2 10 rfl rfl)
theorem dX1_parseSetup_56 : decode cX1_parseSetup 56 = .ok (.aload_n 2, 1) := dk_44 (dk_at dksX1_parseSetup_2 11 rfl rfl)
theorem dX1_parseSetup_57 : decode cX1_parseSetup 57 = .ok (.invokevirtual 113, 3) := dk_182 0 113 (dk_at dksX1_parseSetup_2 12 rfl rfl)
theorem dX1_parseSetup_60 : decode cX1_parseSetup 60 = .ok (.astore_n 3, 1) := dk_78 (dk_at dksX1_parseSetup_2 15 rfl rfl)
theorem dX1_parseSetup_61 : decode cX1_parseSetup 61 = .ok (.aload_n 2, 1) := dk_44 (dk_at dksX1_parseSetup_2 16 rfl rfl)
theorem dX1_parseSetup_62 : decode cX1_parseSetup 62 = .ok (.invokevirtual 117, 3) := dk_182 0 117 (dk_at dksX1_parseSetup_2 17 rfl rfl)
theorem dX1_parseSetup_65 : decode cX1_parseSetup 65 = .ok (.newarray .int, 2) := dk_188_10 (dk_at dksX1_parseSetup_2 20 rfl rfl)
theorem dX1_parseSetup_67 : decode cX1_parseSetup 67 = .ok (.astore 4, 2) := dk_58 4 (dk_at dksX1_parseSetup_2 22 rfl rfl)
theorem dX1_parseSetup_69 : decode cX1_parseSetup 69 = .ok (.iconst 0, 1) := dk_3 (dk_at dksX1_parseSetup_3 0 rfl rfl)
theorem dX1_parseSetup_70 : decode cX1_parseSetup 70 = .ok (.istore 5, 2) := dk_54 5 (dk_at dksX1_parseSetup_3 1 rfl rfl)
theorem dX1_parseSetup_72 : decode cX1_parseSetup 72 = .ok (.iload 5, 2) := dk_21 5 (dk_at dksX1_parseSetup_3 3 rfl rfl)
theorem dX1_parseSetup_74 : decode cX1_parseSetup 74 = .ok (.aload 4, 2) := dk_25 4 (dk_at dksX1_parseSetup_3 5 rfl rfl)
theorem dX1_parseSetup_76 : decode cX1_parseSetup 76 = .ok (.arraylength, 1) := dk_190 (dk_at dksX1_parseSetup_3 7 rfl rfl)
theorem dX1_parseSetup_77 : decode cX1_parseSetup 77 = .ok (.if_icmp .ge 21, 3) := dk_162 0 21 (dk_at dksX1_parseSetup_3 8 rfl rfl)
theorem dX1_parseSetup_80 : decode cX1_parseSetup 80 = .ok (.aload 4, 2) := dk_25 4 (dk_at dksX1_parseSetup_3 11 rfl rfl)
theorem dX1_parseSetup_82 : decode cX1_parseSetup 82 = .ok (.iload 5, 2) := dk_21 5 (dk_at dksX1_parseSetup_3 13 rfl rfl)
theorem dX1_parseSetup_84 : decode cX1_parseSetup 84 = .ok (.aload_n 1, 1) := dk_43 (dk_at dksX1_parseSetup_3 15 rfl rfl)
theorem dX1_parseSetup_85 : decode cX1_parseSetup 85 = .ok (.iconst 0, 1) := dk_3 (dk_at dksX1_parseSetup_3 16 rfl rfl)
theorem dX1_parseSetup_86 : decode cX1_parseSetup 86 = .ok (.bipush 9, 2) := dk_16 9 (dk_at dksX1_parseSetup_3 17 rfl rfl)
theorem dX1_parseSetup_88 : decode cX1_parseSetup 88 = .ok (.invokevirtual 93, 3) := dk_182 0 93 (dk_at dksX1_parseSetup_3 19 rfl rfl)
theorem dX1_parseSetup_91 : decode cX1_parseSetup 91 = .ok (.iastore, 1) := dk_79 (dk_at dksX1_parseSetup_3 22 rfl rfl)
theorem dX1_parseSetup_92 : decode cX1_parseSetup 92 = .ok (.iinc 5 1, 3) := dk_132 5 1 (dk_at dksX1_parseSetup_4 0 rfl rfl)
theorem dX1_parseSetup_95 : decode cX1_parseSetup 95 = .ok (.goto (-23), 3) := dk_167 255 233 (dk_at dksX1_parseSetup_4 3 rfl rfl)
theorem dX1_parseSetup_98 : decode cX1_parseSetup 98 = .ok (.aload_n 1, 1) := dk_43 (dk_at dksX1_parseSetup_4 6 rfl rfl)
theorem dX1_parseSetup_99 : decode cX1_parseSetup 99 = .ok (.invokevirtual 97, 3) := dk_182 0 97 (dk_at dksX1_parseSetup_4 7 rfl rfl)
theorem dX1_parseSetup_102 : decode cX1_parseSetup 102 = .ok (.aload_n 2, 1) := dk_44 (dk_at dksX1_parseSetup_4 10 rfl rfl)
theorem dX1_parseSetup_103 : decode cX1_parseSetup 103 = .ok (.getfield 120, 3) := dk_180 0 120 (dk_at dksX1_parseSetup_4 11 rfl rfl)
theorem dX1_parseSetup_106 : decode cX1_parseSetup 106 = .ok (.new 124, 3) := dk_187 0 124 (dk_at dksX1_parseSetup_4 14 rfl rfl)
theorem dX1_parseSetup_109 : decode cX1_parseSetup 109 = .ok (.dup, 1) := dk_89 (dk_at dksX1_parseSetup_4 17 rfl rfl)
theorem dX1_parseSetup_110 : decode cX1_parseSetup 110 = .ok (.aload_n 3, 1) := dk_45 (dk_at dksX1_parseSetup_4 18 rfl rfl)
theorem dX1_parseSetup_111 : decode cX1_parseSetup 111 = .ok (.aload 4, 2) := dk_25 4 (dk_at dksX1_parseSetup_4 19 rfl rfl)
theorem dX1_parseSetup_113 : decode cX1_parseSetup 113 = .ok (.invokespecial 126, 3) := dk_183 0 126 (dk_at dksX1_parseSetup_4 21 rfl rfl)
theorem dX1_parseSetup_116 : decode cX1_parseSetup 116 = .ok (.invokevirtual 129, 3) := dk_182 0 129 (dk_at dksX1_parseSetup_5 0 rfl rfl)
theorem dX1_parseSetup_119 : decode cX1_parseSetup 119 = .ok (.pop, 1) := dk_87 (dk_at dksX1_parseSetup_5 3 rfl rfl)
theorem dX1_parseSetup_120 : decode cX1_parseSetup 120 = .ok (.aload_n 1, 1) := dk_43 (dk_at dksX1_parseSetup_5 4 rfl rfl)
theorem dX1_parseSetup_121 : decode cX1_parseSetup 121 = .ok (.getfield 135, 3) := dk_180 0 135 (dk_at dksX1_parseSetup_5 5 rfl rfl)
theorem dX1_parseSetup_124 : decode cX1_parseSetup 124 = .ok (.ifCond .ne (-99), 3) := dk_154 255 157 (dk_at dksX1_parseSetup_5 8 rfl rfl)
theorem dX1_parseSetup_127 : decode cX1_parseSetup 127 = .ok (.aload_n 2, 1) := dk_44 (dk_at dksX1_parseSetup_5 11 rfl rfl)
theorem dX1_parseSetup_128 : decode cX1_parseSetup 128 = .ok (.areturn, 1) := dk_176 (dk_at dksX1_parseSetup_5 12 rfl rfl)
abbrev cX1_errorCode : ByteArray := prog_1_method_9_code
def yX1_errorCode : MethodName := ⟨RX1, "errorCode", "()I"⟩
theorem dX1_errorCode_0 : decode cX1_errorCode 0 = .ok (.aload_n 0, 1) := by decide +kernel
theorem dX1_errorCode_1 : decode cX1_errorCode 1 = .ok (.getfield 75, 3) := by decide +kernel
theorem dX1_errorCode_4 : decode cX1_errorCode 4 = .ok (.ireturn, 1) := by decide +kernel
abbrev cX1_errorPosition : ByteArray := prog_1_method_10_code
def yX1_errorPosition : MethodName := ⟨RX1, "errorPosition", "()I"⟩
theorem dX1_errorPosition_0 : decode cX1_errorPosition 0 = .ok (.aload_n 0, 1) := by decide +kernel
theorem dX1_errorPosition_1 : decode cX1_errorPosition 1 = .ok (.getfield 18, 3) := by decide +kernel
theorem dX1_errorPosition_4 : decode cX1_errorPosition 4 = .ok (.ireturn, 1) := by decide +kernel
abbrev cX1_cellCount : ByteArray := prog_1_method_18_code
def yX1_cellCount : MethodName := ⟨RX1, "cellCount", "()I"⟩
def dkwX1_cellCount_0 : List UInt8 := [42, 180, 0, 27, 182, 0, 117, 172]
abbrev dktX1_cellCount_0 : List UInt8 := dkwX1_cellCount_0 ++ []
theorem dksX1_cellCount_0 : cX1_cellCount.data.toList.drop 0 = dktX1_cellCount_0 := by decide +kernel
theorem dX1_cellCount_0 : decode cX1_cellCount 0 = .ok (.aload_n 0, 1) := dk_42 (dk_at dksX1_cellCount_0 0 rfl rfl)
theorem dX1_cellCount_1 : decode cX1_cellCount 1 = .ok (.getfield 27, 3) := dk_180 0 27 (dk_at dksX1_cellCount_0 1 rfl rfl)
theorem dX1_cellCount_4 : decode cX1_cellCount 4 = .ok (.invokevirtual 117, 3) := dk_182 0 117 (dk_at dksX1_cellCount_0 4 rfl rfl)
theorem dX1_cellCount_7 : decode cX1_cellCount 7 = .ok (.ireturn, 1) := dk_172 (dk_at dksX1_cellCount_0 7 rfl rfl)
abbrev cX1_siblingCount : ByteArray := prog_1_method_19_code
def yX1_siblingCount : MethodName := ⟨RX1, "siblingCount", "()I"⟩
def dkwX1_siblingCount_0 : List UInt8 := [42, 180, 0, 27, 182, 0, 106, 172]
abbrev dktX1_siblingCount_0 : List UInt8 := dkwX1_siblingCount_0 ++ []
theorem dksX1_siblingCount_0 : cX1_siblingCount.data.toList.drop 0 = dktX1_siblingCount_0 := by decide +kernel
theorem dX1_siblingCount_0 : decode cX1_siblingCount 0 = .ok (.aload_n 0, 1) := dk_42 (dk_at dksX1_siblingCount_0 0 rfl rfl)
theorem dX1_siblingCount_1 : decode cX1_siblingCount 1 = .ok (.getfield 27, 3) := dk_180 0 27 (dk_at dksX1_siblingCount_0 1 rfl rfl)
theorem dX1_siblingCount_4 : decode cX1_siblingCount 4 = .ok (.invokevirtual 106, 3) := dk_182 0 106 (dk_at dksX1_siblingCount_0 4 rfl rfl)
theorem dX1_siblingCount_7 : decode cX1_siblingCount 7 = .ok (.ireturn, 1) := dk_172 (dk_at dksX1_siblingCount_0 7 rfl rfl)
abbrev cX1_freeCount : ByteArray := prog_1_method_29_code
def yX1_freeCount : MethodName := ⟨RX1, "freeCount", "()I"⟩
def dkwX1_freeCount_0 : List UInt8 := [42, 180, 0, 27, 2, 182, 0, 207, 172]
abbrev dktX1_freeCount_0 : List UInt8 := dkwX1_freeCount_0 ++ []
theorem dksX1_freeCount_0 : cX1_freeCount.data.toList.drop 0 = dktX1_freeCount_0 := by decide +kernel
theorem dX1_freeCount_0 : decode cX1_freeCount 0 = .ok (.aload_n 0, 1) := dk_42 (dk_at dksX1_freeCount_0 0 rfl rfl)
theorem dX1_freeCount_1 : decode cX1_freeCount 1 = .ok (.getfield 27, 3) := dk_180 0 27 (dk_at dksX1_freeCount_0 1 rfl rfl)
theorem dX1_freeCount_4 : decode cX1_freeCount 4 = .ok (.iconst (-1), 1) := dk_2 (dk_at dksX1_freeCount_0 4 rfl rfl)
theorem dX1_freeCount_5 : decode cX1_freeCount 5 = .ok (.invokevirtual 207, 3) := dk_182 0 207 (dk_at dksX1_freeCount_0 5 rfl rfl)
theorem dX1_freeCount_8 : decode cX1_freeCount 8 = .ok (.ireturn, 1) := dk_172 (dk_at dksX1_freeCount_0 8 rfl rfl)
abbrev cX1_envyCount : ByteArray := prog_1_method_34_code
def yX1_envyCount : MethodName := ⟨RX1, "envyCount", "()I"⟩
def dkwX1_envyCount_0 : List UInt8 := [42, 180, 0, 27, 182, 0, 229, 172]
abbrev dktX1_envyCount_0 : List UInt8 := dkwX1_envyCount_0 ++ []
theorem dksX1_envyCount_0 : cX1_envyCount.data.toList.drop 0 = dktX1_envyCount_0 := by decide +kernel
theorem dX1_envyCount_0 : decode cX1_envyCount 0 = .ok (.aload_n 0, 1) := dk_42 (dk_at dksX1_envyCount_0 0 rfl rfl)
theorem dX1_envyCount_1 : decode cX1_envyCount 1 = .ok (.getfield 27, 3) := dk_180 0 27 (dk_at dksX1_envyCount_0 1 rfl rfl)
theorem dX1_envyCount_4 : decode cX1_envyCount 4 = .ok (.invokevirtual 229, 3) := dk_182 0 229 (dk_at dksX1_envyCount_0 4 rfl rfl)
theorem dX1_envyCount_7 : decode cX1_envyCount 7 = .ok (.ireturn, 1) := dk_172 (dk_at dksX1_envyCount_0 7 rfl rfl)
abbrev cX1_strongEnvyCount : ByteArray := prog_1_method_35_code
def yX1_strongEnvyCount : MethodName := ⟨RX1, "strongEnvyCount", "()I"⟩
def dkwX1_strongEnvyCount_3 : List UInt8 := [167, 255, 191, 27, 172]
abbrev dktX1_strongEnvyCount_3 : List UInt8 := dkwX1_strongEnvyCount_3 ++ []
def dkwX1_strongEnvyCount_2 : List UInt8 := [29, 182, 0, 226, 154, 0, 7, 4, 167, 0, 4, 3, 96, 60, 132, 3, 1, 167, 255, 210, 132, 2, 1]
abbrev dktX1_strongEnvyCount_2 : List UInt8 := dkwX1_strongEnvyCount_2 ++ dktX1_strongEnvyCount_3
def dkwX1_strongEnvyCount_1 : List UInt8 := [182, 0, 106, 162, 0, 41, 27, 42, 180, 0, 27, 28, 29, 182, 0, 219, 153, 0, 19, 42, 180, 0, 27, 28]
abbrev dktX1_strongEnvyCount_1 : List UInt8 := dkwX1_strongEnvyCount_1 ++ dktX1_strongEnvyCount_2
def dkwX1_strongEnvyCount_0 : List UInt8 := [3, 60, 3, 61, 28, 42, 180, 0, 27, 182, 0, 106, 162, 0, 60, 3, 62, 29, 42, 180, 0, 27]
abbrev dktX1_strongEnvyCount_0 : List UInt8 := dkwX1_strongEnvyCount_0 ++ dktX1_strongEnvyCount_1
theorem dksX1_strongEnvyCount_0 : cX1_strongEnvyCount.data.toList.drop 0 = dktX1_strongEnvyCount_0 := by decide +kernel
theorem dksX1_strongEnvyCount_1 : cX1_strongEnvyCount.data.toList.drop 22 = dktX1_strongEnvyCount_1 := dk_seg dksX1_strongEnvyCount_0 22 rfl rfl
theorem dksX1_strongEnvyCount_2 : cX1_strongEnvyCount.data.toList.drop 46 = dktX1_strongEnvyCount_2 := dk_seg dksX1_strongEnvyCount_1 24 rfl rfl
theorem dksX1_strongEnvyCount_3 : cX1_strongEnvyCount.data.toList.drop 69 = dktX1_strongEnvyCount_3 := dk_seg dksX1_strongEnvyCount_2 23 rfl rfl
theorem dX1_strongEnvyCount_0 : decode cX1_strongEnvyCount 0 = .ok (.iconst 0, 1) := dk_3 (dk_at dksX1_strongEnvyCount_0 0 rfl rfl)
theorem dX1_strongEnvyCount_1 : decode cX1_strongEnvyCount 1 = .ok (.istore_n 1, 1) := dk_60 (dk_at dksX1_strongEnvyCount_0 1 rfl rfl)
theorem dX1_strongEnvyCount_2 : decode cX1_strongEnvyCount 2 = .ok (.iconst 0, 1) := dk_3 (dk_at dksX1_strongEnvyCount_0 2 rfl rfl)
theorem dX1_strongEnvyCount_3 : decode cX1_strongEnvyCount 3 = .ok (.istore_n 2, 1) := dk_61 (dk_at dksX1_strongEnvyCount_0 3 rfl rfl)
theorem dX1_strongEnvyCount_4 : decode cX1_strongEnvyCount 4 = .ok (.iload_n 2, 1) := dk_28 (dk_at dksX1_strongEnvyCount_0 4 rfl rfl)
theorem dX1_strongEnvyCount_5 : decode cX1_strongEnvyCount 5 = .ok (.aload_n 0, 1) := dk_42 (dk_at dksX1_strongEnvyCount_0 5 rfl rfl)
theorem dX1_strongEnvyCount_6 : decode cX1_strongEnvyCount 6 = .ok (.getfield 27, 3) := dk_180 0 27 (dk_at dksX1_strongEnvyCount_0 6 rfl rfl)
theorem dX1_strongEnvyCount_9 : decode cX1_strongEnvyCount 9 = .ok (.invokevirtual 106, 3) := dk_182 0 106 (dk_at dksX1_strongEnvyCount_0 9 rfl rfl)
theorem dX1_strongEnvyCount_12 : decode cX1_strongEnvyCount 12 = .ok (.if_icmp .ge 60, 3) := dk_162 0 60 (dk_at dksX1_strongEnvyCount_0 12 rfl rfl)
theorem dX1_strongEnvyCount_15 : decode cX1_strongEnvyCount 15 = .ok (.iconst 0, 1) := dk_3 (dk_at dksX1_strongEnvyCount_0 15 rfl rfl)
theorem dX1_strongEnvyCount_16 : decode cX1_strongEnvyCount 16 = .ok (.istore_n 3, 1) := dk_62 (dk_at dksX1_strongEnvyCount_0 16 rfl rfl)
theorem dX1_strongEnvyCount_17 : decode cX1_strongEnvyCount 17 = .ok (.iload_n 3, 1) := dk_29 (dk_at dksX1_strongEnvyCount_0 17 rfl rfl)
theorem dX1_strongEnvyCount_18 : decode cX1_strongEnvyCount 18 = .ok (.aload_n 0, 1) := dk_42 (dk_at dksX1_strongEnvyCount_0 18 rfl rfl)
theorem dX1_strongEnvyCount_19 : decode cX1_strongEnvyCount 19 = .ok (.getfield 27, 3) := dk_180 0 27 (dk_at dksX1_strongEnvyCount_0 19 rfl rfl)
theorem dX1_strongEnvyCount_22 : decode cX1_strongEnvyCount 22 = .ok (.invokevirtual 106, 3) := dk_182 0 106 (dk_at dksX1_strongEnvyCount_1 0 rfl rfl)
theorem dX1_strongEnvyCount_25 : decode cX1_strongEnvyCount 25 = .ok (.if_icmp .ge 41, 3) := dk_162 0 41 (dk_at dksX1_strongEnvyCount_1 3 rfl rfl)
theorem dX1_strongEnvyCount_28 : decode cX1_strongEnvyCount 28 = .ok (.iload_n 1, 1) := dk_27 (dk_at dksX1_strongEnvyCount_1 6 rfl rfl)
theorem dX1_strongEnvyCount_29 : decode cX1_strongEnvyCount 29 = .ok (.aload_n 0, 1) := dk_42 (dk_at dksX1_strongEnvyCount_1 7 rfl rfl)
theorem dX1_strongEnvyCount_30 : decode cX1_strongEnvyCount 30 = .ok (.getfield 27, 3) := dk_180 0 27 (dk_at dksX1_strongEnvyCount_1 8 rfl rfl)
theorem dX1_strongEnvyCount_33 : decode cX1_strongEnvyCount 33 = .ok (.iload_n 2, 1) := dk_28 (dk_at dksX1_strongEnvyCount_1 11 rfl rfl)
theorem dX1_strongEnvyCount_34 : decode cX1_strongEnvyCount 34 = .ok (.iload_n 3, 1) := dk_29 (dk_at dksX1_strongEnvyCount_1 12 rfl rfl)
theorem dX1_strongEnvyCount_35 : decode cX1_strongEnvyCount 35 = .ok (.invokevirtual 219, 3) := dk_182 0 219 (dk_at dksX1_strongEnvyCount_1 13 rfl rfl)
theorem dX1_strongEnvyCount_38 : decode cX1_strongEnvyCount 38 = .ok (.ifCond .eq 19, 3) := dk_153 0 19 (dk_at dksX1_strongEnvyCount_1 16 rfl rfl)
theorem dX1_strongEnvyCount_41 : decode cX1_strongEnvyCount 41 = .ok (.aload_n 0, 1) := dk_42 (dk_at dksX1_strongEnvyCount_1 19 rfl rfl)
theorem dX1_strongEnvyCount_42 : decode cX1_strongEnvyCount 42 = .ok (.getfield 27, 3) := dk_180 0 27 (dk_at dksX1_strongEnvyCount_1 20 rfl rfl)
theorem dX1_strongEnvyCount_45 : decode cX1_strongEnvyCount 45 = .ok (.iload_n 2, 1) := dk_28 (dk_at dksX1_strongEnvyCount_1 23 rfl rfl)
theorem dX1_strongEnvyCount_46 : decode cX1_strongEnvyCount 46 = .ok (.iload_n 3, 1) := dk_29 (dk_at dksX1_strongEnvyCount_2 0 rfl rfl)
theorem dX1_strongEnvyCount_47 : decode cX1_strongEnvyCount 47 = .ok (.invokevirtual 226, 3) := dk_182 0 226 (dk_at dksX1_strongEnvyCount_2 1 rfl rfl)
theorem dX1_strongEnvyCount_50 : decode cX1_strongEnvyCount 50 = .ok (.ifCond .ne 7, 3) := dk_154 0 7 (dk_at dksX1_strongEnvyCount_2 4 rfl rfl)
theorem dX1_strongEnvyCount_53 : decode cX1_strongEnvyCount 53 = .ok (.iconst 1, 1) := dk_4 (dk_at dksX1_strongEnvyCount_2 7 rfl rfl)
theorem dX1_strongEnvyCount_54 : decode cX1_strongEnvyCount 54 = .ok (.goto 4, 3) := dk_167 0 4 (dk_at dksX1_strongEnvyCount_2 8 rfl rfl)
theorem dX1_strongEnvyCount_57 : decode cX1_strongEnvyCount 57 = .ok (.iconst 0, 1) := dk_3 (dk_at dksX1_strongEnvyCount_2 11 rfl rfl)
theorem dX1_strongEnvyCount_58 : decode cX1_strongEnvyCount 58 = .ok (.iadd, 1) := dk_96 (dk_at dksX1_strongEnvyCount_2 12 rfl rfl)
theorem dX1_strongEnvyCount_59 : decode cX1_strongEnvyCount 59 = .ok (.istore_n 1, 1) := dk_60 (dk_at dksX1_strongEnvyCount_2 13 rfl rfl)
theorem dX1_strongEnvyCount_60 : decode cX1_strongEnvyCount 60 = .ok (.iinc 3 1, 3) := dk_132 3 1 (dk_at dksX1_strongEnvyCount_2 14 rfl rfl)
theorem dX1_strongEnvyCount_63 : decode cX1_strongEnvyCount 63 = .ok (.goto (-46), 3) := dk_167 255 210 (dk_at dksX1_strongEnvyCount_2 17 rfl rfl)
theorem dX1_strongEnvyCount_66 : decode cX1_strongEnvyCount 66 = .ok (.iinc 2 1, 3) := dk_132 2 1 (dk_at dksX1_strongEnvyCount_2 20 rfl rfl)
theorem dX1_strongEnvyCount_69 : decode cX1_strongEnvyCount 69 = .ok (.goto (-65), 3) := dk_167 255 191 (dk_at dksX1_strongEnvyCount_3 0 rfl rfl)
theorem dX1_strongEnvyCount_72 : decode cX1_strongEnvyCount 72 = .ok (.iload_n 1, 1) := dk_27 (dk_at dksX1_strongEnvyCount_3 3 rfl rfl)
theorem dX1_strongEnvyCount_73 : decode cX1_strongEnvyCount 73 = .ok (.ireturn, 1) := dk_172 (dk_at dksX1_strongEnvyCount_3 4 rfl rfl)
abbrev cX1_mostEnvied : ByteArray := prog_1_method_37_code
def yX1_mostEnvied : MethodName := ⟨RX1, "mostEnvied", "()I"⟩
def dkwX1_mostEnvied_1 : List UInt8 := [182, 0, 231, 164, 0, 7, 28, 167, 0, 4, 27, 60, 132, 2, 1, 167, 255, 223, 27, 172]
abbrev dktX1_mostEnvied_1 : List UInt8 := dkwX1_mostEnvied_1 ++ []
def dkwX1_mostEnvied_0 : List UInt8 := [3, 60, 4, 61, 28, 42, 180, 0, 27, 182, 0, 106, 162, 0, 28, 42, 28, 182, 0, 231, 42, 27]
abbrev dktX1_mostEnvied_0 : List UInt8 := dkwX1_mostEnvied_0 ++ dktX1_mostEnvied_1
theorem dksX1_mostEnvied_0 : cX1_mostEnvied.data.toList.drop 0 = dktX1_mostEnvied_0 := by decide +kernel
theorem dksX1_mostEnvied_1 : cX1_mostEnvied.data.toList.drop 22 = dktX1_mostEnvied_1 := dk_seg dksX1_mostEnvied_0 22 rfl rfl
theorem dX1_mostEnvied_0 : decode cX1_mostEnvied 0 = .ok (.iconst 0, 1) := dk_3 (dk_at dksX1_mostEnvied_0 0 rfl rfl)
theorem dX1_mostEnvied_1 : decode cX1_mostEnvied 1 = .ok (.istore_n 1, 1) := dk_60 (dk_at dksX1_mostEnvied_0 1 rfl rfl)
theorem dX1_mostEnvied_2 : decode cX1_mostEnvied 2 = .ok (.iconst 1, 1) := dk_4 (dk_at dksX1_mostEnvied_0 2 rfl rfl)
theorem dX1_mostEnvied_3 : decode cX1_mostEnvied 3 = .ok (.istore_n 2, 1) := dk_61 (dk_at dksX1_mostEnvied_0 3 rfl rfl)
theorem dX1_mostEnvied_4 : decode cX1_mostEnvied 4 = .ok (.iload_n 2, 1) := dk_28 (dk_at dksX1_mostEnvied_0 4 rfl rfl)
theorem dX1_mostEnvied_5 : decode cX1_mostEnvied 5 = .ok (.aload_n 0, 1) := dk_42 (dk_at dksX1_mostEnvied_0 5 rfl rfl)
theorem dX1_mostEnvied_6 : decode cX1_mostEnvied 6 = .ok (.getfield 27, 3) := dk_180 0 27 (dk_at dksX1_mostEnvied_0 6 rfl rfl)
theorem dX1_mostEnvied_9 : decode cX1_mostEnvied 9 = .ok (.invokevirtual 106, 3) := dk_182 0 106 (dk_at dksX1_mostEnvied_0 9 rfl rfl)
theorem dX1_mostEnvied_12 : decode cX1_mostEnvied 12 = .ok (.if_icmp .ge 28, 3) := dk_162 0 28 (dk_at dksX1_mostEnvied_0 12 rfl rfl)
theorem dX1_mostEnvied_15 : decode cX1_mostEnvied 15 = .ok (.aload_n 0, 1) := dk_42 (dk_at dksX1_mostEnvied_0 15 rfl rfl)
theorem dX1_mostEnvied_16 : decode cX1_mostEnvied 16 = .ok (.iload_n 2, 1) := dk_28 (dk_at dksX1_mostEnvied_0 16 rfl rfl)
theorem dX1_mostEnvied_17 : decode cX1_mostEnvied 17 = .ok (.invokevirtual 231, 3) := dk_182 0 231 (dk_at dksX1_mostEnvied_0 17 rfl rfl)
theorem dX1_mostEnvied_20 : decode cX1_mostEnvied 20 = .ok (.aload_n 0, 1) := dk_42 (dk_at dksX1_mostEnvied_0 20 rfl rfl)
theorem dX1_mostEnvied_21 : decode cX1_mostEnvied 21 = .ok (.iload_n 1, 1) := dk_27 (dk_at dksX1_mostEnvied_0 21 rfl rfl)
theorem dX1_mostEnvied_22 : decode cX1_mostEnvied 22 = .ok (.invokevirtual 231, 3) := dk_182 0 231 (dk_at dksX1_mostEnvied_1 0 rfl rfl)
theorem dX1_mostEnvied_25 : decode cX1_mostEnvied 25 = .ok (.if_icmp .le 7, 3) := dk_164 0 7 (dk_at dksX1_mostEnvied_1 3 rfl rfl)
theorem dX1_mostEnvied_28 : decode cX1_mostEnvied 28 = .ok (.iload_n 2, 1) := dk_28 (dk_at dksX1_mostEnvied_1 6 rfl rfl)
theorem dX1_mostEnvied_29 : decode cX1_mostEnvied 29 = .ok (.goto 4, 3) := dk_167 0 4 (dk_at dksX1_mostEnvied_1 7 rfl rfl)
theorem dX1_mostEnvied_32 : decode cX1_mostEnvied 32 = .ok (.iload_n 1, 1) := dk_27 (dk_at dksX1_mostEnvied_1 10 rfl rfl)
theorem dX1_mostEnvied_33 : decode cX1_mostEnvied 33 = .ok (.istore_n 1, 1) := dk_60 (dk_at dksX1_mostEnvied_1 11 rfl rfl)
theorem dX1_mostEnvied_34 : decode cX1_mostEnvied 34 = .ok (.iinc 2 1, 3) := dk_132 2 1 (dk_at dksX1_mostEnvied_1 12 rfl rfl)
theorem dX1_mostEnvied_37 : decode cX1_mostEnvied 37 = .ok (.goto (-33), 3) := dk_167 255 223 (dk_at dksX1_mostEnvied_1 15 rfl rfl)
theorem dX1_mostEnvied_40 : decode cX1_mostEnvied 40 = .ok (.iload_n 1, 1) := dk_27 (dk_at dksX1_mostEnvied_1 18 rfl rfl)
theorem dX1_mostEnvied_41 : decode cX1_mostEnvied 41 = .ok (.ireturn, 1) := dk_172 (dk_at dksX1_mostEnvied_1 19 rfl rfl)
abbrev cX1_enviers : ByteArray := prog_1_method_36_code
def yX1_enviers : MethodName := ⟨RX1, "enviers", "(I)I"⟩
def dkwX1_enviers_1 : List UInt8 := [182, 0, 219, 153, 0, 7, 4, 167, 0, 4, 3, 96, 61, 132, 3, 1, 167, 255, 222, 28, 172]
abbrev dktX1_enviers_1 : List UInt8 := dkwX1_enviers_1 ++ []
def dkwX1_enviers_0 : List UInt8 := [3, 61, 3, 62, 29, 42, 180, 0, 27, 182, 0, 106, 162, 0, 29, 28, 42, 180, 0, 27, 29, 27]
abbrev dktX1_enviers_0 : List UInt8 := dkwX1_enviers_0 ++ dktX1_enviers_1
theorem dksX1_enviers_0 : cX1_enviers.data.toList.drop 0 = dktX1_enviers_0 := by decide +kernel
theorem dksX1_enviers_1 : cX1_enviers.data.toList.drop 22 = dktX1_enviers_1 := dk_seg dksX1_enviers_0 22 rfl rfl
theorem dX1_enviers_0 : decode cX1_enviers 0 = .ok (.iconst 0, 1) := dk_3 (dk_at dksX1_enviers_0 0 rfl rfl)
theorem dX1_enviers_1 : decode cX1_enviers 1 = .ok (.istore_n 2, 1) := dk_61 (dk_at dksX1_enviers_0 1 rfl rfl)
theorem dX1_enviers_2 : decode cX1_enviers 2 = .ok (.iconst 0, 1) := dk_3 (dk_at dksX1_enviers_0 2 rfl rfl)
theorem dX1_enviers_3 : decode cX1_enviers 3 = .ok (.istore_n 3, 1) := dk_62 (dk_at dksX1_enviers_0 3 rfl rfl)
theorem dX1_enviers_4 : decode cX1_enviers 4 = .ok (.iload_n 3, 1) := dk_29 (dk_at dksX1_enviers_0 4 rfl rfl)
theorem dX1_enviers_5 : decode cX1_enviers 5 = .ok (.aload_n 0, 1) := dk_42 (dk_at dksX1_enviers_0 5 rfl rfl)
theorem dX1_enviers_6 : decode cX1_enviers 6 = .ok (.getfield 27, 3) := dk_180 0 27 (dk_at dksX1_enviers_0 6 rfl rfl)
theorem dX1_enviers_9 : decode cX1_enviers 9 = .ok (.invokevirtual 106, 3) := dk_182 0 106 (dk_at dksX1_enviers_0 9 rfl rfl)
theorem dX1_enviers_12 : decode cX1_enviers 12 = .ok (.if_icmp .ge 29, 3) := dk_162 0 29 (dk_at dksX1_enviers_0 12 rfl rfl)
theorem dX1_enviers_15 : decode cX1_enviers 15 = .ok (.iload_n 2, 1) := dk_28 (dk_at dksX1_enviers_0 15 rfl rfl)
theorem dX1_enviers_16 : decode cX1_enviers 16 = .ok (.aload_n 0, 1) := dk_42 (dk_at dksX1_enviers_0 16 rfl rfl)
theorem dX1_enviers_17 : decode cX1_enviers 17 = .ok (.getfield 27, 3) := dk_180 0 27 (dk_at dksX1_enviers_0 17 rfl rfl)
theorem dX1_enviers_20 : decode cX1_enviers 20 = .ok (.iload_n 3, 1) := dk_29 (dk_at dksX1_enviers_0 20 rfl rfl)
theorem dX1_enviers_21 : decode cX1_enviers 21 = .ok (.iload_n 1, 1) := dk_27 (dk_at dksX1_enviers_0 21 rfl rfl)
theorem dX1_enviers_22 : decode cX1_enviers 22 = .ok (.invokevirtual 219, 3) := dk_182 0 219 (dk_at dksX1_enviers_1 0 rfl rfl)
theorem dX1_enviers_25 : decode cX1_enviers 25 = .ok (.ifCond .eq 7, 3) := dk_153 0 7 (dk_at dksX1_enviers_1 3 rfl rfl)
theorem dX1_enviers_28 : decode cX1_enviers 28 = .ok (.iconst 1, 1) := dk_4 (dk_at dksX1_enviers_1 6 rfl rfl)
theorem dX1_enviers_29 : decode cX1_enviers 29 = .ok (.goto 4, 3) := dk_167 0 4 (dk_at dksX1_enviers_1 7 rfl rfl)
theorem dX1_enviers_32 : decode cX1_enviers 32 = .ok (.iconst 0, 1) := dk_3 (dk_at dksX1_enviers_1 10 rfl rfl)
theorem dX1_enviers_33 : decode cX1_enviers 33 = .ok (.iadd, 1) := dk_96 (dk_at dksX1_enviers_1 11 rfl rfl)
theorem dX1_enviers_34 : decode cX1_enviers 34 = .ok (.istore_n 2, 1) := dk_61 (dk_at dksX1_enviers_1 12 rfl rfl)
theorem dX1_enviers_35 : decode cX1_enviers 35 = .ok (.iinc 3 1, 3) := dk_132 3 1 (dk_at dksX1_enviers_1 13 rfl rfl)
theorem dX1_enviers_38 : decode cX1_enviers 38 = .ok (.goto (-34), 3) := dk_167 255 222 (dk_at dksX1_enviers_1 16 rfl rfl)
theorem dX1_enviers_41 : decode cX1_enviers 41 = .ok (.iload_n 2, 1) := dk_28 (dk_at dksX1_enviers_1 19 rfl rfl)
theorem dX1_enviers_42 : decode cX1_enviers 42 = .ok (.ireturn, 1) := dk_172 (dk_at dksX1_enviers_1 20 rfl rfl)
abbrev cX1_satisfiedCount : ByteArray := prog_1_method_39_code
def yX1_satisfiedCount : MethodName := ⟨RX1, "satisfiedCount", "()I"⟩
def dkwX1_satisfiedCount_0 : List UInt8 := [42, 180, 0, 27, 182, 0, 238, 172]
abbrev dktX1_satisfiedCount_0 : List UInt8 := dkwX1_satisfiedCount_0 ++ []
theorem dksX1_satisfiedCount_0 : cX1_satisfiedCount.data.toList.drop 0 = dktX1_satisfiedCount_0 := by decide +kernel
theorem dX1_satisfiedCount_0 : decode cX1_satisfiedCount 0 = .ok (.aload_n 0, 1) := dk_42 (dk_at dksX1_satisfiedCount_0 0 rfl rfl)
theorem dX1_satisfiedCount_1 : decode cX1_satisfiedCount 1 = .ok (.getfield 27, 3) := dk_180 0 27 (dk_at dksX1_satisfiedCount_0 1 rfl rfl)
theorem dX1_satisfiedCount_4 : decode cX1_satisfiedCount 4 = .ok (.invokevirtual 238, 3) := dk_182 0 238 (dk_at dksX1_satisfiedCount_0 4 rfl rfl)
theorem dX1_satisfiedCount_7 : decode cX1_satisfiedCount 7 = .ok (.ireturn, 1) := dk_172 (dk_at dksX1_satisfiedCount_0 7 rfl rfl)
abbrev cX1_totalWelfare : ByteArray := prog_1_method_43_code
def yX1_totalWelfare : MethodName := ⟨RX1, "totalWelfare", "()I"⟩
def dkwX1_totalWelfare_1 : List UInt8 := [96, 60, 132, 2, 1, 167, 255, 231, 27, 172]
abbrev dktX1_totalWelfare_1 : List UInt8 := dkwX1_totalWelfare_1 ++ []
def dkwX1_totalWelfare_0 : List UInt8 := [3, 60, 3, 61, 28, 42, 180, 0, 27, 182, 0, 106, 162, 0, 20, 27, 42, 180, 0, 27, 28, 182, 0, 250]
abbrev dktX1_totalWelfare_0 : List UInt8 := dkwX1_totalWelfare_0 ++ dktX1_totalWelfare_1
theorem dksX1_totalWelfare_0 : cX1_totalWelfare.data.toList.drop 0 = dktX1_totalWelfare_0 := by decide +kernel
theorem dksX1_totalWelfare_1 : cX1_totalWelfare.data.toList.drop 24 = dktX1_totalWelfare_1 := dk_seg dksX1_totalWelfare_0 24 rfl rfl
theorem dX1_totalWelfare_0 : decode cX1_totalWelfare 0 = .ok (.iconst 0, 1) := dk_3 (dk_at dksX1_totalWelfare_0 0 rfl rfl)
theorem dX1_totalWelfare_1 : decode cX1_totalWelfare 1 = .ok (.istore_n 1, 1) := dk_60 (dk_at dksX1_totalWelfare_0 1 rfl rfl)
theorem dX1_totalWelfare_2 : decode cX1_totalWelfare 2 = .ok (.iconst 0, 1) := dk_3 (dk_at dksX1_totalWelfare_0 2 rfl rfl)
theorem dX1_totalWelfare_3 : decode cX1_totalWelfare 3 = .ok (.istore_n 2, 1) := dk_61 (dk_at dksX1_totalWelfare_0 3 rfl rfl)
theorem dX1_totalWelfare_4 : decode cX1_totalWelfare 4 = .ok (.iload_n 2, 1) := dk_28 (dk_at dksX1_totalWelfare_0 4 rfl rfl)
theorem dX1_totalWelfare_5 : decode cX1_totalWelfare 5 = .ok (.aload_n 0, 1) := dk_42 (dk_at dksX1_totalWelfare_0 5 rfl rfl)
theorem dX1_totalWelfare_6 : decode cX1_totalWelfare 6 = .ok (.getfield 27, 3) := dk_180 0 27 (dk_at dksX1_totalWelfare_0 6 rfl rfl)
theorem dX1_totalWelfare_9 : decode cX1_totalWelfare 9 = .ok (.invokevirtual 106, 3) := dk_182 0 106 (dk_at dksX1_totalWelfare_0 9 rfl rfl)
theorem dX1_totalWelfare_12 : decode cX1_totalWelfare 12 = .ok (.if_icmp .ge 20, 3) := dk_162 0 20 (dk_at dksX1_totalWelfare_0 12 rfl rfl)
theorem dX1_totalWelfare_15 : decode cX1_totalWelfare 15 = .ok (.iload_n 1, 1) := dk_27 (dk_at dksX1_totalWelfare_0 15 rfl rfl)
theorem dX1_totalWelfare_16 : decode cX1_totalWelfare 16 = .ok (.aload_n 0, 1) := dk_42 (dk_at dksX1_totalWelfare_0 16 rfl rfl)
theorem dX1_totalWelfare_17 : decode cX1_totalWelfare 17 = .ok (.getfield 27, 3) := dk_180 0 27 (dk_at dksX1_totalWelfare_0 17 rfl rfl)
theorem dX1_totalWelfare_20 : decode cX1_totalWelfare 20 = .ok (.iload_n 2, 1) := dk_28 (dk_at dksX1_totalWelfare_0 20 rfl rfl)
theorem dX1_totalWelfare_21 : decode cX1_totalWelfare 21 = .ok (.invokevirtual 250, 3) := dk_182 0 250 (dk_at dksX1_totalWelfare_0 21 rfl rfl)
theorem dX1_totalWelfare_24 : decode cX1_totalWelfare 24 = .ok (.iadd, 1) := dk_96 (dk_at dksX1_totalWelfare_1 0 rfl rfl)
theorem dX1_totalWelfare_25 : decode cX1_totalWelfare 25 = .ok (.istore_n 1, 1) := dk_60 (dk_at dksX1_totalWelfare_1 1 rfl rfl)
theorem dX1_totalWelfare_26 : decode cX1_totalWelfare 26 = .ok (.iinc 2 1, 3) := dk_132 2 1 (dk_at dksX1_totalWelfare_1 2 rfl rfl)
theorem dX1_totalWelfare_29 : decode cX1_totalWelfare 29 = .ok (.goto (-25), 3) := dk_167 255 231 (dk_at dksX1_totalWelfare_1 5 rfl rfl)
theorem dX1_totalWelfare_32 : decode cX1_totalWelfare 32 = .ok (.iload_n 1, 1) := dk_27 (dk_at dksX1_totalWelfare_1 8 rfl rfl)
theorem dX1_totalWelfare_33 : decode cX1_totalWelfare 33 = .ok (.ireturn, 1) := dk_172 (dk_at dksX1_totalWelfare_1 9 rfl rfl)
abbrev cX1_leastWelfare : ByteArray := prog_1_method_44_code
def yX1_leastWelfare : MethodName := ⟨RX1, "leastWelfare", "()I"⟩
def dkwX1_leastWelfare_0 : List UInt8 := [42, 180, 0, 27, 182, 0, 253, 172]
abbrev dktX1_leastWelfare_0 : List UInt8 := dkwX1_leastWelfare_0 ++ []
theorem dksX1_leastWelfare_0 : cX1_leastWelfare.data.toList.drop 0 = dktX1_leastWelfare_0 := by decide +kernel
theorem dX1_leastWelfare_0 : decode cX1_leastWelfare 0 = .ok (.aload_n 0, 1) := dk_42 (dk_at dksX1_leastWelfare_0 0 rfl rfl)
theorem dX1_leastWelfare_1 : decode cX1_leastWelfare 1 = .ok (.getfield 27, 3) := dk_180 0 27 (dk_at dksX1_leastWelfare_0 1 rfl rfl)
theorem dX1_leastWelfare_4 : decode cX1_leastWelfare 4 = .ok (.invokevirtual 253, 3) := dk_182 0 253 (dk_at dksX1_leastWelfare_0 4 rfl rfl)
theorem dX1_leastWelfare_7 : decode cX1_leastWelfare 7 = .ok (.ireturn, 1) := dk_172 (dk_at dksX1_leastWelfare_0 7 rfl rfl)
abbrev cX1_welfareProduct : ByteArray := prog_1_method_45_code
def yX1_welfareProduct : MethodName := ⟨RX1, "welfareProduct", "()J"⟩
def dkwX1_welfareProduct_1 : List UInt8 := [133, 105, 64, 132, 3, 1, 167, 255, 230, 31, 173]
abbrev dktX1_welfareProduct_1 : List UInt8 := dkwX1_welfareProduct_1 ++ []
def dkwX1_welfareProduct_0 : List UInt8 := [10, 64, 3, 62, 29, 42, 180, 0, 27, 182, 0, 106, 162, 0, 21, 31, 42, 180, 0, 27, 29, 182, 0, 250]
abbrev dktX1_welfareProduct_0 : List UInt8 := dkwX1_welfareProduct_0 ++ dktX1_welfareProduct_1
theorem dksX1_welfareProduct_0 : cX1_welfareProduct.data.toList.drop 0 = dktX1_welfareProduct_0 := by decide +kernel
theorem dksX1_welfareProduct_1 : cX1_welfareProduct.data.toList.drop 24 = dktX1_welfareProduct_1 := dk_seg dksX1_welfareProduct_0 24 rfl rfl
theorem dX1_welfareProduct_0 : decode cX1_welfareProduct 0 = .ok (.lconst 1, 1) := dk_10 (dk_at dksX1_welfareProduct_0 0 rfl rfl)
theorem dX1_welfareProduct_1 : decode cX1_welfareProduct 1 = .ok (.lstore_n 1, 1) := dk_64 (dk_at dksX1_welfareProduct_0 1 rfl rfl)
theorem dX1_welfareProduct_2 : decode cX1_welfareProduct 2 = .ok (.iconst 0, 1) := dk_3 (dk_at dksX1_welfareProduct_0 2 rfl rfl)
theorem dX1_welfareProduct_3 : decode cX1_welfareProduct 3 = .ok (.istore_n 3, 1) := dk_62 (dk_at dksX1_welfareProduct_0 3 rfl rfl)
theorem dX1_welfareProduct_4 : decode cX1_welfareProduct 4 = .ok (.iload_n 3, 1) := dk_29 (dk_at dksX1_welfareProduct_0 4 rfl rfl)
theorem dX1_welfareProduct_5 : decode cX1_welfareProduct 5 = .ok (.aload_n 0, 1) := dk_42 (dk_at dksX1_welfareProduct_0 5 rfl rfl)
theorem dX1_welfareProduct_6 : decode cX1_welfareProduct 6 = .ok (.getfield 27, 3) := dk_180 0 27 (dk_at dksX1_welfareProduct_0 6 rfl rfl)
theorem dX1_welfareProduct_9 : decode cX1_welfareProduct 9 = .ok (.invokevirtual 106, 3) := dk_182 0 106 (dk_at dksX1_welfareProduct_0 9 rfl rfl)
theorem dX1_welfareProduct_12 : decode cX1_welfareProduct 12 = .ok (.if_icmp .ge 21, 3) := dk_162 0 21 (dk_at dksX1_welfareProduct_0 12 rfl rfl)
theorem dX1_welfareProduct_15 : decode cX1_welfareProduct 15 = .ok (.lload_n 1, 1) := dk_31 (dk_at dksX1_welfareProduct_0 15 rfl rfl)
theorem dX1_welfareProduct_16 : decode cX1_welfareProduct 16 = .ok (.aload_n 0, 1) := dk_42 (dk_at dksX1_welfareProduct_0 16 rfl rfl)
theorem dX1_welfareProduct_17 : decode cX1_welfareProduct 17 = .ok (.getfield 27, 3) := dk_180 0 27 (dk_at dksX1_welfareProduct_0 17 rfl rfl)
theorem dX1_welfareProduct_20 : decode cX1_welfareProduct 20 = .ok (.iload_n 3, 1) := dk_29 (dk_at dksX1_welfareProduct_0 20 rfl rfl)
theorem dX1_welfareProduct_21 : decode cX1_welfareProduct 21 = .ok (.invokevirtual 250, 3) := dk_182 0 250 (dk_at dksX1_welfareProduct_0 21 rfl rfl)
theorem dX1_welfareProduct_24 : decode cX1_welfareProduct 24 = .ok (.i2l, 1) := dk_133 (dk_at dksX1_welfareProduct_1 0 rfl rfl)
theorem dX1_welfareProduct_25 : decode cX1_welfareProduct 25 = .ok (.lmul, 1) := dk_105 (dk_at dksX1_welfareProduct_1 1 rfl rfl)
theorem dX1_welfareProduct_26 : decode cX1_welfareProduct 26 = .ok (.lstore_n 1, 1) := dk_64 (dk_at dksX1_welfareProduct_1 2 rfl rfl)
theorem dX1_welfareProduct_27 : decode cX1_welfareProduct 27 = .ok (.iinc 3 1, 3) := dk_132 3 1 (dk_at dksX1_welfareProduct_1 3 rfl rfl)
theorem dX1_welfareProduct_30 : decode cX1_welfareProduct 30 = .ok (.goto (-26), 3) := dk_167 255 230 (dk_at dksX1_welfareProduct_1 6 rfl rfl)
theorem dX1_welfareProduct_33 : decode cX1_welfareProduct 33 = .ok (.lload_n 1, 1) := dk_31 (dk_at dksX1_welfareProduct_1 9 rfl rfl)
theorem dX1_welfareProduct_34 : decode cX1_welfareProduct 34 = .ok (.lreturn, 1) := dk_173 (dk_at dksX1_welfareProduct_1 10 rfl rfl)
abbrev cX1_greatestTotalWelfare : ByteArray := prog_1_method_47_code
def yX1_greatestTotalWelfare : MethodName := ⟨RX1, "greatestTotalWelfare", "()I"⟩
def dkwX1_greatestTotalWelfare_1 : List UInt8 := [132, 2, 1, 167, 255, 234, 27, 172]
abbrev dktX1_greatestTotalWelfare_1 : List UInt8 := dkwX1_greatestTotalWelfare_1 ++ []
def dkwX1_greatestTotalWelfare_0 : List UInt8 := [3, 60, 3, 61, 28, 42, 180, 0, 27, 182, 0, 117, 162, 0, 17, 27, 42, 28, 182, 1, 5, 96, 60]
abbrev dktX1_greatestTotalWelfare_0 : List UInt8 := dkwX1_greatestTotalWelfare_0 ++ dktX1_greatestTotalWelfare_1
theorem dksX1_greatestTotalWelfare_0 : cX1_greatestTotalWelfare.data.toList.drop 0 = dktX1_greatestTotalWelfare_0 := by decide +kernel
theorem dksX1_greatestTotalWelfare_1 : cX1_greatestTotalWelfare.data.toList.drop 23 = dktX1_greatestTotalWelfare_1 := dk_seg dksX1_greatestTotalWelfare_0 23 rfl rfl
theorem dX1_greatestTotalWelfare_0 : decode cX1_greatestTotalWelfare 0 = .ok (.iconst 0, 1) := dk_3 (dk_at dksX1_greatestTotalWelfare_0 0 rfl rfl)
theorem dX1_greatestTotalWelfare_1 : decode cX1_greatestTotalWelfare 1 = .ok (.istore_n 1, 1) := dk_60 (dk_at dksX1_greatestTotalWelfare_0 1 rfl rfl)
theorem dX1_greatestTotalWelfare_2 : decode cX1_greatestTotalWelfare 2 = .ok (.iconst 0, 1) := dk_3 (dk_at dksX1_greatestTotalWelfare_0 2 rfl rfl)
theorem dX1_greatestTotalWelfare_3 : decode cX1_greatestTotalWelfare 3 = .ok (.istore_n 2, 1) := dk_61 (dk_at dksX1_greatestTotalWelfare_0 3 rfl rfl)
theorem dX1_greatestTotalWelfare_4 : decode cX1_greatestTotalWelfare 4 = .ok (.iload_n 2, 1) := dk_28 (dk_at dksX1_greatestTotalWelfare_0 4 rfl rfl)
theorem dX1_greatestTotalWelfare_5 : decode cX1_greatestTotalWelfare 5 = .ok (.aload_n 0, 1) := dk_42 (dk_at dksX1_greatestTotalWelfare_0 5 rfl rfl)
theorem dX1_greatestTotalWelfare_6 : decode cX1_greatestTotalWelfare 6 = .ok (.getfield 27, 3) := dk_180 0 27 (dk_at dksX1_greatestTotalWelfare_0 6 rfl rfl)
theorem dX1_greatestTotalWelfare_9 : decode cX1_greatestTotalWelfare 9 = .ok (.invokevirtual 117, 3) := dk_182 0 117 (dk_at dksX1_greatestTotalWelfare_0 9 rfl rfl)
theorem dX1_greatestTotalWelfare_12 : decode cX1_greatestTotalWelfare 12 = .ok (.if_icmp .ge 17, 3) := dk_162 0 17 (dk_at dksX1_greatestTotalWelfare_0 12 rfl rfl)
theorem dX1_greatestTotalWelfare_15 : decode cX1_greatestTotalWelfare 15 = .ok (.iload_n 1, 1) := dk_27 (dk_at dksX1_greatestTotalWelfare_0 15 rfl rfl)
theorem dX1_greatestTotalWelfare_16 : decode cX1_greatestTotalWelfare 16 = .ok (.aload_n 0, 1) := dk_42 (dk_at dksX1_greatestTotalWelfare_0 16 rfl rfl)
theorem dX1_greatestTotalWelfare_17 : decode cX1_greatestTotalWelfare 17 = .ok (.iload_n 2, 1) := dk_28 (dk_at dksX1_greatestTotalWelfare_0 17 rfl rfl)
theorem dX1_greatestTotalWelfare_18 : decode cX1_greatestTotalWelfare 18 = .ok (.invokevirtual 261, 3) := dk_182 1 5 (dk_at dksX1_greatestTotalWelfare_0 18 rfl rfl)
theorem dX1_greatestTotalWelfare_21 : decode cX1_greatestTotalWelfare 21 = .ok (.iadd, 1) := dk_96 (dk_at dksX1_greatestTotalWelfare_0 21 rfl rfl)
theorem dX1_greatestTotalWelfare_22 : decode cX1_greatestTotalWelfare 22 = .ok (.istore_n 1, 1) := dk_60 (dk_at dksX1_greatestTotalWelfare_0 22 rfl rfl)
theorem dX1_greatestTotalWelfare_23 : decode cX1_greatestTotalWelfare 23 = .ok (.iinc 2 1, 3) := dk_132 2 1 (dk_at dksX1_greatestTotalWelfare_1 0 rfl rfl)
theorem dX1_greatestTotalWelfare_26 : decode cX1_greatestTotalWelfare 26 = .ok (.goto (-22), 3) := dk_167 255 234 (dk_at dksX1_greatestTotalWelfare_1 3 rfl rfl)
theorem dX1_greatestTotalWelfare_29 : decode cX1_greatestTotalWelfare 29 = .ok (.iload_n 1, 1) := dk_27 (dk_at dksX1_greatestTotalWelfare_1 6 rfl rfl)
theorem dX1_greatestTotalWelfare_30 : decode cX1_greatestTotalWelfare 30 = .ok (.ireturn, 1) := dk_172 (dk_at dksX1_greatestTotalWelfare_1 7 rfl rfl)
abbrev cX1_greatestValue : ByteArray := prog_1_method_46_code
def yX1_greatestValue : MethodName := ⟨RX1, "greatestValue", "(I)I"⟩
def dkwX1_greatestValue_1 : List UInt8 := [27, 182, 0, 188, 184, 1, 0, 61, 132, 3, 1, 167, 255, 225, 28, 172]
abbrev dktX1_greatestValue_1 : List UInt8 := dkwX1_greatestValue_1 ++ []
def dkwX1_greatestValue_0 : List UInt8 := [3, 61, 3, 62, 29, 42, 180, 0, 27, 182, 0, 106, 162, 0, 26, 28, 42, 180, 0, 27, 29, 182, 0, 158]
abbrev dktX1_greatestValue_0 : List UInt8 := dkwX1_greatestValue_0 ++ dktX1_greatestValue_1
theorem dksX1_greatestValue_0 : cX1_greatestValue.data.toList.drop 0 = dktX1_greatestValue_0 := by decide +kernel
theorem dksX1_greatestValue_1 : cX1_greatestValue.data.toList.drop 24 = dktX1_greatestValue_1 := dk_seg dksX1_greatestValue_0 24 rfl rfl
theorem dX1_greatestValue_0 : decode cX1_greatestValue 0 = .ok (.iconst 0, 1) := dk_3 (dk_at dksX1_greatestValue_0 0 rfl rfl)
theorem dX1_greatestValue_1 : decode cX1_greatestValue 1 = .ok (.istore_n 2, 1) := dk_61 (dk_at dksX1_greatestValue_0 1 rfl rfl)
theorem dX1_greatestValue_2 : decode cX1_greatestValue 2 = .ok (.iconst 0, 1) := dk_3 (dk_at dksX1_greatestValue_0 2 rfl rfl)
theorem dX1_greatestValue_3 : decode cX1_greatestValue 3 = .ok (.istore_n 3, 1) := dk_62 (dk_at dksX1_greatestValue_0 3 rfl rfl)
theorem dX1_greatestValue_4 : decode cX1_greatestValue 4 = .ok (.iload_n 3, 1) := dk_29 (dk_at dksX1_greatestValue_0 4 rfl rfl)
theorem dX1_greatestValue_5 : decode cX1_greatestValue 5 = .ok (.aload_n 0, 1) := dk_42 (dk_at dksX1_greatestValue_0 5 rfl rfl)
theorem dX1_greatestValue_6 : decode cX1_greatestValue 6 = .ok (.getfield 27, 3) := dk_180 0 27 (dk_at dksX1_greatestValue_0 6 rfl rfl)
theorem dX1_greatestValue_9 : decode cX1_greatestValue 9 = .ok (.invokevirtual 106, 3) := dk_182 0 106 (dk_at dksX1_greatestValue_0 9 rfl rfl)
theorem dX1_greatestValue_12 : decode cX1_greatestValue 12 = .ok (.if_icmp .ge 26, 3) := dk_162 0 26 (dk_at dksX1_greatestValue_0 12 rfl rfl)
theorem dX1_greatestValue_15 : decode cX1_greatestValue 15 = .ok (.iload_n 2, 1) := dk_28 (dk_at dksX1_greatestValue_0 15 rfl rfl)
theorem dX1_greatestValue_16 : decode cX1_greatestValue 16 = .ok (.aload_n 0, 1) := dk_42 (dk_at dksX1_greatestValue_0 16 rfl rfl)
theorem dX1_greatestValue_17 : decode cX1_greatestValue 17 = .ok (.getfield 27, 3) := dk_180 0 27 (dk_at dksX1_greatestValue_0 17 rfl rfl)
theorem dX1_greatestValue_20 : decode cX1_greatestValue 20 = .ok (.iload_n 3, 1) := dk_29 (dk_at dksX1_greatestValue_0 20 rfl rfl)
theorem dX1_greatestValue_21 : decode cX1_greatestValue 21 = .ok (.invokevirtual 158, 3) := dk_182 0 158 (dk_at dksX1_greatestValue_0 21 rfl rfl)
theorem dX1_greatestValue_24 : decode cX1_greatestValue 24 = .ok (.iload_n 1, 1) := dk_27 (dk_at dksX1_greatestValue_1 0 rfl rfl)
theorem dX1_greatestValue_25 : decode cX1_greatestValue 25 = .ok (.invokevirtual 188, 3) := dk_182 0 188 (dk_at dksX1_greatestValue_1 1 rfl rfl)
theorem dX1_greatestValue_28 : decode cX1_greatestValue 28 = .ok (.invokestatic 256, 3) := dk_184 1 0 (dk_at dksX1_greatestValue_1 4 rfl rfl)
theorem dX1_greatestValue_31 : decode cX1_greatestValue 31 = .ok (.istore_n 2, 1) := dk_61 (dk_at dksX1_greatestValue_1 7 rfl rfl)
theorem dX1_greatestValue_32 : decode cX1_greatestValue 32 = .ok (.iinc 3 1, 3) := dk_132 3 1 (dk_at dksX1_greatestValue_1 8 rfl rfl)
theorem dX1_greatestValue_35 : decode cX1_greatestValue 35 = .ok (.goto (-31), 3) := dk_167 255 225 (dk_at dksX1_greatestValue_1 11 rfl rfl)
theorem dX1_greatestValue_38 : decode cX1_greatestValue 38 = .ok (.iload_n 2, 1) := dk_28 (dk_at dksX1_greatestValue_1 14 rfl rfl)
theorem dX1_greatestValue_39 : decode cX1_greatestValue 39 = .ok (.ireturn, 1) := dk_172 (dk_at dksX1_greatestValue_1 15 rfl rfl)
abbrev cX1_greatestContiguousWelfare : ByteArray := prog_1_method_48_code
def yX1_greatestContiguousWelfare : MethodName := ⟨RX1, "greatestContiguousWelfare", "()I"⟩
def dkwX1_greatestContiguousWelfare_0 : List UInt8 := [187, 1, 8, 89, 42, 180, 0, 27, 4, 183, 1, 10, 182, 1, 13, 172]
abbrev dktX1_greatestContiguousWelfare_0 : List UInt8 := dkwX1_greatestContiguousWelfare_0 ++ []
theorem dksX1_greatestContiguousWelfare_0 : cX1_greatestContiguousWelfare.data.toList.drop 0 = dktX1_greatestContiguousWelfare_0 := by decide +kernel
theorem dX1_greatestContiguousWelfare_0 : decode cX1_greatestContiguousWelfare 0 = .ok (.new 264, 3) := dk_187 1 8 (dk_at dksX1_greatestContiguousWelfare_0 0 rfl rfl)
theorem dX1_greatestContiguousWelfare_3 : decode cX1_greatestContiguousWelfare 3 = .ok (.dup, 1) := dk_89 (dk_at dksX1_greatestContiguousWelfare_0 3 rfl rfl)
theorem dX1_greatestContiguousWelfare_4 : decode cX1_greatestContiguousWelfare 4 = .ok (.aload_n 0, 1) := dk_42 (dk_at dksX1_greatestContiguousWelfare_0 4 rfl rfl)
theorem dX1_greatestContiguousWelfare_5 : decode cX1_greatestContiguousWelfare 5 = .ok (.getfield 27, 3) := dk_180 0 27 (dk_at dksX1_greatestContiguousWelfare_0 5 rfl rfl)
theorem dX1_greatestContiguousWelfare_8 : decode cX1_greatestContiguousWelfare 8 = .ok (.iconst 1, 1) := dk_4 (dk_at dksX1_greatestContiguousWelfare_0 8 rfl rfl)
theorem dX1_greatestContiguousWelfare_9 : decode cX1_greatestContiguousWelfare 9 = .ok (.invokespecial 266, 3) := dk_183 1 10 (dk_at dksX1_greatestContiguousWelfare_0 9 rfl rfl)
theorem dX1_greatestContiguousWelfare_12 : decode cX1_greatestContiguousWelfare 12 = .ok (.invokevirtual 269, 3) := dk_182 1 13 (dk_at dksX1_greatestContiguousWelfare_0 12 rfl rfl)
theorem dX1_greatestContiguousWelfare_15 : decode cX1_greatestContiguousWelfare 15 = .ok (.ireturn, 1) := dk_172 (dk_at dksX1_greatestContiguousWelfare_0 15 rfl rfl)
abbrev cX1_bestLeastWelfare : ByteArray := prog_1_method_49_code
def yX1_bestLeastWelfare : MethodName := ⟨RX1, "bestLeastWelfare", "()I"⟩
def dkwX1_bestLeastWelfare_0 : List UInt8 := [187, 1, 8, 89, 42, 180, 0, 27, 3, 183, 1, 10, 182, 1, 13, 172]
abbrev dktX1_bestLeastWelfare_0 : List UInt8 := dkwX1_bestLeastWelfare_0 ++ []
theorem dksX1_bestLeastWelfare_0 : cX1_bestLeastWelfare.data.toList.drop 0 = dktX1_bestLeastWelfare_0 := by decide +kernel
theorem dX1_bestLeastWelfare_0 : decode cX1_bestLeastWelfare 0 = .ok (.new 264, 3) := dk_187 1 8 (dk_at dksX1_bestLeastWelfare_0 0 rfl rfl)
theorem dX1_bestLeastWelfare_3 : decode cX1_bestLeastWelfare 3 = .ok (.dup, 1) := dk_89 (dk_at dksX1_bestLeastWelfare_0 3 rfl rfl)
theorem dX1_bestLeastWelfare_4 : decode cX1_bestLeastWelfare 4 = .ok (.aload_n 0, 1) := dk_42 (dk_at dksX1_bestLeastWelfare_0 4 rfl rfl)
theorem dX1_bestLeastWelfare_5 : decode cX1_bestLeastWelfare 5 = .ok (.getfield 27, 3) := dk_180 0 27 (dk_at dksX1_bestLeastWelfare_0 5 rfl rfl)
theorem dX1_bestLeastWelfare_8 : decode cX1_bestLeastWelfare 8 = .ok (.iconst 0, 1) := dk_3 (dk_at dksX1_bestLeastWelfare_0 8 rfl rfl)
theorem dX1_bestLeastWelfare_9 : decode cX1_bestLeastWelfare 9 = .ok (.invokespecial 266, 3) := dk_183 1 10 (dk_at dksX1_bestLeastWelfare_0 9 rfl rfl)
theorem dX1_bestLeastWelfare_12 : decode cX1_bestLeastWelfare 12 = .ok (.invokevirtual 269, 3) := dk_182 1 13 (dk_at dksX1_bestLeastWelfare_0 12 rfl rfl)
theorem dX1_bestLeastWelfare_15 : decode cX1_bestLeastWelfare 15 = .ok (.ireturn, 1) := dk_172 (dk_at dksX1_bestLeastWelfare_0 15 rfl rfl)
abbrev cX1_cutCount : ByteArray := prog_1_method_50_code
def yX1_cutCount : MethodName := ⟨RX1, "cutCount", "()I"⟩
def dkwX1_cutCount_2 : List UInt8 := [96, 60, 132, 2, 1, 167, 255, 209, 27, 172]
abbrev dktX1_cutCount_2 : List UInt8 := dkwX1_cutCount_2 ++ []
def dkwX1_cutCount_1 : List UInt8 := [180, 0, 192, 28, 46, 42, 180, 0, 27, 180, 0, 192, 28, 4, 96, 46, 159, 0, 7, 4, 167, 0, 4, 3]
abbrev dktX1_cutCount_1 : List UInt8 := dkwX1_cutCount_1 ++ dktX1_cutCount_2
def dkwX1_cutCount_0 : List UInt8 := [3, 60, 3, 61, 28, 4, 96, 42, 180, 0, 27, 182, 0, 117, 162, 0, 40, 27, 42, 180, 0, 27]
abbrev dktX1_cutCount_0 : List UInt8 := dkwX1_cutCount_0 ++ dktX1_cutCount_1
theorem dksX1_cutCount_0 : cX1_cutCount.data.toList.drop 0 = dktX1_cutCount_0 := by decide +kernel
theorem dksX1_cutCount_1 : cX1_cutCount.data.toList.drop 22 = dktX1_cutCount_1 := dk_seg dksX1_cutCount_0 22 rfl rfl
theorem dksX1_cutCount_2 : cX1_cutCount.data.toList.drop 46 = dktX1_cutCount_2 := dk_seg dksX1_cutCount_1 24 rfl rfl
theorem dX1_cutCount_0 : decode cX1_cutCount 0 = .ok (.iconst 0, 1) := dk_3 (dk_at dksX1_cutCount_0 0 rfl rfl)
theorem dX1_cutCount_1 : decode cX1_cutCount 1 = .ok (.istore_n 1, 1) := dk_60 (dk_at dksX1_cutCount_0 1 rfl rfl)
theorem dX1_cutCount_2 : decode cX1_cutCount 2 = .ok (.iconst 0, 1) := dk_3 (dk_at dksX1_cutCount_0 2 rfl rfl)
theorem dX1_cutCount_3 : decode cX1_cutCount 3 = .ok (.istore_n 2, 1) := dk_61 (dk_at dksX1_cutCount_0 3 rfl rfl)
theorem dX1_cutCount_4 : decode cX1_cutCount 4 = .ok (.iload_n 2, 1) := dk_28 (dk_at dksX1_cutCount_0 4 rfl rfl)
theorem dX1_cutCount_5 : decode cX1_cutCount 5 = .ok (.iconst 1, 1) := dk_4 (dk_at dksX1_cutCount_0 5 rfl rfl)
theorem dX1_cutCount_6 : decode cX1_cutCount 6 = .ok (.iadd, 1) := dk_96 (dk_at dksX1_cutCount_0 6 rfl rfl)
theorem dX1_cutCount_7 : decode cX1_cutCount 7 = .ok (.aload_n 0, 1) := dk_42 (dk_at dksX1_cutCount_0 7 rfl rfl)
theorem dX1_cutCount_8 : decode cX1_cutCount 8 = .ok (.getfield 27, 3) := dk_180 0 27 (dk_at dksX1_cutCount_0 8 rfl rfl)
theorem dX1_cutCount_11 : decode cX1_cutCount 11 = .ok (.invokevirtual 117, 3) := dk_182 0 117 (dk_at dksX1_cutCount_0 11 rfl rfl)
theorem dX1_cutCount_14 : decode cX1_cutCount 14 = .ok (.if_icmp .ge 40, 3) := dk_162 0 40 (dk_at dksX1_cutCount_0 14 rfl rfl)
theorem dX1_cutCount_17 : decode cX1_cutCount 17 = .ok (.iload_n 1, 1) := dk_27 (dk_at dksX1_cutCount_0 17 rfl rfl)
theorem dX1_cutCount_18 : decode cX1_cutCount 18 = .ok (.aload_n 0, 1) := dk_42 (dk_at dksX1_cutCount_0 18 rfl rfl)
theorem dX1_cutCount_19 : decode cX1_cutCount 19 = .ok (.getfield 27, 3) := dk_180 0 27 (dk_at dksX1_cutCount_0 19 rfl rfl)
theorem dX1_cutCount_22 : decode cX1_cutCount 22 = .ok (.getfield 192, 3) := dk_180 0 192 (dk_at dksX1_cutCount_1 0 rfl rfl)
theorem dX1_cutCount_25 : decode cX1_cutCount 25 = .ok (.iload_n 2, 1) := dk_28 (dk_at dksX1_cutCount_1 3 rfl rfl)
theorem dX1_cutCount_26 : decode cX1_cutCount 26 = .ok (.iaload, 1) := dk_46 (dk_at dksX1_cutCount_1 4 rfl rfl)
theorem dX1_cutCount_27 : decode cX1_cutCount 27 = .ok (.aload_n 0, 1) := dk_42 (dk_at dksX1_cutCount_1 5 rfl rfl)
theorem dX1_cutCount_28 : decode cX1_cutCount 28 = .ok (.getfield 27, 3) := dk_180 0 27 (dk_at dksX1_cutCount_1 6 rfl rfl)
theorem dX1_cutCount_31 : decode cX1_cutCount 31 = .ok (.getfield 192, 3) := dk_180 0 192 (dk_at dksX1_cutCount_1 9 rfl rfl)
theorem dX1_cutCount_34 : decode cX1_cutCount 34 = .ok (.iload_n 2, 1) := dk_28 (dk_at dksX1_cutCount_1 12 rfl rfl)
theorem dX1_cutCount_35 : decode cX1_cutCount 35 = .ok (.iconst 1, 1) := dk_4 (dk_at dksX1_cutCount_1 13 rfl rfl)
theorem dX1_cutCount_36 : decode cX1_cutCount 36 = .ok (.iadd, 1) := dk_96 (dk_at dksX1_cutCount_1 14 rfl rfl)
theorem dX1_cutCount_37 : decode cX1_cutCount 37 = .ok (.iaload, 1) := dk_46 (dk_at dksX1_cutCount_1 15 rfl rfl)
theorem dX1_cutCount_38 : decode cX1_cutCount 38 = .ok (.if_icmp .eq 7, 3) := dk_159 0 7 (dk_at dksX1_cutCount_1 16 rfl rfl)
theorem dX1_cutCount_41 : decode cX1_cutCount 41 = .ok (.iconst 1, 1) := dk_4 (dk_at dksX1_cutCount_1 19 rfl rfl)
theorem dX1_cutCount_42 : decode cX1_cutCount 42 = .ok (.goto 4, 3) := dk_167 0 4 (dk_at dksX1_cutCount_1 20 rfl rfl)
theorem dX1_cutCount_45 : decode cX1_cutCount 45 = .ok (.iconst 0, 1) := dk_3 (dk_at dksX1_cutCount_1 23 rfl rfl)
theorem dX1_cutCount_46 : decode cX1_cutCount 46 = .ok (.iadd, 1) := dk_96 (dk_at dksX1_cutCount_2 0 rfl rfl)
theorem dX1_cutCount_47 : decode cX1_cutCount 47 = .ok (.istore_n 1, 1) := dk_60 (dk_at dksX1_cutCount_2 1 rfl rfl)
theorem dX1_cutCount_48 : decode cX1_cutCount 48 = .ok (.iinc 2 1, 3) := dk_132 2 1 (dk_at dksX1_cutCount_2 2 rfl rfl)
theorem dX1_cutCount_51 : decode cX1_cutCount 51 = .ok (.goto (-47), 3) := dk_167 255 209 (dk_at dksX1_cutCount_2 5 rfl rfl)
theorem dX1_cutCount_54 : decode cX1_cutCount 54 = .ok (.iload_n 1, 1) := dk_27 (dk_at dksX1_cutCount_2 8 rfl rfl)
theorem dX1_cutCount_55 : decode cX1_cutCount 55 = .ok (.ireturn, 1) := dk_172 (dk_at dksX1_cutCount_2 9 rfl rfl)
abbrev cX1_meanPieces : ByteArray := prog_1_method_52_code
def yX1_meanPieces : MethodName := ⟨RX1, "meanPieces", "()D"⟩
def dkwX1_meanPieces_1 : List UInt8 := [96, 60, 132, 2, 1, 167, 255, 231, 27, 135, 42, 180, 0, 27, 182, 0, 106, 135, 111, 175]
abbrev dktX1_meanPieces_1 : List UInt8 := dkwX1_meanPieces_1 ++ []
def dkwX1_meanPieces_0 : List UInt8 := [3, 60, 3, 61, 28, 42, 180, 0, 27, 182, 0, 106, 162, 0, 20, 27, 42, 180, 0, 27, 28, 182, 0, 210]
abbrev dktX1_meanPieces_0 : List UInt8 := dkwX1_meanPieces_0 ++ dktX1_meanPieces_1
theorem dksX1_meanPieces_0 : cX1_meanPieces.data.toList.drop 0 = dktX1_meanPieces_0 := by decide +kernel
theorem dksX1_meanPieces_1 : cX1_meanPieces.data.toList.drop 24 = dktX1_meanPieces_1 := dk_seg dksX1_meanPieces_0 24 rfl rfl
theorem dX1_meanPieces_0 : decode cX1_meanPieces 0 = .ok (.iconst 0, 1) := dk_3 (dk_at dksX1_meanPieces_0 0 rfl rfl)
theorem dX1_meanPieces_1 : decode cX1_meanPieces 1 = .ok (.istore_n 1, 1) := dk_60 (dk_at dksX1_meanPieces_0 1 rfl rfl)
theorem dX1_meanPieces_2 : decode cX1_meanPieces 2 = .ok (.iconst 0, 1) := dk_3 (dk_at dksX1_meanPieces_0 2 rfl rfl)
theorem dX1_meanPieces_3 : decode cX1_meanPieces 3 = .ok (.istore_n 2, 1) := dk_61 (dk_at dksX1_meanPieces_0 3 rfl rfl)
theorem dX1_meanPieces_4 : decode cX1_meanPieces 4 = .ok (.iload_n 2, 1) := dk_28 (dk_at dksX1_meanPieces_0 4 rfl rfl)
theorem dX1_meanPieces_5 : decode cX1_meanPieces 5 = .ok (.aload_n 0, 1) := dk_42 (dk_at dksX1_meanPieces_0 5 rfl rfl)
theorem dX1_meanPieces_6 : decode cX1_meanPieces 6 = .ok (.getfield 27, 3) := dk_180 0 27 (dk_at dksX1_meanPieces_0 6 rfl rfl)
theorem dX1_meanPieces_9 : decode cX1_meanPieces 9 = .ok (.invokevirtual 106, 3) := dk_182 0 106 (dk_at dksX1_meanPieces_0 9 rfl rfl)
theorem dX1_meanPieces_12 : decode cX1_meanPieces 12 = .ok (.if_icmp .ge 20, 3) := dk_162 0 20 (dk_at dksX1_meanPieces_0 12 rfl rfl)
theorem dX1_meanPieces_15 : decode cX1_meanPieces 15 = .ok (.iload_n 1, 1) := dk_27 (dk_at dksX1_meanPieces_0 15 rfl rfl)
theorem dX1_meanPieces_16 : decode cX1_meanPieces 16 = .ok (.aload_n 0, 1) := dk_42 (dk_at dksX1_meanPieces_0 16 rfl rfl)
theorem dX1_meanPieces_17 : decode cX1_meanPieces 17 = .ok (.getfield 27, 3) := dk_180 0 27 (dk_at dksX1_meanPieces_0 17 rfl rfl)
theorem dX1_meanPieces_20 : decode cX1_meanPieces 20 = .ok (.iload_n 2, 1) := dk_28 (dk_at dksX1_meanPieces_0 20 rfl rfl)
theorem dX1_meanPieces_21 : decode cX1_meanPieces 21 = .ok (.invokevirtual 210, 3) := dk_182 0 210 (dk_at dksX1_meanPieces_0 21 rfl rfl)
theorem dX1_meanPieces_24 : decode cX1_meanPieces 24 = .ok (.iadd, 1) := dk_96 (dk_at dksX1_meanPieces_1 0 rfl rfl)
theorem dX1_meanPieces_25 : decode cX1_meanPieces 25 = .ok (.istore_n 1, 1) := dk_60 (dk_at dksX1_meanPieces_1 1 rfl rfl)
theorem dX1_meanPieces_26 : decode cX1_meanPieces 26 = .ok (.iinc 2 1, 3) := dk_132 2 1 (dk_at dksX1_meanPieces_1 2 rfl rfl)
theorem dX1_meanPieces_29 : decode cX1_meanPieces 29 = .ok (.goto (-25), 3) := dk_167 255 231 (dk_at dksX1_meanPieces_1 5 rfl rfl)
theorem dX1_meanPieces_32 : decode cX1_meanPieces 32 = .ok (.iload_n 1, 1) := dk_27 (dk_at dksX1_meanPieces_1 8 rfl rfl)
theorem dX1_meanPieces_33 : decode cX1_meanPieces 33 = .ok (.i2d, 1) := dk_135 (dk_at dksX1_meanPieces_1 9 rfl rfl)
theorem dX1_meanPieces_34 : decode cX1_meanPieces 34 = .ok (.aload_n 0, 1) := dk_42 (dk_at dksX1_meanPieces_1 10 rfl rfl)
theorem dX1_meanPieces_35 : decode cX1_meanPieces 35 = .ok (.getfield 27, 3) := dk_180 0 27 (dk_at dksX1_meanPieces_1 11 rfl rfl)
theorem dX1_meanPieces_38 : decode cX1_meanPieces 38 = .ok (.invokevirtual 106, 3) := dk_182 0 106 (dk_at dksX1_meanPieces_1 14 rfl rfl)
theorem dX1_meanPieces_41 : decode cX1_meanPieces 41 = .ok (.i2d, 1) := dk_135 (dk_at dksX1_meanPieces_1 17 rfl rfl)
theorem dX1_meanPieces_42 : decode cX1_meanPieces 42 = .ok (.ddiv, 1) := dk_111 (dk_at dksX1_meanPieces_1 18 rfl rfl)
theorem dX1_meanPieces_43 : decode cX1_meanPieces 43 = .ok (.dreturn, 1) := dk_175 (dk_at dksX1_meanPieces_1 19 rfl rfl)
abbrev cX1_inconsistencies : ByteArray := prog_1_method_53_code
def yX1_inconsistencies : MethodName := ⟨RX1, "inconsistencies", "()I"⟩
def dkwX1_inconsistencies_2 : List UInt8 := [182, 0, 219, 153, 0, 7, 4, 167, 0, 4, 3, 96, 60, 132, 2, 1, 167, 255, 211, 27, 172]
abbrev dktX1_inconsistencies_2 : List UInt8 := dkwX1_inconsistencies_2 ++ []
def dkwX1_inconsistencies_1 : List UInt8 := [182, 0, 106, 162, 0, 40, 27, 42, 180, 0, 27, 28, 182, 0, 207, 100, 60, 27, 42, 180, 0, 27, 28, 28]
abbrev dktX1_inconsistencies_1 : List UInt8 := dkwX1_inconsistencies_1 ++ dktX1_inconsistencies_2
def dkwX1_inconsistencies_0 : List UInt8 := [42, 180, 0, 27, 182, 0, 117, 42, 180, 0, 27, 2, 182, 0, 207, 100, 60, 3, 61, 28, 42, 180, 0, 27]
abbrev dktX1_inconsistencies_0 : List UInt8 := dkwX1_inconsistencies_0 ++ dktX1_inconsistencies_1
theorem dksX1_inconsistencies_0 : cX1_inconsistencies.data.toList.drop 0 = dktX1_inconsistencies_0 := by decide +kernel
theorem dksX1_inconsistencies_1 : cX1_inconsistencies.data.toList.drop 24 = dktX1_inconsistencies_1 := dk_seg dksX1_inconsistencies_0 24 rfl rfl
theorem dksX1_inconsistencies_2 : cX1_inconsistencies.data.toList.drop 48 = dktX1_inconsistencies_2 := dk_seg dksX1_inconsistencies_1 24 rfl rfl
theorem dX1_inconsistencies_0 : decode cX1_inconsistencies 0 = .ok (.aload_n 0, 1) := dk_42 (dk_at dksX1_inconsistencies_0 0 rfl rfl)
theorem dX1_inconsistencies_1 : decode cX1_inconsistencies 1 = .ok (.getfield 27, 3) := dk_180 0 27 (dk_at dksX1_inconsistencies_0 1 rfl rfl)
theorem dX1_inconsistencies_4 : decode cX1_inconsistencies 4 = .ok (.invokevirtual 117, 3) := dk_182 0 117 (dk_at dksX1_inconsistencies_0 4 rfl rfl)
theorem dX1_inconsistencies_7 : decode cX1_inconsistencies 7 = .ok (.aload_n 0, 1) := dk_42 (dk_at dksX1_inconsistencies_0 7 rfl rfl)
theorem dX1_inconsistencies_8 : decode cX1_inconsistencies 8 = .ok (.getfield 27, 3) := dk_180 0 27 (dk_at dksX1_inconsistencies_0 8 rfl rfl)
theorem dX1_inconsistencies_11 : decode cX1_inconsistencies 11 = .ok (.iconst (-1), 1) := dk_2 (dk_at dksX1_inconsistencies_0 11 rfl rfl)
theorem dX1_inconsistencies_12 : decode cX1_inconsistencies 12 = .ok (.invokevirtual 207, 3) := dk_182 0 207 (dk_at dksX1_inconsistencies_0 12 rfl rfl)
theorem dX1_inconsistencies_15 : decode cX1_inconsistencies 15 = .ok (.isub, 1) := dk_100 (dk_at dksX1_inconsistencies_0 15 rfl rfl)
theorem dX1_inconsistencies_16 : decode cX1_inconsistencies 16 = .ok (.istore_n 1, 1) := dk_60 (dk_at dksX1_inconsistencies_0 16 rfl rfl)
theorem dX1_inconsistencies_17 : decode cX1_inconsistencies 17 = .ok (.iconst 0, 1) := dk_3 (dk_at dksX1_inconsistencies_0 17 rfl rfl)
theorem dX1_inconsistencies_18 : decode cX1_inconsistencies 18 = .ok (.istore_n 2, 1) := dk_61 (dk_at dksX1_inconsistencies_0 18 rfl rfl)
theorem dX1_inconsistencies_19 : decode cX1_inconsistencies 19 = .ok (.iload_n 2, 1) := dk_28 (dk_at dksX1_inconsistencies_0 19 rfl rfl)
theorem dX1_inconsistencies_20 : decode cX1_inconsistencies 20 = .ok (.aload_n 0, 1) := dk_42 (dk_at dksX1_inconsistencies_0 20 rfl rfl)
theorem dX1_inconsistencies_21 : decode cX1_inconsistencies 21 = .ok (.getfield 27, 3) := dk_180 0 27 (dk_at dksX1_inconsistencies_0 21 rfl rfl)
theorem dX1_inconsistencies_24 : decode cX1_inconsistencies 24 = .ok (.invokevirtual 106, 3) := dk_182 0 106 (dk_at dksX1_inconsistencies_1 0 rfl rfl)
theorem dX1_inconsistencies_27 : decode cX1_inconsistencies 27 = .ok (.if_icmp .ge 40, 3) := dk_162 0 40 (dk_at dksX1_inconsistencies_1 3 rfl rfl)
theorem dX1_inconsistencies_30 : decode cX1_inconsistencies 30 = .ok (.iload_n 1, 1) := dk_27 (dk_at dksX1_inconsistencies_1 6 rfl rfl)
theorem dX1_inconsistencies_31 : decode cX1_inconsistencies 31 = .ok (.aload_n 0, 1) := dk_42 (dk_at dksX1_inconsistencies_1 7 rfl rfl)
theorem dX1_inconsistencies_32 : decode cX1_inconsistencies 32 = .ok (.getfield 27, 3) := dk_180 0 27 (dk_at dksX1_inconsistencies_1 8 rfl rfl)
theorem dX1_inconsistencies_35 : decode cX1_inconsistencies 35 = .ok (.iload_n 2, 1) := dk_28 (dk_at dksX1_inconsistencies_1 11 rfl rfl)
theorem dX1_inconsistencies_36 : decode cX1_inconsistencies 36 = .ok (.invokevirtual 207, 3) := dk_182 0 207 (dk_at dksX1_inconsistencies_1 12 rfl rfl)
theorem dX1_inconsistencies_39 : decode cX1_inconsistencies 39 = .ok (.isub, 1) := dk_100 (dk_at dksX1_inconsistencies_1 15 rfl rfl)
theorem dX1_inconsistencies_40 : decode cX1_inconsistencies 40 = .ok (.istore_n 1, 1) := dk_60 (dk_at dksX1_inconsistencies_1 16 rfl rfl)
theorem dX1_inconsistencies_41 : decode cX1_inconsistencies 41 = .ok (.iload_n 1, 1) := dk_27 (dk_at dksX1_inconsistencies_1 17 rfl rfl)
theorem dX1_inconsistencies_42 : decode cX1_inconsistencies 42 = .ok (.aload_n 0, 1) := dk_42 (dk_at dksX1_inconsistencies_1 18 rfl rfl)
theorem dX1_inconsistencies_43 : decode cX1_inconsistencies 43 = .ok (.getfield 27, 3) := dk_180 0 27 (dk_at dksX1_inconsistencies_1 19 rfl rfl)
theorem dX1_inconsistencies_46 : decode cX1_inconsistencies 46 = .ok (.iload_n 2, 1) := dk_28 (dk_at dksX1_inconsistencies_1 22 rfl rfl)
theorem dX1_inconsistencies_47 : decode cX1_inconsistencies 47 = .ok (.iload_n 2, 1) := dk_28 (dk_at dksX1_inconsistencies_1 23 rfl rfl)
theorem dX1_inconsistencies_48 : decode cX1_inconsistencies 48 = .ok (.invokevirtual 219, 3) := dk_182 0 219 (dk_at dksX1_inconsistencies_2 0 rfl rfl)
theorem dX1_inconsistencies_51 : decode cX1_inconsistencies 51 = .ok (.ifCond .eq 7, 3) := dk_153 0 7 (dk_at dksX1_inconsistencies_2 3 rfl rfl)
theorem dX1_inconsistencies_54 : decode cX1_inconsistencies 54 = .ok (.iconst 1, 1) := dk_4 (dk_at dksX1_inconsistencies_2 6 rfl rfl)
theorem dX1_inconsistencies_55 : decode cX1_inconsistencies 55 = .ok (.goto 4, 3) := dk_167 0 4 (dk_at dksX1_inconsistencies_2 7 rfl rfl)
theorem dX1_inconsistencies_58 : decode cX1_inconsistencies 58 = .ok (.iconst 0, 1) := dk_3 (dk_at dksX1_inconsistencies_2 10 rfl rfl)
theorem dX1_inconsistencies_59 : decode cX1_inconsistencies 59 = .ok (.iadd, 1) := dk_96 (dk_at dksX1_inconsistencies_2 11 rfl rfl)
theorem dX1_inconsistencies_60 : decode cX1_inconsistencies 60 = .ok (.istore_n 1, 1) := dk_60 (dk_at dksX1_inconsistencies_2 12 rfl rfl)
theorem dX1_inconsistencies_61 : decode cX1_inconsistencies 61 = .ok (.iinc 2 1, 3) := dk_132 2 1 (dk_at dksX1_inconsistencies_2 13 rfl rfl)
theorem dX1_inconsistencies_64 : decode cX1_inconsistencies 64 = .ok (.goto (-45), 3) := dk_167 255 211 (dk_at dksX1_inconsistencies_2 16 rfl rfl)
theorem dX1_inconsistencies_67 : decode cX1_inconsistencies 67 = .ok (.iload_n 1, 1) := dk_27 (dk_at dksX1_inconsistencies_2 19 rfl rfl)
theorem dX1_inconsistencies_68 : decode cX1_inconsistencies 68 = .ok (.ireturn, 1) := dk_172 (dk_at dksX1_inconsistencies_2 20 rfl rfl)
abbrev cX1_bestFirst : ByteArray := prog_1_method_58_code
def yX1_bestFirst : MethodName := ⟨RX1, "bestFirst", "()I"⟩
def dkwX1_bestFirst_2 : List UInt8 := [132, 3, 1, 167, 255, 213, 27, 172]
abbrev dktX1_bestFirst_2 : List UInt8 := dkwX1_bestFirst_2 ++ []
def dkwX1_bestFirst_1 : List UInt8 := [182, 0, 253, 54, 4, 21, 4, 28, 164, 0, 7, 29, 167, 0, 4, 27, 60, 28, 21, 4, 184, 1, 0, 61]
abbrev dktX1_bestFirst_1 : List UInt8 := dkwX1_bestFirst_1 ++ dktX1_bestFirst_2
def dkwX1_bestFirst_0 : List UInt8 := [2, 60, 2, 61, 3, 62, 29, 42, 180, 0, 27, 182, 0, 106, 162, 0, 38, 42, 29, 182, 1, 32]
abbrev dktX1_bestFirst_0 : List UInt8 := dkwX1_bestFirst_0 ++ dktX1_bestFirst_1
theorem dksX1_bestFirst_0 : cX1_bestFirst.data.toList.drop 0 = dktX1_bestFirst_0 := by decide +kernel
theorem dksX1_bestFirst_1 : cX1_bestFirst.data.toList.drop 22 = dktX1_bestFirst_1 := dk_seg dksX1_bestFirst_0 22 rfl rfl
theorem dksX1_bestFirst_2 : cX1_bestFirst.data.toList.drop 46 = dktX1_bestFirst_2 := dk_seg dksX1_bestFirst_1 24 rfl rfl
theorem dX1_bestFirst_0 : decode cX1_bestFirst 0 = .ok (.iconst (-1), 1) := dk_2 (dk_at dksX1_bestFirst_0 0 rfl rfl)
theorem dX1_bestFirst_1 : decode cX1_bestFirst 1 = .ok (.istore_n 1, 1) := dk_60 (dk_at dksX1_bestFirst_0 1 rfl rfl)
theorem dX1_bestFirst_2 : decode cX1_bestFirst 2 = .ok (.iconst (-1), 1) := dk_2 (dk_at dksX1_bestFirst_0 2 rfl rfl)
theorem dX1_bestFirst_3 : decode cX1_bestFirst 3 = .ok (.istore_n 2, 1) := dk_61 (dk_at dksX1_bestFirst_0 3 rfl rfl)
theorem dX1_bestFirst_4 : decode cX1_bestFirst 4 = .ok (.iconst 0, 1) := dk_3 (dk_at dksX1_bestFirst_0 4 rfl rfl)
theorem dX1_bestFirst_5 : decode cX1_bestFirst 5 = .ok (.istore_n 3, 1) := dk_62 (dk_at dksX1_bestFirst_0 5 rfl rfl)
theorem dX1_bestFirst_6 : decode cX1_bestFirst 6 = .ok (.iload_n 3, 1) := dk_29 (dk_at dksX1_bestFirst_0 6 rfl rfl)
theorem dX1_bestFirst_7 : decode cX1_bestFirst 7 = .ok (.aload_n 0, 1) := dk_42 (dk_at dksX1_bestFirst_0 7 rfl rfl)
theorem dX1_bestFirst_8 : decode cX1_bestFirst 8 = .ok (.getfield 27, 3) := dk_180 0 27 (dk_at dksX1_bestFirst_0 8 rfl rfl)
theorem dX1_bestFirst_11 : decode cX1_bestFirst 11 = .ok (.invokevirtual 106, 3) := dk_182 0 106 (dk_at dksX1_bestFirst_0 11 rfl rfl)
theorem dX1_bestFirst_14 : decode cX1_bestFirst 14 = .ok (.if_icmp .ge 38, 3) := dk_162 0 38 (dk_at dksX1_bestFirst_0 14 rfl rfl)
theorem dX1_bestFirst_17 : decode cX1_bestFirst 17 = .ok (.aload_n 0, 1) := dk_42 (dk_at dksX1_bestFirst_0 17 rfl rfl)
theorem dX1_bestFirst_18 : decode cX1_bestFirst 18 = .ok (.iload_n 3, 1) := dk_29 (dk_at dksX1_bestFirst_0 18 rfl rfl)
theorem dX1_bestFirst_19 : decode cX1_bestFirst 19 = .ok (.invokevirtual 288, 3) := dk_182 1 32 (dk_at dksX1_bestFirst_0 19 rfl rfl)
theorem dX1_bestFirst_22 : decode cX1_bestFirst 22 = .ok (.invokevirtual 253, 3) := dk_182 0 253 (dk_at dksX1_bestFirst_1 0 rfl rfl)
theorem dX1_bestFirst_25 : decode cX1_bestFirst 25 = .ok (.istore 4, 2) := dk_54 4 (dk_at dksX1_bestFirst_1 3 rfl rfl)
theorem dX1_bestFirst_27 : decode cX1_bestFirst 27 = .ok (.iload 4, 2) := dk_21 4 (dk_at dksX1_bestFirst_1 5 rfl rfl)
theorem dX1_bestFirst_29 : decode cX1_bestFirst 29 = .ok (.iload_n 2, 1) := dk_28 (dk_at dksX1_bestFirst_1 7 rfl rfl)
theorem dX1_bestFirst_30 : decode cX1_bestFirst 30 = .ok (.if_icmp .le 7, 3) := dk_164 0 7 (dk_at dksX1_bestFirst_1 8 rfl rfl)
theorem dX1_bestFirst_33 : decode cX1_bestFirst 33 = .ok (.iload_n 3, 1) := dk_29 (dk_at dksX1_bestFirst_1 11 rfl rfl)
theorem dX1_bestFirst_34 : decode cX1_bestFirst 34 = .ok (.goto 4, 3) := dk_167 0 4 (dk_at dksX1_bestFirst_1 12 rfl rfl)
theorem dX1_bestFirst_37 : decode cX1_bestFirst 37 = .ok (.iload_n 1, 1) := dk_27 (dk_at dksX1_bestFirst_1 15 rfl rfl)
theorem dX1_bestFirst_38 : decode cX1_bestFirst 38 = .ok (.istore_n 1, 1) := dk_60 (dk_at dksX1_bestFirst_1 16 rfl rfl)
theorem dX1_bestFirst_39 : decode cX1_bestFirst 39 = .ok (.iload_n 2, 1) := dk_28 (dk_at dksX1_bestFirst_1 17 rfl rfl)
theorem dX1_bestFirst_40 : decode cX1_bestFirst 40 = .ok (.iload 4, 2) := dk_21 4 (dk_at dksX1_bestFirst_1 18 rfl rfl)
theorem dX1_bestFirst_42 : decode cX1_bestFirst 42 = .ok (.invokestatic 256, 3) := dk_184 1 0 (dk_at dksX1_bestFirst_1 20 rfl rfl)
theorem dX1_bestFirst_45 : decode cX1_bestFirst 45 = .ok (.istore_n 2, 1) := dk_61 (dk_at dksX1_bestFirst_1 23 rfl rfl)
theorem dX1_bestFirst_46 : decode cX1_bestFirst 46 = .ok (.iinc 3 1, 3) := dk_132 3 1 (dk_at dksX1_bestFirst_2 0 rfl rfl)
theorem dX1_bestFirst_49 : decode cX1_bestFirst 49 = .ok (.goto (-43), 3) := dk_167 255 213 (dk_at dksX1_bestFirst_2 3 rfl rfl)
theorem dX1_bestFirst_52 : decode cX1_bestFirst 52 = .ok (.iload_n 1, 1) := dk_27 (dk_at dksX1_bestFirst_2 6 rfl rfl)
theorem dX1_bestFirst_53 : decode cX1_bestFirst 53 = .ok (.ireturn, 1) := dk_172 (dk_at dksX1_bestFirst_2 7 rfl rfl)
abbrev cX1_afterRobin : ByteArray := prog_1_method_56_code
def yX1_afterRobin : MethodName := ⟨RX1, "afterRobin", "(I)LCakeDivision$State;"⟩
def dkwX1_afterRobin_0 : List UInt8 := [42, 180, 0, 27, 182, 1, 25, 77, 44, 27, 182, 1, 29, 87, 44, 176]
abbrev dktX1_afterRobin_0 : List UInt8 := dkwX1_afterRobin_0 ++ []
theorem dksX1_afterRobin_0 : cX1_afterRobin.data.toList.drop 0 = dktX1_afterRobin_0 := by decide +kernel
theorem dX1_afterRobin_0 : decode cX1_afterRobin 0 = .ok (.aload_n 0, 1) := dk_42 (dk_at dksX1_afterRobin_0 0 rfl rfl)
theorem dX1_afterRobin_1 : decode cX1_afterRobin 1 = .ok (.getfield 27, 3) := dk_180 0 27 (dk_at dksX1_afterRobin_0 1 rfl rfl)
theorem dX1_afterRobin_4 : decode cX1_afterRobin 4 = .ok (.invokevirtual 281, 3) := dk_182 1 25 (dk_at dksX1_afterRobin_0 4 rfl rfl)
theorem dX1_afterRobin_7 : decode cX1_afterRobin 7 = .ok (.astore_n 2, 1) := dk_77 (dk_at dksX1_afterRobin_0 7 rfl rfl)
theorem dX1_afterRobin_8 : decode cX1_afterRobin 8 = .ok (.aload_n 2, 1) := dk_44 (dk_at dksX1_afterRobin_0 8 rfl rfl)
theorem dX1_afterRobin_9 : decode cX1_afterRobin 9 = .ok (.iload_n 1, 1) := dk_27 (dk_at dksX1_afterRobin_0 9 rfl rfl)
theorem dX1_afterRobin_10 : decode cX1_afterRobin 10 = .ok (.invokevirtual 285, 3) := dk_182 1 29 (dk_at dksX1_afterRobin_0 10 rfl rfl)
theorem dX1_afterRobin_13 : decode cX1_afterRobin 13 = .ok (.pop, 1) := dk_87 (dk_at dksX1_afterRobin_0 13 rfl rfl)
theorem dX1_afterRobin_14 : decode cX1_afterRobin 14 = .ok (.aload_n 2, 1) := dk_44 (dk_at dksX1_afterRobin_0 14 rfl rfl)
theorem dX1_afterRobin_15 : decode cX1_afterRobin 15 = .ok (.areturn, 1) := dk_176 (dk_at dksX1_afterRobin_0 15 rfl rfl)
abbrev cX1_movingKnife : ByteArray := prog_1_method_72_code
def yX1_movingKnife : MethodName := ⟨RX1, "movingKnife", "()I"⟩
def dkwX1_movingKnife_1 : List UInt8 := [172]
abbrev dktX1_movingKnife_1 : List UInt8 := dkwX1_movingKnife_1 ++ []
def dkwX1_movingKnife_0 : List UInt8 := [187, 0, 22, 89, 42, 180, 0, 27, 183, 1, 19, 76, 42, 43, 42, 180, 0, 27, 182, 1, 22, 182, 1, 66]
abbrev dktX1_movingKnife_0 : List UInt8 := dkwX1_movingKnife_0 ++ dktX1_movingKnife_1
theorem dksX1_movingKnife_0 : cX1_movingKnife.data.toList.drop 0 = dktX1_movingKnife_0 := by decide +kernel
theorem dksX1_movingKnife_1 : cX1_movingKnife.data.toList.drop 24 = dktX1_movingKnife_1 := dk_seg dksX1_movingKnife_0 24 rfl rfl
theorem dX1_movingKnife_0 : decode cX1_movingKnife 0 = .ok (.new 22, 3) := dk_187 0 22 (dk_at dksX1_movingKnife_0 0 rfl rfl)
theorem dX1_movingKnife_3 : decode cX1_movingKnife 3 = .ok (.dup, 1) := dk_89 (dk_at dksX1_movingKnife_0 3 rfl rfl)
theorem dX1_movingKnife_4 : decode cX1_movingKnife 4 = .ok (.aload_n 0, 1) := dk_42 (dk_at dksX1_movingKnife_0 4 rfl rfl)
theorem dX1_movingKnife_5 : decode cX1_movingKnife 5 = .ok (.getfield 27, 3) := dk_180 0 27 (dk_at dksX1_movingKnife_0 5 rfl rfl)
theorem dX1_movingKnife_8 : decode cX1_movingKnife 8 = .ok (.invokespecial 275, 3) := dk_183 1 19 (dk_at dksX1_movingKnife_0 8 rfl rfl)
theorem dX1_movingKnife_11 : decode cX1_movingKnife 11 = .ok (.astore_n 1, 1) := dk_76 (dk_at dksX1_movingKnife_0 11 rfl rfl)
theorem dX1_movingKnife_12 : decode cX1_movingKnife 12 = .ok (.aload_n 0, 1) := dk_42 (dk_at dksX1_movingKnife_0 12 rfl rfl)
theorem dX1_movingKnife_13 : decode cX1_movingKnife 13 = .ok (.aload_n 1, 1) := dk_43 (dk_at dksX1_movingKnife_0 13 rfl rfl)
theorem dX1_movingKnife_14 : decode cX1_movingKnife 14 = .ok (.aload_n 0, 1) := dk_42 (dk_at dksX1_movingKnife_0 14 rfl rfl)
theorem dX1_movingKnife_15 : decode cX1_movingKnife 15 = .ok (.getfield 27, 3) := dk_180 0 27 (dk_at dksX1_movingKnife_0 15 rfl rfl)
theorem dX1_movingKnife_18 : decode cX1_movingKnife 18 = .ok (.invokevirtual 278, 3) := dk_182 1 22 (dk_at dksX1_movingKnife_0 18 rfl rfl)
theorem dX1_movingKnife_21 : decode cX1_movingKnife 21 = .ok (.invokevirtual 322, 3) := dk_182 1 66 (dk_at dksX1_movingKnife_0 21 rfl rfl)
theorem dX1_movingKnife_24 : decode cX1_movingKnife 24 = .ok (.ireturn, 1) := dk_172 (dk_at dksX1_movingKnife_1 0 rfl rfl)
abbrev cX1_record : ByteArray := prog_1_method_59_code
def yX1_record : MethodName := ⟨RX1, "record", "(LCakeDivision$State;I)I"⟩
def dkwX1_record_1 : List UInt8 := [43, 182, 1, 41, 28, 172]
abbrev dktX1_record_1 : List UInt8 := dkwX1_record_1 ++ []
def dkwX1_record_0 : List UInt8 := [42, 180, 0, 34, 182, 1, 36, 16, 6, 160, 0, 11, 42, 180, 0, 34, 182, 1, 37, 87, 42, 180, 0, 34]
abbrev dktX1_record_0 : List UInt8 := dkwX1_record_0 ++ dktX1_record_1
theorem dksX1_record_0 : cX1_record.data.toList.drop 0 = dktX1_record_0 := by decide +kernel
theorem dksX1_record_1 : cX1_record.data.toList.drop 24 = dktX1_record_1 := dk_seg dksX1_record_0 24 rfl rfl
theorem dX1_record_0 : decode cX1_record 0 = .ok (.aload_n 0, 1) := dk_42 (dk_at dksX1_record_0 0 rfl rfl)
theorem dX1_record_1 : decode cX1_record 1 = .ok (.getfield 34, 3) := dk_180 0 34 (dk_at dksX1_record_0 1 rfl rfl)
theorem dX1_record_4 : decode cX1_record 4 = .ok (.invokevirtual 292, 3) := dk_182 1 36 (dk_at dksX1_record_0 4 rfl rfl)
theorem dX1_record_7 : decode cX1_record 7 = .ok (.bipush 6, 2) := dk_16 6 (dk_at dksX1_record_0 7 rfl rfl)
theorem dX1_record_9 : decode cX1_record 9 = .ok (.if_icmp .ne 11, 3) := dk_160 0 11 (dk_at dksX1_record_0 9 rfl rfl)
theorem dX1_record_12 : decode cX1_record 12 = .ok (.aload_n 0, 1) := dk_42 (dk_at dksX1_record_0 12 rfl rfl)
theorem dX1_record_13 : decode cX1_record 13 = .ok (.getfield 34, 3) := dk_180 0 34 (dk_at dksX1_record_0 13 rfl rfl)
theorem dX1_record_16 : decode cX1_record 16 = .ok (.invokevirtual 293, 3) := dk_182 1 37 (dk_at dksX1_record_0 16 rfl rfl)
theorem dX1_record_19 : decode cX1_record 19 = .ok (.pop, 1) := dk_87 (dk_at dksX1_record_0 19 rfl rfl)
theorem dX1_record_20 : decode cX1_record 20 = .ok (.aload_n 0, 1) := dk_42 (dk_at dksX1_record_0 20 rfl rfl)
theorem dX1_record_21 : decode cX1_record 21 = .ok (.getfield 34, 3) := dk_180 0 34 (dk_at dksX1_record_0 21 rfl rfl)
theorem dX1_record_24 : decode cX1_record 24 = .ok (.aload_n 1, 1) := dk_43 (dk_at dksX1_record_1 0 rfl rfl)
theorem dX1_record_25 : decode cX1_record 25 = .ok (.invokevirtual 297, 3) := dk_182 1 41 (dk_at dksX1_record_1 1 rfl rfl)
theorem dX1_record_28 : decode cX1_record 28 = .ok (.iload_n 2, 1) := dk_28 (dk_at dksX1_record_1 4 rfl rfl)
theorem dX1_record_29 : decode cX1_record 29 = .ok (.ireturn, 1) := dk_172 (dk_at dksX1_record_1 5 rfl rfl)
abbrev cX1_writeOwners : ByteArray := prog_1_method_85_code
def yX1_writeOwners : MethodName := ⟨RX1, "writeOwners", "()I"⟩
def dkwX1_writeOwners_3 : List UInt8 := [28, 60, 132, 2, 1, 167, 255, 192, 42, 180, 1, 136, 172]
abbrev dktX1_writeOwners_3 : List UInt8 := dkwX1_writeOwners_3 ++ []
def dkwX1_writeOwners_2 : List UInt8 := [180, 0, 192, 27, 46, 159, 0, 21, 42, 28, 27, 100, 42, 180, 0, 27, 180, 0, 192, 27, 46, 182, 1, 142]
abbrev dktX1_writeOwners_2 : List UInt8 := dkwX1_writeOwners_2 ++ dktX1_writeOwners_3
def dkwX1_writeOwners_1 : List UInt8 := [180, 0, 27, 182, 0, 117, 159, 0, 24, 42, 180, 0, 27, 180, 0, 192, 28, 46, 42, 180, 0, 27]
abbrev dktX1_writeOwners_1 : List UInt8 := dkwX1_writeOwners_1 ++ dktX1_writeOwners_2
def dkwX1_writeOwners_0 : List UInt8 := [42, 3, 181, 1, 136, 3, 60, 4, 61, 28, 42, 180, 0, 27, 182, 0, 117, 163, 0, 59, 28, 42]
abbrev dktX1_writeOwners_0 : List UInt8 := dkwX1_writeOwners_0 ++ dktX1_writeOwners_1
theorem dksX1_writeOwners_0 : cX1_writeOwners.data.toList.drop 0 = dktX1_writeOwners_0 := by decide +kernel
theorem dksX1_writeOwners_1 : cX1_writeOwners.data.toList.drop 22 = dktX1_writeOwners_1 := dk_seg dksX1_writeOwners_0 22 rfl rfl
theorem dksX1_writeOwners_2 : cX1_writeOwners.data.toList.drop 44 = dktX1_writeOwners_2 := dk_seg dksX1_writeOwners_1 22 rfl rfl
theorem dksX1_writeOwners_3 : cX1_writeOwners.data.toList.drop 68 = dktX1_writeOwners_3 := dk_seg dksX1_writeOwners_2 24 rfl rfl
theorem dX1_writeOwners_0 : decode cX1_writeOwners 0 = .ok (.aload_n 0, 1) := dk_42 (dk_at dksX1_writeOwners_0 0 rfl rfl)
theorem dX1_writeOwners_1 : decode cX1_writeOwners 1 = .ok (.iconst 0, 1) := dk_3 (dk_at dksX1_writeOwners_0 1 rfl rfl)
theorem dX1_writeOwners_2 : decode cX1_writeOwners 2 = .ok (.putfield 392, 3) := dk_181 1 136 (dk_at dksX1_writeOwners_0 2 rfl rfl)
theorem dX1_writeOwners_5 : decode cX1_writeOwners 5 = .ok (.iconst 0, 1) := dk_3 (dk_at dksX1_writeOwners_0 5 rfl rfl)
theorem dX1_writeOwners_6 : decode cX1_writeOwners 6 = .ok (.istore_n 1, 1) := dk_60 (dk_at dksX1_writeOwners_0 6 rfl rfl)
theorem dX1_writeOwners_7 : decode cX1_writeOwners 7 = .ok (.iconst 1, 1) := dk_4 (dk_at dksX1_writeOwners_0 7 rfl rfl)
theorem dX1_writeOwners_8 : decode cX1_writeOwners 8 = .ok (.istore_n 2, 1) := dk_61 (dk_at dksX1_writeOwners_0 8 rfl rfl)
theorem dX1_writeOwners_9 : decode cX1_writeOwners 9 = .ok (.iload_n 2, 1) := dk_28 (dk_at dksX1_writeOwners_0 9 rfl rfl)
theorem dX1_writeOwners_10 : decode cX1_writeOwners 10 = .ok (.aload_n 0, 1) := dk_42 (dk_at dksX1_writeOwners_0 10 rfl rfl)
theorem dX1_writeOwners_11 : decode cX1_writeOwners 11 = .ok (.getfield 27, 3) := dk_180 0 27 (dk_at dksX1_writeOwners_0 11 rfl rfl)
theorem dX1_writeOwners_14 : decode cX1_writeOwners 14 = .ok (.invokevirtual 117, 3) := dk_182 0 117 (dk_at dksX1_writeOwners_0 14 rfl rfl)
theorem dX1_writeOwners_17 : decode cX1_writeOwners 17 = .ok (.if_icmp .gt 59, 3) := dk_163 0 59 (dk_at dksX1_writeOwners_0 17 rfl rfl)
theorem dX1_writeOwners_20 : decode cX1_writeOwners 20 = .ok (.iload_n 2, 1) := dk_28 (dk_at dksX1_writeOwners_0 20 rfl rfl)
theorem dX1_writeOwners_21 : decode cX1_writeOwners 21 = .ok (.aload_n 0, 1) := dk_42 (dk_at dksX1_writeOwners_0 21 rfl rfl)
theorem dX1_writeOwners_22 : decode cX1_writeOwners 22 = .ok (.getfield 27, 3) := dk_180 0 27 (dk_at dksX1_writeOwners_1 0 rfl rfl)
theorem dX1_writeOwners_25 : decode cX1_writeOwners 25 = .ok (.invokevirtual 117, 3) := dk_182 0 117 (dk_at dksX1_writeOwners_1 3 rfl rfl)
theorem dX1_writeOwners_28 : decode cX1_writeOwners 28 = .ok (.if_icmp .eq 24, 3) := dk_159 0 24 (dk_at dksX1_writeOwners_1 6 rfl rfl)
theorem dX1_writeOwners_31 : decode cX1_writeOwners 31 = .ok (.aload_n 0, 1) := dk_42 (dk_at dksX1_writeOwners_1 9 rfl rfl)
theorem dX1_writeOwners_32 : decode cX1_writeOwners 32 = .ok (.getfield 27, 3) := dk_180 0 27 (dk_at dksX1_writeOwners_1 10 rfl rfl)
theorem dX1_writeOwners_35 : decode cX1_writeOwners 35 = .ok (.getfield 192, 3) := dk_180 0 192 (dk_at dksX1_writeOwners_1 13 rfl rfl)
theorem dX1_writeOwners_38 : decode cX1_writeOwners 38 = .ok (.iload_n 2, 1) := dk_28 (dk_at dksX1_writeOwners_1 16 rfl rfl)
theorem dX1_writeOwners_39 : decode cX1_writeOwners 39 = .ok (.iaload, 1) := dk_46 (dk_at dksX1_writeOwners_1 17 rfl rfl)
theorem dX1_writeOwners_40 : decode cX1_writeOwners 40 = .ok (.aload_n 0, 1) := dk_42 (dk_at dksX1_writeOwners_1 18 rfl rfl)
theorem dX1_writeOwners_41 : decode cX1_writeOwners 41 = .ok (.getfield 27, 3) := dk_180 0 27 (dk_at dksX1_writeOwners_1 19 rfl rfl)
theorem dX1_writeOwners_44 : decode cX1_writeOwners 44 = .ok (.getfield 192, 3) := dk_180 0 192 (dk_at dksX1_writeOwners_2 0 rfl rfl)
theorem dX1_writeOwners_47 : decode cX1_writeOwners 47 = .ok (.iload_n 1, 1) := dk_27 (dk_at dksX1_writeOwners_2 3 rfl rfl)
theorem dX1_writeOwners_48 : decode cX1_writeOwners 48 = .ok (.iaload, 1) := dk_46 (dk_at dksX1_writeOwners_2 4 rfl rfl)
theorem dX1_writeOwners_49 : decode cX1_writeOwners 49 = .ok (.if_icmp .eq 21, 3) := dk_159 0 21 (dk_at dksX1_writeOwners_2 5 rfl rfl)
theorem dX1_writeOwners_52 : decode cX1_writeOwners 52 = .ok (.aload_n 0, 1) := dk_42 (dk_at dksX1_writeOwners_2 8 rfl rfl)
theorem dX1_writeOwners_53 : decode cX1_writeOwners 53 = .ok (.iload_n 2, 1) := dk_28 (dk_at dksX1_writeOwners_2 9 rfl rfl)
theorem dX1_writeOwners_54 : decode cX1_writeOwners 54 = .ok (.iload_n 1, 1) := dk_27 (dk_at dksX1_writeOwners_2 10 rfl rfl)
theorem dX1_writeOwners_55 : decode cX1_writeOwners 55 = .ok (.isub, 1) := dk_100 (dk_at dksX1_writeOwners_2 11 rfl rfl)
theorem dX1_writeOwners_56 : decode cX1_writeOwners 56 = .ok (.aload_n 0, 1) := dk_42 (dk_at dksX1_writeOwners_2 12 rfl rfl)
theorem dX1_writeOwners_57 : decode cX1_writeOwners 57 = .ok (.getfield 27, 3) := dk_180 0 27 (dk_at dksX1_writeOwners_2 13 rfl rfl)
theorem dX1_writeOwners_60 : decode cX1_writeOwners 60 = .ok (.getfield 192, 3) := dk_180 0 192 (dk_at dksX1_writeOwners_2 16 rfl rfl)
theorem dX1_writeOwners_63 : decode cX1_writeOwners 63 = .ok (.iload_n 1, 1) := dk_27 (dk_at dksX1_writeOwners_2 19 rfl rfl)
theorem dX1_writeOwners_64 : decode cX1_writeOwners 64 = .ok (.iaload, 1) := dk_46 (dk_at dksX1_writeOwners_2 20 rfl rfl)
theorem dX1_writeOwners_65 : decode cX1_writeOwners 65 = .ok (.invokevirtual 398, 3) := dk_182 1 142 (dk_at dksX1_writeOwners_2 21 rfl rfl)
theorem dX1_writeOwners_68 : decode cX1_writeOwners 68 = .ok (.iload_n 2, 1) := dk_28 (dk_at dksX1_writeOwners_3 0 rfl rfl)
theorem dX1_writeOwners_69 : decode cX1_writeOwners 69 = .ok (.istore_n 1, 1) := dk_60 (dk_at dksX1_writeOwners_3 1 rfl rfl)
theorem dX1_writeOwners_70 : decode cX1_writeOwners 70 = .ok (.iinc 2 1, 3) := dk_132 2 1 (dk_at dksX1_writeOwners_3 2 rfl rfl)
theorem dX1_writeOwners_73 : decode cX1_writeOwners 73 = .ok (.goto (-64), 3) := dk_167 255 192 (dk_at dksX1_writeOwners_3 5 rfl rfl)
theorem dX1_writeOwners_76 : decode cX1_writeOwners 76 = .ok (.aload_n 0, 1) := dk_42 (dk_at dksX1_writeOwners_3 8 rfl rfl)
theorem dX1_writeOwners_77 : decode cX1_writeOwners 77 = .ok (.getfield 392, 3) := dk_180 1 136 (dk_at dksX1_writeOwners_3 9 rfl rfl)
theorem dX1_writeOwners_80 : decode cX1_writeOwners 80 = .ok (.ireturn, 1) := dk_172 (dk_at dksX1_writeOwners_3 12 rfl rfl)
abbrev cX1_writeRun : ByteArray := prog_1_method_84_code
def yX1_writeRun : MethodName := ⟨RX1, "writeRun", "(II)V"⟩
def dkwX1_writeRun_5 : List UInt8 := [167, 255, 232, 177]
abbrev dktX1_writeRun_5 : List UInt8 := dkwX1_writeRun_5 ++ []
def dkwX1_writeRun_4 : List UInt8 := [45, 190, 162, 0, 23, 42, 4, 188, 10, 89, 3, 45, 21, 4, 51, 79, 182, 1, 139, 132, 4, 1]
abbrev dktX1_writeRun_4 : List UInt8 := dkwX1_writeRun_4 ++ dktX1_writeRun_5
def dkwX1_writeRun_3 : List UInt8 := [16, 45, 79, 182, 1, 139, 177, 42, 180, 0, 27, 28, 182, 0, 158, 180, 0, 172, 78, 3, 54, 4, 21, 4]
abbrev dktX1_writeRun_3 : List UInt8 := dkwX1_writeRun_3 ++ dktX1_writeRun_4
def dkwX1_writeRun_2 : List UInt8 := [89, 3, 16, 48, 27, 16, 10, 112, 96, 79, 182, 1, 139, 28, 2, 160, 0, 16, 42, 4, 188, 10, 89, 3]
abbrev dktX1_writeRun_2 : List UInt8 := dkwX1_writeRun_2 ++ dktX1_writeRun_3
def dkwX1_writeRun_1 : List UInt8 := [164, 0, 20, 42, 4, 188, 10, 89, 3, 16, 48, 27, 16, 10, 108, 96, 79, 182, 1, 139, 42, 4, 188, 10]
abbrev dktX1_writeRun_1 : List UInt8 := dkwX1_writeRun_1 ++ dktX1_writeRun_2
def dkwX1_writeRun_0 : List UInt8 := [42, 180, 1, 136, 158, 0, 15, 42, 4, 188, 10, 89, 3, 16, 32, 79, 182, 1, 139, 27, 16, 9]
abbrev dktX1_writeRun_0 : List UInt8 := dkwX1_writeRun_0 ++ dktX1_writeRun_1
theorem dksX1_writeRun_0 : cX1_writeRun.data.toList.drop 0 = dktX1_writeRun_0 := by decide +kernel
theorem dksX1_writeRun_1 : cX1_writeRun.data.toList.drop 22 = dktX1_writeRun_1 := dk_seg dksX1_writeRun_0 22 rfl rfl
theorem dksX1_writeRun_2 : cX1_writeRun.data.toList.drop 46 = dktX1_writeRun_2 := dk_seg dksX1_writeRun_1 24 rfl rfl
theorem dksX1_writeRun_3 : cX1_writeRun.data.toList.drop 70 = dktX1_writeRun_3 := dk_seg dksX1_writeRun_2 24 rfl rfl
theorem dksX1_writeRun_4 : cX1_writeRun.data.toList.drop 94 = dktX1_writeRun_4 := dk_seg dksX1_writeRun_3 24 rfl rfl
theorem dksX1_writeRun_5 : cX1_writeRun.data.toList.drop 116 = dktX1_writeRun_5 := dk_seg dksX1_writeRun_4 22 rfl rfl
theorem dX1_writeRun_0 : decode cX1_writeRun 0 = .ok (.aload_n 0, 1) := dk_42 (dk_at dksX1_writeRun_0 0 rfl rfl)
theorem dX1_writeRun_1 : decode cX1_writeRun 1 = .ok (.getfield 392, 3) := dk_180 1 136 (dk_at dksX1_writeRun_0 1 rfl rfl)
theorem dX1_writeRun_4 : decode cX1_writeRun 4 = .ok (.ifCond .le 15, 3) := dk_158 0 15 (dk_at dksX1_writeRun_0 4 rfl rfl)
theorem dX1_writeRun_7 : decode cX1_writeRun 7 = .ok (.aload_n 0, 1) := dk_42 (dk_at dksX1_writeRun_0 7 rfl rfl)
theorem dX1_writeRun_8 : decode cX1_writeRun 8 = .ok (.iconst 1, 1) := dk_4 (dk_at dksX1_writeRun_0 8 rfl rfl)
theorem dX1_writeRun_9 : decode cX1_writeRun 9 = .ok (.newarray .int, 2) := dk_188_10 (dk_at dksX1_writeRun_0 9 rfl rfl)
theorem dX1_writeRun_11 : decode cX1_writeRun 11 = .ok (.dup, 1) := dk_89 (dk_at dksX1_writeRun_0 11 rfl rfl)
theorem dX1_writeRun_12 : decode cX1_writeRun 12 = .ok (.iconst 0, 1) := dk_3 (dk_at dksX1_writeRun_0 12 rfl rfl)
theorem dX1_writeRun_13 : decode cX1_writeRun 13 = .ok (.bipush 32, 2) := dk_16 32 (dk_at dksX1_writeRun_0 13 rfl rfl)
theorem dX1_writeRun_15 : decode cX1_writeRun 15 = .ok (.iastore, 1) := dk_79 (dk_at dksX1_writeRun_0 15 rfl rfl)
theorem dX1_writeRun_16 : decode cX1_writeRun 16 = .ok (.invokevirtual 395, 3) := dk_182 1 139 (dk_at dksX1_writeRun_0 16 rfl rfl)
theorem dX1_writeRun_19 : decode cX1_writeRun 19 = .ok (.iload_n 1, 1) := dk_27 (dk_at dksX1_writeRun_0 19 rfl rfl)
theorem dX1_writeRun_20 : decode cX1_writeRun 20 = .ok (.bipush 9, 2) := dk_16 9 (dk_at dksX1_writeRun_0 20 rfl rfl)
theorem dX1_writeRun_22 : decode cX1_writeRun 22 = .ok (.if_icmp .le 20, 3) := dk_164 0 20 (dk_at dksX1_writeRun_1 0 rfl rfl)
theorem dX1_writeRun_25 : decode cX1_writeRun 25 = .ok (.aload_n 0, 1) := dk_42 (dk_at dksX1_writeRun_1 3 rfl rfl)
theorem dX1_writeRun_26 : decode cX1_writeRun 26 = .ok (.iconst 1, 1) := dk_4 (dk_at dksX1_writeRun_1 4 rfl rfl)
theorem dX1_writeRun_27 : decode cX1_writeRun 27 = .ok (.newarray .int, 2) := dk_188_10 (dk_at dksX1_writeRun_1 5 rfl rfl)
theorem dX1_writeRun_29 : decode cX1_writeRun 29 = .ok (.dup, 1) := dk_89 (dk_at dksX1_writeRun_1 7 rfl rfl)
theorem dX1_writeRun_30 : decode cX1_writeRun 30 = .ok (.iconst 0, 1) := dk_3 (dk_at dksX1_writeRun_1 8 rfl rfl)
theorem dX1_writeRun_31 : decode cX1_writeRun 31 = .ok (.bipush 48, 2) := dk_16 48 (dk_at dksX1_writeRun_1 9 rfl rfl)
theorem dX1_writeRun_33 : decode cX1_writeRun 33 = .ok (.iload_n 1, 1) := dk_27 (dk_at dksX1_writeRun_1 11 rfl rfl)
theorem dX1_writeRun_34 : decode cX1_writeRun 34 = .ok (.bipush 10, 2) := dk_16 10 (dk_at dksX1_writeRun_1 12 rfl rfl)
theorem dX1_writeRun_36 : decode cX1_writeRun 36 = .ok (.idiv, 1) := dk_108 (dk_at dksX1_writeRun_1 14 rfl rfl)
theorem dX1_writeRun_37 : decode cX1_writeRun 37 = .ok (.iadd, 1) := dk_96 (dk_at dksX1_writeRun_1 15 rfl rfl)
theorem dX1_writeRun_38 : decode cX1_writeRun 38 = .ok (.iastore, 1) := dk_79 (dk_at dksX1_writeRun_1 16 rfl rfl)
theorem dX1_writeRun_39 : decode cX1_writeRun 39 = .ok (.invokevirtual 395, 3) := dk_182 1 139 (dk_at dksX1_writeRun_1 17 rfl rfl)
theorem dX1_writeRun_42 : decode cX1_writeRun 42 = .ok (.aload_n 0, 1) := dk_42 (dk_at dksX1_writeRun_1 20 rfl rfl)
theorem dX1_writeRun_43 : decode cX1_writeRun 43 = .ok (.iconst 1, 1) := dk_4 (dk_at dksX1_writeRun_1 21 rfl rfl)
theorem dX1_writeRun_44 : decode cX1_writeRun 44 = .ok (.newarray .int, 2) := dk_188_10 (dk_at dksX1_writeRun_1 22 rfl rfl)
theorem dX1_writeRun_46 : decode cX1_writeRun 46 = .ok (.dup, 1) := dk_89 (dk_at dksX1_writeRun_2 0 rfl rfl)
theorem dX1_writeRun_47 : decode cX1_writeRun 47 = .ok (.iconst 0, 1) := dk_3 (dk_at dksX1_writeRun_2 1 rfl rfl)
theorem dX1_writeRun_48 : decode cX1_writeRun 48 = .ok (.bipush 48, 2) := dk_16 48 (dk_at dksX1_writeRun_2 2 rfl rfl)
theorem dX1_writeRun_50 : decode cX1_writeRun 50 = .ok (.iload_n 1, 1) := dk_27 (dk_at dksX1_writeRun_2 4 rfl rfl)
theorem dX1_writeRun_51 : decode cX1_writeRun 51 = .ok (.bipush 10, 2) := dk_16 10 (dk_at dksX1_writeRun_2 5 rfl rfl)
theorem dX1_writeRun_53 : decode cX1_writeRun 53 = .ok (.irem, 1) := dk_112 (dk_at dksX1_writeRun_2 7 rfl rfl)
theorem dX1_writeRun_54 : decode cX1_writeRun 54 = .ok (.iadd, 1) := dk_96 (dk_at dksX1_writeRun_2 8 rfl rfl)
theorem dX1_writeRun_55 : decode cX1_writeRun 55 = .ok (.iastore, 1) := dk_79 (dk_at dksX1_writeRun_2 9 rfl rfl)
theorem dX1_writeRun_56 : decode cX1_writeRun 56 = .ok (.invokevirtual 395, 3) := dk_182 1 139 (dk_at dksX1_writeRun_2 10 rfl rfl)
theorem dX1_writeRun_59 : decode cX1_writeRun 59 = .ok (.iload_n 2, 1) := dk_28 (dk_at dksX1_writeRun_2 13 rfl rfl)
theorem dX1_writeRun_60 : decode cX1_writeRun 60 = .ok (.iconst (-1), 1) := dk_2 (dk_at dksX1_writeRun_2 14 rfl rfl)
theorem dX1_writeRun_61 : decode cX1_writeRun 61 = .ok (.if_icmp .ne 16, 3) := dk_160 0 16 (dk_at dksX1_writeRun_2 15 rfl rfl)
theorem dX1_writeRun_64 : decode cX1_writeRun 64 = .ok (.aload_n 0, 1) := dk_42 (dk_at dksX1_writeRun_2 18 rfl rfl)
theorem dX1_writeRun_65 : decode cX1_writeRun 65 = .ok (.iconst 1, 1) := dk_4 (dk_at dksX1_writeRun_2 19 rfl rfl)
theorem dX1_writeRun_66 : decode cX1_writeRun 66 = .ok (.newarray .int, 2) := dk_188_10 (dk_at dksX1_writeRun_2 20 rfl rfl)
theorem dX1_writeRun_68 : decode cX1_writeRun 68 = .ok (.dup, 1) := dk_89 (dk_at dksX1_writeRun_2 22 rfl rfl)
theorem dX1_writeRun_69 : decode cX1_writeRun 69 = .ok (.iconst 0, 1) := dk_3 (dk_at dksX1_writeRun_2 23 rfl rfl)
theorem dX1_writeRun_70 : decode cX1_writeRun 70 = .ok (.bipush 45, 2) := dk_16 45 (dk_at dksX1_writeRun_3 0 rfl rfl)
theorem dX1_writeRun_72 : decode cX1_writeRun 72 = .ok (.iastore, 1) := dk_79 (dk_at dksX1_writeRun_3 2 rfl rfl)
theorem dX1_writeRun_73 : decode cX1_writeRun 73 = .ok (.invokevirtual 395, 3) := dk_182 1 139 (dk_at dksX1_writeRun_3 3 rfl rfl)
theorem dX1_writeRun_76 : decode cX1_writeRun 76 = .ok (.return_, 1) := dk_177 (dk_at dksX1_writeRun_3 6 rfl rfl)
theorem dX1_writeRun_77 : decode cX1_writeRun 77 = .ok (.aload_n 0, 1) := dk_42 (dk_at dksX1_writeRun_3 7 rfl rfl)
theorem dX1_writeRun_78 : decode cX1_writeRun 78 = .ok (.getfield 27, 3) := dk_180 0 27 (dk_at dksX1_writeRun_3 8 rfl rfl)
theorem dX1_writeRun_81 : decode cX1_writeRun 81 = .ok (.iload_n 2, 1) := dk_28 (dk_at dksX1_writeRun_3 11 rfl rfl)
theorem dX1_writeRun_82 : decode cX1_writeRun 82 = .ok (.invokevirtual 158, 3) := dk_182 0 158 (dk_at dksX1_writeRun_3 12 rfl rfl)
theorem dX1_writeRun_85 : decode cX1_writeRun 85 = .ok (.getfield 172, 3) := dk_180 0 172 (dk_at dksX1_writeRun_3 15 rfl rfl)
theorem dX1_writeRun_88 : decode cX1_writeRun 88 = .ok (.astore_n 3, 1) := dk_78 (dk_at dksX1_writeRun_3 18 rfl rfl)
theorem dX1_writeRun_89 : decode cX1_writeRun 89 = .ok (.iconst 0, 1) := dk_3 (dk_at dksX1_writeRun_3 19 rfl rfl)
theorem dX1_writeRun_90 : decode cX1_writeRun 90 = .ok (.istore 4, 2) := dk_54 4 (dk_at dksX1_writeRun_3 20 rfl rfl)
theorem dX1_writeRun_92 : decode cX1_writeRun 92 = .ok (.iload 4, 2) := dk_21 4 (dk_at dksX1_writeRun_3 22 rfl rfl)
theorem dX1_writeRun_94 : decode cX1_writeRun 94 = .ok (.aload_n 3, 1) := dk_45 (dk_at dksX1_writeRun_4 0 rfl rfl)
theorem dX1_writeRun_95 : decode cX1_writeRun 95 = .ok (.arraylength, 1) := dk_190 (dk_at dksX1_writeRun_4 1 rfl rfl)
theorem dX1_writeRun_96 : decode cX1_writeRun 96 = .ok (.if_icmp .ge 23, 3) := dk_162 0 23 (dk_at dksX1_writeRun_4 2 rfl rfl)
theorem dX1_writeRun_99 : decode cX1_writeRun 99 = .ok (.aload_n 0, 1) := dk_42 (dk_at dksX1_writeRun_4 5 rfl rfl)
theorem dX1_writeRun_100 : decode cX1_writeRun 100 = .ok (.iconst 1, 1) := dk_4 (dk_at dksX1_writeRun_4 6 rfl rfl)
theorem dX1_writeRun_101 : decode cX1_writeRun 101 = .ok (.newarray .int, 2) := dk_188_10 (dk_at dksX1_writeRun_4 7 rfl rfl)
theorem dX1_writeRun_103 : decode cX1_writeRun 103 = .ok (.dup, 1) := dk_89 (dk_at dksX1_writeRun_4 9 rfl rfl)
theorem dX1_writeRun_104 : decode cX1_writeRun 104 = .ok (.iconst 0, 1) := dk_3 (dk_at dksX1_writeRun_4 10 rfl rfl)
theorem dX1_writeRun_105 : decode cX1_writeRun 105 = .ok (.aload_n 3, 1) := dk_45 (dk_at dksX1_writeRun_4 11 rfl rfl)
theorem dX1_writeRun_106 : decode cX1_writeRun 106 = .ok (.iload 4, 2) := dk_21 4 (dk_at dksX1_writeRun_4 12 rfl rfl)
theorem dX1_writeRun_108 : decode cX1_writeRun 108 = .ok (.baload, 1) := dk_51 (dk_at dksX1_writeRun_4 14 rfl rfl)
theorem dX1_writeRun_109 : decode cX1_writeRun 109 = .ok (.iastore, 1) := dk_79 (dk_at dksX1_writeRun_4 15 rfl rfl)
theorem dX1_writeRun_110 : decode cX1_writeRun 110 = .ok (.invokevirtual 395, 3) := dk_182 1 139 (dk_at dksX1_writeRun_4 16 rfl rfl)
theorem dX1_writeRun_113 : decode cX1_writeRun 113 = .ok (.iinc 4 1, 3) := dk_132 4 1 (dk_at dksX1_writeRun_4 19 rfl rfl)
theorem dX1_writeRun_116 : decode cX1_writeRun 116 = .ok (.goto (-24), 3) := dk_167 255 232 (dk_at dksX1_writeRun_5 0 rfl rfl)
theorem dX1_writeRun_119 : decode cX1_writeRun 119 = .ok (.return_, 1) := dk_177 (dk_at dksX1_writeRun_5 3 rfl rfl)
abbrev cX1_write : ByteArray := prog_1_method_83_code
def yX1_write : MethodName := ⟨RX1, "write", "([I)V"⟩
def dkwX1_write_1 : List UInt8 := [28, 46, 145, 84, 132, 2, 1, 167, 255, 227, 177]
abbrev dktX1_write_1 : List UInt8 := dkwX1_write_1 ++ []
def dkwX1_write_0 : List UInt8 := [3, 61, 28, 43, 190, 162, 0, 29, 42, 180, 0, 46, 42, 89, 180, 1, 136, 90, 4, 96, 181, 1, 136, 43]
abbrev dktX1_write_0 : List UInt8 := dkwX1_write_0 ++ dktX1_write_1
theorem dksX1_write_0 : cX1_write.data.toList.drop 0 = dktX1_write_0 := by decide +kernel
theorem dksX1_write_1 : cX1_write.data.toList.drop 24 = dktX1_write_1 := dk_seg dksX1_write_0 24 rfl rfl
theorem dX1_write_0 : decode cX1_write 0 = .ok (.iconst 0, 1) := dk_3 (dk_at dksX1_write_0 0 rfl rfl)
theorem dX1_write_1 : decode cX1_write 1 = .ok (.istore_n 2, 1) := dk_61 (dk_at dksX1_write_0 1 rfl rfl)
theorem dX1_write_2 : decode cX1_write 2 = .ok (.iload_n 2, 1) := dk_28 (dk_at dksX1_write_0 2 rfl rfl)
theorem dX1_write_3 : decode cX1_write 3 = .ok (.aload_n 1, 1) := dk_43 (dk_at dksX1_write_0 3 rfl rfl)
theorem dX1_write_4 : decode cX1_write 4 = .ok (.arraylength, 1) := dk_190 (dk_at dksX1_write_0 4 rfl rfl)
theorem dX1_write_5 : decode cX1_write 5 = .ok (.if_icmp .ge 29, 3) := dk_162 0 29 (dk_at dksX1_write_0 5 rfl rfl)
theorem dX1_write_8 : decode cX1_write 8 = .ok (.aload_n 0, 1) := dk_42 (dk_at dksX1_write_0 8 rfl rfl)
theorem dX1_write_9 : decode cX1_write 9 = .ok (.getfield 46, 3) := dk_180 0 46 (dk_at dksX1_write_0 9 rfl rfl)
theorem dX1_write_12 : decode cX1_write 12 = .ok (.aload_n 0, 1) := dk_42 (dk_at dksX1_write_0 12 rfl rfl)
theorem dX1_write_13 : decode cX1_write 13 = .ok (.dup, 1) := dk_89 (dk_at dksX1_write_0 13 rfl rfl)
theorem dX1_write_14 : decode cX1_write 14 = .ok (.getfield 392, 3) := dk_180 1 136 (dk_at dksX1_write_0 14 rfl rfl)
theorem dX1_write_17 : decode cX1_write 17 = .ok (.dup_x1, 1) := dk_90 (dk_at dksX1_write_0 17 rfl rfl)
theorem dX1_write_18 : decode cX1_write 18 = .ok (.iconst 1, 1) := dk_4 (dk_at dksX1_write_0 18 rfl rfl)
theorem dX1_write_19 : decode cX1_write 19 = .ok (.iadd, 1) := dk_96 (dk_at dksX1_write_0 19 rfl rfl)
theorem dX1_write_20 : decode cX1_write 20 = .ok (.putfield 392, 3) := dk_181 1 136 (dk_at dksX1_write_0 20 rfl rfl)
theorem dX1_write_23 : decode cX1_write 23 = .ok (.aload_n 1, 1) := dk_43 (dk_at dksX1_write_0 23 rfl rfl)
theorem dX1_write_24 : decode cX1_write 24 = .ok (.iload_n 2, 1) := dk_28 (dk_at dksX1_write_1 0 rfl rfl)
theorem dX1_write_25 : decode cX1_write 25 = .ok (.iaload, 1) := dk_46 (dk_at dksX1_write_1 1 rfl rfl)
theorem dX1_write_26 : decode cX1_write 26 = .ok (.i2b, 1) := dk_145 (dk_at dksX1_write_1 2 rfl rfl)
theorem dX1_write_27 : decode cX1_write 27 = .ok (.bastore, 1) := dk_84 (dk_at dksX1_write_1 3 rfl rfl)
theorem dX1_write_28 : decode cX1_write 28 = .ok (.iinc 2 1, 3) := dk_132 2 1 (dk_at dksX1_write_1 4 rfl rfl)
theorem dX1_write_31 : decode cX1_write 31 = .ok (.goto (-29), 3) := dk_167 255 227 (dk_at dksX1_write_1 7 rfl rfl)
theorem dX1_write_34 : decode cX1_write 34 = .ok (.return_, 1) := dk_177 (dk_at dksX1_write_1 10 rfl rfl)
abbrev cX1_append : ByteArray := prog_1_method_4_code
def yX1_append : MethodName := ⟨RX1, "append", "(IIIII)I"⟩
def dkwX1_append_2 : List UInt8 := [182, 0, 81, 42, 180, 0, 55, 172]
abbrev dktX1_append_2 : List UInt8 := dkwX1_append_2 ++ []
def dkwX1_append_1 : List UInt8 := [188, 10, 89, 3, 27, 79, 89, 4, 28, 79, 89, 5, 29, 79, 89, 6, 21, 4, 79, 89, 7, 21, 5, 79]
abbrev dktX1_append_1 : List UInt8 := dkwX1_append_1 ++ dktX1_append_2
def dkwX1_append_0 : List UInt8 := [42, 180, 0, 55, 16, 20, 96, 17, 2, 88, 164, 0, 11, 187, 0, 78, 89, 183, 0, 80, 191, 42, 8]
abbrev dktX1_append_0 : List UInt8 := dkwX1_append_0 ++ dktX1_append_1
theorem dksX1_append_0 : cX1_append.data.toList.drop 0 = dktX1_append_0 := by decide +kernel
theorem dksX1_append_1 : cX1_append.data.toList.drop 23 = dktX1_append_1 := dk_seg dksX1_append_0 23 rfl rfl
theorem dksX1_append_2 : cX1_append.data.toList.drop 47 = dktX1_append_2 := dk_seg dksX1_append_1 24 rfl rfl
theorem dX1_append_0 : decode cX1_append 0 = .ok (.aload_n 0, 1) := dk_42 (dk_at dksX1_append_0 0 rfl rfl)
theorem dX1_append_1 : decode cX1_append 1 = .ok (.getfield 55, 3) := dk_180 0 55 (dk_at dksX1_append_0 1 rfl rfl)
theorem dX1_append_4 : decode cX1_append 4 = .ok (.bipush 20, 2) := dk_16 20 (dk_at dksX1_append_0 4 rfl rfl)
theorem dX1_append_6 : decode cX1_append 6 = .ok (.iadd, 1) := dk_96 (dk_at dksX1_append_0 6 rfl rfl)
theorem dX1_append_7 : decode cX1_append 7 = .ok (.sipush 600, 3) := dk_17 2 88 (dk_at dksX1_append_0 7 rfl rfl)
theorem dX1_append_10 : decode cX1_append 10 = .ok (.if_icmp .le 11, 3) := dk_164 0 11 (dk_at dksX1_append_0 10 rfl rfl)
theorem dX1_append_13 : decode cX1_append 13 = .ok (.new 78, 3) := dk_187 0 78 (dk_at dksX1_append_0 13 rfl rfl)
theorem dX1_append_16 : decode cX1_append 16 = .ok (.dup, 1) := dk_89 (dk_at dksX1_append_0 16 rfl rfl)
theorem dX1_append_17 : decode cX1_append 17 = .ok (.invokespecial 80, 3) := dk_183 0 80 (dk_at dksX1_append_0 17 rfl rfl)
theorem dX1_append_20 : decode cX1_append 20 = .ok (.athrow, 1) := dk_191 (dk_at dksX1_append_0 20 rfl rfl)
theorem dX1_append_21 : decode cX1_append 21 = .ok (.aload_n 0, 1) := dk_42 (dk_at dksX1_append_0 21 rfl rfl)
theorem dX1_append_22 : decode cX1_append 22 = .ok (.iconst 5, 1) := dk_8 (dk_at dksX1_append_0 22 rfl rfl)
theorem dX1_append_23 : decode cX1_append 23 = .ok (.newarray .int, 2) := dk_188_10 (dk_at dksX1_append_1 0 rfl rfl)
theorem dX1_append_25 : decode cX1_append 25 = .ok (.dup, 1) := dk_89 (dk_at dksX1_append_1 2 rfl rfl)
theorem dX1_append_26 : decode cX1_append 26 = .ok (.iconst 0, 1) := dk_3 (dk_at dksX1_append_1 3 rfl rfl)
theorem dX1_append_27 : decode cX1_append 27 = .ok (.iload_n 1, 1) := dk_27 (dk_at dksX1_append_1 4 rfl rfl)
theorem dX1_append_28 : decode cX1_append 28 = .ok (.iastore, 1) := dk_79 (dk_at dksX1_append_1 5 rfl rfl)
theorem dX1_append_29 : decode cX1_append 29 = .ok (.dup, 1) := dk_89 (dk_at dksX1_append_1 6 rfl rfl)
theorem dX1_append_30 : decode cX1_append 30 = .ok (.iconst 1, 1) := dk_4 (dk_at dksX1_append_1 7 rfl rfl)
theorem dX1_append_31 : decode cX1_append 31 = .ok (.iload_n 2, 1) := dk_28 (dk_at dksX1_append_1 8 rfl rfl)
theorem dX1_append_32 : decode cX1_append 32 = .ok (.iastore, 1) := dk_79 (dk_at dksX1_append_1 9 rfl rfl)
theorem dX1_append_33 : decode cX1_append 33 = .ok (.dup, 1) := dk_89 (dk_at dksX1_append_1 10 rfl rfl)
theorem dX1_append_34 : decode cX1_append 34 = .ok (.iconst 2, 1) := dk_5 (dk_at dksX1_append_1 11 rfl rfl)
theorem dX1_append_35 : decode cX1_append 35 = .ok (.iload_n 3, 1) := dk_29 (dk_at dksX1_append_1 12 rfl rfl)
theorem dX1_append_36 : decode cX1_append 36 = .ok (.iastore, 1) := dk_79 (dk_at dksX1_append_1 13 rfl rfl)
theorem dX1_append_37 : decode cX1_append 37 = .ok (.dup, 1) := dk_89 (dk_at dksX1_append_1 14 rfl rfl)
theorem dX1_append_38 : decode cX1_append 38 = .ok (.iconst 3, 1) := dk_6 (dk_at dksX1_append_1 15 rfl rfl)
theorem dX1_append_39 : decode cX1_append 39 = .ok (.iload 4, 2) := dk_21 4 (dk_at dksX1_append_1 16 rfl rfl)
theorem dX1_append_41 : decode cX1_append 41 = .ok (.iastore, 1) := dk_79 (dk_at dksX1_append_1 18 rfl rfl)
theorem dX1_append_42 : decode cX1_append 42 = .ok (.dup, 1) := dk_89 (dk_at dksX1_append_1 19 rfl rfl)
theorem dX1_append_43 : decode cX1_append 43 = .ok (.iconst 4, 1) := dk_7 (dk_at dksX1_append_1 20 rfl rfl)
theorem dX1_append_44 : decode cX1_append 44 = .ok (.iload 5, 2) := dk_21 5 (dk_at dksX1_append_1 21 rfl rfl)
theorem dX1_append_46 : decode cX1_append 46 = .ok (.iastore, 1) := dk_79 (dk_at dksX1_append_1 23 rfl rfl)
theorem dX1_append_47 : decode cX1_append 47 = .ok (.invokevirtual 81, 3) := dk_182 0 81 (dk_at dksX1_append_2 0 rfl rfl)
theorem dX1_append_50 : decode cX1_append 50 = .ok (.aload_n 0, 1) := dk_42 (dk_at dksX1_append_2 3 rfl rfl)
theorem dX1_append_51 : decode cX1_append 51 = .ok (.getfield 55, 3) := dk_180 0 55 (dk_at dksX1_append_2 4 rfl rfl)
theorem dX1_append_54 : decode cX1_append 54 = .ok (.ireturn, 1) := dk_172 (dk_at dksX1_append_2 7 rfl rfl)
abbrev cX1_appendWords : ByteArray := prog_1_method_3_code
def yX1_appendWords : MethodName := ⟨RX1, "appendWords", "([I)V"⟩
def dkwX1_appendWords_2 : List UInt8 := [167, 255, 212, 177]
abbrev dktX1_appendWords_2 : List UInt8 := dkwX1_appendWords_2 ++ []
def dkwX1_appendWords_1 : List UInt8 := [90, 4, 96, 181, 0, 55, 43, 28, 46, 29, 124, 145, 84, 132, 3, 248, 167, 255, 227, 132, 2, 1]
abbrev dktX1_appendWords_1 : List UInt8 := dkwX1_appendWords_1 ++ dktX1_appendWords_2
def dkwX1_appendWords_0 : List UInt8 := [3, 61, 28, 43, 190, 162, 0, 44, 16, 24, 62, 29, 155, 0, 31, 42, 180, 0, 14, 42, 89, 180, 0, 55]
abbrev dktX1_appendWords_0 : List UInt8 := dkwX1_appendWords_0 ++ dktX1_appendWords_1
theorem dksX1_appendWords_0 : cX1_appendWords.data.toList.drop 0 = dktX1_appendWords_0 := by decide +kernel
theorem dksX1_appendWords_1 : cX1_appendWords.data.toList.drop 24 = dktX1_appendWords_1 := dk_seg dksX1_appendWords_0 24 rfl rfl
theorem dksX1_appendWords_2 : cX1_appendWords.data.toList.drop 46 = dktX1_appendWords_2 := dk_seg dksX1_appendWords_1 22 rfl rfl
theorem dX1_appendWords_0 : decode cX1_appendWords 0 = .ok (.iconst 0, 1) := dk_3 (dk_at dksX1_appendWords_0 0 rfl rfl)
theorem dX1_appendWords_1 : decode cX1_appendWords 1 = .ok (.istore_n 2, 1) := dk_61 (dk_at dksX1_appendWords_0 1 rfl rfl)
theorem dX1_appendWords_2 : decode cX1_appendWords 2 = .ok (.iload_n 2, 1) := dk_28 (dk_at dksX1_appendWords_0 2 rfl rfl)
theorem dX1_appendWords_3 : decode cX1_appendWords 3 = .ok (.aload_n 1, 1) := dk_43 (dk_at dksX1_appendWords_0 3 rfl rfl)
theorem dX1_appendWords_4 : decode cX1_appendWords 4 = .ok (.arraylength, 1) := dk_190 (dk_at dksX1_appendWords_0 4 rfl rfl)
theorem dX1_appendWords_5 : decode cX1_appendWords 5 = .ok (.if_icmp .ge 44, 3) := dk_162 0 44 (dk_at dksX1_appendWords_0 5 rfl rfl)
theorem dX1_appendWords_8 : decode cX1_appendWords 8 = .ok (.bipush 24, 2) := dk_16 24 (dk_at dksX1_appendWords_0 8 rfl rfl)
theorem dX1_appendWords_10 : decode cX1_appendWords 10 = .ok (.istore_n 3, 1) := dk_62 (dk_at dksX1_appendWords_0 10 rfl rfl)
theorem dX1_appendWords_11 : decode cX1_appendWords 11 = .ok (.iload_n 3, 1) := dk_29 (dk_at dksX1_appendWords_0 11 rfl rfl)
theorem dX1_appendWords_12 : decode cX1_appendWords 12 = .ok (.ifCond .lt 31, 3) := dk_155 0 31 (dk_at dksX1_appendWords_0 12 rfl rfl)
theorem dX1_appendWords_15 : decode cX1_appendWords 15 = .ok (.aload_n 0, 1) := dk_42 (dk_at dksX1_appendWords_0 15 rfl rfl)
theorem dX1_appendWords_16 : decode cX1_appendWords 16 = .ok (.getfield 14, 3) := dk_180 0 14 (dk_at dksX1_appendWords_0 16 rfl rfl)
theorem dX1_appendWords_19 : decode cX1_appendWords 19 = .ok (.aload_n 0, 1) := dk_42 (dk_at dksX1_appendWords_0 19 rfl rfl)
theorem dX1_appendWords_20 : decode cX1_appendWords 20 = .ok (.dup, 1) := dk_89 (dk_at dksX1_appendWords_0 20 rfl rfl)
theorem dX1_appendWords_21 : decode cX1_appendWords 21 = .ok (.getfield 55, 3) := dk_180 0 55 (dk_at dksX1_appendWords_0 21 rfl rfl)
theorem dX1_appendWords_24 : decode cX1_appendWords 24 = .ok (.dup_x1, 1) := dk_90 (dk_at dksX1_appendWords_1 0 rfl rfl)
theorem dX1_appendWords_25 : decode cX1_appendWords 25 = .ok (.iconst 1, 1) := dk_4 (dk_at dksX1_appendWords_1 1 rfl rfl)
theorem dX1_appendWords_26 : decode cX1_appendWords 26 = .ok (.iadd, 1) := dk_96 (dk_at dksX1_appendWords_1 2 rfl rfl)
theorem dX1_appendWords_27 : decode cX1_appendWords 27 = .ok (.putfield 55, 3) := dk_181 0 55 (dk_at dksX1_appendWords_1 3 rfl rfl)
theorem dX1_appendWords_30 : decode cX1_appendWords 30 = .ok (.aload_n 1, 1) := dk_43 (dk_at dksX1_appendWords_1 6 rfl rfl)
theorem dX1_appendWords_31 : decode cX1_appendWords 31 = .ok (.iload_n 2, 1) := dk_28 (dk_at dksX1_appendWords_1 7 rfl rfl)
theorem dX1_appendWords_32 : decode cX1_appendWords 32 = .ok (.iaload, 1) := dk_46 (dk_at dksX1_appendWords_1 8 rfl rfl)
theorem dX1_appendWords_33 : decode cX1_appendWords 33 = .ok (.iload_n 3, 1) := dk_29 (dk_at dksX1_appendWords_1 9 rfl rfl)
theorem dX1_appendWords_34 : decode cX1_appendWords 34 = .ok (.iushr, 1) := dk_124 (dk_at dksX1_appendWords_1 10 rfl rfl)
theorem dX1_appendWords_35 : decode cX1_appendWords 35 = .ok (.i2b, 1) := dk_145 (dk_at dksX1_appendWords_1 11 rfl rfl)
theorem dX1_appendWords_36 : decode cX1_appendWords 36 = .ok (.bastore, 1) := dk_84 (dk_at dksX1_appendWords_1 12 rfl rfl)
theorem dX1_appendWords_37 : decode cX1_appendWords 37 = .ok (.iinc 3 (-8), 3) := dk_132 3 248 (dk_at dksX1_appendWords_1 13 rfl rfl)
theorem dX1_appendWords_40 : decode cX1_appendWords 40 = .ok (.goto (-29), 3) := dk_167 255 227 (dk_at dksX1_appendWords_1 16 rfl rfl)
theorem dX1_appendWords_43 : decode cX1_appendWords 43 = .ok (.iinc 2 1, 3) := dk_132 2 1 (dk_at dksX1_appendWords_1 19 rfl rfl)
theorem dX1_appendWords_46 : decode cX1_appendWords 46 = .ok (.goto (-44), 3) := dk_167 255 212 (dk_at dksX1_appendWords_2 0 rfl rfl)
theorem dX1_appendWords_49 : decode cX1_appendWords 49 = .ok (.return_, 1) := dk_177 (dk_at dksX1_appendWords_2 3 rfl rfl)
abbrev cX1_truncate : ByteArray := prog_1_method_5_code
def yX1_truncate : MethodName := ⟨RX1, "truncate", "(I)I"⟩
def dkwX1_truncate_1 : List UInt8 := [181, 0, 55, 27, 172]
abbrev dktX1_truncate_1 : List UInt8 := dkwX1_truncate_1 ++ []
def dkwX1_truncate_0 : List UInt8 := [27, 155, 0, 11, 27, 42, 180, 0, 55, 164, 0, 11, 187, 0, 85, 89, 183, 0, 87, 191, 42, 27]
abbrev dktX1_truncate_0 : List UInt8 := dkwX1_truncate_0 ++ dktX1_truncate_1
theorem dksX1_truncate_0 : cX1_truncate.data.toList.drop 0 = dktX1_truncate_0 := by decide +kernel
theorem dksX1_truncate_1 : cX1_truncate.data.toList.drop 22 = dktX1_truncate_1 := dk_seg dksX1_truncate_0 22 rfl rfl
theorem dX1_truncate_0 : decode cX1_truncate 0 = .ok (.iload_n 1, 1) := dk_27 (dk_at dksX1_truncate_0 0 rfl rfl)
theorem dX1_truncate_1 : decode cX1_truncate 1 = .ok (.ifCond .lt 11, 3) := dk_155 0 11 (dk_at dksX1_truncate_0 1 rfl rfl)
theorem dX1_truncate_4 : decode cX1_truncate 4 = .ok (.iload_n 1, 1) := dk_27 (dk_at dksX1_truncate_0 4 rfl rfl)
theorem dX1_truncate_5 : decode cX1_truncate 5 = .ok (.aload_n 0, 1) := dk_42 (dk_at dksX1_truncate_0 5 rfl rfl)
theorem dX1_truncate_6 : decode cX1_truncate 6 = .ok (.getfield 55, 3) := dk_180 0 55 (dk_at dksX1_truncate_0 6 rfl rfl)
theorem dX1_truncate_9 : decode cX1_truncate 9 = .ok (.if_icmp .le 11, 3) := dk_164 0 11 (dk_at dksX1_truncate_0 9 rfl rfl)
theorem dX1_truncate_12 : decode cX1_truncate 12 = .ok (.new 85, 3) := dk_187 0 85 (dk_at dksX1_truncate_0 12 rfl rfl)
theorem dX1_truncate_15 : decode cX1_truncate 15 = .ok (.dup, 1) := dk_89 (dk_at dksX1_truncate_0 15 rfl rfl)
theorem dX1_truncate_16 : decode cX1_truncate 16 = .ok (.invokespecial 87, 3) := dk_183 0 87 (dk_at dksX1_truncate_0 16 rfl rfl)
theorem dX1_truncate_19 : decode cX1_truncate 19 = .ok (.athrow, 1) := dk_191 (dk_at dksX1_truncate_0 19 rfl rfl)
theorem dX1_truncate_20 : decode cX1_truncate 20 = .ok (.aload_n 0, 1) := dk_42 (dk_at dksX1_truncate_0 20 rfl rfl)
theorem dX1_truncate_21 : decode cX1_truncate 21 = .ok (.iload_n 1, 1) := dk_27 (dk_at dksX1_truncate_0 21 rfl rfl)
theorem dX1_truncate_22 : decode cX1_truncate 22 = .ok (.putfield 55, 3) := dk_181 0 55 (dk_at dksX1_truncate_1 0 rfl rfl)
theorem dX1_truncate_25 : decode cX1_truncate 25 = .ok (.iload_n 1, 1) := dk_27 (dk_at dksX1_truncate_1 3 rfl rfl)
theorem dX1_truncate_26 : decode cX1_truncate 26 = .ok (.ireturn, 1) := dk_172 (dk_at dksX1_truncate_1 4 rfl rfl)
abbrev cX1_load : ByteArray := prog_1_method_8_code
def yX1_load : MethodName := ⟨RX1, "load", "()I"⟩
def dkwX1_load_3 : List UInt8 := [42, 180, 0, 27, 182, 0, 106, 172]
abbrev dktX1_load_3 : List UInt8 := dkwX1_load_3 ++ []
def dkwX1_load_2 : List UInt8 := [181, 0, 18, 42, 180, 0, 34, 182, 0, 145, 42, 180, 0, 38, 3, 1, 83, 42, 180, 0, 38, 4, 1, 83]
abbrev dktX1_load_2 : List UInt8 := dkwX1_load_2 ++ dktX1_load_3
def dkwX1_load_1 : List UInt8 := [76, 42, 43, 182, 0, 141, 191, 77, 42, 3, 181, 0, 55, 44, 191, 42, 3, 181, 0, 75, 42, 2]
abbrev dktX1_load_1 : List UInt8 := dkwX1_load_1 ++ dktX1_load_2
def dkwX1_load_0 : List UInt8 := [42, 42, 187, 0, 61, 89, 42, 183, 0, 63, 182, 0, 66, 181, 0, 27, 42, 3, 181, 0, 55, 167, 0, 18]
abbrev dktX1_load_0 : List UInt8 := dkwX1_load_0 ++ dktX1_load_1
theorem dksX1_load_0 : cX1_load.data.toList.drop 0 = dktX1_load_0 := by decide +kernel
theorem dksX1_load_1 : cX1_load.data.toList.drop 24 = dktX1_load_1 := dk_seg dksX1_load_0 24 rfl rfl
theorem dksX1_load_2 : cX1_load.data.toList.drop 46 = dktX1_load_2 := dk_seg dksX1_load_1 22 rfl rfl
theorem dksX1_load_3 : cX1_load.data.toList.drop 70 = dktX1_load_3 := dk_seg dksX1_load_2 24 rfl rfl
theorem dX1_load_0 : decode cX1_load 0 = .ok (.aload_n 0, 1) := dk_42 (dk_at dksX1_load_0 0 rfl rfl)
theorem dX1_load_1 : decode cX1_load 1 = .ok (.aload_n 0, 1) := dk_42 (dk_at dksX1_load_0 1 rfl rfl)
theorem dX1_load_2 : decode cX1_load 2 = .ok (.new 61, 3) := dk_187 0 61 (dk_at dksX1_load_0 2 rfl rfl)
theorem dX1_load_5 : decode cX1_load 5 = .ok (.dup, 1) := dk_89 (dk_at dksX1_load_0 5 rfl rfl)
theorem dX1_load_6 : decode cX1_load 6 = .ok (.aload_n 0, 1) := dk_42 (dk_at dksX1_load_0 6 rfl rfl)
theorem dX1_load_7 : decode cX1_load 7 = .ok (.invokespecial 63, 3) := dk_183 0 63 (dk_at dksX1_load_0 7 rfl rfl)
theorem dX1_load_10 : decode cX1_load 10 = .ok (.invokevirtual 66, 3) := dk_182 0 66 (dk_at dksX1_load_0 10 rfl rfl)
theorem dX1_load_13 : decode cX1_load 13 = .ok (.putfield 27, 3) := dk_181 0 27 (dk_at dksX1_load_0 13 rfl rfl)
theorem dX1_load_16 : decode cX1_load 16 = .ok (.aload_n 0, 1) := dk_42 (dk_at dksX1_load_0 16 rfl rfl)
theorem dX1_load_17 : decode cX1_load 17 = .ok (.iconst 0, 1) := dk_3 (dk_at dksX1_load_0 17 rfl rfl)
theorem dX1_load_18 : decode cX1_load 18 = .ok (.putfield 55, 3) := dk_181 0 55 (dk_at dksX1_load_0 18 rfl rfl)
theorem dX1_load_21 : decode cX1_load 21 = .ok (.goto 18, 3) := dk_167 0 18 (dk_at dksX1_load_0 21 rfl rfl)
theorem dX1_load_24 : decode cX1_load 24 = .ok (.astore_n 1, 1) := dk_76 (dk_at dksX1_load_1 0 rfl rfl)
theorem dX1_load_25 : decode cX1_load 25 = .ok (.aload_n 0, 1) := dk_42 (dk_at dksX1_load_1 1 rfl rfl)
theorem dX1_load_26 : decode cX1_load 26 = .ok (.aload_n 1, 1) := dk_43 (dk_at dksX1_load_1 2 rfl rfl)
theorem dX1_load_27 : decode cX1_load 27 = .ok (.invokevirtual 141, 3) := dk_182 0 141 (dk_at dksX1_load_1 3 rfl rfl)
theorem dX1_load_30 : decode cX1_load 30 = .ok (.athrow, 1) := dk_191 (dk_at dksX1_load_1 6 rfl rfl)
theorem dX1_load_31 : decode cX1_load 31 = .ok (.astore_n 2, 1) := dk_77 (dk_at dksX1_load_1 7 rfl rfl)
theorem dX1_load_32 : decode cX1_load 32 = .ok (.aload_n 0, 1) := dk_42 (dk_at dksX1_load_1 8 rfl rfl)
theorem dX1_load_33 : decode cX1_load 33 = .ok (.iconst 0, 1) := dk_3 (dk_at dksX1_load_1 9 rfl rfl)
theorem dX1_load_34 : decode cX1_load 34 = .ok (.putfield 55, 3) := dk_181 0 55 (dk_at dksX1_load_1 10 rfl rfl)
theorem dX1_load_37 : decode cX1_load 37 = .ok (.aload_n 2, 1) := dk_44 (dk_at dksX1_load_1 13 rfl rfl)
theorem dX1_load_38 : decode cX1_load 38 = .ok (.athrow, 1) := dk_191 (dk_at dksX1_load_1 14 rfl rfl)
theorem dX1_load_39 : decode cX1_load 39 = .ok (.aload_n 0, 1) := dk_42 (dk_at dksX1_load_1 15 rfl rfl)
theorem dX1_load_40 : decode cX1_load 40 = .ok (.iconst 0, 1) := dk_3 (dk_at dksX1_load_1 16 rfl rfl)
theorem dX1_load_41 : decode cX1_load 41 = .ok (.putfield 75, 3) := dk_181 0 75 (dk_at dksX1_load_1 17 rfl rfl)
theorem dX1_load_44 : decode cX1_load 44 = .ok (.aload_n 0, 1) := dk_42 (dk_at dksX1_load_1 20 rfl rfl)
theorem dX1_load_45 : decode cX1_load 45 = .ok (.iconst (-1), 1) := dk_2 (dk_at dksX1_load_1 21 rfl rfl)
theorem dX1_load_46 : decode cX1_load 46 = .ok (.putfield 18, 3) := dk_181 0 18 (dk_at dksX1_load_2 0 rfl rfl)
theorem dX1_load_49 : decode cX1_load 49 = .ok (.aload_n 0, 1) := dk_42 (dk_at dksX1_load_2 3 rfl rfl)
theorem dX1_load_50 : decode cX1_load 50 = .ok (.getfield 34, 3) := dk_180 0 34 (dk_at dksX1_load_2 4 rfl rfl)
theorem dX1_load_53 : decode cX1_load 53 = .ok (.invokevirtual 145, 3) := dk_182 0 145 (dk_at dksX1_load_2 7 rfl rfl)
theorem dX1_load_56 : decode cX1_load 56 = .ok (.aload_n 0, 1) := dk_42 (dk_at dksX1_load_2 10 rfl rfl)
theorem dX1_load_57 : decode cX1_load 57 = .ok (.getfield 38, 3) := dk_180 0 38 (dk_at dksX1_load_2 11 rfl rfl)
theorem dX1_load_60 : decode cX1_load 60 = .ok (.iconst 0, 1) := dk_3 (dk_at dksX1_load_2 14 rfl rfl)
theorem dX1_load_61 : decode cX1_load 61 = .ok (.aconst_null, 1) := dk_1 (dk_at dksX1_load_2 15 rfl rfl)
theorem dX1_load_62 : decode cX1_load 62 = .ok (.aastore, 1) := dk_83 (dk_at dksX1_load_2 16 rfl rfl)
theorem dX1_load_63 : decode cX1_load 63 = .ok (.aload_n 0, 1) := dk_42 (dk_at dksX1_load_2 17 rfl rfl)
theorem dX1_load_64 : decode cX1_load 64 = .ok (.getfield 38, 3) := dk_180 0 38 (dk_at dksX1_load_2 18 rfl rfl)
theorem dX1_load_67 : decode cX1_load 67 = .ok (.iconst 1, 1) := dk_4 (dk_at dksX1_load_2 21 rfl rfl)
theorem dX1_load_68 : decode cX1_load 68 = .ok (.aconst_null, 1) := dk_1 (dk_at dksX1_load_2 22 rfl rfl)
theorem dX1_load_69 : decode cX1_load 69 = .ok (.aastore, 1) := dk_83 (dk_at dksX1_load_2 23 rfl rfl)
theorem dX1_load_70 : decode cX1_load 70 = .ok (.aload_n 0, 1) := dk_42 (dk_at dksX1_load_3 0 rfl rfl)
theorem dX1_load_71 : decode cX1_load 71 = .ok (.getfield 27, 3) := dk_180 0 27 (dk_at dksX1_load_3 1 rfl rfl)
theorem dX1_load_74 : decode cX1_load 74 = .ok (.invokevirtual 106, 3) := dk_182 0 106 (dk_at dksX1_load_3 4 rfl rfl)
theorem dX1_load_77 : decode cX1_load 77 = .ok (.ireturn, 1) := dk_172 (dk_at dksX1_load_3 7 rfl rfl)
abbrev cX1_rejected : ByteArray := prog_1_method_7_code
def yX1_rejected : MethodName := ⟨RX1, "rejected", "(LCakeDivision$TextError;)Ljava/lang/IllegalArgumentException;"⟩
def dkwX1_rejected_0 : List UInt8 := [42, 43, 180, 0, 72, 181, 0, 75, 42, 43, 180, 0, 138, 181, 0, 18, 187, 0, 85, 89, 183, 0, 87, 176]
abbrev dktX1_rejected_0 : List UInt8 := dkwX1_rejected_0 ++ []
theorem dksX1_rejected_0 : cX1_rejected.data.toList.drop 0 = dktX1_rejected_0 := by decide +kernel
theorem dX1_rejected_0 : decode cX1_rejected 0 = .ok (.aload_n 0, 1) := dk_42 (dk_at dksX1_rejected_0 0 rfl rfl)
theorem dX1_rejected_1 : decode cX1_rejected 1 = .ok (.aload_n 1, 1) := dk_43 (dk_at dksX1_rejected_0 1 rfl rfl)
theorem dX1_rejected_2 : decode cX1_rejected 2 = .ok (.getfield 72, 3) := dk_180 0 72 (dk_at dksX1_rejected_0 2 rfl rfl)
theorem dX1_rejected_5 : decode cX1_rejected 5 = .ok (.putfield 75, 3) := dk_181 0 75 (dk_at dksX1_rejected_0 5 rfl rfl)
theorem dX1_rejected_8 : decode cX1_rejected 8 = .ok (.aload_n 0, 1) := dk_42 (dk_at dksX1_rejected_0 8 rfl rfl)
theorem dX1_rejected_9 : decode cX1_rejected 9 = .ok (.aload_n 1, 1) := dk_43 (dk_at dksX1_rejected_0 9 rfl rfl)
theorem dX1_rejected_10 : decode cX1_rejected 10 = .ok (.getfield 138, 3) := dk_180 0 138 (dk_at dksX1_rejected_0 10 rfl rfl)
theorem dX1_rejected_13 : decode cX1_rejected 13 = .ok (.putfield 18, 3) := dk_181 0 18 (dk_at dksX1_rejected_0 13 rfl rfl)
theorem dX1_rejected_16 : decode cX1_rejected 16 = .ok (.new 85, 3) := dk_187 0 85 (dk_at dksX1_rejected_0 16 rfl rfl)
theorem dX1_rejected_19 : decode cX1_rejected 19 = .ok (.dup, 1) := dk_89 (dk_at dksX1_rejected_0 19 rfl rfl)
theorem dX1_rejected_20 : decode cX1_rejected 20 = .ok (.invokespecial 87, 3) := dk_183 0 87 (dk_at dksX1_rejected_0 20 rfl rfl)
theorem dX1_rejected_23 : decode cX1_rejected 23 = .ok (.areturn, 1) := dk_176 (dk_at dksX1_rejected_0 23 rfl rfl)
abbrev cX1_nameByte : ByteArray := prog_1_method_20_code
def yX1_nameByte : MethodName := ⟨RX1, "nameByte", "(II)I"⟩
def dkwX1_nameByte_0 : List UInt8 := [42, 27, 182, 0, 169, 180, 0, 172, 78, 28, 45, 190, 184, 0, 151, 45, 28, 51, 172]
abbrev dktX1_nameByte_0 : List UInt8 := dkwX1_nameByte_0 ++ []
theorem dksX1_nameByte_0 : cX1_nameByte.data.toList.drop 0 = dktX1_nameByte_0 := by decide +kernel
theorem dX1_nameByte_0 : decode cX1_nameByte 0 = .ok (.aload_n 0, 1) := dk_42 (dk_at dksX1_nameByte_0 0 rfl rfl)
theorem dX1_nameByte_1 : decode cX1_nameByte 1 = .ok (.iload_n 1, 1) := dk_27 (dk_at dksX1_nameByte_0 1 rfl rfl)
theorem dX1_nameByte_2 : decode cX1_nameByte 2 = .ok (.invokevirtual 169, 3) := dk_182 0 169 (dk_at dksX1_nameByte_0 2 rfl rfl)
theorem dX1_nameByte_5 : decode cX1_nameByte 5 = .ok (.getfield 172, 3) := dk_180 0 172 (dk_at dksX1_nameByte_0 5 rfl rfl)
theorem dX1_nameByte_8 : decode cX1_nameByte 8 = .ok (.astore_n 3, 1) := dk_78 (dk_at dksX1_nameByte_0 8 rfl rfl)
theorem dX1_nameByte_9 : decode cX1_nameByte 9 = .ok (.iload_n 2, 1) := dk_28 (dk_at dksX1_nameByte_0 9 rfl rfl)
theorem dX1_nameByte_10 : decode cX1_nameByte 10 = .ok (.aload_n 3, 1) := dk_45 (dk_at dksX1_nameByte_0 10 rfl rfl)
theorem dX1_nameByte_11 : decode cX1_nameByte 11 = .ok (.arraylength, 1) := dk_190 (dk_at dksX1_nameByte_0 11 rfl rfl)
theorem dX1_nameByte_12 : decode cX1_nameByte 12 = .ok (.invokestatic 151, 3) := dk_184 0 151 (dk_at dksX1_nameByte_0 12 rfl rfl)
theorem dX1_nameByte_15 : decode cX1_nameByte 15 = .ok (.aload_n 3, 1) := dk_45 (dk_at dksX1_nameByte_0 15 rfl rfl)
theorem dX1_nameByte_16 : decode cX1_nameByte 16 = .ok (.iload_n 2, 1) := dk_28 (dk_at dksX1_nameByte_0 16 rfl rfl)
theorem dX1_nameByte_17 : decode cX1_nameByte 17 = .ok (.baload, 1) := dk_51 (dk_at dksX1_nameByte_0 17 rfl rfl)
theorem dX1_nameByte_18 : decode cX1_nameByte 18 = .ok (.ireturn, 1) := dk_172 (dk_at dksX1_nameByte_0 18 rfl rfl)
abbrev cX1_siblingAt : ByteArray := prog_1_method_16_code
def yX1_siblingAt : MethodName := ⟨RX1, "siblingAt", "(I)LCakeDivision$Sibling;"⟩
def dkwX1_siblingAt_0 : List UInt8 := [42, 4, 188, 10, 89, 3, 27, 79, 182, 0, 155, 42, 180, 0, 27, 27, 182, 0, 158, 176]
abbrev dktX1_siblingAt_0 : List UInt8 := dkwX1_siblingAt_0 ++ []
theorem dksX1_siblingAt_0 : cX1_siblingAt.data.toList.drop 0 = dktX1_siblingAt_0 := by decide +kernel
theorem dX1_siblingAt_0 : decode cX1_siblingAt 0 = .ok (.aload_n 0, 1) := dk_42 (dk_at dksX1_siblingAt_0 0 rfl rfl)
theorem dX1_siblingAt_1 : decode cX1_siblingAt 1 = .ok (.iconst 1, 1) := dk_4 (dk_at dksX1_siblingAt_0 1 rfl rfl)
theorem dX1_siblingAt_2 : decode cX1_siblingAt 2 = .ok (.newarray .int, 2) := dk_188_10 (dk_at dksX1_siblingAt_0 2 rfl rfl)
theorem dX1_siblingAt_4 : decode cX1_siblingAt 4 = .ok (.dup, 1) := dk_89 (dk_at dksX1_siblingAt_0 4 rfl rfl)
theorem dX1_siblingAt_5 : decode cX1_siblingAt 5 = .ok (.iconst 0, 1) := dk_3 (dk_at dksX1_siblingAt_0 5 rfl rfl)
theorem dX1_siblingAt_6 : decode cX1_siblingAt 6 = .ok (.iload_n 1, 1) := dk_27 (dk_at dksX1_siblingAt_0 6 rfl rfl)
theorem dX1_siblingAt_7 : decode cX1_siblingAt 7 = .ok (.iastore, 1) := dk_79 (dk_at dksX1_siblingAt_0 7 rfl rfl)
theorem dX1_siblingAt_8 : decode cX1_siblingAt 8 = .ok (.invokevirtual 155, 3) := dk_182 0 155 (dk_at dksX1_siblingAt_0 8 rfl rfl)
theorem dX1_siblingAt_11 : decode cX1_siblingAt 11 = .ok (.aload_n 0, 1) := dk_42 (dk_at dksX1_siblingAt_0 11 rfl rfl)
theorem dX1_siblingAt_12 : decode cX1_siblingAt 12 = .ok (.getfield 27, 3) := dk_180 0 27 (dk_at dksX1_siblingAt_0 12 rfl rfl)
theorem dX1_siblingAt_15 : decode cX1_siblingAt 15 = .ok (.iload_n 1, 1) := dk_27 (dk_at dksX1_siblingAt_0 15 rfl rfl)
theorem dX1_siblingAt_16 : decode cX1_siblingAt 16 = .ok (.invokevirtual 158, 3) := dk_182 0 158 (dk_at dksX1_siblingAt_0 16 rfl rfl)
theorem dX1_siblingAt_19 : decode cX1_siblingAt 19 = .ok (.areturn, 1) := dk_176 (dk_at dksX1_siblingAt_0 19 rfl rfl)
abbrev cX1_checkSiblings : ByteArray := prog_1_method_15_code
def yX1_checkSiblings : MethodName := ⟨RX1, "checkSiblings", "([I)V"⟩
def dkwX1_checkSiblings_1 : List UInt8 := [167, 255, 234, 177]
abbrev dktX1_checkSiblings_1 : List UInt8 := dkwX1_checkSiblings_1 ++ []
def dkwX1_checkSiblings_0 : List UInt8 := [3, 61, 28, 43, 190, 162, 0, 22, 43, 28, 46, 42, 180, 0, 27, 182, 0, 106, 184, 0, 151, 132, 2, 1]
abbrev dktX1_checkSiblings_0 : List UInt8 := dkwX1_checkSiblings_0 ++ dktX1_checkSiblings_1
theorem dksX1_checkSiblings_0 : cX1_checkSiblings.data.toList.drop 0 = dktX1_checkSiblings_0 := by decide +kernel
theorem dksX1_checkSiblings_1 : cX1_checkSiblings.data.toList.drop 24 = dktX1_checkSiblings_1 := dk_seg dksX1_checkSiblings_0 24 rfl rfl
theorem dX1_checkSiblings_0 : decode cX1_checkSiblings 0 = .ok (.iconst 0, 1) := dk_3 (dk_at dksX1_checkSiblings_0 0 rfl rfl)
theorem dX1_checkSiblings_1 : decode cX1_checkSiblings 1 = .ok (.istore_n 2, 1) := dk_61 (dk_at dksX1_checkSiblings_0 1 rfl rfl)
theorem dX1_checkSiblings_2 : decode cX1_checkSiblings 2 = .ok (.iload_n 2, 1) := dk_28 (dk_at dksX1_checkSiblings_0 2 rfl rfl)
theorem dX1_checkSiblings_3 : decode cX1_checkSiblings 3 = .ok (.aload_n 1, 1) := dk_43 (dk_at dksX1_checkSiblings_0 3 rfl rfl)
theorem dX1_checkSiblings_4 : decode cX1_checkSiblings 4 = .ok (.arraylength, 1) := dk_190 (dk_at dksX1_checkSiblings_0 4 rfl rfl)
theorem dX1_checkSiblings_5 : decode cX1_checkSiblings 5 = .ok (.if_icmp .ge 22, 3) := dk_162 0 22 (dk_at dksX1_checkSiblings_0 5 rfl rfl)
theorem dX1_checkSiblings_8 : decode cX1_checkSiblings 8 = .ok (.aload_n 1, 1) := dk_43 (dk_at dksX1_checkSiblings_0 8 rfl rfl)
theorem dX1_checkSiblings_9 : decode cX1_checkSiblings 9 = .ok (.iload_n 2, 1) := dk_28 (dk_at dksX1_checkSiblings_0 9 rfl rfl)
theorem dX1_checkSiblings_10 : decode cX1_checkSiblings 10 = .ok (.iaload, 1) := dk_46 (dk_at dksX1_checkSiblings_0 10 rfl rfl)
theorem dX1_checkSiblings_11 : decode cX1_checkSiblings 11 = .ok (.aload_n 0, 1) := dk_42 (dk_at dksX1_checkSiblings_0 11 rfl rfl)
theorem dX1_checkSiblings_12 : decode cX1_checkSiblings 12 = .ok (.getfield 27, 3) := dk_180 0 27 (dk_at dksX1_checkSiblings_0 12 rfl rfl)
theorem dX1_checkSiblings_15 : decode cX1_checkSiblings 15 = .ok (.invokevirtual 106, 3) := dk_182 0 106 (dk_at dksX1_checkSiblings_0 15 rfl rfl)
theorem dX1_checkSiblings_18 : decode cX1_checkSiblings 18 = .ok (.invokestatic 151, 3) := dk_184 0 151 (dk_at dksX1_checkSiblings_0 18 rfl rfl)
theorem dX1_checkSiblings_21 : decode cX1_checkSiblings 21 = .ok (.iinc 2 1, 3) := dk_132 2 1 (dk_at dksX1_checkSiblings_0 21 rfl rfl)
theorem dX1_checkSiblings_24 : decode cX1_checkSiblings 24 = .ok (.goto (-22), 3) := dk_167 255 234 (dk_at dksX1_checkSiblings_1 0 rfl rfl)
theorem dX1_checkSiblings_27 : decode cX1_checkSiblings 27 = .ok (.return_, 1) := dk_177 (dk_at dksX1_checkSiblings_1 3 rfl rfl)
abbrev cX1_checkIndex : ByteArray := prog_1_method_12_code
def yX1_checkIndex : MethodName := ⟨RX1, "checkIndex", "(II)V"⟩
def dkwX1_checkIndex_0 : List UInt8 := [26, 155, 0, 8, 26, 27, 161, 0, 11, 187, 0, 148, 89, 183, 0, 150, 191, 177]
abbrev dktX1_checkIndex_0 : List UInt8 := dkwX1_checkIndex_0 ++ []
theorem dksX1_checkIndex_0 : cX1_checkIndex.data.toList.drop 0 = dktX1_checkIndex_0 := by decide +kernel
theorem dX1_checkIndex_0 : decode cX1_checkIndex 0 = .ok (.iload_n 0, 1) := dk_26 (dk_at dksX1_checkIndex_0 0 rfl rfl)
theorem dX1_checkIndex_1 : decode cX1_checkIndex 1 = .ok (.ifCond .lt 8, 3) := dk_155 0 8 (dk_at dksX1_checkIndex_0 1 rfl rfl)
theorem dX1_checkIndex_4 : decode cX1_checkIndex 4 = .ok (.iload_n 0, 1) := dk_26 (dk_at dksX1_checkIndex_0 4 rfl rfl)
theorem dX1_checkIndex_5 : decode cX1_checkIndex 5 = .ok (.iload_n 1, 1) := dk_27 (dk_at dksX1_checkIndex_0 5 rfl rfl)
theorem dX1_checkIndex_6 : decode cX1_checkIndex 6 = .ok (.if_icmp .lt 11, 3) := dk_161 0 11 (dk_at dksX1_checkIndex_0 6 rfl rfl)
theorem dX1_checkIndex_9 : decode cX1_checkIndex 9 = .ok (.new 148, 3) := dk_187 0 148 (dk_at dksX1_checkIndex_0 9 rfl rfl)
theorem dX1_checkIndex_12 : decode cX1_checkIndex 12 = .ok (.dup, 1) := dk_89 (dk_at dksX1_checkIndex_0 12 rfl rfl)
theorem dX1_checkIndex_13 : decode cX1_checkIndex 13 = .ok (.invokespecial 150, 3) := dk_183 0 150 (dk_at dksX1_checkIndex_0 13 rfl rfl)
theorem dX1_checkIndex_16 : decode cX1_checkIndex 16 = .ok (.athrow, 1) := dk_191 (dk_at dksX1_checkIndex_0 16 rfl rfl)
theorem dX1_checkIndex_17 : decode cX1_checkIndex 17 = .ok (.return_, 1) := dk_177 (dk_at dksX1_checkIndex_0 17 rfl rfl)
abbrev cX1_findSibling : ByteArray := prog_1_method_21_code
def yX1_findSibling : MethodName := ⟨RX1, "findSibling", "()I"⟩
def dkwX1_findSibling_1 : List UInt8 := [180, 0, 27, 43, 182, 0, 181, 61, 28, 2, 160, 0, 11, 187, 0, 185, 89, 183, 0, 187, 191, 28, 172]
abbrev dktX1_findSibling_1 : List UInt8 := dkwX1_findSibling_1 ++ []
def dkwX1_findSibling_0 : List UInt8 := [42, 180, 0, 55, 188, 8, 76, 42, 180, 0, 14, 3, 43, 3, 42, 180, 0, 55, 184, 0, 175, 42]
abbrev dktX1_findSibling_0 : List UInt8 := dkwX1_findSibling_0 ++ dktX1_findSibling_1
theorem dksX1_findSibling_0 : cX1_findSibling.data.toList.drop 0 = dktX1_findSibling_0 := by decide +kernel
theorem dksX1_findSibling_1 : cX1_findSibling.data.toList.drop 22 = dktX1_findSibling_1 := dk_seg dksX1_findSibling_0 22 rfl rfl
theorem dX1_findSibling_0 : decode cX1_findSibling 0 = .ok (.aload_n 0, 1) := dk_42 (dk_at dksX1_findSibling_0 0 rfl rfl)
theorem dX1_findSibling_1 : decode cX1_findSibling 1 = .ok (.getfield 55, 3) := dk_180 0 55 (dk_at dksX1_findSibling_0 1 rfl rfl)
theorem dX1_findSibling_4 : decode cX1_findSibling 4 = .ok (.newarray .byte, 2) := dk_188_8 (dk_at dksX1_findSibling_0 4 rfl rfl)
theorem dX1_findSibling_6 : decode cX1_findSibling 6 = .ok (.astore_n 1, 1) := dk_76 (dk_at dksX1_findSibling_0 6 rfl rfl)
theorem dX1_findSibling_7 : decode cX1_findSibling 7 = .ok (.aload_n 0, 1) := dk_42 (dk_at dksX1_findSibling_0 7 rfl rfl)
theorem dX1_findSibling_8 : decode cX1_findSibling 8 = .ok (.getfield 14, 3) := dk_180 0 14 (dk_at dksX1_findSibling_0 8 rfl rfl)
theorem dX1_findSibling_11 : decode cX1_findSibling 11 = .ok (.iconst 0, 1) := dk_3 (dk_at dksX1_findSibling_0 11 rfl rfl)
theorem dX1_findSibling_12 : decode cX1_findSibling 12 = .ok (.aload_n 1, 1) := dk_43 (dk_at dksX1_findSibling_0 12 rfl rfl)
theorem dX1_findSibling_13 : decode cX1_findSibling 13 = .ok (.iconst 0, 1) := dk_3 (dk_at dksX1_findSibling_0 13 rfl rfl)
theorem dX1_findSibling_14 : decode cX1_findSibling 14 = .ok (.aload_n 0, 1) := dk_42 (dk_at dksX1_findSibling_0 14 rfl rfl)
theorem dX1_findSibling_15 : decode cX1_findSibling 15 = .ok (.getfield 55, 3) := dk_180 0 55 (dk_at dksX1_findSibling_0 15 rfl rfl)
theorem dX1_findSibling_18 : decode cX1_findSibling 18 = .ok (.invokestatic 175, 3) := dk_184 0 175 (dk_at dksX1_findSibling_0 18 rfl rfl)
theorem dX1_findSibling_21 : decode cX1_findSibling 21 = .ok (.aload_n 0, 1) := dk_42 (dk_at dksX1_findSibling_0 21 rfl rfl)
theorem dX1_findSibling_22 : decode cX1_findSibling 22 = .ok (.getfield 27, 3) := dk_180 0 27 (dk_at dksX1_findSibling_1 0 rfl rfl)
theorem dX1_findSibling_25 : decode cX1_findSibling 25 = .ok (.aload_n 1, 1) := dk_43 (dk_at dksX1_findSibling_1 3 rfl rfl)
theorem dX1_findSibling_26 : decode cX1_findSibling 26 = .ok (.invokevirtual 181, 3) := dk_182 0 181 (dk_at dksX1_findSibling_1 4 rfl rfl)
theorem dX1_findSibling_29 : decode cX1_findSibling 29 = .ok (.istore_n 2, 1) := dk_61 (dk_at dksX1_findSibling_1 7 rfl rfl)
theorem dX1_findSibling_30 : decode cX1_findSibling 30 = .ok (.iload_n 2, 1) := dk_28 (dk_at dksX1_findSibling_1 8 rfl rfl)
theorem dX1_findSibling_31 : decode cX1_findSibling 31 = .ok (.iconst (-1), 1) := dk_2 (dk_at dksX1_findSibling_1 9 rfl rfl)
theorem dX1_findSibling_32 : decode cX1_findSibling 32 = .ok (.if_icmp .ne 11, 3) := dk_160 0 11 (dk_at dksX1_findSibling_1 10 rfl rfl)
theorem dX1_findSibling_35 : decode cX1_findSibling 35 = .ok (.new 185, 3) := dk_187 0 185 (dk_at dksX1_findSibling_1 13 rfl rfl)
theorem dX1_findSibling_38 : decode cX1_findSibling 38 = .ok (.dup, 1) := dk_89 (dk_at dksX1_findSibling_1 16 rfl rfl)
theorem dX1_findSibling_39 : decode cX1_findSibling 39 = .ok (.invokespecial 187, 3) := dk_183 0 187 (dk_at dksX1_findSibling_1 17 rfl rfl)
theorem dX1_findSibling_42 : decode cX1_findSibling 42 = .ok (.athrow, 1) := dk_191 (dk_at dksX1_findSibling_1 20 rfl rfl)
theorem dX1_findSibling_43 : decode cX1_findSibling 43 = .ok (.iload_n 2, 1) := dk_28 (dk_at dksX1_findSibling_1 21 rfl rfl)
theorem dX1_findSibling_44 : decode cX1_findSibling 44 = .ok (.ireturn, 1) := dk_172 (dk_at dksX1_findSibling_1 22 rfl rfl)
abbrev cX1_value : ByteArray := prog_1_method_22_code
def yX1_value : MethodName := ⟨RX1, "value", "(II)I"⟩
def dkwX1_value_0 : List UInt8 := [42, 27, 182, 0, 169, 78, 28, 42, 180, 0, 27, 182, 0, 117, 184, 0, 151, 45, 28, 182, 0, 188, 172]
abbrev dktX1_value_0 : List UInt8 := dkwX1_value_0 ++ []
theorem dksX1_value_0 : cX1_value.data.toList.drop 0 = dktX1_value_0 := by decide +kernel
theorem dX1_value_0 : decode cX1_value 0 = .ok (.aload_n 0, 1) := dk_42 (dk_at dksX1_value_0 0 rfl rfl)
theorem dX1_value_1 : decode cX1_value 1 = .ok (.iload_n 1, 1) := dk_27 (dk_at dksX1_value_0 1 rfl rfl)
theorem dX1_value_2 : decode cX1_value 2 = .ok (.invokevirtual 169, 3) := dk_182 0 169 (dk_at dksX1_value_0 2 rfl rfl)
theorem dX1_value_5 : decode cX1_value 5 = .ok (.astore_n 3, 1) := dk_78 (dk_at dksX1_value_0 5 rfl rfl)
theorem dX1_value_6 : decode cX1_value 6 = .ok (.iload_n 2, 1) := dk_28 (dk_at dksX1_value_0 6 rfl rfl)
theorem dX1_value_7 : decode cX1_value 7 = .ok (.aload_n 0, 1) := dk_42 (dk_at dksX1_value_0 7 rfl rfl)
theorem dX1_value_8 : decode cX1_value 8 = .ok (.getfield 27, 3) := dk_180 0 27 (dk_at dksX1_value_0 8 rfl rfl)
theorem dX1_value_11 : decode cX1_value 11 = .ok (.invokevirtual 117, 3) := dk_182 0 117 (dk_at dksX1_value_0 11 rfl rfl)
theorem dX1_value_14 : decode cX1_value 14 = .ok (.invokestatic 151, 3) := dk_184 0 151 (dk_at dksX1_value_0 14 rfl rfl)
theorem dX1_value_17 : decode cX1_value 17 = .ok (.aload_n 3, 1) := dk_45 (dk_at dksX1_value_0 17 rfl rfl)
theorem dX1_value_18 : decode cX1_value 18 = .ok (.iload_n 2, 1) := dk_28 (dk_at dksX1_value_0 18 rfl rfl)
theorem dX1_value_19 : decode cX1_value 19 = .ok (.invokevirtual 188, 3) := dk_182 0 188 (dk_at dksX1_value_0 19 rfl rfl)
theorem dX1_value_22 : decode cX1_value 22 = .ok (.ireturn, 1) := dk_172 (dk_at dksX1_value_0 22 rfl rfl)
abbrev cX1_owner : ByteArray := prog_1_method_23_code
def yX1_owner : MethodName := ⟨RX1, "owner", "(I)I"⟩
def dkwX1_owner_0 : List UInt8 := [27, 42, 180, 0, 27, 182, 0, 117, 184, 0, 151, 42, 180, 0, 27, 180, 0, 192, 27, 46, 172]
abbrev dktX1_owner_0 : List UInt8 := dkwX1_owner_0 ++ []
theorem dksX1_owner_0 : cX1_owner.data.toList.drop 0 = dktX1_owner_0 := by decide +kernel
theorem dX1_owner_0 : decode cX1_owner 0 = .ok (.iload_n 1, 1) := dk_27 (dk_at dksX1_owner_0 0 rfl rfl)
theorem dX1_owner_1 : decode cX1_owner 1 = .ok (.aload_n 0, 1) := dk_42 (dk_at dksX1_owner_0 1 rfl rfl)
theorem dX1_owner_2 : decode cX1_owner 2 = .ok (.getfield 27, 3) := dk_180 0 27 (dk_at dksX1_owner_0 2 rfl rfl)
theorem dX1_owner_5 : decode cX1_owner 5 = .ok (.invokevirtual 117, 3) := dk_182 0 117 (dk_at dksX1_owner_0 5 rfl rfl)
theorem dX1_owner_8 : decode cX1_owner 8 = .ok (.invokestatic 151, 3) := dk_184 0 151 (dk_at dksX1_owner_0 8 rfl rfl)
theorem dX1_owner_11 : decode cX1_owner 11 = .ok (.aload_n 0, 1) := dk_42 (dk_at dksX1_owner_0 11 rfl rfl)
theorem dX1_owner_12 : decode cX1_owner 12 = .ok (.getfield 27, 3) := dk_180 0 27 (dk_at dksX1_owner_0 12 rfl rfl)
theorem dX1_owner_15 : decode cX1_owner 15 = .ok (.getfield 192, 3) := dk_180 0 192 (dk_at dksX1_owner_0 15 rfl rfl)
theorem dX1_owner_18 : decode cX1_owner 18 = .ok (.iload_n 1, 1) := dk_27 (dk_at dksX1_owner_0 18 rfl rfl)
theorem dX1_owner_19 : decode cX1_owner 19 = .ok (.iaload, 1) := dk_46 (dk_at dksX1_owner_0 19 rfl rfl)
theorem dX1_owner_20 : decode cX1_owner 20 = .ok (.ireturn, 1) := dk_172 (dk_at dksX1_owner_0 20 rfl rfl)
abbrev cX1_worth : ByteArray := prog_1_method_24_code
def yX1_worth : MethodName := ⟨RX1, "worth", "(III)I"⟩
def dkwX1_worth_0 : List UInt8 := [42, 27, 182, 0, 169, 58, 4, 42, 28, 29, 182, 0, 195, 25, 4, 28, 29, 182, 0, 198, 172]
abbrev dktX1_worth_0 : List UInt8 := dkwX1_worth_0 ++ []
theorem dksX1_worth_0 : cX1_worth.data.toList.drop 0 = dktX1_worth_0 := by decide +kernel
theorem dX1_worth_0 : decode cX1_worth 0 = .ok (.aload_n 0, 1) := dk_42 (dk_at dksX1_worth_0 0 rfl rfl)
theorem dX1_worth_1 : decode cX1_worth 1 = .ok (.iload_n 1, 1) := dk_27 (dk_at dksX1_worth_0 1 rfl rfl)
theorem dX1_worth_2 : decode cX1_worth 2 = .ok (.invokevirtual 169, 3) := dk_182 0 169 (dk_at dksX1_worth_0 2 rfl rfl)
theorem dX1_worth_5 : decode cX1_worth 5 = .ok (.astore 4, 2) := dk_58 4 (dk_at dksX1_worth_0 5 rfl rfl)
theorem dX1_worth_7 : decode cX1_worth 7 = .ok (.aload_n 0, 1) := dk_42 (dk_at dksX1_worth_0 7 rfl rfl)
theorem dX1_worth_8 : decode cX1_worth 8 = .ok (.iload_n 2, 1) := dk_28 (dk_at dksX1_worth_0 8 rfl rfl)
theorem dX1_worth_9 : decode cX1_worth 9 = .ok (.iload_n 3, 1) := dk_29 (dk_at dksX1_worth_0 9 rfl rfl)
theorem dX1_worth_10 : decode cX1_worth 10 = .ok (.invokevirtual 195, 3) := dk_182 0 195 (dk_at dksX1_worth_0 10 rfl rfl)
theorem dX1_worth_13 : decode cX1_worth 13 = .ok (.aload 4, 2) := dk_25 4 (dk_at dksX1_worth_0 13 rfl rfl)
theorem dX1_worth_15 : decode cX1_worth 15 = .ok (.iload_n 2, 1) := dk_28 (dk_at dksX1_worth_0 15 rfl rfl)
theorem dX1_worth_16 : decode cX1_worth 16 = .ok (.iload_n 3, 1) := dk_29 (dk_at dksX1_worth_0 16 rfl rfl)
theorem dX1_worth_17 : decode cX1_worth 17 = .ok (.invokevirtual 198, 3) := dk_182 0 198 (dk_at dksX1_worth_0 17 rfl rfl)
theorem dX1_worth_20 : decode cX1_worth 20 = .ok (.ireturn, 1) := dk_172 (dk_at dksX1_worth_0 20 rfl rfl)
abbrev cX1_checkCells : ByteArray := prog_1_method_17_code
def yX1_checkCells : MethodName := ⟨RX1, "checkCells", "(II)V"⟩
def dkwX1_checkCells_1 : List UInt8 := [182, 0, 117, 4, 100, 184, 0, 161, 153, 0, 7, 4, 167, 0, 4, 3, 184, 0, 165, 177]
abbrev dktX1_checkCells_1 : List UInt8 := dkwX1_checkCells_1 ++ []
def dkwX1_checkCells_0 : List UInt8 := [27, 3, 42, 180, 0, 27, 182, 0, 117, 4, 100, 184, 0, 161, 153, 0, 24, 28, 27, 42, 180, 0, 27]
abbrev dktX1_checkCells_0 : List UInt8 := dkwX1_checkCells_0 ++ dktX1_checkCells_1
theorem dksX1_checkCells_0 : cX1_checkCells.data.toList.drop 0 = dktX1_checkCells_0 := by decide +kernel
theorem dksX1_checkCells_1 : cX1_checkCells.data.toList.drop 23 = dktX1_checkCells_1 := dk_seg dksX1_checkCells_0 23 rfl rfl
theorem dX1_checkCells_0 : decode cX1_checkCells 0 = .ok (.iload_n 1, 1) := dk_27 (dk_at dksX1_checkCells_0 0 rfl rfl)
theorem dX1_checkCells_1 : decode cX1_checkCells 1 = .ok (.iconst 0, 1) := dk_3 (dk_at dksX1_checkCells_0 1 rfl rfl)
theorem dX1_checkCells_2 : decode cX1_checkCells 2 = .ok (.aload_n 0, 1) := dk_42 (dk_at dksX1_checkCells_0 2 rfl rfl)
theorem dX1_checkCells_3 : decode cX1_checkCells 3 = .ok (.getfield 27, 3) := dk_180 0 27 (dk_at dksX1_checkCells_0 3 rfl rfl)
theorem dX1_checkCells_6 : decode cX1_checkCells 6 = .ok (.invokevirtual 117, 3) := dk_182 0 117 (dk_at dksX1_checkCells_0 6 rfl rfl)
theorem dX1_checkCells_9 : decode cX1_checkCells 9 = .ok (.iconst 1, 1) := dk_4 (dk_at dksX1_checkCells_0 9 rfl rfl)
theorem dX1_checkCells_10 : decode cX1_checkCells 10 = .ok (.isub, 1) := dk_100 (dk_at dksX1_checkCells_0 10 rfl rfl)
theorem dX1_checkCells_11 : decode cX1_checkCells 11 = .ok (.invokestatic 161, 3) := dk_184 0 161 (dk_at dksX1_checkCells_0 11 rfl rfl)
theorem dX1_checkCells_14 : decode cX1_checkCells 14 = .ok (.ifCond .eq 24, 3) := dk_153 0 24 (dk_at dksX1_checkCells_0 14 rfl rfl)
theorem dX1_checkCells_17 : decode cX1_checkCells 17 = .ok (.iload_n 2, 1) := dk_28 (dk_at dksX1_checkCells_0 17 rfl rfl)
theorem dX1_checkCells_18 : decode cX1_checkCells 18 = .ok (.iload_n 1, 1) := dk_27 (dk_at dksX1_checkCells_0 18 rfl rfl)
theorem dX1_checkCells_19 : decode cX1_checkCells 19 = .ok (.aload_n 0, 1) := dk_42 (dk_at dksX1_checkCells_0 19 rfl rfl)
theorem dX1_checkCells_20 : decode cX1_checkCells 20 = .ok (.getfield 27, 3) := dk_180 0 27 (dk_at dksX1_checkCells_0 20 rfl rfl)
theorem dX1_checkCells_23 : decode cX1_checkCells 23 = .ok (.invokevirtual 117, 3) := dk_182 0 117 (dk_at dksX1_checkCells_1 0 rfl rfl)
theorem dX1_checkCells_26 : decode cX1_checkCells 26 = .ok (.iconst 1, 1) := dk_4 (dk_at dksX1_checkCells_1 3 rfl rfl)
theorem dX1_checkCells_27 : decode cX1_checkCells 27 = .ok (.isub, 1) := dk_100 (dk_at dksX1_checkCells_1 4 rfl rfl)
theorem dX1_checkCells_28 : decode cX1_checkCells 28 = .ok (.invokestatic 161, 3) := dk_184 0 161 (dk_at dksX1_checkCells_1 5 rfl rfl)
theorem dX1_checkCells_31 : decode cX1_checkCells 31 = .ok (.ifCond .eq 7, 3) := dk_153 0 7 (dk_at dksX1_checkCells_1 8 rfl rfl)
theorem dX1_checkCells_34 : decode cX1_checkCells 34 = .ok (.iconst 1, 1) := dk_4 (dk_at dksX1_checkCells_1 11 rfl rfl)
theorem dX1_checkCells_35 : decode cX1_checkCells 35 = .ok (.goto 4, 3) := dk_167 0 4 (dk_at dksX1_checkCells_1 12 rfl rfl)
theorem dX1_checkCells_38 : decode cX1_checkCells 38 = .ok (.iconst 0, 1) := dk_3 (dk_at dksX1_checkCells_1 15 rfl rfl)
theorem dX1_checkCells_39 : decode cX1_checkCells 39 = .ok (.invokestatic 165, 3) := dk_184 0 165 (dk_at dksX1_checkCells_1 16 rfl rfl)
theorem dX1_checkCells_42 : decode cX1_checkCells 42 = .ok (.return_, 1) := dk_177 (dk_at dksX1_checkCells_1 19 rfl rfl)
abbrev cX1_isBetween : ByteArray := prog_1_method_11_code
def yX1_isBetween : MethodName := ⟨RX1, "isBetween", "(III)Z"⟩
def dkwX1_isBetween_0 : List UInt8 := [26, 27, 161, 0, 12, 26, 28, 163, 0, 7, 4, 167, 0, 4, 3, 172]
abbrev dktX1_isBetween_0 : List UInt8 := dkwX1_isBetween_0 ++ []
theorem dksX1_isBetween_0 : cX1_isBetween.data.toList.drop 0 = dktX1_isBetween_0 := by decide +kernel
theorem dX1_isBetween_0 : decode cX1_isBetween 0 = .ok (.iload_n 0, 1) := dk_26 (dk_at dksX1_isBetween_0 0 rfl rfl)
theorem dX1_isBetween_1 : decode cX1_isBetween 1 = .ok (.iload_n 1, 1) := dk_27 (dk_at dksX1_isBetween_0 1 rfl rfl)
theorem dX1_isBetween_2 : decode cX1_isBetween 2 = .ok (.if_icmp .lt 12, 3) := dk_161 0 12 (dk_at dksX1_isBetween_0 2 rfl rfl)
theorem dX1_isBetween_5 : decode cX1_isBetween 5 = .ok (.iload_n 0, 1) := dk_26 (dk_at dksX1_isBetween_0 5 rfl rfl)
theorem dX1_isBetween_6 : decode cX1_isBetween 6 = .ok (.iload_n 2, 1) := dk_28 (dk_at dksX1_isBetween_0 6 rfl rfl)
theorem dX1_isBetween_7 : decode cX1_isBetween 7 = .ok (.if_icmp .gt 7, 3) := dk_163 0 7 (dk_at dksX1_isBetween_0 7 rfl rfl)
theorem dX1_isBetween_10 : decode cX1_isBetween 10 = .ok (.iconst 1, 1) := dk_4 (dk_at dksX1_isBetween_0 10 rfl rfl)
theorem dX1_isBetween_11 : decode cX1_isBetween 11 = .ok (.goto 4, 3) := dk_167 0 4 (dk_at dksX1_isBetween_0 11 rfl rfl)
theorem dX1_isBetween_14 : decode cX1_isBetween 14 = .ok (.iconst 0, 1) := dk_3 (dk_at dksX1_isBetween_0 14 rfl rfl)
theorem dX1_isBetween_15 : decode cX1_isBetween 15 = .ok (.ireturn, 1) := dk_172 (dk_at dksX1_isBetween_0 15 rfl rfl)
abbrev cX1_checkArgument : ByteArray := prog_1_method_13_code
def yX1_checkArgument : MethodName := ⟨RX1, "checkArgument", "(Z)V"⟩
def dkwX1_checkArgument_0 : List UInt8 := [26, 154, 0, 11, 187, 0, 85, 89, 183, 0, 87, 191, 177]
abbrev dktX1_checkArgument_0 : List UInt8 := dkwX1_checkArgument_0 ++ []
theorem dksX1_checkArgument_0 : cX1_checkArgument.data.toList.drop 0 = dktX1_checkArgument_0 := by decide +kernel
theorem dX1_checkArgument_0 : decode cX1_checkArgument 0 = .ok (.iload_n 0, 1) := dk_26 (dk_at dksX1_checkArgument_0 0 rfl rfl)
theorem dX1_checkArgument_1 : decode cX1_checkArgument 1 = .ok (.ifCond .ne 11, 3) := dk_154 0 11 (dk_at dksX1_checkArgument_0 1 rfl rfl)
theorem dX1_checkArgument_4 : decode cX1_checkArgument 4 = .ok (.new 85, 3) := dk_187 0 85 (dk_at dksX1_checkArgument_0 4 rfl rfl)
theorem dX1_checkArgument_7 : decode cX1_checkArgument 7 = .ok (.dup, 1) := dk_89 (dk_at dksX1_checkArgument_0 7 rfl rfl)
theorem dX1_checkArgument_8 : decode cX1_checkArgument 8 = .ok (.invokespecial 87, 3) := dk_183 0 87 (dk_at dksX1_checkArgument_0 8 rfl rfl)
theorem dX1_checkArgument_11 : decode cX1_checkArgument 11 = .ok (.athrow, 1) := dk_191 (dk_at dksX1_checkArgument_0 11 rfl rfl)
theorem dX1_checkArgument_12 : decode cX1_checkArgument 12 = .ok (.return_, 1) := dk_177 (dk_at dksX1_checkArgument_0 12 rfl rfl)
abbrev cX1_total : ByteArray := prog_1_method_25_code
def yX1_total : MethodName := ⟨RX1, "total", "(I)I"⟩
def dkwX1_total_0 : List UInt8 := [42, 27, 182, 0, 169, 182, 0, 201, 172]
abbrev dktX1_total_0 : List UInt8 := dkwX1_total_0 ++ []
theorem dksX1_total_0 : cX1_total.data.toList.drop 0 = dktX1_total_0 := by decide +kernel
theorem dX1_total_0 : decode cX1_total 0 = .ok (.aload_n 0, 1) := dk_42 (dk_at dksX1_total_0 0 rfl rfl)
theorem dX1_total_1 : decode cX1_total 1 = .ok (.iload_n 1, 1) := dk_27 (dk_at dksX1_total_0 1 rfl rfl)
theorem dX1_total_2 : decode cX1_total 2 = .ok (.invokevirtual 169, 3) := dk_182 0 169 (dk_at dksX1_total_0 2 rfl rfl)
theorem dX1_total_5 : decode cX1_total 5 = .ok (.invokevirtual 201, 3) := dk_182 0 201 (dk_at dksX1_total_0 5 rfl rfl)
theorem dX1_total_8 : decode cX1_total 8 = .ok (.ireturn, 1) := dk_172 (dk_at dksX1_total_0 8 rfl rfl)
abbrev cX1_worthOfShare : ByteArray := prog_1_method_26_code
def yX1_worthOfShare : MethodName := ⟨RX1, "worthOfShare", "(II)I"⟩
def dkwX1_worthOfShare_1 : List UInt8 := [172]
abbrev dktX1_worthOfShare_1 : List UInt8 := dkwX1_worthOfShare_1 ++ []
def dkwX1_worthOfShare_0 : List UInt8 := [42, 5, 188, 10, 89, 3, 27, 79, 89, 4, 28, 79, 182, 0, 155, 42, 180, 0, 27, 27, 28, 182, 0, 204]
abbrev dktX1_worthOfShare_0 : List UInt8 := dkwX1_worthOfShare_0 ++ dktX1_worthOfShare_1
theorem dksX1_worthOfShare_0 : cX1_worthOfShare.data.toList.drop 0 = dktX1_worthOfShare_0 := by decide +kernel
theorem dksX1_worthOfShare_1 : cX1_worthOfShare.data.toList.drop 24 = dktX1_worthOfShare_1 := dk_seg dksX1_worthOfShare_0 24 rfl rfl
theorem dX1_worthOfShare_0 : decode cX1_worthOfShare 0 = .ok (.aload_n 0, 1) := dk_42 (dk_at dksX1_worthOfShare_0 0 rfl rfl)
theorem dX1_worthOfShare_1 : decode cX1_worthOfShare 1 = .ok (.iconst 2, 1) := dk_5 (dk_at dksX1_worthOfShare_0 1 rfl rfl)
theorem dX1_worthOfShare_2 : decode cX1_worthOfShare 2 = .ok (.newarray .int, 2) := dk_188_10 (dk_at dksX1_worthOfShare_0 2 rfl rfl)
theorem dX1_worthOfShare_4 : decode cX1_worthOfShare 4 = .ok (.dup, 1) := dk_89 (dk_at dksX1_worthOfShare_0 4 rfl rfl)
theorem dX1_worthOfShare_5 : decode cX1_worthOfShare 5 = .ok (.iconst 0, 1) := dk_3 (dk_at dksX1_worthOfShare_0 5 rfl rfl)
theorem dX1_worthOfShare_6 : decode cX1_worthOfShare 6 = .ok (.iload_n 1, 1) := dk_27 (dk_at dksX1_worthOfShare_0 6 rfl rfl)
theorem dX1_worthOfShare_7 : decode cX1_worthOfShare 7 = .ok (.iastore, 1) := dk_79 (dk_at dksX1_worthOfShare_0 7 rfl rfl)
theorem dX1_worthOfShare_8 : decode cX1_worthOfShare 8 = .ok (.dup, 1) := dk_89 (dk_at dksX1_worthOfShare_0 8 rfl rfl)
theorem dX1_worthOfShare_9 : decode cX1_worthOfShare 9 = .ok (.iconst 1, 1) := dk_4 (dk_at dksX1_worthOfShare_0 9 rfl rfl)
theorem dX1_worthOfShare_10 : decode cX1_worthOfShare 10 = .ok (.iload_n 2, 1) := dk_28 (dk_at dksX1_worthOfShare_0 10 rfl rfl)
theorem dX1_worthOfShare_11 : decode cX1_worthOfShare 11 = .ok (.iastore, 1) := dk_79 (dk_at dksX1_worthOfShare_0 11 rfl rfl)
theorem dX1_worthOfShare_12 : decode cX1_worthOfShare 12 = .ok (.invokevirtual 155, 3) := dk_182 0 155 (dk_at dksX1_worthOfShare_0 12 rfl rfl)
theorem dX1_worthOfShare_15 : decode cX1_worthOfShare 15 = .ok (.aload_n 0, 1) := dk_42 (dk_at dksX1_worthOfShare_0 15 rfl rfl)
theorem dX1_worthOfShare_16 : decode cX1_worthOfShare 16 = .ok (.getfield 27, 3) := dk_180 0 27 (dk_at dksX1_worthOfShare_0 16 rfl rfl)
theorem dX1_worthOfShare_19 : decode cX1_worthOfShare 19 = .ok (.iload_n 1, 1) := dk_27 (dk_at dksX1_worthOfShare_0 19 rfl rfl)
theorem dX1_worthOfShare_20 : decode cX1_worthOfShare 20 = .ok (.iload_n 2, 1) := dk_28 (dk_at dksX1_worthOfShare_0 20 rfl rfl)
theorem dX1_worthOfShare_21 : decode cX1_worthOfShare 21 = .ok (.invokevirtual 204, 3) := dk_182 0 204 (dk_at dksX1_worthOfShare_0 21 rfl rfl)
theorem dX1_worthOfShare_24 : decode cX1_worthOfShare 24 = .ok (.ireturn, 1) := dk_172 (dk_at dksX1_worthOfShare_1 0 rfl rfl)
abbrev cX1_shareSize : ByteArray := prog_1_method_27_code
def yX1_shareSize : MethodName := ⟨RX1, "shareSize", "(I)I"⟩
def dkwX1_shareSize_0 : List UInt8 := [42, 4, 188, 10, 89, 3, 27, 79, 182, 0, 155, 42, 180, 0, 27, 27, 182, 0, 207, 172]
abbrev dktX1_shareSize_0 : List UInt8 := dkwX1_shareSize_0 ++ []
theorem dksX1_shareSize_0 : cX1_shareSize.data.toList.drop 0 = dktX1_shareSize_0 := by decide +kernel
theorem dX1_shareSize_0 : decode cX1_shareSize 0 = .ok (.aload_n 0, 1) := dk_42 (dk_at dksX1_shareSize_0 0 rfl rfl)
theorem dX1_shareSize_1 : decode cX1_shareSize 1 = .ok (.iconst 1, 1) := dk_4 (dk_at dksX1_shareSize_0 1 rfl rfl)
theorem dX1_shareSize_2 : decode cX1_shareSize 2 = .ok (.newarray .int, 2) := dk_188_10 (dk_at dksX1_shareSize_0 2 rfl rfl)
theorem dX1_shareSize_4 : decode cX1_shareSize 4 = .ok (.dup, 1) := dk_89 (dk_at dksX1_shareSize_0 4 rfl rfl)
theorem dX1_shareSize_5 : decode cX1_shareSize 5 = .ok (.iconst 0, 1) := dk_3 (dk_at dksX1_shareSize_0 5 rfl rfl)
theorem dX1_shareSize_6 : decode cX1_shareSize 6 = .ok (.iload_n 1, 1) := dk_27 (dk_at dksX1_shareSize_0 6 rfl rfl)
theorem dX1_shareSize_7 : decode cX1_shareSize 7 = .ok (.iastore, 1) := dk_79 (dk_at dksX1_shareSize_0 7 rfl rfl)
theorem dX1_shareSize_8 : decode cX1_shareSize 8 = .ok (.invokevirtual 155, 3) := dk_182 0 155 (dk_at dksX1_shareSize_0 8 rfl rfl)
theorem dX1_shareSize_11 : decode cX1_shareSize 11 = .ok (.aload_n 0, 1) := dk_42 (dk_at dksX1_shareSize_0 11 rfl rfl)
theorem dX1_shareSize_12 : decode cX1_shareSize 12 = .ok (.getfield 27, 3) := dk_180 0 27 (dk_at dksX1_shareSize_0 12 rfl rfl)
theorem dX1_shareSize_15 : decode cX1_shareSize 15 = .ok (.iload_n 1, 1) := dk_27 (dk_at dksX1_shareSize_0 15 rfl rfl)
theorem dX1_shareSize_16 : decode cX1_shareSize 16 = .ok (.invokevirtual 207, 3) := dk_182 0 207 (dk_at dksX1_shareSize_0 16 rfl rfl)
theorem dX1_shareSize_19 : decode cX1_shareSize 19 = .ok (.ireturn, 1) := dk_172 (dk_at dksX1_shareSize_0 19 rfl rfl)
abbrev cX1_pieceCount : ByteArray := prog_1_method_28_code
def yX1_pieceCount : MethodName := ⟨RX1, "pieceCount", "(I)I"⟩
def dkwX1_pieceCount_0 : List UInt8 := [42, 4, 188, 10, 89, 3, 27, 79, 182, 0, 155, 42, 180, 0, 27, 27, 182, 0, 210, 172]
abbrev dktX1_pieceCount_0 : List UInt8 := dkwX1_pieceCount_0 ++ []
theorem dksX1_pieceCount_0 : cX1_pieceCount.data.toList.drop 0 = dktX1_pieceCount_0 := by decide +kernel
theorem dX1_pieceCount_0 : decode cX1_pieceCount 0 = .ok (.aload_n 0, 1) := dk_42 (dk_at dksX1_pieceCount_0 0 rfl rfl)
theorem dX1_pieceCount_1 : decode cX1_pieceCount 1 = .ok (.iconst 1, 1) := dk_4 (dk_at dksX1_pieceCount_0 1 rfl rfl)
theorem dX1_pieceCount_2 : decode cX1_pieceCount 2 = .ok (.newarray .int, 2) := dk_188_10 (dk_at dksX1_pieceCount_0 2 rfl rfl)
theorem dX1_pieceCount_4 : decode cX1_pieceCount 4 = .ok (.dup, 1) := dk_89 (dk_at dksX1_pieceCount_0 4 rfl rfl)
theorem dX1_pieceCount_5 : decode cX1_pieceCount 5 = .ok (.iconst 0, 1) := dk_3 (dk_at dksX1_pieceCount_0 5 rfl rfl)
theorem dX1_pieceCount_6 : decode cX1_pieceCount 6 = .ok (.iload_n 1, 1) := dk_27 (dk_at dksX1_pieceCount_0 6 rfl rfl)
theorem dX1_pieceCount_7 : decode cX1_pieceCount 7 = .ok (.iastore, 1) := dk_79 (dk_at dksX1_pieceCount_0 7 rfl rfl)
theorem dX1_pieceCount_8 : decode cX1_pieceCount 8 = .ok (.invokevirtual 155, 3) := dk_182 0 155 (dk_at dksX1_pieceCount_0 8 rfl rfl)
theorem dX1_pieceCount_11 : decode cX1_pieceCount 11 = .ok (.aload_n 0, 1) := dk_42 (dk_at dksX1_pieceCount_0 11 rfl rfl)
theorem dX1_pieceCount_12 : decode cX1_pieceCount 12 = .ok (.getfield 27, 3) := dk_180 0 27 (dk_at dksX1_pieceCount_0 12 rfl rfl)
theorem dX1_pieceCount_15 : decode cX1_pieceCount 15 = .ok (.iload_n 1, 1) := dk_27 (dk_at dksX1_pieceCount_0 15 rfl rfl)
theorem dX1_pieceCount_16 : decode cX1_pieceCount 16 = .ok (.invokevirtual 210, 3) := dk_182 0 210 (dk_at dksX1_pieceCount_0 16 rfl rfl)
theorem dX1_pieceCount_19 : decode cX1_pieceCount 19 = .ok (.ireturn, 1) := dk_172 (dk_at dksX1_pieceCount_0 19 rfl rfl)
abbrev cX1_mark : ByteArray := prog_1_method_30_code
def yX1_mark : MethodName := ⟨RX1, "mark", "(III)I"⟩
def dkwX1_mark_1 : List UInt8 := [184, 0, 161, 184, 0, 165, 25, 4, 28, 29, 182, 0, 213, 172]
abbrev dktX1_mark_1 : List UInt8 := dkwX1_mark_1 ++ []
def dkwX1_mark_0 : List UInt8 := [42, 27, 182, 0, 169, 58, 4, 28, 42, 180, 0, 27, 182, 0, 117, 184, 0, 151, 29, 4, 16, 24]
abbrev dktX1_mark_0 : List UInt8 := dkwX1_mark_0 ++ dktX1_mark_1
theorem dksX1_mark_0 : cX1_mark.data.toList.drop 0 = dktX1_mark_0 := by decide +kernel
theorem dksX1_mark_1 : cX1_mark.data.toList.drop 22 = dktX1_mark_1 := dk_seg dksX1_mark_0 22 rfl rfl
theorem dX1_mark_0 : decode cX1_mark 0 = .ok (.aload_n 0, 1) := dk_42 (dk_at dksX1_mark_0 0 rfl rfl)
theorem dX1_mark_1 : decode cX1_mark 1 = .ok (.iload_n 1, 1) := dk_27 (dk_at dksX1_mark_0 1 rfl rfl)
theorem dX1_mark_2 : decode cX1_mark 2 = .ok (.invokevirtual 169, 3) := dk_182 0 169 (dk_at dksX1_mark_0 2 rfl rfl)
theorem dX1_mark_5 : decode cX1_mark 5 = .ok (.astore 4, 2) := dk_58 4 (dk_at dksX1_mark_0 5 rfl rfl)
theorem dX1_mark_7 : decode cX1_mark 7 = .ok (.iload_n 2, 1) := dk_28 (dk_at dksX1_mark_0 7 rfl rfl)
theorem dX1_mark_8 : decode cX1_mark 8 = .ok (.aload_n 0, 1) := dk_42 (dk_at dksX1_mark_0 8 rfl rfl)
theorem dX1_mark_9 : decode cX1_mark 9 = .ok (.getfield 27, 3) := dk_180 0 27 (dk_at dksX1_mark_0 9 rfl rfl)
theorem dX1_mark_12 : decode cX1_mark 12 = .ok (.invokevirtual 117, 3) := dk_182 0 117 (dk_at dksX1_mark_0 12 rfl rfl)
theorem dX1_mark_15 : decode cX1_mark 15 = .ok (.invokestatic 151, 3) := dk_184 0 151 (dk_at dksX1_mark_0 15 rfl rfl)
theorem dX1_mark_18 : decode cX1_mark 18 = .ok (.iload_n 3, 1) := dk_29 (dk_at dksX1_mark_0 18 rfl rfl)
theorem dX1_mark_19 : decode cX1_mark 19 = .ok (.iconst 1, 1) := dk_4 (dk_at dksX1_mark_0 19 rfl rfl)
theorem dX1_mark_20 : decode cX1_mark 20 = .ok (.bipush 24, 2) := dk_16 24 (dk_at dksX1_mark_0 20 rfl rfl)
theorem dX1_mark_22 : decode cX1_mark 22 = .ok (.invokestatic 161, 3) := dk_184 0 161 (dk_at dksX1_mark_1 0 rfl rfl)
theorem dX1_mark_25 : decode cX1_mark 25 = .ok (.invokestatic 165, 3) := dk_184 0 165 (dk_at dksX1_mark_1 3 rfl rfl)
theorem dX1_mark_28 : decode cX1_mark 28 = .ok (.aload 4, 2) := dk_25 4 (dk_at dksX1_mark_1 6 rfl rfl)
theorem dX1_mark_30 : decode cX1_mark 30 = .ok (.iload_n 2, 1) := dk_28 (dk_at dksX1_mark_1 8 rfl rfl)
theorem dX1_mark_31 : decode cX1_mark 31 = .ok (.iload_n 3, 1) := dk_29 (dk_at dksX1_mark_1 9 rfl rfl)
theorem dX1_mark_32 : decode cX1_mark 32 = .ok (.invokevirtual 213, 3) := dk_182 0 213 (dk_at dksX1_mark_1 10 rfl rfl)
theorem dX1_mark_35 : decode cX1_mark 35 = .ok (.ireturn, 1) := dk_172 (dk_at dksX1_mark_1 13 rfl rfl)
abbrev cX1_favouriteFreeCell : ByteArray := prog_1_method_31_code
def yX1_favouriteFreeCell : MethodName := ⟨RX1, "favouriteFreeCell", "(I)I"⟩
def dkwX1_favouriteFreeCell_0 : List UInt8 := [42, 4, 188, 10, 89, 3, 27, 79, 182, 0, 155, 42, 180, 0, 27, 27, 182, 0, 216, 172]
abbrev dktX1_favouriteFreeCell_0 : List UInt8 := dkwX1_favouriteFreeCell_0 ++ []
theorem dksX1_favouriteFreeCell_0 : cX1_favouriteFreeCell.data.toList.drop 0 = dktX1_favouriteFreeCell_0 := by decide +kernel
theorem dX1_favouriteFreeCell_0 : decode cX1_favouriteFreeCell 0 = .ok (.aload_n 0, 1) := dk_42 (dk_at dksX1_favouriteFreeCell_0 0 rfl rfl)
theorem dX1_favouriteFreeCell_1 : decode cX1_favouriteFreeCell 1 = .ok (.iconst 1, 1) := dk_4 (dk_at dksX1_favouriteFreeCell_0 1 rfl rfl)
theorem dX1_favouriteFreeCell_2 : decode cX1_favouriteFreeCell 2 = .ok (.newarray .int, 2) := dk_188_10 (dk_at dksX1_favouriteFreeCell_0 2 rfl rfl)
theorem dX1_favouriteFreeCell_4 : decode cX1_favouriteFreeCell 4 = .ok (.dup, 1) := dk_89 (dk_at dksX1_favouriteFreeCell_0 4 rfl rfl)
theorem dX1_favouriteFreeCell_5 : decode cX1_favouriteFreeCell 5 = .ok (.iconst 0, 1) := dk_3 (dk_at dksX1_favouriteFreeCell_0 5 rfl rfl)
theorem dX1_favouriteFreeCell_6 : decode cX1_favouriteFreeCell 6 = .ok (.iload_n 1, 1) := dk_27 (dk_at dksX1_favouriteFreeCell_0 6 rfl rfl)
theorem dX1_favouriteFreeCell_7 : decode cX1_favouriteFreeCell 7 = .ok (.iastore, 1) := dk_79 (dk_at dksX1_favouriteFreeCell_0 7 rfl rfl)
theorem dX1_favouriteFreeCell_8 : decode cX1_favouriteFreeCell 8 = .ok (.invokevirtual 155, 3) := dk_182 0 155 (dk_at dksX1_favouriteFreeCell_0 8 rfl rfl)
theorem dX1_favouriteFreeCell_11 : decode cX1_favouriteFreeCell 11 = .ok (.aload_n 0, 1) := dk_42 (dk_at dksX1_favouriteFreeCell_0 11 rfl rfl)
theorem dX1_favouriteFreeCell_12 : decode cX1_favouriteFreeCell 12 = .ok (.getfield 27, 3) := dk_180 0 27 (dk_at dksX1_favouriteFreeCell_0 12 rfl rfl)
theorem dX1_favouriteFreeCell_15 : decode cX1_favouriteFreeCell 15 = .ok (.iload_n 1, 1) := dk_27 (dk_at dksX1_favouriteFreeCell_0 15 rfl rfl)
theorem dX1_favouriteFreeCell_16 : decode cX1_favouriteFreeCell 16 = .ok (.invokevirtual 216, 3) := dk_182 0 216 (dk_at dksX1_favouriteFreeCell_0 16 rfl rfl)
theorem dX1_favouriteFreeCell_19 : decode cX1_favouriteFreeCell 19 = .ok (.ireturn, 1) := dk_172 (dk_at dksX1_favouriteFreeCell_0 19 rfl rfl)
abbrev cX1_envies : ByteArray := prog_1_method_32_code
def yX1_envies : MethodName := ⟨RX1, "envies", "(II)Z"⟩
def dkwX1_envies_1 : List UInt8 := [172]
abbrev dktX1_envies_1 : List UInt8 := dkwX1_envies_1 ++ []
def dkwX1_envies_0 : List UInt8 := [42, 5, 188, 10, 89, 3, 27, 79, 89, 4, 28, 79, 182, 0, 155, 42, 180, 0, 27, 27, 28, 182, 0, 219]
abbrev dktX1_envies_0 : List UInt8 := dkwX1_envies_0 ++ dktX1_envies_1
theorem dksX1_envies_0 : cX1_envies.data.toList.drop 0 = dktX1_envies_0 := by decide +kernel
theorem dksX1_envies_1 : cX1_envies.data.toList.drop 24 = dktX1_envies_1 := dk_seg dksX1_envies_0 24 rfl rfl
theorem dX1_envies_0 : decode cX1_envies 0 = .ok (.aload_n 0, 1) := dk_42 (dk_at dksX1_envies_0 0 rfl rfl)
theorem dX1_envies_1 : decode cX1_envies 1 = .ok (.iconst 2, 1) := dk_5 (dk_at dksX1_envies_0 1 rfl rfl)
theorem dX1_envies_2 : decode cX1_envies 2 = .ok (.newarray .int, 2) := dk_188_10 (dk_at dksX1_envies_0 2 rfl rfl)
theorem dX1_envies_4 : decode cX1_envies 4 = .ok (.dup, 1) := dk_89 (dk_at dksX1_envies_0 4 rfl rfl)
theorem dX1_envies_5 : decode cX1_envies 5 = .ok (.iconst 0, 1) := dk_3 (dk_at dksX1_envies_0 5 rfl rfl)
theorem dX1_envies_6 : decode cX1_envies 6 = .ok (.iload_n 1, 1) := dk_27 (dk_at dksX1_envies_0 6 rfl rfl)
theorem dX1_envies_7 : decode cX1_envies 7 = .ok (.iastore, 1) := dk_79 (dk_at dksX1_envies_0 7 rfl rfl)
theorem dX1_envies_8 : decode cX1_envies 8 = .ok (.dup, 1) := dk_89 (dk_at dksX1_envies_0 8 rfl rfl)
theorem dX1_envies_9 : decode cX1_envies 9 = .ok (.iconst 1, 1) := dk_4 (dk_at dksX1_envies_0 9 rfl rfl)
theorem dX1_envies_10 : decode cX1_envies 10 = .ok (.iload_n 2, 1) := dk_28 (dk_at dksX1_envies_0 10 rfl rfl)
theorem dX1_envies_11 : decode cX1_envies 11 = .ok (.iastore, 1) := dk_79 (dk_at dksX1_envies_0 11 rfl rfl)
theorem dX1_envies_12 : decode cX1_envies 12 = .ok (.invokevirtual 155, 3) := dk_182 0 155 (dk_at dksX1_envies_0 12 rfl rfl)
theorem dX1_envies_15 : decode cX1_envies 15 = .ok (.aload_n 0, 1) := dk_42 (dk_at dksX1_envies_0 15 rfl rfl)
theorem dX1_envies_16 : decode cX1_envies 16 = .ok (.getfield 27, 3) := dk_180 0 27 (dk_at dksX1_envies_0 16 rfl rfl)
theorem dX1_envies_19 : decode cX1_envies 19 = .ok (.iload_n 1, 1) := dk_27 (dk_at dksX1_envies_0 19 rfl rfl)
theorem dX1_envies_20 : decode cX1_envies 20 = .ok (.iload_n 2, 1) := dk_28 (dk_at dksX1_envies_0 20 rfl rfl)
theorem dX1_envies_21 : decode cX1_envies 21 = .ok (.invokevirtual 219, 3) := dk_182 0 219 (dk_at dksX1_envies_0 21 rfl rfl)
theorem dX1_envies_24 : decode cX1_envies 24 = .ok (.ireturn, 1) := dk_172 (dk_at dksX1_envies_1 0 rfl rfl)
abbrev cX1_isMild : ByteArray := prog_1_method_33_code
def yX1_isMild : MethodName := ⟨RX1, "isMild", "(II)Z"⟩
def dkwX1_isMild_1 : List UInt8 := [184, 0, 223, 42, 180, 0, 27, 27, 28, 182, 0, 226, 172]
abbrev dktX1_isMild_1 : List UInt8 := dkwX1_isMild_1 ++ []
def dkwX1_isMild_0 : List UInt8 := [42, 5, 188, 10, 89, 3, 27, 79, 89, 4, 28, 79, 182, 0, 155, 42, 180, 0, 27, 27, 28, 182, 0, 219]
abbrev dktX1_isMild_0 : List UInt8 := dkwX1_isMild_0 ++ dktX1_isMild_1
theorem dksX1_isMild_0 : cX1_isMild.data.toList.drop 0 = dktX1_isMild_0 := by decide +kernel
theorem dksX1_isMild_1 : cX1_isMild.data.toList.drop 24 = dktX1_isMild_1 := dk_seg dksX1_isMild_0 24 rfl rfl
theorem dX1_isMild_0 : decode cX1_isMild 0 = .ok (.aload_n 0, 1) := dk_42 (dk_at dksX1_isMild_0 0 rfl rfl)
theorem dX1_isMild_1 : decode cX1_isMild 1 = .ok (.iconst 2, 1) := dk_5 (dk_at dksX1_isMild_0 1 rfl rfl)
theorem dX1_isMild_2 : decode cX1_isMild 2 = .ok (.newarray .int, 2) := dk_188_10 (dk_at dksX1_isMild_0 2 rfl rfl)
theorem dX1_isMild_4 : decode cX1_isMild 4 = .ok (.dup, 1) := dk_89 (dk_at dksX1_isMild_0 4 rfl rfl)
theorem dX1_isMild_5 : decode cX1_isMild 5 = .ok (.iconst 0, 1) := dk_3 (dk_at dksX1_isMild_0 5 rfl rfl)
theorem dX1_isMild_6 : decode cX1_isMild 6 = .ok (.iload_n 1, 1) := dk_27 (dk_at dksX1_isMild_0 6 rfl rfl)
theorem dX1_isMild_7 : decode cX1_isMild 7 = .ok (.iastore, 1) := dk_79 (dk_at dksX1_isMild_0 7 rfl rfl)
theorem dX1_isMild_8 : decode cX1_isMild 8 = .ok (.dup, 1) := dk_89 (dk_at dksX1_isMild_0 8 rfl rfl)
theorem dX1_isMild_9 : decode cX1_isMild 9 = .ok (.iconst 1, 1) := dk_4 (dk_at dksX1_isMild_0 9 rfl rfl)
theorem dX1_isMild_10 : decode cX1_isMild 10 = .ok (.iload_n 2, 1) := dk_28 (dk_at dksX1_isMild_0 10 rfl rfl)
theorem dX1_isMild_11 : decode cX1_isMild 11 = .ok (.iastore, 1) := dk_79 (dk_at dksX1_isMild_0 11 rfl rfl)
theorem dX1_isMild_12 : decode cX1_isMild 12 = .ok (.invokevirtual 155, 3) := dk_182 0 155 (dk_at dksX1_isMild_0 12 rfl rfl)
theorem dX1_isMild_15 : decode cX1_isMild 15 = .ok (.aload_n 0, 1) := dk_42 (dk_at dksX1_isMild_0 15 rfl rfl)
theorem dX1_isMild_16 : decode cX1_isMild 16 = .ok (.getfield 27, 3) := dk_180 0 27 (dk_at dksX1_isMild_0 16 rfl rfl)
theorem dX1_isMild_19 : decode cX1_isMild 19 = .ok (.iload_n 1, 1) := dk_27 (dk_at dksX1_isMild_0 19 rfl rfl)
theorem dX1_isMild_20 : decode cX1_isMild 20 = .ok (.iload_n 2, 1) := dk_28 (dk_at dksX1_isMild_0 20 rfl rfl)
theorem dX1_isMild_21 : decode cX1_isMild 21 = .ok (.invokevirtual 219, 3) := dk_182 0 219 (dk_at dksX1_isMild_0 21 rfl rfl)
theorem dX1_isMild_24 : decode cX1_isMild 24 = .ok (.invokestatic 223, 3) := dk_184 0 223 (dk_at dksX1_isMild_1 0 rfl rfl)
theorem dX1_isMild_27 : decode cX1_isMild 27 = .ok (.aload_n 0, 1) := dk_42 (dk_at dksX1_isMild_1 3 rfl rfl)
theorem dX1_isMild_28 : decode cX1_isMild 28 = .ok (.getfield 27, 3) := dk_180 0 27 (dk_at dksX1_isMild_1 4 rfl rfl)
theorem dX1_isMild_31 : decode cX1_isMild 31 = .ok (.iload_n 1, 1) := dk_27 (dk_at dksX1_isMild_1 7 rfl rfl)
theorem dX1_isMild_32 : decode cX1_isMild 32 = .ok (.iload_n 2, 1) := dk_28 (dk_at dksX1_isMild_1 8 rfl rfl)
theorem dX1_isMild_33 : decode cX1_isMild 33 = .ok (.invokevirtual 226, 3) := dk_182 0 226 (dk_at dksX1_isMild_1 9 rfl rfl)
theorem dX1_isMild_36 : decode cX1_isMild 36 = .ok (.ireturn, 1) := dk_172 (dk_at dksX1_isMild_1 12 rfl rfl)
abbrev cX1_checkState : ByteArray := prog_1_method_14_code
def yX1_checkState : MethodName := ⟨RX1, "checkState", "(Z)V"⟩
def dkwX1_checkState_0 : List UInt8 := [26, 154, 0, 11, 187, 0, 78, 89, 183, 0, 80, 191, 177]
abbrev dktX1_checkState_0 : List UInt8 := dkwX1_checkState_0 ++ []
theorem dksX1_checkState_0 : cX1_checkState.data.toList.drop 0 = dktX1_checkState_0 := by decide +kernel
theorem dX1_checkState_0 : decode cX1_checkState 0 = .ok (.iload_n 0, 1) := dk_26 (dk_at dksX1_checkState_0 0 rfl rfl)
theorem dX1_checkState_1 : decode cX1_checkState 1 = .ok (.ifCond .ne 11, 3) := dk_154 0 11 (dk_at dksX1_checkState_0 1 rfl rfl)
theorem dX1_checkState_4 : decode cX1_checkState 4 = .ok (.new 78, 3) := dk_187 0 78 (dk_at dksX1_checkState_0 4 rfl rfl)
theorem dX1_checkState_7 : decode cX1_checkState 7 = .ok (.dup, 1) := dk_89 (dk_at dksX1_checkState_0 7 rfl rfl)
theorem dX1_checkState_8 : decode cX1_checkState 8 = .ok (.invokespecial 80, 3) := dk_183 0 80 (dk_at dksX1_checkState_0 8 rfl rfl)
theorem dX1_checkState_11 : decode cX1_checkState 11 = .ok (.athrow, 1) := dk_191 (dk_at dksX1_checkState_0 11 rfl rfl)
theorem dX1_checkState_12 : decode cX1_checkState 12 = .ok (.return_, 1) := dk_177 (dk_at dksX1_checkState_0 12 rfl rfl)
abbrev cX1_isSatisfied : ByteArray := prog_1_method_38_code
def yX1_isSatisfied : MethodName := ⟨RX1, "isSatisfied", "(I)Z"⟩
def dkwX1_isSatisfied_0 : List UInt8 := [42, 4, 188, 10, 89, 3, 27, 79, 182, 0, 155, 42, 180, 0, 27, 27, 182, 0, 234, 172]
abbrev dktX1_isSatisfied_0 : List UInt8 := dkwX1_isSatisfied_0 ++ []
theorem dksX1_isSatisfied_0 : cX1_isSatisfied.data.toList.drop 0 = dktX1_isSatisfied_0 := by decide +kernel
theorem dX1_isSatisfied_0 : decode cX1_isSatisfied 0 = .ok (.aload_n 0, 1) := dk_42 (dk_at dksX1_isSatisfied_0 0 rfl rfl)
theorem dX1_isSatisfied_1 : decode cX1_isSatisfied 1 = .ok (.iconst 1, 1) := dk_4 (dk_at dksX1_isSatisfied_0 1 rfl rfl)
theorem dX1_isSatisfied_2 : decode cX1_isSatisfied 2 = .ok (.newarray .int, 2) := dk_188_10 (dk_at dksX1_isSatisfied_0 2 rfl rfl)
theorem dX1_isSatisfied_4 : decode cX1_isSatisfied 4 = .ok (.dup, 1) := dk_89 (dk_at dksX1_isSatisfied_0 4 rfl rfl)
theorem dX1_isSatisfied_5 : decode cX1_isSatisfied 5 = .ok (.iconst 0, 1) := dk_3 (dk_at dksX1_isSatisfied_0 5 rfl rfl)
theorem dX1_isSatisfied_6 : decode cX1_isSatisfied 6 = .ok (.iload_n 1, 1) := dk_27 (dk_at dksX1_isSatisfied_0 6 rfl rfl)
theorem dX1_isSatisfied_7 : decode cX1_isSatisfied 7 = .ok (.iastore, 1) := dk_79 (dk_at dksX1_isSatisfied_0 7 rfl rfl)
theorem dX1_isSatisfied_8 : decode cX1_isSatisfied 8 = .ok (.invokevirtual 155, 3) := dk_182 0 155 (dk_at dksX1_isSatisfied_0 8 rfl rfl)
theorem dX1_isSatisfied_11 : decode cX1_isSatisfied 11 = .ok (.aload_n 0, 1) := dk_42 (dk_at dksX1_isSatisfied_0 11 rfl rfl)
theorem dX1_isSatisfied_12 : decode cX1_isSatisfied 12 = .ok (.getfield 27, 3) := dk_180 0 27 (dk_at dksX1_isSatisfied_0 12 rfl rfl)
theorem dX1_isSatisfied_15 : decode cX1_isSatisfied 15 = .ok (.iload_n 1, 1) := dk_27 (dk_at dksX1_isSatisfied_0 15 rfl rfl)
theorem dX1_isSatisfied_16 : decode cX1_isSatisfied 16 = .ok (.invokevirtual 234, 3) := dk_182 0 234 (dk_at dksX1_isSatisfied_0 16 rfl rfl)
theorem dX1_isSatisfied_19 : decode cX1_isSatisfied 19 = .ok (.ireturn, 1) := dk_172 (dk_at dksX1_isSatisfied_0 19 rfl rfl)
abbrev cX1_envyCycleLength : ByteArray := prog_1_method_40_code
def yX1_envyCycleLength : MethodName := ⟨RX1, "envyCycleLength", "(I)I"⟩
def dkwX1_envyCycleLength_1 : List UInt8 := [180, 0, 246, 172]
abbrev dktX1_envyCycleLength_1 : List UInt8 := dkwX1_envyCycleLength_1 ++ []
def dkwX1_envyCycleLength_0 : List UInt8 := [42, 4, 188, 10, 89, 3, 27, 79, 182, 0, 155, 187, 0, 241, 89, 42, 180, 0, 27, 27, 183, 0, 243]
abbrev dktX1_envyCycleLength_0 : List UInt8 := dkwX1_envyCycleLength_0 ++ dktX1_envyCycleLength_1
theorem dksX1_envyCycleLength_0 : cX1_envyCycleLength.data.toList.drop 0 = dktX1_envyCycleLength_0 := by decide +kernel
theorem dksX1_envyCycleLength_1 : cX1_envyCycleLength.data.toList.drop 23 = dktX1_envyCycleLength_1 := dk_seg dksX1_envyCycleLength_0 23 rfl rfl
theorem dX1_envyCycleLength_0 : decode cX1_envyCycleLength 0 = .ok (.aload_n 0, 1) := dk_42 (dk_at dksX1_envyCycleLength_0 0 rfl rfl)
theorem dX1_envyCycleLength_1 : decode cX1_envyCycleLength 1 = .ok (.iconst 1, 1) := dk_4 (dk_at dksX1_envyCycleLength_0 1 rfl rfl)
theorem dX1_envyCycleLength_2 : decode cX1_envyCycleLength 2 = .ok (.newarray .int, 2) := dk_188_10 (dk_at dksX1_envyCycleLength_0 2 rfl rfl)
theorem dX1_envyCycleLength_4 : decode cX1_envyCycleLength 4 = .ok (.dup, 1) := dk_89 (dk_at dksX1_envyCycleLength_0 4 rfl rfl)
theorem dX1_envyCycleLength_5 : decode cX1_envyCycleLength 5 = .ok (.iconst 0, 1) := dk_3 (dk_at dksX1_envyCycleLength_0 5 rfl rfl)
theorem dX1_envyCycleLength_6 : decode cX1_envyCycleLength 6 = .ok (.iload_n 1, 1) := dk_27 (dk_at dksX1_envyCycleLength_0 6 rfl rfl)
theorem dX1_envyCycleLength_7 : decode cX1_envyCycleLength 7 = .ok (.iastore, 1) := dk_79 (dk_at dksX1_envyCycleLength_0 7 rfl rfl)
theorem dX1_envyCycleLength_8 : decode cX1_envyCycleLength 8 = .ok (.invokevirtual 155, 3) := dk_182 0 155 (dk_at dksX1_envyCycleLength_0 8 rfl rfl)
theorem dX1_envyCycleLength_11 : decode cX1_envyCycleLength 11 = .ok (.new 241, 3) := dk_187 0 241 (dk_at dksX1_envyCycleLength_0 11 rfl rfl)
theorem dX1_envyCycleLength_14 : decode cX1_envyCycleLength 14 = .ok (.dup, 1) := dk_89 (dk_at dksX1_envyCycleLength_0 14 rfl rfl)
theorem dX1_envyCycleLength_15 : decode cX1_envyCycleLength 15 = .ok (.aload_n 0, 1) := dk_42 (dk_at dksX1_envyCycleLength_0 15 rfl rfl)
theorem dX1_envyCycleLength_16 : decode cX1_envyCycleLength 16 = .ok (.getfield 27, 3) := dk_180 0 27 (dk_at dksX1_envyCycleLength_0 16 rfl rfl)
theorem dX1_envyCycleLength_19 : decode cX1_envyCycleLength 19 = .ok (.iload_n 1, 1) := dk_27 (dk_at dksX1_envyCycleLength_0 19 rfl rfl)
theorem dX1_envyCycleLength_20 : decode cX1_envyCycleLength 20 = .ok (.invokespecial 243, 3) := dk_183 0 243 (dk_at dksX1_envyCycleLength_0 20 rfl rfl)
theorem dX1_envyCycleLength_23 : decode cX1_envyCycleLength 23 = .ok (.getfield 246, 3) := dk_180 0 246 (dk_at dksX1_envyCycleLength_1 0 rfl rfl)
theorem dX1_envyCycleLength_26 : decode cX1_envyCycleLength 26 = .ok (.ireturn, 1) := dk_172 (dk_at dksX1_envyCycleLength_1 3 rfl rfl)
abbrev cX1_envyCycleMember : ByteArray := prog_1_method_41_code
def yX1_envyCycleMember : MethodName := ⟨RX1, "envyCycleMember", "(II)I"⟩
def dkwX1_envyCycleMember_2 : List UInt8 := [182, 0, 247, 172]
abbrev dktX1_envyCycleMember_2 : List UInt8 := dkwX1_envyCycleMember_2 ++ []
def dkwX1_envyCycleMember_1 : List UInt8 := [28, 3, 45, 180, 0, 246, 4, 100, 184, 0, 161, 154, 0, 11, 187, 0, 185, 89, 183, 0, 187, 191, 45, 28]
abbrev dktX1_envyCycleMember_1 : List UInt8 := dkwX1_envyCycleMember_1 ++ dktX1_envyCycleMember_2
def dkwX1_envyCycleMember_0 : List UInt8 := [42, 4, 188, 10, 89, 3, 27, 79, 182, 0, 155, 187, 0, 241, 89, 42, 180, 0, 27, 27, 183, 0, 243, 78]
abbrev dktX1_envyCycleMember_0 : List UInt8 := dkwX1_envyCycleMember_0 ++ dktX1_envyCycleMember_1
theorem dksX1_envyCycleMember_0 : cX1_envyCycleMember.data.toList.drop 0 = dktX1_envyCycleMember_0 := by decide +kernel
theorem dksX1_envyCycleMember_1 : cX1_envyCycleMember.data.toList.drop 24 = dktX1_envyCycleMember_1 := dk_seg dksX1_envyCycleMember_0 24 rfl rfl
theorem dksX1_envyCycleMember_2 : cX1_envyCycleMember.data.toList.drop 48 = dktX1_envyCycleMember_2 := dk_seg dksX1_envyCycleMember_1 24 rfl rfl
theorem dX1_envyCycleMember_0 : decode cX1_envyCycleMember 0 = .ok (.aload_n 0, 1) := dk_42 (dk_at dksX1_envyCycleMember_0 0 rfl rfl)
theorem dX1_envyCycleMember_1 : decode cX1_envyCycleMember 1 = .ok (.iconst 1, 1) := dk_4 (dk_at dksX1_envyCycleMember_0 1 rfl rfl)
theorem dX1_envyCycleMember_2 : decode cX1_envyCycleMember 2 = .ok (.newarray .int, 2) := dk_188_10 (dk_at dksX1_envyCycleMember_0 2 rfl rfl)
theorem dX1_envyCycleMember_4 : decode cX1_envyCycleMember 4 = .ok (.dup, 1) := dk_89 (dk_at dksX1_envyCycleMember_0 4 rfl rfl)
theorem dX1_envyCycleMember_5 : decode cX1_envyCycleMember 5 = .ok (.iconst 0, 1) := dk_3 (dk_at dksX1_envyCycleMember_0 5 rfl rfl)
theorem dX1_envyCycleMember_6 : decode cX1_envyCycleMember 6 = .ok (.iload_n 1, 1) := dk_27 (dk_at dksX1_envyCycleMember_0 6 rfl rfl)
theorem dX1_envyCycleMember_7 : decode cX1_envyCycleMember 7 = .ok (.iastore, 1) := dk_79 (dk_at dksX1_envyCycleMember_0 7 rfl rfl)
theorem dX1_envyCycleMember_8 : decode cX1_envyCycleMember 8 = .ok (.invokevirtual 155, 3) := dk_182 0 155 (dk_at dksX1_envyCycleMember_0 8 rfl rfl)
theorem dX1_envyCycleMember_11 : decode cX1_envyCycleMember 11 = .ok (.new 241, 3) := dk_187 0 241 (dk_at dksX1_envyCycleMember_0 11 rfl rfl)
theorem dX1_envyCycleMember_14 : decode cX1_envyCycleMember 14 = .ok (.dup, 1) := dk_89 (dk_at dksX1_envyCycleMember_0 14 rfl rfl)
theorem dX1_envyCycleMember_15 : decode cX1_envyCycleMember 15 = .ok (.aload_n 0, 1) := dk_42 (dk_at dksX1_envyCycleMember_0 15 rfl rfl)
theorem dX1_envyCycleMember_16 : decode cX1_envyCycleMember 16 = .ok (.getfield 27, 3) := dk_180 0 27 (dk_at dksX1_envyCycleMember_0 16 rfl rfl)
theorem dX1_envyCycleMember_19 : decode cX1_envyCycleMember 19 = .ok (.iload_n 1, 1) := dk_27 (dk_at dksX1_envyCycleMember_0 19 rfl rfl)
theorem dX1_envyCycleMember_20 : decode cX1_envyCycleMember 20 = .ok (.invokespecial 243, 3) := dk_183 0 243 (dk_at dksX1_envyCycleMember_0 20 rfl rfl)
theorem dX1_envyCycleMember_23 : decode cX1_envyCycleMember 23 = .ok (.astore_n 3, 1) := dk_78 (dk_at dksX1_envyCycleMember_0 23 rfl rfl)
theorem dX1_envyCycleMember_24 : decode cX1_envyCycleMember 24 = .ok (.iload_n 2, 1) := dk_28 (dk_at dksX1_envyCycleMember_1 0 rfl rfl)
theorem dX1_envyCycleMember_25 : decode cX1_envyCycleMember 25 = .ok (.iconst 0, 1) := dk_3 (dk_at dksX1_envyCycleMember_1 1 rfl rfl)
theorem dX1_envyCycleMember_26 : decode cX1_envyCycleMember 26 = .ok (.aload_n 3, 1) := dk_45 (dk_at dksX1_envyCycleMember_1 2 rfl rfl)
theorem dX1_envyCycleMember_27 : decode cX1_envyCycleMember 27 = .ok (.getfield 246, 3) := dk_180 0 246 (dk_at dksX1_envyCycleMember_1 3 rfl rfl)
theorem dX1_envyCycleMember_30 : decode cX1_envyCycleMember 30 = .ok (.iconst 1, 1) := dk_4 (dk_at dksX1_envyCycleMember_1 6 rfl rfl)
theorem dX1_envyCycleMember_31 : decode cX1_envyCycleMember 31 = .ok (.isub, 1) := dk_100 (dk_at dksX1_envyCycleMember_1 7 rfl rfl)
theorem dX1_envyCycleMember_32 : decode cX1_envyCycleMember 32 = .ok (.invokestatic 161, 3) := dk_184 0 161 (dk_at dksX1_envyCycleMember_1 8 rfl rfl)
theorem dX1_envyCycleMember_35 : decode cX1_envyCycleMember 35 = .ok (.ifCond .ne 11, 3) := dk_154 0 11 (dk_at dksX1_envyCycleMember_1 11 rfl rfl)
theorem dX1_envyCycleMember_38 : decode cX1_envyCycleMember 38 = .ok (.new 185, 3) := dk_187 0 185 (dk_at dksX1_envyCycleMember_1 14 rfl rfl)
theorem dX1_envyCycleMember_41 : decode cX1_envyCycleMember 41 = .ok (.dup, 1) := dk_89 (dk_at dksX1_envyCycleMember_1 17 rfl rfl)
theorem dX1_envyCycleMember_42 : decode cX1_envyCycleMember 42 = .ok (.invokespecial 187, 3) := dk_183 0 187 (dk_at dksX1_envyCycleMember_1 18 rfl rfl)
theorem dX1_envyCycleMember_45 : decode cX1_envyCycleMember 45 = .ok (.athrow, 1) := dk_191 (dk_at dksX1_envyCycleMember_1 21 rfl rfl)
theorem dX1_envyCycleMember_46 : decode cX1_envyCycleMember 46 = .ok (.aload_n 3, 1) := dk_45 (dk_at dksX1_envyCycleMember_1 22 rfl rfl)
theorem dX1_envyCycleMember_47 : decode cX1_envyCycleMember 47 = .ok (.iload_n 2, 1) := dk_28 (dk_at dksX1_envyCycleMember_1 23 rfl rfl)
theorem dX1_envyCycleMember_48 : decode cX1_envyCycleMember 48 = .ok (.invokevirtual 247, 3) := dk_182 0 247 (dk_at dksX1_envyCycleMember_2 0 rfl rfl)
theorem dX1_envyCycleMember_51 : decode cX1_envyCycleMember 51 = .ok (.ireturn, 1) := dk_172 (dk_at dksX1_envyCycleMember_2 3 rfl rfl)
abbrev cX1_wouldSwap : ByteArray := prog_1_method_42_code
def yX1_wouldSwap : MethodName := ⟨RX1, "wouldSwap", "(II)Z"⟩
def dkwX1_wouldSwap_1 : List UInt8 := [153, 0, 19, 42, 180, 0, 27, 28, 27, 182, 0, 219, 153, 0, 7, 4, 167, 0, 4, 3, 172]
abbrev dktX1_wouldSwap_1 : List UInt8 := dkwX1_wouldSwap_1 ++ []
def dkwX1_wouldSwap_0 : List UInt8 := [42, 5, 188, 10, 89, 3, 27, 79, 89, 4, 28, 79, 182, 0, 155, 42, 180, 0, 27, 27, 28, 182, 0, 219]
abbrev dktX1_wouldSwap_0 : List UInt8 := dkwX1_wouldSwap_0 ++ dktX1_wouldSwap_1
theorem dksX1_wouldSwap_0 : cX1_wouldSwap.data.toList.drop 0 = dktX1_wouldSwap_0 := by decide +kernel
theorem dksX1_wouldSwap_1 : cX1_wouldSwap.data.toList.drop 24 = dktX1_wouldSwap_1 := dk_seg dksX1_wouldSwap_0 24 rfl rfl
theorem dX1_wouldSwap_0 : decode cX1_wouldSwap 0 = .ok (.aload_n 0, 1) := dk_42 (dk_at dksX1_wouldSwap_0 0 rfl rfl)
theorem dX1_wouldSwap_1 : decode cX1_wouldSwap 1 = .ok (.iconst 2, 1) := dk_5 (dk_at dksX1_wouldSwap_0 1 rfl rfl)
theorem dX1_wouldSwap_2 : decode cX1_wouldSwap 2 = .ok (.newarray .int, 2) := dk_188_10 (dk_at dksX1_wouldSwap_0 2 rfl rfl)
theorem dX1_wouldSwap_4 : decode cX1_wouldSwap 4 = .ok (.dup, 1) := dk_89 (dk_at dksX1_wouldSwap_0 4 rfl rfl)
theorem dX1_wouldSwap_5 : decode cX1_wouldSwap 5 = .ok (.iconst 0, 1) := dk_3 (dk_at dksX1_wouldSwap_0 5 rfl rfl)
theorem dX1_wouldSwap_6 : decode cX1_wouldSwap 6 = .ok (.iload_n 1, 1) := dk_27 (dk_at dksX1_wouldSwap_0 6 rfl rfl)
theorem dX1_wouldSwap_7 : decode cX1_wouldSwap 7 = .ok (.iastore, 1) := dk_79 (dk_at dksX1_wouldSwap_0 7 rfl rfl)
theorem dX1_wouldSwap_8 : decode cX1_wouldSwap 8 = .ok (.dup, 1) := dk_89 (dk_at dksX1_wouldSwap_0 8 rfl rfl)
theorem dX1_wouldSwap_9 : decode cX1_wouldSwap 9 = .ok (.iconst 1, 1) := dk_4 (dk_at dksX1_wouldSwap_0 9 rfl rfl)
theorem dX1_wouldSwap_10 : decode cX1_wouldSwap 10 = .ok (.iload_n 2, 1) := dk_28 (dk_at dksX1_wouldSwap_0 10 rfl rfl)
theorem dX1_wouldSwap_11 : decode cX1_wouldSwap 11 = .ok (.iastore, 1) := dk_79 (dk_at dksX1_wouldSwap_0 11 rfl rfl)
theorem dX1_wouldSwap_12 : decode cX1_wouldSwap 12 = .ok (.invokevirtual 155, 3) := dk_182 0 155 (dk_at dksX1_wouldSwap_0 12 rfl rfl)
theorem dX1_wouldSwap_15 : decode cX1_wouldSwap 15 = .ok (.aload_n 0, 1) := dk_42 (dk_at dksX1_wouldSwap_0 15 rfl rfl)
theorem dX1_wouldSwap_16 : decode cX1_wouldSwap 16 = .ok (.getfield 27, 3) := dk_180 0 27 (dk_at dksX1_wouldSwap_0 16 rfl rfl)
theorem dX1_wouldSwap_19 : decode cX1_wouldSwap 19 = .ok (.iload_n 1, 1) := dk_27 (dk_at dksX1_wouldSwap_0 19 rfl rfl)
theorem dX1_wouldSwap_20 : decode cX1_wouldSwap 20 = .ok (.iload_n 2, 1) := dk_28 (dk_at dksX1_wouldSwap_0 20 rfl rfl)
theorem dX1_wouldSwap_21 : decode cX1_wouldSwap 21 = .ok (.invokevirtual 219, 3) := dk_182 0 219 (dk_at dksX1_wouldSwap_0 21 rfl rfl)
theorem dX1_wouldSwap_24 : decode cX1_wouldSwap 24 = .ok (.ifCond .eq 19, 3) := dk_153 0 19 (dk_at dksX1_wouldSwap_1 0 rfl rfl)
theorem dX1_wouldSwap_27 : decode cX1_wouldSwap 27 = .ok (.aload_n 0, 1) := dk_42 (dk_at dksX1_wouldSwap_1 3 rfl rfl)
theorem dX1_wouldSwap_28 : decode cX1_wouldSwap 28 = .ok (.getfield 27, 3) := dk_180 0 27 (dk_at dksX1_wouldSwap_1 4 rfl rfl)
theorem dX1_wouldSwap_31 : decode cX1_wouldSwap 31 = .ok (.iload_n 2, 1) := dk_28 (dk_at dksX1_wouldSwap_1 7 rfl rfl)
theorem dX1_wouldSwap_32 : decode cX1_wouldSwap 32 = .ok (.iload_n 1, 1) := dk_27 (dk_at dksX1_wouldSwap_1 8 rfl rfl)
theorem dX1_wouldSwap_33 : decode cX1_wouldSwap 33 = .ok (.invokevirtual 219, 3) := dk_182 0 219 (dk_at dksX1_wouldSwap_1 9 rfl rfl)
theorem dX1_wouldSwap_36 : decode cX1_wouldSwap 36 = .ok (.ifCond .eq 7, 3) := dk_153 0 7 (dk_at dksX1_wouldSwap_1 12 rfl rfl)
theorem dX1_wouldSwap_39 : decode cX1_wouldSwap 39 = .ok (.iconst 1, 1) := dk_4 (dk_at dksX1_wouldSwap_1 15 rfl rfl)
theorem dX1_wouldSwap_40 : decode cX1_wouldSwap 40 = .ok (.goto 4, 3) := dk_167 0 4 (dk_at dksX1_wouldSwap_1 16 rfl rfl)
theorem dX1_wouldSwap_43 : decode cX1_wouldSwap 43 = .ok (.iconst 0, 1) := dk_3 (dk_at dksX1_wouldSwap_1 19 rfl rfl)
theorem dX1_wouldSwap_44 : decode cX1_wouldSwap 44 = .ok (.ireturn, 1) := dk_172 (dk_at dksX1_wouldSwap_1 20 rfl rfl)
abbrev cX1_satisfaction : ByteArray := prog_1_method_51_code
def yX1_satisfaction : MethodName := ⟨RX1, "satisfaction", "(I)F"⟩
def dkwX1_satisfaction_1 : List UInt8 := [182, 0, 250, 134, 28, 134, 110, 174]
abbrev dktX1_satisfaction_1 : List UInt8 := dkwX1_satisfaction_1 ++ []
def dkwX1_satisfaction_0 : List UInt8 := [42, 27, 182, 0, 169, 182, 0, 201, 61, 28, 154, 0, 7, 11, 167, 0, 15, 42, 180, 0, 27, 27]
abbrev dktX1_satisfaction_0 : List UInt8 := dkwX1_satisfaction_0 ++ dktX1_satisfaction_1
theorem dksX1_satisfaction_0 : cX1_satisfaction.data.toList.drop 0 = dktX1_satisfaction_0 := by decide +kernel
theorem dksX1_satisfaction_1 : cX1_satisfaction.data.toList.drop 22 = dktX1_satisfaction_1 := dk_seg dksX1_satisfaction_0 22 rfl rfl
theorem dX1_satisfaction_0 : decode cX1_satisfaction 0 = .ok (.aload_n 0, 1) := dk_42 (dk_at dksX1_satisfaction_0 0 rfl rfl)
theorem dX1_satisfaction_1 : decode cX1_satisfaction 1 = .ok (.iload_n 1, 1) := dk_27 (dk_at dksX1_satisfaction_0 1 rfl rfl)
theorem dX1_satisfaction_2 : decode cX1_satisfaction 2 = .ok (.invokevirtual 169, 3) := dk_182 0 169 (dk_at dksX1_satisfaction_0 2 rfl rfl)
theorem dX1_satisfaction_5 : decode cX1_satisfaction 5 = .ok (.invokevirtual 201, 3) := dk_182 0 201 (dk_at dksX1_satisfaction_0 5 rfl rfl)
theorem dX1_satisfaction_8 : decode cX1_satisfaction 8 = .ok (.istore_n 2, 1) := dk_61 (dk_at dksX1_satisfaction_0 8 rfl rfl)
theorem dX1_satisfaction_9 : decode cX1_satisfaction 9 = .ok (.iload_n 2, 1) := dk_28 (dk_at dksX1_satisfaction_0 9 rfl rfl)
theorem dX1_satisfaction_10 : decode cX1_satisfaction 10 = .ok (.ifCond .ne 7, 3) := dk_154 0 7 (dk_at dksX1_satisfaction_0 10 rfl rfl)
theorem dX1_satisfaction_13 : decode cX1_satisfaction 13 = .ok (.fconst 0, 1) := dk_11 (dk_at dksX1_satisfaction_0 13 rfl rfl)
theorem dX1_satisfaction_14 : decode cX1_satisfaction 14 = .ok (.goto 15, 3) := dk_167 0 15 (dk_at dksX1_satisfaction_0 14 rfl rfl)
theorem dX1_satisfaction_17 : decode cX1_satisfaction 17 = .ok (.aload_n 0, 1) := dk_42 (dk_at dksX1_satisfaction_0 17 rfl rfl)
theorem dX1_satisfaction_18 : decode cX1_satisfaction 18 = .ok (.getfield 27, 3) := dk_180 0 27 (dk_at dksX1_satisfaction_0 18 rfl rfl)
theorem dX1_satisfaction_21 : decode cX1_satisfaction 21 = .ok (.iload_n 1, 1) := dk_27 (dk_at dksX1_satisfaction_0 21 rfl rfl)
theorem dX1_satisfaction_22 : decode cX1_satisfaction 22 = .ok (.invokevirtual 250, 3) := dk_182 0 250 (dk_at dksX1_satisfaction_1 0 rfl rfl)
theorem dX1_satisfaction_25 : decode cX1_satisfaction 25 = .ok (.i2f, 1) := dk_134 (dk_at dksX1_satisfaction_1 3 rfl rfl)
theorem dX1_satisfaction_26 : decode cX1_satisfaction 26 = .ok (.iload_n 2, 1) := dk_28 (dk_at dksX1_satisfaction_1 4 rfl rfl)
theorem dX1_satisfaction_27 : decode cX1_satisfaction 27 = .ok (.i2f, 1) := dk_134 (dk_at dksX1_satisfaction_1 5 rfl rfl)
theorem dX1_satisfaction_28 : decode cX1_satisfaction 28 = .ok (.fdiv, 1) := dk_110 (dk_at dksX1_satisfaction_1 6 rfl rfl)
theorem dX1_satisfaction_29 : decode cX1_satisfaction 29 = .ok (.freturn, 1) := dk_174 (dk_at dksX1_satisfaction_1 7 rfl rfl)
abbrev cX1_cutFor : ByteArray := prog_1_method_54_code
def yX1_cutFor : MethodName := ⟨RX1, "cutFor", "(I)I"⟩
def dkwX1_cutFor_0 : List UInt8 := [42, 4, 188, 10, 89, 3, 27, 79, 182, 0, 155, 42, 180, 0, 27, 27, 182, 1, 16, 172]
abbrev dktX1_cutFor_0 : List UInt8 := dkwX1_cutFor_0 ++ []
theorem dksX1_cutFor_0 : cX1_cutFor.data.toList.drop 0 = dktX1_cutFor_0 := by decide +kernel
theorem dX1_cutFor_0 : decode cX1_cutFor 0 = .ok (.aload_n 0, 1) := dk_42 (dk_at dksX1_cutFor_0 0 rfl rfl)
theorem dX1_cutFor_1 : decode cX1_cutFor 1 = .ok (.iconst 1, 1) := dk_4 (dk_at dksX1_cutFor_0 1 rfl rfl)
theorem dX1_cutFor_2 : decode cX1_cutFor 2 = .ok (.newarray .int, 2) := dk_188_10 (dk_at dksX1_cutFor_0 2 rfl rfl)
theorem dX1_cutFor_4 : decode cX1_cutFor 4 = .ok (.dup, 1) := dk_89 (dk_at dksX1_cutFor_0 4 rfl rfl)
theorem dX1_cutFor_5 : decode cX1_cutFor 5 = .ok (.iconst 0, 1) := dk_3 (dk_at dksX1_cutFor_0 5 rfl rfl)
theorem dX1_cutFor_6 : decode cX1_cutFor 6 = .ok (.iload_n 1, 1) := dk_27 (dk_at dksX1_cutFor_0 6 rfl rfl)
theorem dX1_cutFor_7 : decode cX1_cutFor 7 = .ok (.iastore, 1) := dk_79 (dk_at dksX1_cutFor_0 7 rfl rfl)
theorem dX1_cutFor_8 : decode cX1_cutFor 8 = .ok (.invokevirtual 155, 3) := dk_182 0 155 (dk_at dksX1_cutFor_0 8 rfl rfl)
theorem dX1_cutFor_11 : decode cX1_cutFor 11 = .ok (.aload_n 0, 1) := dk_42 (dk_at dksX1_cutFor_0 11 rfl rfl)
theorem dX1_cutFor_12 : decode cX1_cutFor 12 = .ok (.getfield 27, 3) := dk_180 0 27 (dk_at dksX1_cutFor_0 12 rfl rfl)
theorem dX1_cutFor_15 : decode cX1_cutFor 15 = .ok (.iload_n 1, 1) := dk_27 (dk_at dksX1_cutFor_0 15 rfl rfl)
theorem dX1_cutFor_16 : decode cX1_cutFor 16 = .ok (.invokevirtual 272, 3) := dk_182 1 16 (dk_at dksX1_cutFor_0 16 rfl rfl)
theorem dX1_cutFor_19 : decode cX1_cutFor 19 = .ok (.ireturn, 1) := dk_172 (dk_at dksX1_cutFor_0 19 rfl rfl)
abbrev cX1_welfareByKnife : ByteArray := prog_1_method_55_code
def yX1_welfareByKnife : MethodName := ⟨RX1, "welfareByKnife", "(I)I"⟩
def dkwX1_welfareByKnife_1 : List UInt8 := [182, 1, 22, 87, 44, 27, 182, 0, 250, 172]
abbrev dktX1_welfareByKnife_1 : List UInt8 := dkwX1_welfareByKnife_1 ++ []
def dkwX1_welfareByKnife_0 : List UInt8 := [42, 4, 188, 10, 89, 3, 27, 79, 182, 0, 155, 187, 0, 22, 89, 42, 180, 0, 27, 183, 1, 19, 77, 44]
abbrev dktX1_welfareByKnife_0 : List UInt8 := dkwX1_welfareByKnife_0 ++ dktX1_welfareByKnife_1
theorem dksX1_welfareByKnife_0 : cX1_welfareByKnife.data.toList.drop 0 = dktX1_welfareByKnife_0 := by decide +kernel
theorem dksX1_welfareByKnife_1 : cX1_welfareByKnife.data.toList.drop 24 = dktX1_welfareByKnife_1 := dk_seg dksX1_welfareByKnife_0 24 rfl rfl
theorem dX1_welfareByKnife_0 : decode cX1_welfareByKnife 0 = .ok (.aload_n 0, 1) := dk_42 (dk_at dksX1_welfareByKnife_0 0 rfl rfl)
theorem dX1_welfareByKnife_1 : decode cX1_welfareByKnife 1 = .ok (.iconst 1, 1) := dk_4 (dk_at dksX1_welfareByKnife_0 1 rfl rfl)
theorem dX1_welfareByKnife_2 : decode cX1_welfareByKnife 2 = .ok (.newarray .int, 2) := dk_188_10 (dk_at dksX1_welfareByKnife_0 2 rfl rfl)
theorem dX1_welfareByKnife_4 : decode cX1_welfareByKnife 4 = .ok (.dup, 1) := dk_89 (dk_at dksX1_welfareByKnife_0 4 rfl rfl)
theorem dX1_welfareByKnife_5 : decode cX1_welfareByKnife 5 = .ok (.iconst 0, 1) := dk_3 (dk_at dksX1_welfareByKnife_0 5 rfl rfl)
theorem dX1_welfareByKnife_6 : decode cX1_welfareByKnife 6 = .ok (.iload_n 1, 1) := dk_27 (dk_at dksX1_welfareByKnife_0 6 rfl rfl)
theorem dX1_welfareByKnife_7 : decode cX1_welfareByKnife 7 = .ok (.iastore, 1) := dk_79 (dk_at dksX1_welfareByKnife_0 7 rfl rfl)
theorem dX1_welfareByKnife_8 : decode cX1_welfareByKnife 8 = .ok (.invokevirtual 155, 3) := dk_182 0 155 (dk_at dksX1_welfareByKnife_0 8 rfl rfl)
theorem dX1_welfareByKnife_11 : decode cX1_welfareByKnife 11 = .ok (.new 22, 3) := dk_187 0 22 (dk_at dksX1_welfareByKnife_0 11 rfl rfl)
theorem dX1_welfareByKnife_14 : decode cX1_welfareByKnife 14 = .ok (.dup, 1) := dk_89 (dk_at dksX1_welfareByKnife_0 14 rfl rfl)
theorem dX1_welfareByKnife_15 : decode cX1_welfareByKnife 15 = .ok (.aload_n 0, 1) := dk_42 (dk_at dksX1_welfareByKnife_0 15 rfl rfl)
theorem dX1_welfareByKnife_16 : decode cX1_welfareByKnife 16 = .ok (.getfield 27, 3) := dk_180 0 27 (dk_at dksX1_welfareByKnife_0 16 rfl rfl)
theorem dX1_welfareByKnife_19 : decode cX1_welfareByKnife 19 = .ok (.invokespecial 275, 3) := dk_183 1 19 (dk_at dksX1_welfareByKnife_0 19 rfl rfl)
theorem dX1_welfareByKnife_22 : decode cX1_welfareByKnife 22 = .ok (.astore_n 2, 1) := dk_77 (dk_at dksX1_welfareByKnife_0 22 rfl rfl)
theorem dX1_welfareByKnife_23 : decode cX1_welfareByKnife 23 = .ok (.aload_n 2, 1) := dk_44 (dk_at dksX1_welfareByKnife_0 23 rfl rfl)
theorem dX1_welfareByKnife_24 : decode cX1_welfareByKnife 24 = .ok (.invokevirtual 278, 3) := dk_182 1 22 (dk_at dksX1_welfareByKnife_1 0 rfl rfl)
theorem dX1_welfareByKnife_27 : decode cX1_welfareByKnife 27 = .ok (.pop, 1) := dk_87 (dk_at dksX1_welfareByKnife_1 3 rfl rfl)
theorem dX1_welfareByKnife_28 : decode cX1_welfareByKnife 28 = .ok (.aload_n 2, 1) := dk_44 (dk_at dksX1_welfareByKnife_1 4 rfl rfl)
theorem dX1_welfareByKnife_29 : decode cX1_welfareByKnife 29 = .ok (.iload_n 1, 1) := dk_27 (dk_at dksX1_welfareByKnife_1 5 rfl rfl)
theorem dX1_welfareByKnife_30 : decode cX1_welfareByKnife 30 = .ok (.invokevirtual 250, 3) := dk_182 0 250 (dk_at dksX1_welfareByKnife_1 6 rfl rfl)
theorem dX1_welfareByKnife_33 : decode cX1_welfareByKnife 33 = .ok (.ireturn, 1) := dk_172 (dk_at dksX1_welfareByKnife_1 9 rfl rfl)
abbrev cX1_welfareByRobin : ByteArray := prog_1_method_57_code
def yX1_welfareByRobin : MethodName := ⟨RX1, "welfareByRobin", "(II)I"⟩
def dkwX1_welfareByRobin_1 : List UInt8 := [172]
abbrev dktX1_welfareByRobin_1 : List UInt8 := dkwX1_welfareByRobin_1 ++ []
def dkwX1_welfareByRobin_0 : List UInt8 := [42, 5, 188, 10, 89, 3, 27, 79, 89, 4, 28, 79, 182, 0, 155, 42, 28, 182, 1, 32, 27, 182, 0, 250]
abbrev dktX1_welfareByRobin_0 : List UInt8 := dkwX1_welfareByRobin_0 ++ dktX1_welfareByRobin_1
theorem dksX1_welfareByRobin_0 : cX1_welfareByRobin.data.toList.drop 0 = dktX1_welfareByRobin_0 := by decide +kernel
theorem dksX1_welfareByRobin_1 : cX1_welfareByRobin.data.toList.drop 24 = dktX1_welfareByRobin_1 := dk_seg dksX1_welfareByRobin_0 24 rfl rfl
theorem dX1_welfareByRobin_0 : decode cX1_welfareByRobin 0 = .ok (.aload_n 0, 1) := dk_42 (dk_at dksX1_welfareByRobin_0 0 rfl rfl)
theorem dX1_welfareByRobin_1 : decode cX1_welfareByRobin 1 = .ok (.iconst 2, 1) := dk_5 (dk_at dksX1_welfareByRobin_0 1 rfl rfl)
theorem dX1_welfareByRobin_2 : decode cX1_welfareByRobin 2 = .ok (.newarray .int, 2) := dk_188_10 (dk_at dksX1_welfareByRobin_0 2 rfl rfl)
theorem dX1_welfareByRobin_4 : decode cX1_welfareByRobin 4 = .ok (.dup, 1) := dk_89 (dk_at dksX1_welfareByRobin_0 4 rfl rfl)
theorem dX1_welfareByRobin_5 : decode cX1_welfareByRobin 5 = .ok (.iconst 0, 1) := dk_3 (dk_at dksX1_welfareByRobin_0 5 rfl rfl)
theorem dX1_welfareByRobin_6 : decode cX1_welfareByRobin 6 = .ok (.iload_n 1, 1) := dk_27 (dk_at dksX1_welfareByRobin_0 6 rfl rfl)
theorem dX1_welfareByRobin_7 : decode cX1_welfareByRobin 7 = .ok (.iastore, 1) := dk_79 (dk_at dksX1_welfareByRobin_0 7 rfl rfl)
theorem dX1_welfareByRobin_8 : decode cX1_welfareByRobin 8 = .ok (.dup, 1) := dk_89 (dk_at dksX1_welfareByRobin_0 8 rfl rfl)
theorem dX1_welfareByRobin_9 : decode cX1_welfareByRobin 9 = .ok (.iconst 1, 1) := dk_4 (dk_at dksX1_welfareByRobin_0 9 rfl rfl)
theorem dX1_welfareByRobin_10 : decode cX1_welfareByRobin 10 = .ok (.iload_n 2, 1) := dk_28 (dk_at dksX1_welfareByRobin_0 10 rfl rfl)
theorem dX1_welfareByRobin_11 : decode cX1_welfareByRobin 11 = .ok (.iastore, 1) := dk_79 (dk_at dksX1_welfareByRobin_0 11 rfl rfl)
theorem dX1_welfareByRobin_12 : decode cX1_welfareByRobin 12 = .ok (.invokevirtual 155, 3) := dk_182 0 155 (dk_at dksX1_welfareByRobin_0 12 rfl rfl)
theorem dX1_welfareByRobin_15 : decode cX1_welfareByRobin 15 = .ok (.aload_n 0, 1) := dk_42 (dk_at dksX1_welfareByRobin_0 15 rfl rfl)
theorem dX1_welfareByRobin_16 : decode cX1_welfareByRobin 16 = .ok (.iload_n 2, 1) := dk_28 (dk_at dksX1_welfareByRobin_0 16 rfl rfl)
theorem dX1_welfareByRobin_17 : decode cX1_welfareByRobin 17 = .ok (.invokevirtual 288, 3) := dk_182 1 32 (dk_at dksX1_welfareByRobin_0 17 rfl rfl)
theorem dX1_welfareByRobin_20 : decode cX1_welfareByRobin 20 = .ok (.iload_n 1, 1) := dk_27 (dk_at dksX1_welfareByRobin_0 20 rfl rfl)
theorem dX1_welfareByRobin_21 : decode cX1_welfareByRobin 21 = .ok (.invokevirtual 250, 3) := dk_182 0 250 (dk_at dksX1_welfareByRobin_0 21 rfl rfl)
theorem dX1_welfareByRobin_24 : decode cX1_welfareByRobin 24 = .ok (.ireturn, 1) := dk_172 (dk_at dksX1_welfareByRobin_1 0 rfl rfl)
abbrev cX1_give : ByteArray := prog_1_method_67_code
def yX1_give : MethodName := ⟨RX1, "give", "(III)I"⟩
def dkwX1_give_1 : List UInt8 := [182, 1, 66, 172]
abbrev dktX1_give_1 : List UInt8 := dkwX1_give_1 ++ []
def dkwX1_give_0 : List UInt8 := [187, 0, 22, 89, 42, 180, 0, 27, 183, 1, 19, 58, 4, 42, 25, 4, 42, 27, 28, 29, 182, 1, 62]
abbrev dktX1_give_0 : List UInt8 := dkwX1_give_0 ++ dktX1_give_1
theorem dksX1_give_0 : cX1_give.data.toList.drop 0 = dktX1_give_0 := by decide +kernel
theorem dksX1_give_1 : cX1_give.data.toList.drop 23 = dktX1_give_1 := dk_seg dksX1_give_0 23 rfl rfl
theorem dX1_give_0 : decode cX1_give 0 = .ok (.new 22, 3) := dk_187 0 22 (dk_at dksX1_give_0 0 rfl rfl)
theorem dX1_give_3 : decode cX1_give 3 = .ok (.dup, 1) := dk_89 (dk_at dksX1_give_0 3 rfl rfl)
theorem dX1_give_4 : decode cX1_give 4 = .ok (.aload_n 0, 1) := dk_42 (dk_at dksX1_give_0 4 rfl rfl)
theorem dX1_give_5 : decode cX1_give 5 = .ok (.getfield 27, 3) := dk_180 0 27 (dk_at dksX1_give_0 5 rfl rfl)
theorem dX1_give_8 : decode cX1_give 8 = .ok (.invokespecial 275, 3) := dk_183 1 19 (dk_at dksX1_give_0 8 rfl rfl)
theorem dX1_give_11 : decode cX1_give 11 = .ok (.astore 4, 2) := dk_58 4 (dk_at dksX1_give_0 11 rfl rfl)
theorem dX1_give_13 : decode cX1_give 13 = .ok (.aload_n 0, 1) := dk_42 (dk_at dksX1_give_0 13 rfl rfl)
theorem dX1_give_14 : decode cX1_give 14 = .ok (.aload 4, 2) := dk_25 4 (dk_at dksX1_give_0 14 rfl rfl)
theorem dX1_give_16 : decode cX1_give 16 = .ok (.aload_n 0, 1) := dk_42 (dk_at dksX1_give_0 16 rfl rfl)
theorem dX1_give_17 : decode cX1_give 17 = .ok (.iload_n 1, 1) := dk_27 (dk_at dksX1_give_0 17 rfl rfl)
theorem dX1_give_18 : decode cX1_give 18 = .ok (.iload_n 2, 1) := dk_28 (dk_at dksX1_give_0 18 rfl rfl)
theorem dX1_give_19 : decode cX1_give 19 = .ok (.iload_n 3, 1) := dk_29 (dk_at dksX1_give_0 19 rfl rfl)
theorem dX1_give_20 : decode cX1_give 20 = .ok (.invokevirtual 318, 3) := dk_182 1 62 (dk_at dksX1_give_0 20 rfl rfl)
theorem dX1_give_23 : decode cX1_give 23 = .ok (.invokevirtual 322, 3) := dk_182 1 66 (dk_at dksX1_give_1 0 rfl rfl)
theorem dX1_give_26 : decode cX1_give 26 = .ok (.ireturn, 1) := dk_172 (dk_at dksX1_give_1 3 rfl rfl)
abbrev cX1_doGive : ByteArray := prog_1_method_60_code
def yX1_doGive : MethodName := ⟨RX1, "doGive", "(III)I"⟩
def dkwX1_doGive_1 : List UInt8 := [182, 1, 45, 42, 180, 0, 27, 27, 182, 0, 250, 172]
abbrev dktX1_doGive_1 : List UInt8 := dkwX1_doGive_1 ++ []
def dkwX1_doGive_0 : List UInt8 := [42, 4, 188, 10, 89, 3, 27, 79, 182, 0, 155, 42, 28, 29, 182, 0, 195, 42, 180, 0, 27, 27, 28, 29]
abbrev dktX1_doGive_0 : List UInt8 := dkwX1_doGive_0 ++ dktX1_doGive_1
theorem dksX1_doGive_0 : cX1_doGive.data.toList.drop 0 = dktX1_doGive_0 := by decide +kernel
theorem dksX1_doGive_1 : cX1_doGive.data.toList.drop 24 = dktX1_doGive_1 := dk_seg dksX1_doGive_0 24 rfl rfl
theorem dX1_doGive_0 : decode cX1_doGive 0 = .ok (.aload_n 0, 1) := dk_42 (dk_at dksX1_doGive_0 0 rfl rfl)
theorem dX1_doGive_1 : decode cX1_doGive 1 = .ok (.iconst 1, 1) := dk_4 (dk_at dksX1_doGive_0 1 rfl rfl)
theorem dX1_doGive_2 : decode cX1_doGive 2 = .ok (.newarray .int, 2) := dk_188_10 (dk_at dksX1_doGive_0 2 rfl rfl)
theorem dX1_doGive_4 : decode cX1_doGive 4 = .ok (.dup, 1) := dk_89 (dk_at dksX1_doGive_0 4 rfl rfl)
theorem dX1_doGive_5 : decode cX1_doGive 5 = .ok (.iconst 0, 1) := dk_3 (dk_at dksX1_doGive_0 5 rfl rfl)
theorem dX1_doGive_6 : decode cX1_doGive 6 = .ok (.iload_n 1, 1) := dk_27 (dk_at dksX1_doGive_0 6 rfl rfl)
theorem dX1_doGive_7 : decode cX1_doGive 7 = .ok (.iastore, 1) := dk_79 (dk_at dksX1_doGive_0 7 rfl rfl)
theorem dX1_doGive_8 : decode cX1_doGive 8 = .ok (.invokevirtual 155, 3) := dk_182 0 155 (dk_at dksX1_doGive_0 8 rfl rfl)
theorem dX1_doGive_11 : decode cX1_doGive 11 = .ok (.aload_n 0, 1) := dk_42 (dk_at dksX1_doGive_0 11 rfl rfl)
theorem dX1_doGive_12 : decode cX1_doGive 12 = .ok (.iload_n 2, 1) := dk_28 (dk_at dksX1_doGive_0 12 rfl rfl)
theorem dX1_doGive_13 : decode cX1_doGive 13 = .ok (.iload_n 3, 1) := dk_29 (dk_at dksX1_doGive_0 13 rfl rfl)
theorem dX1_doGive_14 : decode cX1_doGive 14 = .ok (.invokevirtual 195, 3) := dk_182 0 195 (dk_at dksX1_doGive_0 14 rfl rfl)
theorem dX1_doGive_17 : decode cX1_doGive 17 = .ok (.aload_n 0, 1) := dk_42 (dk_at dksX1_doGive_0 17 rfl rfl)
theorem dX1_doGive_18 : decode cX1_doGive 18 = .ok (.getfield 27, 3) := dk_180 0 27 (dk_at dksX1_doGive_0 18 rfl rfl)
theorem dX1_doGive_21 : decode cX1_doGive 21 = .ok (.iload_n 1, 1) := dk_27 (dk_at dksX1_doGive_0 21 rfl rfl)
theorem dX1_doGive_22 : decode cX1_doGive 22 = .ok (.iload_n 2, 1) := dk_28 (dk_at dksX1_doGive_0 22 rfl rfl)
theorem dX1_doGive_23 : decode cX1_doGive 23 = .ok (.iload_n 3, 1) := dk_29 (dk_at dksX1_doGive_0 23 rfl rfl)
theorem dX1_doGive_24 : decode cX1_doGive 24 = .ok (.invokevirtual 301, 3) := dk_182 1 45 (dk_at dksX1_doGive_1 0 rfl rfl)
theorem dX1_doGive_27 : decode cX1_doGive 27 = .ok (.aload_n 0, 1) := dk_42 (dk_at dksX1_doGive_1 3 rfl rfl)
theorem dX1_doGive_28 : decode cX1_doGive 28 = .ok (.getfield 27, 3) := dk_180 0 27 (dk_at dksX1_doGive_1 4 rfl rfl)
theorem dX1_doGive_31 : decode cX1_doGive 31 = .ok (.iload_n 1, 1) := dk_27 (dk_at dksX1_doGive_1 7 rfl rfl)
theorem dX1_doGive_32 : decode cX1_doGive 32 = .ok (.invokevirtual 250, 3) := dk_182 0 250 (dk_at dksX1_doGive_1 8 rfl rfl)
theorem dX1_doGive_35 : decode cX1_doGive 35 = .ok (.ireturn, 1) := dk_172 (dk_at dksX1_doGive_1 11 rfl rfl)
abbrev cX1_release : ByteArray := prog_1_method_68_code
def yX1_release : MethodName := ⟨RX1, "release", "(II)I"⟩
def dkwX1_release_0 : List UInt8 := [187, 0, 22, 89, 42, 180, 0, 27, 183, 1, 19, 78, 42, 45, 42, 27, 28, 182, 1, 70, 182, 1, 66, 172]
abbrev dktX1_release_0 : List UInt8 := dkwX1_release_0 ++ []
theorem dksX1_release_0 : cX1_release.data.toList.drop 0 = dktX1_release_0 := by decide +kernel
theorem dX1_release_0 : decode cX1_release 0 = .ok (.new 22, 3) := dk_187 0 22 (dk_at dksX1_release_0 0 rfl rfl)
theorem dX1_release_3 : decode cX1_release 3 = .ok (.dup, 1) := dk_89 (dk_at dksX1_release_0 3 rfl rfl)
theorem dX1_release_4 : decode cX1_release 4 = .ok (.aload_n 0, 1) := dk_42 (dk_at dksX1_release_0 4 rfl rfl)
theorem dX1_release_5 : decode cX1_release 5 = .ok (.getfield 27, 3) := dk_180 0 27 (dk_at dksX1_release_0 5 rfl rfl)
theorem dX1_release_8 : decode cX1_release 8 = .ok (.invokespecial 275, 3) := dk_183 1 19 (dk_at dksX1_release_0 8 rfl rfl)
theorem dX1_release_11 : decode cX1_release 11 = .ok (.astore_n 3, 1) := dk_78 (dk_at dksX1_release_0 11 rfl rfl)
theorem dX1_release_12 : decode cX1_release 12 = .ok (.aload_n 0, 1) := dk_42 (dk_at dksX1_release_0 12 rfl rfl)
theorem dX1_release_13 : decode cX1_release 13 = .ok (.aload_n 3, 1) := dk_45 (dk_at dksX1_release_0 13 rfl rfl)
theorem dX1_release_14 : decode cX1_release 14 = .ok (.aload_n 0, 1) := dk_42 (dk_at dksX1_release_0 14 rfl rfl)
theorem dX1_release_15 : decode cX1_release 15 = .ok (.iload_n 1, 1) := dk_27 (dk_at dksX1_release_0 15 rfl rfl)
theorem dX1_release_16 : decode cX1_release 16 = .ok (.iload_n 2, 1) := dk_28 (dk_at dksX1_release_0 16 rfl rfl)
theorem dX1_release_17 : decode cX1_release 17 = .ok (.invokevirtual 326, 3) := dk_182 1 70 (dk_at dksX1_release_0 17 rfl rfl)
theorem dX1_release_20 : decode cX1_release 20 = .ok (.invokevirtual 322, 3) := dk_182 1 66 (dk_at dksX1_release_0 20 rfl rfl)
theorem dX1_release_23 : decode cX1_release 23 = .ok (.ireturn, 1) := dk_172 (dk_at dksX1_release_0 23 rfl rfl)
abbrev cX1_doRelease : ByteArray := prog_1_method_61_code
def yX1_doRelease : MethodName := ⟨RX1, "doRelease", "(II)I"⟩
def dkwX1_doRelease_0 : List UInt8 := [42, 27, 28, 182, 0, 195, 42, 180, 0, 27, 27, 28, 182, 1, 49, 42, 180, 0, 27, 2, 182, 0, 207, 172]
abbrev dktX1_doRelease_0 : List UInt8 := dkwX1_doRelease_0 ++ []
theorem dksX1_doRelease_0 : cX1_doRelease.data.toList.drop 0 = dktX1_doRelease_0 := by decide +kernel
theorem dX1_doRelease_0 : decode cX1_doRelease 0 = .ok (.aload_n 0, 1) := dk_42 (dk_at dksX1_doRelease_0 0 rfl rfl)
theorem dX1_doRelease_1 : decode cX1_doRelease 1 = .ok (.iload_n 1, 1) := dk_27 (dk_at dksX1_doRelease_0 1 rfl rfl)
theorem dX1_doRelease_2 : decode cX1_doRelease 2 = .ok (.iload_n 2, 1) := dk_28 (dk_at dksX1_doRelease_0 2 rfl rfl)
theorem dX1_doRelease_3 : decode cX1_doRelease 3 = .ok (.invokevirtual 195, 3) := dk_182 0 195 (dk_at dksX1_doRelease_0 3 rfl rfl)
theorem dX1_doRelease_6 : decode cX1_doRelease 6 = .ok (.aload_n 0, 1) := dk_42 (dk_at dksX1_doRelease_0 6 rfl rfl)
theorem dX1_doRelease_7 : decode cX1_doRelease 7 = .ok (.getfield 27, 3) := dk_180 0 27 (dk_at dksX1_doRelease_0 7 rfl rfl)
theorem dX1_doRelease_10 : decode cX1_doRelease 10 = .ok (.iload_n 1, 1) := dk_27 (dk_at dksX1_doRelease_0 10 rfl rfl)
theorem dX1_doRelease_11 : decode cX1_doRelease 11 = .ok (.iload_n 2, 1) := dk_28 (dk_at dksX1_doRelease_0 11 rfl rfl)
theorem dX1_doRelease_12 : decode cX1_doRelease 12 = .ok (.invokevirtual 305, 3) := dk_182 1 49 (dk_at dksX1_doRelease_0 12 rfl rfl)
theorem dX1_doRelease_15 : decode cX1_doRelease 15 = .ok (.aload_n 0, 1) := dk_42 (dk_at dksX1_doRelease_0 15 rfl rfl)
theorem dX1_doRelease_16 : decode cX1_doRelease 16 = .ok (.getfield 27, 3) := dk_180 0 27 (dk_at dksX1_doRelease_0 16 rfl rfl)
theorem dX1_doRelease_19 : decode cX1_doRelease 19 = .ok (.iconst (-1), 1) := dk_2 (dk_at dksX1_doRelease_0 19 rfl rfl)
theorem dX1_doRelease_20 : decode cX1_doRelease 20 = .ok (.invokevirtual 207, 3) := dk_182 0 207 (dk_at dksX1_doRelease_0 20 rfl rfl)
theorem dX1_doRelease_23 : decode cX1_doRelease 23 = .ok (.ireturn, 1) := dk_172 (dk_at dksX1_doRelease_0 23 rfl rfl)
abbrev cX1_swapShares : ByteArray := prog_1_method_69_code
def yX1_swapShares : MethodName := ⟨RX1, "swapShares", "(II)I"⟩
def dkwX1_swapShares_0 : List UInt8 := [187, 0, 22, 89, 42, 180, 0, 27, 183, 1, 19, 78, 42, 45, 42, 27, 28, 182, 1, 73, 182, 1, 66, 172]
abbrev dktX1_swapShares_0 : List UInt8 := dkwX1_swapShares_0 ++ []
theorem dksX1_swapShares_0 : cX1_swapShares.data.toList.drop 0 = dktX1_swapShares_0 := by decide +kernel
theorem dX1_swapShares_0 : decode cX1_swapShares 0 = .ok (.new 22, 3) := dk_187 0 22 (dk_at dksX1_swapShares_0 0 rfl rfl)
theorem dX1_swapShares_3 : decode cX1_swapShares 3 = .ok (.dup, 1) := dk_89 (dk_at dksX1_swapShares_0 3 rfl rfl)
theorem dX1_swapShares_4 : decode cX1_swapShares 4 = .ok (.aload_n 0, 1) := dk_42 (dk_at dksX1_swapShares_0 4 rfl rfl)
theorem dX1_swapShares_5 : decode cX1_swapShares 5 = .ok (.getfield 27, 3) := dk_180 0 27 (dk_at dksX1_swapShares_0 5 rfl rfl)
theorem dX1_swapShares_8 : decode cX1_swapShares 8 = .ok (.invokespecial 275, 3) := dk_183 1 19 (dk_at dksX1_swapShares_0 8 rfl rfl)
theorem dX1_swapShares_11 : decode cX1_swapShares 11 = .ok (.astore_n 3, 1) := dk_78 (dk_at dksX1_swapShares_0 11 rfl rfl)
theorem dX1_swapShares_12 : decode cX1_swapShares 12 = .ok (.aload_n 0, 1) := dk_42 (dk_at dksX1_swapShares_0 12 rfl rfl)
theorem dX1_swapShares_13 : decode cX1_swapShares 13 = .ok (.aload_n 3, 1) := dk_45 (dk_at dksX1_swapShares_0 13 rfl rfl)
theorem dX1_swapShares_14 : decode cX1_swapShares 14 = .ok (.aload_n 0, 1) := dk_42 (dk_at dksX1_swapShares_0 14 rfl rfl)
theorem dX1_swapShares_15 : decode cX1_swapShares 15 = .ok (.iload_n 1, 1) := dk_27 (dk_at dksX1_swapShares_0 15 rfl rfl)
theorem dX1_swapShares_16 : decode cX1_swapShares 16 = .ok (.iload_n 2, 1) := dk_28 (dk_at dksX1_swapShares_0 16 rfl rfl)
theorem dX1_swapShares_17 : decode cX1_swapShares 17 = .ok (.invokevirtual 329, 3) := dk_182 1 73 (dk_at dksX1_swapShares_0 17 rfl rfl)
theorem dX1_swapShares_20 : decode cX1_swapShares 20 = .ok (.invokevirtual 322, 3) := dk_182 1 66 (dk_at dksX1_swapShares_0 20 rfl rfl)
theorem dX1_swapShares_23 : decode cX1_swapShares 23 = .ok (.ireturn, 1) := dk_172 (dk_at dksX1_swapShares_0 23 rfl rfl)
abbrev cX1_doSwapShares : ByteArray := prog_1_method_62_code
def yX1_doSwapShares : MethodName := ⟨RX1, "doSwapShares", "(II)I"⟩
def dkwX1_doSwapShares_4 : List UInt8 := [172]
abbrev dktX1_doSwapShares_4 : List UInt8 := dkwX1_doSwapShares_4 ++ []
def dkwX1_doSwapShares_3 : List UInt8 := [28, 160, 0, 7, 27, 167, 0, 5, 21, 4, 79, 132, 3, 1, 167, 255, 200, 42, 180, 0, 27, 182, 0, 229]
abbrev dktX1_doSwapShares_3 : List UInt8 := dkwX1_doSwapShares_3 ++ dktX1_doSwapShares_4
def dkwX1_doSwapShares_2 : List UInt8 := [29, 46, 54, 4, 42, 180, 0, 27, 180, 0, 192, 29, 21, 4, 27, 160, 0, 7, 28, 167, 0, 15, 21, 4]
abbrev dktX1_doSwapShares_2 : List UInt8 := dkwX1_doSwapShares_2 ++ dktX1_doSwapShares_3
def dkwX1_doSwapShares_1 : List UInt8 := [3, 184, 0, 223, 3, 62, 29, 42, 180, 0, 27, 182, 0, 117, 162, 0, 51, 42, 180, 0, 27, 180, 0, 192]
abbrev dktX1_doSwapShares_1 : List UInt8 := dkwX1_doSwapShares_1 ++ dktX1_doSwapShares_2
def dkwX1_doSwapShares_0 : List UInt8 := [42, 5, 188, 10, 89, 3, 27, 79, 89, 4, 28, 79, 182, 0, 155, 27, 28, 159, 0, 7, 4, 167, 0, 4]
abbrev dktX1_doSwapShares_0 : List UInt8 := dkwX1_doSwapShares_0 ++ dktX1_doSwapShares_1
theorem dksX1_doSwapShares_0 : cX1_doSwapShares.data.toList.drop 0 = dktX1_doSwapShares_0 := by decide +kernel
theorem dksX1_doSwapShares_1 : cX1_doSwapShares.data.toList.drop 24 = dktX1_doSwapShares_1 := dk_seg dksX1_doSwapShares_0 24 rfl rfl
theorem dksX1_doSwapShares_2 : cX1_doSwapShares.data.toList.drop 48 = dktX1_doSwapShares_2 := dk_seg dksX1_doSwapShares_1 24 rfl rfl
theorem dksX1_doSwapShares_3 : cX1_doSwapShares.data.toList.drop 72 = dktX1_doSwapShares_3 := dk_seg dksX1_doSwapShares_2 24 rfl rfl
theorem dksX1_doSwapShares_4 : cX1_doSwapShares.data.toList.drop 96 = dktX1_doSwapShares_4 := dk_seg dksX1_doSwapShares_3 24 rfl rfl
theorem dX1_doSwapShares_0 : decode cX1_doSwapShares 0 = .ok (.aload_n 0, 1) := dk_42 (dk_at dksX1_doSwapShares_0 0 rfl rfl)
theorem dX1_doSwapShares_1 : decode cX1_doSwapShares 1 = .ok (.iconst 2, 1) := dk_5 (dk_at dksX1_doSwapShares_0 1 rfl rfl)
theorem dX1_doSwapShares_2 : decode cX1_doSwapShares 2 = .ok (.newarray .int, 2) := dk_188_10 (dk_at dksX1_doSwapShares_0 2 rfl rfl)
theorem dX1_doSwapShares_4 : decode cX1_doSwapShares 4 = .ok (.dup, 1) := dk_89 (dk_at dksX1_doSwapShares_0 4 rfl rfl)
theorem dX1_doSwapShares_5 : decode cX1_doSwapShares 5 = .ok (.iconst 0, 1) := dk_3 (dk_at dksX1_doSwapShares_0 5 rfl rfl)
theorem dX1_doSwapShares_6 : decode cX1_doSwapShares 6 = .ok (.iload_n 1, 1) := dk_27 (dk_at dksX1_doSwapShares_0 6 rfl rfl)
theorem dX1_doSwapShares_7 : decode cX1_doSwapShares 7 = .ok (.iastore, 1) := dk_79 (dk_at dksX1_doSwapShares_0 7 rfl rfl)
theorem dX1_doSwapShares_8 : decode cX1_doSwapShares 8 = .ok (.dup, 1) := dk_89 (dk_at dksX1_doSwapShares_0 8 rfl rfl)
theorem dX1_doSwapShares_9 : decode cX1_doSwapShares 9 = .ok (.iconst 1, 1) := dk_4 (dk_at dksX1_doSwapShares_0 9 rfl rfl)
theorem dX1_doSwapShares_10 : decode cX1_doSwapShares 10 = .ok (.iload_n 2, 1) := dk_28 (dk_at dksX1_doSwapShares_0 10 rfl rfl)
theorem dX1_doSwapShares_11 : decode cX1_doSwapShares 11 = .ok (.iastore, 1) := dk_79 (dk_at dksX1_doSwapShares_0 11 rfl rfl)
theorem dX1_doSwapShares_12 : decode cX1_doSwapShares 12 = .ok (.invokevirtual 155, 3) := dk_182 0 155 (dk_at dksX1_doSwapShares_0 12 rfl rfl)
theorem dX1_doSwapShares_15 : decode cX1_doSwapShares 15 = .ok (.iload_n 1, 1) := dk_27 (dk_at dksX1_doSwapShares_0 15 rfl rfl)
theorem dX1_doSwapShares_16 : decode cX1_doSwapShares 16 = .ok (.iload_n 2, 1) := dk_28 (dk_at dksX1_doSwapShares_0 16 rfl rfl)
theorem dX1_doSwapShares_17 : decode cX1_doSwapShares 17 = .ok (.if_icmp .eq 7, 3) := dk_159 0 7 (dk_at dksX1_doSwapShares_0 17 rfl rfl)
theorem dX1_doSwapShares_20 : decode cX1_doSwapShares 20 = .ok (.iconst 1, 1) := dk_4 (dk_at dksX1_doSwapShares_0 20 rfl rfl)
theorem dX1_doSwapShares_21 : decode cX1_doSwapShares 21 = .ok (.goto 4, 3) := dk_167 0 4 (dk_at dksX1_doSwapShares_0 21 rfl rfl)
theorem dX1_doSwapShares_24 : decode cX1_doSwapShares 24 = .ok (.iconst 0, 1) := dk_3 (dk_at dksX1_doSwapShares_1 0 rfl rfl)
theorem dX1_doSwapShares_25 : decode cX1_doSwapShares 25 = .ok (.invokestatic 223, 3) := dk_184 0 223 (dk_at dksX1_doSwapShares_1 1 rfl rfl)
theorem dX1_doSwapShares_28 : decode cX1_doSwapShares 28 = .ok (.iconst 0, 1) := dk_3 (dk_at dksX1_doSwapShares_1 4 rfl rfl)
theorem dX1_doSwapShares_29 : decode cX1_doSwapShares 29 = .ok (.istore_n 3, 1) := dk_62 (dk_at dksX1_doSwapShares_1 5 rfl rfl)
theorem dX1_doSwapShares_30 : decode cX1_doSwapShares 30 = .ok (.iload_n 3, 1) := dk_29 (dk_at dksX1_doSwapShares_1 6 rfl rfl)
theorem dX1_doSwapShares_31 : decode cX1_doSwapShares 31 = .ok (.aload_n 0, 1) := dk_42 (dk_at dksX1_doSwapShares_1 7 rfl rfl)
theorem dX1_doSwapShares_32 : decode cX1_doSwapShares 32 = .ok (.getfield 27, 3) := dk_180 0 27 (dk_at dksX1_doSwapShares_1 8 rfl rfl)
theorem dX1_doSwapShares_35 : decode cX1_doSwapShares 35 = .ok (.invokevirtual 117, 3) := dk_182 0 117 (dk_at dksX1_doSwapShares_1 11 rfl rfl)
theorem dX1_doSwapShares_38 : decode cX1_doSwapShares 38 = .ok (.if_icmp .ge 51, 3) := dk_162 0 51 (dk_at dksX1_doSwapShares_1 14 rfl rfl)
theorem dX1_doSwapShares_41 : decode cX1_doSwapShares 41 = .ok (.aload_n 0, 1) := dk_42 (dk_at dksX1_doSwapShares_1 17 rfl rfl)
theorem dX1_doSwapShares_42 : decode cX1_doSwapShares 42 = .ok (.getfield 27, 3) := dk_180 0 27 (dk_at dksX1_doSwapShares_1 18 rfl rfl)
theorem dX1_doSwapShares_45 : decode cX1_doSwapShares 45 = .ok (.getfield 192, 3) := dk_180 0 192 (dk_at dksX1_doSwapShares_1 21 rfl rfl)
theorem dX1_doSwapShares_48 : decode cX1_doSwapShares 48 = .ok (.iload_n 3, 1) := dk_29 (dk_at dksX1_doSwapShares_2 0 rfl rfl)
theorem dX1_doSwapShares_49 : decode cX1_doSwapShares 49 = .ok (.iaload, 1) := dk_46 (dk_at dksX1_doSwapShares_2 1 rfl rfl)
theorem dX1_doSwapShares_50 : decode cX1_doSwapShares 50 = .ok (.istore 4, 2) := dk_54 4 (dk_at dksX1_doSwapShares_2 2 rfl rfl)
theorem dX1_doSwapShares_52 : decode cX1_doSwapShares 52 = .ok (.aload_n 0, 1) := dk_42 (dk_at dksX1_doSwapShares_2 4 rfl rfl)
theorem dX1_doSwapShares_53 : decode cX1_doSwapShares 53 = .ok (.getfield 27, 3) := dk_180 0 27 (dk_at dksX1_doSwapShares_2 5 rfl rfl)
theorem dX1_doSwapShares_56 : decode cX1_doSwapShares 56 = .ok (.getfield 192, 3) := dk_180 0 192 (dk_at dksX1_doSwapShares_2 8 rfl rfl)
theorem dX1_doSwapShares_59 : decode cX1_doSwapShares 59 = .ok (.iload_n 3, 1) := dk_29 (dk_at dksX1_doSwapShares_2 11 rfl rfl)
theorem dX1_doSwapShares_60 : decode cX1_doSwapShares 60 = .ok (.iload 4, 2) := dk_21 4 (dk_at dksX1_doSwapShares_2 12 rfl rfl)
theorem dX1_doSwapShares_62 : decode cX1_doSwapShares 62 = .ok (.iload_n 1, 1) := dk_27 (dk_at dksX1_doSwapShares_2 14 rfl rfl)
theorem dX1_doSwapShares_63 : decode cX1_doSwapShares 63 = .ok (.if_icmp .ne 7, 3) := dk_160 0 7 (dk_at dksX1_doSwapShares_2 15 rfl rfl)
theorem dX1_doSwapShares_66 : decode cX1_doSwapShares 66 = .ok (.iload_n 2, 1) := dk_28 (dk_at dksX1_doSwapShares_2 18 rfl rfl)
theorem dX1_doSwapShares_67 : decode cX1_doSwapShares 67 = .ok (.goto 15, 3) := dk_167 0 15 (dk_at dksX1_doSwapShares_2 19 rfl rfl)
theorem dX1_doSwapShares_70 : decode cX1_doSwapShares 70 = .ok (.iload 4, 2) := dk_21 4 (dk_at dksX1_doSwapShares_2 22 rfl rfl)
theorem dX1_doSwapShares_72 : decode cX1_doSwapShares 72 = .ok (.iload_n 2, 1) := dk_28 (dk_at dksX1_doSwapShares_3 0 rfl rfl)
theorem dX1_doSwapShares_73 : decode cX1_doSwapShares 73 = .ok (.if_icmp .ne 7, 3) := dk_160 0 7 (dk_at dksX1_doSwapShares_3 1 rfl rfl)
theorem dX1_doSwapShares_76 : decode cX1_doSwapShares 76 = .ok (.iload_n 1, 1) := dk_27 (dk_at dksX1_doSwapShares_3 4 rfl rfl)
theorem dX1_doSwapShares_77 : decode cX1_doSwapShares 77 = .ok (.goto 5, 3) := dk_167 0 5 (dk_at dksX1_doSwapShares_3 5 rfl rfl)
theorem dX1_doSwapShares_80 : decode cX1_doSwapShares 80 = .ok (.iload 4, 2) := dk_21 4 (dk_at dksX1_doSwapShares_3 8 rfl rfl)
theorem dX1_doSwapShares_82 : decode cX1_doSwapShares 82 = .ok (.iastore, 1) := dk_79 (dk_at dksX1_doSwapShares_3 10 rfl rfl)
theorem dX1_doSwapShares_83 : decode cX1_doSwapShares 83 = .ok (.iinc 3 1, 3) := dk_132 3 1 (dk_at dksX1_doSwapShares_3 11 rfl rfl)
theorem dX1_doSwapShares_86 : decode cX1_doSwapShares 86 = .ok (.goto (-56), 3) := dk_167 255 200 (dk_at dksX1_doSwapShares_3 14 rfl rfl)
theorem dX1_doSwapShares_89 : decode cX1_doSwapShares 89 = .ok (.aload_n 0, 1) := dk_42 (dk_at dksX1_doSwapShares_3 17 rfl rfl)
theorem dX1_doSwapShares_90 : decode cX1_doSwapShares 90 = .ok (.getfield 27, 3) := dk_180 0 27 (dk_at dksX1_doSwapShares_3 18 rfl rfl)
theorem dX1_doSwapShares_93 : decode cX1_doSwapShares 93 = .ok (.invokevirtual 229, 3) := dk_182 0 229 (dk_at dksX1_doSwapShares_3 21 rfl rfl)
theorem dX1_doSwapShares_96 : decode cX1_doSwapShares 96 = .ok (.ireturn, 1) := dk_172 (dk_at dksX1_doSwapShares_4 0 rfl rfl)
abbrev cX1_setValue : ByteArray := prog_1_method_70_code
def yX1_setValue : MethodName := ⟨RX1, "setValue", "(III)I"⟩
def dkwX1_setValue_1 : List UInt8 := [182, 1, 66, 172]
abbrev dktX1_setValue_1 : List UInt8 := dkwX1_setValue_1 ++ []
def dkwX1_setValue_0 : List UInt8 := [187, 0, 22, 89, 42, 180, 0, 27, 183, 1, 19, 58, 4, 42, 25, 4, 42, 27, 28, 29, 182, 1, 76]
abbrev dktX1_setValue_0 : List UInt8 := dkwX1_setValue_0 ++ dktX1_setValue_1
theorem dksX1_setValue_0 : cX1_setValue.data.toList.drop 0 = dktX1_setValue_0 := by decide +kernel
theorem dksX1_setValue_1 : cX1_setValue.data.toList.drop 23 = dktX1_setValue_1 := dk_seg dksX1_setValue_0 23 rfl rfl
theorem dX1_setValue_0 : decode cX1_setValue 0 = .ok (.new 22, 3) := dk_187 0 22 (dk_at dksX1_setValue_0 0 rfl rfl)
theorem dX1_setValue_3 : decode cX1_setValue 3 = .ok (.dup, 1) := dk_89 (dk_at dksX1_setValue_0 3 rfl rfl)
theorem dX1_setValue_4 : decode cX1_setValue 4 = .ok (.aload_n 0, 1) := dk_42 (dk_at dksX1_setValue_0 4 rfl rfl)
theorem dX1_setValue_5 : decode cX1_setValue 5 = .ok (.getfield 27, 3) := dk_180 0 27 (dk_at dksX1_setValue_0 5 rfl rfl)
theorem dX1_setValue_8 : decode cX1_setValue 8 = .ok (.invokespecial 275, 3) := dk_183 1 19 (dk_at dksX1_setValue_0 8 rfl rfl)
theorem dX1_setValue_11 : decode cX1_setValue 11 = .ok (.astore 4, 2) := dk_58 4 (dk_at dksX1_setValue_0 11 rfl rfl)
theorem dX1_setValue_13 : decode cX1_setValue 13 = .ok (.aload_n 0, 1) := dk_42 (dk_at dksX1_setValue_0 13 rfl rfl)
theorem dX1_setValue_14 : decode cX1_setValue 14 = .ok (.aload 4, 2) := dk_25 4 (dk_at dksX1_setValue_0 14 rfl rfl)
theorem dX1_setValue_16 : decode cX1_setValue 16 = .ok (.aload_n 0, 1) := dk_42 (dk_at dksX1_setValue_0 16 rfl rfl)
theorem dX1_setValue_17 : decode cX1_setValue 17 = .ok (.iload_n 1, 1) := dk_27 (dk_at dksX1_setValue_0 17 rfl rfl)
theorem dX1_setValue_18 : decode cX1_setValue 18 = .ok (.iload_n 2, 1) := dk_28 (dk_at dksX1_setValue_0 18 rfl rfl)
theorem dX1_setValue_19 : decode cX1_setValue 19 = .ok (.iload_n 3, 1) := dk_29 (dk_at dksX1_setValue_0 19 rfl rfl)
theorem dX1_setValue_20 : decode cX1_setValue 20 = .ok (.invokevirtual 332, 3) := dk_182 1 76 (dk_at dksX1_setValue_0 20 rfl rfl)
theorem dX1_setValue_23 : decode cX1_setValue 23 = .ok (.invokevirtual 322, 3) := dk_182 1 66 (dk_at dksX1_setValue_1 0 rfl rfl)
theorem dX1_setValue_26 : decode cX1_setValue 26 = .ok (.ireturn, 1) := dk_172 (dk_at dksX1_setValue_1 3 rfl rfl)
abbrev cX1_doSetValue : ByteArray := prog_1_method_63_code
def yX1_doSetValue : MethodName := ⟨RX1, "doSetValue", "(III)I"⟩
def dkwX1_doSetValue_2 : List UInt8 := [183, 1, 52, 182, 1, 55, 87, 25, 4, 28, 182, 0, 188, 172]
abbrev dktX1_doSetValue_2 : List UInt8 := dkwX1_doSetValue_2 ++ []
def dkwX1_doSetValue_1 : List UInt8 := [184, 0, 161, 184, 0, 165, 42, 180, 0, 27, 180, 0, 120, 27, 187, 0, 124, 89, 25, 4, 28, 29]
abbrev dktX1_doSetValue_1 : List UInt8 := dkwX1_doSetValue_1 ++ dktX1_doSetValue_2
def dkwX1_doSetValue_0 : List UInt8 := [42, 27, 182, 0, 169, 58, 4, 28, 42, 180, 0, 27, 182, 0, 117, 184, 0, 151, 29, 3, 16, 9]
abbrev dktX1_doSetValue_0 : List UInt8 := dkwX1_doSetValue_0 ++ dktX1_doSetValue_1
theorem dksX1_doSetValue_0 : cX1_doSetValue.data.toList.drop 0 = dktX1_doSetValue_0 := by decide +kernel
theorem dksX1_doSetValue_1 : cX1_doSetValue.data.toList.drop 22 = dktX1_doSetValue_1 := dk_seg dksX1_doSetValue_0 22 rfl rfl
theorem dksX1_doSetValue_2 : cX1_doSetValue.data.toList.drop 44 = dktX1_doSetValue_2 := dk_seg dksX1_doSetValue_1 22 rfl rfl
theorem dX1_doSetValue_0 : decode cX1_doSetValue 0 = .ok (.aload_n 0, 1) := dk_42 (dk_at dksX1_doSetValue_0 0 rfl rfl)
theorem dX1_doSetValue_1 : decode cX1_doSetValue 1 = .ok (.iload_n 1, 1) := dk_27 (dk_at dksX1_doSetValue_0 1 rfl rfl)
theorem dX1_doSetValue_2 : decode cX1_doSetValue 2 = .ok (.invokevirtual 169, 3) := dk_182 0 169 (dk_at dksX1_doSetValue_0 2 rfl rfl)
theorem dX1_doSetValue_5 : decode cX1_doSetValue 5 = .ok (.astore 4, 2) := dk_58 4 (dk_at dksX1_doSetValue_0 5 rfl rfl)
theorem dX1_doSetValue_7 : decode cX1_doSetValue 7 = .ok (.iload_n 2, 1) := dk_28 (dk_at dksX1_doSetValue_0 7 rfl rfl)
theorem dX1_doSetValue_8 : decode cX1_doSetValue 8 = .ok (.aload_n 0, 1) := dk_42 (dk_at dksX1_doSetValue_0 8 rfl rfl)
theorem dX1_doSetValue_9 : decode cX1_doSetValue 9 = .ok (.getfield 27, 3) := dk_180 0 27 (dk_at dksX1_doSetValue_0 9 rfl rfl)
theorem dX1_doSetValue_12 : decode cX1_doSetValue 12 = .ok (.invokevirtual 117, 3) := dk_182 0 117 (dk_at dksX1_doSetValue_0 12 rfl rfl)
theorem dX1_doSetValue_15 : decode cX1_doSetValue 15 = .ok (.invokestatic 151, 3) := dk_184 0 151 (dk_at dksX1_doSetValue_0 15 rfl rfl)
theorem dX1_doSetValue_18 : decode cX1_doSetValue 18 = .ok (.iload_n 3, 1) := dk_29 (dk_at dksX1_doSetValue_0 18 rfl rfl)
theorem dX1_doSetValue_19 : decode cX1_doSetValue 19 = .ok (.iconst 0, 1) := dk_3 (dk_at dksX1_doSetValue_0 19 rfl rfl)
theorem dX1_doSetValue_20 : decode cX1_doSetValue 20 = .ok (.bipush 9, 2) := dk_16 9 (dk_at dksX1_doSetValue_0 20 rfl rfl)
theorem dX1_doSetValue_22 : decode cX1_doSetValue 22 = .ok (.invokestatic 161, 3) := dk_184 0 161 (dk_at dksX1_doSetValue_1 0 rfl rfl)
theorem dX1_doSetValue_25 : decode cX1_doSetValue 25 = .ok (.invokestatic 165, 3) := dk_184 0 165 (dk_at dksX1_doSetValue_1 3 rfl rfl)
theorem dX1_doSetValue_28 : decode cX1_doSetValue 28 = .ok (.aload_n 0, 1) := dk_42 (dk_at dksX1_doSetValue_1 6 rfl rfl)
theorem dX1_doSetValue_29 : decode cX1_doSetValue 29 = .ok (.getfield 27, 3) := dk_180 0 27 (dk_at dksX1_doSetValue_1 7 rfl rfl)
theorem dX1_doSetValue_32 : decode cX1_doSetValue 32 = .ok (.getfield 120, 3) := dk_180 0 120 (dk_at dksX1_doSetValue_1 10 rfl rfl)
theorem dX1_doSetValue_35 : decode cX1_doSetValue 35 = .ok (.iload_n 1, 1) := dk_27 (dk_at dksX1_doSetValue_1 13 rfl rfl)
theorem dX1_doSetValue_36 : decode cX1_doSetValue 36 = .ok (.new 124, 3) := dk_187 0 124 (dk_at dksX1_doSetValue_1 14 rfl rfl)
theorem dX1_doSetValue_39 : decode cX1_doSetValue 39 = .ok (.dup, 1) := dk_89 (dk_at dksX1_doSetValue_1 17 rfl rfl)
theorem dX1_doSetValue_40 : decode cX1_doSetValue 40 = .ok (.aload 4, 2) := dk_25 4 (dk_at dksX1_doSetValue_1 18 rfl rfl)
theorem dX1_doSetValue_42 : decode cX1_doSetValue 42 = .ok (.iload_n 2, 1) := dk_28 (dk_at dksX1_doSetValue_1 20 rfl rfl)
theorem dX1_doSetValue_43 : decode cX1_doSetValue 43 = .ok (.iload_n 3, 1) := dk_29 (dk_at dksX1_doSetValue_1 21 rfl rfl)
theorem dX1_doSetValue_44 : decode cX1_doSetValue 44 = .ok (.invokespecial 308, 3) := dk_183 1 52 (dk_at dksX1_doSetValue_2 0 rfl rfl)
theorem dX1_doSetValue_47 : decode cX1_doSetValue 47 = .ok (.invokevirtual 311, 3) := dk_182 1 55 (dk_at dksX1_doSetValue_2 3 rfl rfl)
theorem dX1_doSetValue_50 : decode cX1_doSetValue 50 = .ok (.pop, 1) := dk_87 (dk_at dksX1_doSetValue_2 6 rfl rfl)
theorem dX1_doSetValue_51 : decode cX1_doSetValue 51 = .ok (.aload 4, 2) := dk_25 4 (dk_at dksX1_doSetValue_2 7 rfl rfl)
theorem dX1_doSetValue_53 : decode cX1_doSetValue 53 = .ok (.iload_n 2, 1) := dk_28 (dk_at dksX1_doSetValue_2 9 rfl rfl)
theorem dX1_doSetValue_54 : decode cX1_doSetValue 54 = .ok (.invokevirtual 188, 3) := dk_182 0 188 (dk_at dksX1_doSetValue_2 10 rfl rfl)
theorem dX1_doSetValue_57 : decode cX1_doSetValue 57 = .ok (.ireturn, 1) := dk_172 (dk_at dksX1_doSetValue_2 13 rfl rfl)
abbrev cX1_divideAndChoose : ByteArray := prog_1_method_71_code
def yX1_divideAndChoose : MethodName := ⟨RX1, "divideAndChoose", "(II)I"⟩
def dkwX1_divideAndChoose_0 : List UInt8 := [187, 0, 22, 89, 42, 180, 0, 27, 183, 1, 19, 78, 42, 45, 42, 27, 28, 182, 1, 79, 182, 1, 66, 172]
abbrev dktX1_divideAndChoose_0 : List UInt8 := dkwX1_divideAndChoose_0 ++ []
theorem dksX1_divideAndChoose_0 : cX1_divideAndChoose.data.toList.drop 0 = dktX1_divideAndChoose_0 := by decide +kernel
theorem dX1_divideAndChoose_0 : decode cX1_divideAndChoose 0 = .ok (.new 22, 3) := dk_187 0 22 (dk_at dksX1_divideAndChoose_0 0 rfl rfl)
theorem dX1_divideAndChoose_3 : decode cX1_divideAndChoose 3 = .ok (.dup, 1) := dk_89 (dk_at dksX1_divideAndChoose_0 3 rfl rfl)
theorem dX1_divideAndChoose_4 : decode cX1_divideAndChoose 4 = .ok (.aload_n 0, 1) := dk_42 (dk_at dksX1_divideAndChoose_0 4 rfl rfl)
theorem dX1_divideAndChoose_5 : decode cX1_divideAndChoose 5 = .ok (.getfield 27, 3) := dk_180 0 27 (dk_at dksX1_divideAndChoose_0 5 rfl rfl)
theorem dX1_divideAndChoose_8 : decode cX1_divideAndChoose 8 = .ok (.invokespecial 275, 3) := dk_183 1 19 (dk_at dksX1_divideAndChoose_0 8 rfl rfl)
theorem dX1_divideAndChoose_11 : decode cX1_divideAndChoose 11 = .ok (.astore_n 3, 1) := dk_78 (dk_at dksX1_divideAndChoose_0 11 rfl rfl)
theorem dX1_divideAndChoose_12 : decode cX1_divideAndChoose 12 = .ok (.aload_n 0, 1) := dk_42 (dk_at dksX1_divideAndChoose_0 12 rfl rfl)
theorem dX1_divideAndChoose_13 : decode cX1_divideAndChoose 13 = .ok (.aload_n 3, 1) := dk_45 (dk_at dksX1_divideAndChoose_0 13 rfl rfl)
theorem dX1_divideAndChoose_14 : decode cX1_divideAndChoose 14 = .ok (.aload_n 0, 1) := dk_42 (dk_at dksX1_divideAndChoose_0 14 rfl rfl)
theorem dX1_divideAndChoose_15 : decode cX1_divideAndChoose 15 = .ok (.iload_n 1, 1) := dk_27 (dk_at dksX1_divideAndChoose_0 15 rfl rfl)
theorem dX1_divideAndChoose_16 : decode cX1_divideAndChoose 16 = .ok (.iload_n 2, 1) := dk_28 (dk_at dksX1_divideAndChoose_0 16 rfl rfl)
theorem dX1_divideAndChoose_17 : decode cX1_divideAndChoose 17 = .ok (.invokevirtual 335, 3) := dk_182 1 79 (dk_at dksX1_divideAndChoose_0 17 rfl rfl)
theorem dX1_divideAndChoose_20 : decode cX1_divideAndChoose 20 = .ok (.invokevirtual 322, 3) := dk_182 1 66 (dk_at dksX1_divideAndChoose_0 20 rfl rfl)
theorem dX1_divideAndChoose_23 : decode cX1_divideAndChoose 23 = .ok (.ireturn, 1) := dk_172 (dk_at dksX1_divideAndChoose_0 23 rfl rfl)
abbrev cX1_doDivide : ByteArray := prog_1_method_64_code
def yX1_doDivide : MethodName := ⟨RX1, "doDivide", "(II)I"⟩
def dkwX1_doDivide_1 : List UInt8 := [3, 184, 0, 223, 42, 180, 0, 27, 27, 28, 182, 1, 59, 172]
abbrev dktX1_doDivide_1 : List UInt8 := dkwX1_doDivide_1 ++ []
def dkwX1_doDivide_0 : List UInt8 := [42, 5, 188, 10, 89, 3, 27, 79, 89, 4, 28, 79, 182, 0, 155, 27, 28, 159, 0, 7, 4, 167, 0, 4]
abbrev dktX1_doDivide_0 : List UInt8 := dkwX1_doDivide_0 ++ dktX1_doDivide_1
theorem dksX1_doDivide_0 : cX1_doDivide.data.toList.drop 0 = dktX1_doDivide_0 := by decide +kernel
theorem dksX1_doDivide_1 : cX1_doDivide.data.toList.drop 24 = dktX1_doDivide_1 := dk_seg dksX1_doDivide_0 24 rfl rfl
theorem dX1_doDivide_0 : decode cX1_doDivide 0 = .ok (.aload_n 0, 1) := dk_42 (dk_at dksX1_doDivide_0 0 rfl rfl)
theorem dX1_doDivide_1 : decode cX1_doDivide 1 = .ok (.iconst 2, 1) := dk_5 (dk_at dksX1_doDivide_0 1 rfl rfl)
theorem dX1_doDivide_2 : decode cX1_doDivide 2 = .ok (.newarray .int, 2) := dk_188_10 (dk_at dksX1_doDivide_0 2 rfl rfl)
theorem dX1_doDivide_4 : decode cX1_doDivide 4 = .ok (.dup, 1) := dk_89 (dk_at dksX1_doDivide_0 4 rfl rfl)
theorem dX1_doDivide_5 : decode cX1_doDivide 5 = .ok (.iconst 0, 1) := dk_3 (dk_at dksX1_doDivide_0 5 rfl rfl)
theorem dX1_doDivide_6 : decode cX1_doDivide 6 = .ok (.iload_n 1, 1) := dk_27 (dk_at dksX1_doDivide_0 6 rfl rfl)
theorem dX1_doDivide_7 : decode cX1_doDivide 7 = .ok (.iastore, 1) := dk_79 (dk_at dksX1_doDivide_0 7 rfl rfl)
theorem dX1_doDivide_8 : decode cX1_doDivide 8 = .ok (.dup, 1) := dk_89 (dk_at dksX1_doDivide_0 8 rfl rfl)
theorem dX1_doDivide_9 : decode cX1_doDivide 9 = .ok (.iconst 1, 1) := dk_4 (dk_at dksX1_doDivide_0 9 rfl rfl)
theorem dX1_doDivide_10 : decode cX1_doDivide 10 = .ok (.iload_n 2, 1) := dk_28 (dk_at dksX1_doDivide_0 10 rfl rfl)
theorem dX1_doDivide_11 : decode cX1_doDivide 11 = .ok (.iastore, 1) := dk_79 (dk_at dksX1_doDivide_0 11 rfl rfl)
theorem dX1_doDivide_12 : decode cX1_doDivide 12 = .ok (.invokevirtual 155, 3) := dk_182 0 155 (dk_at dksX1_doDivide_0 12 rfl rfl)
theorem dX1_doDivide_15 : decode cX1_doDivide 15 = .ok (.iload_n 1, 1) := dk_27 (dk_at dksX1_doDivide_0 15 rfl rfl)
theorem dX1_doDivide_16 : decode cX1_doDivide 16 = .ok (.iload_n 2, 1) := dk_28 (dk_at dksX1_doDivide_0 16 rfl rfl)
theorem dX1_doDivide_17 : decode cX1_doDivide 17 = .ok (.if_icmp .eq 7, 3) := dk_159 0 7 (dk_at dksX1_doDivide_0 17 rfl rfl)
theorem dX1_doDivide_20 : decode cX1_doDivide 20 = .ok (.iconst 1, 1) := dk_4 (dk_at dksX1_doDivide_0 20 rfl rfl)
theorem dX1_doDivide_21 : decode cX1_doDivide 21 = .ok (.goto 4, 3) := dk_167 0 4 (dk_at dksX1_doDivide_0 21 rfl rfl)
theorem dX1_doDivide_24 : decode cX1_doDivide 24 = .ok (.iconst 0, 1) := dk_3 (dk_at dksX1_doDivide_1 0 rfl rfl)
theorem dX1_doDivide_25 : decode cX1_doDivide 25 = .ok (.invokestatic 223, 3) := dk_184 0 223 (dk_at dksX1_doDivide_1 1 rfl rfl)
theorem dX1_doDivide_28 : decode cX1_doDivide 28 = .ok (.aload_n 0, 1) := dk_42 (dk_at dksX1_doDivide_1 4 rfl rfl)
theorem dX1_doDivide_29 : decode cX1_doDivide 29 = .ok (.getfield 27, 3) := dk_180 0 27 (dk_at dksX1_doDivide_1 5 rfl rfl)
theorem dX1_doDivide_32 : decode cX1_doDivide 32 = .ok (.iload_n 1, 1) := dk_27 (dk_at dksX1_doDivide_1 8 rfl rfl)
theorem dX1_doDivide_33 : decode cX1_doDivide 33 = .ok (.iload_n 2, 1) := dk_28 (dk_at dksX1_doDivide_1 9 rfl rfl)
theorem dX1_doDivide_34 : decode cX1_doDivide 34 = .ok (.invokevirtual 315, 3) := dk_182 1 59 (dk_at dksX1_doDivide_1 10 rfl rfl)
theorem dX1_doDivide_37 : decode cX1_doDivide 37 = .ok (.ireturn, 1) := dk_172 (dk_at dksX1_doDivide_1 13 rfl rfl)
abbrev cX1_roundRobin : ByteArray := prog_1_method_73_code
def yX1_roundRobin : MethodName := ⟨RX1, "roundRobin", "(I)I"⟩
def dkwX1_roundRobin_0 : List UInt8 := [187, 0, 22, 89, 42, 180, 0, 27, 183, 1, 19, 77, 42, 44, 42, 27, 182, 1, 82, 182, 1, 66, 172]
abbrev dktX1_roundRobin_0 : List UInt8 := dkwX1_roundRobin_0 ++ []
theorem dksX1_roundRobin_0 : cX1_roundRobin.data.toList.drop 0 = dktX1_roundRobin_0 := by decide +kernel
theorem dX1_roundRobin_0 : decode cX1_roundRobin 0 = .ok (.new 22, 3) := dk_187 0 22 (dk_at dksX1_roundRobin_0 0 rfl rfl)
theorem dX1_roundRobin_3 : decode cX1_roundRobin 3 = .ok (.dup, 1) := dk_89 (dk_at dksX1_roundRobin_0 3 rfl rfl)
theorem dX1_roundRobin_4 : decode cX1_roundRobin 4 = .ok (.aload_n 0, 1) := dk_42 (dk_at dksX1_roundRobin_0 4 rfl rfl)
theorem dX1_roundRobin_5 : decode cX1_roundRobin 5 = .ok (.getfield 27, 3) := dk_180 0 27 (dk_at dksX1_roundRobin_0 5 rfl rfl)
theorem dX1_roundRobin_8 : decode cX1_roundRobin 8 = .ok (.invokespecial 275, 3) := dk_183 1 19 (dk_at dksX1_roundRobin_0 8 rfl rfl)
theorem dX1_roundRobin_11 : decode cX1_roundRobin 11 = .ok (.astore_n 2, 1) := dk_77 (dk_at dksX1_roundRobin_0 11 rfl rfl)
theorem dX1_roundRobin_12 : decode cX1_roundRobin 12 = .ok (.aload_n 0, 1) := dk_42 (dk_at dksX1_roundRobin_0 12 rfl rfl)
theorem dX1_roundRobin_13 : decode cX1_roundRobin 13 = .ok (.aload_n 2, 1) := dk_44 (dk_at dksX1_roundRobin_0 13 rfl rfl)
theorem dX1_roundRobin_14 : decode cX1_roundRobin 14 = .ok (.aload_n 0, 1) := dk_42 (dk_at dksX1_roundRobin_0 14 rfl rfl)
theorem dX1_roundRobin_15 : decode cX1_roundRobin 15 = .ok (.iload_n 1, 1) := dk_27 (dk_at dksX1_roundRobin_0 15 rfl rfl)
theorem dX1_roundRobin_16 : decode cX1_roundRobin 16 = .ok (.invokevirtual 338, 3) := dk_182 1 82 (dk_at dksX1_roundRobin_0 16 rfl rfl)
theorem dX1_roundRobin_19 : decode cX1_roundRobin 19 = .ok (.invokevirtual 322, 3) := dk_182 1 66 (dk_at dksX1_roundRobin_0 19 rfl rfl)
theorem dX1_roundRobin_22 : decode cX1_roundRobin 22 = .ok (.ireturn, 1) := dk_172 (dk_at dksX1_roundRobin_0 22 rfl rfl)
abbrev cX1_doRoundRobin : ByteArray := prog_1_method_65_code
def yX1_doRoundRobin : MethodName := ⟨RX1, "doRoundRobin", "(I)I"⟩
def dkwX1_doRoundRobin_0 : List UInt8 := [42, 4, 188, 10, 89, 3, 27, 79, 182, 0, 155, 42, 180, 0, 27, 27, 182, 1, 29, 172]
abbrev dktX1_doRoundRobin_0 : List UInt8 := dkwX1_doRoundRobin_0 ++ []
theorem dksX1_doRoundRobin_0 : cX1_doRoundRobin.data.toList.drop 0 = dktX1_doRoundRobin_0 := by decide +kernel
theorem dX1_doRoundRobin_0 : decode cX1_doRoundRobin 0 = .ok (.aload_n 0, 1) := dk_42 (dk_at dksX1_doRoundRobin_0 0 rfl rfl)
theorem dX1_doRoundRobin_1 : decode cX1_doRoundRobin 1 = .ok (.iconst 1, 1) := dk_4 (dk_at dksX1_doRoundRobin_0 1 rfl rfl)
theorem dX1_doRoundRobin_2 : decode cX1_doRoundRobin 2 = .ok (.newarray .int, 2) := dk_188_10 (dk_at dksX1_doRoundRobin_0 2 rfl rfl)
theorem dX1_doRoundRobin_4 : decode cX1_doRoundRobin 4 = .ok (.dup, 1) := dk_89 (dk_at dksX1_doRoundRobin_0 4 rfl rfl)
theorem dX1_doRoundRobin_5 : decode cX1_doRoundRobin 5 = .ok (.iconst 0, 1) := dk_3 (dk_at dksX1_doRoundRobin_0 5 rfl rfl)
theorem dX1_doRoundRobin_6 : decode cX1_doRoundRobin 6 = .ok (.iload_n 1, 1) := dk_27 (dk_at dksX1_doRoundRobin_0 6 rfl rfl)
theorem dX1_doRoundRobin_7 : decode cX1_doRoundRobin 7 = .ok (.iastore, 1) := dk_79 (dk_at dksX1_doRoundRobin_0 7 rfl rfl)
theorem dX1_doRoundRobin_8 : decode cX1_doRoundRobin 8 = .ok (.invokevirtual 155, 3) := dk_182 0 155 (dk_at dksX1_doRoundRobin_0 8 rfl rfl)
theorem dX1_doRoundRobin_11 : decode cX1_doRoundRobin 11 = .ok (.aload_n 0, 1) := dk_42 (dk_at dksX1_doRoundRobin_0 11 rfl rfl)
theorem dX1_doRoundRobin_12 : decode cX1_doRoundRobin 12 = .ok (.getfield 27, 3) := dk_180 0 27 (dk_at dksX1_doRoundRobin_0 12 rfl rfl)
theorem dX1_doRoundRobin_15 : decode cX1_doRoundRobin 15 = .ok (.iload_n 1, 1) := dk_27 (dk_at dksX1_doRoundRobin_0 15 rfl rfl)
theorem dX1_doRoundRobin_16 : decode cX1_doRoundRobin 16 = .ok (.invokevirtual 285, 3) := dk_182 1 29 (dk_at dksX1_doRoundRobin_0 16 rfl rfl)
theorem dX1_doRoundRobin_19 : decode cX1_doRoundRobin 19 = .ok (.ireturn, 1) := dk_172 (dk_at dksX1_doRoundRobin_0 19 rfl rfl)
abbrev cX1_rotate : ByteArray := prog_1_method_74_code
def yX1_rotate : MethodName := ⟨RX1, "rotate", "(I)I"⟩
def dkwX1_rotate_0 : List UInt8 := [187, 0, 22, 89, 42, 180, 0, 27, 183, 1, 19, 77, 42, 44, 42, 27, 182, 1, 85, 182, 1, 66, 172]
abbrev dktX1_rotate_0 : List UInt8 := dkwX1_rotate_0 ++ []
theorem dksX1_rotate_0 : cX1_rotate.data.toList.drop 0 = dktX1_rotate_0 := by decide +kernel
theorem dX1_rotate_0 : decode cX1_rotate 0 = .ok (.new 22, 3) := dk_187 0 22 (dk_at dksX1_rotate_0 0 rfl rfl)
theorem dX1_rotate_3 : decode cX1_rotate 3 = .ok (.dup, 1) := dk_89 (dk_at dksX1_rotate_0 3 rfl rfl)
theorem dX1_rotate_4 : decode cX1_rotate 4 = .ok (.aload_n 0, 1) := dk_42 (dk_at dksX1_rotate_0 4 rfl rfl)
theorem dX1_rotate_5 : decode cX1_rotate 5 = .ok (.getfield 27, 3) := dk_180 0 27 (dk_at dksX1_rotate_0 5 rfl rfl)
theorem dX1_rotate_8 : decode cX1_rotate 8 = .ok (.invokespecial 275, 3) := dk_183 1 19 (dk_at dksX1_rotate_0 8 rfl rfl)
theorem dX1_rotate_11 : decode cX1_rotate 11 = .ok (.astore_n 2, 1) := dk_77 (dk_at dksX1_rotate_0 11 rfl rfl)
theorem dX1_rotate_12 : decode cX1_rotate 12 = .ok (.aload_n 0, 1) := dk_42 (dk_at dksX1_rotate_0 12 rfl rfl)
theorem dX1_rotate_13 : decode cX1_rotate 13 = .ok (.aload_n 2, 1) := dk_44 (dk_at dksX1_rotate_0 13 rfl rfl)
theorem dX1_rotate_14 : decode cX1_rotate 14 = .ok (.aload_n 0, 1) := dk_42 (dk_at dksX1_rotate_0 14 rfl rfl)
theorem dX1_rotate_15 : decode cX1_rotate 15 = .ok (.iload_n 1, 1) := dk_27 (dk_at dksX1_rotate_0 15 rfl rfl)
theorem dX1_rotate_16 : decode cX1_rotate 16 = .ok (.invokevirtual 341, 3) := dk_182 1 85 (dk_at dksX1_rotate_0 16 rfl rfl)
theorem dX1_rotate_19 : decode cX1_rotate 19 = .ok (.invokevirtual 322, 3) := dk_182 1 66 (dk_at dksX1_rotate_0 19 rfl rfl)
theorem dX1_rotate_22 : decode cX1_rotate 22 = .ok (.ireturn, 1) := dk_172 (dk_at dksX1_rotate_0 22 rfl rfl)
abbrev cX1_doRotate : ByteArray := prog_1_method_66_code
def yX1_doRotate : MethodName := ⟨RX1, "doRotate", "(I)I"⟩
def dkwX1_doRotate_7 : List UInt8 := [167, 0, 7, 45, 21, 5, 46, 79, 132, 4, 1, 167, 255, 205, 44, 180, 0, 246, 172]
abbrev dktX1_doRotate_7 : List UInt8 := dkwX1_doRotate_7 ++ []
def dkwX1_doRotate_6 : List UInt8 := [180, 0, 192, 21, 4, 46, 54, 5, 42, 180, 0, 27, 180, 0, 192, 21, 4, 21, 5, 2, 160, 0, 7, 2]
abbrev dktX1_doRotate_6 : List UInt8 := dkwX1_doRotate_6 ++ dktX1_doRotate_7
def dkwX1_doRotate_5 : List UInt8 := [167, 255, 209, 3, 54, 4, 21, 4, 42, 180, 0, 27, 182, 0, 117, 162, 0, 45, 42, 180, 0, 27]
abbrev dktX1_doRotate_5 : List UInt8 := dkwX1_doRotate_5 ++ dktX1_doRotate_6
def dkwX1_doRotate_4 : List UInt8 := [182, 0, 247, 167, 0, 4, 27, 54, 5, 45, 21, 5, 44, 21, 4, 182, 0, 247, 79, 132, 4, 1]
abbrev dktX1_doRotate_4 : List UInt8 := dkwX1_doRotate_4 ++ dktX1_doRotate_5
def dkwX1_doRotate_3 : List UInt8 := [44, 180, 0, 246, 162, 0, 44, 21, 4, 4, 96, 44, 180, 0, 246, 162, 0, 14, 44, 21, 4, 4, 96]
abbrev dktX1_doRotate_3 : List UInt8 := dkwX1_doRotate_3 ++ dktX1_doRotate_4
def dkwX1_doRotate_2 : List UInt8 := [21, 4, 16, 6, 162, 0, 15, 45, 21, 4, 21, 4, 79, 132, 4, 1, 167, 255, 240, 3, 54, 4, 21, 4]
abbrev dktX1_doRotate_2 : List UInt8 := dkwX1_doRotate_2 ++ dktX1_doRotate_3
def dkwX1_doRotate_1 : List UInt8 := [44, 180, 0, 246, 2, 159, 0, 7, 4, 167, 0, 4, 3, 184, 0, 223, 16, 6, 188, 10, 78, 3, 54, 4]
abbrev dktX1_doRotate_1 : List UInt8 := dkwX1_doRotate_1 ++ dktX1_doRotate_2
def dkwX1_doRotate_0 : List UInt8 := [42, 4, 188, 10, 89, 3, 27, 79, 182, 0, 155, 187, 0, 241, 89, 42, 180, 0, 27, 27, 183, 0, 243, 77]
abbrev dktX1_doRotate_0 : List UInt8 := dkwX1_doRotate_0 ++ dktX1_doRotate_1
theorem dksX1_doRotate_0 : cX1_doRotate.data.toList.drop 0 = dktX1_doRotate_0 := by decide +kernel
theorem dksX1_doRotate_1 : cX1_doRotate.data.toList.drop 24 = dktX1_doRotate_1 := dk_seg dksX1_doRotate_0 24 rfl rfl
theorem dksX1_doRotate_2 : cX1_doRotate.data.toList.drop 48 = dktX1_doRotate_2 := dk_seg dksX1_doRotate_1 24 rfl rfl
theorem dksX1_doRotate_3 : cX1_doRotate.data.toList.drop 72 = dktX1_doRotate_3 := dk_seg dksX1_doRotate_2 24 rfl rfl
theorem dksX1_doRotate_4 : cX1_doRotate.data.toList.drop 95 = dktX1_doRotate_4 := dk_seg dksX1_doRotate_3 23 rfl rfl
theorem dksX1_doRotate_5 : cX1_doRotate.data.toList.drop 117 = dktX1_doRotate_5 := dk_seg dksX1_doRotate_4 22 rfl rfl
theorem dksX1_doRotate_6 : cX1_doRotate.data.toList.drop 139 = dktX1_doRotate_6 := dk_seg dksX1_doRotate_5 22 rfl rfl
theorem dksX1_doRotate_7 : cX1_doRotate.data.toList.drop 163 = dktX1_doRotate_7 := dk_seg dksX1_doRotate_6 24 rfl rfl
theorem dX1_doRotate_0 : decode cX1_doRotate 0 = .ok (.aload_n 0, 1) := dk_42 (dk_at dksX1_doRotate_0 0 rfl rfl)
theorem dX1_doRotate_1 : decode cX1_doRotate 1 = .ok (.iconst 1, 1) := dk_4 (dk_at dksX1_doRotate_0 1 rfl rfl)
theorem dX1_doRotate_2 : decode cX1_doRotate 2 = .ok (.newarray .int, 2) := dk_188_10 (dk_at dksX1_doRotate_0 2 rfl rfl)
theorem dX1_doRotate_4 : decode cX1_doRotate 4 = .ok (.dup, 1) := dk_89 (dk_at dksX1_doRotate_0 4 rfl rfl)
theorem dX1_doRotate_5 : decode cX1_doRotate 5 = .ok (.iconst 0, 1) := dk_3 (dk_at dksX1_doRotate_0 5 rfl rfl)
theorem dX1_doRotate_6 : decode cX1_doRotate 6 = .ok (.iload_n 1, 1) := dk_27 (dk_at dksX1_doRotate_0 6 rfl rfl)
theorem dX1_doRotate_7 : decode cX1_doRotate 7 = .ok (.iastore, 1) := dk_79 (dk_at dksX1_doRotate_0 7 rfl rfl)
theorem dX1_doRotate_8 : decode cX1_doRotate 8 = .ok (.invokevirtual 155, 3) := dk_182 0 155 (dk_at dksX1_doRotate_0 8 rfl rfl)
theorem dX1_doRotate_11 : decode cX1_doRotate 11 = .ok (.new 241, 3) := dk_187 0 241 (dk_at dksX1_doRotate_0 11 rfl rfl)
theorem dX1_doRotate_14 : decode cX1_doRotate 14 = .ok (.dup, 1) := dk_89 (dk_at dksX1_doRotate_0 14 rfl rfl)
theorem dX1_doRotate_15 : decode cX1_doRotate 15 = .ok (.aload_n 0, 1) := dk_42 (dk_at dksX1_doRotate_0 15 rfl rfl)
theorem dX1_doRotate_16 : decode cX1_doRotate 16 = .ok (.getfield 27, 3) := dk_180 0 27 (dk_at dksX1_doRotate_0 16 rfl rfl)
theorem dX1_doRotate_19 : decode cX1_doRotate 19 = .ok (.iload_n 1, 1) := dk_27 (dk_at dksX1_doRotate_0 19 rfl rfl)
theorem dX1_doRotate_20 : decode cX1_doRotate 20 = .ok (.invokespecial 243, 3) := dk_183 0 243 (dk_at dksX1_doRotate_0 20 rfl rfl)
theorem dX1_doRotate_23 : decode cX1_doRotate 23 = .ok (.astore_n 2, 1) := dk_77 (dk_at dksX1_doRotate_0 23 rfl rfl)
theorem dX1_doRotate_24 : decode cX1_doRotate 24 = .ok (.aload_n 2, 1) := dk_44 (dk_at dksX1_doRotate_1 0 rfl rfl)
theorem dX1_doRotate_25 : decode cX1_doRotate 25 = .ok (.getfield 246, 3) := dk_180 0 246 (dk_at dksX1_doRotate_1 1 rfl rfl)
theorem dX1_doRotate_28 : decode cX1_doRotate 28 = .ok (.iconst (-1), 1) := dk_2 (dk_at dksX1_doRotate_1 4 rfl rfl)
theorem dX1_doRotate_29 : decode cX1_doRotate 29 = .ok (.if_icmp .eq 7, 3) := dk_159 0 7 (dk_at dksX1_doRotate_1 5 rfl rfl)
theorem dX1_doRotate_32 : decode cX1_doRotate 32 = .ok (.iconst 1, 1) := dk_4 (dk_at dksX1_doRotate_1 8 rfl rfl)
theorem dX1_doRotate_33 : decode cX1_doRotate 33 = .ok (.goto 4, 3) := dk_167 0 4 (dk_at dksX1_doRotate_1 9 rfl rfl)
theorem dX1_doRotate_36 : decode cX1_doRotate 36 = .ok (.iconst 0, 1) := dk_3 (dk_at dksX1_doRotate_1 12 rfl rfl)
theorem dX1_doRotate_37 : decode cX1_doRotate 37 = .ok (.invokestatic 223, 3) := dk_184 0 223 (dk_at dksX1_doRotate_1 13 rfl rfl)
theorem dX1_doRotate_40 : decode cX1_doRotate 40 = .ok (.bipush 6, 2) := dk_16 6 (dk_at dksX1_doRotate_1 16 rfl rfl)
theorem dX1_doRotate_42 : decode cX1_doRotate 42 = .ok (.newarray .int, 2) := dk_188_10 (dk_at dksX1_doRotate_1 18 rfl rfl)
theorem dX1_doRotate_44 : decode cX1_doRotate 44 = .ok (.astore_n 3, 1) := dk_78 (dk_at dksX1_doRotate_1 20 rfl rfl)
theorem dX1_doRotate_45 : decode cX1_doRotate 45 = .ok (.iconst 0, 1) := dk_3 (dk_at dksX1_doRotate_1 21 rfl rfl)
theorem dX1_doRotate_46 : decode cX1_doRotate 46 = .ok (.istore 4, 2) := dk_54 4 (dk_at dksX1_doRotate_1 22 rfl rfl)
theorem dX1_doRotate_48 : decode cX1_doRotate 48 = .ok (.iload 4, 2) := dk_21 4 (dk_at dksX1_doRotate_2 0 rfl rfl)
theorem dX1_doRotate_50 : decode cX1_doRotate 50 = .ok (.bipush 6, 2) := dk_16 6 (dk_at dksX1_doRotate_2 2 rfl rfl)
theorem dX1_doRotate_52 : decode cX1_doRotate 52 = .ok (.if_icmp .ge 15, 3) := dk_162 0 15 (dk_at dksX1_doRotate_2 4 rfl rfl)
theorem dX1_doRotate_55 : decode cX1_doRotate 55 = .ok (.aload_n 3, 1) := dk_45 (dk_at dksX1_doRotate_2 7 rfl rfl)
theorem dX1_doRotate_56 : decode cX1_doRotate 56 = .ok (.iload 4, 2) := dk_21 4 (dk_at dksX1_doRotate_2 8 rfl rfl)
theorem dX1_doRotate_58 : decode cX1_doRotate 58 = .ok (.iload 4, 2) := dk_21 4 (dk_at dksX1_doRotate_2 10 rfl rfl)
theorem dX1_doRotate_60 : decode cX1_doRotate 60 = .ok (.iastore, 1) := dk_79 (dk_at dksX1_doRotate_2 12 rfl rfl)
theorem dX1_doRotate_61 : decode cX1_doRotate 61 = .ok (.iinc 4 1, 3) := dk_132 4 1 (dk_at dksX1_doRotate_2 13 rfl rfl)
theorem dX1_doRotate_64 : decode cX1_doRotate 64 = .ok (.goto (-16), 3) := dk_167 255 240 (dk_at dksX1_doRotate_2 16 rfl rfl)
theorem dX1_doRotate_67 : decode cX1_doRotate 67 = .ok (.iconst 0, 1) := dk_3 (dk_at dksX1_doRotate_2 19 rfl rfl)
theorem dX1_doRotate_68 : decode cX1_doRotate 68 = .ok (.istore 4, 2) := dk_54 4 (dk_at dksX1_doRotate_2 20 rfl rfl)
theorem dX1_doRotate_70 : decode cX1_doRotate 70 = .ok (.iload 4, 2) := dk_21 4 (dk_at dksX1_doRotate_2 22 rfl rfl)
theorem dX1_doRotate_72 : decode cX1_doRotate 72 = .ok (.aload_n 2, 1) := dk_44 (dk_at dksX1_doRotate_3 0 rfl rfl)
theorem dX1_doRotate_73 : decode cX1_doRotate 73 = .ok (.getfield 246, 3) := dk_180 0 246 (dk_at dksX1_doRotate_3 1 rfl rfl)
theorem dX1_doRotate_76 : decode cX1_doRotate 76 = .ok (.if_icmp .ge 44, 3) := dk_162 0 44 (dk_at dksX1_doRotate_3 4 rfl rfl)
theorem dX1_doRotate_79 : decode cX1_doRotate 79 = .ok (.iload 4, 2) := dk_21 4 (dk_at dksX1_doRotate_3 7 rfl rfl)
theorem dX1_doRotate_81 : decode cX1_doRotate 81 = .ok (.iconst 1, 1) := dk_4 (dk_at dksX1_doRotate_3 9 rfl rfl)
theorem dX1_doRotate_82 : decode cX1_doRotate 82 = .ok (.iadd, 1) := dk_96 (dk_at dksX1_doRotate_3 10 rfl rfl)
theorem dX1_doRotate_83 : decode cX1_doRotate 83 = .ok (.aload_n 2, 1) := dk_44 (dk_at dksX1_doRotate_3 11 rfl rfl)
theorem dX1_doRotate_84 : decode cX1_doRotate 84 = .ok (.getfield 246, 3) := dk_180 0 246 (dk_at dksX1_doRotate_3 12 rfl rfl)
theorem dX1_doRotate_87 : decode cX1_doRotate 87 = .ok (.if_icmp .ge 14, 3) := dk_162 0 14 (dk_at dksX1_doRotate_3 15 rfl rfl)
theorem dX1_doRotate_90 : decode cX1_doRotate 90 = .ok (.aload_n 2, 1) := dk_44 (dk_at dksX1_doRotate_3 18 rfl rfl)
theorem dX1_doRotate_91 : decode cX1_doRotate 91 = .ok (.iload 4, 2) := dk_21 4 (dk_at dksX1_doRotate_3 19 rfl rfl)
theorem dX1_doRotate_93 : decode cX1_doRotate 93 = .ok (.iconst 1, 1) := dk_4 (dk_at dksX1_doRotate_3 21 rfl rfl)
theorem dX1_doRotate_94 : decode cX1_doRotate 94 = .ok (.iadd, 1) := dk_96 (dk_at dksX1_doRotate_3 22 rfl rfl)
theorem dX1_doRotate_95 : decode cX1_doRotate 95 = .ok (.invokevirtual 247, 3) := dk_182 0 247 (dk_at dksX1_doRotate_4 0 rfl rfl)
theorem dX1_doRotate_98 : decode cX1_doRotate 98 = .ok (.goto 4, 3) := dk_167 0 4 (dk_at dksX1_doRotate_4 3 rfl rfl)
theorem dX1_doRotate_101 : decode cX1_doRotate 101 = .ok (.iload_n 1, 1) := dk_27 (dk_at dksX1_doRotate_4 6 rfl rfl)
theorem dX1_doRotate_102 : decode cX1_doRotate 102 = .ok (.istore 5, 2) := dk_54 5 (dk_at dksX1_doRotate_4 7 rfl rfl)
theorem dX1_doRotate_104 : decode cX1_doRotate 104 = .ok (.aload_n 3, 1) := dk_45 (dk_at dksX1_doRotate_4 9 rfl rfl)
theorem dX1_doRotate_105 : decode cX1_doRotate 105 = .ok (.iload 5, 2) := dk_21 5 (dk_at dksX1_doRotate_4 10 rfl rfl)
theorem dX1_doRotate_107 : decode cX1_doRotate 107 = .ok (.aload_n 2, 1) := dk_44 (dk_at dksX1_doRotate_4 12 rfl rfl)
theorem dX1_doRotate_108 : decode cX1_doRotate 108 = .ok (.iload 4, 2) := dk_21 4 (dk_at dksX1_doRotate_4 13 rfl rfl)
theorem dX1_doRotate_110 : decode cX1_doRotate 110 = .ok (.invokevirtual 247, 3) := dk_182 0 247 (dk_at dksX1_doRotate_4 15 rfl rfl)
theorem dX1_doRotate_113 : decode cX1_doRotate 113 = .ok (.iastore, 1) := dk_79 (dk_at dksX1_doRotate_4 18 rfl rfl)
theorem dX1_doRotate_114 : decode cX1_doRotate 114 = .ok (.iinc 4 1, 3) := dk_132 4 1 (dk_at dksX1_doRotate_4 19 rfl rfl)
theorem dX1_doRotate_117 : decode cX1_doRotate 117 = .ok (.goto (-47), 3) := dk_167 255 209 (dk_at dksX1_doRotate_5 0 rfl rfl)
theorem dX1_doRotate_120 : decode cX1_doRotate 120 = .ok (.iconst 0, 1) := dk_3 (dk_at dksX1_doRotate_5 3 rfl rfl)
theorem dX1_doRotate_121 : decode cX1_doRotate 121 = .ok (.istore 4, 2) := dk_54 4 (dk_at dksX1_doRotate_5 4 rfl rfl)
theorem dX1_doRotate_123 : decode cX1_doRotate 123 = .ok (.iload 4, 2) := dk_21 4 (dk_at dksX1_doRotate_5 6 rfl rfl)
theorem dX1_doRotate_125 : decode cX1_doRotate 125 = .ok (.aload_n 0, 1) := dk_42 (dk_at dksX1_doRotate_5 8 rfl rfl)
theorem dX1_doRotate_126 : decode cX1_doRotate 126 = .ok (.getfield 27, 3) := dk_180 0 27 (dk_at dksX1_doRotate_5 9 rfl rfl)
theorem dX1_doRotate_129 : decode cX1_doRotate 129 = .ok (.invokevirtual 117, 3) := dk_182 0 117 (dk_at dksX1_doRotate_5 12 rfl rfl)
theorem dX1_doRotate_132 : decode cX1_doRotate 132 = .ok (.if_icmp .ge 45, 3) := dk_162 0 45 (dk_at dksX1_doRotate_5 15 rfl rfl)
theorem dX1_doRotate_135 : decode cX1_doRotate 135 = .ok (.aload_n 0, 1) := dk_42 (dk_at dksX1_doRotate_5 18 rfl rfl)
theorem dX1_doRotate_136 : decode cX1_doRotate 136 = .ok (.getfield 27, 3) := dk_180 0 27 (dk_at dksX1_doRotate_5 19 rfl rfl)
theorem dX1_doRotate_139 : decode cX1_doRotate 139 = .ok (.getfield 192, 3) := dk_180 0 192 (dk_at dksX1_doRotate_6 0 rfl rfl)
theorem dX1_doRotate_142 : decode cX1_doRotate 142 = .ok (.iload 4, 2) := dk_21 4 (dk_at dksX1_doRotate_6 3 rfl rfl)
theorem dX1_doRotate_144 : decode cX1_doRotate 144 = .ok (.iaload, 1) := dk_46 (dk_at dksX1_doRotate_6 5 rfl rfl)
theorem dX1_doRotate_145 : decode cX1_doRotate 145 = .ok (.istore 5, 2) := dk_54 5 (dk_at dksX1_doRotate_6 6 rfl rfl)
theorem dX1_doRotate_147 : decode cX1_doRotate 147 = .ok (.aload_n 0, 1) := dk_42 (dk_at dksX1_doRotate_6 8 rfl rfl)
theorem dX1_doRotate_148 : decode cX1_doRotate 148 = .ok (.getfield 27, 3) := dk_180 0 27 (dk_at dksX1_doRotate_6 9 rfl rfl)
theorem dX1_doRotate_151 : decode cX1_doRotate 151 = .ok (.getfield 192, 3) := dk_180 0 192 (dk_at dksX1_doRotate_6 12 rfl rfl)
theorem dX1_doRotate_154 : decode cX1_doRotate 154 = .ok (.iload 4, 2) := dk_21 4 (dk_at dksX1_doRotate_6 15 rfl rfl)
theorem dX1_doRotate_156 : decode cX1_doRotate 156 = .ok (.iload 5, 2) := dk_21 5 (dk_at dksX1_doRotate_6 17 rfl rfl)
theorem dX1_doRotate_158 : decode cX1_doRotate 158 = .ok (.iconst (-1), 1) := dk_2 (dk_at dksX1_doRotate_6 19 rfl rfl)
theorem dX1_doRotate_159 : decode cX1_doRotate 159 = .ok (.if_icmp .ne 7, 3) := dk_160 0 7 (dk_at dksX1_doRotate_6 20 rfl rfl)
theorem dX1_doRotate_162 : decode cX1_doRotate 162 = .ok (.iconst (-1), 1) := dk_2 (dk_at dksX1_doRotate_6 23 rfl rfl)
theorem dX1_doRotate_163 : decode cX1_doRotate 163 = .ok (.goto 7, 3) := dk_167 0 7 (dk_at dksX1_doRotate_7 0 rfl rfl)
theorem dX1_doRotate_166 : decode cX1_doRotate 166 = .ok (.aload_n 3, 1) := dk_45 (dk_at dksX1_doRotate_7 3 rfl rfl)
theorem dX1_doRotate_167 : decode cX1_doRotate 167 = .ok (.iload 5, 2) := dk_21 5 (dk_at dksX1_doRotate_7 4 rfl rfl)
theorem dX1_doRotate_169 : decode cX1_doRotate 169 = .ok (.iaload, 1) := dk_46 (dk_at dksX1_doRotate_7 6 rfl rfl)
theorem dX1_doRotate_170 : decode cX1_doRotate 170 = .ok (.iastore, 1) := dk_79 (dk_at dksX1_doRotate_7 7 rfl rfl)
theorem dX1_doRotate_171 : decode cX1_doRotate 171 = .ok (.iinc 4 1, 3) := dk_132 4 1 (dk_at dksX1_doRotate_7 8 rfl rfl)
theorem dX1_doRotate_174 : decode cX1_doRotate 174 = .ok (.goto (-51), 3) := dk_167 255 205 (dk_at dksX1_doRotate_7 11 rfl rfl)
theorem dX1_doRotate_177 : decode cX1_doRotate 177 = .ok (.aload_n 2, 1) := dk_44 (dk_at dksX1_doRotate_7 14 rfl rfl)
theorem dX1_doRotate_178 : decode cX1_doRotate 178 = .ok (.getfield 246, 3) := dk_180 0 246 (dk_at dksX1_doRotate_7 15 rfl rfl)
theorem dX1_doRotate_181 : decode cX1_doRotate 181 = .ok (.ireturn, 1) := dk_172 (dk_at dksX1_doRotate_7 18 rfl rfl)
abbrev cX1_runScript : ByteArray := prog_1_method_79_code
def yX1_runScript : MethodName := ⟨RX1, "runScript", "()I"⟩
def dkwX1_runScript_3 : List UInt8 := [182, 1, 126, 153, 0, 9, 132, 3, 1, 167, 255, 238, 42, 44, 29, 182, 1, 66, 172]
abbrev dktX1_runScript_3 : List UInt8 := dkwX1_runScript_3 ++ []
def dkwX1_runScript_2 : List UInt8 := [187, 0, 22, 89, 42, 180, 0, 27, 183, 1, 19, 77, 3, 62, 29, 27, 162, 0, 19, 42, 7, 29, 104]
abbrev dktX1_runScript_2 : List UInt8 := dkwX1_runScript_2 ++ dktX1_runScript_3
def dkwX1_runScript_1 : List UInt8 := [182, 0, 141, 191, 78, 42, 3, 181, 0, 55, 45, 191, 42, 3, 181, 0, 75, 42, 2, 181, 0, 18]
abbrev dktX1_runScript_1 : List UInt8 := dkwX1_runScript_1 ++ dktX1_runScript_2
def dkwX1_runScript_0 : List UInt8 := [42, 187, 0, 61, 89, 42, 183, 0, 63, 182, 1, 122, 60, 42, 3, 181, 0, 55, 167, 0, 18, 77, 42, 44]
abbrev dktX1_runScript_0 : List UInt8 := dkwX1_runScript_0 ++ dktX1_runScript_1
theorem dksX1_runScript_0 : cX1_runScript.data.toList.drop 0 = dktX1_runScript_0 := by decide +kernel
theorem dksX1_runScript_1 : cX1_runScript.data.toList.drop 24 = dktX1_runScript_1 := dk_seg dksX1_runScript_0 24 rfl rfl
theorem dksX1_runScript_2 : cX1_runScript.data.toList.drop 46 = dktX1_runScript_2 := dk_seg dksX1_runScript_1 22 rfl rfl
theorem dksX1_runScript_3 : cX1_runScript.data.toList.drop 69 = dktX1_runScript_3 := dk_seg dksX1_runScript_2 23 rfl rfl
theorem dX1_runScript_0 : decode cX1_runScript 0 = .ok (.aload_n 0, 1) := dk_42 (dk_at dksX1_runScript_0 0 rfl rfl)
theorem dX1_runScript_1 : decode cX1_runScript 1 = .ok (.new 61, 3) := dk_187 0 61 (dk_at dksX1_runScript_0 1 rfl rfl)
theorem dX1_runScript_4 : decode cX1_runScript 4 = .ok (.dup, 1) := dk_89 (dk_at dksX1_runScript_0 4 rfl rfl)
theorem dX1_runScript_5 : decode cX1_runScript 5 = .ok (.aload_n 0, 1) := dk_42 (dk_at dksX1_runScript_0 5 rfl rfl)
theorem dX1_runScript_6 : decode cX1_runScript 6 = .ok (.invokespecial 63, 3) := dk_183 0 63 (dk_at dksX1_runScript_0 6 rfl rfl)
theorem dX1_runScript_9 : decode cX1_runScript 9 = .ok (.invokevirtual 378, 3) := dk_182 1 122 (dk_at dksX1_runScript_0 9 rfl rfl)
theorem dX1_runScript_12 : decode cX1_runScript 12 = .ok (.istore_n 1, 1) := dk_60 (dk_at dksX1_runScript_0 12 rfl rfl)
theorem dX1_runScript_13 : decode cX1_runScript 13 = .ok (.aload_n 0, 1) := dk_42 (dk_at dksX1_runScript_0 13 rfl rfl)
theorem dX1_runScript_14 : decode cX1_runScript 14 = .ok (.iconst 0, 1) := dk_3 (dk_at dksX1_runScript_0 14 rfl rfl)
theorem dX1_runScript_15 : decode cX1_runScript 15 = .ok (.putfield 55, 3) := dk_181 0 55 (dk_at dksX1_runScript_0 15 rfl rfl)
theorem dX1_runScript_18 : decode cX1_runScript 18 = .ok (.goto 18, 3) := dk_167 0 18 (dk_at dksX1_runScript_0 18 rfl rfl)
theorem dX1_runScript_21 : decode cX1_runScript 21 = .ok (.astore_n 2, 1) := dk_77 (dk_at dksX1_runScript_0 21 rfl rfl)
theorem dX1_runScript_22 : decode cX1_runScript 22 = .ok (.aload_n 0, 1) := dk_42 (dk_at dksX1_runScript_0 22 rfl rfl)
theorem dX1_runScript_23 : decode cX1_runScript 23 = .ok (.aload_n 2, 1) := dk_44 (dk_at dksX1_runScript_0 23 rfl rfl)
theorem dX1_runScript_24 : decode cX1_runScript 24 = .ok (.invokevirtual 141, 3) := dk_182 0 141 (dk_at dksX1_runScript_1 0 rfl rfl)
theorem dX1_runScript_27 : decode cX1_runScript 27 = .ok (.athrow, 1) := dk_191 (dk_at dksX1_runScript_1 3 rfl rfl)
theorem dX1_runScript_28 : decode cX1_runScript 28 = .ok (.astore_n 3, 1) := dk_78 (dk_at dksX1_runScript_1 4 rfl rfl)
theorem dX1_runScript_29 : decode cX1_runScript 29 = .ok (.aload_n 0, 1) := dk_42 (dk_at dksX1_runScript_1 5 rfl rfl)
theorem dX1_runScript_30 : decode cX1_runScript 30 = .ok (.iconst 0, 1) := dk_3 (dk_at dksX1_runScript_1 6 rfl rfl)
theorem dX1_runScript_31 : decode cX1_runScript 31 = .ok (.putfield 55, 3) := dk_181 0 55 (dk_at dksX1_runScript_1 7 rfl rfl)
theorem dX1_runScript_34 : decode cX1_runScript 34 = .ok (.aload_n 3, 1) := dk_45 (dk_at dksX1_runScript_1 10 rfl rfl)
theorem dX1_runScript_35 : decode cX1_runScript 35 = .ok (.athrow, 1) := dk_191 (dk_at dksX1_runScript_1 11 rfl rfl)
theorem dX1_runScript_36 : decode cX1_runScript 36 = .ok (.aload_n 0, 1) := dk_42 (dk_at dksX1_runScript_1 12 rfl rfl)
theorem dX1_runScript_37 : decode cX1_runScript 37 = .ok (.iconst 0, 1) := dk_3 (dk_at dksX1_runScript_1 13 rfl rfl)
theorem dX1_runScript_38 : decode cX1_runScript 38 = .ok (.putfield 75, 3) := dk_181 0 75 (dk_at dksX1_runScript_1 14 rfl rfl)
theorem dX1_runScript_41 : decode cX1_runScript 41 = .ok (.aload_n 0, 1) := dk_42 (dk_at dksX1_runScript_1 17 rfl rfl)
theorem dX1_runScript_42 : decode cX1_runScript 42 = .ok (.iconst (-1), 1) := dk_2 (dk_at dksX1_runScript_1 18 rfl rfl)
theorem dX1_runScript_43 : decode cX1_runScript 43 = .ok (.putfield 18, 3) := dk_181 0 18 (dk_at dksX1_runScript_1 19 rfl rfl)
theorem dX1_runScript_46 : decode cX1_runScript 46 = .ok (.new 22, 3) := dk_187 0 22 (dk_at dksX1_runScript_2 0 rfl rfl)
theorem dX1_runScript_49 : decode cX1_runScript 49 = .ok (.dup, 1) := dk_89 (dk_at dksX1_runScript_2 3 rfl rfl)
theorem dX1_runScript_50 : decode cX1_runScript 50 = .ok (.aload_n 0, 1) := dk_42 (dk_at dksX1_runScript_2 4 rfl rfl)
theorem dX1_runScript_51 : decode cX1_runScript 51 = .ok (.getfield 27, 3) := dk_180 0 27 (dk_at dksX1_runScript_2 5 rfl rfl)
theorem dX1_runScript_54 : decode cX1_runScript 54 = .ok (.invokespecial 275, 3) := dk_183 1 19 (dk_at dksX1_runScript_2 8 rfl rfl)
theorem dX1_runScript_57 : decode cX1_runScript 57 = .ok (.astore_n 2, 1) := dk_77 (dk_at dksX1_runScript_2 11 rfl rfl)
theorem dX1_runScript_58 : decode cX1_runScript 58 = .ok (.iconst 0, 1) := dk_3 (dk_at dksX1_runScript_2 12 rfl rfl)
theorem dX1_runScript_59 : decode cX1_runScript 59 = .ok (.istore_n 3, 1) := dk_62 (dk_at dksX1_runScript_2 13 rfl rfl)
theorem dX1_runScript_60 : decode cX1_runScript 60 = .ok (.iload_n 3, 1) := dk_29 (dk_at dksX1_runScript_2 14 rfl rfl)
theorem dX1_runScript_61 : decode cX1_runScript 61 = .ok (.iload_n 1, 1) := dk_27 (dk_at dksX1_runScript_2 15 rfl rfl)
theorem dX1_runScript_62 : decode cX1_runScript 62 = .ok (.if_icmp .ge 19, 3) := dk_162 0 19 (dk_at dksX1_runScript_2 16 rfl rfl)
theorem dX1_runScript_65 : decode cX1_runScript 65 = .ok (.aload_n 0, 1) := dk_42 (dk_at dksX1_runScript_2 19 rfl rfl)
theorem dX1_runScript_66 : decode cX1_runScript 66 = .ok (.iconst 4, 1) := dk_7 (dk_at dksX1_runScript_2 20 rfl rfl)
theorem dX1_runScript_67 : decode cX1_runScript 67 = .ok (.iload_n 3, 1) := dk_29 (dk_at dksX1_runScript_2 21 rfl rfl)
theorem dX1_runScript_68 : decode cX1_runScript 68 = .ok (.imul, 1) := dk_104 (dk_at dksX1_runScript_2 22 rfl rfl)
theorem dX1_runScript_69 : decode cX1_runScript 69 = .ok (.invokevirtual 382, 3) := dk_182 1 126 (dk_at dksX1_runScript_3 0 rfl rfl)
theorem dX1_runScript_72 : decode cX1_runScript 72 = .ok (.ifCond .eq 9, 3) := dk_153 0 9 (dk_at dksX1_runScript_3 3 rfl rfl)
theorem dX1_runScript_75 : decode cX1_runScript 75 = .ok (.iinc 3 1, 3) := dk_132 3 1 (dk_at dksX1_runScript_3 6 rfl rfl)
theorem dX1_runScript_78 : decode cX1_runScript 78 = .ok (.goto (-18), 3) := dk_167 255 238 (dk_at dksX1_runScript_3 9 rfl rfl)
theorem dX1_runScript_81 : decode cX1_runScript 81 = .ok (.aload_n 0, 1) := dk_42 (dk_at dksX1_runScript_3 12 rfl rfl)
theorem dX1_runScript_82 : decode cX1_runScript 82 = .ok (.aload_n 2, 1) := dk_44 (dk_at dksX1_runScript_3 13 rfl rfl)
theorem dX1_runScript_83 : decode cX1_runScript 83 = .ok (.iload_n 3, 1) := dk_29 (dk_at dksX1_runScript_3 14 rfl rfl)
theorem dX1_runScript_84 : decode cX1_runScript 84 = .ok (.invokevirtual 322, 3) := dk_182 1 66 (dk_at dksX1_runScript_3 15 rfl rfl)
theorem dX1_runScript_87 : decode cX1_runScript 87 = .ok (.ireturn, 1) := dk_172 (dk_at dksX1_runScript_3 18 rfl rfl)
abbrev cX1_parseScript : ByteArray := prog_1_method_76_code
def yX1_parseScript : MethodName := ⟨RX1, "parseScript", "(LCakeDivision$Scanner;)I"⟩
def dkwX1_parseScript_5 : List UInt8 := [182, 0, 97, 132, 2, 1, 167, 255, 137, 28, 172]
abbrev dktX1_parseScript_5 : List UInt8 := dkwX1_parseScript_5 ++ []
def dkwX1_parseScript_4 : List UInt8 := [182, 1, 111, 42, 180, 0, 42, 7, 28, 104, 29, 79, 42, 43, 29, 7, 28, 104, 182, 1, 114, 43]
abbrev dktX1_parseScript_4 : List UInt8 := dkwX1_parseScript_4 ++ dktX1_parseScript_5
def dkwX1_parseScript_3 : List UInt8 := [160, 0, 9, 43, 4, 182, 0, 109, 191, 28, 16, 30, 160, 0, 9, 43, 7, 182, 0, 109, 191, 43]
abbrev dktX1_parseScript_3 : List UInt8 := dkwX1_parseScript_3 ++ dktX1_parseScript_4
def dkwX1_parseScript_2 : List UInt8 := [19, 1, 101, 83, 89, 16, 6, 19, 1, 103, 83, 89, 16, 7, 19, 1, 105, 83, 182, 1, 107, 62, 29, 2]
abbrev dktX1_parseScript_2 : List UInt8 := dkwX1_parseScript_2 ++ dktX1_parseScript_3
def dkwX1_parseScript_1 : List UInt8 := [19, 1, 94, 83, 89, 5, 19, 1, 96, 83, 89, 6, 19, 1, 98, 83, 89, 7, 19, 1, 99, 83, 89, 8]
abbrev dktX1_parseScript_1 : List UInt8 := dkwX1_parseScript_1 ++ dktX1_parseScript_2
def dkwX1_parseScript_0 : List UInt8 := [3, 61, 43, 180, 0, 135, 153, 0, 118, 43, 16, 8, 189, 0, 50, 89, 3, 19, 1, 93, 83, 89, 4]
abbrev dktX1_parseScript_0 : List UInt8 := dkwX1_parseScript_0 ++ dktX1_parseScript_1
theorem dksX1_parseScript_0 : cX1_parseScript.data.toList.drop 0 = dktX1_parseScript_0 := by decide +kernel
theorem dksX1_parseScript_1 : cX1_parseScript.data.toList.drop 23 = dktX1_parseScript_1 := dk_seg dksX1_parseScript_0 23 rfl rfl
theorem dksX1_parseScript_2 : cX1_parseScript.data.toList.drop 47 = dktX1_parseScript_2 := dk_seg dksX1_parseScript_1 24 rfl rfl
theorem dksX1_parseScript_3 : cX1_parseScript.data.toList.drop 71 = dktX1_parseScript_3 := dk_seg dksX1_parseScript_2 24 rfl rfl
theorem dksX1_parseScript_4 : cX1_parseScript.data.toList.drop 93 = dktX1_parseScript_4 := dk_seg dksX1_parseScript_3 22 rfl rfl
theorem dksX1_parseScript_5 : cX1_parseScript.data.toList.drop 115 = dktX1_parseScript_5 := dk_seg dksX1_parseScript_4 22 rfl rfl
theorem dX1_parseScript_0 : decode cX1_parseScript 0 = .ok (.iconst 0, 1) := dk_3 (dk_at dksX1_parseScript_0 0 rfl rfl)
theorem dX1_parseScript_1 : decode cX1_parseScript 1 = .ok (.istore_n 2, 1) := dk_61 (dk_at dksX1_parseScript_0 1 rfl rfl)
theorem dX1_parseScript_2 : decode cX1_parseScript 2 = .ok (.aload_n 1, 1) := dk_43 (dk_at dksX1_parseScript_0 2 rfl rfl)
theorem dX1_parseScript_3 : decode cX1_parseScript 3 = .ok (.getfield 135, 3) := dk_180 0 135 (dk_at dksX1_parseScript_0 3 rfl rfl)
theorem dX1_parseScript_6 : decode cX1_parseScript 6 = .ok (.ifCond .eq 118, 3) := dk_153 0 118 (dk_at dksX1_parseScript_0 6 rfl rfl)
theorem dX1_parseScript_9 : decode cX1_parseScript 9 = .ok (.aload_n 1, 1) := dk_43 (dk_at dksX1_parseScript_0 9 rfl rfl)
theorem dX1_parseScript_10 : decode cX1_parseScript 10 = .ok (.bipush 8, 2) := dk_16 8 (dk_at dksX1_parseScript_0 10 rfl rfl)
theorem dX1_parseScript_12 : decode cX1_parseScript 12 = .ok (.anewarray 50, 3) := dk_189 0 50 (dk_at dksX1_parseScript_0 12 rfl rfl)
theorem dX1_parseScript_15 : decode cX1_parseScript 15 = .ok (.dup, 1) := dk_89 (dk_at dksX1_parseScript_0 15 rfl rfl)
theorem dX1_parseScript_16 : decode cX1_parseScript 16 = .ok (.iconst 0, 1) := dk_3 (dk_at dksX1_parseScript_0 16 rfl rfl)
theorem dX1_parseScript_17 : decode cX1_parseScript 17 = .ok (.ldc_w 349, 3) := dk_19 1 93 (dk_at dksX1_parseScript_0 17 rfl rfl)
theorem dX1_parseScript_20 : decode cX1_parseScript 20 = .ok (.aastore, 1) := dk_83 (dk_at dksX1_parseScript_0 20 rfl rfl)
theorem dX1_parseScript_21 : decode cX1_parseScript 21 = .ok (.dup, 1) := dk_89 (dk_at dksX1_parseScript_0 21 rfl rfl)
theorem dX1_parseScript_22 : decode cX1_parseScript 22 = .ok (.iconst 1, 1) := dk_4 (dk_at dksX1_parseScript_0 22 rfl rfl)
theorem dX1_parseScript_23 : decode cX1_parseScript 23 = .ok (.ldc_w 350, 3) := dk_19 1 94 (dk_at dksX1_parseScript_1 0 rfl rfl)
theorem dX1_parseScript_26 : decode cX1_parseScript 26 = .ok (.aastore, 1) := dk_83 (dk_at dksX1_parseScript_1 3 rfl rfl)
theorem dX1_parseScript_27 : decode cX1_parseScript 27 = .ok (.dup, 1) := dk_89 (dk_at dksX1_parseScript_1 4 rfl rfl)
theorem dX1_parseScript_28 : decode cX1_parseScript 28 = .ok (.iconst 2, 1) := dk_5 (dk_at dksX1_parseScript_1 5 rfl rfl)
theorem dX1_parseScript_29 : decode cX1_parseScript 29 = .ok (.ldc_w 352, 3) := dk_19 1 96 (dk_at dksX1_parseScript_1 6 rfl rfl)
theorem dX1_parseScript_32 : decode cX1_parseScript 32 = .ok (.aastore, 1) := dk_83 (dk_at dksX1_parseScript_1 9 rfl rfl)
theorem dX1_parseScript_33 : decode cX1_parseScript 33 = .ok (.dup, 1) := dk_89 (dk_at dksX1_parseScript_1 10 rfl rfl)
theorem dX1_parseScript_34 : decode cX1_parseScript 34 = .ok (.iconst 3, 1) := dk_6 (dk_at dksX1_parseScript_1 11 rfl rfl)
theorem dX1_parseScript_35 : decode cX1_parseScript 35 = .ok (.ldc_w 354, 3) := dk_19 1 98 (dk_at dksX1_parseScript_1 12 rfl rfl)
theorem dX1_parseScript_38 : decode cX1_parseScript 38 = .ok (.aastore, 1) := dk_83 (dk_at dksX1_parseScript_1 15 rfl rfl)
theorem dX1_parseScript_39 : decode cX1_parseScript 39 = .ok (.dup, 1) := dk_89 (dk_at dksX1_parseScript_1 16 rfl rfl)
theorem dX1_parseScript_40 : decode cX1_parseScript 40 = .ok (.iconst 4, 1) := dk_7 (dk_at dksX1_parseScript_1 17 rfl rfl)
theorem dX1_parseScript_41 : decode cX1_parseScript 41 = .ok (.ldc_w 355, 3) := dk_19 1 99 (dk_at dksX1_parseScript_1 18 rfl rfl)
theorem dX1_parseScript_44 : decode cX1_parseScript 44 = .ok (.aastore, 1) := dk_83 (dk_at dksX1_parseScript_1 21 rfl rfl)
theorem dX1_parseScript_45 : decode cX1_parseScript 45 = .ok (.dup, 1) := dk_89 (dk_at dksX1_parseScript_1 22 rfl rfl)
theorem dX1_parseScript_46 : decode cX1_parseScript 46 = .ok (.iconst 5, 1) := dk_8 (dk_at dksX1_parseScript_1 23 rfl rfl)
theorem dX1_parseScript_47 : decode cX1_parseScript 47 = .ok (.ldc_w 357, 3) := dk_19 1 101 (dk_at dksX1_parseScript_2 0 rfl rfl)
theorem dX1_parseScript_50 : decode cX1_parseScript 50 = .ok (.aastore, 1) := dk_83 (dk_at dksX1_parseScript_2 3 rfl rfl)
theorem dX1_parseScript_51 : decode cX1_parseScript 51 = .ok (.dup, 1) := dk_89 (dk_at dksX1_parseScript_2 4 rfl rfl)
theorem dX1_parseScript_52 : decode cX1_parseScript 52 = .ok (.bipush 6, 2) := dk_16 6 (dk_at dksX1_parseScript_2 5 rfl rfl)
theorem dX1_parseScript_54 : decode cX1_parseScript 54 = .ok (.ldc_w 359, 3) := dk_19 1 103 (dk_at dksX1_parseScript_2 7 rfl rfl)
theorem dX1_parseScript_57 : decode cX1_parseScript 57 = .ok (.aastore, 1) := dk_83 (dk_at dksX1_parseScript_2 10 rfl rfl)
theorem dX1_parseScript_58 : decode cX1_parseScript 58 = .ok (.dup, 1) := dk_89 (dk_at dksX1_parseScript_2 11 rfl rfl)
theorem dX1_parseScript_59 : decode cX1_parseScript 59 = .ok (.bipush 7, 2) := dk_16 7 (dk_at dksX1_parseScript_2 12 rfl rfl)
theorem dX1_parseScript_61 : decode cX1_parseScript 61 = .ok (.ldc_w 361, 3) := dk_19 1 105 (dk_at dksX1_parseScript_2 14 rfl rfl)
theorem dX1_parseScript_64 : decode cX1_parseScript 64 = .ok (.aastore, 1) := dk_83 (dk_at dksX1_parseScript_2 17 rfl rfl)
theorem dX1_parseScript_65 : decode cX1_parseScript 65 = .ok (.invokevirtual 363, 3) := dk_182 1 107 (dk_at dksX1_parseScript_2 18 rfl rfl)
theorem dX1_parseScript_68 : decode cX1_parseScript 68 = .ok (.istore_n 3, 1) := dk_62 (dk_at dksX1_parseScript_2 21 rfl rfl)
theorem dX1_parseScript_69 : decode cX1_parseScript 69 = .ok (.iload_n 3, 1) := dk_29 (dk_at dksX1_parseScript_2 22 rfl rfl)
theorem dX1_parseScript_70 : decode cX1_parseScript 70 = .ok (.iconst (-1), 1) := dk_2 (dk_at dksX1_parseScript_2 23 rfl rfl)
theorem dX1_parseScript_71 : decode cX1_parseScript 71 = .ok (.if_icmp .ne 9, 3) := dk_160 0 9 (dk_at dksX1_parseScript_3 0 rfl rfl)
theorem dX1_parseScript_74 : decode cX1_parseScript 74 = .ok (.aload_n 1, 1) := dk_43 (dk_at dksX1_parseScript_3 3 rfl rfl)
theorem dX1_parseScript_75 : decode cX1_parseScript 75 = .ok (.iconst 1, 1) := dk_4 (dk_at dksX1_parseScript_3 4 rfl rfl)
theorem dX1_parseScript_76 : decode cX1_parseScript 76 = .ok (.invokevirtual 109, 3) := dk_182 0 109 (dk_at dksX1_parseScript_3 5 rfl rfl)
theorem dX1_parseScript_79 : decode cX1_parseScript 79 = .ok (.athrow, 1) := dk_191 (dk_at dksX1_parseScript_3 8 rfl rfl)
theorem dX1_parseScript_80 : decode cX1_parseScript 80 = .ok (.iload_n 2, 1) := dk_28 (dk_at dksX1_parseScript_3 9 rfl rfl)
theorem dX1_parseScript_81 : decode cX1_parseScript 81 = .ok (.bipush 30, 2) := dk_16 30 (dk_at dksX1_parseScript_3 10 rfl rfl)
theorem dX1_parseScript_83 : decode cX1_parseScript 83 = .ok (.if_icmp .ne 9, 3) := dk_160 0 9 (dk_at dksX1_parseScript_3 12 rfl rfl)
theorem dX1_parseScript_86 : decode cX1_parseScript 86 = .ok (.aload_n 1, 1) := dk_43 (dk_at dksX1_parseScript_3 15 rfl rfl)
theorem dX1_parseScript_87 : decode cX1_parseScript 87 = .ok (.iconst 4, 1) := dk_7 (dk_at dksX1_parseScript_3 16 rfl rfl)
theorem dX1_parseScript_88 : decode cX1_parseScript 88 = .ok (.invokevirtual 109, 3) := dk_182 0 109 (dk_at dksX1_parseScript_3 17 rfl rfl)
theorem dX1_parseScript_91 : decode cX1_parseScript 91 = .ok (.athrow, 1) := dk_191 (dk_at dksX1_parseScript_3 20 rfl rfl)
theorem dX1_parseScript_92 : decode cX1_parseScript 92 = .ok (.aload_n 1, 1) := dk_43 (dk_at dksX1_parseScript_3 21 rfl rfl)
theorem dX1_parseScript_93 : decode cX1_parseScript 93 = .ok (.invokevirtual 367, 3) := dk_182 1 111 (dk_at dksX1_parseScript_4 0 rfl rfl)
theorem dX1_parseScript_96 : decode cX1_parseScript 96 = .ok (.aload_n 0, 1) := dk_42 (dk_at dksX1_parseScript_4 3 rfl rfl)
theorem dX1_parseScript_97 : decode cX1_parseScript 97 = .ok (.getfield 42, 3) := dk_180 0 42 (dk_at dksX1_parseScript_4 4 rfl rfl)
theorem dX1_parseScript_100 : decode cX1_parseScript 100 = .ok (.iconst 4, 1) := dk_7 (dk_at dksX1_parseScript_4 7 rfl rfl)
theorem dX1_parseScript_101 : decode cX1_parseScript 101 = .ok (.iload_n 2, 1) := dk_28 (dk_at dksX1_parseScript_4 8 rfl rfl)
theorem dX1_parseScript_102 : decode cX1_parseScript 102 = .ok (.imul, 1) := dk_104 (dk_at dksX1_parseScript_4 9 rfl rfl)
theorem dX1_parseScript_103 : decode cX1_parseScript 103 = .ok (.iload_n 3, 1) := dk_29 (dk_at dksX1_parseScript_4 10 rfl rfl)
theorem dX1_parseScript_104 : decode cX1_parseScript 104 = .ok (.iastore, 1) := dk_79 (dk_at dksX1_parseScript_4 11 rfl rfl)
theorem dX1_parseScript_105 : decode cX1_parseScript 105 = .ok (.aload_n 0, 1) := dk_42 (dk_at dksX1_parseScript_4 12 rfl rfl)
theorem dX1_parseScript_106 : decode cX1_parseScript 106 = .ok (.aload_n 1, 1) := dk_43 (dk_at dksX1_parseScript_4 13 rfl rfl)
theorem dX1_parseScript_107 : decode cX1_parseScript 107 = .ok (.iload_n 3, 1) := dk_29 (dk_at dksX1_parseScript_4 14 rfl rfl)
theorem dX1_parseScript_108 : decode cX1_parseScript 108 = .ok (.iconst 4, 1) := dk_7 (dk_at dksX1_parseScript_4 15 rfl rfl)
theorem dX1_parseScript_109 : decode cX1_parseScript 109 = .ok (.iload_n 2, 1) := dk_28 (dk_at dksX1_parseScript_4 16 rfl rfl)
theorem dX1_parseScript_110 : decode cX1_parseScript 110 = .ok (.imul, 1) := dk_104 (dk_at dksX1_parseScript_4 17 rfl rfl)
theorem dX1_parseScript_111 : decode cX1_parseScript 111 = .ok (.invokevirtual 370, 3) := dk_182 1 114 (dk_at dksX1_parseScript_4 18 rfl rfl)
theorem dX1_parseScript_114 : decode cX1_parseScript 114 = .ok (.aload_n 1, 1) := dk_43 (dk_at dksX1_parseScript_4 21 rfl rfl)
theorem dX1_parseScript_115 : decode cX1_parseScript 115 = .ok (.invokevirtual 97, 3) := dk_182 0 97 (dk_at dksX1_parseScript_5 0 rfl rfl)
theorem dX1_parseScript_118 : decode cX1_parseScript 118 = .ok (.iinc 2 1, 3) := dk_132 2 1 (dk_at dksX1_parseScript_5 3 rfl rfl)
theorem dX1_parseScript_121 : decode cX1_parseScript 121 = .ok (.goto (-119), 3) := dk_167 255 137 (dk_at dksX1_parseScript_5 6 rfl rfl)
theorem dX1_parseScript_124 : decode cX1_parseScript 124 = .ok (.iload_n 2, 1) := dk_28 (dk_at dksX1_parseScript_5 9 rfl rfl)
theorem dX1_parseScript_125 : decode cX1_parseScript 125 = .ok (.ireturn, 1) := dk_172 (dk_at dksX1_parseScript_5 10 rfl rfl)
abbrev cX1_parseArguments : ByteArray := prog_1_method_75_code
def yX1_parseArguments : MethodName := ⟨RX1, "parseArguments", "(LCakeDivision$Scanner;II)V"⟩
def dkwX1_parseArguments_3 : List UInt8 := [182, 1, 91, 79, 42, 180, 0, 42, 29, 6, 96, 43, 182, 1, 91, 79, 177]
abbrev dktX1_parseArguments_3 : List UInt8 := dkwX1_parseArguments_3 ++ []
def dkwX1_parseArguments_2 : List UInt8 := [29, 5, 96, 43, 182, 1, 88, 79, 167, 0, 32, 28, 6, 163, 0, 27, 42, 180, 0, 42, 29, 5, 96, 43]
abbrev dktX1_parseArguments_2 : List UInt8 := dkwX1_parseArguments_2 ++ dktX1_parseArguments_3
def dkwX1_parseArguments_1 : List UInt8 := [159, 0, 15, 42, 180, 0, 42, 29, 4, 96, 43, 182, 1, 88, 79, 21, 4, 153, 0, 18, 42, 180, 0, 42]
abbrev dktX1_parseArguments_1 : List UInt8 := dkwX1_parseArguments_1 ++ dktX1_parseArguments_2
def dkwX1_parseArguments_0 : List UInt8 := [28, 5, 159, 0, 8, 28, 7, 160, 0, 7, 4, 167, 0, 4, 3, 54, 4, 28, 4, 159, 0, 20, 28, 8]
abbrev dktX1_parseArguments_0 : List UInt8 := dkwX1_parseArguments_0 ++ dktX1_parseArguments_1
theorem dksX1_parseArguments_0 : cX1_parseArguments.data.toList.drop 0 = dktX1_parseArguments_0 := by decide +kernel
theorem dksX1_parseArguments_1 : cX1_parseArguments.data.toList.drop 24 = dktX1_parseArguments_1 := dk_seg dksX1_parseArguments_0 24 rfl rfl
theorem dksX1_parseArguments_2 : cX1_parseArguments.data.toList.drop 48 = dktX1_parseArguments_2 := dk_seg dksX1_parseArguments_1 24 rfl rfl
theorem dksX1_parseArguments_3 : cX1_parseArguments.data.toList.drop 72 = dktX1_parseArguments_3 := dk_seg dksX1_parseArguments_2 24 rfl rfl
theorem dX1_parseArguments_0 : decode cX1_parseArguments 0 = .ok (.iload_n 2, 1) := dk_28 (dk_at dksX1_parseArguments_0 0 rfl rfl)
theorem dX1_parseArguments_1 : decode cX1_parseArguments 1 = .ok (.iconst 2, 1) := dk_5 (dk_at dksX1_parseArguments_0 1 rfl rfl)
theorem dX1_parseArguments_2 : decode cX1_parseArguments 2 = .ok (.if_icmp .eq 8, 3) := dk_159 0 8 (dk_at dksX1_parseArguments_0 2 rfl rfl)
theorem dX1_parseArguments_5 : decode cX1_parseArguments 5 = .ok (.iload_n 2, 1) := dk_28 (dk_at dksX1_parseArguments_0 5 rfl rfl)
theorem dX1_parseArguments_6 : decode cX1_parseArguments 6 = .ok (.iconst 4, 1) := dk_7 (dk_at dksX1_parseArguments_0 6 rfl rfl)
theorem dX1_parseArguments_7 : decode cX1_parseArguments 7 = .ok (.if_icmp .ne 7, 3) := dk_160 0 7 (dk_at dksX1_parseArguments_0 7 rfl rfl)
theorem dX1_parseArguments_10 : decode cX1_parseArguments 10 = .ok (.iconst 1, 1) := dk_4 (dk_at dksX1_parseArguments_0 10 rfl rfl)
theorem dX1_parseArguments_11 : decode cX1_parseArguments 11 = .ok (.goto 4, 3) := dk_167 0 4 (dk_at dksX1_parseArguments_0 11 rfl rfl)
theorem dX1_parseArguments_14 : decode cX1_parseArguments 14 = .ok (.iconst 0, 1) := dk_3 (dk_at dksX1_parseArguments_0 14 rfl rfl)
theorem dX1_parseArguments_15 : decode cX1_parseArguments 15 = .ok (.istore 4, 2) := dk_54 4 (dk_at dksX1_parseArguments_0 15 rfl rfl)
theorem dX1_parseArguments_17 : decode cX1_parseArguments 17 = .ok (.iload_n 2, 1) := dk_28 (dk_at dksX1_parseArguments_0 17 rfl rfl)
theorem dX1_parseArguments_18 : decode cX1_parseArguments 18 = .ok (.iconst 1, 1) := dk_4 (dk_at dksX1_parseArguments_0 18 rfl rfl)
theorem dX1_parseArguments_19 : decode cX1_parseArguments 19 = .ok (.if_icmp .eq 20, 3) := dk_159 0 20 (dk_at dksX1_parseArguments_0 19 rfl rfl)
theorem dX1_parseArguments_22 : decode cX1_parseArguments 22 = .ok (.iload_n 2, 1) := dk_28 (dk_at dksX1_parseArguments_0 22 rfl rfl)
theorem dX1_parseArguments_23 : decode cX1_parseArguments 23 = .ok (.iconst 5, 1) := dk_8 (dk_at dksX1_parseArguments_0 23 rfl rfl)
theorem dX1_parseArguments_24 : decode cX1_parseArguments 24 = .ok (.if_icmp .eq 15, 3) := dk_159 0 15 (dk_at dksX1_parseArguments_1 0 rfl rfl)
theorem dX1_parseArguments_27 : decode cX1_parseArguments 27 = .ok (.aload_n 0, 1) := dk_42 (dk_at dksX1_parseArguments_1 3 rfl rfl)
theorem dX1_parseArguments_28 : decode cX1_parseArguments 28 = .ok (.getfield 42, 3) := dk_180 0 42 (dk_at dksX1_parseArguments_1 4 rfl rfl)
theorem dX1_parseArguments_31 : decode cX1_parseArguments 31 = .ok (.iload_n 3, 1) := dk_29 (dk_at dksX1_parseArguments_1 7 rfl rfl)
theorem dX1_parseArguments_32 : decode cX1_parseArguments 32 = .ok (.iconst 1, 1) := dk_4 (dk_at dksX1_parseArguments_1 8 rfl rfl)
theorem dX1_parseArguments_33 : decode cX1_parseArguments 33 = .ok (.iadd, 1) := dk_96 (dk_at dksX1_parseArguments_1 9 rfl rfl)
theorem dX1_parseArguments_34 : decode cX1_parseArguments 34 = .ok (.aload_n 1, 1) := dk_43 (dk_at dksX1_parseArguments_1 10 rfl rfl)
theorem dX1_parseArguments_35 : decode cX1_parseArguments 35 = .ok (.invokevirtual 344, 3) := dk_182 1 88 (dk_at dksX1_parseArguments_1 11 rfl rfl)
theorem dX1_parseArguments_38 : decode cX1_parseArguments 38 = .ok (.iastore, 1) := dk_79 (dk_at dksX1_parseArguments_1 14 rfl rfl)
theorem dX1_parseArguments_39 : decode cX1_parseArguments 39 = .ok (.iload 4, 2) := dk_21 4 (dk_at dksX1_parseArguments_1 15 rfl rfl)
theorem dX1_parseArguments_41 : decode cX1_parseArguments 41 = .ok (.ifCond .eq 18, 3) := dk_153 0 18 (dk_at dksX1_parseArguments_1 17 rfl rfl)
theorem dX1_parseArguments_44 : decode cX1_parseArguments 44 = .ok (.aload_n 0, 1) := dk_42 (dk_at dksX1_parseArguments_1 20 rfl rfl)
theorem dX1_parseArguments_45 : decode cX1_parseArguments 45 = .ok (.getfield 42, 3) := dk_180 0 42 (dk_at dksX1_parseArguments_1 21 rfl rfl)
theorem dX1_parseArguments_48 : decode cX1_parseArguments 48 = .ok (.iload_n 3, 1) := dk_29 (dk_at dksX1_parseArguments_2 0 rfl rfl)
theorem dX1_parseArguments_49 : decode cX1_parseArguments 49 = .ok (.iconst 2, 1) := dk_5 (dk_at dksX1_parseArguments_2 1 rfl rfl)
theorem dX1_parseArguments_50 : decode cX1_parseArguments 50 = .ok (.iadd, 1) := dk_96 (dk_at dksX1_parseArguments_2 2 rfl rfl)
theorem dX1_parseArguments_51 : decode cX1_parseArguments 51 = .ok (.aload_n 1, 1) := dk_43 (dk_at dksX1_parseArguments_2 3 rfl rfl)
theorem dX1_parseArguments_52 : decode cX1_parseArguments 52 = .ok (.invokevirtual 344, 3) := dk_182 1 88 (dk_at dksX1_parseArguments_2 4 rfl rfl)
theorem dX1_parseArguments_55 : decode cX1_parseArguments 55 = .ok (.iastore, 1) := dk_79 (dk_at dksX1_parseArguments_2 7 rfl rfl)
theorem dX1_parseArguments_56 : decode cX1_parseArguments 56 = .ok (.goto 32, 3) := dk_167 0 32 (dk_at dksX1_parseArguments_2 8 rfl rfl)
theorem dX1_parseArguments_59 : decode cX1_parseArguments 59 = .ok (.iload_n 2, 1) := dk_28 (dk_at dksX1_parseArguments_2 11 rfl rfl)
theorem dX1_parseArguments_60 : decode cX1_parseArguments 60 = .ok (.iconst 3, 1) := dk_6 (dk_at dksX1_parseArguments_2 12 rfl rfl)
theorem dX1_parseArguments_61 : decode cX1_parseArguments 61 = .ok (.if_icmp .gt 27, 3) := dk_163 0 27 (dk_at dksX1_parseArguments_2 13 rfl rfl)
theorem dX1_parseArguments_64 : decode cX1_parseArguments 64 = .ok (.aload_n 0, 1) := dk_42 (dk_at dksX1_parseArguments_2 16 rfl rfl)
theorem dX1_parseArguments_65 : decode cX1_parseArguments 65 = .ok (.getfield 42, 3) := dk_180 0 42 (dk_at dksX1_parseArguments_2 17 rfl rfl)
theorem dX1_parseArguments_68 : decode cX1_parseArguments 68 = .ok (.iload_n 3, 1) := dk_29 (dk_at dksX1_parseArguments_2 20 rfl rfl)
theorem dX1_parseArguments_69 : decode cX1_parseArguments 69 = .ok (.iconst 2, 1) := dk_5 (dk_at dksX1_parseArguments_2 21 rfl rfl)
theorem dX1_parseArguments_70 : decode cX1_parseArguments 70 = .ok (.iadd, 1) := dk_96 (dk_at dksX1_parseArguments_2 22 rfl rfl)
theorem dX1_parseArguments_71 : decode cX1_parseArguments 71 = .ok (.aload_n 1, 1) := dk_43 (dk_at dksX1_parseArguments_2 23 rfl rfl)
theorem dX1_parseArguments_72 : decode cX1_parseArguments 72 = .ok (.invokevirtual 347, 3) := dk_182 1 91 (dk_at dksX1_parseArguments_3 0 rfl rfl)
theorem dX1_parseArguments_75 : decode cX1_parseArguments 75 = .ok (.iastore, 1) := dk_79 (dk_at dksX1_parseArguments_3 3 rfl rfl)
theorem dX1_parseArguments_76 : decode cX1_parseArguments 76 = .ok (.aload_n 0, 1) := dk_42 (dk_at dksX1_parseArguments_3 4 rfl rfl)
theorem dX1_parseArguments_77 : decode cX1_parseArguments 77 = .ok (.getfield 42, 3) := dk_180 0 42 (dk_at dksX1_parseArguments_3 5 rfl rfl)
theorem dX1_parseArguments_80 : decode cX1_parseArguments 80 = .ok (.iload_n 3, 1) := dk_29 (dk_at dksX1_parseArguments_3 8 rfl rfl)
theorem dX1_parseArguments_81 : decode cX1_parseArguments 81 = .ok (.iconst 3, 1) := dk_6 (dk_at dksX1_parseArguments_3 9 rfl rfl)
theorem dX1_parseArguments_82 : decode cX1_parseArguments 82 = .ok (.iadd, 1) := dk_96 (dk_at dksX1_parseArguments_3 10 rfl rfl)
theorem dX1_parseArguments_83 : decode cX1_parseArguments 83 = .ok (.aload_n 1, 1) := dk_43 (dk_at dksX1_parseArguments_3 11 rfl rfl)
theorem dX1_parseArguments_84 : decode cX1_parseArguments 84 = .ok (.invokevirtual 347, 3) := dk_182 1 91 (dk_at dksX1_parseArguments_3 12 rfl rfl)
theorem dX1_parseArguments_87 : decode cX1_parseArguments 87 = .ok (.iastore, 1) := dk_79 (dk_at dksX1_parseArguments_3 15 rfl rfl)
theorem dX1_parseArguments_88 : decode cX1_parseArguments 88 = .ok (.return_, 1) := dk_177 (dk_at dksX1_parseArguments_3 16 rfl rfl)
abbrev cX1_executed : ByteArray := prog_1_method_78_code
def yX1_executed : MethodName := ⟨RX1, "executed", "(I)Z"⟩
def dkwX1_executed_1 : List UInt8 := [180, 0, 42, 27, 6, 96, 46, 182, 1, 118, 4, 172, 77, 3, 172]
abbrev dktX1_executed_1 : List UInt8 := dkwX1_executed_1 ++ []
def dkwX1_executed_0 : List UInt8 := [42, 42, 180, 0, 42, 27, 46, 42, 180, 0, 42, 27, 4, 96, 46, 42, 180, 0, 42, 27, 5, 96, 46, 42]
abbrev dktX1_executed_0 : List UInt8 := dkwX1_executed_0 ++ dktX1_executed_1
theorem dksX1_executed_0 : cX1_executed.data.toList.drop 0 = dktX1_executed_0 := by decide +kernel
theorem dksX1_executed_1 : cX1_executed.data.toList.drop 24 = dktX1_executed_1 := dk_seg dksX1_executed_0 24 rfl rfl
theorem dX1_executed_0 : decode cX1_executed 0 = .ok (.aload_n 0, 1) := dk_42 (dk_at dksX1_executed_0 0 rfl rfl)
theorem dX1_executed_1 : decode cX1_executed 1 = .ok (.aload_n 0, 1) := dk_42 (dk_at dksX1_executed_0 1 rfl rfl)
theorem dX1_executed_2 : decode cX1_executed 2 = .ok (.getfield 42, 3) := dk_180 0 42 (dk_at dksX1_executed_0 2 rfl rfl)
theorem dX1_executed_5 : decode cX1_executed 5 = .ok (.iload_n 1, 1) := dk_27 (dk_at dksX1_executed_0 5 rfl rfl)
theorem dX1_executed_6 : decode cX1_executed 6 = .ok (.iaload, 1) := dk_46 (dk_at dksX1_executed_0 6 rfl rfl)
theorem dX1_executed_7 : decode cX1_executed 7 = .ok (.aload_n 0, 1) := dk_42 (dk_at dksX1_executed_0 7 rfl rfl)
theorem dX1_executed_8 : decode cX1_executed 8 = .ok (.getfield 42, 3) := dk_180 0 42 (dk_at dksX1_executed_0 8 rfl rfl)
theorem dX1_executed_11 : decode cX1_executed 11 = .ok (.iload_n 1, 1) := dk_27 (dk_at dksX1_executed_0 11 rfl rfl)
theorem dX1_executed_12 : decode cX1_executed 12 = .ok (.iconst 1, 1) := dk_4 (dk_at dksX1_executed_0 12 rfl rfl)
theorem dX1_executed_13 : decode cX1_executed 13 = .ok (.iadd, 1) := dk_96 (dk_at dksX1_executed_0 13 rfl rfl)
theorem dX1_executed_14 : decode cX1_executed 14 = .ok (.iaload, 1) := dk_46 (dk_at dksX1_executed_0 14 rfl rfl)
theorem dX1_executed_15 : decode cX1_executed 15 = .ok (.aload_n 0, 1) := dk_42 (dk_at dksX1_executed_0 15 rfl rfl)
theorem dX1_executed_16 : decode cX1_executed 16 = .ok (.getfield 42, 3) := dk_180 0 42 (dk_at dksX1_executed_0 16 rfl rfl)
theorem dX1_executed_19 : decode cX1_executed 19 = .ok (.iload_n 1, 1) := dk_27 (dk_at dksX1_executed_0 19 rfl rfl)
theorem dX1_executed_20 : decode cX1_executed 20 = .ok (.iconst 2, 1) := dk_5 (dk_at dksX1_executed_0 20 rfl rfl)
theorem dX1_executed_21 : decode cX1_executed 21 = .ok (.iadd, 1) := dk_96 (dk_at dksX1_executed_0 21 rfl rfl)
theorem dX1_executed_22 : decode cX1_executed 22 = .ok (.iaload, 1) := dk_46 (dk_at dksX1_executed_0 22 rfl rfl)
theorem dX1_executed_23 : decode cX1_executed 23 = .ok (.aload_n 0, 1) := dk_42 (dk_at dksX1_executed_0 23 rfl rfl)
theorem dX1_executed_24 : decode cX1_executed 24 = .ok (.getfield 42, 3) := dk_180 0 42 (dk_at dksX1_executed_1 0 rfl rfl)
theorem dX1_executed_27 : decode cX1_executed 27 = .ok (.iload_n 1, 1) := dk_27 (dk_at dksX1_executed_1 3 rfl rfl)
theorem dX1_executed_28 : decode cX1_executed 28 = .ok (.iconst 3, 1) := dk_6 (dk_at dksX1_executed_1 4 rfl rfl)
theorem dX1_executed_29 : decode cX1_executed 29 = .ok (.iadd, 1) := dk_96 (dk_at dksX1_executed_1 5 rfl rfl)
theorem dX1_executed_30 : decode cX1_executed 30 = .ok (.iaload, 1) := dk_46 (dk_at dksX1_executed_1 6 rfl rfl)
theorem dX1_executed_31 : decode cX1_executed 31 = .ok (.invokevirtual 374, 3) := dk_182 1 118 (dk_at dksX1_executed_1 7 rfl rfl)
theorem dX1_executed_34 : decode cX1_executed 34 = .ok (.iconst 1, 1) := dk_4 (dk_at dksX1_executed_1 10 rfl rfl)
theorem dX1_executed_35 : decode cX1_executed 35 = .ok (.ireturn, 1) := dk_172 (dk_at dksX1_executed_1 11 rfl rfl)
theorem dX1_executed_36 : decode cX1_executed 36 = .ok (.astore_n 2, 1) := dk_77 (dk_at dksX1_executed_1 12 rfl rfl)
theorem dX1_executed_37 : decode cX1_executed 37 = .ok (.iconst 0, 1) := dk_3 (dk_at dksX1_executed_1 13 rfl rfl)
theorem dX1_executed_38 : decode cX1_executed 38 = .ok (.ireturn, 1) := dk_172 (dk_at dksX1_executed_1 14 rfl rfl)
abbrev cX1_execute : ByteArray := prog_1_method_77_code
def yX1_execute : MethodName := ⟨RX1, "execute", "(IIII)V"⟩
def dkwX1_execute_5 : List UInt8 := [167, 0, 9, 42, 28, 182, 1, 85, 87, 177]
abbrev dktX1_execute_5 : List UInt8 := dkwX1_execute_5 ++ []
def dkwX1_execute_4 : List UInt8 := [182, 1, 79, 87, 167, 0, 29, 42, 180, 0, 27, 182, 1, 22, 87, 167, 0, 18, 42, 28, 182, 1, 82, 87]
abbrev dktX1_execute_4 : List UInt8 := dkwX1_execute_4 ++ dktX1_execute_5
def dkwX1_execute_3 : List UInt8 := [28, 29, 182, 1, 73, 87, 167, 0, 51, 42, 28, 29, 21, 4, 182, 1, 76, 87, 167, 0, 39, 42, 28, 29]
abbrev dktX1_execute_3 : List UInt8 := dkwX1_execute_3 ++ dktX1_execute_4
def dkwX1_execute_2 : List UInt8 := [42, 28, 29, 21, 4, 182, 1, 62, 87, 167, 0, 72, 42, 29, 21, 4, 182, 1, 70, 87, 167, 0, 61, 42]
abbrev dktX1_execute_2 : List UInt8 := dkwX1_execute_2 ++ dktX1_execute_3
def dkwX1_execute_1 : List UInt8 := [170, 0, 0, 0, 0, 0, 118, 0, 0, 0, 0, 0, 0, 0, 6, 0, 0, 0, 43, 0, 0, 0, 55, 0, 0, 0, 66, 0, 0, 0, 76, 0, 0, 0, 88, 0, 0, 0, 98, 0, 0, 0, 109]
abbrev dktX1_execute_1 : List UInt8 := dkwX1_execute_1 ++ dktX1_execute_2
def dkwX1_execute_0 : List UInt8 := [27]
abbrev dktX1_execute_0 : List UInt8 := dkwX1_execute_0 ++ dktX1_execute_1
theorem dksX1_execute_0 : cX1_execute.data.toList.drop 0 = dktX1_execute_0 := by decide +kernel
theorem dksX1_execute_1 : cX1_execute.data.toList.drop 1 = dktX1_execute_1 := dk_seg dksX1_execute_0 1 rfl rfl
theorem dksX1_execute_2 : cX1_execute.data.toList.drop 44 = dktX1_execute_2 := dk_seg dksX1_execute_1 43 rfl rfl
theorem dksX1_execute_3 : cX1_execute.data.toList.drop 68 = dktX1_execute_3 := dk_seg dksX1_execute_2 24 rfl rfl
theorem dksX1_execute_4 : cX1_execute.data.toList.drop 92 = dktX1_execute_4 := dk_seg dksX1_execute_3 24 rfl rfl
theorem dksX1_execute_5 : cX1_execute.data.toList.drop 116 = dktX1_execute_5 := dk_seg dksX1_execute_4 24 rfl rfl
theorem dX1_execute_0 : decode cX1_execute 0 = .ok (.iload_n 1, 1) := dk_27 (dk_at dksX1_execute_0 0 rfl rfl)
theorem dX1_execute_1 : decode cX1_execute 1 = .ok (.tableswitch 118 0 6 #[43, 55, 66, 76, 88, 98, 109], 43) := by decide +kernel
theorem dX1_execute_44 : decode cX1_execute 44 = .ok (.aload_n 0, 1) := dk_42 (dk_at dksX1_execute_2 0 rfl rfl)
theorem dX1_execute_45 : decode cX1_execute 45 = .ok (.iload_n 2, 1) := dk_28 (dk_at dksX1_execute_2 1 rfl rfl)
theorem dX1_execute_46 : decode cX1_execute 46 = .ok (.iload_n 3, 1) := dk_29 (dk_at dksX1_execute_2 2 rfl rfl)
theorem dX1_execute_47 : decode cX1_execute 47 = .ok (.iload 4, 2) := dk_21 4 (dk_at dksX1_execute_2 3 rfl rfl)
theorem dX1_execute_49 : decode cX1_execute 49 = .ok (.invokevirtual 318, 3) := dk_182 1 62 (dk_at dksX1_execute_2 5 rfl rfl)
theorem dX1_execute_52 : decode cX1_execute 52 = .ok (.pop, 1) := dk_87 (dk_at dksX1_execute_2 8 rfl rfl)
theorem dX1_execute_53 : decode cX1_execute 53 = .ok (.goto 72, 3) := dk_167 0 72 (dk_at dksX1_execute_2 9 rfl rfl)
theorem dX1_execute_56 : decode cX1_execute 56 = .ok (.aload_n 0, 1) := dk_42 (dk_at dksX1_execute_2 12 rfl rfl)
theorem dX1_execute_57 : decode cX1_execute 57 = .ok (.iload_n 3, 1) := dk_29 (dk_at dksX1_execute_2 13 rfl rfl)
theorem dX1_execute_58 : decode cX1_execute 58 = .ok (.iload 4, 2) := dk_21 4 (dk_at dksX1_execute_2 14 rfl rfl)
theorem dX1_execute_60 : decode cX1_execute 60 = .ok (.invokevirtual 326, 3) := dk_182 1 70 (dk_at dksX1_execute_2 16 rfl rfl)
theorem dX1_execute_63 : decode cX1_execute 63 = .ok (.pop, 1) := dk_87 (dk_at dksX1_execute_2 19 rfl rfl)
theorem dX1_execute_64 : decode cX1_execute 64 = .ok (.goto 61, 3) := dk_167 0 61 (dk_at dksX1_execute_2 20 rfl rfl)
theorem dX1_execute_67 : decode cX1_execute 67 = .ok (.aload_n 0, 1) := dk_42 (dk_at dksX1_execute_2 23 rfl rfl)
theorem dX1_execute_68 : decode cX1_execute 68 = .ok (.iload_n 2, 1) := dk_28 (dk_at dksX1_execute_3 0 rfl rfl)
theorem dX1_execute_69 : decode cX1_execute 69 = .ok (.iload_n 3, 1) := dk_29 (dk_at dksX1_execute_3 1 rfl rfl)
theorem dX1_execute_70 : decode cX1_execute 70 = .ok (.invokevirtual 329, 3) := dk_182 1 73 (dk_at dksX1_execute_3 2 rfl rfl)
theorem dX1_execute_73 : decode cX1_execute 73 = .ok (.pop, 1) := dk_87 (dk_at dksX1_execute_3 5 rfl rfl)
theorem dX1_execute_74 : decode cX1_execute 74 = .ok (.goto 51, 3) := dk_167 0 51 (dk_at dksX1_execute_3 6 rfl rfl)
theorem dX1_execute_77 : decode cX1_execute 77 = .ok (.aload_n 0, 1) := dk_42 (dk_at dksX1_execute_3 9 rfl rfl)
theorem dX1_execute_78 : decode cX1_execute 78 = .ok (.iload_n 2, 1) := dk_28 (dk_at dksX1_execute_3 10 rfl rfl)
theorem dX1_execute_79 : decode cX1_execute 79 = .ok (.iload_n 3, 1) := dk_29 (dk_at dksX1_execute_3 11 rfl rfl)
theorem dX1_execute_80 : decode cX1_execute 80 = .ok (.iload 4, 2) := dk_21 4 (dk_at dksX1_execute_3 12 rfl rfl)
theorem dX1_execute_82 : decode cX1_execute 82 = .ok (.invokevirtual 332, 3) := dk_182 1 76 (dk_at dksX1_execute_3 14 rfl rfl)
theorem dX1_execute_85 : decode cX1_execute 85 = .ok (.pop, 1) := dk_87 (dk_at dksX1_execute_3 17 rfl rfl)
theorem dX1_execute_86 : decode cX1_execute 86 = .ok (.goto 39, 3) := dk_167 0 39 (dk_at dksX1_execute_3 18 rfl rfl)
theorem dX1_execute_89 : decode cX1_execute 89 = .ok (.aload_n 0, 1) := dk_42 (dk_at dksX1_execute_3 21 rfl rfl)
theorem dX1_execute_90 : decode cX1_execute 90 = .ok (.iload_n 2, 1) := dk_28 (dk_at dksX1_execute_3 22 rfl rfl)
theorem dX1_execute_91 : decode cX1_execute 91 = .ok (.iload_n 3, 1) := dk_29 (dk_at dksX1_execute_3 23 rfl rfl)
theorem dX1_execute_92 : decode cX1_execute 92 = .ok (.invokevirtual 335, 3) := dk_182 1 79 (dk_at dksX1_execute_4 0 rfl rfl)
theorem dX1_execute_95 : decode cX1_execute 95 = .ok (.pop, 1) := dk_87 (dk_at dksX1_execute_4 3 rfl rfl)
theorem dX1_execute_96 : decode cX1_execute 96 = .ok (.goto 29, 3) := dk_167 0 29 (dk_at dksX1_execute_4 4 rfl rfl)
theorem dX1_execute_99 : decode cX1_execute 99 = .ok (.aload_n 0, 1) := dk_42 (dk_at dksX1_execute_4 7 rfl rfl)
theorem dX1_execute_100 : decode cX1_execute 100 = .ok (.getfield 27, 3) := dk_180 0 27 (dk_at dksX1_execute_4 8 rfl rfl)
theorem dX1_execute_103 : decode cX1_execute 103 = .ok (.invokevirtual 278, 3) := dk_182 1 22 (dk_at dksX1_execute_4 11 rfl rfl)
theorem dX1_execute_106 : decode cX1_execute 106 = .ok (.pop, 1) := dk_87 (dk_at dksX1_execute_4 14 rfl rfl)
theorem dX1_execute_107 : decode cX1_execute 107 = .ok (.goto 18, 3) := dk_167 0 18 (dk_at dksX1_execute_4 15 rfl rfl)
theorem dX1_execute_110 : decode cX1_execute 110 = .ok (.aload_n 0, 1) := dk_42 (dk_at dksX1_execute_4 18 rfl rfl)
theorem dX1_execute_111 : decode cX1_execute 111 = .ok (.iload_n 2, 1) := dk_28 (dk_at dksX1_execute_4 19 rfl rfl)
theorem dX1_execute_112 : decode cX1_execute 112 = .ok (.invokevirtual 338, 3) := dk_182 1 82 (dk_at dksX1_execute_4 20 rfl rfl)
theorem dX1_execute_115 : decode cX1_execute 115 = .ok (.pop, 1) := dk_87 (dk_at dksX1_execute_4 23 rfl rfl)
theorem dX1_execute_116 : decode cX1_execute 116 = .ok (.goto 9, 3) := dk_167 0 9 (dk_at dksX1_execute_5 0 rfl rfl)
theorem dX1_execute_119 : decode cX1_execute 119 = .ok (.aload_n 0, 1) := dk_42 (dk_at dksX1_execute_5 3 rfl rfl)
theorem dX1_execute_120 : decode cX1_execute 120 = .ok (.iload_n 2, 1) := dk_28 (dk_at dksX1_execute_5 4 rfl rfl)
theorem dX1_execute_121 : decode cX1_execute 121 = .ok (.invokevirtual 341, 3) := dk_182 1 85 (dk_at dksX1_execute_5 5 rfl rfl)
theorem dX1_execute_124 : decode cX1_execute 124 = .ok (.pop, 1) := dk_87 (dk_at dksX1_execute_5 8 rfl rfl)
theorem dX1_execute_125 : decode cX1_execute 125 = .ok (.return_, 1) := dk_177 (dk_at dksX1_execute_5 9 rfl rfl)
abbrev cX1_undo : ByteArray := prog_1_method_80_code
def yX1_undo : MethodName := ⟨RX1, "undo", "()I"⟩
def dkwX1_undo_1 : List UInt8 := [182, 1, 133, 192, 0, 22, 181, 0, 27, 42, 180, 0, 34, 182, 1, 36, 172]
abbrev dktX1_undo_1 : List UInt8 := dkwX1_undo_1 ++ []
def dkwX1_undo_0 : List UInt8 := [42, 180, 0, 34, 182, 1, 129, 154, 0, 7, 4, 167, 0, 4, 3, 184, 0, 223, 42, 42, 180, 0, 34]
abbrev dktX1_undo_0 : List UInt8 := dkwX1_undo_0 ++ dktX1_undo_1
theorem dksX1_undo_0 : cX1_undo.data.toList.drop 0 = dktX1_undo_0 := by decide +kernel
theorem dksX1_undo_1 : cX1_undo.data.toList.drop 23 = dktX1_undo_1 := dk_seg dksX1_undo_0 23 rfl rfl
theorem dX1_undo_0 : decode cX1_undo 0 = .ok (.aload_n 0, 1) := dk_42 (dk_at dksX1_undo_0 0 rfl rfl)
theorem dX1_undo_1 : decode cX1_undo 1 = .ok (.getfield 34, 3) := dk_180 0 34 (dk_at dksX1_undo_0 1 rfl rfl)
theorem dX1_undo_4 : decode cX1_undo 4 = .ok (.invokevirtual 385, 3) := dk_182 1 129 (dk_at dksX1_undo_0 4 rfl rfl)
theorem dX1_undo_7 : decode cX1_undo 7 = .ok (.ifCond .ne 7, 3) := dk_154 0 7 (dk_at dksX1_undo_0 7 rfl rfl)
theorem dX1_undo_10 : decode cX1_undo 10 = .ok (.iconst 1, 1) := dk_4 (dk_at dksX1_undo_0 10 rfl rfl)
theorem dX1_undo_11 : decode cX1_undo 11 = .ok (.goto 4, 3) := dk_167 0 4 (dk_at dksX1_undo_0 11 rfl rfl)
theorem dX1_undo_14 : decode cX1_undo 14 = .ok (.iconst 0, 1) := dk_3 (dk_at dksX1_undo_0 14 rfl rfl)
theorem dX1_undo_15 : decode cX1_undo 15 = .ok (.invokestatic 223, 3) := dk_184 0 223 (dk_at dksX1_undo_0 15 rfl rfl)
theorem dX1_undo_18 : decode cX1_undo 18 = .ok (.aload_n 0, 1) := dk_42 (dk_at dksX1_undo_0 18 rfl rfl)
theorem dX1_undo_19 : decode cX1_undo 19 = .ok (.aload_n 0, 1) := dk_42 (dk_at dksX1_undo_0 19 rfl rfl)
theorem dX1_undo_20 : decode cX1_undo 20 = .ok (.getfield 34, 3) := dk_180 0 34 (dk_at dksX1_undo_0 20 rfl rfl)
theorem dX1_undo_23 : decode cX1_undo 23 = .ok (.invokevirtual 389, 3) := dk_182 1 133 (dk_at dksX1_undo_1 0 rfl rfl)
theorem dX1_undo_26 : decode cX1_undo 26 = .ok (.checkcast 22, 3) := dk_192 0 22 (dk_at dksX1_undo_1 3 rfl rfl)
theorem dX1_undo_29 : decode cX1_undo 29 = .ok (.putfield 27, 3) := dk_181 0 27 (dk_at dksX1_undo_1 6 rfl rfl)
theorem dX1_undo_32 : decode cX1_undo 32 = .ok (.aload_n 0, 1) := dk_42 (dk_at dksX1_undo_1 9 rfl rfl)
theorem dX1_undo_33 : decode cX1_undo 33 = .ok (.getfield 34, 3) := dk_180 0 34 (dk_at dksX1_undo_1 10 rfl rfl)
theorem dX1_undo_36 : decode cX1_undo 36 = .ok (.invokevirtual 292, 3) := dk_182 1 36 (dk_at dksX1_undo_1 13 rfl rfl)
theorem dX1_undo_39 : decode cX1_undo 39 = .ok (.ireturn, 1) := dk_172 (dk_at dksX1_undo_1 16 rfl rfl)
abbrev cX1_save : ByteArray := prog_1_method_81_code
def yX1_save : MethodName := ⟨RX1, "save", "(I)I"⟩
def dkwX1_save_1 : List UInt8 := [180, 0, 27, 2, 182, 0, 207, 172]
abbrev dktX1_save_1 : List UInt8 := dkwX1_save_1 ++ []
def dkwX1_save_0 : List UInt8 := [27, 5, 184, 0, 151, 42, 180, 0, 38, 27, 187, 0, 22, 89, 42, 180, 0, 27, 183, 1, 19, 83, 42]
abbrev dktX1_save_0 : List UInt8 := dkwX1_save_0 ++ dktX1_save_1
theorem dksX1_save_0 : cX1_save.data.toList.drop 0 = dktX1_save_0 := by decide +kernel
theorem dksX1_save_1 : cX1_save.data.toList.drop 23 = dktX1_save_1 := dk_seg dksX1_save_0 23 rfl rfl
theorem dX1_save_0 : decode cX1_save 0 = .ok (.iload_n 1, 1) := dk_27 (dk_at dksX1_save_0 0 rfl rfl)
theorem dX1_save_1 : decode cX1_save 1 = .ok (.iconst 2, 1) := dk_5 (dk_at dksX1_save_0 1 rfl rfl)
theorem dX1_save_2 : decode cX1_save 2 = .ok (.invokestatic 151, 3) := dk_184 0 151 (dk_at dksX1_save_0 2 rfl rfl)
theorem dX1_save_5 : decode cX1_save 5 = .ok (.aload_n 0, 1) := dk_42 (dk_at dksX1_save_0 5 rfl rfl)
theorem dX1_save_6 : decode cX1_save 6 = .ok (.getfield 38, 3) := dk_180 0 38 (dk_at dksX1_save_0 6 rfl rfl)
theorem dX1_save_9 : decode cX1_save 9 = .ok (.iload_n 1, 1) := dk_27 (dk_at dksX1_save_0 9 rfl rfl)
theorem dX1_save_10 : decode cX1_save 10 = .ok (.new 22, 3) := dk_187 0 22 (dk_at dksX1_save_0 10 rfl rfl)
theorem dX1_save_13 : decode cX1_save 13 = .ok (.dup, 1) := dk_89 (dk_at dksX1_save_0 13 rfl rfl)
theorem dX1_save_14 : decode cX1_save 14 = .ok (.aload_n 0, 1) := dk_42 (dk_at dksX1_save_0 14 rfl rfl)
theorem dX1_save_15 : decode cX1_save 15 = .ok (.getfield 27, 3) := dk_180 0 27 (dk_at dksX1_save_0 15 rfl rfl)
theorem dX1_save_18 : decode cX1_save 18 = .ok (.invokespecial 275, 3) := dk_183 1 19 (dk_at dksX1_save_0 18 rfl rfl)
theorem dX1_save_21 : decode cX1_save 21 = .ok (.aastore, 1) := dk_83 (dk_at dksX1_save_0 21 rfl rfl)
theorem dX1_save_22 : decode cX1_save 22 = .ok (.aload_n 0, 1) := dk_42 (dk_at dksX1_save_0 22 rfl rfl)
theorem dX1_save_23 : decode cX1_save 23 = .ok (.getfield 27, 3) := dk_180 0 27 (dk_at dksX1_save_1 0 rfl rfl)
theorem dX1_save_26 : decode cX1_save 26 = .ok (.iconst (-1), 1) := dk_2 (dk_at dksX1_save_1 3 rfl rfl)
theorem dX1_save_27 : decode cX1_save 27 = .ok (.invokevirtual 207, 3) := dk_182 0 207 (dk_at dksX1_save_1 4 rfl rfl)
theorem dX1_save_30 : decode cX1_save 30 = .ok (.ireturn, 1) := dk_172 (dk_at dksX1_save_1 7 rfl rfl)
abbrev cX1_restore : ByteArray := prog_1_method_82_code
def yX1_restore : MethodName := ⟨RX1, "restore", "(I)I"⟩
def dkwX1_restore_2 : List UInt8 := [180, 0, 27, 2, 182, 0, 207, 172]
abbrev dktX1_restore_2 : List UInt8 := dkwX1_restore_2 ++ []
def dkwX1_restore_1 : List UInt8 := [187, 0, 22, 89, 42, 180, 0, 38, 27, 50, 183, 1, 19, 181, 0, 27, 42, 180, 0, 34, 182, 0, 145, 42]
abbrev dktX1_restore_1 : List UInt8 := dkwX1_restore_1 ++ dktX1_restore_2
def dkwX1_restore_0 : List UInt8 := [27, 5, 184, 0, 151, 42, 180, 0, 38, 27, 50, 198, 0, 7, 4, 167, 0, 4, 3, 184, 0, 223, 42]
abbrev dktX1_restore_0 : List UInt8 := dkwX1_restore_0 ++ dktX1_restore_1
theorem dksX1_restore_0 : cX1_restore.data.toList.drop 0 = dktX1_restore_0 := by decide +kernel
theorem dksX1_restore_1 : cX1_restore.data.toList.drop 23 = dktX1_restore_1 := dk_seg dksX1_restore_0 23 rfl rfl
theorem dksX1_restore_2 : cX1_restore.data.toList.drop 47 = dktX1_restore_2 := dk_seg dksX1_restore_1 24 rfl rfl
theorem dX1_restore_0 : decode cX1_restore 0 = .ok (.iload_n 1, 1) := dk_27 (dk_at dksX1_restore_0 0 rfl rfl)
theorem dX1_restore_1 : decode cX1_restore 1 = .ok (.iconst 2, 1) := dk_5 (dk_at dksX1_restore_0 1 rfl rfl)
theorem dX1_restore_2 : decode cX1_restore 2 = .ok (.invokestatic 151, 3) := dk_184 0 151 (dk_at dksX1_restore_0 2 rfl rfl)
theorem dX1_restore_5 : decode cX1_restore 5 = .ok (.aload_n 0, 1) := dk_42 (dk_at dksX1_restore_0 5 rfl rfl)
theorem dX1_restore_6 : decode cX1_restore 6 = .ok (.getfield 38, 3) := dk_180 0 38 (dk_at dksX1_restore_0 6 rfl rfl)
theorem dX1_restore_9 : decode cX1_restore 9 = .ok (.iload_n 1, 1) := dk_27 (dk_at dksX1_restore_0 9 rfl rfl)
theorem dX1_restore_10 : decode cX1_restore 10 = .ok (.aaload, 1) := dk_50 (dk_at dksX1_restore_0 10 rfl rfl)
theorem dX1_restore_11 : decode cX1_restore 11 = .ok (.ifnull 7, 3) := dk_198 0 7 (dk_at dksX1_restore_0 11 rfl rfl)
theorem dX1_restore_14 : decode cX1_restore 14 = .ok (.iconst 1, 1) := dk_4 (dk_at dksX1_restore_0 14 rfl rfl)
theorem dX1_restore_15 : decode cX1_restore 15 = .ok (.goto 4, 3) := dk_167 0 4 (dk_at dksX1_restore_0 15 rfl rfl)
theorem dX1_restore_18 : decode cX1_restore 18 = .ok (.iconst 0, 1) := dk_3 (dk_at dksX1_restore_0 18 rfl rfl)
theorem dX1_restore_19 : decode cX1_restore 19 = .ok (.invokestatic 223, 3) := dk_184 0 223 (dk_at dksX1_restore_0 19 rfl rfl)
theorem dX1_restore_22 : decode cX1_restore 22 = .ok (.aload_n 0, 1) := dk_42 (dk_at dksX1_restore_0 22 rfl rfl)
theorem dX1_restore_23 : decode cX1_restore 23 = .ok (.new 22, 3) := dk_187 0 22 (dk_at dksX1_restore_1 0 rfl rfl)
theorem dX1_restore_26 : decode cX1_restore 26 = .ok (.dup, 1) := dk_89 (dk_at dksX1_restore_1 3 rfl rfl)
theorem dX1_restore_27 : decode cX1_restore 27 = .ok (.aload_n 0, 1) := dk_42 (dk_at dksX1_restore_1 4 rfl rfl)
theorem dX1_restore_28 : decode cX1_restore 28 = .ok (.getfield 38, 3) := dk_180 0 38 (dk_at dksX1_restore_1 5 rfl rfl)
theorem dX1_restore_31 : decode cX1_restore 31 = .ok (.iload_n 1, 1) := dk_27 (dk_at dksX1_restore_1 8 rfl rfl)
theorem dX1_restore_32 : decode cX1_restore 32 = .ok (.aaload, 1) := dk_50 (dk_at dksX1_restore_1 9 rfl rfl)
theorem dX1_restore_33 : decode cX1_restore 33 = .ok (.invokespecial 275, 3) := dk_183 1 19 (dk_at dksX1_restore_1 10 rfl rfl)
theorem dX1_restore_36 : decode cX1_restore 36 = .ok (.putfield 27, 3) := dk_181 0 27 (dk_at dksX1_restore_1 13 rfl rfl)
theorem dX1_restore_39 : decode cX1_restore 39 = .ok (.aload_n 0, 1) := dk_42 (dk_at dksX1_restore_1 16 rfl rfl)
theorem dX1_restore_40 : decode cX1_restore 40 = .ok (.getfield 34, 3) := dk_180 0 34 (dk_at dksX1_restore_1 17 rfl rfl)
theorem dX1_restore_43 : decode cX1_restore 43 = .ok (.invokevirtual 145, 3) := dk_182 0 145 (dk_at dksX1_restore_1 20 rfl rfl)
theorem dX1_restore_46 : decode cX1_restore 46 = .ok (.aload_n 0, 1) := dk_42 (dk_at dksX1_restore_1 23 rfl rfl)
theorem dX1_restore_47 : decode cX1_restore 47 = .ok (.getfield 27, 3) := dk_180 0 27 (dk_at dksX1_restore_2 0 rfl rfl)
theorem dX1_restore_50 : decode cX1_restore 50 = .ok (.iconst (-1), 1) := dk_2 (dk_at dksX1_restore_2 3 rfl rfl)
theorem dX1_restore_51 : decode cX1_restore 51 = .ok (.invokevirtual 207, 3) := dk_182 0 207 (dk_at dksX1_restore_2 4 rfl rfl)
theorem dX1_restore_54 : decode cX1_restore 54 = .ok (.ireturn, 1) := dk_172 (dk_at dksX1_restore_2 7 rfl rfl)
abbrev cX1_outputByte : ByteArray := prog_1_method_86_code
def yX1_outputByte : MethodName := ⟨RX1, "outputByte", "(I)I"⟩
def dkwX1_outputByte_0 : List UInt8 := [27, 42, 180, 1, 136, 184, 0, 151, 42, 180, 0, 46, 27, 51, 172]
abbrev dktX1_outputByte_0 : List UInt8 := dkwX1_outputByte_0 ++ []
theorem dksX1_outputByte_0 : cX1_outputByte.data.toList.drop 0 = dktX1_outputByte_0 := by decide +kernel
theorem dX1_outputByte_0 : decode cX1_outputByte 0 = .ok (.iload_n 1, 1) := dk_27 (dk_at dksX1_outputByte_0 0 rfl rfl)
theorem dX1_outputByte_1 : decode cX1_outputByte 1 = .ok (.aload_n 0, 1) := dk_42 (dk_at dksX1_outputByte_0 1 rfl rfl)
theorem dX1_outputByte_2 : decode cX1_outputByte 2 = .ok (.getfield 392, 3) := dk_180 1 136 (dk_at dksX1_outputByte_0 2 rfl rfl)
theorem dX1_outputByte_5 : decode cX1_outputByte 5 = .ok (.invokestatic 151, 3) := dk_184 0 151 (dk_at dksX1_outputByte_0 5 rfl rfl)
theorem dX1_outputByte_8 : decode cX1_outputByte 8 = .ok (.aload_n 0, 1) := dk_42 (dk_at dksX1_outputByte_0 8 rfl rfl)
theorem dX1_outputByte_9 : decode cX1_outputByte 9 = .ok (.getfield 46, 3) := dk_180 0 46 (dk_at dksX1_outputByte_0 9 rfl rfl)
theorem dX1_outputByte_12 : decode cX1_outputByte 12 = .ok (.iload_n 1, 1) := dk_27 (dk_at dksX1_outputByte_0 12 rfl rfl)
theorem dX1_outputByte_13 : decode cX1_outputByte 13 = .ok (.baload, 1) := dk_51 (dk_at dksX1_outputByte_0 13 rfl rfl)
theorem dX1_outputByte_14 : decode cX1_outputByte 14 = .ok (.ireturn, 1) := dk_172 (dk_at dksX1_outputByte_0 14 rfl rfl)
theorem q96 : (Jvm.Cond.initialized "CakeDivision") ∈ lw_all := lw_g (lw_at lw_m1 1 rfl) rfl
theorem q130 : (Jvm.Cond.instantiable "CakeDivision" (10 : Nat)) ∈ lw_all := lw_g (lw_at lw_m1 35 rfl) rfl
theorem q132 : (Jvm.Cond.instanceMethod ({ cls := "CakeDivision", name := "<init>", desc := "()V" } : Jvm.MethodName)) ∈ lw_all := lw_g (lw_at lw_m1 37 rfl) rfl
theorem q133 : (Jvm.Cond.code ({ cls := "CakeDivision", name := "<init>", desc := "()V" } : Jvm.MethodName) prog_1_method_1_code (1 : Nat) (Option.none : Option Jvm.ClassFile.FieldType)) ∈ lw_all := lw_g (lw_at lw_m1 38 rfl) rfl
theorem q134 : (Jvm.Cond.stringRef "CakeDivision" (1 : Nat) "cake 8;sibling ann 1 2 3 4 4 3 2 1;sibling bob 9 0 0 0 0 0 0 9;sibling cid 1 1 1 1 1 1 1 1;") ∈ lw_tbl := lw_at lw_m1 39 rfl
theorem q135 : (Jvm.Cond.methodLink "CakeDivision" (3 : Nat) ({ cls := "CakeDivision", name := "<init>", desc := "(Ljava/lang/String;)V" } : Jvm.MethodName)) ∈ lw_all := lw_g (lw_at lw_m1 40 rfl) rfl
theorem q136 : (Jvm.Cond.instanceMethod ({ cls := "CakeDivision", name := "<init>", desc := "(Ljava/lang/String;)V" } : Jvm.MethodName)) ∈ lw_all := lw_g (lw_at lw_m1 41 rfl) rfl
theorem q137 : (Jvm.Cond.codeWith ({ cls := "CakeDivision", name := "<init>", desc := "(Ljava/lang/String;)V" } : Jvm.MethodName) prog_1_method_2_code (3 : Nat) (Option.none : Option Jvm.ClassFile.FieldType) [((104 : Nat), (120 : Nat), (123 : Nat), (70 : Nat))]) ∈ lw_all := lw_g (lw_at lw_m1 42 rfl) rfl
theorem q138 : (Jvm.Cond.classLink "CakeDivision" (70 : Nat) "CakeDivision$TextError") ∈ lw_all := lw_g (lw_at lw_m1 43 rfl) rfl
theorem q139 : (Jvm.Cond.methodLink "CakeDivision" (9 : Nat) ({ cls := "java/lang/Object", name := "<init>", desc := "()V" } : Jvm.MethodName)) ∈ lw_all := lw_g (lw_at lw_m1 44 rfl) rfl
theorem q142 : (Jvm.Cond.classLink "CakeDivision" (22 : Nat) "CakeDivision$State") ∈ lw_all := lw_g (lw_at lw_m1 47 rfl) rfl
theorem q144 : (Jvm.Cond.methodLink "CakeDivision" (24 : Nat) ({ cls := "CakeDivision$State", name := "<init>", desc := "(I)V" } : Jvm.MethodName)) ∈ lw_all := lw_g (lw_at lw_m1 49 rfl) rfl
theorem q500 : (Jvm.Cond.fieldLink "CakeDivision" (120 : Nat) "CakeDivision$State" "siblings" "Ljava/util/ArrayList;") ∈ lw_all := lw_g (lw_at lw_m2 165 rfl) rfl
theorem q502 : (Jvm.Cond.fieldLink "CakeDivision" (192 : Nat) "CakeDivision$State" "owners" "[I") ∈ lw_all := lw_g (lw_at lw_m2 167 rfl) rfl
theorem q513 : (Jvm.Cond.classLink "CakeDivision" (31 : Nat) "java/util/ArrayDeque") ∈ lw_all := lw_g (lw_at lw_m2 178 rfl) rfl
theorem q515 : (Jvm.Cond.methodLink "CakeDivision" (33 : Nat) ({ cls := "java/util/ArrayDeque", name := "<init>", desc := "()V" } : Jvm.MethodName)) ∈ lw_all := lw_g (lw_at lw_m2 180 rfl) rfl
theorem q531 : (Jvm.Cond.methodLink "CakeDivision" (49 : Nat) ({ cls := "java/lang/String", name := "length", desc := "()I" } : Jvm.MethodName)) ∈ lw_all := lw_g (lw_at lw_m2 196 rfl) rfl
theorem q532 : (Jvm.Cond.methodLink "CakeDivision" (57 : Nat) ({ cls := "java/lang/String", name := "charAt", desc := "(I)C" } : Jvm.MethodName)) ∈ lw_all := lw_g (lw_at lw_m2 197 rfl) rfl
theorem q556 : (Jvm.Cond.classLink "CakeDivision" (61 : Nat) "CakeDivision$Scanner") ∈ lw_all := lw_g (lw_at lw_m2 221 rfl) rfl
theorem q558 : (Jvm.Cond.methodLinkNest "CakeDivision" (63 : Nat) ({ cls := "CakeDivision$Scanner", name := "<init>", desc := "(LCakeDivision;)V" } : Jvm.MethodName) "CakeDivision") ∈ lw_tbl := lw_at lw_m2 223 rfl
theorem q567 : (Jvm.Cond.fieldLink "CakeDivision" (135 : Nat) "CakeDivision$Scanner" "kind" "I") ∈ lw_all := lw_g (lw_at lw_m2 232 rfl) rfl
theorem q583 : (Jvm.Cond.methodLink "CakeDivision" (66 : Nat) ({ cls := "CakeDivision", name := "parseSetup", desc := "(LCakeDivision$Scanner;)LCakeDivision$State;" } : Jvm.MethodName)) ∈ lw_all := lw_g (lw_at lw_m3 8 rfl) rfl
theorem q584 : (Jvm.Cond.privateMethod ({ cls := "CakeDivision", name := "parseSetup", desc := "(LCakeDivision$Scanner;)LCakeDivision$State;" } : Jvm.MethodName)) ∈ lw_tbl := lw_at lw_m3 9 rfl
theorem q585 : (Jvm.Cond.instanceMethod ({ cls := "CakeDivision", name := "parseSetup", desc := "(LCakeDivision$Scanner;)LCakeDivision$State;" } : Jvm.MethodName)) ∈ lw_all := lw_g (lw_at lw_m3 10 rfl) rfl
theorem q586 : (Jvm.Cond.code ({ cls := "CakeDivision", name := "parseSetup", desc := "(LCakeDivision$Scanner;)LCakeDivision$State;" } : Jvm.MethodName) prog_1_method_6_code (6 : Nat) (Option.some (Jvm.ClassFile.FieldType.object "CakeDivision$State"))) ∈ lw_all := lw_g (lw_at lw_m3 11 rfl) rfl
theorem q587 : (Jvm.Cond.stringRef "CakeDivision" (88 : Nat) "cake") ∈ lw_tbl := lw_at lw_m3 12 rfl
theorem q588 : (Jvm.Cond.methodLink "CakeDivision" (90 : Nat) ({ cls := "CakeDivision$Scanner", name := "expectWord", desc := "(Ljava/lang/String;)V" } : Jvm.MethodName)) ∈ lw_all := lw_g (lw_at lw_m3 13 rfl) rfl
theorem q619 : (Jvm.Cond.fieldLink "CakeDivision" (72 : Nat) "CakeDivision$TextError" "code" "I") ∈ lw_all := lw_g (lw_at lw_m3 44 rfl) rfl
theorem q621 : (Jvm.Cond.fieldLink "CakeDivision" (138 : Nat) "CakeDivision$TextError" "position" "I") ∈ lw_all := lw_g (lw_at lw_m3 46 rfl) rfl
theorem q628 : (Jvm.Cond.methodLink "CakeDivision" (93 : Nat) ({ cls := "CakeDivision$Scanner", name := "expectNumber", desc := "(II)I" } : Jvm.MethodName)) ∈ lw_all := lw_g (lw_at lw_m3 53 rfl) rfl
theorem q636 : (Jvm.Cond.methodLink "CakeDivision" (97 : Nat) ({ cls := "CakeDivision$Scanner", name := "expectSemicolon", desc := "()V" } : Jvm.MethodName)) ∈ lw_all := lw_g (lw_at lw_m3 61 rfl) rfl
theorem q640 : (Jvm.Cond.stringRef "CakeDivision" (100 : Nat) "sibling") ∈ lw_tbl := lw_at lw_m3 65 rfl
theorem q641 : (Jvm.Cond.methodLink "CakeDivision" (102 : Nat) ({ cls := "CakeDivision$Scanner", name := "isWord", desc := "(Ljava/lang/String;)Z" } : Jvm.MethodName)) ∈ lw_all := lw_g (lw_at lw_m3 66 rfl) rfl
theorem q642 : (Jvm.Cond.methodLink "CakeDivision" (106 : Nat) ({ cls := "CakeDivision$State", name := "size", desc := "()I" } : Jvm.MethodName)) ∈ lw_all := lw_g (lw_at lw_m3 67 rfl) rfl
theorem q650 : (Jvm.Cond.methodLink "CakeDivision" (109 : Nat) ({ cls := "CakeDivision$Scanner", name := "error", desc := "(I)LCakeDivision$TextError;" } : Jvm.MethodName)) ∈ lw_all := lw_g (lw_at lw_m3 75 rfl) rfl
theorem q651 : (Jvm.Cond.methodLink "CakeDivision" (113 : Nat) ({ cls := "CakeDivision$Scanner", name := "expectNewName", desc := "(LCakeDivision$State;)[B" } : Jvm.MethodName)) ∈ lw_all := lw_g (lw_at lw_m3 76 rfl) rfl
theorem q686 : (Jvm.Cond.methodLink "CakeDivision" (117 : Nat) ({ cls := "CakeDivision$State", name := "cells", desc := "()I" } : Jvm.MethodName)) ∈ lw_all := lw_g (lw_at lw_m3 111 rfl) rfl
theorem q690 : (Jvm.Cond.classLink "CakeDivision" (124 : Nat) "CakeDivision$Sibling") ∈ lw_all := lw_g (lw_at lw_m3 115 rfl) rfl
theorem q692 : (Jvm.Cond.methodLink "CakeDivision" (126 : Nat) ({ cls := "CakeDivision$Sibling", name := "<init>", desc := "([B[I)V" } : Jvm.MethodName)) ∈ lw_all := lw_g (lw_at lw_m3 117 rfl) rfl
theorem q698 : (Jvm.Cond.fieldLink "CakeDivision" (172 : Nat) "CakeDivision$Sibling" "name" "[B") ∈ lw_all := lw_g (lw_at lw_m3 123 rfl) rfl
theorem q705 : (Jvm.Cond.methodLink "CakeDivision" (129 : Nat) ({ cls := "java/util/ArrayList", name := "add", desc := "(Ljava/lang/Object;)Z" } : Jvm.MethodName)) ∈ lw_all := lw_g (lw_at lw_m3 130 rfl) rfl
theorem q730 : (Jvm.Cond.selects "CakeDivision" ({ cls := "java/lang/Object", name := "getClass", desc := "()Ljava/lang/Class;" } : Jvm.MethodName) ({ cls := "java/lang/Object", name := "getClass", desc := "()Ljava/lang/Class;" } : Jvm.MethodName)) ∈ lw_all := lw_g (lw_at lw_m3 155 rfl) rfl
theorem q754 : (Jvm.Cond.fieldLink "CakeDivision" (14 : Nat) "CakeDivision" "buffer" "[B") ∈ lw_all := lw_g (lw_at lw_m3 179 rfl) rfl
theorem q757 : (Jvm.Cond.fieldLink "CakeDivision" (55 : Nat) "CakeDivision" "length" "I") ∈ lw_all := lw_g (lw_at lw_m3 182 rfl) rfl
theorem q758 : (Jvm.Cond.fieldLink "CakeDivision" (75 : Nat) "CakeDivision" "errorCode" "I") ∈ lw_all := lw_g (lw_at lw_m3 183 rfl) rfl
theorem q759 : (Jvm.Cond.fieldLink "CakeDivision" (18 : Nat) "CakeDivision" "errorPosition" "I") ∈ lw_all := lw_g (lw_at lw_m3 184 rfl) rfl
theorem q760 : (Jvm.Cond.fieldLink "CakeDivision" (27 : Nat) "CakeDivision" "state" "LCakeDivision$State;") ∈ lw_all := lw_g (lw_at lw_m3 185 rfl) rfl
theorem q762 : (Jvm.Cond.fieldLink "CakeDivision" (34 : Nat) "CakeDivision" "history" "Ljava/util/ArrayDeque;") ∈ lw_all := lw_g (lw_at lw_m3 187 rfl) rfl
theorem q763 : (Jvm.Cond.fieldLink "CakeDivision" (38 : Nat) "CakeDivision" "saved" "[LCakeDivision$State;") ∈ lw_all := lw_g (lw_at lw_m3 188 rfl) rfl
theorem q764 : (Jvm.Cond.fieldLink "CakeDivision" (42 : Nat) "CakeDivision" "program" "[I") ∈ lw_all := lw_g (lw_at lw_m3 189 rfl) rfl
theorem q765 : (Jvm.Cond.fieldLink "CakeDivision" (46 : Nat) "CakeDivision" "output" "[B") ∈ lw_all := lw_g (lw_at lw_m3 190 rfl) rfl
theorem q766 : (Jvm.Cond.fieldLink "CakeDivision" (392 : Nat) "CakeDivision" "outputLength" "I") ∈ lw_all := lw_g (lw_at lw_m3 191 rfl) rfl
theorem q767 : (Jvm.Cond.laysFinal "CakeDivision" "CakeDivision" "buffer" "[B") ∈ lw_all := lw_g (lw_at lw_m3 192 rfl) rfl
theorem q768 : (Jvm.Cond.soleField "CakeDivision" "buffer") ∈ lw_all := lw_g (lw_at lw_m3 193 rfl) rfl
theorem q769 : (Jvm.Cond.lays "CakeDivision" "CakeDivision" "length" "I") ∈ lw_all := lw_g (lw_at lw_m3 194 rfl) rfl
theorem q770 : (Jvm.Cond.soleField "CakeDivision" "length") ∈ lw_all := lw_g (lw_at lw_m3 195 rfl) rfl
theorem q771 : (Jvm.Cond.lays "CakeDivision" "CakeDivision" "errorCode" "I") ∈ lw_all := lw_g (lw_at lw_m3 196 rfl) rfl
theorem q772 : (Jvm.Cond.soleField "CakeDivision" "errorCode") ∈ lw_all := lw_g (lw_at lw_m3 197 rfl) rfl
theorem q773 : (Jvm.Cond.lays "CakeDivision" "CakeDivision" "errorPosition" "I") ∈ lw_all := lw_g (lw_at lw_m3 198 rfl) rfl
theorem q774 : (Jvm.Cond.soleField "CakeDivision" "errorPosition") ∈ lw_all := lw_g (lw_at lw_m3 199 rfl) rfl
theorem q775 : (Jvm.Cond.lays "CakeDivision" "CakeDivision" "state" "LCakeDivision$State;") ∈ lw_all := lw_g (lw_at lw_m3 200 rfl) rfl
theorem q776 : (Jvm.Cond.soleField "CakeDivision" "state") ∈ lw_all := lw_g (lw_at lw_m3 201 rfl) rfl
theorem q777 : (Jvm.Cond.laysFinal "CakeDivision" "CakeDivision" "history" "Ljava/util/ArrayDeque;") ∈ lw_all := lw_g (lw_at lw_m3 202 rfl) rfl
theorem q778 : (Jvm.Cond.soleField "CakeDivision" "history") ∈ lw_all := lw_g (lw_at lw_m3 203 rfl) rfl
theorem q779 : (Jvm.Cond.laysFinal "CakeDivision" "CakeDivision" "saved" "[LCakeDivision$State;") ∈ lw_all := lw_g (lw_at lw_m3 204 rfl) rfl
theorem q780 : (Jvm.Cond.soleField "CakeDivision" "saved") ∈ lw_all := lw_g (lw_at lw_m3 205 rfl) rfl
theorem q781 : (Jvm.Cond.laysFinal "CakeDivision" "CakeDivision" "program" "[I") ∈ lw_all := lw_g (lw_at lw_m3 206 rfl) rfl
theorem q782 : (Jvm.Cond.soleField "CakeDivision" "program") ∈ lw_all := lw_g (lw_at lw_m3 207 rfl) rfl
theorem q783 : (Jvm.Cond.laysFinal "CakeDivision" "CakeDivision" "output" "[B") ∈ lw_all := lw_g (lw_at lw_m3 208 rfl) rfl
theorem q784 : (Jvm.Cond.soleField "CakeDivision" "output") ∈ lw_all := lw_g (lw_at lw_m3 209 rfl) rfl
theorem q785 : (Jvm.Cond.lays "CakeDivision" "CakeDivision" "outputLength" "I") ∈ lw_all := lw_g (lw_at lw_m3 210 rfl) rfl
theorem q786 : (Jvm.Cond.soleField "CakeDivision" "outputLength") ∈ lw_all := lw_g (lw_at lw_m3 211 rfl) rfl
theorem q787 : (Jvm.Cond.superclass "CakeDivision" "java/lang/Object") ∈ lw_all := lw_g (lw_at lw_m3 212 rfl) rfl
theorem q789 : (Jvm.Cond.instanceMethod ({ cls := "CakeDivision", name := "errorCode", desc := "()I" } : Jvm.MethodName)) ∈ lw_all := lw_g (lw_at lw_m3 214 rfl) rfl
theorem q790 : (Jvm.Cond.selects "CakeDivision" ({ cls := "CakeDivision", name := "errorCode", desc := "()I" } : Jvm.MethodName) ({ cls := "CakeDivision", name := "errorCode", desc := "()I" } : Jvm.MethodName)) ∈ lw_all := lw_g (lw_at lw_m3 215 rfl) rfl
theorem q791 : (Jvm.Cond.code ({ cls := "CakeDivision", name := "errorCode", desc := "()I" } : Jvm.MethodName) prog_1_method_9_code (1 : Nat) (Option.some Jvm.ClassFile.FieldType.int)) ∈ lw_all := lw_g (lw_at lw_m3 216 rfl) rfl
theorem q793 : (Jvm.Cond.instanceMethod ({ cls := "CakeDivision", name := "errorPosition", desc := "()I" } : Jvm.MethodName)) ∈ lw_all := lw_g (lw_at lw_m3 218 rfl) rfl
theorem q794 : (Jvm.Cond.selects "CakeDivision" ({ cls := "CakeDivision", name := "errorPosition", desc := "()I" } : Jvm.MethodName) ({ cls := "CakeDivision", name := "errorPosition", desc := "()I" } : Jvm.MethodName)) ∈ lw_all := lw_g (lw_at lw_m3 219 rfl) rfl
theorem q795 : (Jvm.Cond.code ({ cls := "CakeDivision", name := "errorPosition", desc := "()I" } : Jvm.MethodName) prog_1_method_10_code (1 : Nat) (Option.some Jvm.ClassFile.FieldType.int)) ∈ lw_all := lw_g (lw_at lw_m3 220 rfl) rfl
theorem q797 : (Jvm.Cond.instanceMethod ({ cls := "CakeDivision", name := "cellCount", desc := "()I" } : Jvm.MethodName)) ∈ lw_all := lw_g (lw_at lw_m3 222 rfl) rfl
theorem q798 : (Jvm.Cond.selects "CakeDivision" ({ cls := "CakeDivision", name := "cellCount", desc := "()I" } : Jvm.MethodName) ({ cls := "CakeDivision", name := "cellCount", desc := "()I" } : Jvm.MethodName)) ∈ lw_all := lw_g (lw_at lw_m3 223 rfl) rfl
theorem q799 : (Jvm.Cond.code ({ cls := "CakeDivision", name := "cellCount", desc := "()I" } : Jvm.MethodName) prog_1_method_18_code (1 : Nat) (Option.some Jvm.ClassFile.FieldType.int)) ∈ lw_all := lw_g (lw_at lw_m3 224 rfl) rfl
theorem q801 : (Jvm.Cond.instanceMethod ({ cls := "CakeDivision", name := "siblingCount", desc := "()I" } : Jvm.MethodName)) ∈ lw_all := lw_g (lw_at lw_m3 226 rfl) rfl
theorem q802 : (Jvm.Cond.selects "CakeDivision" ({ cls := "CakeDivision", name := "siblingCount", desc := "()I" } : Jvm.MethodName) ({ cls := "CakeDivision", name := "siblingCount", desc := "()I" } : Jvm.MethodName)) ∈ lw_all := lw_g (lw_at lw_m3 227 rfl) rfl
theorem q803 : (Jvm.Cond.code ({ cls := "CakeDivision", name := "siblingCount", desc := "()I" } : Jvm.MethodName) prog_1_method_19_code (1 : Nat) (Option.some Jvm.ClassFile.FieldType.int)) ∈ lw_all := lw_g (lw_at lw_m3 228 rfl) rfl
theorem q805 : (Jvm.Cond.instanceMethod ({ cls := "CakeDivision", name := "freeCount", desc := "()I" } : Jvm.MethodName)) ∈ lw_all := lw_g (lw_at lw_m3 230 rfl) rfl
theorem q806 : (Jvm.Cond.selects "CakeDivision" ({ cls := "CakeDivision", name := "freeCount", desc := "()I" } : Jvm.MethodName) ({ cls := "CakeDivision", name := "freeCount", desc := "()I" } : Jvm.MethodName)) ∈ lw_all := lw_g (lw_at lw_m3 231 rfl) rfl
theorem q807 : (Jvm.Cond.code ({ cls := "CakeDivision", name := "freeCount", desc := "()I" } : Jvm.MethodName) prog_1_method_29_code (1 : Nat) (Option.some Jvm.ClassFile.FieldType.int)) ∈ lw_all := lw_g (lw_at lw_m3 232 rfl) rfl
theorem q808 : (Jvm.Cond.methodLink "CakeDivision" (207 : Nat) ({ cls := "CakeDivision$State", name := "count", desc := "(I)I" } : Jvm.MethodName)) ∈ lw_all := lw_g (lw_at lw_m3 233 rfl) rfl
theorem q814 : (Jvm.Cond.instanceMethod ({ cls := "CakeDivision", name := "envyCount", desc := "()I" } : Jvm.MethodName)) ∈ lw_all := lw_g (lw_at lw_m3 239 rfl) rfl
theorem q815 : (Jvm.Cond.selects "CakeDivision" ({ cls := "CakeDivision", name := "envyCount", desc := "()I" } : Jvm.MethodName) ({ cls := "CakeDivision", name := "envyCount", desc := "()I" } : Jvm.MethodName)) ∈ lw_all := lw_g (lw_at lw_m4 0 rfl) rfl
theorem q816 : (Jvm.Cond.code ({ cls := "CakeDivision", name := "envyCount", desc := "()I" } : Jvm.MethodName) prog_1_method_34_code (1 : Nat) (Option.some Jvm.ClassFile.FieldType.int)) ∈ lw_all := lw_g (lw_at lw_m4 1 rfl) rfl
theorem q817 : (Jvm.Cond.methodLink "CakeDivision" (229 : Nat) ({ cls := "CakeDivision$State", name := "envies", desc := "()I" } : Jvm.MethodName)) ∈ lw_all := lw_g (lw_at lw_m4 2 rfl) rfl
theorem q838 : (Jvm.Cond.instanceMethod ({ cls := "CakeDivision", name := "strongEnvyCount", desc := "()I" } : Jvm.MethodName)) ∈ lw_all := lw_g (lw_at lw_m4 23 rfl) rfl
theorem q839 : (Jvm.Cond.selects "CakeDivision" ({ cls := "CakeDivision", name := "strongEnvyCount", desc := "()I" } : Jvm.MethodName) ({ cls := "CakeDivision", name := "strongEnvyCount", desc := "()I" } : Jvm.MethodName)) ∈ lw_all := lw_g (lw_at lw_m4 24 rfl) rfl
theorem q840 : (Jvm.Cond.code ({ cls := "CakeDivision", name := "strongEnvyCount", desc := "()I" } : Jvm.MethodName) prog_1_method_35_code (4 : Nat) (Option.some Jvm.ClassFile.FieldType.int)) ∈ lw_all := lw_g (lw_at lw_m4 25 rfl) rfl
theorem q841 : (Jvm.Cond.methodLink "CakeDivision" (219 : Nat) ({ cls := "CakeDivision$State", name := "envies", desc := "(II)Z" } : Jvm.MethodName)) ∈ lw_all := lw_g (lw_at lw_m4 26 rfl) rfl
theorem q842 : (Jvm.Cond.methodLink "CakeDivision" (226 : Nat) ({ cls := "CakeDivision$State", name := "isMild", desc := "(II)Z" } : Jvm.MethodName)) ∈ lw_all := lw_g (lw_at lw_m4 27 rfl) rfl
theorem q847 : (Jvm.Cond.instanceMethod ({ cls := "CakeDivision", name := "mostEnvied", desc := "()I" } : Jvm.MethodName)) ∈ lw_all := lw_g (lw_at lw_m4 32 rfl) rfl
theorem q848 : (Jvm.Cond.selects "CakeDivision" ({ cls := "CakeDivision", name := "mostEnvied", desc := "()I" } : Jvm.MethodName) ({ cls := "CakeDivision", name := "mostEnvied", desc := "()I" } : Jvm.MethodName)) ∈ lw_all := lw_g (lw_at lw_m4 33 rfl) rfl
theorem q849 : (Jvm.Cond.code ({ cls := "CakeDivision", name := "mostEnvied", desc := "()I" } : Jvm.MethodName) prog_1_method_37_code (3 : Nat) (Option.some Jvm.ClassFile.FieldType.int)) ∈ lw_all := lw_g (lw_at lw_m4 34 rfl) rfl
theorem q850 : (Jvm.Cond.methodLink "CakeDivision" (231 : Nat) ({ cls := "CakeDivision", name := "enviers", desc := "(I)I" } : Jvm.MethodName)) ∈ lw_all := lw_g (lw_at lw_m4 35 rfl) rfl
theorem q851 : (Jvm.Cond.privateMethod ({ cls := "CakeDivision", name := "enviers", desc := "(I)I" } : Jvm.MethodName)) ∈ lw_tbl := lw_at lw_m4 36 rfl
theorem q852 : (Jvm.Cond.instanceMethod ({ cls := "CakeDivision", name := "enviers", desc := "(I)I" } : Jvm.MethodName)) ∈ lw_all := lw_g (lw_at lw_m4 37 rfl) rfl
theorem q853 : (Jvm.Cond.code ({ cls := "CakeDivision", name := "enviers", desc := "(I)I" } : Jvm.MethodName) prog_1_method_36_code (4 : Nat) (Option.some Jvm.ClassFile.FieldType.int)) ∈ lw_all := lw_g (lw_at lw_m4 38 rfl) rfl
theorem q855 : (Jvm.Cond.instanceMethod ({ cls := "CakeDivision", name := "satisfiedCount", desc := "()I" } : Jvm.MethodName)) ∈ lw_all := lw_g (lw_at lw_m4 40 rfl) rfl
theorem q856 : (Jvm.Cond.selects "CakeDivision" ({ cls := "CakeDivision", name := "satisfiedCount", desc := "()I" } : Jvm.MethodName) ({ cls := "CakeDivision", name := "satisfiedCount", desc := "()I" } : Jvm.MethodName)) ∈ lw_all := lw_g (lw_at lw_m4 41 rfl) rfl
theorem q857 : (Jvm.Cond.code ({ cls := "CakeDivision", name := "satisfiedCount", desc := "()I" } : Jvm.MethodName) prog_1_method_39_code (1 : Nat) (Option.some Jvm.ClassFile.FieldType.int)) ∈ lw_all := lw_g (lw_at lw_m4 42 rfl) rfl
theorem q858 : (Jvm.Cond.methodLink "CakeDivision" (238 : Nat) ({ cls := "CakeDivision$State", name := "satisfied", desc := "()I" } : Jvm.MethodName)) ∈ lw_all := lw_g (lw_at lw_m4 43 rfl) rfl
theorem q875 : (Jvm.Cond.instanceMethod ({ cls := "CakeDivision", name := "totalWelfare", desc := "()I" } : Jvm.MethodName)) ∈ lw_all := lw_g (lw_at lw_m4 60 rfl) rfl
theorem q876 : (Jvm.Cond.selects "CakeDivision" ({ cls := "CakeDivision", name := "totalWelfare", desc := "()I" } : Jvm.MethodName) ({ cls := "CakeDivision", name := "totalWelfare", desc := "()I" } : Jvm.MethodName)) ∈ lw_all := lw_g (lw_at lw_m4 61 rfl) rfl
theorem q877 : (Jvm.Cond.code ({ cls := "CakeDivision", name := "totalWelfare", desc := "()I" } : Jvm.MethodName) prog_1_method_43_code (3 : Nat) (Option.some Jvm.ClassFile.FieldType.int)) ∈ lw_all := lw_g (lw_at lw_m4 62 rfl) rfl
theorem q878 : (Jvm.Cond.methodLink "CakeDivision" (250 : Nat) ({ cls := "CakeDivision$State", name := "welfare", desc := "(I)I" } : Jvm.MethodName)) ∈ lw_all := lw_g (lw_at lw_m4 63 rfl) rfl
theorem q880 : (Jvm.Cond.instanceMethod ({ cls := "CakeDivision", name := "leastWelfare", desc := "()I" } : Jvm.MethodName)) ∈ lw_all := lw_g (lw_at lw_m4 65 rfl) rfl
theorem q881 : (Jvm.Cond.selects "CakeDivision" ({ cls := "CakeDivision", name := "leastWelfare", desc := "()I" } : Jvm.MethodName) ({ cls := "CakeDivision", name := "leastWelfare", desc := "()I" } : Jvm.MethodName)) ∈ lw_all := lw_g (lw_at lw_m4 66 rfl) rfl
theorem q882 : (Jvm.Cond.code ({ cls := "CakeDivision", name := "leastWelfare", desc := "()I" } : Jvm.MethodName) prog_1_method_44_code (1 : Nat) (Option.some Jvm.ClassFile.FieldType.int)) ∈ lw_all := lw_g (lw_at lw_m4 67 rfl) rfl
theorem q883 : (Jvm.Cond.methodLink "CakeDivision" (253 : Nat) ({ cls := "CakeDivision$State", name := "leastWelfare", desc := "()I" } : Jvm.MethodName)) ∈ lw_all := lw_g (lw_at lw_m4 68 rfl) rfl
theorem q889 : (Jvm.Cond.instanceMethod ({ cls := "CakeDivision", name := "welfareProduct", desc := "()J" } : Jvm.MethodName)) ∈ lw_all := lw_g (lw_at lw_m4 74 rfl) rfl
theorem q890 : (Jvm.Cond.selects "CakeDivision" ({ cls := "CakeDivision", name := "welfareProduct", desc := "()J" } : Jvm.MethodName) ({ cls := "CakeDivision", name := "welfareProduct", desc := "()J" } : Jvm.MethodName)) ∈ lw_all := lw_g (lw_at lw_m4 75 rfl) rfl
theorem q891 : (Jvm.Cond.code ({ cls := "CakeDivision", name := "welfareProduct", desc := "()J" } : Jvm.MethodName) prog_1_method_45_code (4 : Nat) (Option.some Jvm.ClassFile.FieldType.long)) ∈ lw_all := lw_g (lw_at lw_m4 76 rfl) rfl
theorem q893 : (Jvm.Cond.instanceMethod ({ cls := "CakeDivision", name := "greatestTotalWelfare", desc := "()I" } : Jvm.MethodName)) ∈ lw_all := lw_g (lw_at lw_m4 78 rfl) rfl
theorem q894 : (Jvm.Cond.selects "CakeDivision" ({ cls := "CakeDivision", name := "greatestTotalWelfare", desc := "()I" } : Jvm.MethodName) ({ cls := "CakeDivision", name := "greatestTotalWelfare", desc := "()I" } : Jvm.MethodName)) ∈ lw_all := lw_g (lw_at lw_m4 79 rfl) rfl
theorem q895 : (Jvm.Cond.code ({ cls := "CakeDivision", name := "greatestTotalWelfare", desc := "()I" } : Jvm.MethodName) prog_1_method_47_code (3 : Nat) (Option.some Jvm.ClassFile.FieldType.int)) ∈ lw_all := lw_g (lw_at lw_m4 80 rfl) rfl
theorem q896 : (Jvm.Cond.methodLink "CakeDivision" (261 : Nat) ({ cls := "CakeDivision", name := "greatestValue", desc := "(I)I" } : Jvm.MethodName)) ∈ lw_all := lw_g (lw_at lw_m4 81 rfl) rfl
theorem q897 : (Jvm.Cond.privateMethod ({ cls := "CakeDivision", name := "greatestValue", desc := "(I)I" } : Jvm.MethodName)) ∈ lw_tbl := lw_at lw_m4 82 rfl
theorem q898 : (Jvm.Cond.instanceMethod ({ cls := "CakeDivision", name := "greatestValue", desc := "(I)I" } : Jvm.MethodName)) ∈ lw_all := lw_g (lw_at lw_m4 83 rfl) rfl
theorem q899 : (Jvm.Cond.code ({ cls := "CakeDivision", name := "greatestValue", desc := "(I)I" } : Jvm.MethodName) prog_1_method_46_code (4 : Nat) (Option.some Jvm.ClassFile.FieldType.int)) ∈ lw_all := lw_g (lw_at lw_m4 84 rfl) rfl
theorem q900 : (Jvm.Cond.methodLink "CakeDivision" (158 : Nat) ({ cls := "CakeDivision$State", name := "sibling", desc := "(I)LCakeDivision$Sibling;" } : Jvm.MethodName)) ∈ lw_all := lw_g (lw_at lw_m4 85 rfl) rfl
theorem q901 : (Jvm.Cond.methodLink "CakeDivision" (188 : Nat) ({ cls := "CakeDivision$Sibling", name := "value", desc := "(I)I" } : Jvm.MethodName)) ∈ lw_all := lw_g (lw_at lw_m4 86 rfl) rfl
theorem q902 : (Jvm.Cond.methodLink "CakeDivision" (256 : Nat) ({ cls := "java/lang/Math", name := "max", desc := "(II)I" } : Jvm.MethodName)) ∈ lw_all := lw_g (lw_at lw_m4 87 rfl) rfl
theorem q904 : (Jvm.Cond.instanceMethod ({ cls := "CakeDivision", name := "greatestContiguousWelfare", desc := "()I" } : Jvm.MethodName)) ∈ lw_all := lw_g (lw_at lw_m4 89 rfl) rfl
theorem q905 : (Jvm.Cond.selects "CakeDivision" ({ cls := "CakeDivision", name := "greatestContiguousWelfare", desc := "()I" } : Jvm.MethodName) ({ cls := "CakeDivision", name := "greatestContiguousWelfare", desc := "()I" } : Jvm.MethodName)) ∈ lw_all := lw_g (lw_at lw_m4 90 rfl) rfl
theorem q906 : (Jvm.Cond.code ({ cls := "CakeDivision", name := "greatestContiguousWelfare", desc := "()I" } : Jvm.MethodName) prog_1_method_48_code (1 : Nat) (Option.some Jvm.ClassFile.FieldType.int)) ∈ lw_all := lw_g (lw_at lw_m4 91 rfl) rfl
theorem q907 : (Jvm.Cond.classLink "CakeDivision" (264 : Nat) "CakeDivision$Divider") ∈ lw_all := lw_g (lw_at lw_m4 92 rfl) rfl
theorem q909 : (Jvm.Cond.methodLink "CakeDivision" (266 : Nat) ({ cls := "CakeDivision$Divider", name := "<init>", desc := "(LCakeDivision$State;Z)V" } : Jvm.MethodName)) ∈ lw_all := lw_g (lw_at lw_m4 94 rfl) rfl
theorem q923 : (Jvm.Cond.methodLink "CakeDivision" (269 : Nat) ({ cls := "CakeDivision$Divider", name := "run", desc := "()I" } : Jvm.MethodName)) ∈ lw_all := lw_g (lw_at lw_m4 108 rfl) rfl
theorem q945 : (Jvm.Cond.instanceMethod ({ cls := "CakeDivision", name := "bestLeastWelfare", desc := "()I" } : Jvm.MethodName)) ∈ lw_all := lw_g (lw_at lw_m4 130 rfl) rfl
theorem q946 : (Jvm.Cond.selects "CakeDivision" ({ cls := "CakeDivision", name := "bestLeastWelfare", desc := "()I" } : Jvm.MethodName) ({ cls := "CakeDivision", name := "bestLeastWelfare", desc := "()I" } : Jvm.MethodName)) ∈ lw_all := lw_g (lw_at lw_m4 131 rfl) rfl
theorem q947 : (Jvm.Cond.code ({ cls := "CakeDivision", name := "bestLeastWelfare", desc := "()I" } : Jvm.MethodName) prog_1_method_49_code (1 : Nat) (Option.some Jvm.ClassFile.FieldType.int)) ∈ lw_all := lw_g (lw_at lw_m4 132 rfl) rfl
theorem q949 : (Jvm.Cond.instanceMethod ({ cls := "CakeDivision", name := "cutCount", desc := "()I" } : Jvm.MethodName)) ∈ lw_all := lw_g (lw_at lw_m4 134 rfl) rfl
theorem q950 : (Jvm.Cond.selects "CakeDivision" ({ cls := "CakeDivision", name := "cutCount", desc := "()I" } : Jvm.MethodName) ({ cls := "CakeDivision", name := "cutCount", desc := "()I" } : Jvm.MethodName)) ∈ lw_all := lw_g (lw_at lw_m4 135 rfl) rfl
theorem q951 : (Jvm.Cond.code ({ cls := "CakeDivision", name := "cutCount", desc := "()I" } : Jvm.MethodName) prog_1_method_50_code (3 : Nat) (Option.some Jvm.ClassFile.FieldType.int)) ∈ lw_all := lw_g (lw_at lw_m4 136 rfl) rfl
theorem q953 : (Jvm.Cond.instanceMethod ({ cls := "CakeDivision", name := "meanPieces", desc := "()D" } : Jvm.MethodName)) ∈ lw_all := lw_g (lw_at lw_m4 138 rfl) rfl
theorem q954 : (Jvm.Cond.selects "CakeDivision" ({ cls := "CakeDivision", name := "meanPieces", desc := "()D" } : Jvm.MethodName) ({ cls := "CakeDivision", name := "meanPieces", desc := "()D" } : Jvm.MethodName)) ∈ lw_all := lw_g (lw_at lw_m4 139 rfl) rfl
theorem q955 : (Jvm.Cond.code ({ cls := "CakeDivision", name := "meanPieces", desc := "()D" } : Jvm.MethodName) prog_1_method_52_code (3 : Nat) (Option.some Jvm.ClassFile.FieldType.double)) ∈ lw_all := lw_g (lw_at lw_m4 140 rfl) rfl
theorem q956 : (Jvm.Cond.methodLink "CakeDivision" (210 : Nat) ({ cls := "CakeDivision$State", name := "pieces", desc := "(I)I" } : Jvm.MethodName)) ∈ lw_all := lw_g (lw_at lw_m4 141 rfl) rfl
theorem q961 : (Jvm.Cond.instanceMethod ({ cls := "CakeDivision", name := "inconsistencies", desc := "()I" } : Jvm.MethodName)) ∈ lw_all := lw_g (lw_at lw_m4 146 rfl) rfl
theorem q962 : (Jvm.Cond.selects "CakeDivision" ({ cls := "CakeDivision", name := "inconsistencies", desc := "()I" } : Jvm.MethodName) ({ cls := "CakeDivision", name := "inconsistencies", desc := "()I" } : Jvm.MethodName)) ∈ lw_all := lw_g (lw_at lw_m4 147 rfl) rfl
theorem q963 : (Jvm.Cond.code ({ cls := "CakeDivision", name := "inconsistencies", desc := "()I" } : Jvm.MethodName) prog_1_method_53_code (3 : Nat) (Option.some Jvm.ClassFile.FieldType.int)) ∈ lw_all := lw_g (lw_at lw_m4 148 rfl) rfl
theorem q965 : (Jvm.Cond.instanceMethod ({ cls := "CakeDivision", name := "bestFirst", desc := "()I" } : Jvm.MethodName)) ∈ lw_all := lw_g (lw_at lw_m4 150 rfl) rfl
theorem q966 : (Jvm.Cond.selects "CakeDivision" ({ cls := "CakeDivision", name := "bestFirst", desc := "()I" } : Jvm.MethodName) ({ cls := "CakeDivision", name := "bestFirst", desc := "()I" } : Jvm.MethodName)) ∈ lw_all := lw_g (lw_at lw_m4 151 rfl) rfl
theorem q967 : (Jvm.Cond.code ({ cls := "CakeDivision", name := "bestFirst", desc := "()I" } : Jvm.MethodName) prog_1_method_58_code (5 : Nat) (Option.some Jvm.ClassFile.FieldType.int)) ∈ lw_all := lw_g (lw_at lw_m4 152 rfl) rfl
theorem q968 : (Jvm.Cond.methodLink "CakeDivision" (288 : Nat) ({ cls := "CakeDivision", name := "afterRobin", desc := "(I)LCakeDivision$State;" } : Jvm.MethodName)) ∈ lw_all := lw_g (lw_at lw_m4 153 rfl) rfl
theorem q969 : (Jvm.Cond.privateMethod ({ cls := "CakeDivision", name := "afterRobin", desc := "(I)LCakeDivision$State;" } : Jvm.MethodName)) ∈ lw_tbl := lw_at lw_m4 154 rfl
theorem q970 : (Jvm.Cond.instanceMethod ({ cls := "CakeDivision", name := "afterRobin", desc := "(I)LCakeDivision$State;" } : Jvm.MethodName)) ∈ lw_all := lw_g (lw_at lw_m4 155 rfl) rfl
theorem q971 : (Jvm.Cond.code ({ cls := "CakeDivision", name := "afterRobin", desc := "(I)LCakeDivision$State;" } : Jvm.MethodName) prog_1_method_56_code (3 : Nat) (Option.some (Jvm.ClassFile.FieldType.object "CakeDivision$State"))) ∈ lw_all := lw_g (lw_at lw_m4 156 rfl) rfl
theorem q972 : (Jvm.Cond.methodLink "CakeDivision" (281 : Nat) ({ cls := "CakeDivision$State", name := "freeCopy", desc := "()LCakeDivision$State;" } : Jvm.MethodName)) ∈ lw_all := lw_g (lw_at lw_m4 157 rfl) rfl
theorem q983 : (Jvm.Cond.methodLink "CakeDivision" (285 : Nat) ({ cls := "CakeDivision$State", name := "roundRobin", desc := "(I)I" } : Jvm.MethodName)) ∈ lw_all := lw_g (lw_at lw_m4 168 rfl) rfl
theorem q992 : (Jvm.Cond.instanceMethod ({ cls := "CakeDivision", name := "movingKnife", desc := "()I" } : Jvm.MethodName)) ∈ lw_all := lw_g (lw_at lw_m4 177 rfl) rfl
theorem q993 : (Jvm.Cond.selects "CakeDivision" ({ cls := "CakeDivision", name := "movingKnife", desc := "()I" } : Jvm.MethodName) ({ cls := "CakeDivision", name := "movingKnife", desc := "()I" } : Jvm.MethodName)) ∈ lw_all := lw_g (lw_at lw_m4 178 rfl) rfl
theorem q994 : (Jvm.Cond.code ({ cls := "CakeDivision", name := "movingKnife", desc := "()I" } : Jvm.MethodName) prog_1_method_72_code (2 : Nat) (Option.some Jvm.ClassFile.FieldType.int)) ∈ lw_all := lw_g (lw_at lw_m4 179 rfl) rfl
theorem q995 : (Jvm.Cond.methodLink "CakeDivision" (275 : Nat) ({ cls := "CakeDivision$State", name := "<init>", desc := "(LCakeDivision$State;)V" } : Jvm.MethodName)) ∈ lw_all := lw_g (lw_at lw_m4 180 rfl) rfl
theorem q996 : (Jvm.Cond.methodLink "CakeDivision" (278 : Nat) ({ cls := "CakeDivision$State", name := "movingKnife", desc := "()I" } : Jvm.MethodName)) ∈ lw_all := lw_g (lw_at lw_m4 181 rfl) rfl
theorem q1009 : (Jvm.Cond.methodLink "CakeDivision" (322 : Nat) ({ cls := "CakeDivision", name := "record", desc := "(LCakeDivision$State;I)I" } : Jvm.MethodName)) ∈ lw_all := lw_g (lw_at lw_m4 194 rfl) rfl
theorem q1010 : (Jvm.Cond.privateMethod ({ cls := "CakeDivision", name := "record", desc := "(LCakeDivision$State;I)I" } : Jvm.MethodName)) ∈ lw_tbl := lw_at lw_m4 195 rfl
theorem q1011 : (Jvm.Cond.instanceMethod ({ cls := "CakeDivision", name := "record", desc := "(LCakeDivision$State;I)I" } : Jvm.MethodName)) ∈ lw_all := lw_g (lw_at lw_m4 196 rfl) rfl
theorem q1012 : (Jvm.Cond.code ({ cls := "CakeDivision", name := "record", desc := "(LCakeDivision$State;I)I" } : Jvm.MethodName) prog_1_method_59_code (3 : Nat) (Option.some Jvm.ClassFile.FieldType.int)) ∈ lw_all := lw_g (lw_at lw_m4 197 rfl) rfl
theorem q1013 : (Jvm.Cond.methodLink "CakeDivision" (292 : Nat) ({ cls := "java/util/ArrayDeque", name := "size", desc := "()I" } : Jvm.MethodName)) ∈ lw_all := lw_g (lw_at lw_m4 198 rfl) rfl
theorem q1020 : (Jvm.Cond.methodLink "CakeDivision" (293 : Nat) ({ cls := "java/util/ArrayDeque", name := "removeFirst", desc := "()Ljava/lang/Object;" } : Jvm.MethodName)) ∈ lw_all := lw_g (lw_at lw_m4 205 rfl) rfl
theorem q1052 : (Jvm.Cond.methodLink "CakeDivision" (297 : Nat) ({ cls := "java/util/ArrayDeque", name := "addLast", desc := "(Ljava/lang/Object;)V" } : Jvm.MethodName)) ∈ lw_all := lw_g (lw_at lw_m4 237 rfl) rfl
theorem q1085 : (Jvm.Cond.instanceMethod ({ cls := "CakeDivision", name := "writeOwners", desc := "()I" } : Jvm.MethodName)) ∈ lw_all := lw_g (lw_at lw_m5 30 rfl) rfl
theorem q1086 : (Jvm.Cond.selects "CakeDivision" ({ cls := "CakeDivision", name := "writeOwners", desc := "()I" } : Jvm.MethodName) ({ cls := "CakeDivision", name := "writeOwners", desc := "()I" } : Jvm.MethodName)) ∈ lw_all := lw_g (lw_at lw_m5 31 rfl) rfl
theorem q1087 : (Jvm.Cond.code ({ cls := "CakeDivision", name := "writeOwners", desc := "()I" } : Jvm.MethodName) prog_1_method_85_code (3 : Nat) (Option.some Jvm.ClassFile.FieldType.int)) ∈ lw_all := lw_g (lw_at lw_m5 32 rfl) rfl
theorem q1088 : (Jvm.Cond.methodLink "CakeDivision" (398 : Nat) ({ cls := "CakeDivision", name := "writeRun", desc := "(II)V" } : Jvm.MethodName)) ∈ lw_all := lw_g (lw_at lw_m5 33 rfl) rfl
theorem q1089 : (Jvm.Cond.privateMethod ({ cls := "CakeDivision", name := "writeRun", desc := "(II)V" } : Jvm.MethodName)) ∈ lw_tbl := lw_at lw_m5 34 rfl
theorem q1090 : (Jvm.Cond.instanceMethod ({ cls := "CakeDivision", name := "writeRun", desc := "(II)V" } : Jvm.MethodName)) ∈ lw_all := lw_g (lw_at lw_m5 35 rfl) rfl
theorem q1091 : (Jvm.Cond.code ({ cls := "CakeDivision", name := "writeRun", desc := "(II)V" } : Jvm.MethodName) prog_1_method_84_code (5 : Nat) (Option.none : Option Jvm.ClassFile.FieldType)) ∈ lw_all := lw_g (lw_at lw_m5 36 rfl) rfl
theorem q1092 : (Jvm.Cond.methodLink "CakeDivision" (395 : Nat) ({ cls := "CakeDivision", name := "write", desc := "([I)V" } : Jvm.MethodName)) ∈ lw_all := lw_g (lw_at lw_m5 37 rfl) rfl
theorem q1093 : (Jvm.Cond.privateMethod ({ cls := "CakeDivision", name := "write", desc := "([I)V" } : Jvm.MethodName)) ∈ lw_tbl := lw_at lw_m5 38 rfl
theorem q1094 : (Jvm.Cond.instanceMethod ({ cls := "CakeDivision", name := "write", desc := "([I)V" } : Jvm.MethodName)) ∈ lw_all := lw_g (lw_at lw_m5 39 rfl) rfl
theorem q1095 : (Jvm.Cond.code ({ cls := "CakeDivision", name := "write", desc := "([I)V" } : Jvm.MethodName) prog_1_method_83_code (3 : Nat) (Option.none : Option Jvm.ClassFile.FieldType)) ∈ lw_all := lw_g (lw_at lw_m5 40 rfl) rfl
theorem q1101 : (Jvm.Cond.instanceMethod ({ cls := "CakeDivision", name := "append", desc := "(IIIII)I" } : Jvm.MethodName)) ∈ lw_all := lw_g (lw_at lw_m5 46 rfl) rfl
theorem q1102 : (Jvm.Cond.selects "CakeDivision" ({ cls := "CakeDivision", name := "append", desc := "(IIIII)I" } : Jvm.MethodName) ({ cls := "CakeDivision", name := "append", desc := "(IIIII)I" } : Jvm.MethodName)) ∈ lw_all := lw_g (lw_at lw_m5 47 rfl) rfl
theorem q1103 : (Jvm.Cond.code ({ cls := "CakeDivision", name := "append", desc := "(IIIII)I" } : Jvm.MethodName) prog_1_method_4_code (6 : Nat) (Option.some Jvm.ClassFile.FieldType.int)) ∈ lw_all := lw_g (lw_at lw_m5 48 rfl) rfl
theorem q1104 : (Jvm.Cond.classLink "CakeDivision" (78 : Nat) "java/lang/IllegalStateException") ∈ lw_all := lw_g (lw_at lw_m5 49 rfl) rfl
theorem q1105 : (Jvm.Cond.methodLink "CakeDivision" (80 : Nat) ({ cls := "java/lang/IllegalStateException", name := "<init>", desc := "()V" } : Jvm.MethodName)) ∈ lw_all := lw_g (lw_at lw_m5 50 rfl) rfl
theorem q1109 : (Jvm.Cond.methodLink "CakeDivision" (81 : Nat) ({ cls := "CakeDivision", name := "appendWords", desc := "([I)V" } : Jvm.MethodName)) ∈ lw_all := lw_g (lw_at lw_m5 54 rfl) rfl
theorem q1110 : (Jvm.Cond.privateMethod ({ cls := "CakeDivision", name := "appendWords", desc := "([I)V" } : Jvm.MethodName)) ∈ lw_tbl := lw_at lw_m5 55 rfl
theorem q1111 : (Jvm.Cond.instanceMethod ({ cls := "CakeDivision", name := "appendWords", desc := "([I)V" } : Jvm.MethodName)) ∈ lw_all := lw_g (lw_at lw_m5 56 rfl) rfl
theorem q1112 : (Jvm.Cond.code ({ cls := "CakeDivision", name := "appendWords", desc := "([I)V" } : Jvm.MethodName) prog_1_method_3_code (4 : Nat) (Option.none : Option Jvm.ClassFile.FieldType)) ∈ lw_all := lw_g (lw_at lw_m5 57 rfl) rfl
theorem q1118 : (Jvm.Cond.instanceMethod ({ cls := "CakeDivision", name := "truncate", desc := "(I)I" } : Jvm.MethodName)) ∈ lw_all := lw_g (lw_at lw_m5 63 rfl) rfl
theorem q1119 : (Jvm.Cond.selects "CakeDivision" ({ cls := "CakeDivision", name := "truncate", desc := "(I)I" } : Jvm.MethodName) ({ cls := "CakeDivision", name := "truncate", desc := "(I)I" } : Jvm.MethodName)) ∈ lw_all := lw_g (lw_at lw_m5 64 rfl) rfl
theorem q1120 : (Jvm.Cond.code ({ cls := "CakeDivision", name := "truncate", desc := "(I)I" } : Jvm.MethodName) prog_1_method_5_code (2 : Nat) (Option.some Jvm.ClassFile.FieldType.int)) ∈ lw_all := lw_g (lw_at lw_m5 65 rfl) rfl
theorem q1121 : (Jvm.Cond.classLink "CakeDivision" (85 : Nat) "java/lang/IllegalArgumentException") ∈ lw_all := lw_g (lw_at lw_m5 66 rfl) rfl
theorem q1122 : (Jvm.Cond.methodLink "CakeDivision" (87 : Nat) ({ cls := "java/lang/IllegalArgumentException", name := "<init>", desc := "()V" } : Jvm.MethodName)) ∈ lw_all := lw_g (lw_at lw_m5 67 rfl) rfl
theorem q1130 : (Jvm.Cond.instanceMethod ({ cls := "CakeDivision", name := "load", desc := "()I" } : Jvm.MethodName)) ∈ lw_all := lw_g (lw_at lw_m5 75 rfl) rfl
theorem q1131 : (Jvm.Cond.selects "CakeDivision" ({ cls := "CakeDivision", name := "load", desc := "()I" } : Jvm.MethodName) ({ cls := "CakeDivision", name := "load", desc := "()I" } : Jvm.MethodName)) ∈ lw_all := lw_g (lw_at lw_m5 76 rfl) rfl
theorem q1132 : (Jvm.Cond.codeWith ({ cls := "CakeDivision", name := "load", desc := "()I" } : Jvm.MethodName) prog_1_method_8_code (3 : Nat) (Option.some Jvm.ClassFile.FieldType.int) [((0 : Nat), (16 : Nat), (24 : Nat), (70 : Nat)), ((0 : Nat), (16 : Nat), (31 : Nat), (0 : Nat)), ((24 : Nat), (32 : Nat), (31 : Nat), (0 : Nat))]) ∈ lw_all := lw_g (lw_at lw_m5 77 rfl) rfl
theorem q1133 : (Jvm.Cond.methodLink "CakeDivision" (141 : Nat) ({ cls := "CakeDivision", name := "rejected", desc := "(LCakeDivision$TextError;)Ljava/lang/IllegalArgumentException;" } : Jvm.MethodName)) ∈ lw_all := lw_g (lw_at lw_m5 78 rfl) rfl
theorem q1134 : (Jvm.Cond.privateMethod ({ cls := "CakeDivision", name := "rejected", desc := "(LCakeDivision$TextError;)Ljava/lang/IllegalArgumentException;" } : Jvm.MethodName)) ∈ lw_tbl := lw_at lw_m5 79 rfl
theorem q1135 : (Jvm.Cond.instanceMethod ({ cls := "CakeDivision", name := "rejected", desc := "(LCakeDivision$TextError;)Ljava/lang/IllegalArgumentException;" } : Jvm.MethodName)) ∈ lw_all := lw_g (lw_at lw_m5 80 rfl) rfl
theorem q1136 : (Jvm.Cond.code ({ cls := "CakeDivision", name := "rejected", desc := "(LCakeDivision$TextError;)Ljava/lang/IllegalArgumentException;" } : Jvm.MethodName) prog_1_method_7_code (2 : Nat) (Option.some (Jvm.ClassFile.FieldType.object "java/lang/IllegalArgumentException"))) ∈ lw_all := lw_g (lw_at lw_m5 81 rfl) rfl
theorem q1137 : (Jvm.Cond.methodLink "CakeDivision" (145 : Nat) ({ cls := "java/util/ArrayDeque", name := "clear", desc := "()V" } : Jvm.MethodName)) ∈ lw_all := lw_g (lw_at lw_m5 82 rfl) rfl
theorem q1167 : (Jvm.Cond.instanceMethod ({ cls := "CakeDivision", name := "nameByte", desc := "(II)I" } : Jvm.MethodName)) ∈ lw_all := lw_g (lw_at lw_m5 112 rfl) rfl
theorem q1168 : (Jvm.Cond.selects "CakeDivision" ({ cls := "CakeDivision", name := "nameByte", desc := "(II)I" } : Jvm.MethodName) ({ cls := "CakeDivision", name := "nameByte", desc := "(II)I" } : Jvm.MethodName)) ∈ lw_all := lw_g (lw_at lw_m5 113 rfl) rfl
theorem q1169 : (Jvm.Cond.code ({ cls := "CakeDivision", name := "nameByte", desc := "(II)I" } : Jvm.MethodName) prog_1_method_20_code (4 : Nat) (Option.some Jvm.ClassFile.FieldType.int)) ∈ lw_all := lw_g (lw_at lw_m5 114 rfl) rfl
theorem q1170 : (Jvm.Cond.methodLink "CakeDivision" (169 : Nat) ({ cls := "CakeDivision", name := "siblingAt", desc := "(I)LCakeDivision$Sibling;" } : Jvm.MethodName)) ∈ lw_all := lw_g (lw_at lw_m5 115 rfl) rfl
theorem q1171 : (Jvm.Cond.privateMethod ({ cls := "CakeDivision", name := "siblingAt", desc := "(I)LCakeDivision$Sibling;" } : Jvm.MethodName)) ∈ lw_tbl := lw_at lw_m5 116 rfl
theorem q1172 : (Jvm.Cond.instanceMethod ({ cls := "CakeDivision", name := "siblingAt", desc := "(I)LCakeDivision$Sibling;" } : Jvm.MethodName)) ∈ lw_all := lw_g (lw_at lw_m5 117 rfl) rfl
theorem q1173 : (Jvm.Cond.code ({ cls := "CakeDivision", name := "siblingAt", desc := "(I)LCakeDivision$Sibling;" } : Jvm.MethodName) prog_1_method_16_code (2 : Nat) (Option.some (Jvm.ClassFile.FieldType.object "CakeDivision$Sibling"))) ∈ lw_all := lw_g (lw_at lw_m5 118 rfl) rfl
theorem q1174 : (Jvm.Cond.methodLink "CakeDivision" (155 : Nat) ({ cls := "CakeDivision", name := "checkSiblings", desc := "([I)V" } : Jvm.MethodName)) ∈ lw_all := lw_g (lw_at lw_m5 119 rfl) rfl
theorem q1175 : (Jvm.Cond.privateMethod ({ cls := "CakeDivision", name := "checkSiblings", desc := "([I)V" } : Jvm.MethodName)) ∈ lw_tbl := lw_at lw_m5 120 rfl
theorem q1176 : (Jvm.Cond.instanceMethod ({ cls := "CakeDivision", name := "checkSiblings", desc := "([I)V" } : Jvm.MethodName)) ∈ lw_all := lw_g (lw_at lw_m5 121 rfl) rfl
theorem q1177 : (Jvm.Cond.code ({ cls := "CakeDivision", name := "checkSiblings", desc := "([I)V" } : Jvm.MethodName) prog_1_method_15_code (3 : Nat) (Option.none : Option Jvm.ClassFile.FieldType)) ∈ lw_all := lw_g (lw_at lw_m5 122 rfl) rfl
theorem q1178 : (Jvm.Cond.methodLink "CakeDivision" (151 : Nat) ({ cls := "CakeDivision", name := "checkIndex", desc := "(II)V" } : Jvm.MethodName)) ∈ lw_all := lw_g (lw_at lw_m5 123 rfl) rfl
theorem q1179 : (Jvm.Cond.static ({ cls := "CakeDivision", name := "checkIndex", desc := "(II)V" } : Jvm.MethodName)) ∈ lw_all := lw_g (lw_at lw_m5 124 rfl) rfl
theorem q1180 : (Jvm.Cond.code ({ cls := "CakeDivision", name := "checkIndex", desc := "(II)V" } : Jvm.MethodName) prog_1_method_12_code (2 : Nat) (Option.none : Option Jvm.ClassFile.FieldType)) ∈ lw_all := lw_g (lw_at lw_m5 125 rfl) rfl
theorem q1181 : (Jvm.Cond.classLink "CakeDivision" (148 : Nat) "java/lang/IndexOutOfBoundsException") ∈ lw_all := lw_g (lw_at lw_m5 126 rfl) rfl
theorem q1190 : (Jvm.Cond.methodLink "CakeDivision" (150 : Nat) ({ cls := "java/lang/IndexOutOfBoundsException", name := "<init>", desc := "()V" } : Jvm.MethodName)) ∈ lw_all := lw_g (lw_at lw_m5 135 rfl) rfl
theorem q1201 : (Jvm.Cond.instanceMethod ({ cls := "CakeDivision", name := "findSibling", desc := "()I" } : Jvm.MethodName)) ∈ lw_all := lw_g (lw_at lw_m5 146 rfl) rfl
theorem q1202 : (Jvm.Cond.selects "CakeDivision" ({ cls := "CakeDivision", name := "findSibling", desc := "()I" } : Jvm.MethodName) ({ cls := "CakeDivision", name := "findSibling", desc := "()I" } : Jvm.MethodName)) ∈ lw_all := lw_g (lw_at lw_m5 147 rfl) rfl
theorem q1203 : (Jvm.Cond.code ({ cls := "CakeDivision", name := "findSibling", desc := "()I" } : Jvm.MethodName) prog_1_method_21_code (3 : Nat) (Option.some Jvm.ClassFile.FieldType.int)) ∈ lw_all := lw_g (lw_at lw_m5 148 rfl) rfl
theorem q1204 : (Jvm.Cond.methodLink "CakeDivision" (175 : Nat) ({ cls := "java/lang/System", name := "arraycopy", desc := "(Ljava/lang/Object;ILjava/lang/Object;II)V" } : Jvm.MethodName)) ∈ lw_all := lw_g (lw_at lw_m5 149 rfl) rfl
theorem q1205 : (Jvm.Cond.methodLink "CakeDivision" (181 : Nat) ({ cls := "CakeDivision$State", name := "siblingNamed", desc := "([B)I" } : Jvm.MethodName)) ∈ lw_all := lw_g (lw_at lw_m5 150 rfl) rfl
theorem q1206 : (Jvm.Cond.classLink "CakeDivision" (185 : Nat) "java/util/NoSuchElementException") ∈ lw_all := lw_g (lw_at lw_m5 151 rfl) rfl
theorem q1207 : (Jvm.Cond.methodLink "CakeDivision" (187 : Nat) ({ cls := "java/util/NoSuchElementException", name := "<init>", desc := "()V" } : Jvm.MethodName)) ∈ lw_all := lw_g (lw_at lw_m5 152 rfl) rfl
theorem q1212 : (Jvm.Cond.instanceMethod ({ cls := "CakeDivision", name := "value", desc := "(II)I" } : Jvm.MethodName)) ∈ lw_all := lw_g (lw_at lw_m5 157 rfl) rfl
theorem q1213 : (Jvm.Cond.selects "CakeDivision" ({ cls := "CakeDivision", name := "value", desc := "(II)I" } : Jvm.MethodName) ({ cls := "CakeDivision", name := "value", desc := "(II)I" } : Jvm.MethodName)) ∈ lw_all := lw_g (lw_at lw_m5 158 rfl) rfl
theorem q1214 : (Jvm.Cond.code ({ cls := "CakeDivision", name := "value", desc := "(II)I" } : Jvm.MethodName) prog_1_method_22_code (4 : Nat) (Option.some Jvm.ClassFile.FieldType.int)) ∈ lw_all := lw_g (lw_at lw_m5 159 rfl) rfl
theorem q1219 : (Jvm.Cond.instanceMethod ({ cls := "CakeDivision", name := "owner", desc := "(I)I" } : Jvm.MethodName)) ∈ lw_all := lw_g (lw_at lw_m5 164 rfl) rfl
theorem q1220 : (Jvm.Cond.selects "CakeDivision" ({ cls := "CakeDivision", name := "owner", desc := "(I)I" } : Jvm.MethodName) ({ cls := "CakeDivision", name := "owner", desc := "(I)I" } : Jvm.MethodName)) ∈ lw_all := lw_g (lw_at lw_m5 165 rfl) rfl
theorem q1221 : (Jvm.Cond.code ({ cls := "CakeDivision", name := "owner", desc := "(I)I" } : Jvm.MethodName) prog_1_method_23_code (2 : Nat) (Option.some Jvm.ClassFile.FieldType.int)) ∈ lw_all := lw_g (lw_at lw_m5 166 rfl) rfl
theorem q1226 : (Jvm.Cond.instanceMethod ({ cls := "CakeDivision", name := "worth", desc := "(III)I" } : Jvm.MethodName)) ∈ lw_all := lw_g (lw_at lw_m5 171 rfl) rfl
theorem q1227 : (Jvm.Cond.selects "CakeDivision" ({ cls := "CakeDivision", name := "worth", desc := "(III)I" } : Jvm.MethodName) ({ cls := "CakeDivision", name := "worth", desc := "(III)I" } : Jvm.MethodName)) ∈ lw_all := lw_g (lw_at lw_m5 172 rfl) rfl
theorem q1228 : (Jvm.Cond.code ({ cls := "CakeDivision", name := "worth", desc := "(III)I" } : Jvm.MethodName) prog_1_method_24_code (5 : Nat) (Option.some Jvm.ClassFile.FieldType.int)) ∈ lw_all := lw_g (lw_at lw_m5 173 rfl) rfl
theorem q1229 : (Jvm.Cond.methodLink "CakeDivision" (195 : Nat) ({ cls := "CakeDivision", name := "checkCells", desc := "(II)V" } : Jvm.MethodName)) ∈ lw_all := lw_g (lw_at lw_m5 174 rfl) rfl
theorem q1230 : (Jvm.Cond.privateMethod ({ cls := "CakeDivision", name := "checkCells", desc := "(II)V" } : Jvm.MethodName)) ∈ lw_tbl := lw_at lw_m5 175 rfl
theorem q1231 : (Jvm.Cond.instanceMethod ({ cls := "CakeDivision", name := "checkCells", desc := "(II)V" } : Jvm.MethodName)) ∈ lw_all := lw_g (lw_at lw_m5 176 rfl) rfl
theorem q1232 : (Jvm.Cond.code ({ cls := "CakeDivision", name := "checkCells", desc := "(II)V" } : Jvm.MethodName) prog_1_method_17_code (3 : Nat) (Option.none : Option Jvm.ClassFile.FieldType)) ∈ lw_all := lw_g (lw_at lw_m5 177 rfl) rfl
theorem q1233 : (Jvm.Cond.methodLink "CakeDivision" (161 : Nat) ({ cls := "CakeDivision", name := "isBetween", desc := "(III)Z" } : Jvm.MethodName)) ∈ lw_all := lw_g (lw_at lw_m5 178 rfl) rfl
theorem q1234 : (Jvm.Cond.static ({ cls := "CakeDivision", name := "isBetween", desc := "(III)Z" } : Jvm.MethodName)) ∈ lw_all := lw_g (lw_at lw_m5 179 rfl) rfl
theorem q1235 : (Jvm.Cond.code ({ cls := "CakeDivision", name := "isBetween", desc := "(III)Z" } : Jvm.MethodName) prog_1_method_11_code (3 : Nat) (Option.some Jvm.ClassFile.FieldType.boolean)) ∈ lw_all := lw_g (lw_at lw_m5 180 rfl) rfl
theorem q1236 : (Jvm.Cond.methodLink "CakeDivision" (165 : Nat) ({ cls := "CakeDivision", name := "checkArgument", desc := "(Z)V" } : Jvm.MethodName)) ∈ lw_all := lw_g (lw_at lw_m5 181 rfl) rfl
theorem q1237 : (Jvm.Cond.static ({ cls := "CakeDivision", name := "checkArgument", desc := "(Z)V" } : Jvm.MethodName)) ∈ lw_all := lw_g (lw_at lw_m5 182 rfl) rfl
theorem q1238 : (Jvm.Cond.code ({ cls := "CakeDivision", name := "checkArgument", desc := "(Z)V" } : Jvm.MethodName) prog_1_method_13_code (1 : Nat) (Option.none : Option Jvm.ClassFile.FieldType)) ∈ lw_all := lw_g (lw_at lw_m5 183 rfl) rfl
theorem q1239 : (Jvm.Cond.methodLink "CakeDivision" (198 : Nat) ({ cls := "CakeDivision$Sibling", name := "worth", desc := "(II)I" } : Jvm.MethodName)) ∈ lw_all := lw_g (lw_at lw_m5 184 rfl) rfl
theorem q1244 : (Jvm.Cond.instanceMethod ({ cls := "CakeDivision", name := "total", desc := "(I)I" } : Jvm.MethodName)) ∈ lw_all := lw_g (lw_at lw_m5 189 rfl) rfl
theorem q1245 : (Jvm.Cond.selects "CakeDivision" ({ cls := "CakeDivision", name := "total", desc := "(I)I" } : Jvm.MethodName) ({ cls := "CakeDivision", name := "total", desc := "(I)I" } : Jvm.MethodName)) ∈ lw_all := lw_g (lw_at lw_m5 190 rfl) rfl
theorem q1246 : (Jvm.Cond.code ({ cls := "CakeDivision", name := "total", desc := "(I)I" } : Jvm.MethodName) prog_1_method_25_code (2 : Nat) (Option.some Jvm.ClassFile.FieldType.int)) ∈ lw_all := lw_g (lw_at lw_m5 191 rfl) rfl
theorem q1247 : (Jvm.Cond.methodLink "CakeDivision" (201 : Nat) ({ cls := "CakeDivision$Sibling", name := "total", desc := "()I" } : Jvm.MethodName)) ∈ lw_all := lw_g (lw_at lw_m5 192 rfl) rfl
theorem q1252 : (Jvm.Cond.instanceMethod ({ cls := "CakeDivision", name := "worthOfShare", desc := "(II)I" } : Jvm.MethodName)) ∈ lw_all := lw_g (lw_at lw_m5 197 rfl) rfl
theorem q1253 : (Jvm.Cond.selects "CakeDivision" ({ cls := "CakeDivision", name := "worthOfShare", desc := "(II)I" } : Jvm.MethodName) ({ cls := "CakeDivision", name := "worthOfShare", desc := "(II)I" } : Jvm.MethodName)) ∈ lw_all := lw_g (lw_at lw_m5 198 rfl) rfl
theorem q1254 : (Jvm.Cond.code ({ cls := "CakeDivision", name := "worthOfShare", desc := "(II)I" } : Jvm.MethodName) prog_1_method_26_code (3 : Nat) (Option.some Jvm.ClassFile.FieldType.int)) ∈ lw_all := lw_g (lw_at lw_m5 199 rfl) rfl
theorem q1255 : (Jvm.Cond.methodLink "CakeDivision" (204 : Nat) ({ cls := "CakeDivision$State", name := "worthOfShare", desc := "(II)I" } : Jvm.MethodName)) ∈ lw_all := lw_g (lw_at lw_m5 200 rfl) rfl
theorem q1260 : (Jvm.Cond.instanceMethod ({ cls := "CakeDivision", name := "shareSize", desc := "(I)I" } : Jvm.MethodName)) ∈ lw_all := lw_g (lw_at lw_m5 205 rfl) rfl
theorem q1261 : (Jvm.Cond.selects "CakeDivision" ({ cls := "CakeDivision", name := "shareSize", desc := "(I)I" } : Jvm.MethodName) ({ cls := "CakeDivision", name := "shareSize", desc := "(I)I" } : Jvm.MethodName)) ∈ lw_all := lw_g (lw_at lw_m5 206 rfl) rfl
theorem q1262 : (Jvm.Cond.code ({ cls := "CakeDivision", name := "shareSize", desc := "(I)I" } : Jvm.MethodName) prog_1_method_27_code (2 : Nat) (Option.some Jvm.ClassFile.FieldType.int)) ∈ lw_all := lw_g (lw_at lw_m5 207 rfl) rfl
theorem q1267 : (Jvm.Cond.instanceMethod ({ cls := "CakeDivision", name := "pieceCount", desc := "(I)I" } : Jvm.MethodName)) ∈ lw_all := lw_g (lw_at lw_m5 212 rfl) rfl
theorem q1268 : (Jvm.Cond.selects "CakeDivision" ({ cls := "CakeDivision", name := "pieceCount", desc := "(I)I" } : Jvm.MethodName) ({ cls := "CakeDivision", name := "pieceCount", desc := "(I)I" } : Jvm.MethodName)) ∈ lw_all := lw_g (lw_at lw_m5 213 rfl) rfl
theorem q1269 : (Jvm.Cond.code ({ cls := "CakeDivision", name := "pieceCount", desc := "(I)I" } : Jvm.MethodName) prog_1_method_28_code (2 : Nat) (Option.some Jvm.ClassFile.FieldType.int)) ∈ lw_all := lw_g (lw_at lw_m5 214 rfl) rfl
theorem q1274 : (Jvm.Cond.instanceMethod ({ cls := "CakeDivision", name := "mark", desc := "(III)I" } : Jvm.MethodName)) ∈ lw_all := lw_g (lw_at lw_m5 219 rfl) rfl
theorem q1275 : (Jvm.Cond.selects "CakeDivision" ({ cls := "CakeDivision", name := "mark", desc := "(III)I" } : Jvm.MethodName) ({ cls := "CakeDivision", name := "mark", desc := "(III)I" } : Jvm.MethodName)) ∈ lw_all := lw_g (lw_at lw_m5 220 rfl) rfl
theorem q1276 : (Jvm.Cond.code ({ cls := "CakeDivision", name := "mark", desc := "(III)I" } : Jvm.MethodName) prog_1_method_30_code (5 : Nat) (Option.some Jvm.ClassFile.FieldType.int)) ∈ lw_all := lw_g (lw_at lw_m5 221 rfl) rfl
theorem q1277 : (Jvm.Cond.methodLink "CakeDivision" (213 : Nat) ({ cls := "CakeDivision$Sibling", name := "mark", desc := "(II)I" } : Jvm.MethodName)) ∈ lw_all := lw_g (lw_at lw_m5 222 rfl) rfl
theorem q1282 : (Jvm.Cond.instanceMethod ({ cls := "CakeDivision", name := "favouriteFreeCell", desc := "(I)I" } : Jvm.MethodName)) ∈ lw_all := lw_g (lw_at lw_m5 227 rfl) rfl
theorem q1283 : (Jvm.Cond.selects "CakeDivision" ({ cls := "CakeDivision", name := "favouriteFreeCell", desc := "(I)I" } : Jvm.MethodName) ({ cls := "CakeDivision", name := "favouriteFreeCell", desc := "(I)I" } : Jvm.MethodName)) ∈ lw_all := lw_g (lw_at lw_m5 228 rfl) rfl
theorem q1284 : (Jvm.Cond.code ({ cls := "CakeDivision", name := "favouriteFreeCell", desc := "(I)I" } : Jvm.MethodName) prog_1_method_31_code (2 : Nat) (Option.some Jvm.ClassFile.FieldType.int)) ∈ lw_all := lw_g (lw_at lw_m5 229 rfl) rfl
theorem q1285 : (Jvm.Cond.methodLink "CakeDivision" (216 : Nat) ({ cls := "CakeDivision$State", name := "favourite", desc := "(I)I" } : Jvm.MethodName)) ∈ lw_all := lw_g (lw_at lw_m5 230 rfl) rfl
theorem q1290 : (Jvm.Cond.instanceMethod ({ cls := "CakeDivision", name := "envies", desc := "(II)Z" } : Jvm.MethodName)) ∈ lw_all := lw_g (lw_at lw_m5 235 rfl) rfl
theorem q1291 : (Jvm.Cond.selects "CakeDivision" ({ cls := "CakeDivision", name := "envies", desc := "(II)Z" } : Jvm.MethodName) ({ cls := "CakeDivision", name := "envies", desc := "(II)Z" } : Jvm.MethodName)) ∈ lw_all := lw_g (lw_at lw_m5 236 rfl) rfl
theorem q1292 : (Jvm.Cond.code ({ cls := "CakeDivision", name := "envies", desc := "(II)Z" } : Jvm.MethodName) prog_1_method_32_code (3 : Nat) (Option.some Jvm.ClassFile.FieldType.boolean)) ∈ lw_all := lw_g (lw_at lw_m5 237 rfl) rfl
theorem q1297 : (Jvm.Cond.instanceMethod ({ cls := "CakeDivision", name := "isMild", desc := "(II)Z" } : Jvm.MethodName)) ∈ lw_all := lw_g (lw_at lw_m6 2 rfl) rfl
theorem q1298 : (Jvm.Cond.selects "CakeDivision" ({ cls := "CakeDivision", name := "isMild", desc := "(II)Z" } : Jvm.MethodName) ({ cls := "CakeDivision", name := "isMild", desc := "(II)Z" } : Jvm.MethodName)) ∈ lw_all := lw_g (lw_at lw_m6 3 rfl) rfl
theorem q1299 : (Jvm.Cond.code ({ cls := "CakeDivision", name := "isMild", desc := "(II)Z" } : Jvm.MethodName) prog_1_method_33_code (3 : Nat) (Option.some Jvm.ClassFile.FieldType.boolean)) ∈ lw_all := lw_g (lw_at lw_m6 4 rfl) rfl
theorem q1300 : (Jvm.Cond.methodLink "CakeDivision" (223 : Nat) ({ cls := "CakeDivision", name := "checkState", desc := "(Z)V" } : Jvm.MethodName)) ∈ lw_all := lw_g (lw_at lw_m6 5 rfl) rfl
theorem q1301 : (Jvm.Cond.static ({ cls := "CakeDivision", name := "checkState", desc := "(Z)V" } : Jvm.MethodName)) ∈ lw_all := lw_g (lw_at lw_m6 6 rfl) rfl
theorem q1302 : (Jvm.Cond.code ({ cls := "CakeDivision", name := "checkState", desc := "(Z)V" } : Jvm.MethodName) prog_1_method_14_code (1 : Nat) (Option.none : Option Jvm.ClassFile.FieldType)) ∈ lw_all := lw_g (lw_at lw_m6 7 rfl) rfl
theorem q1307 : (Jvm.Cond.instanceMethod ({ cls := "CakeDivision", name := "isSatisfied", desc := "(I)Z" } : Jvm.MethodName)) ∈ lw_all := lw_g (lw_at lw_m6 12 rfl) rfl
theorem q1308 : (Jvm.Cond.selects "CakeDivision" ({ cls := "CakeDivision", name := "isSatisfied", desc := "(I)Z" } : Jvm.MethodName) ({ cls := "CakeDivision", name := "isSatisfied", desc := "(I)Z" } : Jvm.MethodName)) ∈ lw_all := lw_g (lw_at lw_m6 13 rfl) rfl
theorem q1309 : (Jvm.Cond.code ({ cls := "CakeDivision", name := "isSatisfied", desc := "(I)Z" } : Jvm.MethodName) prog_1_method_38_code (2 : Nat) (Option.some Jvm.ClassFile.FieldType.boolean)) ∈ lw_all := lw_g (lw_at lw_m6 14 rfl) rfl
theorem q1310 : (Jvm.Cond.methodLink "CakeDivision" (234 : Nat) ({ cls := "CakeDivision$State", name := "isSatisfied", desc := "(I)Z" } : Jvm.MethodName)) ∈ lw_all := lw_g (lw_at lw_m6 15 rfl) rfl
theorem q1315 : (Jvm.Cond.instanceMethod ({ cls := "CakeDivision", name := "envyCycleLength", desc := "(I)I" } : Jvm.MethodName)) ∈ lw_all := lw_g (lw_at lw_m6 20 rfl) rfl
theorem q1316 : (Jvm.Cond.selects "CakeDivision" ({ cls := "CakeDivision", name := "envyCycleLength", desc := "(I)I" } : Jvm.MethodName) ({ cls := "CakeDivision", name := "envyCycleLength", desc := "(I)I" } : Jvm.MethodName)) ∈ lw_all := lw_g (lw_at lw_m6 21 rfl) rfl
theorem q1317 : (Jvm.Cond.code ({ cls := "CakeDivision", name := "envyCycleLength", desc := "(I)I" } : Jvm.MethodName) prog_1_method_40_code (2 : Nat) (Option.some Jvm.ClassFile.FieldType.int)) ∈ lw_all := lw_g (lw_at lw_m6 22 rfl) rfl
theorem q1318 : (Jvm.Cond.classLink "CakeDivision" (241 : Nat) "CakeDivision$EnvyCycle") ∈ lw_all := lw_g (lw_at lw_m6 23 rfl) rfl
theorem q1320 : (Jvm.Cond.methodLink "CakeDivision" (243 : Nat) ({ cls := "CakeDivision$EnvyCycle", name := "<init>", desc := "(LCakeDivision$State;I)V" } : Jvm.MethodName)) ∈ lw_all := lw_g (lw_at lw_m6 25 rfl) rfl
theorem q1341 : (Jvm.Cond.fieldLink "CakeDivision" (246 : Nat) "CakeDivision$EnvyCycle" "length" "I") ∈ lw_all := lw_g (lw_at lw_m6 46 rfl) rfl
theorem q1355 : (Jvm.Cond.instanceMethod ({ cls := "CakeDivision", name := "envyCycleMember", desc := "(II)I" } : Jvm.MethodName)) ∈ lw_all := lw_g (lw_at lw_m6 60 rfl) rfl
theorem q1356 : (Jvm.Cond.selects "CakeDivision" ({ cls := "CakeDivision", name := "envyCycleMember", desc := "(II)I" } : Jvm.MethodName) ({ cls := "CakeDivision", name := "envyCycleMember", desc := "(II)I" } : Jvm.MethodName)) ∈ lw_all := lw_g (lw_at lw_m6 61 rfl) rfl
theorem q1357 : (Jvm.Cond.code ({ cls := "CakeDivision", name := "envyCycleMember", desc := "(II)I" } : Jvm.MethodName) prog_1_method_41_code (4 : Nat) (Option.some Jvm.ClassFile.FieldType.int)) ∈ lw_all := lw_g (lw_at lw_m6 62 rfl) rfl
theorem q1358 : (Jvm.Cond.methodLink "CakeDivision" (247 : Nat) ({ cls := "CakeDivision$EnvyCycle", name := "member", desc := "(I)I" } : Jvm.MethodName)) ∈ lw_all := lw_g (lw_at lw_m6 63 rfl) rfl
theorem q1366 : (Jvm.Cond.instanceMethod ({ cls := "CakeDivision", name := "wouldSwap", desc := "(II)Z" } : Jvm.MethodName)) ∈ lw_all := lw_g (lw_at lw_m6 71 rfl) rfl
theorem q1367 : (Jvm.Cond.selects "CakeDivision" ({ cls := "CakeDivision", name := "wouldSwap", desc := "(II)Z" } : Jvm.MethodName) ({ cls := "CakeDivision", name := "wouldSwap", desc := "(II)Z" } : Jvm.MethodName)) ∈ lw_all := lw_g (lw_at lw_m6 72 rfl) rfl
theorem q1368 : (Jvm.Cond.code ({ cls := "CakeDivision", name := "wouldSwap", desc := "(II)Z" } : Jvm.MethodName) prog_1_method_42_code (3 : Nat) (Option.some Jvm.ClassFile.FieldType.boolean)) ∈ lw_all := lw_g (lw_at lw_m6 73 rfl) rfl
theorem q1373 : (Jvm.Cond.instanceMethod ({ cls := "CakeDivision", name := "satisfaction", desc := "(I)F" } : Jvm.MethodName)) ∈ lw_all := lw_g (lw_at lw_m6 78 rfl) rfl
theorem q1374 : (Jvm.Cond.selects "CakeDivision" ({ cls := "CakeDivision", name := "satisfaction", desc := "(I)F" } : Jvm.MethodName) ({ cls := "CakeDivision", name := "satisfaction", desc := "(I)F" } : Jvm.MethodName)) ∈ lw_all := lw_g (lw_at lw_m6 79 rfl) rfl
theorem q1375 : (Jvm.Cond.code ({ cls := "CakeDivision", name := "satisfaction", desc := "(I)F" } : Jvm.MethodName) prog_1_method_51_code (3 : Nat) (Option.some Jvm.ClassFile.FieldType.float)) ∈ lw_all := lw_g (lw_at lw_m6 80 rfl) rfl
theorem q1380 : (Jvm.Cond.instanceMethod ({ cls := "CakeDivision", name := "cutFor", desc := "(I)I" } : Jvm.MethodName)) ∈ lw_all := lw_g (lw_at lw_m6 85 rfl) rfl
theorem q1381 : (Jvm.Cond.selects "CakeDivision" ({ cls := "CakeDivision", name := "cutFor", desc := "(I)I" } : Jvm.MethodName) ({ cls := "CakeDivision", name := "cutFor", desc := "(I)I" } : Jvm.MethodName)) ∈ lw_all := lw_g (lw_at lw_m6 86 rfl) rfl
theorem q1382 : (Jvm.Cond.code ({ cls := "CakeDivision", name := "cutFor", desc := "(I)I" } : Jvm.MethodName) prog_1_method_54_code (2 : Nat) (Option.some Jvm.ClassFile.FieldType.int)) ∈ lw_all := lw_g (lw_at lw_m6 87 rfl) rfl
theorem q1383 : (Jvm.Cond.methodLink "CakeDivision" (272 : Nat) ({ cls := "CakeDivision$State", name := "cutFor", desc := "(I)I" } : Jvm.MethodName)) ∈ lw_all := lw_g (lw_at lw_m6 88 rfl) rfl
theorem q1396 : (Jvm.Cond.instanceMethod ({ cls := "CakeDivision", name := "welfareByKnife", desc := "(I)I" } : Jvm.MethodName)) ∈ lw_all := lw_g (lw_at lw_m6 101 rfl) rfl
theorem q1397 : (Jvm.Cond.selects "CakeDivision" ({ cls := "CakeDivision", name := "welfareByKnife", desc := "(I)I" } : Jvm.MethodName) ({ cls := "CakeDivision", name := "welfareByKnife", desc := "(I)I" } : Jvm.MethodName)) ∈ lw_all := lw_g (lw_at lw_m6 102 rfl) rfl
theorem q1398 : (Jvm.Cond.code ({ cls := "CakeDivision", name := "welfareByKnife", desc := "(I)I" } : Jvm.MethodName) prog_1_method_55_code (3 : Nat) (Option.some Jvm.ClassFile.FieldType.int)) ∈ lw_all := lw_g (lw_at lw_m6 103 rfl) rfl
theorem q1403 : (Jvm.Cond.instanceMethod ({ cls := "CakeDivision", name := "welfareByRobin", desc := "(II)I" } : Jvm.MethodName)) ∈ lw_all := lw_g (lw_at lw_m6 108 rfl) rfl
theorem q1404 : (Jvm.Cond.selects "CakeDivision" ({ cls := "CakeDivision", name := "welfareByRobin", desc := "(II)I" } : Jvm.MethodName) ({ cls := "CakeDivision", name := "welfareByRobin", desc := "(II)I" } : Jvm.MethodName)) ∈ lw_all := lw_g (lw_at lw_m6 109 rfl) rfl
theorem q1405 : (Jvm.Cond.code ({ cls := "CakeDivision", name := "welfareByRobin", desc := "(II)I" } : Jvm.MethodName) prog_1_method_57_code (3 : Nat) (Option.some Jvm.ClassFile.FieldType.int)) ∈ lw_all := lw_g (lw_at lw_m6 110 rfl) rfl
theorem q1410 : (Jvm.Cond.instanceMethod ({ cls := "CakeDivision", name := "give", desc := "(III)I" } : Jvm.MethodName)) ∈ lw_all := lw_g (lw_at lw_m6 115 rfl) rfl
theorem q1411 : (Jvm.Cond.selects "CakeDivision" ({ cls := "CakeDivision", name := "give", desc := "(III)I" } : Jvm.MethodName) ({ cls := "CakeDivision", name := "give", desc := "(III)I" } : Jvm.MethodName)) ∈ lw_all := lw_g (lw_at lw_m6 116 rfl) rfl
theorem q1412 : (Jvm.Cond.code ({ cls := "CakeDivision", name := "give", desc := "(III)I" } : Jvm.MethodName) prog_1_method_67_code (5 : Nat) (Option.some Jvm.ClassFile.FieldType.int)) ∈ lw_all := lw_g (lw_at lw_m6 117 rfl) rfl
theorem q1413 : (Jvm.Cond.methodLink "CakeDivision" (318 : Nat) ({ cls := "CakeDivision", name := "doGive", desc := "(III)I" } : Jvm.MethodName)) ∈ lw_all := lw_g (lw_at lw_m6 118 rfl) rfl
theorem q1414 : (Jvm.Cond.privateMethod ({ cls := "CakeDivision", name := "doGive", desc := "(III)I" } : Jvm.MethodName)) ∈ lw_tbl := lw_at lw_m6 119 rfl
theorem q1415 : (Jvm.Cond.instanceMethod ({ cls := "CakeDivision", name := "doGive", desc := "(III)I" } : Jvm.MethodName)) ∈ lw_all := lw_g (lw_at lw_m6 120 rfl) rfl
theorem q1416 : (Jvm.Cond.code ({ cls := "CakeDivision", name := "doGive", desc := "(III)I" } : Jvm.MethodName) prog_1_method_60_code (4 : Nat) (Option.some Jvm.ClassFile.FieldType.int)) ∈ lw_all := lw_g (lw_at lw_m6 121 rfl) rfl
theorem q1417 : (Jvm.Cond.methodLink "CakeDivision" (301 : Nat) ({ cls := "CakeDivision$State", name := "give", desc := "(III)V" } : Jvm.MethodName)) ∈ lw_all := lw_g (lw_at lw_m6 122 rfl) rfl
theorem q1422 : (Jvm.Cond.instanceMethod ({ cls := "CakeDivision", name := "release", desc := "(II)I" } : Jvm.MethodName)) ∈ lw_all := lw_g (lw_at lw_m6 127 rfl) rfl
theorem q1423 : (Jvm.Cond.selects "CakeDivision" ({ cls := "CakeDivision", name := "release", desc := "(II)I" } : Jvm.MethodName) ({ cls := "CakeDivision", name := "release", desc := "(II)I" } : Jvm.MethodName)) ∈ lw_all := lw_g (lw_at lw_m6 128 rfl) rfl
theorem q1424 : (Jvm.Cond.code ({ cls := "CakeDivision", name := "release", desc := "(II)I" } : Jvm.MethodName) prog_1_method_68_code (4 : Nat) (Option.some Jvm.ClassFile.FieldType.int)) ∈ lw_all := lw_g (lw_at lw_m6 129 rfl) rfl
theorem q1425 : (Jvm.Cond.methodLink "CakeDivision" (326 : Nat) ({ cls := "CakeDivision", name := "doRelease", desc := "(II)I" } : Jvm.MethodName)) ∈ lw_all := lw_g (lw_at lw_m6 130 rfl) rfl
theorem q1426 : (Jvm.Cond.privateMethod ({ cls := "CakeDivision", name := "doRelease", desc := "(II)I" } : Jvm.MethodName)) ∈ lw_tbl := lw_at lw_m6 131 rfl
theorem q1427 : (Jvm.Cond.instanceMethod ({ cls := "CakeDivision", name := "doRelease", desc := "(II)I" } : Jvm.MethodName)) ∈ lw_all := lw_g (lw_at lw_m6 132 rfl) rfl
theorem q1428 : (Jvm.Cond.code ({ cls := "CakeDivision", name := "doRelease", desc := "(II)I" } : Jvm.MethodName) prog_1_method_61_code (3 : Nat) (Option.some Jvm.ClassFile.FieldType.int)) ∈ lw_all := lw_g (lw_at lw_m6 133 rfl) rfl
theorem q1429 : (Jvm.Cond.methodLink "CakeDivision" (305 : Nat) ({ cls := "CakeDivision$State", name := "release", desc := "(II)V" } : Jvm.MethodName)) ∈ lw_all := lw_g (lw_at lw_m6 134 rfl) rfl
theorem q1434 : (Jvm.Cond.instanceMethod ({ cls := "CakeDivision", name := "swapShares", desc := "(II)I" } : Jvm.MethodName)) ∈ lw_all := lw_g (lw_at lw_m6 139 rfl) rfl
theorem q1435 : (Jvm.Cond.selects "CakeDivision" ({ cls := "CakeDivision", name := "swapShares", desc := "(II)I" } : Jvm.MethodName) ({ cls := "CakeDivision", name := "swapShares", desc := "(II)I" } : Jvm.MethodName)) ∈ lw_all := lw_g (lw_at lw_m6 140 rfl) rfl
theorem q1436 : (Jvm.Cond.code ({ cls := "CakeDivision", name := "swapShares", desc := "(II)I" } : Jvm.MethodName) prog_1_method_69_code (4 : Nat) (Option.some Jvm.ClassFile.FieldType.int)) ∈ lw_all := lw_g (lw_at lw_m6 141 rfl) rfl
theorem q1437 : (Jvm.Cond.methodLink "CakeDivision" (329 : Nat) ({ cls := "CakeDivision", name := "doSwapShares", desc := "(II)I" } : Jvm.MethodName)) ∈ lw_all := lw_g (lw_at lw_m6 142 rfl) rfl
theorem q1438 : (Jvm.Cond.privateMethod ({ cls := "CakeDivision", name := "doSwapShares", desc := "(II)I" } : Jvm.MethodName)) ∈ lw_tbl := lw_at lw_m6 143 rfl
theorem q1439 : (Jvm.Cond.instanceMethod ({ cls := "CakeDivision", name := "doSwapShares", desc := "(II)I" } : Jvm.MethodName)) ∈ lw_all := lw_g (lw_at lw_m6 144 rfl) rfl
theorem q1440 : (Jvm.Cond.code ({ cls := "CakeDivision", name := "doSwapShares", desc := "(II)I" } : Jvm.MethodName) prog_1_method_62_code (5 : Nat) (Option.some Jvm.ClassFile.FieldType.int)) ∈ lw_all := lw_g (lw_at lw_m6 145 rfl) rfl
theorem q1445 : (Jvm.Cond.instanceMethod ({ cls := "CakeDivision", name := "setValue", desc := "(III)I" } : Jvm.MethodName)) ∈ lw_all := lw_g (lw_at lw_m6 150 rfl) rfl
theorem q1446 : (Jvm.Cond.selects "CakeDivision" ({ cls := "CakeDivision", name := "setValue", desc := "(III)I" } : Jvm.MethodName) ({ cls := "CakeDivision", name := "setValue", desc := "(III)I" } : Jvm.MethodName)) ∈ lw_all := lw_g (lw_at lw_m6 151 rfl) rfl
theorem q1447 : (Jvm.Cond.code ({ cls := "CakeDivision", name := "setValue", desc := "(III)I" } : Jvm.MethodName) prog_1_method_70_code (5 : Nat) (Option.some Jvm.ClassFile.FieldType.int)) ∈ lw_all := lw_g (lw_at lw_m6 152 rfl) rfl
theorem q1448 : (Jvm.Cond.methodLink "CakeDivision" (332 : Nat) ({ cls := "CakeDivision", name := "doSetValue", desc := "(III)I" } : Jvm.MethodName)) ∈ lw_all := lw_g (lw_at lw_m6 153 rfl) rfl
theorem q1449 : (Jvm.Cond.privateMethod ({ cls := "CakeDivision", name := "doSetValue", desc := "(III)I" } : Jvm.MethodName)) ∈ lw_tbl := lw_at lw_m6 154 rfl
theorem q1450 : (Jvm.Cond.instanceMethod ({ cls := "CakeDivision", name := "doSetValue", desc := "(III)I" } : Jvm.MethodName)) ∈ lw_all := lw_g (lw_at lw_m6 155 rfl) rfl
theorem q1451 : (Jvm.Cond.code ({ cls := "CakeDivision", name := "doSetValue", desc := "(III)I" } : Jvm.MethodName) prog_1_method_63_code (5 : Nat) (Option.some Jvm.ClassFile.FieldType.int)) ∈ lw_all := lw_g (lw_at lw_m6 156 rfl) rfl
theorem q1452 : (Jvm.Cond.methodLink "CakeDivision" (308 : Nat) ({ cls := "CakeDivision$Sibling", name := "<init>", desc := "(LCakeDivision$Sibling;II)V" } : Jvm.MethodName)) ∈ lw_all := lw_g (lw_at lw_m6 157 rfl) rfl
theorem q1456 : (Jvm.Cond.methodLink "CakeDivision" (311 : Nat) ({ cls := "java/util/ArrayList", name := "set", desc := "(ILjava/lang/Object;)Ljava/lang/Object;" } : Jvm.MethodName)) ∈ lw_all := lw_g (lw_at lw_m6 161 rfl) rfl
theorem q1464 : (Jvm.Cond.instanceMethod ({ cls := "CakeDivision", name := "divideAndChoose", desc := "(II)I" } : Jvm.MethodName)) ∈ lw_all := lw_g (lw_at lw_m6 169 rfl) rfl
theorem q1465 : (Jvm.Cond.selects "CakeDivision" ({ cls := "CakeDivision", name := "divideAndChoose", desc := "(II)I" } : Jvm.MethodName) ({ cls := "CakeDivision", name := "divideAndChoose", desc := "(II)I" } : Jvm.MethodName)) ∈ lw_all := lw_g (lw_at lw_m6 170 rfl) rfl
theorem q1466 : (Jvm.Cond.code ({ cls := "CakeDivision", name := "divideAndChoose", desc := "(II)I" } : Jvm.MethodName) prog_1_method_71_code (4 : Nat) (Option.some Jvm.ClassFile.FieldType.int)) ∈ lw_all := lw_g (lw_at lw_m6 171 rfl) rfl
theorem q1467 : (Jvm.Cond.methodLink "CakeDivision" (335 : Nat) ({ cls := "CakeDivision", name := "doDivide", desc := "(II)I" } : Jvm.MethodName)) ∈ lw_all := lw_g (lw_at lw_m6 172 rfl) rfl
theorem q1468 : (Jvm.Cond.privateMethod ({ cls := "CakeDivision", name := "doDivide", desc := "(II)I" } : Jvm.MethodName)) ∈ lw_tbl := lw_at lw_m6 173 rfl
theorem q1469 : (Jvm.Cond.instanceMethod ({ cls := "CakeDivision", name := "doDivide", desc := "(II)I" } : Jvm.MethodName)) ∈ lw_all := lw_g (lw_at lw_m6 174 rfl) rfl
theorem q1470 : (Jvm.Cond.code ({ cls := "CakeDivision", name := "doDivide", desc := "(II)I" } : Jvm.MethodName) prog_1_method_64_code (3 : Nat) (Option.some Jvm.ClassFile.FieldType.int)) ∈ lw_all := lw_g (lw_at lw_m6 175 rfl) rfl
theorem q1471 : (Jvm.Cond.methodLink "CakeDivision" (315 : Nat) ({ cls := "CakeDivision$State", name := "divideAndChoose", desc := "(II)I" } : Jvm.MethodName)) ∈ lw_all := lw_g (lw_at lw_m6 176 rfl) rfl
theorem q1480 : (Jvm.Cond.instanceMethod ({ cls := "CakeDivision", name := "roundRobin", desc := "(I)I" } : Jvm.MethodName)) ∈ lw_all := lw_g (lw_at lw_m6 185 rfl) rfl
theorem q1481 : (Jvm.Cond.selects "CakeDivision" ({ cls := "CakeDivision", name := "roundRobin", desc := "(I)I" } : Jvm.MethodName) ({ cls := "CakeDivision", name := "roundRobin", desc := "(I)I" } : Jvm.MethodName)) ∈ lw_all := lw_g (lw_at lw_m6 186 rfl) rfl
theorem q1482 : (Jvm.Cond.code ({ cls := "CakeDivision", name := "roundRobin", desc := "(I)I" } : Jvm.MethodName) prog_1_method_73_code (3 : Nat) (Option.some Jvm.ClassFile.FieldType.int)) ∈ lw_all := lw_g (lw_at lw_m6 187 rfl) rfl
theorem q1483 : (Jvm.Cond.methodLink "CakeDivision" (338 : Nat) ({ cls := "CakeDivision", name := "doRoundRobin", desc := "(I)I" } : Jvm.MethodName)) ∈ lw_all := lw_g (lw_at lw_m6 188 rfl) rfl
theorem q1484 : (Jvm.Cond.privateMethod ({ cls := "CakeDivision", name := "doRoundRobin", desc := "(I)I" } : Jvm.MethodName)) ∈ lw_tbl := lw_at lw_m6 189 rfl
theorem q1485 : (Jvm.Cond.instanceMethod ({ cls := "CakeDivision", name := "doRoundRobin", desc := "(I)I" } : Jvm.MethodName)) ∈ lw_all := lw_g (lw_at lw_m6 190 rfl) rfl
theorem q1486 : (Jvm.Cond.code ({ cls := "CakeDivision", name := "doRoundRobin", desc := "(I)I" } : Jvm.MethodName) prog_1_method_65_code (2 : Nat) (Option.some Jvm.ClassFile.FieldType.int)) ∈ lw_all := lw_g (lw_at lw_m6 191 rfl) rfl
theorem q1491 : (Jvm.Cond.instanceMethod ({ cls := "CakeDivision", name := "rotate", desc := "(I)I" } : Jvm.MethodName)) ∈ lw_all := lw_g (lw_at lw_m6 196 rfl) rfl
theorem q1492 : (Jvm.Cond.selects "CakeDivision" ({ cls := "CakeDivision", name := "rotate", desc := "(I)I" } : Jvm.MethodName) ({ cls := "CakeDivision", name := "rotate", desc := "(I)I" } : Jvm.MethodName)) ∈ lw_all := lw_g (lw_at lw_m6 197 rfl) rfl
theorem q1493 : (Jvm.Cond.code ({ cls := "CakeDivision", name := "rotate", desc := "(I)I" } : Jvm.MethodName) prog_1_method_74_code (3 : Nat) (Option.some Jvm.ClassFile.FieldType.int)) ∈ lw_all := lw_g (lw_at lw_m6 198 rfl) rfl
theorem q1494 : (Jvm.Cond.methodLink "CakeDivision" (341 : Nat) ({ cls := "CakeDivision", name := "doRotate", desc := "(I)I" } : Jvm.MethodName)) ∈ lw_all := lw_g (lw_at lw_m6 199 rfl) rfl
theorem q1495 : (Jvm.Cond.privateMethod ({ cls := "CakeDivision", name := "doRotate", desc := "(I)I" } : Jvm.MethodName)) ∈ lw_tbl := lw_at lw_m6 200 rfl
theorem q1496 : (Jvm.Cond.instanceMethod ({ cls := "CakeDivision", name := "doRotate", desc := "(I)I" } : Jvm.MethodName)) ∈ lw_all := lw_g (lw_at lw_m6 201 rfl) rfl
theorem q1497 : (Jvm.Cond.code ({ cls := "CakeDivision", name := "doRotate", desc := "(I)I" } : Jvm.MethodName) prog_1_method_66_code (6 : Nat) (Option.some Jvm.ClassFile.FieldType.int)) ∈ lw_all := lw_g (lw_at lw_m6 202 rfl) rfl
theorem q1502 : (Jvm.Cond.instanceMethod ({ cls := "CakeDivision", name := "runScript", desc := "()I" } : Jvm.MethodName)) ∈ lw_all := lw_g (lw_at lw_m6 207 rfl) rfl
theorem q1503 : (Jvm.Cond.selects "CakeDivision" ({ cls := "CakeDivision", name := "runScript", desc := "()I" } : Jvm.MethodName) ({ cls := "CakeDivision", name := "runScript", desc := "()I" } : Jvm.MethodName)) ∈ lw_all := lw_g (lw_at lw_m6 208 rfl) rfl
theorem q1504 : (Jvm.Cond.codeWith ({ cls := "CakeDivision", name := "runScript", desc := "()I" } : Jvm.MethodName) prog_1_method_79_code (4 : Nat) (Option.some Jvm.ClassFile.FieldType.int) [((0 : Nat), (13 : Nat), (21 : Nat), (70 : Nat)), ((0 : Nat), (13 : Nat), (28 : Nat), (0 : Nat)), ((21 : Nat), (29 : Nat), (28 : Nat), (0 : Nat))]) ∈ lw_all := lw_g (lw_at lw_m6 209 rfl) rfl
theorem q1505 : (Jvm.Cond.methodLink "CakeDivision" (378 : Nat) ({ cls := "CakeDivision", name := "parseScript", desc := "(LCakeDivision$Scanner;)I" } : Jvm.MethodName)) ∈ lw_all := lw_g (lw_at lw_m6 210 rfl) rfl
theorem q1506 : (Jvm.Cond.privateMethod ({ cls := "CakeDivision", name := "parseScript", desc := "(LCakeDivision$Scanner;)I" } : Jvm.MethodName)) ∈ lw_tbl := lw_at lw_m6 211 rfl
theorem q1507 : (Jvm.Cond.instanceMethod ({ cls := "CakeDivision", name := "parseScript", desc := "(LCakeDivision$Scanner;)I" } : Jvm.MethodName)) ∈ lw_all := lw_g (lw_at lw_m6 212 rfl) rfl
theorem q1508 : (Jvm.Cond.code ({ cls := "CakeDivision", name := "parseScript", desc := "(LCakeDivision$Scanner;)I" } : Jvm.MethodName) prog_1_method_76_code (4 : Nat) (Option.some Jvm.ClassFile.FieldType.int)) ∈ lw_all := lw_g (lw_at lw_m6 213 rfl) rfl
theorem q1509 : (Jvm.Cond.classLink "CakeDivision" (50 : Nat) "java/lang/String") ∈ lw_all := lw_g (lw_at lw_m6 214 rfl) rfl
theorem q1511 : (Jvm.Cond.stringRef "CakeDivision" (349 : Nat) "give") ∈ lw_tbl := lw_at lw_m6 216 rfl
theorem q1512 : (Jvm.Cond.stringRef "CakeDivision" (350 : Nat) "free") ∈ lw_tbl := lw_at lw_m6 217 rfl
theorem q1513 : (Jvm.Cond.stringRef "CakeDivision" (352 : Nat) "swap") ∈ lw_tbl := lw_at lw_m6 218 rfl
theorem q1514 : (Jvm.Cond.stringRef "CakeDivision" (354 : Nat) "value") ∈ lw_tbl := lw_at lw_m6 219 rfl
theorem q1515 : (Jvm.Cond.stringRef "CakeDivision" (355 : Nat) "divide") ∈ lw_tbl := lw_at lw_m6 220 rfl
theorem q1516 : (Jvm.Cond.stringRef "CakeDivision" (357 : Nat) "knife") ∈ lw_tbl := lw_at lw_m6 221 rfl
theorem q1517 : (Jvm.Cond.stringRef "CakeDivision" (359 : Nat) "robin") ∈ lw_tbl := lw_at lw_m6 222 rfl
theorem q1518 : (Jvm.Cond.stringRef "CakeDivision" (361 : Nat) "rotate") ∈ lw_tbl := lw_at lw_m6 223 rfl
theorem q1519 : (Jvm.Cond.methodLink "CakeDivision" (363 : Nat) ({ cls := "CakeDivision$Scanner", name := "indexAmong", desc := "([Ljava/lang/String;)I" } : Jvm.MethodName)) ∈ lw_all := lw_g (lw_at lw_m6 224 rfl) rfl
theorem q1523 : (Jvm.Cond.methodLink "CakeDivision" (367 : Nat) ({ cls := "CakeDivision$Scanner", name := "advance", desc := "()V" } : Jvm.MethodName)) ∈ lw_all := lw_g (lw_at lw_m6 228 rfl) rfl
theorem q1524 : (Jvm.Cond.methodLink "CakeDivision" (370 : Nat) ({ cls := "CakeDivision", name := "parseArguments", desc := "(LCakeDivision$Scanner;II)V" } : Jvm.MethodName)) ∈ lw_all := lw_g (lw_at lw_m6 229 rfl) rfl
theorem q1525 : (Jvm.Cond.privateMethod ({ cls := "CakeDivision", name := "parseArguments", desc := "(LCakeDivision$Scanner;II)V" } : Jvm.MethodName)) ∈ lw_tbl := lw_at lw_m6 230 rfl
theorem q1526 : (Jvm.Cond.instanceMethod ({ cls := "CakeDivision", name := "parseArguments", desc := "(LCakeDivision$Scanner;II)V" } : Jvm.MethodName)) ∈ lw_all := lw_g (lw_at lw_m6 231 rfl) rfl
theorem q1527 : (Jvm.Cond.code ({ cls := "CakeDivision", name := "parseArguments", desc := "(LCakeDivision$Scanner;II)V" } : Jvm.MethodName) prog_1_method_75_code (5 : Nat) (Option.none : Option Jvm.ClassFile.FieldType)) ∈ lw_all := lw_g (lw_at lw_m6 232 rfl) rfl
theorem q1528 : (Jvm.Cond.methodLink "CakeDivision" (344 : Nat) ({ cls := "CakeDivision$Scanner", name := "expectSibling", desc := "()I" } : Jvm.MethodName)) ∈ lw_all := lw_g (lw_at lw_m6 233 rfl) rfl
theorem q1532 : (Jvm.Cond.methodLink "CakeDivision" (347 : Nat) ({ cls := "CakeDivision$Scanner", name := "expectNumber", desc := "()I" } : Jvm.MethodName)) ∈ lw_all := lw_g (lw_at lw_m6 237 rfl) rfl
theorem q1533 : (Jvm.Cond.methodLink "CakeDivision" (382 : Nat) ({ cls := "CakeDivision", name := "executed", desc := "(I)Z" } : Jvm.MethodName)) ∈ lw_all := lw_g (lw_at lw_m6 238 rfl) rfl
theorem q1534 : (Jvm.Cond.privateMethod ({ cls := "CakeDivision", name := "executed", desc := "(I)Z" } : Jvm.MethodName)) ∈ lw_tbl := lw_at lw_m6 239 rfl
theorem q1535 : (Jvm.Cond.instanceMethod ({ cls := "CakeDivision", name := "executed", desc := "(I)Z" } : Jvm.MethodName)) ∈ lw_all := lw_g (lw_at lw_m7 0 rfl) rfl
theorem q1536 : (Jvm.Cond.codeWith ({ cls := "CakeDivision", name := "executed", desc := "(I)Z" } : Jvm.MethodName) prog_1_method_78_code (3 : Nat) (Option.some Jvm.ClassFile.FieldType.boolean) [((0 : Nat), (35 : Nat), (36 : Nat), (148 : Nat)), ((0 : Nat), (35 : Nat), (36 : Nat), (85 : Nat)), ((0 : Nat), (35 : Nat), (36 : Nat), (78 : Nat))]) ∈ lw_all := lw_g (lw_at lw_m7 1 rfl) rfl
theorem q1537 : (Jvm.Cond.methodLink "CakeDivision" (374 : Nat) ({ cls := "CakeDivision", name := "execute", desc := "(IIII)V" } : Jvm.MethodName)) ∈ lw_all := lw_g (lw_at lw_m7 2 rfl) rfl
theorem q1538 : (Jvm.Cond.privateMethod ({ cls := "CakeDivision", name := "execute", desc := "(IIII)V" } : Jvm.MethodName)) ∈ lw_tbl := lw_at lw_m7 3 rfl
theorem q1539 : (Jvm.Cond.instanceMethod ({ cls := "CakeDivision", name := "execute", desc := "(IIII)V" } : Jvm.MethodName)) ∈ lw_all := lw_g (lw_at lw_m7 4 rfl) rfl
theorem q1540 : (Jvm.Cond.code ({ cls := "CakeDivision", name := "execute", desc := "(IIII)V" } : Jvm.MethodName) prog_1_method_77_code (5 : Nat) (Option.none : Option Jvm.ClassFile.FieldType)) ∈ lw_all := lw_g (lw_at lw_m7 5 rfl) rfl
theorem q1545 : (Jvm.Cond.instanceMethod ({ cls := "CakeDivision", name := "undo", desc := "()I" } : Jvm.MethodName)) ∈ lw_all := lw_g (lw_at lw_m7 10 rfl) rfl
theorem q1546 : (Jvm.Cond.selects "CakeDivision" ({ cls := "CakeDivision", name := "undo", desc := "()I" } : Jvm.MethodName) ({ cls := "CakeDivision", name := "undo", desc := "()I" } : Jvm.MethodName)) ∈ lw_all := lw_g (lw_at lw_m7 11 rfl) rfl
theorem q1547 : (Jvm.Cond.code ({ cls := "CakeDivision", name := "undo", desc := "()I" } : Jvm.MethodName) prog_1_method_80_code (1 : Nat) (Option.some Jvm.ClassFile.FieldType.int)) ∈ lw_all := lw_g (lw_at lw_m7 12 rfl) rfl
theorem q1548 : (Jvm.Cond.methodLink "CakeDivision" (385 : Nat) ({ cls := "java/util/ArrayDeque", name := "isEmpty", desc := "()Z" } : Jvm.MethodName)) ∈ lw_all := lw_g (lw_at lw_m7 13 rfl) rfl
theorem q1552 : (Jvm.Cond.methodLink "CakeDivision" (389 : Nat) ({ cls := "java/util/ArrayDeque", name := "removeLast", desc := "()Ljava/lang/Object;" } : Jvm.MethodName)) ∈ lw_all := lw_g (lw_at lw_m7 17 rfl) rfl
theorem q1567 : (Jvm.Cond.instanceMethod ({ cls := "CakeDivision", name := "save", desc := "(I)I" } : Jvm.MethodName)) ∈ lw_all := lw_g (lw_at lw_m7 32 rfl) rfl
theorem q1568 : (Jvm.Cond.selects "CakeDivision" ({ cls := "CakeDivision", name := "save", desc := "(I)I" } : Jvm.MethodName) ({ cls := "CakeDivision", name := "save", desc := "(I)I" } : Jvm.MethodName)) ∈ lw_all := lw_g (lw_at lw_m7 33 rfl) rfl
theorem q1569 : (Jvm.Cond.code ({ cls := "CakeDivision", name := "save", desc := "(I)I" } : Jvm.MethodName) prog_1_method_81_code (2 : Nat) (Option.some Jvm.ClassFile.FieldType.int)) ∈ lw_all := lw_g (lw_at lw_m7 34 rfl) rfl
theorem q1574 : (Jvm.Cond.instanceMethod ({ cls := "CakeDivision", name := "restore", desc := "(I)I" } : Jvm.MethodName)) ∈ lw_all := lw_g (lw_at lw_m7 39 rfl) rfl
theorem q1575 : (Jvm.Cond.selects "CakeDivision" ({ cls := "CakeDivision", name := "restore", desc := "(I)I" } : Jvm.MethodName) ({ cls := "CakeDivision", name := "restore", desc := "(I)I" } : Jvm.MethodName)) ∈ lw_all := lw_g (lw_at lw_m7 40 rfl) rfl
theorem q1576 : (Jvm.Cond.code ({ cls := "CakeDivision", name := "restore", desc := "(I)I" } : Jvm.MethodName) prog_1_method_82_code (2 : Nat) (Option.some Jvm.ClassFile.FieldType.int)) ∈ lw_all := lw_g (lw_at lw_m7 41 rfl) rfl
theorem q1581 : (Jvm.Cond.instanceMethod ({ cls := "CakeDivision", name := "outputByte", desc := "(I)I" } : Jvm.MethodName)) ∈ lw_all := lw_g (lw_at lw_m7 46 rfl) rfl
theorem q1582 : (Jvm.Cond.selects "CakeDivision" ({ cls := "CakeDivision", name := "outputByte", desc := "(I)I" } : Jvm.MethodName) ({ cls := "CakeDivision", name := "outputByte", desc := "(I)I" } : Jvm.MethodName)) ∈ lw_all := lw_g (lw_at lw_m7 47 rfl) rfl
theorem q1583 : (Jvm.Cond.code ({ cls := "CakeDivision", name := "outputByte", desc := "(I)I" } : Jvm.MethodName) prog_1_method_86_code (2 : Nat) (Option.some Jvm.ClassFile.FieldType.int)) ∈ lw_all := lw_g (lw_at lw_m7 48 rfl) rfl
theorem q2167 : (Jvm.Cond.castable "CakeDivision" "java/lang/Object") ∈ lw_tbl := lw_at lw_m9 152 rfl
theorem in_X1 : ∀ w ∈ wsX10, w ∈ lw_all := lw_in wsX10 [767, 769, 771, 773, 775, 777, 779, 781, 783, 785] (by decide +kernel) (by decide +kernel)
/-! CakeDivisionLaw -/
set_option maxRecDepth 100000
def RX0 : String := "CakeDivisionLaw"
abbrev cX0_append : ByteArray := method_3_code
def yX0_append : MethodName := ⟨RX0, "append", "(LCakeDivision;IIIII[J)I"⟩
def dkwX0_append_1 : List UInt8 := [172]
abbrev dktX0_append_1 : List UInt8 := dkwX0_append_1 ++ []
def dkwX0_append_0 : List UInt8 := [25, 6, 3, 42, 27, 28, 29, 21, 4, 21, 5, 182, 0, 7, 133, 80, 167, 0, 7, 58, 7, 4, 172, 3]
abbrev dktX0_append_0 : List UInt8 := dkwX0_append_0 ++ dktX0_append_1
theorem dksX0_append_0 : cX0_append.data.toList.drop 0 = dktX0_append_0 := by decide +kernel
theorem dksX0_append_1 : cX0_append.data.toList.drop 24 = dktX0_append_1 := dk_seg dksX0_append_0 24 rfl rfl
theorem dX0_append_0 : decode cX0_append 0 = .ok (.aload 6, 2) := dk_25 6 (dk_at dksX0_append_0 0 rfl rfl)
theorem dX0_append_2 : decode cX0_append 2 = .ok (.iconst 0, 1) := dk_3 (dk_at dksX0_append_0 2 rfl rfl)
theorem dX0_append_3 : decode cX0_append 3 = .ok (.aload_n 0, 1) := dk_42 (dk_at dksX0_append_0 3 rfl rfl)
theorem dX0_append_4 : decode cX0_append 4 = .ok (.iload_n 1, 1) := dk_27 (dk_at dksX0_append_0 4 rfl rfl)
theorem dX0_append_5 : decode cX0_append 5 = .ok (.iload_n 2, 1) := dk_28 (dk_at dksX0_append_0 5 rfl rfl)
theorem dX0_append_6 : decode cX0_append 6 = .ok (.iload_n 3, 1) := dk_29 (dk_at dksX0_append_0 6 rfl rfl)
theorem dX0_append_7 : decode cX0_append 7 = .ok (.iload 4, 2) := dk_21 4 (dk_at dksX0_append_0 7 rfl rfl)
theorem dX0_append_9 : decode cX0_append 9 = .ok (.iload 5, 2) := dk_21 5 (dk_at dksX0_append_0 9 rfl rfl)
theorem dX0_append_11 : decode cX0_append 11 = .ok (.invokevirtual 7, 3) := dk_182 0 7 (dk_at dksX0_append_0 11 rfl rfl)
theorem dX0_append_14 : decode cX0_append 14 = .ok (.i2l, 1) := dk_133 (dk_at dksX0_append_0 14 rfl rfl)
theorem dX0_append_15 : decode cX0_append 15 = .ok (.lastore, 1) := dk_80 (dk_at dksX0_append_0 15 rfl rfl)
theorem dX0_append_16 : decode cX0_append 16 = .ok (.goto 7, 3) := dk_167 0 7 (dk_at dksX0_append_0 16 rfl rfl)
theorem dX0_append_19 : decode cX0_append 19 = .ok (.astore 7, 2) := dk_58 7 (dk_at dksX0_append_0 19 rfl rfl)
theorem dX0_append_21 : decode cX0_append 21 = .ok (.iconst 1, 1) := dk_4 (dk_at dksX0_append_0 21 rfl rfl)
theorem dX0_append_22 : decode cX0_append 22 = .ok (.ireturn, 1) := dk_172 (dk_at dksX0_append_0 22 rfl rfl)
theorem dX0_append_23 : decode cX0_append 23 = .ok (.iconst 0, 1) := dk_3 (dk_at dksX0_append_0 23 rfl rfl)
theorem dX0_append_24 : decode cX0_append 24 = .ok (.ireturn, 1) := dk_172 (dk_at dksX0_append_1 0 rfl rfl)
abbrev cX0_truncate : ByteArray := method_4_code
def yX0_truncate : MethodName := ⟨RX0, "truncate", "(LCakeDivision;I[J)I"⟩
def dkwX0_truncate_0 : List UInt8 := [44, 3, 42, 27, 182, 0, 15, 133, 80, 167, 0, 6, 78, 4, 172, 3, 172]
abbrev dktX0_truncate_0 : List UInt8 := dkwX0_truncate_0 ++ []
theorem dksX0_truncate_0 : cX0_truncate.data.toList.drop 0 = dktX0_truncate_0 := by decide +kernel
theorem dX0_truncate_0 : decode cX0_truncate 0 = .ok (.aload_n 2, 1) := dk_44 (dk_at dksX0_truncate_0 0 rfl rfl)
theorem dX0_truncate_1 : decode cX0_truncate 1 = .ok (.iconst 0, 1) := dk_3 (dk_at dksX0_truncate_0 1 rfl rfl)
theorem dX0_truncate_2 : decode cX0_truncate 2 = .ok (.aload_n 0, 1) := dk_42 (dk_at dksX0_truncate_0 2 rfl rfl)
theorem dX0_truncate_3 : decode cX0_truncate 3 = .ok (.iload_n 1, 1) := dk_27 (dk_at dksX0_truncate_0 3 rfl rfl)
theorem dX0_truncate_4 : decode cX0_truncate 4 = .ok (.invokevirtual 15, 3) := dk_182 0 15 (dk_at dksX0_truncate_0 4 rfl rfl)
theorem dX0_truncate_7 : decode cX0_truncate 7 = .ok (.i2l, 1) := dk_133 (dk_at dksX0_truncate_0 7 rfl rfl)
theorem dX0_truncate_8 : decode cX0_truncate 8 = .ok (.lastore, 1) := dk_80 (dk_at dksX0_truncate_0 8 rfl rfl)
theorem dX0_truncate_9 : decode cX0_truncate 9 = .ok (.goto 6, 3) := dk_167 0 6 (dk_at dksX0_truncate_0 9 rfl rfl)
theorem dX0_truncate_12 : decode cX0_truncate 12 = .ok (.astore_n 3, 1) := dk_78 (dk_at dksX0_truncate_0 12 rfl rfl)
theorem dX0_truncate_13 : decode cX0_truncate 13 = .ok (.iconst 1, 1) := dk_4 (dk_at dksX0_truncate_0 13 rfl rfl)
theorem dX0_truncate_14 : decode cX0_truncate 14 = .ok (.ireturn, 1) := dk_172 (dk_at dksX0_truncate_0 14 rfl rfl)
theorem dX0_truncate_15 : decode cX0_truncate 15 = .ok (.iconst 0, 1) := dk_3 (dk_at dksX0_truncate_0 15 rfl rfl)
theorem dX0_truncate_16 : decode cX0_truncate 16 = .ok (.ireturn, 1) := dk_172 (dk_at dksX0_truncate_0 16 rfl rfl)
abbrev cX0_load : ByteArray := method_5_code
def yX0_load : MethodName := ⟨RX0, "load", "(LCakeDivision;[J)I"⟩
def dkwX0_load_0 : List UInt8 := [43, 3, 42, 182, 0, 21, 133, 80, 167, 0, 6, 77, 4, 172, 3, 172]
abbrev dktX0_load_0 : List UInt8 := dkwX0_load_0 ++ []
theorem dksX0_load_0 : cX0_load.data.toList.drop 0 = dktX0_load_0 := by decide +kernel
theorem dX0_load_0 : decode cX0_load 0 = .ok (.aload_n 1, 1) := dk_43 (dk_at dksX0_load_0 0 rfl rfl)
theorem dX0_load_1 : decode cX0_load 1 = .ok (.iconst 0, 1) := dk_3 (dk_at dksX0_load_0 1 rfl rfl)
theorem dX0_load_2 : decode cX0_load 2 = .ok (.aload_n 0, 1) := dk_42 (dk_at dksX0_load_0 2 rfl rfl)
theorem dX0_load_3 : decode cX0_load 3 = .ok (.invokevirtual 21, 3) := dk_182 0 21 (dk_at dksX0_load_0 3 rfl rfl)
theorem dX0_load_6 : decode cX0_load 6 = .ok (.i2l, 1) := dk_133 (dk_at dksX0_load_0 6 rfl rfl)
theorem dX0_load_7 : decode cX0_load 7 = .ok (.lastore, 1) := dk_80 (dk_at dksX0_load_0 7 rfl rfl)
theorem dX0_load_8 : decode cX0_load 8 = .ok (.goto 6, 3) := dk_167 0 6 (dk_at dksX0_load_0 8 rfl rfl)
theorem dX0_load_11 : decode cX0_load 11 = .ok (.astore_n 2, 1) := dk_77 (dk_at dksX0_load_0 11 rfl rfl)
theorem dX0_load_12 : decode cX0_load 12 = .ok (.iconst 1, 1) := dk_4 (dk_at dksX0_load_0 12 rfl rfl)
theorem dX0_load_13 : decode cX0_load 13 = .ok (.ireturn, 1) := dk_172 (dk_at dksX0_load_0 13 rfl rfl)
theorem dX0_load_14 : decode cX0_load 14 = .ok (.iconst 0, 1) := dk_3 (dk_at dksX0_load_0 14 rfl rfl)
theorem dX0_load_15 : decode cX0_load 15 = .ok (.ireturn, 1) := dk_172 (dk_at dksX0_load_0 15 rfl rfl)
abbrev cX0_nameByte : ByteArray := method_6_code
def yX0_nameByte : MethodName := ⟨RX0, "nameByte", "(LCakeDivision;II[J)I"⟩
def dkwX0_nameByte_0 : List UInt8 := [45, 3, 42, 27, 28, 182, 0, 25, 133, 80, 167, 0, 7, 58, 4, 4, 172, 3, 172]
abbrev dktX0_nameByte_0 : List UInt8 := dkwX0_nameByte_0 ++ []
theorem dksX0_nameByte_0 : cX0_nameByte.data.toList.drop 0 = dktX0_nameByte_0 := by decide +kernel
theorem dX0_nameByte_0 : decode cX0_nameByte 0 = .ok (.aload_n 3, 1) := dk_45 (dk_at dksX0_nameByte_0 0 rfl rfl)
theorem dX0_nameByte_1 : decode cX0_nameByte 1 = .ok (.iconst 0, 1) := dk_3 (dk_at dksX0_nameByte_0 1 rfl rfl)
theorem dX0_nameByte_2 : decode cX0_nameByte 2 = .ok (.aload_n 0, 1) := dk_42 (dk_at dksX0_nameByte_0 2 rfl rfl)
theorem dX0_nameByte_3 : decode cX0_nameByte 3 = .ok (.iload_n 1, 1) := dk_27 (dk_at dksX0_nameByte_0 3 rfl rfl)
theorem dX0_nameByte_4 : decode cX0_nameByte 4 = .ok (.iload_n 2, 1) := dk_28 (dk_at dksX0_nameByte_0 4 rfl rfl)
theorem dX0_nameByte_5 : decode cX0_nameByte 5 = .ok (.invokevirtual 25, 3) := dk_182 0 25 (dk_at dksX0_nameByte_0 5 rfl rfl)
theorem dX0_nameByte_8 : decode cX0_nameByte 8 = .ok (.i2l, 1) := dk_133 (dk_at dksX0_nameByte_0 8 rfl rfl)
theorem dX0_nameByte_9 : decode cX0_nameByte 9 = .ok (.lastore, 1) := dk_80 (dk_at dksX0_nameByte_0 9 rfl rfl)
theorem dX0_nameByte_10 : decode cX0_nameByte 10 = .ok (.goto 7, 3) := dk_167 0 7 (dk_at dksX0_nameByte_0 10 rfl rfl)
theorem dX0_nameByte_13 : decode cX0_nameByte 13 = .ok (.astore 4, 2) := dk_58 4 (dk_at dksX0_nameByte_0 13 rfl rfl)
theorem dX0_nameByte_15 : decode cX0_nameByte 15 = .ok (.iconst 1, 1) := dk_4 (dk_at dksX0_nameByte_0 15 rfl rfl)
theorem dX0_nameByte_16 : decode cX0_nameByte 16 = .ok (.ireturn, 1) := dk_172 (dk_at dksX0_nameByte_0 16 rfl rfl)
theorem dX0_nameByte_17 : decode cX0_nameByte 17 = .ok (.iconst 0, 1) := dk_3 (dk_at dksX0_nameByte_0 17 rfl rfl)
theorem dX0_nameByte_18 : decode cX0_nameByte 18 = .ok (.ireturn, 1) := dk_172 (dk_at dksX0_nameByte_0 18 rfl rfl)
abbrev cX0_findSibling : ByteArray := method_7_code
def yX0_findSibling : MethodName := ⟨RX0, "findSibling", "(LCakeDivision;[J)I"⟩
def dkwX0_findSibling_0 : List UInt8 := [43, 3, 42, 182, 0, 31, 133, 80, 167, 0, 6, 77, 4, 172, 3, 172]
abbrev dktX0_findSibling_0 : List UInt8 := dkwX0_findSibling_0 ++ []
theorem dksX0_findSibling_0 : cX0_findSibling.data.toList.drop 0 = dktX0_findSibling_0 := by decide +kernel
theorem dX0_findSibling_0 : decode cX0_findSibling 0 = .ok (.aload_n 1, 1) := dk_43 (dk_at dksX0_findSibling_0 0 rfl rfl)
theorem dX0_findSibling_1 : decode cX0_findSibling 1 = .ok (.iconst 0, 1) := dk_3 (dk_at dksX0_findSibling_0 1 rfl rfl)
theorem dX0_findSibling_2 : decode cX0_findSibling 2 = .ok (.aload_n 0, 1) := dk_42 (dk_at dksX0_findSibling_0 2 rfl rfl)
theorem dX0_findSibling_3 : decode cX0_findSibling 3 = .ok (.invokevirtual 31, 3) := dk_182 0 31 (dk_at dksX0_findSibling_0 3 rfl rfl)
theorem dX0_findSibling_6 : decode cX0_findSibling 6 = .ok (.i2l, 1) := dk_133 (dk_at dksX0_findSibling_0 6 rfl rfl)
theorem dX0_findSibling_7 : decode cX0_findSibling 7 = .ok (.lastore, 1) := dk_80 (dk_at dksX0_findSibling_0 7 rfl rfl)
theorem dX0_findSibling_8 : decode cX0_findSibling 8 = .ok (.goto 6, 3) := dk_167 0 6 (dk_at dksX0_findSibling_0 8 rfl rfl)
theorem dX0_findSibling_11 : decode cX0_findSibling 11 = .ok (.astore_n 2, 1) := dk_77 (dk_at dksX0_findSibling_0 11 rfl rfl)
theorem dX0_findSibling_12 : decode cX0_findSibling 12 = .ok (.iconst 1, 1) := dk_4 (dk_at dksX0_findSibling_0 12 rfl rfl)
theorem dX0_findSibling_13 : decode cX0_findSibling 13 = .ok (.ireturn, 1) := dk_172 (dk_at dksX0_findSibling_0 13 rfl rfl)
theorem dX0_findSibling_14 : decode cX0_findSibling 14 = .ok (.iconst 0, 1) := dk_3 (dk_at dksX0_findSibling_0 14 rfl rfl)
theorem dX0_findSibling_15 : decode cX0_findSibling 15 = .ok (.ireturn, 1) := dk_172 (dk_at dksX0_findSibling_0 15 rfl rfl)
abbrev cX0_value : ByteArray := method_8_code
def yX0_value : MethodName := ⟨RX0, "value", "(LCakeDivision;II[J)I"⟩
def dkwX0_value_0 : List UInt8 := [45, 3, 42, 27, 28, 182, 0, 36, 133, 80, 167, 0, 7, 58, 4, 4, 172, 3, 172]
abbrev dktX0_value_0 : List UInt8 := dkwX0_value_0 ++ []
theorem dksX0_value_0 : cX0_value.data.toList.drop 0 = dktX0_value_0 := by decide +kernel
theorem dX0_value_0 : decode cX0_value 0 = .ok (.aload_n 3, 1) := dk_45 (dk_at dksX0_value_0 0 rfl rfl)
theorem dX0_value_1 : decode cX0_value 1 = .ok (.iconst 0, 1) := dk_3 (dk_at dksX0_value_0 1 rfl rfl)
theorem dX0_value_2 : decode cX0_value 2 = .ok (.aload_n 0, 1) := dk_42 (dk_at dksX0_value_0 2 rfl rfl)
theorem dX0_value_3 : decode cX0_value 3 = .ok (.iload_n 1, 1) := dk_27 (dk_at dksX0_value_0 3 rfl rfl)
theorem dX0_value_4 : decode cX0_value 4 = .ok (.iload_n 2, 1) := dk_28 (dk_at dksX0_value_0 4 rfl rfl)
theorem dX0_value_5 : decode cX0_value 5 = .ok (.invokevirtual 36, 3) := dk_182 0 36 (dk_at dksX0_value_0 5 rfl rfl)
theorem dX0_value_8 : decode cX0_value 8 = .ok (.i2l, 1) := dk_133 (dk_at dksX0_value_0 8 rfl rfl)
theorem dX0_value_9 : decode cX0_value 9 = .ok (.lastore, 1) := dk_80 (dk_at dksX0_value_0 9 rfl rfl)
theorem dX0_value_10 : decode cX0_value 10 = .ok (.goto 7, 3) := dk_167 0 7 (dk_at dksX0_value_0 10 rfl rfl)
theorem dX0_value_13 : decode cX0_value 13 = .ok (.astore 4, 2) := dk_58 4 (dk_at dksX0_value_0 13 rfl rfl)
theorem dX0_value_15 : decode cX0_value 15 = .ok (.iconst 1, 1) := dk_4 (dk_at dksX0_value_0 15 rfl rfl)
theorem dX0_value_16 : decode cX0_value 16 = .ok (.ireturn, 1) := dk_172 (dk_at dksX0_value_0 16 rfl rfl)
theorem dX0_value_17 : decode cX0_value 17 = .ok (.iconst 0, 1) := dk_3 (dk_at dksX0_value_0 17 rfl rfl)
theorem dX0_value_18 : decode cX0_value 18 = .ok (.ireturn, 1) := dk_172 (dk_at dksX0_value_0 18 rfl rfl)
abbrev cX0_owner : ByteArray := method_9_code
def yX0_owner : MethodName := ⟨RX0, "owner", "(LCakeDivision;I[J)I"⟩
def dkwX0_owner_0 : List UInt8 := [44, 3, 42, 27, 182, 0, 39, 133, 80, 167, 0, 6, 78, 4, 172, 3, 172]
abbrev dktX0_owner_0 : List UInt8 := dkwX0_owner_0 ++ []
theorem dksX0_owner_0 : cX0_owner.data.toList.drop 0 = dktX0_owner_0 := by decide +kernel
theorem dX0_owner_0 : decode cX0_owner 0 = .ok (.aload_n 2, 1) := dk_44 (dk_at dksX0_owner_0 0 rfl rfl)
theorem dX0_owner_1 : decode cX0_owner 1 = .ok (.iconst 0, 1) := dk_3 (dk_at dksX0_owner_0 1 rfl rfl)
theorem dX0_owner_2 : decode cX0_owner 2 = .ok (.aload_n 0, 1) := dk_42 (dk_at dksX0_owner_0 2 rfl rfl)
theorem dX0_owner_3 : decode cX0_owner 3 = .ok (.iload_n 1, 1) := dk_27 (dk_at dksX0_owner_0 3 rfl rfl)
theorem dX0_owner_4 : decode cX0_owner 4 = .ok (.invokevirtual 39, 3) := dk_182 0 39 (dk_at dksX0_owner_0 4 rfl rfl)
theorem dX0_owner_7 : decode cX0_owner 7 = .ok (.i2l, 1) := dk_133 (dk_at dksX0_owner_0 7 rfl rfl)
theorem dX0_owner_8 : decode cX0_owner 8 = .ok (.lastore, 1) := dk_80 (dk_at dksX0_owner_0 8 rfl rfl)
theorem dX0_owner_9 : decode cX0_owner 9 = .ok (.goto 6, 3) := dk_167 0 6 (dk_at dksX0_owner_0 9 rfl rfl)
theorem dX0_owner_12 : decode cX0_owner 12 = .ok (.astore_n 3, 1) := dk_78 (dk_at dksX0_owner_0 12 rfl rfl)
theorem dX0_owner_13 : decode cX0_owner 13 = .ok (.iconst 1, 1) := dk_4 (dk_at dksX0_owner_0 13 rfl rfl)
theorem dX0_owner_14 : decode cX0_owner 14 = .ok (.ireturn, 1) := dk_172 (dk_at dksX0_owner_0 14 rfl rfl)
theorem dX0_owner_15 : decode cX0_owner 15 = .ok (.iconst 0, 1) := dk_3 (dk_at dksX0_owner_0 15 rfl rfl)
theorem dX0_owner_16 : decode cX0_owner 16 = .ok (.ireturn, 1) := dk_172 (dk_at dksX0_owner_0 16 rfl rfl)
abbrev cX0_worth : ByteArray := method_10_code
def yX0_worth : MethodName := ⟨RX0, "worth", "(LCakeDivision;III[J)I"⟩
def dkwX0_worth_1 : List UInt8 := [172]
abbrev dktX0_worth_1 : List UInt8 := dkwX0_worth_1 ++ []
def dkwX0_worth_0 : List UInt8 := [25, 4, 3, 42, 27, 28, 29, 182, 0, 42, 133, 80, 167, 0, 11, 58, 5, 4, 172, 58, 5, 5, 172, 3]
abbrev dktX0_worth_0 : List UInt8 := dkwX0_worth_0 ++ dktX0_worth_1
theorem dksX0_worth_0 : cX0_worth.data.toList.drop 0 = dktX0_worth_0 := by decide +kernel
theorem dksX0_worth_1 : cX0_worth.data.toList.drop 24 = dktX0_worth_1 := dk_seg dksX0_worth_0 24 rfl rfl
theorem dX0_worth_0 : decode cX0_worth 0 = .ok (.aload 4, 2) := dk_25 4 (dk_at dksX0_worth_0 0 rfl rfl)
theorem dX0_worth_2 : decode cX0_worth 2 = .ok (.iconst 0, 1) := dk_3 (dk_at dksX0_worth_0 2 rfl rfl)
theorem dX0_worth_3 : decode cX0_worth 3 = .ok (.aload_n 0, 1) := dk_42 (dk_at dksX0_worth_0 3 rfl rfl)
theorem dX0_worth_4 : decode cX0_worth 4 = .ok (.iload_n 1, 1) := dk_27 (dk_at dksX0_worth_0 4 rfl rfl)
theorem dX0_worth_5 : decode cX0_worth 5 = .ok (.iload_n 2, 1) := dk_28 (dk_at dksX0_worth_0 5 rfl rfl)
theorem dX0_worth_6 : decode cX0_worth 6 = .ok (.iload_n 3, 1) := dk_29 (dk_at dksX0_worth_0 6 rfl rfl)
theorem dX0_worth_7 : decode cX0_worth 7 = .ok (.invokevirtual 42, 3) := dk_182 0 42 (dk_at dksX0_worth_0 7 rfl rfl)
theorem dX0_worth_10 : decode cX0_worth 10 = .ok (.i2l, 1) := dk_133 (dk_at dksX0_worth_0 10 rfl rfl)
theorem dX0_worth_11 : decode cX0_worth 11 = .ok (.lastore, 1) := dk_80 (dk_at dksX0_worth_0 11 rfl rfl)
theorem dX0_worth_12 : decode cX0_worth 12 = .ok (.goto 11, 3) := dk_167 0 11 (dk_at dksX0_worth_0 12 rfl rfl)
theorem dX0_worth_15 : decode cX0_worth 15 = .ok (.astore 5, 2) := dk_58 5 (dk_at dksX0_worth_0 15 rfl rfl)
theorem dX0_worth_17 : decode cX0_worth 17 = .ok (.iconst 1, 1) := dk_4 (dk_at dksX0_worth_0 17 rfl rfl)
theorem dX0_worth_18 : decode cX0_worth 18 = .ok (.ireturn, 1) := dk_172 (dk_at dksX0_worth_0 18 rfl rfl)
theorem dX0_worth_19 : decode cX0_worth 19 = .ok (.astore 5, 2) := dk_58 5 (dk_at dksX0_worth_0 19 rfl rfl)
theorem dX0_worth_21 : decode cX0_worth 21 = .ok (.iconst 2, 1) := dk_5 (dk_at dksX0_worth_0 21 rfl rfl)
theorem dX0_worth_22 : decode cX0_worth 22 = .ok (.ireturn, 1) := dk_172 (dk_at dksX0_worth_0 22 rfl rfl)
theorem dX0_worth_23 : decode cX0_worth 23 = .ok (.iconst 0, 1) := dk_3 (dk_at dksX0_worth_0 23 rfl rfl)
theorem dX0_worth_24 : decode cX0_worth 24 = .ok (.ireturn, 1) := dk_172 (dk_at dksX0_worth_1 0 rfl rfl)
abbrev cX0_total : ByteArray := method_11_code
def yX0_total : MethodName := ⟨RX0, "total", "(LCakeDivision;I[J)I"⟩
def dkwX0_total_0 : List UInt8 := [44, 3, 42, 27, 182, 0, 46, 133, 80, 167, 0, 6, 78, 4, 172, 3, 172]
abbrev dktX0_total_0 : List UInt8 := dkwX0_total_0 ++ []
theorem dksX0_total_0 : cX0_total.data.toList.drop 0 = dktX0_total_0 := by decide +kernel
theorem dX0_total_0 : decode cX0_total 0 = .ok (.aload_n 2, 1) := dk_44 (dk_at dksX0_total_0 0 rfl rfl)
theorem dX0_total_1 : decode cX0_total 1 = .ok (.iconst 0, 1) := dk_3 (dk_at dksX0_total_0 1 rfl rfl)
theorem dX0_total_2 : decode cX0_total 2 = .ok (.aload_n 0, 1) := dk_42 (dk_at dksX0_total_0 2 rfl rfl)
theorem dX0_total_3 : decode cX0_total 3 = .ok (.iload_n 1, 1) := dk_27 (dk_at dksX0_total_0 3 rfl rfl)
theorem dX0_total_4 : decode cX0_total 4 = .ok (.invokevirtual 46, 3) := dk_182 0 46 (dk_at dksX0_total_0 4 rfl rfl)
theorem dX0_total_7 : decode cX0_total 7 = .ok (.i2l, 1) := dk_133 (dk_at dksX0_total_0 7 rfl rfl)
theorem dX0_total_8 : decode cX0_total 8 = .ok (.lastore, 1) := dk_80 (dk_at dksX0_total_0 8 rfl rfl)
theorem dX0_total_9 : decode cX0_total 9 = .ok (.goto 6, 3) := dk_167 0 6 (dk_at dksX0_total_0 9 rfl rfl)
theorem dX0_total_12 : decode cX0_total 12 = .ok (.astore_n 3, 1) := dk_78 (dk_at dksX0_total_0 12 rfl rfl)
theorem dX0_total_13 : decode cX0_total 13 = .ok (.iconst 1, 1) := dk_4 (dk_at dksX0_total_0 13 rfl rfl)
theorem dX0_total_14 : decode cX0_total 14 = .ok (.ireturn, 1) := dk_172 (dk_at dksX0_total_0 14 rfl rfl)
theorem dX0_total_15 : decode cX0_total 15 = .ok (.iconst 0, 1) := dk_3 (dk_at dksX0_total_0 15 rfl rfl)
theorem dX0_total_16 : decode cX0_total 16 = .ok (.ireturn, 1) := dk_172 (dk_at dksX0_total_0 16 rfl rfl)
abbrev cX0_worthOfShare : ByteArray := method_12_code
def yX0_worthOfShare : MethodName := ⟨RX0, "worthOfShare", "(LCakeDivision;II[J)I"⟩
def dkwX0_worthOfShare_0 : List UInt8 := [45, 3, 42, 27, 28, 182, 0, 49, 133, 80, 167, 0, 7, 58, 4, 4, 172, 3, 172]
abbrev dktX0_worthOfShare_0 : List UInt8 := dkwX0_worthOfShare_0 ++ []
theorem dksX0_worthOfShare_0 : cX0_worthOfShare.data.toList.drop 0 = dktX0_worthOfShare_0 := by decide +kernel
theorem dX0_worthOfShare_0 : decode cX0_worthOfShare 0 = .ok (.aload_n 3, 1) := dk_45 (dk_at dksX0_worthOfShare_0 0 rfl rfl)
theorem dX0_worthOfShare_1 : decode cX0_worthOfShare 1 = .ok (.iconst 0, 1) := dk_3 (dk_at dksX0_worthOfShare_0 1 rfl rfl)
theorem dX0_worthOfShare_2 : decode cX0_worthOfShare 2 = .ok (.aload_n 0, 1) := dk_42 (dk_at dksX0_worthOfShare_0 2 rfl rfl)
theorem dX0_worthOfShare_3 : decode cX0_worthOfShare 3 = .ok (.iload_n 1, 1) := dk_27 (dk_at dksX0_worthOfShare_0 3 rfl rfl)
theorem dX0_worthOfShare_4 : decode cX0_worthOfShare 4 = .ok (.iload_n 2, 1) := dk_28 (dk_at dksX0_worthOfShare_0 4 rfl rfl)
theorem dX0_worthOfShare_5 : decode cX0_worthOfShare 5 = .ok (.invokevirtual 49, 3) := dk_182 0 49 (dk_at dksX0_worthOfShare_0 5 rfl rfl)
theorem dX0_worthOfShare_8 : decode cX0_worthOfShare 8 = .ok (.i2l, 1) := dk_133 (dk_at dksX0_worthOfShare_0 8 rfl rfl)
theorem dX0_worthOfShare_9 : decode cX0_worthOfShare 9 = .ok (.lastore, 1) := dk_80 (dk_at dksX0_worthOfShare_0 9 rfl rfl)
theorem dX0_worthOfShare_10 : decode cX0_worthOfShare 10 = .ok (.goto 7, 3) := dk_167 0 7 (dk_at dksX0_worthOfShare_0 10 rfl rfl)
theorem dX0_worthOfShare_13 : decode cX0_worthOfShare 13 = .ok (.astore 4, 2) := dk_58 4 (dk_at dksX0_worthOfShare_0 13 rfl rfl)
theorem dX0_worthOfShare_15 : decode cX0_worthOfShare 15 = .ok (.iconst 1, 1) := dk_4 (dk_at dksX0_worthOfShare_0 15 rfl rfl)
theorem dX0_worthOfShare_16 : decode cX0_worthOfShare 16 = .ok (.ireturn, 1) := dk_172 (dk_at dksX0_worthOfShare_0 16 rfl rfl)
theorem dX0_worthOfShare_17 : decode cX0_worthOfShare 17 = .ok (.iconst 0, 1) := dk_3 (dk_at dksX0_worthOfShare_0 17 rfl rfl)
theorem dX0_worthOfShare_18 : decode cX0_worthOfShare 18 = .ok (.ireturn, 1) := dk_172 (dk_at dksX0_worthOfShare_0 18 rfl rfl)
abbrev cX0_shareSize : ByteArray := method_13_code
def yX0_shareSize : MethodName := ⟨RX0, "shareSize", "(LCakeDivision;I[J)I"⟩
def dkwX0_shareSize_0 : List UInt8 := [44, 3, 42, 27, 182, 0, 52, 133, 80, 167, 0, 6, 78, 4, 172, 3, 172]
abbrev dktX0_shareSize_0 : List UInt8 := dkwX0_shareSize_0 ++ []
theorem dksX0_shareSize_0 : cX0_shareSize.data.toList.drop 0 = dktX0_shareSize_0 := by decide +kernel
theorem dX0_shareSize_0 : decode cX0_shareSize 0 = .ok (.aload_n 2, 1) := dk_44 (dk_at dksX0_shareSize_0 0 rfl rfl)
theorem dX0_shareSize_1 : decode cX0_shareSize 1 = .ok (.iconst 0, 1) := dk_3 (dk_at dksX0_shareSize_0 1 rfl rfl)
theorem dX0_shareSize_2 : decode cX0_shareSize 2 = .ok (.aload_n 0, 1) := dk_42 (dk_at dksX0_shareSize_0 2 rfl rfl)
theorem dX0_shareSize_3 : decode cX0_shareSize 3 = .ok (.iload_n 1, 1) := dk_27 (dk_at dksX0_shareSize_0 3 rfl rfl)
theorem dX0_shareSize_4 : decode cX0_shareSize 4 = .ok (.invokevirtual 52, 3) := dk_182 0 52 (dk_at dksX0_shareSize_0 4 rfl rfl)
theorem dX0_shareSize_7 : decode cX0_shareSize 7 = .ok (.i2l, 1) := dk_133 (dk_at dksX0_shareSize_0 7 rfl rfl)
theorem dX0_shareSize_8 : decode cX0_shareSize 8 = .ok (.lastore, 1) := dk_80 (dk_at dksX0_shareSize_0 8 rfl rfl)
theorem dX0_shareSize_9 : decode cX0_shareSize 9 = .ok (.goto 6, 3) := dk_167 0 6 (dk_at dksX0_shareSize_0 9 rfl rfl)
theorem dX0_shareSize_12 : decode cX0_shareSize 12 = .ok (.astore_n 3, 1) := dk_78 (dk_at dksX0_shareSize_0 12 rfl rfl)
theorem dX0_shareSize_13 : decode cX0_shareSize 13 = .ok (.iconst 1, 1) := dk_4 (dk_at dksX0_shareSize_0 13 rfl rfl)
theorem dX0_shareSize_14 : decode cX0_shareSize 14 = .ok (.ireturn, 1) := dk_172 (dk_at dksX0_shareSize_0 14 rfl rfl)
theorem dX0_shareSize_15 : decode cX0_shareSize 15 = .ok (.iconst 0, 1) := dk_3 (dk_at dksX0_shareSize_0 15 rfl rfl)
theorem dX0_shareSize_16 : decode cX0_shareSize 16 = .ok (.ireturn, 1) := dk_172 (dk_at dksX0_shareSize_0 16 rfl rfl)
abbrev cX0_pieceCount : ByteArray := method_14_code
def yX0_pieceCount : MethodName := ⟨RX0, "pieceCount", "(LCakeDivision;I[J)I"⟩
def dkwX0_pieceCount_0 : List UInt8 := [44, 3, 42, 27, 182, 0, 55, 133, 80, 167, 0, 6, 78, 4, 172, 3, 172]
abbrev dktX0_pieceCount_0 : List UInt8 := dkwX0_pieceCount_0 ++ []
theorem dksX0_pieceCount_0 : cX0_pieceCount.data.toList.drop 0 = dktX0_pieceCount_0 := by decide +kernel
theorem dX0_pieceCount_0 : decode cX0_pieceCount 0 = .ok (.aload_n 2, 1) := dk_44 (dk_at dksX0_pieceCount_0 0 rfl rfl)
theorem dX0_pieceCount_1 : decode cX0_pieceCount 1 = .ok (.iconst 0, 1) := dk_3 (dk_at dksX0_pieceCount_0 1 rfl rfl)
theorem dX0_pieceCount_2 : decode cX0_pieceCount 2 = .ok (.aload_n 0, 1) := dk_42 (dk_at dksX0_pieceCount_0 2 rfl rfl)
theorem dX0_pieceCount_3 : decode cX0_pieceCount 3 = .ok (.iload_n 1, 1) := dk_27 (dk_at dksX0_pieceCount_0 3 rfl rfl)
theorem dX0_pieceCount_4 : decode cX0_pieceCount 4 = .ok (.invokevirtual 55, 3) := dk_182 0 55 (dk_at dksX0_pieceCount_0 4 rfl rfl)
theorem dX0_pieceCount_7 : decode cX0_pieceCount 7 = .ok (.i2l, 1) := dk_133 (dk_at dksX0_pieceCount_0 7 rfl rfl)
theorem dX0_pieceCount_8 : decode cX0_pieceCount 8 = .ok (.lastore, 1) := dk_80 (dk_at dksX0_pieceCount_0 8 rfl rfl)
theorem dX0_pieceCount_9 : decode cX0_pieceCount 9 = .ok (.goto 6, 3) := dk_167 0 6 (dk_at dksX0_pieceCount_0 9 rfl rfl)
theorem dX0_pieceCount_12 : decode cX0_pieceCount 12 = .ok (.astore_n 3, 1) := dk_78 (dk_at dksX0_pieceCount_0 12 rfl rfl)
theorem dX0_pieceCount_13 : decode cX0_pieceCount 13 = .ok (.iconst 1, 1) := dk_4 (dk_at dksX0_pieceCount_0 13 rfl rfl)
theorem dX0_pieceCount_14 : decode cX0_pieceCount 14 = .ok (.ireturn, 1) := dk_172 (dk_at dksX0_pieceCount_0 14 rfl rfl)
theorem dX0_pieceCount_15 : decode cX0_pieceCount 15 = .ok (.iconst 0, 1) := dk_3 (dk_at dksX0_pieceCount_0 15 rfl rfl)
theorem dX0_pieceCount_16 : decode cX0_pieceCount 16 = .ok (.ireturn, 1) := dk_172 (dk_at dksX0_pieceCount_0 16 rfl rfl)
abbrev cX0_mark : ByteArray := method_15_code
def yX0_mark : MethodName := ⟨RX0, "mark", "(LCakeDivision;III[J)I"⟩
def dkwX0_mark_1 : List UInt8 := [172]
abbrev dktX0_mark_1 : List UInt8 := dkwX0_mark_1 ++ []
def dkwX0_mark_0 : List UInt8 := [25, 4, 3, 42, 27, 28, 29, 182, 0, 58, 133, 80, 167, 0, 11, 58, 5, 4, 172, 58, 5, 5, 172, 3]
abbrev dktX0_mark_0 : List UInt8 := dkwX0_mark_0 ++ dktX0_mark_1
theorem dksX0_mark_0 : cX0_mark.data.toList.drop 0 = dktX0_mark_0 := by decide +kernel
theorem dksX0_mark_1 : cX0_mark.data.toList.drop 24 = dktX0_mark_1 := dk_seg dksX0_mark_0 24 rfl rfl
theorem dX0_mark_0 : decode cX0_mark 0 = .ok (.aload 4, 2) := dk_25 4 (dk_at dksX0_mark_0 0 rfl rfl)
theorem dX0_mark_2 : decode cX0_mark 2 = .ok (.iconst 0, 1) := dk_3 (dk_at dksX0_mark_0 2 rfl rfl)
theorem dX0_mark_3 : decode cX0_mark 3 = .ok (.aload_n 0, 1) := dk_42 (dk_at dksX0_mark_0 3 rfl rfl)
theorem dX0_mark_4 : decode cX0_mark 4 = .ok (.iload_n 1, 1) := dk_27 (dk_at dksX0_mark_0 4 rfl rfl)
theorem dX0_mark_5 : decode cX0_mark 5 = .ok (.iload_n 2, 1) := dk_28 (dk_at dksX0_mark_0 5 rfl rfl)
theorem dX0_mark_6 : decode cX0_mark 6 = .ok (.iload_n 3, 1) := dk_29 (dk_at dksX0_mark_0 6 rfl rfl)
theorem dX0_mark_7 : decode cX0_mark 7 = .ok (.invokevirtual 58, 3) := dk_182 0 58 (dk_at dksX0_mark_0 7 rfl rfl)
theorem dX0_mark_10 : decode cX0_mark 10 = .ok (.i2l, 1) := dk_133 (dk_at dksX0_mark_0 10 rfl rfl)
theorem dX0_mark_11 : decode cX0_mark 11 = .ok (.lastore, 1) := dk_80 (dk_at dksX0_mark_0 11 rfl rfl)
theorem dX0_mark_12 : decode cX0_mark 12 = .ok (.goto 11, 3) := dk_167 0 11 (dk_at dksX0_mark_0 12 rfl rfl)
theorem dX0_mark_15 : decode cX0_mark 15 = .ok (.astore 5, 2) := dk_58 5 (dk_at dksX0_mark_0 15 rfl rfl)
theorem dX0_mark_17 : decode cX0_mark 17 = .ok (.iconst 1, 1) := dk_4 (dk_at dksX0_mark_0 17 rfl rfl)
theorem dX0_mark_18 : decode cX0_mark 18 = .ok (.ireturn, 1) := dk_172 (dk_at dksX0_mark_0 18 rfl rfl)
theorem dX0_mark_19 : decode cX0_mark 19 = .ok (.astore 5, 2) := dk_58 5 (dk_at dksX0_mark_0 19 rfl rfl)
theorem dX0_mark_21 : decode cX0_mark 21 = .ok (.iconst 2, 1) := dk_5 (dk_at dksX0_mark_0 21 rfl rfl)
theorem dX0_mark_22 : decode cX0_mark 22 = .ok (.ireturn, 1) := dk_172 (dk_at dksX0_mark_0 22 rfl rfl)
theorem dX0_mark_23 : decode cX0_mark 23 = .ok (.iconst 0, 1) := dk_3 (dk_at dksX0_mark_0 23 rfl rfl)
theorem dX0_mark_24 : decode cX0_mark 24 = .ok (.ireturn, 1) := dk_172 (dk_at dksX0_mark_1 0 rfl rfl)
abbrev cX0_favouriteFreeCell : ByteArray := method_16_code
def yX0_favouriteFreeCell : MethodName := ⟨RX0, "favouriteFreeCell", "(LCakeDivision;I[J)I"⟩
def dkwX0_favouriteFreeCell_0 : List UInt8 := [44, 3, 42, 27, 182, 0, 61, 133, 80, 167, 0, 6, 78, 4, 172, 3, 172]
abbrev dktX0_favouriteFreeCell_0 : List UInt8 := dkwX0_favouriteFreeCell_0 ++ []
theorem dksX0_favouriteFreeCell_0 : cX0_favouriteFreeCell.data.toList.drop 0 = dktX0_favouriteFreeCell_0 := by decide +kernel
theorem dX0_favouriteFreeCell_0 : decode cX0_favouriteFreeCell 0 = .ok (.aload_n 2, 1) := dk_44 (dk_at dksX0_favouriteFreeCell_0 0 rfl rfl)
theorem dX0_favouriteFreeCell_1 : decode cX0_favouriteFreeCell 1 = .ok (.iconst 0, 1) := dk_3 (dk_at dksX0_favouriteFreeCell_0 1 rfl rfl)
theorem dX0_favouriteFreeCell_2 : decode cX0_favouriteFreeCell 2 = .ok (.aload_n 0, 1) := dk_42 (dk_at dksX0_favouriteFreeCell_0 2 rfl rfl)
theorem dX0_favouriteFreeCell_3 : decode cX0_favouriteFreeCell 3 = .ok (.iload_n 1, 1) := dk_27 (dk_at dksX0_favouriteFreeCell_0 3 rfl rfl)
theorem dX0_favouriteFreeCell_4 : decode cX0_favouriteFreeCell 4 = .ok (.invokevirtual 61, 3) := dk_182 0 61 (dk_at dksX0_favouriteFreeCell_0 4 rfl rfl)
theorem dX0_favouriteFreeCell_7 : decode cX0_favouriteFreeCell 7 = .ok (.i2l, 1) := dk_133 (dk_at dksX0_favouriteFreeCell_0 7 rfl rfl)
theorem dX0_favouriteFreeCell_8 : decode cX0_favouriteFreeCell 8 = .ok (.lastore, 1) := dk_80 (dk_at dksX0_favouriteFreeCell_0 8 rfl rfl)
theorem dX0_favouriteFreeCell_9 : decode cX0_favouriteFreeCell 9 = .ok (.goto 6, 3) := dk_167 0 6 (dk_at dksX0_favouriteFreeCell_0 9 rfl rfl)
theorem dX0_favouriteFreeCell_12 : decode cX0_favouriteFreeCell 12 = .ok (.astore_n 3, 1) := dk_78 (dk_at dksX0_favouriteFreeCell_0 12 rfl rfl)
theorem dX0_favouriteFreeCell_13 : decode cX0_favouriteFreeCell 13 = .ok (.iconst 1, 1) := dk_4 (dk_at dksX0_favouriteFreeCell_0 13 rfl rfl)
theorem dX0_favouriteFreeCell_14 : decode cX0_favouriteFreeCell 14 = .ok (.ireturn, 1) := dk_172 (dk_at dksX0_favouriteFreeCell_0 14 rfl rfl)
theorem dX0_favouriteFreeCell_15 : decode cX0_favouriteFreeCell 15 = .ok (.iconst 0, 1) := dk_3 (dk_at dksX0_favouriteFreeCell_0 15 rfl rfl)
theorem dX0_favouriteFreeCell_16 : decode cX0_favouriteFreeCell 16 = .ok (.ireturn, 1) := dk_172 (dk_at dksX0_favouriteFreeCell_0 16 rfl rfl)
abbrev cX0_envies : ByteArray := method_17_code
def yX0_envies : MethodName := ⟨RX0, "envies", "(LCakeDivision;II[J)I"⟩
def dkwX0_envies_1 : List UInt8 := [3, 172]
abbrev dktX0_envies_1 : List UInt8 := dkwX0_envies_1 ++ []
def dkwX0_envies_0 : List UInt8 := [45, 3, 42, 27, 28, 182, 0, 64, 153, 0, 7, 10, 167, 0, 4, 9, 80, 167, 0, 7, 58, 4, 4, 172]
abbrev dktX0_envies_0 : List UInt8 := dkwX0_envies_0 ++ dktX0_envies_1
theorem dksX0_envies_0 : cX0_envies.data.toList.drop 0 = dktX0_envies_0 := by decide +kernel
theorem dksX0_envies_1 : cX0_envies.data.toList.drop 24 = dktX0_envies_1 := dk_seg dksX0_envies_0 24 rfl rfl
theorem dX0_envies_0 : decode cX0_envies 0 = .ok (.aload_n 3, 1) := dk_45 (dk_at dksX0_envies_0 0 rfl rfl)
theorem dX0_envies_1 : decode cX0_envies 1 = .ok (.iconst 0, 1) := dk_3 (dk_at dksX0_envies_0 1 rfl rfl)
theorem dX0_envies_2 : decode cX0_envies 2 = .ok (.aload_n 0, 1) := dk_42 (dk_at dksX0_envies_0 2 rfl rfl)
theorem dX0_envies_3 : decode cX0_envies 3 = .ok (.iload_n 1, 1) := dk_27 (dk_at dksX0_envies_0 3 rfl rfl)
theorem dX0_envies_4 : decode cX0_envies 4 = .ok (.iload_n 2, 1) := dk_28 (dk_at dksX0_envies_0 4 rfl rfl)
theorem dX0_envies_5 : decode cX0_envies 5 = .ok (.invokevirtual 64, 3) := dk_182 0 64 (dk_at dksX0_envies_0 5 rfl rfl)
theorem dX0_envies_8 : decode cX0_envies 8 = .ok (.ifCond .eq 7, 3) := dk_153 0 7 (dk_at dksX0_envies_0 8 rfl rfl)
theorem dX0_envies_11 : decode cX0_envies 11 = .ok (.lconst 1, 1) := dk_10 (dk_at dksX0_envies_0 11 rfl rfl)
theorem dX0_envies_12 : decode cX0_envies 12 = .ok (.goto 4, 3) := dk_167 0 4 (dk_at dksX0_envies_0 12 rfl rfl)
theorem dX0_envies_15 : decode cX0_envies 15 = .ok (.lconst 0, 1) := dk_9 (dk_at dksX0_envies_0 15 rfl rfl)
theorem dX0_envies_16 : decode cX0_envies 16 = .ok (.lastore, 1) := dk_80 (dk_at dksX0_envies_0 16 rfl rfl)
theorem dX0_envies_17 : decode cX0_envies 17 = .ok (.goto 7, 3) := dk_167 0 7 (dk_at dksX0_envies_0 17 rfl rfl)
theorem dX0_envies_20 : decode cX0_envies 20 = .ok (.astore 4, 2) := dk_58 4 (dk_at dksX0_envies_0 20 rfl rfl)
theorem dX0_envies_22 : decode cX0_envies 22 = .ok (.iconst 1, 1) := dk_4 (dk_at dksX0_envies_0 22 rfl rfl)
theorem dX0_envies_23 : decode cX0_envies 23 = .ok (.ireturn, 1) := dk_172 (dk_at dksX0_envies_0 23 rfl rfl)
theorem dX0_envies_24 : decode cX0_envies 24 = .ok (.iconst 0, 1) := dk_3 (dk_at dksX0_envies_1 0 rfl rfl)
theorem dX0_envies_25 : decode cX0_envies 25 = .ok (.ireturn, 1) := dk_172 (dk_at dksX0_envies_1 1 rfl rfl)
abbrev cX0_isMild : ByteArray := method_18_code
def yX0_isMild : MethodName := ⟨RX0, "isMild", "(LCakeDivision;II[J)I"⟩
def dkwX0_isMild_1 : List UInt8 := [58, 4, 5, 172, 3, 172]
abbrev dktX0_isMild_1 : List UInt8 := dkwX0_isMild_1 ++ []
def dkwX0_isMild_0 : List UInt8 := [45, 3, 42, 27, 28, 182, 0, 68, 153, 0, 7, 10, 167, 0, 4, 9, 80, 167, 0, 11, 58, 4, 4, 172]
abbrev dktX0_isMild_0 : List UInt8 := dkwX0_isMild_0 ++ dktX0_isMild_1
theorem dksX0_isMild_0 : cX0_isMild.data.toList.drop 0 = dktX0_isMild_0 := by decide +kernel
theorem dksX0_isMild_1 : cX0_isMild.data.toList.drop 24 = dktX0_isMild_1 := dk_seg dksX0_isMild_0 24 rfl rfl
theorem dX0_isMild_0 : decode cX0_isMild 0 = .ok (.aload_n 3, 1) := dk_45 (dk_at dksX0_isMild_0 0 rfl rfl)
theorem dX0_isMild_1 : decode cX0_isMild 1 = .ok (.iconst 0, 1) := dk_3 (dk_at dksX0_isMild_0 1 rfl rfl)
theorem dX0_isMild_2 : decode cX0_isMild 2 = .ok (.aload_n 0, 1) := dk_42 (dk_at dksX0_isMild_0 2 rfl rfl)
theorem dX0_isMild_3 : decode cX0_isMild 3 = .ok (.iload_n 1, 1) := dk_27 (dk_at dksX0_isMild_0 3 rfl rfl)
theorem dX0_isMild_4 : decode cX0_isMild 4 = .ok (.iload_n 2, 1) := dk_28 (dk_at dksX0_isMild_0 4 rfl rfl)
theorem dX0_isMild_5 : decode cX0_isMild 5 = .ok (.invokevirtual 68, 3) := dk_182 0 68 (dk_at dksX0_isMild_0 5 rfl rfl)
theorem dX0_isMild_8 : decode cX0_isMild 8 = .ok (.ifCond .eq 7, 3) := dk_153 0 7 (dk_at dksX0_isMild_0 8 rfl rfl)
theorem dX0_isMild_11 : decode cX0_isMild 11 = .ok (.lconst 1, 1) := dk_10 (dk_at dksX0_isMild_0 11 rfl rfl)
theorem dX0_isMild_12 : decode cX0_isMild 12 = .ok (.goto 4, 3) := dk_167 0 4 (dk_at dksX0_isMild_0 12 rfl rfl)
theorem dX0_isMild_15 : decode cX0_isMild 15 = .ok (.lconst 0, 1) := dk_9 (dk_at dksX0_isMild_0 15 rfl rfl)
theorem dX0_isMild_16 : decode cX0_isMild 16 = .ok (.lastore, 1) := dk_80 (dk_at dksX0_isMild_0 16 rfl rfl)
theorem dX0_isMild_17 : decode cX0_isMild 17 = .ok (.goto 11, 3) := dk_167 0 11 (dk_at dksX0_isMild_0 17 rfl rfl)
theorem dX0_isMild_20 : decode cX0_isMild 20 = .ok (.astore 4, 2) := dk_58 4 (dk_at dksX0_isMild_0 20 rfl rfl)
theorem dX0_isMild_22 : decode cX0_isMild 22 = .ok (.iconst 1, 1) := dk_4 (dk_at dksX0_isMild_0 22 rfl rfl)
theorem dX0_isMild_23 : decode cX0_isMild 23 = .ok (.ireturn, 1) := dk_172 (dk_at dksX0_isMild_0 23 rfl rfl)
theorem dX0_isMild_24 : decode cX0_isMild 24 = .ok (.astore 4, 2) := dk_58 4 (dk_at dksX0_isMild_1 0 rfl rfl)
theorem dX0_isMild_26 : decode cX0_isMild 26 = .ok (.iconst 2, 1) := dk_5 (dk_at dksX0_isMild_1 2 rfl rfl)
theorem dX0_isMild_27 : decode cX0_isMild 27 = .ok (.ireturn, 1) := dk_172 (dk_at dksX0_isMild_1 3 rfl rfl)
theorem dX0_isMild_28 : decode cX0_isMild 28 = .ok (.iconst 0, 1) := dk_3 (dk_at dksX0_isMild_1 4 rfl rfl)
theorem dX0_isMild_29 : decode cX0_isMild 29 = .ok (.ireturn, 1) := dk_172 (dk_at dksX0_isMild_1 5 rfl rfl)
abbrev cX0_isSatisfied : ByteArray := method_19_code
def yX0_isSatisfied : MethodName := ⟨RX0, "isSatisfied", "(LCakeDivision;I[J)I"⟩
def dkwX0_isSatisfied_0 : List UInt8 := [44, 3, 42, 27, 182, 0, 71, 153, 0, 7, 10, 167, 0, 4, 9, 80, 167, 0, 6, 78, 4, 172, 3, 172]
abbrev dktX0_isSatisfied_0 : List UInt8 := dkwX0_isSatisfied_0 ++ []
theorem dksX0_isSatisfied_0 : cX0_isSatisfied.data.toList.drop 0 = dktX0_isSatisfied_0 := by decide +kernel
theorem dX0_isSatisfied_0 : decode cX0_isSatisfied 0 = .ok (.aload_n 2, 1) := dk_44 (dk_at dksX0_isSatisfied_0 0 rfl rfl)
theorem dX0_isSatisfied_1 : decode cX0_isSatisfied 1 = .ok (.iconst 0, 1) := dk_3 (dk_at dksX0_isSatisfied_0 1 rfl rfl)
theorem dX0_isSatisfied_2 : decode cX0_isSatisfied 2 = .ok (.aload_n 0, 1) := dk_42 (dk_at dksX0_isSatisfied_0 2 rfl rfl)
theorem dX0_isSatisfied_3 : decode cX0_isSatisfied 3 = .ok (.iload_n 1, 1) := dk_27 (dk_at dksX0_isSatisfied_0 3 rfl rfl)
theorem dX0_isSatisfied_4 : decode cX0_isSatisfied 4 = .ok (.invokevirtual 71, 3) := dk_182 0 71 (dk_at dksX0_isSatisfied_0 4 rfl rfl)
theorem dX0_isSatisfied_7 : decode cX0_isSatisfied 7 = .ok (.ifCond .eq 7, 3) := dk_153 0 7 (dk_at dksX0_isSatisfied_0 7 rfl rfl)
theorem dX0_isSatisfied_10 : decode cX0_isSatisfied 10 = .ok (.lconst 1, 1) := dk_10 (dk_at dksX0_isSatisfied_0 10 rfl rfl)
theorem dX0_isSatisfied_11 : decode cX0_isSatisfied 11 = .ok (.goto 4, 3) := dk_167 0 4 (dk_at dksX0_isSatisfied_0 11 rfl rfl)
theorem dX0_isSatisfied_14 : decode cX0_isSatisfied 14 = .ok (.lconst 0, 1) := dk_9 (dk_at dksX0_isSatisfied_0 14 rfl rfl)
theorem dX0_isSatisfied_15 : decode cX0_isSatisfied 15 = .ok (.lastore, 1) := dk_80 (dk_at dksX0_isSatisfied_0 15 rfl rfl)
theorem dX0_isSatisfied_16 : decode cX0_isSatisfied 16 = .ok (.goto 6, 3) := dk_167 0 6 (dk_at dksX0_isSatisfied_0 16 rfl rfl)
theorem dX0_isSatisfied_19 : decode cX0_isSatisfied 19 = .ok (.astore_n 3, 1) := dk_78 (dk_at dksX0_isSatisfied_0 19 rfl rfl)
theorem dX0_isSatisfied_20 : decode cX0_isSatisfied 20 = .ok (.iconst 1, 1) := dk_4 (dk_at dksX0_isSatisfied_0 20 rfl rfl)
theorem dX0_isSatisfied_21 : decode cX0_isSatisfied 21 = .ok (.ireturn, 1) := dk_172 (dk_at dksX0_isSatisfied_0 21 rfl rfl)
theorem dX0_isSatisfied_22 : decode cX0_isSatisfied 22 = .ok (.iconst 0, 1) := dk_3 (dk_at dksX0_isSatisfied_0 22 rfl rfl)
theorem dX0_isSatisfied_23 : decode cX0_isSatisfied 23 = .ok (.ireturn, 1) := dk_172 (dk_at dksX0_isSatisfied_0 23 rfl rfl)
abbrev cX0_envyCycleLength : ByteArray := method_20_code
def yX0_envyCycleLength : MethodName := ⟨RX0, "envyCycleLength", "(LCakeDivision;I[J)I"⟩
def dkwX0_envyCycleLength_0 : List UInt8 := [44, 3, 42, 27, 182, 0, 75, 133, 80, 167, 0, 6, 78, 4, 172, 3, 172]
abbrev dktX0_envyCycleLength_0 : List UInt8 := dkwX0_envyCycleLength_0 ++ []
theorem dksX0_envyCycleLength_0 : cX0_envyCycleLength.data.toList.drop 0 = dktX0_envyCycleLength_0 := by decide +kernel
theorem dX0_envyCycleLength_0 : decode cX0_envyCycleLength 0 = .ok (.aload_n 2, 1) := dk_44 (dk_at dksX0_envyCycleLength_0 0 rfl rfl)
theorem dX0_envyCycleLength_1 : decode cX0_envyCycleLength 1 = .ok (.iconst 0, 1) := dk_3 (dk_at dksX0_envyCycleLength_0 1 rfl rfl)
theorem dX0_envyCycleLength_2 : decode cX0_envyCycleLength 2 = .ok (.aload_n 0, 1) := dk_42 (dk_at dksX0_envyCycleLength_0 2 rfl rfl)
theorem dX0_envyCycleLength_3 : decode cX0_envyCycleLength 3 = .ok (.iload_n 1, 1) := dk_27 (dk_at dksX0_envyCycleLength_0 3 rfl rfl)
theorem dX0_envyCycleLength_4 : decode cX0_envyCycleLength 4 = .ok (.invokevirtual 75, 3) := dk_182 0 75 (dk_at dksX0_envyCycleLength_0 4 rfl rfl)
theorem dX0_envyCycleLength_7 : decode cX0_envyCycleLength 7 = .ok (.i2l, 1) := dk_133 (dk_at dksX0_envyCycleLength_0 7 rfl rfl)
theorem dX0_envyCycleLength_8 : decode cX0_envyCycleLength 8 = .ok (.lastore, 1) := dk_80 (dk_at dksX0_envyCycleLength_0 8 rfl rfl)
theorem dX0_envyCycleLength_9 : decode cX0_envyCycleLength 9 = .ok (.goto 6, 3) := dk_167 0 6 (dk_at dksX0_envyCycleLength_0 9 rfl rfl)
theorem dX0_envyCycleLength_12 : decode cX0_envyCycleLength 12 = .ok (.astore_n 3, 1) := dk_78 (dk_at dksX0_envyCycleLength_0 12 rfl rfl)
theorem dX0_envyCycleLength_13 : decode cX0_envyCycleLength 13 = .ok (.iconst 1, 1) := dk_4 (dk_at dksX0_envyCycleLength_0 13 rfl rfl)
theorem dX0_envyCycleLength_14 : decode cX0_envyCycleLength 14 = .ok (.ireturn, 1) := dk_172 (dk_at dksX0_envyCycleLength_0 14 rfl rfl)
theorem dX0_envyCycleLength_15 : decode cX0_envyCycleLength 15 = .ok (.iconst 0, 1) := dk_3 (dk_at dksX0_envyCycleLength_0 15 rfl rfl)
theorem dX0_envyCycleLength_16 : decode cX0_envyCycleLength 16 = .ok (.ireturn, 1) := dk_172 (dk_at dksX0_envyCycleLength_0 16 rfl rfl)
abbrev cX0_envyCycleMember : ByteArray := method_21_code
def yX0_envyCycleMember : MethodName := ⟨RX0, "envyCycleMember", "(LCakeDivision;II[J)I"⟩
def dkwX0_envyCycleMember_0 : List UInt8 := [45, 3, 42, 27, 28, 182, 0, 78, 133, 80, 167, 0, 11, 58, 4, 4, 172, 58, 4, 5, 172, 3, 172]
abbrev dktX0_envyCycleMember_0 : List UInt8 := dkwX0_envyCycleMember_0 ++ []
theorem dksX0_envyCycleMember_0 : cX0_envyCycleMember.data.toList.drop 0 = dktX0_envyCycleMember_0 := by decide +kernel
theorem dX0_envyCycleMember_0 : decode cX0_envyCycleMember 0 = .ok (.aload_n 3, 1) := dk_45 (dk_at dksX0_envyCycleMember_0 0 rfl rfl)
theorem dX0_envyCycleMember_1 : decode cX0_envyCycleMember 1 = .ok (.iconst 0, 1) := dk_3 (dk_at dksX0_envyCycleMember_0 1 rfl rfl)
theorem dX0_envyCycleMember_2 : decode cX0_envyCycleMember 2 = .ok (.aload_n 0, 1) := dk_42 (dk_at dksX0_envyCycleMember_0 2 rfl rfl)
theorem dX0_envyCycleMember_3 : decode cX0_envyCycleMember 3 = .ok (.iload_n 1, 1) := dk_27 (dk_at dksX0_envyCycleMember_0 3 rfl rfl)
theorem dX0_envyCycleMember_4 : decode cX0_envyCycleMember 4 = .ok (.iload_n 2, 1) := dk_28 (dk_at dksX0_envyCycleMember_0 4 rfl rfl)
theorem dX0_envyCycleMember_5 : decode cX0_envyCycleMember 5 = .ok (.invokevirtual 78, 3) := dk_182 0 78 (dk_at dksX0_envyCycleMember_0 5 rfl rfl)
theorem dX0_envyCycleMember_8 : decode cX0_envyCycleMember 8 = .ok (.i2l, 1) := dk_133 (dk_at dksX0_envyCycleMember_0 8 rfl rfl)
theorem dX0_envyCycleMember_9 : decode cX0_envyCycleMember 9 = .ok (.lastore, 1) := dk_80 (dk_at dksX0_envyCycleMember_0 9 rfl rfl)
theorem dX0_envyCycleMember_10 : decode cX0_envyCycleMember 10 = .ok (.goto 11, 3) := dk_167 0 11 (dk_at dksX0_envyCycleMember_0 10 rfl rfl)
theorem dX0_envyCycleMember_13 : decode cX0_envyCycleMember 13 = .ok (.astore 4, 2) := dk_58 4 (dk_at dksX0_envyCycleMember_0 13 rfl rfl)
theorem dX0_envyCycleMember_15 : decode cX0_envyCycleMember 15 = .ok (.iconst 1, 1) := dk_4 (dk_at dksX0_envyCycleMember_0 15 rfl rfl)
theorem dX0_envyCycleMember_16 : decode cX0_envyCycleMember 16 = .ok (.ireturn, 1) := dk_172 (dk_at dksX0_envyCycleMember_0 16 rfl rfl)
theorem dX0_envyCycleMember_17 : decode cX0_envyCycleMember 17 = .ok (.astore 4, 2) := dk_58 4 (dk_at dksX0_envyCycleMember_0 17 rfl rfl)
theorem dX0_envyCycleMember_19 : decode cX0_envyCycleMember 19 = .ok (.iconst 2, 1) := dk_5 (dk_at dksX0_envyCycleMember_0 19 rfl rfl)
theorem dX0_envyCycleMember_20 : decode cX0_envyCycleMember 20 = .ok (.ireturn, 1) := dk_172 (dk_at dksX0_envyCycleMember_0 20 rfl rfl)
theorem dX0_envyCycleMember_21 : decode cX0_envyCycleMember 21 = .ok (.iconst 0, 1) := dk_3 (dk_at dksX0_envyCycleMember_0 21 rfl rfl)
theorem dX0_envyCycleMember_22 : decode cX0_envyCycleMember 22 = .ok (.ireturn, 1) := dk_172 (dk_at dksX0_envyCycleMember_0 22 rfl rfl)
abbrev cX0_wouldSwap : ByteArray := method_22_code
def yX0_wouldSwap : MethodName := ⟨RX0, "wouldSwap", "(LCakeDivision;II[J)I"⟩
def dkwX0_wouldSwap_1 : List UInt8 := [3, 172]
abbrev dktX0_wouldSwap_1 : List UInt8 := dkwX0_wouldSwap_1 ++ []
def dkwX0_wouldSwap_0 : List UInt8 := [45, 3, 42, 27, 28, 182, 0, 81, 153, 0, 7, 10, 167, 0, 4, 9, 80, 167, 0, 7, 58, 4, 4, 172]
abbrev dktX0_wouldSwap_0 : List UInt8 := dkwX0_wouldSwap_0 ++ dktX0_wouldSwap_1
theorem dksX0_wouldSwap_0 : cX0_wouldSwap.data.toList.drop 0 = dktX0_wouldSwap_0 := by decide +kernel
theorem dksX0_wouldSwap_1 : cX0_wouldSwap.data.toList.drop 24 = dktX0_wouldSwap_1 := dk_seg dksX0_wouldSwap_0 24 rfl rfl
theorem dX0_wouldSwap_0 : decode cX0_wouldSwap 0 = .ok (.aload_n 3, 1) := dk_45 (dk_at dksX0_wouldSwap_0 0 rfl rfl)
theorem dX0_wouldSwap_1 : decode cX0_wouldSwap 1 = .ok (.iconst 0, 1) := dk_3 (dk_at dksX0_wouldSwap_0 1 rfl rfl)
theorem dX0_wouldSwap_2 : decode cX0_wouldSwap 2 = .ok (.aload_n 0, 1) := dk_42 (dk_at dksX0_wouldSwap_0 2 rfl rfl)
theorem dX0_wouldSwap_3 : decode cX0_wouldSwap 3 = .ok (.iload_n 1, 1) := dk_27 (dk_at dksX0_wouldSwap_0 3 rfl rfl)
theorem dX0_wouldSwap_4 : decode cX0_wouldSwap 4 = .ok (.iload_n 2, 1) := dk_28 (dk_at dksX0_wouldSwap_0 4 rfl rfl)
theorem dX0_wouldSwap_5 : decode cX0_wouldSwap 5 = .ok (.invokevirtual 81, 3) := dk_182 0 81 (dk_at dksX0_wouldSwap_0 5 rfl rfl)
theorem dX0_wouldSwap_8 : decode cX0_wouldSwap 8 = .ok (.ifCond .eq 7, 3) := dk_153 0 7 (dk_at dksX0_wouldSwap_0 8 rfl rfl)
theorem dX0_wouldSwap_11 : decode cX0_wouldSwap 11 = .ok (.lconst 1, 1) := dk_10 (dk_at dksX0_wouldSwap_0 11 rfl rfl)
theorem dX0_wouldSwap_12 : decode cX0_wouldSwap 12 = .ok (.goto 4, 3) := dk_167 0 4 (dk_at dksX0_wouldSwap_0 12 rfl rfl)
theorem dX0_wouldSwap_15 : decode cX0_wouldSwap 15 = .ok (.lconst 0, 1) := dk_9 (dk_at dksX0_wouldSwap_0 15 rfl rfl)
theorem dX0_wouldSwap_16 : decode cX0_wouldSwap 16 = .ok (.lastore, 1) := dk_80 (dk_at dksX0_wouldSwap_0 16 rfl rfl)
theorem dX0_wouldSwap_17 : decode cX0_wouldSwap 17 = .ok (.goto 7, 3) := dk_167 0 7 (dk_at dksX0_wouldSwap_0 17 rfl rfl)
theorem dX0_wouldSwap_20 : decode cX0_wouldSwap 20 = .ok (.astore 4, 2) := dk_58 4 (dk_at dksX0_wouldSwap_0 20 rfl rfl)
theorem dX0_wouldSwap_22 : decode cX0_wouldSwap 22 = .ok (.iconst 1, 1) := dk_4 (dk_at dksX0_wouldSwap_0 22 rfl rfl)
theorem dX0_wouldSwap_23 : decode cX0_wouldSwap 23 = .ok (.ireturn, 1) := dk_172 (dk_at dksX0_wouldSwap_0 23 rfl rfl)
theorem dX0_wouldSwap_24 : decode cX0_wouldSwap 24 = .ok (.iconst 0, 1) := dk_3 (dk_at dksX0_wouldSwap_1 0 rfl rfl)
theorem dX0_wouldSwap_25 : decode cX0_wouldSwap 25 = .ok (.ireturn, 1) := dk_172 (dk_at dksX0_wouldSwap_1 1 rfl rfl)
abbrev cX0_satisfaction : ByteArray := method_23_code
def yX0_satisfaction : MethodName := ⟨RX0, "satisfaction", "(LCakeDivision;I[D)I"⟩
def dkwX0_satisfaction_0 : List UInt8 := [44, 3, 42, 27, 182, 0, 84, 141, 82, 167, 0, 6, 78, 4, 172, 3, 172]
abbrev dktX0_satisfaction_0 : List UInt8 := dkwX0_satisfaction_0 ++ []
theorem dksX0_satisfaction_0 : cX0_satisfaction.data.toList.drop 0 = dktX0_satisfaction_0 := by decide +kernel
theorem dX0_satisfaction_0 : decode cX0_satisfaction 0 = .ok (.aload_n 2, 1) := dk_44 (dk_at dksX0_satisfaction_0 0 rfl rfl)
theorem dX0_satisfaction_1 : decode cX0_satisfaction 1 = .ok (.iconst 0, 1) := dk_3 (dk_at dksX0_satisfaction_0 1 rfl rfl)
theorem dX0_satisfaction_2 : decode cX0_satisfaction 2 = .ok (.aload_n 0, 1) := dk_42 (dk_at dksX0_satisfaction_0 2 rfl rfl)
theorem dX0_satisfaction_3 : decode cX0_satisfaction 3 = .ok (.iload_n 1, 1) := dk_27 (dk_at dksX0_satisfaction_0 3 rfl rfl)
theorem dX0_satisfaction_4 : decode cX0_satisfaction 4 = .ok (.invokevirtual 84, 3) := dk_182 0 84 (dk_at dksX0_satisfaction_0 4 rfl rfl)
theorem dX0_satisfaction_7 : decode cX0_satisfaction 7 = .ok (.f2d, 1) := dk_141 (dk_at dksX0_satisfaction_0 7 rfl rfl)
theorem dX0_satisfaction_8 : decode cX0_satisfaction 8 = .ok (.dastore, 1) := dk_82 (dk_at dksX0_satisfaction_0 8 rfl rfl)
theorem dX0_satisfaction_9 : decode cX0_satisfaction 9 = .ok (.goto 6, 3) := dk_167 0 6 (dk_at dksX0_satisfaction_0 9 rfl rfl)
theorem dX0_satisfaction_12 : decode cX0_satisfaction 12 = .ok (.astore_n 3, 1) := dk_78 (dk_at dksX0_satisfaction_0 12 rfl rfl)
theorem dX0_satisfaction_13 : decode cX0_satisfaction 13 = .ok (.iconst 1, 1) := dk_4 (dk_at dksX0_satisfaction_0 13 rfl rfl)
theorem dX0_satisfaction_14 : decode cX0_satisfaction 14 = .ok (.ireturn, 1) := dk_172 (dk_at dksX0_satisfaction_0 14 rfl rfl)
theorem dX0_satisfaction_15 : decode cX0_satisfaction 15 = .ok (.iconst 0, 1) := dk_3 (dk_at dksX0_satisfaction_0 15 rfl rfl)
theorem dX0_satisfaction_16 : decode cX0_satisfaction 16 = .ok (.ireturn, 1) := dk_172 (dk_at dksX0_satisfaction_0 16 rfl rfl)
abbrev cX0_cutFor : ByteArray := method_24_code
def yX0_cutFor : MethodName := ⟨RX0, "cutFor", "(LCakeDivision;I[J)I"⟩
def dkwX0_cutFor_0 : List UInt8 := [44, 3, 42, 27, 182, 0, 88, 133, 80, 167, 0, 6, 78, 4, 172, 3, 172]
abbrev dktX0_cutFor_0 : List UInt8 := dkwX0_cutFor_0 ++ []
theorem dksX0_cutFor_0 : cX0_cutFor.data.toList.drop 0 = dktX0_cutFor_0 := by decide +kernel
theorem dX0_cutFor_0 : decode cX0_cutFor 0 = .ok (.aload_n 2, 1) := dk_44 (dk_at dksX0_cutFor_0 0 rfl rfl)
theorem dX0_cutFor_1 : decode cX0_cutFor 1 = .ok (.iconst 0, 1) := dk_3 (dk_at dksX0_cutFor_0 1 rfl rfl)
theorem dX0_cutFor_2 : decode cX0_cutFor 2 = .ok (.aload_n 0, 1) := dk_42 (dk_at dksX0_cutFor_0 2 rfl rfl)
theorem dX0_cutFor_3 : decode cX0_cutFor 3 = .ok (.iload_n 1, 1) := dk_27 (dk_at dksX0_cutFor_0 3 rfl rfl)
theorem dX0_cutFor_4 : decode cX0_cutFor 4 = .ok (.invokevirtual 88, 3) := dk_182 0 88 (dk_at dksX0_cutFor_0 4 rfl rfl)
theorem dX0_cutFor_7 : decode cX0_cutFor 7 = .ok (.i2l, 1) := dk_133 (dk_at dksX0_cutFor_0 7 rfl rfl)
theorem dX0_cutFor_8 : decode cX0_cutFor 8 = .ok (.lastore, 1) := dk_80 (dk_at dksX0_cutFor_0 8 rfl rfl)
theorem dX0_cutFor_9 : decode cX0_cutFor 9 = .ok (.goto 6, 3) := dk_167 0 6 (dk_at dksX0_cutFor_0 9 rfl rfl)
theorem dX0_cutFor_12 : decode cX0_cutFor 12 = .ok (.astore_n 3, 1) := dk_78 (dk_at dksX0_cutFor_0 12 rfl rfl)
theorem dX0_cutFor_13 : decode cX0_cutFor 13 = .ok (.iconst 1, 1) := dk_4 (dk_at dksX0_cutFor_0 13 rfl rfl)
theorem dX0_cutFor_14 : decode cX0_cutFor 14 = .ok (.ireturn, 1) := dk_172 (dk_at dksX0_cutFor_0 14 rfl rfl)
theorem dX0_cutFor_15 : decode cX0_cutFor 15 = .ok (.iconst 0, 1) := dk_3 (dk_at dksX0_cutFor_0 15 rfl rfl)
theorem dX0_cutFor_16 : decode cX0_cutFor 16 = .ok (.ireturn, 1) := dk_172 (dk_at dksX0_cutFor_0 16 rfl rfl)
abbrev cX0_welfareByKnife : ByteArray := method_25_code
def yX0_welfareByKnife : MethodName := ⟨RX0, "welfareByKnife", "(LCakeDivision;I[J)I"⟩
def dkwX0_welfareByKnife_0 : List UInt8 := [44, 3, 42, 27, 182, 0, 91, 133, 80, 167, 0, 6, 78, 4, 172, 3, 172]
abbrev dktX0_welfareByKnife_0 : List UInt8 := dkwX0_welfareByKnife_0 ++ []
theorem dksX0_welfareByKnife_0 : cX0_welfareByKnife.data.toList.drop 0 = dktX0_welfareByKnife_0 := by decide +kernel
theorem dX0_welfareByKnife_0 : decode cX0_welfareByKnife 0 = .ok (.aload_n 2, 1) := dk_44 (dk_at dksX0_welfareByKnife_0 0 rfl rfl)
theorem dX0_welfareByKnife_1 : decode cX0_welfareByKnife 1 = .ok (.iconst 0, 1) := dk_3 (dk_at dksX0_welfareByKnife_0 1 rfl rfl)
theorem dX0_welfareByKnife_2 : decode cX0_welfareByKnife 2 = .ok (.aload_n 0, 1) := dk_42 (dk_at dksX0_welfareByKnife_0 2 rfl rfl)
theorem dX0_welfareByKnife_3 : decode cX0_welfareByKnife 3 = .ok (.iload_n 1, 1) := dk_27 (dk_at dksX0_welfareByKnife_0 3 rfl rfl)
theorem dX0_welfareByKnife_4 : decode cX0_welfareByKnife 4 = .ok (.invokevirtual 91, 3) := dk_182 0 91 (dk_at dksX0_welfareByKnife_0 4 rfl rfl)
theorem dX0_welfareByKnife_7 : decode cX0_welfareByKnife 7 = .ok (.i2l, 1) := dk_133 (dk_at dksX0_welfareByKnife_0 7 rfl rfl)
theorem dX0_welfareByKnife_8 : decode cX0_welfareByKnife 8 = .ok (.lastore, 1) := dk_80 (dk_at dksX0_welfareByKnife_0 8 rfl rfl)
theorem dX0_welfareByKnife_9 : decode cX0_welfareByKnife 9 = .ok (.goto 6, 3) := dk_167 0 6 (dk_at dksX0_welfareByKnife_0 9 rfl rfl)
theorem dX0_welfareByKnife_12 : decode cX0_welfareByKnife 12 = .ok (.astore_n 3, 1) := dk_78 (dk_at dksX0_welfareByKnife_0 12 rfl rfl)
theorem dX0_welfareByKnife_13 : decode cX0_welfareByKnife 13 = .ok (.iconst 1, 1) := dk_4 (dk_at dksX0_welfareByKnife_0 13 rfl rfl)
theorem dX0_welfareByKnife_14 : decode cX0_welfareByKnife 14 = .ok (.ireturn, 1) := dk_172 (dk_at dksX0_welfareByKnife_0 14 rfl rfl)
theorem dX0_welfareByKnife_15 : decode cX0_welfareByKnife 15 = .ok (.iconst 0, 1) := dk_3 (dk_at dksX0_welfareByKnife_0 15 rfl rfl)
theorem dX0_welfareByKnife_16 : decode cX0_welfareByKnife 16 = .ok (.ireturn, 1) := dk_172 (dk_at dksX0_welfareByKnife_0 16 rfl rfl)
abbrev cX0_welfareByRobin : ByteArray := method_26_code
def yX0_welfareByRobin : MethodName := ⟨RX0, "welfareByRobin", "(LCakeDivision;II[J)I"⟩
def dkwX0_welfareByRobin_0 : List UInt8 := [45, 3, 42, 27, 28, 182, 0, 94, 133, 80, 167, 0, 7, 58, 4, 4, 172, 3, 172]
abbrev dktX0_welfareByRobin_0 : List UInt8 := dkwX0_welfareByRobin_0 ++ []
theorem dksX0_welfareByRobin_0 : cX0_welfareByRobin.data.toList.drop 0 = dktX0_welfareByRobin_0 := by decide +kernel
theorem dX0_welfareByRobin_0 : decode cX0_welfareByRobin 0 = .ok (.aload_n 3, 1) := dk_45 (dk_at dksX0_welfareByRobin_0 0 rfl rfl)
theorem dX0_welfareByRobin_1 : decode cX0_welfareByRobin 1 = .ok (.iconst 0, 1) := dk_3 (dk_at dksX0_welfareByRobin_0 1 rfl rfl)
theorem dX0_welfareByRobin_2 : decode cX0_welfareByRobin 2 = .ok (.aload_n 0, 1) := dk_42 (dk_at dksX0_welfareByRobin_0 2 rfl rfl)
theorem dX0_welfareByRobin_3 : decode cX0_welfareByRobin 3 = .ok (.iload_n 1, 1) := dk_27 (dk_at dksX0_welfareByRobin_0 3 rfl rfl)
theorem dX0_welfareByRobin_4 : decode cX0_welfareByRobin 4 = .ok (.iload_n 2, 1) := dk_28 (dk_at dksX0_welfareByRobin_0 4 rfl rfl)
theorem dX0_welfareByRobin_5 : decode cX0_welfareByRobin 5 = .ok (.invokevirtual 94, 3) := dk_182 0 94 (dk_at dksX0_welfareByRobin_0 5 rfl rfl)
theorem dX0_welfareByRobin_8 : decode cX0_welfareByRobin 8 = .ok (.i2l, 1) := dk_133 (dk_at dksX0_welfareByRobin_0 8 rfl rfl)
theorem dX0_welfareByRobin_9 : decode cX0_welfareByRobin 9 = .ok (.lastore, 1) := dk_80 (dk_at dksX0_welfareByRobin_0 9 rfl rfl)
theorem dX0_welfareByRobin_10 : decode cX0_welfareByRobin 10 = .ok (.goto 7, 3) := dk_167 0 7 (dk_at dksX0_welfareByRobin_0 10 rfl rfl)
theorem dX0_welfareByRobin_13 : decode cX0_welfareByRobin 13 = .ok (.astore 4, 2) := dk_58 4 (dk_at dksX0_welfareByRobin_0 13 rfl rfl)
theorem dX0_welfareByRobin_15 : decode cX0_welfareByRobin 15 = .ok (.iconst 1, 1) := dk_4 (dk_at dksX0_welfareByRobin_0 15 rfl rfl)
theorem dX0_welfareByRobin_16 : decode cX0_welfareByRobin 16 = .ok (.ireturn, 1) := dk_172 (dk_at dksX0_welfareByRobin_0 16 rfl rfl)
theorem dX0_welfareByRobin_17 : decode cX0_welfareByRobin 17 = .ok (.iconst 0, 1) := dk_3 (dk_at dksX0_welfareByRobin_0 17 rfl rfl)
theorem dX0_welfareByRobin_18 : decode cX0_welfareByRobin 18 = .ok (.ireturn, 1) := dk_172 (dk_at dksX0_welfareByRobin_0 18 rfl rfl)
abbrev cX0_give : ByteArray := method_27_code
def yX0_give : MethodName := ⟨RX0, "give", "(LCakeDivision;III[J)I"⟩
def dkwX0_give_1 : List UInt8 := [172]
abbrev dktX0_give_1 : List UInt8 := dkwX0_give_1 ++ []
def dkwX0_give_0 : List UInt8 := [25, 4, 3, 42, 27, 28, 29, 182, 0, 97, 133, 80, 167, 0, 11, 58, 5, 4, 172, 58, 5, 5, 172, 3]
abbrev dktX0_give_0 : List UInt8 := dkwX0_give_0 ++ dktX0_give_1
theorem dksX0_give_0 : cX0_give.data.toList.drop 0 = dktX0_give_0 := by decide +kernel
theorem dksX0_give_1 : cX0_give.data.toList.drop 24 = dktX0_give_1 := dk_seg dksX0_give_0 24 rfl rfl
theorem dX0_give_0 : decode cX0_give 0 = .ok (.aload 4, 2) := dk_25 4 (dk_at dksX0_give_0 0 rfl rfl)
theorem dX0_give_2 : decode cX0_give 2 = .ok (.iconst 0, 1) := dk_3 (dk_at dksX0_give_0 2 rfl rfl)
theorem dX0_give_3 : decode cX0_give 3 = .ok (.aload_n 0, 1) := dk_42 (dk_at dksX0_give_0 3 rfl rfl)
theorem dX0_give_4 : decode cX0_give 4 = .ok (.iload_n 1, 1) := dk_27 (dk_at dksX0_give_0 4 rfl rfl)
theorem dX0_give_5 : decode cX0_give 5 = .ok (.iload_n 2, 1) := dk_28 (dk_at dksX0_give_0 5 rfl rfl)
theorem dX0_give_6 : decode cX0_give 6 = .ok (.iload_n 3, 1) := dk_29 (dk_at dksX0_give_0 6 rfl rfl)
theorem dX0_give_7 : decode cX0_give 7 = .ok (.invokevirtual 97, 3) := dk_182 0 97 (dk_at dksX0_give_0 7 rfl rfl)
theorem dX0_give_10 : decode cX0_give 10 = .ok (.i2l, 1) := dk_133 (dk_at dksX0_give_0 10 rfl rfl)
theorem dX0_give_11 : decode cX0_give 11 = .ok (.lastore, 1) := dk_80 (dk_at dksX0_give_0 11 rfl rfl)
theorem dX0_give_12 : decode cX0_give 12 = .ok (.goto 11, 3) := dk_167 0 11 (dk_at dksX0_give_0 12 rfl rfl)
theorem dX0_give_15 : decode cX0_give 15 = .ok (.astore 5, 2) := dk_58 5 (dk_at dksX0_give_0 15 rfl rfl)
theorem dX0_give_17 : decode cX0_give 17 = .ok (.iconst 1, 1) := dk_4 (dk_at dksX0_give_0 17 rfl rfl)
theorem dX0_give_18 : decode cX0_give 18 = .ok (.ireturn, 1) := dk_172 (dk_at dksX0_give_0 18 rfl rfl)
theorem dX0_give_19 : decode cX0_give 19 = .ok (.astore 5, 2) := dk_58 5 (dk_at dksX0_give_0 19 rfl rfl)
theorem dX0_give_21 : decode cX0_give 21 = .ok (.iconst 2, 1) := dk_5 (dk_at dksX0_give_0 21 rfl rfl)
theorem dX0_give_22 : decode cX0_give 22 = .ok (.ireturn, 1) := dk_172 (dk_at dksX0_give_0 22 rfl rfl)
theorem dX0_give_23 : decode cX0_give 23 = .ok (.iconst 0, 1) := dk_3 (dk_at dksX0_give_0 23 rfl rfl)
theorem dX0_give_24 : decode cX0_give 24 = .ok (.ireturn, 1) := dk_172 (dk_at dksX0_give_1 0 rfl rfl)
abbrev cX0_release : ByteArray := method_28_code
def yX0_release : MethodName := ⟨RX0, "release", "(LCakeDivision;II[J)I"⟩
def dkwX0_release_0 : List UInt8 := [45, 3, 42, 27, 28, 182, 0, 100, 133, 80, 167, 0, 7, 58, 4, 4, 172, 3, 172]
abbrev dktX0_release_0 : List UInt8 := dkwX0_release_0 ++ []
theorem dksX0_release_0 : cX0_release.data.toList.drop 0 = dktX0_release_0 := by decide +kernel
theorem dX0_release_0 : decode cX0_release 0 = .ok (.aload_n 3, 1) := dk_45 (dk_at dksX0_release_0 0 rfl rfl)
theorem dX0_release_1 : decode cX0_release 1 = .ok (.iconst 0, 1) := dk_3 (dk_at dksX0_release_0 1 rfl rfl)
theorem dX0_release_2 : decode cX0_release 2 = .ok (.aload_n 0, 1) := dk_42 (dk_at dksX0_release_0 2 rfl rfl)
theorem dX0_release_3 : decode cX0_release 3 = .ok (.iload_n 1, 1) := dk_27 (dk_at dksX0_release_0 3 rfl rfl)
theorem dX0_release_4 : decode cX0_release 4 = .ok (.iload_n 2, 1) := dk_28 (dk_at dksX0_release_0 4 rfl rfl)
theorem dX0_release_5 : decode cX0_release 5 = .ok (.invokevirtual 100, 3) := dk_182 0 100 (dk_at dksX0_release_0 5 rfl rfl)
theorem dX0_release_8 : decode cX0_release 8 = .ok (.i2l, 1) := dk_133 (dk_at dksX0_release_0 8 rfl rfl)
theorem dX0_release_9 : decode cX0_release 9 = .ok (.lastore, 1) := dk_80 (dk_at dksX0_release_0 9 rfl rfl)
theorem dX0_release_10 : decode cX0_release 10 = .ok (.goto 7, 3) := dk_167 0 7 (dk_at dksX0_release_0 10 rfl rfl)
theorem dX0_release_13 : decode cX0_release 13 = .ok (.astore 4, 2) := dk_58 4 (dk_at dksX0_release_0 13 rfl rfl)
theorem dX0_release_15 : decode cX0_release 15 = .ok (.iconst 1, 1) := dk_4 (dk_at dksX0_release_0 15 rfl rfl)
theorem dX0_release_16 : decode cX0_release 16 = .ok (.ireturn, 1) := dk_172 (dk_at dksX0_release_0 16 rfl rfl)
theorem dX0_release_17 : decode cX0_release 17 = .ok (.iconst 0, 1) := dk_3 (dk_at dksX0_release_0 17 rfl rfl)
theorem dX0_release_18 : decode cX0_release 18 = .ok (.ireturn, 1) := dk_172 (dk_at dksX0_release_0 18 rfl rfl)
abbrev cX0_swapShares : ByteArray := method_29_code
def yX0_swapShares : MethodName := ⟨RX0, "swapShares", "(LCakeDivision;II[J)I"⟩
def dkwX0_swapShares_0 : List UInt8 := [45, 3, 42, 27, 28, 182, 0, 103, 133, 80, 167, 0, 11, 58, 4, 4, 172, 58, 4, 5, 172, 3, 172]
abbrev dktX0_swapShares_0 : List UInt8 := dkwX0_swapShares_0 ++ []
theorem dksX0_swapShares_0 : cX0_swapShares.data.toList.drop 0 = dktX0_swapShares_0 := by decide +kernel
theorem dX0_swapShares_0 : decode cX0_swapShares 0 = .ok (.aload_n 3, 1) := dk_45 (dk_at dksX0_swapShares_0 0 rfl rfl)
theorem dX0_swapShares_1 : decode cX0_swapShares 1 = .ok (.iconst 0, 1) := dk_3 (dk_at dksX0_swapShares_0 1 rfl rfl)
theorem dX0_swapShares_2 : decode cX0_swapShares 2 = .ok (.aload_n 0, 1) := dk_42 (dk_at dksX0_swapShares_0 2 rfl rfl)
theorem dX0_swapShares_3 : decode cX0_swapShares 3 = .ok (.iload_n 1, 1) := dk_27 (dk_at dksX0_swapShares_0 3 rfl rfl)
theorem dX0_swapShares_4 : decode cX0_swapShares 4 = .ok (.iload_n 2, 1) := dk_28 (dk_at dksX0_swapShares_0 4 rfl rfl)
theorem dX0_swapShares_5 : decode cX0_swapShares 5 = .ok (.invokevirtual 103, 3) := dk_182 0 103 (dk_at dksX0_swapShares_0 5 rfl rfl)
theorem dX0_swapShares_8 : decode cX0_swapShares 8 = .ok (.i2l, 1) := dk_133 (dk_at dksX0_swapShares_0 8 rfl rfl)
theorem dX0_swapShares_9 : decode cX0_swapShares 9 = .ok (.lastore, 1) := dk_80 (dk_at dksX0_swapShares_0 9 rfl rfl)
theorem dX0_swapShares_10 : decode cX0_swapShares 10 = .ok (.goto 11, 3) := dk_167 0 11 (dk_at dksX0_swapShares_0 10 rfl rfl)
theorem dX0_swapShares_13 : decode cX0_swapShares 13 = .ok (.astore 4, 2) := dk_58 4 (dk_at dksX0_swapShares_0 13 rfl rfl)
theorem dX0_swapShares_15 : decode cX0_swapShares 15 = .ok (.iconst 1, 1) := dk_4 (dk_at dksX0_swapShares_0 15 rfl rfl)
theorem dX0_swapShares_16 : decode cX0_swapShares 16 = .ok (.ireturn, 1) := dk_172 (dk_at dksX0_swapShares_0 16 rfl rfl)
theorem dX0_swapShares_17 : decode cX0_swapShares 17 = .ok (.astore 4, 2) := dk_58 4 (dk_at dksX0_swapShares_0 17 rfl rfl)
theorem dX0_swapShares_19 : decode cX0_swapShares 19 = .ok (.iconst 2, 1) := dk_5 (dk_at dksX0_swapShares_0 19 rfl rfl)
theorem dX0_swapShares_20 : decode cX0_swapShares 20 = .ok (.ireturn, 1) := dk_172 (dk_at dksX0_swapShares_0 20 rfl rfl)
theorem dX0_swapShares_21 : decode cX0_swapShares 21 = .ok (.iconst 0, 1) := dk_3 (dk_at dksX0_swapShares_0 21 rfl rfl)
theorem dX0_swapShares_22 : decode cX0_swapShares 22 = .ok (.ireturn, 1) := dk_172 (dk_at dksX0_swapShares_0 22 rfl rfl)
abbrev cX0_setValue : ByteArray := method_30_code
def yX0_setValue : MethodName := ⟨RX0, "setValue", "(LCakeDivision;III[J)I"⟩
def dkwX0_setValue_1 : List UInt8 := [172]
abbrev dktX0_setValue_1 : List UInt8 := dkwX0_setValue_1 ++ []
def dkwX0_setValue_0 : List UInt8 := [25, 4, 3, 42, 27, 28, 29, 182, 0, 106, 133, 80, 167, 0, 11, 58, 5, 4, 172, 58, 5, 5, 172, 3]
abbrev dktX0_setValue_0 : List UInt8 := dkwX0_setValue_0 ++ dktX0_setValue_1
theorem dksX0_setValue_0 : cX0_setValue.data.toList.drop 0 = dktX0_setValue_0 := by decide +kernel
theorem dksX0_setValue_1 : cX0_setValue.data.toList.drop 24 = dktX0_setValue_1 := dk_seg dksX0_setValue_0 24 rfl rfl
theorem dX0_setValue_0 : decode cX0_setValue 0 = .ok (.aload 4, 2) := dk_25 4 (dk_at dksX0_setValue_0 0 rfl rfl)
theorem dX0_setValue_2 : decode cX0_setValue 2 = .ok (.iconst 0, 1) := dk_3 (dk_at dksX0_setValue_0 2 rfl rfl)
theorem dX0_setValue_3 : decode cX0_setValue 3 = .ok (.aload_n 0, 1) := dk_42 (dk_at dksX0_setValue_0 3 rfl rfl)
theorem dX0_setValue_4 : decode cX0_setValue 4 = .ok (.iload_n 1, 1) := dk_27 (dk_at dksX0_setValue_0 4 rfl rfl)
theorem dX0_setValue_5 : decode cX0_setValue 5 = .ok (.iload_n 2, 1) := dk_28 (dk_at dksX0_setValue_0 5 rfl rfl)
theorem dX0_setValue_6 : decode cX0_setValue 6 = .ok (.iload_n 3, 1) := dk_29 (dk_at dksX0_setValue_0 6 rfl rfl)
theorem dX0_setValue_7 : decode cX0_setValue 7 = .ok (.invokevirtual 106, 3) := dk_182 0 106 (dk_at dksX0_setValue_0 7 rfl rfl)
theorem dX0_setValue_10 : decode cX0_setValue 10 = .ok (.i2l, 1) := dk_133 (dk_at dksX0_setValue_0 10 rfl rfl)
theorem dX0_setValue_11 : decode cX0_setValue 11 = .ok (.lastore, 1) := dk_80 (dk_at dksX0_setValue_0 11 rfl rfl)
theorem dX0_setValue_12 : decode cX0_setValue 12 = .ok (.goto 11, 3) := dk_167 0 11 (dk_at dksX0_setValue_0 12 rfl rfl)
theorem dX0_setValue_15 : decode cX0_setValue 15 = .ok (.astore 5, 2) := dk_58 5 (dk_at dksX0_setValue_0 15 rfl rfl)
theorem dX0_setValue_17 : decode cX0_setValue 17 = .ok (.iconst 1, 1) := dk_4 (dk_at dksX0_setValue_0 17 rfl rfl)
theorem dX0_setValue_18 : decode cX0_setValue 18 = .ok (.ireturn, 1) := dk_172 (dk_at dksX0_setValue_0 18 rfl rfl)
theorem dX0_setValue_19 : decode cX0_setValue 19 = .ok (.astore 5, 2) := dk_58 5 (dk_at dksX0_setValue_0 19 rfl rfl)
theorem dX0_setValue_21 : decode cX0_setValue 21 = .ok (.iconst 2, 1) := dk_5 (dk_at dksX0_setValue_0 21 rfl rfl)
theorem dX0_setValue_22 : decode cX0_setValue 22 = .ok (.ireturn, 1) := dk_172 (dk_at dksX0_setValue_0 22 rfl rfl)
theorem dX0_setValue_23 : decode cX0_setValue 23 = .ok (.iconst 0, 1) := dk_3 (dk_at dksX0_setValue_0 23 rfl rfl)
theorem dX0_setValue_24 : decode cX0_setValue 24 = .ok (.ireturn, 1) := dk_172 (dk_at dksX0_setValue_1 0 rfl rfl)
abbrev cX0_divideAndChoose : ByteArray := method_31_code
def yX0_divideAndChoose : MethodName := ⟨RX0, "divideAndChoose", "(LCakeDivision;II[J)I"⟩
def dkwX0_divideAndChoose_0 : List UInt8 := [45, 3, 42, 27, 28, 182, 0, 109, 133, 80, 167, 0, 11, 58, 4, 4, 172, 58, 4, 5, 172, 3, 172]
abbrev dktX0_divideAndChoose_0 : List UInt8 := dkwX0_divideAndChoose_0 ++ []
theorem dksX0_divideAndChoose_0 : cX0_divideAndChoose.data.toList.drop 0 = dktX0_divideAndChoose_0 := by decide +kernel
theorem dX0_divideAndChoose_0 : decode cX0_divideAndChoose 0 = .ok (.aload_n 3, 1) := dk_45 (dk_at dksX0_divideAndChoose_0 0 rfl rfl)
theorem dX0_divideAndChoose_1 : decode cX0_divideAndChoose 1 = .ok (.iconst 0, 1) := dk_3 (dk_at dksX0_divideAndChoose_0 1 rfl rfl)
theorem dX0_divideAndChoose_2 : decode cX0_divideAndChoose 2 = .ok (.aload_n 0, 1) := dk_42 (dk_at dksX0_divideAndChoose_0 2 rfl rfl)
theorem dX0_divideAndChoose_3 : decode cX0_divideAndChoose 3 = .ok (.iload_n 1, 1) := dk_27 (dk_at dksX0_divideAndChoose_0 3 rfl rfl)
theorem dX0_divideAndChoose_4 : decode cX0_divideAndChoose 4 = .ok (.iload_n 2, 1) := dk_28 (dk_at dksX0_divideAndChoose_0 4 rfl rfl)
theorem dX0_divideAndChoose_5 : decode cX0_divideAndChoose 5 = .ok (.invokevirtual 109, 3) := dk_182 0 109 (dk_at dksX0_divideAndChoose_0 5 rfl rfl)
theorem dX0_divideAndChoose_8 : decode cX0_divideAndChoose 8 = .ok (.i2l, 1) := dk_133 (dk_at dksX0_divideAndChoose_0 8 rfl rfl)
theorem dX0_divideAndChoose_9 : decode cX0_divideAndChoose 9 = .ok (.lastore, 1) := dk_80 (dk_at dksX0_divideAndChoose_0 9 rfl rfl)
theorem dX0_divideAndChoose_10 : decode cX0_divideAndChoose 10 = .ok (.goto 11, 3) := dk_167 0 11 (dk_at dksX0_divideAndChoose_0 10 rfl rfl)
theorem dX0_divideAndChoose_13 : decode cX0_divideAndChoose 13 = .ok (.astore 4, 2) := dk_58 4 (dk_at dksX0_divideAndChoose_0 13 rfl rfl)
theorem dX0_divideAndChoose_15 : decode cX0_divideAndChoose 15 = .ok (.iconst 1, 1) := dk_4 (dk_at dksX0_divideAndChoose_0 15 rfl rfl)
theorem dX0_divideAndChoose_16 : decode cX0_divideAndChoose 16 = .ok (.ireturn, 1) := dk_172 (dk_at dksX0_divideAndChoose_0 16 rfl rfl)
theorem dX0_divideAndChoose_17 : decode cX0_divideAndChoose 17 = .ok (.astore 4, 2) := dk_58 4 (dk_at dksX0_divideAndChoose_0 17 rfl rfl)
theorem dX0_divideAndChoose_19 : decode cX0_divideAndChoose 19 = .ok (.iconst 2, 1) := dk_5 (dk_at dksX0_divideAndChoose_0 19 rfl rfl)
theorem dX0_divideAndChoose_20 : decode cX0_divideAndChoose 20 = .ok (.ireturn, 1) := dk_172 (dk_at dksX0_divideAndChoose_0 20 rfl rfl)
theorem dX0_divideAndChoose_21 : decode cX0_divideAndChoose 21 = .ok (.iconst 0, 1) := dk_3 (dk_at dksX0_divideAndChoose_0 21 rfl rfl)
theorem dX0_divideAndChoose_22 : decode cX0_divideAndChoose 22 = .ok (.ireturn, 1) := dk_172 (dk_at dksX0_divideAndChoose_0 22 rfl rfl)
abbrev cX0_roundRobin : ByteArray := method_32_code
def yX0_roundRobin : MethodName := ⟨RX0, "roundRobin", "(LCakeDivision;I[J)I"⟩
def dkwX0_roundRobin_0 : List UInt8 := [44, 3, 42, 27, 182, 0, 112, 133, 80, 167, 0, 6, 78, 4, 172, 3, 172]
abbrev dktX0_roundRobin_0 : List UInt8 := dkwX0_roundRobin_0 ++ []
theorem dksX0_roundRobin_0 : cX0_roundRobin.data.toList.drop 0 = dktX0_roundRobin_0 := by decide +kernel
theorem dX0_roundRobin_0 : decode cX0_roundRobin 0 = .ok (.aload_n 2, 1) := dk_44 (dk_at dksX0_roundRobin_0 0 rfl rfl)
theorem dX0_roundRobin_1 : decode cX0_roundRobin 1 = .ok (.iconst 0, 1) := dk_3 (dk_at dksX0_roundRobin_0 1 rfl rfl)
theorem dX0_roundRobin_2 : decode cX0_roundRobin 2 = .ok (.aload_n 0, 1) := dk_42 (dk_at dksX0_roundRobin_0 2 rfl rfl)
theorem dX0_roundRobin_3 : decode cX0_roundRobin 3 = .ok (.iload_n 1, 1) := dk_27 (dk_at dksX0_roundRobin_0 3 rfl rfl)
theorem dX0_roundRobin_4 : decode cX0_roundRobin 4 = .ok (.invokevirtual 112, 3) := dk_182 0 112 (dk_at dksX0_roundRobin_0 4 rfl rfl)
theorem dX0_roundRobin_7 : decode cX0_roundRobin 7 = .ok (.i2l, 1) := dk_133 (dk_at dksX0_roundRobin_0 7 rfl rfl)
theorem dX0_roundRobin_8 : decode cX0_roundRobin 8 = .ok (.lastore, 1) := dk_80 (dk_at dksX0_roundRobin_0 8 rfl rfl)
theorem dX0_roundRobin_9 : decode cX0_roundRobin 9 = .ok (.goto 6, 3) := dk_167 0 6 (dk_at dksX0_roundRobin_0 9 rfl rfl)
theorem dX0_roundRobin_12 : decode cX0_roundRobin 12 = .ok (.astore_n 3, 1) := dk_78 (dk_at dksX0_roundRobin_0 12 rfl rfl)
theorem dX0_roundRobin_13 : decode cX0_roundRobin 13 = .ok (.iconst 1, 1) := dk_4 (dk_at dksX0_roundRobin_0 13 rfl rfl)
theorem dX0_roundRobin_14 : decode cX0_roundRobin 14 = .ok (.ireturn, 1) := dk_172 (dk_at dksX0_roundRobin_0 14 rfl rfl)
theorem dX0_roundRobin_15 : decode cX0_roundRobin 15 = .ok (.iconst 0, 1) := dk_3 (dk_at dksX0_roundRobin_0 15 rfl rfl)
theorem dX0_roundRobin_16 : decode cX0_roundRobin 16 = .ok (.ireturn, 1) := dk_172 (dk_at dksX0_roundRobin_0 16 rfl rfl)
abbrev cX0_rotate : ByteArray := method_33_code
def yX0_rotate : MethodName := ⟨RX0, "rotate", "(LCakeDivision;I[J)I"⟩
def dkwX0_rotate_0 : List UInt8 := [44, 3, 42, 27, 182, 0, 115, 133, 80, 167, 0, 9, 78, 4, 172, 78, 5, 172, 3, 172]
abbrev dktX0_rotate_0 : List UInt8 := dkwX0_rotate_0 ++ []
theorem dksX0_rotate_0 : cX0_rotate.data.toList.drop 0 = dktX0_rotate_0 := by decide +kernel
theorem dX0_rotate_0 : decode cX0_rotate 0 = .ok (.aload_n 2, 1) := dk_44 (dk_at dksX0_rotate_0 0 rfl rfl)
theorem dX0_rotate_1 : decode cX0_rotate 1 = .ok (.iconst 0, 1) := dk_3 (dk_at dksX0_rotate_0 1 rfl rfl)
theorem dX0_rotate_2 : decode cX0_rotate 2 = .ok (.aload_n 0, 1) := dk_42 (dk_at dksX0_rotate_0 2 rfl rfl)
theorem dX0_rotate_3 : decode cX0_rotate 3 = .ok (.iload_n 1, 1) := dk_27 (dk_at dksX0_rotate_0 3 rfl rfl)
theorem dX0_rotate_4 : decode cX0_rotate 4 = .ok (.invokevirtual 115, 3) := dk_182 0 115 (dk_at dksX0_rotate_0 4 rfl rfl)
theorem dX0_rotate_7 : decode cX0_rotate 7 = .ok (.i2l, 1) := dk_133 (dk_at dksX0_rotate_0 7 rfl rfl)
theorem dX0_rotate_8 : decode cX0_rotate 8 = .ok (.lastore, 1) := dk_80 (dk_at dksX0_rotate_0 8 rfl rfl)
theorem dX0_rotate_9 : decode cX0_rotate 9 = .ok (.goto 9, 3) := dk_167 0 9 (dk_at dksX0_rotate_0 9 rfl rfl)
theorem dX0_rotate_12 : decode cX0_rotate 12 = .ok (.astore_n 3, 1) := dk_78 (dk_at dksX0_rotate_0 12 rfl rfl)
theorem dX0_rotate_13 : decode cX0_rotate 13 = .ok (.iconst 1, 1) := dk_4 (dk_at dksX0_rotate_0 13 rfl rfl)
theorem dX0_rotate_14 : decode cX0_rotate 14 = .ok (.ireturn, 1) := dk_172 (dk_at dksX0_rotate_0 14 rfl rfl)
theorem dX0_rotate_15 : decode cX0_rotate 15 = .ok (.astore_n 3, 1) := dk_78 (dk_at dksX0_rotate_0 15 rfl rfl)
theorem dX0_rotate_16 : decode cX0_rotate 16 = .ok (.iconst 2, 1) := dk_5 (dk_at dksX0_rotate_0 16 rfl rfl)
theorem dX0_rotate_17 : decode cX0_rotate 17 = .ok (.ireturn, 1) := dk_172 (dk_at dksX0_rotate_0 17 rfl rfl)
theorem dX0_rotate_18 : decode cX0_rotate 18 = .ok (.iconst 0, 1) := dk_3 (dk_at dksX0_rotate_0 18 rfl rfl)
theorem dX0_rotate_19 : decode cX0_rotate 19 = .ok (.ireturn, 1) := dk_172 (dk_at dksX0_rotate_0 19 rfl rfl)
abbrev cX0_runScript : ByteArray := method_34_code
def yX0_runScript : MethodName := ⟨RX0, "runScript", "(LCakeDivision;[J)I"⟩
def dkwX0_runScript_0 : List UInt8 := [43, 3, 42, 182, 0, 118, 133, 80, 167, 0, 6, 77, 4, 172, 3, 172]
abbrev dktX0_runScript_0 : List UInt8 := dkwX0_runScript_0 ++ []
theorem dksX0_runScript_0 : cX0_runScript.data.toList.drop 0 = dktX0_runScript_0 := by decide +kernel
theorem dX0_runScript_0 : decode cX0_runScript 0 = .ok (.aload_n 1, 1) := dk_43 (dk_at dksX0_runScript_0 0 rfl rfl)
theorem dX0_runScript_1 : decode cX0_runScript 1 = .ok (.iconst 0, 1) := dk_3 (dk_at dksX0_runScript_0 1 rfl rfl)
theorem dX0_runScript_2 : decode cX0_runScript 2 = .ok (.aload_n 0, 1) := dk_42 (dk_at dksX0_runScript_0 2 rfl rfl)
theorem dX0_runScript_3 : decode cX0_runScript 3 = .ok (.invokevirtual 118, 3) := dk_182 0 118 (dk_at dksX0_runScript_0 3 rfl rfl)
theorem dX0_runScript_6 : decode cX0_runScript 6 = .ok (.i2l, 1) := dk_133 (dk_at dksX0_runScript_0 6 rfl rfl)
theorem dX0_runScript_7 : decode cX0_runScript 7 = .ok (.lastore, 1) := dk_80 (dk_at dksX0_runScript_0 7 rfl rfl)
theorem dX0_runScript_8 : decode cX0_runScript 8 = .ok (.goto 6, 3) := dk_167 0 6 (dk_at dksX0_runScript_0 8 rfl rfl)
theorem dX0_runScript_11 : decode cX0_runScript 11 = .ok (.astore_n 2, 1) := dk_77 (dk_at dksX0_runScript_0 11 rfl rfl)
theorem dX0_runScript_12 : decode cX0_runScript 12 = .ok (.iconst 1, 1) := dk_4 (dk_at dksX0_runScript_0 12 rfl rfl)
theorem dX0_runScript_13 : decode cX0_runScript 13 = .ok (.ireturn, 1) := dk_172 (dk_at dksX0_runScript_0 13 rfl rfl)
theorem dX0_runScript_14 : decode cX0_runScript 14 = .ok (.iconst 0, 1) := dk_3 (dk_at dksX0_runScript_0 14 rfl rfl)
theorem dX0_runScript_15 : decode cX0_runScript 15 = .ok (.ireturn, 1) := dk_172 (dk_at dksX0_runScript_0 15 rfl rfl)
abbrev cX0_undo : ByteArray := method_35_code
def yX0_undo : MethodName := ⟨RX0, "undo", "(LCakeDivision;[J)I"⟩
def dkwX0_undo_0 : List UInt8 := [43, 3, 42, 182, 0, 121, 133, 80, 167, 0, 6, 77, 4, 172, 3, 172]
abbrev dktX0_undo_0 : List UInt8 := dkwX0_undo_0 ++ []
theorem dksX0_undo_0 : cX0_undo.data.toList.drop 0 = dktX0_undo_0 := by decide +kernel
theorem dX0_undo_0 : decode cX0_undo 0 = .ok (.aload_n 1, 1) := dk_43 (dk_at dksX0_undo_0 0 rfl rfl)
theorem dX0_undo_1 : decode cX0_undo 1 = .ok (.iconst 0, 1) := dk_3 (dk_at dksX0_undo_0 1 rfl rfl)
theorem dX0_undo_2 : decode cX0_undo 2 = .ok (.aload_n 0, 1) := dk_42 (dk_at dksX0_undo_0 2 rfl rfl)
theorem dX0_undo_3 : decode cX0_undo 3 = .ok (.invokevirtual 121, 3) := dk_182 0 121 (dk_at dksX0_undo_0 3 rfl rfl)
theorem dX0_undo_6 : decode cX0_undo 6 = .ok (.i2l, 1) := dk_133 (dk_at dksX0_undo_0 6 rfl rfl)
theorem dX0_undo_7 : decode cX0_undo 7 = .ok (.lastore, 1) := dk_80 (dk_at dksX0_undo_0 7 rfl rfl)
theorem dX0_undo_8 : decode cX0_undo 8 = .ok (.goto 6, 3) := dk_167 0 6 (dk_at dksX0_undo_0 8 rfl rfl)
theorem dX0_undo_11 : decode cX0_undo 11 = .ok (.astore_n 2, 1) := dk_77 (dk_at dksX0_undo_0 11 rfl rfl)
theorem dX0_undo_12 : decode cX0_undo 12 = .ok (.iconst 1, 1) := dk_4 (dk_at dksX0_undo_0 12 rfl rfl)
theorem dX0_undo_13 : decode cX0_undo 13 = .ok (.ireturn, 1) := dk_172 (dk_at dksX0_undo_0 13 rfl rfl)
theorem dX0_undo_14 : decode cX0_undo 14 = .ok (.iconst 0, 1) := dk_3 (dk_at dksX0_undo_0 14 rfl rfl)
theorem dX0_undo_15 : decode cX0_undo 15 = .ok (.ireturn, 1) := dk_172 (dk_at dksX0_undo_0 15 rfl rfl)
abbrev cX0_save : ByteArray := method_36_code
def yX0_save : MethodName := ⟨RX0, "save", "(LCakeDivision;I[J)I"⟩
def dkwX0_save_0 : List UInt8 := [44, 3, 42, 27, 182, 0, 124, 133, 80, 167, 0, 6, 78, 4, 172, 3, 172]
abbrev dktX0_save_0 : List UInt8 := dkwX0_save_0 ++ []
theorem dksX0_save_0 : cX0_save.data.toList.drop 0 = dktX0_save_0 := by decide +kernel
theorem dX0_save_0 : decode cX0_save 0 = .ok (.aload_n 2, 1) := dk_44 (dk_at dksX0_save_0 0 rfl rfl)
theorem dX0_save_1 : decode cX0_save 1 = .ok (.iconst 0, 1) := dk_3 (dk_at dksX0_save_0 1 rfl rfl)
theorem dX0_save_2 : decode cX0_save 2 = .ok (.aload_n 0, 1) := dk_42 (dk_at dksX0_save_0 2 rfl rfl)
theorem dX0_save_3 : decode cX0_save 3 = .ok (.iload_n 1, 1) := dk_27 (dk_at dksX0_save_0 3 rfl rfl)
theorem dX0_save_4 : decode cX0_save 4 = .ok (.invokevirtual 124, 3) := dk_182 0 124 (dk_at dksX0_save_0 4 rfl rfl)
theorem dX0_save_7 : decode cX0_save 7 = .ok (.i2l, 1) := dk_133 (dk_at dksX0_save_0 7 rfl rfl)
theorem dX0_save_8 : decode cX0_save 8 = .ok (.lastore, 1) := dk_80 (dk_at dksX0_save_0 8 rfl rfl)
theorem dX0_save_9 : decode cX0_save 9 = .ok (.goto 6, 3) := dk_167 0 6 (dk_at dksX0_save_0 9 rfl rfl)
theorem dX0_save_12 : decode cX0_save 12 = .ok (.astore_n 3, 1) := dk_78 (dk_at dksX0_save_0 12 rfl rfl)
theorem dX0_save_13 : decode cX0_save 13 = .ok (.iconst 1, 1) := dk_4 (dk_at dksX0_save_0 13 rfl rfl)
theorem dX0_save_14 : decode cX0_save 14 = .ok (.ireturn, 1) := dk_172 (dk_at dksX0_save_0 14 rfl rfl)
theorem dX0_save_15 : decode cX0_save 15 = .ok (.iconst 0, 1) := dk_3 (dk_at dksX0_save_0 15 rfl rfl)
theorem dX0_save_16 : decode cX0_save 16 = .ok (.ireturn, 1) := dk_172 (dk_at dksX0_save_0 16 rfl rfl)
abbrev cX0_restore : ByteArray := method_37_code
def yX0_restore : MethodName := ⟨RX0, "restore", "(LCakeDivision;I[J)I"⟩
def dkwX0_restore_0 : List UInt8 := [44, 3, 42, 27, 182, 0, 127, 133, 80, 167, 0, 9, 78, 4, 172, 78, 5, 172, 3, 172]
abbrev dktX0_restore_0 : List UInt8 := dkwX0_restore_0 ++ []
theorem dksX0_restore_0 : cX0_restore.data.toList.drop 0 = dktX0_restore_0 := by decide +kernel
theorem dX0_restore_0 : decode cX0_restore 0 = .ok (.aload_n 2, 1) := dk_44 (dk_at dksX0_restore_0 0 rfl rfl)
theorem dX0_restore_1 : decode cX0_restore 1 = .ok (.iconst 0, 1) := dk_3 (dk_at dksX0_restore_0 1 rfl rfl)
theorem dX0_restore_2 : decode cX0_restore 2 = .ok (.aload_n 0, 1) := dk_42 (dk_at dksX0_restore_0 2 rfl rfl)
theorem dX0_restore_3 : decode cX0_restore 3 = .ok (.iload_n 1, 1) := dk_27 (dk_at dksX0_restore_0 3 rfl rfl)
theorem dX0_restore_4 : decode cX0_restore 4 = .ok (.invokevirtual 127, 3) := dk_182 0 127 (dk_at dksX0_restore_0 4 rfl rfl)
theorem dX0_restore_7 : decode cX0_restore 7 = .ok (.i2l, 1) := dk_133 (dk_at dksX0_restore_0 7 rfl rfl)
theorem dX0_restore_8 : decode cX0_restore 8 = .ok (.lastore, 1) := dk_80 (dk_at dksX0_restore_0 8 rfl rfl)
theorem dX0_restore_9 : decode cX0_restore 9 = .ok (.goto 9, 3) := dk_167 0 9 (dk_at dksX0_restore_0 9 rfl rfl)
theorem dX0_restore_12 : decode cX0_restore 12 = .ok (.astore_n 3, 1) := dk_78 (dk_at dksX0_restore_0 12 rfl rfl)
theorem dX0_restore_13 : decode cX0_restore 13 = .ok (.iconst 1, 1) := dk_4 (dk_at dksX0_restore_0 13 rfl rfl)
theorem dX0_restore_14 : decode cX0_restore 14 = .ok (.ireturn, 1) := dk_172 (dk_at dksX0_restore_0 14 rfl rfl)
theorem dX0_restore_15 : decode cX0_restore 15 = .ok (.astore_n 3, 1) := dk_78 (dk_at dksX0_restore_0 15 rfl rfl)
theorem dX0_restore_16 : decode cX0_restore 16 = .ok (.iconst 2, 1) := dk_5 (dk_at dksX0_restore_0 16 rfl rfl)
theorem dX0_restore_17 : decode cX0_restore 17 = .ok (.ireturn, 1) := dk_172 (dk_at dksX0_restore_0 17 rfl rfl)
theorem dX0_restore_18 : decode cX0_restore 18 = .ok (.iconst 0, 1) := dk_3 (dk_at dksX0_restore_0 18 rfl rfl)
theorem dX0_restore_19 : decode cX0_restore 19 = .ok (.ireturn, 1) := dk_172 (dk_at dksX0_restore_0 19 rfl rfl)
abbrev cX0_outputByte : ByteArray := method_38_code
def yX0_outputByte : MethodName := ⟨RX0, "outputByte", "(LCakeDivision;I[J)I"⟩
def dkwX0_outputByte_0 : List UInt8 := [44, 3, 42, 27, 182, 0, 130, 133, 80, 167, 0, 6, 78, 4, 172, 3, 172]
abbrev dktX0_outputByte_0 : List UInt8 := dkwX0_outputByte_0 ++ []
theorem dksX0_outputByte_0 : cX0_outputByte.data.toList.drop 0 = dktX0_outputByte_0 := by decide +kernel
theorem dX0_outputByte_0 : decode cX0_outputByte 0 = .ok (.aload_n 2, 1) := dk_44 (dk_at dksX0_outputByte_0 0 rfl rfl)
theorem dX0_outputByte_1 : decode cX0_outputByte 1 = .ok (.iconst 0, 1) := dk_3 (dk_at dksX0_outputByte_0 1 rfl rfl)
theorem dX0_outputByte_2 : decode cX0_outputByte 2 = .ok (.aload_n 0, 1) := dk_42 (dk_at dksX0_outputByte_0 2 rfl rfl)
theorem dX0_outputByte_3 : decode cX0_outputByte 3 = .ok (.iload_n 1, 1) := dk_27 (dk_at dksX0_outputByte_0 3 rfl rfl)
theorem dX0_outputByte_4 : decode cX0_outputByte 4 = .ok (.invokevirtual 130, 3) := dk_182 0 130 (dk_at dksX0_outputByte_0 4 rfl rfl)
theorem dX0_outputByte_7 : decode cX0_outputByte 7 = .ok (.i2l, 1) := dk_133 (dk_at dksX0_outputByte_0 7 rfl rfl)
theorem dX0_outputByte_8 : decode cX0_outputByte 8 = .ok (.lastore, 1) := dk_80 (dk_at dksX0_outputByte_0 8 rfl rfl)
theorem dX0_outputByte_9 : decode cX0_outputByte 9 = .ok (.goto 6, 3) := dk_167 0 6 (dk_at dksX0_outputByte_0 9 rfl rfl)
theorem dX0_outputByte_12 : decode cX0_outputByte 12 = .ok (.astore_n 3, 1) := dk_78 (dk_at dksX0_outputByte_0 12 rfl rfl)
theorem dX0_outputByte_13 : decode cX0_outputByte 13 = .ok (.iconst 1, 1) := dk_4 (dk_at dksX0_outputByte_0 13 rfl rfl)
theorem dX0_outputByte_14 : decode cX0_outputByte 14 = .ok (.ireturn, 1) := dk_172 (dk_at dksX0_outputByte_0 14 rfl rfl)
theorem dX0_outputByte_15 : decode cX0_outputByte 15 = .ok (.iconst 0, 1) := dk_3 (dk_at dksX0_outputByte_0 15 rfl rfl)
theorem dX0_outputByte_16 : decode cX0_outputByte 16 = .ok (.ireturn, 1) := dk_172 (dk_at dksX0_outputByte_0 16 rfl rfl)
theorem q95 : (Jvm.Cond.initialized "CakeDivisionLaw") ∈ lw_all := lw_g (lw_at lw_m1 0 rfl) rfl
theorem q129 : (Jvm.Cond.classLink "CakeDivisionLaw" (8 : Nat) "CakeDivision") ∈ lw_all := lw_g (lw_at lw_m1 34 rfl) rfl
theorem q131 : (Jvm.Cond.methodLink "CakeDivisionLaw" (133 : Nat) ({ cls := "CakeDivision", name := "<init>", desc := "()V" } : Jvm.MethodName)) ∈ lw_all := lw_g (lw_at lw_m1 36 rfl) rfl
theorem q788 : (Jvm.Cond.methodLink "CakeDivisionLaw" (154 : Nat) ({ cls := "CakeDivision", name := "errorCode", desc := "()I" } : Jvm.MethodName)) ∈ lw_all := lw_g (lw_at lw_m3 213 rfl) rfl
theorem q792 : (Jvm.Cond.methodLink "CakeDivisionLaw" (158 : Nat) ({ cls := "CakeDivision", name := "errorPosition", desc := "()I" } : Jvm.MethodName)) ∈ lw_all := lw_g (lw_at lw_m3 217 rfl) rfl
theorem q796 : (Jvm.Cond.methodLink "CakeDivisionLaw" (162 : Nat) ({ cls := "CakeDivision", name := "cellCount", desc := "()I" } : Jvm.MethodName)) ∈ lw_all := lw_g (lw_at lw_m3 221 rfl) rfl
theorem q800 : (Jvm.Cond.methodLink "CakeDivisionLaw" (166 : Nat) ({ cls := "CakeDivision", name := "siblingCount", desc := "()I" } : Jvm.MethodName)) ∈ lw_all := lw_g (lw_at lw_m3 225 rfl) rfl
theorem q804 : (Jvm.Cond.methodLink "CakeDivisionLaw" (199 : Nat) ({ cls := "CakeDivision", name := "freeCount", desc := "()I" } : Jvm.MethodName)) ∈ lw_all := lw_g (lw_at lw_m3 229 rfl) rfl
theorem q813 : (Jvm.Cond.methodLink "CakeDivisionLaw" (215 : Nat) ({ cls := "CakeDivision", name := "envyCount", desc := "()I" } : Jvm.MethodName)) ∈ lw_all := lw_g (lw_at lw_m3 238 rfl) rfl
theorem q837 : (Jvm.Cond.methodLink "CakeDivisionLaw" (219 : Nat) ({ cls := "CakeDivision", name := "strongEnvyCount", desc := "()I" } : Jvm.MethodName)) ∈ lw_all := lw_g (lw_at lw_m4 22 rfl) rfl
theorem q846 : (Jvm.Cond.methodLink "CakeDivisionLaw" (223 : Nat) ({ cls := "CakeDivision", name := "mostEnvied", desc := "()I" } : Jvm.MethodName)) ∈ lw_all := lw_g (lw_at lw_m4 31 rfl) rfl
theorem q854 : (Jvm.Cond.methodLink "CakeDivisionLaw" (230 : Nat) ({ cls := "CakeDivision", name := "satisfiedCount", desc := "()I" } : Jvm.MethodName)) ∈ lw_all := lw_g (lw_at lw_m4 39 rfl) rfl
theorem q874 : (Jvm.Cond.methodLink "CakeDivisionLaw" (243 : Nat) ({ cls := "CakeDivision", name := "totalWelfare", desc := "()I" } : Jvm.MethodName)) ∈ lw_all := lw_g (lw_at lw_m4 59 rfl) rfl
theorem q879 : (Jvm.Cond.methodLink "CakeDivisionLaw" (247 : Nat) ({ cls := "CakeDivision", name := "leastWelfare", desc := "()I" } : Jvm.MethodName)) ∈ lw_all := lw_g (lw_at lw_m4 64 rfl) rfl
theorem q888 : (Jvm.Cond.methodLink "CakeDivisionLaw" (251 : Nat) ({ cls := "CakeDivision", name := "welfareProduct", desc := "()J" } : Jvm.MethodName)) ∈ lw_all := lw_g (lw_at lw_m4 73 rfl) rfl
theorem q892 : (Jvm.Cond.methodLink "CakeDivisionLaw" (256 : Nat) ({ cls := "CakeDivision", name := "greatestTotalWelfare", desc := "()I" } : Jvm.MethodName)) ∈ lw_all := lw_g (lw_at lw_m4 77 rfl) rfl
theorem q903 : (Jvm.Cond.methodLink "CakeDivisionLaw" (260 : Nat) ({ cls := "CakeDivision", name := "greatestContiguousWelfare", desc := "()I" } : Jvm.MethodName)) ∈ lw_all := lw_g (lw_at lw_m4 88 rfl) rfl
theorem q944 : (Jvm.Cond.methodLink "CakeDivisionLaw" (264 : Nat) ({ cls := "CakeDivision", name := "bestLeastWelfare", desc := "()I" } : Jvm.MethodName)) ∈ lw_all := lw_g (lw_at lw_m4 129 rfl) rfl
theorem q948 : (Jvm.Cond.methodLink "CakeDivisionLaw" (268 : Nat) ({ cls := "CakeDivision", name := "cutCount", desc := "()I" } : Jvm.MethodName)) ∈ lw_all := lw_g (lw_at lw_m4 133 rfl) rfl
theorem q952 : (Jvm.Cond.methodLink "CakeDivisionLaw" (276 : Nat) ({ cls := "CakeDivision", name := "meanPieces", desc := "()D" } : Jvm.MethodName)) ∈ lw_all := lw_g (lw_at lw_m4 137 rfl) rfl
theorem q960 : (Jvm.Cond.methodLink "CakeDivisionLaw" (281 : Nat) ({ cls := "CakeDivision", name := "inconsistencies", desc := "()I" } : Jvm.MethodName)) ∈ lw_all := lw_g (lw_at lw_m4 145 rfl) rfl
theorem q964 : (Jvm.Cond.methodLink "CakeDivisionLaw" (294 : Nat) ({ cls := "CakeDivision", name := "bestFirst", desc := "()I" } : Jvm.MethodName)) ∈ lw_all := lw_g (lw_at lw_m4 149 rfl) rfl
theorem q991 : (Jvm.Cond.methodLink "CakeDivisionLaw" (313 : Nat) ({ cls := "CakeDivision", name := "movingKnife", desc := "()I" } : Jvm.MethodName)) ∈ lw_all := lw_g (lw_at lw_m4 176 rfl) rfl
theorem q1084 : (Jvm.Cond.methodLink "CakeDivisionLaw" (335 : Nat) ({ cls := "CakeDivision", name := "writeOwners", desc := "()I" } : Jvm.MethodName)) ∈ lw_all := lw_g (lw_at lw_m5 29 rfl) rfl
theorem q1096 : (Jvm.Cond.methodLink "CakeDivisionLaw" (137 : Nat) ({ cls := "CakeDivisionLaw", name := "append", desc := "(LCakeDivision;IIIII[J)I" } : Jvm.MethodName)) ∈ lw_all := lw_g (lw_at lw_m5 41 rfl) rfl
theorem q1097 : (Jvm.Cond.static ({ cls := "CakeDivisionLaw", name := "append", desc := "(LCakeDivision;IIIII[J)I" } : Jvm.MethodName)) ∈ lw_all := lw_g (lw_at lw_m5 42 rfl) rfl
theorem q1098 : (Jvm.Cond.codeWith ({ cls := "CakeDivisionLaw", name := "append", desc := "(LCakeDivision;IIIII[J)I" } : Jvm.MethodName) method_3_code (8 : Nat) (Option.some Jvm.ClassFile.FieldType.int) [((0 : Nat), (16 : Nat), (19 : Nat), (13 : Nat))]) ∈ lw_all := lw_g (lw_at lw_m5 43 rfl) rfl
theorem q1099 : (Jvm.Cond.classLink "CakeDivisionLaw" (13 : Nat) "java/lang/IllegalStateException") ∈ lw_all := lw_g (lw_at lw_m5 44 rfl) rfl
theorem q1100 : (Jvm.Cond.methodLink "CakeDivisionLaw" (7 : Nat) ({ cls := "CakeDivision", name := "append", desc := "(IIIII)I" } : Jvm.MethodName)) ∈ lw_all := lw_g (lw_at lw_m5 45 rfl) rfl
theorem q1113 : (Jvm.Cond.methodLink "CakeDivisionLaw" (146 : Nat) ({ cls := "CakeDivisionLaw", name := "truncate", desc := "(LCakeDivision;I[J)I" } : Jvm.MethodName)) ∈ lw_all := lw_g (lw_at lw_m5 58 rfl) rfl
theorem q1114 : (Jvm.Cond.static ({ cls := "CakeDivisionLaw", name := "truncate", desc := "(LCakeDivision;I[J)I" } : Jvm.MethodName)) ∈ lw_all := lw_g (lw_at lw_m5 59 rfl) rfl
theorem q1115 : (Jvm.Cond.codeWith ({ cls := "CakeDivisionLaw", name := "truncate", desc := "(LCakeDivision;I[J)I" } : Jvm.MethodName) method_4_code (4 : Nat) (Option.some Jvm.ClassFile.FieldType.int) [((0 : Nat), (9 : Nat), (12 : Nat), (19 : Nat))]) ∈ lw_all := lw_g (lw_at lw_m5 60 rfl) rfl
theorem q1116 : (Jvm.Cond.classLink "CakeDivisionLaw" (19 : Nat) "java/lang/IllegalArgumentException") ∈ lw_all := lw_g (lw_at lw_m5 61 rfl) rfl
theorem q1117 : (Jvm.Cond.methodLink "CakeDivisionLaw" (15 : Nat) ({ cls := "CakeDivision", name := "truncate", desc := "(I)I" } : Jvm.MethodName)) ∈ lw_all := lw_g (lw_at lw_m5 62 rfl) rfl
theorem q1126 : (Jvm.Cond.methodLink "CakeDivisionLaw" (150 : Nat) ({ cls := "CakeDivisionLaw", name := "load", desc := "(LCakeDivision;[J)I" } : Jvm.MethodName)) ∈ lw_all := lw_g (lw_at lw_m5 71 rfl) rfl
theorem q1127 : (Jvm.Cond.static ({ cls := "CakeDivisionLaw", name := "load", desc := "(LCakeDivision;[J)I" } : Jvm.MethodName)) ∈ lw_all := lw_g (lw_at lw_m5 72 rfl) rfl
theorem q1128 : (Jvm.Cond.codeWith ({ cls := "CakeDivisionLaw", name := "load", desc := "(LCakeDivision;[J)I" } : Jvm.MethodName) method_5_code (3 : Nat) (Option.some Jvm.ClassFile.FieldType.int) [((0 : Nat), (8 : Nat), (11 : Nat), (19 : Nat))]) ∈ lw_all := lw_g (lw_at lw_m5 73 rfl) rfl
theorem q1129 : (Jvm.Cond.methodLink "CakeDivisionLaw" (21 : Nat) ({ cls := "CakeDivision", name := "load", desc := "()I" } : Jvm.MethodName)) ∈ lw_all := lw_g (lw_at lw_m5 74 rfl) rfl
theorem q1144 : (Jvm.Cond.methodLink "CakeDivisionLaw" (170 : Nat) ({ cls := "CakeDivisionLaw", name := "nameByte", desc := "(LCakeDivision;II[J)I" } : Jvm.MethodName)) ∈ lw_all := lw_g (lw_at lw_m5 89 rfl) rfl
theorem q1145 : (Jvm.Cond.static ({ cls := "CakeDivisionLaw", name := "nameByte", desc := "(LCakeDivision;II[J)I" } : Jvm.MethodName)) ∈ lw_all := lw_g (lw_at lw_m5 90 rfl) rfl
theorem q1146 : (Jvm.Cond.codeWith ({ cls := "CakeDivisionLaw", name := "nameByte", desc := "(LCakeDivision;II[J)I" } : Jvm.MethodName) method_6_code (5 : Nat) (Option.some Jvm.ClassFile.FieldType.int) [((0 : Nat), (10 : Nat), (13 : Nat), (29 : Nat))]) ∈ lw_all := lw_g (lw_at lw_m5 91 rfl) rfl
theorem q1147 : (Jvm.Cond.classLink "CakeDivisionLaw" (29 : Nat) "java/lang/IndexOutOfBoundsException") ∈ lw_all := lw_g (lw_at lw_m5 92 rfl) rfl
theorem q1166 : (Jvm.Cond.methodLink "CakeDivisionLaw" (25 : Nat) ({ cls := "CakeDivision", name := "nameByte", desc := "(II)I" } : Jvm.MethodName)) ∈ lw_all := lw_g (lw_at lw_m5 111 rfl) rfl
theorem q1196 : (Jvm.Cond.methodLink "CakeDivisionLaw" (174 : Nat) ({ cls := "CakeDivisionLaw", name := "findSibling", desc := "(LCakeDivision;[J)I" } : Jvm.MethodName)) ∈ lw_all := lw_g (lw_at lw_m5 141 rfl) rfl
theorem q1197 : (Jvm.Cond.static ({ cls := "CakeDivisionLaw", name := "findSibling", desc := "(LCakeDivision;[J)I" } : Jvm.MethodName)) ∈ lw_all := lw_g (lw_at lw_m5 142 rfl) rfl
theorem q1198 : (Jvm.Cond.codeWith ({ cls := "CakeDivisionLaw", name := "findSibling", desc := "(LCakeDivision;[J)I" } : Jvm.MethodName) method_7_code (3 : Nat) (Option.some Jvm.ClassFile.FieldType.int) [((0 : Nat), (8 : Nat), (11 : Nat), (34 : Nat))]) ∈ lw_all := lw_g (lw_at lw_m5 143 rfl) rfl
theorem q1199 : (Jvm.Cond.classLink "CakeDivisionLaw" (34 : Nat) "java/util/NoSuchElementException") ∈ lw_all := lw_g (lw_at lw_m5 144 rfl) rfl
theorem q1200 : (Jvm.Cond.methodLink "CakeDivisionLaw" (31 : Nat) ({ cls := "CakeDivision", name := "findSibling", desc := "()I" } : Jvm.MethodName)) ∈ lw_all := lw_g (lw_at lw_m5 145 rfl) rfl
theorem q1208 : (Jvm.Cond.methodLink "CakeDivisionLaw" (177 : Nat) ({ cls := "CakeDivisionLaw", name := "value", desc := "(LCakeDivision;II[J)I" } : Jvm.MethodName)) ∈ lw_all := lw_g (lw_at lw_m5 153 rfl) rfl
theorem q1209 : (Jvm.Cond.static ({ cls := "CakeDivisionLaw", name := "value", desc := "(LCakeDivision;II[J)I" } : Jvm.MethodName)) ∈ lw_all := lw_g (lw_at lw_m5 154 rfl) rfl
theorem q1210 : (Jvm.Cond.codeWith ({ cls := "CakeDivisionLaw", name := "value", desc := "(LCakeDivision;II[J)I" } : Jvm.MethodName) method_8_code (5 : Nat) (Option.some Jvm.ClassFile.FieldType.int) [((0 : Nat), (10 : Nat), (13 : Nat), (29 : Nat))]) ∈ lw_all := lw_g (lw_at lw_m5 155 rfl) rfl
theorem q1211 : (Jvm.Cond.methodLink "CakeDivisionLaw" (36 : Nat) ({ cls := "CakeDivision", name := "value", desc := "(II)I" } : Jvm.MethodName)) ∈ lw_all := lw_g (lw_at lw_m5 156 rfl) rfl
theorem q1215 : (Jvm.Cond.methodLink "CakeDivisionLaw" (180 : Nat) ({ cls := "CakeDivisionLaw", name := "owner", desc := "(LCakeDivision;I[J)I" } : Jvm.MethodName)) ∈ lw_all := lw_g (lw_at lw_m5 160 rfl) rfl
theorem q1216 : (Jvm.Cond.static ({ cls := "CakeDivisionLaw", name := "owner", desc := "(LCakeDivision;I[J)I" } : Jvm.MethodName)) ∈ lw_all := lw_g (lw_at lw_m5 161 rfl) rfl
theorem q1217 : (Jvm.Cond.codeWith ({ cls := "CakeDivisionLaw", name := "owner", desc := "(LCakeDivision;I[J)I" } : Jvm.MethodName) method_9_code (4 : Nat) (Option.some Jvm.ClassFile.FieldType.int) [((0 : Nat), (9 : Nat), (12 : Nat), (29 : Nat))]) ∈ lw_all := lw_g (lw_at lw_m5 162 rfl) rfl
theorem q1218 : (Jvm.Cond.methodLink "CakeDivisionLaw" (39 : Nat) ({ cls := "CakeDivision", name := "owner", desc := "(I)I" } : Jvm.MethodName)) ∈ lw_all := lw_g (lw_at lw_m5 163 rfl) rfl
theorem q1222 : (Jvm.Cond.methodLink "CakeDivisionLaw" (183 : Nat) ({ cls := "CakeDivisionLaw", name := "worth", desc := "(LCakeDivision;III[J)I" } : Jvm.MethodName)) ∈ lw_all := lw_g (lw_at lw_m5 167 rfl) rfl
theorem q1223 : (Jvm.Cond.static ({ cls := "CakeDivisionLaw", name := "worth", desc := "(LCakeDivision;III[J)I" } : Jvm.MethodName)) ∈ lw_all := lw_g (lw_at lw_m5 168 rfl) rfl
theorem q1224 : (Jvm.Cond.codeWith ({ cls := "CakeDivisionLaw", name := "worth", desc := "(LCakeDivision;III[J)I" } : Jvm.MethodName) method_10_code (6 : Nat) (Option.some Jvm.ClassFile.FieldType.int) [((0 : Nat), (12 : Nat), (15 : Nat), (29 : Nat)), ((0 : Nat), (12 : Nat), (19 : Nat), (19 : Nat))]) ∈ lw_all := lw_g (lw_at lw_m5 169 rfl) rfl
theorem q1225 : (Jvm.Cond.methodLink "CakeDivisionLaw" (42 : Nat) ({ cls := "CakeDivision", name := "worth", desc := "(III)I" } : Jvm.MethodName)) ∈ lw_all := lw_g (lw_at lw_m5 170 rfl) rfl
theorem q1240 : (Jvm.Cond.methodLink "CakeDivisionLaw" (187 : Nat) ({ cls := "CakeDivisionLaw", name := "total", desc := "(LCakeDivision;I[J)I" } : Jvm.MethodName)) ∈ lw_all := lw_g (lw_at lw_m5 185 rfl) rfl
theorem q1241 : (Jvm.Cond.static ({ cls := "CakeDivisionLaw", name := "total", desc := "(LCakeDivision;I[J)I" } : Jvm.MethodName)) ∈ lw_all := lw_g (lw_at lw_m5 186 rfl) rfl
theorem q1242 : (Jvm.Cond.codeWith ({ cls := "CakeDivisionLaw", name := "total", desc := "(LCakeDivision;I[J)I" } : Jvm.MethodName) method_11_code (4 : Nat) (Option.some Jvm.ClassFile.FieldType.int) [((0 : Nat), (9 : Nat), (12 : Nat), (29 : Nat))]) ∈ lw_all := lw_g (lw_at lw_m5 187 rfl) rfl
theorem q1243 : (Jvm.Cond.methodLink "CakeDivisionLaw" (46 : Nat) ({ cls := "CakeDivision", name := "total", desc := "(I)I" } : Jvm.MethodName)) ∈ lw_all := lw_g (lw_at lw_m5 188 rfl) rfl
theorem q1248 : (Jvm.Cond.methodLink "CakeDivisionLaw" (190 : Nat) ({ cls := "CakeDivisionLaw", name := "worthOfShare", desc := "(LCakeDivision;II[J)I" } : Jvm.MethodName)) ∈ lw_all := lw_g (lw_at lw_m5 193 rfl) rfl
theorem q1249 : (Jvm.Cond.static ({ cls := "CakeDivisionLaw", name := "worthOfShare", desc := "(LCakeDivision;II[J)I" } : Jvm.MethodName)) ∈ lw_all := lw_g (lw_at lw_m5 194 rfl) rfl
theorem q1250 : (Jvm.Cond.codeWith ({ cls := "CakeDivisionLaw", name := "worthOfShare", desc := "(LCakeDivision;II[J)I" } : Jvm.MethodName) method_12_code (5 : Nat) (Option.some Jvm.ClassFile.FieldType.int) [((0 : Nat), (10 : Nat), (13 : Nat), (29 : Nat))]) ∈ lw_all := lw_g (lw_at lw_m5 195 rfl) rfl
theorem q1251 : (Jvm.Cond.methodLink "CakeDivisionLaw" (49 : Nat) ({ cls := "CakeDivision", name := "worthOfShare", desc := "(II)I" } : Jvm.MethodName)) ∈ lw_all := lw_g (lw_at lw_m5 196 rfl) rfl
theorem q1256 : (Jvm.Cond.methodLink "CakeDivisionLaw" (193 : Nat) ({ cls := "CakeDivisionLaw", name := "shareSize", desc := "(LCakeDivision;I[J)I" } : Jvm.MethodName)) ∈ lw_all := lw_g (lw_at lw_m5 201 rfl) rfl
theorem q1257 : (Jvm.Cond.static ({ cls := "CakeDivisionLaw", name := "shareSize", desc := "(LCakeDivision;I[J)I" } : Jvm.MethodName)) ∈ lw_all := lw_g (lw_at lw_m5 202 rfl) rfl
theorem q1258 : (Jvm.Cond.codeWith ({ cls := "CakeDivisionLaw", name := "shareSize", desc := "(LCakeDivision;I[J)I" } : Jvm.MethodName) method_13_code (4 : Nat) (Option.some Jvm.ClassFile.FieldType.int) [((0 : Nat), (9 : Nat), (12 : Nat), (29 : Nat))]) ∈ lw_all := lw_g (lw_at lw_m5 203 rfl) rfl
theorem q1259 : (Jvm.Cond.methodLink "CakeDivisionLaw" (52 : Nat) ({ cls := "CakeDivision", name := "shareSize", desc := "(I)I" } : Jvm.MethodName)) ∈ lw_all := lw_g (lw_at lw_m5 204 rfl) rfl
theorem q1263 : (Jvm.Cond.methodLink "CakeDivisionLaw" (196 : Nat) ({ cls := "CakeDivisionLaw", name := "pieceCount", desc := "(LCakeDivision;I[J)I" } : Jvm.MethodName)) ∈ lw_all := lw_g (lw_at lw_m5 208 rfl) rfl
theorem q1264 : (Jvm.Cond.static ({ cls := "CakeDivisionLaw", name := "pieceCount", desc := "(LCakeDivision;I[J)I" } : Jvm.MethodName)) ∈ lw_all := lw_g (lw_at lw_m5 209 rfl) rfl
theorem q1265 : (Jvm.Cond.codeWith ({ cls := "CakeDivisionLaw", name := "pieceCount", desc := "(LCakeDivision;I[J)I" } : Jvm.MethodName) method_14_code (4 : Nat) (Option.some Jvm.ClassFile.FieldType.int) [((0 : Nat), (9 : Nat), (12 : Nat), (29 : Nat))]) ∈ lw_all := lw_g (lw_at lw_m5 210 rfl) rfl
theorem q1266 : (Jvm.Cond.methodLink "CakeDivisionLaw" (55 : Nat) ({ cls := "CakeDivision", name := "pieceCount", desc := "(I)I" } : Jvm.MethodName)) ∈ lw_all := lw_g (lw_at lw_m5 211 rfl) rfl
theorem q1270 : (Jvm.Cond.methodLink "CakeDivisionLaw" (203 : Nat) ({ cls := "CakeDivisionLaw", name := "mark", desc := "(LCakeDivision;III[J)I" } : Jvm.MethodName)) ∈ lw_all := lw_g (lw_at lw_m5 215 rfl) rfl
theorem q1271 : (Jvm.Cond.static ({ cls := "CakeDivisionLaw", name := "mark", desc := "(LCakeDivision;III[J)I" } : Jvm.MethodName)) ∈ lw_all := lw_g (lw_at lw_m5 216 rfl) rfl
theorem q1272 : (Jvm.Cond.codeWith ({ cls := "CakeDivisionLaw", name := "mark", desc := "(LCakeDivision;III[J)I" } : Jvm.MethodName) method_15_code (6 : Nat) (Option.some Jvm.ClassFile.FieldType.int) [((0 : Nat), (12 : Nat), (15 : Nat), (29 : Nat)), ((0 : Nat), (12 : Nat), (19 : Nat), (19 : Nat))]) ∈ lw_all := lw_g (lw_at lw_m5 217 rfl) rfl
theorem q1273 : (Jvm.Cond.methodLink "CakeDivisionLaw" (58 : Nat) ({ cls := "CakeDivision", name := "mark", desc := "(III)I" } : Jvm.MethodName)) ∈ lw_all := lw_g (lw_at lw_m5 218 rfl) rfl
theorem q1278 : (Jvm.Cond.methodLink "CakeDivisionLaw" (206 : Nat) ({ cls := "CakeDivisionLaw", name := "favouriteFreeCell", desc := "(LCakeDivision;I[J)I" } : Jvm.MethodName)) ∈ lw_all := lw_g (lw_at lw_m5 223 rfl) rfl
theorem q1279 : (Jvm.Cond.static ({ cls := "CakeDivisionLaw", name := "favouriteFreeCell", desc := "(LCakeDivision;I[J)I" } : Jvm.MethodName)) ∈ lw_all := lw_g (lw_at lw_m5 224 rfl) rfl
theorem q1280 : (Jvm.Cond.codeWith ({ cls := "CakeDivisionLaw", name := "favouriteFreeCell", desc := "(LCakeDivision;I[J)I" } : Jvm.MethodName) method_16_code (4 : Nat) (Option.some Jvm.ClassFile.FieldType.int) [((0 : Nat), (9 : Nat), (12 : Nat), (29 : Nat))]) ∈ lw_all := lw_g (lw_at lw_m5 225 rfl) rfl
theorem q1281 : (Jvm.Cond.methodLink "CakeDivisionLaw" (61 : Nat) ({ cls := "CakeDivision", name := "favouriteFreeCell", desc := "(I)I" } : Jvm.MethodName)) ∈ lw_all := lw_g (lw_at lw_m5 226 rfl) rfl
theorem q1286 : (Jvm.Cond.methodLink "CakeDivisionLaw" (209 : Nat) ({ cls := "CakeDivisionLaw", name := "envies", desc := "(LCakeDivision;II[J)I" } : Jvm.MethodName)) ∈ lw_all := lw_g (lw_at lw_m5 231 rfl) rfl
theorem q1287 : (Jvm.Cond.static ({ cls := "CakeDivisionLaw", name := "envies", desc := "(LCakeDivision;II[J)I" } : Jvm.MethodName)) ∈ lw_all := lw_g (lw_at lw_m5 232 rfl) rfl
theorem q1288 : (Jvm.Cond.codeWith ({ cls := "CakeDivisionLaw", name := "envies", desc := "(LCakeDivision;II[J)I" } : Jvm.MethodName) method_17_code (5 : Nat) (Option.some Jvm.ClassFile.FieldType.int) [((0 : Nat), (17 : Nat), (20 : Nat), (29 : Nat))]) ∈ lw_all := lw_g (lw_at lw_m5 233 rfl) rfl
theorem q1289 : (Jvm.Cond.methodLink "CakeDivisionLaw" (64 : Nat) ({ cls := "CakeDivision", name := "envies", desc := "(II)Z" } : Jvm.MethodName)) ∈ lw_all := lw_g (lw_at lw_m5 234 rfl) rfl
theorem q1293 : (Jvm.Cond.methodLink "CakeDivisionLaw" (212 : Nat) ({ cls := "CakeDivisionLaw", name := "isMild", desc := "(LCakeDivision;II[J)I" } : Jvm.MethodName)) ∈ lw_all := lw_g (lw_at lw_m5 238 rfl) rfl
theorem q1294 : (Jvm.Cond.static ({ cls := "CakeDivisionLaw", name := "isMild", desc := "(LCakeDivision;II[J)I" } : Jvm.MethodName)) ∈ lw_all := lw_g (lw_at lw_m5 239 rfl) rfl
theorem q1295 : (Jvm.Cond.codeWith ({ cls := "CakeDivisionLaw", name := "isMild", desc := "(LCakeDivision;II[J)I" } : Jvm.MethodName) method_18_code (5 : Nat) (Option.some Jvm.ClassFile.FieldType.int) [((0 : Nat), (17 : Nat), (20 : Nat), (29 : Nat)), ((0 : Nat), (17 : Nat), (24 : Nat), (13 : Nat))]) ∈ lw_all := lw_g (lw_at lw_m6 0 rfl) rfl
theorem q1296 : (Jvm.Cond.methodLink "CakeDivisionLaw" (68 : Nat) ({ cls := "CakeDivision", name := "isMild", desc := "(II)Z" } : Jvm.MethodName)) ∈ lw_all := lw_g (lw_at lw_m6 1 rfl) rfl
theorem q1303 : (Jvm.Cond.methodLink "CakeDivisionLaw" (227 : Nat) ({ cls := "CakeDivisionLaw", name := "isSatisfied", desc := "(LCakeDivision;I[J)I" } : Jvm.MethodName)) ∈ lw_all := lw_g (lw_at lw_m6 8 rfl) rfl
theorem q1304 : (Jvm.Cond.static ({ cls := "CakeDivisionLaw", name := "isSatisfied", desc := "(LCakeDivision;I[J)I" } : Jvm.MethodName)) ∈ lw_all := lw_g (lw_at lw_m6 9 rfl) rfl
theorem q1305 : (Jvm.Cond.codeWith ({ cls := "CakeDivisionLaw", name := "isSatisfied", desc := "(LCakeDivision;I[J)I" } : Jvm.MethodName) method_19_code (4 : Nat) (Option.some Jvm.ClassFile.FieldType.int) [((0 : Nat), (16 : Nat), (19 : Nat), (29 : Nat))]) ∈ lw_all := lw_g (lw_at lw_m6 10 rfl) rfl
theorem q1306 : (Jvm.Cond.methodLink "CakeDivisionLaw" (71 : Nat) ({ cls := "CakeDivision", name := "isSatisfied", desc := "(I)Z" } : Jvm.MethodName)) ∈ lw_all := lw_g (lw_at lw_m6 11 rfl) rfl
theorem q1311 : (Jvm.Cond.methodLink "CakeDivisionLaw" (234 : Nat) ({ cls := "CakeDivisionLaw", name := "envyCycleLength", desc := "(LCakeDivision;I[J)I" } : Jvm.MethodName)) ∈ lw_all := lw_g (lw_at lw_m6 16 rfl) rfl
theorem q1312 : (Jvm.Cond.static ({ cls := "CakeDivisionLaw", name := "envyCycleLength", desc := "(LCakeDivision;I[J)I" } : Jvm.MethodName)) ∈ lw_all := lw_g (lw_at lw_m6 17 rfl) rfl
theorem q1313 : (Jvm.Cond.codeWith ({ cls := "CakeDivisionLaw", name := "envyCycleLength", desc := "(LCakeDivision;I[J)I" } : Jvm.MethodName) method_20_code (4 : Nat) (Option.some Jvm.ClassFile.FieldType.int) [((0 : Nat), (9 : Nat), (12 : Nat), (29 : Nat))]) ∈ lw_all := lw_g (lw_at lw_m6 18 rfl) rfl
theorem q1314 : (Jvm.Cond.methodLink "CakeDivisionLaw" (75 : Nat) ({ cls := "CakeDivision", name := "envyCycleLength", desc := "(I)I" } : Jvm.MethodName)) ∈ lw_all := lw_g (lw_at lw_m6 19 rfl) rfl
theorem q1351 : (Jvm.Cond.methodLink "CakeDivisionLaw" (237 : Nat) ({ cls := "CakeDivisionLaw", name := "envyCycleMember", desc := "(LCakeDivision;II[J)I" } : Jvm.MethodName)) ∈ lw_all := lw_g (lw_at lw_m6 56 rfl) rfl
theorem q1352 : (Jvm.Cond.static ({ cls := "CakeDivisionLaw", name := "envyCycleMember", desc := "(LCakeDivision;II[J)I" } : Jvm.MethodName)) ∈ lw_all := lw_g (lw_at lw_m6 57 rfl) rfl
theorem q1353 : (Jvm.Cond.codeWith ({ cls := "CakeDivisionLaw", name := "envyCycleMember", desc := "(LCakeDivision;II[J)I" } : Jvm.MethodName) method_21_code (5 : Nat) (Option.some Jvm.ClassFile.FieldType.int) [((0 : Nat), (10 : Nat), (13 : Nat), (29 : Nat)), ((0 : Nat), (10 : Nat), (17 : Nat), (34 : Nat))]) ∈ lw_all := lw_g (lw_at lw_m6 58 rfl) rfl
theorem q1354 : (Jvm.Cond.methodLink "CakeDivisionLaw" (78 : Nat) ({ cls := "CakeDivision", name := "envyCycleMember", desc := "(II)I" } : Jvm.MethodName)) ∈ lw_all := lw_g (lw_at lw_m6 59 rfl) rfl
theorem q1362 : (Jvm.Cond.methodLink "CakeDivisionLaw" (240 : Nat) ({ cls := "CakeDivisionLaw", name := "wouldSwap", desc := "(LCakeDivision;II[J)I" } : Jvm.MethodName)) ∈ lw_all := lw_g (lw_at lw_m6 67 rfl) rfl
theorem q1363 : (Jvm.Cond.static ({ cls := "CakeDivisionLaw", name := "wouldSwap", desc := "(LCakeDivision;II[J)I" } : Jvm.MethodName)) ∈ lw_all := lw_g (lw_at lw_m6 68 rfl) rfl
theorem q1364 : (Jvm.Cond.codeWith ({ cls := "CakeDivisionLaw", name := "wouldSwap", desc := "(LCakeDivision;II[J)I" } : Jvm.MethodName) method_22_code (5 : Nat) (Option.some Jvm.ClassFile.FieldType.int) [((0 : Nat), (17 : Nat), (20 : Nat), (29 : Nat))]) ∈ lw_all := lw_g (lw_at lw_m6 69 rfl) rfl
theorem q1365 : (Jvm.Cond.methodLink "CakeDivisionLaw" (81 : Nat) ({ cls := "CakeDivision", name := "wouldSwap", desc := "(II)Z" } : Jvm.MethodName)) ∈ lw_all := lw_g (lw_at lw_m6 70 rfl) rfl
theorem q1369 : (Jvm.Cond.methodLink "CakeDivisionLaw" (272 : Nat) ({ cls := "CakeDivisionLaw", name := "satisfaction", desc := "(LCakeDivision;I[D)I" } : Jvm.MethodName)) ∈ lw_all := lw_g (lw_at lw_m6 74 rfl) rfl
theorem q1370 : (Jvm.Cond.static ({ cls := "CakeDivisionLaw", name := "satisfaction", desc := "(LCakeDivision;I[D)I" } : Jvm.MethodName)) ∈ lw_all := lw_g (lw_at lw_m6 75 rfl) rfl
theorem q1371 : (Jvm.Cond.codeWith ({ cls := "CakeDivisionLaw", name := "satisfaction", desc := "(LCakeDivision;I[D)I" } : Jvm.MethodName) method_23_code (4 : Nat) (Option.some Jvm.ClassFile.FieldType.int) [((0 : Nat), (9 : Nat), (12 : Nat), (29 : Nat))]) ∈ lw_all := lw_g (lw_at lw_m6 76 rfl) rfl
theorem q1372 : (Jvm.Cond.methodLink "CakeDivisionLaw" (84 : Nat) ({ cls := "CakeDivision", name := "satisfaction", desc := "(I)F" } : Jvm.MethodName)) ∈ lw_all := lw_g (lw_at lw_m6 77 rfl) rfl
theorem q1376 : (Jvm.Cond.methodLink "CakeDivisionLaw" (285 : Nat) ({ cls := "CakeDivisionLaw", name := "cutFor", desc := "(LCakeDivision;I[J)I" } : Jvm.MethodName)) ∈ lw_all := lw_g (lw_at lw_m6 81 rfl) rfl
theorem q1377 : (Jvm.Cond.static ({ cls := "CakeDivisionLaw", name := "cutFor", desc := "(LCakeDivision;I[J)I" } : Jvm.MethodName)) ∈ lw_all := lw_g (lw_at lw_m6 82 rfl) rfl
theorem q1378 : (Jvm.Cond.codeWith ({ cls := "CakeDivisionLaw", name := "cutFor", desc := "(LCakeDivision;I[J)I" } : Jvm.MethodName) method_24_code (4 : Nat) (Option.some Jvm.ClassFile.FieldType.int) [((0 : Nat), (9 : Nat), (12 : Nat), (29 : Nat))]) ∈ lw_all := lw_g (lw_at lw_m6 83 rfl) rfl
theorem q1379 : (Jvm.Cond.methodLink "CakeDivisionLaw" (88 : Nat) ({ cls := "CakeDivision", name := "cutFor", desc := "(I)I" } : Jvm.MethodName)) ∈ lw_all := lw_g (lw_at lw_m6 84 rfl) rfl
theorem q1392 : (Jvm.Cond.methodLink "CakeDivisionLaw" (288 : Nat) ({ cls := "CakeDivisionLaw", name := "welfareByKnife", desc := "(LCakeDivision;I[J)I" } : Jvm.MethodName)) ∈ lw_all := lw_g (lw_at lw_m6 97 rfl) rfl
theorem q1393 : (Jvm.Cond.static ({ cls := "CakeDivisionLaw", name := "welfareByKnife", desc := "(LCakeDivision;I[J)I" } : Jvm.MethodName)) ∈ lw_all := lw_g (lw_at lw_m6 98 rfl) rfl
theorem q1394 : (Jvm.Cond.codeWith ({ cls := "CakeDivisionLaw", name := "welfareByKnife", desc := "(LCakeDivision;I[J)I" } : Jvm.MethodName) method_25_code (4 : Nat) (Option.some Jvm.ClassFile.FieldType.int) [((0 : Nat), (9 : Nat), (12 : Nat), (29 : Nat))]) ∈ lw_all := lw_g (lw_at lw_m6 99 rfl) rfl
theorem q1395 : (Jvm.Cond.methodLink "CakeDivisionLaw" (91 : Nat) ({ cls := "CakeDivision", name := "welfareByKnife", desc := "(I)I" } : Jvm.MethodName)) ∈ lw_all := lw_g (lw_at lw_m6 100 rfl) rfl
theorem q1399 : (Jvm.Cond.methodLink "CakeDivisionLaw" (291 : Nat) ({ cls := "CakeDivisionLaw", name := "welfareByRobin", desc := "(LCakeDivision;II[J)I" } : Jvm.MethodName)) ∈ lw_all := lw_g (lw_at lw_m6 104 rfl) rfl
theorem q1400 : (Jvm.Cond.static ({ cls := "CakeDivisionLaw", name := "welfareByRobin", desc := "(LCakeDivision;II[J)I" } : Jvm.MethodName)) ∈ lw_all := lw_g (lw_at lw_m6 105 rfl) rfl
theorem q1401 : (Jvm.Cond.codeWith ({ cls := "CakeDivisionLaw", name := "welfareByRobin", desc := "(LCakeDivision;II[J)I" } : Jvm.MethodName) method_26_code (5 : Nat) (Option.some Jvm.ClassFile.FieldType.int) [((0 : Nat), (10 : Nat), (13 : Nat), (29 : Nat))]) ∈ lw_all := lw_g (lw_at lw_m6 106 rfl) rfl
theorem q1402 : (Jvm.Cond.methodLink "CakeDivisionLaw" (94 : Nat) ({ cls := "CakeDivision", name := "welfareByRobin", desc := "(II)I" } : Jvm.MethodName)) ∈ lw_all := lw_g (lw_at lw_m6 107 rfl) rfl
theorem q1406 : (Jvm.Cond.methodLink "CakeDivisionLaw" (298 : Nat) ({ cls := "CakeDivisionLaw", name := "give", desc := "(LCakeDivision;III[J)I" } : Jvm.MethodName)) ∈ lw_all := lw_g (lw_at lw_m6 111 rfl) rfl
theorem q1407 : (Jvm.Cond.static ({ cls := "CakeDivisionLaw", name := "give", desc := "(LCakeDivision;III[J)I" } : Jvm.MethodName)) ∈ lw_all := lw_g (lw_at lw_m6 112 rfl) rfl
theorem q1408 : (Jvm.Cond.codeWith ({ cls := "CakeDivisionLaw", name := "give", desc := "(LCakeDivision;III[J)I" } : Jvm.MethodName) method_27_code (6 : Nat) (Option.some Jvm.ClassFile.FieldType.int) [((0 : Nat), (12 : Nat), (15 : Nat), (29 : Nat)), ((0 : Nat), (12 : Nat), (19 : Nat), (19 : Nat))]) ∈ lw_all := lw_g (lw_at lw_m6 113 rfl) rfl
theorem q1409 : (Jvm.Cond.methodLink "CakeDivisionLaw" (97 : Nat) ({ cls := "CakeDivision", name := "give", desc := "(III)I" } : Jvm.MethodName)) ∈ lw_all := lw_g (lw_at lw_m6 114 rfl) rfl
theorem q1418 : (Jvm.Cond.methodLink "CakeDivisionLaw" (301 : Nat) ({ cls := "CakeDivisionLaw", name := "release", desc := "(LCakeDivision;II[J)I" } : Jvm.MethodName)) ∈ lw_all := lw_g (lw_at lw_m6 123 rfl) rfl
theorem q1419 : (Jvm.Cond.static ({ cls := "CakeDivisionLaw", name := "release", desc := "(LCakeDivision;II[J)I" } : Jvm.MethodName)) ∈ lw_all := lw_g (lw_at lw_m6 124 rfl) rfl
theorem q1420 : (Jvm.Cond.codeWith ({ cls := "CakeDivisionLaw", name := "release", desc := "(LCakeDivision;II[J)I" } : Jvm.MethodName) method_28_code (5 : Nat) (Option.some Jvm.ClassFile.FieldType.int) [((0 : Nat), (10 : Nat), (13 : Nat), (19 : Nat))]) ∈ lw_all := lw_g (lw_at lw_m6 125 rfl) rfl
theorem q1421 : (Jvm.Cond.methodLink "CakeDivisionLaw" (100 : Nat) ({ cls := "CakeDivision", name := "release", desc := "(II)I" } : Jvm.MethodName)) ∈ lw_all := lw_g (lw_at lw_m6 126 rfl) rfl
theorem q1430 : (Jvm.Cond.methodLink "CakeDivisionLaw" (304 : Nat) ({ cls := "CakeDivisionLaw", name := "swapShares", desc := "(LCakeDivision;II[J)I" } : Jvm.MethodName)) ∈ lw_all := lw_g (lw_at lw_m6 135 rfl) rfl
theorem q1431 : (Jvm.Cond.static ({ cls := "CakeDivisionLaw", name := "swapShares", desc := "(LCakeDivision;II[J)I" } : Jvm.MethodName)) ∈ lw_all := lw_g (lw_at lw_m6 136 rfl) rfl
theorem q1432 : (Jvm.Cond.codeWith ({ cls := "CakeDivisionLaw", name := "swapShares", desc := "(LCakeDivision;II[J)I" } : Jvm.MethodName) method_29_code (5 : Nat) (Option.some Jvm.ClassFile.FieldType.int) [((0 : Nat), (10 : Nat), (13 : Nat), (29 : Nat)), ((0 : Nat), (10 : Nat), (17 : Nat), (13 : Nat))]) ∈ lw_all := lw_g (lw_at lw_m6 137 rfl) rfl
theorem q1433 : (Jvm.Cond.methodLink "CakeDivisionLaw" (103 : Nat) ({ cls := "CakeDivision", name := "swapShares", desc := "(II)I" } : Jvm.MethodName)) ∈ lw_all := lw_g (lw_at lw_m6 138 rfl) rfl
theorem q1441 : (Jvm.Cond.methodLink "CakeDivisionLaw" (307 : Nat) ({ cls := "CakeDivisionLaw", name := "setValue", desc := "(LCakeDivision;III[J)I" } : Jvm.MethodName)) ∈ lw_all := lw_g (lw_at lw_m6 146 rfl) rfl
theorem q1442 : (Jvm.Cond.static ({ cls := "CakeDivisionLaw", name := "setValue", desc := "(LCakeDivision;III[J)I" } : Jvm.MethodName)) ∈ lw_all := lw_g (lw_at lw_m6 147 rfl) rfl
theorem q1443 : (Jvm.Cond.codeWith ({ cls := "CakeDivisionLaw", name := "setValue", desc := "(LCakeDivision;III[J)I" } : Jvm.MethodName) method_30_code (6 : Nat) (Option.some Jvm.ClassFile.FieldType.int) [((0 : Nat), (12 : Nat), (15 : Nat), (29 : Nat)), ((0 : Nat), (12 : Nat), (19 : Nat), (19 : Nat))]) ∈ lw_all := lw_g (lw_at lw_m6 148 rfl) rfl
theorem q1444 : (Jvm.Cond.methodLink "CakeDivisionLaw" (106 : Nat) ({ cls := "CakeDivision", name := "setValue", desc := "(III)I" } : Jvm.MethodName)) ∈ lw_all := lw_g (lw_at lw_m6 149 rfl) rfl
theorem q1460 : (Jvm.Cond.methodLink "CakeDivisionLaw" (310 : Nat) ({ cls := "CakeDivisionLaw", name := "divideAndChoose", desc := "(LCakeDivision;II[J)I" } : Jvm.MethodName)) ∈ lw_all := lw_g (lw_at lw_m6 165 rfl) rfl
theorem q1461 : (Jvm.Cond.static ({ cls := "CakeDivisionLaw", name := "divideAndChoose", desc := "(LCakeDivision;II[J)I" } : Jvm.MethodName)) ∈ lw_all := lw_g (lw_at lw_m6 166 rfl) rfl
theorem q1462 : (Jvm.Cond.codeWith ({ cls := "CakeDivisionLaw", name := "divideAndChoose", desc := "(LCakeDivision;II[J)I" } : Jvm.MethodName) method_31_code (5 : Nat) (Option.some Jvm.ClassFile.FieldType.int) [((0 : Nat), (10 : Nat), (13 : Nat), (29 : Nat)), ((0 : Nat), (10 : Nat), (17 : Nat), (13 : Nat))]) ∈ lw_all := lw_g (lw_at lw_m6 167 rfl) rfl
theorem q1463 : (Jvm.Cond.methodLink "CakeDivisionLaw" (109 : Nat) ({ cls := "CakeDivision", name := "divideAndChoose", desc := "(II)I" } : Jvm.MethodName)) ∈ lw_all := lw_g (lw_at lw_m6 168 rfl) rfl
theorem q1476 : (Jvm.Cond.methodLink "CakeDivisionLaw" (317 : Nat) ({ cls := "CakeDivisionLaw", name := "roundRobin", desc := "(LCakeDivision;I[J)I" } : Jvm.MethodName)) ∈ lw_all := lw_g (lw_at lw_m6 181 rfl) rfl
theorem q1477 : (Jvm.Cond.static ({ cls := "CakeDivisionLaw", name := "roundRobin", desc := "(LCakeDivision;I[J)I" } : Jvm.MethodName)) ∈ lw_all := lw_g (lw_at lw_m6 182 rfl) rfl
theorem q1478 : (Jvm.Cond.codeWith ({ cls := "CakeDivisionLaw", name := "roundRobin", desc := "(LCakeDivision;I[J)I" } : Jvm.MethodName) method_32_code (4 : Nat) (Option.some Jvm.ClassFile.FieldType.int) [((0 : Nat), (9 : Nat), (12 : Nat), (29 : Nat))]) ∈ lw_all := lw_g (lw_at lw_m6 183 rfl) rfl
theorem q1479 : (Jvm.Cond.methodLink "CakeDivisionLaw" (112 : Nat) ({ cls := "CakeDivision", name := "roundRobin", desc := "(I)I" } : Jvm.MethodName)) ∈ lw_all := lw_g (lw_at lw_m6 184 rfl) rfl
theorem q1487 : (Jvm.Cond.methodLink "CakeDivisionLaw" (320 : Nat) ({ cls := "CakeDivisionLaw", name := "rotate", desc := "(LCakeDivision;I[J)I" } : Jvm.MethodName)) ∈ lw_all := lw_g (lw_at lw_m6 192 rfl) rfl
theorem q1488 : (Jvm.Cond.static ({ cls := "CakeDivisionLaw", name := "rotate", desc := "(LCakeDivision;I[J)I" } : Jvm.MethodName)) ∈ lw_all := lw_g (lw_at lw_m6 193 rfl) rfl
theorem q1489 : (Jvm.Cond.codeWith ({ cls := "CakeDivisionLaw", name := "rotate", desc := "(LCakeDivision;I[J)I" } : Jvm.MethodName) method_33_code (4 : Nat) (Option.some Jvm.ClassFile.FieldType.int) [((0 : Nat), (9 : Nat), (12 : Nat), (29 : Nat)), ((0 : Nat), (9 : Nat), (15 : Nat), (13 : Nat))]) ∈ lw_all := lw_g (lw_at lw_m6 194 rfl) rfl
theorem q1490 : (Jvm.Cond.methodLink "CakeDivisionLaw" (115 : Nat) ({ cls := "CakeDivision", name := "rotate", desc := "(I)I" } : Jvm.MethodName)) ∈ lw_all := lw_g (lw_at lw_m6 195 rfl) rfl
theorem q1498 : (Jvm.Cond.methodLink "CakeDivisionLaw" (323 : Nat) ({ cls := "CakeDivisionLaw", name := "runScript", desc := "(LCakeDivision;[J)I" } : Jvm.MethodName)) ∈ lw_all := lw_g (lw_at lw_m6 203 rfl) rfl
theorem q1499 : (Jvm.Cond.static ({ cls := "CakeDivisionLaw", name := "runScript", desc := "(LCakeDivision;[J)I" } : Jvm.MethodName)) ∈ lw_all := lw_g (lw_at lw_m6 204 rfl) rfl
theorem q1500 : (Jvm.Cond.codeWith ({ cls := "CakeDivisionLaw", name := "runScript", desc := "(LCakeDivision;[J)I" } : Jvm.MethodName) method_34_code (3 : Nat) (Option.some Jvm.ClassFile.FieldType.int) [((0 : Nat), (8 : Nat), (11 : Nat), (19 : Nat))]) ∈ lw_all := lw_g (lw_at lw_m6 205 rfl) rfl
theorem q1501 : (Jvm.Cond.methodLink "CakeDivisionLaw" (118 : Nat) ({ cls := "CakeDivision", name := "runScript", desc := "()I" } : Jvm.MethodName)) ∈ lw_all := lw_g (lw_at lw_m6 206 rfl) rfl
theorem q1541 : (Jvm.Cond.methodLink "CakeDivisionLaw" (326 : Nat) ({ cls := "CakeDivisionLaw", name := "undo", desc := "(LCakeDivision;[J)I" } : Jvm.MethodName)) ∈ lw_all := lw_g (lw_at lw_m7 6 rfl) rfl
theorem q1542 : (Jvm.Cond.static ({ cls := "CakeDivisionLaw", name := "undo", desc := "(LCakeDivision;[J)I" } : Jvm.MethodName)) ∈ lw_all := lw_g (lw_at lw_m7 7 rfl) rfl
theorem q1543 : (Jvm.Cond.codeWith ({ cls := "CakeDivisionLaw", name := "undo", desc := "(LCakeDivision;[J)I" } : Jvm.MethodName) method_35_code (3 : Nat) (Option.some Jvm.ClassFile.FieldType.int) [((0 : Nat), (8 : Nat), (11 : Nat), (13 : Nat))]) ∈ lw_all := lw_g (lw_at lw_m7 8 rfl) rfl
theorem q1544 : (Jvm.Cond.methodLink "CakeDivisionLaw" (121 : Nat) ({ cls := "CakeDivision", name := "undo", desc := "()I" } : Jvm.MethodName)) ∈ lw_all := lw_g (lw_at lw_m7 9 rfl) rfl
theorem q1563 : (Jvm.Cond.methodLink "CakeDivisionLaw" (329 : Nat) ({ cls := "CakeDivisionLaw", name := "save", desc := "(LCakeDivision;I[J)I" } : Jvm.MethodName)) ∈ lw_all := lw_g (lw_at lw_m7 28 rfl) rfl
theorem q1564 : (Jvm.Cond.static ({ cls := "CakeDivisionLaw", name := "save", desc := "(LCakeDivision;I[J)I" } : Jvm.MethodName)) ∈ lw_all := lw_g (lw_at lw_m7 29 rfl) rfl
theorem q1565 : (Jvm.Cond.codeWith ({ cls := "CakeDivisionLaw", name := "save", desc := "(LCakeDivision;I[J)I" } : Jvm.MethodName) method_36_code (4 : Nat) (Option.some Jvm.ClassFile.FieldType.int) [((0 : Nat), (9 : Nat), (12 : Nat), (29 : Nat))]) ∈ lw_all := lw_g (lw_at lw_m7 30 rfl) rfl
theorem q1566 : (Jvm.Cond.methodLink "CakeDivisionLaw" (124 : Nat) ({ cls := "CakeDivision", name := "save", desc := "(I)I" } : Jvm.MethodName)) ∈ lw_all := lw_g (lw_at lw_m7 31 rfl) rfl
theorem q1570 : (Jvm.Cond.methodLink "CakeDivisionLaw" (332 : Nat) ({ cls := "CakeDivisionLaw", name := "restore", desc := "(LCakeDivision;I[J)I" } : Jvm.MethodName)) ∈ lw_all := lw_g (lw_at lw_m7 35 rfl) rfl
theorem q1571 : (Jvm.Cond.static ({ cls := "CakeDivisionLaw", name := "restore", desc := "(LCakeDivision;I[J)I" } : Jvm.MethodName)) ∈ lw_all := lw_g (lw_at lw_m7 36 rfl) rfl
theorem q1572 : (Jvm.Cond.codeWith ({ cls := "CakeDivisionLaw", name := "restore", desc := "(LCakeDivision;I[J)I" } : Jvm.MethodName) method_37_code (4 : Nat) (Option.some Jvm.ClassFile.FieldType.int) [((0 : Nat), (9 : Nat), (12 : Nat), (29 : Nat)), ((0 : Nat), (9 : Nat), (15 : Nat), (13 : Nat))]) ∈ lw_all := lw_g (lw_at lw_m7 37 rfl) rfl
theorem q1573 : (Jvm.Cond.methodLink "CakeDivisionLaw" (127 : Nat) ({ cls := "CakeDivision", name := "restore", desc := "(I)I" } : Jvm.MethodName)) ∈ lw_all := lw_g (lw_at lw_m7 38 rfl) rfl
theorem q1577 : (Jvm.Cond.methodLink "CakeDivisionLaw" (339 : Nat) ({ cls := "CakeDivisionLaw", name := "outputByte", desc := "(LCakeDivision;I[J)I" } : Jvm.MethodName)) ∈ lw_all := lw_g (lw_at lw_m7 42 rfl) rfl
theorem q1578 : (Jvm.Cond.static ({ cls := "CakeDivisionLaw", name := "outputByte", desc := "(LCakeDivision;I[J)I" } : Jvm.MethodName)) ∈ lw_all := lw_g (lw_at lw_m7 43 rfl) rfl
theorem q1579 : (Jvm.Cond.codeWith ({ cls := "CakeDivisionLaw", name := "outputByte", desc := "(LCakeDivision;I[J)I" } : Jvm.MethodName) method_38_code (4 : Nat) (Option.some Jvm.ClassFile.FieldType.int) [((0 : Nat), (9 : Nat), (12 : Nat), (29 : Nat))]) ∈ lw_all := lw_g (lw_at lw_m7 44 rfl) rfl
theorem q1580 : (Jvm.Cond.methodLink "CakeDivisionLaw" (130 : Nat) ({ cls := "CakeDivision", name := "outputByte", desc := "(I)I" } : Jvm.MethodName)) ∈ lw_all := lw_g (lw_at lw_m7 45 rfl) rfl
theorem q1584 : (Jvm.Cond.methodLink "CakeDivisionLaw" (143 : Nat) ({ cls := "CakeDivisionModel", name := "thrown", desc := "()I" } : Jvm.MethodName)) ∈ lw_all := lw_g (lw_at lw_m7 49 rfl) rfl
theorem q1588 : (Jvm.Cond.classLink "CakeDivisionLaw" (134 : Nat) "CakeDivisionModel") ∈ lw_all := lw_g (lw_at lw_m7 53 rfl) rfl
theorem q1590 : (Jvm.Cond.methodLink "CakeDivisionLaw" (136 : Nat) ({ cls := "CakeDivisionModel", name := "<init>", desc := "()V" } : Jvm.MethodName)) ∈ lw_all := lw_g (lw_at lw_m7 55 rfl) rfl
theorem q1713 : (Jvm.Cond.methodLink "CakeDivisionLaw" (142 : Nat) ({ cls := "CakeDivisionModel", name := "append", desc := "(IIIII)I" } : Jvm.MethodName)) ∈ lw_all := lw_g (lw_at lw_m7 178 rfl) rfl
theorem q1725 : (Jvm.Cond.methodLink "CakeDivisionLaw" (149 : Nat) ({ cls := "CakeDivisionModel", name := "truncate", desc := "(I)I" } : Jvm.MethodName)) ∈ lw_all := lw_g (lw_at lw_m7 190 rfl) rfl
theorem q1729 : (Jvm.Cond.methodLink "CakeDivisionLaw" (153 : Nat) ({ cls := "CakeDivisionModel", name := "load", desc := "()I" } : Jvm.MethodName)) ∈ lw_all := lw_g (lw_at lw_m7 194 rfl) rfl
theorem q1737 : (Jvm.Cond.methodLink "CakeDivisionLaw" (325 : Nat) ({ cls := "CakeDivisionModel", name := "runScript", desc := "()I" } : Jvm.MethodName)) ∈ lw_all := lw_g (lw_at lw_m7 202 rfl) rfl
theorem q1872 : (Jvm.Cond.methodLink "CakeDivisionLaw" (157 : Nat) ({ cls := "CakeDivisionModel", name := "errorCode", desc := "()I" } : Jvm.MethodName)) ∈ lw_all := lw_g (lw_at lw_m8 97 rfl) rfl
theorem q1876 : (Jvm.Cond.methodLink "CakeDivisionLaw" (161 : Nat) ({ cls := "CakeDivisionModel", name := "errorPosition", desc := "()I" } : Jvm.MethodName)) ∈ lw_all := lw_g (lw_at lw_m8 101 rfl) rfl
theorem q1880 : (Jvm.Cond.methodLink "CakeDivisionLaw" (165 : Nat) ({ cls := "CakeDivisionModel", name := "cellCount", desc := "()I" } : Jvm.MethodName)) ∈ lw_all := lw_g (lw_at lw_m8 105 rfl) rfl
theorem q1888 : (Jvm.Cond.methodLink "CakeDivisionLaw" (169 : Nat) ({ cls := "CakeDivisionModel", name := "siblingCount", desc := "()I" } : Jvm.MethodName)) ∈ lw_all := lw_g (lw_at lw_m8 113 rfl) rfl
theorem q1892 : (Jvm.Cond.methodLink "CakeDivisionLaw" (173 : Nat) ({ cls := "CakeDivisionModel", name := "nameByte", desc := "(II)I" } : Jvm.MethodName)) ∈ lw_all := lw_g (lw_at lw_m8 117 rfl) rfl
theorem q1900 : (Jvm.Cond.methodLink "CakeDivisionLaw" (176 : Nat) ({ cls := "CakeDivisionModel", name := "findSibling", desc := "()I" } : Jvm.MethodName)) ∈ lw_all := lw_g (lw_at lw_m8 125 rfl) rfl
theorem q1904 : (Jvm.Cond.methodLink "CakeDivisionLaw" (179 : Nat) ({ cls := "CakeDivisionModel", name := "value", desc := "(II)I" } : Jvm.MethodName)) ∈ lw_all := lw_g (lw_at lw_m8 129 rfl) rfl
theorem q1908 : (Jvm.Cond.methodLink "CakeDivisionLaw" (182 : Nat) ({ cls := "CakeDivisionModel", name := "owner", desc := "(I)I" } : Jvm.MethodName)) ∈ lw_all := lw_g (lw_at lw_m8 133 rfl) rfl
theorem q1912 : (Jvm.Cond.methodLink "CakeDivisionLaw" (186 : Nat) ({ cls := "CakeDivisionModel", name := "worth", desc := "(III)I" } : Jvm.MethodName)) ∈ lw_all := lw_g (lw_at lw_m8 137 rfl) rfl
theorem q1916 : (Jvm.Cond.methodLink "CakeDivisionLaw" (189 : Nat) ({ cls := "CakeDivisionModel", name := "total", desc := "(I)I" } : Jvm.MethodName)) ∈ lw_all := lw_g (lw_at lw_m8 141 rfl) rfl
theorem q1920 : (Jvm.Cond.methodLink "CakeDivisionLaw" (192 : Nat) ({ cls := "CakeDivisionModel", name := "worthOfShare", desc := "(II)I" } : Jvm.MethodName)) ∈ lw_all := lw_g (lw_at lw_m8 145 rfl) rfl
theorem q1928 : (Jvm.Cond.methodLink "CakeDivisionLaw" (195 : Nat) ({ cls := "CakeDivisionModel", name := "shareSize", desc := "(I)I" } : Jvm.MethodName)) ∈ lw_all := lw_g (lw_at lw_m8 153 rfl) rfl
theorem q1936 : (Jvm.Cond.methodLink "CakeDivisionLaw" (198 : Nat) ({ cls := "CakeDivisionModel", name := "pieceCount", desc := "(I)I" } : Jvm.MethodName)) ∈ lw_all := lw_g (lw_at lw_m8 161 rfl) rfl
theorem q1944 : (Jvm.Cond.methodLink "CakeDivisionLaw" (202 : Nat) ({ cls := "CakeDivisionModel", name := "freeCount", desc := "()I" } : Jvm.MethodName)) ∈ lw_all := lw_g (lw_at lw_m8 169 rfl) rfl
theorem q1948 : (Jvm.Cond.methodLink "CakeDivisionLaw" (205 : Nat) ({ cls := "CakeDivisionModel", name := "mark", desc := "(III)I" } : Jvm.MethodName)) ∈ lw_all := lw_g (lw_at lw_m8 173 rfl) rfl
theorem q1952 : (Jvm.Cond.methodLink "CakeDivisionLaw" (208 : Nat) ({ cls := "CakeDivisionModel", name := "favouriteFreeCell", desc := "(I)I" } : Jvm.MethodName)) ∈ lw_all := lw_g (lw_at lw_m8 177 rfl) rfl
theorem q1956 : (Jvm.Cond.methodLink "CakeDivisionLaw" (211 : Nat) ({ cls := "CakeDivisionModel", name := "envies", desc := "(II)Z" } : Jvm.MethodName)) ∈ lw_all := lw_g (lw_at lw_m8 181 rfl) rfl
theorem q1960 : (Jvm.Cond.methodLink "CakeDivisionLaw" (214 : Nat) ({ cls := "CakeDivisionModel", name := "isMild", desc := "(II)Z" } : Jvm.MethodName)) ∈ lw_all := lw_g (lw_at lw_m8 185 rfl) rfl
theorem q1968 : (Jvm.Cond.methodLink "CakeDivisionLaw" (218 : Nat) ({ cls := "CakeDivisionModel", name := "envyCount", desc := "()I" } : Jvm.MethodName)) ∈ lw_all := lw_g (lw_at lw_m8 193 rfl) rfl
theorem q1976 : (Jvm.Cond.methodLink "CakeDivisionLaw" (222 : Nat) ({ cls := "CakeDivisionModel", name := "strongEnvyCount", desc := "()I" } : Jvm.MethodName)) ∈ lw_all := lw_g (lw_at lw_m8 201 rfl) rfl
theorem q1980 : (Jvm.Cond.methodLink "CakeDivisionLaw" (226 : Nat) ({ cls := "CakeDivisionModel", name := "mostEnvied", desc := "()I" } : Jvm.MethodName)) ∈ lw_all := lw_g (lw_at lw_m8 205 rfl) rfl
theorem q1988 : (Jvm.Cond.methodLink "CakeDivisionLaw" (229 : Nat) ({ cls := "CakeDivisionModel", name := "isSatisfied", desc := "(I)Z" } : Jvm.MethodName)) ∈ lw_all := lw_g (lw_at lw_m8 213 rfl) rfl
theorem q1992 : (Jvm.Cond.methodLink "CakeDivisionLaw" (233 : Nat) ({ cls := "CakeDivisionModel", name := "satisfiedCount", desc := "()I" } : Jvm.MethodName)) ∈ lw_all := lw_g (lw_at lw_m8 217 rfl) rfl
theorem q1996 : (Jvm.Cond.methodLink "CakeDivisionLaw" (236 : Nat) ({ cls := "CakeDivisionModel", name := "envyCycleLength", desc := "(I)I" } : Jvm.MethodName)) ∈ lw_all := lw_g (lw_at lw_m8 221 rfl) rfl
theorem q2000 : (Jvm.Cond.methodLink "CakeDivisionLaw" (239 : Nat) ({ cls := "CakeDivisionModel", name := "envyCycleMember", desc := "(II)I" } : Jvm.MethodName)) ∈ lw_all := lw_g (lw_at lw_m8 225 rfl) rfl
theorem q2004 : (Jvm.Cond.methodLink "CakeDivisionLaw" (242 : Nat) ({ cls := "CakeDivisionModel", name := "wouldSwap", desc := "(II)Z" } : Jvm.MethodName)) ∈ lw_all := lw_g (lw_at lw_m8 229 rfl) rfl
theorem q2008 : (Jvm.Cond.methodLink "CakeDivisionLaw" (246 : Nat) ({ cls := "CakeDivisionModel", name := "totalWelfare", desc := "()I" } : Jvm.MethodName)) ∈ lw_all := lw_g (lw_at lw_m8 233 rfl) rfl
theorem q2012 : (Jvm.Cond.methodLink "CakeDivisionLaw" (250 : Nat) ({ cls := "CakeDivisionModel", name := "leastWelfare", desc := "()I" } : Jvm.MethodName)) ∈ lw_all := lw_g (lw_at lw_m8 237 rfl) rfl
theorem q2020 : (Jvm.Cond.methodLink "CakeDivisionLaw" (255 : Nat) ({ cls := "CakeDivisionModel", name := "welfareProduct", desc := "()J" } : Jvm.MethodName)) ∈ lw_all := lw_g (lw_at lw_m9 5 rfl) rfl
theorem q2024 : (Jvm.Cond.methodLink "CakeDivisionLaw" (259 : Nat) ({ cls := "CakeDivisionModel", name := "greatestTotalWelfare", desc := "()I" } : Jvm.MethodName)) ∈ lw_all := lw_g (lw_at lw_m9 9 rfl) rfl
theorem q2028 : (Jvm.Cond.methodLink "CakeDivisionLaw" (263 : Nat) ({ cls := "CakeDivisionModel", name := "greatestContiguousWelfare", desc := "()I" } : Jvm.MethodName)) ∈ lw_all := lw_g (lw_at lw_m9 13 rfl) rfl
theorem q2040 : (Jvm.Cond.methodLink "CakeDivisionLaw" (267 : Nat) ({ cls := "CakeDivisionModel", name := "bestLeastWelfare", desc := "()I" } : Jvm.MethodName)) ∈ lw_all := lw_g (lw_at lw_m9 25 rfl) rfl
theorem q2060 : (Jvm.Cond.methodLink "CakeDivisionLaw" (271 : Nat) ({ cls := "CakeDivisionModel", name := "cutCount", desc := "()I" } : Jvm.MethodName)) ∈ lw_all := lw_g (lw_at lw_m9 45 rfl) rfl
theorem q2064 : (Jvm.Cond.methodLink "CakeDivisionLaw" (275 : Nat) ({ cls := "CakeDivisionModel", name := "satisfaction", desc := "(I)F" } : Jvm.MethodName)) ∈ lw_all := lw_g (lw_at lw_m9 49 rfl) rfl
theorem q2068 : (Jvm.Cond.methodLink "CakeDivisionLaw" (280 : Nat) ({ cls := "CakeDivisionModel", name := "meanPieces", desc := "()D" } : Jvm.MethodName)) ∈ lw_all := lw_g (lw_at lw_m9 53 rfl) rfl
theorem q2072 : (Jvm.Cond.methodLink "CakeDivisionLaw" (284 : Nat) ({ cls := "CakeDivisionModel", name := "inconsistencies", desc := "()I" } : Jvm.MethodName)) ∈ lw_all := lw_g (lw_at lw_m9 57 rfl) rfl
theorem q2076 : (Jvm.Cond.methodLink "CakeDivisionLaw" (287 : Nat) ({ cls := "CakeDivisionModel", name := "cutFor", desc := "(I)I" } : Jvm.MethodName)) ∈ lw_all := lw_g (lw_at lw_m9 61 rfl) rfl
theorem q2080 : (Jvm.Cond.methodLink "CakeDivisionLaw" (290 : Nat) ({ cls := "CakeDivisionModel", name := "welfareByKnife", desc := "(I)I" } : Jvm.MethodName)) ∈ lw_all := lw_g (lw_at lw_m9 65 rfl) rfl
theorem q2084 : (Jvm.Cond.methodLink "CakeDivisionLaw" (293 : Nat) ({ cls := "CakeDivisionModel", name := "welfareByRobin", desc := "(II)I" } : Jvm.MethodName)) ∈ lw_all := lw_g (lw_at lw_m9 69 rfl) rfl
theorem q2088 : (Jvm.Cond.methodLink "CakeDivisionLaw" (297 : Nat) ({ cls := "CakeDivisionModel", name := "bestFirst", desc := "()I" } : Jvm.MethodName)) ∈ lw_all := lw_g (lw_at lw_m9 73 rfl) rfl
theorem q2092 : (Jvm.Cond.methodLink "CakeDivisionLaw" (300 : Nat) ({ cls := "CakeDivisionModel", name := "give", desc := "(III)I" } : Jvm.MethodName)) ∈ lw_all := lw_g (lw_at lw_m9 77 rfl) rfl
theorem q2096 : (Jvm.Cond.methodLink "CakeDivisionLaw" (303 : Nat) ({ cls := "CakeDivisionModel", name := "release", desc := "(II)I" } : Jvm.MethodName)) ∈ lw_all := lw_g (lw_at lw_m9 81 rfl) rfl
theorem q2100 : (Jvm.Cond.methodLink "CakeDivisionLaw" (306 : Nat) ({ cls := "CakeDivisionModel", name := "swapShares", desc := "(II)I" } : Jvm.MethodName)) ∈ lw_all := lw_g (lw_at lw_m9 85 rfl) rfl
theorem q2104 : (Jvm.Cond.methodLink "CakeDivisionLaw" (309 : Nat) ({ cls := "CakeDivisionModel", name := "setValue", desc := "(III)I" } : Jvm.MethodName)) ∈ lw_all := lw_g (lw_at lw_m9 89 rfl) rfl
theorem q2108 : (Jvm.Cond.methodLink "CakeDivisionLaw" (312 : Nat) ({ cls := "CakeDivisionModel", name := "divideAndChoose", desc := "(II)I" } : Jvm.MethodName)) ∈ lw_all := lw_g (lw_at lw_m9 93 rfl) rfl
theorem q2112 : (Jvm.Cond.methodLink "CakeDivisionLaw" (316 : Nat) ({ cls := "CakeDivisionModel", name := "movingKnife", desc := "()I" } : Jvm.MethodName)) ∈ lw_all := lw_g (lw_at lw_m9 97 rfl) rfl
theorem q2116 : (Jvm.Cond.methodLink "CakeDivisionLaw" (319 : Nat) ({ cls := "CakeDivisionModel", name := "roundRobin", desc := "(I)I" } : Jvm.MethodName)) ∈ lw_all := lw_g (lw_at lw_m9 101 rfl) rfl
theorem q2120 : (Jvm.Cond.methodLink "CakeDivisionLaw" (322 : Nat) ({ cls := "CakeDivisionModel", name := "rotate", desc := "(I)I" } : Jvm.MethodName)) ∈ lw_all := lw_g (lw_at lw_m9 105 rfl) rfl
theorem q2124 : (Jvm.Cond.methodLink "CakeDivisionLaw" (328 : Nat) ({ cls := "CakeDivisionModel", name := "undo", desc := "()I" } : Jvm.MethodName)) ∈ lw_all := lw_g (lw_at lw_m9 109 rfl) rfl
theorem q2128 : (Jvm.Cond.methodLink "CakeDivisionLaw" (331 : Nat) ({ cls := "CakeDivisionModel", name := "save", desc := "(I)I" } : Jvm.MethodName)) ∈ lw_all := lw_g (lw_at lw_m9 113 rfl) rfl
theorem q2132 : (Jvm.Cond.methodLink "CakeDivisionLaw" (334 : Nat) ({ cls := "CakeDivisionModel", name := "restore", desc := "(I)I" } : Jvm.MethodName)) ∈ lw_all := lw_g (lw_at lw_m9 117 rfl) rfl
theorem q2136 : (Jvm.Cond.methodLink "CakeDivisionLaw" (338 : Nat) ({ cls := "CakeDivisionModel", name := "writeOwners", desc := "()I" } : Jvm.MethodName)) ∈ lw_all := lw_g (lw_at lw_m9 121 rfl) rfl
theorem q2148 : (Jvm.Cond.methodLink "CakeDivisionLaw" (341 : Nat) ({ cls := "CakeDivisionModel", name := "outputByte", desc := "(I)I" } : Jvm.MethodName)) ∈ lw_all := lw_g (lw_at lw_m9 133 rfl) rfl
/-! java/lang/IllegalStateException -/
set_option maxRecDepth 100000
def RJ19 : String := "java/lang/IllegalStateException"
def TJ19 : u_T := fun k => match k with
  | 0 => ("java/lang/Throwable", "cause", "Ljava/lang/Throwable;", false)
  | 1 => ("java/lang/Throwable", "stackTrace", "[Ljava/lang/StackTraceElement;", false)
  | 2 => ("java/lang/Throwable", "suppressedExceptions", "Ljava/util/List;", false)
  | 3 => ("java/lang/Throwable", "detailMessage", "Ljava/lang/String;", false)
  | 4 => ("java/lang/Throwable", "backtrace", "Ljava/lang/Object;", false)
  | _ => ("java/lang/Throwable", "depth", "I", false)
def tyJ19 : Nat → FieldType := fun k => match k with
  | 0 => .object "java/lang/Throwable"
  | 1 => .array (.object "java/lang/StackTraceElement")
  | 2 => .object "java/util/List"
  | 3 => .object "java/lang/String"
  | 4 => .object "java/lang/Object"
  | _ => .int
abbrev wsJ190 : List Cond := u_ws RJ19 TJ19 6
theorem nmJ19 : ∀ a, a < 6 → ∀ b, b < 6 → a ≠ b → (TJ19 a).2.1 ≠ (TJ19 b).2.1 := by decide +kernel
theorem tyJ19_ok : ∀ k, k < 6 → parseFieldDescriptor (TJ19 k).2.2.1 = some (tyJ19 k) := by decide +kernel
abbrev cJ19_init : ByteArray := prog_19_method_2_code
def yJ19_init : MethodName := ⟨RJ19, "<init>", "(Ljava/lang/String;)V"⟩
def dkwJ19_init_0 : List UInt8 := [42, 43, 183, 0, 7, 177]
abbrev dktJ19_init_0 : List UInt8 := dkwJ19_init_0 ++ []
theorem dksJ19_init_0 : cJ19_init.data.toList.drop 0 = dktJ19_init_0 := by decide +kernel
theorem dJ19_init_0 : decode cJ19_init 0 = .ok (.aload_n 0, 1) := dk_42 (dk_at dksJ19_init_0 0 rfl rfl)
theorem dJ19_init_1 : decode cJ19_init 1 = .ok (.aload_n 1, 1) := dk_43 (dk_at dksJ19_init_0 1 rfl rfl)
theorem dJ19_init_2 : decode cJ19_init 2 = .ok (.invokespecial 7, 3) := dk_183 0 7 (dk_at dksJ19_init_0 2 rfl rfl)
theorem dJ19_init_5 : decode cJ19_init 5 = .ok (.return_, 1) := dk_177 (dk_at dksJ19_init_0 5 rfl rfl)
abbrev cJ19_init_2 : ByteArray := prog_19_method_1_code
def yJ19_init_2 : MethodName := ⟨RJ19, "<init>", "()V"⟩
theorem dJ19_init_2_0 : decode cJ19_init_2 0 = .ok (.aload_n 0, 1) := by decide +kernel
theorem dJ19_init_2_1 : decode cJ19_init_2 1 = .ok (.invokespecial 1, 3) := by decide +kernel
theorem dJ19_init_2_4 : decode cJ19_init_2 4 = .ok (.return_, 1) := by decide +kernel
theorem q123 : (Jvm.Cond.initialized "java/lang/IllegalStateException") ∈ lw_all := lw_g (lw_at lw_m1 28 rfl) rfl
theorem q199 : (Jvm.Cond.selects "java/lang/IllegalStateException" ({ cls := "java/lang/Throwable", name := "fillInStackTrace", desc := "()Ljava/lang/Throwable;" } : Jvm.MethodName) ({ cls := "java/lang/Throwable", name := "fillInStackTrace", desc := "()Ljava/lang/Throwable;" } : Jvm.MethodName)) ∈ lw_all := lw_g (lw_at lw_m1 104 rfl) rfl
theorem q740 : (Jvm.Cond.selects "java/lang/IllegalStateException" ({ cls := "java/lang/Object", name := "getClass", desc := "()Ljava/lang/Class;" } : Jvm.MethodName) ({ cls := "java/lang/Object", name := "getClass", desc := "()Ljava/lang/Class;" } : Jvm.MethodName)) ∈ lw_all := lw_g (lw_at lw_m3 165 rfl) rfl
theorem q1066 : (Jvm.Cond.instantiable "java/lang/IllegalStateException" (6 : Nat)) ∈ lw_all := lw_g (lw_at lw_m5 11 rfl) rfl
theorem q1067 : (Jvm.Cond.castable "java/lang/IllegalStateException" "java/lang/IllegalStateException") ∈ lw_tbl := lw_at lw_m5 12 rfl
theorem q1068 : (Jvm.Cond.selects "java/lang/IllegalStateException" ({ cls := "java/lang/Throwable", name := "fillInStackTrace", desc := "(I)Ljava/lang/Throwable;" } : Jvm.MethodName) ({ cls := "java/lang/Throwable", name := "fillInStackTrace", desc := "(I)Ljava/lang/Throwable;" } : Jvm.MethodName)) ∈ lw_all := lw_g (lw_at lw_m5 13 rfl) rfl
theorem q1069 : (Jvm.Cond.lays "java/lang/IllegalStateException" "java/lang/Throwable" "cause" "Ljava/lang/Throwable;") ∈ lw_all := lw_g (lw_at lw_m5 14 rfl) rfl
theorem q1070 : (Jvm.Cond.lays "java/lang/IllegalStateException" "java/lang/Throwable" "stackTrace" "[Ljava/lang/StackTraceElement;") ∈ lw_all := lw_g (lw_at lw_m5 15 rfl) rfl
theorem q1071 : (Jvm.Cond.lays "java/lang/IllegalStateException" "java/lang/Throwable" "suppressedExceptions" "Ljava/util/List;") ∈ lw_all := lw_g (lw_at lw_m5 16 rfl) rfl
theorem q1072 : (Jvm.Cond.lays "java/lang/IllegalStateException" "java/lang/Throwable" "detailMessage" "Ljava/lang/String;") ∈ lw_all := lw_g (lw_at lw_m5 17 rfl) rfl
theorem q1073 : (Jvm.Cond.lays "java/lang/IllegalStateException" "java/lang/Throwable" "backtrace" "Ljava/lang/Object;") ∈ lw_all := lw_g (lw_at lw_m5 18 rfl) rfl
theorem q1076 : (Jvm.Cond.instanceMethod ({ cls := "java/lang/IllegalStateException", name := "<init>", desc := "(Ljava/lang/String;)V" } : Jvm.MethodName)) ∈ lw_all := lw_g (lw_at lw_m5 21 rfl) rfl
theorem q1077 : (Jvm.Cond.code ({ cls := "java/lang/IllegalStateException", name := "<init>", desc := "(Ljava/lang/String;)V" } : Jvm.MethodName) prog_19_method_2_code (2 : Nat) (Option.none : Option Jvm.ClassFile.FieldType)) ∈ lw_all := lw_g (lw_at lw_m5 22 rfl) rfl
theorem q1078 : (Jvm.Cond.methodLink "java/lang/IllegalStateException" (7 : Nat) ({ cls := "java/lang/RuntimeException", name := "<init>", desc := "(Ljava/lang/String;)V" } : Jvm.MethodName)) ∈ lw_all := lw_g (lw_at lw_m5 23 rfl) rfl
theorem q1079 : (Jvm.Cond.lays "java/lang/IllegalStateException" "java/lang/Throwable" "depth" "I") ∈ lw_all := lw_g (lw_at lw_m5 24 rfl) rfl
theorem q1080 : (Jvm.Cond.superclass "java/lang/IllegalStateException" "java/lang/RuntimeException") ∈ lw_all := lw_g (lw_at lw_m5 25 rfl) rfl
theorem q1106 : (Jvm.Cond.instanceMethod ({ cls := "java/lang/IllegalStateException", name := "<init>", desc := "()V" } : Jvm.MethodName)) ∈ lw_all := lw_g (lw_at lw_m5 51 rfl) rfl
theorem q1107 : (Jvm.Cond.code ({ cls := "java/lang/IllegalStateException", name := "<init>", desc := "()V" } : Jvm.MethodName) prog_19_method_1_code (1 : Nat) (Option.none : Option Jvm.ClassFile.FieldType)) ∈ lw_all := lw_g (lw_at lw_m5 52 rfl) rfl
theorem q1108 : (Jvm.Cond.methodLink "java/lang/IllegalStateException" (1 : Nat) ({ cls := "java/lang/RuntimeException", name := "<init>", desc := "()V" } : Jvm.MethodName)) ∈ lw_all := lw_g (lw_at lw_m5 53 rfl) rfl
theorem q2176 : (Jvm.Cond.castable "java/lang/IllegalStateException" "java/lang/Object") ∈ lw_tbl := lw_at lw_m9 161 rfl
theorem in_J19 : ∀ w ∈ wsJ190, w ∈ lw_all := lw_in wsJ190 [1069, 1070, 1071, 1072, 1073, 1079] (by decide +kernel) (by decide +kernel)
/-! java/lang/IllegalArgumentException -/
set_option maxRecDepth 100000
def RJ6 : String := "java/lang/IllegalArgumentException"
def TJ6 : u_T := fun k => match k with
  | 0 => ("java/lang/Throwable", "cause", "Ljava/lang/Throwable;", false)
  | 1 => ("java/lang/Throwable", "stackTrace", "[Ljava/lang/StackTraceElement;", false)
  | 2 => ("java/lang/Throwable", "suppressedExceptions", "Ljava/util/List;", false)
  | 3 => ("java/lang/Throwable", "detailMessage", "Ljava/lang/String;", false)
  | 4 => ("java/lang/Throwable", "backtrace", "Ljava/lang/Object;", false)
  | _ => ("java/lang/Throwable", "depth", "I", false)
def tyJ6 : Nat → FieldType := fun k => match k with
  | 0 => .object "java/lang/Throwable"
  | 1 => .array (.object "java/lang/StackTraceElement")
  | 2 => .object "java/util/List"
  | 3 => .object "java/lang/String"
  | 4 => .object "java/lang/Object"
  | _ => .int
abbrev wsJ60 : List Cond := u_ws RJ6 TJ6 6
theorem nmJ6 : ∀ a, a < 6 → ∀ b, b < 6 → a ≠ b → (TJ6 a).2.1 ≠ (TJ6 b).2.1 := by decide +kernel
theorem tyJ6_ok : ∀ k, k < 6 → parseFieldDescriptor (TJ6 k).2.2.1 = some (tyJ6 k) := by decide +kernel
abbrev cJ6_init : ByteArray := prog_18_method_2_code
def yJ6_init : MethodName := ⟨RJ6, "<init>", "(Ljava/lang/String;)V"⟩
def dkwJ6_init_0 : List UInt8 := [42, 43, 183, 0, 7, 177]
abbrev dktJ6_init_0 : List UInt8 := dkwJ6_init_0 ++ []
theorem dksJ6_init_0 : cJ6_init.data.toList.drop 0 = dktJ6_init_0 := by decide +kernel
theorem dJ6_init_0 : decode cJ6_init 0 = .ok (.aload_n 0, 1) := dk_42 (dk_at dksJ6_init_0 0 rfl rfl)
theorem dJ6_init_1 : decode cJ6_init 1 = .ok (.aload_n 1, 1) := dk_43 (dk_at dksJ6_init_0 1 rfl rfl)
theorem dJ6_init_2 : decode cJ6_init 2 = .ok (.invokespecial 7, 3) := dk_183 0 7 (dk_at dksJ6_init_0 2 rfl rfl)
theorem dJ6_init_5 : decode cJ6_init 5 = .ok (.return_, 1) := dk_177 (dk_at dksJ6_init_0 5 rfl rfl)
abbrev cJ6_init_2 : ByteArray := prog_18_method_1_code
def yJ6_init_2 : MethodName := ⟨RJ6, "<init>", "()V"⟩
theorem dJ6_init_2_0 : decode cJ6_init_2 0 = .ok (.aload_n 0, 1) := by decide +kernel
theorem dJ6_init_2_1 : decode cJ6_init_2 1 = .ok (.invokespecial 1, 3) := by decide +kernel
theorem dJ6_init_2_4 : decode cJ6_init_2 4 = .ok (.return_, 1) := by decide +kernel
theorem q104 : (Jvm.Cond.initialized "java/lang/IllegalArgumentException") ∈ lw_all := lw_g (lw_at lw_m1 9 rfl) rfl
theorem q165 : (Jvm.Cond.instantiable "java/lang/IllegalArgumentException" (6 : Nat)) ∈ lw_all := lw_g (lw_at lw_m1 70 rfl) rfl
theorem q166 : (Jvm.Cond.castable "java/lang/IllegalArgumentException" "java/lang/IllegalArgumentException") ∈ lw_tbl := lw_at lw_m1 71 rfl
theorem q173 : (Jvm.Cond.selects "java/lang/IllegalArgumentException" ({ cls := "java/lang/Throwable", name := "fillInStackTrace", desc := "(I)Ljava/lang/Throwable;" } : Jvm.MethodName) ({ cls := "java/lang/Throwable", name := "fillInStackTrace", desc := "(I)Ljava/lang/Throwable;" } : Jvm.MethodName)) ∈ lw_all := lw_g (lw_at lw_m1 78 rfl) rfl
theorem q174 : (Jvm.Cond.selects "java/lang/IllegalArgumentException" ({ cls := "java/lang/Throwable", name := "fillInStackTrace", desc := "()Ljava/lang/Throwable;" } : Jvm.MethodName) ({ cls := "java/lang/Throwable", name := "fillInStackTrace", desc := "()Ljava/lang/Throwable;" } : Jvm.MethodName)) ∈ lw_all := lw_g (lw_at lw_m1 79 rfl) rfl
theorem q175 : (Jvm.Cond.lays "java/lang/IllegalArgumentException" "java/lang/Throwable" "cause" "Ljava/lang/Throwable;") ∈ lw_all := lw_g (lw_at lw_m1 80 rfl) rfl
theorem q177 : (Jvm.Cond.lays "java/lang/IllegalArgumentException" "java/lang/Throwable" "stackTrace" "[Ljava/lang/StackTraceElement;") ∈ lw_all := lw_g (lw_at lw_m1 82 rfl) rfl
theorem q179 : (Jvm.Cond.lays "java/lang/IllegalArgumentException" "java/lang/Throwable" "suppressedExceptions" "Ljava/util/List;") ∈ lw_all := lw_g (lw_at lw_m1 84 rfl) rfl
theorem q181 : (Jvm.Cond.lays "java/lang/IllegalArgumentException" "java/lang/Throwable" "detailMessage" "Ljava/lang/String;") ∈ lw_all := lw_g (lw_at lw_m1 86 rfl) rfl
theorem q183 : (Jvm.Cond.lays "java/lang/IllegalArgumentException" "java/lang/Throwable" "backtrace" "Ljava/lang/Object;") ∈ lw_all := lw_g (lw_at lw_m1 88 rfl) rfl
theorem q430 : (Jvm.Cond.instanceMethod ({ cls := "java/lang/IllegalArgumentException", name := "<init>", desc := "(Ljava/lang/String;)V" } : Jvm.MethodName)) ∈ lw_all := lw_g (lw_at lw_m2 95 rfl) rfl
theorem q431 : (Jvm.Cond.code ({ cls := "java/lang/IllegalArgumentException", name := "<init>", desc := "(Ljava/lang/String;)V" } : Jvm.MethodName) prog_18_method_2_code (2 : Nat) (Option.none : Option Jvm.ClassFile.FieldType)) ∈ lw_all := lw_g (lw_at lw_m2 96 rfl) rfl
theorem q432 : (Jvm.Cond.methodLink "java/lang/IllegalArgumentException" (7 : Nat) ({ cls := "java/lang/RuntimeException", name := "<init>", desc := "(Ljava/lang/String;)V" } : Jvm.MethodName)) ∈ lw_all := lw_g (lw_at lw_m2 97 rfl) rfl
theorem q450 : (Jvm.Cond.lays "java/lang/IllegalArgumentException" "java/lang/Throwable" "depth" "I") ∈ lw_all := lw_g (lw_at lw_m2 115 rfl) rfl
theorem q453 : (Jvm.Cond.superclass "java/lang/IllegalArgumentException" "java/lang/RuntimeException") ∈ lw_all := lw_g (lw_at lw_m2 118 rfl) rfl
theorem q739 : (Jvm.Cond.selects "java/lang/IllegalArgumentException" ({ cls := "java/lang/Object", name := "getClass", desc := "()Ljava/lang/Class;" } : Jvm.MethodName) ({ cls := "java/lang/Object", name := "getClass", desc := "()Ljava/lang/Class;" } : Jvm.MethodName)) ∈ lw_all := lw_g (lw_at lw_m3 164 rfl) rfl
theorem q1123 : (Jvm.Cond.instanceMethod ({ cls := "java/lang/IllegalArgumentException", name := "<init>", desc := "()V" } : Jvm.MethodName)) ∈ lw_all := lw_g (lw_at lw_m5 68 rfl) rfl
theorem q1124 : (Jvm.Cond.code ({ cls := "java/lang/IllegalArgumentException", name := "<init>", desc := "()V" } : Jvm.MethodName) prog_18_method_1_code (1 : Nat) (Option.none : Option Jvm.ClassFile.FieldType)) ∈ lw_all := lw_g (lw_at lw_m5 69 rfl) rfl
theorem q1125 : (Jvm.Cond.methodLink "java/lang/IllegalArgumentException" (1 : Nat) ({ cls := "java/lang/RuntimeException", name := "<init>", desc := "()V" } : Jvm.MethodName)) ∈ lw_all := lw_g (lw_at lw_m5 70 rfl) rfl
theorem q2169 : (Jvm.Cond.castable "java/lang/IllegalArgumentException" "java/lang/Object") ∈ lw_tbl := lw_at lw_m9 154 rfl
theorem in_J6 : ∀ w ∈ wsJ60, w ∈ lw_all := lw_in wsJ60 [175, 177, 179, 181, 183, 450] (by decide +kernel) (by decide +kernel)
/-! java/lang/IndexOutOfBoundsException -/
set_option maxRecDepth 100000
def RJ20 : String := "java/lang/IndexOutOfBoundsException"
def TJ20 : u_T := fun k => match k with
  | 0 => ("java/lang/Throwable", "cause", "Ljava/lang/Throwable;", false)
  | 1 => ("java/lang/Throwable", "stackTrace", "[Ljava/lang/StackTraceElement;", false)
  | 2 => ("java/lang/Throwable", "suppressedExceptions", "Ljava/util/List;", false)
  | 3 => ("java/lang/Throwable", "detailMessage", "Ljava/lang/String;", false)
  | 4 => ("java/lang/Throwable", "backtrace", "Ljava/lang/Object;", false)
  | _ => ("java/lang/Throwable", "depth", "I", false)
def tyJ20 : Nat → FieldType := fun k => match k with
  | 0 => .object "java/lang/Throwable"
  | 1 => .array (.object "java/lang/StackTraceElement")
  | 2 => .object "java/util/List"
  | 3 => .object "java/lang/String"
  | 4 => .object "java/lang/Object"
  | _ => .int
abbrev wsJ200 : List Cond := u_ws RJ20 TJ20 6
theorem nmJ20 : ∀ a, a < 6 → ∀ b, b < 6 → a ≠ b → (TJ20 a).2.1 ≠ (TJ20 b).2.1 := by decide +kernel
theorem tyJ20_ok : ∀ k, k < 6 → parseFieldDescriptor (TJ20 k).2.2.1 = some (tyJ20 k) := by decide +kernel
abbrev cJ20_init : ByteArray := prog_20_method_2_code
def yJ20_init : MethodName := ⟨RJ20, "<init>", "(Ljava/lang/String;)V"⟩
def dkwJ20_init_0 : List UInt8 := [42, 43, 183, 0, 7, 177]
abbrev dktJ20_init_0 : List UInt8 := dkwJ20_init_0 ++ []
theorem dksJ20_init_0 : cJ20_init.data.toList.drop 0 = dktJ20_init_0 := by decide +kernel
theorem dJ20_init_0 : decode cJ20_init 0 = .ok (.aload_n 0, 1) := dk_42 (dk_at dksJ20_init_0 0 rfl rfl)
theorem dJ20_init_1 : decode cJ20_init 1 = .ok (.aload_n 1, 1) := dk_43 (dk_at dksJ20_init_0 1 rfl rfl)
theorem dJ20_init_2 : decode cJ20_init 2 = .ok (.invokespecial 7, 3) := dk_183 0 7 (dk_at dksJ20_init_0 2 rfl rfl)
theorem dJ20_init_5 : decode cJ20_init 5 = .ok (.return_, 1) := dk_177 (dk_at dksJ20_init_0 5 rfl rfl)
abbrev cJ20_init_2 : ByteArray := prog_20_method_1_code
def yJ20_init_2 : MethodName := ⟨RJ20, "<init>", "()V"⟩
theorem dJ20_init_2_0 : decode cJ20_init_2 0 = .ok (.aload_n 0, 1) := by decide +kernel
theorem dJ20_init_2_1 : decode cJ20_init_2 1 = .ok (.invokespecial 1, 3) := by decide +kernel
theorem dJ20_init_2_4 : decode cJ20_init_2 4 = .ok (.return_, 1) := by decide +kernel
theorem q124 : (Jvm.Cond.initialized "java/lang/IndexOutOfBoundsException") ∈ lw_all := lw_g (lw_at lw_m1 29 rfl) rfl
theorem q200 : (Jvm.Cond.selects "java/lang/IndexOutOfBoundsException" ({ cls := "java/lang/Throwable", name := "fillInStackTrace", desc := "()Ljava/lang/Throwable;" } : Jvm.MethodName) ({ cls := "java/lang/Throwable", name := "fillInStackTrace", desc := "()Ljava/lang/Throwable;" } : Jvm.MethodName)) ∈ lw_all := lw_g (lw_at lw_m1 105 rfl) rfl
theorem q741 : (Jvm.Cond.selects "java/lang/IndexOutOfBoundsException" ({ cls := "java/lang/Object", name := "getClass", desc := "()Ljava/lang/Class;" } : Jvm.MethodName) ({ cls := "java/lang/Object", name := "getClass", desc := "()Ljava/lang/Class;" } : Jvm.MethodName)) ∈ lw_all := lw_g (lw_at lw_m3 166 rfl) rfl
theorem q1152 : (Jvm.Cond.instanceMethod ({ cls := "java/lang/IndexOutOfBoundsException", name := "<init>", desc := "(Ljava/lang/String;)V" } : Jvm.MethodName)) ∈ lw_all := lw_g (lw_at lw_m5 97 rfl) rfl
theorem q1153 : (Jvm.Cond.code ({ cls := "java/lang/IndexOutOfBoundsException", name := "<init>", desc := "(Ljava/lang/String;)V" } : Jvm.MethodName) prog_20_method_2_code (2 : Nat) (Option.none : Option Jvm.ClassFile.FieldType)) ∈ lw_all := lw_g (lw_at lw_m5 98 rfl) rfl
theorem q1154 : (Jvm.Cond.methodLink "java/lang/IndexOutOfBoundsException" (7 : Nat) ({ cls := "java/lang/RuntimeException", name := "<init>", desc := "(Ljava/lang/String;)V" } : Jvm.MethodName)) ∈ lw_all := lw_g (lw_at lw_m5 99 rfl) rfl
theorem q1163 : (Jvm.Cond.declares ({ cls := "java/lang/IndexOutOfBoundsException", name := "<init>", desc := "()V" } : Jvm.MethodName)) ∈ lw_tbl := lw_at lw_m5 108 rfl
theorem q1164 : (Jvm.Cond.declares ({ cls := "java/lang/IndexOutOfBoundsException", name := "<init>", desc := "(Ljava/lang/String;)V" } : Jvm.MethodName)) ∈ lw_tbl := lw_at lw_m5 109 rfl
theorem q1182 : (Jvm.Cond.instantiable "java/lang/IndexOutOfBoundsException" (6 : Nat)) ∈ lw_all := lw_g (lw_at lw_m5 127 rfl) rfl
theorem q1183 : (Jvm.Cond.castable "java/lang/IndexOutOfBoundsException" "java/lang/IndexOutOfBoundsException") ∈ lw_tbl := lw_at lw_m5 128 rfl
theorem q1184 : (Jvm.Cond.selects "java/lang/IndexOutOfBoundsException" ({ cls := "java/lang/Throwable", name := "fillInStackTrace", desc := "(I)Ljava/lang/Throwable;" } : Jvm.MethodName) ({ cls := "java/lang/Throwable", name := "fillInStackTrace", desc := "(I)Ljava/lang/Throwable;" } : Jvm.MethodName)) ∈ lw_all := lw_g (lw_at lw_m5 129 rfl) rfl
theorem q1185 : (Jvm.Cond.lays "java/lang/IndexOutOfBoundsException" "java/lang/Throwable" "cause" "Ljava/lang/Throwable;") ∈ lw_all := lw_g (lw_at lw_m5 130 rfl) rfl
theorem q1186 : (Jvm.Cond.lays "java/lang/IndexOutOfBoundsException" "java/lang/Throwable" "stackTrace" "[Ljava/lang/StackTraceElement;") ∈ lw_all := lw_g (lw_at lw_m5 131 rfl) rfl
theorem q1187 : (Jvm.Cond.lays "java/lang/IndexOutOfBoundsException" "java/lang/Throwable" "suppressedExceptions" "Ljava/util/List;") ∈ lw_all := lw_g (lw_at lw_m5 132 rfl) rfl
theorem q1188 : (Jvm.Cond.lays "java/lang/IndexOutOfBoundsException" "java/lang/Throwable" "detailMessage" "Ljava/lang/String;") ∈ lw_all := lw_g (lw_at lw_m5 133 rfl) rfl
theorem q1189 : (Jvm.Cond.lays "java/lang/IndexOutOfBoundsException" "java/lang/Throwable" "backtrace" "Ljava/lang/Object;") ∈ lw_all := lw_g (lw_at lw_m5 134 rfl) rfl
theorem q1191 : (Jvm.Cond.instanceMethod ({ cls := "java/lang/IndexOutOfBoundsException", name := "<init>", desc := "()V" } : Jvm.MethodName)) ∈ lw_all := lw_g (lw_at lw_m5 136 rfl) rfl
theorem q1192 : (Jvm.Cond.code ({ cls := "java/lang/IndexOutOfBoundsException", name := "<init>", desc := "()V" } : Jvm.MethodName) prog_20_method_1_code (1 : Nat) (Option.none : Option Jvm.ClassFile.FieldType)) ∈ lw_all := lw_g (lw_at lw_m5 137 rfl) rfl
theorem q1193 : (Jvm.Cond.methodLink "java/lang/IndexOutOfBoundsException" (1 : Nat) ({ cls := "java/lang/RuntimeException", name := "<init>", desc := "()V" } : Jvm.MethodName)) ∈ lw_all := lw_g (lw_at lw_m5 138 rfl) rfl
theorem q1194 : (Jvm.Cond.lays "java/lang/IndexOutOfBoundsException" "java/lang/Throwable" "depth" "I") ∈ lw_all := lw_g (lw_at lw_m5 139 rfl) rfl
theorem q1195 : (Jvm.Cond.superclass "java/lang/IndexOutOfBoundsException" "java/lang/RuntimeException") ∈ lw_all := lw_g (lw_at lw_m5 140 rfl) rfl
theorem q2178 : (Jvm.Cond.castable "java/lang/IndexOutOfBoundsException" "java/lang/Object") ∈ lw_tbl := lw_at lw_m9 163 rfl
theorem in_J20 : ∀ w ∈ wsJ200, w ∈ lw_all := lw_in wsJ200 [1185, 1186, 1187, 1188, 1189, 1194] (by decide +kernel) (by decide +kernel)
/-! java/util/NoSuchElementException -/
set_option maxRecDepth 100000
def RJ22 : String := "java/util/NoSuchElementException"
def TJ22 : u_T := fun k => match k with
  | 0 => ("java/lang/Throwable", "cause", "Ljava/lang/Throwable;", false)
  | 1 => ("java/lang/Throwable", "stackTrace", "[Ljava/lang/StackTraceElement;", false)
  | 2 => ("java/lang/Throwable", "suppressedExceptions", "Ljava/util/List;", false)
  | 3 => ("java/lang/Throwable", "detailMessage", "Ljava/lang/String;", false)
  | 4 => ("java/lang/Throwable", "backtrace", "Ljava/lang/Object;", false)
  | _ => ("java/lang/Throwable", "depth", "I", false)
def tyJ22 : Nat → FieldType := fun k => match k with
  | 0 => .object "java/lang/Throwable"
  | 1 => .array (.object "java/lang/StackTraceElement")
  | 2 => .object "java/util/List"
  | 3 => .object "java/lang/String"
  | 4 => .object "java/lang/Object"
  | _ => .int
abbrev wsJ220 : List Cond := u_ws RJ22 TJ22 6
theorem nmJ22 : ∀ a, a < 6 → ∀ b, b < 6 → a ≠ b → (TJ22 a).2.1 ≠ (TJ22 b).2.1 := by decide +kernel
theorem tyJ22_ok : ∀ k, k < 6 → parseFieldDescriptor (TJ22 k).2.2.1 = some (tyJ22 k) := by decide +kernel
abbrev cJ22_init : ByteArray := prog_42_method_1_code
def yJ22_init : MethodName := ⟨RJ22, "<init>", "()V"⟩
theorem dJ22_init_0 : decode cJ22_init 0 = .ok (.aload_n 0, 1) := by decide +kernel
theorem dJ22_init_1 : decode cJ22_init 1 = .ok (.invokespecial 1, 3) := by decide +kernel
theorem dJ22_init_4 : decode cJ22_init 4 = .ok (.return_, 1) := by decide +kernel
theorem q126 : (Jvm.Cond.initialized "java/util/NoSuchElementException") ∈ lw_all := lw_g (lw_at lw_m1 31 rfl) rfl
theorem q201 : (Jvm.Cond.selects "java/util/NoSuchElementException" ({ cls := "java/lang/Throwable", name := "fillInStackTrace", desc := "()Ljava/lang/Throwable;" } : Jvm.MethodName) ({ cls := "java/lang/Throwable", name := "fillInStackTrace", desc := "()Ljava/lang/Throwable;" } : Jvm.MethodName)) ∈ lw_all := lw_g (lw_at lw_m1 106 rfl) rfl
theorem q746 : (Jvm.Cond.selects "java/util/NoSuchElementException" ({ cls := "java/lang/Object", name := "getClass", desc := "()Ljava/lang/Class;" } : Jvm.MethodName) ({ cls := "java/lang/Object", name := "getClass", desc := "()Ljava/lang/Class;" } : Jvm.MethodName)) ∈ lw_all := lw_g (lw_at lw_m3 171 rfl) rfl
theorem q1035 : (Jvm.Cond.instantiable "java/util/NoSuchElementException" (6 : Nat)) ∈ lw_all := lw_g (lw_at lw_m4 220 rfl) rfl
theorem q1036 : (Jvm.Cond.castable "java/util/NoSuchElementException" "java/util/NoSuchElementException") ∈ lw_tbl := lw_at lw_m4 221 rfl
theorem q1037 : (Jvm.Cond.selects "java/util/NoSuchElementException" ({ cls := "java/lang/Throwable", name := "fillInStackTrace", desc := "(I)Ljava/lang/Throwable;" } : Jvm.MethodName) ({ cls := "java/lang/Throwable", name := "fillInStackTrace", desc := "(I)Ljava/lang/Throwable;" } : Jvm.MethodName)) ∈ lw_all := lw_g (lw_at lw_m4 222 rfl) rfl
theorem q1038 : (Jvm.Cond.lays "java/util/NoSuchElementException" "java/lang/Throwable" "cause" "Ljava/lang/Throwable;") ∈ lw_all := lw_g (lw_at lw_m4 223 rfl) rfl
theorem q1039 : (Jvm.Cond.lays "java/util/NoSuchElementException" "java/lang/Throwable" "stackTrace" "[Ljava/lang/StackTraceElement;") ∈ lw_all := lw_g (lw_at lw_m4 224 rfl) rfl
theorem q1040 : (Jvm.Cond.lays "java/util/NoSuchElementException" "java/lang/Throwable" "suppressedExceptions" "Ljava/util/List;") ∈ lw_all := lw_g (lw_at lw_m4 225 rfl) rfl
theorem q1041 : (Jvm.Cond.lays "java/util/NoSuchElementException" "java/lang/Throwable" "detailMessage" "Ljava/lang/String;") ∈ lw_all := lw_g (lw_at lw_m4 226 rfl) rfl
theorem q1042 : (Jvm.Cond.lays "java/util/NoSuchElementException" "java/lang/Throwable" "backtrace" "Ljava/lang/Object;") ∈ lw_all := lw_g (lw_at lw_m4 227 rfl) rfl
theorem q1044 : (Jvm.Cond.instanceMethod ({ cls := "java/util/NoSuchElementException", name := "<init>", desc := "()V" } : Jvm.MethodName)) ∈ lw_all := lw_g (lw_at lw_m4 229 rfl) rfl
theorem q1045 : (Jvm.Cond.code ({ cls := "java/util/NoSuchElementException", name := "<init>", desc := "()V" } : Jvm.MethodName) prog_42_method_1_code (1 : Nat) (Option.none : Option Jvm.ClassFile.FieldType)) ∈ lw_all := lw_g (lw_at lw_m4 230 rfl) rfl
theorem q1046 : (Jvm.Cond.methodLink "java/util/NoSuchElementException" (1 : Nat) ({ cls := "java/lang/RuntimeException", name := "<init>", desc := "()V" } : Jvm.MethodName)) ∈ lw_all := lw_g (lw_at lw_m4 231 rfl) rfl
theorem q1050 : (Jvm.Cond.lays "java/util/NoSuchElementException" "java/lang/Throwable" "depth" "I") ∈ lw_all := lw_g (lw_at lw_m4 235 rfl) rfl
theorem q1051 : (Jvm.Cond.superclass "java/util/NoSuchElementException" "java/lang/RuntimeException") ∈ lw_all := lw_g (lw_at lw_m4 236 rfl) rfl
theorem q2179 : (Jvm.Cond.castable "java/util/NoSuchElementException" "java/lang/Object") ∈ lw_tbl := lw_at lw_m9 164 rfl
theorem in_J22 : ∀ w ∈ wsJ220, w ∈ lw_all := lw_in wsJ220 [1038, 1039, 1040, 1041, 1042, 1050] (by decide +kernel) (by decide +kernel)
/-! java/lang/Throwable -/
set_option maxRecDepth 100000
def RJ3 : String := "java/lang/Throwable"
def TJ3 : u_T := fun k => match k with
  | 0 => ("java/lang/Throwable", "cause", "Ljava/lang/Throwable;", false)
  | 1 => ("java/lang/Throwable", "stackTrace", "[Ljava/lang/StackTraceElement;", false)
  | 2 => ("java/lang/Throwable", "suppressedExceptions", "Ljava/util/List;", false)
  | 3 => ("java/lang/Throwable", "detailMessage", "Ljava/lang/String;", false)
  | _ => ("java/lang/Throwable", "backtrace", "Ljava/lang/Object;", false)
def tyJ3 : Nat → FieldType := fun k => match k with
  | 0 => .object "java/lang/Throwable"
  | 1 => .array (.object "java/lang/StackTraceElement")
  | 2 => .object "java/util/List"
  | 3 => .object "java/lang/String"
  | _ => .object "java/lang/Object"
abbrev wsJ30 : List Cond := u_ws RJ3 TJ3 5
theorem nmJ3 : ∀ a, a < 5 → ∀ b, b < 5 → a ≠ b → (TJ3 a).2.1 ≠ (TJ3 b).2.1 := by decide +kernel
theorem tyJ3_ok : ∀ k, k < 5 → parseFieldDescriptor (TJ3 k).2.2.1 = some (tyJ3 k) := by decide +kernel
abbrev cJ3_init : ByteArray := prog_31_method_1_code
def yJ3_init : MethodName := ⟨RJ3, "<init>", "()V"⟩
def dkwJ3_init_1 : List UInt8 := [182, 0, 27, 87, 177]
abbrev dktJ3_init_1 : List UInt8 := dkwJ3_init_1 ++ []
def dkwJ3_init_0 : List UInt8 := [42, 183, 0, 1, 42, 42, 181, 0, 7, 42, 178, 0, 13, 181, 0, 17, 42, 178, 0, 20, 181, 0, 24, 42]
abbrev dktJ3_init_0 : List UInt8 := dkwJ3_init_0 ++ dktJ3_init_1
theorem dksJ3_init_0 : cJ3_init.data.toList.drop 0 = dktJ3_init_0 := by decide +kernel
theorem dksJ3_init_1 : cJ3_init.data.toList.drop 24 = dktJ3_init_1 := dk_seg dksJ3_init_0 24 rfl rfl
theorem dJ3_init_0 : decode cJ3_init 0 = .ok (.aload_n 0, 1) := dk_42 (dk_at dksJ3_init_0 0 rfl rfl)
theorem dJ3_init_1 : decode cJ3_init 1 = .ok (.invokespecial 1, 3) := dk_183 0 1 (dk_at dksJ3_init_0 1 rfl rfl)
theorem dJ3_init_4 : decode cJ3_init 4 = .ok (.aload_n 0, 1) := dk_42 (dk_at dksJ3_init_0 4 rfl rfl)
theorem dJ3_init_5 : decode cJ3_init 5 = .ok (.aload_n 0, 1) := dk_42 (dk_at dksJ3_init_0 5 rfl rfl)
theorem dJ3_init_6 : decode cJ3_init 6 = .ok (.putfield 7, 3) := dk_181 0 7 (dk_at dksJ3_init_0 6 rfl rfl)
theorem dJ3_init_9 : decode cJ3_init 9 = .ok (.aload_n 0, 1) := dk_42 (dk_at dksJ3_init_0 9 rfl rfl)
theorem dJ3_init_10 : decode cJ3_init 10 = .ok (.getstatic 13, 3) := dk_178 0 13 (dk_at dksJ3_init_0 10 rfl rfl)
theorem dJ3_init_13 : decode cJ3_init 13 = .ok (.putfield 17, 3) := dk_181 0 17 (dk_at dksJ3_init_0 13 rfl rfl)
theorem dJ3_init_16 : decode cJ3_init 16 = .ok (.aload_n 0, 1) := dk_42 (dk_at dksJ3_init_0 16 rfl rfl)
theorem dJ3_init_17 : decode cJ3_init 17 = .ok (.getstatic 20, 3) := dk_178 0 20 (dk_at dksJ3_init_0 17 rfl rfl)
theorem dJ3_init_20 : decode cJ3_init 20 = .ok (.putfield 24, 3) := dk_181 0 24 (dk_at dksJ3_init_0 20 rfl rfl)
theorem dJ3_init_23 : decode cJ3_init 23 = .ok (.aload_n 0, 1) := dk_42 (dk_at dksJ3_init_0 23 rfl rfl)
theorem dJ3_init_24 : decode cJ3_init 24 = .ok (.invokevirtual 27, 3) := dk_182 0 27 (dk_at dksJ3_init_1 0 rfl rfl)
theorem dJ3_init_27 : decode cJ3_init 27 = .ok (.pop, 1) := dk_87 (dk_at dksJ3_init_1 3 rfl rfl)
theorem dJ3_init_28 : decode cJ3_init 28 = .ok (.return_, 1) := dk_177 (dk_at dksJ3_init_1 4 rfl rfl)
abbrev cJ3_init_2 : ByteArray := prog_31_method_2_code
def yJ3_init_2 : MethodName := ⟨RJ3, "<init>", "(Ljava/lang/String;)V"⟩
def dkwJ3_init_2_1 : List UInt8 := [182, 0, 27, 87, 42, 43, 181, 0, 31, 177]
abbrev dktJ3_init_2_1 : List UInt8 := dkwJ3_init_2_1 ++ []
def dkwJ3_init_2_0 : List UInt8 := [42, 183, 0, 1, 42, 42, 181, 0, 7, 42, 178, 0, 13, 181, 0, 17, 42, 178, 0, 20, 181, 0, 24, 42]
abbrev dktJ3_init_2_0 : List UInt8 := dkwJ3_init_2_0 ++ dktJ3_init_2_1
theorem dksJ3_init_2_0 : cJ3_init_2.data.toList.drop 0 = dktJ3_init_2_0 := by decide +kernel
theorem dksJ3_init_2_1 : cJ3_init_2.data.toList.drop 24 = dktJ3_init_2_1 := dk_seg dksJ3_init_2_0 24 rfl rfl
theorem dJ3_init_2_0 : decode cJ3_init_2 0 = .ok (.aload_n 0, 1) := dk_42 (dk_at dksJ3_init_2_0 0 rfl rfl)
theorem dJ3_init_2_1 : decode cJ3_init_2 1 = .ok (.invokespecial 1, 3) := dk_183 0 1 (dk_at dksJ3_init_2_0 1 rfl rfl)
theorem dJ3_init_2_4 : decode cJ3_init_2 4 = .ok (.aload_n 0, 1) := dk_42 (dk_at dksJ3_init_2_0 4 rfl rfl)
theorem dJ3_init_2_5 : decode cJ3_init_2 5 = .ok (.aload_n 0, 1) := dk_42 (dk_at dksJ3_init_2_0 5 rfl rfl)
theorem dJ3_init_2_6 : decode cJ3_init_2 6 = .ok (.putfield 7, 3) := dk_181 0 7 (dk_at dksJ3_init_2_0 6 rfl rfl)
theorem dJ3_init_2_9 : decode cJ3_init_2 9 = .ok (.aload_n 0, 1) := dk_42 (dk_at dksJ3_init_2_0 9 rfl rfl)
theorem dJ3_init_2_10 : decode cJ3_init_2 10 = .ok (.getstatic 13, 3) := dk_178 0 13 (dk_at dksJ3_init_2_0 10 rfl rfl)
theorem dJ3_init_2_13 : decode cJ3_init_2 13 = .ok (.putfield 17, 3) := dk_181 0 17 (dk_at dksJ3_init_2_0 13 rfl rfl)
theorem dJ3_init_2_16 : decode cJ3_init_2 16 = .ok (.aload_n 0, 1) := dk_42 (dk_at dksJ3_init_2_0 16 rfl rfl)
theorem dJ3_init_2_17 : decode cJ3_init_2 17 = .ok (.getstatic 20, 3) := dk_178 0 20 (dk_at dksJ3_init_2_0 17 rfl rfl)
theorem dJ3_init_2_20 : decode cJ3_init_2 20 = .ok (.putfield 24, 3) := dk_181 0 24 (dk_at dksJ3_init_2_0 20 rfl rfl)
theorem dJ3_init_2_23 : decode cJ3_init_2 23 = .ok (.aload_n 0, 1) := dk_42 (dk_at dksJ3_init_2_0 23 rfl rfl)
theorem dJ3_init_2_24 : decode cJ3_init_2 24 = .ok (.invokevirtual 27, 3) := dk_182 0 27 (dk_at dksJ3_init_2_1 0 rfl rfl)
theorem dJ3_init_2_27 : decode cJ3_init_2 27 = .ok (.pop, 1) := dk_87 (dk_at dksJ3_init_2_1 3 rfl rfl)
theorem dJ3_init_2_28 : decode cJ3_init_2 28 = .ok (.aload_n 0, 1) := dk_42 (dk_at dksJ3_init_2_1 4 rfl rfl)
theorem dJ3_init_2_29 : decode cJ3_init_2 29 = .ok (.aload_n 1, 1) := dk_43 (dk_at dksJ3_init_2_1 5 rfl rfl)
theorem dJ3_init_2_30 : decode cJ3_init_2 30 = .ok (.putfield 31, 3) := dk_181 0 31 (dk_at dksJ3_init_2_1 6 rfl rfl)
theorem dJ3_init_2_33 : decode cJ3_init_2 33 = .ok (.return_, 1) := dk_177 (dk_at dksJ3_init_2_1 9 rfl rfl)
theorem q101 : (Jvm.Cond.initialized "java/lang/Throwable") ∈ lw_all := lw_g (lw_at lw_m1 6 rfl) rfl
theorem q171 : (Jvm.Cond.declares ({ cls := "java/lang/Throwable", name := "<init>", desc := "()V" } : Jvm.MethodName)) ∈ lw_tbl := lw_at lw_m1 76 rfl
theorem q172 : (Jvm.Cond.declares ({ cls := "java/lang/Throwable", name := "<init>", desc := "(Ljava/lang/String;)V" } : Jvm.MethodName)) ∈ lw_tbl := lw_at lw_m1 77 rfl
theorem q176 : (Jvm.Cond.lays "java/lang/Throwable" "java/lang/Throwable" "cause" "Ljava/lang/Throwable;") ∈ lw_all := lw_g (lw_at lw_m1 81 rfl) rfl
theorem q178 : (Jvm.Cond.lays "java/lang/Throwable" "java/lang/Throwable" "stackTrace" "[Ljava/lang/StackTraceElement;") ∈ lw_all := lw_g (lw_at lw_m1 83 rfl) rfl
theorem q180 : (Jvm.Cond.lays "java/lang/Throwable" "java/lang/Throwable" "suppressedExceptions" "Ljava/util/List;") ∈ lw_all := lw_g (lw_at lw_m1 85 rfl) rfl
theorem q182 : (Jvm.Cond.lays "java/lang/Throwable" "java/lang/Throwable" "detailMessage" "Ljava/lang/String;") ∈ lw_all := lw_g (lw_at lw_m1 87 rfl) rfl
theorem q184 : (Jvm.Cond.lays "java/lang/Throwable" "java/lang/Throwable" "backtrace" "Ljava/lang/Object;") ∈ lw_all := lw_g (lw_at lw_m1 89 rfl) rfl
theorem q185 : (Jvm.Cond.fieldLink "java/lang/Throwable" (198 : Nat) "java/lang/Throwable" "backtrace" "Ljava/lang/Object;") ∈ lw_all := lw_g (lw_at lw_m1 90 rfl) rfl
theorem q186 : (Jvm.Cond.superclass "java/lang/Throwable" "java/lang/Object") ∈ lw_all := lw_g (lw_at lw_m1 91 rfl) rfl
theorem q187 : (Jvm.Cond.instanceMethod ({ cls := "java/lang/Throwable", name := "<init>", desc := "()V" } : Jvm.MethodName)) ∈ lw_all := lw_g (lw_at lw_m1 92 rfl) rfl
theorem q188 : (Jvm.Cond.code ({ cls := "java/lang/Throwable", name := "<init>", desc := "()V" } : Jvm.MethodName) prog_31_method_1_code (1 : Nat) (Option.none : Option Jvm.ClassFile.FieldType)) ∈ lw_all := lw_g (lw_at lw_m1 93 rfl) rfl
theorem q189 : (Jvm.Cond.methodLink "java/lang/Throwable" (1 : Nat) ({ cls := "java/lang/Object", name := "<init>", desc := "()V" } : Jvm.MethodName)) ∈ lw_all := lw_g (lw_at lw_m1 94 rfl) rfl
theorem q190 : (Jvm.Cond.fieldLink "java/lang/Throwable" (13 : Nat) "java/lang/Throwable" "UNASSIGNED_STACK" "[Ljava/lang/StackTraceElement;") ∈ lw_all := lw_g (lw_at lw_m1 95 rfl) rfl
theorem q191 : (Jvm.Cond.laysStatic "java/lang/Throwable" "UNASSIGNED_STACK" "[Ljava/lang/StackTraceElement;") ∈ lw_tbl := lw_at lw_m1 96 rfl
theorem q192 : (Jvm.Cond.fieldLink "java/lang/Throwable" (20 : Nat) "java/lang/Throwable" "SUPPRESSED_SENTINEL" "Ljava/util/List;") ∈ lw_all := lw_g (lw_at lw_m1 97 rfl) rfl
theorem q193 : (Jvm.Cond.laysStatic "java/lang/Throwable" "SUPPRESSED_SENTINEL" "Ljava/util/List;") ∈ lw_tbl := lw_at lw_m1 98 rfl
theorem q194 : (Jvm.Cond.methodLink "java/lang/Throwable" (27 : Nat) ({ cls := "java/lang/Throwable", name := "fillInStackTrace", desc := "()Ljava/lang/Throwable;" } : Jvm.MethodName)) ∈ lw_all := lw_g (lw_at lw_m1 99 rfl) rfl
theorem q195 : (Jvm.Cond.instanceMethod ({ cls := "java/lang/Throwable", name := "fillInStackTrace", desc := "()Ljava/lang/Throwable;" } : Jvm.MethodName)) ∈ lw_all := lw_g (lw_at lw_m1 100 rfl) rfl
theorem q196 : (Jvm.Cond.sameMethod "java/lang/Throwable" "java/lang/Throwable" "fillInStackTrace" "()Ljava/lang/Throwable;") ∈ lw_all := lw_g (lw_at lw_m1 101 rfl) rfl
theorem q202 : (Jvm.Cond.codeSync ({ cls := "java/lang/Throwable", name := "fillInStackTrace", desc := "()Ljava/lang/Throwable;" } : Jvm.MethodName) prog_31_method_18_code (1 : Nat) (Option.some (Jvm.ClassFile.FieldType.object "java/lang/Throwable"))) ∈ lw_all := lw_g (lw_at lw_m1 107 rfl) rfl
theorem q203 : (Jvm.Cond.methodLink "java/lang/Throwable" (202 : Nat) ({ cls := "java/lang/Throwable", name := "fillInStackTrace", desc := "(I)Ljava/lang/Throwable;" } : Jvm.MethodName)) ∈ lw_all := lw_g (lw_at lw_m1 108 rfl) rfl
theorem q204 : (Jvm.Cond.privateMethod ({ cls := "java/lang/Throwable", name := "fillInStackTrace", desc := "(I)Ljava/lang/Throwable;" } : Jvm.MethodName)) ∈ lw_tbl := lw_at lw_m1 109 rfl
theorem q205 : (Jvm.Cond.instanceMethod ({ cls := "java/lang/Throwable", name := "fillInStackTrace", desc := "(I)Ljava/lang/Throwable;" } : Jvm.MethodName)) ∈ lw_all := lw_g (lw_at lw_m1 110 rfl) rfl
theorem q206 : (Jvm.Cond.instantiable "java/lang/Throwable" (6 : Nat)) ∈ lw_all := lw_g (lw_at lw_m1 111 rfl) rfl
theorem q207 : (Jvm.Cond.native ({ cls := "java/lang/Throwable", name := "fillInStackTrace", desc := "(I)Ljava/lang/Throwable;" } : Jvm.MethodName)) ∈ lw_all := lw_g (lw_at lw_m1 112 rfl) rfl
theorem q439 : (Jvm.Cond.instanceMethod ({ cls := "java/lang/Throwable", name := "<init>", desc := "(Ljava/lang/String;)V" } : Jvm.MethodName)) ∈ lw_all := lw_g (lw_at lw_m2 104 rfl) rfl
theorem q440 : (Jvm.Cond.code ({ cls := "java/lang/Throwable", name := "<init>", desc := "(Ljava/lang/String;)V" } : Jvm.MethodName) prog_31_method_2_code (2 : Nat) (Option.none : Option Jvm.ClassFile.FieldType)) ∈ lw_all := lw_g (lw_at lw_m2 105 rfl) rfl
theorem q441 : (Jvm.Cond.fieldLink "java/lang/Throwable" (198 : Nat) "java/lang/Throwable" "backtrace" "Ljava/lang/Object;") ∈ lw_all := lw_g (lw_at lw_m2 106 rfl) rfl
theorem q442 : (Jvm.Cond.fieldLink "java/lang/Throwable" (31 : Nat) "java/lang/Throwable" "detailMessage" "Ljava/lang/String;") ∈ lw_all := lw_g (lw_at lw_m2 107 rfl) rfl
theorem q443 : (Jvm.Cond.fieldLink "java/lang/Throwable" (7 : Nat) "java/lang/Throwable" "cause" "Ljava/lang/Throwable;") ∈ lw_all := lw_g (lw_at lw_m2 108 rfl) rfl
theorem q444 : (Jvm.Cond.fieldLink "java/lang/Throwable" (17 : Nat) "java/lang/Throwable" "stackTrace" "[Ljava/lang/StackTraceElement;") ∈ lw_all := lw_g (lw_at lw_m2 109 rfl) rfl
theorem q445 : (Jvm.Cond.fieldLink "java/lang/Throwable" (24 : Nat) "java/lang/Throwable" "suppressedExceptions" "Ljava/util/List;") ∈ lw_all := lw_g (lw_at lw_m2 110 rfl) rfl
theorem q446 : (Jvm.Cond.soleField "java/lang/Throwable" "backtrace") ∈ lw_all := lw_g (lw_at lw_m2 111 rfl) rfl
theorem q447 : (Jvm.Cond.soleField "java/lang/Throwable" "detailMessage") ∈ lw_all := lw_g (lw_at lw_m2 112 rfl) rfl
theorem q448 : (Jvm.Cond.soleField "java/lang/Throwable" "cause") ∈ lw_all := lw_g (lw_at lw_m2 113 rfl) rfl
theorem q449 : (Jvm.Cond.soleField "java/lang/Throwable" "stackTrace") ∈ lw_all := lw_g (lw_at lw_m2 114 rfl) rfl
theorem q451 : (Jvm.Cond.soleField "java/lang/Throwable" "depth") ∈ lw_all := lw_g (lw_at lw_m2 116 rfl) rfl
theorem q452 : (Jvm.Cond.soleField "java/lang/Throwable" "suppressedExceptions") ∈ lw_all := lw_g (lw_at lw_m2 117 rfl) rfl
theorem q2154 : (Jvm.Cond.sameMethod "java/lang/Throwable" "java/lang/Throwable" "fillInStackTrace" "(I)Ljava/lang/Throwable;") ∈ lw_all := lw_g (lw_at lw_m9 139 rfl) rfl
theorem q2182 : (Jvm.Cond.castable "java/lang/Throwable" "java/lang/Object") ∈ lw_tbl := lw_at lw_m9 167 rfl
theorem in_J3 : ∀ w ∈ wsJ30, w ∈ lw_all := lw_in wsJ30 [176, 178, 180, 182, 184] (by decide +kernel) (by decide +kernel)
/-! java/lang/Exception -/
set_option maxRecDepth 100000
def RJ4 : String := "java/lang/Exception"
abbrev cJ4_init : ByteArray := prog_17_method_2_code
def yJ4_init : MethodName := ⟨RJ4, "<init>", "(Ljava/lang/String;)V"⟩
def dkwJ4_init_0 : List UInt8 := [42, 43, 183, 0, 7, 177]
abbrev dktJ4_init_0 : List UInt8 := dkwJ4_init_0 ++ []
theorem dksJ4_init_0 : cJ4_init.data.toList.drop 0 = dktJ4_init_0 := by decide +kernel
theorem dJ4_init_0 : decode cJ4_init 0 = .ok (.aload_n 0, 1) := dk_42 (dk_at dksJ4_init_0 0 rfl rfl)
theorem dJ4_init_1 : decode cJ4_init 1 = .ok (.aload_n 1, 1) := dk_43 (dk_at dksJ4_init_0 1 rfl rfl)
theorem dJ4_init_2 : decode cJ4_init 2 = .ok (.invokespecial 7, 3) := dk_183 0 7 (dk_at dksJ4_init_0 2 rfl rfl)
theorem dJ4_init_5 : decode cJ4_init 5 = .ok (.return_, 1) := dk_177 (dk_at dksJ4_init_0 5 rfl rfl)
abbrev cJ4_init_2 : ByteArray := prog_17_method_1_code
def yJ4_init_2 : MethodName := ⟨RJ4, "<init>", "()V"⟩
theorem dJ4_init_2_0 : decode cJ4_init_2 0 = .ok (.aload_n 0, 1) := by decide +kernel
theorem dJ4_init_2_1 : decode cJ4_init_2 1 = .ok (.invokespecial 1, 3) := by decide +kernel
theorem dJ4_init_2_4 : decode cJ4_init_2 4 = .ok (.return_, 1) := by decide +kernel
theorem q102 : (Jvm.Cond.initialized "java/lang/Exception") ∈ lw_all := lw_g (lw_at lw_m1 7 rfl) rfl
theorem q169 : (Jvm.Cond.declares ({ cls := "java/lang/Exception", name := "<init>", desc := "()V" } : Jvm.MethodName)) ∈ lw_tbl := lw_at lw_m1 74 rfl
theorem q170 : (Jvm.Cond.declares ({ cls := "java/lang/Exception", name := "<init>", desc := "(Ljava/lang/String;)V" } : Jvm.MethodName)) ∈ lw_tbl := lw_at lw_m1 75 rfl
theorem q436 : (Jvm.Cond.instanceMethod ({ cls := "java/lang/Exception", name := "<init>", desc := "(Ljava/lang/String;)V" } : Jvm.MethodName)) ∈ lw_all := lw_g (lw_at lw_m2 101 rfl) rfl
theorem q437 : (Jvm.Cond.code ({ cls := "java/lang/Exception", name := "<init>", desc := "(Ljava/lang/String;)V" } : Jvm.MethodName) prog_17_method_2_code (2 : Nat) (Option.none : Option Jvm.ClassFile.FieldType)) ∈ lw_all := lw_g (lw_at lw_m2 102 rfl) rfl
theorem q438 : (Jvm.Cond.methodLink "java/lang/Exception" (7 : Nat) ({ cls := "java/lang/Throwable", name := "<init>", desc := "(Ljava/lang/String;)V" } : Jvm.MethodName)) ∈ lw_all := lw_g (lw_at lw_m2 103 rfl) rfl
theorem q615 : (Jvm.Cond.instanceMethod ({ cls := "java/lang/Exception", name := "<init>", desc := "()V" } : Jvm.MethodName)) ∈ lw_all := lw_g (lw_at lw_m3 40 rfl) rfl
theorem q616 : (Jvm.Cond.code ({ cls := "java/lang/Exception", name := "<init>", desc := "()V" } : Jvm.MethodName) prog_17_method_1_code (1 : Nat) (Option.none : Option Jvm.ClassFile.FieldType)) ∈ lw_all := lw_g (lw_at lw_m3 41 rfl) rfl
theorem q617 : (Jvm.Cond.methodLink "java/lang/Exception" (1 : Nat) ({ cls := "java/lang/Throwable", name := "<init>", desc := "()V" } : Jvm.MethodName)) ∈ lw_all := lw_g (lw_at lw_m3 42 rfl) rfl
/-! java/lang/RuntimeException -/
set_option maxRecDepth 100000
def RJ5 : String := "java/lang/RuntimeException"
abbrev cJ5_init : ByteArray := prog_25_method_2_code
def yJ5_init : MethodName := ⟨RJ5, "<init>", "(Ljava/lang/String;)V"⟩
def dkwJ5_init_0 : List UInt8 := [42, 43, 183, 0, 7, 177]
abbrev dktJ5_init_0 : List UInt8 := dkwJ5_init_0 ++ []
theorem dksJ5_init_0 : cJ5_init.data.toList.drop 0 = dktJ5_init_0 := by decide +kernel
theorem dJ5_init_0 : decode cJ5_init 0 = .ok (.aload_n 0, 1) := dk_42 (dk_at dksJ5_init_0 0 rfl rfl)
theorem dJ5_init_1 : decode cJ5_init 1 = .ok (.aload_n 1, 1) := dk_43 (dk_at dksJ5_init_0 1 rfl rfl)
theorem dJ5_init_2 : decode cJ5_init 2 = .ok (.invokespecial 7, 3) := dk_183 0 7 (dk_at dksJ5_init_0 2 rfl rfl)
theorem dJ5_init_5 : decode cJ5_init 5 = .ok (.return_, 1) := dk_177 (dk_at dksJ5_init_0 5 rfl rfl)
abbrev cJ5_init_2 : ByteArray := prog_25_method_1_code
def yJ5_init_2 : MethodName := ⟨RJ5, "<init>", "()V"⟩
theorem dJ5_init_2_0 : decode cJ5_init_2 0 = .ok (.aload_n 0, 1) := by decide +kernel
theorem dJ5_init_2_1 : decode cJ5_init_2 1 = .ok (.invokespecial 1, 3) := by decide +kernel
theorem dJ5_init_2_4 : decode cJ5_init_2 4 = .ok (.return_, 1) := by decide +kernel
theorem q103 : (Jvm.Cond.initialized "java/lang/RuntimeException") ∈ lw_all := lw_g (lw_at lw_m1 8 rfl) rfl
theorem q167 : (Jvm.Cond.declares ({ cls := "java/lang/RuntimeException", name := "<init>", desc := "()V" } : Jvm.MethodName)) ∈ lw_tbl := lw_at lw_m1 72 rfl
theorem q168 : (Jvm.Cond.declares ({ cls := "java/lang/RuntimeException", name := "<init>", desc := "(Ljava/lang/String;)V" } : Jvm.MethodName)) ∈ lw_tbl := lw_at lw_m1 73 rfl
theorem q433 : (Jvm.Cond.instanceMethod ({ cls := "java/lang/RuntimeException", name := "<init>", desc := "(Ljava/lang/String;)V" } : Jvm.MethodName)) ∈ lw_all := lw_g (lw_at lw_m2 98 rfl) rfl
theorem q434 : (Jvm.Cond.code ({ cls := "java/lang/RuntimeException", name := "<init>", desc := "(Ljava/lang/String;)V" } : Jvm.MethodName) prog_25_method_2_code (2 : Nat) (Option.none : Option Jvm.ClassFile.FieldType)) ∈ lw_all := lw_g (lw_at lw_m2 99 rfl) rfl
theorem q435 : (Jvm.Cond.methodLink "java/lang/RuntimeException" (7 : Nat) ({ cls := "java/lang/Exception", name := "<init>", desc := "(Ljava/lang/String;)V" } : Jvm.MethodName)) ∈ lw_all := lw_g (lw_at lw_m2 100 rfl) rfl
theorem q1047 : (Jvm.Cond.instanceMethod ({ cls := "java/lang/RuntimeException", name := "<init>", desc := "()V" } : Jvm.MethodName)) ∈ lw_all := lw_g (lw_at lw_m4 232 rfl) rfl
theorem q1048 : (Jvm.Cond.code ({ cls := "java/lang/RuntimeException", name := "<init>", desc := "()V" } : Jvm.MethodName) prog_25_method_1_code (1 : Nat) (Option.none : Option Jvm.ClassFile.FieldType)) ∈ lw_all := lw_g (lw_at lw_m4 233 rfl) rfl
theorem q1049 : (Jvm.Cond.methodLink "java/lang/RuntimeException" (1 : Nat) ({ cls := "java/lang/Exception", name := "<init>", desc := "()V" } : Jvm.MethodName)) ∈ lw_all := lw_g (lw_at lw_m4 234 rfl) rfl
theorem q275 : (Jvm.Cond.sameMethod "[B" "java/lang/Object" "clone" "()Ljava/lang/Object;") ∈ lw_all := lw_g (lw_at lw_m1 180 rfl) rfl
set_option maxRecDepth 100000
theorem q278 : (Jvm.Cond.selects "[B" ({ cls := "[B", name := "clone", desc := "()Ljava/lang/Object;" } : Jvm.MethodName) ({ cls := "java/lang/Object", name := "clone", desc := "()Ljava/lang/Object;" } : Jvm.MethodName)) ∈ lw_all := lw_g (lw_at lw_m1 183 rfl) rfl
theorem q279 : (Jvm.Cond.castable "[B" "java/lang/Cloneable") ∈ lw_tbl := lw_at lw_m1 184 rfl
theorem q2187 : (Jvm.Cond.castable "[B" "java/lang/Object") ∈ lw_tbl := lw_at lw_m9 172 rfl
theorem q2194 : (Jvm.Cond.castable "[D" "java/lang/Object") ∈ lw_tbl := lw_at lw_m9 179 rfl
set_option maxRecDepth 100000
theorem q2189 : (Jvm.Cond.castable "[I" "java/lang/Object") ∈ lw_tbl := lw_at lw_m9 174 rfl
set_option maxRecDepth 100000
theorem q2193 : (Jvm.Cond.castable "[J" "java/lang/Object") ∈ lw_tbl := lw_at lw_m9 178 rfl
set_option maxRecDepth 100000
theorem q2190 : (Jvm.Cond.castable "[LCakeDivision$State;" "java/lang/Object") ∈ lw_tbl := lw_at lw_m9 175 rfl
set_option maxRecDepth 100000
theorem q2183 : (Jvm.Cond.sameMethod "[Ljava/lang/Object;" "java/lang/Object" "getClass" "()Ljava/lang/Class;") ∈ lw_all := lw_g (lw_at lw_m9 168 rfl) rfl
set_option maxRecDepth 100000
theorem q2184 : (Jvm.Cond.selects "[Ljava/lang/Object;" ({ cls := "java/lang/Object", name := "getClass", desc := "()Ljava/lang/Class;" } : Jvm.MethodName) ({ cls := "java/lang/Object", name := "getClass", desc := "()Ljava/lang/Class;" } : Jvm.MethodName)) ∈ lw_all := lw_g (lw_at lw_m9 169 rfl) rfl
theorem q2186 : (Jvm.Cond.castable "[Ljava/lang/Object;" "java/lang/Object") ∈ lw_tbl := lw_at lw_m9 171 rfl
theorem q2192 : (Jvm.Cond.castable "[Ljava/lang/String;" "java/lang/Object") ∈ lw_tbl := lw_at lw_m9 177 rfl
set_option maxRecDepth 100000
theorem q2188 : (Jvm.Cond.castable "[Z" "java/lang/Object") ∈ lw_tbl := lw_at lw_m9 173 rfl
set_option maxRecDepth 100000
theorem q2191 : (Jvm.Cond.castable "[[I" "java/lang/Object") ∈ lw_tbl := lw_at lw_m9 176 rfl
set_option maxRecDepth 100000
theorem q115 : (Jvm.Cond.initialized "java/lang/Number") ∈ lw_all := lw_g (lw_at lw_m1 20 rfl) rfl
set_option maxRecDepth 100000
theorem q112 : (Jvm.Cond.initialized "java/lang/System") ∈ lw_all := lw_g (lw_at lw_m1 17 rfl) rfl
set_option maxRecDepth 100000
theorem q285 : (Jvm.Cond.static ({ cls := "java/lang/System", name := "arraycopy", desc := "(Ljava/lang/Object;ILjava/lang/Object;II)V" } : Jvm.MethodName)) ∈ lw_all := lw_g (lw_at lw_m1 190 rfl) rfl
theorem q286 : (Jvm.Cond.native ({ cls := "java/lang/System", name := "arraycopy", desc := "(Ljava/lang/Object;ILjava/lang/Object;II)V" } : Jvm.MethodName)) ∈ lw_all := lw_g (lw_at lw_m1 191 rfl) rfl
theorem q161 : (Jvm.Cond.arrayOver (Jvm.ClassFile.FieldType.object "java/lang/Object")) ∈ lw_tbl := lw_at lw_m1 66 rfl
set_option maxRecDepth 100000
theorem q239 : (Jvm.Cond.arrayClass Jvm.ClassFile.FieldType.byte) ∈ lw_all := lw_g (lw_at lw_m1 144 rfl) rfl
theorem q511 : (Jvm.Cond.arrayClass Jvm.ClassFile.FieldType.boolean) ∈ lw_all := lw_g (lw_at lw_m2 176 rfl) rfl
theorem q512 : (Jvm.Cond.arrayClass Jvm.ClassFile.FieldType.int) ∈ lw_all := lw_g (lw_at lw_m2 177 rfl) rfl
theorem q530 : (Jvm.Cond.arrayOver (Jvm.ClassFile.FieldType.object "CakeDivision$State")) ∈ lw_tbl := lw_at lw_m2 195 rfl
theorem q930 : (Jvm.Cond.arrayOver (Jvm.ClassFile.FieldType.array Jvm.ClassFile.FieldType.int)) ∈ lw_tbl := lw_at lw_m4 115 rfl
theorem q1510 : (Jvm.Cond.arrayOver (Jvm.ClassFile.FieldType.object "java/lang/String")) ∈ lw_tbl := lw_at lw_m6 215 rfl
theorem q2152 : (Jvm.Cond.arrayClass Jvm.ClassFile.FieldType.long) ∈ lw_all := lw_g (lw_at lw_m9 137 rfl) rfl
theorem q2153 : (Jvm.Cond.arrayClass Jvm.ClassFile.FieldType.double) ∈ lw_all := lw_g (lw_at lw_m9 138 rfl) rfl
