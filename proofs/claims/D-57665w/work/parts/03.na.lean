/-! CakeDivision$State -/
set_option maxRecDepth 100000
def RX2 : String := "CakeDivision$State"
def TX2 : u_T := fun k => match k with
  | 0 => ("CakeDivision$State", "siblings", "Ljava/util/ArrayList;", true)
  | 1 => ("CakeDivision$State", "owners", "[I", true)
  | _ => ("CakeDivision$State", "served", "[Z", true)
def tyX2 : Nat → FieldType := fun k => match k with
  | 0 => .object "java/util/ArrayList"
  | 1 => .array .int
  | _ => .array .boolean
abbrev wsX20 : List Cond := u_ws RX2 TX2 3
theorem nmX2 : ∀ a, a < 3 → ∀ b, b < 3 → a ≠ b → (TX2 a).2.1 ≠ (TX2 b).2.1 := by decide +kernel
theorem tyX2_ok : ∀ k, k < 3 → parseFieldDescriptor (TX2 k).2.2.1 = some (tyX2 k) := by decide +kernel
abbrev cX2_init : ByteArray := prog_6_method_1_code
def yX2_init : MethodName := ⟨RX2, "<init>", "(I)V"⟩
def dkwX2_init_1 : List UInt8 := [181, 0, 20, 42, 27, 188, 10, 181, 0, 24, 42, 3, 27, 4, 100, 182, 0, 28, 177]
abbrev dktX2_init_1 : List UInt8 := dkwX2_init_1 ++ []
def dkwX2_init_0 : List UInt8 := [42, 183, 0, 3, 42, 187, 0, 9, 89, 16, 6, 183, 0, 11, 181, 0, 14, 42, 16, 6, 188, 4]
abbrev dktX2_init_0 : List UInt8 := dkwX2_init_0 ++ dktX2_init_1
theorem dksX2_init_0 : cX2_init.data.toList.drop 0 = dktX2_init_0 := by decide +kernel
theorem dksX2_init_1 : cX2_init.data.toList.drop 22 = dktX2_init_1 := dk_seg dksX2_init_0 22 rfl rfl
theorem dX2_init_0 : decode cX2_init 0 = .ok (.aload_n 0, 1) := dk_42 (dk_at dksX2_init_0 0 rfl rfl)
theorem dX2_init_1 : decode cX2_init 1 = .ok (.invokespecial 3, 3) := dk_183 0 3 (dk_at dksX2_init_0 1 rfl rfl)
theorem dX2_init_4 : decode cX2_init 4 = .ok (.aload_n 0, 1) := dk_42 (dk_at dksX2_init_0 4 rfl rfl)
theorem dX2_init_5 : decode cX2_init 5 = .ok (.new 9, 3) := dk_187 0 9 (dk_at dksX2_init_0 5 rfl rfl)
theorem dX2_init_8 : decode cX2_init 8 = .ok (.dup, 1) := dk_89 (dk_at dksX2_init_0 8 rfl rfl)
theorem dX2_init_9 : decode cX2_init 9 = .ok (.bipush 6, 2) := dk_16 6 (dk_at dksX2_init_0 9 rfl rfl)
theorem dX2_init_11 : decode cX2_init 11 = .ok (.invokespecial 11, 3) := dk_183 0 11 (dk_at dksX2_init_0 11 rfl rfl)
theorem dX2_init_14 : decode cX2_init 14 = .ok (.putfield 14, 3) := dk_181 0 14 (dk_at dksX2_init_0 14 rfl rfl)
theorem dX2_init_17 : decode cX2_init 17 = .ok (.aload_n 0, 1) := dk_42 (dk_at dksX2_init_0 17 rfl rfl)
theorem dX2_init_18 : decode cX2_init 18 = .ok (.bipush 6, 2) := dk_16 6 (dk_at dksX2_init_0 18 rfl rfl)
theorem dX2_init_20 : decode cX2_init 20 = .ok (.newarray .boolean, 2) := dk_188_4 (dk_at dksX2_init_0 20 rfl rfl)
theorem dX2_init_22 : decode cX2_init 22 = .ok (.putfield 20, 3) := dk_181 0 20 (dk_at dksX2_init_1 0 rfl rfl)
theorem dX2_init_25 : decode cX2_init 25 = .ok (.aload_n 0, 1) := dk_42 (dk_at dksX2_init_1 3 rfl rfl)
theorem dX2_init_26 : decode cX2_init 26 = .ok (.iload_n 1, 1) := dk_27 (dk_at dksX2_init_1 4 rfl rfl)
theorem dX2_init_27 : decode cX2_init 27 = .ok (.newarray .int, 2) := dk_188_10 (dk_at dksX2_init_1 5 rfl rfl)
theorem dX2_init_29 : decode cX2_init 29 = .ok (.putfield 24, 3) := dk_181 0 24 (dk_at dksX2_init_1 7 rfl rfl)
theorem dX2_init_32 : decode cX2_init 32 = .ok (.aload_n 0, 1) := dk_42 (dk_at dksX2_init_1 10 rfl rfl)
theorem dX2_init_33 : decode cX2_init 33 = .ok (.iconst 0, 1) := dk_3 (dk_at dksX2_init_1 11 rfl rfl)
theorem dX2_init_34 : decode cX2_init 34 = .ok (.iload_n 1, 1) := dk_27 (dk_at dksX2_init_1 12 rfl rfl)
theorem dX2_init_35 : decode cX2_init 35 = .ok (.iconst 1, 1) := dk_4 (dk_at dksX2_init_1 13 rfl rfl)
theorem dX2_init_36 : decode cX2_init 36 = .ok (.isub, 1) := dk_100 (dk_at dksX2_init_1 14 rfl rfl)
theorem dX2_init_37 : decode cX2_init 37 = .ok (.invokevirtual 28, 3) := dk_182 0 28 (dk_at dksX2_init_1 15 rfl rfl)
theorem dX2_init_40 : decode cX2_init 40 = .ok (.return_, 1) := dk_177 (dk_at dksX2_init_1 18 rfl rfl)
abbrev cX2_release : ByteArray := prog_6_method_8_code
def yX2_release : MethodName := ⟨RX2, "release", "(II)V"⟩
def dkwX2_release_0 : List UInt8 := [42, 2, 27, 28, 182, 0, 62, 177]
abbrev dktX2_release_0 : List UInt8 := dkwX2_release_0 ++ []
theorem dksX2_release_0 : cX2_release.data.toList.drop 0 = dktX2_release_0 := by decide +kernel
theorem dX2_release_0 : decode cX2_release 0 = .ok (.aload_n 0, 1) := dk_42 (dk_at dksX2_release_0 0 rfl rfl)
theorem dX2_release_1 : decode cX2_release 1 = .ok (.iconst (-1), 1) := dk_2 (dk_at dksX2_release_0 1 rfl rfl)
theorem dX2_release_2 : decode cX2_release 2 = .ok (.iload_n 1, 1) := dk_27 (dk_at dksX2_release_0 2 rfl rfl)
theorem dX2_release_3 : decode cX2_release 3 = .ok (.iload_n 2, 1) := dk_28 (dk_at dksX2_release_0 3 rfl rfl)
theorem dX2_release_4 : decode cX2_release 4 = .ok (.invokevirtual 62, 3) := dk_182 0 62 (dk_at dksX2_release_0 4 rfl rfl)
theorem dX2_release_7 : decode cX2_release 7 = .ok (.return_, 1) := dk_177 (dk_at dksX2_release_0 7 rfl rfl)
abbrev cX2_give : ByteArray := prog_6_method_7_code
def yX2_give : MethodName := ⟨RX2, "give", "(III)V"⟩
def dkwX2_give_0 : List UInt8 := [28, 54, 4, 21, 4, 29, 163, 0, 17, 42, 180, 0, 24, 21, 4, 27, 79, 132, 4, 1, 167, 255, 239, 177]
abbrev dktX2_give_0 : List UInt8 := dkwX2_give_0 ++ []
theorem dksX2_give_0 : cX2_give.data.toList.drop 0 = dktX2_give_0 := by decide +kernel
theorem dX2_give_0 : decode cX2_give 0 = .ok (.iload_n 2, 1) := dk_28 (dk_at dksX2_give_0 0 rfl rfl)
theorem dX2_give_1 : decode cX2_give 1 = .ok (.istore 4, 2) := dk_54 4 (dk_at dksX2_give_0 1 rfl rfl)
theorem dX2_give_3 : decode cX2_give 3 = .ok (.iload 4, 2) := dk_21 4 (dk_at dksX2_give_0 3 rfl rfl)
theorem dX2_give_5 : decode cX2_give 5 = .ok (.iload_n 3, 1) := dk_29 (dk_at dksX2_give_0 5 rfl rfl)
theorem dX2_give_6 : decode cX2_give 6 = .ok (.if_icmp .gt 17, 3) := dk_163 0 17 (dk_at dksX2_give_0 6 rfl rfl)
theorem dX2_give_9 : decode cX2_give 9 = .ok (.aload_n 0, 1) := dk_42 (dk_at dksX2_give_0 9 rfl rfl)
theorem dX2_give_10 : decode cX2_give 10 = .ok (.getfield 24, 3) := dk_180 0 24 (dk_at dksX2_give_0 10 rfl rfl)
theorem dX2_give_13 : decode cX2_give 13 = .ok (.iload 4, 2) := dk_21 4 (dk_at dksX2_give_0 13 rfl rfl)
theorem dX2_give_15 : decode cX2_give 15 = .ok (.iload_n 1, 1) := dk_27 (dk_at dksX2_give_0 15 rfl rfl)
theorem dX2_give_16 : decode cX2_give 16 = .ok (.iastore, 1) := dk_79 (dk_at dksX2_give_0 16 rfl rfl)
theorem dX2_give_17 : decode cX2_give 17 = .ok (.iinc 4 1, 3) := dk_132 4 1 (dk_at dksX2_give_0 17 rfl rfl)
theorem dX2_give_20 : decode cX2_give 20 = .ok (.goto (-17), 3) := dk_167 255 239 (dk_at dksX2_give_0 20 rfl rfl)
theorem dX2_give_23 : decode cX2_give 23 = .ok (.return_, 1) := dk_177 (dk_at dksX2_give_0 23 rfl rfl)
abbrev cX2_size : ByteArray := prog_6_method_4_code
def yX2_size : MethodName := ⟨RX2, "size", "()I"⟩
def dkwX2_size_0 : List UInt8 := [42, 180, 0, 14, 182, 0, 33, 172]
abbrev dktX2_size_0 : List UInt8 := dkwX2_size_0 ++ []
theorem dksX2_size_0 : cX2_size.data.toList.drop 0 = dktX2_size_0 := by decide +kernel
theorem dX2_size_0 : decode cX2_size 0 = .ok (.aload_n 0, 1) := dk_42 (dk_at dksX2_size_0 0 rfl rfl)
theorem dX2_size_1 : decode cX2_size 1 = .ok (.getfield 14, 3) := dk_180 0 14 (dk_at dksX2_size_0 1 rfl rfl)
theorem dX2_size_4 : decode cX2_size 4 = .ok (.invokevirtual 33, 3) := dk_182 0 33 (dk_at dksX2_size_0 4 rfl rfl)
theorem dX2_size_7 : decode cX2_size 7 = .ok (.ireturn, 1) := dk_172 (dk_at dksX2_size_0 7 rfl rfl)
abbrev cX2_siblingNamed : ByteArray := prog_6_method_6_code
def yX2_siblingNamed : MethodName := ⟨RX2, "siblingNamed", "([B)I"⟩
def dkwX2_siblingNamed_1 : List UInt8 := [132, 2, 1, 167, 255, 231, 2, 172]
abbrev dktX2_siblingNamed_1 : List UInt8 := dkwX2_siblingNamed_1 ++ []
def dkwX2_siblingNamed_0 : List UInt8 := [3, 61, 28, 42, 182, 0, 53, 162, 0, 23, 42, 28, 182, 0, 54, 43, 182, 0, 58, 153, 0, 5, 28, 172]
abbrev dktX2_siblingNamed_0 : List UInt8 := dkwX2_siblingNamed_0 ++ dktX2_siblingNamed_1
theorem dksX2_siblingNamed_0 : cX2_siblingNamed.data.toList.drop 0 = dktX2_siblingNamed_0 := by decide +kernel
theorem dksX2_siblingNamed_1 : cX2_siblingNamed.data.toList.drop 24 = dktX2_siblingNamed_1 := dk_seg dksX2_siblingNamed_0 24 rfl rfl
theorem dX2_siblingNamed_0 : decode cX2_siblingNamed 0 = .ok (.iconst 0, 1) := dk_3 (dk_at dksX2_siblingNamed_0 0 rfl rfl)
theorem dX2_siblingNamed_1 : decode cX2_siblingNamed 1 = .ok (.istore_n 2, 1) := dk_61 (dk_at dksX2_siblingNamed_0 1 rfl rfl)
theorem dX2_siblingNamed_2 : decode cX2_siblingNamed 2 = .ok (.iload_n 2, 1) := dk_28 (dk_at dksX2_siblingNamed_0 2 rfl rfl)
theorem dX2_siblingNamed_3 : decode cX2_siblingNamed 3 = .ok (.aload_n 0, 1) := dk_42 (dk_at dksX2_siblingNamed_0 3 rfl rfl)
theorem dX2_siblingNamed_4 : decode cX2_siblingNamed 4 = .ok (.invokevirtual 53, 3) := dk_182 0 53 (dk_at dksX2_siblingNamed_0 4 rfl rfl)
theorem dX2_siblingNamed_7 : decode cX2_siblingNamed 7 = .ok (.if_icmp .ge 23, 3) := dk_162 0 23 (dk_at dksX2_siblingNamed_0 7 rfl rfl)
theorem dX2_siblingNamed_10 : decode cX2_siblingNamed 10 = .ok (.aload_n 0, 1) := dk_42 (dk_at dksX2_siblingNamed_0 10 rfl rfl)
theorem dX2_siblingNamed_11 : decode cX2_siblingNamed 11 = .ok (.iload_n 2, 1) := dk_28 (dk_at dksX2_siblingNamed_0 11 rfl rfl)
theorem dX2_siblingNamed_12 : decode cX2_siblingNamed 12 = .ok (.invokevirtual 54, 3) := dk_182 0 54 (dk_at dksX2_siblingNamed_0 12 rfl rfl)
theorem dX2_siblingNamed_15 : decode cX2_siblingNamed 15 = .ok (.aload_n 1, 1) := dk_43 (dk_at dksX2_siblingNamed_0 15 rfl rfl)
theorem dX2_siblingNamed_16 : decode cX2_siblingNamed 16 = .ok (.invokevirtual 58, 3) := dk_182 0 58 (dk_at dksX2_siblingNamed_0 16 rfl rfl)
theorem dX2_siblingNamed_19 : decode cX2_siblingNamed 19 = .ok (.ifCond .eq 5, 3) := dk_153 0 5 (dk_at dksX2_siblingNamed_0 19 rfl rfl)
theorem dX2_siblingNamed_22 : decode cX2_siblingNamed 22 = .ok (.iload_n 2, 1) := dk_28 (dk_at dksX2_siblingNamed_0 22 rfl rfl)
theorem dX2_siblingNamed_23 : decode cX2_siblingNamed 23 = .ok (.ireturn, 1) := dk_172 (dk_at dksX2_siblingNamed_0 23 rfl rfl)
theorem dX2_siblingNamed_24 : decode cX2_siblingNamed 24 = .ok (.iinc 2 1, 3) := dk_132 2 1 (dk_at dksX2_siblingNamed_1 0 rfl rfl)
theorem dX2_siblingNamed_27 : decode cX2_siblingNamed 27 = .ok (.goto (-25), 3) := dk_167 255 231 (dk_at dksX2_siblingNamed_1 3 rfl rfl)
theorem dX2_siblingNamed_30 : decode cX2_siblingNamed 30 = .ok (.iconst (-1), 1) := dk_2 (dk_at dksX2_siblingNamed_1 6 rfl rfl)
theorem dX2_siblingNamed_31 : decode cX2_siblingNamed 31 = .ok (.ireturn, 1) := dk_172 (dk_at dksX2_siblingNamed_1 7 rfl rfl)
abbrev cX2_sibling : ByteArray := prog_6_method_5_code
def yX2_sibling : MethodName := ⟨RX2, "sibling", "(I)LCakeDivision$Sibling;"⟩
def dkwX2_sibling_0 : List UInt8 := [42, 180, 0, 14, 27, 182, 0, 37, 192, 0, 41, 176]
abbrev dktX2_sibling_0 : List UInt8 := dkwX2_sibling_0 ++ []
theorem dksX2_sibling_0 : cX2_sibling.data.toList.drop 0 = dktX2_sibling_0 := by decide +kernel
theorem dX2_sibling_0 : decode cX2_sibling 0 = .ok (.aload_n 0, 1) := dk_42 (dk_at dksX2_sibling_0 0 rfl rfl)
theorem dX2_sibling_1 : decode cX2_sibling 1 = .ok (.getfield 14, 3) := dk_180 0 14 (dk_at dksX2_sibling_0 1 rfl rfl)
theorem dX2_sibling_4 : decode cX2_sibling 4 = .ok (.iload_n 1, 1) := dk_27 (dk_at dksX2_sibling_0 4 rfl rfl)
theorem dX2_sibling_5 : decode cX2_sibling 5 = .ok (.invokevirtual 37, 3) := dk_182 0 37 (dk_at dksX2_sibling_0 5 rfl rfl)
theorem dX2_sibling_8 : decode cX2_sibling 8 = .ok (.checkcast 41, 3) := dk_192 0 41 (dk_at dksX2_sibling_0 8 rfl rfl)
theorem dX2_sibling_11 : decode cX2_sibling 11 = .ok (.areturn, 1) := dk_176 (dk_at dksX2_sibling_0 11 rfl rfl)
abbrev cX2_cells : ByteArray := prog_6_method_3_code
def yX2_cells : MethodName := ⟨RX2, "cells", "()I"⟩
def dkwX2_cells_0 : List UInt8 := [42, 180, 0, 24, 190, 172]
abbrev dktX2_cells_0 : List UInt8 := dkwX2_cells_0 ++ []
theorem dksX2_cells_0 : cX2_cells.data.toList.drop 0 = dktX2_cells_0 := by decide +kernel
theorem dX2_cells_0 : decode cX2_cells 0 = .ok (.aload_n 0, 1) := dk_42 (dk_at dksX2_cells_0 0 rfl rfl)
theorem dX2_cells_1 : decode cX2_cells 1 = .ok (.getfield 24, 3) := dk_180 0 24 (dk_at dksX2_cells_0 1 rfl rfl)
theorem dX2_cells_4 : decode cX2_cells 4 = .ok (.arraylength, 1) := dk_190 (dk_at dksX2_cells_0 4 rfl rfl)
theorem dX2_cells_5 : decode cX2_cells 5 = .ok (.ireturn, 1) := dk_172 (dk_at dksX2_cells_0 5 rfl rfl)
abbrev cX2_count : ByteArray := prog_6_method_9_code
def yX2_count : MethodName := ⟨RX2, "count", "(I)I"⟩
def dkwX2_count_1 : List UInt8 := [167, 0, 4, 3, 96, 61, 132, 3, 1, 167, 255, 227, 28, 172]
abbrev dktX2_count_1 : List UInt8 := dkwX2_count_1 ++ []
def dkwX2_count_0 : List UInt8 := [3, 61, 3, 62, 29, 42, 182, 0, 66, 162, 0, 27, 28, 42, 180, 0, 24, 29, 46, 27, 160, 0, 7, 4]
abbrev dktX2_count_0 : List UInt8 := dkwX2_count_0 ++ dktX2_count_1
theorem dksX2_count_0 : cX2_count.data.toList.drop 0 = dktX2_count_0 := by decide +kernel
theorem dksX2_count_1 : cX2_count.data.toList.drop 24 = dktX2_count_1 := dk_seg dksX2_count_0 24 rfl rfl
theorem dX2_count_0 : decode cX2_count 0 = .ok (.iconst 0, 1) := dk_3 (dk_at dksX2_count_0 0 rfl rfl)
theorem dX2_count_1 : decode cX2_count 1 = .ok (.istore_n 2, 1) := dk_61 (dk_at dksX2_count_0 1 rfl rfl)
theorem dX2_count_2 : decode cX2_count 2 = .ok (.iconst 0, 1) := dk_3 (dk_at dksX2_count_0 2 rfl rfl)
theorem dX2_count_3 : decode cX2_count 3 = .ok (.istore_n 3, 1) := dk_62 (dk_at dksX2_count_0 3 rfl rfl)
theorem dX2_count_4 : decode cX2_count 4 = .ok (.iload_n 3, 1) := dk_29 (dk_at dksX2_count_0 4 rfl rfl)
theorem dX2_count_5 : decode cX2_count 5 = .ok (.aload_n 0, 1) := dk_42 (dk_at dksX2_count_0 5 rfl rfl)
theorem dX2_count_6 : decode cX2_count 6 = .ok (.invokevirtual 66, 3) := dk_182 0 66 (dk_at dksX2_count_0 6 rfl rfl)
theorem dX2_count_9 : decode cX2_count 9 = .ok (.if_icmp .ge 27, 3) := dk_162 0 27 (dk_at dksX2_count_0 9 rfl rfl)
theorem dX2_count_12 : decode cX2_count 12 = .ok (.iload_n 2, 1) := dk_28 (dk_at dksX2_count_0 12 rfl rfl)
theorem dX2_count_13 : decode cX2_count 13 = .ok (.aload_n 0, 1) := dk_42 (dk_at dksX2_count_0 13 rfl rfl)
theorem dX2_count_14 : decode cX2_count 14 = .ok (.getfield 24, 3) := dk_180 0 24 (dk_at dksX2_count_0 14 rfl rfl)
theorem dX2_count_17 : decode cX2_count 17 = .ok (.iload_n 3, 1) := dk_29 (dk_at dksX2_count_0 17 rfl rfl)
theorem dX2_count_18 : decode cX2_count 18 = .ok (.iaload, 1) := dk_46 (dk_at dksX2_count_0 18 rfl rfl)
theorem dX2_count_19 : decode cX2_count 19 = .ok (.iload_n 1, 1) := dk_27 (dk_at dksX2_count_0 19 rfl rfl)
theorem dX2_count_20 : decode cX2_count 20 = .ok (.if_icmp .ne 7, 3) := dk_160 0 7 (dk_at dksX2_count_0 20 rfl rfl)
theorem dX2_count_23 : decode cX2_count 23 = .ok (.iconst 1, 1) := dk_4 (dk_at dksX2_count_0 23 rfl rfl)
theorem dX2_count_24 : decode cX2_count 24 = .ok (.goto 4, 3) := dk_167 0 4 (dk_at dksX2_count_1 0 rfl rfl)
theorem dX2_count_27 : decode cX2_count 27 = .ok (.iconst 0, 1) := dk_3 (dk_at dksX2_count_1 3 rfl rfl)
theorem dX2_count_28 : decode cX2_count 28 = .ok (.iadd, 1) := dk_96 (dk_at dksX2_count_1 4 rfl rfl)
theorem dX2_count_29 : decode cX2_count 29 = .ok (.istore_n 2, 1) := dk_61 (dk_at dksX2_count_1 5 rfl rfl)
theorem dX2_count_30 : decode cX2_count 30 = .ok (.iinc 3 1, 3) := dk_132 3 1 (dk_at dksX2_count_1 6 rfl rfl)
theorem dX2_count_33 : decode cX2_count 33 = .ok (.goto (-29), 3) := dk_167 255 227 (dk_at dksX2_count_1 9 rfl rfl)
theorem dX2_count_36 : decode cX2_count 36 = .ok (.iload_n 2, 1) := dk_28 (dk_at dksX2_count_1 12 rfl rfl)
theorem dX2_count_37 : decode cX2_count 37 = .ok (.ireturn, 1) := dk_172 (dk_at dksX2_count_1 13 rfl rfl)
abbrev cX2_envies : ByteArray := prog_6_method_18_code
def yX2_envies : MethodName := ⟨RX2, "envies", "()I"⟩
def dkwX2_envies_2 : List UInt8 := [167, 255, 213, 27, 172]
abbrev dktX2_envies_2 : List UInt8 := dkwX2_envies_2 ++ []
def dkwX2_envies_1 : List UInt8 := [108, 28, 42, 182, 0, 53, 112, 182, 0, 92, 153, 0, 7, 4, 167, 0, 4, 3, 96, 60, 132, 2, 1]
abbrev dktX2_envies_1 : List UInt8 := dkwX2_envies_1 ++ dktX2_envies_2
def dkwX2_envies_0 : List UInt8 := [3, 60, 3, 61, 28, 42, 182, 0, 53, 42, 182, 0, 53, 104, 162, 0, 36, 27, 42, 28, 42, 182, 0, 53]
abbrev dktX2_envies_0 : List UInt8 := dkwX2_envies_0 ++ dktX2_envies_1
theorem dksX2_envies_0 : cX2_envies.data.toList.drop 0 = dktX2_envies_0 := by decide +kernel
theorem dksX2_envies_1 : cX2_envies.data.toList.drop 24 = dktX2_envies_1 := dk_seg dksX2_envies_0 24 rfl rfl
theorem dksX2_envies_2 : cX2_envies.data.toList.drop 47 = dktX2_envies_2 := dk_seg dksX2_envies_1 23 rfl rfl
theorem dX2_envies_0 : decode cX2_envies 0 = .ok (.iconst 0, 1) := dk_3 (dk_at dksX2_envies_0 0 rfl rfl)
theorem dX2_envies_1 : decode cX2_envies 1 = .ok (.istore_n 1, 1) := dk_60 (dk_at dksX2_envies_0 1 rfl rfl)
theorem dX2_envies_2 : decode cX2_envies 2 = .ok (.iconst 0, 1) := dk_3 (dk_at dksX2_envies_0 2 rfl rfl)
theorem dX2_envies_3 : decode cX2_envies 3 = .ok (.istore_n 2, 1) := dk_61 (dk_at dksX2_envies_0 3 rfl rfl)
theorem dX2_envies_4 : decode cX2_envies 4 = .ok (.iload_n 2, 1) := dk_28 (dk_at dksX2_envies_0 4 rfl rfl)
theorem dX2_envies_5 : decode cX2_envies 5 = .ok (.aload_n 0, 1) := dk_42 (dk_at dksX2_envies_0 5 rfl rfl)
theorem dX2_envies_6 : decode cX2_envies 6 = .ok (.invokevirtual 53, 3) := dk_182 0 53 (dk_at dksX2_envies_0 6 rfl rfl)
theorem dX2_envies_9 : decode cX2_envies 9 = .ok (.aload_n 0, 1) := dk_42 (dk_at dksX2_envies_0 9 rfl rfl)
theorem dX2_envies_10 : decode cX2_envies 10 = .ok (.invokevirtual 53, 3) := dk_182 0 53 (dk_at dksX2_envies_0 10 rfl rfl)
theorem dX2_envies_13 : decode cX2_envies 13 = .ok (.imul, 1) := dk_104 (dk_at dksX2_envies_0 13 rfl rfl)
theorem dX2_envies_14 : decode cX2_envies 14 = .ok (.if_icmp .ge 36, 3) := dk_162 0 36 (dk_at dksX2_envies_0 14 rfl rfl)
theorem dX2_envies_17 : decode cX2_envies 17 = .ok (.iload_n 1, 1) := dk_27 (dk_at dksX2_envies_0 17 rfl rfl)
theorem dX2_envies_18 : decode cX2_envies 18 = .ok (.aload_n 0, 1) := dk_42 (dk_at dksX2_envies_0 18 rfl rfl)
theorem dX2_envies_19 : decode cX2_envies 19 = .ok (.iload_n 2, 1) := dk_28 (dk_at dksX2_envies_0 19 rfl rfl)
theorem dX2_envies_20 : decode cX2_envies 20 = .ok (.aload_n 0, 1) := dk_42 (dk_at dksX2_envies_0 20 rfl rfl)
theorem dX2_envies_21 : decode cX2_envies 21 = .ok (.invokevirtual 53, 3) := dk_182 0 53 (dk_at dksX2_envies_0 21 rfl rfl)
theorem dX2_envies_24 : decode cX2_envies 24 = .ok (.idiv, 1) := dk_108 (dk_at dksX2_envies_1 0 rfl rfl)
theorem dX2_envies_25 : decode cX2_envies 25 = .ok (.iload_n 2, 1) := dk_28 (dk_at dksX2_envies_1 1 rfl rfl)
theorem dX2_envies_26 : decode cX2_envies 26 = .ok (.aload_n 0, 1) := dk_42 (dk_at dksX2_envies_1 2 rfl rfl)
theorem dX2_envies_27 : decode cX2_envies 27 = .ok (.invokevirtual 53, 3) := dk_182 0 53 (dk_at dksX2_envies_1 3 rfl rfl)
theorem dX2_envies_30 : decode cX2_envies 30 = .ok (.irem, 1) := dk_112 (dk_at dksX2_envies_1 6 rfl rfl)
theorem dX2_envies_31 : decode cX2_envies 31 = .ok (.invokevirtual 92, 3) := dk_182 0 92 (dk_at dksX2_envies_1 7 rfl rfl)
theorem dX2_envies_34 : decode cX2_envies 34 = .ok (.ifCond .eq 7, 3) := dk_153 0 7 (dk_at dksX2_envies_1 10 rfl rfl)
theorem dX2_envies_37 : decode cX2_envies 37 = .ok (.iconst 1, 1) := dk_4 (dk_at dksX2_envies_1 13 rfl rfl)
theorem dX2_envies_38 : decode cX2_envies 38 = .ok (.goto 4, 3) := dk_167 0 4 (dk_at dksX2_envies_1 14 rfl rfl)
theorem dX2_envies_41 : decode cX2_envies 41 = .ok (.iconst 0, 1) := dk_3 (dk_at dksX2_envies_1 17 rfl rfl)
theorem dX2_envies_42 : decode cX2_envies 42 = .ok (.iadd, 1) := dk_96 (dk_at dksX2_envies_1 18 rfl rfl)
theorem dX2_envies_43 : decode cX2_envies 43 = .ok (.istore_n 1, 1) := dk_60 (dk_at dksX2_envies_1 19 rfl rfl)
theorem dX2_envies_44 : decode cX2_envies 44 = .ok (.iinc 2 1, 3) := dk_132 2 1 (dk_at dksX2_envies_1 20 rfl rfl)
theorem dX2_envies_47 : decode cX2_envies 47 = .ok (.goto (-43), 3) := dk_167 255 213 (dk_at dksX2_envies_2 0 rfl rfl)
theorem dX2_envies_50 : decode cX2_envies 50 = .ok (.iload_n 1, 1) := dk_27 (dk_at dksX2_envies_2 3 rfl rfl)
theorem dX2_envies_51 : decode cX2_envies 51 = .ok (.ireturn, 1) := dk_172 (dk_at dksX2_envies_2 4 rfl rfl)
abbrev cX2_envies_2 : ByteArray := prog_6_method_14_code
def yX2_envies_2 : MethodName := ⟨RX2, "envies", "(II)Z"⟩
def dkwX2_envies_2_0 : List UInt8 := [42, 27, 28, 182, 0, 73, 42, 27, 182, 0, 77, 164, 0, 7, 4, 167, 0, 4, 3, 172]
abbrev dktX2_envies_2_0 : List UInt8 := dkwX2_envies_2_0 ++ []
theorem dksX2_envies_2_0 : cX2_envies_2.data.toList.drop 0 = dktX2_envies_2_0 := by decide +kernel
theorem dX2_envies_2_0 : decode cX2_envies_2 0 = .ok (.aload_n 0, 1) := dk_42 (dk_at dksX2_envies_2_0 0 rfl rfl)
theorem dX2_envies_2_1 : decode cX2_envies_2 1 = .ok (.iload_n 1, 1) := dk_27 (dk_at dksX2_envies_2_0 1 rfl rfl)
theorem dX2_envies_2_2 : decode cX2_envies_2 2 = .ok (.iload_n 2, 1) := dk_28 (dk_at dksX2_envies_2_0 2 rfl rfl)
theorem dX2_envies_2_3 : decode cX2_envies_2 3 = .ok (.invokevirtual 73, 3) := dk_182 0 73 (dk_at dksX2_envies_2_0 3 rfl rfl)
theorem dX2_envies_2_6 : decode cX2_envies_2 6 = .ok (.aload_n 0, 1) := dk_42 (dk_at dksX2_envies_2_0 6 rfl rfl)
theorem dX2_envies_2_7 : decode cX2_envies_2 7 = .ok (.iload_n 1, 1) := dk_27 (dk_at dksX2_envies_2_0 7 rfl rfl)
theorem dX2_envies_2_8 : decode cX2_envies_2 8 = .ok (.invokevirtual 77, 3) := dk_182 0 77 (dk_at dksX2_envies_2_0 8 rfl rfl)
theorem dX2_envies_2_11 : decode cX2_envies_2 11 = .ok (.if_icmp .le 7, 3) := dk_164 0 7 (dk_at dksX2_envies_2_0 11 rfl rfl)
theorem dX2_envies_2_14 : decode cX2_envies_2 14 = .ok (.iconst 1, 1) := dk_4 (dk_at dksX2_envies_2_0 14 rfl rfl)
theorem dX2_envies_2_15 : decode cX2_envies_2 15 = .ok (.goto 4, 3) := dk_167 0 4 (dk_at dksX2_envies_2_0 15 rfl rfl)
theorem dX2_envies_2_18 : decode cX2_envies_2 18 = .ok (.iconst 0, 1) := dk_3 (dk_at dksX2_envies_2_0 18 rfl rfl)
theorem dX2_envies_2_19 : decode cX2_envies_2 19 = .ok (.ireturn, 1) := dk_172 (dk_at dksX2_envies_2_0 19 rfl rfl)
abbrev cX2_worthOfShare : ByteArray := prog_6_method_11_code
def yX2_worthOfShare : MethodName := ⟨RX2, "worthOfShare", "(II)I"⟩
def dkwX2_worthOfShare_2 : List UInt8 := [167, 255, 216, 29, 172]
abbrev dktX2_worthOfShare_2 : List UInt8 := dkwX2_worthOfShare_2 ++ []
def dkwX2_worthOfShare_1 : List UInt8 := [160, 0, 16, 42, 27, 182, 0, 54, 21, 4, 182, 0, 69, 167, 0, 4, 3, 96, 62, 132, 4, 1]
abbrev dktX2_worthOfShare_1 : List UInt8 := dkwX2_worthOfShare_1 ++ dktX2_worthOfShare_2
def dkwX2_worthOfShare_0 : List UInt8 := [3, 62, 3, 54, 4, 21, 4, 42, 182, 0, 66, 162, 0, 37, 29, 42, 180, 0, 24, 21, 4, 46, 28]
abbrev dktX2_worthOfShare_0 : List UInt8 := dkwX2_worthOfShare_0 ++ dktX2_worthOfShare_1
theorem dksX2_worthOfShare_0 : cX2_worthOfShare.data.toList.drop 0 = dktX2_worthOfShare_0 := by decide +kernel
theorem dksX2_worthOfShare_1 : cX2_worthOfShare.data.toList.drop 23 = dktX2_worthOfShare_1 := dk_seg dksX2_worthOfShare_0 23 rfl rfl
theorem dksX2_worthOfShare_2 : cX2_worthOfShare.data.toList.drop 45 = dktX2_worthOfShare_2 := dk_seg dksX2_worthOfShare_1 22 rfl rfl
theorem dX2_worthOfShare_0 : decode cX2_worthOfShare 0 = .ok (.iconst 0, 1) := dk_3 (dk_at dksX2_worthOfShare_0 0 rfl rfl)
theorem dX2_worthOfShare_1 : decode cX2_worthOfShare 1 = .ok (.istore_n 3, 1) := dk_62 (dk_at dksX2_worthOfShare_0 1 rfl rfl)
theorem dX2_worthOfShare_2 : decode cX2_worthOfShare 2 = .ok (.iconst 0, 1) := dk_3 (dk_at dksX2_worthOfShare_0 2 rfl rfl)
theorem dX2_worthOfShare_3 : decode cX2_worthOfShare 3 = .ok (.istore 4, 2) := dk_54 4 (dk_at dksX2_worthOfShare_0 3 rfl rfl)
theorem dX2_worthOfShare_5 : decode cX2_worthOfShare 5 = .ok (.iload 4, 2) := dk_21 4 (dk_at dksX2_worthOfShare_0 5 rfl rfl)
theorem dX2_worthOfShare_7 : decode cX2_worthOfShare 7 = .ok (.aload_n 0, 1) := dk_42 (dk_at dksX2_worthOfShare_0 7 rfl rfl)
theorem dX2_worthOfShare_8 : decode cX2_worthOfShare 8 = .ok (.invokevirtual 66, 3) := dk_182 0 66 (dk_at dksX2_worthOfShare_0 8 rfl rfl)
theorem dX2_worthOfShare_11 : decode cX2_worthOfShare 11 = .ok (.if_icmp .ge 37, 3) := dk_162 0 37 (dk_at dksX2_worthOfShare_0 11 rfl rfl)
theorem dX2_worthOfShare_14 : decode cX2_worthOfShare 14 = .ok (.iload_n 3, 1) := dk_29 (dk_at dksX2_worthOfShare_0 14 rfl rfl)
theorem dX2_worthOfShare_15 : decode cX2_worthOfShare 15 = .ok (.aload_n 0, 1) := dk_42 (dk_at dksX2_worthOfShare_0 15 rfl rfl)
theorem dX2_worthOfShare_16 : decode cX2_worthOfShare 16 = .ok (.getfield 24, 3) := dk_180 0 24 (dk_at dksX2_worthOfShare_0 16 rfl rfl)
theorem dX2_worthOfShare_19 : decode cX2_worthOfShare 19 = .ok (.iload 4, 2) := dk_21 4 (dk_at dksX2_worthOfShare_0 19 rfl rfl)
theorem dX2_worthOfShare_21 : decode cX2_worthOfShare 21 = .ok (.iaload, 1) := dk_46 (dk_at dksX2_worthOfShare_0 21 rfl rfl)
theorem dX2_worthOfShare_22 : decode cX2_worthOfShare 22 = .ok (.iload_n 2, 1) := dk_28 (dk_at dksX2_worthOfShare_0 22 rfl rfl)
theorem dX2_worthOfShare_23 : decode cX2_worthOfShare 23 = .ok (.if_icmp .ne 16, 3) := dk_160 0 16 (dk_at dksX2_worthOfShare_1 0 rfl rfl)
theorem dX2_worthOfShare_26 : decode cX2_worthOfShare 26 = .ok (.aload_n 0, 1) := dk_42 (dk_at dksX2_worthOfShare_1 3 rfl rfl)
theorem dX2_worthOfShare_27 : decode cX2_worthOfShare 27 = .ok (.iload_n 1, 1) := dk_27 (dk_at dksX2_worthOfShare_1 4 rfl rfl)
theorem dX2_worthOfShare_28 : decode cX2_worthOfShare 28 = .ok (.invokevirtual 54, 3) := dk_182 0 54 (dk_at dksX2_worthOfShare_1 5 rfl rfl)
theorem dX2_worthOfShare_31 : decode cX2_worthOfShare 31 = .ok (.iload 4, 2) := dk_21 4 (dk_at dksX2_worthOfShare_1 8 rfl rfl)
theorem dX2_worthOfShare_33 : decode cX2_worthOfShare 33 = .ok (.invokevirtual 69, 3) := dk_182 0 69 (dk_at dksX2_worthOfShare_1 10 rfl rfl)
theorem dX2_worthOfShare_36 : decode cX2_worthOfShare 36 = .ok (.goto 4, 3) := dk_167 0 4 (dk_at dksX2_worthOfShare_1 13 rfl rfl)
theorem dX2_worthOfShare_39 : decode cX2_worthOfShare 39 = .ok (.iconst 0, 1) := dk_3 (dk_at dksX2_worthOfShare_1 16 rfl rfl)
theorem dX2_worthOfShare_40 : decode cX2_worthOfShare 40 = .ok (.iadd, 1) := dk_96 (dk_at dksX2_worthOfShare_1 17 rfl rfl)
theorem dX2_worthOfShare_41 : decode cX2_worthOfShare 41 = .ok (.istore_n 3, 1) := dk_62 (dk_at dksX2_worthOfShare_1 18 rfl rfl)
theorem dX2_worthOfShare_42 : decode cX2_worthOfShare 42 = .ok (.iinc 4 1, 3) := dk_132 4 1 (dk_at dksX2_worthOfShare_1 19 rfl rfl)
theorem dX2_worthOfShare_45 : decode cX2_worthOfShare 45 = .ok (.goto (-40), 3) := dk_167 255 216 (dk_at dksX2_worthOfShare_2 0 rfl rfl)
theorem dX2_worthOfShare_48 : decode cX2_worthOfShare 48 = .ok (.iload_n 3, 1) := dk_29 (dk_at dksX2_worthOfShare_2 3 rfl rfl)
theorem dX2_worthOfShare_49 : decode cX2_worthOfShare 49 = .ok (.ireturn, 1) := dk_172 (dk_at dksX2_worthOfShare_2 4 rfl rfl)
abbrev cX2_welfare : ByteArray := prog_6_method_12_code
def yX2_welfare : MethodName := ⟨RX2, "welfare", "(I)I"⟩
def dkwX2_welfare_0 : List UInt8 := [42, 27, 27, 182, 0, 73, 172]
abbrev dktX2_welfare_0 : List UInt8 := dkwX2_welfare_0 ++ []
theorem dksX2_welfare_0 : cX2_welfare.data.toList.drop 0 = dktX2_welfare_0 := by decide +kernel
theorem dX2_welfare_0 : decode cX2_welfare 0 = .ok (.aload_n 0, 1) := dk_42 (dk_at dksX2_welfare_0 0 rfl rfl)
theorem dX2_welfare_1 : decode cX2_welfare 1 = .ok (.iload_n 1, 1) := dk_27 (dk_at dksX2_welfare_0 1 rfl rfl)
theorem dX2_welfare_2 : decode cX2_welfare 2 = .ok (.iload_n 1, 1) := dk_27 (dk_at dksX2_welfare_0 2 rfl rfl)
theorem dX2_welfare_3 : decode cX2_welfare 3 = .ok (.invokevirtual 73, 3) := dk_182 0 73 (dk_at dksX2_welfare_0 3 rfl rfl)
theorem dX2_welfare_6 : decode cX2_welfare 6 = .ok (.ireturn, 1) := dk_172 (dk_at dksX2_welfare_0 6 rfl rfl)
abbrev cX2_isMild : ByteArray := prog_6_method_15_code
def yX2_isMild : MethodName := ⟨RX2, "isMild", "(II)Z"⟩
def dkwX2_isMild_3 : List UInt8 := [167, 255, 207, 21, 4, 172]
abbrev dktX2_isMild_3 : List UInt8 := dkwX2_isMild_3 ++ []
def dkwX2_isMild_2 : List UInt8 := [182, 0, 54, 21, 5, 182, 0, 69, 29, 161, 0, 7, 4, 167, 0, 4, 3, 54, 4, 132, 5, 1]
abbrev dktX2_isMild_2 : List UInt8 := dkwX2_isMild_2 ++ dktX2_isMild_3
def dkwX2_isMild_1 : List UInt8 := [182, 0, 66, 162, 0, 46, 21, 4, 154, 0, 41, 42, 180, 0, 24, 21, 5, 46, 28, 160, 0, 21, 42, 27]
abbrev dktX2_isMild_1 : List UInt8 := dkwX2_isMild_1 ++ dktX2_isMild_2
def dkwX2_isMild_0 : List UInt8 := [42, 27, 28, 182, 0, 73, 42, 27, 182, 0, 77, 100, 62, 3, 54, 4, 3, 54, 5, 21, 5, 42]
abbrev dktX2_isMild_0 : List UInt8 := dkwX2_isMild_0 ++ dktX2_isMild_1
theorem dksX2_isMild_0 : cX2_isMild.data.toList.drop 0 = dktX2_isMild_0 := by decide +kernel
theorem dksX2_isMild_1 : cX2_isMild.data.toList.drop 22 = dktX2_isMild_1 := dk_seg dksX2_isMild_0 22 rfl rfl
theorem dksX2_isMild_2 : cX2_isMild.data.toList.drop 46 = dktX2_isMild_2 := dk_seg dksX2_isMild_1 24 rfl rfl
theorem dksX2_isMild_3 : cX2_isMild.data.toList.drop 68 = dktX2_isMild_3 := dk_seg dksX2_isMild_2 22 rfl rfl
theorem dX2_isMild_0 : decode cX2_isMild 0 = .ok (.aload_n 0, 1) := dk_42 (dk_at dksX2_isMild_0 0 rfl rfl)
theorem dX2_isMild_1 : decode cX2_isMild 1 = .ok (.iload_n 1, 1) := dk_27 (dk_at dksX2_isMild_0 1 rfl rfl)
theorem dX2_isMild_2 : decode cX2_isMild 2 = .ok (.iload_n 2, 1) := dk_28 (dk_at dksX2_isMild_0 2 rfl rfl)
theorem dX2_isMild_3 : decode cX2_isMild 3 = .ok (.invokevirtual 73, 3) := dk_182 0 73 (dk_at dksX2_isMild_0 3 rfl rfl)
theorem dX2_isMild_6 : decode cX2_isMild 6 = .ok (.aload_n 0, 1) := dk_42 (dk_at dksX2_isMild_0 6 rfl rfl)
theorem dX2_isMild_7 : decode cX2_isMild 7 = .ok (.iload_n 1, 1) := dk_27 (dk_at dksX2_isMild_0 7 rfl rfl)
theorem dX2_isMild_8 : decode cX2_isMild 8 = .ok (.invokevirtual 77, 3) := dk_182 0 77 (dk_at dksX2_isMild_0 8 rfl rfl)
theorem dX2_isMild_11 : decode cX2_isMild 11 = .ok (.isub, 1) := dk_100 (dk_at dksX2_isMild_0 11 rfl rfl)
theorem dX2_isMild_12 : decode cX2_isMild 12 = .ok (.istore_n 3, 1) := dk_62 (dk_at dksX2_isMild_0 12 rfl rfl)
theorem dX2_isMild_13 : decode cX2_isMild 13 = .ok (.iconst 0, 1) := dk_3 (dk_at dksX2_isMild_0 13 rfl rfl)
theorem dX2_isMild_14 : decode cX2_isMild 14 = .ok (.istore 4, 2) := dk_54 4 (dk_at dksX2_isMild_0 14 rfl rfl)
theorem dX2_isMild_16 : decode cX2_isMild 16 = .ok (.iconst 0, 1) := dk_3 (dk_at dksX2_isMild_0 16 rfl rfl)
theorem dX2_isMild_17 : decode cX2_isMild 17 = .ok (.istore 5, 2) := dk_54 5 (dk_at dksX2_isMild_0 17 rfl rfl)
theorem dX2_isMild_19 : decode cX2_isMild 19 = .ok (.iload 5, 2) := dk_21 5 (dk_at dksX2_isMild_0 19 rfl rfl)
theorem dX2_isMild_21 : decode cX2_isMild 21 = .ok (.aload_n 0, 1) := dk_42 (dk_at dksX2_isMild_0 21 rfl rfl)
theorem dX2_isMild_22 : decode cX2_isMild 22 = .ok (.invokevirtual 66, 3) := dk_182 0 66 (dk_at dksX2_isMild_1 0 rfl rfl)
theorem dX2_isMild_25 : decode cX2_isMild 25 = .ok (.if_icmp .ge 46, 3) := dk_162 0 46 (dk_at dksX2_isMild_1 3 rfl rfl)
theorem dX2_isMild_28 : decode cX2_isMild 28 = .ok (.iload 4, 2) := dk_21 4 (dk_at dksX2_isMild_1 6 rfl rfl)
theorem dX2_isMild_30 : decode cX2_isMild 30 = .ok (.ifCond .ne 41, 3) := dk_154 0 41 (dk_at dksX2_isMild_1 8 rfl rfl)
theorem dX2_isMild_33 : decode cX2_isMild 33 = .ok (.aload_n 0, 1) := dk_42 (dk_at dksX2_isMild_1 11 rfl rfl)
theorem dX2_isMild_34 : decode cX2_isMild 34 = .ok (.getfield 24, 3) := dk_180 0 24 (dk_at dksX2_isMild_1 12 rfl rfl)
theorem dX2_isMild_37 : decode cX2_isMild 37 = .ok (.iload 5, 2) := dk_21 5 (dk_at dksX2_isMild_1 15 rfl rfl)
theorem dX2_isMild_39 : decode cX2_isMild 39 = .ok (.iaload, 1) := dk_46 (dk_at dksX2_isMild_1 17 rfl rfl)
theorem dX2_isMild_40 : decode cX2_isMild 40 = .ok (.iload_n 2, 1) := dk_28 (dk_at dksX2_isMild_1 18 rfl rfl)
theorem dX2_isMild_41 : decode cX2_isMild 41 = .ok (.if_icmp .ne 21, 3) := dk_160 0 21 (dk_at dksX2_isMild_1 19 rfl rfl)
theorem dX2_isMild_44 : decode cX2_isMild 44 = .ok (.aload_n 0, 1) := dk_42 (dk_at dksX2_isMild_1 22 rfl rfl)
theorem dX2_isMild_45 : decode cX2_isMild 45 = .ok (.iload_n 1, 1) := dk_27 (dk_at dksX2_isMild_1 23 rfl rfl)
theorem dX2_isMild_46 : decode cX2_isMild 46 = .ok (.invokevirtual 54, 3) := dk_182 0 54 (dk_at dksX2_isMild_2 0 rfl rfl)
theorem dX2_isMild_49 : decode cX2_isMild 49 = .ok (.iload 5, 2) := dk_21 5 (dk_at dksX2_isMild_2 3 rfl rfl)
theorem dX2_isMild_51 : decode cX2_isMild 51 = .ok (.invokevirtual 69, 3) := dk_182 0 69 (dk_at dksX2_isMild_2 5 rfl rfl)
theorem dX2_isMild_54 : decode cX2_isMild 54 = .ok (.iload_n 3, 1) := dk_29 (dk_at dksX2_isMild_2 8 rfl rfl)
theorem dX2_isMild_55 : decode cX2_isMild 55 = .ok (.if_icmp .lt 7, 3) := dk_161 0 7 (dk_at dksX2_isMild_2 9 rfl rfl)
theorem dX2_isMild_58 : decode cX2_isMild 58 = .ok (.iconst 1, 1) := dk_4 (dk_at dksX2_isMild_2 12 rfl rfl)
theorem dX2_isMild_59 : decode cX2_isMild 59 = .ok (.goto 4, 3) := dk_167 0 4 (dk_at dksX2_isMild_2 13 rfl rfl)
theorem dX2_isMild_62 : decode cX2_isMild 62 = .ok (.iconst 0, 1) := dk_3 (dk_at dksX2_isMild_2 16 rfl rfl)
theorem dX2_isMild_63 : decode cX2_isMild 63 = .ok (.istore 4, 2) := dk_54 4 (dk_at dksX2_isMild_2 17 rfl rfl)
theorem dX2_isMild_65 : decode cX2_isMild 65 = .ok (.iinc 5 1, 3) := dk_132 5 1 (dk_at dksX2_isMild_2 19 rfl rfl)
theorem dX2_isMild_68 : decode cX2_isMild 68 = .ok (.goto (-49), 3) := dk_167 255 207 (dk_at dksX2_isMild_3 0 rfl rfl)
theorem dX2_isMild_71 : decode cX2_isMild 71 = .ok (.iload 4, 2) := dk_21 4 (dk_at dksX2_isMild_3 3 rfl rfl)
theorem dX2_isMild_73 : decode cX2_isMild 73 = .ok (.ireturn, 1) := dk_172 (dk_at dksX2_isMild_3 5 rfl rfl)
abbrev cX2_satisfied : ByteArray := prog_6_method_17_code
def yX2_satisfied : MethodName := ⟨RX2, "satisfied", "()I"⟩
def dkwX2_satisfied_1 : List UInt8 := [167, 0, 4, 3, 96, 60, 132, 2, 1, 167, 255, 229, 27, 172]
abbrev dktX2_satisfied_1 : List UInt8 := dkwX2_satisfied_1 ++ []
def dkwX2_satisfied_0 : List UInt8 := [3, 60, 3, 61, 28, 42, 182, 0, 53, 162, 0, 25, 27, 42, 28, 182, 0, 88, 153, 0, 7, 4]
abbrev dktX2_satisfied_0 : List UInt8 := dkwX2_satisfied_0 ++ dktX2_satisfied_1
theorem dksX2_satisfied_0 : cX2_satisfied.data.toList.drop 0 = dktX2_satisfied_0 := by decide +kernel
theorem dksX2_satisfied_1 : cX2_satisfied.data.toList.drop 22 = dktX2_satisfied_1 := dk_seg dksX2_satisfied_0 22 rfl rfl
theorem dX2_satisfied_0 : decode cX2_satisfied 0 = .ok (.iconst 0, 1) := dk_3 (dk_at dksX2_satisfied_0 0 rfl rfl)
theorem dX2_satisfied_1 : decode cX2_satisfied 1 = .ok (.istore_n 1, 1) := dk_60 (dk_at dksX2_satisfied_0 1 rfl rfl)
theorem dX2_satisfied_2 : decode cX2_satisfied 2 = .ok (.iconst 0, 1) := dk_3 (dk_at dksX2_satisfied_0 2 rfl rfl)
theorem dX2_satisfied_3 : decode cX2_satisfied 3 = .ok (.istore_n 2, 1) := dk_61 (dk_at dksX2_satisfied_0 3 rfl rfl)
theorem dX2_satisfied_4 : decode cX2_satisfied 4 = .ok (.iload_n 2, 1) := dk_28 (dk_at dksX2_satisfied_0 4 rfl rfl)
theorem dX2_satisfied_5 : decode cX2_satisfied 5 = .ok (.aload_n 0, 1) := dk_42 (dk_at dksX2_satisfied_0 5 rfl rfl)
theorem dX2_satisfied_6 : decode cX2_satisfied 6 = .ok (.invokevirtual 53, 3) := dk_182 0 53 (dk_at dksX2_satisfied_0 6 rfl rfl)
theorem dX2_satisfied_9 : decode cX2_satisfied 9 = .ok (.if_icmp .ge 25, 3) := dk_162 0 25 (dk_at dksX2_satisfied_0 9 rfl rfl)
theorem dX2_satisfied_12 : decode cX2_satisfied 12 = .ok (.iload_n 1, 1) := dk_27 (dk_at dksX2_satisfied_0 12 rfl rfl)
theorem dX2_satisfied_13 : decode cX2_satisfied 13 = .ok (.aload_n 0, 1) := dk_42 (dk_at dksX2_satisfied_0 13 rfl rfl)
theorem dX2_satisfied_14 : decode cX2_satisfied 14 = .ok (.iload_n 2, 1) := dk_28 (dk_at dksX2_satisfied_0 14 rfl rfl)
theorem dX2_satisfied_15 : decode cX2_satisfied 15 = .ok (.invokevirtual 88, 3) := dk_182 0 88 (dk_at dksX2_satisfied_0 15 rfl rfl)
theorem dX2_satisfied_18 : decode cX2_satisfied 18 = .ok (.ifCond .eq 7, 3) := dk_153 0 7 (dk_at dksX2_satisfied_0 18 rfl rfl)
theorem dX2_satisfied_21 : decode cX2_satisfied 21 = .ok (.iconst 1, 1) := dk_4 (dk_at dksX2_satisfied_0 21 rfl rfl)
theorem dX2_satisfied_22 : decode cX2_satisfied 22 = .ok (.goto 4, 3) := dk_167 0 4 (dk_at dksX2_satisfied_1 0 rfl rfl)
theorem dX2_satisfied_25 : decode cX2_satisfied 25 = .ok (.iconst 0, 1) := dk_3 (dk_at dksX2_satisfied_1 3 rfl rfl)
theorem dX2_satisfied_26 : decode cX2_satisfied 26 = .ok (.iadd, 1) := dk_96 (dk_at dksX2_satisfied_1 4 rfl rfl)
theorem dX2_satisfied_27 : decode cX2_satisfied 27 = .ok (.istore_n 1, 1) := dk_60 (dk_at dksX2_satisfied_1 5 rfl rfl)
theorem dX2_satisfied_28 : decode cX2_satisfied 28 = .ok (.iinc 2 1, 3) := dk_132 2 1 (dk_at dksX2_satisfied_1 6 rfl rfl)
theorem dX2_satisfied_31 : decode cX2_satisfied 31 = .ok (.goto (-27), 3) := dk_167 255 229 (dk_at dksX2_satisfied_1 9 rfl rfl)
theorem dX2_satisfied_34 : decode cX2_satisfied 34 = .ok (.iload_n 1, 1) := dk_27 (dk_at dksX2_satisfied_1 12 rfl rfl)
theorem dX2_satisfied_35 : decode cX2_satisfied 35 = .ok (.ireturn, 1) := dk_172 (dk_at dksX2_satisfied_1 13 rfl rfl)
abbrev cX2_isSatisfied : ByteArray := prog_6_method_16_code
def yX2_isSatisfied : MethodName := ⟨RX2, "isSatisfied", "(I)Z"⟩
def dkwX2_isSatisfied_1 : List UInt8 := [167, 0, 4, 3, 172]
abbrev dktX2_isSatisfied_1 : List UInt8 := dkwX2_isSatisfied_1 ++ []
def dkwX2_isSatisfied_0 : List UInt8 := [42, 27, 182, 0, 77, 42, 182, 0, 53, 104, 42, 27, 182, 0, 54, 182, 0, 85, 161, 0, 7, 4]
abbrev dktX2_isSatisfied_0 : List UInt8 := dkwX2_isSatisfied_0 ++ dktX2_isSatisfied_1
theorem dksX2_isSatisfied_0 : cX2_isSatisfied.data.toList.drop 0 = dktX2_isSatisfied_0 := by decide +kernel
theorem dksX2_isSatisfied_1 : cX2_isSatisfied.data.toList.drop 22 = dktX2_isSatisfied_1 := dk_seg dksX2_isSatisfied_0 22 rfl rfl
theorem dX2_isSatisfied_0 : decode cX2_isSatisfied 0 = .ok (.aload_n 0, 1) := dk_42 (dk_at dksX2_isSatisfied_0 0 rfl rfl)
theorem dX2_isSatisfied_1 : decode cX2_isSatisfied 1 = .ok (.iload_n 1, 1) := dk_27 (dk_at dksX2_isSatisfied_0 1 rfl rfl)
theorem dX2_isSatisfied_2 : decode cX2_isSatisfied 2 = .ok (.invokevirtual 77, 3) := dk_182 0 77 (dk_at dksX2_isSatisfied_0 2 rfl rfl)
theorem dX2_isSatisfied_5 : decode cX2_isSatisfied 5 = .ok (.aload_n 0, 1) := dk_42 (dk_at dksX2_isSatisfied_0 5 rfl rfl)
theorem dX2_isSatisfied_6 : decode cX2_isSatisfied 6 = .ok (.invokevirtual 53, 3) := dk_182 0 53 (dk_at dksX2_isSatisfied_0 6 rfl rfl)
theorem dX2_isSatisfied_9 : decode cX2_isSatisfied 9 = .ok (.imul, 1) := dk_104 (dk_at dksX2_isSatisfied_0 9 rfl rfl)
theorem dX2_isSatisfied_10 : decode cX2_isSatisfied 10 = .ok (.aload_n 0, 1) := dk_42 (dk_at dksX2_isSatisfied_0 10 rfl rfl)
theorem dX2_isSatisfied_11 : decode cX2_isSatisfied 11 = .ok (.iload_n 1, 1) := dk_27 (dk_at dksX2_isSatisfied_0 11 rfl rfl)
theorem dX2_isSatisfied_12 : decode cX2_isSatisfied 12 = .ok (.invokevirtual 54, 3) := dk_182 0 54 (dk_at dksX2_isSatisfied_0 12 rfl rfl)
theorem dX2_isSatisfied_15 : decode cX2_isSatisfied 15 = .ok (.invokevirtual 85, 3) := dk_182 0 85 (dk_at dksX2_isSatisfied_0 15 rfl rfl)
theorem dX2_isSatisfied_18 : decode cX2_isSatisfied 18 = .ok (.if_icmp .lt 7, 3) := dk_161 0 7 (dk_at dksX2_isSatisfied_0 18 rfl rfl)
theorem dX2_isSatisfied_21 : decode cX2_isSatisfied 21 = .ok (.iconst 1, 1) := dk_4 (dk_at dksX2_isSatisfied_0 21 rfl rfl)
theorem dX2_isSatisfied_22 : decode cX2_isSatisfied 22 = .ok (.goto 4, 3) := dk_167 0 4 (dk_at dksX2_isSatisfied_1 0 rfl rfl)
theorem dX2_isSatisfied_25 : decode cX2_isSatisfied 25 = .ok (.iconst 0, 1) := dk_3 (dk_at dksX2_isSatisfied_1 3 rfl rfl)
theorem dX2_isSatisfied_26 : decode cX2_isSatisfied 26 = .ok (.ireturn, 1) := dk_172 (dk_at dksX2_isSatisfied_1 4 rfl rfl)
abbrev cX2_leastWelfare : ByteArray := prog_6_method_13_code
def yX2_leastWelfare : MethodName := ⟨RX2, "leastWelfare", "()I"⟩
def dkwX2_leastWelfare_1 : List UInt8 := [184, 0, 80, 60, 132, 2, 1, 167, 255, 235, 27, 172]
abbrev dktX2_leastWelfare_1 : List UInt8 := dkwX2_leastWelfare_1 ++ []
def dkwX2_leastWelfare_0 : List UInt8 := [42, 3, 182, 0, 77, 60, 4, 61, 28, 42, 182, 0, 53, 162, 0, 19, 27, 42, 28, 182, 0, 77]
abbrev dktX2_leastWelfare_0 : List UInt8 := dkwX2_leastWelfare_0 ++ dktX2_leastWelfare_1
theorem dksX2_leastWelfare_0 : cX2_leastWelfare.data.toList.drop 0 = dktX2_leastWelfare_0 := by decide +kernel
theorem dksX2_leastWelfare_1 : cX2_leastWelfare.data.toList.drop 22 = dktX2_leastWelfare_1 := dk_seg dksX2_leastWelfare_0 22 rfl rfl
theorem dX2_leastWelfare_0 : decode cX2_leastWelfare 0 = .ok (.aload_n 0, 1) := dk_42 (dk_at dksX2_leastWelfare_0 0 rfl rfl)
theorem dX2_leastWelfare_1 : decode cX2_leastWelfare 1 = .ok (.iconst 0, 1) := dk_3 (dk_at dksX2_leastWelfare_0 1 rfl rfl)
theorem dX2_leastWelfare_2 : decode cX2_leastWelfare 2 = .ok (.invokevirtual 77, 3) := dk_182 0 77 (dk_at dksX2_leastWelfare_0 2 rfl rfl)
theorem dX2_leastWelfare_5 : decode cX2_leastWelfare 5 = .ok (.istore_n 1, 1) := dk_60 (dk_at dksX2_leastWelfare_0 5 rfl rfl)
theorem dX2_leastWelfare_6 : decode cX2_leastWelfare 6 = .ok (.iconst 1, 1) := dk_4 (dk_at dksX2_leastWelfare_0 6 rfl rfl)
theorem dX2_leastWelfare_7 : decode cX2_leastWelfare 7 = .ok (.istore_n 2, 1) := dk_61 (dk_at dksX2_leastWelfare_0 7 rfl rfl)
theorem dX2_leastWelfare_8 : decode cX2_leastWelfare 8 = .ok (.iload_n 2, 1) := dk_28 (dk_at dksX2_leastWelfare_0 8 rfl rfl)
theorem dX2_leastWelfare_9 : decode cX2_leastWelfare 9 = .ok (.aload_n 0, 1) := dk_42 (dk_at dksX2_leastWelfare_0 9 rfl rfl)
theorem dX2_leastWelfare_10 : decode cX2_leastWelfare 10 = .ok (.invokevirtual 53, 3) := dk_182 0 53 (dk_at dksX2_leastWelfare_0 10 rfl rfl)
theorem dX2_leastWelfare_13 : decode cX2_leastWelfare 13 = .ok (.if_icmp .ge 19, 3) := dk_162 0 19 (dk_at dksX2_leastWelfare_0 13 rfl rfl)
theorem dX2_leastWelfare_16 : decode cX2_leastWelfare 16 = .ok (.iload_n 1, 1) := dk_27 (dk_at dksX2_leastWelfare_0 16 rfl rfl)
theorem dX2_leastWelfare_17 : decode cX2_leastWelfare 17 = .ok (.aload_n 0, 1) := dk_42 (dk_at dksX2_leastWelfare_0 17 rfl rfl)
theorem dX2_leastWelfare_18 : decode cX2_leastWelfare 18 = .ok (.iload_n 2, 1) := dk_28 (dk_at dksX2_leastWelfare_0 18 rfl rfl)
theorem dX2_leastWelfare_19 : decode cX2_leastWelfare 19 = .ok (.invokevirtual 77, 3) := dk_182 0 77 (dk_at dksX2_leastWelfare_0 19 rfl rfl)
theorem dX2_leastWelfare_22 : decode cX2_leastWelfare 22 = .ok (.invokestatic 80, 3) := dk_184 0 80 (dk_at dksX2_leastWelfare_1 0 rfl rfl)
theorem dX2_leastWelfare_25 : decode cX2_leastWelfare 25 = .ok (.istore_n 1, 1) := dk_60 (dk_at dksX2_leastWelfare_1 3 rfl rfl)
theorem dX2_leastWelfare_26 : decode cX2_leastWelfare 26 = .ok (.iinc 2 1, 3) := dk_132 2 1 (dk_at dksX2_leastWelfare_1 4 rfl rfl)
theorem dX2_leastWelfare_29 : decode cX2_leastWelfare 29 = .ok (.goto (-21), 3) := dk_167 255 235 (dk_at dksX2_leastWelfare_1 7 rfl rfl)
theorem dX2_leastWelfare_32 : decode cX2_leastWelfare 32 = .ok (.iload_n 1, 1) := dk_27 (dk_at dksX2_leastWelfare_1 10 rfl rfl)
theorem dX2_leastWelfare_33 : decode cX2_leastWelfare 33 = .ok (.ireturn, 1) := dk_172 (dk_at dksX2_leastWelfare_1 11 rfl rfl)
abbrev cX2_pieces : ByteArray := prog_6_method_10_code
def yX2_pieces : MethodName := ⟨RX2, "pieces", "(I)I"⟩
def dkwX2_pieces_2 : List UInt8 := [132, 3, 1, 167, 255, 211, 28, 172]
abbrev dktX2_pieces_2 : List UInt8 := dkwX2_pieces_2 ++ []
def dkwX2_pieces_1 : List UInt8 := [153, 0, 15, 42, 180, 0, 24, 29, 4, 100, 46, 27, 159, 0, 7, 4, 167, 0, 4, 3, 96, 61]
abbrev dktX2_pieces_1 : List UInt8 := dkwX2_pieces_1 ++ dktX2_pieces_2
def dkwX2_pieces_0 : List UInt8 := [3, 61, 3, 62, 29, 42, 182, 0, 66, 162, 0, 43, 28, 42, 180, 0, 24, 29, 46, 27, 160, 0, 23, 29]
abbrev dktX2_pieces_0 : List UInt8 := dkwX2_pieces_0 ++ dktX2_pieces_1
theorem dksX2_pieces_0 : cX2_pieces.data.toList.drop 0 = dktX2_pieces_0 := by decide +kernel
theorem dksX2_pieces_1 : cX2_pieces.data.toList.drop 24 = dktX2_pieces_1 := dk_seg dksX2_pieces_0 24 rfl rfl
theorem dksX2_pieces_2 : cX2_pieces.data.toList.drop 46 = dktX2_pieces_2 := dk_seg dksX2_pieces_1 22 rfl rfl
theorem dX2_pieces_0 : decode cX2_pieces 0 = .ok (.iconst 0, 1) := dk_3 (dk_at dksX2_pieces_0 0 rfl rfl)
theorem dX2_pieces_1 : decode cX2_pieces 1 = .ok (.istore_n 2, 1) := dk_61 (dk_at dksX2_pieces_0 1 rfl rfl)
theorem dX2_pieces_2 : decode cX2_pieces 2 = .ok (.iconst 0, 1) := dk_3 (dk_at dksX2_pieces_0 2 rfl rfl)
theorem dX2_pieces_3 : decode cX2_pieces 3 = .ok (.istore_n 3, 1) := dk_62 (dk_at dksX2_pieces_0 3 rfl rfl)
theorem dX2_pieces_4 : decode cX2_pieces 4 = .ok (.iload_n 3, 1) := dk_29 (dk_at dksX2_pieces_0 4 rfl rfl)
theorem dX2_pieces_5 : decode cX2_pieces 5 = .ok (.aload_n 0, 1) := dk_42 (dk_at dksX2_pieces_0 5 rfl rfl)
theorem dX2_pieces_6 : decode cX2_pieces 6 = .ok (.invokevirtual 66, 3) := dk_182 0 66 (dk_at dksX2_pieces_0 6 rfl rfl)
theorem dX2_pieces_9 : decode cX2_pieces 9 = .ok (.if_icmp .ge 43, 3) := dk_162 0 43 (dk_at dksX2_pieces_0 9 rfl rfl)
theorem dX2_pieces_12 : decode cX2_pieces 12 = .ok (.iload_n 2, 1) := dk_28 (dk_at dksX2_pieces_0 12 rfl rfl)
theorem dX2_pieces_13 : decode cX2_pieces 13 = .ok (.aload_n 0, 1) := dk_42 (dk_at dksX2_pieces_0 13 rfl rfl)
theorem dX2_pieces_14 : decode cX2_pieces 14 = .ok (.getfield 24, 3) := dk_180 0 24 (dk_at dksX2_pieces_0 14 rfl rfl)
theorem dX2_pieces_17 : decode cX2_pieces 17 = .ok (.iload_n 3, 1) := dk_29 (dk_at dksX2_pieces_0 17 rfl rfl)
theorem dX2_pieces_18 : decode cX2_pieces 18 = .ok (.iaload, 1) := dk_46 (dk_at dksX2_pieces_0 18 rfl rfl)
theorem dX2_pieces_19 : decode cX2_pieces 19 = .ok (.iload_n 1, 1) := dk_27 (dk_at dksX2_pieces_0 19 rfl rfl)
theorem dX2_pieces_20 : decode cX2_pieces 20 = .ok (.if_icmp .ne 23, 3) := dk_160 0 23 (dk_at dksX2_pieces_0 20 rfl rfl)
theorem dX2_pieces_23 : decode cX2_pieces 23 = .ok (.iload_n 3, 1) := dk_29 (dk_at dksX2_pieces_0 23 rfl rfl)
theorem dX2_pieces_24 : decode cX2_pieces 24 = .ok (.ifCond .eq 15, 3) := dk_153 0 15 (dk_at dksX2_pieces_1 0 rfl rfl)
theorem dX2_pieces_27 : decode cX2_pieces 27 = .ok (.aload_n 0, 1) := dk_42 (dk_at dksX2_pieces_1 3 rfl rfl)
theorem dX2_pieces_28 : decode cX2_pieces 28 = .ok (.getfield 24, 3) := dk_180 0 24 (dk_at dksX2_pieces_1 4 rfl rfl)
theorem dX2_pieces_31 : decode cX2_pieces 31 = .ok (.iload_n 3, 1) := dk_29 (dk_at dksX2_pieces_1 7 rfl rfl)
theorem dX2_pieces_32 : decode cX2_pieces 32 = .ok (.iconst 1, 1) := dk_4 (dk_at dksX2_pieces_1 8 rfl rfl)
theorem dX2_pieces_33 : decode cX2_pieces 33 = .ok (.isub, 1) := dk_100 (dk_at dksX2_pieces_1 9 rfl rfl)
theorem dX2_pieces_34 : decode cX2_pieces 34 = .ok (.iaload, 1) := dk_46 (dk_at dksX2_pieces_1 10 rfl rfl)
theorem dX2_pieces_35 : decode cX2_pieces 35 = .ok (.iload_n 1, 1) := dk_27 (dk_at dksX2_pieces_1 11 rfl rfl)
theorem dX2_pieces_36 : decode cX2_pieces 36 = .ok (.if_icmp .eq 7, 3) := dk_159 0 7 (dk_at dksX2_pieces_1 12 rfl rfl)
theorem dX2_pieces_39 : decode cX2_pieces 39 = .ok (.iconst 1, 1) := dk_4 (dk_at dksX2_pieces_1 15 rfl rfl)
theorem dX2_pieces_40 : decode cX2_pieces 40 = .ok (.goto 4, 3) := dk_167 0 4 (dk_at dksX2_pieces_1 16 rfl rfl)
theorem dX2_pieces_43 : decode cX2_pieces 43 = .ok (.iconst 0, 1) := dk_3 (dk_at dksX2_pieces_1 19 rfl rfl)
theorem dX2_pieces_44 : decode cX2_pieces 44 = .ok (.iadd, 1) := dk_96 (dk_at dksX2_pieces_1 20 rfl rfl)
theorem dX2_pieces_45 : decode cX2_pieces 45 = .ok (.istore_n 2, 1) := dk_61 (dk_at dksX2_pieces_1 21 rfl rfl)
theorem dX2_pieces_46 : decode cX2_pieces 46 = .ok (.iinc 3 1, 3) := dk_132 3 1 (dk_at dksX2_pieces_2 0 rfl rfl)
theorem dX2_pieces_49 : decode cX2_pieces 49 = .ok (.goto (-45), 3) := dk_167 255 211 (dk_at dksX2_pieces_2 3 rfl rfl)
theorem dX2_pieces_52 : decode cX2_pieces 52 = .ok (.iload_n 2, 1) := dk_28 (dk_at dksX2_pieces_2 6 rfl rfl)
theorem dX2_pieces_53 : decode cX2_pieces 53 = .ok (.ireturn, 1) := dk_172 (dk_at dksX2_pieces_2 7 rfl rfl)
abbrev cX2_freeCopy : ByteArray := prog_6_method_25_code
def yX2_freeCopy : MethodName := ⟨RX2, "freeCopy", "()LCakeDivision$State;"⟩
def dkwX2_freeCopy_0 : List UInt8 := [187, 0, 15, 89, 42, 183, 0, 120, 76, 43, 3, 42, 182, 0, 66, 4, 100, 182, 0, 28, 43, 176]
abbrev dktX2_freeCopy_0 : List UInt8 := dkwX2_freeCopy_0 ++ []
theorem dksX2_freeCopy_0 : cX2_freeCopy.data.toList.drop 0 = dktX2_freeCopy_0 := by decide +kernel
theorem dX2_freeCopy_0 : decode cX2_freeCopy 0 = .ok (.new 15, 3) := dk_187 0 15 (dk_at dksX2_freeCopy_0 0 rfl rfl)
theorem dX2_freeCopy_3 : decode cX2_freeCopy 3 = .ok (.dup, 1) := dk_89 (dk_at dksX2_freeCopy_0 3 rfl rfl)
theorem dX2_freeCopy_4 : decode cX2_freeCopy 4 = .ok (.aload_n 0, 1) := dk_42 (dk_at dksX2_freeCopy_0 4 rfl rfl)
theorem dX2_freeCopy_5 : decode cX2_freeCopy 5 = .ok (.invokespecial 120, 3) := dk_183 0 120 (dk_at dksX2_freeCopy_0 5 rfl rfl)
theorem dX2_freeCopy_8 : decode cX2_freeCopy 8 = .ok (.astore_n 1, 1) := dk_76 (dk_at dksX2_freeCopy_0 8 rfl rfl)
theorem dX2_freeCopy_9 : decode cX2_freeCopy 9 = .ok (.aload_n 1, 1) := dk_43 (dk_at dksX2_freeCopy_0 9 rfl rfl)
theorem dX2_freeCopy_10 : decode cX2_freeCopy 10 = .ok (.iconst 0, 1) := dk_3 (dk_at dksX2_freeCopy_0 10 rfl rfl)
theorem dX2_freeCopy_11 : decode cX2_freeCopy 11 = .ok (.aload_n 0, 1) := dk_42 (dk_at dksX2_freeCopy_0 11 rfl rfl)
theorem dX2_freeCopy_12 : decode cX2_freeCopy 12 = .ok (.invokevirtual 66, 3) := dk_182 0 66 (dk_at dksX2_freeCopy_0 12 rfl rfl)
theorem dX2_freeCopy_15 : decode cX2_freeCopy 15 = .ok (.iconst 1, 1) := dk_4 (dk_at dksX2_freeCopy_0 15 rfl rfl)
theorem dX2_freeCopy_16 : decode cX2_freeCopy 16 = .ok (.isub, 1) := dk_100 (dk_at dksX2_freeCopy_0 16 rfl rfl)
theorem dX2_freeCopy_17 : decode cX2_freeCopy 17 = .ok (.invokevirtual 28, 3) := dk_182 0 28 (dk_at dksX2_freeCopy_0 17 rfl rfl)
theorem dX2_freeCopy_20 : decode cX2_freeCopy 20 = .ok (.aload_n 1, 1) := dk_43 (dk_at dksX2_freeCopy_0 20 rfl rfl)
theorem dX2_freeCopy_21 : decode cX2_freeCopy 21 = .ok (.areturn, 1) := dk_176 (dk_at dksX2_freeCopy_0 21 rfl rfl)
abbrev cX2_init_2 : ByteArray := prog_6_method_2_code
def yX2_init_2 : MethodName := ⟨RX2, "<init>", "(LCakeDivision$State;)V"⟩
def dkwX2_init_2_2 : List UInt8 := [43, 180, 0, 24, 3, 42, 180, 0, 24, 3, 42, 180, 0, 24, 190, 184, 0, 47, 177]
abbrev dktX2_init_2_2 : List UInt8 := dkwX2_init_2_2 ++ []
def dkwX2_init_2_1 : List UInt8 := [180, 0, 14, 43, 180, 0, 14, 28, 182, 0, 37, 192, 0, 41, 182, 0, 43, 87, 132, 2, 1, 167, 255, 223]
abbrev dktX2_init_2_1 : List UInt8 := dkwX2_init_2_1 ++ dktX2_init_2_2
def dkwX2_init_2_0 : List UInt8 := [42, 43, 180, 0, 24, 190, 183, 0, 32, 3, 61, 28, 43, 180, 0, 14, 182, 0, 33, 162, 0, 28, 42]
abbrev dktX2_init_2_0 : List UInt8 := dkwX2_init_2_0 ++ dktX2_init_2_1
theorem dksX2_init_2_0 : cX2_init_2.data.toList.drop 0 = dktX2_init_2_0 := by decide +kernel
theorem dksX2_init_2_1 : cX2_init_2.data.toList.drop 23 = dktX2_init_2_1 := dk_seg dksX2_init_2_0 23 rfl rfl
theorem dksX2_init_2_2 : cX2_init_2.data.toList.drop 47 = dktX2_init_2_2 := dk_seg dksX2_init_2_1 24 rfl rfl
theorem dX2_init_2_0 : decode cX2_init_2 0 = .ok (.aload_n 0, 1) := dk_42 (dk_at dksX2_init_2_0 0 rfl rfl)
theorem dX2_init_2_1 : decode cX2_init_2 1 = .ok (.aload_n 1, 1) := dk_43 (dk_at dksX2_init_2_0 1 rfl rfl)
theorem dX2_init_2_2 : decode cX2_init_2 2 = .ok (.getfield 24, 3) := dk_180 0 24 (dk_at dksX2_init_2_0 2 rfl rfl)
theorem dX2_init_2_5 : decode cX2_init_2 5 = .ok (.arraylength, 1) := dk_190 (dk_at dksX2_init_2_0 5 rfl rfl)
theorem dX2_init_2_6 : decode cX2_init_2 6 = .ok (.invokespecial 32, 3) := dk_183 0 32 (dk_at dksX2_init_2_0 6 rfl rfl)
theorem dX2_init_2_9 : decode cX2_init_2 9 = .ok (.iconst 0, 1) := dk_3 (dk_at dksX2_init_2_0 9 rfl rfl)
theorem dX2_init_2_10 : decode cX2_init_2 10 = .ok (.istore_n 2, 1) := dk_61 (dk_at dksX2_init_2_0 10 rfl rfl)
theorem dX2_init_2_11 : decode cX2_init_2 11 = .ok (.iload_n 2, 1) := dk_28 (dk_at dksX2_init_2_0 11 rfl rfl)
theorem dX2_init_2_12 : decode cX2_init_2 12 = .ok (.aload_n 1, 1) := dk_43 (dk_at dksX2_init_2_0 12 rfl rfl)
theorem dX2_init_2_13 : decode cX2_init_2 13 = .ok (.getfield 14, 3) := dk_180 0 14 (dk_at dksX2_init_2_0 13 rfl rfl)
theorem dX2_init_2_16 : decode cX2_init_2 16 = .ok (.invokevirtual 33, 3) := dk_182 0 33 (dk_at dksX2_init_2_0 16 rfl rfl)
theorem dX2_init_2_19 : decode cX2_init_2 19 = .ok (.if_icmp .ge 28, 3) := dk_162 0 28 (dk_at dksX2_init_2_0 19 rfl rfl)
theorem dX2_init_2_22 : decode cX2_init_2 22 = .ok (.aload_n 0, 1) := dk_42 (dk_at dksX2_init_2_0 22 rfl rfl)
theorem dX2_init_2_23 : decode cX2_init_2 23 = .ok (.getfield 14, 3) := dk_180 0 14 (dk_at dksX2_init_2_1 0 rfl rfl)
theorem dX2_init_2_26 : decode cX2_init_2 26 = .ok (.aload_n 1, 1) := dk_43 (dk_at dksX2_init_2_1 3 rfl rfl)
theorem dX2_init_2_27 : decode cX2_init_2 27 = .ok (.getfield 14, 3) := dk_180 0 14 (dk_at dksX2_init_2_1 4 rfl rfl)
theorem dX2_init_2_30 : decode cX2_init_2 30 = .ok (.iload_n 2, 1) := dk_28 (dk_at dksX2_init_2_1 7 rfl rfl)
theorem dX2_init_2_31 : decode cX2_init_2 31 = .ok (.invokevirtual 37, 3) := dk_182 0 37 (dk_at dksX2_init_2_1 8 rfl rfl)
theorem dX2_init_2_34 : decode cX2_init_2 34 = .ok (.checkcast 41, 3) := dk_192 0 41 (dk_at dksX2_init_2_1 11 rfl rfl)
theorem dX2_init_2_37 : decode cX2_init_2 37 = .ok (.invokevirtual 43, 3) := dk_182 0 43 (dk_at dksX2_init_2_1 14 rfl rfl)
theorem dX2_init_2_40 : decode cX2_init_2 40 = .ok (.pop, 1) := dk_87 (dk_at dksX2_init_2_1 17 rfl rfl)
theorem dX2_init_2_41 : decode cX2_init_2 41 = .ok (.iinc 2 1, 3) := dk_132 2 1 (dk_at dksX2_init_2_1 18 rfl rfl)
theorem dX2_init_2_44 : decode cX2_init_2 44 = .ok (.goto (-33), 3) := dk_167 255 223 (dk_at dksX2_init_2_1 21 rfl rfl)
theorem dX2_init_2_47 : decode cX2_init_2 47 = .ok (.aload_n 1, 1) := dk_43 (dk_at dksX2_init_2_2 0 rfl rfl)
theorem dX2_init_2_48 : decode cX2_init_2 48 = .ok (.getfield 24, 3) := dk_180 0 24 (dk_at dksX2_init_2_2 1 rfl rfl)
theorem dX2_init_2_51 : decode cX2_init_2 51 = .ok (.iconst 0, 1) := dk_3 (dk_at dksX2_init_2_2 4 rfl rfl)
theorem dX2_init_2_52 : decode cX2_init_2 52 = .ok (.aload_n 0, 1) := dk_42 (dk_at dksX2_init_2_2 5 rfl rfl)
theorem dX2_init_2_53 : decode cX2_init_2 53 = .ok (.getfield 24, 3) := dk_180 0 24 (dk_at dksX2_init_2_2 6 rfl rfl)
theorem dX2_init_2_56 : decode cX2_init_2 56 = .ok (.iconst 0, 1) := dk_3 (dk_at dksX2_init_2_2 9 rfl rfl)
theorem dX2_init_2_57 : decode cX2_init_2 57 = .ok (.aload_n 0, 1) := dk_42 (dk_at dksX2_init_2_2 10 rfl rfl)
theorem dX2_init_2_58 : decode cX2_init_2 58 = .ok (.getfield 24, 3) := dk_180 0 24 (dk_at dksX2_init_2_2 11 rfl rfl)
theorem dX2_init_2_61 : decode cX2_init_2 61 = .ok (.arraylength, 1) := dk_190 (dk_at dksX2_init_2_2 14 rfl rfl)
theorem dX2_init_2_62 : decode cX2_init_2 62 = .ok (.invokestatic 47, 3) := dk_184 0 47 (dk_at dksX2_init_2_2 15 rfl rfl)
theorem dX2_init_2_65 : decode cX2_init_2 65 = .ok (.return_, 1) := dk_177 (dk_at dksX2_init_2_2 18 rfl rfl)
abbrev cX2_roundRobin : ByteArray := prog_6_method_24_code
def yX2_roundRobin : MethodName := ⟨RX2, "roundRobin", "(I)I"⟩
def dkwX2_roundRobin_2 : List UInt8 := [182, 0, 117, 54, 4, 167, 255, 214, 28, 172]
abbrev dktX2_roundRobin_2 : List UInt8 := dkwX2_roundRobin_2 ++ []
def dkwX2_roundRobin_1 : List UInt8 := [79, 29, 4, 96, 42, 182, 0, 53, 162, 0, 9, 29, 4, 96, 167, 0, 4, 3, 62, 132, 2, 1, 42, 29]
abbrev dktX2_roundRobin_1 : List UInt8 := dkwX2_roundRobin_1 ++ dktX2_roundRobin_2
def dkwX2_roundRobin_0 : List UInt8 := [3, 61, 27, 62, 42, 29, 182, 0, 117, 54, 4, 21, 4, 2, 159, 0, 42, 42, 180, 0, 24, 21, 4, 29]
abbrev dktX2_roundRobin_0 : List UInt8 := dkwX2_roundRobin_0 ++ dktX2_roundRobin_1
theorem dksX2_roundRobin_0 : cX2_roundRobin.data.toList.drop 0 = dktX2_roundRobin_0 := by decide +kernel
theorem dksX2_roundRobin_1 : cX2_roundRobin.data.toList.drop 24 = dktX2_roundRobin_1 := dk_seg dksX2_roundRobin_0 24 rfl rfl
theorem dksX2_roundRobin_2 : cX2_roundRobin.data.toList.drop 48 = dktX2_roundRobin_2 := dk_seg dksX2_roundRobin_1 24 rfl rfl
theorem dX2_roundRobin_0 : decode cX2_roundRobin 0 = .ok (.iconst 0, 1) := dk_3 (dk_at dksX2_roundRobin_0 0 rfl rfl)
theorem dX2_roundRobin_1 : decode cX2_roundRobin 1 = .ok (.istore_n 2, 1) := dk_61 (dk_at dksX2_roundRobin_0 1 rfl rfl)
theorem dX2_roundRobin_2 : decode cX2_roundRobin 2 = .ok (.iload_n 1, 1) := dk_27 (dk_at dksX2_roundRobin_0 2 rfl rfl)
theorem dX2_roundRobin_3 : decode cX2_roundRobin 3 = .ok (.istore_n 3, 1) := dk_62 (dk_at dksX2_roundRobin_0 3 rfl rfl)
theorem dX2_roundRobin_4 : decode cX2_roundRobin 4 = .ok (.aload_n 0, 1) := dk_42 (dk_at dksX2_roundRobin_0 4 rfl rfl)
theorem dX2_roundRobin_5 : decode cX2_roundRobin 5 = .ok (.iload_n 3, 1) := dk_29 (dk_at dksX2_roundRobin_0 5 rfl rfl)
theorem dX2_roundRobin_6 : decode cX2_roundRobin 6 = .ok (.invokevirtual 117, 3) := dk_182 0 117 (dk_at dksX2_roundRobin_0 6 rfl rfl)
theorem dX2_roundRobin_9 : decode cX2_roundRobin 9 = .ok (.istore 4, 2) := dk_54 4 (dk_at dksX2_roundRobin_0 9 rfl rfl)
theorem dX2_roundRobin_11 : decode cX2_roundRobin 11 = .ok (.iload 4, 2) := dk_21 4 (dk_at dksX2_roundRobin_0 11 rfl rfl)
theorem dX2_roundRobin_13 : decode cX2_roundRobin 13 = .ok (.iconst (-1), 1) := dk_2 (dk_at dksX2_roundRobin_0 13 rfl rfl)
theorem dX2_roundRobin_14 : decode cX2_roundRobin 14 = .ok (.if_icmp .eq 42, 3) := dk_159 0 42 (dk_at dksX2_roundRobin_0 14 rfl rfl)
theorem dX2_roundRobin_17 : decode cX2_roundRobin 17 = .ok (.aload_n 0, 1) := dk_42 (dk_at dksX2_roundRobin_0 17 rfl rfl)
theorem dX2_roundRobin_18 : decode cX2_roundRobin 18 = .ok (.getfield 24, 3) := dk_180 0 24 (dk_at dksX2_roundRobin_0 18 rfl rfl)
theorem dX2_roundRobin_21 : decode cX2_roundRobin 21 = .ok (.iload 4, 2) := dk_21 4 (dk_at dksX2_roundRobin_0 21 rfl rfl)
theorem dX2_roundRobin_23 : decode cX2_roundRobin 23 = .ok (.iload_n 3, 1) := dk_29 (dk_at dksX2_roundRobin_0 23 rfl rfl)
theorem dX2_roundRobin_24 : decode cX2_roundRobin 24 = .ok (.iastore, 1) := dk_79 (dk_at dksX2_roundRobin_1 0 rfl rfl)
theorem dX2_roundRobin_25 : decode cX2_roundRobin 25 = .ok (.iload_n 3, 1) := dk_29 (dk_at dksX2_roundRobin_1 1 rfl rfl)
theorem dX2_roundRobin_26 : decode cX2_roundRobin 26 = .ok (.iconst 1, 1) := dk_4 (dk_at dksX2_roundRobin_1 2 rfl rfl)
theorem dX2_roundRobin_27 : decode cX2_roundRobin 27 = .ok (.iadd, 1) := dk_96 (dk_at dksX2_roundRobin_1 3 rfl rfl)
theorem dX2_roundRobin_28 : decode cX2_roundRobin 28 = .ok (.aload_n 0, 1) := dk_42 (dk_at dksX2_roundRobin_1 4 rfl rfl)
theorem dX2_roundRobin_29 : decode cX2_roundRobin 29 = .ok (.invokevirtual 53, 3) := dk_182 0 53 (dk_at dksX2_roundRobin_1 5 rfl rfl)
theorem dX2_roundRobin_32 : decode cX2_roundRobin 32 = .ok (.if_icmp .ge 9, 3) := dk_162 0 9 (dk_at dksX2_roundRobin_1 8 rfl rfl)
theorem dX2_roundRobin_35 : decode cX2_roundRobin 35 = .ok (.iload_n 3, 1) := dk_29 (dk_at dksX2_roundRobin_1 11 rfl rfl)
theorem dX2_roundRobin_36 : decode cX2_roundRobin 36 = .ok (.iconst 1, 1) := dk_4 (dk_at dksX2_roundRobin_1 12 rfl rfl)
theorem dX2_roundRobin_37 : decode cX2_roundRobin 37 = .ok (.iadd, 1) := dk_96 (dk_at dksX2_roundRobin_1 13 rfl rfl)
theorem dX2_roundRobin_38 : decode cX2_roundRobin 38 = .ok (.goto 4, 3) := dk_167 0 4 (dk_at dksX2_roundRobin_1 14 rfl rfl)
theorem dX2_roundRobin_41 : decode cX2_roundRobin 41 = .ok (.iconst 0, 1) := dk_3 (dk_at dksX2_roundRobin_1 17 rfl rfl)
theorem dX2_roundRobin_42 : decode cX2_roundRobin 42 = .ok (.istore_n 3, 1) := dk_62 (dk_at dksX2_roundRobin_1 18 rfl rfl)
theorem dX2_roundRobin_43 : decode cX2_roundRobin 43 = .ok (.iinc 2 1, 3) := dk_132 2 1 (dk_at dksX2_roundRobin_1 19 rfl rfl)
theorem dX2_roundRobin_46 : decode cX2_roundRobin 46 = .ok (.aload_n 0, 1) := dk_42 (dk_at dksX2_roundRobin_1 22 rfl rfl)
theorem dX2_roundRobin_47 : decode cX2_roundRobin 47 = .ok (.iload_n 3, 1) := dk_29 (dk_at dksX2_roundRobin_1 23 rfl rfl)
theorem dX2_roundRobin_48 : decode cX2_roundRobin 48 = .ok (.invokevirtual 117, 3) := dk_182 0 117 (dk_at dksX2_roundRobin_2 0 rfl rfl)
theorem dX2_roundRobin_51 : decode cX2_roundRobin 51 = .ok (.istore 4, 2) := dk_54 4 (dk_at dksX2_roundRobin_2 3 rfl rfl)
theorem dX2_roundRobin_53 : decode cX2_roundRobin 53 = .ok (.goto (-42), 3) := dk_167 255 214 (dk_at dksX2_roundRobin_2 5 rfl rfl)
theorem dX2_roundRobin_56 : decode cX2_roundRobin 56 = .ok (.iload_n 2, 1) := dk_28 (dk_at dksX2_roundRobin_2 8 rfl rfl)
theorem dX2_roundRobin_57 : decode cX2_roundRobin 57 = .ok (.ireturn, 1) := dk_172 (dk_at dksX2_roundRobin_2 9 rfl rfl)
abbrev cX2_favourite : ByteArray := prog_6_method_19_code
def yX2_favourite : MethodName := ⟨RX2, "favourite", "(I)I"⟩
def dkwX2_favourite_3 : List UInt8 := [167, 255, 191, 28, 172]
abbrev dktX2_favourite_3 : List UInt8 := dkwX2_favourite_3 ++ []
def dkwX2_favourite_2 : List UInt8 := [182, 0, 69, 42, 27, 182, 0, 54, 28, 182, 0, 69, 164, 0, 7, 29, 167, 0, 4, 28, 61, 132, 3, 1]
abbrev dktX2_favourite_2 : List UInt8 := dkwX2_favourite_2 ++ dktX2_favourite_3
def dkwX2_favourite_1 : List UInt8 := [167, 0, 4, 3, 54, 4, 21, 4, 153, 0, 33, 28, 2, 159, 0, 24, 42, 27, 182, 0, 54, 29]
abbrev dktX2_favourite_1 : List UInt8 := dkwX2_favourite_1 ++ dktX2_favourite_2
def dkwX2_favourite_0 : List UInt8 := [2, 61, 3, 62, 29, 42, 182, 0, 66, 162, 0, 63, 42, 180, 0, 24, 29, 46, 2, 160, 0, 7, 4]
abbrev dktX2_favourite_0 : List UInt8 := dkwX2_favourite_0 ++ dktX2_favourite_1
theorem dksX2_favourite_0 : cX2_favourite.data.toList.drop 0 = dktX2_favourite_0 := by decide +kernel
theorem dksX2_favourite_1 : cX2_favourite.data.toList.drop 23 = dktX2_favourite_1 := dk_seg dksX2_favourite_0 23 rfl rfl
theorem dksX2_favourite_2 : cX2_favourite.data.toList.drop 45 = dktX2_favourite_2 := dk_seg dksX2_favourite_1 22 rfl rfl
theorem dksX2_favourite_3 : cX2_favourite.data.toList.drop 69 = dktX2_favourite_3 := dk_seg dksX2_favourite_2 24 rfl rfl
theorem dX2_favourite_0 : decode cX2_favourite 0 = .ok (.iconst (-1), 1) := dk_2 (dk_at dksX2_favourite_0 0 rfl rfl)
theorem dX2_favourite_1 : decode cX2_favourite 1 = .ok (.istore_n 2, 1) := dk_61 (dk_at dksX2_favourite_0 1 rfl rfl)
theorem dX2_favourite_2 : decode cX2_favourite 2 = .ok (.iconst 0, 1) := dk_3 (dk_at dksX2_favourite_0 2 rfl rfl)
theorem dX2_favourite_3 : decode cX2_favourite 3 = .ok (.istore_n 3, 1) := dk_62 (dk_at dksX2_favourite_0 3 rfl rfl)
theorem dX2_favourite_4 : decode cX2_favourite 4 = .ok (.iload_n 3, 1) := dk_29 (dk_at dksX2_favourite_0 4 rfl rfl)
theorem dX2_favourite_5 : decode cX2_favourite 5 = .ok (.aload_n 0, 1) := dk_42 (dk_at dksX2_favourite_0 5 rfl rfl)
theorem dX2_favourite_6 : decode cX2_favourite 6 = .ok (.invokevirtual 66, 3) := dk_182 0 66 (dk_at dksX2_favourite_0 6 rfl rfl)
theorem dX2_favourite_9 : decode cX2_favourite 9 = .ok (.if_icmp .ge 63, 3) := dk_162 0 63 (dk_at dksX2_favourite_0 9 rfl rfl)
theorem dX2_favourite_12 : decode cX2_favourite 12 = .ok (.aload_n 0, 1) := dk_42 (dk_at dksX2_favourite_0 12 rfl rfl)
theorem dX2_favourite_13 : decode cX2_favourite 13 = .ok (.getfield 24, 3) := dk_180 0 24 (dk_at dksX2_favourite_0 13 rfl rfl)
theorem dX2_favourite_16 : decode cX2_favourite 16 = .ok (.iload_n 3, 1) := dk_29 (dk_at dksX2_favourite_0 16 rfl rfl)
theorem dX2_favourite_17 : decode cX2_favourite 17 = .ok (.iaload, 1) := dk_46 (dk_at dksX2_favourite_0 17 rfl rfl)
theorem dX2_favourite_18 : decode cX2_favourite 18 = .ok (.iconst (-1), 1) := dk_2 (dk_at dksX2_favourite_0 18 rfl rfl)
theorem dX2_favourite_19 : decode cX2_favourite 19 = .ok (.if_icmp .ne 7, 3) := dk_160 0 7 (dk_at dksX2_favourite_0 19 rfl rfl)
theorem dX2_favourite_22 : decode cX2_favourite 22 = .ok (.iconst 1, 1) := dk_4 (dk_at dksX2_favourite_0 22 rfl rfl)
theorem dX2_favourite_23 : decode cX2_favourite 23 = .ok (.goto 4, 3) := dk_167 0 4 (dk_at dksX2_favourite_1 0 rfl rfl)
theorem dX2_favourite_26 : decode cX2_favourite 26 = .ok (.iconst 0, 1) := dk_3 (dk_at dksX2_favourite_1 3 rfl rfl)
theorem dX2_favourite_27 : decode cX2_favourite 27 = .ok (.istore 4, 2) := dk_54 4 (dk_at dksX2_favourite_1 4 rfl rfl)
theorem dX2_favourite_29 : decode cX2_favourite 29 = .ok (.iload 4, 2) := dk_21 4 (dk_at dksX2_favourite_1 6 rfl rfl)
theorem dX2_favourite_31 : decode cX2_favourite 31 = .ok (.ifCond .eq 33, 3) := dk_153 0 33 (dk_at dksX2_favourite_1 8 rfl rfl)
theorem dX2_favourite_34 : decode cX2_favourite 34 = .ok (.iload_n 2, 1) := dk_28 (dk_at dksX2_favourite_1 11 rfl rfl)
theorem dX2_favourite_35 : decode cX2_favourite 35 = .ok (.iconst (-1), 1) := dk_2 (dk_at dksX2_favourite_1 12 rfl rfl)
theorem dX2_favourite_36 : decode cX2_favourite 36 = .ok (.if_icmp .eq 24, 3) := dk_159 0 24 (dk_at dksX2_favourite_1 13 rfl rfl)
theorem dX2_favourite_39 : decode cX2_favourite 39 = .ok (.aload_n 0, 1) := dk_42 (dk_at dksX2_favourite_1 16 rfl rfl)
theorem dX2_favourite_40 : decode cX2_favourite 40 = .ok (.iload_n 1, 1) := dk_27 (dk_at dksX2_favourite_1 17 rfl rfl)
theorem dX2_favourite_41 : decode cX2_favourite 41 = .ok (.invokevirtual 54, 3) := dk_182 0 54 (dk_at dksX2_favourite_1 18 rfl rfl)
theorem dX2_favourite_44 : decode cX2_favourite 44 = .ok (.iload_n 3, 1) := dk_29 (dk_at dksX2_favourite_1 21 rfl rfl)
theorem dX2_favourite_45 : decode cX2_favourite 45 = .ok (.invokevirtual 69, 3) := dk_182 0 69 (dk_at dksX2_favourite_2 0 rfl rfl)
theorem dX2_favourite_48 : decode cX2_favourite 48 = .ok (.aload_n 0, 1) := dk_42 (dk_at dksX2_favourite_2 3 rfl rfl)
theorem dX2_favourite_49 : decode cX2_favourite 49 = .ok (.iload_n 1, 1) := dk_27 (dk_at dksX2_favourite_2 4 rfl rfl)
theorem dX2_favourite_50 : decode cX2_favourite 50 = .ok (.invokevirtual 54, 3) := dk_182 0 54 (dk_at dksX2_favourite_2 5 rfl rfl)
theorem dX2_favourite_53 : decode cX2_favourite 53 = .ok (.iload_n 2, 1) := dk_28 (dk_at dksX2_favourite_2 8 rfl rfl)
theorem dX2_favourite_54 : decode cX2_favourite 54 = .ok (.invokevirtual 69, 3) := dk_182 0 69 (dk_at dksX2_favourite_2 9 rfl rfl)
theorem dX2_favourite_57 : decode cX2_favourite 57 = .ok (.if_icmp .le 7, 3) := dk_164 0 7 (dk_at dksX2_favourite_2 12 rfl rfl)
theorem dX2_favourite_60 : decode cX2_favourite 60 = .ok (.iload_n 3, 1) := dk_29 (dk_at dksX2_favourite_2 15 rfl rfl)
theorem dX2_favourite_61 : decode cX2_favourite 61 = .ok (.goto 4, 3) := dk_167 0 4 (dk_at dksX2_favourite_2 16 rfl rfl)
theorem dX2_favourite_64 : decode cX2_favourite 64 = .ok (.iload_n 2, 1) := dk_28 (dk_at dksX2_favourite_2 19 rfl rfl)
theorem dX2_favourite_65 : decode cX2_favourite 65 = .ok (.istore_n 2, 1) := dk_61 (dk_at dksX2_favourite_2 20 rfl rfl)
theorem dX2_favourite_66 : decode cX2_favourite 66 = .ok (.iinc 3 1, 3) := dk_132 3 1 (dk_at dksX2_favourite_2 21 rfl rfl)
theorem dX2_favourite_69 : decode cX2_favourite 69 = .ok (.goto (-65), 3) := dk_167 255 191 (dk_at dksX2_favourite_3 0 rfl rfl)
theorem dX2_favourite_72 : decode cX2_favourite 72 = .ok (.iload_n 2, 1) := dk_28 (dk_at dksX2_favourite_3 3 rfl rfl)
theorem dX2_favourite_73 : decode cX2_favourite 73 = .ok (.ireturn, 1) := dk_172 (dk_at dksX2_favourite_3 4 rfl rfl)
abbrev cX2_movingKnife : ByteArray := prog_6_method_23_code
def yX2_movingKnife : MethodName := ⟨RX2, "movingKnife", "()I"⟩
def dkwX2_movingKnife_8 : List UInt8 := [100, 182, 0, 62, 42, 182, 0, 114, 172]
abbrev dktX2_movingKnife_8 : List UInt8 := dkwX2_movingKnife_8 ++ []
def dkwX2_movingKnife_7 : List UInt8 := [96, 60, 132, 2, 255, 167, 255, 130, 28, 4, 160, 0, 18, 42, 42, 182, 0, 108, 27, 42, 182, 0, 66, 4]
abbrev dktX2_movingKnife_7 : List UInt8 := dkwX2_movingKnife_7 ++ dktX2_movingKnife_8
def dkwX2_movingKnife_6 : List UInt8 := [132, 5, 1, 167, 255, 191, 42, 29, 27, 21, 4, 182, 0, 62, 42, 180, 0, 20, 29, 4, 84, 21, 4, 4]
abbrev dktX2_movingKnife_6 : List UInt8 := dkwX2_movingKnife_6 ++ dktX2_movingKnife_7
def dkwX2_movingKnife_5 : List UInt8 := [21, 6, 21, 4, 162, 0, 8, 21, 5, 167, 0, 4, 29, 62, 21, 4, 21, 6, 184, 0, 80, 54, 4]
abbrev dktX2_movingKnife_5 : List UInt8 := dkwX2_movingKnife_5 ++ dktX2_movingKnife_6
def dkwX2_movingKnife_4 : List UInt8 := [153, 0, 10, 42, 182, 0, 66, 167, 0, 14, 42, 21, 5, 182, 0, 54, 27, 28, 182, 0, 111, 54, 6]
abbrev dktX2_movingKnife_4 : List UInt8 := dkwX2_movingKnife_4 ++ dktX2_movingKnife_5
def dkwX2_movingKnife_3 : List UInt8 := [54, 4, 29, 4, 96, 54, 5, 21, 5, 42, 182, 0, 53, 162, 0, 62, 42, 180, 0, 20, 21, 5, 51]
abbrev dktX2_movingKnife_3 : List UInt8 := dkwX2_movingKnife_3 ++ dktX2_movingKnife_4
def dkwX2_movingKnife_2 : List UInt8 := [27, 42, 182, 0, 66, 162, 0, 119, 42, 182, 0, 108, 62, 42, 29, 182, 0, 54, 27, 28, 182, 0, 111]
abbrev dktX2_movingKnife_2 : List UInt8 := dkwX2_movingKnife_2 ++ dktX2_movingKnife_3
def dkwX2_movingKnife_1 : List UInt8 := [180, 0, 20, 27, 3, 84, 132, 1, 1, 167, 255, 238, 3, 60, 42, 182, 0, 53, 61, 28, 4, 164, 0, 127]
abbrev dktX2_movingKnife_1 : List UInt8 := dkwX2_movingKnife_1 ++ dktX2_movingKnife_2
def dkwX2_movingKnife_0 : List UInt8 := [42, 3, 42, 182, 0, 66, 4, 100, 182, 0, 28, 3, 60, 27, 42, 182, 0, 53, 162, 0, 16, 42]
abbrev dktX2_movingKnife_0 : List UInt8 := dkwX2_movingKnife_0 ++ dktX2_movingKnife_1
theorem dksX2_movingKnife_0 : cX2_movingKnife.data.toList.drop 0 = dktX2_movingKnife_0 := by decide +kernel
theorem dksX2_movingKnife_1 : cX2_movingKnife.data.toList.drop 22 = dktX2_movingKnife_1 := dk_seg dksX2_movingKnife_0 22 rfl rfl
theorem dksX2_movingKnife_2 : cX2_movingKnife.data.toList.drop 46 = dktX2_movingKnife_2 := dk_seg dksX2_movingKnife_1 24 rfl rfl
theorem dksX2_movingKnife_3 : cX2_movingKnife.data.toList.drop 69 = dktX2_movingKnife_3 := dk_seg dksX2_movingKnife_2 23 rfl rfl
theorem dksX2_movingKnife_4 : cX2_movingKnife.data.toList.drop 92 = dktX2_movingKnife_4 := dk_seg dksX2_movingKnife_3 23 rfl rfl
theorem dksX2_movingKnife_5 : cX2_movingKnife.data.toList.drop 115 = dktX2_movingKnife_5 := dk_seg dksX2_movingKnife_4 23 rfl rfl
theorem dksX2_movingKnife_6 : cX2_movingKnife.data.toList.drop 138 = dktX2_movingKnife_6 := dk_seg dksX2_movingKnife_5 23 rfl rfl
theorem dksX2_movingKnife_7 : cX2_movingKnife.data.toList.drop 162 = dktX2_movingKnife_7 := dk_seg dksX2_movingKnife_6 24 rfl rfl
theorem dksX2_movingKnife_8 : cX2_movingKnife.data.toList.drop 186 = dktX2_movingKnife_8 := dk_seg dksX2_movingKnife_7 24 rfl rfl
theorem dX2_movingKnife_0 : decode cX2_movingKnife 0 = .ok (.aload_n 0, 1) := dk_42 (dk_at dksX2_movingKnife_0 0 rfl rfl)
theorem dX2_movingKnife_1 : decode cX2_movingKnife 1 = .ok (.iconst 0, 1) := dk_3 (dk_at dksX2_movingKnife_0 1 rfl rfl)
theorem dX2_movingKnife_2 : decode cX2_movingKnife 2 = .ok (.aload_n 0, 1) := dk_42 (dk_at dksX2_movingKnife_0 2 rfl rfl)
theorem dX2_movingKnife_3 : decode cX2_movingKnife 3 = .ok (.invokevirtual 66, 3) := dk_182 0 66 (dk_at dksX2_movingKnife_0 3 rfl rfl)
theorem dX2_movingKnife_6 : decode cX2_movingKnife 6 = .ok (.iconst 1, 1) := dk_4 (dk_at dksX2_movingKnife_0 6 rfl rfl)
theorem dX2_movingKnife_7 : decode cX2_movingKnife 7 = .ok (.isub, 1) := dk_100 (dk_at dksX2_movingKnife_0 7 rfl rfl)
theorem dX2_movingKnife_8 : decode cX2_movingKnife 8 = .ok (.invokevirtual 28, 3) := dk_182 0 28 (dk_at dksX2_movingKnife_0 8 rfl rfl)
theorem dX2_movingKnife_11 : decode cX2_movingKnife 11 = .ok (.iconst 0, 1) := dk_3 (dk_at dksX2_movingKnife_0 11 rfl rfl)
theorem dX2_movingKnife_12 : decode cX2_movingKnife 12 = .ok (.istore_n 1, 1) := dk_60 (dk_at dksX2_movingKnife_0 12 rfl rfl)
theorem dX2_movingKnife_13 : decode cX2_movingKnife 13 = .ok (.iload_n 1, 1) := dk_27 (dk_at dksX2_movingKnife_0 13 rfl rfl)
theorem dX2_movingKnife_14 : decode cX2_movingKnife 14 = .ok (.aload_n 0, 1) := dk_42 (dk_at dksX2_movingKnife_0 14 rfl rfl)
theorem dX2_movingKnife_15 : decode cX2_movingKnife 15 = .ok (.invokevirtual 53, 3) := dk_182 0 53 (dk_at dksX2_movingKnife_0 15 rfl rfl)
theorem dX2_movingKnife_18 : decode cX2_movingKnife 18 = .ok (.if_icmp .ge 16, 3) := dk_162 0 16 (dk_at dksX2_movingKnife_0 18 rfl rfl)
theorem dX2_movingKnife_21 : decode cX2_movingKnife 21 = .ok (.aload_n 0, 1) := dk_42 (dk_at dksX2_movingKnife_0 21 rfl rfl)
theorem dX2_movingKnife_22 : decode cX2_movingKnife 22 = .ok (.getfield 20, 3) := dk_180 0 20 (dk_at dksX2_movingKnife_1 0 rfl rfl)
theorem dX2_movingKnife_25 : decode cX2_movingKnife 25 = .ok (.iload_n 1, 1) := dk_27 (dk_at dksX2_movingKnife_1 3 rfl rfl)
theorem dX2_movingKnife_26 : decode cX2_movingKnife 26 = .ok (.iconst 0, 1) := dk_3 (dk_at dksX2_movingKnife_1 4 rfl rfl)
theorem dX2_movingKnife_27 : decode cX2_movingKnife 27 = .ok (.bastore, 1) := dk_84 (dk_at dksX2_movingKnife_1 5 rfl rfl)
theorem dX2_movingKnife_28 : decode cX2_movingKnife 28 = .ok (.iinc 1 1, 3) := dk_132 1 1 (dk_at dksX2_movingKnife_1 6 rfl rfl)
theorem dX2_movingKnife_31 : decode cX2_movingKnife 31 = .ok (.goto (-18), 3) := dk_167 255 238 (dk_at dksX2_movingKnife_1 9 rfl rfl)
theorem dX2_movingKnife_34 : decode cX2_movingKnife 34 = .ok (.iconst 0, 1) := dk_3 (dk_at dksX2_movingKnife_1 12 rfl rfl)
theorem dX2_movingKnife_35 : decode cX2_movingKnife 35 = .ok (.istore_n 1, 1) := dk_60 (dk_at dksX2_movingKnife_1 13 rfl rfl)
theorem dX2_movingKnife_36 : decode cX2_movingKnife 36 = .ok (.aload_n 0, 1) := dk_42 (dk_at dksX2_movingKnife_1 14 rfl rfl)
theorem dX2_movingKnife_37 : decode cX2_movingKnife 37 = .ok (.invokevirtual 53, 3) := dk_182 0 53 (dk_at dksX2_movingKnife_1 15 rfl rfl)
theorem dX2_movingKnife_40 : decode cX2_movingKnife 40 = .ok (.istore_n 2, 1) := dk_61 (dk_at dksX2_movingKnife_1 18 rfl rfl)
theorem dX2_movingKnife_41 : decode cX2_movingKnife 41 = .ok (.iload_n 2, 1) := dk_28 (dk_at dksX2_movingKnife_1 19 rfl rfl)
theorem dX2_movingKnife_42 : decode cX2_movingKnife 42 = .ok (.iconst 1, 1) := dk_4 (dk_at dksX2_movingKnife_1 20 rfl rfl)
theorem dX2_movingKnife_43 : decode cX2_movingKnife 43 = .ok (.if_icmp .le 127, 3) := dk_164 0 127 (dk_at dksX2_movingKnife_1 21 rfl rfl)
theorem dX2_movingKnife_46 : decode cX2_movingKnife 46 = .ok (.iload_n 1, 1) := dk_27 (dk_at dksX2_movingKnife_2 0 rfl rfl)
theorem dX2_movingKnife_47 : decode cX2_movingKnife 47 = .ok (.aload_n 0, 1) := dk_42 (dk_at dksX2_movingKnife_2 1 rfl rfl)
theorem dX2_movingKnife_48 : decode cX2_movingKnife 48 = .ok (.invokevirtual 66, 3) := dk_182 0 66 (dk_at dksX2_movingKnife_2 2 rfl rfl)
theorem dX2_movingKnife_51 : decode cX2_movingKnife 51 = .ok (.if_icmp .ge 119, 3) := dk_162 0 119 (dk_at dksX2_movingKnife_2 5 rfl rfl)
theorem dX2_movingKnife_54 : decode cX2_movingKnife 54 = .ok (.aload_n 0, 1) := dk_42 (dk_at dksX2_movingKnife_2 8 rfl rfl)
theorem dX2_movingKnife_55 : decode cX2_movingKnife 55 = .ok (.invokevirtual 108, 3) := dk_182 0 108 (dk_at dksX2_movingKnife_2 9 rfl rfl)
theorem dX2_movingKnife_58 : decode cX2_movingKnife 58 = .ok (.istore_n 3, 1) := dk_62 (dk_at dksX2_movingKnife_2 12 rfl rfl)
theorem dX2_movingKnife_59 : decode cX2_movingKnife 59 = .ok (.aload_n 0, 1) := dk_42 (dk_at dksX2_movingKnife_2 13 rfl rfl)
theorem dX2_movingKnife_60 : decode cX2_movingKnife 60 = .ok (.iload_n 3, 1) := dk_29 (dk_at dksX2_movingKnife_2 14 rfl rfl)
theorem dX2_movingKnife_61 : decode cX2_movingKnife 61 = .ok (.invokevirtual 54, 3) := dk_182 0 54 (dk_at dksX2_movingKnife_2 15 rfl rfl)
theorem dX2_movingKnife_64 : decode cX2_movingKnife 64 = .ok (.iload_n 1, 1) := dk_27 (dk_at dksX2_movingKnife_2 18 rfl rfl)
theorem dX2_movingKnife_65 : decode cX2_movingKnife 65 = .ok (.iload_n 2, 1) := dk_28 (dk_at dksX2_movingKnife_2 19 rfl rfl)
theorem dX2_movingKnife_66 : decode cX2_movingKnife 66 = .ok (.invokevirtual 111, 3) := dk_182 0 111 (dk_at dksX2_movingKnife_2 20 rfl rfl)
theorem dX2_movingKnife_69 : decode cX2_movingKnife 69 = .ok (.istore 4, 2) := dk_54 4 (dk_at dksX2_movingKnife_3 0 rfl rfl)
theorem dX2_movingKnife_71 : decode cX2_movingKnife 71 = .ok (.iload_n 3, 1) := dk_29 (dk_at dksX2_movingKnife_3 2 rfl rfl)
theorem dX2_movingKnife_72 : decode cX2_movingKnife 72 = .ok (.iconst 1, 1) := dk_4 (dk_at dksX2_movingKnife_3 3 rfl rfl)
theorem dX2_movingKnife_73 : decode cX2_movingKnife 73 = .ok (.iadd, 1) := dk_96 (dk_at dksX2_movingKnife_3 4 rfl rfl)
theorem dX2_movingKnife_74 : decode cX2_movingKnife 74 = .ok (.istore 5, 2) := dk_54 5 (dk_at dksX2_movingKnife_3 5 rfl rfl)
theorem dX2_movingKnife_76 : decode cX2_movingKnife 76 = .ok (.iload 5, 2) := dk_21 5 (dk_at dksX2_movingKnife_3 7 rfl rfl)
theorem dX2_movingKnife_78 : decode cX2_movingKnife 78 = .ok (.aload_n 0, 1) := dk_42 (dk_at dksX2_movingKnife_3 9 rfl rfl)
theorem dX2_movingKnife_79 : decode cX2_movingKnife 79 = .ok (.invokevirtual 53, 3) := dk_182 0 53 (dk_at dksX2_movingKnife_3 10 rfl rfl)
theorem dX2_movingKnife_82 : decode cX2_movingKnife 82 = .ok (.if_icmp .ge 62, 3) := dk_162 0 62 (dk_at dksX2_movingKnife_3 13 rfl rfl)
theorem dX2_movingKnife_85 : decode cX2_movingKnife 85 = .ok (.aload_n 0, 1) := dk_42 (dk_at dksX2_movingKnife_3 16 rfl rfl)
theorem dX2_movingKnife_86 : decode cX2_movingKnife 86 = .ok (.getfield 20, 3) := dk_180 0 20 (dk_at dksX2_movingKnife_3 17 rfl rfl)
theorem dX2_movingKnife_89 : decode cX2_movingKnife 89 = .ok (.iload 5, 2) := dk_21 5 (dk_at dksX2_movingKnife_3 20 rfl rfl)
theorem dX2_movingKnife_91 : decode cX2_movingKnife 91 = .ok (.baload, 1) := dk_51 (dk_at dksX2_movingKnife_3 22 rfl rfl)
theorem dX2_movingKnife_92 : decode cX2_movingKnife 92 = .ok (.ifCond .eq 10, 3) := dk_153 0 10 (dk_at dksX2_movingKnife_4 0 rfl rfl)
theorem dX2_movingKnife_95 : decode cX2_movingKnife 95 = .ok (.aload_n 0, 1) := dk_42 (dk_at dksX2_movingKnife_4 3 rfl rfl)
theorem dX2_movingKnife_96 : decode cX2_movingKnife 96 = .ok (.invokevirtual 66, 3) := dk_182 0 66 (dk_at dksX2_movingKnife_4 4 rfl rfl)
theorem dX2_movingKnife_99 : decode cX2_movingKnife 99 = .ok (.goto 14, 3) := dk_167 0 14 (dk_at dksX2_movingKnife_4 7 rfl rfl)
theorem dX2_movingKnife_102 : decode cX2_movingKnife 102 = .ok (.aload_n 0, 1) := dk_42 (dk_at dksX2_movingKnife_4 10 rfl rfl)
theorem dX2_movingKnife_103 : decode cX2_movingKnife 103 = .ok (.iload 5, 2) := dk_21 5 (dk_at dksX2_movingKnife_4 11 rfl rfl)
theorem dX2_movingKnife_105 : decode cX2_movingKnife 105 = .ok (.invokevirtual 54, 3) := dk_182 0 54 (dk_at dksX2_movingKnife_4 13 rfl rfl)
theorem dX2_movingKnife_108 : decode cX2_movingKnife 108 = .ok (.iload_n 1, 1) := dk_27 (dk_at dksX2_movingKnife_4 16 rfl rfl)
theorem dX2_movingKnife_109 : decode cX2_movingKnife 109 = .ok (.iload_n 2, 1) := dk_28 (dk_at dksX2_movingKnife_4 17 rfl rfl)
theorem dX2_movingKnife_110 : decode cX2_movingKnife 110 = .ok (.invokevirtual 111, 3) := dk_182 0 111 (dk_at dksX2_movingKnife_4 18 rfl rfl)
theorem dX2_movingKnife_113 : decode cX2_movingKnife 113 = .ok (.istore 6, 2) := dk_54 6 (dk_at dksX2_movingKnife_4 21 rfl rfl)
theorem dX2_movingKnife_115 : decode cX2_movingKnife 115 = .ok (.iload 6, 2) := dk_21 6 (dk_at dksX2_movingKnife_5 0 rfl rfl)
theorem dX2_movingKnife_117 : decode cX2_movingKnife 117 = .ok (.iload 4, 2) := dk_21 4 (dk_at dksX2_movingKnife_5 2 rfl rfl)
theorem dX2_movingKnife_119 : decode cX2_movingKnife 119 = .ok (.if_icmp .ge 8, 3) := dk_162 0 8 (dk_at dksX2_movingKnife_5 4 rfl rfl)
theorem dX2_movingKnife_122 : decode cX2_movingKnife 122 = .ok (.iload 5, 2) := dk_21 5 (dk_at dksX2_movingKnife_5 7 rfl rfl)
theorem dX2_movingKnife_124 : decode cX2_movingKnife 124 = .ok (.goto 4, 3) := dk_167 0 4 (dk_at dksX2_movingKnife_5 9 rfl rfl)
theorem dX2_movingKnife_127 : decode cX2_movingKnife 127 = .ok (.iload_n 3, 1) := dk_29 (dk_at dksX2_movingKnife_5 12 rfl rfl)
theorem dX2_movingKnife_128 : decode cX2_movingKnife 128 = .ok (.istore_n 3, 1) := dk_62 (dk_at dksX2_movingKnife_5 13 rfl rfl)
theorem dX2_movingKnife_129 : decode cX2_movingKnife 129 = .ok (.iload 4, 2) := dk_21 4 (dk_at dksX2_movingKnife_5 14 rfl rfl)
theorem dX2_movingKnife_131 : decode cX2_movingKnife 131 = .ok (.iload 6, 2) := dk_21 6 (dk_at dksX2_movingKnife_5 16 rfl rfl)
theorem dX2_movingKnife_133 : decode cX2_movingKnife 133 = .ok (.invokestatic 80, 3) := dk_184 0 80 (dk_at dksX2_movingKnife_5 18 rfl rfl)
theorem dX2_movingKnife_136 : decode cX2_movingKnife 136 = .ok (.istore 4, 2) := dk_54 4 (dk_at dksX2_movingKnife_5 21 rfl rfl)
theorem dX2_movingKnife_138 : decode cX2_movingKnife 138 = .ok (.iinc 5 1, 3) := dk_132 5 1 (dk_at dksX2_movingKnife_6 0 rfl rfl)
theorem dX2_movingKnife_141 : decode cX2_movingKnife 141 = .ok (.goto (-65), 3) := dk_167 255 191 (dk_at dksX2_movingKnife_6 3 rfl rfl)
theorem dX2_movingKnife_144 : decode cX2_movingKnife 144 = .ok (.aload_n 0, 1) := dk_42 (dk_at dksX2_movingKnife_6 6 rfl rfl)
theorem dX2_movingKnife_145 : decode cX2_movingKnife 145 = .ok (.iload_n 3, 1) := dk_29 (dk_at dksX2_movingKnife_6 7 rfl rfl)
theorem dX2_movingKnife_146 : decode cX2_movingKnife 146 = .ok (.iload_n 1, 1) := dk_27 (dk_at dksX2_movingKnife_6 8 rfl rfl)
theorem dX2_movingKnife_147 : decode cX2_movingKnife 147 = .ok (.iload 4, 2) := dk_21 4 (dk_at dksX2_movingKnife_6 9 rfl rfl)
theorem dX2_movingKnife_149 : decode cX2_movingKnife 149 = .ok (.invokevirtual 62, 3) := dk_182 0 62 (dk_at dksX2_movingKnife_6 11 rfl rfl)
theorem dX2_movingKnife_152 : decode cX2_movingKnife 152 = .ok (.aload_n 0, 1) := dk_42 (dk_at dksX2_movingKnife_6 14 rfl rfl)
theorem dX2_movingKnife_153 : decode cX2_movingKnife 153 = .ok (.getfield 20, 3) := dk_180 0 20 (dk_at dksX2_movingKnife_6 15 rfl rfl)
theorem dX2_movingKnife_156 : decode cX2_movingKnife 156 = .ok (.iload_n 3, 1) := dk_29 (dk_at dksX2_movingKnife_6 18 rfl rfl)
theorem dX2_movingKnife_157 : decode cX2_movingKnife 157 = .ok (.iconst 1, 1) := dk_4 (dk_at dksX2_movingKnife_6 19 rfl rfl)
theorem dX2_movingKnife_158 : decode cX2_movingKnife 158 = .ok (.bastore, 1) := dk_84 (dk_at dksX2_movingKnife_6 20 rfl rfl)
theorem dX2_movingKnife_159 : decode cX2_movingKnife 159 = .ok (.iload 4, 2) := dk_21 4 (dk_at dksX2_movingKnife_6 21 rfl rfl)
theorem dX2_movingKnife_161 : decode cX2_movingKnife 161 = .ok (.iconst 1, 1) := dk_4 (dk_at dksX2_movingKnife_6 23 rfl rfl)
theorem dX2_movingKnife_162 : decode cX2_movingKnife 162 = .ok (.iadd, 1) := dk_96 (dk_at dksX2_movingKnife_7 0 rfl rfl)
theorem dX2_movingKnife_163 : decode cX2_movingKnife 163 = .ok (.istore_n 1, 1) := dk_60 (dk_at dksX2_movingKnife_7 1 rfl rfl)
theorem dX2_movingKnife_164 : decode cX2_movingKnife 164 = .ok (.iinc 2 (-1), 3) := dk_132 2 255 (dk_at dksX2_movingKnife_7 2 rfl rfl)
theorem dX2_movingKnife_167 : decode cX2_movingKnife 167 = .ok (.goto (-126), 3) := dk_167 255 130 (dk_at dksX2_movingKnife_7 5 rfl rfl)
theorem dX2_movingKnife_170 : decode cX2_movingKnife 170 = .ok (.iload_n 2, 1) := dk_28 (dk_at dksX2_movingKnife_7 8 rfl rfl)
theorem dX2_movingKnife_171 : decode cX2_movingKnife 171 = .ok (.iconst 1, 1) := dk_4 (dk_at dksX2_movingKnife_7 9 rfl rfl)
theorem dX2_movingKnife_172 : decode cX2_movingKnife 172 = .ok (.if_icmp .ne 18, 3) := dk_160 0 18 (dk_at dksX2_movingKnife_7 10 rfl rfl)
theorem dX2_movingKnife_175 : decode cX2_movingKnife 175 = .ok (.aload_n 0, 1) := dk_42 (dk_at dksX2_movingKnife_7 13 rfl rfl)
theorem dX2_movingKnife_176 : decode cX2_movingKnife 176 = .ok (.aload_n 0, 1) := dk_42 (dk_at dksX2_movingKnife_7 14 rfl rfl)
theorem dX2_movingKnife_177 : decode cX2_movingKnife 177 = .ok (.invokevirtual 108, 3) := dk_182 0 108 (dk_at dksX2_movingKnife_7 15 rfl rfl)
theorem dX2_movingKnife_180 : decode cX2_movingKnife 180 = .ok (.iload_n 1, 1) := dk_27 (dk_at dksX2_movingKnife_7 18 rfl rfl)
theorem dX2_movingKnife_181 : decode cX2_movingKnife 181 = .ok (.aload_n 0, 1) := dk_42 (dk_at dksX2_movingKnife_7 19 rfl rfl)
theorem dX2_movingKnife_182 : decode cX2_movingKnife 182 = .ok (.invokevirtual 66, 3) := dk_182 0 66 (dk_at dksX2_movingKnife_7 20 rfl rfl)
theorem dX2_movingKnife_185 : decode cX2_movingKnife 185 = .ok (.iconst 1, 1) := dk_4 (dk_at dksX2_movingKnife_7 23 rfl rfl)
theorem dX2_movingKnife_186 : decode cX2_movingKnife 186 = .ok (.isub, 1) := dk_100 (dk_at dksX2_movingKnife_8 0 rfl rfl)
theorem dX2_movingKnife_187 : decode cX2_movingKnife 187 = .ok (.invokevirtual 62, 3) := dk_182 0 62 (dk_at dksX2_movingKnife_8 1 rfl rfl)
theorem dX2_movingKnife_190 : decode cX2_movingKnife 190 = .ok (.aload_n 0, 1) := dk_42 (dk_at dksX2_movingKnife_8 4 rfl rfl)
theorem dX2_movingKnife_191 : decode cX2_movingKnife 191 = .ok (.invokevirtual 114, 3) := dk_182 0 114 (dk_at dksX2_movingKnife_8 5 rfl rfl)
theorem dX2_movingKnife_194 : decode cX2_movingKnife 194 = .ok (.ireturn, 1) := dk_172 (dk_at dksX2_movingKnife_8 8 rfl rfl)
abbrev cX2_firstUnserved : ByteArray := prog_6_method_22_code
def yX2_firstUnserved : MethodName := ⟨RX2, "firstUnserved", "()I"⟩
def dkwX2_firstUnserved_0 : List UInt8 := [3, 60, 42, 180, 0, 20, 27, 51, 153, 0, 9, 132, 1, 1, 167, 255, 244, 27, 172]
abbrev dktX2_firstUnserved_0 : List UInt8 := dkwX2_firstUnserved_0 ++ []
theorem dksX2_firstUnserved_0 : cX2_firstUnserved.data.toList.drop 0 = dktX2_firstUnserved_0 := by decide +kernel
theorem dX2_firstUnserved_0 : decode cX2_firstUnserved 0 = .ok (.iconst 0, 1) := dk_3 (dk_at dksX2_firstUnserved_0 0 rfl rfl)
theorem dX2_firstUnserved_1 : decode cX2_firstUnserved 1 = .ok (.istore_n 1, 1) := dk_60 (dk_at dksX2_firstUnserved_0 1 rfl rfl)
theorem dX2_firstUnserved_2 : decode cX2_firstUnserved 2 = .ok (.aload_n 0, 1) := dk_42 (dk_at dksX2_firstUnserved_0 2 rfl rfl)
theorem dX2_firstUnserved_3 : decode cX2_firstUnserved 3 = .ok (.getfield 20, 3) := dk_180 0 20 (dk_at dksX2_firstUnserved_0 3 rfl rfl)
theorem dX2_firstUnserved_6 : decode cX2_firstUnserved 6 = .ok (.iload_n 1, 1) := dk_27 (dk_at dksX2_firstUnserved_0 6 rfl rfl)
theorem dX2_firstUnserved_7 : decode cX2_firstUnserved 7 = .ok (.baload, 1) := dk_51 (dk_at dksX2_firstUnserved_0 7 rfl rfl)
theorem dX2_firstUnserved_8 : decode cX2_firstUnserved 8 = .ok (.ifCond .eq 9, 3) := dk_153 0 9 (dk_at dksX2_firstUnserved_0 8 rfl rfl)
theorem dX2_firstUnserved_11 : decode cX2_firstUnserved 11 = .ok (.iinc 1 1, 3) := dk_132 1 1 (dk_at dksX2_firstUnserved_0 11 rfl rfl)
theorem dX2_firstUnserved_14 : decode cX2_firstUnserved 14 = .ok (.goto (-12), 3) := dk_167 255 244 (dk_at dksX2_firstUnserved_0 14 rfl rfl)
theorem dX2_firstUnserved_17 : decode cX2_firstUnserved 17 = .ok (.iload_n 1, 1) := dk_27 (dk_at dksX2_firstUnserved_0 17 rfl rfl)
theorem dX2_firstUnserved_18 : decode cX2_firstUnserved 18 = .ok (.ireturn, 1) := dk_172 (dk_at dksX2_firstUnserved_0 18 rfl rfl)
abbrev cX2_cutFor : ByteArray := prog_6_method_20_code
def yX2_cutFor : MethodName := ⟨RX2, "cutFor", "(I)I"⟩
def dkwX2_cutFor_3 : List UInt8 := [62, 132, 4, 1, 167, 255, 189, 28, 172]
abbrev dktX2_cutFor_3 : List UInt8 := dkwX2_cutFor_3 ++ []
def dkwX2_cutFor_2 : List UInt8 := [184, 0, 102, 54, 5, 21, 5, 29, 162, 0, 8, 21, 4, 167, 0, 4, 28, 61, 29, 21, 5, 184, 0, 80]
abbrev dktX2_cutFor_2 : List UInt8 := dkwX2_cutFor_2 ++ dktX2_cutFor_3
def dkwX2_cutFor_1 : List UInt8 := [21, 4, 4, 100, 182, 0, 99, 42, 27, 182, 0, 54, 21, 4, 42, 182, 0, 66, 4, 100, 182, 0, 99, 100]
abbrev dktX2_cutFor_1 : List UInt8 := dkwX2_cutFor_1 ++ dktX2_cutFor_2
def dkwX2_cutFor_0 : List UInt8 := [3, 61, 18, 98, 62, 3, 54, 4, 21, 4, 42, 182, 0, 66, 163, 0, 64, 42, 27, 182, 0, 54, 3]
abbrev dktX2_cutFor_0 : List UInt8 := dkwX2_cutFor_0 ++ dktX2_cutFor_1
theorem dksX2_cutFor_0 : cX2_cutFor.data.toList.drop 0 = dktX2_cutFor_0 := by decide +kernel
theorem dksX2_cutFor_1 : cX2_cutFor.data.toList.drop 23 = dktX2_cutFor_1 := dk_seg dksX2_cutFor_0 23 rfl rfl
theorem dksX2_cutFor_2 : cX2_cutFor.data.toList.drop 47 = dktX2_cutFor_2 := dk_seg dksX2_cutFor_1 24 rfl rfl
theorem dksX2_cutFor_3 : cX2_cutFor.data.toList.drop 71 = dktX2_cutFor_3 := dk_seg dksX2_cutFor_2 24 rfl rfl
theorem dX2_cutFor_0 : decode cX2_cutFor 0 = .ok (.iconst 0, 1) := dk_3 (dk_at dksX2_cutFor_0 0 rfl rfl)
theorem dX2_cutFor_1 : decode cX2_cutFor 1 = .ok (.istore_n 2, 1) := dk_61 (dk_at dksX2_cutFor_0 1 rfl rfl)
theorem dX2_cutFor_2 : decode cX2_cutFor 2 = .ok (.ldc 98, 2) := dk_18 98 (dk_at dksX2_cutFor_0 2 rfl rfl)
theorem dX2_cutFor_4 : decode cX2_cutFor 4 = .ok (.istore_n 3, 1) := dk_62 (dk_at dksX2_cutFor_0 4 rfl rfl)
theorem dX2_cutFor_5 : decode cX2_cutFor 5 = .ok (.iconst 0, 1) := dk_3 (dk_at dksX2_cutFor_0 5 rfl rfl)
theorem dX2_cutFor_6 : decode cX2_cutFor 6 = .ok (.istore 4, 2) := dk_54 4 (dk_at dksX2_cutFor_0 6 rfl rfl)
theorem dX2_cutFor_8 : decode cX2_cutFor 8 = .ok (.iload 4, 2) := dk_21 4 (dk_at dksX2_cutFor_0 8 rfl rfl)
theorem dX2_cutFor_10 : decode cX2_cutFor 10 = .ok (.aload_n 0, 1) := dk_42 (dk_at dksX2_cutFor_0 10 rfl rfl)
theorem dX2_cutFor_11 : decode cX2_cutFor 11 = .ok (.invokevirtual 66, 3) := dk_182 0 66 (dk_at dksX2_cutFor_0 11 rfl rfl)
theorem dX2_cutFor_14 : decode cX2_cutFor 14 = .ok (.if_icmp .gt 64, 3) := dk_163 0 64 (dk_at dksX2_cutFor_0 14 rfl rfl)
theorem dX2_cutFor_17 : decode cX2_cutFor 17 = .ok (.aload_n 0, 1) := dk_42 (dk_at dksX2_cutFor_0 17 rfl rfl)
theorem dX2_cutFor_18 : decode cX2_cutFor 18 = .ok (.iload_n 1, 1) := dk_27 (dk_at dksX2_cutFor_0 18 rfl rfl)
theorem dX2_cutFor_19 : decode cX2_cutFor 19 = .ok (.invokevirtual 54, 3) := dk_182 0 54 (dk_at dksX2_cutFor_0 19 rfl rfl)
theorem dX2_cutFor_22 : decode cX2_cutFor 22 = .ok (.iconst 0, 1) := dk_3 (dk_at dksX2_cutFor_0 22 rfl rfl)
theorem dX2_cutFor_23 : decode cX2_cutFor 23 = .ok (.iload 4, 2) := dk_21 4 (dk_at dksX2_cutFor_1 0 rfl rfl)
theorem dX2_cutFor_25 : decode cX2_cutFor 25 = .ok (.iconst 1, 1) := dk_4 (dk_at dksX2_cutFor_1 2 rfl rfl)
theorem dX2_cutFor_26 : decode cX2_cutFor 26 = .ok (.isub, 1) := dk_100 (dk_at dksX2_cutFor_1 3 rfl rfl)
theorem dX2_cutFor_27 : decode cX2_cutFor 27 = .ok (.invokevirtual 99, 3) := dk_182 0 99 (dk_at dksX2_cutFor_1 4 rfl rfl)
theorem dX2_cutFor_30 : decode cX2_cutFor 30 = .ok (.aload_n 0, 1) := dk_42 (dk_at dksX2_cutFor_1 7 rfl rfl)
theorem dX2_cutFor_31 : decode cX2_cutFor 31 = .ok (.iload_n 1, 1) := dk_27 (dk_at dksX2_cutFor_1 8 rfl rfl)
theorem dX2_cutFor_32 : decode cX2_cutFor 32 = .ok (.invokevirtual 54, 3) := dk_182 0 54 (dk_at dksX2_cutFor_1 9 rfl rfl)
theorem dX2_cutFor_35 : decode cX2_cutFor 35 = .ok (.iload 4, 2) := dk_21 4 (dk_at dksX2_cutFor_1 12 rfl rfl)
theorem dX2_cutFor_37 : decode cX2_cutFor 37 = .ok (.aload_n 0, 1) := dk_42 (dk_at dksX2_cutFor_1 14 rfl rfl)
theorem dX2_cutFor_38 : decode cX2_cutFor 38 = .ok (.invokevirtual 66, 3) := dk_182 0 66 (dk_at dksX2_cutFor_1 15 rfl rfl)
theorem dX2_cutFor_41 : decode cX2_cutFor 41 = .ok (.iconst 1, 1) := dk_4 (dk_at dksX2_cutFor_1 18 rfl rfl)
theorem dX2_cutFor_42 : decode cX2_cutFor 42 = .ok (.isub, 1) := dk_100 (dk_at dksX2_cutFor_1 19 rfl rfl)
theorem dX2_cutFor_43 : decode cX2_cutFor 43 = .ok (.invokevirtual 99, 3) := dk_182 0 99 (dk_at dksX2_cutFor_1 20 rfl rfl)
theorem dX2_cutFor_46 : decode cX2_cutFor 46 = .ok (.isub, 1) := dk_100 (dk_at dksX2_cutFor_1 23 rfl rfl)
theorem dX2_cutFor_47 : decode cX2_cutFor 47 = .ok (.invokestatic 102, 3) := dk_184 0 102 (dk_at dksX2_cutFor_2 0 rfl rfl)
theorem dX2_cutFor_50 : decode cX2_cutFor 50 = .ok (.istore 5, 2) := dk_54 5 (dk_at dksX2_cutFor_2 3 rfl rfl)
theorem dX2_cutFor_52 : decode cX2_cutFor 52 = .ok (.iload 5, 2) := dk_21 5 (dk_at dksX2_cutFor_2 5 rfl rfl)
theorem dX2_cutFor_54 : decode cX2_cutFor 54 = .ok (.iload_n 3, 1) := dk_29 (dk_at dksX2_cutFor_2 7 rfl rfl)
theorem dX2_cutFor_55 : decode cX2_cutFor 55 = .ok (.if_icmp .ge 8, 3) := dk_162 0 8 (dk_at dksX2_cutFor_2 8 rfl rfl)
theorem dX2_cutFor_58 : decode cX2_cutFor 58 = .ok (.iload 4, 2) := dk_21 4 (dk_at dksX2_cutFor_2 11 rfl rfl)
theorem dX2_cutFor_60 : decode cX2_cutFor 60 = .ok (.goto 4, 3) := dk_167 0 4 (dk_at dksX2_cutFor_2 13 rfl rfl)
theorem dX2_cutFor_63 : decode cX2_cutFor 63 = .ok (.iload_n 2, 1) := dk_28 (dk_at dksX2_cutFor_2 16 rfl rfl)
theorem dX2_cutFor_64 : decode cX2_cutFor 64 = .ok (.istore_n 2, 1) := dk_61 (dk_at dksX2_cutFor_2 17 rfl rfl)
theorem dX2_cutFor_65 : decode cX2_cutFor 65 = .ok (.iload_n 3, 1) := dk_29 (dk_at dksX2_cutFor_2 18 rfl rfl)
theorem dX2_cutFor_66 : decode cX2_cutFor 66 = .ok (.iload 5, 2) := dk_21 5 (dk_at dksX2_cutFor_2 19 rfl rfl)
theorem dX2_cutFor_68 : decode cX2_cutFor 68 = .ok (.invokestatic 80, 3) := dk_184 0 80 (dk_at dksX2_cutFor_2 21 rfl rfl)
theorem dX2_cutFor_71 : decode cX2_cutFor 71 = .ok (.istore_n 3, 1) := dk_62 (dk_at dksX2_cutFor_3 0 rfl rfl)
theorem dX2_cutFor_72 : decode cX2_cutFor 72 = .ok (.iinc 4 1, 3) := dk_132 4 1 (dk_at dksX2_cutFor_3 1 rfl rfl)
theorem dX2_cutFor_75 : decode cX2_cutFor 75 = .ok (.goto (-67), 3) := dk_167 255 189 (dk_at dksX2_cutFor_3 4 rfl rfl)
theorem dX2_cutFor_78 : decode cX2_cutFor 78 = .ok (.iload_n 2, 1) := dk_28 (dk_at dksX2_cutFor_3 7 rfl rfl)
theorem dX2_cutFor_79 : decode cX2_cutFor 79 = .ok (.ireturn, 1) := dk_172 (dk_at dksX2_cutFor_3 8 rfl rfl)
abbrev cX2_divideAndChoose : ByteArray := prog_6_method_21_code
def yX2_divideAndChoose : MethodName := ⟨RX2, "divideAndChoose", "(II)I"⟩
def dkwX2_divideAndChoose_3 : List UInt8 := [167, 0, 4, 28, 29, 42, 182, 0, 66, 4, 100, 182, 0, 62, 29, 172]
abbrev dktX2_divideAndChoose_3 : List UInt8 := dkwX2_divideAndChoose_3 ++ []
def dkwX2_divideAndChoose_2 : List UInt8 := [153, 0, 7, 28, 167, 0, 4, 27, 3, 29, 4, 100, 182, 0, 62, 42, 21, 4, 153, 0, 7, 27]
abbrev dktX2_divideAndChoose_2 : List UInt8 := dkwX2_divideAndChoose_2 ++ dktX2_divideAndChoose_3
def dkwX2_divideAndChoose_1 : List UInt8 := [42, 182, 0, 66, 4, 100, 182, 0, 99, 161, 0, 7, 4, 167, 0, 4, 3, 54, 4, 42, 21, 4]
abbrev dktX2_divideAndChoose_1 : List UInt8 := dkwX2_divideAndChoose_1 ++ dktX2_divideAndChoose_2
def dkwX2_divideAndChoose_0 : List UInt8 := [42, 27, 182, 0, 105, 62, 42, 28, 182, 0, 54, 3, 29, 4, 100, 182, 0, 99, 42, 28, 182, 0, 54, 29]
abbrev dktX2_divideAndChoose_0 : List UInt8 := dkwX2_divideAndChoose_0 ++ dktX2_divideAndChoose_1
theorem dksX2_divideAndChoose_0 : cX2_divideAndChoose.data.toList.drop 0 = dktX2_divideAndChoose_0 := by decide +kernel
theorem dksX2_divideAndChoose_1 : cX2_divideAndChoose.data.toList.drop 24 = dktX2_divideAndChoose_1 := dk_seg dksX2_divideAndChoose_0 24 rfl rfl
theorem dksX2_divideAndChoose_2 : cX2_divideAndChoose.data.toList.drop 46 = dktX2_divideAndChoose_2 := dk_seg dksX2_divideAndChoose_1 22 rfl rfl
theorem dksX2_divideAndChoose_3 : cX2_divideAndChoose.data.toList.drop 68 = dktX2_divideAndChoose_3 := dk_seg dksX2_divideAndChoose_2 22 rfl rfl
theorem dX2_divideAndChoose_0 : decode cX2_divideAndChoose 0 = .ok (.aload_n 0, 1) := dk_42 (dk_at dksX2_divideAndChoose_0 0 rfl rfl)
theorem dX2_divideAndChoose_1 : decode cX2_divideAndChoose 1 = .ok (.iload_n 1, 1) := dk_27 (dk_at dksX2_divideAndChoose_0 1 rfl rfl)
theorem dX2_divideAndChoose_2 : decode cX2_divideAndChoose 2 = .ok (.invokevirtual 105, 3) := dk_182 0 105 (dk_at dksX2_divideAndChoose_0 2 rfl rfl)
theorem dX2_divideAndChoose_5 : decode cX2_divideAndChoose 5 = .ok (.istore_n 3, 1) := dk_62 (dk_at dksX2_divideAndChoose_0 5 rfl rfl)
theorem dX2_divideAndChoose_6 : decode cX2_divideAndChoose 6 = .ok (.aload_n 0, 1) := dk_42 (dk_at dksX2_divideAndChoose_0 6 rfl rfl)
theorem dX2_divideAndChoose_7 : decode cX2_divideAndChoose 7 = .ok (.iload_n 2, 1) := dk_28 (dk_at dksX2_divideAndChoose_0 7 rfl rfl)
theorem dX2_divideAndChoose_8 : decode cX2_divideAndChoose 8 = .ok (.invokevirtual 54, 3) := dk_182 0 54 (dk_at dksX2_divideAndChoose_0 8 rfl rfl)
theorem dX2_divideAndChoose_11 : decode cX2_divideAndChoose 11 = .ok (.iconst 0, 1) := dk_3 (dk_at dksX2_divideAndChoose_0 11 rfl rfl)
theorem dX2_divideAndChoose_12 : decode cX2_divideAndChoose 12 = .ok (.iload_n 3, 1) := dk_29 (dk_at dksX2_divideAndChoose_0 12 rfl rfl)
theorem dX2_divideAndChoose_13 : decode cX2_divideAndChoose 13 = .ok (.iconst 1, 1) := dk_4 (dk_at dksX2_divideAndChoose_0 13 rfl rfl)
theorem dX2_divideAndChoose_14 : decode cX2_divideAndChoose 14 = .ok (.isub, 1) := dk_100 (dk_at dksX2_divideAndChoose_0 14 rfl rfl)
theorem dX2_divideAndChoose_15 : decode cX2_divideAndChoose 15 = .ok (.invokevirtual 99, 3) := dk_182 0 99 (dk_at dksX2_divideAndChoose_0 15 rfl rfl)
theorem dX2_divideAndChoose_18 : decode cX2_divideAndChoose 18 = .ok (.aload_n 0, 1) := dk_42 (dk_at dksX2_divideAndChoose_0 18 rfl rfl)
theorem dX2_divideAndChoose_19 : decode cX2_divideAndChoose 19 = .ok (.iload_n 2, 1) := dk_28 (dk_at dksX2_divideAndChoose_0 19 rfl rfl)
theorem dX2_divideAndChoose_20 : decode cX2_divideAndChoose 20 = .ok (.invokevirtual 54, 3) := dk_182 0 54 (dk_at dksX2_divideAndChoose_0 20 rfl rfl)
theorem dX2_divideAndChoose_23 : decode cX2_divideAndChoose 23 = .ok (.iload_n 3, 1) := dk_29 (dk_at dksX2_divideAndChoose_0 23 rfl rfl)
theorem dX2_divideAndChoose_24 : decode cX2_divideAndChoose 24 = .ok (.aload_n 0, 1) := dk_42 (dk_at dksX2_divideAndChoose_1 0 rfl rfl)
theorem dX2_divideAndChoose_25 : decode cX2_divideAndChoose 25 = .ok (.invokevirtual 66, 3) := dk_182 0 66 (dk_at dksX2_divideAndChoose_1 1 rfl rfl)
theorem dX2_divideAndChoose_28 : decode cX2_divideAndChoose 28 = .ok (.iconst 1, 1) := dk_4 (dk_at dksX2_divideAndChoose_1 4 rfl rfl)
theorem dX2_divideAndChoose_29 : decode cX2_divideAndChoose 29 = .ok (.isub, 1) := dk_100 (dk_at dksX2_divideAndChoose_1 5 rfl rfl)
theorem dX2_divideAndChoose_30 : decode cX2_divideAndChoose 30 = .ok (.invokevirtual 99, 3) := dk_182 0 99 (dk_at dksX2_divideAndChoose_1 6 rfl rfl)
theorem dX2_divideAndChoose_33 : decode cX2_divideAndChoose 33 = .ok (.if_icmp .lt 7, 3) := dk_161 0 7 (dk_at dksX2_divideAndChoose_1 9 rfl rfl)
theorem dX2_divideAndChoose_36 : decode cX2_divideAndChoose 36 = .ok (.iconst 1, 1) := dk_4 (dk_at dksX2_divideAndChoose_1 12 rfl rfl)
theorem dX2_divideAndChoose_37 : decode cX2_divideAndChoose 37 = .ok (.goto 4, 3) := dk_167 0 4 (dk_at dksX2_divideAndChoose_1 13 rfl rfl)
theorem dX2_divideAndChoose_40 : decode cX2_divideAndChoose 40 = .ok (.iconst 0, 1) := dk_3 (dk_at dksX2_divideAndChoose_1 16 rfl rfl)
theorem dX2_divideAndChoose_41 : decode cX2_divideAndChoose 41 = .ok (.istore 4, 2) := dk_54 4 (dk_at dksX2_divideAndChoose_1 17 rfl rfl)
theorem dX2_divideAndChoose_43 : decode cX2_divideAndChoose 43 = .ok (.aload_n 0, 1) := dk_42 (dk_at dksX2_divideAndChoose_1 19 rfl rfl)
theorem dX2_divideAndChoose_44 : decode cX2_divideAndChoose 44 = .ok (.iload 4, 2) := dk_21 4 (dk_at dksX2_divideAndChoose_1 20 rfl rfl)
theorem dX2_divideAndChoose_46 : decode cX2_divideAndChoose 46 = .ok (.ifCond .eq 7, 3) := dk_153 0 7 (dk_at dksX2_divideAndChoose_2 0 rfl rfl)
theorem dX2_divideAndChoose_49 : decode cX2_divideAndChoose 49 = .ok (.iload_n 2, 1) := dk_28 (dk_at dksX2_divideAndChoose_2 3 rfl rfl)
theorem dX2_divideAndChoose_50 : decode cX2_divideAndChoose 50 = .ok (.goto 4, 3) := dk_167 0 4 (dk_at dksX2_divideAndChoose_2 4 rfl rfl)
theorem dX2_divideAndChoose_53 : decode cX2_divideAndChoose 53 = .ok (.iload_n 1, 1) := dk_27 (dk_at dksX2_divideAndChoose_2 7 rfl rfl)
theorem dX2_divideAndChoose_54 : decode cX2_divideAndChoose 54 = .ok (.iconst 0, 1) := dk_3 (dk_at dksX2_divideAndChoose_2 8 rfl rfl)
theorem dX2_divideAndChoose_55 : decode cX2_divideAndChoose 55 = .ok (.iload_n 3, 1) := dk_29 (dk_at dksX2_divideAndChoose_2 9 rfl rfl)
theorem dX2_divideAndChoose_56 : decode cX2_divideAndChoose 56 = .ok (.iconst 1, 1) := dk_4 (dk_at dksX2_divideAndChoose_2 10 rfl rfl)
theorem dX2_divideAndChoose_57 : decode cX2_divideAndChoose 57 = .ok (.isub, 1) := dk_100 (dk_at dksX2_divideAndChoose_2 11 rfl rfl)
theorem dX2_divideAndChoose_58 : decode cX2_divideAndChoose 58 = .ok (.invokevirtual 62, 3) := dk_182 0 62 (dk_at dksX2_divideAndChoose_2 12 rfl rfl)
theorem dX2_divideAndChoose_61 : decode cX2_divideAndChoose 61 = .ok (.aload_n 0, 1) := dk_42 (dk_at dksX2_divideAndChoose_2 15 rfl rfl)
theorem dX2_divideAndChoose_62 : decode cX2_divideAndChoose 62 = .ok (.iload 4, 2) := dk_21 4 (dk_at dksX2_divideAndChoose_2 16 rfl rfl)
theorem dX2_divideAndChoose_64 : decode cX2_divideAndChoose 64 = .ok (.ifCond .eq 7, 3) := dk_153 0 7 (dk_at dksX2_divideAndChoose_2 18 rfl rfl)
theorem dX2_divideAndChoose_67 : decode cX2_divideAndChoose 67 = .ok (.iload_n 1, 1) := dk_27 (dk_at dksX2_divideAndChoose_2 21 rfl rfl)
theorem dX2_divideAndChoose_68 : decode cX2_divideAndChoose 68 = .ok (.goto 4, 3) := dk_167 0 4 (dk_at dksX2_divideAndChoose_3 0 rfl rfl)
theorem dX2_divideAndChoose_71 : decode cX2_divideAndChoose 71 = .ok (.iload_n 2, 1) := dk_28 (dk_at dksX2_divideAndChoose_3 3 rfl rfl)
theorem dX2_divideAndChoose_72 : decode cX2_divideAndChoose 72 = .ok (.iload_n 3, 1) := dk_29 (dk_at dksX2_divideAndChoose_3 4 rfl rfl)
theorem dX2_divideAndChoose_73 : decode cX2_divideAndChoose 73 = .ok (.aload_n 0, 1) := dk_42 (dk_at dksX2_divideAndChoose_3 5 rfl rfl)
theorem dX2_divideAndChoose_74 : decode cX2_divideAndChoose 74 = .ok (.invokevirtual 66, 3) := dk_182 0 66 (dk_at dksX2_divideAndChoose_3 6 rfl rfl)
theorem dX2_divideAndChoose_77 : decode cX2_divideAndChoose 77 = .ok (.iconst 1, 1) := dk_4 (dk_at dksX2_divideAndChoose_3 9 rfl rfl)
theorem dX2_divideAndChoose_78 : decode cX2_divideAndChoose 78 = .ok (.isub, 1) := dk_100 (dk_at dksX2_divideAndChoose_3 10 rfl rfl)
theorem dX2_divideAndChoose_79 : decode cX2_divideAndChoose 79 = .ok (.invokevirtual 62, 3) := dk_182 0 62 (dk_at dksX2_divideAndChoose_3 11 rfl rfl)
theorem dX2_divideAndChoose_82 : decode cX2_divideAndChoose 82 = .ok (.iload_n 3, 1) := dk_29 (dk_at dksX2_divideAndChoose_3 14 rfl rfl)
theorem dX2_divideAndChoose_83 : decode cX2_divideAndChoose 83 = .ok (.ireturn, 1) := dk_172 (dk_at dksX2_divideAndChoose_3 15 rfl rfl)
theorem q97 : (Jvm.Cond.initialized "CakeDivision$State") ∈ lw_all := lw_g (lw_at lw_m1 2 rfl) rfl
theorem q143 : (Jvm.Cond.instantiable "CakeDivision$State" (3 : Nat)) ∈ lw_all := lw_g (lw_at lw_m1 48 rfl) rfl
theorem q145 : (Jvm.Cond.instanceMethod ({ cls := "CakeDivision$State", name := "<init>", desc := "(I)V" } : Jvm.MethodName)) ∈ lw_all := lw_g (lw_at lw_m1 50 rfl) rfl
theorem q146 : (Jvm.Cond.code ({ cls := "CakeDivision$State", name := "<init>", desc := "(I)V" } : Jvm.MethodName) prog_6_method_1_code (2 : Nat) (Option.none : Option Jvm.ClassFile.FieldType)) ∈ lw_all := lw_g (lw_at lw_m1 51 rfl) rfl
theorem q147 : (Jvm.Cond.methodLink "CakeDivision$State" (3 : Nat) ({ cls := "java/lang/Object", name := "<init>", desc := "()V" } : Jvm.MethodName)) ∈ lw_all := lw_g (lw_at lw_m1 52 rfl) rfl
theorem q148 : (Jvm.Cond.classLink "CakeDivision$State" (9 : Nat) "java/util/ArrayList") ∈ lw_all := lw_g (lw_at lw_m1 53 rfl) rfl
theorem q150 : (Jvm.Cond.methodLink "CakeDivision$State" (11 : Nat) ({ cls := "java/util/ArrayList", name := "<init>", desc := "(I)V" } : Jvm.MethodName)) ∈ lw_all := lw_g (lw_at lw_m1 55 rfl) rfl
theorem q491 : (Jvm.Cond.methodLink "CakeDivision$State" (28 : Nat) ({ cls := "CakeDivision$State", name := "release", desc := "(II)V" } : Jvm.MethodName)) ∈ lw_all := lw_g (lw_at lw_m2 156 rfl) rfl
theorem q492 : (Jvm.Cond.instanceMethod ({ cls := "CakeDivision$State", name := "release", desc := "(II)V" } : Jvm.MethodName)) ∈ lw_all := lw_g (lw_at lw_m2 157 rfl) rfl
theorem q493 : (Jvm.Cond.selects "CakeDivision$State" ({ cls := "CakeDivision$State", name := "release", desc := "(II)V" } : Jvm.MethodName) ({ cls := "CakeDivision$State", name := "release", desc := "(II)V" } : Jvm.MethodName)) ∈ lw_all := lw_g (lw_at lw_m2 158 rfl) rfl
theorem q494 : (Jvm.Cond.code ({ cls := "CakeDivision$State", name := "release", desc := "(II)V" } : Jvm.MethodName) prog_6_method_8_code (3 : Nat) (Option.none : Option Jvm.ClassFile.FieldType)) ∈ lw_all := lw_g (lw_at lw_m2 159 rfl) rfl
theorem q495 : (Jvm.Cond.methodLink "CakeDivision$State" (62 : Nat) ({ cls := "CakeDivision$State", name := "give", desc := "(III)V" } : Jvm.MethodName)) ∈ lw_all := lw_g (lw_at lw_m2 160 rfl) rfl
theorem q496 : (Jvm.Cond.instanceMethod ({ cls := "CakeDivision$State", name := "give", desc := "(III)V" } : Jvm.MethodName)) ∈ lw_all := lw_g (lw_at lw_m2 161 rfl) rfl
theorem q497 : (Jvm.Cond.selects "CakeDivision$State" ({ cls := "CakeDivision$State", name := "give", desc := "(III)V" } : Jvm.MethodName) ({ cls := "CakeDivision$State", name := "give", desc := "(III)V" } : Jvm.MethodName)) ∈ lw_all := lw_g (lw_at lw_m2 162 rfl) rfl
theorem q498 : (Jvm.Cond.code ({ cls := "CakeDivision$State", name := "give", desc := "(III)V" } : Jvm.MethodName) prog_6_method_7_code (5 : Nat) (Option.none : Option Jvm.ClassFile.FieldType)) ∈ lw_all := lw_g (lw_at lw_m2 163 rfl) rfl
theorem q499 : (Jvm.Cond.fieldLink "CakeDivision$State" (14 : Nat) "CakeDivision$State" "siblings" "Ljava/util/ArrayList;") ∈ lw_all := lw_g (lw_at lw_m2 164 rfl) rfl
theorem q501 : (Jvm.Cond.fieldLink "CakeDivision$State" (24 : Nat) "CakeDivision$State" "owners" "[I") ∈ lw_all := lw_g (lw_at lw_m2 166 rfl) rfl
theorem q503 : (Jvm.Cond.fieldLink "CakeDivision$State" (20 : Nat) "CakeDivision$State" "served" "[Z") ∈ lw_all := lw_g (lw_at lw_m2 168 rfl) rfl
theorem q504 : (Jvm.Cond.laysFinal "CakeDivision$State" "CakeDivision$State" "siblings" "Ljava/util/ArrayList;") ∈ lw_all := lw_g (lw_at lw_m2 169 rfl) rfl
theorem q505 : (Jvm.Cond.soleField "CakeDivision$State" "siblings") ∈ lw_all := lw_g (lw_at lw_m2 170 rfl) rfl
theorem q506 : (Jvm.Cond.laysFinal "CakeDivision$State" "CakeDivision$State" "owners" "[I") ∈ lw_all := lw_g (lw_at lw_m2 171 rfl) rfl
theorem q507 : (Jvm.Cond.soleField "CakeDivision$State" "owners") ∈ lw_all := lw_g (lw_at lw_m2 172 rfl) rfl
theorem q508 : (Jvm.Cond.laysFinal "CakeDivision$State" "CakeDivision$State" "served" "[Z") ∈ lw_all := lw_g (lw_at lw_m2 173 rfl) rfl
theorem q509 : (Jvm.Cond.soleField "CakeDivision$State" "served") ∈ lw_all := lw_g (lw_at lw_m2 174 rfl) rfl
theorem q510 : (Jvm.Cond.superclass "CakeDivision$State" "java/lang/Object") ∈ lw_all := lw_g (lw_at lw_m2 175 rfl) rfl
theorem q643 : (Jvm.Cond.instanceMethod ({ cls := "CakeDivision$State", name := "size", desc := "()I" } : Jvm.MethodName)) ∈ lw_all := lw_g (lw_at lw_m3 68 rfl) rfl
theorem q644 : (Jvm.Cond.selects "CakeDivision$State" ({ cls := "CakeDivision$State", name := "size", desc := "()I" } : Jvm.MethodName) ({ cls := "CakeDivision$State", name := "size", desc := "()I" } : Jvm.MethodName)) ∈ lw_all := lw_g (lw_at lw_m3 69 rfl) rfl
theorem q645 : (Jvm.Cond.code ({ cls := "CakeDivision$State", name := "size", desc := "()I" } : Jvm.MethodName) prog_6_method_4_code (1 : Nat) (Option.some Jvm.ClassFile.FieldType.int)) ∈ lw_all := lw_g (lw_at lw_m3 70 rfl) rfl
theorem q646 : (Jvm.Cond.methodLink "CakeDivision$State" (33 : Nat) ({ cls := "java/util/ArrayList", name := "size", desc := "()I" } : Jvm.MethodName)) ∈ lw_all := lw_g (lw_at lw_m3 71 rfl) rfl
theorem q661 : (Jvm.Cond.instanceMethod ({ cls := "CakeDivision$State", name := "siblingNamed", desc := "([B)I" } : Jvm.MethodName)) ∈ lw_all := lw_g (lw_at lw_m3 86 rfl) rfl
theorem q662 : (Jvm.Cond.selects "CakeDivision$State" ({ cls := "CakeDivision$State", name := "siblingNamed", desc := "([B)I" } : Jvm.MethodName) ({ cls := "CakeDivision$State", name := "siblingNamed", desc := "([B)I" } : Jvm.MethodName)) ∈ lw_all := lw_g (lw_at lw_m3 87 rfl) rfl
theorem q663 : (Jvm.Cond.code ({ cls := "CakeDivision$State", name := "siblingNamed", desc := "([B)I" } : Jvm.MethodName) prog_6_method_6_code (3 : Nat) (Option.some Jvm.ClassFile.FieldType.int)) ∈ lw_all := lw_g (lw_at lw_m3 88 rfl) rfl
theorem q664 : (Jvm.Cond.methodLink "CakeDivision$State" (53 : Nat) ({ cls := "CakeDivision$State", name := "size", desc := "()I" } : Jvm.MethodName)) ∈ lw_all := lw_g (lw_at lw_m3 89 rfl) rfl
theorem q665 : (Jvm.Cond.methodLink "CakeDivision$State" (54 : Nat) ({ cls := "CakeDivision$State", name := "sibling", desc := "(I)LCakeDivision$Sibling;" } : Jvm.MethodName)) ∈ lw_all := lw_g (lw_at lw_m3 90 rfl) rfl
theorem q666 : (Jvm.Cond.instanceMethod ({ cls := "CakeDivision$State", name := "sibling", desc := "(I)LCakeDivision$Sibling;" } : Jvm.MethodName)) ∈ lw_all := lw_g (lw_at lw_m3 91 rfl) rfl
theorem q667 : (Jvm.Cond.selects "CakeDivision$State" ({ cls := "CakeDivision$State", name := "sibling", desc := "(I)LCakeDivision$Sibling;" } : Jvm.MethodName) ({ cls := "CakeDivision$State", name := "sibling", desc := "(I)LCakeDivision$Sibling;" } : Jvm.MethodName)) ∈ lw_all := lw_g (lw_at lw_m3 92 rfl) rfl
theorem q668 : (Jvm.Cond.code ({ cls := "CakeDivision$State", name := "sibling", desc := "(I)LCakeDivision$Sibling;" } : Jvm.MethodName) prog_6_method_5_code (2 : Nat) (Option.some (Jvm.ClassFile.FieldType.object "CakeDivision$Sibling"))) ∈ lw_all := lw_g (lw_at lw_m3 93 rfl) rfl
theorem q669 : (Jvm.Cond.methodLink "CakeDivision$State" (37 : Nat) ({ cls := "java/util/ArrayList", name := "get", desc := "(I)Ljava/lang/Object;" } : Jvm.MethodName)) ∈ lw_all := lw_g (lw_at lw_m3 94 rfl) rfl
theorem q681 : (Jvm.Cond.classLink "CakeDivision$State" (41 : Nat) "CakeDivision$Sibling") ∈ lw_all := lw_g (lw_at lw_m3 106 rfl) rfl
theorem q682 : (Jvm.Cond.methodLink "CakeDivision$State" (58 : Nat) ({ cls := "CakeDivision$Sibling", name := "isNamed", desc := "([B)Z" } : Jvm.MethodName)) ∈ lw_all := lw_g (lw_at lw_m3 107 rfl) rfl
theorem q687 : (Jvm.Cond.instanceMethod ({ cls := "CakeDivision$State", name := "cells", desc := "()I" } : Jvm.MethodName)) ∈ lw_all := lw_g (lw_at lw_m3 112 rfl) rfl
theorem q688 : (Jvm.Cond.selects "CakeDivision$State" ({ cls := "CakeDivision$State", name := "cells", desc := "()I" } : Jvm.MethodName) ({ cls := "CakeDivision$State", name := "cells", desc := "()I" } : Jvm.MethodName)) ∈ lw_all := lw_g (lw_at lw_m3 113 rfl) rfl
theorem q689 : (Jvm.Cond.code ({ cls := "CakeDivision$State", name := "cells", desc := "()I" } : Jvm.MethodName) prog_6_method_3_code (1 : Nat) (Option.some Jvm.ClassFile.FieldType.int)) ∈ lw_all := lw_g (lw_at lw_m3 114 rfl) rfl
theorem q735 : (Jvm.Cond.selects "CakeDivision$State" ({ cls := "java/lang/Object", name := "getClass", desc := "()Ljava/lang/Class;" } : Jvm.MethodName) ({ cls := "java/lang/Object", name := "getClass", desc := "()Ljava/lang/Class;" } : Jvm.MethodName)) ∈ lw_all := lw_g (lw_at lw_m3 160 rfl) rfl
theorem q809 : (Jvm.Cond.instanceMethod ({ cls := "CakeDivision$State", name := "count", desc := "(I)I" } : Jvm.MethodName)) ∈ lw_all := lw_g (lw_at lw_m3 234 rfl) rfl
theorem q810 : (Jvm.Cond.selects "CakeDivision$State" ({ cls := "CakeDivision$State", name := "count", desc := "(I)I" } : Jvm.MethodName) ({ cls := "CakeDivision$State", name := "count", desc := "(I)I" } : Jvm.MethodName)) ∈ lw_all := lw_g (lw_at lw_m3 235 rfl) rfl
theorem q811 : (Jvm.Cond.code ({ cls := "CakeDivision$State", name := "count", desc := "(I)I" } : Jvm.MethodName) prog_6_method_9_code (4 : Nat) (Option.some Jvm.ClassFile.FieldType.int)) ∈ lw_all := lw_g (lw_at lw_m3 236 rfl) rfl
theorem q812 : (Jvm.Cond.methodLink "CakeDivision$State" (66 : Nat) ({ cls := "CakeDivision$State", name := "cells", desc := "()I" } : Jvm.MethodName)) ∈ lw_all := lw_g (lw_at lw_m3 237 rfl) rfl
theorem q818 : (Jvm.Cond.instanceMethod ({ cls := "CakeDivision$State", name := "envies", desc := "()I" } : Jvm.MethodName)) ∈ lw_all := lw_g (lw_at lw_m4 3 rfl) rfl
theorem q819 : (Jvm.Cond.selects "CakeDivision$State" ({ cls := "CakeDivision$State", name := "envies", desc := "()I" } : Jvm.MethodName) ({ cls := "CakeDivision$State", name := "envies", desc := "()I" } : Jvm.MethodName)) ∈ lw_all := lw_g (lw_at lw_m4 4 rfl) rfl
theorem q820 : (Jvm.Cond.code ({ cls := "CakeDivision$State", name := "envies", desc := "()I" } : Jvm.MethodName) prog_6_method_18_code (3 : Nat) (Option.some Jvm.ClassFile.FieldType.int)) ∈ lw_all := lw_g (lw_at lw_m4 5 rfl) rfl
theorem q821 : (Jvm.Cond.methodLink "CakeDivision$State" (92 : Nat) ({ cls := "CakeDivision$State", name := "envies", desc := "(II)Z" } : Jvm.MethodName)) ∈ lw_all := lw_g (lw_at lw_m4 6 rfl) rfl
theorem q822 : (Jvm.Cond.instanceMethod ({ cls := "CakeDivision$State", name := "envies", desc := "(II)Z" } : Jvm.MethodName)) ∈ lw_all := lw_g (lw_at lw_m4 7 rfl) rfl
theorem q823 : (Jvm.Cond.selects "CakeDivision$State" ({ cls := "CakeDivision$State", name := "envies", desc := "(II)Z" } : Jvm.MethodName) ({ cls := "CakeDivision$State", name := "envies", desc := "(II)Z" } : Jvm.MethodName)) ∈ lw_all := lw_g (lw_at lw_m4 8 rfl) rfl
theorem q824 : (Jvm.Cond.code ({ cls := "CakeDivision$State", name := "envies", desc := "(II)Z" } : Jvm.MethodName) prog_6_method_14_code (3 : Nat) (Option.some Jvm.ClassFile.FieldType.boolean)) ∈ lw_all := lw_g (lw_at lw_m4 9 rfl) rfl
theorem q825 : (Jvm.Cond.methodLink "CakeDivision$State" (73 : Nat) ({ cls := "CakeDivision$State", name := "worthOfShare", desc := "(II)I" } : Jvm.MethodName)) ∈ lw_all := lw_g (lw_at lw_m4 10 rfl) rfl
theorem q826 : (Jvm.Cond.instanceMethod ({ cls := "CakeDivision$State", name := "worthOfShare", desc := "(II)I" } : Jvm.MethodName)) ∈ lw_all := lw_g (lw_at lw_m4 11 rfl) rfl
theorem q827 : (Jvm.Cond.selects "CakeDivision$State" ({ cls := "CakeDivision$State", name := "worthOfShare", desc := "(II)I" } : Jvm.MethodName) ({ cls := "CakeDivision$State", name := "worthOfShare", desc := "(II)I" } : Jvm.MethodName)) ∈ lw_all := lw_g (lw_at lw_m4 12 rfl) rfl
theorem q828 : (Jvm.Cond.code ({ cls := "CakeDivision$State", name := "worthOfShare", desc := "(II)I" } : Jvm.MethodName) prog_6_method_11_code (5 : Nat) (Option.some Jvm.ClassFile.FieldType.int)) ∈ lw_all := lw_g (lw_at lw_m4 13 rfl) rfl
theorem q829 : (Jvm.Cond.methodLink "CakeDivision$State" (69 : Nat) ({ cls := "CakeDivision$Sibling", name := "value", desc := "(I)I" } : Jvm.MethodName)) ∈ lw_all := lw_g (lw_at lw_m4 14 rfl) rfl
theorem q833 : (Jvm.Cond.methodLink "CakeDivision$State" (77 : Nat) ({ cls := "CakeDivision$State", name := "welfare", desc := "(I)I" } : Jvm.MethodName)) ∈ lw_all := lw_g (lw_at lw_m4 18 rfl) rfl
theorem q834 : (Jvm.Cond.instanceMethod ({ cls := "CakeDivision$State", name := "welfare", desc := "(I)I" } : Jvm.MethodName)) ∈ lw_all := lw_g (lw_at lw_m4 19 rfl) rfl
theorem q835 : (Jvm.Cond.selects "CakeDivision$State" ({ cls := "CakeDivision$State", name := "welfare", desc := "(I)I" } : Jvm.MethodName) ({ cls := "CakeDivision$State", name := "welfare", desc := "(I)I" } : Jvm.MethodName)) ∈ lw_all := lw_g (lw_at lw_m4 20 rfl) rfl
theorem q836 : (Jvm.Cond.code ({ cls := "CakeDivision$State", name := "welfare", desc := "(I)I" } : Jvm.MethodName) prog_6_method_12_code (2 : Nat) (Option.some Jvm.ClassFile.FieldType.int)) ∈ lw_all := lw_g (lw_at lw_m4 21 rfl) rfl
theorem q843 : (Jvm.Cond.instanceMethod ({ cls := "CakeDivision$State", name := "isMild", desc := "(II)Z" } : Jvm.MethodName)) ∈ lw_all := lw_g (lw_at lw_m4 28 rfl) rfl
theorem q844 : (Jvm.Cond.selects "CakeDivision$State" ({ cls := "CakeDivision$State", name := "isMild", desc := "(II)Z" } : Jvm.MethodName) ({ cls := "CakeDivision$State", name := "isMild", desc := "(II)Z" } : Jvm.MethodName)) ∈ lw_all := lw_g (lw_at lw_m4 29 rfl) rfl
theorem q845 : (Jvm.Cond.code ({ cls := "CakeDivision$State", name := "isMild", desc := "(II)Z" } : Jvm.MethodName) prog_6_method_15_code (6 : Nat) (Option.some Jvm.ClassFile.FieldType.boolean)) ∈ lw_all := lw_g (lw_at lw_m4 30 rfl) rfl
theorem q859 : (Jvm.Cond.instanceMethod ({ cls := "CakeDivision$State", name := "satisfied", desc := "()I" } : Jvm.MethodName)) ∈ lw_all := lw_g (lw_at lw_m4 44 rfl) rfl
theorem q860 : (Jvm.Cond.selects "CakeDivision$State" ({ cls := "CakeDivision$State", name := "satisfied", desc := "()I" } : Jvm.MethodName) ({ cls := "CakeDivision$State", name := "satisfied", desc := "()I" } : Jvm.MethodName)) ∈ lw_all := lw_g (lw_at lw_m4 45 rfl) rfl
theorem q861 : (Jvm.Cond.code ({ cls := "CakeDivision$State", name := "satisfied", desc := "()I" } : Jvm.MethodName) prog_6_method_17_code (3 : Nat) (Option.some Jvm.ClassFile.FieldType.int)) ∈ lw_all := lw_g (lw_at lw_m4 46 rfl) rfl
theorem q862 : (Jvm.Cond.methodLink "CakeDivision$State" (88 : Nat) ({ cls := "CakeDivision$State", name := "isSatisfied", desc := "(I)Z" } : Jvm.MethodName)) ∈ lw_all := lw_g (lw_at lw_m4 47 rfl) rfl
theorem q863 : (Jvm.Cond.instanceMethod ({ cls := "CakeDivision$State", name := "isSatisfied", desc := "(I)Z" } : Jvm.MethodName)) ∈ lw_all := lw_g (lw_at lw_m4 48 rfl) rfl
theorem q864 : (Jvm.Cond.selects "CakeDivision$State" ({ cls := "CakeDivision$State", name := "isSatisfied", desc := "(I)Z" } : Jvm.MethodName) ({ cls := "CakeDivision$State", name := "isSatisfied", desc := "(I)Z" } : Jvm.MethodName)) ∈ lw_all := lw_g (lw_at lw_m4 49 rfl) rfl
theorem q865 : (Jvm.Cond.code ({ cls := "CakeDivision$State", name := "isSatisfied", desc := "(I)Z" } : Jvm.MethodName) prog_6_method_16_code (2 : Nat) (Option.some Jvm.ClassFile.FieldType.boolean)) ∈ lw_all := lw_g (lw_at lw_m4 50 rfl) rfl
theorem q866 : (Jvm.Cond.methodLink "CakeDivision$State" (85 : Nat) ({ cls := "CakeDivision$Sibling", name := "total", desc := "()I" } : Jvm.MethodName)) ∈ lw_all := lw_g (lw_at lw_m4 51 rfl) rfl
theorem q884 : (Jvm.Cond.instanceMethod ({ cls := "CakeDivision$State", name := "leastWelfare", desc := "()I" } : Jvm.MethodName)) ∈ lw_all := lw_g (lw_at lw_m4 69 rfl) rfl
theorem q885 : (Jvm.Cond.selects "CakeDivision$State" ({ cls := "CakeDivision$State", name := "leastWelfare", desc := "()I" } : Jvm.MethodName) ({ cls := "CakeDivision$State", name := "leastWelfare", desc := "()I" } : Jvm.MethodName)) ∈ lw_all := lw_g (lw_at lw_m4 70 rfl) rfl
theorem q886 : (Jvm.Cond.code ({ cls := "CakeDivision$State", name := "leastWelfare", desc := "()I" } : Jvm.MethodName) prog_6_method_13_code (3 : Nat) (Option.some Jvm.ClassFile.FieldType.int)) ∈ lw_all := lw_g (lw_at lw_m4 71 rfl) rfl
theorem q887 : (Jvm.Cond.methodLink "CakeDivision$State" (80 : Nat) ({ cls := "java/lang/Math", name := "min", desc := "(II)I" } : Jvm.MethodName)) ∈ lw_all := lw_g (lw_at lw_m4 72 rfl) rfl
theorem q957 : (Jvm.Cond.instanceMethod ({ cls := "CakeDivision$State", name := "pieces", desc := "(I)I" } : Jvm.MethodName)) ∈ lw_all := lw_g (lw_at lw_m4 142 rfl) rfl
theorem q958 : (Jvm.Cond.selects "CakeDivision$State" ({ cls := "CakeDivision$State", name := "pieces", desc := "(I)I" } : Jvm.MethodName) ({ cls := "CakeDivision$State", name := "pieces", desc := "(I)I" } : Jvm.MethodName)) ∈ lw_all := lw_g (lw_at lw_m4 143 rfl) rfl
theorem q959 : (Jvm.Cond.code ({ cls := "CakeDivision$State", name := "pieces", desc := "(I)I" } : Jvm.MethodName) prog_6_method_10_code (4 : Nat) (Option.some Jvm.ClassFile.FieldType.int)) ∈ lw_all := lw_g (lw_at lw_m4 144 rfl) rfl
theorem q973 : (Jvm.Cond.instanceMethod ({ cls := "CakeDivision$State", name := "freeCopy", desc := "()LCakeDivision$State;" } : Jvm.MethodName)) ∈ lw_all := lw_g (lw_at lw_m4 158 rfl) rfl
theorem q974 : (Jvm.Cond.selects "CakeDivision$State" ({ cls := "CakeDivision$State", name := "freeCopy", desc := "()LCakeDivision$State;" } : Jvm.MethodName) ({ cls := "CakeDivision$State", name := "freeCopy", desc := "()LCakeDivision$State;" } : Jvm.MethodName)) ∈ lw_all := lw_g (lw_at lw_m4 159 rfl) rfl
theorem q975 : (Jvm.Cond.code ({ cls := "CakeDivision$State", name := "freeCopy", desc := "()LCakeDivision$State;" } : Jvm.MethodName) prog_6_method_25_code (2 : Nat) (Option.some (Jvm.ClassFile.FieldType.object "CakeDivision$State"))) ∈ lw_all := lw_g (lw_at lw_m4 160 rfl) rfl
theorem q976 : (Jvm.Cond.classLink "CakeDivision$State" (15 : Nat) "CakeDivision$State") ∈ lw_all := lw_g (lw_at lw_m4 161 rfl) rfl
theorem q977 : (Jvm.Cond.methodLink "CakeDivision$State" (120 : Nat) ({ cls := "CakeDivision$State", name := "<init>", desc := "(LCakeDivision$State;)V" } : Jvm.MethodName)) ∈ lw_all := lw_g (lw_at lw_m4 162 rfl) rfl
theorem q978 : (Jvm.Cond.instanceMethod ({ cls := "CakeDivision$State", name := "<init>", desc := "(LCakeDivision$State;)V" } : Jvm.MethodName)) ∈ lw_all := lw_g (lw_at lw_m4 163 rfl) rfl
theorem q979 : (Jvm.Cond.code ({ cls := "CakeDivision$State", name := "<init>", desc := "(LCakeDivision$State;)V" } : Jvm.MethodName) prog_6_method_2_code (3 : Nat) (Option.none : Option Jvm.ClassFile.FieldType)) ∈ lw_all := lw_g (lw_at lw_m4 164 rfl) rfl
theorem q980 : (Jvm.Cond.methodLink "CakeDivision$State" (32 : Nat) ({ cls := "CakeDivision$State", name := "<init>", desc := "(I)V" } : Jvm.MethodName)) ∈ lw_all := lw_g (lw_at lw_m4 165 rfl) rfl
theorem q981 : (Jvm.Cond.methodLink "CakeDivision$State" (43 : Nat) ({ cls := "java/util/ArrayList", name := "add", desc := "(Ljava/lang/Object;)Z" } : Jvm.MethodName)) ∈ lw_all := lw_g (lw_at lw_m4 166 rfl) rfl
theorem q982 : (Jvm.Cond.methodLink "CakeDivision$State" (47 : Nat) ({ cls := "java/lang/System", name := "arraycopy", desc := "(Ljava/lang/Object;ILjava/lang/Object;II)V" } : Jvm.MethodName)) ∈ lw_all := lw_g (lw_at lw_m4 167 rfl) rfl
theorem q984 : (Jvm.Cond.instanceMethod ({ cls := "CakeDivision$State", name := "roundRobin", desc := "(I)I" } : Jvm.MethodName)) ∈ lw_all := lw_g (lw_at lw_m4 169 rfl) rfl
theorem q985 : (Jvm.Cond.selects "CakeDivision$State" ({ cls := "CakeDivision$State", name := "roundRobin", desc := "(I)I" } : Jvm.MethodName) ({ cls := "CakeDivision$State", name := "roundRobin", desc := "(I)I" } : Jvm.MethodName)) ∈ lw_all := lw_g (lw_at lw_m4 170 rfl) rfl
theorem q986 : (Jvm.Cond.code ({ cls := "CakeDivision$State", name := "roundRobin", desc := "(I)I" } : Jvm.MethodName) prog_6_method_24_code (5 : Nat) (Option.some Jvm.ClassFile.FieldType.int)) ∈ lw_all := lw_g (lw_at lw_m4 171 rfl) rfl
theorem q987 : (Jvm.Cond.methodLink "CakeDivision$State" (117 : Nat) ({ cls := "CakeDivision$State", name := "favourite", desc := "(I)I" } : Jvm.MethodName)) ∈ lw_all := lw_g (lw_at lw_m4 172 rfl) rfl
theorem q988 : (Jvm.Cond.instanceMethod ({ cls := "CakeDivision$State", name := "favourite", desc := "(I)I" } : Jvm.MethodName)) ∈ lw_all := lw_g (lw_at lw_m4 173 rfl) rfl
theorem q989 : (Jvm.Cond.selects "CakeDivision$State" ({ cls := "CakeDivision$State", name := "favourite", desc := "(I)I" } : Jvm.MethodName) ({ cls := "CakeDivision$State", name := "favourite", desc := "(I)I" } : Jvm.MethodName)) ∈ lw_all := lw_g (lw_at lw_m4 174 rfl) rfl
theorem q990 : (Jvm.Cond.code ({ cls := "CakeDivision$State", name := "favourite", desc := "(I)I" } : Jvm.MethodName) prog_6_method_19_code (5 : Nat) (Option.some Jvm.ClassFile.FieldType.int)) ∈ lw_all := lw_g (lw_at lw_m4 175 rfl) rfl
theorem q997 : (Jvm.Cond.instanceMethod ({ cls := "CakeDivision$State", name := "movingKnife", desc := "()I" } : Jvm.MethodName)) ∈ lw_all := lw_g (lw_at lw_m4 182 rfl) rfl
theorem q998 : (Jvm.Cond.selects "CakeDivision$State" ({ cls := "CakeDivision$State", name := "movingKnife", desc := "()I" } : Jvm.MethodName) ({ cls := "CakeDivision$State", name := "movingKnife", desc := "()I" } : Jvm.MethodName)) ∈ lw_all := lw_g (lw_at lw_m4 183 rfl) rfl
theorem q999 : (Jvm.Cond.code ({ cls := "CakeDivision$State", name := "movingKnife", desc := "()I" } : Jvm.MethodName) prog_6_method_23_code (7 : Nat) (Option.some Jvm.ClassFile.FieldType.int)) ∈ lw_all := lw_g (lw_at lw_m4 184 rfl) rfl
theorem q1000 : (Jvm.Cond.methodLink "CakeDivision$State" (108 : Nat) ({ cls := "CakeDivision$State", name := "firstUnserved", desc := "()I" } : Jvm.MethodName)) ∈ lw_all := lw_g (lw_at lw_m4 185 rfl) rfl
theorem q1001 : (Jvm.Cond.privateMethod ({ cls := "CakeDivision$State", name := "firstUnserved", desc := "()I" } : Jvm.MethodName)) ∈ lw_tbl := lw_at lw_m4 186 rfl
theorem q1002 : (Jvm.Cond.instanceMethod ({ cls := "CakeDivision$State", name := "firstUnserved", desc := "()I" } : Jvm.MethodName)) ∈ lw_all := lw_g (lw_at lw_m4 187 rfl) rfl
theorem q1003 : (Jvm.Cond.code ({ cls := "CakeDivision$State", name := "firstUnserved", desc := "()I" } : Jvm.MethodName) prog_6_method_22_code (2 : Nat) (Option.some Jvm.ClassFile.FieldType.int)) ∈ lw_all := lw_g (lw_at lw_m4 188 rfl) rfl
theorem q1004 : (Jvm.Cond.methodLink "CakeDivision$State" (111 : Nat) ({ cls := "CakeDivision$Sibling", name := "mark", desc := "(II)I" } : Jvm.MethodName)) ∈ lw_all := lw_g (lw_at lw_m4 189 rfl) rfl
theorem q1008 : (Jvm.Cond.methodLink "CakeDivision$State" (114 : Nat) ({ cls := "CakeDivision$State", name := "satisfied", desc := "()I" } : Jvm.MethodName)) ∈ lw_all := lw_g (lw_at lw_m4 193 rfl) rfl
theorem q1384 : (Jvm.Cond.instanceMethod ({ cls := "CakeDivision$State", name := "cutFor", desc := "(I)I" } : Jvm.MethodName)) ∈ lw_all := lw_g (lw_at lw_m6 89 rfl) rfl
theorem q1385 : (Jvm.Cond.selects "CakeDivision$State" ({ cls := "CakeDivision$State", name := "cutFor", desc := "(I)I" } : Jvm.MethodName) ({ cls := "CakeDivision$State", name := "cutFor", desc := "(I)I" } : Jvm.MethodName)) ∈ lw_all := lw_g (lw_at lw_m6 90 rfl) rfl
theorem q1386 : (Jvm.Cond.code ({ cls := "CakeDivision$State", name := "cutFor", desc := "(I)I" } : Jvm.MethodName) prog_6_method_20_code (6 : Nat) (Option.some Jvm.ClassFile.FieldType.int)) ∈ lw_all := lw_g (lw_at lw_m6 91 rfl) rfl
theorem q1387 : (Jvm.Cond.constant "CakeDivision$State" (98 : Nat) (2147483647 : Int32)) ∈ lw_all := lw_g (lw_at lw_m6 92 rfl) rfl
theorem q1388 : (Jvm.Cond.methodLink "CakeDivision$State" (99 : Nat) ({ cls := "CakeDivision$Sibling", name := "worth", desc := "(II)I" } : Jvm.MethodName)) ∈ lw_all := lw_g (lw_at lw_m6 93 rfl) rfl
theorem q1389 : (Jvm.Cond.methodLink "CakeDivision$State" (102 : Nat) ({ cls := "java/lang/Math", name := "abs", desc := "(I)I" } : Jvm.MethodName)) ∈ lw_all := lw_g (lw_at lw_m6 94 rfl) rfl
theorem q1472 : (Jvm.Cond.instanceMethod ({ cls := "CakeDivision$State", name := "divideAndChoose", desc := "(II)I" } : Jvm.MethodName)) ∈ lw_all := lw_g (lw_at lw_m6 177 rfl) rfl
theorem q1473 : (Jvm.Cond.selects "CakeDivision$State" ({ cls := "CakeDivision$State", name := "divideAndChoose", desc := "(II)I" } : Jvm.MethodName) ({ cls := "CakeDivision$State", name := "divideAndChoose", desc := "(II)I" } : Jvm.MethodName)) ∈ lw_all := lw_g (lw_at lw_m6 178 rfl) rfl
theorem q1474 : (Jvm.Cond.code ({ cls := "CakeDivision$State", name := "divideAndChoose", desc := "(II)I" } : Jvm.MethodName) prog_6_method_21_code (5 : Nat) (Option.some Jvm.ClassFile.FieldType.int)) ∈ lw_all := lw_g (lw_at lw_m6 179 rfl) rfl
theorem q1475 : (Jvm.Cond.methodLink "CakeDivision$State" (105 : Nat) ({ cls := "CakeDivision$State", name := "cutFor", desc := "(I)I" } : Jvm.MethodName)) ∈ lw_all := lw_g (lw_at lw_m6 180 rfl) rfl
theorem q2165 : (Jvm.Cond.castable "CakeDivision$State" "java/lang/Object") ∈ lw_tbl := lw_at lw_m9 150 rfl
theorem in_X2 : ∀ w ∈ wsX20, w ∈ lw_all := lw_in wsX20 [504, 506, 508] (by decide +kernel) (by decide +kernel)
/-! CakeDivision$Sibling -/
set_option maxRecDepth 100000
def RX5 : String := "CakeDivision$Sibling"
def TX5 : u_T := fun k => match k with
  | 0 => ("CakeDivision$Sibling", "name", "[B", true)
  | _ => ("CakeDivision$Sibling", "values", "[I", true)
def tyX5 : Nat → FieldType := fun k => match k with
  | 0 => .array .byte
  | _ => .array .int
abbrev wsX50 : List Cond := u_ws RX5 TX5 2
theorem nmX5 : ∀ a, a < 2 → ∀ b, b < 2 → a ≠ b → (TX5 a).2.1 ≠ (TX5 b).2.1 := by decide +kernel
theorem tyX5_ok : ∀ k, k < 2 → parseFieldDescriptor (TX5 k).2.2.1 = some (tyX5 k) := by decide +kernel
abbrev cX5_isNamed : ByteArray := prog_5_method_7_code
def yX5_isNamed : MethodName := ⟨RX5, "isNamed", "([B)Z"⟩
def dkwX5_isNamed_2 : List UInt8 := [61, 132, 3, 1, 167, 255, 222, 28, 172]
abbrev dktX5_isNamed_2 : List UInt8 := dkwX5_isNamed_2 ++ []
def dkwX5_isNamed_1 : List UInt8 := [162, 0, 31, 28, 153, 0, 27, 42, 180, 0, 7, 29, 51, 43, 29, 51, 160, 0, 7, 4, 167, 0, 4, 3]
abbrev dktX5_isNamed_1 : List UInt8 := dkwX5_isNamed_1 ++ dktX5_isNamed_2
def dkwX5_isNamed_0 : List UInt8 := [43, 190, 42, 180, 0, 7, 190, 160, 0, 7, 4, 167, 0, 4, 3, 61, 3, 62, 29, 42, 180, 0, 7, 190]
abbrev dktX5_isNamed_0 : List UInt8 := dkwX5_isNamed_0 ++ dktX5_isNamed_1
theorem dksX5_isNamed_0 : cX5_isNamed.data.toList.drop 0 = dktX5_isNamed_0 := by decide +kernel
theorem dksX5_isNamed_1 : cX5_isNamed.data.toList.drop 24 = dktX5_isNamed_1 := dk_seg dksX5_isNamed_0 24 rfl rfl
theorem dksX5_isNamed_2 : cX5_isNamed.data.toList.drop 48 = dktX5_isNamed_2 := dk_seg dksX5_isNamed_1 24 rfl rfl
theorem dX5_isNamed_0 : decode cX5_isNamed 0 = .ok (.aload_n 1, 1) := dk_43 (dk_at dksX5_isNamed_0 0 rfl rfl)
theorem dX5_isNamed_1 : decode cX5_isNamed 1 = .ok (.arraylength, 1) := dk_190 (dk_at dksX5_isNamed_0 1 rfl rfl)
theorem dX5_isNamed_2 : decode cX5_isNamed 2 = .ok (.aload_n 0, 1) := dk_42 (dk_at dksX5_isNamed_0 2 rfl rfl)
theorem dX5_isNamed_3 : decode cX5_isNamed 3 = .ok (.getfield 7, 3) := dk_180 0 7 (dk_at dksX5_isNamed_0 3 rfl rfl)
theorem dX5_isNamed_6 : decode cX5_isNamed 6 = .ok (.arraylength, 1) := dk_190 (dk_at dksX5_isNamed_0 6 rfl rfl)
theorem dX5_isNamed_7 : decode cX5_isNamed 7 = .ok (.if_icmp .ne 7, 3) := dk_160 0 7 (dk_at dksX5_isNamed_0 7 rfl rfl)
theorem dX5_isNamed_10 : decode cX5_isNamed 10 = .ok (.iconst 1, 1) := dk_4 (dk_at dksX5_isNamed_0 10 rfl rfl)
theorem dX5_isNamed_11 : decode cX5_isNamed 11 = .ok (.goto 4, 3) := dk_167 0 4 (dk_at dksX5_isNamed_0 11 rfl rfl)
theorem dX5_isNamed_14 : decode cX5_isNamed 14 = .ok (.iconst 0, 1) := dk_3 (dk_at dksX5_isNamed_0 14 rfl rfl)
theorem dX5_isNamed_15 : decode cX5_isNamed 15 = .ok (.istore_n 2, 1) := dk_61 (dk_at dksX5_isNamed_0 15 rfl rfl)
theorem dX5_isNamed_16 : decode cX5_isNamed 16 = .ok (.iconst 0, 1) := dk_3 (dk_at dksX5_isNamed_0 16 rfl rfl)
theorem dX5_isNamed_17 : decode cX5_isNamed 17 = .ok (.istore_n 3, 1) := dk_62 (dk_at dksX5_isNamed_0 17 rfl rfl)
theorem dX5_isNamed_18 : decode cX5_isNamed 18 = .ok (.iload_n 3, 1) := dk_29 (dk_at dksX5_isNamed_0 18 rfl rfl)
theorem dX5_isNamed_19 : decode cX5_isNamed 19 = .ok (.aload_n 0, 1) := dk_42 (dk_at dksX5_isNamed_0 19 rfl rfl)
theorem dX5_isNamed_20 : decode cX5_isNamed 20 = .ok (.getfield 7, 3) := dk_180 0 7 (dk_at dksX5_isNamed_0 20 rfl rfl)
theorem dX5_isNamed_23 : decode cX5_isNamed 23 = .ok (.arraylength, 1) := dk_190 (dk_at dksX5_isNamed_0 23 rfl rfl)
theorem dX5_isNamed_24 : decode cX5_isNamed 24 = .ok (.if_icmp .ge 31, 3) := dk_162 0 31 (dk_at dksX5_isNamed_1 0 rfl rfl)
theorem dX5_isNamed_27 : decode cX5_isNamed 27 = .ok (.iload_n 2, 1) := dk_28 (dk_at dksX5_isNamed_1 3 rfl rfl)
theorem dX5_isNamed_28 : decode cX5_isNamed 28 = .ok (.ifCond .eq 27, 3) := dk_153 0 27 (dk_at dksX5_isNamed_1 4 rfl rfl)
theorem dX5_isNamed_31 : decode cX5_isNamed 31 = .ok (.aload_n 0, 1) := dk_42 (dk_at dksX5_isNamed_1 7 rfl rfl)
theorem dX5_isNamed_32 : decode cX5_isNamed 32 = .ok (.getfield 7, 3) := dk_180 0 7 (dk_at dksX5_isNamed_1 8 rfl rfl)
theorem dX5_isNamed_35 : decode cX5_isNamed 35 = .ok (.iload_n 3, 1) := dk_29 (dk_at dksX5_isNamed_1 11 rfl rfl)
theorem dX5_isNamed_36 : decode cX5_isNamed 36 = .ok (.baload, 1) := dk_51 (dk_at dksX5_isNamed_1 12 rfl rfl)
theorem dX5_isNamed_37 : decode cX5_isNamed 37 = .ok (.aload_n 1, 1) := dk_43 (dk_at dksX5_isNamed_1 13 rfl rfl)
theorem dX5_isNamed_38 : decode cX5_isNamed 38 = .ok (.iload_n 3, 1) := dk_29 (dk_at dksX5_isNamed_1 14 rfl rfl)
theorem dX5_isNamed_39 : decode cX5_isNamed 39 = .ok (.baload, 1) := dk_51 (dk_at dksX5_isNamed_1 15 rfl rfl)
theorem dX5_isNamed_40 : decode cX5_isNamed 40 = .ok (.if_icmp .ne 7, 3) := dk_160 0 7 (dk_at dksX5_isNamed_1 16 rfl rfl)
theorem dX5_isNamed_43 : decode cX5_isNamed 43 = .ok (.iconst 1, 1) := dk_4 (dk_at dksX5_isNamed_1 19 rfl rfl)
theorem dX5_isNamed_44 : decode cX5_isNamed 44 = .ok (.goto 4, 3) := dk_167 0 4 (dk_at dksX5_isNamed_1 20 rfl rfl)
theorem dX5_isNamed_47 : decode cX5_isNamed 47 = .ok (.iconst 0, 1) := dk_3 (dk_at dksX5_isNamed_1 23 rfl rfl)
theorem dX5_isNamed_48 : decode cX5_isNamed 48 = .ok (.istore_n 2, 1) := dk_61 (dk_at dksX5_isNamed_2 0 rfl rfl)
theorem dX5_isNamed_49 : decode cX5_isNamed 49 = .ok (.iinc 3 1, 3) := dk_132 3 1 (dk_at dksX5_isNamed_2 1 rfl rfl)
theorem dX5_isNamed_52 : decode cX5_isNamed 52 = .ok (.goto (-34), 3) := dk_167 255 222 (dk_at dksX5_isNamed_2 4 rfl rfl)
theorem dX5_isNamed_55 : decode cX5_isNamed 55 = .ok (.iload_n 2, 1) := dk_28 (dk_at dksX5_isNamed_2 7 rfl rfl)
theorem dX5_isNamed_56 : decode cX5_isNamed 56 = .ok (.ireturn, 1) := dk_172 (dk_at dksX5_isNamed_2 8 rfl rfl)
abbrev cX5_init : ByteArray := prog_5_method_1_code
def yX5_init : MethodName := ⟨RX5, "<init>", "([B[I)V"⟩
def dkwX5_init_1 : List UInt8 := [44, 190, 184, 0, 17, 177]
abbrev dktX5_init_1 : List UInt8 := dkwX5_init_1 ++ []
def dkwX5_init_0 : List UInt8 := [42, 183, 0, 1, 42, 43, 181, 0, 7, 42, 44, 190, 188, 10, 181, 0, 13, 44, 3, 42, 180, 0, 13, 3]
abbrev dktX5_init_0 : List UInt8 := dkwX5_init_0 ++ dktX5_init_1
theorem dksX5_init_0 : cX5_init.data.toList.drop 0 = dktX5_init_0 := by decide +kernel
theorem dksX5_init_1 : cX5_init.data.toList.drop 24 = dktX5_init_1 := dk_seg dksX5_init_0 24 rfl rfl
theorem dX5_init_0 : decode cX5_init 0 = .ok (.aload_n 0, 1) := dk_42 (dk_at dksX5_init_0 0 rfl rfl)
theorem dX5_init_1 : decode cX5_init 1 = .ok (.invokespecial 1, 3) := dk_183 0 1 (dk_at dksX5_init_0 1 rfl rfl)
theorem dX5_init_4 : decode cX5_init 4 = .ok (.aload_n 0, 1) := dk_42 (dk_at dksX5_init_0 4 rfl rfl)
theorem dX5_init_5 : decode cX5_init 5 = .ok (.aload_n 1, 1) := dk_43 (dk_at dksX5_init_0 5 rfl rfl)
theorem dX5_init_6 : decode cX5_init 6 = .ok (.putfield 7, 3) := dk_181 0 7 (dk_at dksX5_init_0 6 rfl rfl)
theorem dX5_init_9 : decode cX5_init 9 = .ok (.aload_n 0, 1) := dk_42 (dk_at dksX5_init_0 9 rfl rfl)
theorem dX5_init_10 : decode cX5_init 10 = .ok (.aload_n 2, 1) := dk_44 (dk_at dksX5_init_0 10 rfl rfl)
theorem dX5_init_11 : decode cX5_init 11 = .ok (.arraylength, 1) := dk_190 (dk_at dksX5_init_0 11 rfl rfl)
theorem dX5_init_12 : decode cX5_init 12 = .ok (.newarray .int, 2) := dk_188_10 (dk_at dksX5_init_0 12 rfl rfl)
theorem dX5_init_14 : decode cX5_init 14 = .ok (.putfield 13, 3) := dk_181 0 13 (dk_at dksX5_init_0 14 rfl rfl)
theorem dX5_init_17 : decode cX5_init 17 = .ok (.aload_n 2, 1) := dk_44 (dk_at dksX5_init_0 17 rfl rfl)
theorem dX5_init_18 : decode cX5_init 18 = .ok (.iconst 0, 1) := dk_3 (dk_at dksX5_init_0 18 rfl rfl)
theorem dX5_init_19 : decode cX5_init 19 = .ok (.aload_n 0, 1) := dk_42 (dk_at dksX5_init_0 19 rfl rfl)
theorem dX5_init_20 : decode cX5_init 20 = .ok (.getfield 13, 3) := dk_180 0 13 (dk_at dksX5_init_0 20 rfl rfl)
theorem dX5_init_23 : decode cX5_init 23 = .ok (.iconst 0, 1) := dk_3 (dk_at dksX5_init_0 23 rfl rfl)
theorem dX5_init_24 : decode cX5_init 24 = .ok (.aload_n 2, 1) := dk_44 (dk_at dksX5_init_1 0 rfl rfl)
theorem dX5_init_25 : decode cX5_init 25 = .ok (.arraylength, 1) := dk_190 (dk_at dksX5_init_1 1 rfl rfl)
theorem dX5_init_26 : decode cX5_init 26 = .ok (.invokestatic 17, 3) := dk_184 0 17 (dk_at dksX5_init_1 2 rfl rfl)
theorem dX5_init_29 : decode cX5_init 29 = .ok (.return_, 1) := dk_177 (dk_at dksX5_init_1 5 rfl rfl)
abbrev cX5_value : ByteArray := prog_5_method_3_code
def yX5_value : MethodName := ⟨RX5, "value", "(I)I"⟩
def dkwX5_value_0 : List UInt8 := [42, 180, 0, 13, 27, 46, 172]
abbrev dktX5_value_0 : List UInt8 := dkwX5_value_0 ++ []
theorem dksX5_value_0 : cX5_value.data.toList.drop 0 = dktX5_value_0 := by decide +kernel
theorem dX5_value_0 : decode cX5_value 0 = .ok (.aload_n 0, 1) := dk_42 (dk_at dksX5_value_0 0 rfl rfl)
theorem dX5_value_1 : decode cX5_value 1 = .ok (.getfield 13, 3) := dk_180 0 13 (dk_at dksX5_value_0 1 rfl rfl)
theorem dX5_value_4 : decode cX5_value 4 = .ok (.iload_n 1, 1) := dk_27 (dk_at dksX5_value_0 4 rfl rfl)
theorem dX5_value_5 : decode cX5_value 5 = .ok (.iaload, 1) := dk_46 (dk_at dksX5_value_0 5 rfl rfl)
theorem dX5_value_6 : decode cX5_value 6 = .ok (.ireturn, 1) := dk_172 (dk_at dksX5_value_0 6 rfl rfl)
abbrev cX5_total : ByteArray := prog_5_method_5_code
def yX5_total : MethodName := ⟨RX5, "total", "()I"⟩
def dkwX5_total_0 : List UInt8 := [42, 3, 42, 180, 0, 13, 190, 4, 100, 182, 0, 26, 172]
abbrev dktX5_total_0 : List UInt8 := dkwX5_total_0 ++ []
theorem dksX5_total_0 : cX5_total.data.toList.drop 0 = dktX5_total_0 := by decide +kernel
theorem dX5_total_0 : decode cX5_total 0 = .ok (.aload_n 0, 1) := dk_42 (dk_at dksX5_total_0 0 rfl rfl)
theorem dX5_total_1 : decode cX5_total 1 = .ok (.iconst 0, 1) := dk_3 (dk_at dksX5_total_0 1 rfl rfl)
theorem dX5_total_2 : decode cX5_total 2 = .ok (.aload_n 0, 1) := dk_42 (dk_at dksX5_total_0 2 rfl rfl)
theorem dX5_total_3 : decode cX5_total 3 = .ok (.getfield 13, 3) := dk_180 0 13 (dk_at dksX5_total_0 3 rfl rfl)
theorem dX5_total_6 : decode cX5_total 6 = .ok (.arraylength, 1) := dk_190 (dk_at dksX5_total_0 6 rfl rfl)
theorem dX5_total_7 : decode cX5_total 7 = .ok (.iconst 1, 1) := dk_4 (dk_at dksX5_total_0 7 rfl rfl)
theorem dX5_total_8 : decode cX5_total 8 = .ok (.isub, 1) := dk_100 (dk_at dksX5_total_0 8 rfl rfl)
theorem dX5_total_9 : decode cX5_total 9 = .ok (.invokevirtual 26, 3) := dk_182 0 26 (dk_at dksX5_total_0 9 rfl rfl)
theorem dX5_total_12 : decode cX5_total 12 = .ok (.ireturn, 1) := dk_172 (dk_at dksX5_total_0 12 rfl rfl)
abbrev cX5_worth : ByteArray := prog_5_method_4_code
def yX5_worth : MethodName := ⟨RX5, "worth", "(II)I"⟩
def dkwX5_worth_1 : List UInt8 := [167, 255, 237, 29, 172]
abbrev dktX5_worth_1 : List UInt8 := dkwX5_worth_1 ++ []
def dkwX5_worth_0 : List UInt8 := [3, 62, 27, 54, 4, 21, 4, 28, 163, 0, 19, 29, 42, 180, 0, 13, 21, 4, 46, 96, 62, 132, 4, 1]
abbrev dktX5_worth_0 : List UInt8 := dkwX5_worth_0 ++ dktX5_worth_1
theorem dksX5_worth_0 : cX5_worth.data.toList.drop 0 = dktX5_worth_0 := by decide +kernel
theorem dksX5_worth_1 : cX5_worth.data.toList.drop 24 = dktX5_worth_1 := dk_seg dksX5_worth_0 24 rfl rfl
theorem dX5_worth_0 : decode cX5_worth 0 = .ok (.iconst 0, 1) := dk_3 (dk_at dksX5_worth_0 0 rfl rfl)
theorem dX5_worth_1 : decode cX5_worth 1 = .ok (.istore_n 3, 1) := dk_62 (dk_at dksX5_worth_0 1 rfl rfl)
theorem dX5_worth_2 : decode cX5_worth 2 = .ok (.iload_n 1, 1) := dk_27 (dk_at dksX5_worth_0 2 rfl rfl)
theorem dX5_worth_3 : decode cX5_worth 3 = .ok (.istore 4, 2) := dk_54 4 (dk_at dksX5_worth_0 3 rfl rfl)
theorem dX5_worth_5 : decode cX5_worth 5 = .ok (.iload 4, 2) := dk_21 4 (dk_at dksX5_worth_0 5 rfl rfl)
theorem dX5_worth_7 : decode cX5_worth 7 = .ok (.iload_n 2, 1) := dk_28 (dk_at dksX5_worth_0 7 rfl rfl)
theorem dX5_worth_8 : decode cX5_worth 8 = .ok (.if_icmp .gt 19, 3) := dk_163 0 19 (dk_at dksX5_worth_0 8 rfl rfl)
theorem dX5_worth_11 : decode cX5_worth 11 = .ok (.iload_n 3, 1) := dk_29 (dk_at dksX5_worth_0 11 rfl rfl)
theorem dX5_worth_12 : decode cX5_worth 12 = .ok (.aload_n 0, 1) := dk_42 (dk_at dksX5_worth_0 12 rfl rfl)
theorem dX5_worth_13 : decode cX5_worth 13 = .ok (.getfield 13, 3) := dk_180 0 13 (dk_at dksX5_worth_0 13 rfl rfl)
theorem dX5_worth_16 : decode cX5_worth 16 = .ok (.iload 4, 2) := dk_21 4 (dk_at dksX5_worth_0 16 rfl rfl)
theorem dX5_worth_18 : decode cX5_worth 18 = .ok (.iaload, 1) := dk_46 (dk_at dksX5_worth_0 18 rfl rfl)
theorem dX5_worth_19 : decode cX5_worth 19 = .ok (.iadd, 1) := dk_96 (dk_at dksX5_worth_0 19 rfl rfl)
theorem dX5_worth_20 : decode cX5_worth 20 = .ok (.istore_n 3, 1) := dk_62 (dk_at dksX5_worth_0 20 rfl rfl)
theorem dX5_worth_21 : decode cX5_worth 21 = .ok (.iinc 4 1, 3) := dk_132 4 1 (dk_at dksX5_worth_0 21 rfl rfl)
theorem dX5_worth_24 : decode cX5_worth 24 = .ok (.goto (-19), 3) := dk_167 255 237 (dk_at dksX5_worth_1 0 rfl rfl)
theorem dX5_worth_27 : decode cX5_worth 27 = .ok (.iload_n 3, 1) := dk_29 (dk_at dksX5_worth_1 3 rfl rfl)
theorem dX5_worth_28 : decode cX5_worth 28 = .ok (.ireturn, 1) := dk_172 (dk_at dksX5_worth_1 4 rfl rfl)
abbrev cX5_mark : ByteArray := prog_5_method_6_code
def yX5_mark : MethodName := ⟨RX5, "mark", "(II)I"⟩
def dkwX5_mark_1 : List UInt8 := [104, 29, 162, 0, 9, 132, 4, 1, 167, 255, 240, 21, 4, 172]
abbrev dktX5_mark_1 : List UInt8 := dkwX5_mark_1 ++ []
def dkwX5_mark_0 : List UInt8 := [42, 27, 42, 180, 0, 13, 190, 4, 100, 182, 0, 26, 62, 27, 54, 4, 42, 27, 21, 4, 182, 0, 26, 28]
abbrev dktX5_mark_0 : List UInt8 := dkwX5_mark_0 ++ dktX5_mark_1
theorem dksX5_mark_0 : cX5_mark.data.toList.drop 0 = dktX5_mark_0 := by decide +kernel
theorem dksX5_mark_1 : cX5_mark.data.toList.drop 24 = dktX5_mark_1 := dk_seg dksX5_mark_0 24 rfl rfl
theorem dX5_mark_0 : decode cX5_mark 0 = .ok (.aload_n 0, 1) := dk_42 (dk_at dksX5_mark_0 0 rfl rfl)
theorem dX5_mark_1 : decode cX5_mark 1 = .ok (.iload_n 1, 1) := dk_27 (dk_at dksX5_mark_0 1 rfl rfl)
theorem dX5_mark_2 : decode cX5_mark 2 = .ok (.aload_n 0, 1) := dk_42 (dk_at dksX5_mark_0 2 rfl rfl)
theorem dX5_mark_3 : decode cX5_mark 3 = .ok (.getfield 13, 3) := dk_180 0 13 (dk_at dksX5_mark_0 3 rfl rfl)
theorem dX5_mark_6 : decode cX5_mark 6 = .ok (.arraylength, 1) := dk_190 (dk_at dksX5_mark_0 6 rfl rfl)
theorem dX5_mark_7 : decode cX5_mark 7 = .ok (.iconst 1, 1) := dk_4 (dk_at dksX5_mark_0 7 rfl rfl)
theorem dX5_mark_8 : decode cX5_mark 8 = .ok (.isub, 1) := dk_100 (dk_at dksX5_mark_0 8 rfl rfl)
theorem dX5_mark_9 : decode cX5_mark 9 = .ok (.invokevirtual 26, 3) := dk_182 0 26 (dk_at dksX5_mark_0 9 rfl rfl)
theorem dX5_mark_12 : decode cX5_mark 12 = .ok (.istore_n 3, 1) := dk_62 (dk_at dksX5_mark_0 12 rfl rfl)
theorem dX5_mark_13 : decode cX5_mark 13 = .ok (.iload_n 1, 1) := dk_27 (dk_at dksX5_mark_0 13 rfl rfl)
theorem dX5_mark_14 : decode cX5_mark 14 = .ok (.istore 4, 2) := dk_54 4 (dk_at dksX5_mark_0 14 rfl rfl)
theorem dX5_mark_16 : decode cX5_mark 16 = .ok (.aload_n 0, 1) := dk_42 (dk_at dksX5_mark_0 16 rfl rfl)
theorem dX5_mark_17 : decode cX5_mark 17 = .ok (.iload_n 1, 1) := dk_27 (dk_at dksX5_mark_0 17 rfl rfl)
theorem dX5_mark_18 : decode cX5_mark 18 = .ok (.iload 4, 2) := dk_21 4 (dk_at dksX5_mark_0 18 rfl rfl)
theorem dX5_mark_20 : decode cX5_mark 20 = .ok (.invokevirtual 26, 3) := dk_182 0 26 (dk_at dksX5_mark_0 20 rfl rfl)
theorem dX5_mark_23 : decode cX5_mark 23 = .ok (.iload_n 2, 1) := dk_28 (dk_at dksX5_mark_0 23 rfl rfl)
theorem dX5_mark_24 : decode cX5_mark 24 = .ok (.imul, 1) := dk_104 (dk_at dksX5_mark_1 0 rfl rfl)
theorem dX5_mark_25 : decode cX5_mark 25 = .ok (.iload_n 3, 1) := dk_29 (dk_at dksX5_mark_1 1 rfl rfl)
theorem dX5_mark_26 : decode cX5_mark 26 = .ok (.if_icmp .ge 9, 3) := dk_162 0 9 (dk_at dksX5_mark_1 2 rfl rfl)
theorem dX5_mark_29 : decode cX5_mark 29 = .ok (.iinc 4 1, 3) := dk_132 4 1 (dk_at dksX5_mark_1 5 rfl rfl)
theorem dX5_mark_32 : decode cX5_mark 32 = .ok (.goto (-16), 3) := dk_167 255 240 (dk_at dksX5_mark_1 8 rfl rfl)
theorem dX5_mark_35 : decode cX5_mark 35 = .ok (.iload 4, 2) := dk_21 4 (dk_at dksX5_mark_1 11 rfl rfl)
theorem dX5_mark_37 : decode cX5_mark 37 = .ok (.ireturn, 1) := dk_172 (dk_at dksX5_mark_1 13 rfl rfl)
abbrev cX5_init_2 : ByteArray := prog_5_method_2_code
def yX5_init_2 : MethodName := ⟨RX5, "<init>", "(LCakeDivision$Sibling;II)V"⟩
def dkwX5_init_2_0 : List UInt8 := [42, 43, 180, 0, 7, 43, 180, 0, 13, 183, 0, 23, 42, 180, 0, 13, 28, 29, 79, 177]
abbrev dktX5_init_2_0 : List UInt8 := dkwX5_init_2_0 ++ []
theorem dksX5_init_2_0 : cX5_init_2.data.toList.drop 0 = dktX5_init_2_0 := by decide +kernel
theorem dX5_init_2_0 : decode cX5_init_2 0 = .ok (.aload_n 0, 1) := dk_42 (dk_at dksX5_init_2_0 0 rfl rfl)
theorem dX5_init_2_1 : decode cX5_init_2 1 = .ok (.aload_n 1, 1) := dk_43 (dk_at dksX5_init_2_0 1 rfl rfl)
theorem dX5_init_2_2 : decode cX5_init_2 2 = .ok (.getfield 7, 3) := dk_180 0 7 (dk_at dksX5_init_2_0 2 rfl rfl)
theorem dX5_init_2_5 : decode cX5_init_2 5 = .ok (.aload_n 1, 1) := dk_43 (dk_at dksX5_init_2_0 5 rfl rfl)
theorem dX5_init_2_6 : decode cX5_init_2 6 = .ok (.getfield 13, 3) := dk_180 0 13 (dk_at dksX5_init_2_0 6 rfl rfl)
theorem dX5_init_2_9 : decode cX5_init_2 9 = .ok (.invokespecial 23, 3) := dk_183 0 23 (dk_at dksX5_init_2_0 9 rfl rfl)
theorem dX5_init_2_12 : decode cX5_init_2 12 = .ok (.aload_n 0, 1) := dk_42 (dk_at dksX5_init_2_0 12 rfl rfl)
theorem dX5_init_2_13 : decode cX5_init_2 13 = .ok (.getfield 13, 3) := dk_180 0 13 (dk_at dksX5_init_2_0 13 rfl rfl)
theorem dX5_init_2_16 : decode cX5_init_2 16 = .ok (.iload_n 2, 1) := dk_28 (dk_at dksX5_init_2_0 16 rfl rfl)
theorem dX5_init_2_17 : decode cX5_init_2 17 = .ok (.iload_n 3, 1) := dk_29 (dk_at dksX5_init_2_0 17 rfl rfl)
theorem dX5_init_2_18 : decode cX5_init_2 18 = .ok (.iastore, 1) := dk_79 (dk_at dksX5_init_2_0 18 rfl rfl)
theorem dX5_init_2_19 : decode cX5_init_2 19 = .ok (.return_, 1) := dk_177 (dk_at dksX5_init_2_0 19 rfl rfl)
theorem q121 : (Jvm.Cond.initialized "CakeDivision$Sibling") ∈ lw_all := lw_g (lw_at lw_m1 26 rfl) rfl
theorem q683 : (Jvm.Cond.instanceMethod ({ cls := "CakeDivision$Sibling", name := "isNamed", desc := "([B)Z" } : Jvm.MethodName)) ∈ lw_all := lw_g (lw_at lw_m3 108 rfl) rfl
theorem q684 : (Jvm.Cond.selects "CakeDivision$Sibling" ({ cls := "CakeDivision$Sibling", name := "isNamed", desc := "([B)Z" } : Jvm.MethodName) ({ cls := "CakeDivision$Sibling", name := "isNamed", desc := "([B)Z" } : Jvm.MethodName)) ∈ lw_all := lw_g (lw_at lw_m3 109 rfl) rfl
theorem q685 : (Jvm.Cond.code ({ cls := "CakeDivision$Sibling", name := "isNamed", desc := "([B)Z" } : Jvm.MethodName) prog_5_method_7_code (4 : Nat) (Option.some Jvm.ClassFile.FieldType.boolean)) ∈ lw_all := lw_g (lw_at lw_m3 110 rfl) rfl
theorem q691 : (Jvm.Cond.instantiable "CakeDivision$Sibling" (2 : Nat)) ∈ lw_all := lw_g (lw_at lw_m3 116 rfl) rfl
theorem q693 : (Jvm.Cond.instanceMethod ({ cls := "CakeDivision$Sibling", name := "<init>", desc := "([B[I)V" } : Jvm.MethodName)) ∈ lw_all := lw_g (lw_at lw_m3 118 rfl) rfl
theorem q694 : (Jvm.Cond.code ({ cls := "CakeDivision$Sibling", name := "<init>", desc := "([B[I)V" } : Jvm.MethodName) prog_5_method_1_code (3 : Nat) (Option.none : Option Jvm.ClassFile.FieldType)) ∈ lw_all := lw_g (lw_at lw_m3 119 rfl) rfl
theorem q695 : (Jvm.Cond.methodLink "CakeDivision$Sibling" (1 : Nat) ({ cls := "java/lang/Object", name := "<init>", desc := "()V" } : Jvm.MethodName)) ∈ lw_all := lw_g (lw_at lw_m3 120 rfl) rfl
theorem q696 : (Jvm.Cond.methodLink "CakeDivision$Sibling" (17 : Nat) ({ cls := "java/lang/System", name := "arraycopy", desc := "(Ljava/lang/Object;ILjava/lang/Object;II)V" } : Jvm.MethodName)) ∈ lw_all := lw_g (lw_at lw_m3 121 rfl) rfl
theorem q697 : (Jvm.Cond.fieldLink "CakeDivision$Sibling" (7 : Nat) "CakeDivision$Sibling" "name" "[B") ∈ lw_all := lw_g (lw_at lw_m3 122 rfl) rfl
theorem q699 : (Jvm.Cond.fieldLink "CakeDivision$Sibling" (13 : Nat) "CakeDivision$Sibling" "values" "[I") ∈ lw_all := lw_g (lw_at lw_m3 124 rfl) rfl
theorem q700 : (Jvm.Cond.laysFinal "CakeDivision$Sibling" "CakeDivision$Sibling" "name" "[B") ∈ lw_all := lw_g (lw_at lw_m3 125 rfl) rfl
theorem q701 : (Jvm.Cond.soleField "CakeDivision$Sibling" "name") ∈ lw_all := lw_g (lw_at lw_m3 126 rfl) rfl
theorem q702 : (Jvm.Cond.laysFinal "CakeDivision$Sibling" "CakeDivision$Sibling" "values" "[I") ∈ lw_all := lw_g (lw_at lw_m3 127 rfl) rfl
theorem q703 : (Jvm.Cond.soleField "CakeDivision$Sibling" "values") ∈ lw_all := lw_g (lw_at lw_m3 128 rfl) rfl
theorem q704 : (Jvm.Cond.superclass "CakeDivision$Sibling" "java/lang/Object") ∈ lw_all := lw_g (lw_at lw_m3 129 rfl) rfl
theorem q734 : (Jvm.Cond.selects "CakeDivision$Sibling" ({ cls := "java/lang/Object", name := "getClass", desc := "()Ljava/lang/Class;" } : Jvm.MethodName) ({ cls := "java/lang/Object", name := "getClass", desc := "()Ljava/lang/Class;" } : Jvm.MethodName)) ∈ lw_all := lw_g (lw_at lw_m3 159 rfl) rfl
theorem q830 : (Jvm.Cond.instanceMethod ({ cls := "CakeDivision$Sibling", name := "value", desc := "(I)I" } : Jvm.MethodName)) ∈ lw_all := lw_g (lw_at lw_m4 15 rfl) rfl
theorem q831 : (Jvm.Cond.selects "CakeDivision$Sibling" ({ cls := "CakeDivision$Sibling", name := "value", desc := "(I)I" } : Jvm.MethodName) ({ cls := "CakeDivision$Sibling", name := "value", desc := "(I)I" } : Jvm.MethodName)) ∈ lw_all := lw_g (lw_at lw_m4 16 rfl) rfl
theorem q832 : (Jvm.Cond.code ({ cls := "CakeDivision$Sibling", name := "value", desc := "(I)I" } : Jvm.MethodName) prog_5_method_3_code (2 : Nat) (Option.some Jvm.ClassFile.FieldType.int)) ∈ lw_all := lw_g (lw_at lw_m4 17 rfl) rfl
theorem q867 : (Jvm.Cond.instanceMethod ({ cls := "CakeDivision$Sibling", name := "total", desc := "()I" } : Jvm.MethodName)) ∈ lw_all := lw_g (lw_at lw_m4 52 rfl) rfl
theorem q868 : (Jvm.Cond.selects "CakeDivision$Sibling" ({ cls := "CakeDivision$Sibling", name := "total", desc := "()I" } : Jvm.MethodName) ({ cls := "CakeDivision$Sibling", name := "total", desc := "()I" } : Jvm.MethodName)) ∈ lw_all := lw_g (lw_at lw_m4 53 rfl) rfl
theorem q869 : (Jvm.Cond.code ({ cls := "CakeDivision$Sibling", name := "total", desc := "()I" } : Jvm.MethodName) prog_5_method_5_code (1 : Nat) (Option.some Jvm.ClassFile.FieldType.int)) ∈ lw_all := lw_g (lw_at lw_m4 54 rfl) rfl
theorem q870 : (Jvm.Cond.methodLink "CakeDivision$Sibling" (26 : Nat) ({ cls := "CakeDivision$Sibling", name := "worth", desc := "(II)I" } : Jvm.MethodName)) ∈ lw_all := lw_g (lw_at lw_m4 55 rfl) rfl
theorem q871 : (Jvm.Cond.instanceMethod ({ cls := "CakeDivision$Sibling", name := "worth", desc := "(II)I" } : Jvm.MethodName)) ∈ lw_all := lw_g (lw_at lw_m4 56 rfl) rfl
theorem q872 : (Jvm.Cond.selects "CakeDivision$Sibling" ({ cls := "CakeDivision$Sibling", name := "worth", desc := "(II)I" } : Jvm.MethodName) ({ cls := "CakeDivision$Sibling", name := "worth", desc := "(II)I" } : Jvm.MethodName)) ∈ lw_all := lw_g (lw_at lw_m4 57 rfl) rfl
theorem q873 : (Jvm.Cond.code ({ cls := "CakeDivision$Sibling", name := "worth", desc := "(II)I" } : Jvm.MethodName) prog_5_method_4_code (5 : Nat) (Option.some Jvm.ClassFile.FieldType.int)) ∈ lw_all := lw_g (lw_at lw_m4 58 rfl) rfl
theorem q1005 : (Jvm.Cond.instanceMethod ({ cls := "CakeDivision$Sibling", name := "mark", desc := "(II)I" } : Jvm.MethodName)) ∈ lw_all := lw_g (lw_at lw_m4 190 rfl) rfl
theorem q1006 : (Jvm.Cond.selects "CakeDivision$Sibling" ({ cls := "CakeDivision$Sibling", name := "mark", desc := "(II)I" } : Jvm.MethodName) ({ cls := "CakeDivision$Sibling", name := "mark", desc := "(II)I" } : Jvm.MethodName)) ∈ lw_all := lw_g (lw_at lw_m4 191 rfl) rfl
theorem q1007 : (Jvm.Cond.code ({ cls := "CakeDivision$Sibling", name := "mark", desc := "(II)I" } : Jvm.MethodName) prog_5_method_6_code (5 : Nat) (Option.some Jvm.ClassFile.FieldType.int)) ∈ lw_all := lw_g (lw_at lw_m4 192 rfl) rfl
theorem q1453 : (Jvm.Cond.instanceMethod ({ cls := "CakeDivision$Sibling", name := "<init>", desc := "(LCakeDivision$Sibling;II)V" } : Jvm.MethodName)) ∈ lw_all := lw_g (lw_at lw_m6 158 rfl) rfl
theorem q1454 : (Jvm.Cond.code ({ cls := "CakeDivision$Sibling", name := "<init>", desc := "(LCakeDivision$Sibling;II)V" } : Jvm.MethodName) prog_5_method_2_code (4 : Nat) (Option.none : Option Jvm.ClassFile.FieldType)) ∈ lw_all := lw_g (lw_at lw_m6 159 rfl) rfl
theorem q1455 : (Jvm.Cond.methodLink "CakeDivision$Sibling" (23 : Nat) ({ cls := "CakeDivision$Sibling", name := "<init>", desc := "([B[I)V" } : Jvm.MethodName)) ∈ lw_all := lw_g (lw_at lw_m6 160 rfl) rfl
theorem q2174 : (Jvm.Cond.castable "CakeDivision$Sibling" "java/lang/Object") ∈ lw_tbl := lw_at lw_m9 159 rfl
theorem in_X5 : ∀ w ∈ wsX50, w ∈ lw_all := lw_in wsX50 [700, 702] (by decide +kernel) (by decide +kernel)
/-! CakeDivision$Scanner -/
set_option maxRecDepth 100000
def RX3 : String := "CakeDivision$Scanner"
def TX3 : u_T := fun k => match k with
  | 0 => ("CakeDivision$Scanner", "kind", "I", false)
  | 1 => ("CakeDivision$Scanner", "start", "I", false)
  | 2 => ("CakeDivision$Scanner", "end", "I", false)
  | 3 => ("CakeDivision$Scanner", "value", "I", false)
  | _ => ("CakeDivision$Scanner", "this$0", "LCakeDivision;", true)
def tyX3 : Nat → FieldType := fun k => match k with
  | 0 => .int
  | 1 => .int
  | 2 => .int
  | 3 => .int
  | _ => .object "CakeDivision"
abbrev wsX30 : List Cond := u_ws RX3 TX3 5
theorem nmX3 : ∀ a, a < 5 → ∀ b, b < 5 → a ≠ b → (TX3 a).2.1 ≠ (TX3 b).2.1 := by decide +kernel
theorem tyX3_ok : ∀ k, k < 5 → parseFieldDescriptor (TX3 k).2.2.1 = some (tyX3 k) := by decide +kernel
abbrev cX3_init : ByteArray := prog_4_method_1_code
def yX3_init : MethodName := ⟨RX3, "<init>", "(LCakeDivision;)V"⟩
def dkwX3_init_0 : List UInt8 := [42, 43, 181, 0, 3, 42, 183, 0, 9, 42, 182, 0, 15, 177]
abbrev dktX3_init_0 : List UInt8 := dkwX3_init_0 ++ []
theorem dksX3_init_0 : cX3_init.data.toList.drop 0 = dktX3_init_0 := by decide +kernel
theorem dX3_init_0 : decode cX3_init 0 = .ok (.aload_n 0, 1) := dk_42 (dk_at dksX3_init_0 0 rfl rfl)
theorem dX3_init_1 : decode cX3_init 1 = .ok (.aload_n 1, 1) := dk_43 (dk_at dksX3_init_0 1 rfl rfl)
theorem dX3_init_2 : decode cX3_init 2 = .ok (.putfield 3, 3) := dk_181 0 3 (dk_at dksX3_init_0 2 rfl rfl)
theorem dX3_init_5 : decode cX3_init 5 = .ok (.aload_n 0, 1) := dk_42 (dk_at dksX3_init_0 5 rfl rfl)
theorem dX3_init_6 : decode cX3_init 6 = .ok (.invokespecial 9, 3) := dk_183 0 9 (dk_at dksX3_init_0 6 rfl rfl)
theorem dX3_init_9 : decode cX3_init 9 = .ok (.aload_n 0, 1) := dk_42 (dk_at dksX3_init_0 9 rfl rfl)
theorem dX3_init_10 : decode cX3_init 10 = .ok (.invokevirtual 15, 3) := dk_182 0 15 (dk_at dksX3_init_0 10 rfl rfl)
theorem dX3_init_13 : decode cX3_init 13 = .ok (.return_, 1) := dk_177 (dk_at dksX3_init_0 13 rfl rfl)
abbrev cX3_advance : ByteArray := prog_4_method_2_code
def yX3_advance : MethodName := ⟨RX3, "advance", "()V"⟩
def dkwX3_advance_14 : List UInt8 := [5, 181, 0, 32, 177, 42, 42, 180, 0, 22, 4, 96, 181, 0, 18, 42, 6, 181, 0, 32, 177]
abbrev dktX3_advance_14 : List UInt8 := dkwX3_advance_14 ++ []
def dkwX3_advance_13 : List UInt8 := [180, 0, 22, 164, 0, 26, 42, 42, 180, 0, 18, 42, 180, 0, 22, 100, 5, 164, 0, 7, 7, 167, 0, 4]
abbrev dktX3_advance_13 : List UInt8 := dkwX3_advance_13 ++ dktX3_advance_14
def dkwX3_advance_12 : List UInt8 := [16, 48, 100, 181, 0, 35, 42, 89, 180, 0, 18, 4, 96, 181, 0, 18, 167, 255, 158, 42, 180, 0, 18, 42]
abbrev dktX3_advance_12 : List UInt8 := dkwX3_advance_12 ++ dktX3_advance_13
def dkwX3_advance_11 : List UInt8 := [162, 0, 30, 42, 16, 10, 42, 180, 0, 35, 104, 42, 180, 0, 3, 180, 0, 28, 42, 180, 0, 18, 51, 96]
abbrev dktX3_advance_11 : List UInt8 := dkwX3_advance_11 ++ dktX3_advance_12
def dkwX3_advance_10 : List UInt8 := [180, 0, 28, 42, 180, 0, 18, 51, 16, 57, 163, 0, 56, 42, 180, 0, 18, 42, 180, 0, 22, 100, 5]
abbrev dktX3_advance_10 : List UInt8 := dkwX3_advance_10 ++ dktX3_advance_11
def dkwX3_advance_9 : List UInt8 := [162, 0, 90, 42, 180, 0, 3, 180, 0, 28, 42, 180, 0, 18, 51, 16, 48, 161, 0, 73, 42, 180, 0, 3]
abbrev dktX3_advance_9 : List UInt8 := dkwX3_advance_9 ++ dktX3_advance_10
def dkwX3_advance_8 : List UInt8 := [167, 0, 4, 4, 181, 0, 32, 177, 42, 3, 181, 0, 35, 42, 180, 0, 18, 42, 180, 0, 3, 180, 0, 25]
abbrev dktX3_advance_8 : List UInt8 := dkwX3_advance_8 ++ dktX3_advance_9
def dkwX3_advance_7 : List UInt8 := [180, 0, 22, 164, 0, 27, 42, 42, 180, 0, 18, 42, 180, 0, 22, 100, 16, 8, 164, 0, 7, 7]
abbrev dktX3_advance_7 : List UInt8 := dkwX3_advance_7 ++ dktX3_advance_8
def dkwX3_advance_6 : List UInt8 := [51, 16, 122, 163, 0, 16, 42, 89, 180, 0, 18, 4, 96, 181, 0, 18, 167, 255, 198, 42, 180, 0, 18, 42]
abbrev dktX3_advance_6 : List UInt8 := dkwX3_advance_6 ++ dktX3_advance_7
def dkwX3_advance_5 : List UInt8 := [180, 0, 28, 42, 180, 0, 18, 51, 16, 97, 161, 0, 33, 42, 180, 0, 3, 180, 0, 28, 42, 180, 0, 18]
abbrev dktX3_advance_5 : List UInt8 := dkwX3_advance_5 ++ dktX3_advance_6
def dkwX3_advance_4 : List UInt8 := [181, 0, 32, 177, 42, 180, 0, 18, 42, 180, 0, 3, 180, 0, 25, 162, 0, 50, 42, 180, 0, 3]
abbrev dktX3_advance_4 : List UInt8 := dkwX3_advance_4 ++ dktX3_advance_5
def dkwX3_advance_3 : List UInt8 := [180, 0, 22, 181, 0, 18, 42, 180, 0, 22, 42, 180, 0, 3, 180, 0, 25, 160, 0, 9, 42, 3]
abbrev dktX3_advance_3 : List UInt8 := dkwX3_advance_3 ++ dktX3_advance_4
def dkwX3_advance_2 : List UInt8 := [180, 0, 22, 51, 16, 10, 160, 0, 16, 42, 89, 180, 0, 22, 4, 96, 181, 0, 22, 167, 255, 198, 42, 42]
abbrev dktX3_advance_2 : List UInt8 := dkwX3_advance_2 ++ dktX3_advance_3
def dkwX3_advance_1 : List UInt8 := [180, 0, 3, 180, 0, 28, 42, 180, 0, 22, 51, 16, 32, 159, 0, 20, 42, 180, 0, 3, 180, 0, 28, 42]
abbrev dktX3_advance_1 : List UInt8 := dkwX3_advance_1 ++ dktX3_advance_2
def dkwX3_advance_0 : List UInt8 := [42, 42, 180, 0, 18, 181, 0, 22, 42, 180, 0, 22, 42, 180, 0, 3, 180, 0, 25, 162, 0, 50, 42]
abbrev dktX3_advance_0 : List UInt8 := dkwX3_advance_0 ++ dktX3_advance_1
theorem dksX3_advance_0 : cX3_advance.data.toList.drop 0 = dktX3_advance_0 := by decide +kernel
theorem dksX3_advance_1 : cX3_advance.data.toList.drop 23 = dktX3_advance_1 := dk_seg dksX3_advance_0 23 rfl rfl
theorem dksX3_advance_2 : cX3_advance.data.toList.drop 47 = dktX3_advance_2 := dk_seg dksX3_advance_1 24 rfl rfl
theorem dksX3_advance_3 : cX3_advance.data.toList.drop 71 = dktX3_advance_3 := dk_seg dksX3_advance_2 24 rfl rfl
theorem dksX3_advance_4 : cX3_advance.data.toList.drop 93 = dktX3_advance_4 := dk_seg dksX3_advance_3 22 rfl rfl
theorem dksX3_advance_5 : cX3_advance.data.toList.drop 115 = dktX3_advance_5 := dk_seg dksX3_advance_4 22 rfl rfl
theorem dksX3_advance_6 : cX3_advance.data.toList.drop 139 = dktX3_advance_6 := dk_seg dksX3_advance_5 24 rfl rfl
theorem dksX3_advance_7 : cX3_advance.data.toList.drop 163 = dktX3_advance_7 := dk_seg dksX3_advance_6 24 rfl rfl
theorem dksX3_advance_8 : cX3_advance.data.toList.drop 185 = dktX3_advance_8 := dk_seg dksX3_advance_7 22 rfl rfl
theorem dksX3_advance_9 : cX3_advance.data.toList.drop 209 = dktX3_advance_9 := dk_seg dksX3_advance_8 24 rfl rfl
theorem dksX3_advance_10 : cX3_advance.data.toList.drop 233 = dktX3_advance_10 := dk_seg dksX3_advance_9 24 rfl rfl
theorem dksX3_advance_11 : cX3_advance.data.toList.drop 256 = dktX3_advance_11 := dk_seg dksX3_advance_10 23 rfl rfl
theorem dksX3_advance_12 : cX3_advance.data.toList.drop 280 = dktX3_advance_12 := dk_seg dksX3_advance_11 24 rfl rfl
theorem dksX3_advance_13 : cX3_advance.data.toList.drop 304 = dktX3_advance_13 := dk_seg dksX3_advance_12 24 rfl rfl
theorem dksX3_advance_14 : cX3_advance.data.toList.drop 328 = dktX3_advance_14 := dk_seg dksX3_advance_13 24 rfl rfl
theorem dX3_advance_0 : decode cX3_advance 0 = .ok (.aload_n 0, 1) := dk_42 (dk_at dksX3_advance_0 0 rfl rfl)
theorem dX3_advance_1 : decode cX3_advance 1 = .ok (.aload_n 0, 1) := dk_42 (dk_at dksX3_advance_0 1 rfl rfl)
theorem dX3_advance_2 : decode cX3_advance 2 = .ok (.getfield 18, 3) := dk_180 0 18 (dk_at dksX3_advance_0 2 rfl rfl)
theorem dX3_advance_5 : decode cX3_advance 5 = .ok (.putfield 22, 3) := dk_181 0 22 (dk_at dksX3_advance_0 5 rfl rfl)
theorem dX3_advance_8 : decode cX3_advance 8 = .ok (.aload_n 0, 1) := dk_42 (dk_at dksX3_advance_0 8 rfl rfl)
theorem dX3_advance_9 : decode cX3_advance 9 = .ok (.getfield 22, 3) := dk_180 0 22 (dk_at dksX3_advance_0 9 rfl rfl)
theorem dX3_advance_12 : decode cX3_advance 12 = .ok (.aload_n 0, 1) := dk_42 (dk_at dksX3_advance_0 12 rfl rfl)
theorem dX3_advance_13 : decode cX3_advance 13 = .ok (.getfield 3, 3) := dk_180 0 3 (dk_at dksX3_advance_0 13 rfl rfl)
theorem dX3_advance_16 : decode cX3_advance 16 = .ok (.getfield 25, 3) := dk_180 0 25 (dk_at dksX3_advance_0 16 rfl rfl)
theorem dX3_advance_19 : decode cX3_advance 19 = .ok (.if_icmp .ge 50, 3) := dk_162 0 50 (dk_at dksX3_advance_0 19 rfl rfl)
theorem dX3_advance_22 : decode cX3_advance 22 = .ok (.aload_n 0, 1) := dk_42 (dk_at dksX3_advance_0 22 rfl rfl)
theorem dX3_advance_23 : decode cX3_advance 23 = .ok (.getfield 3, 3) := dk_180 0 3 (dk_at dksX3_advance_1 0 rfl rfl)
theorem dX3_advance_26 : decode cX3_advance 26 = .ok (.getfield 28, 3) := dk_180 0 28 (dk_at dksX3_advance_1 3 rfl rfl)
theorem dX3_advance_29 : decode cX3_advance 29 = .ok (.aload_n 0, 1) := dk_42 (dk_at dksX3_advance_1 6 rfl rfl)
theorem dX3_advance_30 : decode cX3_advance 30 = .ok (.getfield 22, 3) := dk_180 0 22 (dk_at dksX3_advance_1 7 rfl rfl)
theorem dX3_advance_33 : decode cX3_advance 33 = .ok (.baload, 1) := dk_51 (dk_at dksX3_advance_1 10 rfl rfl)
theorem dX3_advance_34 : decode cX3_advance 34 = .ok (.bipush 32, 2) := dk_16 32 (dk_at dksX3_advance_1 11 rfl rfl)
theorem dX3_advance_36 : decode cX3_advance 36 = .ok (.if_icmp .eq 20, 3) := dk_159 0 20 (dk_at dksX3_advance_1 13 rfl rfl)
theorem dX3_advance_39 : decode cX3_advance 39 = .ok (.aload_n 0, 1) := dk_42 (dk_at dksX3_advance_1 16 rfl rfl)
theorem dX3_advance_40 : decode cX3_advance 40 = .ok (.getfield 3, 3) := dk_180 0 3 (dk_at dksX3_advance_1 17 rfl rfl)
theorem dX3_advance_43 : decode cX3_advance 43 = .ok (.getfield 28, 3) := dk_180 0 28 (dk_at dksX3_advance_1 20 rfl rfl)
theorem dX3_advance_46 : decode cX3_advance 46 = .ok (.aload_n 0, 1) := dk_42 (dk_at dksX3_advance_1 23 rfl rfl)
theorem dX3_advance_47 : decode cX3_advance 47 = .ok (.getfield 22, 3) := dk_180 0 22 (dk_at dksX3_advance_2 0 rfl rfl)
theorem dX3_advance_50 : decode cX3_advance 50 = .ok (.baload, 1) := dk_51 (dk_at dksX3_advance_2 3 rfl rfl)
theorem dX3_advance_51 : decode cX3_advance 51 = .ok (.bipush 10, 2) := dk_16 10 (dk_at dksX3_advance_2 4 rfl rfl)
theorem dX3_advance_53 : decode cX3_advance 53 = .ok (.if_icmp .ne 16, 3) := dk_160 0 16 (dk_at dksX3_advance_2 6 rfl rfl)
theorem dX3_advance_56 : decode cX3_advance 56 = .ok (.aload_n 0, 1) := dk_42 (dk_at dksX3_advance_2 9 rfl rfl)
theorem dX3_advance_57 : decode cX3_advance 57 = .ok (.dup, 1) := dk_89 (dk_at dksX3_advance_2 10 rfl rfl)
theorem dX3_advance_58 : decode cX3_advance 58 = .ok (.getfield 22, 3) := dk_180 0 22 (dk_at dksX3_advance_2 11 rfl rfl)
theorem dX3_advance_61 : decode cX3_advance 61 = .ok (.iconst 1, 1) := dk_4 (dk_at dksX3_advance_2 14 rfl rfl)
theorem dX3_advance_62 : decode cX3_advance 62 = .ok (.iadd, 1) := dk_96 (dk_at dksX3_advance_2 15 rfl rfl)
theorem dX3_advance_63 : decode cX3_advance 63 = .ok (.putfield 22, 3) := dk_181 0 22 (dk_at dksX3_advance_2 16 rfl rfl)
theorem dX3_advance_66 : decode cX3_advance 66 = .ok (.goto (-58), 3) := dk_167 255 198 (dk_at dksX3_advance_2 19 rfl rfl)
theorem dX3_advance_69 : decode cX3_advance 69 = .ok (.aload_n 0, 1) := dk_42 (dk_at dksX3_advance_2 22 rfl rfl)
theorem dX3_advance_70 : decode cX3_advance 70 = .ok (.aload_n 0, 1) := dk_42 (dk_at dksX3_advance_2 23 rfl rfl)
theorem dX3_advance_71 : decode cX3_advance 71 = .ok (.getfield 22, 3) := dk_180 0 22 (dk_at dksX3_advance_3 0 rfl rfl)
theorem dX3_advance_74 : decode cX3_advance 74 = .ok (.putfield 18, 3) := dk_181 0 18 (dk_at dksX3_advance_3 3 rfl rfl)
theorem dX3_advance_77 : decode cX3_advance 77 = .ok (.aload_n 0, 1) := dk_42 (dk_at dksX3_advance_3 6 rfl rfl)
theorem dX3_advance_78 : decode cX3_advance 78 = .ok (.getfield 22, 3) := dk_180 0 22 (dk_at dksX3_advance_3 7 rfl rfl)
theorem dX3_advance_81 : decode cX3_advance 81 = .ok (.aload_n 0, 1) := dk_42 (dk_at dksX3_advance_3 10 rfl rfl)
theorem dX3_advance_82 : decode cX3_advance 82 = .ok (.getfield 3, 3) := dk_180 0 3 (dk_at dksX3_advance_3 11 rfl rfl)
theorem dX3_advance_85 : decode cX3_advance 85 = .ok (.getfield 25, 3) := dk_180 0 25 (dk_at dksX3_advance_3 14 rfl rfl)
theorem dX3_advance_88 : decode cX3_advance 88 = .ok (.if_icmp .ne 9, 3) := dk_160 0 9 (dk_at dksX3_advance_3 17 rfl rfl)
theorem dX3_advance_91 : decode cX3_advance 91 = .ok (.aload_n 0, 1) := dk_42 (dk_at dksX3_advance_3 20 rfl rfl)
theorem dX3_advance_92 : decode cX3_advance 92 = .ok (.iconst 0, 1) := dk_3 (dk_at dksX3_advance_3 21 rfl rfl)
theorem dX3_advance_93 : decode cX3_advance 93 = .ok (.putfield 32, 3) := dk_181 0 32 (dk_at dksX3_advance_4 0 rfl rfl)
theorem dX3_advance_96 : decode cX3_advance 96 = .ok (.return_, 1) := dk_177 (dk_at dksX3_advance_4 3 rfl rfl)
theorem dX3_advance_97 : decode cX3_advance 97 = .ok (.aload_n 0, 1) := dk_42 (dk_at dksX3_advance_4 4 rfl rfl)
theorem dX3_advance_98 : decode cX3_advance 98 = .ok (.getfield 18, 3) := dk_180 0 18 (dk_at dksX3_advance_4 5 rfl rfl)
theorem dX3_advance_101 : decode cX3_advance 101 = .ok (.aload_n 0, 1) := dk_42 (dk_at dksX3_advance_4 8 rfl rfl)
theorem dX3_advance_102 : decode cX3_advance 102 = .ok (.getfield 3, 3) := dk_180 0 3 (dk_at dksX3_advance_4 9 rfl rfl)
theorem dX3_advance_105 : decode cX3_advance 105 = .ok (.getfield 25, 3) := dk_180 0 25 (dk_at dksX3_advance_4 12 rfl rfl)
theorem dX3_advance_108 : decode cX3_advance 108 = .ok (.if_icmp .ge 50, 3) := dk_162 0 50 (dk_at dksX3_advance_4 15 rfl rfl)
theorem dX3_advance_111 : decode cX3_advance 111 = .ok (.aload_n 0, 1) := dk_42 (dk_at dksX3_advance_4 18 rfl rfl)
theorem dX3_advance_112 : decode cX3_advance 112 = .ok (.getfield 3, 3) := dk_180 0 3 (dk_at dksX3_advance_4 19 rfl rfl)
theorem dX3_advance_115 : decode cX3_advance 115 = .ok (.getfield 28, 3) := dk_180 0 28 (dk_at dksX3_advance_5 0 rfl rfl)
theorem dX3_advance_118 : decode cX3_advance 118 = .ok (.aload_n 0, 1) := dk_42 (dk_at dksX3_advance_5 3 rfl rfl)
theorem dX3_advance_119 : decode cX3_advance 119 = .ok (.getfield 18, 3) := dk_180 0 18 (dk_at dksX3_advance_5 4 rfl rfl)
theorem dX3_advance_122 : decode cX3_advance 122 = .ok (.baload, 1) := dk_51 (dk_at dksX3_advance_5 7 rfl rfl)
theorem dX3_advance_123 : decode cX3_advance 123 = .ok (.bipush 97, 2) := dk_16 97 (dk_at dksX3_advance_5 8 rfl rfl)
theorem dX3_advance_125 : decode cX3_advance 125 = .ok (.if_icmp .lt 33, 3) := dk_161 0 33 (dk_at dksX3_advance_5 10 rfl rfl)
theorem dX3_advance_128 : decode cX3_advance 128 = .ok (.aload_n 0, 1) := dk_42 (dk_at dksX3_advance_5 13 rfl rfl)
theorem dX3_advance_129 : decode cX3_advance 129 = .ok (.getfield 3, 3) := dk_180 0 3 (dk_at dksX3_advance_5 14 rfl rfl)
theorem dX3_advance_132 : decode cX3_advance 132 = .ok (.getfield 28, 3) := dk_180 0 28 (dk_at dksX3_advance_5 17 rfl rfl)
theorem dX3_advance_135 : decode cX3_advance 135 = .ok (.aload_n 0, 1) := dk_42 (dk_at dksX3_advance_5 20 rfl rfl)
theorem dX3_advance_136 : decode cX3_advance 136 = .ok (.getfield 18, 3) := dk_180 0 18 (dk_at dksX3_advance_5 21 rfl rfl)
theorem dX3_advance_139 : decode cX3_advance 139 = .ok (.baload, 1) := dk_51 (dk_at dksX3_advance_6 0 rfl rfl)
theorem dX3_advance_140 : decode cX3_advance 140 = .ok (.bipush 122, 2) := dk_16 122 (dk_at dksX3_advance_6 1 rfl rfl)
theorem dX3_advance_142 : decode cX3_advance 142 = .ok (.if_icmp .gt 16, 3) := dk_163 0 16 (dk_at dksX3_advance_6 3 rfl rfl)
theorem dX3_advance_145 : decode cX3_advance 145 = .ok (.aload_n 0, 1) := dk_42 (dk_at dksX3_advance_6 6 rfl rfl)
theorem dX3_advance_146 : decode cX3_advance 146 = .ok (.dup, 1) := dk_89 (dk_at dksX3_advance_6 7 rfl rfl)
theorem dX3_advance_147 : decode cX3_advance 147 = .ok (.getfield 18, 3) := dk_180 0 18 (dk_at dksX3_advance_6 8 rfl rfl)
theorem dX3_advance_150 : decode cX3_advance 150 = .ok (.iconst 1, 1) := dk_4 (dk_at dksX3_advance_6 11 rfl rfl)
theorem dX3_advance_151 : decode cX3_advance 151 = .ok (.iadd, 1) := dk_96 (dk_at dksX3_advance_6 12 rfl rfl)
theorem dX3_advance_152 : decode cX3_advance 152 = .ok (.putfield 18, 3) := dk_181 0 18 (dk_at dksX3_advance_6 13 rfl rfl)
theorem dX3_advance_155 : decode cX3_advance 155 = .ok (.goto (-58), 3) := dk_167 255 198 (dk_at dksX3_advance_6 16 rfl rfl)
theorem dX3_advance_158 : decode cX3_advance 158 = .ok (.aload_n 0, 1) := dk_42 (dk_at dksX3_advance_6 19 rfl rfl)
theorem dX3_advance_159 : decode cX3_advance 159 = .ok (.getfield 18, 3) := dk_180 0 18 (dk_at dksX3_advance_6 20 rfl rfl)
theorem dX3_advance_162 : decode cX3_advance 162 = .ok (.aload_n 0, 1) := dk_42 (dk_at dksX3_advance_6 23 rfl rfl)
theorem dX3_advance_163 : decode cX3_advance 163 = .ok (.getfield 22, 3) := dk_180 0 22 (dk_at dksX3_advance_7 0 rfl rfl)
theorem dX3_advance_166 : decode cX3_advance 166 = .ok (.if_icmp .le 27, 3) := dk_164 0 27 (dk_at dksX3_advance_7 3 rfl rfl)
theorem dX3_advance_169 : decode cX3_advance 169 = .ok (.aload_n 0, 1) := dk_42 (dk_at dksX3_advance_7 6 rfl rfl)
theorem dX3_advance_170 : decode cX3_advance 170 = .ok (.aload_n 0, 1) := dk_42 (dk_at dksX3_advance_7 7 rfl rfl)
theorem dX3_advance_171 : decode cX3_advance 171 = .ok (.getfield 18, 3) := dk_180 0 18 (dk_at dksX3_advance_7 8 rfl rfl)
theorem dX3_advance_174 : decode cX3_advance 174 = .ok (.aload_n 0, 1) := dk_42 (dk_at dksX3_advance_7 11 rfl rfl)
theorem dX3_advance_175 : decode cX3_advance 175 = .ok (.getfield 22, 3) := dk_180 0 22 (dk_at dksX3_advance_7 12 rfl rfl)
theorem dX3_advance_178 : decode cX3_advance 178 = .ok (.isub, 1) := dk_100 (dk_at dksX3_advance_7 15 rfl rfl)
theorem dX3_advance_179 : decode cX3_advance 179 = .ok (.bipush 8, 2) := dk_16 8 (dk_at dksX3_advance_7 16 rfl rfl)
theorem dX3_advance_181 : decode cX3_advance 181 = .ok (.if_icmp .le 7, 3) := dk_164 0 7 (dk_at dksX3_advance_7 18 rfl rfl)
theorem dX3_advance_184 : decode cX3_advance 184 = .ok (.iconst 4, 1) := dk_7 (dk_at dksX3_advance_7 21 rfl rfl)
theorem dX3_advance_185 : decode cX3_advance 185 = .ok (.goto 4, 3) := dk_167 0 4 (dk_at dksX3_advance_8 0 rfl rfl)
theorem dX3_advance_188 : decode cX3_advance 188 = .ok (.iconst 1, 1) := dk_4 (dk_at dksX3_advance_8 3 rfl rfl)
theorem dX3_advance_189 : decode cX3_advance 189 = .ok (.putfield 32, 3) := dk_181 0 32 (dk_at dksX3_advance_8 4 rfl rfl)
theorem dX3_advance_192 : decode cX3_advance 192 = .ok (.return_, 1) := dk_177 (dk_at dksX3_advance_8 7 rfl rfl)
theorem dX3_advance_193 : decode cX3_advance 193 = .ok (.aload_n 0, 1) := dk_42 (dk_at dksX3_advance_8 8 rfl rfl)
theorem dX3_advance_194 : decode cX3_advance 194 = .ok (.iconst 0, 1) := dk_3 (dk_at dksX3_advance_8 9 rfl rfl)
theorem dX3_advance_195 : decode cX3_advance 195 = .ok (.putfield 35, 3) := dk_181 0 35 (dk_at dksX3_advance_8 10 rfl rfl)
theorem dX3_advance_198 : decode cX3_advance 198 = .ok (.aload_n 0, 1) := dk_42 (dk_at dksX3_advance_8 13 rfl rfl)
theorem dX3_advance_199 : decode cX3_advance 199 = .ok (.getfield 18, 3) := dk_180 0 18 (dk_at dksX3_advance_8 14 rfl rfl)
theorem dX3_advance_202 : decode cX3_advance 202 = .ok (.aload_n 0, 1) := dk_42 (dk_at dksX3_advance_8 17 rfl rfl)
theorem dX3_advance_203 : decode cX3_advance 203 = .ok (.getfield 3, 3) := dk_180 0 3 (dk_at dksX3_advance_8 18 rfl rfl)
theorem dX3_advance_206 : decode cX3_advance 206 = .ok (.getfield 25, 3) := dk_180 0 25 (dk_at dksX3_advance_8 21 rfl rfl)
theorem dX3_advance_209 : decode cX3_advance 209 = .ok (.if_icmp .ge 90, 3) := dk_162 0 90 (dk_at dksX3_advance_9 0 rfl rfl)
theorem dX3_advance_212 : decode cX3_advance 212 = .ok (.aload_n 0, 1) := dk_42 (dk_at dksX3_advance_9 3 rfl rfl)
theorem dX3_advance_213 : decode cX3_advance 213 = .ok (.getfield 3, 3) := dk_180 0 3 (dk_at dksX3_advance_9 4 rfl rfl)
theorem dX3_advance_216 : decode cX3_advance 216 = .ok (.getfield 28, 3) := dk_180 0 28 (dk_at dksX3_advance_9 7 rfl rfl)
theorem dX3_advance_219 : decode cX3_advance 219 = .ok (.aload_n 0, 1) := dk_42 (dk_at dksX3_advance_9 10 rfl rfl)
theorem dX3_advance_220 : decode cX3_advance 220 = .ok (.getfield 18, 3) := dk_180 0 18 (dk_at dksX3_advance_9 11 rfl rfl)
theorem dX3_advance_223 : decode cX3_advance 223 = .ok (.baload, 1) := dk_51 (dk_at dksX3_advance_9 14 rfl rfl)
theorem dX3_advance_224 : decode cX3_advance 224 = .ok (.bipush 48, 2) := dk_16 48 (dk_at dksX3_advance_9 15 rfl rfl)
theorem dX3_advance_226 : decode cX3_advance 226 = .ok (.if_icmp .lt 73, 3) := dk_161 0 73 (dk_at dksX3_advance_9 17 rfl rfl)
theorem dX3_advance_229 : decode cX3_advance 229 = .ok (.aload_n 0, 1) := dk_42 (dk_at dksX3_advance_9 20 rfl rfl)
theorem dX3_advance_230 : decode cX3_advance 230 = .ok (.getfield 3, 3) := dk_180 0 3 (dk_at dksX3_advance_9 21 rfl rfl)
theorem dX3_advance_233 : decode cX3_advance 233 = .ok (.getfield 28, 3) := dk_180 0 28 (dk_at dksX3_advance_10 0 rfl rfl)
theorem dX3_advance_236 : decode cX3_advance 236 = .ok (.aload_n 0, 1) := dk_42 (dk_at dksX3_advance_10 3 rfl rfl)
theorem dX3_advance_237 : decode cX3_advance 237 = .ok (.getfield 18, 3) := dk_180 0 18 (dk_at dksX3_advance_10 4 rfl rfl)
theorem dX3_advance_240 : decode cX3_advance 240 = .ok (.baload, 1) := dk_51 (dk_at dksX3_advance_10 7 rfl rfl)
theorem dX3_advance_241 : decode cX3_advance 241 = .ok (.bipush 57, 2) := dk_16 57 (dk_at dksX3_advance_10 8 rfl rfl)
theorem dX3_advance_243 : decode cX3_advance 243 = .ok (.if_icmp .gt 56, 3) := dk_163 0 56 (dk_at dksX3_advance_10 10 rfl rfl)
theorem dX3_advance_246 : decode cX3_advance 246 = .ok (.aload_n 0, 1) := dk_42 (dk_at dksX3_advance_10 13 rfl rfl)
theorem dX3_advance_247 : decode cX3_advance 247 = .ok (.getfield 18, 3) := dk_180 0 18 (dk_at dksX3_advance_10 14 rfl rfl)
theorem dX3_advance_250 : decode cX3_advance 250 = .ok (.aload_n 0, 1) := dk_42 (dk_at dksX3_advance_10 17 rfl rfl)
theorem dX3_advance_251 : decode cX3_advance 251 = .ok (.getfield 22, 3) := dk_180 0 22 (dk_at dksX3_advance_10 18 rfl rfl)
theorem dX3_advance_254 : decode cX3_advance 254 = .ok (.isub, 1) := dk_100 (dk_at dksX3_advance_10 21 rfl rfl)
theorem dX3_advance_255 : decode cX3_advance 255 = .ok (.iconst 2, 1) := dk_5 (dk_at dksX3_advance_10 22 rfl rfl)
theorem dX3_advance_256 : decode cX3_advance 256 = .ok (.if_icmp .ge 30, 3) := dk_162 0 30 (dk_at dksX3_advance_11 0 rfl rfl)
theorem dX3_advance_259 : decode cX3_advance 259 = .ok (.aload_n 0, 1) := dk_42 (dk_at dksX3_advance_11 3 rfl rfl)
theorem dX3_advance_260 : decode cX3_advance 260 = .ok (.bipush 10, 2) := dk_16 10 (dk_at dksX3_advance_11 4 rfl rfl)
theorem dX3_advance_262 : decode cX3_advance 262 = .ok (.aload_n 0, 1) := dk_42 (dk_at dksX3_advance_11 6 rfl rfl)
theorem dX3_advance_263 : decode cX3_advance 263 = .ok (.getfield 35, 3) := dk_180 0 35 (dk_at dksX3_advance_11 7 rfl rfl)
theorem dX3_advance_266 : decode cX3_advance 266 = .ok (.imul, 1) := dk_104 (dk_at dksX3_advance_11 10 rfl rfl)
theorem dX3_advance_267 : decode cX3_advance 267 = .ok (.aload_n 0, 1) := dk_42 (dk_at dksX3_advance_11 11 rfl rfl)
theorem dX3_advance_268 : decode cX3_advance 268 = .ok (.getfield 3, 3) := dk_180 0 3 (dk_at dksX3_advance_11 12 rfl rfl)
theorem dX3_advance_271 : decode cX3_advance 271 = .ok (.getfield 28, 3) := dk_180 0 28 (dk_at dksX3_advance_11 15 rfl rfl)
theorem dX3_advance_274 : decode cX3_advance 274 = .ok (.aload_n 0, 1) := dk_42 (dk_at dksX3_advance_11 18 rfl rfl)
theorem dX3_advance_275 : decode cX3_advance 275 = .ok (.getfield 18, 3) := dk_180 0 18 (dk_at dksX3_advance_11 19 rfl rfl)
theorem dX3_advance_278 : decode cX3_advance 278 = .ok (.baload, 1) := dk_51 (dk_at dksX3_advance_11 22 rfl rfl)
theorem dX3_advance_279 : decode cX3_advance 279 = .ok (.iadd, 1) := dk_96 (dk_at dksX3_advance_11 23 rfl rfl)
theorem dX3_advance_280 : decode cX3_advance 280 = .ok (.bipush 48, 2) := dk_16 48 (dk_at dksX3_advance_12 0 rfl rfl)
theorem dX3_advance_282 : decode cX3_advance 282 = .ok (.isub, 1) := dk_100 (dk_at dksX3_advance_12 2 rfl rfl)
theorem dX3_advance_283 : decode cX3_advance 283 = .ok (.putfield 35, 3) := dk_181 0 35 (dk_at dksX3_advance_12 3 rfl rfl)
theorem dX3_advance_286 : decode cX3_advance 286 = .ok (.aload_n 0, 1) := dk_42 (dk_at dksX3_advance_12 6 rfl rfl)
theorem dX3_advance_287 : decode cX3_advance 287 = .ok (.dup, 1) := dk_89 (dk_at dksX3_advance_12 7 rfl rfl)
theorem dX3_advance_288 : decode cX3_advance 288 = .ok (.getfield 18, 3) := dk_180 0 18 (dk_at dksX3_advance_12 8 rfl rfl)
theorem dX3_advance_291 : decode cX3_advance 291 = .ok (.iconst 1, 1) := dk_4 (dk_at dksX3_advance_12 11 rfl rfl)
theorem dX3_advance_292 : decode cX3_advance 292 = .ok (.iadd, 1) := dk_96 (dk_at dksX3_advance_12 12 rfl rfl)
theorem dX3_advance_293 : decode cX3_advance 293 = .ok (.putfield 18, 3) := dk_181 0 18 (dk_at dksX3_advance_12 13 rfl rfl)
theorem dX3_advance_296 : decode cX3_advance 296 = .ok (.goto (-98), 3) := dk_167 255 158 (dk_at dksX3_advance_12 16 rfl rfl)
theorem dX3_advance_299 : decode cX3_advance 299 = .ok (.aload_n 0, 1) := dk_42 (dk_at dksX3_advance_12 19 rfl rfl)
theorem dX3_advance_300 : decode cX3_advance 300 = .ok (.getfield 18, 3) := dk_180 0 18 (dk_at dksX3_advance_12 20 rfl rfl)
theorem dX3_advance_303 : decode cX3_advance 303 = .ok (.aload_n 0, 1) := dk_42 (dk_at dksX3_advance_12 23 rfl rfl)
theorem dX3_advance_304 : decode cX3_advance 304 = .ok (.getfield 22, 3) := dk_180 0 22 (dk_at dksX3_advance_13 0 rfl rfl)
theorem dX3_advance_307 : decode cX3_advance 307 = .ok (.if_icmp .le 26, 3) := dk_164 0 26 (dk_at dksX3_advance_13 3 rfl rfl)
theorem dX3_advance_310 : decode cX3_advance 310 = .ok (.aload_n 0, 1) := dk_42 (dk_at dksX3_advance_13 6 rfl rfl)
theorem dX3_advance_311 : decode cX3_advance 311 = .ok (.aload_n 0, 1) := dk_42 (dk_at dksX3_advance_13 7 rfl rfl)
theorem dX3_advance_312 : decode cX3_advance 312 = .ok (.getfield 18, 3) := dk_180 0 18 (dk_at dksX3_advance_13 8 rfl rfl)
theorem dX3_advance_315 : decode cX3_advance 315 = .ok (.aload_n 0, 1) := dk_42 (dk_at dksX3_advance_13 11 rfl rfl)
theorem dX3_advance_316 : decode cX3_advance 316 = .ok (.getfield 22, 3) := dk_180 0 22 (dk_at dksX3_advance_13 12 rfl rfl)
theorem dX3_advance_319 : decode cX3_advance 319 = .ok (.isub, 1) := dk_100 (dk_at dksX3_advance_13 15 rfl rfl)
theorem dX3_advance_320 : decode cX3_advance 320 = .ok (.iconst 2, 1) := dk_5 (dk_at dksX3_advance_13 16 rfl rfl)
theorem dX3_advance_321 : decode cX3_advance 321 = .ok (.if_icmp .le 7, 3) := dk_164 0 7 (dk_at dksX3_advance_13 17 rfl rfl)
theorem dX3_advance_324 : decode cX3_advance 324 = .ok (.iconst 4, 1) := dk_7 (dk_at dksX3_advance_13 20 rfl rfl)
theorem dX3_advance_325 : decode cX3_advance 325 = .ok (.goto 4, 3) := dk_167 0 4 (dk_at dksX3_advance_13 21 rfl rfl)
theorem dX3_advance_328 : decode cX3_advance 328 = .ok (.iconst 2, 1) := dk_5 (dk_at dksX3_advance_14 0 rfl rfl)
theorem dX3_advance_329 : decode cX3_advance 329 = .ok (.putfield 32, 3) := dk_181 0 32 (dk_at dksX3_advance_14 1 rfl rfl)
theorem dX3_advance_332 : decode cX3_advance 332 = .ok (.return_, 1) := dk_177 (dk_at dksX3_advance_14 4 rfl rfl)
theorem dX3_advance_333 : decode cX3_advance 333 = .ok (.aload_n 0, 1) := dk_42 (dk_at dksX3_advance_14 5 rfl rfl)
theorem dX3_advance_334 : decode cX3_advance 334 = .ok (.aload_n 0, 1) := dk_42 (dk_at dksX3_advance_14 6 rfl rfl)
theorem dX3_advance_335 : decode cX3_advance 335 = .ok (.getfield 22, 3) := dk_180 0 22 (dk_at dksX3_advance_14 7 rfl rfl)
theorem dX3_advance_338 : decode cX3_advance 338 = .ok (.iconst 1, 1) := dk_4 (dk_at dksX3_advance_14 10 rfl rfl)
theorem dX3_advance_339 : decode cX3_advance 339 = .ok (.iadd, 1) := dk_96 (dk_at dksX3_advance_14 11 rfl rfl)
theorem dX3_advance_340 : decode cX3_advance 340 = .ok (.putfield 18, 3) := dk_181 0 18 (dk_at dksX3_advance_14 12 rfl rfl)
theorem dX3_advance_343 : decode cX3_advance 343 = .ok (.aload_n 0, 1) := dk_42 (dk_at dksX3_advance_14 15 rfl rfl)
theorem dX3_advance_344 : decode cX3_advance 344 = .ok (.iconst 3, 1) := dk_6 (dk_at dksX3_advance_14 16 rfl rfl)
theorem dX3_advance_345 : decode cX3_advance 345 = .ok (.putfield 32, 3) := dk_181 0 32 (dk_at dksX3_advance_14 17 rfl rfl)
theorem dX3_advance_348 : decode cX3_advance 348 = .ok (.return_, 1) := dk_177 (dk_at dksX3_advance_14 20 rfl rfl)
abbrev cX3_expectWord : ByteArray := prog_4_method_6_code
def yX3_expectWord : MethodName := ⟨RX3, "expectWord", "(Ljava/lang/String;)V"⟩
def dkwX3_expectWord_0 : List UInt8 := [42, 43, 182, 0, 52, 154, 0, 9, 42, 4, 182, 0, 56, 191, 42, 182, 0, 15, 177]
abbrev dktX3_expectWord_0 : List UInt8 := dkwX3_expectWord_0 ++ []
theorem dksX3_expectWord_0 : cX3_expectWord.data.toList.drop 0 = dktX3_expectWord_0 := by decide +kernel
theorem dX3_expectWord_0 : decode cX3_expectWord 0 = .ok (.aload_n 0, 1) := dk_42 (dk_at dksX3_expectWord_0 0 rfl rfl)
theorem dX3_expectWord_1 : decode cX3_expectWord 1 = .ok (.aload_n 1, 1) := dk_43 (dk_at dksX3_expectWord_0 1 rfl rfl)
theorem dX3_expectWord_2 : decode cX3_expectWord 2 = .ok (.invokevirtual 52, 3) := dk_182 0 52 (dk_at dksX3_expectWord_0 2 rfl rfl)
theorem dX3_expectWord_5 : decode cX3_expectWord 5 = .ok (.ifCond .ne 9, 3) := dk_154 0 9 (dk_at dksX3_expectWord_0 5 rfl rfl)
theorem dX3_expectWord_8 : decode cX3_expectWord 8 = .ok (.aload_n 0, 1) := dk_42 (dk_at dksX3_expectWord_0 8 rfl rfl)
theorem dX3_expectWord_9 : decode cX3_expectWord 9 = .ok (.iconst 1, 1) := dk_4 (dk_at dksX3_expectWord_0 9 rfl rfl)
theorem dX3_expectWord_10 : decode cX3_expectWord 10 = .ok (.invokevirtual 56, 3) := dk_182 0 56 (dk_at dksX3_expectWord_0 10 rfl rfl)
theorem dX3_expectWord_13 : decode cX3_expectWord 13 = .ok (.athrow, 1) := dk_191 (dk_at dksX3_expectWord_0 13 rfl rfl)
theorem dX3_expectWord_14 : decode cX3_expectWord 14 = .ok (.aload_n 0, 1) := dk_42 (dk_at dksX3_expectWord_0 14 rfl rfl)
theorem dX3_expectWord_15 : decode cX3_expectWord 15 = .ok (.invokevirtual 15, 3) := dk_182 0 15 (dk_at dksX3_expectWord_0 15 rfl rfl)
theorem dX3_expectWord_18 : decode cX3_expectWord 18 = .ok (.return_, 1) := dk_177 (dk_at dksX3_expectWord_0 18 rfl rfl)
abbrev cX3_isWord : ByteArray := prog_4_method_4_code
def yX3_isWord : MethodName := ⟨RX3, "isWord", "(Ljava/lang/String;)Z"⟩
def dkwX3_isWord_2 : List UInt8 := [96, 51, 43, 28, 182, 0, 48, 159, 0, 5, 3, 172, 132, 2, 1, 167, 255, 221, 4, 172]
abbrev dktX3_isWord_2 : List UInt8 := dkwX3_isWord_2 ++ []
def dkwX3_isWord_1 : List UInt8 := [3, 172, 3, 61, 28, 43, 182, 0, 43, 162, 0, 33, 42, 180, 0, 3, 180, 0, 28, 42, 180, 0, 22, 28]
abbrev dktX3_isWord_1 : List UInt8 := dkwX3_isWord_1 ++ dktX3_isWord_2
def dkwX3_isWord_0 : List UInt8 := [42, 180, 0, 32, 4, 160, 0, 19, 42, 180, 0, 18, 42, 180, 0, 22, 100, 43, 182, 0, 43, 159, 0, 5]
abbrev dktX3_isWord_0 : List UInt8 := dkwX3_isWord_0 ++ dktX3_isWord_1
theorem dksX3_isWord_0 : cX3_isWord.data.toList.drop 0 = dktX3_isWord_0 := by decide +kernel
theorem dksX3_isWord_1 : cX3_isWord.data.toList.drop 24 = dktX3_isWord_1 := dk_seg dksX3_isWord_0 24 rfl rfl
theorem dksX3_isWord_2 : cX3_isWord.data.toList.drop 48 = dktX3_isWord_2 := dk_seg dksX3_isWord_1 24 rfl rfl
theorem dX3_isWord_0 : decode cX3_isWord 0 = .ok (.aload_n 0, 1) := dk_42 (dk_at dksX3_isWord_0 0 rfl rfl)
theorem dX3_isWord_1 : decode cX3_isWord 1 = .ok (.getfield 32, 3) := dk_180 0 32 (dk_at dksX3_isWord_0 1 rfl rfl)
theorem dX3_isWord_4 : decode cX3_isWord 4 = .ok (.iconst 1, 1) := dk_4 (dk_at dksX3_isWord_0 4 rfl rfl)
theorem dX3_isWord_5 : decode cX3_isWord 5 = .ok (.if_icmp .ne 19, 3) := dk_160 0 19 (dk_at dksX3_isWord_0 5 rfl rfl)
theorem dX3_isWord_8 : decode cX3_isWord 8 = .ok (.aload_n 0, 1) := dk_42 (dk_at dksX3_isWord_0 8 rfl rfl)
theorem dX3_isWord_9 : decode cX3_isWord 9 = .ok (.getfield 18, 3) := dk_180 0 18 (dk_at dksX3_isWord_0 9 rfl rfl)
theorem dX3_isWord_12 : decode cX3_isWord 12 = .ok (.aload_n 0, 1) := dk_42 (dk_at dksX3_isWord_0 12 rfl rfl)
theorem dX3_isWord_13 : decode cX3_isWord 13 = .ok (.getfield 22, 3) := dk_180 0 22 (dk_at dksX3_isWord_0 13 rfl rfl)
theorem dX3_isWord_16 : decode cX3_isWord 16 = .ok (.isub, 1) := dk_100 (dk_at dksX3_isWord_0 16 rfl rfl)
theorem dX3_isWord_17 : decode cX3_isWord 17 = .ok (.aload_n 1, 1) := dk_43 (dk_at dksX3_isWord_0 17 rfl rfl)
theorem dX3_isWord_18 : decode cX3_isWord 18 = .ok (.invokevirtual 43, 3) := dk_182 0 43 (dk_at dksX3_isWord_0 18 rfl rfl)
theorem dX3_isWord_21 : decode cX3_isWord 21 = .ok (.if_icmp .eq 5, 3) := dk_159 0 5 (dk_at dksX3_isWord_0 21 rfl rfl)
theorem dX3_isWord_24 : decode cX3_isWord 24 = .ok (.iconst 0, 1) := dk_3 (dk_at dksX3_isWord_1 0 rfl rfl)
theorem dX3_isWord_25 : decode cX3_isWord 25 = .ok (.ireturn, 1) := dk_172 (dk_at dksX3_isWord_1 1 rfl rfl)
theorem dX3_isWord_26 : decode cX3_isWord 26 = .ok (.iconst 0, 1) := dk_3 (dk_at dksX3_isWord_1 2 rfl rfl)
theorem dX3_isWord_27 : decode cX3_isWord 27 = .ok (.istore_n 2, 1) := dk_61 (dk_at dksX3_isWord_1 3 rfl rfl)
theorem dX3_isWord_28 : decode cX3_isWord 28 = .ok (.iload_n 2, 1) := dk_28 (dk_at dksX3_isWord_1 4 rfl rfl)
theorem dX3_isWord_29 : decode cX3_isWord 29 = .ok (.aload_n 1, 1) := dk_43 (dk_at dksX3_isWord_1 5 rfl rfl)
theorem dX3_isWord_30 : decode cX3_isWord 30 = .ok (.invokevirtual 43, 3) := dk_182 0 43 (dk_at dksX3_isWord_1 6 rfl rfl)
theorem dX3_isWord_33 : decode cX3_isWord 33 = .ok (.if_icmp .ge 33, 3) := dk_162 0 33 (dk_at dksX3_isWord_1 9 rfl rfl)
theorem dX3_isWord_36 : decode cX3_isWord 36 = .ok (.aload_n 0, 1) := dk_42 (dk_at dksX3_isWord_1 12 rfl rfl)
theorem dX3_isWord_37 : decode cX3_isWord 37 = .ok (.getfield 3, 3) := dk_180 0 3 (dk_at dksX3_isWord_1 13 rfl rfl)
theorem dX3_isWord_40 : decode cX3_isWord 40 = .ok (.getfield 28, 3) := dk_180 0 28 (dk_at dksX3_isWord_1 16 rfl rfl)
theorem dX3_isWord_43 : decode cX3_isWord 43 = .ok (.aload_n 0, 1) := dk_42 (dk_at dksX3_isWord_1 19 rfl rfl)
theorem dX3_isWord_44 : decode cX3_isWord 44 = .ok (.getfield 22, 3) := dk_180 0 22 (dk_at dksX3_isWord_1 20 rfl rfl)
theorem dX3_isWord_47 : decode cX3_isWord 47 = .ok (.iload_n 2, 1) := dk_28 (dk_at dksX3_isWord_1 23 rfl rfl)
theorem dX3_isWord_48 : decode cX3_isWord 48 = .ok (.iadd, 1) := dk_96 (dk_at dksX3_isWord_2 0 rfl rfl)
theorem dX3_isWord_49 : decode cX3_isWord 49 = .ok (.baload, 1) := dk_51 (dk_at dksX3_isWord_2 1 rfl rfl)
theorem dX3_isWord_50 : decode cX3_isWord 50 = .ok (.aload_n 1, 1) := dk_43 (dk_at dksX3_isWord_2 2 rfl rfl)
theorem dX3_isWord_51 : decode cX3_isWord 51 = .ok (.iload_n 2, 1) := dk_28 (dk_at dksX3_isWord_2 3 rfl rfl)
theorem dX3_isWord_52 : decode cX3_isWord 52 = .ok (.invokevirtual 48, 3) := dk_182 0 48 (dk_at dksX3_isWord_2 4 rfl rfl)
theorem dX3_isWord_55 : decode cX3_isWord 55 = .ok (.if_icmp .eq 5, 3) := dk_159 0 5 (dk_at dksX3_isWord_2 7 rfl rfl)
theorem dX3_isWord_58 : decode cX3_isWord 58 = .ok (.iconst 0, 1) := dk_3 (dk_at dksX3_isWord_2 10 rfl rfl)
theorem dX3_isWord_59 : decode cX3_isWord 59 = .ok (.ireturn, 1) := dk_172 (dk_at dksX3_isWord_2 11 rfl rfl)
theorem dX3_isWord_60 : decode cX3_isWord 60 = .ok (.iinc 2 1, 3) := dk_132 2 1 (dk_at dksX3_isWord_2 12 rfl rfl)
theorem dX3_isWord_63 : decode cX3_isWord 63 = .ok (.goto (-35), 3) := dk_167 255 221 (dk_at dksX3_isWord_2 15 rfl rfl)
theorem dX3_isWord_66 : decode cX3_isWord 66 = .ok (.iconst 1, 1) := dk_4 (dk_at dksX3_isWord_2 18 rfl rfl)
theorem dX3_isWord_67 : decode cX3_isWord 67 = .ok (.ireturn, 1) := dk_172 (dk_at dksX3_isWord_2 19 rfl rfl)
abbrev cX3_error : ByteArray := prog_4_method_3_code
def yX3_error : MethodName := ⟨RX3, "error", "(I)LCakeDivision$TextError;"⟩
def dkwX3_error_0 : List UInt8 := [187, 0, 38, 89, 27, 42, 180, 0, 22, 183, 0, 40, 176]
abbrev dktX3_error_0 : List UInt8 := dkwX3_error_0 ++ []
theorem dksX3_error_0 : cX3_error.data.toList.drop 0 = dktX3_error_0 := by decide +kernel
theorem dX3_error_0 : decode cX3_error 0 = .ok (.new 38, 3) := dk_187 0 38 (dk_at dksX3_error_0 0 rfl rfl)
theorem dX3_error_3 : decode cX3_error 3 = .ok (.dup, 1) := dk_89 (dk_at dksX3_error_0 3 rfl rfl)
theorem dX3_error_4 : decode cX3_error 4 = .ok (.iload_n 1, 1) := dk_27 (dk_at dksX3_error_0 4 rfl rfl)
theorem dX3_error_5 : decode cX3_error 5 = .ok (.aload_n 0, 1) := dk_42 (dk_at dksX3_error_0 5 rfl rfl)
theorem dX3_error_6 : decode cX3_error 6 = .ok (.getfield 22, 3) := dk_180 0 22 (dk_at dksX3_error_0 6 rfl rfl)
theorem dX3_error_9 : decode cX3_error 9 = .ok (.invokespecial 40, 3) := dk_183 0 40 (dk_at dksX3_error_0 9 rfl rfl)
theorem dX3_error_12 : decode cX3_error 12 = .ok (.areturn, 1) := dk_176 (dk_at dksX3_error_0 12 rfl rfl)
abbrev cX3_expectNumber : ByteArray := prog_4_method_9_code
def yX3_expectNumber : MethodName := ⟨RX3, "expectNumber", "(II)I"⟩
def dkwX3_expectNumber_1 : List UInt8 := [42, 5, 182, 0, 56, 191, 42, 182, 0, 60, 172]
abbrev dktX3_expectNumber_1 : List UInt8 := dkwX3_expectNumber_1 ++ []
def dkwX3_expectNumber_0 : List UInt8 := [42, 180, 0, 32, 5, 160, 0, 25, 42, 180, 0, 35, 27, 161, 0, 11, 42, 180, 0, 35, 28, 164, 0, 9]
abbrev dktX3_expectNumber_0 : List UInt8 := dkwX3_expectNumber_0 ++ dktX3_expectNumber_1
theorem dksX3_expectNumber_0 : cX3_expectNumber.data.toList.drop 0 = dktX3_expectNumber_0 := by decide +kernel
theorem dksX3_expectNumber_1 : cX3_expectNumber.data.toList.drop 24 = dktX3_expectNumber_1 := dk_seg dksX3_expectNumber_0 24 rfl rfl
theorem dX3_expectNumber_0 : decode cX3_expectNumber 0 = .ok (.aload_n 0, 1) := dk_42 (dk_at dksX3_expectNumber_0 0 rfl rfl)
theorem dX3_expectNumber_1 : decode cX3_expectNumber 1 = .ok (.getfield 32, 3) := dk_180 0 32 (dk_at dksX3_expectNumber_0 1 rfl rfl)
theorem dX3_expectNumber_4 : decode cX3_expectNumber 4 = .ok (.iconst 2, 1) := dk_5 (dk_at dksX3_expectNumber_0 4 rfl rfl)
theorem dX3_expectNumber_5 : decode cX3_expectNumber 5 = .ok (.if_icmp .ne 25, 3) := dk_160 0 25 (dk_at dksX3_expectNumber_0 5 rfl rfl)
theorem dX3_expectNumber_8 : decode cX3_expectNumber 8 = .ok (.aload_n 0, 1) := dk_42 (dk_at dksX3_expectNumber_0 8 rfl rfl)
theorem dX3_expectNumber_9 : decode cX3_expectNumber 9 = .ok (.getfield 35, 3) := dk_180 0 35 (dk_at dksX3_expectNumber_0 9 rfl rfl)
theorem dX3_expectNumber_12 : decode cX3_expectNumber 12 = .ok (.iload_n 1, 1) := dk_27 (dk_at dksX3_expectNumber_0 12 rfl rfl)
theorem dX3_expectNumber_13 : decode cX3_expectNumber 13 = .ok (.if_icmp .lt 11, 3) := dk_161 0 11 (dk_at dksX3_expectNumber_0 13 rfl rfl)
theorem dX3_expectNumber_16 : decode cX3_expectNumber 16 = .ok (.aload_n 0, 1) := dk_42 (dk_at dksX3_expectNumber_0 16 rfl rfl)
theorem dX3_expectNumber_17 : decode cX3_expectNumber 17 = .ok (.getfield 35, 3) := dk_180 0 35 (dk_at dksX3_expectNumber_0 17 rfl rfl)
theorem dX3_expectNumber_20 : decode cX3_expectNumber 20 = .ok (.iload_n 2, 1) := dk_28 (dk_at dksX3_expectNumber_0 20 rfl rfl)
theorem dX3_expectNumber_21 : decode cX3_expectNumber 21 = .ok (.if_icmp .le 9, 3) := dk_164 0 9 (dk_at dksX3_expectNumber_0 21 rfl rfl)
theorem dX3_expectNumber_24 : decode cX3_expectNumber 24 = .ok (.aload_n 0, 1) := dk_42 (dk_at dksX3_expectNumber_1 0 rfl rfl)
theorem dX3_expectNumber_25 : decode cX3_expectNumber 25 = .ok (.iconst 2, 1) := dk_5 (dk_at dksX3_expectNumber_1 1 rfl rfl)
theorem dX3_expectNumber_26 : decode cX3_expectNumber 26 = .ok (.invokevirtual 56, 3) := dk_182 0 56 (dk_at dksX3_expectNumber_1 2 rfl rfl)
theorem dX3_expectNumber_29 : decode cX3_expectNumber 29 = .ok (.athrow, 1) := dk_191 (dk_at dksX3_expectNumber_1 5 rfl rfl)
theorem dX3_expectNumber_30 : decode cX3_expectNumber 30 = .ok (.aload_n 0, 1) := dk_42 (dk_at dksX3_expectNumber_1 6 rfl rfl)
theorem dX3_expectNumber_31 : decode cX3_expectNumber 31 = .ok (.invokevirtual 60, 3) := dk_182 0 60 (dk_at dksX3_expectNumber_1 7 rfl rfl)
theorem dX3_expectNumber_34 : decode cX3_expectNumber 34 = .ok (.ireturn, 1) := dk_172 (dk_at dksX3_expectNumber_1 10 rfl rfl)
abbrev cX3_expectNumber_2 : ByteArray := prog_4_method_8_code
def yX3_expectNumber_2 : MethodName := ⟨RX3, "expectNumber", "()I"⟩
def dkwX3_expectNumber_2_1 : List UInt8 := [172]
abbrev dktX3_expectNumber_2_1 : List UInt8 := dkwX3_expectNumber_2_1 ++ []
def dkwX3_expectNumber_2_0 : List UInt8 := [42, 180, 0, 32, 5, 159, 0, 9, 42, 4, 182, 0, 56, 191, 42, 180, 0, 35, 60, 42, 182, 0, 15, 27]
abbrev dktX3_expectNumber_2_0 : List UInt8 := dkwX3_expectNumber_2_0 ++ dktX3_expectNumber_2_1
theorem dksX3_expectNumber_2_0 : cX3_expectNumber_2.data.toList.drop 0 = dktX3_expectNumber_2_0 := by decide +kernel
theorem dksX3_expectNumber_2_1 : cX3_expectNumber_2.data.toList.drop 24 = dktX3_expectNumber_2_1 := dk_seg dksX3_expectNumber_2_0 24 rfl rfl
theorem dX3_expectNumber_2_0 : decode cX3_expectNumber_2 0 = .ok (.aload_n 0, 1) := dk_42 (dk_at dksX3_expectNumber_2_0 0 rfl rfl)
theorem dX3_expectNumber_2_1 : decode cX3_expectNumber_2 1 = .ok (.getfield 32, 3) := dk_180 0 32 (dk_at dksX3_expectNumber_2_0 1 rfl rfl)
theorem dX3_expectNumber_2_4 : decode cX3_expectNumber_2 4 = .ok (.iconst 2, 1) := dk_5 (dk_at dksX3_expectNumber_2_0 4 rfl rfl)
theorem dX3_expectNumber_2_5 : decode cX3_expectNumber_2 5 = .ok (.if_icmp .eq 9, 3) := dk_159 0 9 (dk_at dksX3_expectNumber_2_0 5 rfl rfl)
theorem dX3_expectNumber_2_8 : decode cX3_expectNumber_2 8 = .ok (.aload_n 0, 1) := dk_42 (dk_at dksX3_expectNumber_2_0 8 rfl rfl)
theorem dX3_expectNumber_2_9 : decode cX3_expectNumber_2 9 = .ok (.iconst 1, 1) := dk_4 (dk_at dksX3_expectNumber_2_0 9 rfl rfl)
theorem dX3_expectNumber_2_10 : decode cX3_expectNumber_2 10 = .ok (.invokevirtual 56, 3) := dk_182 0 56 (dk_at dksX3_expectNumber_2_0 10 rfl rfl)
theorem dX3_expectNumber_2_13 : decode cX3_expectNumber_2 13 = .ok (.athrow, 1) := dk_191 (dk_at dksX3_expectNumber_2_0 13 rfl rfl)
theorem dX3_expectNumber_2_14 : decode cX3_expectNumber_2 14 = .ok (.aload_n 0, 1) := dk_42 (dk_at dksX3_expectNumber_2_0 14 rfl rfl)
theorem dX3_expectNumber_2_15 : decode cX3_expectNumber_2 15 = .ok (.getfield 35, 3) := dk_180 0 35 (dk_at dksX3_expectNumber_2_0 15 rfl rfl)
theorem dX3_expectNumber_2_18 : decode cX3_expectNumber_2 18 = .ok (.istore_n 1, 1) := dk_60 (dk_at dksX3_expectNumber_2_0 18 rfl rfl)
theorem dX3_expectNumber_2_19 : decode cX3_expectNumber_2 19 = .ok (.aload_n 0, 1) := dk_42 (dk_at dksX3_expectNumber_2_0 19 rfl rfl)
theorem dX3_expectNumber_2_20 : decode cX3_expectNumber_2 20 = .ok (.invokevirtual 15, 3) := dk_182 0 15 (dk_at dksX3_expectNumber_2_0 20 rfl rfl)
theorem dX3_expectNumber_2_23 : decode cX3_expectNumber_2 23 = .ok (.iload_n 1, 1) := dk_27 (dk_at dksX3_expectNumber_2_0 23 rfl rfl)
theorem dX3_expectNumber_2_24 : decode cX3_expectNumber_2 24 = .ok (.ireturn, 1) := dk_172 (dk_at dksX3_expectNumber_2_1 0 rfl rfl)
abbrev cX3_expectSemicolon : ByteArray := prog_4_method_7_code
def yX3_expectSemicolon : MethodName := ⟨RX3, "expectSemicolon", "()V"⟩
def dkwX3_expectSemicolon_1 : List UInt8 := [159, 0, 9, 42, 4, 182, 0, 56, 191, 42, 182, 0, 15, 177]
abbrev dktX3_expectSemicolon_1 : List UInt8 := dkwX3_expectSemicolon_1 ++ []
def dkwX3_expectSemicolon_0 : List UInt8 := [42, 180, 0, 32, 6, 160, 0, 20, 42, 180, 0, 3, 180, 0, 28, 42, 180, 0, 22, 51, 16, 59]
abbrev dktX3_expectSemicolon_0 : List UInt8 := dkwX3_expectSemicolon_0 ++ dktX3_expectSemicolon_1
theorem dksX3_expectSemicolon_0 : cX3_expectSemicolon.data.toList.drop 0 = dktX3_expectSemicolon_0 := by decide +kernel
theorem dksX3_expectSemicolon_1 : cX3_expectSemicolon.data.toList.drop 22 = dktX3_expectSemicolon_1 := dk_seg dksX3_expectSemicolon_0 22 rfl rfl
theorem dX3_expectSemicolon_0 : decode cX3_expectSemicolon 0 = .ok (.aload_n 0, 1) := dk_42 (dk_at dksX3_expectSemicolon_0 0 rfl rfl)
theorem dX3_expectSemicolon_1 : decode cX3_expectSemicolon 1 = .ok (.getfield 32, 3) := dk_180 0 32 (dk_at dksX3_expectSemicolon_0 1 rfl rfl)
theorem dX3_expectSemicolon_4 : decode cX3_expectSemicolon 4 = .ok (.iconst 3, 1) := dk_6 (dk_at dksX3_expectSemicolon_0 4 rfl rfl)
theorem dX3_expectSemicolon_5 : decode cX3_expectSemicolon 5 = .ok (.if_icmp .ne 20, 3) := dk_160 0 20 (dk_at dksX3_expectSemicolon_0 5 rfl rfl)
theorem dX3_expectSemicolon_8 : decode cX3_expectSemicolon 8 = .ok (.aload_n 0, 1) := dk_42 (dk_at dksX3_expectSemicolon_0 8 rfl rfl)
theorem dX3_expectSemicolon_9 : decode cX3_expectSemicolon 9 = .ok (.getfield 3, 3) := dk_180 0 3 (dk_at dksX3_expectSemicolon_0 9 rfl rfl)
theorem dX3_expectSemicolon_12 : decode cX3_expectSemicolon 12 = .ok (.getfield 28, 3) := dk_180 0 28 (dk_at dksX3_expectSemicolon_0 12 rfl rfl)
theorem dX3_expectSemicolon_15 : decode cX3_expectSemicolon 15 = .ok (.aload_n 0, 1) := dk_42 (dk_at dksX3_expectSemicolon_0 15 rfl rfl)
theorem dX3_expectSemicolon_16 : decode cX3_expectSemicolon 16 = .ok (.getfield 22, 3) := dk_180 0 22 (dk_at dksX3_expectSemicolon_0 16 rfl rfl)
theorem dX3_expectSemicolon_19 : decode cX3_expectSemicolon 19 = .ok (.baload, 1) := dk_51 (dk_at dksX3_expectSemicolon_0 19 rfl rfl)
theorem dX3_expectSemicolon_20 : decode cX3_expectSemicolon 20 = .ok (.bipush 59, 2) := dk_16 59 (dk_at dksX3_expectSemicolon_0 20 rfl rfl)
theorem dX3_expectSemicolon_22 : decode cX3_expectSemicolon 22 = .ok (.if_icmp .eq 9, 3) := dk_159 0 9 (dk_at dksX3_expectSemicolon_1 0 rfl rfl)
theorem dX3_expectSemicolon_25 : decode cX3_expectSemicolon 25 = .ok (.aload_n 0, 1) := dk_42 (dk_at dksX3_expectSemicolon_1 3 rfl rfl)
theorem dX3_expectSemicolon_26 : decode cX3_expectSemicolon 26 = .ok (.iconst 1, 1) := dk_4 (dk_at dksX3_expectSemicolon_1 4 rfl rfl)
theorem dX3_expectSemicolon_27 : decode cX3_expectSemicolon 27 = .ok (.invokevirtual 56, 3) := dk_182 0 56 (dk_at dksX3_expectSemicolon_1 5 rfl rfl)
theorem dX3_expectSemicolon_30 : decode cX3_expectSemicolon 30 = .ok (.athrow, 1) := dk_191 (dk_at dksX3_expectSemicolon_1 8 rfl rfl)
theorem dX3_expectSemicolon_31 : decode cX3_expectSemicolon 31 = .ok (.aload_n 0, 1) := dk_42 (dk_at dksX3_expectSemicolon_1 9 rfl rfl)
theorem dX3_expectSemicolon_32 : decode cX3_expectSemicolon 32 = .ok (.invokevirtual 15, 3) := dk_182 0 15 (dk_at dksX3_expectSemicolon_1 10 rfl rfl)
theorem dX3_expectSemicolon_35 : decode cX3_expectSemicolon 35 = .ok (.return_, 1) := dk_177 (dk_at dksX3_expectSemicolon_1 13 rfl rfl)
abbrev cX3_expectNewName : ByteArray := prog_4_method_11_code
def yX3_expectNewName : MethodName := ⟨RX3, "expectNewName", "(LCakeDivision$State;)[B"⟩
def dkwX3_expectNewName_1 : List UInt8 := [44, 176]
abbrev dktX3_expectNewName_1 : List UInt8 := dkwX3_expectNewName_1 ++ []
def dkwX3_expectNewName_0 : List UInt8 := [42, 182, 0, 69, 77, 43, 44, 182, 0, 73, 2, 159, 0, 9, 42, 6, 182, 0, 56, 191, 42, 182, 0, 15]
abbrev dktX3_expectNewName_0 : List UInt8 := dkwX3_expectNewName_0 ++ dktX3_expectNewName_1
theorem dksX3_expectNewName_0 : cX3_expectNewName.data.toList.drop 0 = dktX3_expectNewName_0 := by decide +kernel
theorem dksX3_expectNewName_1 : cX3_expectNewName.data.toList.drop 24 = dktX3_expectNewName_1 := dk_seg dksX3_expectNewName_0 24 rfl rfl
theorem dX3_expectNewName_0 : decode cX3_expectNewName 0 = .ok (.aload_n 0, 1) := dk_42 (dk_at dksX3_expectNewName_0 0 rfl rfl)
theorem dX3_expectNewName_1 : decode cX3_expectNewName 1 = .ok (.invokevirtual 69, 3) := dk_182 0 69 (dk_at dksX3_expectNewName_0 1 rfl rfl)
theorem dX3_expectNewName_4 : decode cX3_expectNewName 4 = .ok (.astore_n 2, 1) := dk_77 (dk_at dksX3_expectNewName_0 4 rfl rfl)
theorem dX3_expectNewName_5 : decode cX3_expectNewName 5 = .ok (.aload_n 1, 1) := dk_43 (dk_at dksX3_expectNewName_0 5 rfl rfl)
theorem dX3_expectNewName_6 : decode cX3_expectNewName 6 = .ok (.aload_n 2, 1) := dk_44 (dk_at dksX3_expectNewName_0 6 rfl rfl)
theorem dX3_expectNewName_7 : decode cX3_expectNewName 7 = .ok (.invokevirtual 73, 3) := dk_182 0 73 (dk_at dksX3_expectNewName_0 7 rfl rfl)
theorem dX3_expectNewName_10 : decode cX3_expectNewName 10 = .ok (.iconst (-1), 1) := dk_2 (dk_at dksX3_expectNewName_0 10 rfl rfl)
theorem dX3_expectNewName_11 : decode cX3_expectNewName 11 = .ok (.if_icmp .eq 9, 3) := dk_159 0 9 (dk_at dksX3_expectNewName_0 11 rfl rfl)
theorem dX3_expectNewName_14 : decode cX3_expectNewName 14 = .ok (.aload_n 0, 1) := dk_42 (dk_at dksX3_expectNewName_0 14 rfl rfl)
theorem dX3_expectNewName_15 : decode cX3_expectNewName 15 = .ok (.iconst 3, 1) := dk_6 (dk_at dksX3_expectNewName_0 15 rfl rfl)
theorem dX3_expectNewName_16 : decode cX3_expectNewName 16 = .ok (.invokevirtual 56, 3) := dk_182 0 56 (dk_at dksX3_expectNewName_0 16 rfl rfl)
theorem dX3_expectNewName_19 : decode cX3_expectNewName 19 = .ok (.athrow, 1) := dk_191 (dk_at dksX3_expectNewName_0 19 rfl rfl)
theorem dX3_expectNewName_20 : decode cX3_expectNewName 20 = .ok (.aload_n 0, 1) := dk_42 (dk_at dksX3_expectNewName_0 20 rfl rfl)
theorem dX3_expectNewName_21 : decode cX3_expectNewName 21 = .ok (.invokevirtual 15, 3) := dk_182 0 15 (dk_at dksX3_expectNewName_0 21 rfl rfl)
theorem dX3_expectNewName_24 : decode cX3_expectNewName 24 = .ok (.aload_n 2, 1) := dk_44 (dk_at dksX3_expectNewName_1 0 rfl rfl)
theorem dX3_expectNewName_25 : decode cX3_expectNewName 25 = .ok (.areturn, 1) := dk_176 (dk_at dksX3_expectNewName_1 1 rfl rfl)
abbrev cX3_peekName : ByteArray := prog_4_method_10_code
def yX3_peekName : MethodName := ⟨RX3, "peekName", "()[B"⟩
def dkwX3_peekName_2 : List UInt8 := [180, 0, 3, 180, 0, 28, 42, 180, 0, 22, 43, 3, 43, 190, 184, 0, 63, 43, 176]
abbrev dktX3_peekName_2 : List UInt8 := dkwX3_peekName_2 ++ []
def dkwX3_peekName_1 : List UInt8 := [16, 6, 164, 0, 9, 42, 6, 182, 0, 56, 191, 42, 180, 0, 18, 42, 180, 0, 22, 100, 188, 8, 76, 42]
abbrev dktX3_peekName_1 : List UInt8 := dkwX3_peekName_1 ++ dktX3_peekName_2
def dkwX3_peekName_0 : List UInt8 := [42, 180, 0, 32, 4, 159, 0, 9, 42, 4, 182, 0, 56, 191, 42, 180, 0, 18, 42, 180, 0, 22, 100]
abbrev dktX3_peekName_0 : List UInt8 := dkwX3_peekName_0 ++ dktX3_peekName_1
theorem dksX3_peekName_0 : cX3_peekName.data.toList.drop 0 = dktX3_peekName_0 := by decide +kernel
theorem dksX3_peekName_1 : cX3_peekName.data.toList.drop 23 = dktX3_peekName_1 := dk_seg dksX3_peekName_0 23 rfl rfl
theorem dksX3_peekName_2 : cX3_peekName.data.toList.drop 47 = dktX3_peekName_2 := dk_seg dksX3_peekName_1 24 rfl rfl
theorem dX3_peekName_0 : decode cX3_peekName 0 = .ok (.aload_n 0, 1) := dk_42 (dk_at dksX3_peekName_0 0 rfl rfl)
theorem dX3_peekName_1 : decode cX3_peekName 1 = .ok (.getfield 32, 3) := dk_180 0 32 (dk_at dksX3_peekName_0 1 rfl rfl)
theorem dX3_peekName_4 : decode cX3_peekName 4 = .ok (.iconst 1, 1) := dk_4 (dk_at dksX3_peekName_0 4 rfl rfl)
theorem dX3_peekName_5 : decode cX3_peekName 5 = .ok (.if_icmp .eq 9, 3) := dk_159 0 9 (dk_at dksX3_peekName_0 5 rfl rfl)
theorem dX3_peekName_8 : decode cX3_peekName 8 = .ok (.aload_n 0, 1) := dk_42 (dk_at dksX3_peekName_0 8 rfl rfl)
theorem dX3_peekName_9 : decode cX3_peekName 9 = .ok (.iconst 1, 1) := dk_4 (dk_at dksX3_peekName_0 9 rfl rfl)
theorem dX3_peekName_10 : decode cX3_peekName 10 = .ok (.invokevirtual 56, 3) := dk_182 0 56 (dk_at dksX3_peekName_0 10 rfl rfl)
theorem dX3_peekName_13 : decode cX3_peekName 13 = .ok (.athrow, 1) := dk_191 (dk_at dksX3_peekName_0 13 rfl rfl)
theorem dX3_peekName_14 : decode cX3_peekName 14 = .ok (.aload_n 0, 1) := dk_42 (dk_at dksX3_peekName_0 14 rfl rfl)
theorem dX3_peekName_15 : decode cX3_peekName 15 = .ok (.getfield 18, 3) := dk_180 0 18 (dk_at dksX3_peekName_0 15 rfl rfl)
theorem dX3_peekName_18 : decode cX3_peekName 18 = .ok (.aload_n 0, 1) := dk_42 (dk_at dksX3_peekName_0 18 rfl rfl)
theorem dX3_peekName_19 : decode cX3_peekName 19 = .ok (.getfield 22, 3) := dk_180 0 22 (dk_at dksX3_peekName_0 19 rfl rfl)
theorem dX3_peekName_22 : decode cX3_peekName 22 = .ok (.isub, 1) := dk_100 (dk_at dksX3_peekName_0 22 rfl rfl)
theorem dX3_peekName_23 : decode cX3_peekName 23 = .ok (.bipush 6, 2) := dk_16 6 (dk_at dksX3_peekName_1 0 rfl rfl)
theorem dX3_peekName_25 : decode cX3_peekName 25 = .ok (.if_icmp .le 9, 3) := dk_164 0 9 (dk_at dksX3_peekName_1 2 rfl rfl)
theorem dX3_peekName_28 : decode cX3_peekName 28 = .ok (.aload_n 0, 1) := dk_42 (dk_at dksX3_peekName_1 5 rfl rfl)
theorem dX3_peekName_29 : decode cX3_peekName 29 = .ok (.iconst 3, 1) := dk_6 (dk_at dksX3_peekName_1 6 rfl rfl)
theorem dX3_peekName_30 : decode cX3_peekName 30 = .ok (.invokevirtual 56, 3) := dk_182 0 56 (dk_at dksX3_peekName_1 7 rfl rfl)
theorem dX3_peekName_33 : decode cX3_peekName 33 = .ok (.athrow, 1) := dk_191 (dk_at dksX3_peekName_1 10 rfl rfl)
theorem dX3_peekName_34 : decode cX3_peekName 34 = .ok (.aload_n 0, 1) := dk_42 (dk_at dksX3_peekName_1 11 rfl rfl)
theorem dX3_peekName_35 : decode cX3_peekName 35 = .ok (.getfield 18, 3) := dk_180 0 18 (dk_at dksX3_peekName_1 12 rfl rfl)
theorem dX3_peekName_38 : decode cX3_peekName 38 = .ok (.aload_n 0, 1) := dk_42 (dk_at dksX3_peekName_1 15 rfl rfl)
theorem dX3_peekName_39 : decode cX3_peekName 39 = .ok (.getfield 22, 3) := dk_180 0 22 (dk_at dksX3_peekName_1 16 rfl rfl)
theorem dX3_peekName_42 : decode cX3_peekName 42 = .ok (.isub, 1) := dk_100 (dk_at dksX3_peekName_1 19 rfl rfl)
theorem dX3_peekName_43 : decode cX3_peekName 43 = .ok (.newarray .byte, 2) := dk_188_8 (dk_at dksX3_peekName_1 20 rfl rfl)
theorem dX3_peekName_45 : decode cX3_peekName 45 = .ok (.astore_n 1, 1) := dk_76 (dk_at dksX3_peekName_1 22 rfl rfl)
theorem dX3_peekName_46 : decode cX3_peekName 46 = .ok (.aload_n 0, 1) := dk_42 (dk_at dksX3_peekName_1 23 rfl rfl)
theorem dX3_peekName_47 : decode cX3_peekName 47 = .ok (.getfield 3, 3) := dk_180 0 3 (dk_at dksX3_peekName_2 0 rfl rfl)
theorem dX3_peekName_50 : decode cX3_peekName 50 = .ok (.getfield 28, 3) := dk_180 0 28 (dk_at dksX3_peekName_2 3 rfl rfl)
theorem dX3_peekName_53 : decode cX3_peekName 53 = .ok (.aload_n 0, 1) := dk_42 (dk_at dksX3_peekName_2 6 rfl rfl)
theorem dX3_peekName_54 : decode cX3_peekName 54 = .ok (.getfield 22, 3) := dk_180 0 22 (dk_at dksX3_peekName_2 7 rfl rfl)
theorem dX3_peekName_57 : decode cX3_peekName 57 = .ok (.aload_n 1, 1) := dk_43 (dk_at dksX3_peekName_2 10 rfl rfl)
theorem dX3_peekName_58 : decode cX3_peekName 58 = .ok (.iconst 0, 1) := dk_3 (dk_at dksX3_peekName_2 11 rfl rfl)
theorem dX3_peekName_59 : decode cX3_peekName 59 = .ok (.aload_n 1, 1) := dk_43 (dk_at dksX3_peekName_2 12 rfl rfl)
theorem dX3_peekName_60 : decode cX3_peekName 60 = .ok (.arraylength, 1) := dk_190 (dk_at dksX3_peekName_2 13 rfl rfl)
theorem dX3_peekName_61 : decode cX3_peekName 61 = .ok (.invokestatic 63, 3) := dk_184 0 63 (dk_at dksX3_peekName_2 14 rfl rfl)
theorem dX3_peekName_64 : decode cX3_peekName 64 = .ok (.aload_n 1, 1) := dk_43 (dk_at dksX3_peekName_2 17 rfl rfl)
theorem dX3_peekName_65 : decode cX3_peekName 65 = .ok (.areturn, 1) := dk_176 (dk_at dksX3_peekName_2 18 rfl rfl)
abbrev cX3_indexAmong : ByteArray := prog_4_method_5_code
def yX3_indexAmong : MethodName := ⟨RX3, "indexAmong", "([Ljava/lang/String;)I"⟩
def dkwX3_indexAmong_1 : List UInt8 := [167, 255, 235, 2, 172]
abbrev dktX3_indexAmong_1 : List UInt8 := dkwX3_indexAmong_1 ++ []
def dkwX3_indexAmong_0 : List UInt8 := [3, 61, 28, 43, 190, 162, 0, 21, 42, 43, 28, 50, 182, 0, 52, 153, 0, 5, 28, 172, 132, 2, 1]
abbrev dktX3_indexAmong_0 : List UInt8 := dkwX3_indexAmong_0 ++ dktX3_indexAmong_1
theorem dksX3_indexAmong_0 : cX3_indexAmong.data.toList.drop 0 = dktX3_indexAmong_0 := by decide +kernel
theorem dksX3_indexAmong_1 : cX3_indexAmong.data.toList.drop 23 = dktX3_indexAmong_1 := dk_seg dksX3_indexAmong_0 23 rfl rfl
theorem dX3_indexAmong_0 : decode cX3_indexAmong 0 = .ok (.iconst 0, 1) := dk_3 (dk_at dksX3_indexAmong_0 0 rfl rfl)
theorem dX3_indexAmong_1 : decode cX3_indexAmong 1 = .ok (.istore_n 2, 1) := dk_61 (dk_at dksX3_indexAmong_0 1 rfl rfl)
theorem dX3_indexAmong_2 : decode cX3_indexAmong 2 = .ok (.iload_n 2, 1) := dk_28 (dk_at dksX3_indexAmong_0 2 rfl rfl)
theorem dX3_indexAmong_3 : decode cX3_indexAmong 3 = .ok (.aload_n 1, 1) := dk_43 (dk_at dksX3_indexAmong_0 3 rfl rfl)
theorem dX3_indexAmong_4 : decode cX3_indexAmong 4 = .ok (.arraylength, 1) := dk_190 (dk_at dksX3_indexAmong_0 4 rfl rfl)
theorem dX3_indexAmong_5 : decode cX3_indexAmong 5 = .ok (.if_icmp .ge 21, 3) := dk_162 0 21 (dk_at dksX3_indexAmong_0 5 rfl rfl)
theorem dX3_indexAmong_8 : decode cX3_indexAmong 8 = .ok (.aload_n 0, 1) := dk_42 (dk_at dksX3_indexAmong_0 8 rfl rfl)
theorem dX3_indexAmong_9 : decode cX3_indexAmong 9 = .ok (.aload_n 1, 1) := dk_43 (dk_at dksX3_indexAmong_0 9 rfl rfl)
theorem dX3_indexAmong_10 : decode cX3_indexAmong 10 = .ok (.iload_n 2, 1) := dk_28 (dk_at dksX3_indexAmong_0 10 rfl rfl)
theorem dX3_indexAmong_11 : decode cX3_indexAmong 11 = .ok (.aaload, 1) := dk_50 (dk_at dksX3_indexAmong_0 11 rfl rfl)
theorem dX3_indexAmong_12 : decode cX3_indexAmong 12 = .ok (.invokevirtual 52, 3) := dk_182 0 52 (dk_at dksX3_indexAmong_0 12 rfl rfl)
theorem dX3_indexAmong_15 : decode cX3_indexAmong 15 = .ok (.ifCond .eq 5, 3) := dk_153 0 5 (dk_at dksX3_indexAmong_0 15 rfl rfl)
theorem dX3_indexAmong_18 : decode cX3_indexAmong 18 = .ok (.iload_n 2, 1) := dk_28 (dk_at dksX3_indexAmong_0 18 rfl rfl)
theorem dX3_indexAmong_19 : decode cX3_indexAmong 19 = .ok (.ireturn, 1) := dk_172 (dk_at dksX3_indexAmong_0 19 rfl rfl)
theorem dX3_indexAmong_20 : decode cX3_indexAmong 20 = .ok (.iinc 2 1, 3) := dk_132 2 1 (dk_at dksX3_indexAmong_0 20 rfl rfl)
theorem dX3_indexAmong_23 : decode cX3_indexAmong 23 = .ok (.goto (-21), 3) := dk_167 255 235 (dk_at dksX3_indexAmong_1 0 rfl rfl)
theorem dX3_indexAmong_26 : decode cX3_indexAmong 26 = .ok (.iconst (-1), 1) := dk_2 (dk_at dksX3_indexAmong_1 3 rfl rfl)
theorem dX3_indexAmong_27 : decode cX3_indexAmong 27 = .ok (.ireturn, 1) := dk_172 (dk_at dksX3_indexAmong_1 4 rfl rfl)
abbrev cX3_expectSibling : ByteArray := prog_4_method_12_code
def yX3_expectSibling : MethodName := ⟨RX3, "expectSibling", "()I"⟩
def dkwX3_expectSibling_1 : List UInt8 := [182, 0, 56, 191, 42, 182, 0, 15, 27, 172]
abbrev dktX3_expectSibling_1 : List UInt8 := dkwX3_expectSibling_1 ++ []
def dkwX3_expectSibling_0 : List UInt8 := [42, 180, 0, 3, 180, 0, 79, 42, 182, 0, 69, 182, 0, 73, 60, 27, 2, 160, 0, 9, 42, 6]
abbrev dktX3_expectSibling_0 : List UInt8 := dkwX3_expectSibling_0 ++ dktX3_expectSibling_1
theorem dksX3_expectSibling_0 : cX3_expectSibling.data.toList.drop 0 = dktX3_expectSibling_0 := by decide +kernel
theorem dksX3_expectSibling_1 : cX3_expectSibling.data.toList.drop 22 = dktX3_expectSibling_1 := dk_seg dksX3_expectSibling_0 22 rfl rfl
theorem dX3_expectSibling_0 : decode cX3_expectSibling 0 = .ok (.aload_n 0, 1) := dk_42 (dk_at dksX3_expectSibling_0 0 rfl rfl)
theorem dX3_expectSibling_1 : decode cX3_expectSibling 1 = .ok (.getfield 3, 3) := dk_180 0 3 (dk_at dksX3_expectSibling_0 1 rfl rfl)
theorem dX3_expectSibling_4 : decode cX3_expectSibling 4 = .ok (.getfield 79, 3) := dk_180 0 79 (dk_at dksX3_expectSibling_0 4 rfl rfl)
theorem dX3_expectSibling_7 : decode cX3_expectSibling 7 = .ok (.aload_n 0, 1) := dk_42 (dk_at dksX3_expectSibling_0 7 rfl rfl)
theorem dX3_expectSibling_8 : decode cX3_expectSibling 8 = .ok (.invokevirtual 69, 3) := dk_182 0 69 (dk_at dksX3_expectSibling_0 8 rfl rfl)
theorem dX3_expectSibling_11 : decode cX3_expectSibling 11 = .ok (.invokevirtual 73, 3) := dk_182 0 73 (dk_at dksX3_expectSibling_0 11 rfl rfl)
theorem dX3_expectSibling_14 : decode cX3_expectSibling 14 = .ok (.istore_n 1, 1) := dk_60 (dk_at dksX3_expectSibling_0 14 rfl rfl)
theorem dX3_expectSibling_15 : decode cX3_expectSibling 15 = .ok (.iload_n 1, 1) := dk_27 (dk_at dksX3_expectSibling_0 15 rfl rfl)
theorem dX3_expectSibling_16 : decode cX3_expectSibling 16 = .ok (.iconst (-1), 1) := dk_2 (dk_at dksX3_expectSibling_0 16 rfl rfl)
theorem dX3_expectSibling_17 : decode cX3_expectSibling 17 = .ok (.if_icmp .ne 9, 3) := dk_160 0 9 (dk_at dksX3_expectSibling_0 17 rfl rfl)
theorem dX3_expectSibling_20 : decode cX3_expectSibling 20 = .ok (.aload_n 0, 1) := dk_42 (dk_at dksX3_expectSibling_0 20 rfl rfl)
theorem dX3_expectSibling_21 : decode cX3_expectSibling 21 = .ok (.iconst 3, 1) := dk_6 (dk_at dksX3_expectSibling_0 21 rfl rfl)
theorem dX3_expectSibling_22 : decode cX3_expectSibling 22 = .ok (.invokevirtual 56, 3) := dk_182 0 56 (dk_at dksX3_expectSibling_1 0 rfl rfl)
theorem dX3_expectSibling_25 : decode cX3_expectSibling 25 = .ok (.athrow, 1) := dk_191 (dk_at dksX3_expectSibling_1 3 rfl rfl)
theorem dX3_expectSibling_26 : decode cX3_expectSibling 26 = .ok (.aload_n 0, 1) := dk_42 (dk_at dksX3_expectSibling_1 4 rfl rfl)
theorem dX3_expectSibling_27 : decode cX3_expectSibling 27 = .ok (.invokevirtual 15, 3) := dk_182 0 15 (dk_at dksX3_expectSibling_1 5 rfl rfl)
theorem dX3_expectSibling_30 : decode cX3_expectSibling 30 = .ok (.iload_n 1, 1) := dk_27 (dk_at dksX3_expectSibling_1 8 rfl rfl)
theorem dX3_expectSibling_31 : decode cX3_expectSibling 31 = .ok (.ireturn, 1) := dk_172 (dk_at dksX3_expectSibling_1 9 rfl rfl)
theorem q118 : (Jvm.Cond.initialized "CakeDivision$Scanner") ∈ lw_all := lw_g (lw_at lw_m1 23 rfl) rfl
theorem q557 : (Jvm.Cond.instantiable "CakeDivision$Scanner" (5 : Nat)) ∈ lw_all := lw_g (lw_at lw_m2 222 rfl) rfl
theorem q559 : (Jvm.Cond.instanceMethod ({ cls := "CakeDivision$Scanner", name := "<init>", desc := "(LCakeDivision;)V" } : Jvm.MethodName)) ∈ lw_all := lw_g (lw_at lw_m2 224 rfl) rfl
theorem q560 : (Jvm.Cond.code ({ cls := "CakeDivision$Scanner", name := "<init>", desc := "(LCakeDivision;)V" } : Jvm.MethodName) prog_4_method_1_code (2 : Nat) (Option.none : Option Jvm.ClassFile.FieldType)) ∈ lw_all := lw_g (lw_at lw_m2 225 rfl) rfl
theorem q561 : (Jvm.Cond.methodLink "CakeDivision$Scanner" (9 : Nat) ({ cls := "java/lang/Object", name := "<init>", desc := "()V" } : Jvm.MethodName)) ∈ lw_all := lw_g (lw_at lw_m2 226 rfl) rfl
theorem q562 : (Jvm.Cond.methodLink "CakeDivision$Scanner" (15 : Nat) ({ cls := "CakeDivision$Scanner", name := "advance", desc := "()V" } : Jvm.MethodName)) ∈ lw_all := lw_g (lw_at lw_m2 227 rfl) rfl
theorem q563 : (Jvm.Cond.instanceMethod ({ cls := "CakeDivision$Scanner", name := "advance", desc := "()V" } : Jvm.MethodName)) ∈ lw_all := lw_g (lw_at lw_m2 228 rfl) rfl
theorem q564 : (Jvm.Cond.selects "CakeDivision$Scanner" ({ cls := "CakeDivision$Scanner", name := "advance", desc := "()V" } : Jvm.MethodName) ({ cls := "CakeDivision$Scanner", name := "advance", desc := "()V" } : Jvm.MethodName)) ∈ lw_all := lw_g (lw_at lw_m2 229 rfl) rfl
theorem q565 : (Jvm.Cond.code ({ cls := "CakeDivision$Scanner", name := "advance", desc := "()V" } : Jvm.MethodName) prog_4_method_2_code (1 : Nat) (Option.none : Option Jvm.ClassFile.FieldType)) ∈ lw_all := lw_g (lw_at lw_m2 230 rfl) rfl
theorem q566 : (Jvm.Cond.fieldLink "CakeDivision$Scanner" (32 : Nat) "CakeDivision$Scanner" "kind" "I") ∈ lw_all := lw_g (lw_at lw_m2 231 rfl) rfl
theorem q568 : (Jvm.Cond.fieldLink "CakeDivision$Scanner" (22 : Nat) "CakeDivision$Scanner" "start" "I") ∈ lw_all := lw_g (lw_at lw_m2 233 rfl) rfl
theorem q569 : (Jvm.Cond.fieldLink "CakeDivision$Scanner" (18 : Nat) "CakeDivision$Scanner" "end" "I") ∈ lw_all := lw_g (lw_at lw_m2 234 rfl) rfl
theorem q570 : (Jvm.Cond.fieldLink "CakeDivision$Scanner" (35 : Nat) "CakeDivision$Scanner" "value" "I") ∈ lw_all := lw_g (lw_at lw_m2 235 rfl) rfl
theorem q571 : (Jvm.Cond.fieldLink "CakeDivision$Scanner" (3 : Nat) "CakeDivision$Scanner" "this$0" "LCakeDivision;") ∈ lw_all := lw_g (lw_at lw_m2 236 rfl) rfl
theorem q572 : (Jvm.Cond.lays "CakeDivision$Scanner" "CakeDivision$Scanner" "kind" "I") ∈ lw_all := lw_g (lw_at lw_m2 237 rfl) rfl
theorem q573 : (Jvm.Cond.soleField "CakeDivision$Scanner" "kind") ∈ lw_all := lw_g (lw_at lw_m2 238 rfl) rfl
theorem q574 : (Jvm.Cond.lays "CakeDivision$Scanner" "CakeDivision$Scanner" "start" "I") ∈ lw_all := lw_g (lw_at lw_m2 239 rfl) rfl
theorem q575 : (Jvm.Cond.soleField "CakeDivision$Scanner" "start") ∈ lw_all := lw_g (lw_at lw_m3 0 rfl) rfl
theorem q576 : (Jvm.Cond.lays "CakeDivision$Scanner" "CakeDivision$Scanner" "end" "I") ∈ lw_all := lw_g (lw_at lw_m3 1 rfl) rfl
theorem q577 : (Jvm.Cond.soleField "CakeDivision$Scanner" "end") ∈ lw_all := lw_g (lw_at lw_m3 2 rfl) rfl
theorem q578 : (Jvm.Cond.lays "CakeDivision$Scanner" "CakeDivision$Scanner" "value" "I") ∈ lw_all := lw_g (lw_at lw_m3 3 rfl) rfl
theorem q579 : (Jvm.Cond.soleField "CakeDivision$Scanner" "value") ∈ lw_all := lw_g (lw_at lw_m3 4 rfl) rfl
theorem q580 : (Jvm.Cond.laysFinal "CakeDivision$Scanner" "CakeDivision$Scanner" "this$0" "LCakeDivision;") ∈ lw_all := lw_g (lw_at lw_m3 5 rfl) rfl
theorem q581 : (Jvm.Cond.soleField "CakeDivision$Scanner" "this$0") ∈ lw_all := lw_g (lw_at lw_m3 6 rfl) rfl
theorem q582 : (Jvm.Cond.superclass "CakeDivision$Scanner" "java/lang/Object") ∈ lw_all := lw_g (lw_at lw_m3 7 rfl) rfl
theorem q589 : (Jvm.Cond.instanceMethod ({ cls := "CakeDivision$Scanner", name := "expectWord", desc := "(Ljava/lang/String;)V" } : Jvm.MethodName)) ∈ lw_all := lw_g (lw_at lw_m3 14 rfl) rfl
theorem q590 : (Jvm.Cond.selects "CakeDivision$Scanner" ({ cls := "CakeDivision$Scanner", name := "expectWord", desc := "(Ljava/lang/String;)V" } : Jvm.MethodName) ({ cls := "CakeDivision$Scanner", name := "expectWord", desc := "(Ljava/lang/String;)V" } : Jvm.MethodName)) ∈ lw_all := lw_g (lw_at lw_m3 15 rfl) rfl
theorem q591 : (Jvm.Cond.code ({ cls := "CakeDivision$Scanner", name := "expectWord", desc := "(Ljava/lang/String;)V" } : Jvm.MethodName) prog_4_method_6_code (2 : Nat) (Option.none : Option Jvm.ClassFile.FieldType)) ∈ lw_all := lw_g (lw_at lw_m3 16 rfl) rfl
theorem q592 : (Jvm.Cond.methodLink "CakeDivision$Scanner" (52 : Nat) ({ cls := "CakeDivision$Scanner", name := "isWord", desc := "(Ljava/lang/String;)Z" } : Jvm.MethodName)) ∈ lw_all := lw_g (lw_at lw_m3 17 rfl) rfl
theorem q593 : (Jvm.Cond.instanceMethod ({ cls := "CakeDivision$Scanner", name := "isWord", desc := "(Ljava/lang/String;)Z" } : Jvm.MethodName)) ∈ lw_all := lw_g (lw_at lw_m3 18 rfl) rfl
theorem q594 : (Jvm.Cond.selects "CakeDivision$Scanner" ({ cls := "CakeDivision$Scanner", name := "isWord", desc := "(Ljava/lang/String;)Z" } : Jvm.MethodName) ({ cls := "CakeDivision$Scanner", name := "isWord", desc := "(Ljava/lang/String;)Z" } : Jvm.MethodName)) ∈ lw_all := lw_g (lw_at lw_m3 19 rfl) rfl
theorem q595 : (Jvm.Cond.code ({ cls := "CakeDivision$Scanner", name := "isWord", desc := "(Ljava/lang/String;)Z" } : Jvm.MethodName) prog_4_method_4_code (3 : Nat) (Option.some Jvm.ClassFile.FieldType.boolean)) ∈ lw_all := lw_g (lw_at lw_m3 20 rfl) rfl
theorem q596 : (Jvm.Cond.methodLink "CakeDivision$Scanner" (43 : Nat) ({ cls := "java/lang/String", name := "length", desc := "()I" } : Jvm.MethodName)) ∈ lw_all := lw_g (lw_at lw_m3 21 rfl) rfl
theorem q597 : (Jvm.Cond.methodLink "CakeDivision$Scanner" (48 : Nat) ({ cls := "java/lang/String", name := "charAt", desc := "(I)C" } : Jvm.MethodName)) ∈ lw_all := lw_g (lw_at lw_m3 22 rfl) rfl
theorem q598 : (Jvm.Cond.methodLink "CakeDivision$Scanner" (56 : Nat) ({ cls := "CakeDivision$Scanner", name := "error", desc := "(I)LCakeDivision$TextError;" } : Jvm.MethodName)) ∈ lw_all := lw_g (lw_at lw_m3 23 rfl) rfl
theorem q599 : (Jvm.Cond.instanceMethod ({ cls := "CakeDivision$Scanner", name := "error", desc := "(I)LCakeDivision$TextError;" } : Jvm.MethodName)) ∈ lw_all := lw_g (lw_at lw_m3 24 rfl) rfl
theorem q600 : (Jvm.Cond.selects "CakeDivision$Scanner" ({ cls := "CakeDivision$Scanner", name := "error", desc := "(I)LCakeDivision$TextError;" } : Jvm.MethodName) ({ cls := "CakeDivision$Scanner", name := "error", desc := "(I)LCakeDivision$TextError;" } : Jvm.MethodName)) ∈ lw_all := lw_g (lw_at lw_m3 25 rfl) rfl
theorem q601 : (Jvm.Cond.code ({ cls := "CakeDivision$Scanner", name := "error", desc := "(I)LCakeDivision$TextError;" } : Jvm.MethodName) prog_4_method_3_code (2 : Nat) (Option.some (Jvm.ClassFile.FieldType.object "CakeDivision$TextError"))) ∈ lw_all := lw_g (lw_at lw_m3 26 rfl) rfl
theorem q602 : (Jvm.Cond.classLink "CakeDivision$Scanner" (38 : Nat) "CakeDivision$TextError") ∈ lw_all := lw_g (lw_at lw_m3 27 rfl) rfl
theorem q611 : (Jvm.Cond.methodLink "CakeDivision$Scanner" (40 : Nat) ({ cls := "CakeDivision$TextError", name := "<init>", desc := "(II)V" } : Jvm.MethodName)) ∈ lw_all := lw_g (lw_at lw_m3 36 rfl) rfl
theorem q629 : (Jvm.Cond.instanceMethod ({ cls := "CakeDivision$Scanner", name := "expectNumber", desc := "(II)I" } : Jvm.MethodName)) ∈ lw_all := lw_g (lw_at lw_m3 54 rfl) rfl
theorem q630 : (Jvm.Cond.selects "CakeDivision$Scanner" ({ cls := "CakeDivision$Scanner", name := "expectNumber", desc := "(II)I" } : Jvm.MethodName) ({ cls := "CakeDivision$Scanner", name := "expectNumber", desc := "(II)I" } : Jvm.MethodName)) ∈ lw_all := lw_g (lw_at lw_m3 55 rfl) rfl
theorem q631 : (Jvm.Cond.code ({ cls := "CakeDivision$Scanner", name := "expectNumber", desc := "(II)I" } : Jvm.MethodName) prog_4_method_9_code (3 : Nat) (Option.some Jvm.ClassFile.FieldType.int)) ∈ lw_all := lw_g (lw_at lw_m3 56 rfl) rfl
theorem q632 : (Jvm.Cond.methodLink "CakeDivision$Scanner" (60 : Nat) ({ cls := "CakeDivision$Scanner", name := "expectNumber", desc := "()I" } : Jvm.MethodName)) ∈ lw_all := lw_g (lw_at lw_m3 57 rfl) rfl
theorem q633 : (Jvm.Cond.instanceMethod ({ cls := "CakeDivision$Scanner", name := "expectNumber", desc := "()I" } : Jvm.MethodName)) ∈ lw_all := lw_g (lw_at lw_m3 58 rfl) rfl
theorem q634 : (Jvm.Cond.selects "CakeDivision$Scanner" ({ cls := "CakeDivision$Scanner", name := "expectNumber", desc := "()I" } : Jvm.MethodName) ({ cls := "CakeDivision$Scanner", name := "expectNumber", desc := "()I" } : Jvm.MethodName)) ∈ lw_all := lw_g (lw_at lw_m3 59 rfl) rfl
theorem q635 : (Jvm.Cond.code ({ cls := "CakeDivision$Scanner", name := "expectNumber", desc := "()I" } : Jvm.MethodName) prog_4_method_8_code (2 : Nat) (Option.some Jvm.ClassFile.FieldType.int)) ∈ lw_all := lw_g (lw_at lw_m3 60 rfl) rfl
theorem q637 : (Jvm.Cond.instanceMethod ({ cls := "CakeDivision$Scanner", name := "expectSemicolon", desc := "()V" } : Jvm.MethodName)) ∈ lw_all := lw_g (lw_at lw_m3 62 rfl) rfl
theorem q638 : (Jvm.Cond.selects "CakeDivision$Scanner" ({ cls := "CakeDivision$Scanner", name := "expectSemicolon", desc := "()V" } : Jvm.MethodName) ({ cls := "CakeDivision$Scanner", name := "expectSemicolon", desc := "()V" } : Jvm.MethodName)) ∈ lw_all := lw_g (lw_at lw_m3 63 rfl) rfl
theorem q639 : (Jvm.Cond.code ({ cls := "CakeDivision$Scanner", name := "expectSemicolon", desc := "()V" } : Jvm.MethodName) prog_4_method_7_code (1 : Nat) (Option.none : Option Jvm.ClassFile.FieldType)) ∈ lw_all := lw_g (lw_at lw_m3 64 rfl) rfl
theorem q652 : (Jvm.Cond.instanceMethod ({ cls := "CakeDivision$Scanner", name := "expectNewName", desc := "(LCakeDivision$State;)[B" } : Jvm.MethodName)) ∈ lw_all := lw_g (lw_at lw_m3 77 rfl) rfl
theorem q653 : (Jvm.Cond.selects "CakeDivision$Scanner" ({ cls := "CakeDivision$Scanner", name := "expectNewName", desc := "(LCakeDivision$State;)[B" } : Jvm.MethodName) ({ cls := "CakeDivision$Scanner", name := "expectNewName", desc := "(LCakeDivision$State;)[B" } : Jvm.MethodName)) ∈ lw_all := lw_g (lw_at lw_m3 78 rfl) rfl
theorem q654 : (Jvm.Cond.code ({ cls := "CakeDivision$Scanner", name := "expectNewName", desc := "(LCakeDivision$State;)[B" } : Jvm.MethodName) prog_4_method_11_code (3 : Nat) (Option.some (Jvm.ClassFile.FieldType.array Jvm.ClassFile.FieldType.byte))) ∈ lw_all := lw_g (lw_at lw_m3 79 rfl) rfl
theorem q655 : (Jvm.Cond.methodLink "CakeDivision$Scanner" (69 : Nat) ({ cls := "CakeDivision$Scanner", name := "peekName", desc := "()[B" } : Jvm.MethodName)) ∈ lw_all := lw_g (lw_at lw_m3 80 rfl) rfl
theorem q656 : (Jvm.Cond.privateMethod ({ cls := "CakeDivision$Scanner", name := "peekName", desc := "()[B" } : Jvm.MethodName)) ∈ lw_tbl := lw_at lw_m3 81 rfl
theorem q657 : (Jvm.Cond.instanceMethod ({ cls := "CakeDivision$Scanner", name := "peekName", desc := "()[B" } : Jvm.MethodName)) ∈ lw_all := lw_g (lw_at lw_m3 82 rfl) rfl
theorem q658 : (Jvm.Cond.code ({ cls := "CakeDivision$Scanner", name := "peekName", desc := "()[B" } : Jvm.MethodName) prog_4_method_10_code (2 : Nat) (Option.some (Jvm.ClassFile.FieldType.array Jvm.ClassFile.FieldType.byte))) ∈ lw_all := lw_g (lw_at lw_m3 83 rfl) rfl
theorem q659 : (Jvm.Cond.methodLink "CakeDivision$Scanner" (63 : Nat) ({ cls := "java/lang/System", name := "arraycopy", desc := "(Ljava/lang/Object;ILjava/lang/Object;II)V" } : Jvm.MethodName)) ∈ lw_all := lw_g (lw_at lw_m3 84 rfl) rfl
theorem q660 : (Jvm.Cond.methodLink "CakeDivision$Scanner" (73 : Nat) ({ cls := "CakeDivision$State", name := "siblingNamed", desc := "([B)I" } : Jvm.MethodName)) ∈ lw_all := lw_g (lw_at lw_m3 85 rfl) rfl
theorem q733 : (Jvm.Cond.selects "CakeDivision$Scanner" ({ cls := "java/lang/Object", name := "getClass", desc := "()Ljava/lang/Class;" } : Jvm.MethodName) ({ cls := "java/lang/Object", name := "getClass", desc := "()Ljava/lang/Class;" } : Jvm.MethodName)) ∈ lw_all := lw_g (lw_at lw_m3 158 rfl) rfl
theorem q755 : (Jvm.Cond.fieldLinkNest "CakeDivision$Scanner" (28 : Nat) "CakeDivision" "buffer" "[B" "CakeDivision") ∈ lw_tbl := lw_at lw_m3 180 rfl
theorem q756 : (Jvm.Cond.fieldLinkNest "CakeDivision$Scanner" (25 : Nat) "CakeDivision" "length" "I" "CakeDivision") ∈ lw_tbl := lw_at lw_m3 181 rfl
theorem q761 : (Jvm.Cond.fieldLinkNest "CakeDivision$Scanner" (79 : Nat) "CakeDivision" "state" "LCakeDivision$State;" "CakeDivision") ∈ lw_tbl := lw_at lw_m3 186 rfl
theorem q1520 : (Jvm.Cond.instanceMethod ({ cls := "CakeDivision$Scanner", name := "indexAmong", desc := "([Ljava/lang/String;)I" } : Jvm.MethodName)) ∈ lw_all := lw_g (lw_at lw_m6 225 rfl) rfl
theorem q1521 : (Jvm.Cond.selects "CakeDivision$Scanner" ({ cls := "CakeDivision$Scanner", name := "indexAmong", desc := "([Ljava/lang/String;)I" } : Jvm.MethodName) ({ cls := "CakeDivision$Scanner", name := "indexAmong", desc := "([Ljava/lang/String;)I" } : Jvm.MethodName)) ∈ lw_all := lw_g (lw_at lw_m6 226 rfl) rfl
theorem q1522 : (Jvm.Cond.code ({ cls := "CakeDivision$Scanner", name := "indexAmong", desc := "([Ljava/lang/String;)I" } : Jvm.MethodName) prog_4_method_5_code (3 : Nat) (Option.some Jvm.ClassFile.FieldType.int)) ∈ lw_all := lw_g (lw_at lw_m6 227 rfl) rfl
theorem q1529 : (Jvm.Cond.instanceMethod ({ cls := "CakeDivision$Scanner", name := "expectSibling", desc := "()I" } : Jvm.MethodName)) ∈ lw_all := lw_g (lw_at lw_m6 234 rfl) rfl
theorem q1530 : (Jvm.Cond.selects "CakeDivision$Scanner" ({ cls := "CakeDivision$Scanner", name := "expectSibling", desc := "()I" } : Jvm.MethodName) ({ cls := "CakeDivision$Scanner", name := "expectSibling", desc := "()I" } : Jvm.MethodName)) ∈ lw_all := lw_g (lw_at lw_m6 235 rfl) rfl
theorem q1531 : (Jvm.Cond.code ({ cls := "CakeDivision$Scanner", name := "expectSibling", desc := "()I" } : Jvm.MethodName) prog_4_method_12_code (2 : Nat) (Option.some Jvm.ClassFile.FieldType.int)) ∈ lw_all := lw_g (lw_at lw_m6 236 rfl) rfl
theorem q2172 : (Jvm.Cond.castable "CakeDivision$Scanner" "java/lang/Object") ∈ lw_tbl := lw_at lw_m9 157 rfl
theorem in_X3 : ∀ w ∈ wsX30, w ∈ lw_all := lw_in wsX30 [572, 574, 576, 578, 580] (by decide +kernel) (by decide +kernel)
/-! CakeDivision$TextError -/
set_option maxRecDepth 100000
def RX4 : String := "CakeDivision$TextError"
def TX4 : u_T := fun k => match k with
  | 0 => ("java/lang/Throwable", "cause", "Ljava/lang/Throwable;", false)
  | 1 => ("java/lang/Throwable", "stackTrace", "[Ljava/lang/StackTraceElement;", false)
  | 2 => ("java/lang/Throwable", "suppressedExceptions", "Ljava/util/List;", false)
  | 3 => ("java/lang/Throwable", "detailMessage", "Ljava/lang/String;", false)
  | 4 => ("java/lang/Throwable", "backtrace", "Ljava/lang/Object;", false)
  | 5 => ("java/lang/Throwable", "depth", "I", false)
  | 6 => ("CakeDivision$TextError", "code", "I", true)
  | _ => ("CakeDivision$TextError", "position", "I", true)
def tyX4 : Nat → FieldType := fun k => match k with
  | 0 => .object "java/lang/Throwable"
  | 1 => .array (.object "java/lang/StackTraceElement")
  | 2 => .object "java/util/List"
  | 3 => .object "java/lang/String"
  | 4 => .object "java/lang/Object"
  | 5 => .int
  | 6 => .int
  | _ => .int
abbrev wsX40 : List Cond := u_ws RX4 TX4 8
theorem nmX4 : ∀ a, a < 8 → ∀ b, b < 8 → a ≠ b → (TX4 a).2.1 ≠ (TX4 b).2.1 := by decide +kernel
theorem tyX4_ok : ∀ k, k < 8 → parseFieldDescriptor (TX4 k).2.2.1 = some (tyX4 k) := by decide +kernel
abbrev cX4_init : ByteArray := prog_7_method_1_code
def yX4_init : MethodName := ⟨RX4, "<init>", "(II)V"⟩
def dkwX4_init_0 : List UInt8 := [42, 183, 0, 1, 42, 27, 181, 0, 7, 42, 28, 181, 0, 13, 177]
abbrev dktX4_init_0 : List UInt8 := dkwX4_init_0 ++ []
theorem dksX4_init_0 : cX4_init.data.toList.drop 0 = dktX4_init_0 := by decide +kernel
theorem dX4_init_0 : decode cX4_init 0 = .ok (.aload_n 0, 1) := dk_42 (dk_at dksX4_init_0 0 rfl rfl)
theorem dX4_init_1 : decode cX4_init 1 = .ok (.invokespecial 1, 3) := dk_183 0 1 (dk_at dksX4_init_0 1 rfl rfl)
theorem dX4_init_4 : decode cX4_init 4 = .ok (.aload_n 0, 1) := dk_42 (dk_at dksX4_init_0 4 rfl rfl)
theorem dX4_init_5 : decode cX4_init 5 = .ok (.iload_n 1, 1) := dk_27 (dk_at dksX4_init_0 5 rfl rfl)
theorem dX4_init_6 : decode cX4_init 6 = .ok (.putfield 7, 3) := dk_181 0 7 (dk_at dksX4_init_0 6 rfl rfl)
theorem dX4_init_9 : decode cX4_init 9 = .ok (.aload_n 0, 1) := dk_42 (dk_at dksX4_init_0 9 rfl rfl)
theorem dX4_init_10 : decode cX4_init 10 = .ok (.iload_n 2, 1) := dk_28 (dk_at dksX4_init_0 10 rfl rfl)
theorem dX4_init_11 : decode cX4_init 11 = .ok (.putfield 13, 3) := dk_181 0 13 (dk_at dksX4_init_0 11 rfl rfl)
theorem dX4_init_14 : decode cX4_init 14 = .ok (.return_, 1) := dk_177 (dk_at dksX4_init_0 14 rfl rfl)
theorem q119 : (Jvm.Cond.initialized "CakeDivision$TextError") ∈ lw_all := lw_g (lw_at lw_m1 24 rfl) rfl
theorem q197 : (Jvm.Cond.selects "CakeDivision$TextError" ({ cls := "java/lang/Throwable", name := "fillInStackTrace", desc := "()Ljava/lang/Throwable;" } : Jvm.MethodName) ({ cls := "java/lang/Throwable", name := "fillInStackTrace", desc := "()Ljava/lang/Throwable;" } : Jvm.MethodName)) ∈ lw_all := lw_g (lw_at lw_m1 102 rfl) rfl
theorem q603 : (Jvm.Cond.instantiable "CakeDivision$TextError" (8 : Nat)) ∈ lw_all := lw_g (lw_at lw_m3 28 rfl) rfl
theorem q604 : (Jvm.Cond.castable "CakeDivision$TextError" "CakeDivision$TextError") ∈ lw_tbl := lw_at lw_m3 29 rfl
theorem q605 : (Jvm.Cond.selects "CakeDivision$TextError" ({ cls := "java/lang/Throwable", name := "fillInStackTrace", desc := "(I)Ljava/lang/Throwable;" } : Jvm.MethodName) ({ cls := "java/lang/Throwable", name := "fillInStackTrace", desc := "(I)Ljava/lang/Throwable;" } : Jvm.MethodName)) ∈ lw_all := lw_g (lw_at lw_m3 30 rfl) rfl
theorem q606 : (Jvm.Cond.lays "CakeDivision$TextError" "java/lang/Throwable" "cause" "Ljava/lang/Throwable;") ∈ lw_all := lw_g (lw_at lw_m3 31 rfl) rfl
theorem q607 : (Jvm.Cond.lays "CakeDivision$TextError" "java/lang/Throwable" "stackTrace" "[Ljava/lang/StackTraceElement;") ∈ lw_all := lw_g (lw_at lw_m3 32 rfl) rfl
theorem q608 : (Jvm.Cond.lays "CakeDivision$TextError" "java/lang/Throwable" "suppressedExceptions" "Ljava/util/List;") ∈ lw_all := lw_g (lw_at lw_m3 33 rfl) rfl
theorem q609 : (Jvm.Cond.lays "CakeDivision$TextError" "java/lang/Throwable" "detailMessage" "Ljava/lang/String;") ∈ lw_all := lw_g (lw_at lw_m3 34 rfl) rfl
theorem q610 : (Jvm.Cond.lays "CakeDivision$TextError" "java/lang/Throwable" "backtrace" "Ljava/lang/Object;") ∈ lw_all := lw_g (lw_at lw_m3 35 rfl) rfl
theorem q612 : (Jvm.Cond.instanceMethod ({ cls := "CakeDivision$TextError", name := "<init>", desc := "(II)V" } : Jvm.MethodName)) ∈ lw_all := lw_g (lw_at lw_m3 37 rfl) rfl
theorem q613 : (Jvm.Cond.code ({ cls := "CakeDivision$TextError", name := "<init>", desc := "(II)V" } : Jvm.MethodName) prog_7_method_1_code (3 : Nat) (Option.none : Option Jvm.ClassFile.FieldType)) ∈ lw_all := lw_g (lw_at lw_m3 38 rfl) rfl
theorem q614 : (Jvm.Cond.methodLink "CakeDivision$TextError" (1 : Nat) ({ cls := "java/lang/Exception", name := "<init>", desc := "()V" } : Jvm.MethodName)) ∈ lw_all := lw_g (lw_at lw_m3 39 rfl) rfl
theorem q618 : (Jvm.Cond.fieldLink "CakeDivision$TextError" (7 : Nat) "CakeDivision$TextError" "code" "I") ∈ lw_all := lw_g (lw_at lw_m3 43 rfl) rfl
theorem q620 : (Jvm.Cond.fieldLink "CakeDivision$TextError" (13 : Nat) "CakeDivision$TextError" "position" "I") ∈ lw_all := lw_g (lw_at lw_m3 45 rfl) rfl
theorem q622 : (Jvm.Cond.laysFinal "CakeDivision$TextError" "CakeDivision$TextError" "code" "I") ∈ lw_all := lw_g (lw_at lw_m3 47 rfl) rfl
theorem q623 : (Jvm.Cond.soleField "CakeDivision$TextError" "code") ∈ lw_all := lw_g (lw_at lw_m3 48 rfl) rfl
theorem q624 : (Jvm.Cond.laysFinal "CakeDivision$TextError" "CakeDivision$TextError" "position" "I") ∈ lw_all := lw_g (lw_at lw_m3 49 rfl) rfl
theorem q625 : (Jvm.Cond.soleField "CakeDivision$TextError" "position") ∈ lw_all := lw_g (lw_at lw_m3 50 rfl) rfl
theorem q626 : (Jvm.Cond.lays "CakeDivision$TextError" "java/lang/Throwable" "depth" "I") ∈ lw_all := lw_g (lw_at lw_m3 51 rfl) rfl
theorem q627 : (Jvm.Cond.superclass "CakeDivision$TextError" "java/lang/Exception") ∈ lw_all := lw_g (lw_at lw_m3 52 rfl) rfl
theorem q736 : (Jvm.Cond.selects "CakeDivision$TextError" ({ cls := "java/lang/Object", name := "getClass", desc := "()Ljava/lang/Class;" } : Jvm.MethodName) ({ cls := "java/lang/Object", name := "getClass", desc := "()Ljava/lang/Class;" } : Jvm.MethodName)) ∈ lw_all := lw_g (lw_at lw_m3 161 rfl) rfl
theorem q2173 : (Jvm.Cond.castable "CakeDivision$TextError" "java/lang/Object") ∈ lw_tbl := lw_at lw_m9 158 rfl
theorem in_X4 : ∀ w ∈ wsX40, w ∈ lw_all := lw_in wsX40 [606, 607, 608, 609, 610, 626, 622, 624] (by decide +kernel) (by decide +kernel)
/-! CakeDivision$EnvyCycle -/
set_option maxRecDepth 100000
def RX7 : String := "CakeDivision$EnvyCycle"
def TX7 : u_T := fun k => match k with
  | 0 => ("CakeDivision$EnvyCycle", "state", "LCakeDivision$State;", true)
  | 1 => ("CakeDivision$EnvyCycle", "goal", "I", true)
  | 2 => ("CakeDivision$EnvyCycle", "distances", "[I", true)
  | _ => ("CakeDivision$EnvyCycle", "length", "I", true)
def tyX7 : Nat → FieldType := fun k => match k with
  | 0 => .object "CakeDivision$State"
  | 1 => .int
  | 2 => .array .int
  | _ => .int
abbrev wsX70 : List Cond := u_ws RX7 TX7 4
theorem nmX7 : ∀ a, a < 4 → ∀ b, b < 4 → a ≠ b → (TX7 a).2.1 ≠ (TX7 b).2.1 := by decide +kernel
theorem tyX7_ok : ∀ k, k < 4 → parseFieldDescriptor (TX7 k).2.2.1 = some (tyX7 k) := by decide +kernel
abbrev cX7_init : ByteArray := prog_3_method_1_code
def yX7_init : MethodName := ⟨RX7, "<init>", "(LCakeDivision$State;I)V"⟩
def dkwX7_init_0 : List UInt8 := [42, 43, 28, 16, 6, 188, 10, 183, 0, 3, 177]
abbrev dktX7_init_0 : List UInt8 := dkwX7_init_0 ++ []
theorem dksX7_init_0 : cX7_init.data.toList.drop 0 = dktX7_init_0 := by decide +kernel
theorem dX7_init_0 : decode cX7_init 0 = .ok (.aload_n 0, 1) := dk_42 (dk_at dksX7_init_0 0 rfl rfl)
theorem dX7_init_1 : decode cX7_init 1 = .ok (.aload_n 1, 1) := dk_43 (dk_at dksX7_init_0 1 rfl rfl)
theorem dX7_init_2 : decode cX7_init 2 = .ok (.iload_n 2, 1) := dk_28 (dk_at dksX7_init_0 2 rfl rfl)
theorem dX7_init_3 : decode cX7_init 3 = .ok (.bipush 6, 2) := dk_16 6 (dk_at dksX7_init_0 3 rfl rfl)
theorem dX7_init_5 : decode cX7_init 5 = .ok (.newarray .int, 2) := dk_188_10 (dk_at dksX7_init_0 5 rfl rfl)
theorem dX7_init_7 : decode cX7_init 7 = .ok (.invokespecial 3, 3) := dk_183 0 3 (dk_at dksX7_init_0 7 rfl rfl)
theorem dX7_init_10 : decode cX7_init 10 = .ok (.return_, 1) := dk_177 (dk_at dksX7_init_0 10 rfl rfl)
abbrev cX7_init_2 : ByteArray := prog_3_method_2_code
def yX7_init_2 : MethodName := ⟨RX7, "<init>", "(LCakeDivision$State;I[I)V"⟩
def dkwX7_init_2_4 : List UInt8 := [46, 4, 96, 181, 0, 40, 177]
abbrev dktX7_init_2_4 : List UInt8 := dkwX7_init_2_4 ++ []
def dkwX7_init_2_3 : List UInt8 := [167, 255, 238, 42, 28, 182, 0, 36, 54, 4, 42, 21, 4, 2, 160, 0, 7, 2, 167, 0, 9, 45, 21, 4]
abbrev dktX7_init_2_3 : List UInt8 := dkwX7_init_2_3 ++ dktX7_init_2_4
def dkwX7_init_2_2 : List UInt8 := [167, 255, 231, 3, 54, 4, 21, 4, 43, 182, 0, 26, 162, 0, 15, 42, 21, 4, 182, 0, 32, 132, 4, 1]
abbrev dktX7_init_2_2 : List UInt8 := dkwX7_init_2_2 ++ dktX7_init_2_3
def dkwX7_init_2_1 : List UInt8 := [16, 6, 162, 0, 24, 45, 21, 4, 21, 4, 28, 160, 0, 7, 3, 167, 0, 4, 2, 79, 132, 4, 1]
abbrev dktX7_init_2_1 : List UInt8 := dkwX7_init_2_1 ++ dktX7_init_2_2
def dkwX7_init_2_0 : List UInt8 := [42, 183, 0, 9, 42, 43, 181, 0, 14, 42, 28, 181, 0, 18, 42, 45, 181, 0, 22, 3, 54, 4, 21, 4]
abbrev dktX7_init_2_0 : List UInt8 := dkwX7_init_2_0 ++ dktX7_init_2_1
theorem dksX7_init_2_0 : cX7_init_2.data.toList.drop 0 = dktX7_init_2_0 := by decide +kernel
theorem dksX7_init_2_1 : cX7_init_2.data.toList.drop 24 = dktX7_init_2_1 := dk_seg dksX7_init_2_0 24 rfl rfl
theorem dksX7_init_2_2 : cX7_init_2.data.toList.drop 47 = dktX7_init_2_2 := dk_seg dksX7_init_2_1 23 rfl rfl
theorem dksX7_init_2_3 : cX7_init_2.data.toList.drop 71 = dktX7_init_2_3 := dk_seg dksX7_init_2_2 24 rfl rfl
theorem dksX7_init_2_4 : cX7_init_2.data.toList.drop 95 = dktX7_init_2_4 := dk_seg dksX7_init_2_3 24 rfl rfl
theorem dX7_init_2_0 : decode cX7_init_2 0 = .ok (.aload_n 0, 1) := dk_42 (dk_at dksX7_init_2_0 0 rfl rfl)
theorem dX7_init_2_1 : decode cX7_init_2 1 = .ok (.invokespecial 9, 3) := dk_183 0 9 (dk_at dksX7_init_2_0 1 rfl rfl)
theorem dX7_init_2_4 : decode cX7_init_2 4 = .ok (.aload_n 0, 1) := dk_42 (dk_at dksX7_init_2_0 4 rfl rfl)
theorem dX7_init_2_5 : decode cX7_init_2 5 = .ok (.aload_n 1, 1) := dk_43 (dk_at dksX7_init_2_0 5 rfl rfl)
theorem dX7_init_2_6 : decode cX7_init_2 6 = .ok (.putfield 14, 3) := dk_181 0 14 (dk_at dksX7_init_2_0 6 rfl rfl)
theorem dX7_init_2_9 : decode cX7_init_2 9 = .ok (.aload_n 0, 1) := dk_42 (dk_at dksX7_init_2_0 9 rfl rfl)
theorem dX7_init_2_10 : decode cX7_init_2 10 = .ok (.iload_n 2, 1) := dk_28 (dk_at dksX7_init_2_0 10 rfl rfl)
theorem dX7_init_2_11 : decode cX7_init_2 11 = .ok (.putfield 18, 3) := dk_181 0 18 (dk_at dksX7_init_2_0 11 rfl rfl)
theorem dX7_init_2_14 : decode cX7_init_2 14 = .ok (.aload_n 0, 1) := dk_42 (dk_at dksX7_init_2_0 14 rfl rfl)
theorem dX7_init_2_15 : decode cX7_init_2 15 = .ok (.aload_n 3, 1) := dk_45 (dk_at dksX7_init_2_0 15 rfl rfl)
theorem dX7_init_2_16 : decode cX7_init_2 16 = .ok (.putfield 22, 3) := dk_181 0 22 (dk_at dksX7_init_2_0 16 rfl rfl)
theorem dX7_init_2_19 : decode cX7_init_2 19 = .ok (.iconst 0, 1) := dk_3 (dk_at dksX7_init_2_0 19 rfl rfl)
theorem dX7_init_2_20 : decode cX7_init_2 20 = .ok (.istore 4, 2) := dk_54 4 (dk_at dksX7_init_2_0 20 rfl rfl)
theorem dX7_init_2_22 : decode cX7_init_2 22 = .ok (.iload 4, 2) := dk_21 4 (dk_at dksX7_init_2_0 22 rfl rfl)
theorem dX7_init_2_24 : decode cX7_init_2 24 = .ok (.bipush 6, 2) := dk_16 6 (dk_at dksX7_init_2_1 0 rfl rfl)
theorem dX7_init_2_26 : decode cX7_init_2 26 = .ok (.if_icmp .ge 24, 3) := dk_162 0 24 (dk_at dksX7_init_2_1 2 rfl rfl)
theorem dX7_init_2_29 : decode cX7_init_2 29 = .ok (.aload_n 3, 1) := dk_45 (dk_at dksX7_init_2_1 5 rfl rfl)
theorem dX7_init_2_30 : decode cX7_init_2 30 = .ok (.iload 4, 2) := dk_21 4 (dk_at dksX7_init_2_1 6 rfl rfl)
theorem dX7_init_2_32 : decode cX7_init_2 32 = .ok (.iload 4, 2) := dk_21 4 (dk_at dksX7_init_2_1 8 rfl rfl)
theorem dX7_init_2_34 : decode cX7_init_2 34 = .ok (.iload_n 2, 1) := dk_28 (dk_at dksX7_init_2_1 10 rfl rfl)
theorem dX7_init_2_35 : decode cX7_init_2 35 = .ok (.if_icmp .ne 7, 3) := dk_160 0 7 (dk_at dksX7_init_2_1 11 rfl rfl)
theorem dX7_init_2_38 : decode cX7_init_2 38 = .ok (.iconst 0, 1) := dk_3 (dk_at dksX7_init_2_1 14 rfl rfl)
theorem dX7_init_2_39 : decode cX7_init_2 39 = .ok (.goto 4, 3) := dk_167 0 4 (dk_at dksX7_init_2_1 15 rfl rfl)
theorem dX7_init_2_42 : decode cX7_init_2 42 = .ok (.iconst (-1), 1) := dk_2 (dk_at dksX7_init_2_1 18 rfl rfl)
theorem dX7_init_2_43 : decode cX7_init_2 43 = .ok (.iastore, 1) := dk_79 (dk_at dksX7_init_2_1 19 rfl rfl)
theorem dX7_init_2_44 : decode cX7_init_2 44 = .ok (.iinc 4 1, 3) := dk_132 4 1 (dk_at dksX7_init_2_1 20 rfl rfl)
theorem dX7_init_2_47 : decode cX7_init_2 47 = .ok (.goto (-25), 3) := dk_167 255 231 (dk_at dksX7_init_2_2 0 rfl rfl)
theorem dX7_init_2_50 : decode cX7_init_2 50 = .ok (.iconst 0, 1) := dk_3 (dk_at dksX7_init_2_2 3 rfl rfl)
theorem dX7_init_2_51 : decode cX7_init_2 51 = .ok (.istore 4, 2) := dk_54 4 (dk_at dksX7_init_2_2 4 rfl rfl)
theorem dX7_init_2_53 : decode cX7_init_2 53 = .ok (.iload 4, 2) := dk_21 4 (dk_at dksX7_init_2_2 6 rfl rfl)
theorem dX7_init_2_55 : decode cX7_init_2 55 = .ok (.aload_n 1, 1) := dk_43 (dk_at dksX7_init_2_2 8 rfl rfl)
theorem dX7_init_2_56 : decode cX7_init_2 56 = .ok (.invokevirtual 26, 3) := dk_182 0 26 (dk_at dksX7_init_2_2 9 rfl rfl)
theorem dX7_init_2_59 : decode cX7_init_2 59 = .ok (.if_icmp .ge 15, 3) := dk_162 0 15 (dk_at dksX7_init_2_2 12 rfl rfl)
theorem dX7_init_2_62 : decode cX7_init_2 62 = .ok (.aload_n 0, 1) := dk_42 (dk_at dksX7_init_2_2 15 rfl rfl)
theorem dX7_init_2_63 : decode cX7_init_2 63 = .ok (.iload 4, 2) := dk_21 4 (dk_at dksX7_init_2_2 16 rfl rfl)
theorem dX7_init_2_65 : decode cX7_init_2 65 = .ok (.invokevirtual 32, 3) := dk_182 0 32 (dk_at dksX7_init_2_2 18 rfl rfl)
theorem dX7_init_2_68 : decode cX7_init_2 68 = .ok (.iinc 4 1, 3) := dk_132 4 1 (dk_at dksX7_init_2_2 21 rfl rfl)
theorem dX7_init_2_71 : decode cX7_init_2 71 = .ok (.goto (-18), 3) := dk_167 255 238 (dk_at dksX7_init_2_3 0 rfl rfl)
theorem dX7_init_2_74 : decode cX7_init_2 74 = .ok (.aload_n 0, 1) := dk_42 (dk_at dksX7_init_2_3 3 rfl rfl)
theorem dX7_init_2_75 : decode cX7_init_2 75 = .ok (.iload_n 2, 1) := dk_28 (dk_at dksX7_init_2_3 4 rfl rfl)
theorem dX7_init_2_76 : decode cX7_init_2 76 = .ok (.invokevirtual 36, 3) := dk_182 0 36 (dk_at dksX7_init_2_3 5 rfl rfl)
theorem dX7_init_2_79 : decode cX7_init_2 79 = .ok (.istore 4, 2) := dk_54 4 (dk_at dksX7_init_2_3 8 rfl rfl)
theorem dX7_init_2_81 : decode cX7_init_2 81 = .ok (.aload_n 0, 1) := dk_42 (dk_at dksX7_init_2_3 10 rfl rfl)
theorem dX7_init_2_82 : decode cX7_init_2 82 = .ok (.iload 4, 2) := dk_21 4 (dk_at dksX7_init_2_3 11 rfl rfl)
theorem dX7_init_2_84 : decode cX7_init_2 84 = .ok (.iconst (-1), 1) := dk_2 (dk_at dksX7_init_2_3 13 rfl rfl)
theorem dX7_init_2_85 : decode cX7_init_2 85 = .ok (.if_icmp .ne 7, 3) := dk_160 0 7 (dk_at dksX7_init_2_3 14 rfl rfl)
theorem dX7_init_2_88 : decode cX7_init_2 88 = .ok (.iconst (-1), 1) := dk_2 (dk_at dksX7_init_2_3 17 rfl rfl)
theorem dX7_init_2_89 : decode cX7_init_2 89 = .ok (.goto 9, 3) := dk_167 0 9 (dk_at dksX7_init_2_3 18 rfl rfl)
theorem dX7_init_2_92 : decode cX7_init_2 92 = .ok (.aload_n 3, 1) := dk_45 (dk_at dksX7_init_2_3 21 rfl rfl)
theorem dX7_init_2_93 : decode cX7_init_2 93 = .ok (.iload 4, 2) := dk_21 4 (dk_at dksX7_init_2_3 22 rfl rfl)
theorem dX7_init_2_95 : decode cX7_init_2 95 = .ok (.iaload, 1) := dk_46 (dk_at dksX7_init_2_4 0 rfl rfl)
theorem dX7_init_2_96 : decode cX7_init_2 96 = .ok (.iconst 1, 1) := dk_4 (dk_at dksX7_init_2_4 1 rfl rfl)
theorem dX7_init_2_97 : decode cX7_init_2 97 = .ok (.iadd, 1) := dk_96 (dk_at dksX7_init_2_4 2 rfl rfl)
theorem dX7_init_2_98 : decode cX7_init_2 98 = .ok (.putfield 40, 3) := dk_181 0 40 (dk_at dksX7_init_2_4 3 rfl rfl)
theorem dX7_init_2_101 : decode cX7_init_2 101 = .ok (.return_, 1) := dk_177 (dk_at dksX7_init_2_4 6 rfl rfl)
abbrev cX7_spread : ByteArray := prog_3_method_3_code
def yX7_spread : MethodName := ⟨RX7, "spread", "(I)V"⟩
def dkwX7_spread_3 : List UInt8 := [180, 0, 22, 28, 46, 79, 132, 3, 1, 167, 255, 192, 132, 2, 1, 167, 255, 173, 177]
abbrev dktX7_spread_3 : List UInt8 := dkwX7_spread_3 ++ []
def dkwX7_spread_2 : List UInt8 := [27, 160, 0, 21, 42, 180, 0, 14, 28, 29, 182, 0, 43, 153, 0, 9, 27, 4, 96, 167, 0, 9, 42]
abbrev dktX7_spread_2 : List UInt8 := dkwX7_spread_2 ++ dktX7_spread_3
def dkwX7_spread_1 : List UInt8 := [162, 0, 59, 42, 180, 0, 22, 28, 46, 2, 160, 0, 49, 42, 180, 0, 22, 28, 42, 180, 0, 22, 29, 46]
abbrev dktX7_spread_1 : List UInt8 := dkwX7_spread_1 ++ dktX7_spread_2
def dkwX7_spread_0 : List UInt8 := [3, 61, 28, 42, 180, 0, 14, 182, 0, 26, 162, 0, 78, 3, 62, 29, 42, 180, 0, 14, 182, 0, 26]
abbrev dktX7_spread_0 : List UInt8 := dkwX7_spread_0 ++ dktX7_spread_1
theorem dksX7_spread_0 : cX7_spread.data.toList.drop 0 = dktX7_spread_0 := by decide +kernel
theorem dksX7_spread_1 : cX7_spread.data.toList.drop 23 = dktX7_spread_1 := dk_seg dksX7_spread_0 23 rfl rfl
theorem dksX7_spread_2 : cX7_spread.data.toList.drop 47 = dktX7_spread_2 := dk_seg dksX7_spread_1 24 rfl rfl
theorem dksX7_spread_3 : cX7_spread.data.toList.drop 70 = dktX7_spread_3 := dk_seg dksX7_spread_2 23 rfl rfl
theorem dX7_spread_0 : decode cX7_spread 0 = .ok (.iconst 0, 1) := dk_3 (dk_at dksX7_spread_0 0 rfl rfl)
theorem dX7_spread_1 : decode cX7_spread 1 = .ok (.istore_n 2, 1) := dk_61 (dk_at dksX7_spread_0 1 rfl rfl)
theorem dX7_spread_2 : decode cX7_spread 2 = .ok (.iload_n 2, 1) := dk_28 (dk_at dksX7_spread_0 2 rfl rfl)
theorem dX7_spread_3 : decode cX7_spread 3 = .ok (.aload_n 0, 1) := dk_42 (dk_at dksX7_spread_0 3 rfl rfl)
theorem dX7_spread_4 : decode cX7_spread 4 = .ok (.getfield 14, 3) := dk_180 0 14 (dk_at dksX7_spread_0 4 rfl rfl)
theorem dX7_spread_7 : decode cX7_spread 7 = .ok (.invokevirtual 26, 3) := dk_182 0 26 (dk_at dksX7_spread_0 7 rfl rfl)
theorem dX7_spread_10 : decode cX7_spread 10 = .ok (.if_icmp .ge 78, 3) := dk_162 0 78 (dk_at dksX7_spread_0 10 rfl rfl)
theorem dX7_spread_13 : decode cX7_spread 13 = .ok (.iconst 0, 1) := dk_3 (dk_at dksX7_spread_0 13 rfl rfl)
theorem dX7_spread_14 : decode cX7_spread 14 = .ok (.istore_n 3, 1) := dk_62 (dk_at dksX7_spread_0 14 rfl rfl)
theorem dX7_spread_15 : decode cX7_spread 15 = .ok (.iload_n 3, 1) := dk_29 (dk_at dksX7_spread_0 15 rfl rfl)
theorem dX7_spread_16 : decode cX7_spread 16 = .ok (.aload_n 0, 1) := dk_42 (dk_at dksX7_spread_0 16 rfl rfl)
theorem dX7_spread_17 : decode cX7_spread 17 = .ok (.getfield 14, 3) := dk_180 0 14 (dk_at dksX7_spread_0 17 rfl rfl)
theorem dX7_spread_20 : decode cX7_spread 20 = .ok (.invokevirtual 26, 3) := dk_182 0 26 (dk_at dksX7_spread_0 20 rfl rfl)
theorem dX7_spread_23 : decode cX7_spread 23 = .ok (.if_icmp .ge 59, 3) := dk_162 0 59 (dk_at dksX7_spread_1 0 rfl rfl)
theorem dX7_spread_26 : decode cX7_spread 26 = .ok (.aload_n 0, 1) := dk_42 (dk_at dksX7_spread_1 3 rfl rfl)
theorem dX7_spread_27 : decode cX7_spread 27 = .ok (.getfield 22, 3) := dk_180 0 22 (dk_at dksX7_spread_1 4 rfl rfl)
theorem dX7_spread_30 : decode cX7_spread 30 = .ok (.iload_n 2, 1) := dk_28 (dk_at dksX7_spread_1 7 rfl rfl)
theorem dX7_spread_31 : decode cX7_spread 31 = .ok (.iaload, 1) := dk_46 (dk_at dksX7_spread_1 8 rfl rfl)
theorem dX7_spread_32 : decode cX7_spread 32 = .ok (.iconst (-1), 1) := dk_2 (dk_at dksX7_spread_1 9 rfl rfl)
theorem dX7_spread_33 : decode cX7_spread 33 = .ok (.if_icmp .ne 49, 3) := dk_160 0 49 (dk_at dksX7_spread_1 10 rfl rfl)
theorem dX7_spread_36 : decode cX7_spread 36 = .ok (.aload_n 0, 1) := dk_42 (dk_at dksX7_spread_1 13 rfl rfl)
theorem dX7_spread_37 : decode cX7_spread 37 = .ok (.getfield 22, 3) := dk_180 0 22 (dk_at dksX7_spread_1 14 rfl rfl)
theorem dX7_spread_40 : decode cX7_spread 40 = .ok (.iload_n 2, 1) := dk_28 (dk_at dksX7_spread_1 17 rfl rfl)
theorem dX7_spread_41 : decode cX7_spread 41 = .ok (.aload_n 0, 1) := dk_42 (dk_at dksX7_spread_1 18 rfl rfl)
theorem dX7_spread_42 : decode cX7_spread 42 = .ok (.getfield 22, 3) := dk_180 0 22 (dk_at dksX7_spread_1 19 rfl rfl)
theorem dX7_spread_45 : decode cX7_spread 45 = .ok (.iload_n 3, 1) := dk_29 (dk_at dksX7_spread_1 22 rfl rfl)
theorem dX7_spread_46 : decode cX7_spread 46 = .ok (.iaload, 1) := dk_46 (dk_at dksX7_spread_1 23 rfl rfl)
theorem dX7_spread_47 : decode cX7_spread 47 = .ok (.iload_n 1, 1) := dk_27 (dk_at dksX7_spread_2 0 rfl rfl)
theorem dX7_spread_48 : decode cX7_spread 48 = .ok (.if_icmp .ne 21, 3) := dk_160 0 21 (dk_at dksX7_spread_2 1 rfl rfl)
theorem dX7_spread_51 : decode cX7_spread 51 = .ok (.aload_n 0, 1) := dk_42 (dk_at dksX7_spread_2 4 rfl rfl)
theorem dX7_spread_52 : decode cX7_spread 52 = .ok (.getfield 14, 3) := dk_180 0 14 (dk_at dksX7_spread_2 5 rfl rfl)
theorem dX7_spread_55 : decode cX7_spread 55 = .ok (.iload_n 2, 1) := dk_28 (dk_at dksX7_spread_2 8 rfl rfl)
theorem dX7_spread_56 : decode cX7_spread 56 = .ok (.iload_n 3, 1) := dk_29 (dk_at dksX7_spread_2 9 rfl rfl)
theorem dX7_spread_57 : decode cX7_spread 57 = .ok (.invokevirtual 43, 3) := dk_182 0 43 (dk_at dksX7_spread_2 10 rfl rfl)
theorem dX7_spread_60 : decode cX7_spread 60 = .ok (.ifCond .eq 9, 3) := dk_153 0 9 (dk_at dksX7_spread_2 13 rfl rfl)
theorem dX7_spread_63 : decode cX7_spread 63 = .ok (.iload_n 1, 1) := dk_27 (dk_at dksX7_spread_2 16 rfl rfl)
theorem dX7_spread_64 : decode cX7_spread 64 = .ok (.iconst 1, 1) := dk_4 (dk_at dksX7_spread_2 17 rfl rfl)
theorem dX7_spread_65 : decode cX7_spread 65 = .ok (.iadd, 1) := dk_96 (dk_at dksX7_spread_2 18 rfl rfl)
theorem dX7_spread_66 : decode cX7_spread 66 = .ok (.goto 9, 3) := dk_167 0 9 (dk_at dksX7_spread_2 19 rfl rfl)
theorem dX7_spread_69 : decode cX7_spread 69 = .ok (.aload_n 0, 1) := dk_42 (dk_at dksX7_spread_2 22 rfl rfl)
theorem dX7_spread_70 : decode cX7_spread 70 = .ok (.getfield 22, 3) := dk_180 0 22 (dk_at dksX7_spread_3 0 rfl rfl)
theorem dX7_spread_73 : decode cX7_spread 73 = .ok (.iload_n 2, 1) := dk_28 (dk_at dksX7_spread_3 3 rfl rfl)
theorem dX7_spread_74 : decode cX7_spread 74 = .ok (.iaload, 1) := dk_46 (dk_at dksX7_spread_3 4 rfl rfl)
theorem dX7_spread_75 : decode cX7_spread 75 = .ok (.iastore, 1) := dk_79 (dk_at dksX7_spread_3 5 rfl rfl)
theorem dX7_spread_76 : decode cX7_spread 76 = .ok (.iinc 3 1, 3) := dk_132 3 1 (dk_at dksX7_spread_3 6 rfl rfl)
theorem dX7_spread_79 : decode cX7_spread 79 = .ok (.goto (-64), 3) := dk_167 255 192 (dk_at dksX7_spread_3 9 rfl rfl)
theorem dX7_spread_82 : decode cX7_spread 82 = .ok (.iinc 2 1, 3) := dk_132 2 1 (dk_at dksX7_spread_3 12 rfl rfl)
theorem dX7_spread_85 : decode cX7_spread 85 = .ok (.goto (-83), 3) := dk_167 255 173 (dk_at dksX7_spread_3 15 rfl rfl)
theorem dX7_spread_88 : decode cX7_spread 88 = .ok (.return_, 1) := dk_177 (dk_at dksX7_spread_3 18 rfl rfl)
abbrev cX7_successor : ByteArray := prog_3_method_4_code
def yX7_successor : MethodName := ⟨RX7, "successor", "(I)I"⟩
def dkwX7_successor_3 : List UInt8 := [162, 0, 7, 29, 167, 0, 4, 28, 61, 132, 3, 1, 167, 255, 177, 28, 172]
abbrev dktX7_successor_3 : List UInt8 := dkwX7_successor_3 ++ []
def dkwX7_successor_2 : List UInt8 := [54, 4, 21, 4, 153, 0, 27, 28, 2, 159, 0, 18, 42, 180, 0, 22, 29, 46, 42, 180, 0, 22, 28, 46]
abbrev dktX7_successor_2 : List UInt8 := dkwX7_successor_2 ++ dktX7_successor_3
def dkwX7_successor_1 : List UInt8 := [29, 46, 2, 159, 0, 19, 42, 180, 0, 14, 27, 29, 182, 0, 43, 153, 0, 7, 4, 167, 0, 4, 3]
abbrev dktX7_successor_1 : List UInt8 := dkwX7_successor_1 ++ dktX7_successor_2
def dkwX7_successor_0 : List UInt8 := [2, 61, 3, 62, 29, 42, 180, 0, 14, 182, 0, 26, 162, 0, 74, 29, 27, 159, 0, 29, 42, 180, 0, 22]
abbrev dktX7_successor_0 : List UInt8 := dkwX7_successor_0 ++ dktX7_successor_1
theorem dksX7_successor_0 : cX7_successor.data.toList.drop 0 = dktX7_successor_0 := by decide +kernel
theorem dksX7_successor_1 : cX7_successor.data.toList.drop 24 = dktX7_successor_1 := dk_seg dksX7_successor_0 24 rfl rfl
theorem dksX7_successor_2 : cX7_successor.data.toList.drop 47 = dktX7_successor_2 := dk_seg dksX7_successor_1 23 rfl rfl
theorem dksX7_successor_3 : cX7_successor.data.toList.drop 71 = dktX7_successor_3 := dk_seg dksX7_successor_2 24 rfl rfl
theorem dX7_successor_0 : decode cX7_successor 0 = .ok (.iconst (-1), 1) := dk_2 (dk_at dksX7_successor_0 0 rfl rfl)
theorem dX7_successor_1 : decode cX7_successor 1 = .ok (.istore_n 2, 1) := dk_61 (dk_at dksX7_successor_0 1 rfl rfl)
theorem dX7_successor_2 : decode cX7_successor 2 = .ok (.iconst 0, 1) := dk_3 (dk_at dksX7_successor_0 2 rfl rfl)
theorem dX7_successor_3 : decode cX7_successor 3 = .ok (.istore_n 3, 1) := dk_62 (dk_at dksX7_successor_0 3 rfl rfl)
theorem dX7_successor_4 : decode cX7_successor 4 = .ok (.iload_n 3, 1) := dk_29 (dk_at dksX7_successor_0 4 rfl rfl)
theorem dX7_successor_5 : decode cX7_successor 5 = .ok (.aload_n 0, 1) := dk_42 (dk_at dksX7_successor_0 5 rfl rfl)
theorem dX7_successor_6 : decode cX7_successor 6 = .ok (.getfield 14, 3) := dk_180 0 14 (dk_at dksX7_successor_0 6 rfl rfl)
theorem dX7_successor_9 : decode cX7_successor 9 = .ok (.invokevirtual 26, 3) := dk_182 0 26 (dk_at dksX7_successor_0 9 rfl rfl)
theorem dX7_successor_12 : decode cX7_successor 12 = .ok (.if_icmp .ge 74, 3) := dk_162 0 74 (dk_at dksX7_successor_0 12 rfl rfl)
theorem dX7_successor_15 : decode cX7_successor 15 = .ok (.iload_n 3, 1) := dk_29 (dk_at dksX7_successor_0 15 rfl rfl)
theorem dX7_successor_16 : decode cX7_successor 16 = .ok (.iload_n 1, 1) := dk_27 (dk_at dksX7_successor_0 16 rfl rfl)
theorem dX7_successor_17 : decode cX7_successor 17 = .ok (.if_icmp .eq 29, 3) := dk_159 0 29 (dk_at dksX7_successor_0 17 rfl rfl)
theorem dX7_successor_20 : decode cX7_successor 20 = .ok (.aload_n 0, 1) := dk_42 (dk_at dksX7_successor_0 20 rfl rfl)
theorem dX7_successor_21 : decode cX7_successor 21 = .ok (.getfield 22, 3) := dk_180 0 22 (dk_at dksX7_successor_0 21 rfl rfl)
theorem dX7_successor_24 : decode cX7_successor 24 = .ok (.iload_n 3, 1) := dk_29 (dk_at dksX7_successor_1 0 rfl rfl)
theorem dX7_successor_25 : decode cX7_successor 25 = .ok (.iaload, 1) := dk_46 (dk_at dksX7_successor_1 1 rfl rfl)
theorem dX7_successor_26 : decode cX7_successor 26 = .ok (.iconst (-1), 1) := dk_2 (dk_at dksX7_successor_1 2 rfl rfl)
theorem dX7_successor_27 : decode cX7_successor 27 = .ok (.if_icmp .eq 19, 3) := dk_159 0 19 (dk_at dksX7_successor_1 3 rfl rfl)
theorem dX7_successor_30 : decode cX7_successor 30 = .ok (.aload_n 0, 1) := dk_42 (dk_at dksX7_successor_1 6 rfl rfl)
theorem dX7_successor_31 : decode cX7_successor 31 = .ok (.getfield 14, 3) := dk_180 0 14 (dk_at dksX7_successor_1 7 rfl rfl)
theorem dX7_successor_34 : decode cX7_successor 34 = .ok (.iload_n 1, 1) := dk_27 (dk_at dksX7_successor_1 10 rfl rfl)
theorem dX7_successor_35 : decode cX7_successor 35 = .ok (.iload_n 3, 1) := dk_29 (dk_at dksX7_successor_1 11 rfl rfl)
theorem dX7_successor_36 : decode cX7_successor 36 = .ok (.invokevirtual 43, 3) := dk_182 0 43 (dk_at dksX7_successor_1 12 rfl rfl)
theorem dX7_successor_39 : decode cX7_successor 39 = .ok (.ifCond .eq 7, 3) := dk_153 0 7 (dk_at dksX7_successor_1 15 rfl rfl)
theorem dX7_successor_42 : decode cX7_successor 42 = .ok (.iconst 1, 1) := dk_4 (dk_at dksX7_successor_1 18 rfl rfl)
theorem dX7_successor_43 : decode cX7_successor 43 = .ok (.goto 4, 3) := dk_167 0 4 (dk_at dksX7_successor_1 19 rfl rfl)
theorem dX7_successor_46 : decode cX7_successor 46 = .ok (.iconst 0, 1) := dk_3 (dk_at dksX7_successor_1 22 rfl rfl)
theorem dX7_successor_47 : decode cX7_successor 47 = .ok (.istore 4, 2) := dk_54 4 (dk_at dksX7_successor_2 0 rfl rfl)
theorem dX7_successor_49 : decode cX7_successor 49 = .ok (.iload 4, 2) := dk_21 4 (dk_at dksX7_successor_2 2 rfl rfl)
theorem dX7_successor_51 : decode cX7_successor 51 = .ok (.ifCond .eq 27, 3) := dk_153 0 27 (dk_at dksX7_successor_2 4 rfl rfl)
theorem dX7_successor_54 : decode cX7_successor 54 = .ok (.iload_n 2, 1) := dk_28 (dk_at dksX7_successor_2 7 rfl rfl)
theorem dX7_successor_55 : decode cX7_successor 55 = .ok (.iconst (-1), 1) := dk_2 (dk_at dksX7_successor_2 8 rfl rfl)
theorem dX7_successor_56 : decode cX7_successor 56 = .ok (.if_icmp .eq 18, 3) := dk_159 0 18 (dk_at dksX7_successor_2 9 rfl rfl)
theorem dX7_successor_59 : decode cX7_successor 59 = .ok (.aload_n 0, 1) := dk_42 (dk_at dksX7_successor_2 12 rfl rfl)
theorem dX7_successor_60 : decode cX7_successor 60 = .ok (.getfield 22, 3) := dk_180 0 22 (dk_at dksX7_successor_2 13 rfl rfl)
theorem dX7_successor_63 : decode cX7_successor 63 = .ok (.iload_n 3, 1) := dk_29 (dk_at dksX7_successor_2 16 rfl rfl)
theorem dX7_successor_64 : decode cX7_successor 64 = .ok (.iaload, 1) := dk_46 (dk_at dksX7_successor_2 17 rfl rfl)
theorem dX7_successor_65 : decode cX7_successor 65 = .ok (.aload_n 0, 1) := dk_42 (dk_at dksX7_successor_2 18 rfl rfl)
theorem dX7_successor_66 : decode cX7_successor 66 = .ok (.getfield 22, 3) := dk_180 0 22 (dk_at dksX7_successor_2 19 rfl rfl)
theorem dX7_successor_69 : decode cX7_successor 69 = .ok (.iload_n 2, 1) := dk_28 (dk_at dksX7_successor_2 22 rfl rfl)
theorem dX7_successor_70 : decode cX7_successor 70 = .ok (.iaload, 1) := dk_46 (dk_at dksX7_successor_2 23 rfl rfl)
theorem dX7_successor_71 : decode cX7_successor 71 = .ok (.if_icmp .ge 7, 3) := dk_162 0 7 (dk_at dksX7_successor_3 0 rfl rfl)
theorem dX7_successor_74 : decode cX7_successor 74 = .ok (.iload_n 3, 1) := dk_29 (dk_at dksX7_successor_3 3 rfl rfl)
theorem dX7_successor_75 : decode cX7_successor 75 = .ok (.goto 4, 3) := dk_167 0 4 (dk_at dksX7_successor_3 4 rfl rfl)
theorem dX7_successor_78 : decode cX7_successor 78 = .ok (.iload_n 2, 1) := dk_28 (dk_at dksX7_successor_3 7 rfl rfl)
theorem dX7_successor_79 : decode cX7_successor 79 = .ok (.istore_n 2, 1) := dk_61 (dk_at dksX7_successor_3 8 rfl rfl)
theorem dX7_successor_80 : decode cX7_successor 80 = .ok (.iinc 3 1, 3) := dk_132 3 1 (dk_at dksX7_successor_3 9 rfl rfl)
theorem dX7_successor_83 : decode cX7_successor 83 = .ok (.goto (-79), 3) := dk_167 255 177 (dk_at dksX7_successor_3 12 rfl rfl)
theorem dX7_successor_86 : decode cX7_successor 86 = .ok (.iload_n 2, 1) := dk_28 (dk_at dksX7_successor_3 15 rfl rfl)
theorem dX7_successor_87 : decode cX7_successor 87 = .ok (.ireturn, 1) := dk_172 (dk_at dksX7_successor_3 16 rfl rfl)
abbrev cX7_member : ByteArray := prog_3_method_5_code
def yX7_member : MethodName := ⟨RX7, "member", "(I)I"⟩
def dkwX7_member_1 : List UInt8 := [28, 172]
abbrev dktX7_member_1 : List UInt8 := dkwX7_member_1 ++ []
def dkwX7_member_0 : List UInt8 := [42, 180, 0, 18, 61, 3, 62, 29, 27, 162, 0, 15, 42, 28, 182, 0, 36, 61, 132, 3, 1, 167, 255, 242]
abbrev dktX7_member_0 : List UInt8 := dkwX7_member_0 ++ dktX7_member_1
theorem dksX7_member_0 : cX7_member.data.toList.drop 0 = dktX7_member_0 := by decide +kernel
theorem dksX7_member_1 : cX7_member.data.toList.drop 24 = dktX7_member_1 := dk_seg dksX7_member_0 24 rfl rfl
theorem dX7_member_0 : decode cX7_member 0 = .ok (.aload_n 0, 1) := dk_42 (dk_at dksX7_member_0 0 rfl rfl)
theorem dX7_member_1 : decode cX7_member 1 = .ok (.getfield 18, 3) := dk_180 0 18 (dk_at dksX7_member_0 1 rfl rfl)
theorem dX7_member_4 : decode cX7_member 4 = .ok (.istore_n 2, 1) := dk_61 (dk_at dksX7_member_0 4 rfl rfl)
theorem dX7_member_5 : decode cX7_member 5 = .ok (.iconst 0, 1) := dk_3 (dk_at dksX7_member_0 5 rfl rfl)
theorem dX7_member_6 : decode cX7_member 6 = .ok (.istore_n 3, 1) := dk_62 (dk_at dksX7_member_0 6 rfl rfl)
theorem dX7_member_7 : decode cX7_member 7 = .ok (.iload_n 3, 1) := dk_29 (dk_at dksX7_member_0 7 rfl rfl)
theorem dX7_member_8 : decode cX7_member 8 = .ok (.iload_n 1, 1) := dk_27 (dk_at dksX7_member_0 8 rfl rfl)
theorem dX7_member_9 : decode cX7_member 9 = .ok (.if_icmp .ge 15, 3) := dk_162 0 15 (dk_at dksX7_member_0 9 rfl rfl)
theorem dX7_member_12 : decode cX7_member 12 = .ok (.aload_n 0, 1) := dk_42 (dk_at dksX7_member_0 12 rfl rfl)
theorem dX7_member_13 : decode cX7_member 13 = .ok (.iload_n 2, 1) := dk_28 (dk_at dksX7_member_0 13 rfl rfl)
theorem dX7_member_14 : decode cX7_member 14 = .ok (.invokevirtual 36, 3) := dk_182 0 36 (dk_at dksX7_member_0 14 rfl rfl)
theorem dX7_member_17 : decode cX7_member 17 = .ok (.istore_n 2, 1) := dk_61 (dk_at dksX7_member_0 17 rfl rfl)
theorem dX7_member_18 : decode cX7_member 18 = .ok (.iinc 3 1, 3) := dk_132 3 1 (dk_at dksX7_member_0 18 rfl rfl)
theorem dX7_member_21 : decode cX7_member 21 = .ok (.goto (-14), 3) := dk_167 255 242 (dk_at dksX7_member_0 21 rfl rfl)
theorem dX7_member_24 : decode cX7_member 24 = .ok (.iload_n 2, 1) := dk_28 (dk_at dksX7_member_1 0 rfl rfl)
theorem dX7_member_25 : decode cX7_member 25 = .ok (.ireturn, 1) := dk_172 (dk_at dksX7_member_1 1 rfl rfl)
theorem q127 : (Jvm.Cond.initialized "CakeDivision$EnvyCycle") ∈ lw_all := lw_g (lw_at lw_m1 32 rfl) rfl
theorem q732 : (Jvm.Cond.selects "CakeDivision$EnvyCycle" ({ cls := "java/lang/Object", name := "getClass", desc := "()Ljava/lang/Class;" } : Jvm.MethodName) ({ cls := "java/lang/Object", name := "getClass", desc := "()Ljava/lang/Class;" } : Jvm.MethodName)) ∈ lw_all := lw_g (lw_at lw_m3 157 rfl) rfl
theorem q1319 : (Jvm.Cond.instantiable "CakeDivision$EnvyCycle" (4 : Nat)) ∈ lw_all := lw_g (lw_at lw_m6 24 rfl) rfl
theorem q1321 : (Jvm.Cond.instanceMethod ({ cls := "CakeDivision$EnvyCycle", name := "<init>", desc := "(LCakeDivision$State;I)V" } : Jvm.MethodName)) ∈ lw_all := lw_g (lw_at lw_m6 26 rfl) rfl
theorem q1322 : (Jvm.Cond.code ({ cls := "CakeDivision$EnvyCycle", name := "<init>", desc := "(LCakeDivision$State;I)V" } : Jvm.MethodName) prog_3_method_1_code (3 : Nat) (Option.none : Option Jvm.ClassFile.FieldType)) ∈ lw_all := lw_g (lw_at lw_m6 27 rfl) rfl
theorem q1323 : (Jvm.Cond.methodLink "CakeDivision$EnvyCycle" (3 : Nat) ({ cls := "CakeDivision$EnvyCycle", name := "<init>", desc := "(LCakeDivision$State;I[I)V" } : Jvm.MethodName)) ∈ lw_all := lw_g (lw_at lw_m6 28 rfl) rfl
theorem q1324 : (Jvm.Cond.instanceMethod ({ cls := "CakeDivision$EnvyCycle", name := "<init>", desc := "(LCakeDivision$State;I[I)V" } : Jvm.MethodName)) ∈ lw_all := lw_g (lw_at lw_m6 29 rfl) rfl
theorem q1325 : (Jvm.Cond.code ({ cls := "CakeDivision$EnvyCycle", name := "<init>", desc := "(LCakeDivision$State;I[I)V" } : Jvm.MethodName) prog_3_method_2_code (5 : Nat) (Option.none : Option Jvm.ClassFile.FieldType)) ∈ lw_all := lw_g (lw_at lw_m6 30 rfl) rfl
theorem q1326 : (Jvm.Cond.methodLink "CakeDivision$EnvyCycle" (9 : Nat) ({ cls := "java/lang/Object", name := "<init>", desc := "()V" } : Jvm.MethodName)) ∈ lw_all := lw_g (lw_at lw_m6 31 rfl) rfl
theorem q1327 : (Jvm.Cond.methodLink "CakeDivision$EnvyCycle" (26 : Nat) ({ cls := "CakeDivision$State", name := "size", desc := "()I" } : Jvm.MethodName)) ∈ lw_all := lw_g (lw_at lw_m6 32 rfl) rfl
theorem q1328 : (Jvm.Cond.methodLink "CakeDivision$EnvyCycle" (32 : Nat) ({ cls := "CakeDivision$EnvyCycle", name := "spread", desc := "(I)V" } : Jvm.MethodName)) ∈ lw_all := lw_g (lw_at lw_m6 33 rfl) rfl
theorem q1329 : (Jvm.Cond.privateMethod ({ cls := "CakeDivision$EnvyCycle", name := "spread", desc := "(I)V" } : Jvm.MethodName)) ∈ lw_tbl := lw_at lw_m6 34 rfl
theorem q1330 : (Jvm.Cond.instanceMethod ({ cls := "CakeDivision$EnvyCycle", name := "spread", desc := "(I)V" } : Jvm.MethodName)) ∈ lw_all := lw_g (lw_at lw_m6 35 rfl) rfl
theorem q1331 : (Jvm.Cond.code ({ cls := "CakeDivision$EnvyCycle", name := "spread", desc := "(I)V" } : Jvm.MethodName) prog_3_method_3_code (4 : Nat) (Option.none : Option Jvm.ClassFile.FieldType)) ∈ lw_all := lw_g (lw_at lw_m6 36 rfl) rfl
theorem q1332 : (Jvm.Cond.methodLink "CakeDivision$EnvyCycle" (43 : Nat) ({ cls := "CakeDivision$State", name := "envies", desc := "(II)Z" } : Jvm.MethodName)) ∈ lw_all := lw_g (lw_at lw_m6 37 rfl) rfl
theorem q1333 : (Jvm.Cond.methodLink "CakeDivision$EnvyCycle" (36 : Nat) ({ cls := "CakeDivision$EnvyCycle", name := "successor", desc := "(I)I" } : Jvm.MethodName)) ∈ lw_all := lw_g (lw_at lw_m6 38 rfl) rfl
theorem q1334 : (Jvm.Cond.instanceMethod ({ cls := "CakeDivision$EnvyCycle", name := "successor", desc := "(I)I" } : Jvm.MethodName)) ∈ lw_all := lw_g (lw_at lw_m6 39 rfl) rfl
theorem q1335 : (Jvm.Cond.selects "CakeDivision$EnvyCycle" ({ cls := "CakeDivision$EnvyCycle", name := "successor", desc := "(I)I" } : Jvm.MethodName) ({ cls := "CakeDivision$EnvyCycle", name := "successor", desc := "(I)I" } : Jvm.MethodName)) ∈ lw_all := lw_g (lw_at lw_m6 40 rfl) rfl
theorem q1336 : (Jvm.Cond.code ({ cls := "CakeDivision$EnvyCycle", name := "successor", desc := "(I)I" } : Jvm.MethodName) prog_3_method_4_code (5 : Nat) (Option.some Jvm.ClassFile.FieldType.int)) ∈ lw_all := lw_g (lw_at lw_m6 41 rfl) rfl
theorem q1337 : (Jvm.Cond.fieldLink "CakeDivision$EnvyCycle" (14 : Nat) "CakeDivision$EnvyCycle" "state" "LCakeDivision$State;") ∈ lw_all := lw_g (lw_at lw_m6 42 rfl) rfl
theorem q1338 : (Jvm.Cond.fieldLink "CakeDivision$EnvyCycle" (18 : Nat) "CakeDivision$EnvyCycle" "goal" "I") ∈ lw_all := lw_g (lw_at lw_m6 43 rfl) rfl
theorem q1339 : (Jvm.Cond.fieldLink "CakeDivision$EnvyCycle" (22 : Nat) "CakeDivision$EnvyCycle" "distances" "[I") ∈ lw_all := lw_g (lw_at lw_m6 44 rfl) rfl
theorem q1340 : (Jvm.Cond.fieldLink "CakeDivision$EnvyCycle" (40 : Nat) "CakeDivision$EnvyCycle" "length" "I") ∈ lw_all := lw_g (lw_at lw_m6 45 rfl) rfl
theorem q1342 : (Jvm.Cond.laysFinal "CakeDivision$EnvyCycle" "CakeDivision$EnvyCycle" "state" "LCakeDivision$State;") ∈ lw_all := lw_g (lw_at lw_m6 47 rfl) rfl
theorem q1343 : (Jvm.Cond.soleField "CakeDivision$EnvyCycle" "state") ∈ lw_all := lw_g (lw_at lw_m6 48 rfl) rfl
theorem q1344 : (Jvm.Cond.laysFinal "CakeDivision$EnvyCycle" "CakeDivision$EnvyCycle" "goal" "I") ∈ lw_all := lw_g (lw_at lw_m6 49 rfl) rfl
theorem q1345 : (Jvm.Cond.soleField "CakeDivision$EnvyCycle" "goal") ∈ lw_all := lw_g (lw_at lw_m6 50 rfl) rfl
theorem q1346 : (Jvm.Cond.laysFinal "CakeDivision$EnvyCycle" "CakeDivision$EnvyCycle" "distances" "[I") ∈ lw_all := lw_g (lw_at lw_m6 51 rfl) rfl
theorem q1347 : (Jvm.Cond.soleField "CakeDivision$EnvyCycle" "distances") ∈ lw_all := lw_g (lw_at lw_m6 52 rfl) rfl
theorem q1348 : (Jvm.Cond.laysFinal "CakeDivision$EnvyCycle" "CakeDivision$EnvyCycle" "length" "I") ∈ lw_all := lw_g (lw_at lw_m6 53 rfl) rfl
theorem q1349 : (Jvm.Cond.soleField "CakeDivision$EnvyCycle" "length") ∈ lw_all := lw_g (lw_at lw_m6 54 rfl) rfl
theorem q1350 : (Jvm.Cond.superclass "CakeDivision$EnvyCycle" "java/lang/Object") ∈ lw_all := lw_g (lw_at lw_m6 55 rfl) rfl
theorem q1359 : (Jvm.Cond.instanceMethod ({ cls := "CakeDivision$EnvyCycle", name := "member", desc := "(I)I" } : Jvm.MethodName)) ∈ lw_all := lw_g (lw_at lw_m6 64 rfl) rfl
theorem q1360 : (Jvm.Cond.selects "CakeDivision$EnvyCycle" ({ cls := "CakeDivision$EnvyCycle", name := "member", desc := "(I)I" } : Jvm.MethodName) ({ cls := "CakeDivision$EnvyCycle", name := "member", desc := "(I)I" } : Jvm.MethodName)) ∈ lw_all := lw_g (lw_at lw_m6 65 rfl) rfl
theorem q1361 : (Jvm.Cond.code ({ cls := "CakeDivision$EnvyCycle", name := "member", desc := "(I)I" } : Jvm.MethodName) prog_3_method_5_code (4 : Nat) (Option.some Jvm.ClassFile.FieldType.int)) ∈ lw_all := lw_g (lw_at lw_m6 66 rfl) rfl
theorem q2180 : (Jvm.Cond.castable "CakeDivision$EnvyCycle" "java/lang/Object") ∈ lw_tbl := lw_at lw_m9 165 rfl
theorem in_X7 : ∀ w ∈ wsX70, w ∈ lw_all := lw_in wsX70 [1342, 1344, 1346, 1348] (by decide +kernel) (by decide +kernel)
/-! CakeDivision$Divider -/
set_option maxRecDepth 100000
def RX8 : String := "CakeDivision$Divider"
def TX8 : u_T := fun k => match k with
  | 0 => ("CakeDivision$Divider", "best", "[I", true)
  | 1 => ("CakeDivision$Divider", "state", "LCakeDivision$State;", true)
  | _ => ("CakeDivision$Divider", "isSum", "Z", true)
def tyX8 : Nat → FieldType := fun k => match k with
  | 0 => .array .int
  | 1 => .object "CakeDivision$State"
  | _ => .boolean
abbrev wsX80 : List Cond := u_ws RX8 TX8 3
theorem nmX8 : ∀ a, a < 3 → ∀ b, b < 3 → a ≠ b → (TX8 a).2.1 ≠ (TX8 b).2.1 := by decide +kernel
theorem tyX8_ok : ∀ k, k < 3 → parseFieldDescriptor (TX8 k).2.2.1 = some (tyX8 k) := by decide +kernel
abbrev cX8_init : ByteArray := prog_2_method_1_code
def yX8_init : MethodName := ⟨RX8, "<init>", "(LCakeDivision$State;Z)V"⟩
def dkwX8_init_0 : List UInt8 := [42, 183, 0, 3, 42, 43, 181, 0, 9, 42, 28, 181, 0, 15, 42, 16, 64, 188, 10, 181, 0, 19, 177]
abbrev dktX8_init_0 : List UInt8 := dkwX8_init_0 ++ []
theorem dksX8_init_0 : cX8_init.data.toList.drop 0 = dktX8_init_0 := by decide +kernel
theorem dX8_init_0 : decode cX8_init 0 = .ok (.aload_n 0, 1) := dk_42 (dk_at dksX8_init_0 0 rfl rfl)
theorem dX8_init_1 : decode cX8_init 1 = .ok (.invokespecial 3, 3) := dk_183 0 3 (dk_at dksX8_init_0 1 rfl rfl)
theorem dX8_init_4 : decode cX8_init 4 = .ok (.aload_n 0, 1) := dk_42 (dk_at dksX8_init_0 4 rfl rfl)
theorem dX8_init_5 : decode cX8_init 5 = .ok (.aload_n 1, 1) := dk_43 (dk_at dksX8_init_0 5 rfl rfl)
theorem dX8_init_6 : decode cX8_init 6 = .ok (.putfield 9, 3) := dk_181 0 9 (dk_at dksX8_init_0 6 rfl rfl)
theorem dX8_init_9 : decode cX8_init 9 = .ok (.aload_n 0, 1) := dk_42 (dk_at dksX8_init_0 9 rfl rfl)
theorem dX8_init_10 : decode cX8_init 10 = .ok (.iload_n 2, 1) := dk_28 (dk_at dksX8_init_0 10 rfl rfl)
theorem dX8_init_11 : decode cX8_init 11 = .ok (.putfield 15, 3) := dk_181 0 15 (dk_at dksX8_init_0 11 rfl rfl)
theorem dX8_init_14 : decode cX8_init 14 = .ok (.aload_n 0, 1) := dk_42 (dk_at dksX8_init_0 14 rfl rfl)
theorem dX8_init_15 : decode cX8_init 15 = .ok (.bipush 64, 2) := dk_16 64 (dk_at dksX8_init_0 15 rfl rfl)
theorem dX8_init_17 : decode cX8_init 17 = .ok (.newarray .int, 2) := dk_188_10 (dk_at dksX8_init_0 17 rfl rfl)
theorem dX8_init_19 : decode cX8_init 19 = .ok (.putfield 19, 3) := dk_181 0 19 (dk_at dksX8_init_0 19 rfl rfl)
theorem dX8_init_22 : decode cX8_init 22 = .ok (.return_, 1) := dk_177 (dk_at dksX8_init_0 22 rfl rfl)
abbrev cX8_run : ByteArray := prog_2_method_4_code
def yX8_run : MethodName := ⟨RX8, "run", "()I"⟩
def dkwX8_run_4 : List UInt8 := [180, 0, 19, 28, 46, 172]
abbrev dktX8_run_4 : List UInt8 := dkwX8_run_4 ++ []
def dkwX8_run_3 : List UInt8 := [167, 255, 231, 42, 180, 0, 19, 21, 4, 45, 21, 4, 50, 27, 46, 79, 132, 4, 1, 167, 255, 203, 42]
abbrev dktX8_run_3 : List UInt8 := dkwX8_run_3 ++ dktX8_run_4
def dkwX8_run_2 : List UInt8 := [163, 0, 25, 45, 21, 4, 50, 21, 5, 42, 45, 21, 4, 21, 5, 182, 0, 58, 79, 132, 5, 1]
abbrev dktX8_run_2 : List UInt8 := dkwX8_run_2 ++ dktX8_run_3
def dkwX8_run_1 : List UInt8 := [4, 96, 197, 0, 56, 2, 78, 3, 54, 4, 21, 4, 28, 163, 0, 53, 3, 54, 5, 21, 5, 27]
abbrev dktX8_run_1 : List UInt8 := dkwX8_run_1 ++ dktX8_run_2
def dkwX8_run_0 : List UInt8 := [42, 180, 0, 9, 182, 0, 53, 60, 4, 42, 180, 0, 9, 182, 0, 32, 120, 4, 100, 61, 28, 4, 96, 27]
abbrev dktX8_run_0 : List UInt8 := dkwX8_run_0 ++ dktX8_run_1
theorem dksX8_run_0 : cX8_run.data.toList.drop 0 = dktX8_run_0 := by decide +kernel
theorem dksX8_run_1 : cX8_run.data.toList.drop 24 = dktX8_run_1 := dk_seg dksX8_run_0 24 rfl rfl
theorem dksX8_run_2 : cX8_run.data.toList.drop 46 = dktX8_run_2 := dk_seg dksX8_run_1 22 rfl rfl
theorem dksX8_run_3 : cX8_run.data.toList.drop 68 = dktX8_run_3 := dk_seg dksX8_run_2 22 rfl rfl
theorem dksX8_run_4 : cX8_run.data.toList.drop 91 = dktX8_run_4 := dk_seg dksX8_run_3 23 rfl rfl
theorem dX8_run_0 : decode cX8_run 0 = .ok (.aload_n 0, 1) := dk_42 (dk_at dksX8_run_0 0 rfl rfl)
theorem dX8_run_1 : decode cX8_run 1 = .ok (.getfield 9, 3) := dk_180 0 9 (dk_at dksX8_run_0 1 rfl rfl)
theorem dX8_run_4 : decode cX8_run 4 = .ok (.invokevirtual 53, 3) := dk_182 0 53 (dk_at dksX8_run_0 4 rfl rfl)
theorem dX8_run_7 : decode cX8_run 7 = .ok (.istore_n 1, 1) := dk_60 (dk_at dksX8_run_0 7 rfl rfl)
theorem dX8_run_8 : decode cX8_run 8 = .ok (.iconst 1, 1) := dk_4 (dk_at dksX8_run_0 8 rfl rfl)
theorem dX8_run_9 : decode cX8_run 9 = .ok (.aload_n 0, 1) := dk_42 (dk_at dksX8_run_0 9 rfl rfl)
theorem dX8_run_10 : decode cX8_run 10 = .ok (.getfield 9, 3) := dk_180 0 9 (dk_at dksX8_run_0 10 rfl rfl)
theorem dX8_run_13 : decode cX8_run 13 = .ok (.invokevirtual 32, 3) := dk_182 0 32 (dk_at dksX8_run_0 13 rfl rfl)
theorem dX8_run_16 : decode cX8_run 16 = .ok (.ishl, 1) := dk_120 (dk_at dksX8_run_0 16 rfl rfl)
theorem dX8_run_17 : decode cX8_run 17 = .ok (.iconst 1, 1) := dk_4 (dk_at dksX8_run_0 17 rfl rfl)
theorem dX8_run_18 : decode cX8_run 18 = .ok (.isub, 1) := dk_100 (dk_at dksX8_run_0 18 rfl rfl)
theorem dX8_run_19 : decode cX8_run 19 = .ok (.istore_n 2, 1) := dk_61 (dk_at dksX8_run_0 19 rfl rfl)
theorem dX8_run_20 : decode cX8_run 20 = .ok (.iload_n 2, 1) := dk_28 (dk_at dksX8_run_0 20 rfl rfl)
theorem dX8_run_21 : decode cX8_run 21 = .ok (.iconst 1, 1) := dk_4 (dk_at dksX8_run_0 21 rfl rfl)
theorem dX8_run_22 : decode cX8_run 22 = .ok (.iadd, 1) := dk_96 (dk_at dksX8_run_0 22 rfl rfl)
theorem dX8_run_23 : decode cX8_run 23 = .ok (.iload_n 1, 1) := dk_27 (dk_at dksX8_run_0 23 rfl rfl)
theorem dX8_run_24 : decode cX8_run 24 = .ok (.iconst 1, 1) := dk_4 (dk_at dksX8_run_1 0 rfl rfl)
theorem dX8_run_25 : decode cX8_run 25 = .ok (.iadd, 1) := dk_96 (dk_at dksX8_run_1 1 rfl rfl)
theorem dX8_run_26 : decode cX8_run 26 = .ok (.multianewarray 56 2, 4) := by decide +kernel
theorem dX8_run_30 : decode cX8_run 30 = .ok (.astore_n 3, 1) := dk_78 (dk_at dksX8_run_1 6 rfl rfl)
theorem dX8_run_31 : decode cX8_run 31 = .ok (.iconst 0, 1) := dk_3 (dk_at dksX8_run_1 7 rfl rfl)
theorem dX8_run_32 : decode cX8_run 32 = .ok (.istore 4, 2) := dk_54 4 (dk_at dksX8_run_1 8 rfl rfl)
theorem dX8_run_34 : decode cX8_run 34 = .ok (.iload 4, 2) := dk_21 4 (dk_at dksX8_run_1 10 rfl rfl)
theorem dX8_run_36 : decode cX8_run 36 = .ok (.iload_n 2, 1) := dk_28 (dk_at dksX8_run_1 12 rfl rfl)
theorem dX8_run_37 : decode cX8_run 37 = .ok (.if_icmp .gt 53, 3) := dk_163 0 53 (dk_at dksX8_run_1 13 rfl rfl)
theorem dX8_run_40 : decode cX8_run 40 = .ok (.iconst 0, 1) := dk_3 (dk_at dksX8_run_1 16 rfl rfl)
theorem dX8_run_41 : decode cX8_run 41 = .ok (.istore 5, 2) := dk_54 5 (dk_at dksX8_run_1 17 rfl rfl)
theorem dX8_run_43 : decode cX8_run 43 = .ok (.iload 5, 2) := dk_21 5 (dk_at dksX8_run_1 19 rfl rfl)
theorem dX8_run_45 : decode cX8_run 45 = .ok (.iload_n 1, 1) := dk_27 (dk_at dksX8_run_1 21 rfl rfl)
theorem dX8_run_46 : decode cX8_run 46 = .ok (.if_icmp .gt 25, 3) := dk_163 0 25 (dk_at dksX8_run_2 0 rfl rfl)
theorem dX8_run_49 : decode cX8_run 49 = .ok (.aload_n 3, 1) := dk_45 (dk_at dksX8_run_2 3 rfl rfl)
theorem dX8_run_50 : decode cX8_run 50 = .ok (.iload 4, 2) := dk_21 4 (dk_at dksX8_run_2 4 rfl rfl)
theorem dX8_run_52 : decode cX8_run 52 = .ok (.aaload, 1) := dk_50 (dk_at dksX8_run_2 6 rfl rfl)
theorem dX8_run_53 : decode cX8_run 53 = .ok (.iload 5, 2) := dk_21 5 (dk_at dksX8_run_2 7 rfl rfl)
theorem dX8_run_55 : decode cX8_run 55 = .ok (.aload_n 0, 1) := dk_42 (dk_at dksX8_run_2 9 rfl rfl)
theorem dX8_run_56 : decode cX8_run 56 = .ok (.aload_n 3, 1) := dk_45 (dk_at dksX8_run_2 10 rfl rfl)
theorem dX8_run_57 : decode cX8_run 57 = .ok (.iload 4, 2) := dk_21 4 (dk_at dksX8_run_2 11 rfl rfl)
theorem dX8_run_59 : decode cX8_run 59 = .ok (.iload 5, 2) := dk_21 5 (dk_at dksX8_run_2 13 rfl rfl)
theorem dX8_run_61 : decode cX8_run 61 = .ok (.invokevirtual 58, 3) := dk_182 0 58 (dk_at dksX8_run_2 15 rfl rfl)
theorem dX8_run_64 : decode cX8_run 64 = .ok (.iastore, 1) := dk_79 (dk_at dksX8_run_2 18 rfl rfl)
theorem dX8_run_65 : decode cX8_run 65 = .ok (.iinc 5 1, 3) := dk_132 5 1 (dk_at dksX8_run_2 19 rfl rfl)
theorem dX8_run_68 : decode cX8_run 68 = .ok (.goto (-25), 3) := dk_167 255 231 (dk_at dksX8_run_3 0 rfl rfl)
theorem dX8_run_71 : decode cX8_run 71 = .ok (.aload_n 0, 1) := dk_42 (dk_at dksX8_run_3 3 rfl rfl)
theorem dX8_run_72 : decode cX8_run 72 = .ok (.getfield 19, 3) := dk_180 0 19 (dk_at dksX8_run_3 4 rfl rfl)
theorem dX8_run_75 : decode cX8_run 75 = .ok (.iload 4, 2) := dk_21 4 (dk_at dksX8_run_3 7 rfl rfl)
theorem dX8_run_77 : decode cX8_run 77 = .ok (.aload_n 3, 1) := dk_45 (dk_at dksX8_run_3 9 rfl rfl)
theorem dX8_run_78 : decode cX8_run 78 = .ok (.iload 4, 2) := dk_21 4 (dk_at dksX8_run_3 10 rfl rfl)
theorem dX8_run_80 : decode cX8_run 80 = .ok (.aaload, 1) := dk_50 (dk_at dksX8_run_3 12 rfl rfl)
theorem dX8_run_81 : decode cX8_run 81 = .ok (.iload_n 1, 1) := dk_27 (dk_at dksX8_run_3 13 rfl rfl)
theorem dX8_run_82 : decode cX8_run 82 = .ok (.iaload, 1) := dk_46 (dk_at dksX8_run_3 14 rfl rfl)
theorem dX8_run_83 : decode cX8_run 83 = .ok (.iastore, 1) := dk_79 (dk_at dksX8_run_3 15 rfl rfl)
theorem dX8_run_84 : decode cX8_run 84 = .ok (.iinc 4 1, 3) := dk_132 4 1 (dk_at dksX8_run_3 16 rfl rfl)
theorem dX8_run_87 : decode cX8_run 87 = .ok (.goto (-53), 3) := dk_167 255 203 (dk_at dksX8_run_3 19 rfl rfl)
theorem dX8_run_90 : decode cX8_run 90 = .ok (.aload_n 0, 1) := dk_42 (dk_at dksX8_run_3 22 rfl rfl)
theorem dX8_run_91 : decode cX8_run 91 = .ok (.getfield 19, 3) := dk_180 0 19 (dk_at dksX8_run_4 0 rfl rfl)
theorem dX8_run_94 : decode cX8_run 94 = .ok (.iload_n 2, 1) := dk_28 (dk_at dksX8_run_4 3 rfl rfl)
theorem dX8_run_95 : decode cX8_run 95 = .ok (.iaload, 1) := dk_46 (dk_at dksX8_run_4 4 rfl rfl)
theorem dX8_run_96 : decode cX8_run 96 = .ok (.ireturn, 1) := dk_172 (dk_at dksX8_run_4 5 rfl rfl)
abbrev cX8_value : ByteArray := prog_2_method_3_code
def yX8_value : MethodName := ⟨RX8, "value", "([[III)I"⟩
def dkwX8_value_5 : List UInt8 := [54, 4, 132, 7, 1, 167, 255, 188, 132, 5, 1, 167, 255, 157, 21, 4, 172]
abbrev dktX8_value_5 : List UInt8 := dkwX8_value_5 ++ []
def dkwX8_value_4 : List UInt8 := [182, 0, 38, 21, 7, 29, 4, 100, 182, 0, 42, 182, 0, 47, 54, 9, 21, 4, 21, 9, 184, 0, 50]
abbrev dktX8_value_4 : List UInt8 := dkwX8_value_4 ++ dktX8_value_5
def dkwX8_value_3 : List UInt8 := [21, 7, 46, 54, 8, 21, 8, 2, 160, 0, 7, 2, 167, 0, 26, 42, 21, 8, 42, 180, 0, 9, 21, 5]
abbrev dktX8_value_3 : List UInt8 := dkwX8_value_3 ++ dktX8_value_4
def dkwX8_value_2 : List UInt8 := [130, 126, 54, 6, 3, 54, 7, 21, 7, 29, 163, 0, 68, 21, 6, 28, 159, 0, 62, 43, 21, 6, 50]
abbrev dktX8_value_2 : List UInt8 := dkwX8_value_2 ++ dktX8_value_3
def dkwX8_value_1 : List UInt8 := [2, 54, 4, 3, 54, 5, 21, 5, 42, 180, 0, 9, 182, 0, 32, 162, 0, 93, 28, 4, 21, 5, 120, 2]
abbrev dktX8_value_1 : List UInt8 := dkwX8_value_1 ++ dktX8_value_2
def dkwX8_value_0 : List UInt8 := [28, 154, 0, 23, 29, 154, 0, 19, 42, 180, 0, 15, 153, 0, 7, 3, 167, 0, 9, 18, 31, 167, 0, 4]
abbrev dktX8_value_0 : List UInt8 := dkwX8_value_0 ++ dktX8_value_1
theorem dksX8_value_0 : cX8_value.data.toList.drop 0 = dktX8_value_0 := by decide +kernel
theorem dksX8_value_1 : cX8_value.data.toList.drop 24 = dktX8_value_1 := dk_seg dksX8_value_0 24 rfl rfl
theorem dksX8_value_2 : cX8_value.data.toList.drop 48 = dktX8_value_2 := dk_seg dksX8_value_1 24 rfl rfl
theorem dksX8_value_3 : cX8_value.data.toList.drop 71 = dktX8_value_3 := dk_seg dksX8_value_2 23 rfl rfl
theorem dksX8_value_4 : cX8_value.data.toList.drop 95 = dktX8_value_4 := dk_seg dksX8_value_3 24 rfl rfl
theorem dksX8_value_5 : cX8_value.data.toList.drop 118 = dktX8_value_5 := dk_seg dksX8_value_4 23 rfl rfl
theorem dX8_value_0 : decode cX8_value 0 = .ok (.iload_n 2, 1) := dk_28 (dk_at dksX8_value_0 0 rfl rfl)
theorem dX8_value_1 : decode cX8_value 1 = .ok (.ifCond .ne 23, 3) := dk_154 0 23 (dk_at dksX8_value_0 1 rfl rfl)
theorem dX8_value_4 : decode cX8_value 4 = .ok (.iload_n 3, 1) := dk_29 (dk_at dksX8_value_0 4 rfl rfl)
theorem dX8_value_5 : decode cX8_value 5 = .ok (.ifCond .ne 19, 3) := dk_154 0 19 (dk_at dksX8_value_0 5 rfl rfl)
theorem dX8_value_8 : decode cX8_value 8 = .ok (.aload_n 0, 1) := dk_42 (dk_at dksX8_value_0 8 rfl rfl)
theorem dX8_value_9 : decode cX8_value 9 = .ok (.getfield 15, 3) := dk_180 0 15 (dk_at dksX8_value_0 9 rfl rfl)
theorem dX8_value_12 : decode cX8_value 12 = .ok (.ifCond .eq 7, 3) := dk_153 0 7 (dk_at dksX8_value_0 12 rfl rfl)
theorem dX8_value_15 : decode cX8_value 15 = .ok (.iconst 0, 1) := dk_3 (dk_at dksX8_value_0 15 rfl rfl)
theorem dX8_value_16 : decode cX8_value 16 = .ok (.goto 9, 3) := dk_167 0 9 (dk_at dksX8_value_0 16 rfl rfl)
theorem dX8_value_19 : decode cX8_value 19 = .ok (.ldc 31, 2) := dk_18 31 (dk_at dksX8_value_0 19 rfl rfl)
theorem dX8_value_21 : decode cX8_value 21 = .ok (.goto 4, 3) := dk_167 0 4 (dk_at dksX8_value_0 21 rfl rfl)
theorem dX8_value_24 : decode cX8_value 24 = .ok (.iconst (-1), 1) := dk_2 (dk_at dksX8_value_1 0 rfl rfl)
theorem dX8_value_25 : decode cX8_value 25 = .ok (.istore 4, 2) := dk_54 4 (dk_at dksX8_value_1 1 rfl rfl)
theorem dX8_value_27 : decode cX8_value 27 = .ok (.iconst 0, 1) := dk_3 (dk_at dksX8_value_1 3 rfl rfl)
theorem dX8_value_28 : decode cX8_value 28 = .ok (.istore 5, 2) := dk_54 5 (dk_at dksX8_value_1 4 rfl rfl)
theorem dX8_value_30 : decode cX8_value 30 = .ok (.iload 5, 2) := dk_21 5 (dk_at dksX8_value_1 6 rfl rfl)
theorem dX8_value_32 : decode cX8_value 32 = .ok (.aload_n 0, 1) := dk_42 (dk_at dksX8_value_1 8 rfl rfl)
theorem dX8_value_33 : decode cX8_value 33 = .ok (.getfield 9, 3) := dk_180 0 9 (dk_at dksX8_value_1 9 rfl rfl)
theorem dX8_value_36 : decode cX8_value 36 = .ok (.invokevirtual 32, 3) := dk_182 0 32 (dk_at dksX8_value_1 12 rfl rfl)
theorem dX8_value_39 : decode cX8_value 39 = .ok (.if_icmp .ge 93, 3) := dk_162 0 93 (dk_at dksX8_value_1 15 rfl rfl)
theorem dX8_value_42 : decode cX8_value 42 = .ok (.iload_n 2, 1) := dk_28 (dk_at dksX8_value_1 18 rfl rfl)
theorem dX8_value_43 : decode cX8_value 43 = .ok (.iconst 1, 1) := dk_4 (dk_at dksX8_value_1 19 rfl rfl)
theorem dX8_value_44 : decode cX8_value 44 = .ok (.iload 5, 2) := dk_21 5 (dk_at dksX8_value_1 20 rfl rfl)
theorem dX8_value_46 : decode cX8_value 46 = .ok (.ishl, 1) := dk_120 (dk_at dksX8_value_1 22 rfl rfl)
theorem dX8_value_47 : decode cX8_value 47 = .ok (.iconst (-1), 1) := dk_2 (dk_at dksX8_value_1 23 rfl rfl)
theorem dX8_value_48 : decode cX8_value 48 = .ok (.ixor, 1) := dk_130 (dk_at dksX8_value_2 0 rfl rfl)
theorem dX8_value_49 : decode cX8_value 49 = .ok (.iand, 1) := dk_126 (dk_at dksX8_value_2 1 rfl rfl)
theorem dX8_value_50 : decode cX8_value 50 = .ok (.istore 6, 2) := dk_54 6 (dk_at dksX8_value_2 2 rfl rfl)
theorem dX8_value_52 : decode cX8_value 52 = .ok (.iconst 0, 1) := dk_3 (dk_at dksX8_value_2 4 rfl rfl)
theorem dX8_value_53 : decode cX8_value 53 = .ok (.istore 7, 2) := dk_54 7 (dk_at dksX8_value_2 5 rfl rfl)
theorem dX8_value_55 : decode cX8_value 55 = .ok (.iload 7, 2) := dk_21 7 (dk_at dksX8_value_2 7 rfl rfl)
theorem dX8_value_57 : decode cX8_value 57 = .ok (.iload_n 3, 1) := dk_29 (dk_at dksX8_value_2 9 rfl rfl)
theorem dX8_value_58 : decode cX8_value 58 = .ok (.if_icmp .gt 68, 3) := dk_163 0 68 (dk_at dksX8_value_2 10 rfl rfl)
theorem dX8_value_61 : decode cX8_value 61 = .ok (.iload 6, 2) := dk_21 6 (dk_at dksX8_value_2 13 rfl rfl)
theorem dX8_value_63 : decode cX8_value 63 = .ok (.iload_n 2, 1) := dk_28 (dk_at dksX8_value_2 15 rfl rfl)
theorem dX8_value_64 : decode cX8_value 64 = .ok (.if_icmp .eq 62, 3) := dk_159 0 62 (dk_at dksX8_value_2 16 rfl rfl)
theorem dX8_value_67 : decode cX8_value 67 = .ok (.aload_n 1, 1) := dk_43 (dk_at dksX8_value_2 19 rfl rfl)
theorem dX8_value_68 : decode cX8_value 68 = .ok (.iload 6, 2) := dk_21 6 (dk_at dksX8_value_2 20 rfl rfl)
theorem dX8_value_70 : decode cX8_value 70 = .ok (.aaload, 1) := dk_50 (dk_at dksX8_value_2 22 rfl rfl)
theorem dX8_value_71 : decode cX8_value 71 = .ok (.iload 7, 2) := dk_21 7 (dk_at dksX8_value_3 0 rfl rfl)
theorem dX8_value_73 : decode cX8_value 73 = .ok (.iaload, 1) := dk_46 (dk_at dksX8_value_3 2 rfl rfl)
theorem dX8_value_74 : decode cX8_value 74 = .ok (.istore 8, 2) := dk_54 8 (dk_at dksX8_value_3 3 rfl rfl)
theorem dX8_value_76 : decode cX8_value 76 = .ok (.iload 8, 2) := dk_21 8 (dk_at dksX8_value_3 5 rfl rfl)
theorem dX8_value_78 : decode cX8_value 78 = .ok (.iconst (-1), 1) := dk_2 (dk_at dksX8_value_3 7 rfl rfl)
theorem dX8_value_79 : decode cX8_value 79 = .ok (.if_icmp .ne 7, 3) := dk_160 0 7 (dk_at dksX8_value_3 8 rfl rfl)
theorem dX8_value_82 : decode cX8_value 82 = .ok (.iconst (-1), 1) := dk_2 (dk_at dksX8_value_3 11 rfl rfl)
theorem dX8_value_83 : decode cX8_value 83 = .ok (.goto 26, 3) := dk_167 0 26 (dk_at dksX8_value_3 12 rfl rfl)
theorem dX8_value_86 : decode cX8_value 86 = .ok (.aload_n 0, 1) := dk_42 (dk_at dksX8_value_3 15 rfl rfl)
theorem dX8_value_87 : decode cX8_value 87 = .ok (.iload 8, 2) := dk_21 8 (dk_at dksX8_value_3 16 rfl rfl)
theorem dX8_value_89 : decode cX8_value 89 = .ok (.aload_n 0, 1) := dk_42 (dk_at dksX8_value_3 18 rfl rfl)
theorem dX8_value_90 : decode cX8_value 90 = .ok (.getfield 9, 3) := dk_180 0 9 (dk_at dksX8_value_3 19 rfl rfl)
theorem dX8_value_93 : decode cX8_value 93 = .ok (.iload 5, 2) := dk_21 5 (dk_at dksX8_value_3 22 rfl rfl)
theorem dX8_value_95 : decode cX8_value 95 = .ok (.invokevirtual 38, 3) := dk_182 0 38 (dk_at dksX8_value_4 0 rfl rfl)
theorem dX8_value_98 : decode cX8_value 98 = .ok (.iload 7, 2) := dk_21 7 (dk_at dksX8_value_4 3 rfl rfl)
theorem dX8_value_100 : decode cX8_value 100 = .ok (.iload_n 3, 1) := dk_29 (dk_at dksX8_value_4 5 rfl rfl)
theorem dX8_value_101 : decode cX8_value 101 = .ok (.iconst 1, 1) := dk_4 (dk_at dksX8_value_4 6 rfl rfl)
theorem dX8_value_102 : decode cX8_value 102 = .ok (.isub, 1) := dk_100 (dk_at dksX8_value_4 7 rfl rfl)
theorem dX8_value_103 : decode cX8_value 103 = .ok (.invokevirtual 42, 3) := dk_182 0 42 (dk_at dksX8_value_4 8 rfl rfl)
theorem dX8_value_106 : decode cX8_value 106 = .ok (.invokevirtual 47, 3) := dk_182 0 47 (dk_at dksX8_value_4 11 rfl rfl)
theorem dX8_value_109 : decode cX8_value 109 = .ok (.istore 9, 2) := dk_54 9 (dk_at dksX8_value_4 14 rfl rfl)
theorem dX8_value_111 : decode cX8_value 111 = .ok (.iload 4, 2) := dk_21 4 (dk_at dksX8_value_4 16 rfl rfl)
theorem dX8_value_113 : decode cX8_value 113 = .ok (.iload 9, 2) := dk_21 9 (dk_at dksX8_value_4 18 rfl rfl)
theorem dX8_value_115 : decode cX8_value 115 = .ok (.invokestatic 50, 3) := dk_184 0 50 (dk_at dksX8_value_4 20 rfl rfl)
theorem dX8_value_118 : decode cX8_value 118 = .ok (.istore 4, 2) := dk_54 4 (dk_at dksX8_value_5 0 rfl rfl)
theorem dX8_value_120 : decode cX8_value 120 = .ok (.iinc 7 1, 3) := dk_132 7 1 (dk_at dksX8_value_5 2 rfl rfl)
theorem dX8_value_123 : decode cX8_value 123 = .ok (.goto (-68), 3) := dk_167 255 188 (dk_at dksX8_value_5 5 rfl rfl)
theorem dX8_value_126 : decode cX8_value 126 = .ok (.iinc 5 1, 3) := dk_132 5 1 (dk_at dksX8_value_5 8 rfl rfl)
theorem dX8_value_129 : decode cX8_value 129 = .ok (.goto (-99), 3) := dk_167 255 157 (dk_at dksX8_value_5 11 rfl rfl)
theorem dX8_value_132 : decode cX8_value 132 = .ok (.iload 4, 2) := dk_21 4 (dk_at dksX8_value_5 14 rfl rfl)
theorem dX8_value_134 : decode cX8_value 134 = .ok (.ireturn, 1) := dk_172 (dk_at dksX8_value_5 16 rfl rfl)
abbrev cX8_combine : ByteArray := prog_2_method_2_code
def yX8_combine : MethodName := ⟨RX8, "combine", "(II)I"⟩
def dkwX8_combine_0 : List UInt8 := [42, 180, 0, 15, 153, 0, 9, 27, 28, 96, 167, 0, 8, 27, 28, 184, 0, 23, 172]
abbrev dktX8_combine_0 : List UInt8 := dkwX8_combine_0 ++ []
theorem dksX8_combine_0 : cX8_combine.data.toList.drop 0 = dktX8_combine_0 := by decide +kernel
theorem dX8_combine_0 : decode cX8_combine 0 = .ok (.aload_n 0, 1) := dk_42 (dk_at dksX8_combine_0 0 rfl rfl)
theorem dX8_combine_1 : decode cX8_combine 1 = .ok (.getfield 15, 3) := dk_180 0 15 (dk_at dksX8_combine_0 1 rfl rfl)
theorem dX8_combine_4 : decode cX8_combine 4 = .ok (.ifCond .eq 9, 3) := dk_153 0 9 (dk_at dksX8_combine_0 4 rfl rfl)
theorem dX8_combine_7 : decode cX8_combine 7 = .ok (.iload_n 1, 1) := dk_27 (dk_at dksX8_combine_0 7 rfl rfl)
theorem dX8_combine_8 : decode cX8_combine 8 = .ok (.iload_n 2, 1) := dk_28 (dk_at dksX8_combine_0 8 rfl rfl)
theorem dX8_combine_9 : decode cX8_combine 9 = .ok (.iadd, 1) := dk_96 (dk_at dksX8_combine_0 9 rfl rfl)
theorem dX8_combine_10 : decode cX8_combine 10 = .ok (.goto 8, 3) := dk_167 0 8 (dk_at dksX8_combine_0 10 rfl rfl)
theorem dX8_combine_13 : decode cX8_combine 13 = .ok (.iload_n 1, 1) := dk_27 (dk_at dksX8_combine_0 13 rfl rfl)
theorem dX8_combine_14 : decode cX8_combine 14 = .ok (.iload_n 2, 1) := dk_28 (dk_at dksX8_combine_0 14 rfl rfl)
theorem dX8_combine_15 : decode cX8_combine 15 = .ok (.invokestatic 23, 3) := dk_184 0 23 (dk_at dksX8_combine_0 15 rfl rfl)
theorem dX8_combine_18 : decode cX8_combine 18 = .ok (.ireturn, 1) := dk_172 (dk_at dksX8_combine_0 18 rfl rfl)
theorem q128 : (Jvm.Cond.initialized "CakeDivision$Divider") ∈ lw_all := lw_g (lw_at lw_m1 33 rfl) rfl
theorem q731 : (Jvm.Cond.selects "CakeDivision$Divider" ({ cls := "java/lang/Object", name := "getClass", desc := "()Ljava/lang/Class;" } : Jvm.MethodName) ({ cls := "java/lang/Object", name := "getClass", desc := "()Ljava/lang/Class;" } : Jvm.MethodName)) ∈ lw_all := lw_g (lw_at lw_m3 156 rfl) rfl
theorem q908 : (Jvm.Cond.instantiable "CakeDivision$Divider" (3 : Nat)) ∈ lw_all := lw_g (lw_at lw_m4 93 rfl) rfl
theorem q910 : (Jvm.Cond.instanceMethod ({ cls := "CakeDivision$Divider", name := "<init>", desc := "(LCakeDivision$State;Z)V" } : Jvm.MethodName)) ∈ lw_all := lw_g (lw_at lw_m4 95 rfl) rfl
theorem q911 : (Jvm.Cond.code ({ cls := "CakeDivision$Divider", name := "<init>", desc := "(LCakeDivision$State;Z)V" } : Jvm.MethodName) prog_2_method_1_code (3 : Nat) (Option.none : Option Jvm.ClassFile.FieldType)) ∈ lw_all := lw_g (lw_at lw_m4 96 rfl) rfl
theorem q912 : (Jvm.Cond.methodLink "CakeDivision$Divider" (3 : Nat) ({ cls := "java/lang/Object", name := "<init>", desc := "()V" } : Jvm.MethodName)) ∈ lw_all := lw_g (lw_at lw_m4 97 rfl) rfl
theorem q913 : (Jvm.Cond.fieldLink "CakeDivision$Divider" (19 : Nat) "CakeDivision$Divider" "best" "[I") ∈ lw_all := lw_g (lw_at lw_m4 98 rfl) rfl
theorem q914 : (Jvm.Cond.fieldLink "CakeDivision$Divider" (9 : Nat) "CakeDivision$Divider" "state" "LCakeDivision$State;") ∈ lw_all := lw_g (lw_at lw_m4 99 rfl) rfl
theorem q915 : (Jvm.Cond.fieldLink "CakeDivision$Divider" (15 : Nat) "CakeDivision$Divider" "isSum" "Z") ∈ lw_all := lw_g (lw_at lw_m4 100 rfl) rfl
theorem q916 : (Jvm.Cond.laysFinal "CakeDivision$Divider" "CakeDivision$Divider" "best" "[I") ∈ lw_all := lw_g (lw_at lw_m4 101 rfl) rfl
theorem q917 : (Jvm.Cond.soleField "CakeDivision$Divider" "best") ∈ lw_all := lw_g (lw_at lw_m4 102 rfl) rfl
theorem q918 : (Jvm.Cond.laysFinal "CakeDivision$Divider" "CakeDivision$Divider" "state" "LCakeDivision$State;") ∈ lw_all := lw_g (lw_at lw_m4 103 rfl) rfl
theorem q919 : (Jvm.Cond.soleField "CakeDivision$Divider" "state") ∈ lw_all := lw_g (lw_at lw_m4 104 rfl) rfl
theorem q920 : (Jvm.Cond.laysFinal "CakeDivision$Divider" "CakeDivision$Divider" "isSum" "Z") ∈ lw_all := lw_g (lw_at lw_m4 105 rfl) rfl
theorem q921 : (Jvm.Cond.soleField "CakeDivision$Divider" "isSum") ∈ lw_all := lw_g (lw_at lw_m4 106 rfl) rfl
theorem q922 : (Jvm.Cond.superclass "CakeDivision$Divider" "java/lang/Object") ∈ lw_all := lw_g (lw_at lw_m4 107 rfl) rfl
theorem q924 : (Jvm.Cond.instanceMethod ({ cls := "CakeDivision$Divider", name := "run", desc := "()I" } : Jvm.MethodName)) ∈ lw_all := lw_g (lw_at lw_m4 109 rfl) rfl
theorem q925 : (Jvm.Cond.selects "CakeDivision$Divider" ({ cls := "CakeDivision$Divider", name := "run", desc := "()I" } : Jvm.MethodName) ({ cls := "CakeDivision$Divider", name := "run", desc := "()I" } : Jvm.MethodName)) ∈ lw_all := lw_g (lw_at lw_m4 110 rfl) rfl
theorem q926 : (Jvm.Cond.code ({ cls := "CakeDivision$Divider", name := "run", desc := "()I" } : Jvm.MethodName) prog_2_method_4_code (6 : Nat) (Option.some Jvm.ClassFile.FieldType.int)) ∈ lw_all := lw_g (lw_at lw_m4 111 rfl) rfl
theorem q927 : (Jvm.Cond.methodLink "CakeDivision$Divider" (53 : Nat) ({ cls := "CakeDivision$State", name := "cells", desc := "()I" } : Jvm.MethodName)) ∈ lw_all := lw_g (lw_at lw_m4 112 rfl) rfl
theorem q928 : (Jvm.Cond.methodLink "CakeDivision$Divider" (32 : Nat) ({ cls := "CakeDivision$State", name := "size", desc := "()I" } : Jvm.MethodName)) ∈ lw_all := lw_g (lw_at lw_m4 113 rfl) rfl
theorem q929 : (Jvm.Cond.classLink "CakeDivision$Divider" (56 : Nat) "[[I") ∈ lw_all := lw_g (lw_at lw_m4 114 rfl) rfl
theorem q931 : (Jvm.Cond.methodLink "CakeDivision$Divider" (58 : Nat) ({ cls := "CakeDivision$Divider", name := "value", desc := "([[III)I" } : Jvm.MethodName)) ∈ lw_all := lw_g (lw_at lw_m4 116 rfl) rfl
theorem q932 : (Jvm.Cond.privateMethod ({ cls := "CakeDivision$Divider", name := "value", desc := "([[III)I" } : Jvm.MethodName)) ∈ lw_tbl := lw_at lw_m4 117 rfl
theorem q933 : (Jvm.Cond.instanceMethod ({ cls := "CakeDivision$Divider", name := "value", desc := "([[III)I" } : Jvm.MethodName)) ∈ lw_all := lw_g (lw_at lw_m4 118 rfl) rfl
theorem q934 : (Jvm.Cond.code ({ cls := "CakeDivision$Divider", name := "value", desc := "([[III)I" } : Jvm.MethodName) prog_2_method_3_code (10 : Nat) (Option.some Jvm.ClassFile.FieldType.int)) ∈ lw_all := lw_g (lw_at lw_m4 119 rfl) rfl
theorem q935 : (Jvm.Cond.constant "CakeDivision$Divider" (31 : Nat) (2147483647 : Int32)) ∈ lw_all := lw_g (lw_at lw_m4 120 rfl) rfl
theorem q936 : (Jvm.Cond.methodLink "CakeDivision$Divider" (38 : Nat) ({ cls := "CakeDivision$State", name := "sibling", desc := "(I)LCakeDivision$Sibling;" } : Jvm.MethodName)) ∈ lw_all := lw_g (lw_at lw_m4 121 rfl) rfl
theorem q937 : (Jvm.Cond.methodLink "CakeDivision$Divider" (42 : Nat) ({ cls := "CakeDivision$Sibling", name := "worth", desc := "(II)I" } : Jvm.MethodName)) ∈ lw_all := lw_g (lw_at lw_m4 122 rfl) rfl
theorem q938 : (Jvm.Cond.methodLink "CakeDivision$Divider" (47 : Nat) ({ cls := "CakeDivision$Divider", name := "combine", desc := "(II)I" } : Jvm.MethodName)) ∈ lw_all := lw_g (lw_at lw_m4 123 rfl) rfl
theorem q939 : (Jvm.Cond.privateMethod ({ cls := "CakeDivision$Divider", name := "combine", desc := "(II)I" } : Jvm.MethodName)) ∈ lw_tbl := lw_at lw_m4 124 rfl
theorem q940 : (Jvm.Cond.instanceMethod ({ cls := "CakeDivision$Divider", name := "combine", desc := "(II)I" } : Jvm.MethodName)) ∈ lw_all := lw_g (lw_at lw_m4 125 rfl) rfl
theorem q941 : (Jvm.Cond.code ({ cls := "CakeDivision$Divider", name := "combine", desc := "(II)I" } : Jvm.MethodName) prog_2_method_2_code (3 : Nat) (Option.some Jvm.ClassFile.FieldType.int)) ∈ lw_all := lw_g (lw_at lw_m4 126 rfl) rfl
theorem q942 : (Jvm.Cond.methodLink "CakeDivision$Divider" (23 : Nat) ({ cls := "java/lang/Math", name := "min", desc := "(II)I" } : Jvm.MethodName)) ∈ lw_all := lw_g (lw_at lw_m4 127 rfl) rfl
theorem q943 : (Jvm.Cond.methodLink "CakeDivision$Divider" (50 : Nat) ({ cls := "java/lang/Math", name := "max", desc := "(II)I" } : Jvm.MethodName)) ∈ lw_all := lw_g (lw_at lw_m4 128 rfl) rfl
theorem q2181 : (Jvm.Cond.castable "CakeDivision$Divider" "java/lang/Object") ∈ lw_tbl := lw_at lw_m9 166 rfl
theorem in_X8 : ∀ w ∈ wsX80, w ∈ lw_all := lw_in wsX80 [916, 918, 920] (by decide +kernel) (by decide +kernel)
/-! java/util/ArrayList -/
set_option maxRecDepth 100000
def RJ2 : String := "java/util/ArrayList"
def TJ2 : u_T := fun k => match k with
  | 0 => ("java/util/AbstractList", "modCount", "I", false)
  | 1 => ("java/util/ArrayList", "elementData", "[Ljava/lang/Object;", false)
  | _ => ("java/util/ArrayList", "size", "I", false)
def tyJ2 : Nat → FieldType := fun k => match k with
  | 0 => .int
  | 1 => .array (.object "java/lang/Object")
  | _ => .int
abbrev wsJ20 : List Cond := u_ws RJ2 TJ2 3
theorem nmJ2 : ∀ a, a < 3 → ∀ b, b < 3 → a ≠ b → (TJ2 a).2.1 ≠ (TJ2 b).2.1 := by decide +kernel
theorem tyJ2_ok : ∀ k, k < 3 → parseFieldDescriptor (TJ2 k).2.2.1 = some (tyJ2 k) := by decide +kernel
abbrev cJ2_init : ByteArray := prog_37_method_1_code
def yJ2_init : MethodName := ⟨RJ2, "<init>", "(I)V"⟩
def dkwJ2_init_2 : List UInt8 := [182, 0, 25, 27, 182, 0, 29, 182, 0, 32, 183, 0, 36, 191, 177]
abbrev dktJ2_init_2 : List UInt8 := dkwJ2_init_2 ++ []
def dkwJ2_init_1 : List UInt8 := [178, 0, 15, 181, 0, 9, 167, 0, 30, 187, 0, 18, 89, 187, 0, 20, 89, 183, 0, 22, 18, 23]
abbrev dktJ2_init_1 : List UInt8 := dkwJ2_init_1 ++ dktJ2_init_2
def dkwJ2_init_0 : List UInt8 := [42, 183, 0, 1, 27, 158, 0, 14, 42, 27, 189, 0, 7, 181, 0, 9, 167, 0, 44, 27, 154, 0, 13, 42]
abbrev dktJ2_init_0 : List UInt8 := dkwJ2_init_0 ++ dktJ2_init_1
theorem dksJ2_init_0 : cJ2_init.data.toList.drop 0 = dktJ2_init_0 := by decide +kernel
theorem dksJ2_init_1 : cJ2_init.data.toList.drop 24 = dktJ2_init_1 := dk_seg dksJ2_init_0 24 rfl rfl
theorem dksJ2_init_2 : cJ2_init.data.toList.drop 46 = dktJ2_init_2 := dk_seg dksJ2_init_1 22 rfl rfl
theorem dJ2_init_0 : decode cJ2_init 0 = .ok (.aload_n 0, 1) := dk_42 (dk_at dksJ2_init_0 0 rfl rfl)
theorem dJ2_init_1 : decode cJ2_init 1 = .ok (.invokespecial 1, 3) := dk_183 0 1 (dk_at dksJ2_init_0 1 rfl rfl)
theorem dJ2_init_4 : decode cJ2_init 4 = .ok (.iload_n 1, 1) := dk_27 (dk_at dksJ2_init_0 4 rfl rfl)
theorem dJ2_init_5 : decode cJ2_init 5 = .ok (.ifCond .le 14, 3) := dk_158 0 14 (dk_at dksJ2_init_0 5 rfl rfl)
theorem dJ2_init_8 : decode cJ2_init 8 = .ok (.aload_n 0, 1) := dk_42 (dk_at dksJ2_init_0 8 rfl rfl)
theorem dJ2_init_9 : decode cJ2_init 9 = .ok (.iload_n 1, 1) := dk_27 (dk_at dksJ2_init_0 9 rfl rfl)
theorem dJ2_init_10 : decode cJ2_init 10 = .ok (.anewarray 7, 3) := dk_189 0 7 (dk_at dksJ2_init_0 10 rfl rfl)
theorem dJ2_init_13 : decode cJ2_init 13 = .ok (.putfield 9, 3) := dk_181 0 9 (dk_at dksJ2_init_0 13 rfl rfl)
theorem dJ2_init_16 : decode cJ2_init 16 = .ok (.goto 44, 3) := dk_167 0 44 (dk_at dksJ2_init_0 16 rfl rfl)
theorem dJ2_init_19 : decode cJ2_init 19 = .ok (.iload_n 1, 1) := dk_27 (dk_at dksJ2_init_0 19 rfl rfl)
theorem dJ2_init_20 : decode cJ2_init 20 = .ok (.ifCond .ne 13, 3) := dk_154 0 13 (dk_at dksJ2_init_0 20 rfl rfl)
theorem dJ2_init_23 : decode cJ2_init 23 = .ok (.aload_n 0, 1) := dk_42 (dk_at dksJ2_init_0 23 rfl rfl)
theorem dJ2_init_24 : decode cJ2_init 24 = .ok (.getstatic 15, 3) := dk_178 0 15 (dk_at dksJ2_init_1 0 rfl rfl)
theorem dJ2_init_27 : decode cJ2_init 27 = .ok (.putfield 9, 3) := dk_181 0 9 (dk_at dksJ2_init_1 3 rfl rfl)
theorem dJ2_init_30 : decode cJ2_init 30 = .ok (.goto 30, 3) := dk_167 0 30 (dk_at dksJ2_init_1 6 rfl rfl)
theorem dJ2_init_33 : decode cJ2_init 33 = .ok (.new 18, 3) := dk_187 0 18 (dk_at dksJ2_init_1 9 rfl rfl)
theorem dJ2_init_36 : decode cJ2_init 36 = .ok (.dup, 1) := dk_89 (dk_at dksJ2_init_1 12 rfl rfl)
theorem dJ2_init_37 : decode cJ2_init 37 = .ok (.new 20, 3) := dk_187 0 20 (dk_at dksJ2_init_1 13 rfl rfl)
theorem dJ2_init_40 : decode cJ2_init 40 = .ok (.dup, 1) := dk_89 (dk_at dksJ2_init_1 16 rfl rfl)
theorem dJ2_init_41 : decode cJ2_init 41 = .ok (.invokespecial 22, 3) := dk_183 0 22 (dk_at dksJ2_init_1 17 rfl rfl)
theorem dJ2_init_44 : decode cJ2_init 44 = .ok (.ldc 23, 2) := dk_18 23 (dk_at dksJ2_init_1 20 rfl rfl)
theorem dJ2_init_46 : decode cJ2_init 46 = .ok (.invokevirtual 25, 3) := dk_182 0 25 (dk_at dksJ2_init_2 0 rfl rfl)
theorem dJ2_init_49 : decode cJ2_init 49 = .ok (.iload_n 1, 1) := dk_27 (dk_at dksJ2_init_2 3 rfl rfl)
theorem dJ2_init_50 : decode cJ2_init 50 = .ok (.invokevirtual 29, 3) := dk_182 0 29 (dk_at dksJ2_init_2 4 rfl rfl)
theorem dJ2_init_53 : decode cJ2_init 53 = .ok (.invokevirtual 32, 3) := dk_182 0 32 (dk_at dksJ2_init_2 7 rfl rfl)
theorem dJ2_init_56 : decode cJ2_init 56 = .ok (.invokespecial 36, 3) := dk_183 0 36 (dk_at dksJ2_init_2 10 rfl rfl)
theorem dJ2_init_59 : decode cJ2_init 59 = .ok (.athrow, 1) := dk_191 (dk_at dksJ2_init_2 13 rfl rfl)
theorem dJ2_init_60 : decode cJ2_init 60 = .ok (.return_, 1) := dk_177 (dk_at dksJ2_init_2 14 rfl rfl)
abbrev cJ2_size : ByteArray := prog_37_method_8_code
def yJ2_size : MethodName := ⟨RJ2, "size", "()I"⟩
theorem dJ2_size_0 : decode cJ2_size 0 = .ok (.aload_n 0, 1) := by decide +kernel
theorem dJ2_size_1 : decode cJ2_size 1 = .ok (.getfield 48, 3) := by decide +kernel
theorem dJ2_size_4 : decode cJ2_size 4 = .ok (.ireturn, 1) := by decide +kernel
abbrev cJ2_get : ByteArray := prog_37_method_20_code
def yJ2_get : MethodName := ⟨RJ2, "get", "(I)Ljava/lang/Object;"⟩
def dkwJ2_get_0 : List UInt8 := [27, 42, 180, 0, 48, 184, 0, 118, 87, 42, 27, 182, 0, 123, 176]
abbrev dktJ2_get_0 : List UInt8 := dkwJ2_get_0 ++ []
theorem dksJ2_get_0 : cJ2_get.data.toList.drop 0 = dktJ2_get_0 := by decide +kernel
theorem dJ2_get_0 : decode cJ2_get 0 = .ok (.iload_n 1, 1) := dk_27 (dk_at dksJ2_get_0 0 rfl rfl)
theorem dJ2_get_1 : decode cJ2_get 1 = .ok (.aload_n 0, 1) := dk_42 (dk_at dksJ2_get_0 1 rfl rfl)
theorem dJ2_get_2 : decode cJ2_get 2 = .ok (.getfield 48, 3) := dk_180 0 48 (dk_at dksJ2_get_0 2 rfl rfl)
theorem dJ2_get_5 : decode cJ2_get 5 = .ok (.invokestatic 118, 3) := dk_184 0 118 (dk_at dksJ2_get_0 5 rfl rfl)
theorem dJ2_get_8 : decode cJ2_get 8 = .ok (.pop, 1) := dk_87 (dk_at dksJ2_get_0 8 rfl rfl)
theorem dJ2_get_9 : decode cJ2_get 9 = .ok (.aload_n 0, 1) := dk_42 (dk_at dksJ2_get_0 9 rfl rfl)
theorem dJ2_get_10 : decode cJ2_get 10 = .ok (.iload_n 1, 1) := dk_27 (dk_at dksJ2_get_0 10 rfl rfl)
theorem dJ2_get_11 : decode cJ2_get 11 = .ok (.invokevirtual 123, 3) := dk_182 0 123 (dk_at dksJ2_get_0 11 rfl rfl)
theorem dJ2_get_14 : decode cJ2_get 14 = .ok (.areturn, 1) := dk_176 (dk_at dksJ2_get_0 14 rfl rfl)
abbrev cJ2_elementData : ByteArray := prog_37_method_18_code
def yJ2_elementData : MethodName := ⟨RJ2, "elementData", "(I)Ljava/lang/Object;"⟩
def dkwJ2_elementData_0 : List UInt8 := [42, 180, 0, 9, 27, 50, 176]
abbrev dktJ2_elementData_0 : List UInt8 := dkwJ2_elementData_0 ++ []
theorem dksJ2_elementData_0 : cJ2_elementData.data.toList.drop 0 = dktJ2_elementData_0 := by decide +kernel
theorem dJ2_elementData_0 : decode cJ2_elementData 0 = .ok (.aload_n 0, 1) := dk_42 (dk_at dksJ2_elementData_0 0 rfl rfl)
theorem dJ2_elementData_1 : decode cJ2_elementData 1 = .ok (.getfield 9, 3) := dk_180 0 9 (dk_at dksJ2_elementData_0 1 rfl rfl)
theorem dJ2_elementData_4 : decode cJ2_elementData 4 = .ok (.iload_n 1, 1) := dk_27 (dk_at dksJ2_elementData_0 4 rfl rfl)
theorem dJ2_elementData_5 : decode cJ2_elementData 5 = .ok (.aaload, 1) := dk_50 (dk_at dksJ2_elementData_0 5 rfl rfl)
theorem dJ2_elementData_6 : decode cJ2_elementData 6 = .ok (.areturn, 1) := dk_176 (dk_at dksJ2_elementData_0 6 rfl rfl)
abbrev cJ2_add : ByteArray := prog_37_method_25_code
def yJ2_add : MethodName := ⟨RJ2, "add", "(Ljava/lang/Object;)Z"⟩
def dkwJ2_add_1 : List UInt8 := [172]
abbrev dktJ2_add_1 : List UInt8 := dkwJ2_add_1 ++ []
def dkwJ2_add_0 : List UInt8 := [42, 89, 180, 0, 63, 4, 96, 181, 0, 63, 42, 43, 42, 180, 0, 9, 42, 180, 0, 48, 182, 0, 131, 4]
abbrev dktJ2_add_0 : List UInt8 := dkwJ2_add_0 ++ dktJ2_add_1
theorem dksJ2_add_0 : cJ2_add.data.toList.drop 0 = dktJ2_add_0 := by decide +kernel
theorem dksJ2_add_1 : cJ2_add.data.toList.drop 24 = dktJ2_add_1 := dk_seg dksJ2_add_0 24 rfl rfl
theorem dJ2_add_0 : decode cJ2_add 0 = .ok (.aload_n 0, 1) := dk_42 (dk_at dksJ2_add_0 0 rfl rfl)
theorem dJ2_add_1 : decode cJ2_add 1 = .ok (.dup, 1) := dk_89 (dk_at dksJ2_add_0 1 rfl rfl)
theorem dJ2_add_2 : decode cJ2_add 2 = .ok (.getfield 63, 3) := dk_180 0 63 (dk_at dksJ2_add_0 2 rfl rfl)
theorem dJ2_add_5 : decode cJ2_add 5 = .ok (.iconst 1, 1) := dk_4 (dk_at dksJ2_add_0 5 rfl rfl)
theorem dJ2_add_6 : decode cJ2_add 6 = .ok (.iadd, 1) := dk_96 (dk_at dksJ2_add_0 6 rfl rfl)
theorem dJ2_add_7 : decode cJ2_add 7 = .ok (.putfield 63, 3) := dk_181 0 63 (dk_at dksJ2_add_0 7 rfl rfl)
theorem dJ2_add_10 : decode cJ2_add 10 = .ok (.aload_n 0, 1) := dk_42 (dk_at dksJ2_add_0 10 rfl rfl)
theorem dJ2_add_11 : decode cJ2_add 11 = .ok (.aload_n 1, 1) := dk_43 (dk_at dksJ2_add_0 11 rfl rfl)
theorem dJ2_add_12 : decode cJ2_add 12 = .ok (.aload_n 0, 1) := dk_42 (dk_at dksJ2_add_0 12 rfl rfl)
theorem dJ2_add_13 : decode cJ2_add 13 = .ok (.getfield 9, 3) := dk_180 0 9 (dk_at dksJ2_add_0 13 rfl rfl)
theorem dJ2_add_16 : decode cJ2_add 16 = .ok (.aload_n 0, 1) := dk_42 (dk_at dksJ2_add_0 16 rfl rfl)
theorem dJ2_add_17 : decode cJ2_add 17 = .ok (.getfield 48, 3) := dk_180 0 48 (dk_at dksJ2_add_0 17 rfl rfl)
theorem dJ2_add_20 : decode cJ2_add 20 = .ok (.invokevirtual 131, 3) := dk_182 0 131 (dk_at dksJ2_add_0 20 rfl rfl)
theorem dJ2_add_23 : decode cJ2_add 23 = .ok (.iconst 1, 1) := dk_4 (dk_at dksJ2_add_0 23 rfl rfl)
theorem dJ2_add_24 : decode cJ2_add 24 = .ok (.ireturn, 1) := dk_172 (dk_at dksJ2_add_1 0 rfl rfl)
abbrev cJ2_add_2 : ByteArray := prog_37_method_24_code
def yJ2_add_2 : MethodName := ⟨RJ2, "add", "(Ljava/lang/Object;[Ljava/lang/Object;I)V"⟩
def dkwJ2_add_2_0 : List UInt8 := [29, 44, 190, 160, 0, 8, 42, 182, 0, 129, 77, 44, 29, 43, 83, 42, 29, 4, 96, 181, 0, 48, 177]
abbrev dktJ2_add_2_0 : List UInt8 := dkwJ2_add_2_0 ++ []
theorem dksJ2_add_2_0 : cJ2_add_2.data.toList.drop 0 = dktJ2_add_2_0 := by decide +kernel
theorem dJ2_add_2_0 : decode cJ2_add_2 0 = .ok (.iload_n 3, 1) := dk_29 (dk_at dksJ2_add_2_0 0 rfl rfl)
theorem dJ2_add_2_1 : decode cJ2_add_2 1 = .ok (.aload_n 2, 1) := dk_44 (dk_at dksJ2_add_2_0 1 rfl rfl)
theorem dJ2_add_2_2 : decode cJ2_add_2 2 = .ok (.arraylength, 1) := dk_190 (dk_at dksJ2_add_2_0 2 rfl rfl)
theorem dJ2_add_2_3 : decode cJ2_add_2 3 = .ok (.if_icmp .ne 8, 3) := dk_160 0 8 (dk_at dksJ2_add_2_0 3 rfl rfl)
theorem dJ2_add_2_6 : decode cJ2_add_2 6 = .ok (.aload_n 0, 1) := dk_42 (dk_at dksJ2_add_2_0 6 rfl rfl)
theorem dJ2_add_2_7 : decode cJ2_add_2 7 = .ok (.invokevirtual 129, 3) := dk_182 0 129 (dk_at dksJ2_add_2_0 7 rfl rfl)
theorem dJ2_add_2_10 : decode cJ2_add_2 10 = .ok (.astore_n 2, 1) := dk_77 (dk_at dksJ2_add_2_0 10 rfl rfl)
theorem dJ2_add_2_11 : decode cJ2_add_2 11 = .ok (.aload_n 2, 1) := dk_44 (dk_at dksJ2_add_2_0 11 rfl rfl)
theorem dJ2_add_2_12 : decode cJ2_add_2 12 = .ok (.iload_n 3, 1) := dk_29 (dk_at dksJ2_add_2_0 12 rfl rfl)
theorem dJ2_add_2_13 : decode cJ2_add_2 13 = .ok (.aload_n 1, 1) := dk_43 (dk_at dksJ2_add_2_0 13 rfl rfl)
theorem dJ2_add_2_14 : decode cJ2_add_2 14 = .ok (.aastore, 1) := dk_83 (dk_at dksJ2_add_2_0 14 rfl rfl)
theorem dJ2_add_2_15 : decode cJ2_add_2 15 = .ok (.aload_n 0, 1) := dk_42 (dk_at dksJ2_add_2_0 15 rfl rfl)
theorem dJ2_add_2_16 : decode cJ2_add_2 16 = .ok (.iload_n 3, 1) := dk_29 (dk_at dksJ2_add_2_0 16 rfl rfl)
theorem dJ2_add_2_17 : decode cJ2_add_2 17 = .ok (.iconst 1, 1) := dk_4 (dk_at dksJ2_add_2_0 17 rfl rfl)
theorem dJ2_add_2_18 : decode cJ2_add_2 18 = .ok (.iadd, 1) := dk_96 (dk_at dksJ2_add_2_0 18 rfl rfl)
theorem dJ2_add_2_19 : decode cJ2_add_2 19 = .ok (.putfield 48, 3) := dk_181 0 48 (dk_at dksJ2_add_2_0 19 rfl rfl)
theorem dJ2_add_2_22 : decode cJ2_add_2 22 = .ok (.return_, 1) := dk_177 (dk_at dksJ2_add_2_0 22 rfl rfl)
abbrev cJ2_grow : ByteArray := prog_37_method_7_code
def yJ2_grow : MethodName := ⟨RJ2, "grow", "()[Ljava/lang/Object;"⟩
def dkwJ2_grow_0 : List UInt8 := [42, 42, 180, 0, 48, 4, 96, 182, 0, 69, 176]
abbrev dktJ2_grow_0 : List UInt8 := dkwJ2_grow_0 ++ []
theorem dksJ2_grow_0 : cJ2_grow.data.toList.drop 0 = dktJ2_grow_0 := by decide +kernel
theorem dJ2_grow_0 : decode cJ2_grow 0 = .ok (.aload_n 0, 1) := dk_42 (dk_at dksJ2_grow_0 0 rfl rfl)
theorem dJ2_grow_1 : decode cJ2_grow 1 = .ok (.aload_n 0, 1) := dk_42 (dk_at dksJ2_grow_0 1 rfl rfl)
theorem dJ2_grow_2 : decode cJ2_grow 2 = .ok (.getfield 48, 3) := dk_180 0 48 (dk_at dksJ2_grow_0 2 rfl rfl)
theorem dJ2_grow_5 : decode cJ2_grow 5 = .ok (.iconst 1, 1) := dk_4 (dk_at dksJ2_grow_0 5 rfl rfl)
theorem dJ2_grow_6 : decode cJ2_grow 6 = .ok (.iadd, 1) := dk_96 (dk_at dksJ2_grow_0 6 rfl rfl)
theorem dJ2_grow_7 : decode cJ2_grow 7 = .ok (.invokevirtual 69, 3) := dk_182 0 69 (dk_at dksJ2_grow_0 7 rfl rfl)
theorem dJ2_grow_10 : decode cJ2_grow 10 = .ok (.areturn, 1) := dk_176 (dk_at dksJ2_grow_0 10 rfl rfl)
abbrev cJ2_grow_2 : ByteArray := prog_37_method_6_code
def yJ2_grow_2 : MethodName := ⟨RJ2, "grow", "(I)[Ljava/lang/Object;"⟩
def dkwJ2_grow_2_2 : List UInt8 := [27, 184, 0, 79, 189, 0, 7, 90, 181, 0, 9, 176]
abbrev dktJ2_grow_2_2 : List UInt8 := dkwJ2_grow_2_2 ++ []
def dkwJ2_grow_2_1 : List UInt8 := [28, 4, 122, 184, 0, 73, 62, 42, 42, 180, 0, 9, 29, 184, 0, 66, 90, 181, 0, 9, 176, 42, 16, 10]
abbrev dktJ2_grow_2_1 : List UInt8 := dkwJ2_grow_2_1 ++ dktJ2_grow_2_2
def dkwJ2_grow_2_0 : List UInt8 := [42, 180, 0, 9, 190, 61, 28, 157, 0, 13, 42, 180, 0, 9, 178, 0, 39, 165, 0, 28, 28, 27, 28, 100]
abbrev dktJ2_grow_2_0 : List UInt8 := dkwJ2_grow_2_0 ++ dktJ2_grow_2_1
theorem dksJ2_grow_2_0 : cJ2_grow_2.data.toList.drop 0 = dktJ2_grow_2_0 := by decide +kernel
theorem dksJ2_grow_2_1 : cJ2_grow_2.data.toList.drop 24 = dktJ2_grow_2_1 := dk_seg dksJ2_grow_2_0 24 rfl rfl
theorem dksJ2_grow_2_2 : cJ2_grow_2.data.toList.drop 48 = dktJ2_grow_2_2 := dk_seg dksJ2_grow_2_1 24 rfl rfl
theorem dJ2_grow_2_0 : decode cJ2_grow_2 0 = .ok (.aload_n 0, 1) := dk_42 (dk_at dksJ2_grow_2_0 0 rfl rfl)
theorem dJ2_grow_2_1 : decode cJ2_grow_2 1 = .ok (.getfield 9, 3) := dk_180 0 9 (dk_at dksJ2_grow_2_0 1 rfl rfl)
theorem dJ2_grow_2_4 : decode cJ2_grow_2 4 = .ok (.arraylength, 1) := dk_190 (dk_at dksJ2_grow_2_0 4 rfl rfl)
theorem dJ2_grow_2_5 : decode cJ2_grow_2 5 = .ok (.istore_n 2, 1) := dk_61 (dk_at dksJ2_grow_2_0 5 rfl rfl)
theorem dJ2_grow_2_6 : decode cJ2_grow_2 6 = .ok (.iload_n 2, 1) := dk_28 (dk_at dksJ2_grow_2_0 6 rfl rfl)
theorem dJ2_grow_2_7 : decode cJ2_grow_2 7 = .ok (.ifCond .gt 13, 3) := dk_157 0 13 (dk_at dksJ2_grow_2_0 7 rfl rfl)
theorem dJ2_grow_2_10 : decode cJ2_grow_2 10 = .ok (.aload_n 0, 1) := dk_42 (dk_at dksJ2_grow_2_0 10 rfl rfl)
theorem dJ2_grow_2_11 : decode cJ2_grow_2 11 = .ok (.getfield 9, 3) := dk_180 0 9 (dk_at dksJ2_grow_2_0 11 rfl rfl)
theorem dJ2_grow_2_14 : decode cJ2_grow_2 14 = .ok (.getstatic 39, 3) := dk_178 0 39 (dk_at dksJ2_grow_2_0 14 rfl rfl)
theorem dJ2_grow_2_17 : decode cJ2_grow_2 17 = .ok (.if_acmp .eq 28, 3) := dk_165 0 28 (dk_at dksJ2_grow_2_0 17 rfl rfl)
theorem dJ2_grow_2_20 : decode cJ2_grow_2 20 = .ok (.iload_n 2, 1) := dk_28 (dk_at dksJ2_grow_2_0 20 rfl rfl)
theorem dJ2_grow_2_21 : decode cJ2_grow_2 21 = .ok (.iload_n 1, 1) := dk_27 (dk_at dksJ2_grow_2_0 21 rfl rfl)
theorem dJ2_grow_2_22 : decode cJ2_grow_2 22 = .ok (.iload_n 2, 1) := dk_28 (dk_at dksJ2_grow_2_0 22 rfl rfl)
theorem dJ2_grow_2_23 : decode cJ2_grow_2 23 = .ok (.isub, 1) := dk_100 (dk_at dksJ2_grow_2_0 23 rfl rfl)
theorem dJ2_grow_2_24 : decode cJ2_grow_2 24 = .ok (.iload_n 2, 1) := dk_28 (dk_at dksJ2_grow_2_1 0 rfl rfl)
theorem dJ2_grow_2_25 : decode cJ2_grow_2 25 = .ok (.iconst 1, 1) := dk_4 (dk_at dksJ2_grow_2_1 1 rfl rfl)
theorem dJ2_grow_2_26 : decode cJ2_grow_2 26 = .ok (.ishr, 1) := dk_122 (dk_at dksJ2_grow_2_1 2 rfl rfl)
theorem dJ2_grow_2_27 : decode cJ2_grow_2 27 = .ok (.invokestatic 73, 3) := dk_184 0 73 (dk_at dksJ2_grow_2_1 3 rfl rfl)
theorem dJ2_grow_2_30 : decode cJ2_grow_2 30 = .ok (.istore_n 3, 1) := dk_62 (dk_at dksJ2_grow_2_1 6 rfl rfl)
theorem dJ2_grow_2_31 : decode cJ2_grow_2 31 = .ok (.aload_n 0, 1) := dk_42 (dk_at dksJ2_grow_2_1 7 rfl rfl)
theorem dJ2_grow_2_32 : decode cJ2_grow_2 32 = .ok (.aload_n 0, 1) := dk_42 (dk_at dksJ2_grow_2_1 8 rfl rfl)
theorem dJ2_grow_2_33 : decode cJ2_grow_2 33 = .ok (.getfield 9, 3) := dk_180 0 9 (dk_at dksJ2_grow_2_1 9 rfl rfl)
theorem dJ2_grow_2_36 : decode cJ2_grow_2 36 = .ok (.iload_n 3, 1) := dk_29 (dk_at dksJ2_grow_2_1 12 rfl rfl)
theorem dJ2_grow_2_37 : decode cJ2_grow_2 37 = .ok (.invokestatic 66, 3) := dk_184 0 66 (dk_at dksJ2_grow_2_1 13 rfl rfl)
theorem dJ2_grow_2_40 : decode cJ2_grow_2 40 = .ok (.dup_x1, 1) := dk_90 (dk_at dksJ2_grow_2_1 16 rfl rfl)
theorem dJ2_grow_2_41 : decode cJ2_grow_2 41 = .ok (.putfield 9, 3) := dk_181 0 9 (dk_at dksJ2_grow_2_1 17 rfl rfl)
theorem dJ2_grow_2_44 : decode cJ2_grow_2 44 = .ok (.areturn, 1) := dk_176 (dk_at dksJ2_grow_2_1 20 rfl rfl)
theorem dJ2_grow_2_45 : decode cJ2_grow_2 45 = .ok (.aload_n 0, 1) := dk_42 (dk_at dksJ2_grow_2_1 21 rfl rfl)
theorem dJ2_grow_2_46 : decode cJ2_grow_2 46 = .ok (.bipush 10, 2) := dk_16 10 (dk_at dksJ2_grow_2_1 22 rfl rfl)
theorem dJ2_grow_2_48 : decode cJ2_grow_2 48 = .ok (.iload_n 1, 1) := dk_27 (dk_at dksJ2_grow_2_2 0 rfl rfl)
theorem dJ2_grow_2_49 : decode cJ2_grow_2 49 = .ok (.invokestatic 79, 3) := dk_184 0 79 (dk_at dksJ2_grow_2_2 1 rfl rfl)
theorem dJ2_grow_2_52 : decode cJ2_grow_2 52 = .ok (.anewarray 7, 3) := dk_189 0 7 (dk_at dksJ2_grow_2_2 4 rfl rfl)
theorem dJ2_grow_2_55 : decode cJ2_grow_2 55 = .ok (.dup_x1, 1) := dk_90 (dk_at dksJ2_grow_2_2 7 rfl rfl)
theorem dJ2_grow_2_56 : decode cJ2_grow_2 56 = .ok (.putfield 9, 3) := dk_181 0 9 (dk_at dksJ2_grow_2_2 8 rfl rfl)
theorem dJ2_grow_2_59 : decode cJ2_grow_2 59 = .ok (.areturn, 1) := dk_176 (dk_at dksJ2_grow_2_2 11 rfl rfl)
abbrev cJ2_set : ByteArray := prog_37_method_23_code
def yJ2_set : MethodName := ⟨RJ2, "set", "(ILjava/lang/Object;)Ljava/lang/Object;"⟩
def dkwJ2_set_0 : List UInt8 := [27, 42, 180, 0, 48, 184, 0, 118, 87, 42, 27, 182, 0, 123, 78, 42, 180, 0, 9, 27, 44, 83, 45, 176]
abbrev dktJ2_set_0 : List UInt8 := dkwJ2_set_0 ++ []
theorem dksJ2_set_0 : cJ2_set.data.toList.drop 0 = dktJ2_set_0 := by decide +kernel
theorem dJ2_set_0 : decode cJ2_set 0 = .ok (.iload_n 1, 1) := dk_27 (dk_at dksJ2_set_0 0 rfl rfl)
theorem dJ2_set_1 : decode cJ2_set 1 = .ok (.aload_n 0, 1) := dk_42 (dk_at dksJ2_set_0 1 rfl rfl)
theorem dJ2_set_2 : decode cJ2_set 2 = .ok (.getfield 48, 3) := dk_180 0 48 (dk_at dksJ2_set_0 2 rfl rfl)
theorem dJ2_set_5 : decode cJ2_set 5 = .ok (.invokestatic 118, 3) := dk_184 0 118 (dk_at dksJ2_set_0 5 rfl rfl)
theorem dJ2_set_8 : decode cJ2_set 8 = .ok (.pop, 1) := dk_87 (dk_at dksJ2_set_0 8 rfl rfl)
theorem dJ2_set_9 : decode cJ2_set 9 = .ok (.aload_n 0, 1) := dk_42 (dk_at dksJ2_set_0 9 rfl rfl)
theorem dJ2_set_10 : decode cJ2_set 10 = .ok (.iload_n 1, 1) := dk_27 (dk_at dksJ2_set_0 10 rfl rfl)
theorem dJ2_set_11 : decode cJ2_set 11 = .ok (.invokevirtual 123, 3) := dk_182 0 123 (dk_at dksJ2_set_0 11 rfl rfl)
theorem dJ2_set_14 : decode cJ2_set 14 = .ok (.astore_n 3, 1) := dk_78 (dk_at dksJ2_set_0 14 rfl rfl)
theorem dJ2_set_15 : decode cJ2_set 15 = .ok (.aload_n 0, 1) := dk_42 (dk_at dksJ2_set_0 15 rfl rfl)
theorem dJ2_set_16 : decode cJ2_set 16 = .ok (.getfield 9, 3) := dk_180 0 9 (dk_at dksJ2_set_0 16 rfl rfl)
theorem dJ2_set_19 : decode cJ2_set 19 = .ok (.iload_n 1, 1) := dk_27 (dk_at dksJ2_set_0 19 rfl rfl)
theorem dJ2_set_20 : decode cJ2_set 20 = .ok (.aload_n 2, 1) := dk_44 (dk_at dksJ2_set_0 20 rfl rfl)
theorem dJ2_set_21 : decode cJ2_set 21 = .ok (.aastore, 1) := dk_83 (dk_at dksJ2_set_0 21 rfl rfl)
theorem dJ2_set_22 : decode cJ2_set 22 = .ok (.aload_n 3, 1) := dk_45 (dk_at dksJ2_set_0 22 rfl rfl)
theorem dJ2_set_23 : decode cJ2_set 23 = .ok (.areturn, 1) := dk_176 (dk_at dksJ2_set_0 23 rfl rfl)
theorem q100 : (Jvm.Cond.initialized "java/util/ArrayList") ∈ lw_all := lw_g (lw_at lw_m1 5 rfl) rfl
theorem q149 : (Jvm.Cond.instantiable "java/util/ArrayList" (3 : Nat)) ∈ lw_all := lw_g (lw_at lw_m1 54 rfl) rfl
theorem q151 : (Jvm.Cond.instanceMethod ({ cls := "java/util/ArrayList", name := "<init>", desc := "(I)V" } : Jvm.MethodName)) ∈ lw_all := lw_g (lw_at lw_m1 56 rfl) rfl
theorem q152 : (Jvm.Cond.code ({ cls := "java/util/ArrayList", name := "<init>", desc := "(I)V" } : Jvm.MethodName) prog_37_method_1_code (2 : Nat) (Option.none : Option Jvm.ClassFile.FieldType)) ∈ lw_all := lw_g (lw_at lw_m1 57 rfl) rfl
theorem q153 : (Jvm.Cond.methodLink "java/util/ArrayList" (1 : Nat) ({ cls := "java/util/AbstractList", name := "<init>", desc := "()V" } : Jvm.MethodName)) ∈ lw_all := lw_g (lw_at lw_m1 58 rfl) rfl
theorem q160 : (Jvm.Cond.classLink "java/util/ArrayList" (7 : Nat) "java/lang/Object") ∈ lw_all := lw_g (lw_at lw_m1 65 rfl) rfl
theorem q162 : (Jvm.Cond.fieldLink "java/util/ArrayList" (15 : Nat) "java/util/ArrayList" "EMPTY_ELEMENTDATA" "[Ljava/lang/Object;") ∈ lw_all := lw_g (lw_at lw_m1 67 rfl) rfl
theorem q163 : (Jvm.Cond.laysStatic "java/util/ArrayList" "EMPTY_ELEMENTDATA" "[Ljava/lang/Object;") ∈ lw_tbl := lw_at lw_m1 68 rfl
theorem q164 : (Jvm.Cond.classLink "java/util/ArrayList" (18 : Nat) "java/lang/IllegalArgumentException") ∈ lw_all := lw_g (lw_at lw_m1 69 rfl) rfl
theorem q208 : (Jvm.Cond.classLink "java/util/ArrayList" (20 : Nat) "java/lang/StringBuilder") ∈ lw_all := lw_g (lw_at lw_m1 113 rfl) rfl
theorem q210 : (Jvm.Cond.methodLink "java/util/ArrayList" (22 : Nat) ({ cls := "java/lang/StringBuilder", name := "<init>", desc := "()V" } : Jvm.MethodName)) ∈ lw_all := lw_g (lw_at lw_m1 115 rfl) rfl
theorem q240 : (Jvm.Cond.stringRef "java/util/ArrayList" (23 : Nat) "Illegal Capacity: ") ∈ lw_tbl := lw_at lw_m1 145 rfl
theorem q241 : (Jvm.Cond.methodLink "java/util/ArrayList" (25 : Nat) ({ cls := "java/lang/StringBuilder", name := "append", desc := "(Ljava/lang/String;)Ljava/lang/StringBuilder;" } : Jvm.MethodName)) ∈ lw_all := lw_g (lw_at lw_m1 146 rfl) rfl
theorem q361 : (Jvm.Cond.methodLink "java/util/ArrayList" (29 : Nat) ({ cls := "java/lang/StringBuilder", name := "append", desc := "(I)Ljava/lang/StringBuilder;" } : Jvm.MethodName)) ∈ lw_all := lw_g (lw_at lw_m2 26 rfl) rfl
theorem q386 : (Jvm.Cond.methodLink "java/util/ArrayList" (32 : Nat) ({ cls := "java/lang/StringBuilder", name := "toString", desc := "()Ljava/lang/String;" } : Jvm.MethodName)) ∈ lw_all := lw_g (lw_at lw_m2 51 rfl) rfl
theorem q478 : (Jvm.Cond.methodLink "java/util/ArrayList" (36 : Nat) ({ cls := "java/lang/IllegalArgumentException", name := "<init>", desc := "(Ljava/lang/String;)V" } : Jvm.MethodName)) ∈ lw_all := lw_g (lw_at lw_m2 143 rfl) rfl
theorem q479 : (Jvm.Cond.fieldLink "java/util/ArrayList" (9 : Nat) "java/util/ArrayList" "elementData" "[Ljava/lang/Object;") ∈ lw_all := lw_g (lw_at lw_m2 144 rfl) rfl
theorem q480 : (Jvm.Cond.fieldLink "java/util/ArrayList" (48 : Nat) "java/util/ArrayList" "size" "I") ∈ lw_all := lw_g (lw_at lw_m2 145 rfl) rfl
theorem q482 : (Jvm.Cond.fieldLink "java/util/ArrayList" (63 : Nat) "java/util/ArrayList" "modCount" "I") ∈ lw_all := lw_g (lw_at lw_m2 147 rfl) rfl
theorem q483 : (Jvm.Cond.sameField "java/util/ArrayList" "java/util/AbstractList" "modCount" "I") ∈ lw_all := lw_g (lw_at lw_m2 148 rfl) rfl
theorem q484 : (Jvm.Cond.lays "java/util/ArrayList" "java/util/ArrayList" "elementData" "[Ljava/lang/Object;") ∈ lw_all := lw_g (lw_at lw_m2 149 rfl) rfl
theorem q485 : (Jvm.Cond.soleField "java/util/ArrayList" "elementData") ∈ lw_all := lw_g (lw_at lw_m2 150 rfl) rfl
theorem q486 : (Jvm.Cond.lays "java/util/ArrayList" "java/util/ArrayList" "size" "I") ∈ lw_all := lw_g (lw_at lw_m2 151 rfl) rfl
theorem q487 : (Jvm.Cond.soleField "java/util/ArrayList" "size") ∈ lw_all := lw_g (lw_at lw_m2 152 rfl) rfl
theorem q488 : (Jvm.Cond.lays "java/util/ArrayList" "java/util/AbstractList" "modCount" "I") ∈ lw_all := lw_g (lw_at lw_m2 153 rfl) rfl
theorem q490 : (Jvm.Cond.superclass "java/util/ArrayList" "java/util/AbstractList") ∈ lw_all := lw_g (lw_at lw_m2 155 rfl) rfl
theorem q647 : (Jvm.Cond.instanceMethod ({ cls := "java/util/ArrayList", name := "size", desc := "()I" } : Jvm.MethodName)) ∈ lw_all := lw_g (lw_at lw_m3 72 rfl) rfl
theorem q648 : (Jvm.Cond.selects "java/util/ArrayList" ({ cls := "java/util/ArrayList", name := "size", desc := "()I" } : Jvm.MethodName) ({ cls := "java/util/ArrayList", name := "size", desc := "()I" } : Jvm.MethodName)) ∈ lw_all := lw_g (lw_at lw_m3 73 rfl) rfl
theorem q649 : (Jvm.Cond.code ({ cls := "java/util/ArrayList", name := "size", desc := "()I" } : Jvm.MethodName) prog_37_method_8_code (1 : Nat) (Option.some Jvm.ClassFile.FieldType.int)) ∈ lw_all := lw_g (lw_at lw_m3 74 rfl) rfl
theorem q670 : (Jvm.Cond.instanceMethod ({ cls := "java/util/ArrayList", name := "get", desc := "(I)Ljava/lang/Object;" } : Jvm.MethodName)) ∈ lw_all := lw_g (lw_at lw_m3 95 rfl) rfl
theorem q671 : (Jvm.Cond.selects "java/util/ArrayList" ({ cls := "java/util/ArrayList", name := "get", desc := "(I)Ljava/lang/Object;" } : Jvm.MethodName) ({ cls := "java/util/ArrayList", name := "get", desc := "(I)Ljava/lang/Object;" } : Jvm.MethodName)) ∈ lw_all := lw_g (lw_at lw_m3 96 rfl) rfl
theorem q672 : (Jvm.Cond.code ({ cls := "java/util/ArrayList", name := "get", desc := "(I)Ljava/lang/Object;" } : Jvm.MethodName) prog_37_method_20_code (2 : Nat) (Option.some (Jvm.ClassFile.FieldType.object "java/lang/Object"))) ∈ lw_all := lw_g (lw_at lw_m3 97 rfl) rfl
theorem q673 : (Jvm.Cond.methodLink "java/util/ArrayList" (118 : Nat) ({ cls := "java/util/Objects", name := "checkIndex", desc := "(II)I" } : Jvm.MethodName)) ∈ lw_all := lw_g (lw_at lw_m3 98 rfl) rfl
theorem q677 : (Jvm.Cond.methodLink "java/util/ArrayList" (123 : Nat) ({ cls := "java/util/ArrayList", name := "elementData", desc := "(I)Ljava/lang/Object;" } : Jvm.MethodName)) ∈ lw_all := lw_g (lw_at lw_m3 102 rfl) rfl
theorem q678 : (Jvm.Cond.instanceMethod ({ cls := "java/util/ArrayList", name := "elementData", desc := "(I)Ljava/lang/Object;" } : Jvm.MethodName)) ∈ lw_all := lw_g (lw_at lw_m3 103 rfl) rfl
theorem q679 : (Jvm.Cond.selects "java/util/ArrayList" ({ cls := "java/util/ArrayList", name := "elementData", desc := "(I)Ljava/lang/Object;" } : Jvm.MethodName) ({ cls := "java/util/ArrayList", name := "elementData", desc := "(I)Ljava/lang/Object;" } : Jvm.MethodName)) ∈ lw_all := lw_g (lw_at lw_m3 104 rfl) rfl
theorem q680 : (Jvm.Cond.code ({ cls := "java/util/ArrayList", name := "elementData", desc := "(I)Ljava/lang/Object;" } : Jvm.MethodName) prog_37_method_18_code (2 : Nat) (Option.some (Jvm.ClassFile.FieldType.object "java/lang/Object"))) ∈ lw_all := lw_g (lw_at lw_m3 105 rfl) rfl
theorem q706 : (Jvm.Cond.instanceMethod ({ cls := "java/util/ArrayList", name := "add", desc := "(Ljava/lang/Object;)Z" } : Jvm.MethodName)) ∈ lw_all := lw_g (lw_at lw_m3 131 rfl) rfl
theorem q707 : (Jvm.Cond.selects "java/util/ArrayList" ({ cls := "java/util/ArrayList", name := "add", desc := "(Ljava/lang/Object;)Z" } : Jvm.MethodName) ({ cls := "java/util/ArrayList", name := "add", desc := "(Ljava/lang/Object;)Z" } : Jvm.MethodName)) ∈ lw_all := lw_g (lw_at lw_m3 132 rfl) rfl
theorem q708 : (Jvm.Cond.code ({ cls := "java/util/ArrayList", name := "add", desc := "(Ljava/lang/Object;)Z" } : Jvm.MethodName) prog_37_method_25_code (2 : Nat) (Option.some Jvm.ClassFile.FieldType.boolean)) ∈ lw_all := lw_g (lw_at lw_m3 133 rfl) rfl
theorem q709 : (Jvm.Cond.methodLink "java/util/ArrayList" (131 : Nat) ({ cls := "java/util/ArrayList", name := "add", desc := "(Ljava/lang/Object;[Ljava/lang/Object;I)V" } : Jvm.MethodName)) ∈ lw_all := lw_g (lw_at lw_m3 134 rfl) rfl
theorem q710 : (Jvm.Cond.privateMethod ({ cls := "java/util/ArrayList", name := "add", desc := "(Ljava/lang/Object;[Ljava/lang/Object;I)V" } : Jvm.MethodName)) ∈ lw_tbl := lw_at lw_m3 135 rfl
theorem q711 : (Jvm.Cond.instanceMethod ({ cls := "java/util/ArrayList", name := "add", desc := "(Ljava/lang/Object;[Ljava/lang/Object;I)V" } : Jvm.MethodName)) ∈ lw_all := lw_g (lw_at lw_m3 136 rfl) rfl
theorem q712 : (Jvm.Cond.code ({ cls := "java/util/ArrayList", name := "add", desc := "(Ljava/lang/Object;[Ljava/lang/Object;I)V" } : Jvm.MethodName) prog_37_method_24_code (4 : Nat) (Option.none : Option Jvm.ClassFile.FieldType)) ∈ lw_all := lw_g (lw_at lw_m3 137 rfl) rfl
theorem q713 : (Jvm.Cond.methodLink "java/util/ArrayList" (129 : Nat) ({ cls := "java/util/ArrayList", name := "grow", desc := "()[Ljava/lang/Object;" } : Jvm.MethodName)) ∈ lw_all := lw_g (lw_at lw_m3 138 rfl) rfl
theorem q714 : (Jvm.Cond.privateMethod ({ cls := "java/util/ArrayList", name := "grow", desc := "()[Ljava/lang/Object;" } : Jvm.MethodName)) ∈ lw_tbl := lw_at lw_m3 139 rfl
theorem q715 : (Jvm.Cond.instanceMethod ({ cls := "java/util/ArrayList", name := "grow", desc := "()[Ljava/lang/Object;" } : Jvm.MethodName)) ∈ lw_all := lw_g (lw_at lw_m3 140 rfl) rfl
theorem q716 : (Jvm.Cond.code ({ cls := "java/util/ArrayList", name := "grow", desc := "()[Ljava/lang/Object;" } : Jvm.MethodName) prog_37_method_7_code (1 : Nat) (Option.some (Jvm.ClassFile.FieldType.array (Jvm.ClassFile.FieldType.object "java/lang/Object")))) ∈ lw_all := lw_g (lw_at lw_m3 141 rfl) rfl
theorem q717 : (Jvm.Cond.methodLink "java/util/ArrayList" (69 : Nat) ({ cls := "java/util/ArrayList", name := "grow", desc := "(I)[Ljava/lang/Object;" } : Jvm.MethodName)) ∈ lw_all := lw_g (lw_at lw_m3 142 rfl) rfl
theorem q718 : (Jvm.Cond.privateMethod ({ cls := "java/util/ArrayList", name := "grow", desc := "(I)[Ljava/lang/Object;" } : Jvm.MethodName)) ∈ lw_tbl := lw_at lw_m3 143 rfl
theorem q719 : (Jvm.Cond.instanceMethod ({ cls := "java/util/ArrayList", name := "grow", desc := "(I)[Ljava/lang/Object;" } : Jvm.MethodName)) ∈ lw_all := lw_g (lw_at lw_m3 144 rfl) rfl
theorem q720 : (Jvm.Cond.code ({ cls := "java/util/ArrayList", name := "grow", desc := "(I)[Ljava/lang/Object;" } : Jvm.MethodName) prog_37_method_6_code (4 : Nat) (Option.some (Jvm.ClassFile.FieldType.array (Jvm.ClassFile.FieldType.object "java/lang/Object")))) ∈ lw_all := lw_g (lw_at lw_m3 145 rfl) rfl
theorem q721 : (Jvm.Cond.fieldLink "java/util/ArrayList" (39 : Nat) "java/util/ArrayList" "DEFAULTCAPACITY_EMPTY_ELEMENTDATA" "[Ljava/lang/Object;") ∈ lw_all := lw_g (lw_at lw_m3 146 rfl) rfl
theorem q722 : (Jvm.Cond.laysStatic "java/util/ArrayList" "DEFAULTCAPACITY_EMPTY_ELEMENTDATA" "[Ljava/lang/Object;") ∈ lw_tbl := lw_at lw_m3 147 rfl
theorem q723 : (Jvm.Cond.methodLink "java/util/ArrayList" (73 : Nat) ({ cls := "jdk/internal/util/ArraysSupport", name := "newLength", desc := "(III)I" } : Jvm.MethodName)) ∈ lw_all := lw_g (lw_at lw_m3 148 rfl) rfl
theorem q724 : (Jvm.Cond.methodLink "java/util/ArrayList" (66 : Nat) ({ cls := "java/util/Arrays", name := "copyOf", desc := "([Ljava/lang/Object;I)[Ljava/lang/Object;" } : Jvm.MethodName)) ∈ lw_all := lw_g (lw_at lw_m3 149 rfl) rfl
theorem q745 : (Jvm.Cond.selects "java/util/ArrayList" ({ cls := "java/lang/Object", name := "getClass", desc := "()Ljava/lang/Class;" } : Jvm.MethodName) ({ cls := "java/lang/Object", name := "getClass", desc := "()Ljava/lang/Class;" } : Jvm.MethodName)) ∈ lw_all := lw_g (lw_at lw_m3 170 rfl) rfl
theorem q753 : (Jvm.Cond.methodLink "java/util/ArrayList" (79 : Nat) ({ cls := "java/lang/Math", name := "max", desc := "(II)I" } : Jvm.MethodName)) ∈ lw_all := lw_g (lw_at lw_m3 178 rfl) rfl
theorem q1457 : (Jvm.Cond.instanceMethod ({ cls := "java/util/ArrayList", name := "set", desc := "(ILjava/lang/Object;)Ljava/lang/Object;" } : Jvm.MethodName)) ∈ lw_all := lw_g (lw_at lw_m6 162 rfl) rfl
theorem q1458 : (Jvm.Cond.selects "java/util/ArrayList" ({ cls := "java/util/ArrayList", name := "set", desc := "(ILjava/lang/Object;)Ljava/lang/Object;" } : Jvm.MethodName) ({ cls := "java/util/ArrayList", name := "set", desc := "(ILjava/lang/Object;)Ljava/lang/Object;" } : Jvm.MethodName)) ∈ lw_all := lw_g (lw_at lw_m6 163 rfl) rfl
theorem q1459 : (Jvm.Cond.code ({ cls := "java/util/ArrayList", name := "set", desc := "(ILjava/lang/Object;)Ljava/lang/Object;" } : Jvm.MethodName) prog_37_method_23_code (4 : Nat) (Option.some (Jvm.ClassFile.FieldType.object "java/lang/Object"))) ∈ lw_all := lw_g (lw_at lw_m6 164 rfl) rfl
theorem q2168 : (Jvm.Cond.castable "java/util/ArrayList" "java/lang/Object") ∈ lw_tbl := lw_at lw_m9 153 rfl
theorem in_J2 : ∀ w ∈ wsJ20, w ∈ lw_all := lw_in wsJ20 [488, 484, 486] (by decide +kernel) (by decide +kernel)
/-! java/util/ArrayDeque -/
set_option maxRecDepth 100000
def RJ17 : String := "java/util/ArrayDeque"
def TJ17 : u_T := fun k => match k with
  | 0 => ("java/util/ArrayDeque", "elements", "[Ljava/lang/Object;", false)
  | 1 => ("java/util/ArrayDeque", "head", "I", false)
  | _ => ("java/util/ArrayDeque", "tail", "I", false)
def tyJ17 : Nat → FieldType := fun k => match k with
  | 0 => .array (.object "java/lang/Object")
  | 1 => .int
  | _ => .int
abbrev wsJ170 : List Cond := u_ws RJ17 TJ17 3
theorem nmJ17 : ∀ a, a < 3 → ∀ b, b < 3 → a ≠ b → (TJ17 a).2.1 ≠ (TJ17 b).2.1 := by decide +kernel
theorem tyJ17_ok : ∀ k, k < 3 → parseFieldDescriptor (TJ17 k).2.2.1 = some (tyJ17 k) := by decide +kernel
abbrev cJ17_init : ByteArray := prog_36_method_3_code
def yJ17_init : MethodName := ⟨RJ17, "<init>", "()V"⟩
def dkwJ17_init_0 : List UInt8 := [42, 183, 0, 42, 42, 16, 17, 189, 0, 47, 181, 0, 3, 177]
abbrev dktJ17_init_0 : List UInt8 := dkwJ17_init_0 ++ []
theorem dksJ17_init_0 : cJ17_init.data.toList.drop 0 = dktJ17_init_0 := by decide +kernel
theorem dJ17_init_0 : decode cJ17_init 0 = .ok (.aload_n 0, 1) := dk_42 (dk_at dksJ17_init_0 0 rfl rfl)
theorem dJ17_init_1 : decode cJ17_init 1 = .ok (.invokespecial 42, 3) := dk_183 0 42 (dk_at dksJ17_init_0 1 rfl rfl)
theorem dJ17_init_4 : decode cJ17_init 4 = .ok (.aload_n 0, 1) := dk_42 (dk_at dksJ17_init_0 4 rfl rfl)
theorem dJ17_init_5 : decode cJ17_init 5 = .ok (.bipush 17, 2) := dk_16 17 (dk_at dksJ17_init_0 5 rfl rfl)
theorem dJ17_init_7 : decode cJ17_init 7 = .ok (.anewarray 47, 3) := dk_189 0 47 (dk_at dksJ17_init_0 7 rfl rfl)
theorem dJ17_init_10 : decode cJ17_init 10 = .ok (.putfield 3, 3) := dk_181 0 3 (dk_at dksJ17_init_0 10 rfl rfl)
theorem dJ17_init_13 : decode cJ17_init 13 = .ok (.return_, 1) := dk_177 (dk_at dksJ17_init_0 13 rfl rfl)
abbrev cJ17_size : ByteArray := prog_36_method_37_code
def yJ17_size : MethodName := ⟨RJ17, "size", "()I"⟩
def dkwJ17_size_0 : List UInt8 := [42, 180, 0, 20, 42, 180, 0, 24, 42, 180, 0, 3, 190, 184, 0, 127, 172]
abbrev dktJ17_size_0 : List UInt8 := dkwJ17_size_0 ++ []
theorem dksJ17_size_0 : cJ17_size.data.toList.drop 0 = dktJ17_size_0 := by decide +kernel
theorem dJ17_size_0 : decode cJ17_size 0 = .ok (.aload_n 0, 1) := dk_42 (dk_at dksJ17_size_0 0 rfl rfl)
theorem dJ17_size_1 : decode cJ17_size 1 = .ok (.getfield 20, 3) := dk_180 0 20 (dk_at dksJ17_size_0 1 rfl rfl)
theorem dJ17_size_4 : decode cJ17_size 4 = .ok (.aload_n 0, 1) := dk_42 (dk_at dksJ17_size_0 4 rfl rfl)
theorem dJ17_size_5 : decode cJ17_size 5 = .ok (.getfield 24, 3) := dk_180 0 24 (dk_at dksJ17_size_0 5 rfl rfl)
theorem dJ17_size_8 : decode cJ17_size 8 = .ok (.aload_n 0, 1) := dk_42 (dk_at dksJ17_size_0 8 rfl rfl)
theorem dJ17_size_9 : decode cJ17_size 9 = .ok (.getfield 3, 3) := dk_180 0 3 (dk_at dksJ17_size_0 9 rfl rfl)
theorem dJ17_size_12 : decode cJ17_size 12 = .ok (.arraylength, 1) := dk_190 (dk_at dksJ17_size_0 12 rfl rfl)
theorem dJ17_size_13 : decode cJ17_size 13 = .ok (.invokestatic 127, 3) := dk_184 0 127 (dk_at dksJ17_size_0 13 rfl rfl)
theorem dJ17_size_16 : decode cJ17_size 16 = .ok (.ireturn, 1) := dk_172 (dk_at dksJ17_size_0 16 rfl rfl)
abbrev cJ17_sub : ByteArray := prog_36_method_9_code
def yJ17_sub : MethodName := ⟨RJ17, "sub", "(III)I"⟩
def dkwJ17_sub_0 : List UInt8 := [26, 27, 100, 89, 59, 156, 0, 7, 26, 28, 96, 59, 26, 172]
abbrev dktJ17_sub_0 : List UInt8 := dkwJ17_sub_0 ++ []
theorem dksJ17_sub_0 : cJ17_sub.data.toList.drop 0 = dktJ17_sub_0 := by decide +kernel
theorem dJ17_sub_0 : decode cJ17_sub 0 = .ok (.iload_n 0, 1) := dk_26 (dk_at dksJ17_sub_0 0 rfl rfl)
theorem dJ17_sub_1 : decode cJ17_sub 1 = .ok (.iload_n 1, 1) := dk_27 (dk_at dksJ17_sub_0 1 rfl rfl)
theorem dJ17_sub_2 : decode cJ17_sub 2 = .ok (.isub, 1) := dk_100 (dk_at dksJ17_sub_0 2 rfl rfl)
theorem dJ17_sub_3 : decode cJ17_sub 3 = .ok (.dup, 1) := dk_89 (dk_at dksJ17_sub_0 3 rfl rfl)
theorem dJ17_sub_4 : decode cJ17_sub 4 = .ok (.istore_n 0, 1) := dk_59 (dk_at dksJ17_sub_0 4 rfl rfl)
theorem dJ17_sub_5 : decode cJ17_sub 5 = .ok (.ifCond .ge 7, 3) := dk_156 0 7 (dk_at dksJ17_sub_0 5 rfl rfl)
theorem dJ17_sub_8 : decode cJ17_sub 8 = .ok (.iload_n 0, 1) := dk_26 (dk_at dksJ17_sub_0 8 rfl rfl)
theorem dJ17_sub_9 : decode cJ17_sub 9 = .ok (.iload_n 2, 1) := dk_28 (dk_at dksJ17_sub_0 9 rfl rfl)
theorem dJ17_sub_10 : decode cJ17_sub 10 = .ok (.iadd, 1) := dk_96 (dk_at dksJ17_sub_0 10 rfl rfl)
theorem dJ17_sub_11 : decode cJ17_sub 11 = .ok (.istore_n 0, 1) := dk_59 (dk_at dksJ17_sub_0 11 rfl rfl)
theorem dJ17_sub_12 : decode cJ17_sub 12 = .ok (.iload_n 0, 1) := dk_26 (dk_at dksJ17_sub_0 12 rfl rfl)
theorem dJ17_sub_13 : decode cJ17_sub 13 = .ok (.ireturn, 1) := dk_172 (dk_at dksJ17_sub_0 13 rfl rfl)
abbrev cJ17_removeFirst : ByteArray := prog_36_method_18_code
def yJ17_removeFirst : MethodName := ⟨RJ17, "removeFirst", "()Ljava/lang/Object;"⟩
def dkwJ17_removeFirst_0 : List UInt8 := [42, 182, 0, 93, 76, 43, 199, 0, 11, 187, 0, 97, 89, 183, 0, 99, 191, 43, 176]
abbrev dktJ17_removeFirst_0 : List UInt8 := dkwJ17_removeFirst_0 ++ []
theorem dksJ17_removeFirst_0 : cJ17_removeFirst.data.toList.drop 0 = dktJ17_removeFirst_0 := by decide +kernel
theorem dJ17_removeFirst_0 : decode cJ17_removeFirst 0 = .ok (.aload_n 0, 1) := dk_42 (dk_at dksJ17_removeFirst_0 0 rfl rfl)
theorem dJ17_removeFirst_1 : decode cJ17_removeFirst 1 = .ok (.invokevirtual 93, 3) := dk_182 0 93 (dk_at dksJ17_removeFirst_0 1 rfl rfl)
theorem dJ17_removeFirst_4 : decode cJ17_removeFirst 4 = .ok (.astore_n 1, 1) := dk_76 (dk_at dksJ17_removeFirst_0 4 rfl rfl)
theorem dJ17_removeFirst_5 : decode cJ17_removeFirst 5 = .ok (.aload_n 1, 1) := dk_43 (dk_at dksJ17_removeFirst_0 5 rfl rfl)
theorem dJ17_removeFirst_6 : decode cJ17_removeFirst 6 = .ok (.ifnonnull 11, 3) := dk_199 0 11 (dk_at dksJ17_removeFirst_0 6 rfl rfl)
theorem dJ17_removeFirst_9 : decode cJ17_removeFirst 9 = .ok (.new 97, 3) := dk_187 0 97 (dk_at dksJ17_removeFirst_0 9 rfl rfl)
theorem dJ17_removeFirst_12 : decode cJ17_removeFirst 12 = .ok (.dup, 1) := dk_89 (dk_at dksJ17_removeFirst_0 12 rfl rfl)
theorem dJ17_removeFirst_13 : decode cJ17_removeFirst 13 = .ok (.invokespecial 99, 3) := dk_183 0 99 (dk_at dksJ17_removeFirst_0 13 rfl rfl)
theorem dJ17_removeFirst_16 : decode cJ17_removeFirst 16 = .ok (.athrow, 1) := dk_191 (dk_at dksJ17_removeFirst_0 16 rfl rfl)
theorem dJ17_removeFirst_17 : decode cJ17_removeFirst 17 = .ok (.aload_n 1, 1) := dk_43 (dk_at dksJ17_removeFirst_0 17 rfl rfl)
theorem dJ17_removeFirst_18 : decode cJ17_removeFirst 18 = .ok (.areturn, 1) := dk_176 (dk_at dksJ17_removeFirst_0 18 rfl rfl)
abbrev cJ17_pollFirst : ByteArray := prog_36_method_20_code
def yJ17_pollFirst : MethodName := ⟨RJ17, "pollFirst", "()Ljava/lang/Object;"⟩
def dkwJ17_pollFirst_1 : List UInt8 := [42, 28, 43, 190, 184, 0, 74, 181, 0, 24, 45, 176]
abbrev dktJ17_pollFirst_1 : List UInt8 := dkwJ17_pollFirst_1 ++ []
def dkwJ17_pollFirst_0 : List UInt8 := [42, 180, 0, 3, 89, 76, 42, 180, 0, 24, 89, 61, 184, 0, 103, 78, 45, 198, 0, 17, 43, 28, 1, 83]
abbrev dktJ17_pollFirst_0 : List UInt8 := dkwJ17_pollFirst_0 ++ dktJ17_pollFirst_1
theorem dksJ17_pollFirst_0 : cJ17_pollFirst.data.toList.drop 0 = dktJ17_pollFirst_0 := by decide +kernel
theorem dksJ17_pollFirst_1 : cJ17_pollFirst.data.toList.drop 24 = dktJ17_pollFirst_1 := dk_seg dksJ17_pollFirst_0 24 rfl rfl
theorem dJ17_pollFirst_0 : decode cJ17_pollFirst 0 = .ok (.aload_n 0, 1) := dk_42 (dk_at dksJ17_pollFirst_0 0 rfl rfl)
theorem dJ17_pollFirst_1 : decode cJ17_pollFirst 1 = .ok (.getfield 3, 3) := dk_180 0 3 (dk_at dksJ17_pollFirst_0 1 rfl rfl)
theorem dJ17_pollFirst_4 : decode cJ17_pollFirst 4 = .ok (.dup, 1) := dk_89 (dk_at dksJ17_pollFirst_0 4 rfl rfl)
theorem dJ17_pollFirst_5 : decode cJ17_pollFirst 5 = .ok (.astore_n 1, 1) := dk_76 (dk_at dksJ17_pollFirst_0 5 rfl rfl)
theorem dJ17_pollFirst_6 : decode cJ17_pollFirst 6 = .ok (.aload_n 0, 1) := dk_42 (dk_at dksJ17_pollFirst_0 6 rfl rfl)
theorem dJ17_pollFirst_7 : decode cJ17_pollFirst 7 = .ok (.getfield 24, 3) := dk_180 0 24 (dk_at dksJ17_pollFirst_0 7 rfl rfl)
theorem dJ17_pollFirst_10 : decode cJ17_pollFirst 10 = .ok (.dup, 1) := dk_89 (dk_at dksJ17_pollFirst_0 10 rfl rfl)
theorem dJ17_pollFirst_11 : decode cJ17_pollFirst 11 = .ok (.istore_n 2, 1) := dk_61 (dk_at dksJ17_pollFirst_0 11 rfl rfl)
theorem dJ17_pollFirst_12 : decode cJ17_pollFirst 12 = .ok (.invokestatic 103, 3) := dk_184 0 103 (dk_at dksJ17_pollFirst_0 12 rfl rfl)
theorem dJ17_pollFirst_15 : decode cJ17_pollFirst 15 = .ok (.astore_n 3, 1) := dk_78 (dk_at dksJ17_pollFirst_0 15 rfl rfl)
theorem dJ17_pollFirst_16 : decode cJ17_pollFirst 16 = .ok (.aload_n 3, 1) := dk_45 (dk_at dksJ17_pollFirst_0 16 rfl rfl)
theorem dJ17_pollFirst_17 : decode cJ17_pollFirst 17 = .ok (.ifnull 17, 3) := dk_198 0 17 (dk_at dksJ17_pollFirst_0 17 rfl rfl)
theorem dJ17_pollFirst_20 : decode cJ17_pollFirst 20 = .ok (.aload_n 1, 1) := dk_43 (dk_at dksJ17_pollFirst_0 20 rfl rfl)
theorem dJ17_pollFirst_21 : decode cJ17_pollFirst 21 = .ok (.iload_n 2, 1) := dk_28 (dk_at dksJ17_pollFirst_0 21 rfl rfl)
theorem dJ17_pollFirst_22 : decode cJ17_pollFirst 22 = .ok (.aconst_null, 1) := dk_1 (dk_at dksJ17_pollFirst_0 22 rfl rfl)
theorem dJ17_pollFirst_23 : decode cJ17_pollFirst 23 = .ok (.aastore, 1) := dk_83 (dk_at dksJ17_pollFirst_0 23 rfl rfl)
theorem dJ17_pollFirst_24 : decode cJ17_pollFirst 24 = .ok (.aload_n 0, 1) := dk_42 (dk_at dksJ17_pollFirst_1 0 rfl rfl)
theorem dJ17_pollFirst_25 : decode cJ17_pollFirst 25 = .ok (.iload_n 2, 1) := dk_28 (dk_at dksJ17_pollFirst_1 1 rfl rfl)
theorem dJ17_pollFirst_26 : decode cJ17_pollFirst 26 = .ok (.aload_n 1, 1) := dk_43 (dk_at dksJ17_pollFirst_1 2 rfl rfl)
theorem dJ17_pollFirst_27 : decode cJ17_pollFirst 27 = .ok (.arraylength, 1) := dk_190 (dk_at dksJ17_pollFirst_1 3 rfl rfl)
theorem dJ17_pollFirst_28 : decode cJ17_pollFirst 28 = .ok (.invokestatic 74, 3) := dk_184 0 74 (dk_at dksJ17_pollFirst_1 4 rfl rfl)
theorem dJ17_pollFirst_31 : decode cJ17_pollFirst 31 = .ok (.putfield 24, 3) := dk_181 0 24 (dk_at dksJ17_pollFirst_1 7 rfl rfl)
theorem dJ17_pollFirst_34 : decode cJ17_pollFirst 34 = .ok (.aload_n 3, 1) := dk_45 (dk_at dksJ17_pollFirst_1 10 rfl rfl)
theorem dJ17_pollFirst_35 : decode cJ17_pollFirst 35 = .ok (.areturn, 1) := dk_176 (dk_at dksJ17_pollFirst_1 11 rfl rfl)
abbrev cJ17_elementAt : ByteArray := prog_36_method_10_code
def yJ17_elementAt : MethodName := ⟨RJ17, "elementAt", "([Ljava/lang/Object;I)Ljava/lang/Object;"⟩
def dkwJ17_elementAt_0 : List UInt8 := [42, 27, 50, 176]
abbrev dktJ17_elementAt_0 : List UInt8 := dkwJ17_elementAt_0 ++ []
theorem dksJ17_elementAt_0 : cJ17_elementAt.data.toList.drop 0 = dktJ17_elementAt_0 := by decide +kernel
theorem dJ17_elementAt_0 : decode cJ17_elementAt 0 = .ok (.aload_n 0, 1) := dk_42 (dk_at dksJ17_elementAt_0 0 rfl rfl)
theorem dJ17_elementAt_1 : decode cJ17_elementAt 1 = .ok (.iload_n 1, 1) := dk_27 (dk_at dksJ17_elementAt_0 1 rfl rfl)
theorem dJ17_elementAt_2 : decode cJ17_elementAt 2 = .ok (.aaload, 1) := dk_50 (dk_at dksJ17_elementAt_0 2 rfl rfl)
theorem dJ17_elementAt_3 : decode cJ17_elementAt 3 = .ok (.areturn, 1) := dk_176 (dk_at dksJ17_elementAt_0 3 rfl rfl)
abbrev cJ17_inc : ByteArray := prog_36_method_6_code
def yJ17_inc : MethodName := ⟨RJ17, "inc", "(II)I"⟩
def dkwJ17_inc_0 : List UInt8 := [132, 0, 1, 26, 27, 161, 0, 5, 3, 59, 26, 172]
abbrev dktJ17_inc_0 : List UInt8 := dkwJ17_inc_0 ++ []
theorem dksJ17_inc_0 : cJ17_inc.data.toList.drop 0 = dktJ17_inc_0 := by decide +kernel
theorem dJ17_inc_0 : decode cJ17_inc 0 = .ok (.iinc 0 1, 3) := dk_132 0 1 (dk_at dksJ17_inc_0 0 rfl rfl)
theorem dJ17_inc_3 : decode cJ17_inc 3 = .ok (.iload_n 0, 1) := dk_26 (dk_at dksJ17_inc_0 3 rfl rfl)
theorem dJ17_inc_4 : decode cJ17_inc 4 = .ok (.iload_n 1, 1) := dk_27 (dk_at dksJ17_inc_0 4 rfl rfl)
theorem dJ17_inc_5 : decode cJ17_inc 5 = .ok (.if_icmp .lt 5, 3) := dk_161 0 5 (dk_at dksJ17_inc_0 5 rfl rfl)
theorem dJ17_inc_8 : decode cJ17_inc 8 = .ok (.iconst 0, 1) := dk_3 (dk_at dksJ17_inc_0 8 rfl rfl)
theorem dJ17_inc_9 : decode cJ17_inc 9 = .ok (.istore_n 0, 1) := dk_59 (dk_at dksJ17_inc_0 9 rfl rfl)
theorem dJ17_inc_10 : decode cJ17_inc 10 = .ok (.iload_n 0, 1) := dk_26 (dk_at dksJ17_inc_0 10 rfl rfl)
theorem dJ17_inc_11 : decode cJ17_inc 11 = .ok (.ireturn, 1) := dk_172 (dk_at dksJ17_inc_0 11 rfl rfl)
abbrev cJ17_addLast : ByteArray := prog_36_method_13_code
def yJ17_addLast : MethodName := ⟨RJ17, "addLast", "(Ljava/lang/Object;)V"⟩
def dkwJ17_addLast_2 : List UInt8 := [182, 0, 71, 177]
abbrev dktJ17_addLast_2 : List UInt8 := dkwJ17_addLast_2 ++ []
def dkwJ17_addLast_1 : List UInt8 := [42, 180, 0, 24, 42, 42, 180, 0, 20, 44, 190, 184, 0, 74, 90, 181, 0, 20, 160, 0, 8, 42, 4]
abbrev dktJ17_addLast_1 : List UInt8 := dkwJ17_addLast_1 ++ dktJ17_addLast_2
def dkwJ17_addLast_0 : List UInt8 := [43, 199, 0, 11, 187, 0, 65, 89, 183, 0, 67, 191, 42, 180, 0, 3, 77, 44, 42, 180, 0, 20, 43, 83]
abbrev dktJ17_addLast_0 : List UInt8 := dkwJ17_addLast_0 ++ dktJ17_addLast_1
theorem dksJ17_addLast_0 : cJ17_addLast.data.toList.drop 0 = dktJ17_addLast_0 := by decide +kernel
theorem dksJ17_addLast_1 : cJ17_addLast.data.toList.drop 24 = dktJ17_addLast_1 := dk_seg dksJ17_addLast_0 24 rfl rfl
theorem dksJ17_addLast_2 : cJ17_addLast.data.toList.drop 47 = dktJ17_addLast_2 := dk_seg dksJ17_addLast_1 23 rfl rfl
theorem dJ17_addLast_0 : decode cJ17_addLast 0 = .ok (.aload_n 1, 1) := dk_43 (dk_at dksJ17_addLast_0 0 rfl rfl)
theorem dJ17_addLast_1 : decode cJ17_addLast 1 = .ok (.ifnonnull 11, 3) := dk_199 0 11 (dk_at dksJ17_addLast_0 1 rfl rfl)
theorem dJ17_addLast_4 : decode cJ17_addLast 4 = .ok (.new 65, 3) := dk_187 0 65 (dk_at dksJ17_addLast_0 4 rfl rfl)
theorem dJ17_addLast_7 : decode cJ17_addLast 7 = .ok (.dup, 1) := dk_89 (dk_at dksJ17_addLast_0 7 rfl rfl)
theorem dJ17_addLast_8 : decode cJ17_addLast 8 = .ok (.invokespecial 67, 3) := dk_183 0 67 (dk_at dksJ17_addLast_0 8 rfl rfl)
theorem dJ17_addLast_11 : decode cJ17_addLast 11 = .ok (.athrow, 1) := dk_191 (dk_at dksJ17_addLast_0 11 rfl rfl)
theorem dJ17_addLast_12 : decode cJ17_addLast 12 = .ok (.aload_n 0, 1) := dk_42 (dk_at dksJ17_addLast_0 12 rfl rfl)
theorem dJ17_addLast_13 : decode cJ17_addLast 13 = .ok (.getfield 3, 3) := dk_180 0 3 (dk_at dksJ17_addLast_0 13 rfl rfl)
theorem dJ17_addLast_16 : decode cJ17_addLast 16 = .ok (.astore_n 2, 1) := dk_77 (dk_at dksJ17_addLast_0 16 rfl rfl)
theorem dJ17_addLast_17 : decode cJ17_addLast 17 = .ok (.aload_n 2, 1) := dk_44 (dk_at dksJ17_addLast_0 17 rfl rfl)
theorem dJ17_addLast_18 : decode cJ17_addLast 18 = .ok (.aload_n 0, 1) := dk_42 (dk_at dksJ17_addLast_0 18 rfl rfl)
theorem dJ17_addLast_19 : decode cJ17_addLast 19 = .ok (.getfield 20, 3) := dk_180 0 20 (dk_at dksJ17_addLast_0 19 rfl rfl)
theorem dJ17_addLast_22 : decode cJ17_addLast 22 = .ok (.aload_n 1, 1) := dk_43 (dk_at dksJ17_addLast_0 22 rfl rfl)
theorem dJ17_addLast_23 : decode cJ17_addLast 23 = .ok (.aastore, 1) := dk_83 (dk_at dksJ17_addLast_0 23 rfl rfl)
theorem dJ17_addLast_24 : decode cJ17_addLast 24 = .ok (.aload_n 0, 1) := dk_42 (dk_at dksJ17_addLast_1 0 rfl rfl)
theorem dJ17_addLast_25 : decode cJ17_addLast 25 = .ok (.getfield 24, 3) := dk_180 0 24 (dk_at dksJ17_addLast_1 1 rfl rfl)
theorem dJ17_addLast_28 : decode cJ17_addLast 28 = .ok (.aload_n 0, 1) := dk_42 (dk_at dksJ17_addLast_1 4 rfl rfl)
theorem dJ17_addLast_29 : decode cJ17_addLast 29 = .ok (.aload_n 0, 1) := dk_42 (dk_at dksJ17_addLast_1 5 rfl rfl)
theorem dJ17_addLast_30 : decode cJ17_addLast 30 = .ok (.getfield 20, 3) := dk_180 0 20 (dk_at dksJ17_addLast_1 6 rfl rfl)
theorem dJ17_addLast_33 : decode cJ17_addLast 33 = .ok (.aload_n 2, 1) := dk_44 (dk_at dksJ17_addLast_1 9 rfl rfl)
theorem dJ17_addLast_34 : decode cJ17_addLast 34 = .ok (.arraylength, 1) := dk_190 (dk_at dksJ17_addLast_1 10 rfl rfl)
theorem dJ17_addLast_35 : decode cJ17_addLast 35 = .ok (.invokestatic 74, 3) := dk_184 0 74 (dk_at dksJ17_addLast_1 11 rfl rfl)
theorem dJ17_addLast_38 : decode cJ17_addLast 38 = .ok (.dup_x1, 1) := dk_90 (dk_at dksJ17_addLast_1 14 rfl rfl)
theorem dJ17_addLast_39 : decode cJ17_addLast 39 = .ok (.putfield 20, 3) := dk_181 0 20 (dk_at dksJ17_addLast_1 15 rfl rfl)
theorem dJ17_addLast_42 : decode cJ17_addLast 42 = .ok (.if_icmp .ne 8, 3) := dk_160 0 8 (dk_at dksJ17_addLast_1 18 rfl rfl)
theorem dJ17_addLast_45 : decode cJ17_addLast 45 = .ok (.aload_n 0, 1) := dk_42 (dk_at dksJ17_addLast_1 21 rfl rfl)
theorem dJ17_addLast_46 : decode cJ17_addLast 46 = .ok (.iconst 1, 1) := dk_4 (dk_at dksJ17_addLast_1 22 rfl rfl)
theorem dJ17_addLast_47 : decode cJ17_addLast 47 = .ok (.invokevirtual 71, 3) := dk_182 0 71 (dk_at dksJ17_addLast_2 0 rfl rfl)
theorem dJ17_addLast_50 : decode cJ17_addLast 50 = .ok (.return_, 1) := dk_177 (dk_at dksJ17_addLast_2 3 rfl rfl)
abbrev cJ17_grow : ByteArray := prog_36_method_1_code
def yJ17_grow : MethodName := ⟨RJ17, "grow", "(I)V"⟩
def dkwJ17_grow_7 : List UInt8 := [177]
abbrev dktJ17_grow_7 : List UInt8 := dkwJ17_grow_7 ++ []
def dkwJ17_grow_6 : List UInt8 := [181, 0, 24, 54, 8, 21, 7, 21, 8, 162, 0, 15, 25, 5, 21, 7, 1, 83, 132, 7, 1, 167, 255, 240]
abbrev dktJ17_grow_6 : List UInt8 := dkwJ17_grow_6 ++ dktJ17_grow_7
def dkwJ17_grow_5 : List UInt8 := [42, 180, 0, 24, 100, 184, 0, 27, 42, 180, 0, 24, 54, 7, 42, 89, 180, 0, 24, 21, 6, 96, 90]
abbrev dktJ17_grow_5 : List UInt8 := dkwJ17_grow_5 ++ dktJ17_grow_6
def dkwJ17_grow_4 : List UInt8 := [198, 0, 71, 29, 28, 100, 54, 6, 25, 5, 42, 180, 0, 24, 25, 5, 42, 180, 0, 24, 21, 6, 96, 28]
abbrev dktJ17_grow_4 : List UInt8 := dkwJ17_grow_4 ++ dktJ17_grow_5
def dkwJ17_grow_3 : List UInt8 := [180, 0, 24, 161, 0, 24, 42, 180, 0, 20, 42, 180, 0, 24, 160, 0, 81, 25, 5, 42, 180, 0, 24, 50]
abbrev dktJ17_grow_3 : List UInt8 := dkwJ17_grow_3 ++ dktJ17_grow_4
def dkwJ17_grow_2 : List UInt8 := [182, 0, 10, 62, 42, 42, 180, 0, 3, 29, 184, 0, 14, 90, 181, 0, 3, 58, 5, 42, 180, 0, 20, 42]
abbrev dktJ17_grow_2 : List UInt8 := dkwJ17_grow_2 ++ dktJ17_grow_3
def dkwJ17_grow_1 : List UInt8 := [21, 4, 27, 161, 0, 15, 28, 21, 4, 96, 89, 62, 18, 9, 100, 158, 0, 11, 42, 27, 21, 4]
abbrev dktJ17_grow_1 : List UInt8 := dkwJ17_grow_1 ++ dktJ17_grow_2
def dkwJ17_grow_0 : List UInt8 := [42, 180, 0, 3, 190, 61, 28, 16, 64, 162, 0, 9, 28, 5, 96, 167, 0, 6, 28, 4, 122, 54, 4]
abbrev dktJ17_grow_0 : List UInt8 := dkwJ17_grow_0 ++ dktJ17_grow_1
theorem dksJ17_grow_0 : cJ17_grow.data.toList.drop 0 = dktJ17_grow_0 := by decide +kernel
theorem dksJ17_grow_1 : cJ17_grow.data.toList.drop 23 = dktJ17_grow_1 := dk_seg dksJ17_grow_0 23 rfl rfl
theorem dksJ17_grow_2 : cJ17_grow.data.toList.drop 45 = dktJ17_grow_2 := dk_seg dksJ17_grow_1 22 rfl rfl
theorem dksJ17_grow_3 : cJ17_grow.data.toList.drop 69 = dktJ17_grow_3 := dk_seg dksJ17_grow_2 24 rfl rfl
theorem dksJ17_grow_4 : cJ17_grow.data.toList.drop 93 = dktJ17_grow_4 := dk_seg dksJ17_grow_3 24 rfl rfl
theorem dksJ17_grow_5 : cJ17_grow.data.toList.drop 117 = dktJ17_grow_5 := dk_seg dksJ17_grow_4 24 rfl rfl
theorem dksJ17_grow_6 : cJ17_grow.data.toList.drop 140 = dktJ17_grow_6 := dk_seg dksJ17_grow_5 23 rfl rfl
theorem dksJ17_grow_7 : cJ17_grow.data.toList.drop 164 = dktJ17_grow_7 := dk_seg dksJ17_grow_6 24 rfl rfl
theorem dJ17_grow_0 : decode cJ17_grow 0 = .ok (.aload_n 0, 1) := dk_42 (dk_at dksJ17_grow_0 0 rfl rfl)
theorem dJ17_grow_1 : decode cJ17_grow 1 = .ok (.getfield 3, 3) := dk_180 0 3 (dk_at dksJ17_grow_0 1 rfl rfl)
theorem dJ17_grow_4 : decode cJ17_grow 4 = .ok (.arraylength, 1) := dk_190 (dk_at dksJ17_grow_0 4 rfl rfl)
theorem dJ17_grow_5 : decode cJ17_grow 5 = .ok (.istore_n 2, 1) := dk_61 (dk_at dksJ17_grow_0 5 rfl rfl)
theorem dJ17_grow_6 : decode cJ17_grow 6 = .ok (.iload_n 2, 1) := dk_28 (dk_at dksJ17_grow_0 6 rfl rfl)
theorem dJ17_grow_7 : decode cJ17_grow 7 = .ok (.bipush 64, 2) := dk_16 64 (dk_at dksJ17_grow_0 7 rfl rfl)
theorem dJ17_grow_9 : decode cJ17_grow 9 = .ok (.if_icmp .ge 9, 3) := dk_162 0 9 (dk_at dksJ17_grow_0 9 rfl rfl)
theorem dJ17_grow_12 : decode cJ17_grow 12 = .ok (.iload_n 2, 1) := dk_28 (dk_at dksJ17_grow_0 12 rfl rfl)
theorem dJ17_grow_13 : decode cJ17_grow 13 = .ok (.iconst 2, 1) := dk_5 (dk_at dksJ17_grow_0 13 rfl rfl)
theorem dJ17_grow_14 : decode cJ17_grow 14 = .ok (.iadd, 1) := dk_96 (dk_at dksJ17_grow_0 14 rfl rfl)
theorem dJ17_grow_15 : decode cJ17_grow 15 = .ok (.goto 6, 3) := dk_167 0 6 (dk_at dksJ17_grow_0 15 rfl rfl)
theorem dJ17_grow_18 : decode cJ17_grow 18 = .ok (.iload_n 2, 1) := dk_28 (dk_at dksJ17_grow_0 18 rfl rfl)
theorem dJ17_grow_19 : decode cJ17_grow 19 = .ok (.iconst 1, 1) := dk_4 (dk_at dksJ17_grow_0 19 rfl rfl)
theorem dJ17_grow_20 : decode cJ17_grow 20 = .ok (.ishr, 1) := dk_122 (dk_at dksJ17_grow_0 20 rfl rfl)
theorem dJ17_grow_21 : decode cJ17_grow 21 = .ok (.istore 4, 2) := dk_54 4 (dk_at dksJ17_grow_0 21 rfl rfl)
theorem dJ17_grow_23 : decode cJ17_grow 23 = .ok (.iload 4, 2) := dk_21 4 (dk_at dksJ17_grow_1 0 rfl rfl)
theorem dJ17_grow_25 : decode cJ17_grow 25 = .ok (.iload_n 1, 1) := dk_27 (dk_at dksJ17_grow_1 2 rfl rfl)
theorem dJ17_grow_26 : decode cJ17_grow 26 = .ok (.if_icmp .lt 15, 3) := dk_161 0 15 (dk_at dksJ17_grow_1 3 rfl rfl)
theorem dJ17_grow_29 : decode cJ17_grow 29 = .ok (.iload_n 2, 1) := dk_28 (dk_at dksJ17_grow_1 6 rfl rfl)
theorem dJ17_grow_30 : decode cJ17_grow 30 = .ok (.iload 4, 2) := dk_21 4 (dk_at dksJ17_grow_1 7 rfl rfl)
theorem dJ17_grow_32 : decode cJ17_grow 32 = .ok (.iadd, 1) := dk_96 (dk_at dksJ17_grow_1 9 rfl rfl)
theorem dJ17_grow_33 : decode cJ17_grow 33 = .ok (.dup, 1) := dk_89 (dk_at dksJ17_grow_1 10 rfl rfl)
theorem dJ17_grow_34 : decode cJ17_grow 34 = .ok (.istore_n 3, 1) := dk_62 (dk_at dksJ17_grow_1 11 rfl rfl)
theorem dJ17_grow_35 : decode cJ17_grow 35 = .ok (.ldc 9, 2) := dk_18 9 (dk_at dksJ17_grow_1 12 rfl rfl)
theorem dJ17_grow_37 : decode cJ17_grow 37 = .ok (.isub, 1) := dk_100 (dk_at dksJ17_grow_1 14 rfl rfl)
theorem dJ17_grow_38 : decode cJ17_grow 38 = .ok (.ifCond .le 11, 3) := dk_158 0 11 (dk_at dksJ17_grow_1 15 rfl rfl)
theorem dJ17_grow_41 : decode cJ17_grow 41 = .ok (.aload_n 0, 1) := dk_42 (dk_at dksJ17_grow_1 18 rfl rfl)
theorem dJ17_grow_42 : decode cJ17_grow 42 = .ok (.iload_n 1, 1) := dk_27 (dk_at dksJ17_grow_1 19 rfl rfl)
theorem dJ17_grow_43 : decode cJ17_grow 43 = .ok (.iload 4, 2) := dk_21 4 (dk_at dksJ17_grow_1 20 rfl rfl)
theorem dJ17_grow_45 : decode cJ17_grow 45 = .ok (.invokevirtual 10, 3) := dk_182 0 10 (dk_at dksJ17_grow_2 0 rfl rfl)
theorem dJ17_grow_48 : decode cJ17_grow 48 = .ok (.istore_n 3, 1) := dk_62 (dk_at dksJ17_grow_2 3 rfl rfl)
theorem dJ17_grow_49 : decode cJ17_grow 49 = .ok (.aload_n 0, 1) := dk_42 (dk_at dksJ17_grow_2 4 rfl rfl)
theorem dJ17_grow_50 : decode cJ17_grow 50 = .ok (.aload_n 0, 1) := dk_42 (dk_at dksJ17_grow_2 5 rfl rfl)
theorem dJ17_grow_51 : decode cJ17_grow 51 = .ok (.getfield 3, 3) := dk_180 0 3 (dk_at dksJ17_grow_2 6 rfl rfl)
theorem dJ17_grow_54 : decode cJ17_grow 54 = .ok (.iload_n 3, 1) := dk_29 (dk_at dksJ17_grow_2 9 rfl rfl)
theorem dJ17_grow_55 : decode cJ17_grow 55 = .ok (.invokestatic 14, 3) := dk_184 0 14 (dk_at dksJ17_grow_2 10 rfl rfl)
theorem dJ17_grow_58 : decode cJ17_grow 58 = .ok (.dup_x1, 1) := dk_90 (dk_at dksJ17_grow_2 13 rfl rfl)
theorem dJ17_grow_59 : decode cJ17_grow 59 = .ok (.putfield 3, 3) := dk_181 0 3 (dk_at dksJ17_grow_2 14 rfl rfl)
theorem dJ17_grow_62 : decode cJ17_grow 62 = .ok (.astore 5, 2) := dk_58 5 (dk_at dksJ17_grow_2 17 rfl rfl)
theorem dJ17_grow_64 : decode cJ17_grow 64 = .ok (.aload_n 0, 1) := dk_42 (dk_at dksJ17_grow_2 19 rfl rfl)
theorem dJ17_grow_65 : decode cJ17_grow 65 = .ok (.getfield 20, 3) := dk_180 0 20 (dk_at dksJ17_grow_2 20 rfl rfl)
theorem dJ17_grow_68 : decode cJ17_grow 68 = .ok (.aload_n 0, 1) := dk_42 (dk_at dksJ17_grow_2 23 rfl rfl)
theorem dJ17_grow_69 : decode cJ17_grow 69 = .ok (.getfield 24, 3) := dk_180 0 24 (dk_at dksJ17_grow_3 0 rfl rfl)
theorem dJ17_grow_72 : decode cJ17_grow 72 = .ok (.if_icmp .lt 24, 3) := dk_161 0 24 (dk_at dksJ17_grow_3 3 rfl rfl)
theorem dJ17_grow_75 : decode cJ17_grow 75 = .ok (.aload_n 0, 1) := dk_42 (dk_at dksJ17_grow_3 6 rfl rfl)
theorem dJ17_grow_76 : decode cJ17_grow 76 = .ok (.getfield 20, 3) := dk_180 0 20 (dk_at dksJ17_grow_3 7 rfl rfl)
theorem dJ17_grow_79 : decode cJ17_grow 79 = .ok (.aload_n 0, 1) := dk_42 (dk_at dksJ17_grow_3 10 rfl rfl)
theorem dJ17_grow_80 : decode cJ17_grow 80 = .ok (.getfield 24, 3) := dk_180 0 24 (dk_at dksJ17_grow_3 11 rfl rfl)
theorem dJ17_grow_83 : decode cJ17_grow 83 = .ok (.if_icmp .ne 81, 3) := dk_160 0 81 (dk_at dksJ17_grow_3 14 rfl rfl)
theorem dJ17_grow_86 : decode cJ17_grow 86 = .ok (.aload 5, 2) := dk_25 5 (dk_at dksJ17_grow_3 17 rfl rfl)
theorem dJ17_grow_88 : decode cJ17_grow 88 = .ok (.aload_n 0, 1) := dk_42 (dk_at dksJ17_grow_3 19 rfl rfl)
theorem dJ17_grow_89 : decode cJ17_grow 89 = .ok (.getfield 24, 3) := dk_180 0 24 (dk_at dksJ17_grow_3 20 rfl rfl)
theorem dJ17_grow_92 : decode cJ17_grow 92 = .ok (.aaload, 1) := dk_50 (dk_at dksJ17_grow_3 23 rfl rfl)
theorem dJ17_grow_93 : decode cJ17_grow 93 = .ok (.ifnull 71, 3) := dk_198 0 71 (dk_at dksJ17_grow_4 0 rfl rfl)
theorem dJ17_grow_96 : decode cJ17_grow 96 = .ok (.iload_n 3, 1) := dk_29 (dk_at dksJ17_grow_4 3 rfl rfl)
theorem dJ17_grow_97 : decode cJ17_grow 97 = .ok (.iload_n 2, 1) := dk_28 (dk_at dksJ17_grow_4 4 rfl rfl)
theorem dJ17_grow_98 : decode cJ17_grow 98 = .ok (.isub, 1) := dk_100 (dk_at dksJ17_grow_4 5 rfl rfl)
theorem dJ17_grow_99 : decode cJ17_grow 99 = .ok (.istore 6, 2) := dk_54 6 (dk_at dksJ17_grow_4 6 rfl rfl)
theorem dJ17_grow_101 : decode cJ17_grow 101 = .ok (.aload 5, 2) := dk_25 5 (dk_at dksJ17_grow_4 8 rfl rfl)
theorem dJ17_grow_103 : decode cJ17_grow 103 = .ok (.aload_n 0, 1) := dk_42 (dk_at dksJ17_grow_4 10 rfl rfl)
theorem dJ17_grow_104 : decode cJ17_grow 104 = .ok (.getfield 24, 3) := dk_180 0 24 (dk_at dksJ17_grow_4 11 rfl rfl)
theorem dJ17_grow_107 : decode cJ17_grow 107 = .ok (.aload 5, 2) := dk_25 5 (dk_at dksJ17_grow_4 14 rfl rfl)
theorem dJ17_grow_109 : decode cJ17_grow 109 = .ok (.aload_n 0, 1) := dk_42 (dk_at dksJ17_grow_4 16 rfl rfl)
theorem dJ17_grow_110 : decode cJ17_grow 110 = .ok (.getfield 24, 3) := dk_180 0 24 (dk_at dksJ17_grow_4 17 rfl rfl)
theorem dJ17_grow_113 : decode cJ17_grow 113 = .ok (.iload 6, 2) := dk_21 6 (dk_at dksJ17_grow_4 20 rfl rfl)
theorem dJ17_grow_115 : decode cJ17_grow 115 = .ok (.iadd, 1) := dk_96 (dk_at dksJ17_grow_4 22 rfl rfl)
theorem dJ17_grow_116 : decode cJ17_grow 116 = .ok (.iload_n 2, 1) := dk_28 (dk_at dksJ17_grow_4 23 rfl rfl)
theorem dJ17_grow_117 : decode cJ17_grow 117 = .ok (.aload_n 0, 1) := dk_42 (dk_at dksJ17_grow_5 0 rfl rfl)
theorem dJ17_grow_118 : decode cJ17_grow 118 = .ok (.getfield 24, 3) := dk_180 0 24 (dk_at dksJ17_grow_5 1 rfl rfl)
theorem dJ17_grow_121 : decode cJ17_grow 121 = .ok (.isub, 1) := dk_100 (dk_at dksJ17_grow_5 4 rfl rfl)
theorem dJ17_grow_122 : decode cJ17_grow 122 = .ok (.invokestatic 27, 3) := dk_184 0 27 (dk_at dksJ17_grow_5 5 rfl rfl)
theorem dJ17_grow_125 : decode cJ17_grow 125 = .ok (.aload_n 0, 1) := dk_42 (dk_at dksJ17_grow_5 8 rfl rfl)
theorem dJ17_grow_126 : decode cJ17_grow 126 = .ok (.getfield 24, 3) := dk_180 0 24 (dk_at dksJ17_grow_5 9 rfl rfl)
theorem dJ17_grow_129 : decode cJ17_grow 129 = .ok (.istore 7, 2) := dk_54 7 (dk_at dksJ17_grow_5 12 rfl rfl)
theorem dJ17_grow_131 : decode cJ17_grow 131 = .ok (.aload_n 0, 1) := dk_42 (dk_at dksJ17_grow_5 14 rfl rfl)
theorem dJ17_grow_132 : decode cJ17_grow 132 = .ok (.dup, 1) := dk_89 (dk_at dksJ17_grow_5 15 rfl rfl)
theorem dJ17_grow_133 : decode cJ17_grow 133 = .ok (.getfield 24, 3) := dk_180 0 24 (dk_at dksJ17_grow_5 16 rfl rfl)
theorem dJ17_grow_136 : decode cJ17_grow 136 = .ok (.iload 6, 2) := dk_21 6 (dk_at dksJ17_grow_5 19 rfl rfl)
theorem dJ17_grow_138 : decode cJ17_grow 138 = .ok (.iadd, 1) := dk_96 (dk_at dksJ17_grow_5 21 rfl rfl)
theorem dJ17_grow_139 : decode cJ17_grow 139 = .ok (.dup_x1, 1) := dk_90 (dk_at dksJ17_grow_5 22 rfl rfl)
theorem dJ17_grow_140 : decode cJ17_grow 140 = .ok (.putfield 24, 3) := dk_181 0 24 (dk_at dksJ17_grow_6 0 rfl rfl)
theorem dJ17_grow_143 : decode cJ17_grow 143 = .ok (.istore 8, 2) := dk_54 8 (dk_at dksJ17_grow_6 3 rfl rfl)
theorem dJ17_grow_145 : decode cJ17_grow 145 = .ok (.iload 7, 2) := dk_21 7 (dk_at dksJ17_grow_6 5 rfl rfl)
theorem dJ17_grow_147 : decode cJ17_grow 147 = .ok (.iload 8, 2) := dk_21 8 (dk_at dksJ17_grow_6 7 rfl rfl)
theorem dJ17_grow_149 : decode cJ17_grow 149 = .ok (.if_icmp .ge 15, 3) := dk_162 0 15 (dk_at dksJ17_grow_6 9 rfl rfl)
theorem dJ17_grow_152 : decode cJ17_grow 152 = .ok (.aload 5, 2) := dk_25 5 (dk_at dksJ17_grow_6 12 rfl rfl)
theorem dJ17_grow_154 : decode cJ17_grow 154 = .ok (.iload 7, 2) := dk_21 7 (dk_at dksJ17_grow_6 14 rfl rfl)
theorem dJ17_grow_156 : decode cJ17_grow 156 = .ok (.aconst_null, 1) := dk_1 (dk_at dksJ17_grow_6 16 rfl rfl)
theorem dJ17_grow_157 : decode cJ17_grow 157 = .ok (.aastore, 1) := dk_83 (dk_at dksJ17_grow_6 17 rfl rfl)
theorem dJ17_grow_158 : decode cJ17_grow 158 = .ok (.iinc 7 1, 3) := dk_132 7 1 (dk_at dksJ17_grow_6 18 rfl rfl)
theorem dJ17_grow_161 : decode cJ17_grow 161 = .ok (.goto (-16), 3) := dk_167 255 240 (dk_at dksJ17_grow_6 21 rfl rfl)
theorem dJ17_grow_164 : decode cJ17_grow 164 = .ok (.return_, 1) := dk_177 (dk_at dksJ17_grow_7 0 rfl rfl)
abbrev cJ17_newCapacity : ByteArray := prog_36_method_2_code
def yJ17_newCapacity : MethodName := ⟨RJ17, "newCapacity", "(II)I"⟩
def dkwJ17_newCapacity_2 : List UInt8 := [18, 9, 100, 156, 0, 9, 29, 28, 96, 167, 0, 5, 18, 9, 172]
abbrev dktJ17_newCapacity_2 : List UInt8 := dkwJ17_newCapacity_2 ++ []
def dkwJ17_newCapacity_1 : List UInt8 := [187, 0, 33, 89, 18, 35, 183, 0, 37, 191, 18, 41, 172, 27, 28, 164, 0, 6, 21, 4, 172, 29, 28, 96]
abbrev dktJ17_newCapacity_1 : List UInt8 := dkwJ17_newCapacity_1 ++ dktJ17_newCapacity_2
def dkwJ17_newCapacity_0 : List UInt8 := [42, 180, 0, 3, 190, 62, 29, 27, 96, 89, 54, 4, 18, 9, 100, 158, 0, 21, 21, 4, 156, 0, 13]
abbrev dktJ17_newCapacity_0 : List UInt8 := dkwJ17_newCapacity_0 ++ dktJ17_newCapacity_1
theorem dksJ17_newCapacity_0 : cJ17_newCapacity.data.toList.drop 0 = dktJ17_newCapacity_0 := by decide +kernel
theorem dksJ17_newCapacity_1 : cJ17_newCapacity.data.toList.drop 23 = dktJ17_newCapacity_1 := dk_seg dksJ17_newCapacity_0 23 rfl rfl
theorem dksJ17_newCapacity_2 : cJ17_newCapacity.data.toList.drop 47 = dktJ17_newCapacity_2 := dk_seg dksJ17_newCapacity_1 24 rfl rfl
theorem dJ17_newCapacity_0 : decode cJ17_newCapacity 0 = .ok (.aload_n 0, 1) := dk_42 (dk_at dksJ17_newCapacity_0 0 rfl rfl)
theorem dJ17_newCapacity_1 : decode cJ17_newCapacity 1 = .ok (.getfield 3, 3) := dk_180 0 3 (dk_at dksJ17_newCapacity_0 1 rfl rfl)
theorem dJ17_newCapacity_4 : decode cJ17_newCapacity 4 = .ok (.arraylength, 1) := dk_190 (dk_at dksJ17_newCapacity_0 4 rfl rfl)
theorem dJ17_newCapacity_5 : decode cJ17_newCapacity 5 = .ok (.istore_n 3, 1) := dk_62 (dk_at dksJ17_newCapacity_0 5 rfl rfl)
theorem dJ17_newCapacity_6 : decode cJ17_newCapacity 6 = .ok (.iload_n 3, 1) := dk_29 (dk_at dksJ17_newCapacity_0 6 rfl rfl)
theorem dJ17_newCapacity_7 : decode cJ17_newCapacity 7 = .ok (.iload_n 1, 1) := dk_27 (dk_at dksJ17_newCapacity_0 7 rfl rfl)
theorem dJ17_newCapacity_8 : decode cJ17_newCapacity 8 = .ok (.iadd, 1) := dk_96 (dk_at dksJ17_newCapacity_0 8 rfl rfl)
theorem dJ17_newCapacity_9 : decode cJ17_newCapacity 9 = .ok (.dup, 1) := dk_89 (dk_at dksJ17_newCapacity_0 9 rfl rfl)
theorem dJ17_newCapacity_10 : decode cJ17_newCapacity 10 = .ok (.istore 4, 2) := dk_54 4 (dk_at dksJ17_newCapacity_0 10 rfl rfl)
theorem dJ17_newCapacity_12 : decode cJ17_newCapacity 12 = .ok (.ldc 9, 2) := dk_18 9 (dk_at dksJ17_newCapacity_0 12 rfl rfl)
theorem dJ17_newCapacity_14 : decode cJ17_newCapacity 14 = .ok (.isub, 1) := dk_100 (dk_at dksJ17_newCapacity_0 14 rfl rfl)
theorem dJ17_newCapacity_15 : decode cJ17_newCapacity 15 = .ok (.ifCond .le 21, 3) := dk_158 0 21 (dk_at dksJ17_newCapacity_0 15 rfl rfl)
theorem dJ17_newCapacity_18 : decode cJ17_newCapacity 18 = .ok (.iload 4, 2) := dk_21 4 (dk_at dksJ17_newCapacity_0 18 rfl rfl)
theorem dJ17_newCapacity_20 : decode cJ17_newCapacity 20 = .ok (.ifCond .ge 13, 3) := dk_156 0 13 (dk_at dksJ17_newCapacity_0 20 rfl rfl)
theorem dJ17_newCapacity_23 : decode cJ17_newCapacity 23 = .ok (.new 33, 3) := dk_187 0 33 (dk_at dksJ17_newCapacity_1 0 rfl rfl)
theorem dJ17_newCapacity_26 : decode cJ17_newCapacity 26 = .ok (.dup, 1) := dk_89 (dk_at dksJ17_newCapacity_1 3 rfl rfl)
theorem dJ17_newCapacity_27 : decode cJ17_newCapacity 27 = .ok (.ldc 35, 2) := dk_18 35 (dk_at dksJ17_newCapacity_1 4 rfl rfl)
theorem dJ17_newCapacity_29 : decode cJ17_newCapacity 29 = .ok (.invokespecial 37, 3) := dk_183 0 37 (dk_at dksJ17_newCapacity_1 6 rfl rfl)
theorem dJ17_newCapacity_32 : decode cJ17_newCapacity 32 = .ok (.athrow, 1) := dk_191 (dk_at dksJ17_newCapacity_1 9 rfl rfl)
theorem dJ17_newCapacity_33 : decode cJ17_newCapacity 33 = .ok (.ldc 41, 2) := dk_18 41 (dk_at dksJ17_newCapacity_1 10 rfl rfl)
theorem dJ17_newCapacity_35 : decode cJ17_newCapacity 35 = .ok (.ireturn, 1) := dk_172 (dk_at dksJ17_newCapacity_1 12 rfl rfl)
theorem dJ17_newCapacity_36 : decode cJ17_newCapacity 36 = .ok (.iload_n 1, 1) := dk_27 (dk_at dksJ17_newCapacity_1 13 rfl rfl)
theorem dJ17_newCapacity_37 : decode cJ17_newCapacity 37 = .ok (.iload_n 2, 1) := dk_28 (dk_at dksJ17_newCapacity_1 14 rfl rfl)
theorem dJ17_newCapacity_38 : decode cJ17_newCapacity 38 = .ok (.if_icmp .le 6, 3) := dk_164 0 6 (dk_at dksJ17_newCapacity_1 15 rfl rfl)
theorem dJ17_newCapacity_41 : decode cJ17_newCapacity 41 = .ok (.iload 4, 2) := dk_21 4 (dk_at dksJ17_newCapacity_1 18 rfl rfl)
theorem dJ17_newCapacity_43 : decode cJ17_newCapacity 43 = .ok (.ireturn, 1) := dk_172 (dk_at dksJ17_newCapacity_1 20 rfl rfl)
theorem dJ17_newCapacity_44 : decode cJ17_newCapacity 44 = .ok (.iload_n 3, 1) := dk_29 (dk_at dksJ17_newCapacity_1 21 rfl rfl)
theorem dJ17_newCapacity_45 : decode cJ17_newCapacity 45 = .ok (.iload_n 2, 1) := dk_28 (dk_at dksJ17_newCapacity_1 22 rfl rfl)
theorem dJ17_newCapacity_46 : decode cJ17_newCapacity 46 = .ok (.iadd, 1) := dk_96 (dk_at dksJ17_newCapacity_1 23 rfl rfl)
theorem dJ17_newCapacity_47 : decode cJ17_newCapacity 47 = .ok (.ldc 9, 2) := dk_18 9 (dk_at dksJ17_newCapacity_2 0 rfl rfl)
theorem dJ17_newCapacity_49 : decode cJ17_newCapacity 49 = .ok (.isub, 1) := dk_100 (dk_at dksJ17_newCapacity_2 2 rfl rfl)
theorem dJ17_newCapacity_50 : decode cJ17_newCapacity 50 = .ok (.ifCond .ge 9, 3) := dk_156 0 9 (dk_at dksJ17_newCapacity_2 3 rfl rfl)
theorem dJ17_newCapacity_53 : decode cJ17_newCapacity 53 = .ok (.iload_n 3, 1) := dk_29 (dk_at dksJ17_newCapacity_2 6 rfl rfl)
theorem dJ17_newCapacity_54 : decode cJ17_newCapacity 54 = .ok (.iload_n 2, 1) := dk_28 (dk_at dksJ17_newCapacity_2 7 rfl rfl)
theorem dJ17_newCapacity_55 : decode cJ17_newCapacity 55 = .ok (.iadd, 1) := dk_96 (dk_at dksJ17_newCapacity_2 8 rfl rfl)
theorem dJ17_newCapacity_56 : decode cJ17_newCapacity 56 = .ok (.goto 5, 3) := dk_167 0 5 (dk_at dksJ17_newCapacity_2 9 rfl rfl)
theorem dJ17_newCapacity_59 : decode cJ17_newCapacity 59 = .ok (.ldc 9, 2) := dk_18 9 (dk_at dksJ17_newCapacity_2 12 rfl rfl)
theorem dJ17_newCapacity_61 : decode cJ17_newCapacity 61 = .ok (.ireturn, 1) := dk_172 (dk_at dksJ17_newCapacity_2 14 rfl rfl)
abbrev cJ17_clear : ByteArray := prog_36_method_53_code
def yJ17_clear : MethodName := ⟨RJ17, "clear", "()V"⟩
def dkwJ17_clear_1 : List UInt8 := [181, 0, 24, 177]
abbrev dktJ17_clear_1 : List UInt8 := dkwJ17_clear_1 ++ []
def dkwJ17_clear_0 : List UInt8 := [42, 180, 0, 3, 42, 180, 0, 24, 42, 180, 0, 20, 184, 0, 181, 42, 42, 3, 90, 181, 0, 20]
abbrev dktJ17_clear_0 : List UInt8 := dkwJ17_clear_0 ++ dktJ17_clear_1
theorem dksJ17_clear_0 : cJ17_clear.data.toList.drop 0 = dktJ17_clear_0 := by decide +kernel
theorem dksJ17_clear_1 : cJ17_clear.data.toList.drop 22 = dktJ17_clear_1 := dk_seg dksJ17_clear_0 22 rfl rfl
theorem dJ17_clear_0 : decode cJ17_clear 0 = .ok (.aload_n 0, 1) := dk_42 (dk_at dksJ17_clear_0 0 rfl rfl)
theorem dJ17_clear_1 : decode cJ17_clear 1 = .ok (.getfield 3, 3) := dk_180 0 3 (dk_at dksJ17_clear_0 1 rfl rfl)
theorem dJ17_clear_4 : decode cJ17_clear 4 = .ok (.aload_n 0, 1) := dk_42 (dk_at dksJ17_clear_0 4 rfl rfl)
theorem dJ17_clear_5 : decode cJ17_clear 5 = .ok (.getfield 24, 3) := dk_180 0 24 (dk_at dksJ17_clear_0 5 rfl rfl)
theorem dJ17_clear_8 : decode cJ17_clear 8 = .ok (.aload_n 0, 1) := dk_42 (dk_at dksJ17_clear_0 8 rfl rfl)
theorem dJ17_clear_9 : decode cJ17_clear 9 = .ok (.getfield 20, 3) := dk_180 0 20 (dk_at dksJ17_clear_0 9 rfl rfl)
theorem dJ17_clear_12 : decode cJ17_clear 12 = .ok (.invokestatic 181, 3) := dk_184 0 181 (dk_at dksJ17_clear_0 12 rfl rfl)
theorem dJ17_clear_15 : decode cJ17_clear 15 = .ok (.aload_n 0, 1) := dk_42 (dk_at dksJ17_clear_0 15 rfl rfl)
theorem dJ17_clear_16 : decode cJ17_clear 16 = .ok (.aload_n 0, 1) := dk_42 (dk_at dksJ17_clear_0 16 rfl rfl)
theorem dJ17_clear_17 : decode cJ17_clear 17 = .ok (.iconst 0, 1) := dk_3 (dk_at dksJ17_clear_0 17 rfl rfl)
theorem dJ17_clear_18 : decode cJ17_clear 18 = .ok (.dup_x1, 1) := dk_90 (dk_at dksJ17_clear_0 18 rfl rfl)
theorem dJ17_clear_19 : decode cJ17_clear 19 = .ok (.putfield 20, 3) := dk_181 0 20 (dk_at dksJ17_clear_0 19 rfl rfl)
theorem dJ17_clear_22 : decode cJ17_clear 22 = .ok (.putfield 24, 3) := dk_181 0 24 (dk_at dksJ17_clear_1 0 rfl rfl)
theorem dJ17_clear_25 : decode cJ17_clear 25 = .ok (.return_, 1) := dk_177 (dk_at dksJ17_clear_1 3 rfl rfl)
abbrev cJ17_circularClear : ByteArray := prog_36_method_54_code
def yJ17_circularClear : MethodName := ⟨RJ17, "circularClear", "([Ljava/lang/Object;II)V"⟩
def dkwJ17_circularClear_1 : List UInt8 := [167, 255, 244, 29, 28, 160, 0, 6, 167, 0, 10, 3, 60, 28, 62, 167, 255, 229, 177]
abbrev dktJ17_circularClear_1 : List UInt8 := dkwJ17_circularClear_1 ++ []
def dkwJ17_circularClear_0 : List UInt8 := [27, 28, 163, 0, 7, 28, 167, 0, 5, 42, 190, 62, 27, 29, 162, 0, 13, 42, 27, 1, 83, 132, 1, 1]
abbrev dktJ17_circularClear_0 : List UInt8 := dkwJ17_circularClear_0 ++ dktJ17_circularClear_1
theorem dksJ17_circularClear_0 : cJ17_circularClear.data.toList.drop 0 = dktJ17_circularClear_0 := by decide +kernel
theorem dksJ17_circularClear_1 : cJ17_circularClear.data.toList.drop 24 = dktJ17_circularClear_1 := dk_seg dksJ17_circularClear_0 24 rfl rfl
theorem dJ17_circularClear_0 : decode cJ17_circularClear 0 = .ok (.iload_n 1, 1) := dk_27 (dk_at dksJ17_circularClear_0 0 rfl rfl)
theorem dJ17_circularClear_1 : decode cJ17_circularClear 1 = .ok (.iload_n 2, 1) := dk_28 (dk_at dksJ17_circularClear_0 1 rfl rfl)
theorem dJ17_circularClear_2 : decode cJ17_circularClear 2 = .ok (.if_icmp .gt 7, 3) := dk_163 0 7 (dk_at dksJ17_circularClear_0 2 rfl rfl)
theorem dJ17_circularClear_5 : decode cJ17_circularClear 5 = .ok (.iload_n 2, 1) := dk_28 (dk_at dksJ17_circularClear_0 5 rfl rfl)
theorem dJ17_circularClear_6 : decode cJ17_circularClear 6 = .ok (.goto 5, 3) := dk_167 0 5 (dk_at dksJ17_circularClear_0 6 rfl rfl)
theorem dJ17_circularClear_9 : decode cJ17_circularClear 9 = .ok (.aload_n 0, 1) := dk_42 (dk_at dksJ17_circularClear_0 9 rfl rfl)
theorem dJ17_circularClear_10 : decode cJ17_circularClear 10 = .ok (.arraylength, 1) := dk_190 (dk_at dksJ17_circularClear_0 10 rfl rfl)
theorem dJ17_circularClear_11 : decode cJ17_circularClear 11 = .ok (.istore_n 3, 1) := dk_62 (dk_at dksJ17_circularClear_0 11 rfl rfl)
theorem dJ17_circularClear_12 : decode cJ17_circularClear 12 = .ok (.iload_n 1, 1) := dk_27 (dk_at dksJ17_circularClear_0 12 rfl rfl)
theorem dJ17_circularClear_13 : decode cJ17_circularClear 13 = .ok (.iload_n 3, 1) := dk_29 (dk_at dksJ17_circularClear_0 13 rfl rfl)
theorem dJ17_circularClear_14 : decode cJ17_circularClear 14 = .ok (.if_icmp .ge 13, 3) := dk_162 0 13 (dk_at dksJ17_circularClear_0 14 rfl rfl)
theorem dJ17_circularClear_17 : decode cJ17_circularClear 17 = .ok (.aload_n 0, 1) := dk_42 (dk_at dksJ17_circularClear_0 17 rfl rfl)
theorem dJ17_circularClear_18 : decode cJ17_circularClear 18 = .ok (.iload_n 1, 1) := dk_27 (dk_at dksJ17_circularClear_0 18 rfl rfl)
theorem dJ17_circularClear_19 : decode cJ17_circularClear 19 = .ok (.aconst_null, 1) := dk_1 (dk_at dksJ17_circularClear_0 19 rfl rfl)
theorem dJ17_circularClear_20 : decode cJ17_circularClear 20 = .ok (.aastore, 1) := dk_83 (dk_at dksJ17_circularClear_0 20 rfl rfl)
theorem dJ17_circularClear_21 : decode cJ17_circularClear 21 = .ok (.iinc 1 1, 3) := dk_132 1 1 (dk_at dksJ17_circularClear_0 21 rfl rfl)
theorem dJ17_circularClear_24 : decode cJ17_circularClear 24 = .ok (.goto (-12), 3) := dk_167 255 244 (dk_at dksJ17_circularClear_1 0 rfl rfl)
theorem dJ17_circularClear_27 : decode cJ17_circularClear 27 = .ok (.iload_n 3, 1) := dk_29 (dk_at dksJ17_circularClear_1 3 rfl rfl)
theorem dJ17_circularClear_28 : decode cJ17_circularClear 28 = .ok (.iload_n 2, 1) := dk_28 (dk_at dksJ17_circularClear_1 4 rfl rfl)
theorem dJ17_circularClear_29 : decode cJ17_circularClear 29 = .ok (.if_icmp .ne 6, 3) := dk_160 0 6 (dk_at dksJ17_circularClear_1 5 rfl rfl)
theorem dJ17_circularClear_32 : decode cJ17_circularClear 32 = .ok (.goto 10, 3) := dk_167 0 10 (dk_at dksJ17_circularClear_1 8 rfl rfl)
theorem dJ17_circularClear_35 : decode cJ17_circularClear 35 = .ok (.iconst 0, 1) := dk_3 (dk_at dksJ17_circularClear_1 11 rfl rfl)
theorem dJ17_circularClear_36 : decode cJ17_circularClear 36 = .ok (.istore_n 1, 1) := dk_60 (dk_at dksJ17_circularClear_1 12 rfl rfl)
theorem dJ17_circularClear_37 : decode cJ17_circularClear 37 = .ok (.iload_n 2, 1) := dk_28 (dk_at dksJ17_circularClear_1 13 rfl rfl)
theorem dJ17_circularClear_38 : decode cJ17_circularClear 38 = .ok (.istore_n 3, 1) := dk_62 (dk_at dksJ17_circularClear_1 14 rfl rfl)
theorem dJ17_circularClear_39 : decode cJ17_circularClear 39 = .ok (.goto (-27), 3) := dk_167 255 229 (dk_at dksJ17_circularClear_1 15 rfl rfl)
theorem dJ17_circularClear_42 : decode cJ17_circularClear 42 = .ok (.return_, 1) := dk_177 (dk_at dksJ17_circularClear_1 18 rfl rfl)
abbrev cJ17_isEmpty : ByteArray := prog_36_method_38_code
def yJ17_isEmpty : MethodName := ⟨RJ17, "isEmpty", "()Z"⟩
def dkwJ17_isEmpty_0 : List UInt8 := [42, 180, 0, 24, 42, 180, 0, 20, 160, 0, 7, 4, 167, 0, 4, 3, 172]
abbrev dktJ17_isEmpty_0 : List UInt8 := dkwJ17_isEmpty_0 ++ []
theorem dksJ17_isEmpty_0 : cJ17_isEmpty.data.toList.drop 0 = dktJ17_isEmpty_0 := by decide +kernel
theorem dJ17_isEmpty_0 : decode cJ17_isEmpty 0 = .ok (.aload_n 0, 1) := dk_42 (dk_at dksJ17_isEmpty_0 0 rfl rfl)
theorem dJ17_isEmpty_1 : decode cJ17_isEmpty 1 = .ok (.getfield 24, 3) := dk_180 0 24 (dk_at dksJ17_isEmpty_0 1 rfl rfl)
theorem dJ17_isEmpty_4 : decode cJ17_isEmpty 4 = .ok (.aload_n 0, 1) := dk_42 (dk_at dksJ17_isEmpty_0 4 rfl rfl)
theorem dJ17_isEmpty_5 : decode cJ17_isEmpty 5 = .ok (.getfield 20, 3) := dk_180 0 20 (dk_at dksJ17_isEmpty_0 5 rfl rfl)
theorem dJ17_isEmpty_8 : decode cJ17_isEmpty 8 = .ok (.if_icmp .ne 7, 3) := dk_160 0 7 (dk_at dksJ17_isEmpty_0 8 rfl rfl)
theorem dJ17_isEmpty_11 : decode cJ17_isEmpty 11 = .ok (.iconst 1, 1) := dk_4 (dk_at dksJ17_isEmpty_0 11 rfl rfl)
theorem dJ17_isEmpty_12 : decode cJ17_isEmpty 12 = .ok (.goto 4, 3) := dk_167 0 4 (dk_at dksJ17_isEmpty_0 12 rfl rfl)
theorem dJ17_isEmpty_15 : decode cJ17_isEmpty 15 = .ok (.iconst 0, 1) := dk_3 (dk_at dksJ17_isEmpty_0 15 rfl rfl)
theorem dJ17_isEmpty_16 : decode cJ17_isEmpty 16 = .ok (.ireturn, 1) := dk_172 (dk_at dksJ17_isEmpty_0 16 rfl rfl)
abbrev cJ17_removeLast : ByteArray := prog_36_method_19_code
def yJ17_removeLast : MethodName := ⟨RJ17, "removeLast", "()Ljava/lang/Object;"⟩
def dkwJ17_removeLast_0 : List UInt8 := [42, 182, 0, 100, 76, 43, 199, 0, 11, 187, 0, 97, 89, 183, 0, 99, 191, 43, 176]
abbrev dktJ17_removeLast_0 : List UInt8 := dkwJ17_removeLast_0 ++ []
theorem dksJ17_removeLast_0 : cJ17_removeLast.data.toList.drop 0 = dktJ17_removeLast_0 := by decide +kernel
theorem dJ17_removeLast_0 : decode cJ17_removeLast 0 = .ok (.aload_n 0, 1) := dk_42 (dk_at dksJ17_removeLast_0 0 rfl rfl)
theorem dJ17_removeLast_1 : decode cJ17_removeLast 1 = .ok (.invokevirtual 100, 3) := dk_182 0 100 (dk_at dksJ17_removeLast_0 1 rfl rfl)
theorem dJ17_removeLast_4 : decode cJ17_removeLast 4 = .ok (.astore_n 1, 1) := dk_76 (dk_at dksJ17_removeLast_0 4 rfl rfl)
theorem dJ17_removeLast_5 : decode cJ17_removeLast 5 = .ok (.aload_n 1, 1) := dk_43 (dk_at dksJ17_removeLast_0 5 rfl rfl)
theorem dJ17_removeLast_6 : decode cJ17_removeLast 6 = .ok (.ifnonnull 11, 3) := dk_199 0 11 (dk_at dksJ17_removeLast_0 6 rfl rfl)
theorem dJ17_removeLast_9 : decode cJ17_removeLast 9 = .ok (.new 97, 3) := dk_187 0 97 (dk_at dksJ17_removeLast_0 9 rfl rfl)
theorem dJ17_removeLast_12 : decode cJ17_removeLast 12 = .ok (.dup, 1) := dk_89 (dk_at dksJ17_removeLast_0 12 rfl rfl)
theorem dJ17_removeLast_13 : decode cJ17_removeLast 13 = .ok (.invokespecial 99, 3) := dk_183 0 99 (dk_at dksJ17_removeLast_0 13 rfl rfl)
theorem dJ17_removeLast_16 : decode cJ17_removeLast 16 = .ok (.athrow, 1) := dk_191 (dk_at dksJ17_removeLast_0 16 rfl rfl)
theorem dJ17_removeLast_17 : decode cJ17_removeLast 17 = .ok (.aload_n 1, 1) := dk_43 (dk_at dksJ17_removeLast_0 17 rfl rfl)
theorem dJ17_removeLast_18 : decode cJ17_removeLast 18 = .ok (.areturn, 1) := dk_176 (dk_at dksJ17_removeLast_0 18 rfl rfl)
abbrev cJ17_pollLast : ByteArray := prog_36_method_21_code
def yJ17_pollLast : MethodName := ⟨RJ17, "pollLast", "()Ljava/lang/Object;"⟩
def dkwJ17_pollLast_1 : List UInt8 := [198, 0, 12, 43, 42, 28, 90, 181, 0, 20, 1, 83, 45, 176]
abbrev dktJ17_pollLast_1 : List UInt8 := dkwJ17_pollLast_1 ++ []
def dkwJ17_pollLast_0 : List UInt8 := [42, 180, 0, 3, 89, 76, 42, 180, 0, 20, 43, 190, 184, 0, 68, 89, 61, 184, 0, 103, 78, 45]
abbrev dktJ17_pollLast_0 : List UInt8 := dkwJ17_pollLast_0 ++ dktJ17_pollLast_1
theorem dksJ17_pollLast_0 : cJ17_pollLast.data.toList.drop 0 = dktJ17_pollLast_0 := by decide +kernel
theorem dksJ17_pollLast_1 : cJ17_pollLast.data.toList.drop 22 = dktJ17_pollLast_1 := dk_seg dksJ17_pollLast_0 22 rfl rfl
theorem dJ17_pollLast_0 : decode cJ17_pollLast 0 = .ok (.aload_n 0, 1) := dk_42 (dk_at dksJ17_pollLast_0 0 rfl rfl)
theorem dJ17_pollLast_1 : decode cJ17_pollLast 1 = .ok (.getfield 3, 3) := dk_180 0 3 (dk_at dksJ17_pollLast_0 1 rfl rfl)
theorem dJ17_pollLast_4 : decode cJ17_pollLast 4 = .ok (.dup, 1) := dk_89 (dk_at dksJ17_pollLast_0 4 rfl rfl)
theorem dJ17_pollLast_5 : decode cJ17_pollLast 5 = .ok (.astore_n 1, 1) := dk_76 (dk_at dksJ17_pollLast_0 5 rfl rfl)
theorem dJ17_pollLast_6 : decode cJ17_pollLast 6 = .ok (.aload_n 0, 1) := dk_42 (dk_at dksJ17_pollLast_0 6 rfl rfl)
theorem dJ17_pollLast_7 : decode cJ17_pollLast 7 = .ok (.getfield 20, 3) := dk_180 0 20 (dk_at dksJ17_pollLast_0 7 rfl rfl)
theorem dJ17_pollLast_10 : decode cJ17_pollLast 10 = .ok (.aload_n 1, 1) := dk_43 (dk_at dksJ17_pollLast_0 10 rfl rfl)
theorem dJ17_pollLast_11 : decode cJ17_pollLast 11 = .ok (.arraylength, 1) := dk_190 (dk_at dksJ17_pollLast_0 11 rfl rfl)
theorem dJ17_pollLast_12 : decode cJ17_pollLast 12 = .ok (.invokestatic 68, 3) := dk_184 0 68 (dk_at dksJ17_pollLast_0 12 rfl rfl)
theorem dJ17_pollLast_15 : decode cJ17_pollLast 15 = .ok (.dup, 1) := dk_89 (dk_at dksJ17_pollLast_0 15 rfl rfl)
theorem dJ17_pollLast_16 : decode cJ17_pollLast 16 = .ok (.istore_n 2, 1) := dk_61 (dk_at dksJ17_pollLast_0 16 rfl rfl)
theorem dJ17_pollLast_17 : decode cJ17_pollLast 17 = .ok (.invokestatic 103, 3) := dk_184 0 103 (dk_at dksJ17_pollLast_0 17 rfl rfl)
theorem dJ17_pollLast_20 : decode cJ17_pollLast 20 = .ok (.astore_n 3, 1) := dk_78 (dk_at dksJ17_pollLast_0 20 rfl rfl)
theorem dJ17_pollLast_21 : decode cJ17_pollLast 21 = .ok (.aload_n 3, 1) := dk_45 (dk_at dksJ17_pollLast_0 21 rfl rfl)
theorem dJ17_pollLast_22 : decode cJ17_pollLast 22 = .ok (.ifnull 12, 3) := dk_198 0 12 (dk_at dksJ17_pollLast_1 0 rfl rfl)
theorem dJ17_pollLast_25 : decode cJ17_pollLast 25 = .ok (.aload_n 1, 1) := dk_43 (dk_at dksJ17_pollLast_1 3 rfl rfl)
theorem dJ17_pollLast_26 : decode cJ17_pollLast 26 = .ok (.aload_n 0, 1) := dk_42 (dk_at dksJ17_pollLast_1 4 rfl rfl)
theorem dJ17_pollLast_27 : decode cJ17_pollLast 27 = .ok (.iload_n 2, 1) := dk_28 (dk_at dksJ17_pollLast_1 5 rfl rfl)
theorem dJ17_pollLast_28 : decode cJ17_pollLast 28 = .ok (.dup_x1, 1) := dk_90 (dk_at dksJ17_pollLast_1 6 rfl rfl)
theorem dJ17_pollLast_29 : decode cJ17_pollLast 29 = .ok (.putfield 20, 3) := dk_181 0 20 (dk_at dksJ17_pollLast_1 7 rfl rfl)
theorem dJ17_pollLast_32 : decode cJ17_pollLast 32 = .ok (.aconst_null, 1) := dk_1 (dk_at dksJ17_pollLast_1 10 rfl rfl)
theorem dJ17_pollLast_33 : decode cJ17_pollLast 33 = .ok (.aastore, 1) := dk_83 (dk_at dksJ17_pollLast_1 11 rfl rfl)
theorem dJ17_pollLast_34 : decode cJ17_pollLast 34 = .ok (.aload_n 3, 1) := dk_45 (dk_at dksJ17_pollLast_1 12 rfl rfl)
theorem dJ17_pollLast_35 : decode cJ17_pollLast 35 = .ok (.areturn, 1) := dk_176 (dk_at dksJ17_pollLast_1 13 rfl rfl)
abbrev cJ17_dec : ByteArray := prog_36_method_7_code
def yJ17_dec : MethodName := ⟨RJ17, "dec", "(II)I"⟩
def dkwJ17_dec_0 : List UInt8 := [132, 0, 255, 26, 156, 0, 7, 27, 4, 100, 59, 26, 172]
abbrev dktJ17_dec_0 : List UInt8 := dkwJ17_dec_0 ++ []
theorem dksJ17_dec_0 : cJ17_dec.data.toList.drop 0 = dktJ17_dec_0 := by decide +kernel
theorem dJ17_dec_0 : decode cJ17_dec 0 = .ok (.iinc 0 (-1), 3) := dk_132 0 255 (dk_at dksJ17_dec_0 0 rfl rfl)
theorem dJ17_dec_3 : decode cJ17_dec 3 = .ok (.iload_n 0, 1) := dk_26 (dk_at dksJ17_dec_0 3 rfl rfl)
theorem dJ17_dec_4 : decode cJ17_dec 4 = .ok (.ifCond .ge 7, 3) := dk_156 0 7 (dk_at dksJ17_dec_0 4 rfl rfl)
theorem dJ17_dec_7 : decode cJ17_dec 7 = .ok (.iload_n 1, 1) := dk_27 (dk_at dksJ17_dec_0 7 rfl rfl)
theorem dJ17_dec_8 : decode cJ17_dec 8 = .ok (.iconst 1, 1) := dk_4 (dk_at dksJ17_dec_0 8 rfl rfl)
theorem dJ17_dec_9 : decode cJ17_dec 9 = .ok (.isub, 1) := dk_100 (dk_at dksJ17_dec_0 9 rfl rfl)
theorem dJ17_dec_10 : decode cJ17_dec 10 = .ok (.istore_n 0, 1) := dk_59 (dk_at dksJ17_dec_0 10 rfl rfl)
theorem dJ17_dec_11 : decode cJ17_dec 11 = .ok (.iload_n 0, 1) := dk_26 (dk_at dksJ17_dec_0 11 rfl rfl)
theorem dJ17_dec_12 : decode cJ17_dec 12 = .ok (.ireturn, 1) := dk_172 (dk_at dksJ17_dec_0 12 rfl rfl)
theorem q117 : (Jvm.Cond.initialized "java/util/ArrayDeque") ∈ lw_all := lw_g (lw_at lw_m1 22 rfl) rfl
theorem q514 : (Jvm.Cond.instantiable "java/util/ArrayDeque" (3 : Nat)) ∈ lw_all := lw_g (lw_at lw_m2 179 rfl) rfl
theorem q516 : (Jvm.Cond.instanceMethod ({ cls := "java/util/ArrayDeque", name := "<init>", desc := "()V" } : Jvm.MethodName)) ∈ lw_all := lw_g (lw_at lw_m2 181 rfl) rfl
theorem q517 : (Jvm.Cond.code ({ cls := "java/util/ArrayDeque", name := "<init>", desc := "()V" } : Jvm.MethodName) prog_36_method_3_code (1 : Nat) (Option.none : Option Jvm.ClassFile.FieldType)) ∈ lw_all := lw_g (lw_at lw_m2 182 rfl) rfl
theorem q518 : (Jvm.Cond.methodLink "java/util/ArrayDeque" (42 : Nat) ({ cls := "java/util/AbstractCollection", name := "<init>", desc := "()V" } : Jvm.MethodName)) ∈ lw_all := lw_g (lw_at lw_m2 183 rfl) rfl
theorem q519 : (Jvm.Cond.classLink "java/util/ArrayDeque" (47 : Nat) "java/lang/Object") ∈ lw_all := lw_g (lw_at lw_m2 184 rfl) rfl
theorem q520 : (Jvm.Cond.fieldLink "java/util/ArrayDeque" (3 : Nat) "java/util/ArrayDeque" "elements" "[Ljava/lang/Object;") ∈ lw_all := lw_g (lw_at lw_m2 185 rfl) rfl
theorem q521 : (Jvm.Cond.fieldLink "java/util/ArrayDeque" (24 : Nat) "java/util/ArrayDeque" "head" "I") ∈ lw_all := lw_g (lw_at lw_m2 186 rfl) rfl
theorem q522 : (Jvm.Cond.fieldLink "java/util/ArrayDeque" (20 : Nat) "java/util/ArrayDeque" "tail" "I") ∈ lw_all := lw_g (lw_at lw_m2 187 rfl) rfl
theorem q523 : (Jvm.Cond.lays "java/util/ArrayDeque" "java/util/ArrayDeque" "elements" "[Ljava/lang/Object;") ∈ lw_all := lw_g (lw_at lw_m2 188 rfl) rfl
theorem q524 : (Jvm.Cond.soleField "java/util/ArrayDeque" "elements") ∈ lw_all := lw_g (lw_at lw_m2 189 rfl) rfl
theorem q525 : (Jvm.Cond.lays "java/util/ArrayDeque" "java/util/ArrayDeque" "head" "I") ∈ lw_all := lw_g (lw_at lw_m2 190 rfl) rfl
theorem q526 : (Jvm.Cond.soleField "java/util/ArrayDeque" "head") ∈ lw_all := lw_g (lw_at lw_m2 191 rfl) rfl
theorem q527 : (Jvm.Cond.lays "java/util/ArrayDeque" "java/util/ArrayDeque" "tail" "I") ∈ lw_all := lw_g (lw_at lw_m2 192 rfl) rfl
theorem q528 : (Jvm.Cond.soleField "java/util/ArrayDeque" "tail") ∈ lw_all := lw_g (lw_at lw_m2 193 rfl) rfl
theorem q529 : (Jvm.Cond.superclass "java/util/ArrayDeque" "java/util/AbstractCollection") ∈ lw_all := lw_g (lw_at lw_m2 194 rfl) rfl
theorem q744 : (Jvm.Cond.selects "java/util/ArrayDeque" ({ cls := "java/lang/Object", name := "getClass", desc := "()Ljava/lang/Class;" } : Jvm.MethodName) ({ cls := "java/lang/Object", name := "getClass", desc := "()Ljava/lang/Class;" } : Jvm.MethodName)) ∈ lw_all := lw_g (lw_at lw_m3 169 rfl) rfl
theorem q1014 : (Jvm.Cond.instanceMethod ({ cls := "java/util/ArrayDeque", name := "size", desc := "()I" } : Jvm.MethodName)) ∈ lw_all := lw_g (lw_at lw_m4 199 rfl) rfl
theorem q1015 : (Jvm.Cond.selects "java/util/ArrayDeque" ({ cls := "java/util/ArrayDeque", name := "size", desc := "()I" } : Jvm.MethodName) ({ cls := "java/util/ArrayDeque", name := "size", desc := "()I" } : Jvm.MethodName)) ∈ lw_all := lw_g (lw_at lw_m4 200 rfl) rfl
theorem q1016 : (Jvm.Cond.code ({ cls := "java/util/ArrayDeque", name := "size", desc := "()I" } : Jvm.MethodName) prog_36_method_37_code (1 : Nat) (Option.some Jvm.ClassFile.FieldType.int)) ∈ lw_all := lw_g (lw_at lw_m4 201 rfl) rfl
theorem q1017 : (Jvm.Cond.methodLink "java/util/ArrayDeque" (127 : Nat) ({ cls := "java/util/ArrayDeque", name := "sub", desc := "(III)I" } : Jvm.MethodName)) ∈ lw_all := lw_g (lw_at lw_m4 202 rfl) rfl
theorem q1018 : (Jvm.Cond.static ({ cls := "java/util/ArrayDeque", name := "sub", desc := "(III)I" } : Jvm.MethodName)) ∈ lw_all := lw_g (lw_at lw_m4 203 rfl) rfl
theorem q1019 : (Jvm.Cond.code ({ cls := "java/util/ArrayDeque", name := "sub", desc := "(III)I" } : Jvm.MethodName) prog_36_method_9_code (3 : Nat) (Option.some Jvm.ClassFile.FieldType.int)) ∈ lw_all := lw_g (lw_at lw_m4 204 rfl) rfl
theorem q1021 : (Jvm.Cond.instanceMethod ({ cls := "java/util/ArrayDeque", name := "removeFirst", desc := "()Ljava/lang/Object;" } : Jvm.MethodName)) ∈ lw_all := lw_g (lw_at lw_m4 206 rfl) rfl
theorem q1022 : (Jvm.Cond.selects "java/util/ArrayDeque" ({ cls := "java/util/ArrayDeque", name := "removeFirst", desc := "()Ljava/lang/Object;" } : Jvm.MethodName) ({ cls := "java/util/ArrayDeque", name := "removeFirst", desc := "()Ljava/lang/Object;" } : Jvm.MethodName)) ∈ lw_all := lw_g (lw_at lw_m4 207 rfl) rfl
theorem q1023 : (Jvm.Cond.code ({ cls := "java/util/ArrayDeque", name := "removeFirst", desc := "()Ljava/lang/Object;" } : Jvm.MethodName) prog_36_method_18_code (2 : Nat) (Option.some (Jvm.ClassFile.FieldType.object "java/lang/Object"))) ∈ lw_all := lw_g (lw_at lw_m4 208 rfl) rfl
theorem q1024 : (Jvm.Cond.methodLink "java/util/ArrayDeque" (93 : Nat) ({ cls := "java/util/ArrayDeque", name := "pollFirst", desc := "()Ljava/lang/Object;" } : Jvm.MethodName)) ∈ lw_all := lw_g (lw_at lw_m4 209 rfl) rfl
theorem q1025 : (Jvm.Cond.instanceMethod ({ cls := "java/util/ArrayDeque", name := "pollFirst", desc := "()Ljava/lang/Object;" } : Jvm.MethodName)) ∈ lw_all := lw_g (lw_at lw_m4 210 rfl) rfl
theorem q1026 : (Jvm.Cond.selects "java/util/ArrayDeque" ({ cls := "java/util/ArrayDeque", name := "pollFirst", desc := "()Ljava/lang/Object;" } : Jvm.MethodName) ({ cls := "java/util/ArrayDeque", name := "pollFirst", desc := "()Ljava/lang/Object;" } : Jvm.MethodName)) ∈ lw_all := lw_g (lw_at lw_m4 211 rfl) rfl
theorem q1027 : (Jvm.Cond.code ({ cls := "java/util/ArrayDeque", name := "pollFirst", desc := "()Ljava/lang/Object;" } : Jvm.MethodName) prog_36_method_20_code (4 : Nat) (Option.some (Jvm.ClassFile.FieldType.object "java/lang/Object"))) ∈ lw_all := lw_g (lw_at lw_m4 212 rfl) rfl
theorem q1028 : (Jvm.Cond.methodLink "java/util/ArrayDeque" (103 : Nat) ({ cls := "java/util/ArrayDeque", name := "elementAt", desc := "([Ljava/lang/Object;I)Ljava/lang/Object;" } : Jvm.MethodName)) ∈ lw_all := lw_g (lw_at lw_m4 213 rfl) rfl
theorem q1029 : (Jvm.Cond.static ({ cls := "java/util/ArrayDeque", name := "elementAt", desc := "([Ljava/lang/Object;I)Ljava/lang/Object;" } : Jvm.MethodName)) ∈ lw_all := lw_g (lw_at lw_m4 214 rfl) rfl
theorem q1030 : (Jvm.Cond.code ({ cls := "java/util/ArrayDeque", name := "elementAt", desc := "([Ljava/lang/Object;I)Ljava/lang/Object;" } : Jvm.MethodName) prog_36_method_10_code (2 : Nat) (Option.some (Jvm.ClassFile.FieldType.object "java/lang/Object"))) ∈ lw_all := lw_g (lw_at lw_m4 215 rfl) rfl
theorem q1031 : (Jvm.Cond.methodLink "java/util/ArrayDeque" (74 : Nat) ({ cls := "java/util/ArrayDeque", name := "inc", desc := "(II)I" } : Jvm.MethodName)) ∈ lw_all := lw_g (lw_at lw_m4 216 rfl) rfl
theorem q1032 : (Jvm.Cond.static ({ cls := "java/util/ArrayDeque", name := "inc", desc := "(II)I" } : Jvm.MethodName)) ∈ lw_all := lw_g (lw_at lw_m4 217 rfl) rfl
theorem q1033 : (Jvm.Cond.code ({ cls := "java/util/ArrayDeque", name := "inc", desc := "(II)I" } : Jvm.MethodName) prog_36_method_6_code (2 : Nat) (Option.some Jvm.ClassFile.FieldType.int)) ∈ lw_all := lw_g (lw_at lw_m4 218 rfl) rfl
theorem q1034 : (Jvm.Cond.classLink "java/util/ArrayDeque" (97 : Nat) "java/util/NoSuchElementException") ∈ lw_all := lw_g (lw_at lw_m4 219 rfl) rfl
theorem q1043 : (Jvm.Cond.methodLink "java/util/ArrayDeque" (99 : Nat) ({ cls := "java/util/NoSuchElementException", name := "<init>", desc := "()V" } : Jvm.MethodName)) ∈ lw_all := lw_g (lw_at lw_m4 228 rfl) rfl
theorem q1053 : (Jvm.Cond.instanceMethod ({ cls := "java/util/ArrayDeque", name := "addLast", desc := "(Ljava/lang/Object;)V" } : Jvm.MethodName)) ∈ lw_all := lw_g (lw_at lw_m4 238 rfl) rfl
theorem q1054 : (Jvm.Cond.selects "java/util/ArrayDeque" ({ cls := "java/util/ArrayDeque", name := "addLast", desc := "(Ljava/lang/Object;)V" } : Jvm.MethodName) ({ cls := "java/util/ArrayDeque", name := "addLast", desc := "(Ljava/lang/Object;)V" } : Jvm.MethodName)) ∈ lw_all := lw_g (lw_at lw_m4 239 rfl) rfl
theorem q1055 : (Jvm.Cond.code ({ cls := "java/util/ArrayDeque", name := "addLast", desc := "(Ljava/lang/Object;)V" } : Jvm.MethodName) prog_36_method_13_code (3 : Nat) (Option.none : Option Jvm.ClassFile.FieldType)) ∈ lw_all := lw_g (lw_at lw_m5 0 rfl) rfl
theorem q1056 : (Jvm.Cond.methodLink "java/util/ArrayDeque" (71 : Nat) ({ cls := "java/util/ArrayDeque", name := "grow", desc := "(I)V" } : Jvm.MethodName)) ∈ lw_all := lw_g (lw_at lw_m5 1 rfl) rfl
theorem q1057 : (Jvm.Cond.privateMethod ({ cls := "java/util/ArrayDeque", name := "grow", desc := "(I)V" } : Jvm.MethodName)) ∈ lw_tbl := lw_at lw_m5 2 rfl
theorem q1058 : (Jvm.Cond.instanceMethod ({ cls := "java/util/ArrayDeque", name := "grow", desc := "(I)V" } : Jvm.MethodName)) ∈ lw_all := lw_g (lw_at lw_m5 3 rfl) rfl
theorem q1059 : (Jvm.Cond.code ({ cls := "java/util/ArrayDeque", name := "grow", desc := "(I)V" } : Jvm.MethodName) prog_36_method_1_code (9 : Nat) (Option.none : Option Jvm.ClassFile.FieldType)) ∈ lw_all := lw_g (lw_at lw_m5 4 rfl) rfl
theorem q1060 : (Jvm.Cond.constant "java/util/ArrayDeque" (9 : Nat) (2147483639 : Int32)) ∈ lw_all := lw_g (lw_at lw_m5 5 rfl) rfl
theorem q1061 : (Jvm.Cond.methodLink "java/util/ArrayDeque" (10 : Nat) ({ cls := "java/util/ArrayDeque", name := "newCapacity", desc := "(II)I" } : Jvm.MethodName)) ∈ lw_all := lw_g (lw_at lw_m5 6 rfl) rfl
theorem q1062 : (Jvm.Cond.privateMethod ({ cls := "java/util/ArrayDeque", name := "newCapacity", desc := "(II)I" } : Jvm.MethodName)) ∈ lw_tbl := lw_at lw_m5 7 rfl
theorem q1063 : (Jvm.Cond.instanceMethod ({ cls := "java/util/ArrayDeque", name := "newCapacity", desc := "(II)I" } : Jvm.MethodName)) ∈ lw_all := lw_g (lw_at lw_m5 8 rfl) rfl
theorem q1064 : (Jvm.Cond.code ({ cls := "java/util/ArrayDeque", name := "newCapacity", desc := "(II)I" } : Jvm.MethodName) prog_36_method_2_code (5 : Nat) (Option.some Jvm.ClassFile.FieldType.int)) ∈ lw_all := lw_g (lw_at lw_m5 9 rfl) rfl
theorem q1065 : (Jvm.Cond.classLink "java/util/ArrayDeque" (33 : Nat) "java/lang/IllegalStateException") ∈ lw_all := lw_g (lw_at lw_m5 10 rfl) rfl
theorem q1074 : (Jvm.Cond.stringRef "java/util/ArrayDeque" (35 : Nat) "Sorry, deque too big") ∈ lw_tbl := lw_at lw_m5 19 rfl
theorem q1075 : (Jvm.Cond.methodLink "java/util/ArrayDeque" (37 : Nat) ({ cls := "java/lang/IllegalStateException", name := "<init>", desc := "(Ljava/lang/String;)V" } : Jvm.MethodName)) ∈ lw_all := lw_g (lw_at lw_m5 20 rfl) rfl
theorem q1081 : (Jvm.Cond.constant "java/util/ArrayDeque" (41 : Nat) (2147483647 : Int32)) ∈ lw_all := lw_g (lw_at lw_m5 26 rfl) rfl
theorem q1082 : (Jvm.Cond.methodLink "java/util/ArrayDeque" (14 : Nat) ({ cls := "java/util/Arrays", name := "copyOf", desc := "([Ljava/lang/Object;I)[Ljava/lang/Object;" } : Jvm.MethodName)) ∈ lw_all := lw_g (lw_at lw_m5 27 rfl) rfl
theorem q1083 : (Jvm.Cond.methodLink "java/util/ArrayDeque" (27 : Nat) ({ cls := "java/lang/System", name := "arraycopy", desc := "(Ljava/lang/Object;ILjava/lang/Object;II)V" } : Jvm.MethodName)) ∈ lw_all := lw_g (lw_at lw_m5 28 rfl) rfl
theorem q1138 : (Jvm.Cond.instanceMethod ({ cls := "java/util/ArrayDeque", name := "clear", desc := "()V" } : Jvm.MethodName)) ∈ lw_all := lw_g (lw_at lw_m5 83 rfl) rfl
theorem q1139 : (Jvm.Cond.selects "java/util/ArrayDeque" ({ cls := "java/util/ArrayDeque", name := "clear", desc := "()V" } : Jvm.MethodName) ({ cls := "java/util/ArrayDeque", name := "clear", desc := "()V" } : Jvm.MethodName)) ∈ lw_all := lw_g (lw_at lw_m5 84 rfl) rfl
theorem q1140 : (Jvm.Cond.code ({ cls := "java/util/ArrayDeque", name := "clear", desc := "()V" } : Jvm.MethodName) prog_36_method_53_code (1 : Nat) (Option.none : Option Jvm.ClassFile.FieldType)) ∈ lw_all := lw_g (lw_at lw_m5 85 rfl) rfl
theorem q1141 : (Jvm.Cond.methodLink "java/util/ArrayDeque" (181 : Nat) ({ cls := "java/util/ArrayDeque", name := "circularClear", desc := "([Ljava/lang/Object;II)V" } : Jvm.MethodName)) ∈ lw_all := lw_g (lw_at lw_m5 86 rfl) rfl
theorem q1142 : (Jvm.Cond.static ({ cls := "java/util/ArrayDeque", name := "circularClear", desc := "([Ljava/lang/Object;II)V" } : Jvm.MethodName)) ∈ lw_all := lw_g (lw_at lw_m5 87 rfl) rfl
theorem q1143 : (Jvm.Cond.code ({ cls := "java/util/ArrayDeque", name := "circularClear", desc := "([Ljava/lang/Object;II)V" } : Jvm.MethodName) prog_36_method_54_code (4 : Nat) (Option.none : Option Jvm.ClassFile.FieldType)) ∈ lw_all := lw_g (lw_at lw_m5 88 rfl) rfl
theorem q1549 : (Jvm.Cond.instanceMethod ({ cls := "java/util/ArrayDeque", name := "isEmpty", desc := "()Z" } : Jvm.MethodName)) ∈ lw_all := lw_g (lw_at lw_m7 14 rfl) rfl
theorem q1550 : (Jvm.Cond.selects "java/util/ArrayDeque" ({ cls := "java/util/ArrayDeque", name := "isEmpty", desc := "()Z" } : Jvm.MethodName) ({ cls := "java/util/ArrayDeque", name := "isEmpty", desc := "()Z" } : Jvm.MethodName)) ∈ lw_all := lw_g (lw_at lw_m7 15 rfl) rfl
theorem q1551 : (Jvm.Cond.code ({ cls := "java/util/ArrayDeque", name := "isEmpty", desc := "()Z" } : Jvm.MethodName) prog_36_method_38_code (1 : Nat) (Option.some Jvm.ClassFile.FieldType.boolean)) ∈ lw_all := lw_g (lw_at lw_m7 16 rfl) rfl
theorem q1553 : (Jvm.Cond.instanceMethod ({ cls := "java/util/ArrayDeque", name := "removeLast", desc := "()Ljava/lang/Object;" } : Jvm.MethodName)) ∈ lw_all := lw_g (lw_at lw_m7 18 rfl) rfl
theorem q1554 : (Jvm.Cond.selects "java/util/ArrayDeque" ({ cls := "java/util/ArrayDeque", name := "removeLast", desc := "()Ljava/lang/Object;" } : Jvm.MethodName) ({ cls := "java/util/ArrayDeque", name := "removeLast", desc := "()Ljava/lang/Object;" } : Jvm.MethodName)) ∈ lw_all := lw_g (lw_at lw_m7 19 rfl) rfl
theorem q1555 : (Jvm.Cond.code ({ cls := "java/util/ArrayDeque", name := "removeLast", desc := "()Ljava/lang/Object;" } : Jvm.MethodName) prog_36_method_19_code (2 : Nat) (Option.some (Jvm.ClassFile.FieldType.object "java/lang/Object"))) ∈ lw_all := lw_g (lw_at lw_m7 20 rfl) rfl
theorem q1556 : (Jvm.Cond.methodLink "java/util/ArrayDeque" (100 : Nat) ({ cls := "java/util/ArrayDeque", name := "pollLast", desc := "()Ljava/lang/Object;" } : Jvm.MethodName)) ∈ lw_all := lw_g (lw_at lw_m7 21 rfl) rfl
theorem q1557 : (Jvm.Cond.instanceMethod ({ cls := "java/util/ArrayDeque", name := "pollLast", desc := "()Ljava/lang/Object;" } : Jvm.MethodName)) ∈ lw_all := lw_g (lw_at lw_m7 22 rfl) rfl
theorem q1558 : (Jvm.Cond.selects "java/util/ArrayDeque" ({ cls := "java/util/ArrayDeque", name := "pollLast", desc := "()Ljava/lang/Object;" } : Jvm.MethodName) ({ cls := "java/util/ArrayDeque", name := "pollLast", desc := "()Ljava/lang/Object;" } : Jvm.MethodName)) ∈ lw_all := lw_g (lw_at lw_m7 23 rfl) rfl
theorem q1559 : (Jvm.Cond.code ({ cls := "java/util/ArrayDeque", name := "pollLast", desc := "()Ljava/lang/Object;" } : Jvm.MethodName) prog_36_method_21_code (4 : Nat) (Option.some (Jvm.ClassFile.FieldType.object "java/lang/Object"))) ∈ lw_all := lw_g (lw_at lw_m7 24 rfl) rfl
theorem q1560 : (Jvm.Cond.methodLink "java/util/ArrayDeque" (68 : Nat) ({ cls := "java/util/ArrayDeque", name := "dec", desc := "(II)I" } : Jvm.MethodName)) ∈ lw_all := lw_g (lw_at lw_m7 25 rfl) rfl
theorem q1561 : (Jvm.Cond.static ({ cls := "java/util/ArrayDeque", name := "dec", desc := "(II)I" } : Jvm.MethodName)) ∈ lw_all := lw_g (lw_at lw_m7 26 rfl) rfl
theorem q1562 : (Jvm.Cond.code ({ cls := "java/util/ArrayDeque", name := "dec", desc := "(II)I" } : Jvm.MethodName) prog_36_method_7_code (2 : Nat) (Option.some Jvm.ClassFile.FieldType.int)) ∈ lw_all := lw_g (lw_at lw_m7 27 rfl) rfl
theorem q2171 : (Jvm.Cond.castable "java/util/ArrayDeque" "java/lang/Object") ∈ lw_tbl := lw_at lw_m9 156 rfl
theorem in_J17 : ∀ w ∈ wsJ170, w ∈ lw_all := lw_in wsJ170 [523, 525, 527] (by decide +kernel) (by decide +kernel)
/-! java/util/AbstractCollection -/
set_option maxRecDepth 100000
def RJ0 : String := "java/util/AbstractCollection"
abbrev cJ0_init : ByteArray := prog_34_method_1_code
def yJ0_init : MethodName := ⟨RJ0, "<init>", "()V"⟩
theorem dJ0_init_0 : decode cJ0_init 0 = .ok (.aload_n 0, 1) := by decide +kernel
theorem dJ0_init_1 : decode cJ0_init 1 = .ok (.invokespecial 1, 3) := by decide +kernel
theorem dJ0_init_4 : decode cJ0_init 4 = .ok (.return_, 1) := by decide +kernel
theorem q98 : (Jvm.Cond.initialized "java/util/AbstractCollection") ∈ lw_all := lw_g (lw_at lw_m1 3 rfl) rfl
theorem q157 : (Jvm.Cond.instanceMethod ({ cls := "java/util/AbstractCollection", name := "<init>", desc := "()V" } : Jvm.MethodName)) ∈ lw_all := lw_g (lw_at lw_m1 62 rfl) rfl
theorem q158 : (Jvm.Cond.code ({ cls := "java/util/AbstractCollection", name := "<init>", desc := "()V" } : Jvm.MethodName) prog_34_method_1_code (1 : Nat) (Option.none : Option Jvm.ClassFile.FieldType)) ∈ lw_all := lw_g (lw_at lw_m1 63 rfl) rfl
theorem q159 : (Jvm.Cond.methodLink "java/util/AbstractCollection" (1 : Nat) ({ cls := "java/lang/Object", name := "<init>", desc := "()V" } : Jvm.MethodName)) ∈ lw_all := lw_g (lw_at lw_m1 64 rfl) rfl
/-! java/util/AbstractList -/
set_option maxRecDepth 100000
def RJ1 : String := "java/util/AbstractList"
abbrev cJ1_init : ByteArray := prog_35_method_1_code
def yJ1_init : MethodName := ⟨RJ1, "<init>", "()V"⟩
def dkwJ1_init_0 : List UInt8 := [42, 183, 0, 1, 42, 3, 181, 0, 7, 177]
abbrev dktJ1_init_0 : List UInt8 := dkwJ1_init_0 ++ []
theorem dksJ1_init_0 : cJ1_init.data.toList.drop 0 = dktJ1_init_0 := by decide +kernel
theorem dJ1_init_0 : decode cJ1_init 0 = .ok (.aload_n 0, 1) := dk_42 (dk_at dksJ1_init_0 0 rfl rfl)
theorem dJ1_init_1 : decode cJ1_init 1 = .ok (.invokespecial 1, 3) := dk_183 0 1 (dk_at dksJ1_init_0 1 rfl rfl)
theorem dJ1_init_4 : decode cJ1_init 4 = .ok (.aload_n 0, 1) := dk_42 (dk_at dksJ1_init_0 4 rfl rfl)
theorem dJ1_init_5 : decode cJ1_init 5 = .ok (.iconst 0, 1) := dk_3 (dk_at dksJ1_init_0 5 rfl rfl)
theorem dJ1_init_6 : decode cJ1_init 6 = .ok (.putfield 7, 3) := dk_181 0 7 (dk_at dksJ1_init_0 6 rfl rfl)
theorem dJ1_init_9 : decode cJ1_init 9 = .ok (.return_, 1) := dk_177 (dk_at dksJ1_init_0 9 rfl rfl)
theorem q99 : (Jvm.Cond.initialized "java/util/AbstractList") ∈ lw_all := lw_g (lw_at lw_m1 4 rfl) rfl
theorem q154 : (Jvm.Cond.instanceMethod ({ cls := "java/util/AbstractList", name := "<init>", desc := "()V" } : Jvm.MethodName)) ∈ lw_all := lw_g (lw_at lw_m1 59 rfl) rfl
theorem q155 : (Jvm.Cond.code ({ cls := "java/util/AbstractList", name := "<init>", desc := "()V" } : Jvm.MethodName) prog_35_method_1_code (1 : Nat) (Option.none : Option Jvm.ClassFile.FieldType)) ∈ lw_all := lw_g (lw_at lw_m1 60 rfl) rfl
theorem q156 : (Jvm.Cond.methodLink "java/util/AbstractList" (1 : Nat) ({ cls := "java/util/AbstractCollection", name := "<init>", desc := "()V" } : Jvm.MethodName)) ∈ lw_all := lw_g (lw_at lw_m1 61 rfl) rfl
theorem q481 : (Jvm.Cond.fieldLink "java/util/AbstractList" (7 : Nat) "java/util/AbstractList" "modCount" "I") ∈ lw_all := lw_g (lw_at lw_m2 146 rfl) rfl
theorem q489 : (Jvm.Cond.soleField "java/util/AbstractList" "modCount") ∈ lw_all := lw_g (lw_at lw_m2 154 rfl) rfl
/-! java/lang/Object -/
set_option maxRecDepth 100000
def RJ23 : String := "java/lang/Object"
abbrev cJ23_init : ByteArray := object_method_1_code
def yJ23_init : MethodName := ⟨RJ23, "<init>", "()V"⟩
theorem dJ23_init_0 : decode cJ23_init 0 = .ok (.return_, 1) := by decide +kernel
theorem q140 : (Jvm.Cond.instanceMethod ({ cls := "java/lang/Object", name := "<init>", desc := "()V" } : Jvm.MethodName)) ∈ lw_all := lw_g (lw_at lw_m1 45 rfl) rfl
theorem q141 : (Jvm.Cond.code ({ cls := "java/lang/Object", name := "<init>", desc := "()V" } : Jvm.MethodName) object_method_1_code (1 : Nat) (Option.none : Option Jvm.ClassFile.FieldType)) ∈ lw_all := lw_g (lw_at lw_m1 46 rfl) rfl
theorem q276 : (Jvm.Cond.native ({ cls := "java/lang/Object", name := "clone", desc := "()Ljava/lang/Object;" } : Jvm.MethodName)) ∈ lw_all := lw_g (lw_at lw_m1 181 rfl) rfl
theorem q277 : (Jvm.Cond.instanceMethod ({ cls := "java/lang/Object", name := "clone", desc := "()Ljava/lang/Object;" } : Jvm.MethodName)) ∈ lw_all := lw_g (lw_at lw_m1 182 rfl) rfl
theorem q728 : (Jvm.Cond.instanceMethod ({ cls := "java/lang/Object", name := "getClass", desc := "()Ljava/lang/Class;" } : Jvm.MethodName)) ∈ lw_all := lw_g (lw_at lw_m3 153 rfl) rfl
theorem q729 : (Jvm.Cond.sameMethod "java/lang/Object" "java/lang/Object" "getClass" "()Ljava/lang/Class;") ∈ lw_all := lw_g (lw_at lw_m3 154 rfl) rfl
theorem q747 : (Jvm.Cond.native ({ cls := "java/lang/Object", name := "getClass", desc := "()Ljava/lang/Class;" } : Jvm.MethodName)) ∈ lw_all := lw_g (lw_at lw_m3 172 rfl) rfl
theorem q2163 : (Jvm.Cond.initialized "java/lang/Object") ∈ lw_all := lw_g (lw_at lw_m9 148 rfl) rfl
theorem q2185 : (Jvm.Cond.declares ({ cls := "java/lang/Object", name := "getClass", desc := "()Ljava/lang/Class;" } : Jvm.MethodName)) ∈ lw_tbl := lw_at lw_m9 170 rfl
/-! java/lang/String -/
set_option maxRecDepth 100000
def RJ9 : String := "java/lang/String"
def TJ9 : u_T := fun k => match k with
  | 0 => ("java/lang/String", "value", "[B", true)
  | 1 => ("java/lang/String", "coder", "B", true)
  | 2 => ("java/lang/String", "hash", "I", false)
  | _ => ("java/lang/String", "hashIsZero", "Z", false)
def tyJ9 : Nat → FieldType := fun k => match k with
  | 0 => .array .byte
  | 1 => .byte
  | 2 => .int
  | _ => .boolean
abbrev wsJ90 : List Cond := u_ws RJ9 TJ9 4
theorem nmJ9 : ∀ a, a < 4 → ∀ b, b < 4 → a ≠ b → (TJ9 a).2.1 ≠ (TJ9 b).2.1 := by decide +kernel
theorem tyJ9_ok : ∀ k, k < 4 → parseFieldDescriptor (TJ9 k).2.2.1 = some (tyJ9 k) := by decide +kernel
abbrev cJ9_checkBoundsBeginEnd : ByteArray := prog_26_method_158_code
def yJ9_checkBoundsBeginEnd : MethodName := ⟨RJ9, "checkBoundsBeginEnd", "(III)V"⟩
def dkwJ9_checkBoundsBeginEnd_0 : List UInt8 := [26, 27, 28, 178, 4, 29, 184, 4, 38, 87, 177]
abbrev dktJ9_checkBoundsBeginEnd_0 : List UInt8 := dkwJ9_checkBoundsBeginEnd_0 ++ []
theorem dksJ9_checkBoundsBeginEnd_0 : cJ9_checkBoundsBeginEnd.data.toList.drop 0 = dktJ9_checkBoundsBeginEnd_0 := by decide +kernel
theorem dJ9_checkBoundsBeginEnd_0 : decode cJ9_checkBoundsBeginEnd 0 = .ok (.iload_n 0, 1) := dk_26 (dk_at dksJ9_checkBoundsBeginEnd_0 0 rfl rfl)
theorem dJ9_checkBoundsBeginEnd_1 : decode cJ9_checkBoundsBeginEnd 1 = .ok (.iload_n 1, 1) := dk_27 (dk_at dksJ9_checkBoundsBeginEnd_0 1 rfl rfl)
theorem dJ9_checkBoundsBeginEnd_2 : decode cJ9_checkBoundsBeginEnd 2 = .ok (.iload_n 2, 1) := dk_28 (dk_at dksJ9_checkBoundsBeginEnd_0 2 rfl rfl)
theorem dJ9_checkBoundsBeginEnd_3 : decode cJ9_checkBoundsBeginEnd 3 = .ok (.getstatic 1053, 3) := dk_178 4 29 (dk_at dksJ9_checkBoundsBeginEnd_0 3 rfl rfl)
theorem dJ9_checkBoundsBeginEnd_6 : decode cJ9_checkBoundsBeginEnd 6 = .ok (.invokestatic 1062, 3) := dk_184 4 38 (dk_at dksJ9_checkBoundsBeginEnd_0 6 rfl rfl)
theorem dJ9_checkBoundsBeginEnd_9 : decode cJ9_checkBoundsBeginEnd 9 = .ok (.pop, 1) := dk_87 (dk_at dksJ9_checkBoundsBeginEnd_0 9 rfl rfl)
theorem dJ9_checkBoundsBeginEnd_10 : decode cJ9_checkBoundsBeginEnd 10 = .ok (.return_, 1) := dk_177 (dk_at dksJ9_checkBoundsBeginEnd_0 10 rfl rfl)
abbrev cJ9_length : ByteArray := prog_26_method_54_code
def yJ9_length : MethodName := ⟨RJ9, "length", "()I"⟩
def dkwJ9_length_0 : List UInt8 := [42, 180, 0, 9, 190, 42, 182, 1, 79, 122, 172]
abbrev dktJ9_length_0 : List UInt8 := dkwJ9_length_0 ++ []
theorem dksJ9_length_0 : cJ9_length.data.toList.drop 0 = dktJ9_length_0 := by decide +kernel
theorem dJ9_length_0 : decode cJ9_length 0 = .ok (.aload_n 0, 1) := dk_42 (dk_at dksJ9_length_0 0 rfl rfl)
theorem dJ9_length_1 : decode cJ9_length 1 = .ok (.getfield 9, 3) := dk_180 0 9 (dk_at dksJ9_length_0 1 rfl rfl)
theorem dJ9_length_4 : decode cJ9_length 4 = .ok (.arraylength, 1) := dk_190 (dk_at dksJ9_length_0 4 rfl rfl)
theorem dJ9_length_5 : decode cJ9_length 5 = .ok (.aload_n 0, 1) := dk_42 (dk_at dksJ9_length_0 5 rfl rfl)
theorem dJ9_length_6 : decode cJ9_length 6 = .ok (.invokevirtual 335, 3) := dk_182 1 79 (dk_at dksJ9_length_0 6 rfl rfl)
theorem dJ9_length_9 : decode cJ9_length 9 = .ok (.ishr, 1) := dk_122 (dk_at dksJ9_length_0 9 rfl rfl)
theorem dJ9_length_10 : decode cJ9_length 10 = .ok (.ireturn, 1) := dk_172 (dk_at dksJ9_length_0 10 rfl rfl)
abbrev cJ9_coder : ByteArray := prog_26_method_152_code
def yJ9_coder : MethodName := ⟨RJ9, "coder", "()B"⟩
def dkwJ9_coder_0 : List UInt8 := [178, 0, 38, 153, 0, 10, 42, 180, 0, 15, 167, 0, 4, 4, 172]
abbrev dktJ9_coder_0 : List UInt8 := dkwJ9_coder_0 ++ []
theorem dksJ9_coder_0 : cJ9_coder.data.toList.drop 0 = dktJ9_coder_0 := by decide +kernel
theorem dJ9_coder_0 : decode cJ9_coder 0 = .ok (.getstatic 38, 3) := dk_178 0 38 (dk_at dksJ9_coder_0 0 rfl rfl)
theorem dJ9_coder_3 : decode cJ9_coder 3 = .ok (.ifCond .eq 10, 3) := dk_153 0 10 (dk_at dksJ9_coder_0 3 rfl rfl)
theorem dJ9_coder_6 : decode cJ9_coder 6 = .ok (.aload_n 0, 1) := dk_42 (dk_at dksJ9_coder_0 6 rfl rfl)
theorem dJ9_coder_7 : decode cJ9_coder 7 = .ok (.getfield 15, 3) := dk_180 0 15 (dk_at dksJ9_coder_0 7 rfl rfl)
theorem dJ9_coder_10 : decode cJ9_coder 10 = .ok (.goto 4, 3) := dk_167 0 4 (dk_at dksJ9_coder_0 10 rfl rfl)
theorem dJ9_coder_13 : decode cJ9_coder 13 = .ok (.iconst 1, 1) := dk_4 (dk_at dksJ9_coder_0 13 rfl rfl)
theorem dJ9_coder_14 : decode cJ9_coder 14 = .ok (.ireturn, 1) := dk_172 (dk_at dksJ9_coder_0 14 rfl rfl)
abbrev cJ9_checkBoundsOffCount : ByteArray := prog_26_method_157_code
def yJ9_checkBoundsOffCount : MethodName := ⟨RJ9, "checkBoundsOffCount", "(III)I"⟩
def dkwJ9_checkBoundsOffCount_0 : List UInt8 := [26, 27, 28, 178, 4, 29, 184, 4, 41, 172]
abbrev dktJ9_checkBoundsOffCount_0 : List UInt8 := dkwJ9_checkBoundsOffCount_0 ++ []
theorem dksJ9_checkBoundsOffCount_0 : cJ9_checkBoundsOffCount.data.toList.drop 0 = dktJ9_checkBoundsOffCount_0 := by decide +kernel
theorem dJ9_checkBoundsOffCount_0 : decode cJ9_checkBoundsOffCount 0 = .ok (.iload_n 0, 1) := dk_26 (dk_at dksJ9_checkBoundsOffCount_0 0 rfl rfl)
theorem dJ9_checkBoundsOffCount_1 : decode cJ9_checkBoundsOffCount 1 = .ok (.iload_n 1, 1) := dk_27 (dk_at dksJ9_checkBoundsOffCount_0 1 rfl rfl)
theorem dJ9_checkBoundsOffCount_2 : decode cJ9_checkBoundsOffCount 2 = .ok (.iload_n 2, 1) := dk_28 (dk_at dksJ9_checkBoundsOffCount_0 2 rfl rfl)
theorem dJ9_checkBoundsOffCount_3 : decode cJ9_checkBoundsOffCount 3 = .ok (.getstatic 1053, 3) := dk_178 4 29 (dk_at dksJ9_checkBoundsOffCount_0 3 rfl rfl)
theorem dJ9_checkBoundsOffCount_6 : decode cJ9_checkBoundsOffCount 6 = .ok (.invokestatic 1065, 3) := dk_184 4 41 (dk_at dksJ9_checkBoundsOffCount_0 6 rfl rfl)
theorem dJ9_checkBoundsOffCount_9 : decode cJ9_checkBoundsOffCount 9 = .ok (.ireturn, 1) := dk_172 (dk_at dksJ9_checkBoundsOffCount_0 9 rfl rfl)
abbrev cJ9_getBytes : ByteArray := prog_26_method_147_code
def yJ9_getBytes : MethodName := ⟨RJ9, "getBytes", "([BIB)V"⟩
def dkwJ9_getBytes_1 : List UInt8 := [184, 0, 212, 167, 0, 18, 42, 180, 0, 9, 3, 43, 28, 42, 180, 0, 9, 190, 184, 0, 106, 177]
abbrev dktJ9_getBytes_1 : List UInt8 := dkwJ9_getBytes_1 ++ []
def dkwJ9_getBytes_0 : List UInt8 := [42, 182, 1, 79, 29, 160, 0, 23, 42, 180, 0, 9, 3, 43, 28, 29, 120, 42, 180, 0, 9, 190]
abbrev dktJ9_getBytes_0 : List UInt8 := dkwJ9_getBytes_0 ++ dktJ9_getBytes_1
theorem dksJ9_getBytes_0 : cJ9_getBytes.data.toList.drop 0 = dktJ9_getBytes_0 := by decide +kernel
theorem dksJ9_getBytes_1 : cJ9_getBytes.data.toList.drop 22 = dktJ9_getBytes_1 := dk_seg dksJ9_getBytes_0 22 rfl rfl
theorem dJ9_getBytes_0 : decode cJ9_getBytes 0 = .ok (.aload_n 0, 1) := dk_42 (dk_at dksJ9_getBytes_0 0 rfl rfl)
theorem dJ9_getBytes_1 : decode cJ9_getBytes 1 = .ok (.invokevirtual 335, 3) := dk_182 1 79 (dk_at dksJ9_getBytes_0 1 rfl rfl)
theorem dJ9_getBytes_4 : decode cJ9_getBytes 4 = .ok (.iload_n 3, 1) := dk_29 (dk_at dksJ9_getBytes_0 4 rfl rfl)
theorem dJ9_getBytes_5 : decode cJ9_getBytes 5 = .ok (.if_icmp .ne 23, 3) := dk_160 0 23 (dk_at dksJ9_getBytes_0 5 rfl rfl)
theorem dJ9_getBytes_8 : decode cJ9_getBytes 8 = .ok (.aload_n 0, 1) := dk_42 (dk_at dksJ9_getBytes_0 8 rfl rfl)
theorem dJ9_getBytes_9 : decode cJ9_getBytes 9 = .ok (.getfield 9, 3) := dk_180 0 9 (dk_at dksJ9_getBytes_0 9 rfl rfl)
theorem dJ9_getBytes_12 : decode cJ9_getBytes 12 = .ok (.iconst 0, 1) := dk_3 (dk_at dksJ9_getBytes_0 12 rfl rfl)
theorem dJ9_getBytes_13 : decode cJ9_getBytes 13 = .ok (.aload_n 1, 1) := dk_43 (dk_at dksJ9_getBytes_0 13 rfl rfl)
theorem dJ9_getBytes_14 : decode cJ9_getBytes 14 = .ok (.iload_n 2, 1) := dk_28 (dk_at dksJ9_getBytes_0 14 rfl rfl)
theorem dJ9_getBytes_15 : decode cJ9_getBytes 15 = .ok (.iload_n 3, 1) := dk_29 (dk_at dksJ9_getBytes_0 15 rfl rfl)
theorem dJ9_getBytes_16 : decode cJ9_getBytes 16 = .ok (.ishl, 1) := dk_120 (dk_at dksJ9_getBytes_0 16 rfl rfl)
theorem dJ9_getBytes_17 : decode cJ9_getBytes 17 = .ok (.aload_n 0, 1) := dk_42 (dk_at dksJ9_getBytes_0 17 rfl rfl)
theorem dJ9_getBytes_18 : decode cJ9_getBytes 18 = .ok (.getfield 9, 3) := dk_180 0 9 (dk_at dksJ9_getBytes_0 18 rfl rfl)
theorem dJ9_getBytes_21 : decode cJ9_getBytes 21 = .ok (.arraylength, 1) := dk_190 (dk_at dksJ9_getBytes_0 21 rfl rfl)
theorem dJ9_getBytes_22 : decode cJ9_getBytes 22 = .ok (.invokestatic 212, 3) := dk_184 0 212 (dk_at dksJ9_getBytes_1 0 rfl rfl)
theorem dJ9_getBytes_25 : decode cJ9_getBytes 25 = .ok (.goto 18, 3) := dk_167 0 18 (dk_at dksJ9_getBytes_1 3 rfl rfl)
theorem dJ9_getBytes_28 : decode cJ9_getBytes 28 = .ok (.aload_n 0, 1) := dk_42 (dk_at dksJ9_getBytes_1 6 rfl rfl)
theorem dJ9_getBytes_29 : decode cJ9_getBytes 29 = .ok (.getfield 9, 3) := dk_180 0 9 (dk_at dksJ9_getBytes_1 7 rfl rfl)
theorem dJ9_getBytes_32 : decode cJ9_getBytes 32 = .ok (.iconst 0, 1) := dk_3 (dk_at dksJ9_getBytes_1 10 rfl rfl)
theorem dJ9_getBytes_33 : decode cJ9_getBytes 33 = .ok (.aload_n 1, 1) := dk_43 (dk_at dksJ9_getBytes_1 11 rfl rfl)
theorem dJ9_getBytes_34 : decode cJ9_getBytes 34 = .ok (.iload_n 2, 1) := dk_28 (dk_at dksJ9_getBytes_1 12 rfl rfl)
theorem dJ9_getBytes_35 : decode cJ9_getBytes 35 = .ok (.aload_n 0, 1) := dk_42 (dk_at dksJ9_getBytes_1 13 rfl rfl)
theorem dJ9_getBytes_36 : decode cJ9_getBytes 36 = .ok (.getfield 9, 3) := dk_180 0 9 (dk_at dksJ9_getBytes_1 14 rfl rfl)
theorem dJ9_getBytes_39 : decode cJ9_getBytes 39 = .ok (.arraylength, 1) := dk_190 (dk_at dksJ9_getBytes_1 17 rfl rfl)
theorem dJ9_getBytes_40 : decode cJ9_getBytes 40 = .ok (.invokestatic 106, 3) := dk_184 0 106 (dk_at dksJ9_getBytes_1 18 rfl rfl)
theorem dJ9_getBytes_43 : decode cJ9_getBytes 43 = .ok (.return_, 1) := dk_177 (dk_at dksJ9_getBytes_1 21 rfl rfl)
abbrev cJ9_init : ByteArray := prog_26_method_53_code
def yJ9_init : MethodName := ⟨RJ9, "<init>", "(Ljava/lang/StringBuilder;)V"⟩
def dkwJ9_init_0 : List UInt8 := [42, 43, 1, 183, 1, 233, 177]
abbrev dktJ9_init_0 : List UInt8 := dkwJ9_init_0 ++ []
theorem dksJ9_init_0 : cJ9_init.data.toList.drop 0 = dktJ9_init_0 := by decide +kernel
theorem dJ9_init_0 : decode cJ9_init 0 = .ok (.aload_n 0, 1) := dk_42 (dk_at dksJ9_init_0 0 rfl rfl)
theorem dJ9_init_1 : decode cJ9_init 1 = .ok (.aload_n 1, 1) := dk_43 (dk_at dksJ9_init_0 1 rfl rfl)
theorem dJ9_init_2 : decode cJ9_init 2 = .ok (.aconst_null, 1) := dk_1 (dk_at dksJ9_init_0 2 rfl rfl)
theorem dJ9_init_3 : decode cJ9_init 3 = .ok (.invokespecial 489, 3) := dk_183 1 233 (dk_at dksJ9_init_0 3 rfl rfl)
theorem dJ9_init_6 : decode cJ9_init 6 = .ok (.return_, 1) := dk_177 (dk_at dksJ9_init_0 6 rfl rfl)
abbrev cJ9_init_2 : ByteArray := prog_26_method_150_code
def yJ9_init_2 : MethodName := ⟨RJ9, "<init>", "(Ljava/lang/AbstractStringBuilder;Ljava/lang/Void;)V"⟩
def dkwJ9_init_2_4 : List UInt8 := [181, 0, 9, 177]
abbrev dktJ9_init_2_4 : List UInt8 := dkwJ9_init_2_4 ++ []
def dkwJ9_init_2_3 : List UInt8 := [184, 0, 47, 181, 0, 15, 177, 42, 4, 181, 0, 15, 42, 45, 3, 21, 4, 4, 120, 184, 0, 54]
abbrev dktJ9_init_2_3 : List UInt8 := dkwJ9_init_2_3 ++ dktJ9_init_2_4
def dkwJ9_init_2_2 : List UInt8 := [180, 4, 24, 153, 0, 28, 42, 45, 3, 21, 4, 184, 4, 27, 181, 0, 9, 42, 42, 180, 0, 9, 21, 4]
abbrev dktJ9_init_2_2 : List UInt8 := dkwJ9_init_2_2 ++ dktJ9_init_2_3
def dkwJ9_init_2_1 : List UInt8 := [181, 0, 15, 42, 45, 3, 21, 4, 184, 0, 54, 181, 0, 9, 167, 0, 59, 178, 0, 38, 153, 0, 35, 43]
abbrev dktJ9_init_2_1 : List UInt8 := dkwJ9_init_2_1 ++ dktJ9_init_2_2
def dkwJ9_init_2_0 : List UInt8 := [42, 183, 0, 1, 43, 182, 2, 40, 78, 43, 182, 2, 37, 54, 4, 43, 182, 4, 23, 153, 0, 22, 42, 3]
abbrev dktJ9_init_2_0 : List UInt8 := dkwJ9_init_2_0 ++ dktJ9_init_2_1
theorem dksJ9_init_2_0 : cJ9_init_2.data.toList.drop 0 = dktJ9_init_2_0 := by decide +kernel
theorem dksJ9_init_2_1 : cJ9_init_2.data.toList.drop 24 = dktJ9_init_2_1 := dk_seg dksJ9_init_2_0 24 rfl rfl
theorem dksJ9_init_2_2 : cJ9_init_2.data.toList.drop 48 = dktJ9_init_2_2 := dk_seg dksJ9_init_2_1 24 rfl rfl
theorem dksJ9_init_2_3 : cJ9_init_2.data.toList.drop 72 = dktJ9_init_2_3 := dk_seg dksJ9_init_2_2 24 rfl rfl
theorem dksJ9_init_2_4 : cJ9_init_2.data.toList.drop 94 = dktJ9_init_2_4 := dk_seg dksJ9_init_2_3 22 rfl rfl
theorem dJ9_init_2_0 : decode cJ9_init_2 0 = .ok (.aload_n 0, 1) := dk_42 (dk_at dksJ9_init_2_0 0 rfl rfl)
theorem dJ9_init_2_1 : decode cJ9_init_2 1 = .ok (.invokespecial 1, 3) := dk_183 0 1 (dk_at dksJ9_init_2_0 1 rfl rfl)
theorem dJ9_init_2_4 : decode cJ9_init_2 4 = .ok (.aload_n 1, 1) := dk_43 (dk_at dksJ9_init_2_0 4 rfl rfl)
theorem dJ9_init_2_5 : decode cJ9_init_2 5 = .ok (.invokevirtual 552, 3) := dk_182 2 40 (dk_at dksJ9_init_2_0 5 rfl rfl)
theorem dJ9_init_2_8 : decode cJ9_init_2 8 = .ok (.astore_n 3, 1) := dk_78 (dk_at dksJ9_init_2_0 8 rfl rfl)
theorem dJ9_init_2_9 : decode cJ9_init_2 9 = .ok (.aload_n 1, 1) := dk_43 (dk_at dksJ9_init_2_0 9 rfl rfl)
theorem dJ9_init_2_10 : decode cJ9_init_2 10 = .ok (.invokevirtual 549, 3) := dk_182 2 37 (dk_at dksJ9_init_2_0 10 rfl rfl)
theorem dJ9_init_2_13 : decode cJ9_init_2 13 = .ok (.istore 4, 2) := dk_54 4 (dk_at dksJ9_init_2_0 13 rfl rfl)
theorem dJ9_init_2_15 : decode cJ9_init_2 15 = .ok (.aload_n 1, 1) := dk_43 (dk_at dksJ9_init_2_0 15 rfl rfl)
theorem dJ9_init_2_16 : decode cJ9_init_2 16 = .ok (.invokevirtual 1047, 3) := dk_182 4 23 (dk_at dksJ9_init_2_0 16 rfl rfl)
theorem dJ9_init_2_19 : decode cJ9_init_2 19 = .ok (.ifCond .eq 22, 3) := dk_153 0 22 (dk_at dksJ9_init_2_0 19 rfl rfl)
theorem dJ9_init_2_22 : decode cJ9_init_2 22 = .ok (.aload_n 0, 1) := dk_42 (dk_at dksJ9_init_2_0 22 rfl rfl)
theorem dJ9_init_2_23 : decode cJ9_init_2 23 = .ok (.iconst 0, 1) := dk_3 (dk_at dksJ9_init_2_0 23 rfl rfl)
theorem dJ9_init_2_24 : decode cJ9_init_2 24 = .ok (.putfield 15, 3) := dk_181 0 15 (dk_at dksJ9_init_2_1 0 rfl rfl)
theorem dJ9_init_2_27 : decode cJ9_init_2 27 = .ok (.aload_n 0, 1) := dk_42 (dk_at dksJ9_init_2_1 3 rfl rfl)
theorem dJ9_init_2_28 : decode cJ9_init_2 28 = .ok (.aload_n 3, 1) := dk_45 (dk_at dksJ9_init_2_1 4 rfl rfl)
theorem dJ9_init_2_29 : decode cJ9_init_2 29 = .ok (.iconst 0, 1) := dk_3 (dk_at dksJ9_init_2_1 5 rfl rfl)
theorem dJ9_init_2_30 : decode cJ9_init_2 30 = .ok (.iload 4, 2) := dk_21 4 (dk_at dksJ9_init_2_1 6 rfl rfl)
theorem dJ9_init_2_32 : decode cJ9_init_2 32 = .ok (.invokestatic 54, 3) := dk_184 0 54 (dk_at dksJ9_init_2_1 8 rfl rfl)
theorem dJ9_init_2_35 : decode cJ9_init_2 35 = .ok (.putfield 9, 3) := dk_181 0 9 (dk_at dksJ9_init_2_1 11 rfl rfl)
theorem dJ9_init_2_38 : decode cJ9_init_2 38 = .ok (.goto 59, 3) := dk_167 0 59 (dk_at dksJ9_init_2_1 14 rfl rfl)
theorem dJ9_init_2_41 : decode cJ9_init_2 41 = .ok (.getstatic 38, 3) := dk_178 0 38 (dk_at dksJ9_init_2_1 17 rfl rfl)
theorem dJ9_init_2_44 : decode cJ9_init_2 44 = .ok (.ifCond .eq 35, 3) := dk_153 0 35 (dk_at dksJ9_init_2_1 20 rfl rfl)
theorem dJ9_init_2_47 : decode cJ9_init_2 47 = .ok (.aload_n 1, 1) := dk_43 (dk_at dksJ9_init_2_1 23 rfl rfl)
theorem dJ9_init_2_48 : decode cJ9_init_2 48 = .ok (.getfield 1048, 3) := dk_180 4 24 (dk_at dksJ9_init_2_2 0 rfl rfl)
theorem dJ9_init_2_51 : decode cJ9_init_2 51 = .ok (.ifCond .eq 28, 3) := dk_153 0 28 (dk_at dksJ9_init_2_2 3 rfl rfl)
theorem dJ9_init_2_54 : decode cJ9_init_2 54 = .ok (.aload_n 0, 1) := dk_42 (dk_at dksJ9_init_2_2 6 rfl rfl)
theorem dJ9_init_2_55 : decode cJ9_init_2 55 = .ok (.aload_n 3, 1) := dk_45 (dk_at dksJ9_init_2_2 7 rfl rfl)
theorem dJ9_init_2_56 : decode cJ9_init_2 56 = .ok (.iconst 0, 1) := dk_3 (dk_at dksJ9_init_2_2 8 rfl rfl)
theorem dJ9_init_2_57 : decode cJ9_init_2 57 = .ok (.iload 4, 2) := dk_21 4 (dk_at dksJ9_init_2_2 9 rfl rfl)
theorem dJ9_init_2_59 : decode cJ9_init_2 59 = .ok (.invokestatic 1051, 3) := dk_184 4 27 (dk_at dksJ9_init_2_2 11 rfl rfl)
theorem dJ9_init_2_62 : decode cJ9_init_2 62 = .ok (.putfield 9, 3) := dk_181 0 9 (dk_at dksJ9_init_2_2 14 rfl rfl)
theorem dJ9_init_2_65 : decode cJ9_init_2 65 = .ok (.aload_n 0, 1) := dk_42 (dk_at dksJ9_init_2_2 17 rfl rfl)
theorem dJ9_init_2_66 : decode cJ9_init_2 66 = .ok (.aload_n 0, 1) := dk_42 (dk_at dksJ9_init_2_2 18 rfl rfl)
theorem dJ9_init_2_67 : decode cJ9_init_2 67 = .ok (.getfield 9, 3) := dk_180 0 9 (dk_at dksJ9_init_2_2 19 rfl rfl)
theorem dJ9_init_2_70 : decode cJ9_init_2 70 = .ok (.iload 4, 2) := dk_21 4 (dk_at dksJ9_init_2_2 22 rfl rfl)
theorem dJ9_init_2_72 : decode cJ9_init_2 72 = .ok (.invokestatic 47, 3) := dk_184 0 47 (dk_at dksJ9_init_2_3 0 rfl rfl)
theorem dJ9_init_2_75 : decode cJ9_init_2 75 = .ok (.putfield 15, 3) := dk_181 0 15 (dk_at dksJ9_init_2_3 3 rfl rfl)
theorem dJ9_init_2_78 : decode cJ9_init_2 78 = .ok (.return_, 1) := dk_177 (dk_at dksJ9_init_2_3 6 rfl rfl)
theorem dJ9_init_2_79 : decode cJ9_init_2 79 = .ok (.aload_n 0, 1) := dk_42 (dk_at dksJ9_init_2_3 7 rfl rfl)
theorem dJ9_init_2_80 : decode cJ9_init_2 80 = .ok (.iconst 1, 1) := dk_4 (dk_at dksJ9_init_2_3 8 rfl rfl)
theorem dJ9_init_2_81 : decode cJ9_init_2 81 = .ok (.putfield 15, 3) := dk_181 0 15 (dk_at dksJ9_init_2_3 9 rfl rfl)
theorem dJ9_init_2_84 : decode cJ9_init_2 84 = .ok (.aload_n 0, 1) := dk_42 (dk_at dksJ9_init_2_3 12 rfl rfl)
theorem dJ9_init_2_85 : decode cJ9_init_2 85 = .ok (.aload_n 3, 1) := dk_45 (dk_at dksJ9_init_2_3 13 rfl rfl)
theorem dJ9_init_2_86 : decode cJ9_init_2 86 = .ok (.iconst 0, 1) := dk_3 (dk_at dksJ9_init_2_3 14 rfl rfl)
theorem dJ9_init_2_87 : decode cJ9_init_2 87 = .ok (.iload 4, 2) := dk_21 4 (dk_at dksJ9_init_2_3 15 rfl rfl)
theorem dJ9_init_2_89 : decode cJ9_init_2 89 = .ok (.iconst 1, 1) := dk_4 (dk_at dksJ9_init_2_3 17 rfl rfl)
theorem dJ9_init_2_90 : decode cJ9_init_2 90 = .ok (.ishl, 1) := dk_120 (dk_at dksJ9_init_2_3 18 rfl rfl)
theorem dJ9_init_2_91 : decode cJ9_init_2 91 = .ok (.invokestatic 54, 3) := dk_184 0 54 (dk_at dksJ9_init_2_3 19 rfl rfl)
theorem dJ9_init_2_94 : decode cJ9_init_2 94 = .ok (.putfield 9, 3) := dk_181 0 9 (dk_at dksJ9_init_2_4 0 rfl rfl)
theorem dJ9_init_2_97 : decode cJ9_init_2 97 = .ok (.return_, 1) := dk_177 (dk_at dksJ9_init_2_4 3 rfl rfl)
abbrev cJ9_charAt : ByteArray := prog_26_method_56_code
def yJ9_charAt : MethodName := ⟨RJ9, "charAt", "(I)C"⟩
def dkwJ9_charAt_1 : List UInt8 := [172]
abbrev dktJ9_charAt_1 : List UInt8 := dkwJ9_charAt_1 ++ []
def dkwJ9_charAt_0 : List UInt8 := [42, 182, 1, 236, 153, 0, 12, 42, 180, 0, 9, 27, 184, 1, 239, 172, 42, 180, 0, 9, 27, 184, 1, 242]
abbrev dktJ9_charAt_0 : List UInt8 := dkwJ9_charAt_0 ++ dktJ9_charAt_1
theorem dksJ9_charAt_0 : cJ9_charAt.data.toList.drop 0 = dktJ9_charAt_0 := by decide +kernel
theorem dksJ9_charAt_1 : cJ9_charAt.data.toList.drop 24 = dktJ9_charAt_1 := dk_seg dksJ9_charAt_0 24 rfl rfl
theorem dJ9_charAt_0 : decode cJ9_charAt 0 = .ok (.aload_n 0, 1) := dk_42 (dk_at dksJ9_charAt_0 0 rfl rfl)
theorem dJ9_charAt_1 : decode cJ9_charAt 1 = .ok (.invokevirtual 492, 3) := dk_182 1 236 (dk_at dksJ9_charAt_0 1 rfl rfl)
theorem dJ9_charAt_4 : decode cJ9_charAt 4 = .ok (.ifCond .eq 12, 3) := dk_153 0 12 (dk_at dksJ9_charAt_0 4 rfl rfl)
theorem dJ9_charAt_7 : decode cJ9_charAt 7 = .ok (.aload_n 0, 1) := dk_42 (dk_at dksJ9_charAt_0 7 rfl rfl)
theorem dJ9_charAt_8 : decode cJ9_charAt 8 = .ok (.getfield 9, 3) := dk_180 0 9 (dk_at dksJ9_charAt_0 8 rfl rfl)
theorem dJ9_charAt_11 : decode cJ9_charAt 11 = .ok (.iload_n 1, 1) := dk_27 (dk_at dksJ9_charAt_0 11 rfl rfl)
theorem dJ9_charAt_12 : decode cJ9_charAt 12 = .ok (.invokestatic 495, 3) := dk_184 1 239 (dk_at dksJ9_charAt_0 12 rfl rfl)
theorem dJ9_charAt_15 : decode cJ9_charAt 15 = .ok (.ireturn, 1) := dk_172 (dk_at dksJ9_charAt_0 15 rfl rfl)
theorem dJ9_charAt_16 : decode cJ9_charAt 16 = .ok (.aload_n 0, 1) := dk_42 (dk_at dksJ9_charAt_0 16 rfl rfl)
theorem dJ9_charAt_17 : decode cJ9_charAt 17 = .ok (.getfield 9, 3) := dk_180 0 9 (dk_at dksJ9_charAt_0 17 rfl rfl)
theorem dJ9_charAt_20 : decode cJ9_charAt 20 = .ok (.iload_n 1, 1) := dk_27 (dk_at dksJ9_charAt_0 20 rfl rfl)
theorem dJ9_charAt_21 : decode cJ9_charAt 21 = .ok (.invokestatic 498, 3) := dk_184 1 242 (dk_at dksJ9_charAt_0 21 rfl rfl)
theorem dJ9_charAt_24 : decode cJ9_charAt 24 = .ok (.ireturn, 1) := dk_172 (dk_at dksJ9_charAt_1 0 rfl rfl)
abbrev cJ9_isLatin1 : ByteArray := prog_26_method_154_code
def yJ9_isLatin1 : MethodName := ⟨RJ9, "isLatin1", "()Z"⟩
def dkwJ9_isLatin1_0 : List UInt8 := [178, 0, 38, 153, 0, 14, 42, 180, 0, 15, 154, 0, 7, 4, 167, 0, 4, 3, 172]
abbrev dktJ9_isLatin1_0 : List UInt8 := dkwJ9_isLatin1_0 ++ []
theorem dksJ9_isLatin1_0 : cJ9_isLatin1.data.toList.drop 0 = dktJ9_isLatin1_0 := by decide +kernel
theorem dJ9_isLatin1_0 : decode cJ9_isLatin1 0 = .ok (.getstatic 38, 3) := dk_178 0 38 (dk_at dksJ9_isLatin1_0 0 rfl rfl)
theorem dJ9_isLatin1_3 : decode cJ9_isLatin1 3 = .ok (.ifCond .eq 14, 3) := dk_153 0 14 (dk_at dksJ9_isLatin1_0 3 rfl rfl)
theorem dJ9_isLatin1_6 : decode cJ9_isLatin1 6 = .ok (.aload_n 0, 1) := dk_42 (dk_at dksJ9_isLatin1_0 6 rfl rfl)
theorem dJ9_isLatin1_7 : decode cJ9_isLatin1 7 = .ok (.getfield 15, 3) := dk_180 0 15 (dk_at dksJ9_isLatin1_0 7 rfl rfl)
theorem dJ9_isLatin1_10 : decode cJ9_isLatin1 10 = .ok (.ifCond .ne 7, 3) := dk_154 0 7 (dk_at dksJ9_isLatin1_0 10 rfl rfl)
theorem dJ9_isLatin1_13 : decode cJ9_isLatin1 13 = .ok (.iconst 1, 1) := dk_4 (dk_at dksJ9_isLatin1_0 13 rfl rfl)
theorem dJ9_isLatin1_14 : decode cJ9_isLatin1 14 = .ok (.goto 4, 3) := dk_167 0 4 (dk_at dksJ9_isLatin1_0 14 rfl rfl)
theorem dJ9_isLatin1_17 : decode cJ9_isLatin1 17 = .ok (.iconst 0, 1) := dk_3 (dk_at dksJ9_isLatin1_0 17 rfl rfl)
theorem dJ9_isLatin1_18 : decode cJ9_isLatin1 18 = .ok (.ireturn, 1) := dk_172 (dk_at dksJ9_isLatin1_0 18 rfl rfl)
abbrev cJ9_checkIndex : ByteArray := prog_26_method_155_code
def yJ9_checkIndex : MethodName := ⟨RJ9, "checkIndex", "(II)V"⟩
def dkwJ9_checkIndex_0 : List UInt8 := [26, 27, 178, 4, 29, 184, 4, 35, 87, 177]
abbrev dktJ9_checkIndex_0 : List UInt8 := dkwJ9_checkIndex_0 ++ []
theorem dksJ9_checkIndex_0 : cJ9_checkIndex.data.toList.drop 0 = dktJ9_checkIndex_0 := by decide +kernel
theorem dJ9_checkIndex_0 : decode cJ9_checkIndex 0 = .ok (.iload_n 0, 1) := dk_26 (dk_at dksJ9_checkIndex_0 0 rfl rfl)
theorem dJ9_checkIndex_1 : decode cJ9_checkIndex 1 = .ok (.iload_n 1, 1) := dk_27 (dk_at dksJ9_checkIndex_0 1 rfl rfl)
theorem dJ9_checkIndex_2 : decode cJ9_checkIndex 2 = .ok (.getstatic 1053, 3) := dk_178 4 29 (dk_at dksJ9_checkIndex_0 2 rfl rfl)
theorem dJ9_checkIndex_5 : decode cJ9_checkIndex 5 = .ok (.invokestatic 1059, 3) := dk_184 4 35 (dk_at dksJ9_checkIndex_0 5 rfl rfl)
theorem dJ9_checkIndex_8 : decode cJ9_checkIndex 8 = .ok (.pop, 1) := dk_87 (dk_at dksJ9_checkIndex_0 8 rfl rfl)
theorem dJ9_checkIndex_9 : decode cJ9_checkIndex 9 = .ok (.return_, 1) := dk_177 (dk_at dksJ9_checkIndex_0 9 rfl rfl)
theorem q107 : (Jvm.Cond.initialized "java/lang/String") ∈ lw_all := lw_g (lw_at lw_m1 12 rfl) rfl
theorem q218 : (Jvm.Cond.laysStatic "java/lang/String" "COMPACT_STRINGS" "Z") ∈ lw_tbl := lw_at lw_m1 123 rfl
theorem q228 : (Jvm.Cond.fieldLink "java/lang/String" (1048 : Nat) "java/lang/AbstractStringBuilder" "maybeLatin1" "Z") ∈ lw_all := lw_g (lw_at lw_m1 133 rfl) rfl
theorem q302 : (Jvm.Cond.static ({ cls := "java/lang/String", name := "checkBoundsBeginEnd", desc := "(III)V" } : Jvm.MethodName)) ∈ lw_all := lw_g (lw_at lw_m1 207 rfl) rfl
theorem q303 : (Jvm.Cond.code ({ cls := "java/lang/String", name := "checkBoundsBeginEnd", desc := "(III)V" } : Jvm.MethodName) prog_26_method_158_code (3 : Nat) (Option.none : Option Jvm.ClassFile.FieldType)) ∈ lw_all := lw_g (lw_at lw_m1 208 rfl) rfl
theorem q304 : (Jvm.Cond.fieldLink "java/lang/String" (1053 : Nat) "jdk/internal/util/Preconditions" "SIOOBE_FORMATTER" "Ljava/util/function/BiFunction;") ∈ lw_all := lw_g (lw_at lw_m1 209 rfl) rfl
theorem q306 : (Jvm.Cond.methodLink "java/lang/String" (1062 : Nat) ({ cls := "jdk/internal/util/Preconditions", name := "checkFromToIndex", desc := "(IIILjava/util/function/BiFunction;)I" } : Jvm.MethodName)) ∈ lw_all := lw_g (lw_at lw_m1 211 rfl) rfl
theorem q319 : (Jvm.Cond.instanceMethod ({ cls := "java/lang/String", name := "length", desc := "()I" } : Jvm.MethodName)) ∈ lw_all := lw_g (lw_at lw_m1 224 rfl) rfl
theorem q320 : (Jvm.Cond.selects "java/lang/String" ({ cls := "java/lang/String", name := "length", desc := "()I" } : Jvm.MethodName) ({ cls := "java/lang/String", name := "length", desc := "()I" } : Jvm.MethodName)) ∈ lw_all := lw_g (lw_at lw_m1 225 rfl) rfl
theorem q321 : (Jvm.Cond.code ({ cls := "java/lang/String", name := "length", desc := "()I" } : Jvm.MethodName) prog_26_method_54_code (1 : Nat) (Option.some Jvm.ClassFile.FieldType.int)) ∈ lw_all := lw_g (lw_at lw_m1 226 rfl) rfl
theorem q322 : (Jvm.Cond.methodLink "java/lang/String" (335 : Nat) ({ cls := "java/lang/String", name := "coder", desc := "()B" } : Jvm.MethodName)) ∈ lw_all := lw_g (lw_at lw_m1 227 rfl) rfl
theorem q323 : (Jvm.Cond.instanceMethod ({ cls := "java/lang/String", name := "coder", desc := "()B" } : Jvm.MethodName)) ∈ lw_all := lw_g (lw_at lw_m1 228 rfl) rfl
theorem q324 : (Jvm.Cond.selects "java/lang/String" ({ cls := "java/lang/String", name := "coder", desc := "()B" } : Jvm.MethodName) ({ cls := "java/lang/String", name := "coder", desc := "()B" } : Jvm.MethodName)) ∈ lw_all := lw_g (lw_at lw_m1 229 rfl) rfl
theorem q325 : (Jvm.Cond.code ({ cls := "java/lang/String", name := "coder", desc := "()B" } : Jvm.MethodName) prog_26_method_152_code (1 : Nat) (Option.some Jvm.ClassFile.FieldType.byte)) ∈ lw_all := lw_g (lw_at lw_m1 230 rfl) rfl
theorem q326 : (Jvm.Cond.fieldLink "java/lang/String" (38 : Nat) "java/lang/String" "COMPACT_STRINGS" "Z") ∈ lw_all := lw_g (lw_at lw_m1 231 rfl) rfl
theorem q350 : (Jvm.Cond.static ({ cls := "java/lang/String", name := "checkBoundsOffCount", desc := "(III)I" } : Jvm.MethodName)) ∈ lw_all := lw_g (lw_at lw_m2 15 rfl) rfl
theorem q351 : (Jvm.Cond.code ({ cls := "java/lang/String", name := "checkBoundsOffCount", desc := "(III)I" } : Jvm.MethodName) prog_26_method_157_code (3 : Nat) (Option.some Jvm.ClassFile.FieldType.int)) ∈ lw_all := lw_g (lw_at lw_m2 16 rfl) rfl
theorem q352 : (Jvm.Cond.methodLink "java/lang/String" (1065 : Nat) ({ cls := "jdk/internal/util/Preconditions", name := "checkFromIndexSize", desc := "(IIILjava/util/function/BiFunction;)I" } : Jvm.MethodName)) ∈ lw_all := lw_g (lw_at lw_m2 17 rfl) rfl
theorem q356 : (Jvm.Cond.instanceMethod ({ cls := "java/lang/String", name := "getBytes", desc := "([BIB)V" } : Jvm.MethodName)) ∈ lw_all := lw_g (lw_at lw_m2 21 rfl) rfl
theorem q357 : (Jvm.Cond.selects "java/lang/String" ({ cls := "java/lang/String", name := "getBytes", desc := "([BIB)V" } : Jvm.MethodName) ({ cls := "java/lang/String", name := "getBytes", desc := "([BIB)V" } : Jvm.MethodName)) ∈ lw_all := lw_g (lw_at lw_m2 22 rfl) rfl
theorem q358 : (Jvm.Cond.code ({ cls := "java/lang/String", name := "getBytes", desc := "([BIB)V" } : Jvm.MethodName) prog_26_method_147_code (4 : Nat) (Option.none : Option Jvm.ClassFile.FieldType)) ∈ lw_all := lw_g (lw_at lw_m2 23 rfl) rfl
theorem q359 : (Jvm.Cond.methodLink "java/lang/String" (212 : Nat) ({ cls := "java/lang/System", name := "arraycopy", desc := "(Ljava/lang/Object;ILjava/lang/Object;II)V" } : Jvm.MethodName)) ∈ lw_all := lw_g (lw_at lw_m2 24 rfl) rfl
theorem q360 : (Jvm.Cond.methodLink "java/lang/String" (106 : Nat) ({ cls := "java/lang/StringLatin1", name := "inflate", desc := "([BI[BII)V" } : Jvm.MethodName)) ∈ lw_all := lw_g (lw_at lw_m2 25 rfl) rfl
theorem q391 : (Jvm.Cond.instantiable "java/lang/String" (4 : Nat)) ∈ lw_all := lw_g (lw_at lw_m2 56 rfl) rfl
theorem q393 : (Jvm.Cond.instanceMethod ({ cls := "java/lang/String", name := "<init>", desc := "(Ljava/lang/StringBuilder;)V" } : Jvm.MethodName)) ∈ lw_all := lw_g (lw_at lw_m2 58 rfl) rfl
theorem q394 : (Jvm.Cond.code ({ cls := "java/lang/String", name := "<init>", desc := "(Ljava/lang/StringBuilder;)V" } : Jvm.MethodName) prog_26_method_53_code (2 : Nat) (Option.none : Option Jvm.ClassFile.FieldType)) ∈ lw_all := lw_g (lw_at lw_m2 59 rfl) rfl
theorem q395 : (Jvm.Cond.methodLink "java/lang/String" (489 : Nat) ({ cls := "java/lang/String", name := "<init>", desc := "(Ljava/lang/AbstractStringBuilder;Ljava/lang/Void;)V" } : Jvm.MethodName)) ∈ lw_all := lw_g (lw_at lw_m2 60 rfl) rfl
theorem q396 : (Jvm.Cond.instanceMethod ({ cls := "java/lang/String", name := "<init>", desc := "(Ljava/lang/AbstractStringBuilder;Ljava/lang/Void;)V" } : Jvm.MethodName)) ∈ lw_all := lw_g (lw_at lw_m2 61 rfl) rfl
theorem q397 : (Jvm.Cond.code ({ cls := "java/lang/String", name := "<init>", desc := "(Ljava/lang/AbstractStringBuilder;Ljava/lang/Void;)V" } : Jvm.MethodName) prog_26_method_150_code (5 : Nat) (Option.none : Option Jvm.ClassFile.FieldType)) ∈ lw_all := lw_g (lw_at lw_m2 62 rfl) rfl
theorem q398 : (Jvm.Cond.methodLink "java/lang/String" (1 : Nat) ({ cls := "java/lang/Object", name := "<init>", desc := "()V" } : Jvm.MethodName)) ∈ lw_all := lw_g (lw_at lw_m2 63 rfl) rfl
theorem q399 : (Jvm.Cond.methodLink "java/lang/String" (552 : Nat) ({ cls := "java/lang/AbstractStringBuilder", name := "getValue", desc := "()[B" } : Jvm.MethodName)) ∈ lw_all := lw_g (lw_at lw_m2 64 rfl) rfl
theorem q404 : (Jvm.Cond.methodLink "java/lang/String" (549 : Nat) ({ cls := "java/lang/AbstractStringBuilder", name := "length", desc := "()I" } : Jvm.MethodName)) ∈ lw_all := lw_g (lw_at lw_m2 69 rfl) rfl
theorem q412 : (Jvm.Cond.methodLink "java/lang/String" (1047 : Nat) ({ cls := "java/lang/AbstractStringBuilder", name := "isLatin1", desc := "()Z" } : Jvm.MethodName)) ∈ lw_all := lw_g (lw_at lw_m2 77 rfl) rfl
theorem q413 : (Jvm.Cond.methodLink "java/lang/String" (54 : Nat) ({ cls := "java/util/Arrays", name := "copyOfRange", desc := "([BII)[B" } : Jvm.MethodName)) ∈ lw_all := lw_g (lw_at lw_m2 78 rfl) rfl
theorem q454 : (Jvm.Cond.methodLink "java/lang/String" (1051 : Nat) ({ cls := "java/lang/StringUTF16", name := "compress", desc := "([BII)[B" } : Jvm.MethodName)) ∈ lw_all := lw_g (lw_at lw_m2 119 rfl) rfl
theorem q464 : (Jvm.Cond.methodLink "java/lang/String" (47 : Nat) ({ cls := "java/lang/StringUTF16", name := "coderFromArrayLen", desc := "([BI)B" } : Jvm.MethodName)) ∈ lw_all := lw_g (lw_at lw_m2 129 rfl) rfl
theorem q467 : (Jvm.Cond.fieldLink "java/lang/String" (9 : Nat) "java/lang/String" "value" "[B") ∈ lw_all := lw_g (lw_at lw_m2 132 rfl) rfl
theorem q468 : (Jvm.Cond.fieldLink "java/lang/String" (15 : Nat) "java/lang/String" "coder" "B") ∈ lw_all := lw_g (lw_at lw_m2 133 rfl) rfl
theorem q469 : (Jvm.Cond.laysFinal "java/lang/String" "java/lang/String" "value" "[B") ∈ lw_all := lw_g (lw_at lw_m2 134 rfl) rfl
theorem q470 : (Jvm.Cond.soleField "java/lang/String" "value") ∈ lw_all := lw_g (lw_at lw_m2 135 rfl) rfl
theorem q471 : (Jvm.Cond.laysFinal "java/lang/String" "java/lang/String" "coder" "B") ∈ lw_all := lw_g (lw_at lw_m2 136 rfl) rfl
theorem q472 : (Jvm.Cond.soleField "java/lang/String" "coder") ∈ lw_all := lw_g (lw_at lw_m2 137 rfl) rfl
theorem q473 : (Jvm.Cond.lays "java/lang/String" "java/lang/String" "hash" "I") ∈ lw_all := lw_g (lw_at lw_m2 138 rfl) rfl
theorem q474 : (Jvm.Cond.soleField "java/lang/String" "hash") ∈ lw_all := lw_g (lw_at lw_m2 139 rfl) rfl
theorem q475 : (Jvm.Cond.lays "java/lang/String" "java/lang/String" "hashIsZero" "Z") ∈ lw_all := lw_g (lw_at lw_m2 140 rfl) rfl
theorem q476 : (Jvm.Cond.soleField "java/lang/String" "hashIsZero") ∈ lw_all := lw_g (lw_at lw_m2 141 rfl) rfl
theorem q477 : (Jvm.Cond.superclass "java/lang/String" "java/lang/Object") ∈ lw_all := lw_g (lw_at lw_m2 142 rfl) rfl
theorem q533 : (Jvm.Cond.instanceMethod ({ cls := "java/lang/String", name := "charAt", desc := "(I)C" } : Jvm.MethodName)) ∈ lw_all := lw_g (lw_at lw_m2 198 rfl) rfl
theorem q534 : (Jvm.Cond.selects "java/lang/String" ({ cls := "java/lang/String", name := "charAt", desc := "(I)C" } : Jvm.MethodName) ({ cls := "java/lang/String", name := "charAt", desc := "(I)C" } : Jvm.MethodName)) ∈ lw_all := lw_g (lw_at lw_m2 199 rfl) rfl
theorem q535 : (Jvm.Cond.code ({ cls := "java/lang/String", name := "charAt", desc := "(I)C" } : Jvm.MethodName) prog_26_method_56_code (2 : Nat) (Option.some Jvm.ClassFile.FieldType.char)) ∈ lw_all := lw_g (lw_at lw_m2 200 rfl) rfl
theorem q536 : (Jvm.Cond.methodLink "java/lang/String" (492 : Nat) ({ cls := "java/lang/String", name := "isLatin1", desc := "()Z" } : Jvm.MethodName)) ∈ lw_all := lw_g (lw_at lw_m2 201 rfl) rfl
theorem q537 : (Jvm.Cond.instanceMethod ({ cls := "java/lang/String", name := "isLatin1", desc := "()Z" } : Jvm.MethodName)) ∈ lw_all := lw_g (lw_at lw_m2 202 rfl) rfl
theorem q538 : (Jvm.Cond.selects "java/lang/String" ({ cls := "java/lang/String", name := "isLatin1", desc := "()Z" } : Jvm.MethodName) ({ cls := "java/lang/String", name := "isLatin1", desc := "()Z" } : Jvm.MethodName)) ∈ lw_all := lw_g (lw_at lw_m2 203 rfl) rfl
theorem q539 : (Jvm.Cond.code ({ cls := "java/lang/String", name := "isLatin1", desc := "()Z" } : Jvm.MethodName) prog_26_method_154_code (1 : Nat) (Option.some Jvm.ClassFile.FieldType.boolean)) ∈ lw_all := lw_g (lw_at lw_m2 204 rfl) rfl
theorem q540 : (Jvm.Cond.methodLink "java/lang/String" (495 : Nat) ({ cls := "java/lang/StringLatin1", name := "charAt", desc := "([BI)C" } : Jvm.MethodName)) ∈ lw_all := lw_g (lw_at lw_m2 205 rfl) rfl
theorem q544 : (Jvm.Cond.static ({ cls := "java/lang/String", name := "checkIndex", desc := "(II)V" } : Jvm.MethodName)) ∈ lw_all := lw_g (lw_at lw_m2 209 rfl) rfl
theorem q545 : (Jvm.Cond.code ({ cls := "java/lang/String", name := "checkIndex", desc := "(II)V" } : Jvm.MethodName) prog_26_method_155_code (2 : Nat) (Option.none : Option Jvm.ClassFile.FieldType)) ∈ lw_all := lw_g (lw_at lw_m2 210 rfl) rfl
theorem q546 : (Jvm.Cond.methodLink "java/lang/String" (1059 : Nat) ({ cls := "jdk/internal/util/Preconditions", name := "checkIndex", desc := "(IILjava/util/function/BiFunction;)I" } : Jvm.MethodName)) ∈ lw_all := lw_g (lw_at lw_m2 211 rfl) rfl
theorem q549 : (Jvm.Cond.methodLink "java/lang/String" (498 : Nat) ({ cls := "java/lang/StringUTF16", name := "charAt", desc := "([BI)C" } : Jvm.MethodName)) ∈ lw_all := lw_g (lw_at lw_m2 214 rfl) rfl
theorem q742 : (Jvm.Cond.selects "java/lang/String" ({ cls := "java/lang/Object", name := "getClass", desc := "()Ljava/lang/Class;" } : Jvm.MethodName) ({ cls := "java/lang/Object", name := "getClass", desc := "()Ljava/lang/Class;" } : Jvm.MethodName)) ∈ lw_all := lw_g (lw_at lw_m3 167 rfl) rfl
theorem q2166 : (Jvm.Cond.castable "java/lang/String" "java/lang/Object") ∈ lw_tbl := lw_at lw_m9 151 rfl
theorem in_J9 : ∀ w ∈ wsJ90, w ∈ lw_all := lw_in wsJ90 [469, 471, 473, 475] (by decide +kernel) (by decide +kernel)
/-! java/lang/StringLatin1 -/
set_option maxRecDepth 100000
def RJ15 : String := "java/lang/StringLatin1"
abbrev cJ15_inflate : ByteArray := prog_28_method_50_code
def yJ15_inflate : MethodName := ⟨RJ15, "inflate", "([BI[BII)V"⟩
def dkwJ15_inflate_0 : List UInt8 := [42, 27, 44, 29, 21, 4, 184, 0, 240, 177]
abbrev dktJ15_inflate_0 : List UInt8 := dkwJ15_inflate_0 ++ []
theorem dksJ15_inflate_0 : cJ15_inflate.data.toList.drop 0 = dktJ15_inflate_0 := by decide +kernel
theorem dJ15_inflate_0 : decode cJ15_inflate 0 = .ok (.aload_n 0, 1) := dk_42 (dk_at dksJ15_inflate_0 0 rfl rfl)
theorem dJ15_inflate_1 : decode cJ15_inflate 1 = .ok (.iload_n 1, 1) := dk_27 (dk_at dksJ15_inflate_0 1 rfl rfl)
theorem dJ15_inflate_2 : decode cJ15_inflate 2 = .ok (.aload_n 2, 1) := dk_44 (dk_at dksJ15_inflate_0 2 rfl rfl)
theorem dJ15_inflate_3 : decode cJ15_inflate 3 = .ok (.iload_n 3, 1) := dk_29 (dk_at dksJ15_inflate_0 3 rfl rfl)
theorem dJ15_inflate_4 : decode cJ15_inflate 4 = .ok (.iload 4, 2) := dk_21 4 (dk_at dksJ15_inflate_0 4 rfl rfl)
theorem dJ15_inflate_6 : decode cJ15_inflate 6 = .ok (.invokestatic 240, 3) := dk_184 0 240 (dk_at dksJ15_inflate_0 6 rfl rfl)
theorem dJ15_inflate_9 : decode cJ15_inflate 9 = .ok (.return_, 1) := dk_177 (dk_at dksJ15_inflate_0 9 rfl rfl)
abbrev cJ15_charAt : ByteArray := prog_28_method_2_code
def yJ15_charAt : MethodName := ⟨RJ15, "charAt", "([BI)C"⟩
def dkwJ15_charAt_0 : List UInt8 := [27, 42, 190, 184, 0, 9, 42, 27, 51, 17, 0, 255, 126, 146, 172]
abbrev dktJ15_charAt_0 : List UInt8 := dkwJ15_charAt_0 ++ []
theorem dksJ15_charAt_0 : cJ15_charAt.data.toList.drop 0 = dktJ15_charAt_0 := by decide +kernel
theorem dJ15_charAt_0 : decode cJ15_charAt 0 = .ok (.iload_n 1, 1) := dk_27 (dk_at dksJ15_charAt_0 0 rfl rfl)
theorem dJ15_charAt_1 : decode cJ15_charAt 1 = .ok (.aload_n 0, 1) := dk_42 (dk_at dksJ15_charAt_0 1 rfl rfl)
theorem dJ15_charAt_2 : decode cJ15_charAt 2 = .ok (.arraylength, 1) := dk_190 (dk_at dksJ15_charAt_0 2 rfl rfl)
theorem dJ15_charAt_3 : decode cJ15_charAt 3 = .ok (.invokestatic 9, 3) := dk_184 0 9 (dk_at dksJ15_charAt_0 3 rfl rfl)
theorem dJ15_charAt_6 : decode cJ15_charAt 6 = .ok (.aload_n 0, 1) := dk_42 (dk_at dksJ15_charAt_0 6 rfl rfl)
theorem dJ15_charAt_7 : decode cJ15_charAt 7 = .ok (.iload_n 1, 1) := dk_27 (dk_at dksJ15_charAt_0 7 rfl rfl)
theorem dJ15_charAt_8 : decode cJ15_charAt 8 = .ok (.baload, 1) := dk_51 (dk_at dksJ15_charAt_0 8 rfl rfl)
theorem dJ15_charAt_9 : decode cJ15_charAt 9 = .ok (.sipush 255, 3) := dk_17 0 255 (dk_at dksJ15_charAt_0 9 rfl rfl)
theorem dJ15_charAt_12 : decode cJ15_charAt 12 = .ok (.iand, 1) := dk_126 (dk_at dksJ15_charAt_0 12 rfl rfl)
theorem dJ15_charAt_13 : decode cJ15_charAt 13 = .ok (.i2c, 1) := dk_146 (dk_at dksJ15_charAt_0 13 rfl rfl)
theorem dJ15_charAt_14 : decode cJ15_charAt 14 = .ok (.ireturn, 1) := dk_172 (dk_at dksJ15_charAt_0 14 rfl rfl)
theorem q114 : (Jvm.Cond.initialized "java/lang/StringLatin1") ∈ lw_all := lw_g (lw_at lw_m1 19 rfl) rfl
theorem q341 : (Jvm.Cond.static ({ cls := "java/lang/StringLatin1", name := "inflate", desc := "([BI[BII)V" } : Jvm.MethodName)) ∈ lw_all := lw_g (lw_at lw_m2 6 rfl) rfl
theorem q342 : (Jvm.Cond.code ({ cls := "java/lang/StringLatin1", name := "inflate", desc := "([BI[BII)V" } : Jvm.MethodName) prog_28_method_50_code (5 : Nat) (Option.none : Option Jvm.ClassFile.FieldType)) ∈ lw_all := lw_g (lw_at lw_m2 7 rfl) rfl
theorem q343 : (Jvm.Cond.methodLink "java/lang/StringLatin1" (240 : Nat) ({ cls := "java/lang/StringUTF16", name := "inflate", desc := "([BI[BII)V" } : Jvm.MethodName)) ∈ lw_all := lw_g (lw_at lw_m2 8 rfl) rfl
theorem q541 : (Jvm.Cond.static ({ cls := "java/lang/StringLatin1", name := "charAt", desc := "([BI)C" } : Jvm.MethodName)) ∈ lw_all := lw_g (lw_at lw_m2 206 rfl) rfl
theorem q542 : (Jvm.Cond.code ({ cls := "java/lang/StringLatin1", name := "charAt", desc := "([BI)C" } : Jvm.MethodName) prog_28_method_2_code (2 : Nat) (Option.some Jvm.ClassFile.FieldType.char)) ∈ lw_all := lw_g (lw_at lw_m2 207 rfl) rfl
theorem q543 : (Jvm.Cond.methodLink "java/lang/StringLatin1" (9 : Nat) ({ cls := "java/lang/String", name := "checkIndex", desc := "(II)V" } : Jvm.MethodName)) ∈ lw_all := lw_g (lw_at lw_m2 208 rfl) rfl
/-! jdk/internal/util/Preconditions -/
set_option maxRecDepth 100000
def RJ14 : String := "jdk/internal/util/Preconditions"
abbrev cJ14_checkFromToIndex : ByteArray := prog_48_method_12_code
def yJ14_checkFromToIndex : MethodName := ⟨RJ14, "checkFromToIndex", "(IIILjava/util/function/BiFunction;)I"⟩
def dkwJ14_checkFromToIndex_0 : List UInt8 := [26, 155, 0, 13, 26, 27, 163, 0, 8, 27, 28, 164, 0, 11, 45, 26, 27, 28, 184, 0, 99, 191, 26, 172]
abbrev dktJ14_checkFromToIndex_0 : List UInt8 := dkwJ14_checkFromToIndex_0 ++ []
theorem dksJ14_checkFromToIndex_0 : cJ14_checkFromToIndex.data.toList.drop 0 = dktJ14_checkFromToIndex_0 := by decide +kernel
theorem dJ14_checkFromToIndex_0 : decode cJ14_checkFromToIndex 0 = .ok (.iload_n 0, 1) := dk_26 (dk_at dksJ14_checkFromToIndex_0 0 rfl rfl)
theorem dJ14_checkFromToIndex_1 : decode cJ14_checkFromToIndex 1 = .ok (.ifCond .lt 13, 3) := dk_155 0 13 (dk_at dksJ14_checkFromToIndex_0 1 rfl rfl)
theorem dJ14_checkFromToIndex_4 : decode cJ14_checkFromToIndex 4 = .ok (.iload_n 0, 1) := dk_26 (dk_at dksJ14_checkFromToIndex_0 4 rfl rfl)
theorem dJ14_checkFromToIndex_5 : decode cJ14_checkFromToIndex 5 = .ok (.iload_n 1, 1) := dk_27 (dk_at dksJ14_checkFromToIndex_0 5 rfl rfl)
theorem dJ14_checkFromToIndex_6 : decode cJ14_checkFromToIndex 6 = .ok (.if_icmp .gt 8, 3) := dk_163 0 8 (dk_at dksJ14_checkFromToIndex_0 6 rfl rfl)
theorem dJ14_checkFromToIndex_9 : decode cJ14_checkFromToIndex 9 = .ok (.iload_n 1, 1) := dk_27 (dk_at dksJ14_checkFromToIndex_0 9 rfl rfl)
theorem dJ14_checkFromToIndex_10 : decode cJ14_checkFromToIndex 10 = .ok (.iload_n 2, 1) := dk_28 (dk_at dksJ14_checkFromToIndex_0 10 rfl rfl)
theorem dJ14_checkFromToIndex_11 : decode cJ14_checkFromToIndex 11 = .ok (.if_icmp .le 11, 3) := dk_164 0 11 (dk_at dksJ14_checkFromToIndex_0 11 rfl rfl)
theorem dJ14_checkFromToIndex_14 : decode cJ14_checkFromToIndex 14 = .ok (.aload_n 3, 1) := dk_45 (dk_at dksJ14_checkFromToIndex_0 14 rfl rfl)
theorem dJ14_checkFromToIndex_15 : decode cJ14_checkFromToIndex 15 = .ok (.iload_n 0, 1) := dk_26 (dk_at dksJ14_checkFromToIndex_0 15 rfl rfl)
theorem dJ14_checkFromToIndex_16 : decode cJ14_checkFromToIndex 16 = .ok (.iload_n 1, 1) := dk_27 (dk_at dksJ14_checkFromToIndex_0 16 rfl rfl)
theorem dJ14_checkFromToIndex_17 : decode cJ14_checkFromToIndex 17 = .ok (.iload_n 2, 1) := dk_28 (dk_at dksJ14_checkFromToIndex_0 17 rfl rfl)
theorem dJ14_checkFromToIndex_18 : decode cJ14_checkFromToIndex 18 = .ok (.invokestatic 99, 3) := dk_184 0 99 (dk_at dksJ14_checkFromToIndex_0 18 rfl rfl)
theorem dJ14_checkFromToIndex_21 : decode cJ14_checkFromToIndex 21 = .ok (.athrow, 1) := dk_191 (dk_at dksJ14_checkFromToIndex_0 21 rfl rfl)
theorem dJ14_checkFromToIndex_22 : decode cJ14_checkFromToIndex 22 = .ok (.iload_n 0, 1) := dk_26 (dk_at dksJ14_checkFromToIndex_0 22 rfl rfl)
theorem dJ14_checkFromToIndex_23 : decode cJ14_checkFromToIndex 23 = .ok (.ireturn, 1) := dk_172 (dk_at dksJ14_checkFromToIndex_0 23 rfl rfl)
abbrev cJ14_checkFromIndexSize : ByteArray := prog_48_method_13_code
def yJ14_checkFromIndexSize : MethodName := ⟨RJ14, "checkFromIndexSize", "(IIILjava/util/function/BiFunction;)I"⟩
def dkwJ14_checkFromIndexSize_1 : List UInt8 := [172]
abbrev dktJ14_checkFromIndexSize_1 : List UInt8 := dkwJ14_checkFromIndexSize_1 ++ []
def dkwJ14_checkFromIndexSize_0 : List UInt8 := [28, 26, 128, 27, 128, 155, 0, 10, 27, 28, 26, 100, 164, 0, 11, 45, 26, 27, 28, 184, 0, 103, 191, 26]
abbrev dktJ14_checkFromIndexSize_0 : List UInt8 := dkwJ14_checkFromIndexSize_0 ++ dktJ14_checkFromIndexSize_1
theorem dksJ14_checkFromIndexSize_0 : cJ14_checkFromIndexSize.data.toList.drop 0 = dktJ14_checkFromIndexSize_0 := by decide +kernel
theorem dksJ14_checkFromIndexSize_1 : cJ14_checkFromIndexSize.data.toList.drop 24 = dktJ14_checkFromIndexSize_1 := dk_seg dksJ14_checkFromIndexSize_0 24 rfl rfl
theorem dJ14_checkFromIndexSize_0 : decode cJ14_checkFromIndexSize 0 = .ok (.iload_n 2, 1) := dk_28 (dk_at dksJ14_checkFromIndexSize_0 0 rfl rfl)
theorem dJ14_checkFromIndexSize_1 : decode cJ14_checkFromIndexSize 1 = .ok (.iload_n 0, 1) := dk_26 (dk_at dksJ14_checkFromIndexSize_0 1 rfl rfl)
theorem dJ14_checkFromIndexSize_2 : decode cJ14_checkFromIndexSize 2 = .ok (.ior, 1) := dk_128 (dk_at dksJ14_checkFromIndexSize_0 2 rfl rfl)
theorem dJ14_checkFromIndexSize_3 : decode cJ14_checkFromIndexSize 3 = .ok (.iload_n 1, 1) := dk_27 (dk_at dksJ14_checkFromIndexSize_0 3 rfl rfl)
theorem dJ14_checkFromIndexSize_4 : decode cJ14_checkFromIndexSize 4 = .ok (.ior, 1) := dk_128 (dk_at dksJ14_checkFromIndexSize_0 4 rfl rfl)
theorem dJ14_checkFromIndexSize_5 : decode cJ14_checkFromIndexSize 5 = .ok (.ifCond .lt 10, 3) := dk_155 0 10 (dk_at dksJ14_checkFromIndexSize_0 5 rfl rfl)
theorem dJ14_checkFromIndexSize_8 : decode cJ14_checkFromIndexSize 8 = .ok (.iload_n 1, 1) := dk_27 (dk_at dksJ14_checkFromIndexSize_0 8 rfl rfl)
theorem dJ14_checkFromIndexSize_9 : decode cJ14_checkFromIndexSize 9 = .ok (.iload_n 2, 1) := dk_28 (dk_at dksJ14_checkFromIndexSize_0 9 rfl rfl)
theorem dJ14_checkFromIndexSize_10 : decode cJ14_checkFromIndexSize 10 = .ok (.iload_n 0, 1) := dk_26 (dk_at dksJ14_checkFromIndexSize_0 10 rfl rfl)
theorem dJ14_checkFromIndexSize_11 : decode cJ14_checkFromIndexSize 11 = .ok (.isub, 1) := dk_100 (dk_at dksJ14_checkFromIndexSize_0 11 rfl rfl)
theorem dJ14_checkFromIndexSize_12 : decode cJ14_checkFromIndexSize 12 = .ok (.if_icmp .le 11, 3) := dk_164 0 11 (dk_at dksJ14_checkFromIndexSize_0 12 rfl rfl)
theorem dJ14_checkFromIndexSize_15 : decode cJ14_checkFromIndexSize 15 = .ok (.aload_n 3, 1) := dk_45 (dk_at dksJ14_checkFromIndexSize_0 15 rfl rfl)
theorem dJ14_checkFromIndexSize_16 : decode cJ14_checkFromIndexSize 16 = .ok (.iload_n 0, 1) := dk_26 (dk_at dksJ14_checkFromIndexSize_0 16 rfl rfl)
theorem dJ14_checkFromIndexSize_17 : decode cJ14_checkFromIndexSize 17 = .ok (.iload_n 1, 1) := dk_27 (dk_at dksJ14_checkFromIndexSize_0 17 rfl rfl)
theorem dJ14_checkFromIndexSize_18 : decode cJ14_checkFromIndexSize 18 = .ok (.iload_n 2, 1) := dk_28 (dk_at dksJ14_checkFromIndexSize_0 18 rfl rfl)
theorem dJ14_checkFromIndexSize_19 : decode cJ14_checkFromIndexSize 19 = .ok (.invokestatic 103, 3) := dk_184 0 103 (dk_at dksJ14_checkFromIndexSize_0 19 rfl rfl)
theorem dJ14_checkFromIndexSize_22 : decode cJ14_checkFromIndexSize 22 = .ok (.athrow, 1) := dk_191 (dk_at dksJ14_checkFromIndexSize_0 22 rfl rfl)
theorem dJ14_checkFromIndexSize_23 : decode cJ14_checkFromIndexSize 23 = .ok (.iload_n 0, 1) := dk_26 (dk_at dksJ14_checkFromIndexSize_0 23 rfl rfl)
theorem dJ14_checkFromIndexSize_24 : decode cJ14_checkFromIndexSize 24 = .ok (.ireturn, 1) := dk_172 (dk_at dksJ14_checkFromIndexSize_1 0 rfl rfl)
abbrev cJ14_checkIndex : ByteArray := prog_48_method_11_code
def yJ14_checkIndex : MethodName := ⟨RJ14, "checkIndex", "(IILjava/util/function/BiFunction;)I"⟩
def dkwJ14_checkIndex_0 : List UInt8 := [26, 155, 0, 8, 26, 27, 161, 0, 10, 44, 26, 27, 184, 0, 95, 191, 26, 172]
abbrev dktJ14_checkIndex_0 : List UInt8 := dkwJ14_checkIndex_0 ++ []
theorem dksJ14_checkIndex_0 : cJ14_checkIndex.data.toList.drop 0 = dktJ14_checkIndex_0 := by decide +kernel
theorem dJ14_checkIndex_0 : decode cJ14_checkIndex 0 = .ok (.iload_n 0, 1) := dk_26 (dk_at dksJ14_checkIndex_0 0 rfl rfl)
theorem dJ14_checkIndex_1 : decode cJ14_checkIndex 1 = .ok (.ifCond .lt 8, 3) := dk_155 0 8 (dk_at dksJ14_checkIndex_0 1 rfl rfl)
theorem dJ14_checkIndex_4 : decode cJ14_checkIndex 4 = .ok (.iload_n 0, 1) := dk_26 (dk_at dksJ14_checkIndex_0 4 rfl rfl)
theorem dJ14_checkIndex_5 : decode cJ14_checkIndex 5 = .ok (.iload_n 1, 1) := dk_27 (dk_at dksJ14_checkIndex_0 5 rfl rfl)
theorem dJ14_checkIndex_6 : decode cJ14_checkIndex 6 = .ok (.if_icmp .lt 10, 3) := dk_161 0 10 (dk_at dksJ14_checkIndex_0 6 rfl rfl)
theorem dJ14_checkIndex_9 : decode cJ14_checkIndex 9 = .ok (.aload_n 2, 1) := dk_44 (dk_at dksJ14_checkIndex_0 9 rfl rfl)
theorem dJ14_checkIndex_10 : decode cJ14_checkIndex 10 = .ok (.iload_n 0, 1) := dk_26 (dk_at dksJ14_checkIndex_0 10 rfl rfl)
theorem dJ14_checkIndex_11 : decode cJ14_checkIndex 11 = .ok (.iload_n 1, 1) := dk_27 (dk_at dksJ14_checkIndex_0 11 rfl rfl)
theorem dJ14_checkIndex_12 : decode cJ14_checkIndex 12 = .ok (.invokestatic 95, 3) := dk_184 0 95 (dk_at dksJ14_checkIndex_0 12 rfl rfl)
theorem dJ14_checkIndex_15 : decode cJ14_checkIndex 15 = .ok (.athrow, 1) := dk_191 (dk_at dksJ14_checkIndex_0 15 rfl rfl)
theorem dJ14_checkIndex_16 : decode cJ14_checkIndex 16 = .ok (.iload_n 0, 1) := dk_26 (dk_at dksJ14_checkIndex_0 16 rfl rfl)
theorem dJ14_checkIndex_17 : decode cJ14_checkIndex 17 = .ok (.ireturn, 1) := dk_172 (dk_at dksJ14_checkIndex_0 17 rfl rfl)
theorem q113 : (Jvm.Cond.initialized "jdk/internal/util/Preconditions") ∈ lw_all := lw_g (lw_at lw_m1 18 rfl) rfl
theorem q305 : (Jvm.Cond.laysStatic "jdk/internal/util/Preconditions" "SIOOBE_FORMATTER" "Ljava/util/function/BiFunction;") ∈ lw_tbl := lw_at lw_m1 210 rfl
theorem q307 : (Jvm.Cond.static ({ cls := "jdk/internal/util/Preconditions", name := "checkFromToIndex", desc := "(IIILjava/util/function/BiFunction;)I" } : Jvm.MethodName)) ∈ lw_all := lw_g (lw_at lw_m1 212 rfl) rfl
theorem q308 : (Jvm.Cond.code ({ cls := "jdk/internal/util/Preconditions", name := "checkFromToIndex", desc := "(IIILjava/util/function/BiFunction;)I" } : Jvm.MethodName) prog_48_method_12_code (4 : Nat) (Option.some Jvm.ClassFile.FieldType.int)) ∈ lw_all := lw_g (lw_at lw_m1 213 rfl) rfl
theorem q353 : (Jvm.Cond.static ({ cls := "jdk/internal/util/Preconditions", name := "checkFromIndexSize", desc := "(IIILjava/util/function/BiFunction;)I" } : Jvm.MethodName)) ∈ lw_all := lw_g (lw_at lw_m2 18 rfl) rfl
theorem q354 : (Jvm.Cond.code ({ cls := "jdk/internal/util/Preconditions", name := "checkFromIndexSize", desc := "(IIILjava/util/function/BiFunction;)I" } : Jvm.MethodName) prog_48_method_13_code (4 : Nat) (Option.some Jvm.ClassFile.FieldType.int)) ∈ lw_all := lw_g (lw_at lw_m2 19 rfl) rfl
theorem q547 : (Jvm.Cond.static ({ cls := "jdk/internal/util/Preconditions", name := "checkIndex", desc := "(IILjava/util/function/BiFunction;)I" } : Jvm.MethodName)) ∈ lw_all := lw_g (lw_at lw_m2 212 rfl) rfl
theorem q548 : (Jvm.Cond.code ({ cls := "jdk/internal/util/Preconditions", name := "checkIndex", desc := "(IILjava/util/function/BiFunction;)I" } : Jvm.MethodName) prog_48_method_11_code (3 : Nat) (Option.some Jvm.ClassFile.FieldType.int)) ∈ lw_all := lw_g (lw_at lw_m2 213 rfl) rfl
/-! java/util/Objects -/
set_option maxRecDepth 100000
def RJ18 : String := "java/util/Objects"
abbrev cJ18_checkIndex : ByteArray := prog_43_method_17_code
def yJ18_checkIndex : MethodName := ⟨RJ18, "checkIndex", "(II)I"⟩
def dkwJ18_checkIndex_0 : List UInt8 := [26, 27, 1, 184, 0, 105, 172]
abbrev dktJ18_checkIndex_0 : List UInt8 := dkwJ18_checkIndex_0 ++ []
theorem dksJ18_checkIndex_0 : cJ18_checkIndex.data.toList.drop 0 = dktJ18_checkIndex_0 := by decide +kernel
theorem dJ18_checkIndex_0 : decode cJ18_checkIndex 0 = .ok (.iload_n 0, 1) := dk_26 (dk_at dksJ18_checkIndex_0 0 rfl rfl)
theorem dJ18_checkIndex_1 : decode cJ18_checkIndex 1 = .ok (.iload_n 1, 1) := dk_27 (dk_at dksJ18_checkIndex_0 1 rfl rfl)
theorem dJ18_checkIndex_2 : decode cJ18_checkIndex 2 = .ok (.aconst_null, 1) := dk_1 (dk_at dksJ18_checkIndex_0 2 rfl rfl)
theorem dJ18_checkIndex_3 : decode cJ18_checkIndex 3 = .ok (.invokestatic 105, 3) := dk_184 0 105 (dk_at dksJ18_checkIndex_0 3 rfl rfl)
theorem dJ18_checkIndex_6 : decode cJ18_checkIndex 6 = .ok (.ireturn, 1) := dk_172 (dk_at dksJ18_checkIndex_0 6 rfl rfl)
theorem q120 : (Jvm.Cond.initialized "java/util/Objects") ∈ lw_all := lw_g (lw_at lw_m1 25 rfl) rfl
theorem q674 : (Jvm.Cond.static ({ cls := "java/util/Objects", name := "checkIndex", desc := "(II)I" } : Jvm.MethodName)) ∈ lw_all := lw_g (lw_at lw_m3 99 rfl) rfl
theorem q675 : (Jvm.Cond.code ({ cls := "java/util/Objects", name := "checkIndex", desc := "(II)I" } : Jvm.MethodName) prog_43_method_17_code (2 : Nat) (Option.some Jvm.ClassFile.FieldType.int)) ∈ lw_all := lw_g (lw_at lw_m3 100 rfl) rfl
theorem q676 : (Jvm.Cond.methodLink "java/util/Objects" (105 : Nat) ({ cls := "jdk/internal/util/Preconditions", name := "checkIndex", desc := "(IILjava/util/function/BiFunction;)I" } : Jvm.MethodName)) ∈ lw_all := lw_g (lw_at lw_m3 101 rfl) rfl
