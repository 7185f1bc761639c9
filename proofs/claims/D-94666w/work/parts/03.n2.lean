/-! WeekFoot$Big -/
set_option maxRecDepth 100000
def RX1 : String := "WeekFoot$Big"
def TX1 : u_T := fun k => match k with
  | _ => ("WeekFoot$Big", "parts", "[I", true)
def tyX1 : Nat → FieldType := fun k => match k with
  | _ => .array .int
abbrev wsX10 : List Cond := u_ws RX1 TX1 1
theorem nmX1 : ∀ a, a < 1 → ∀ b, b < 1 → a ≠ b → (TX1 a).2.1 ≠ (TX1 b).2.1 := by decide +kernel
theorem tyX1_ok : ∀ k, k < 1 → parseFieldDescriptor (TX1 k).2.2.1 = some (tyX1 k) := by decide +kernel
abbrev cX1_init : ByteArray := prog_3_method_1_code
def yX1_init : MethodName := ⟨RX1, "<init>", "()V"⟩
def dkwX1_init_0 : List UInt8 := [42, 183, 0, 3, 42, 16, 7, 188, 10, 181, 0, 9, 177]
abbrev dktX1_init_0 : List UInt8 := dkwX1_init_0 ++ []
theorem dksX1_init_0 : cX1_init.data.toList.drop 0 = dktX1_init_0 := by decide +kernel
theorem dX1_init_0 : decode cX1_init 0 = .ok (.aload_n 0, 1) := dk_42 (dk_at dksX1_init_0 0 rfl rfl)
theorem dX1_init_1 : decode cX1_init 1 = .ok (.invokespecial 3, 3) := dk_183 0 3 (dk_at dksX1_init_0 1 rfl rfl)
theorem dX1_init_4 : decode cX1_init 4 = .ok (.aload_n 0, 1) := dk_42 (dk_at dksX1_init_0 4 rfl rfl)
theorem dX1_init_5 : decode cX1_init 5 = .ok (.bipush 7, 2) := dk_16 7 (dk_at dksX1_init_0 5 rfl rfl)
theorem dX1_init_7 : decode cX1_init 7 = .ok (.newarray .int, 2) := dk_188_10 (dk_at dksX1_init_0 7 rfl rfl)
theorem dX1_init_9 : decode cX1_init 9 = .ok (.putfield 9, 3) := dk_181 0 9 (dk_at dksX1_init_0 9 rfl rfl)
theorem dX1_init_12 : decode cX1_init 12 = .ok (.return_, 1) := dk_177 (dk_at dksX1_init_0 12 rfl rfl)
abbrev cX1_be : ByteArray := prog_3_method_2_code
def yX1_be : MethodName := ⟨RX1, "be", "(I)V"⟩
def dkwX1_be_1 : List UInt8 := [180, 0, 9, 3, 27, 79, 177]
abbrev dktX1_be_1 : List UInt8 := dkwX1_be_1 ++ []
def dkwX1_be_0 : List UInt8 := [3, 61, 28, 16, 7, 162, 0, 16, 42, 180, 0, 9, 28, 3, 79, 132, 2, 1, 167, 255, 240, 42]
abbrev dktX1_be_0 : List UInt8 := dkwX1_be_0 ++ dktX1_be_1
theorem dksX1_be_0 : cX1_be.data.toList.drop 0 = dktX1_be_0 := by decide +kernel
theorem dksX1_be_1 : cX1_be.data.toList.drop 22 = dktX1_be_1 := dk_seg dksX1_be_0 22 rfl rfl
theorem dX1_be_0 : decode cX1_be 0 = .ok (.iconst 0, 1) := dk_3 (dk_at dksX1_be_0 0 rfl rfl)
theorem dX1_be_1 : decode cX1_be 1 = .ok (.istore_n 2, 1) := dk_61 (dk_at dksX1_be_0 1 rfl rfl)
theorem dX1_be_2 : decode cX1_be 2 = .ok (.iload_n 2, 1) := dk_28 (dk_at dksX1_be_0 2 rfl rfl)
theorem dX1_be_3 : decode cX1_be 3 = .ok (.bipush 7, 2) := dk_16 7 (dk_at dksX1_be_0 3 rfl rfl)
theorem dX1_be_5 : decode cX1_be 5 = .ok (.if_icmp .ge 16, 3) := dk_162 0 16 (dk_at dksX1_be_0 5 rfl rfl)
theorem dX1_be_8 : decode cX1_be 8 = .ok (.aload_n 0, 1) := dk_42 (dk_at dksX1_be_0 8 rfl rfl)
theorem dX1_be_9 : decode cX1_be 9 = .ok (.getfield 9, 3) := dk_180 0 9 (dk_at dksX1_be_0 9 rfl rfl)
theorem dX1_be_12 : decode cX1_be 12 = .ok (.iload_n 2, 1) := dk_28 (dk_at dksX1_be_0 12 rfl rfl)
theorem dX1_be_13 : decode cX1_be 13 = .ok (.iconst 0, 1) := dk_3 (dk_at dksX1_be_0 13 rfl rfl)
theorem dX1_be_14 : decode cX1_be 14 = .ok (.iastore, 1) := dk_79 (dk_at dksX1_be_0 14 rfl rfl)
theorem dX1_be_15 : decode cX1_be 15 = .ok (.iinc 2 1, 3) := dk_132 2 1 (dk_at dksX1_be_0 15 rfl rfl)
theorem dX1_be_18 : decode cX1_be 18 = .ok (.goto (-16), 3) := dk_167 255 240 (dk_at dksX1_be_0 18 rfl rfl)
theorem dX1_be_21 : decode cX1_be 21 = .ok (.aload_n 0, 1) := dk_42 (dk_at dksX1_be_0 21 rfl rfl)
theorem dX1_be_22 : decode cX1_be 22 = .ok (.getfield 9, 3) := dk_180 0 9 (dk_at dksX1_be_1 0 rfl rfl)
theorem dX1_be_25 : decode cX1_be 25 = .ok (.iconst 0, 1) := dk_3 (dk_at dksX1_be_1 3 rfl rfl)
theorem dX1_be_26 : decode cX1_be 26 = .ok (.iload_n 1, 1) := dk_27 (dk_at dksX1_be_1 4 rfl rfl)
theorem dX1_be_27 : decode cX1_be 27 = .ok (.iastore, 1) := dk_79 (dk_at dksX1_be_1 5 rfl rfl)
theorem dX1_be_28 : decode cX1_be 28 = .ok (.return_, 1) := dk_177 (dk_at dksX1_be_1 6 rfl rfl)
abbrev cX1_product : ByteArray := prog_3_method_5_code
def yX1_product : MethodName := ⟨RX1, "product", "(LWeekFoot$Big;LWeekFoot$Big;)V"⟩
def dkwX1_product_4 : List UInt8 := [55, 4, 132, 6, 1, 167, 255, 188, 132, 3, 1, 167, 255, 158, 177]
abbrev dktX1_product_4 : List UInt8 := dkwX1_product_4 ++ []
def dkwX1_product_3 : List UInt8 := [55, 4, 42, 180, 0, 9, 29, 21, 6, 96, 22, 4, 20, 0, 21, 113, 136, 79, 22, 4, 20, 0, 21, 109]
abbrev dktX1_product_3 : List UInt8 := dkwX1_product_3 ++ dktX1_product_4
def dkwX1_product_2 : List UInt8 := [29, 21, 6, 96, 46, 133, 43, 180, 0, 9, 29, 46, 133, 44, 180, 0, 9, 21, 6, 46, 133, 105, 97, 97]
abbrev dktX1_product_2 : List UInt8 := dkwX1_product_2 ++ dktX1_product_3
def dkwX1_product_1 : List UInt8 := [167, 0, 80, 9, 55, 4, 3, 54, 6, 29, 21, 6, 96, 16, 7, 162, 0, 65, 22, 4, 42, 180, 0, 9]
abbrev dktX1_product_1 : List UInt8 := dkwX1_product_1 ++ dktX1_product_2
def dkwX1_product_0 : List UInt8 := [42, 3, 182, 0, 23, 3, 62, 29, 16, 7, 162, 0, 98, 43, 180, 0, 9, 29, 46, 154, 0, 6]
abbrev dktX1_product_0 : List UInt8 := dkwX1_product_0 ++ dktX1_product_1
theorem dksX1_product_0 : cX1_product.data.toList.drop 0 = dktX1_product_0 := by decide +kernel
theorem dksX1_product_1 : cX1_product.data.toList.drop 22 = dktX1_product_1 := dk_seg dksX1_product_0 22 rfl rfl
theorem dksX1_product_2 : cX1_product.data.toList.drop 46 = dktX1_product_2 := dk_seg dksX1_product_1 24 rfl rfl
theorem dksX1_product_3 : cX1_product.data.toList.drop 70 = dktX1_product_3 := dk_seg dksX1_product_2 24 rfl rfl
theorem dksX1_product_4 : cX1_product.data.toList.drop 94 = dktX1_product_4 := dk_seg dksX1_product_3 24 rfl rfl
theorem dX1_product_0 : decode cX1_product 0 = .ok (.aload_n 0, 1) := dk_42 (dk_at dksX1_product_0 0 rfl rfl)
theorem dX1_product_1 : decode cX1_product 1 = .ok (.iconst 0, 1) := dk_3 (dk_at dksX1_product_0 1 rfl rfl)
theorem dX1_product_2 : decode cX1_product 2 = .ok (.invokevirtual 23, 3) := dk_182 0 23 (dk_at dksX1_product_0 2 rfl rfl)
theorem dX1_product_5 : decode cX1_product 5 = .ok (.iconst 0, 1) := dk_3 (dk_at dksX1_product_0 5 rfl rfl)
theorem dX1_product_6 : decode cX1_product 6 = .ok (.istore_n 3, 1) := dk_62 (dk_at dksX1_product_0 6 rfl rfl)
theorem dX1_product_7 : decode cX1_product 7 = .ok (.iload_n 3, 1) := dk_29 (dk_at dksX1_product_0 7 rfl rfl)
theorem dX1_product_8 : decode cX1_product 8 = .ok (.bipush 7, 2) := dk_16 7 (dk_at dksX1_product_0 8 rfl rfl)
theorem dX1_product_10 : decode cX1_product 10 = .ok (.if_icmp .ge 98, 3) := dk_162 0 98 (dk_at dksX1_product_0 10 rfl rfl)
theorem dX1_product_13 : decode cX1_product 13 = .ok (.aload_n 1, 1) := dk_43 (dk_at dksX1_product_0 13 rfl rfl)
theorem dX1_product_14 : decode cX1_product 14 = .ok (.getfield 9, 3) := dk_180 0 9 (dk_at dksX1_product_0 14 rfl rfl)
theorem dX1_product_17 : decode cX1_product 17 = .ok (.iload_n 3, 1) := dk_29 (dk_at dksX1_product_0 17 rfl rfl)
theorem dX1_product_18 : decode cX1_product 18 = .ok (.iaload, 1) := dk_46 (dk_at dksX1_product_0 18 rfl rfl)
theorem dX1_product_19 : decode cX1_product 19 = .ok (.ifCond .ne 6, 3) := dk_154 0 6 (dk_at dksX1_product_0 19 rfl rfl)
theorem dX1_product_22 : decode cX1_product 22 = .ok (.goto 80, 3) := dk_167 0 80 (dk_at dksX1_product_1 0 rfl rfl)
theorem dX1_product_25 : decode cX1_product 25 = .ok (.lconst 0, 1) := dk_9 (dk_at dksX1_product_1 3 rfl rfl)
theorem dX1_product_26 : decode cX1_product 26 = .ok (.lstore 4, 2) := dk_55 4 (dk_at dksX1_product_1 4 rfl rfl)
theorem dX1_product_28 : decode cX1_product 28 = .ok (.iconst 0, 1) := dk_3 (dk_at dksX1_product_1 6 rfl rfl)
theorem dX1_product_29 : decode cX1_product 29 = .ok (.istore 6, 2) := dk_54 6 (dk_at dksX1_product_1 7 rfl rfl)
theorem dX1_product_31 : decode cX1_product 31 = .ok (.iload_n 3, 1) := dk_29 (dk_at dksX1_product_1 9 rfl rfl)
theorem dX1_product_32 : decode cX1_product 32 = .ok (.iload 6, 2) := dk_21 6 (dk_at dksX1_product_1 10 rfl rfl)
theorem dX1_product_34 : decode cX1_product 34 = .ok (.iadd, 1) := dk_96 (dk_at dksX1_product_1 12 rfl rfl)
theorem dX1_product_35 : decode cX1_product 35 = .ok (.bipush 7, 2) := dk_16 7 (dk_at dksX1_product_1 13 rfl rfl)
theorem dX1_product_37 : decode cX1_product 37 = .ok (.if_icmp .ge 65, 3) := dk_162 0 65 (dk_at dksX1_product_1 15 rfl rfl)
theorem dX1_product_40 : decode cX1_product 40 = .ok (.lload 4, 2) := dk_22 4 (dk_at dksX1_product_1 18 rfl rfl)
theorem dX1_product_42 : decode cX1_product 42 = .ok (.aload_n 0, 1) := dk_42 (dk_at dksX1_product_1 20 rfl rfl)
theorem dX1_product_43 : decode cX1_product 43 = .ok (.getfield 9, 3) := dk_180 0 9 (dk_at dksX1_product_1 21 rfl rfl)
theorem dX1_product_46 : decode cX1_product 46 = .ok (.iload_n 3, 1) := dk_29 (dk_at dksX1_product_2 0 rfl rfl)
theorem dX1_product_47 : decode cX1_product 47 = .ok (.iload 6, 2) := dk_21 6 (dk_at dksX1_product_2 1 rfl rfl)
theorem dX1_product_49 : decode cX1_product 49 = .ok (.iadd, 1) := dk_96 (dk_at dksX1_product_2 3 rfl rfl)
theorem dX1_product_50 : decode cX1_product 50 = .ok (.iaload, 1) := dk_46 (dk_at dksX1_product_2 4 rfl rfl)
theorem dX1_product_51 : decode cX1_product 51 = .ok (.i2l, 1) := dk_133 (dk_at dksX1_product_2 5 rfl rfl)
theorem dX1_product_52 : decode cX1_product 52 = .ok (.aload_n 1, 1) := dk_43 (dk_at dksX1_product_2 6 rfl rfl)
theorem dX1_product_53 : decode cX1_product 53 = .ok (.getfield 9, 3) := dk_180 0 9 (dk_at dksX1_product_2 7 rfl rfl)
theorem dX1_product_56 : decode cX1_product 56 = .ok (.iload_n 3, 1) := dk_29 (dk_at dksX1_product_2 10 rfl rfl)
theorem dX1_product_57 : decode cX1_product 57 = .ok (.iaload, 1) := dk_46 (dk_at dksX1_product_2 11 rfl rfl)
theorem dX1_product_58 : decode cX1_product 58 = .ok (.i2l, 1) := dk_133 (dk_at dksX1_product_2 12 rfl rfl)
theorem dX1_product_59 : decode cX1_product 59 = .ok (.aload_n 2, 1) := dk_44 (dk_at dksX1_product_2 13 rfl rfl)
theorem dX1_product_60 : decode cX1_product 60 = .ok (.getfield 9, 3) := dk_180 0 9 (dk_at dksX1_product_2 14 rfl rfl)
theorem dX1_product_63 : decode cX1_product 63 = .ok (.iload 6, 2) := dk_21 6 (dk_at dksX1_product_2 17 rfl rfl)
theorem dX1_product_65 : decode cX1_product 65 = .ok (.iaload, 1) := dk_46 (dk_at dksX1_product_2 19 rfl rfl)
theorem dX1_product_66 : decode cX1_product 66 = .ok (.i2l, 1) := dk_133 (dk_at dksX1_product_2 20 rfl rfl)
theorem dX1_product_67 : decode cX1_product 67 = .ok (.lmul, 1) := dk_105 (dk_at dksX1_product_2 21 rfl rfl)
theorem dX1_product_68 : decode cX1_product 68 = .ok (.ladd, 1) := dk_97 (dk_at dksX1_product_2 22 rfl rfl)
theorem dX1_product_69 : decode cX1_product 69 = .ok (.ladd, 1) := dk_97 (dk_at dksX1_product_2 23 rfl rfl)
theorem dX1_product_70 : decode cX1_product 70 = .ok (.lstore 4, 2) := dk_55 4 (dk_at dksX1_product_3 0 rfl rfl)
theorem dX1_product_72 : decode cX1_product 72 = .ok (.aload_n 0, 1) := dk_42 (dk_at dksX1_product_3 2 rfl rfl)
theorem dX1_product_73 : decode cX1_product 73 = .ok (.getfield 9, 3) := dk_180 0 9 (dk_at dksX1_product_3 3 rfl rfl)
theorem dX1_product_76 : decode cX1_product 76 = .ok (.iload_n 3, 1) := dk_29 (dk_at dksX1_product_3 6 rfl rfl)
theorem dX1_product_77 : decode cX1_product 77 = .ok (.iload 6, 2) := dk_21 6 (dk_at dksX1_product_3 7 rfl rfl)
theorem dX1_product_79 : decode cX1_product 79 = .ok (.iadd, 1) := dk_96 (dk_at dksX1_product_3 9 rfl rfl)
theorem dX1_product_80 : decode cX1_product 80 = .ok (.lload 4, 2) := dk_22 4 (dk_at dksX1_product_3 10 rfl rfl)
theorem dX1_product_82 : decode cX1_product 82 = .ok (.ldc2_w 21, 3) := dk_20 0 21 (dk_at dksX1_product_3 12 rfl rfl)
theorem dX1_product_85 : decode cX1_product 85 = .ok (.lrem, 1) := dk_113 (dk_at dksX1_product_3 15 rfl rfl)
theorem dX1_product_86 : decode cX1_product 86 = .ok (.l2i, 1) := dk_136 (dk_at dksX1_product_3 16 rfl rfl)
theorem dX1_product_87 : decode cX1_product 87 = .ok (.iastore, 1) := dk_79 (dk_at dksX1_product_3 17 rfl rfl)
theorem dX1_product_88 : decode cX1_product 88 = .ok (.lload 4, 2) := dk_22 4 (dk_at dksX1_product_3 18 rfl rfl)
theorem dX1_product_90 : decode cX1_product 90 = .ok (.ldc2_w 21, 3) := dk_20 0 21 (dk_at dksX1_product_3 20 rfl rfl)
theorem dX1_product_93 : decode cX1_product 93 = .ok (.ldiv, 1) := dk_109 (dk_at dksX1_product_3 23 rfl rfl)
theorem dX1_product_94 : decode cX1_product 94 = .ok (.lstore 4, 2) := dk_55 4 (dk_at dksX1_product_4 0 rfl rfl)
theorem dX1_product_96 : decode cX1_product 96 = .ok (.iinc 6 1, 3) := dk_132 6 1 (dk_at dksX1_product_4 2 rfl rfl)
theorem dX1_product_99 : decode cX1_product 99 = .ok (.goto (-68), 3) := dk_167 255 188 (dk_at dksX1_product_4 5 rfl rfl)
theorem dX1_product_102 : decode cX1_product 102 = .ok (.iinc 3 1, 3) := dk_132 3 1 (dk_at dksX1_product_4 8 rfl rfl)
theorem dX1_product_105 : decode cX1_product 105 = .ok (.goto (-98), 3) := dk_167 255 158 (dk_at dksX1_product_4 11 rfl rfl)
theorem dX1_product_108 : decode cX1_product 108 = .ok (.return_, 1) := dk_177 (dk_at dksX1_product_4 14 rfl rfl)
abbrev cX1_against : ByteArray := prog_3_method_6_code
def yX1_against : MethodName := ⟨RX1, "against", "(LWeekFoot$Big;)I"⟩
def dkwX1_against_1 : List UInt8 := [132, 2, 255, 167, 255, 234, 42, 180, 0, 9, 28, 46, 43, 180, 0, 9, 28, 46, 100, 184, 0, 27, 172]
abbrev dktX1_against_1 : List UInt8 := dkwX1_against_1 ++ []
def dkwX1_against_0 : List UInt8 := [16, 6, 61, 28, 158, 0, 24, 42, 180, 0, 9, 28, 46, 43, 180, 0, 9, 28, 46, 160, 0, 9]
abbrev dktX1_against_0 : List UInt8 := dkwX1_against_0 ++ dktX1_against_1
theorem dksX1_against_0 : cX1_against.data.toList.drop 0 = dktX1_against_0 := by decide +kernel
theorem dksX1_against_1 : cX1_against.data.toList.drop 22 = dktX1_against_1 := dk_seg dksX1_against_0 22 rfl rfl
theorem dX1_against_0 : decode cX1_against 0 = .ok (.bipush 6, 2) := dk_16 6 (dk_at dksX1_against_0 0 rfl rfl)
theorem dX1_against_2 : decode cX1_against 2 = .ok (.istore_n 2, 1) := dk_61 (dk_at dksX1_against_0 2 rfl rfl)
theorem dX1_against_3 : decode cX1_against 3 = .ok (.iload_n 2, 1) := dk_28 (dk_at dksX1_against_0 3 rfl rfl)
theorem dX1_against_4 : decode cX1_against 4 = .ok (.ifCond .le 24, 3) := dk_158 0 24 (dk_at dksX1_against_0 4 rfl rfl)
theorem dX1_against_7 : decode cX1_against 7 = .ok (.aload_n 0, 1) := dk_42 (dk_at dksX1_against_0 7 rfl rfl)
theorem dX1_against_8 : decode cX1_against 8 = .ok (.getfield 9, 3) := dk_180 0 9 (dk_at dksX1_against_0 8 rfl rfl)
theorem dX1_against_11 : decode cX1_against 11 = .ok (.iload_n 2, 1) := dk_28 (dk_at dksX1_against_0 11 rfl rfl)
theorem dX1_against_12 : decode cX1_against 12 = .ok (.iaload, 1) := dk_46 (dk_at dksX1_against_0 12 rfl rfl)
theorem dX1_against_13 : decode cX1_against 13 = .ok (.aload_n 1, 1) := dk_43 (dk_at dksX1_against_0 13 rfl rfl)
theorem dX1_against_14 : decode cX1_against 14 = .ok (.getfield 9, 3) := dk_180 0 9 (dk_at dksX1_against_0 14 rfl rfl)
theorem dX1_against_17 : decode cX1_against 17 = .ok (.iload_n 2, 1) := dk_28 (dk_at dksX1_against_0 17 rfl rfl)
theorem dX1_against_18 : decode cX1_against 18 = .ok (.iaload, 1) := dk_46 (dk_at dksX1_against_0 18 rfl rfl)
theorem dX1_against_19 : decode cX1_against 19 = .ok (.if_icmp .ne 9, 3) := dk_160 0 9 (dk_at dksX1_against_0 19 rfl rfl)
theorem dX1_against_22 : decode cX1_against 22 = .ok (.iinc 2 (-1), 3) := dk_132 2 255 (dk_at dksX1_against_1 0 rfl rfl)
theorem dX1_against_25 : decode cX1_against 25 = .ok (.goto (-22), 3) := dk_167 255 234 (dk_at dksX1_against_1 3 rfl rfl)
theorem dX1_against_28 : decode cX1_against 28 = .ok (.aload_n 0, 1) := dk_42 (dk_at dksX1_against_1 6 rfl rfl)
theorem dX1_against_29 : decode cX1_against 29 = .ok (.getfield 9, 3) := dk_180 0 9 (dk_at dksX1_against_1 7 rfl rfl)
theorem dX1_against_32 : decode cX1_against 32 = .ok (.iload_n 2, 1) := dk_28 (dk_at dksX1_against_1 10 rfl rfl)
theorem dX1_against_33 : decode cX1_against 33 = .ok (.iaload, 1) := dk_46 (dk_at dksX1_against_1 11 rfl rfl)
theorem dX1_against_34 : decode cX1_against 34 = .ok (.aload_n 1, 1) := dk_43 (dk_at dksX1_against_1 12 rfl rfl)
theorem dX1_against_35 : decode cX1_against 35 = .ok (.getfield 9, 3) := dk_180 0 9 (dk_at dksX1_against_1 13 rfl rfl)
theorem dX1_against_38 : decode cX1_against 38 = .ok (.iload_n 2, 1) := dk_28 (dk_at dksX1_against_1 16 rfl rfl)
theorem dX1_against_39 : decode cX1_against 39 = .ok (.iaload, 1) := dk_46 (dk_at dksX1_against_1 17 rfl rfl)
theorem dX1_against_40 : decode cX1_against 40 = .ok (.isub, 1) := dk_100 (dk_at dksX1_against_1 18 rfl rfl)
theorem dX1_against_41 : decode cX1_against 41 = .ok (.invokestatic 27, 3) := dk_184 0 27 (dk_at dksX1_against_1 19 rfl rfl)
theorem dX1_against_44 : decode cX1_against 44 = .ok (.ireturn, 1) := dk_172 (dk_at dksX1_against_1 22 rfl rfl)
abbrev cX1_like : ByteArray := prog_3_method_3_code
def yX1_like : MethodName := ⟨RX1, "like", "(LWeekFoot$Big;)V"⟩
def dkwX1_like_0 : List UInt8 := [43, 180, 0, 9, 3, 42, 180, 0, 9, 3, 16, 7, 184, 0, 15, 177]
abbrev dktX1_like_0 : List UInt8 := dkwX1_like_0 ++ []
theorem dksX1_like_0 : cX1_like.data.toList.drop 0 = dktX1_like_0 := by decide +kernel
theorem dX1_like_0 : decode cX1_like 0 = .ok (.aload_n 1, 1) := dk_43 (dk_at dksX1_like_0 0 rfl rfl)
theorem dX1_like_1 : decode cX1_like 1 = .ok (.getfield 9, 3) := dk_180 0 9 (dk_at dksX1_like_0 1 rfl rfl)
theorem dX1_like_4 : decode cX1_like 4 = .ok (.iconst 0, 1) := dk_3 (dk_at dksX1_like_0 4 rfl rfl)
theorem dX1_like_5 : decode cX1_like 5 = .ok (.aload_n 0, 1) := dk_42 (dk_at dksX1_like_0 5 rfl rfl)
theorem dX1_like_6 : decode cX1_like 6 = .ok (.getfield 9, 3) := dk_180 0 9 (dk_at dksX1_like_0 6 rfl rfl)
theorem dX1_like_9 : decode cX1_like 9 = .ok (.iconst 0, 1) := dk_3 (dk_at dksX1_like_0 9 rfl rfl)
theorem dX1_like_10 : decode cX1_like 10 = .ok (.bipush 7, 2) := dk_16 7 (dk_at dksX1_like_0 10 rfl rfl)
theorem dX1_like_12 : decode cX1_like 12 = .ok (.invokestatic 15, 3) := dk_184 0 15 (dk_at dksX1_like_0 12 rfl rfl)
theorem dX1_like_15 : decode cX1_like 15 = .ok (.return_, 1) := dk_177 (dk_at dksX1_like_0 15 rfl rfl)
abbrev cX1_times : ByteArray := prog_3_method_4_code
def yX1_times : MethodName := ⟨RX1, "times", "(I)V"⟩
def dkwX1_times_2 : List UInt8 := [167, 255, 213, 177]
abbrev dktX1_times_2 : List UInt8 := dkwX1_times_2 ++ []
def dkwX1_times_1 : List UInt8 := [97, 65, 42, 180, 0, 9, 21, 4, 32, 20, 0, 21, 113, 136, 79, 32, 20, 0, 21, 109, 65, 132, 4, 1]
abbrev dktX1_times_1 : List UInt8 := dkwX1_times_1 ++ dktX1_times_2
def dkwX1_times_0 : List UInt8 := [9, 65, 3, 54, 4, 21, 4, 16, 7, 162, 0, 42, 32, 42, 180, 0, 9, 21, 4, 46, 133, 27, 133, 105]
abbrev dktX1_times_0 : List UInt8 := dkwX1_times_0 ++ dktX1_times_1
theorem dksX1_times_0 : cX1_times.data.toList.drop 0 = dktX1_times_0 := by decide +kernel
theorem dksX1_times_1 : cX1_times.data.toList.drop 24 = dktX1_times_1 := dk_seg dksX1_times_0 24 rfl rfl
theorem dksX1_times_2 : cX1_times.data.toList.drop 48 = dktX1_times_2 := dk_seg dksX1_times_1 24 rfl rfl
theorem dX1_times_0 : decode cX1_times 0 = .ok (.lconst 0, 1) := dk_9 (dk_at dksX1_times_0 0 rfl rfl)
theorem dX1_times_1 : decode cX1_times 1 = .ok (.lstore_n 2, 1) := dk_65 (dk_at dksX1_times_0 1 rfl rfl)
theorem dX1_times_2 : decode cX1_times 2 = .ok (.iconst 0, 1) := dk_3 (dk_at dksX1_times_0 2 rfl rfl)
theorem dX1_times_3 : decode cX1_times 3 = .ok (.istore 4, 2) := dk_54 4 (dk_at dksX1_times_0 3 rfl rfl)
theorem dX1_times_5 : decode cX1_times 5 = .ok (.iload 4, 2) := dk_21 4 (dk_at dksX1_times_0 5 rfl rfl)
theorem dX1_times_7 : decode cX1_times 7 = .ok (.bipush 7, 2) := dk_16 7 (dk_at dksX1_times_0 7 rfl rfl)
theorem dX1_times_9 : decode cX1_times 9 = .ok (.if_icmp .ge 42, 3) := dk_162 0 42 (dk_at dksX1_times_0 9 rfl rfl)
theorem dX1_times_12 : decode cX1_times 12 = .ok (.lload_n 2, 1) := dk_32 (dk_at dksX1_times_0 12 rfl rfl)
theorem dX1_times_13 : decode cX1_times 13 = .ok (.aload_n 0, 1) := dk_42 (dk_at dksX1_times_0 13 rfl rfl)
theorem dX1_times_14 : decode cX1_times 14 = .ok (.getfield 9, 3) := dk_180 0 9 (dk_at dksX1_times_0 14 rfl rfl)
theorem dX1_times_17 : decode cX1_times 17 = .ok (.iload 4, 2) := dk_21 4 (dk_at dksX1_times_0 17 rfl rfl)
theorem dX1_times_19 : decode cX1_times 19 = .ok (.iaload, 1) := dk_46 (dk_at dksX1_times_0 19 rfl rfl)
theorem dX1_times_20 : decode cX1_times 20 = .ok (.i2l, 1) := dk_133 (dk_at dksX1_times_0 20 rfl rfl)
theorem dX1_times_21 : decode cX1_times 21 = .ok (.iload_n 1, 1) := dk_27 (dk_at dksX1_times_0 21 rfl rfl)
theorem dX1_times_22 : decode cX1_times 22 = .ok (.i2l, 1) := dk_133 (dk_at dksX1_times_0 22 rfl rfl)
theorem dX1_times_23 : decode cX1_times 23 = .ok (.lmul, 1) := dk_105 (dk_at dksX1_times_0 23 rfl rfl)
theorem dX1_times_24 : decode cX1_times 24 = .ok (.ladd, 1) := dk_97 (dk_at dksX1_times_1 0 rfl rfl)
theorem dX1_times_25 : decode cX1_times 25 = .ok (.lstore_n 2, 1) := dk_65 (dk_at dksX1_times_1 1 rfl rfl)
theorem dX1_times_26 : decode cX1_times 26 = .ok (.aload_n 0, 1) := dk_42 (dk_at dksX1_times_1 2 rfl rfl)
theorem dX1_times_27 : decode cX1_times 27 = .ok (.getfield 9, 3) := dk_180 0 9 (dk_at dksX1_times_1 3 rfl rfl)
theorem dX1_times_30 : decode cX1_times 30 = .ok (.iload 4, 2) := dk_21 4 (dk_at dksX1_times_1 6 rfl rfl)
theorem dX1_times_32 : decode cX1_times 32 = .ok (.lload_n 2, 1) := dk_32 (dk_at dksX1_times_1 8 rfl rfl)
theorem dX1_times_33 : decode cX1_times 33 = .ok (.ldc2_w 21, 3) := dk_20 0 21 (dk_at dksX1_times_1 9 rfl rfl)
theorem dX1_times_36 : decode cX1_times 36 = .ok (.lrem, 1) := dk_113 (dk_at dksX1_times_1 12 rfl rfl)
theorem dX1_times_37 : decode cX1_times 37 = .ok (.l2i, 1) := dk_136 (dk_at dksX1_times_1 13 rfl rfl)
theorem dX1_times_38 : decode cX1_times 38 = .ok (.iastore, 1) := dk_79 (dk_at dksX1_times_1 14 rfl rfl)
theorem dX1_times_39 : decode cX1_times 39 = .ok (.lload_n 2, 1) := dk_32 (dk_at dksX1_times_1 15 rfl rfl)
theorem dX1_times_40 : decode cX1_times 40 = .ok (.ldc2_w 21, 3) := dk_20 0 21 (dk_at dksX1_times_1 16 rfl rfl)
theorem dX1_times_43 : decode cX1_times 43 = .ok (.ldiv, 1) := dk_109 (dk_at dksX1_times_1 19 rfl rfl)
theorem dX1_times_44 : decode cX1_times 44 = .ok (.lstore_n 2, 1) := dk_65 (dk_at dksX1_times_1 20 rfl rfl)
theorem dX1_times_45 : decode cX1_times 45 = .ok (.iinc 4 1, 3) := dk_132 4 1 (dk_at dksX1_times_1 21 rfl rfl)
theorem dX1_times_48 : decode cX1_times 48 = .ok (.goto (-43), 3) := dk_167 255 213 (dk_at dksX1_times_2 0 rfl rfl)
theorem dX1_times_51 : decode cX1_times 51 = .ok (.return_, 1) := dk_177 (dk_at dksX1_times_2 3 rfl rfl)
theorem q105 : (Jvm.Cond.initialized "WeekFoot$Big") ∈ lw_all := lw_g (lw_at lw_m1 2 rfl) rfl
theorem q260 : (Jvm.Cond.selects "WeekFoot$Big" ({ cls := "java/lang/Object", name := "getClass", desc := "()Ljava/lang/Class;" } : Jvm.MethodName) ({ cls := "java/lang/Object", name := "getClass", desc := "()Ljava/lang/Class;" } : Jvm.MethodName)) ∈ lw_all := lw_g (lw_at lw_m1 157 rfl) rfl
theorem q760 : (Jvm.Cond.instantiable "WeekFoot$Big" (1 : Nat)) ∈ lw_all := lw_g (lw_at lw_m3 177 rfl) rfl
theorem q762 : (Jvm.Cond.instanceMethod ({ cls := "WeekFoot$Big", name := "<init>", desc := "()V" } : Jvm.MethodName)) ∈ lw_all := lw_g (lw_at lw_m3 179 rfl) rfl
theorem q763 : (Jvm.Cond.code ({ cls := "WeekFoot$Big", name := "<init>", desc := "()V" } : Jvm.MethodName) prog_3_method_1_code (1 : Nat) (Option.none : Option Jvm.ClassFile.FieldType)) ∈ lw_all := lw_g (lw_at lw_m3 180 rfl) rfl
theorem q764 : (Jvm.Cond.methodLink "WeekFoot$Big" (3 : Nat) ({ cls := "java/lang/Object", name := "<init>", desc := "()V" } : Jvm.MethodName)) ∈ lw_all := lw_g (lw_at lw_m3 181 rfl) rfl
theorem q765 : (Jvm.Cond.fieldLink "WeekFoot$Big" (9 : Nat) "WeekFoot$Big" "parts" "[I") ∈ lw_all := lw_g (lw_at lw_m3 182 rfl) rfl
theorem q767 : (Jvm.Cond.laysFinal "WeekFoot$Big" "WeekFoot$Big" "parts" "[I") ∈ lw_all := lw_g (lw_at lw_m3 184 rfl) rfl
theorem q768 : (Jvm.Cond.soleField "WeekFoot$Big" "parts") ∈ lw_all := lw_g (lw_at lw_m3 185 rfl) rfl
theorem q769 : (Jvm.Cond.superclass "WeekFoot$Big" "java/lang/Object") ∈ lw_all := lw_g (lw_at lw_m3 186 rfl) rfl
theorem q988 : (Jvm.Cond.instanceMethod ({ cls := "WeekFoot$Big", name := "be", desc := "(I)V" } : Jvm.MethodName)) ∈ lw_all := lw_g (lw_at lw_m4 165 rfl) rfl
theorem q989 : (Jvm.Cond.selects "WeekFoot$Big" ({ cls := "WeekFoot$Big", name := "be", desc := "(I)V" } : Jvm.MethodName) ({ cls := "WeekFoot$Big", name := "be", desc := "(I)V" } : Jvm.MethodName)) ∈ lw_all := lw_g (lw_at lw_m4 166 rfl) rfl
theorem q990 : (Jvm.Cond.code ({ cls := "WeekFoot$Big", name := "be", desc := "(I)V" } : Jvm.MethodName) prog_3_method_2_code (3 : Nat) (Option.none : Option Jvm.ClassFile.FieldType)) ∈ lw_all := lw_g (lw_at lw_m4 167 rfl) rfl
theorem q996 : (Jvm.Cond.instanceMethod ({ cls := "WeekFoot$Big", name := "product", desc := "(LWeekFoot$Big;LWeekFoot$Big;)V" } : Jvm.MethodName)) ∈ lw_all := lw_g (lw_at lw_m4 173 rfl) rfl
theorem q997 : (Jvm.Cond.selects "WeekFoot$Big" ({ cls := "WeekFoot$Big", name := "product", desc := "(LWeekFoot$Big;LWeekFoot$Big;)V" } : Jvm.MethodName) ({ cls := "WeekFoot$Big", name := "product", desc := "(LWeekFoot$Big;LWeekFoot$Big;)V" } : Jvm.MethodName)) ∈ lw_all := lw_g (lw_at lw_m4 174 rfl) rfl
theorem q998 : (Jvm.Cond.code ({ cls := "WeekFoot$Big", name := "product", desc := "(LWeekFoot$Big;LWeekFoot$Big;)V" } : Jvm.MethodName) prog_3_method_5_code (7 : Nat) (Option.none : Option Jvm.ClassFile.FieldType)) ∈ lw_all := lw_g (lw_at lw_m4 175 rfl) rfl
theorem q999 : (Jvm.Cond.methodLink "WeekFoot$Big" (23 : Nat) ({ cls := "WeekFoot$Big", name := "be", desc := "(I)V" } : Jvm.MethodName)) ∈ lw_all := lw_g (lw_at lw_m4 176 rfl) rfl
theorem q1000 : (Jvm.Cond.constantLong "WeekFoot$Big" (21 : Nat) (1000000000 : Int64)) ∈ lw_all := lw_g (lw_at lw_m4 177 rfl) rfl
theorem q1002 : (Jvm.Cond.instanceMethod ({ cls := "WeekFoot$Big", name := "against", desc := "(LWeekFoot$Big;)I" } : Jvm.MethodName)) ∈ lw_all := lw_g (lw_at lw_m4 179 rfl) rfl
theorem q1003 : (Jvm.Cond.selects "WeekFoot$Big" ({ cls := "WeekFoot$Big", name := "against", desc := "(LWeekFoot$Big;)I" } : Jvm.MethodName) ({ cls := "WeekFoot$Big", name := "against", desc := "(LWeekFoot$Big;)I" } : Jvm.MethodName)) ∈ lw_all := lw_g (lw_at lw_m4 180 rfl) rfl
theorem q1004 : (Jvm.Cond.code ({ cls := "WeekFoot$Big", name := "against", desc := "(LWeekFoot$Big;)I" } : Jvm.MethodName) prog_3_method_6_code (3 : Nat) (Option.some Jvm.ClassFile.FieldType.int)) ∈ lw_all := lw_g (lw_at lw_m4 181 rfl) rfl
theorem q1005 : (Jvm.Cond.methodLink "WeekFoot$Big" (27 : Nat) ({ cls := "java/lang/Integer", name := "signum", desc := "(I)I" } : Jvm.MethodName)) ∈ lw_all := lw_g (lw_at lw_m4 182 rfl) rfl
theorem q1009 : (Jvm.Cond.instanceMethod ({ cls := "WeekFoot$Big", name := "like", desc := "(LWeekFoot$Big;)V" } : Jvm.MethodName)) ∈ lw_all := lw_g (lw_at lw_m4 186 rfl) rfl
theorem q1010 : (Jvm.Cond.selects "WeekFoot$Big" ({ cls := "WeekFoot$Big", name := "like", desc := "(LWeekFoot$Big;)V" } : Jvm.MethodName) ({ cls := "WeekFoot$Big", name := "like", desc := "(LWeekFoot$Big;)V" } : Jvm.MethodName)) ∈ lw_all := lw_g (lw_at lw_m4 187 rfl) rfl
theorem q1011 : (Jvm.Cond.code ({ cls := "WeekFoot$Big", name := "like", desc := "(LWeekFoot$Big;)V" } : Jvm.MethodName) prog_3_method_3_code (2 : Nat) (Option.none : Option Jvm.ClassFile.FieldType)) ∈ lw_all := lw_g (lw_at lw_m4 188 rfl) rfl
theorem q1012 : (Jvm.Cond.methodLink "WeekFoot$Big" (15 : Nat) ({ cls := "java/lang/System", name := "arraycopy", desc := "(Ljava/lang/Object;ILjava/lang/Object;II)V" } : Jvm.MethodName)) ∈ lw_all := lw_g (lw_at lw_m4 189 rfl) rfl
theorem q1057 : (Jvm.Cond.instanceMethod ({ cls := "WeekFoot$Big", name := "times", desc := "(I)V" } : Jvm.MethodName)) ∈ lw_all := lw_g (lw_at lw_m4 234 rfl) rfl
theorem q1058 : (Jvm.Cond.selects "WeekFoot$Big" ({ cls := "WeekFoot$Big", name := "times", desc := "(I)V" } : Jvm.MethodName) ({ cls := "WeekFoot$Big", name := "times", desc := "(I)V" } : Jvm.MethodName)) ∈ lw_all := lw_g (lw_at lw_m4 235 rfl) rfl
theorem q1059 : (Jvm.Cond.code ({ cls := "WeekFoot$Big", name := "times", desc := "(I)V" } : Jvm.MethodName) prog_3_method_4_code (5 : Nat) (Option.none : Option Jvm.ClassFile.FieldType)) ∈ lw_all := lw_g (lw_at lw_m4 236 rfl) rfl
theorem q1973 : (Jvm.Cond.castable "WeekFoot$Big" "java/lang/Object") ∈ lw_tbl := lw_at lw_m8 190 rfl
theorem in_X1 : ∀ w ∈ wsX10, w ∈ lw_all := lw_in wsX10 [767] (by decide +kernel) (by decide +kernel)
/-! WeekFoot$State -/
set_option maxRecDepth 100000
def RX2 : String := "WeekFoot$State"
def TX2 : u_T := fun k => match k with
  | 0 => ("WeekFoot$State", "keepers", "[I", true)
  | 1 => ("WeekFoot$State", "cuts", "[I", true)
  | 2 => ("WeekFoot$State", "shorter", "[I", true)
  | 3 => ("WeekFoot$State", "world", "[I", true)
  | 4 => ("WeekFoot$State", "counts", "[Z", true)
  | 5 => ("WeekFoot$State", "entries", "Ljava/util/ArrayList;", true)
  | _ => ("WeekFoot$State", "shorters", "I", false)
def tyX2 : Nat → FieldType := fun k => match k with
  | 0 => .array .int
  | 1 => .array .int
  | 2 => .array .int
  | 3 => .array .int
  | 4 => .array .boolean
  | 5 => .object "java/util/ArrayList"
  | _ => .int
abbrev wsX20 : List Cond := u_ws RX2 TX2 7
theorem nmX2 : ∀ a, a < 7 → ∀ b, b < 7 → a ≠ b → (TX2 a).2.1 ≠ (TX2 b).2.1 := by decide +kernel
theorem tyX2_ok : ∀ k, k < 7 → parseFieldDescriptor (TX2 k).2.2.1 = some (tyX2 k) := by decide +kernel
abbrev cX2_init : ByteArray := prog_12_method_1_code
def yX2_init : MethodName := ⟨RX2, "<init>", "()V"⟩
def dkwX2_init_5 : List UInt8 := [132, 1, 1, 167, 255, 239, 177]
abbrev dktX2_init_5 : List UInt8 := dkwX2_init_5 ++ []
def dkwX2_init_4 : List UInt8 := [132, 1, 1, 167, 255, 240, 3, 60, 27, 16, 16, 162, 0, 17, 42, 180, 0, 21, 27, 16, 100, 79]
abbrev dktX2_init_4 : List UInt8 := dkwX2_init_4 ++ dktX2_init_5
def dkwX2_init_3 : List UInt8 := [2, 79, 132, 1, 1, 167, 255, 240, 3, 60, 27, 16, 6, 162, 0, 16, 42, 180, 0, 15, 27, 2, 79]
abbrev dktX2_init_3 : List UInt8 := dkwX2_init_3 ++ dktX2_init_4
def dkwX2_init_2 : List UInt8 := [187, 0, 28, 89, 7, 183, 0, 30, 181, 0, 33, 3, 60, 27, 16, 32, 162, 0, 16, 42, 180, 0, 9, 27]
abbrev dktX2_init_2 : List UInt8 := dkwX2_init_2 ++ dktX2_init_3
def dkwX2_init_1 : List UInt8 := [188, 10, 181, 0, 18, 42, 16, 16, 188, 10, 181, 0, 21, 42, 16, 24, 188, 4, 181, 0, 24, 42]
abbrev dktX2_init_1 : List UInt8 := dkwX2_init_1 ++ dktX2_init_2
def dkwX2_init_0 : List UInt8 := [42, 183, 0, 3, 42, 16, 32, 188, 10, 181, 0, 9, 42, 16, 6, 188, 10, 181, 0, 15, 42, 16, 12]
abbrev dktX2_init_0 : List UInt8 := dkwX2_init_0 ++ dktX2_init_1
theorem dksX2_init_0 : cX2_init.data.toList.drop 0 = dktX2_init_0 := by decide +kernel
theorem dksX2_init_1 : cX2_init.data.toList.drop 23 = dktX2_init_1 := dk_seg dksX2_init_0 23 rfl rfl
theorem dksX2_init_2 : cX2_init.data.toList.drop 45 = dktX2_init_2 := dk_seg dksX2_init_1 22 rfl rfl
theorem dksX2_init_3 : cX2_init.data.toList.drop 69 = dktX2_init_3 := dk_seg dksX2_init_2 24 rfl rfl
theorem dksX2_init_4 : cX2_init.data.toList.drop 92 = dktX2_init_4 := dk_seg dksX2_init_3 23 rfl rfl
theorem dksX2_init_5 : cX2_init.data.toList.drop 114 = dktX2_init_5 := dk_seg dksX2_init_4 22 rfl rfl
theorem dX2_init_0 : decode cX2_init 0 = .ok (.aload_n 0, 1) := dk_42 (dk_at dksX2_init_0 0 rfl rfl)
theorem dX2_init_1 : decode cX2_init 1 = .ok (.invokespecial 3, 3) := dk_183 0 3 (dk_at dksX2_init_0 1 rfl rfl)
theorem dX2_init_4 : decode cX2_init 4 = .ok (.aload_n 0, 1) := dk_42 (dk_at dksX2_init_0 4 rfl rfl)
theorem dX2_init_5 : decode cX2_init 5 = .ok (.bipush 32, 2) := dk_16 32 (dk_at dksX2_init_0 5 rfl rfl)
theorem dX2_init_7 : decode cX2_init 7 = .ok (.newarray .int, 2) := dk_188_10 (dk_at dksX2_init_0 7 rfl rfl)
theorem dX2_init_9 : decode cX2_init 9 = .ok (.putfield 9, 3) := dk_181 0 9 (dk_at dksX2_init_0 9 rfl rfl)
theorem dX2_init_12 : decode cX2_init 12 = .ok (.aload_n 0, 1) := dk_42 (dk_at dksX2_init_0 12 rfl rfl)
theorem dX2_init_13 : decode cX2_init 13 = .ok (.bipush 6, 2) := dk_16 6 (dk_at dksX2_init_0 13 rfl rfl)
theorem dX2_init_15 : decode cX2_init 15 = .ok (.newarray .int, 2) := dk_188_10 (dk_at dksX2_init_0 15 rfl rfl)
theorem dX2_init_17 : decode cX2_init 17 = .ok (.putfield 15, 3) := dk_181 0 15 (dk_at dksX2_init_0 17 rfl rfl)
theorem dX2_init_20 : decode cX2_init 20 = .ok (.aload_n 0, 1) := dk_42 (dk_at dksX2_init_0 20 rfl rfl)
theorem dX2_init_21 : decode cX2_init 21 = .ok (.bipush 12, 2) := dk_16 12 (dk_at dksX2_init_0 21 rfl rfl)
theorem dX2_init_23 : decode cX2_init 23 = .ok (.newarray .int, 2) := dk_188_10 (dk_at dksX2_init_1 0 rfl rfl)
theorem dX2_init_25 : decode cX2_init 25 = .ok (.putfield 18, 3) := dk_181 0 18 (dk_at dksX2_init_1 2 rfl rfl)
theorem dX2_init_28 : decode cX2_init 28 = .ok (.aload_n 0, 1) := dk_42 (dk_at dksX2_init_1 5 rfl rfl)
theorem dX2_init_29 : decode cX2_init 29 = .ok (.bipush 16, 2) := dk_16 16 (dk_at dksX2_init_1 6 rfl rfl)
theorem dX2_init_31 : decode cX2_init 31 = .ok (.newarray .int, 2) := dk_188_10 (dk_at dksX2_init_1 8 rfl rfl)
theorem dX2_init_33 : decode cX2_init 33 = .ok (.putfield 21, 3) := dk_181 0 21 (dk_at dksX2_init_1 10 rfl rfl)
theorem dX2_init_36 : decode cX2_init 36 = .ok (.aload_n 0, 1) := dk_42 (dk_at dksX2_init_1 13 rfl rfl)
theorem dX2_init_37 : decode cX2_init 37 = .ok (.bipush 24, 2) := dk_16 24 (dk_at dksX2_init_1 14 rfl rfl)
theorem dX2_init_39 : decode cX2_init 39 = .ok (.newarray .boolean, 2) := dk_188_4 (dk_at dksX2_init_1 16 rfl rfl)
theorem dX2_init_41 : decode cX2_init 41 = .ok (.putfield 24, 3) := dk_181 0 24 (dk_at dksX2_init_1 18 rfl rfl)
theorem dX2_init_44 : decode cX2_init 44 = .ok (.aload_n 0, 1) := dk_42 (dk_at dksX2_init_1 21 rfl rfl)
theorem dX2_init_45 : decode cX2_init 45 = .ok (.new 28, 3) := dk_187 0 28 (dk_at dksX2_init_2 0 rfl rfl)
theorem dX2_init_48 : decode cX2_init 48 = .ok (.dup, 1) := dk_89 (dk_at dksX2_init_2 3 rfl rfl)
theorem dX2_init_49 : decode cX2_init 49 = .ok (.iconst 4, 1) := dk_7 (dk_at dksX2_init_2 4 rfl rfl)
theorem dX2_init_50 : decode cX2_init 50 = .ok (.invokespecial 30, 3) := dk_183 0 30 (dk_at dksX2_init_2 5 rfl rfl)
theorem dX2_init_53 : decode cX2_init 53 = .ok (.putfield 33, 3) := dk_181 0 33 (dk_at dksX2_init_2 8 rfl rfl)
theorem dX2_init_56 : decode cX2_init 56 = .ok (.iconst 0, 1) := dk_3 (dk_at dksX2_init_2 11 rfl rfl)
theorem dX2_init_57 : decode cX2_init 57 = .ok (.istore_n 1, 1) := dk_60 (dk_at dksX2_init_2 12 rfl rfl)
theorem dX2_init_58 : decode cX2_init 58 = .ok (.iload_n 1, 1) := dk_27 (dk_at dksX2_init_2 13 rfl rfl)
theorem dX2_init_59 : decode cX2_init 59 = .ok (.bipush 32, 2) := dk_16 32 (dk_at dksX2_init_2 14 rfl rfl)
theorem dX2_init_61 : decode cX2_init 61 = .ok (.if_icmp .ge 16, 3) := dk_162 0 16 (dk_at dksX2_init_2 16 rfl rfl)
theorem dX2_init_64 : decode cX2_init 64 = .ok (.aload_n 0, 1) := dk_42 (dk_at dksX2_init_2 19 rfl rfl)
theorem dX2_init_65 : decode cX2_init 65 = .ok (.getfield 9, 3) := dk_180 0 9 (dk_at dksX2_init_2 20 rfl rfl)
theorem dX2_init_68 : decode cX2_init 68 = .ok (.iload_n 1, 1) := dk_27 (dk_at dksX2_init_2 23 rfl rfl)
theorem dX2_init_69 : decode cX2_init 69 = .ok (.iconst (-1), 1) := dk_2 (dk_at dksX2_init_3 0 rfl rfl)
theorem dX2_init_70 : decode cX2_init 70 = .ok (.iastore, 1) := dk_79 (dk_at dksX2_init_3 1 rfl rfl)
theorem dX2_init_71 : decode cX2_init 71 = .ok (.iinc 1 1, 3) := dk_132 1 1 (dk_at dksX2_init_3 2 rfl rfl)
theorem dX2_init_74 : decode cX2_init 74 = .ok (.goto (-16), 3) := dk_167 255 240 (dk_at dksX2_init_3 5 rfl rfl)
theorem dX2_init_77 : decode cX2_init 77 = .ok (.iconst 0, 1) := dk_3 (dk_at dksX2_init_3 8 rfl rfl)
theorem dX2_init_78 : decode cX2_init 78 = .ok (.istore_n 1, 1) := dk_60 (dk_at dksX2_init_3 9 rfl rfl)
theorem dX2_init_79 : decode cX2_init 79 = .ok (.iload_n 1, 1) := dk_27 (dk_at dksX2_init_3 10 rfl rfl)
theorem dX2_init_80 : decode cX2_init 80 = .ok (.bipush 6, 2) := dk_16 6 (dk_at dksX2_init_3 11 rfl rfl)
theorem dX2_init_82 : decode cX2_init 82 = .ok (.if_icmp .ge 16, 3) := dk_162 0 16 (dk_at dksX2_init_3 13 rfl rfl)
theorem dX2_init_85 : decode cX2_init 85 = .ok (.aload_n 0, 1) := dk_42 (dk_at dksX2_init_3 16 rfl rfl)
theorem dX2_init_86 : decode cX2_init 86 = .ok (.getfield 15, 3) := dk_180 0 15 (dk_at dksX2_init_3 17 rfl rfl)
theorem dX2_init_89 : decode cX2_init 89 = .ok (.iload_n 1, 1) := dk_27 (dk_at dksX2_init_3 20 rfl rfl)
theorem dX2_init_90 : decode cX2_init 90 = .ok (.iconst (-1), 1) := dk_2 (dk_at dksX2_init_3 21 rfl rfl)
theorem dX2_init_91 : decode cX2_init 91 = .ok (.iastore, 1) := dk_79 (dk_at dksX2_init_3 22 rfl rfl)
theorem dX2_init_92 : decode cX2_init 92 = .ok (.iinc 1 1, 3) := dk_132 1 1 (dk_at dksX2_init_4 0 rfl rfl)
theorem dX2_init_95 : decode cX2_init 95 = .ok (.goto (-16), 3) := dk_167 255 240 (dk_at dksX2_init_4 3 rfl rfl)
theorem dX2_init_98 : decode cX2_init 98 = .ok (.iconst 0, 1) := dk_3 (dk_at dksX2_init_4 6 rfl rfl)
theorem dX2_init_99 : decode cX2_init 99 = .ok (.istore_n 1, 1) := dk_60 (dk_at dksX2_init_4 7 rfl rfl)
theorem dX2_init_100 : decode cX2_init 100 = .ok (.iload_n 1, 1) := dk_27 (dk_at dksX2_init_4 8 rfl rfl)
theorem dX2_init_101 : decode cX2_init 101 = .ok (.bipush 16, 2) := dk_16 16 (dk_at dksX2_init_4 9 rfl rfl)
theorem dX2_init_103 : decode cX2_init 103 = .ok (.if_icmp .ge 17, 3) := dk_162 0 17 (dk_at dksX2_init_4 11 rfl rfl)
theorem dX2_init_106 : decode cX2_init 106 = .ok (.aload_n 0, 1) := dk_42 (dk_at dksX2_init_4 14 rfl rfl)
theorem dX2_init_107 : decode cX2_init 107 = .ok (.getfield 21, 3) := dk_180 0 21 (dk_at dksX2_init_4 15 rfl rfl)
theorem dX2_init_110 : decode cX2_init 110 = .ok (.iload_n 1, 1) := dk_27 (dk_at dksX2_init_4 18 rfl rfl)
theorem dX2_init_111 : decode cX2_init 111 = .ok (.bipush 100, 2) := dk_16 100 (dk_at dksX2_init_4 19 rfl rfl)
theorem dX2_init_113 : decode cX2_init 113 = .ok (.iastore, 1) := dk_79 (dk_at dksX2_init_4 21 rfl rfl)
theorem dX2_init_114 : decode cX2_init 114 = .ok (.iinc 1 1, 3) := dk_132 1 1 (dk_at dksX2_init_5 0 rfl rfl)
theorem dX2_init_117 : decode cX2_init 117 = .ok (.goto (-17), 3) := dk_167 255 239 (dk_at dksX2_init_5 3 rfl rfl)
theorem dX2_init_120 : decode cX2_init 120 = .ok (.return_, 1) := dk_177 (dk_at dksX2_init_5 6 rfl rfl)
abbrev cX2_takes : ByteArray := prog_12_method_2_code
def yX2_takes : MethodName := ⟨RX2, "takes", "(LWeekFoot$State;)V"⟩
def dkwX2_takes_4 : List UInt8 := [42, 43, 180, 0, 50, 181, 0, 50, 177]
abbrev dktX2_takes_4 : List UInt8 := dkwX2_takes_4 ++ []
def dkwX2_takes_3 : List UInt8 := [16, 24, 184, 0, 37, 42, 180, 0, 33, 182, 0, 43, 42, 180, 0, 33, 43, 180, 0, 33, 182, 0, 46, 87]
abbrev dktX2_takes_3 : List UInt8 := dkwX2_takes_3 ++ dktX2_takes_4
def dkwX2_takes_2 : List UInt8 := [180, 0, 21, 3, 42, 180, 0, 21, 3, 16, 16, 184, 0, 37, 43, 180, 0, 24, 3, 42, 180, 0, 24, 3]
abbrev dktX2_takes_2 : List UInt8 := dkwX2_takes_2 ++ dktX2_takes_3
def dkwX2_takes_1 : List UInt8 := [3, 16, 6, 184, 0, 37, 43, 180, 0, 18, 3, 42, 180, 0, 18, 3, 16, 12, 184, 0, 37, 43]
abbrev dktX2_takes_1 : List UInt8 := dkwX2_takes_1 ++ dktX2_takes_2
def dkwX2_takes_0 : List UInt8 := [43, 180, 0, 9, 3, 42, 180, 0, 9, 3, 16, 32, 184, 0, 37, 43, 180, 0, 15, 3, 42, 180, 0, 15]
abbrev dktX2_takes_0 : List UInt8 := dkwX2_takes_0 ++ dktX2_takes_1
theorem dksX2_takes_0 : cX2_takes.data.toList.drop 0 = dktX2_takes_0 := by decide +kernel
theorem dksX2_takes_1 : cX2_takes.data.toList.drop 24 = dktX2_takes_1 := dk_seg dksX2_takes_0 24 rfl rfl
theorem dksX2_takes_2 : cX2_takes.data.toList.drop 46 = dktX2_takes_2 := dk_seg dksX2_takes_1 22 rfl rfl
theorem dksX2_takes_3 : cX2_takes.data.toList.drop 70 = dktX2_takes_3 := dk_seg dksX2_takes_2 24 rfl rfl
theorem dksX2_takes_4 : cX2_takes.data.toList.drop 94 = dktX2_takes_4 := dk_seg dksX2_takes_3 24 rfl rfl
theorem dX2_takes_0 : decode cX2_takes 0 = .ok (.aload_n 1, 1) := dk_43 (dk_at dksX2_takes_0 0 rfl rfl)
theorem dX2_takes_1 : decode cX2_takes 1 = .ok (.getfield 9, 3) := dk_180 0 9 (dk_at dksX2_takes_0 1 rfl rfl)
theorem dX2_takes_4 : decode cX2_takes 4 = .ok (.iconst 0, 1) := dk_3 (dk_at dksX2_takes_0 4 rfl rfl)
theorem dX2_takes_5 : decode cX2_takes 5 = .ok (.aload_n 0, 1) := dk_42 (dk_at dksX2_takes_0 5 rfl rfl)
theorem dX2_takes_6 : decode cX2_takes 6 = .ok (.getfield 9, 3) := dk_180 0 9 (dk_at dksX2_takes_0 6 rfl rfl)
theorem dX2_takes_9 : decode cX2_takes 9 = .ok (.iconst 0, 1) := dk_3 (dk_at dksX2_takes_0 9 rfl rfl)
theorem dX2_takes_10 : decode cX2_takes 10 = .ok (.bipush 32, 2) := dk_16 32 (dk_at dksX2_takes_0 10 rfl rfl)
theorem dX2_takes_12 : decode cX2_takes 12 = .ok (.invokestatic 37, 3) := dk_184 0 37 (dk_at dksX2_takes_0 12 rfl rfl)
theorem dX2_takes_15 : decode cX2_takes 15 = .ok (.aload_n 1, 1) := dk_43 (dk_at dksX2_takes_0 15 rfl rfl)
theorem dX2_takes_16 : decode cX2_takes 16 = .ok (.getfield 15, 3) := dk_180 0 15 (dk_at dksX2_takes_0 16 rfl rfl)
theorem dX2_takes_19 : decode cX2_takes 19 = .ok (.iconst 0, 1) := dk_3 (dk_at dksX2_takes_0 19 rfl rfl)
theorem dX2_takes_20 : decode cX2_takes 20 = .ok (.aload_n 0, 1) := dk_42 (dk_at dksX2_takes_0 20 rfl rfl)
theorem dX2_takes_21 : decode cX2_takes 21 = .ok (.getfield 15, 3) := dk_180 0 15 (dk_at dksX2_takes_0 21 rfl rfl)
theorem dX2_takes_24 : decode cX2_takes 24 = .ok (.iconst 0, 1) := dk_3 (dk_at dksX2_takes_1 0 rfl rfl)
theorem dX2_takes_25 : decode cX2_takes 25 = .ok (.bipush 6, 2) := dk_16 6 (dk_at dksX2_takes_1 1 rfl rfl)
theorem dX2_takes_27 : decode cX2_takes 27 = .ok (.invokestatic 37, 3) := dk_184 0 37 (dk_at dksX2_takes_1 3 rfl rfl)
theorem dX2_takes_30 : decode cX2_takes 30 = .ok (.aload_n 1, 1) := dk_43 (dk_at dksX2_takes_1 6 rfl rfl)
theorem dX2_takes_31 : decode cX2_takes 31 = .ok (.getfield 18, 3) := dk_180 0 18 (dk_at dksX2_takes_1 7 rfl rfl)
theorem dX2_takes_34 : decode cX2_takes 34 = .ok (.iconst 0, 1) := dk_3 (dk_at dksX2_takes_1 10 rfl rfl)
theorem dX2_takes_35 : decode cX2_takes 35 = .ok (.aload_n 0, 1) := dk_42 (dk_at dksX2_takes_1 11 rfl rfl)
theorem dX2_takes_36 : decode cX2_takes 36 = .ok (.getfield 18, 3) := dk_180 0 18 (dk_at dksX2_takes_1 12 rfl rfl)
theorem dX2_takes_39 : decode cX2_takes 39 = .ok (.iconst 0, 1) := dk_3 (dk_at dksX2_takes_1 15 rfl rfl)
theorem dX2_takes_40 : decode cX2_takes 40 = .ok (.bipush 12, 2) := dk_16 12 (dk_at dksX2_takes_1 16 rfl rfl)
theorem dX2_takes_42 : decode cX2_takes 42 = .ok (.invokestatic 37, 3) := dk_184 0 37 (dk_at dksX2_takes_1 18 rfl rfl)
theorem dX2_takes_45 : decode cX2_takes 45 = .ok (.aload_n 1, 1) := dk_43 (dk_at dksX2_takes_1 21 rfl rfl)
theorem dX2_takes_46 : decode cX2_takes 46 = .ok (.getfield 21, 3) := dk_180 0 21 (dk_at dksX2_takes_2 0 rfl rfl)
theorem dX2_takes_49 : decode cX2_takes 49 = .ok (.iconst 0, 1) := dk_3 (dk_at dksX2_takes_2 3 rfl rfl)
theorem dX2_takes_50 : decode cX2_takes 50 = .ok (.aload_n 0, 1) := dk_42 (dk_at dksX2_takes_2 4 rfl rfl)
theorem dX2_takes_51 : decode cX2_takes 51 = .ok (.getfield 21, 3) := dk_180 0 21 (dk_at dksX2_takes_2 5 rfl rfl)
theorem dX2_takes_54 : decode cX2_takes 54 = .ok (.iconst 0, 1) := dk_3 (dk_at dksX2_takes_2 8 rfl rfl)
theorem dX2_takes_55 : decode cX2_takes 55 = .ok (.bipush 16, 2) := dk_16 16 (dk_at dksX2_takes_2 9 rfl rfl)
theorem dX2_takes_57 : decode cX2_takes 57 = .ok (.invokestatic 37, 3) := dk_184 0 37 (dk_at dksX2_takes_2 11 rfl rfl)
theorem dX2_takes_60 : decode cX2_takes 60 = .ok (.aload_n 1, 1) := dk_43 (dk_at dksX2_takes_2 14 rfl rfl)
theorem dX2_takes_61 : decode cX2_takes 61 = .ok (.getfield 24, 3) := dk_180 0 24 (dk_at dksX2_takes_2 15 rfl rfl)
theorem dX2_takes_64 : decode cX2_takes 64 = .ok (.iconst 0, 1) := dk_3 (dk_at dksX2_takes_2 18 rfl rfl)
theorem dX2_takes_65 : decode cX2_takes 65 = .ok (.aload_n 0, 1) := dk_42 (dk_at dksX2_takes_2 19 rfl rfl)
theorem dX2_takes_66 : decode cX2_takes 66 = .ok (.getfield 24, 3) := dk_180 0 24 (dk_at dksX2_takes_2 20 rfl rfl)
theorem dX2_takes_69 : decode cX2_takes 69 = .ok (.iconst 0, 1) := dk_3 (dk_at dksX2_takes_2 23 rfl rfl)
theorem dX2_takes_70 : decode cX2_takes 70 = .ok (.bipush 24, 2) := dk_16 24 (dk_at dksX2_takes_3 0 rfl rfl)
theorem dX2_takes_72 : decode cX2_takes 72 = .ok (.invokestatic 37, 3) := dk_184 0 37 (dk_at dksX2_takes_3 2 rfl rfl)
theorem dX2_takes_75 : decode cX2_takes 75 = .ok (.aload_n 0, 1) := dk_42 (dk_at dksX2_takes_3 5 rfl rfl)
theorem dX2_takes_76 : decode cX2_takes 76 = .ok (.getfield 33, 3) := dk_180 0 33 (dk_at dksX2_takes_3 6 rfl rfl)
theorem dX2_takes_79 : decode cX2_takes 79 = .ok (.invokevirtual 43, 3) := dk_182 0 43 (dk_at dksX2_takes_3 9 rfl rfl)
theorem dX2_takes_82 : decode cX2_takes 82 = .ok (.aload_n 0, 1) := dk_42 (dk_at dksX2_takes_3 12 rfl rfl)
theorem dX2_takes_83 : decode cX2_takes 83 = .ok (.getfield 33, 3) := dk_180 0 33 (dk_at dksX2_takes_3 13 rfl rfl)
theorem dX2_takes_86 : decode cX2_takes 86 = .ok (.aload_n 1, 1) := dk_43 (dk_at dksX2_takes_3 16 rfl rfl)
theorem dX2_takes_87 : decode cX2_takes 87 = .ok (.getfield 33, 3) := dk_180 0 33 (dk_at dksX2_takes_3 17 rfl rfl)
theorem dX2_takes_90 : decode cX2_takes 90 = .ok (.invokevirtual 46, 3) := dk_182 0 46 (dk_at dksX2_takes_3 20 rfl rfl)
theorem dX2_takes_93 : decode cX2_takes 93 = .ok (.pop, 1) := dk_87 (dk_at dksX2_takes_3 23 rfl rfl)
theorem dX2_takes_94 : decode cX2_takes 94 = .ok (.aload_n 0, 1) := dk_42 (dk_at dksX2_takes_4 0 rfl rfl)
theorem dX2_takes_95 : decode cX2_takes 95 = .ok (.aload_n 1, 1) := dk_43 (dk_at dksX2_takes_4 1 rfl rfl)
theorem dX2_takes_96 : decode cX2_takes 96 = .ok (.getfield 50, 3) := dk_180 0 50 (dk_at dksX2_takes_4 2 rfl rfl)
theorem dX2_takes_99 : decode cX2_takes 99 = .ok (.putfield 50, 3) := dk_181 0 50 (dk_at dksX2_takes_4 5 rfl rfl)
theorem dX2_takes_102 : decode cX2_takes 102 = .ok (.return_, 1) := dk_177 (dk_at dksX2_takes_4 8 rfl rfl)
abbrev cX2_isShorter : ByteArray := prog_12_method_4_code
def yX2_isShorter : MethodName := ⟨RX2, "isShorter", "(II)Z"⟩
def dkwX2_isShorter_2 : List UInt8 := [167, 0, 4, 3, 62, 132, 4, 1, 167, 255, 206, 29, 172]
abbrev dktX2_isShorter_2 : List UInt8 := dkwX2_isShorter_2 ++ []
def dkwX2_isShorter_1 : List UInt8 := [21, 4, 104, 46, 27, 160, 0, 22, 42, 180, 0, 18, 5, 21, 4, 104, 4, 96, 46, 28, 160, 0, 7, 4]
abbrev dktX2_isShorter_1 : List UInt8 := dkwX2_isShorter_1 ++ dktX2_isShorter_2
def dkwX2_isShorter_0 : List UInt8 := [3, 62, 3, 54, 4, 21, 4, 42, 180, 0, 50, 162, 0, 47, 29, 154, 0, 31, 42, 180, 0, 18, 5]
abbrev dktX2_isShorter_0 : List UInt8 := dkwX2_isShorter_0 ++ dktX2_isShorter_1
theorem dksX2_isShorter_0 : cX2_isShorter.data.toList.drop 0 = dktX2_isShorter_0 := by decide +kernel
theorem dksX2_isShorter_1 : cX2_isShorter.data.toList.drop 23 = dktX2_isShorter_1 := dk_seg dksX2_isShorter_0 23 rfl rfl
theorem dksX2_isShorter_2 : cX2_isShorter.data.toList.drop 47 = dktX2_isShorter_2 := dk_seg dksX2_isShorter_1 24 rfl rfl
theorem dX2_isShorter_0 : decode cX2_isShorter 0 = .ok (.iconst 0, 1) := dk_3 (dk_at dksX2_isShorter_0 0 rfl rfl)
theorem dX2_isShorter_1 : decode cX2_isShorter 1 = .ok (.istore_n 3, 1) := dk_62 (dk_at dksX2_isShorter_0 1 rfl rfl)
theorem dX2_isShorter_2 : decode cX2_isShorter 2 = .ok (.iconst 0, 1) := dk_3 (dk_at dksX2_isShorter_0 2 rfl rfl)
theorem dX2_isShorter_3 : decode cX2_isShorter 3 = .ok (.istore 4, 2) := dk_54 4 (dk_at dksX2_isShorter_0 3 rfl rfl)
theorem dX2_isShorter_5 : decode cX2_isShorter 5 = .ok (.iload 4, 2) := dk_21 4 (dk_at dksX2_isShorter_0 5 rfl rfl)
theorem dX2_isShorter_7 : decode cX2_isShorter 7 = .ok (.aload_n 0, 1) := dk_42 (dk_at dksX2_isShorter_0 7 rfl rfl)
theorem dX2_isShorter_8 : decode cX2_isShorter 8 = .ok (.getfield 50, 3) := dk_180 0 50 (dk_at dksX2_isShorter_0 8 rfl rfl)
theorem dX2_isShorter_11 : decode cX2_isShorter 11 = .ok (.if_icmp .ge 47, 3) := dk_162 0 47 (dk_at dksX2_isShorter_0 11 rfl rfl)
theorem dX2_isShorter_14 : decode cX2_isShorter 14 = .ok (.iload_n 3, 1) := dk_29 (dk_at dksX2_isShorter_0 14 rfl rfl)
theorem dX2_isShorter_15 : decode cX2_isShorter 15 = .ok (.ifCond .ne 31, 3) := dk_154 0 31 (dk_at dksX2_isShorter_0 15 rfl rfl)
theorem dX2_isShorter_18 : decode cX2_isShorter 18 = .ok (.aload_n 0, 1) := dk_42 (dk_at dksX2_isShorter_0 18 rfl rfl)
theorem dX2_isShorter_19 : decode cX2_isShorter 19 = .ok (.getfield 18, 3) := dk_180 0 18 (dk_at dksX2_isShorter_0 19 rfl rfl)
theorem dX2_isShorter_22 : decode cX2_isShorter 22 = .ok (.iconst 2, 1) := dk_5 (dk_at dksX2_isShorter_0 22 rfl rfl)
theorem dX2_isShorter_23 : decode cX2_isShorter 23 = .ok (.iload 4, 2) := dk_21 4 (dk_at dksX2_isShorter_1 0 rfl rfl)
theorem dX2_isShorter_25 : decode cX2_isShorter 25 = .ok (.imul, 1) := dk_104 (dk_at dksX2_isShorter_1 2 rfl rfl)
theorem dX2_isShorter_26 : decode cX2_isShorter 26 = .ok (.iaload, 1) := dk_46 (dk_at dksX2_isShorter_1 3 rfl rfl)
theorem dX2_isShorter_27 : decode cX2_isShorter 27 = .ok (.iload_n 1, 1) := dk_27 (dk_at dksX2_isShorter_1 4 rfl rfl)
theorem dX2_isShorter_28 : decode cX2_isShorter 28 = .ok (.if_icmp .ne 22, 3) := dk_160 0 22 (dk_at dksX2_isShorter_1 5 rfl rfl)
theorem dX2_isShorter_31 : decode cX2_isShorter 31 = .ok (.aload_n 0, 1) := dk_42 (dk_at dksX2_isShorter_1 8 rfl rfl)
theorem dX2_isShorter_32 : decode cX2_isShorter 32 = .ok (.getfield 18, 3) := dk_180 0 18 (dk_at dksX2_isShorter_1 9 rfl rfl)
theorem dX2_isShorter_35 : decode cX2_isShorter 35 = .ok (.iconst 2, 1) := dk_5 (dk_at dksX2_isShorter_1 12 rfl rfl)
theorem dX2_isShorter_36 : decode cX2_isShorter 36 = .ok (.iload 4, 2) := dk_21 4 (dk_at dksX2_isShorter_1 13 rfl rfl)
theorem dX2_isShorter_38 : decode cX2_isShorter 38 = .ok (.imul, 1) := dk_104 (dk_at dksX2_isShorter_1 15 rfl rfl)
theorem dX2_isShorter_39 : decode cX2_isShorter 39 = .ok (.iconst 1, 1) := dk_4 (dk_at dksX2_isShorter_1 16 rfl rfl)
theorem dX2_isShorter_40 : decode cX2_isShorter 40 = .ok (.iadd, 1) := dk_96 (dk_at dksX2_isShorter_1 17 rfl rfl)
theorem dX2_isShorter_41 : decode cX2_isShorter 41 = .ok (.iaload, 1) := dk_46 (dk_at dksX2_isShorter_1 18 rfl rfl)
theorem dX2_isShorter_42 : decode cX2_isShorter 42 = .ok (.iload_n 2, 1) := dk_28 (dk_at dksX2_isShorter_1 19 rfl rfl)
theorem dX2_isShorter_43 : decode cX2_isShorter 43 = .ok (.if_icmp .ne 7, 3) := dk_160 0 7 (dk_at dksX2_isShorter_1 20 rfl rfl)
theorem dX2_isShorter_46 : decode cX2_isShorter 46 = .ok (.iconst 1, 1) := dk_4 (dk_at dksX2_isShorter_1 23 rfl rfl)
theorem dX2_isShorter_47 : decode cX2_isShorter 47 = .ok (.goto 4, 3) := dk_167 0 4 (dk_at dksX2_isShorter_2 0 rfl rfl)
theorem dX2_isShorter_50 : decode cX2_isShorter 50 = .ok (.iconst 0, 1) := dk_3 (dk_at dksX2_isShorter_2 3 rfl rfl)
theorem dX2_isShorter_51 : decode cX2_isShorter 51 = .ok (.istore_n 3, 1) := dk_62 (dk_at dksX2_isShorter_2 4 rfl rfl)
theorem dX2_isShorter_52 : decode cX2_isShorter 52 = .ok (.iinc 4 1, 3) := dk_132 4 1 (dk_at dksX2_isShorter_2 5 rfl rfl)
theorem dX2_isShorter_55 : decode cX2_isShorter 55 = .ok (.goto (-50), 3) := dk_167 255 206 (dk_at dksX2_isShorter_2 8 rfl rfl)
theorem dX2_isShorter_58 : decode cX2_isShorter 58 = .ok (.iload_n 3, 1) := dk_29 (dk_at dksX2_isShorter_2 11 rfl rfl)
theorem dX2_isShorter_59 : decode cX2_isShorter 59 = .ok (.ireturn, 1) := dk_172 (dk_at dksX2_isShorter_2 12 rfl rfl)
abbrev cX2_shorter : ByteArray := prog_12_method_5_code
def yX2_shorter : MethodName := ⟨RX2, "shorter", "(II)V"⟩
def dkwX2_shorter_1 : List UInt8 := [28, 79, 42, 89, 180, 0, 50, 4, 96, 181, 0, 50, 177]
abbrev dktX2_shorter_1 : List UInt8 := dkwX2_shorter_1 ++ []
def dkwX2_shorter_0 : List UInt8 := [42, 180, 0, 18, 5, 42, 180, 0, 50, 104, 27, 79, 42, 180, 0, 18, 5, 42, 180, 0, 50, 104, 4, 96]
abbrev dktX2_shorter_0 : List UInt8 := dkwX2_shorter_0 ++ dktX2_shorter_1
theorem dksX2_shorter_0 : cX2_shorter.data.toList.drop 0 = dktX2_shorter_0 := by decide +kernel
theorem dksX2_shorter_1 : cX2_shorter.data.toList.drop 24 = dktX2_shorter_1 := dk_seg dksX2_shorter_0 24 rfl rfl
theorem dX2_shorter_0 : decode cX2_shorter 0 = .ok (.aload_n 0, 1) := dk_42 (dk_at dksX2_shorter_0 0 rfl rfl)
theorem dX2_shorter_1 : decode cX2_shorter 1 = .ok (.getfield 18, 3) := dk_180 0 18 (dk_at dksX2_shorter_0 1 rfl rfl)
theorem dX2_shorter_4 : decode cX2_shorter 4 = .ok (.iconst 2, 1) := dk_5 (dk_at dksX2_shorter_0 4 rfl rfl)
theorem dX2_shorter_5 : decode cX2_shorter 5 = .ok (.aload_n 0, 1) := dk_42 (dk_at dksX2_shorter_0 5 rfl rfl)
theorem dX2_shorter_6 : decode cX2_shorter 6 = .ok (.getfield 50, 3) := dk_180 0 50 (dk_at dksX2_shorter_0 6 rfl rfl)
theorem dX2_shorter_9 : decode cX2_shorter 9 = .ok (.imul, 1) := dk_104 (dk_at dksX2_shorter_0 9 rfl rfl)
theorem dX2_shorter_10 : decode cX2_shorter 10 = .ok (.iload_n 1, 1) := dk_27 (dk_at dksX2_shorter_0 10 rfl rfl)
theorem dX2_shorter_11 : decode cX2_shorter 11 = .ok (.iastore, 1) := dk_79 (dk_at dksX2_shorter_0 11 rfl rfl)
theorem dX2_shorter_12 : decode cX2_shorter 12 = .ok (.aload_n 0, 1) := dk_42 (dk_at dksX2_shorter_0 12 rfl rfl)
theorem dX2_shorter_13 : decode cX2_shorter 13 = .ok (.getfield 18, 3) := dk_180 0 18 (dk_at dksX2_shorter_0 13 rfl rfl)
theorem dX2_shorter_16 : decode cX2_shorter 16 = .ok (.iconst 2, 1) := dk_5 (dk_at dksX2_shorter_0 16 rfl rfl)
theorem dX2_shorter_17 : decode cX2_shorter 17 = .ok (.aload_n 0, 1) := dk_42 (dk_at dksX2_shorter_0 17 rfl rfl)
theorem dX2_shorter_18 : decode cX2_shorter 18 = .ok (.getfield 50, 3) := dk_180 0 50 (dk_at dksX2_shorter_0 18 rfl rfl)
theorem dX2_shorter_21 : decode cX2_shorter 21 = .ok (.imul, 1) := dk_104 (dk_at dksX2_shorter_0 21 rfl rfl)
theorem dX2_shorter_22 : decode cX2_shorter 22 = .ok (.iconst 1, 1) := dk_4 (dk_at dksX2_shorter_0 22 rfl rfl)
theorem dX2_shorter_23 : decode cX2_shorter 23 = .ok (.iadd, 1) := dk_96 (dk_at dksX2_shorter_0 23 rfl rfl)
theorem dX2_shorter_24 : decode cX2_shorter 24 = .ok (.iload_n 2, 1) := dk_28 (dk_at dksX2_shorter_1 0 rfl rfl)
theorem dX2_shorter_25 : decode cX2_shorter 25 = .ok (.iastore, 1) := dk_79 (dk_at dksX2_shorter_1 1 rfl rfl)
theorem dX2_shorter_26 : decode cX2_shorter 26 = .ok (.aload_n 0, 1) := dk_42 (dk_at dksX2_shorter_1 2 rfl rfl)
theorem dX2_shorter_27 : decode cX2_shorter 27 = .ok (.dup, 1) := dk_89 (dk_at dksX2_shorter_1 3 rfl rfl)
theorem dX2_shorter_28 : decode cX2_shorter 28 = .ok (.getfield 50, 3) := dk_180 0 50 (dk_at dksX2_shorter_1 4 rfl rfl)
theorem dX2_shorter_31 : decode cX2_shorter 31 = .ok (.iconst 1, 1) := dk_4 (dk_at dksX2_shorter_1 7 rfl rfl)
theorem dX2_shorter_32 : decode cX2_shorter 32 = .ok (.iadd, 1) := dk_96 (dk_at dksX2_shorter_1 8 rfl rfl)
theorem dX2_shorter_33 : decode cX2_shorter 33 = .ok (.putfield 50, 3) := dk_181 0 50 (dk_at dksX2_shorter_1 9 rfl rfl)
theorem dX2_shorter_36 : decode cX2_shorter 36 = .ok (.return_, 1) := dk_177 (dk_at dksX2_shorter_1 12 rfl rfl)
abbrev cX2_adds : ByteArray := prog_12_method_3_code
def yX2_adds : MethodName := ⟨RX2, "adds", "(LWeekFoot$Entry;)V"⟩
def dkwX2_adds_0 : List UInt8 := [42, 180, 0, 24, 42, 180, 0, 33, 182, 0, 54, 4, 84, 42, 180, 0, 33, 43, 182, 0, 58, 87, 177]
abbrev dktX2_adds_0 : List UInt8 := dkwX2_adds_0 ++ []
theorem dksX2_adds_0 : cX2_adds.data.toList.drop 0 = dktX2_adds_0 := by decide +kernel
theorem dX2_adds_0 : decode cX2_adds 0 = .ok (.aload_n 0, 1) := dk_42 (dk_at dksX2_adds_0 0 rfl rfl)
theorem dX2_adds_1 : decode cX2_adds 1 = .ok (.getfield 24, 3) := dk_180 0 24 (dk_at dksX2_adds_0 1 rfl rfl)
theorem dX2_adds_4 : decode cX2_adds 4 = .ok (.aload_n 0, 1) := dk_42 (dk_at dksX2_adds_0 4 rfl rfl)
theorem dX2_adds_5 : decode cX2_adds 5 = .ok (.getfield 33, 3) := dk_180 0 33 (dk_at dksX2_adds_0 5 rfl rfl)
theorem dX2_adds_8 : decode cX2_adds 8 = .ok (.invokevirtual 54, 3) := dk_182 0 54 (dk_at dksX2_adds_0 8 rfl rfl)
theorem dX2_adds_11 : decode cX2_adds 11 = .ok (.iconst 1, 1) := dk_4 (dk_at dksX2_adds_0 11 rfl rfl)
theorem dX2_adds_12 : decode cX2_adds 12 = .ok (.bastore, 1) := dk_84 (dk_at dksX2_adds_0 12 rfl rfl)
theorem dX2_adds_13 : decode cX2_adds 13 = .ok (.aload_n 0, 1) := dk_42 (dk_at dksX2_adds_0 13 rfl rfl)
theorem dX2_adds_14 : decode cX2_adds 14 = .ok (.getfield 33, 3) := dk_180 0 33 (dk_at dksX2_adds_0 14 rfl rfl)
theorem dX2_adds_17 : decode cX2_adds 17 = .ok (.aload_n 1, 1) := dk_43 (dk_at dksX2_adds_0 17 rfl rfl)
theorem dX2_adds_18 : decode cX2_adds 18 = .ok (.invokevirtual 58, 3) := dk_182 0 58 (dk_at dksX2_adds_0 18 rfl rfl)
theorem dX2_adds_21 : decode cX2_adds 21 = .ok (.pop, 1) := dk_87 (dk_at dksX2_adds_0 21 rfl rfl)
theorem dX2_adds_22 : decode cX2_adds 22 = .ok (.return_, 1) := dk_177 (dk_at dksX2_adds_0 22 rfl rfl)
abbrev cX2_lengthOf : ByteArray := prog_12_method_6_code
def yX2_lengthOf : MethodName := ⟨RX2, "lengthOf", "(LWeekFoot$Entry;)I"⟩
def dkwX2_lengthOf_1 : List UInt8 := [180, 0, 62, 46, 161, 0, 13, 43, 180, 0, 62, 16, 6, 96, 167, 0, 7, 43, 180, 0, 62, 172]
abbrev dktX2_lengthOf_1 : List UInt8 := dkwX2_lengthOf_1 ++ []
def dkwX2_lengthOf_0 : List UInt8 := [42, 180, 0, 15, 43, 180, 0, 62, 46, 2, 159, 0, 29, 43, 180, 0, 67, 42, 180, 0, 15, 43]
abbrev dktX2_lengthOf_0 : List UInt8 := dkwX2_lengthOf_0 ++ dktX2_lengthOf_1
theorem dksX2_lengthOf_0 : cX2_lengthOf.data.toList.drop 0 = dktX2_lengthOf_0 := by decide +kernel
theorem dksX2_lengthOf_1 : cX2_lengthOf.data.toList.drop 22 = dktX2_lengthOf_1 := dk_seg dksX2_lengthOf_0 22 rfl rfl
theorem dX2_lengthOf_0 : decode cX2_lengthOf 0 = .ok (.aload_n 0, 1) := dk_42 (dk_at dksX2_lengthOf_0 0 rfl rfl)
theorem dX2_lengthOf_1 : decode cX2_lengthOf 1 = .ok (.getfield 15, 3) := dk_180 0 15 (dk_at dksX2_lengthOf_0 1 rfl rfl)
theorem dX2_lengthOf_4 : decode cX2_lengthOf 4 = .ok (.aload_n 1, 1) := dk_43 (dk_at dksX2_lengthOf_0 4 rfl rfl)
theorem dX2_lengthOf_5 : decode cX2_lengthOf 5 = .ok (.getfield 62, 3) := dk_180 0 62 (dk_at dksX2_lengthOf_0 5 rfl rfl)
theorem dX2_lengthOf_8 : decode cX2_lengthOf 8 = .ok (.iaload, 1) := dk_46 (dk_at dksX2_lengthOf_0 8 rfl rfl)
theorem dX2_lengthOf_9 : decode cX2_lengthOf 9 = .ok (.iconst (-1), 1) := dk_2 (dk_at dksX2_lengthOf_0 9 rfl rfl)
theorem dX2_lengthOf_10 : decode cX2_lengthOf 10 = .ok (.if_icmp .eq 29, 3) := dk_159 0 29 (dk_at dksX2_lengthOf_0 10 rfl rfl)
theorem dX2_lengthOf_13 : decode cX2_lengthOf 13 = .ok (.aload_n 1, 1) := dk_43 (dk_at dksX2_lengthOf_0 13 rfl rfl)
theorem dX2_lengthOf_14 : decode cX2_lengthOf 14 = .ok (.getfield 67, 3) := dk_180 0 67 (dk_at dksX2_lengthOf_0 14 rfl rfl)
theorem dX2_lengthOf_17 : decode cX2_lengthOf 17 = .ok (.aload_n 0, 1) := dk_42 (dk_at dksX2_lengthOf_0 17 rfl rfl)
theorem dX2_lengthOf_18 : decode cX2_lengthOf 18 = .ok (.getfield 15, 3) := dk_180 0 15 (dk_at dksX2_lengthOf_0 18 rfl rfl)
theorem dX2_lengthOf_21 : decode cX2_lengthOf 21 = .ok (.aload_n 1, 1) := dk_43 (dk_at dksX2_lengthOf_0 21 rfl rfl)
theorem dX2_lengthOf_22 : decode cX2_lengthOf 22 = .ok (.getfield 62, 3) := dk_180 0 62 (dk_at dksX2_lengthOf_1 0 rfl rfl)
theorem dX2_lengthOf_25 : decode cX2_lengthOf 25 = .ok (.iaload, 1) := dk_46 (dk_at dksX2_lengthOf_1 3 rfl rfl)
theorem dX2_lengthOf_26 : decode cX2_lengthOf 26 = .ok (.if_icmp .lt 13, 3) := dk_161 0 13 (dk_at dksX2_lengthOf_1 4 rfl rfl)
theorem dX2_lengthOf_29 : decode cX2_lengthOf 29 = .ok (.aload_n 1, 1) := dk_43 (dk_at dksX2_lengthOf_1 7 rfl rfl)
theorem dX2_lengthOf_30 : decode cX2_lengthOf 30 = .ok (.getfield 62, 3) := dk_180 0 62 (dk_at dksX2_lengthOf_1 8 rfl rfl)
theorem dX2_lengthOf_33 : decode cX2_lengthOf 33 = .ok (.bipush 6, 2) := dk_16 6 (dk_at dksX2_lengthOf_1 11 rfl rfl)
theorem dX2_lengthOf_35 : decode cX2_lengthOf 35 = .ok (.iadd, 1) := dk_96 (dk_at dksX2_lengthOf_1 13 rfl rfl)
theorem dX2_lengthOf_36 : decode cX2_lengthOf 36 = .ok (.goto 7, 3) := dk_167 0 7 (dk_at dksX2_lengthOf_1 14 rfl rfl)
theorem dX2_lengthOf_39 : decode cX2_lengthOf 39 = .ok (.aload_n 1, 1) := dk_43 (dk_at dksX2_lengthOf_1 17 rfl rfl)
theorem dX2_lengthOf_40 : decode cX2_lengthOf 40 = .ok (.getfield 62, 3) := dk_180 0 62 (dk_at dksX2_lengthOf_1 18 rfl rfl)
theorem dX2_lengthOf_43 : decode cX2_lengthOf 43 = .ok (.ireturn, 1) := dk_172 (dk_at dksX2_lengthOf_1 21 rfl rfl)
theorem q106 : (Jvm.Cond.initialized "WeekFoot$State") ∈ lw_all := lw_g (lw_at lw_m1 3 rfl) rfl
theorem q147 : (Jvm.Cond.instantiable "WeekFoot$State" (7 : Nat)) ∈ lw_all := lw_g (lw_at lw_m1 44 rfl) rfl
theorem q149 : (Jvm.Cond.instanceMethod ({ cls := "WeekFoot$State", name := "<init>", desc := "()V" } : Jvm.MethodName)) ∈ lw_all := lw_g (lw_at lw_m1 46 rfl) rfl
theorem q150 : (Jvm.Cond.code ({ cls := "WeekFoot$State", name := "<init>", desc := "()V" } : Jvm.MethodName) prog_12_method_1_code (2 : Nat) (Option.none : Option Jvm.ClassFile.FieldType)) ∈ lw_all := lw_g (lw_at lw_m1 47 rfl) rfl
theorem q151 : (Jvm.Cond.methodLink "WeekFoot$State" (3 : Nat) ({ cls := "java/lang/Object", name := "<init>", desc := "()V" } : Jvm.MethodName)) ∈ lw_all := lw_g (lw_at lw_m1 48 rfl) rfl
theorem q154 : (Jvm.Cond.classLink "WeekFoot$State" (28 : Nat) "java/util/ArrayList") ∈ lw_all := lw_g (lw_at lw_m1 51 rfl) rfl
theorem q156 : (Jvm.Cond.methodLink "WeekFoot$State" (30 : Nat) ({ cls := "java/util/ArrayList", name := "<init>", desc := "(I)V" } : Jvm.MethodName)) ∈ lw_all := lw_g (lw_at lw_m1 53 rfl) rfl
theorem q184 : (Jvm.Cond.fieldLink "WeekFoot$State" (9 : Nat) "WeekFoot$State" "keepers" "[I") ∈ lw_all := lw_g (lw_at lw_m1 81 rfl) rfl
theorem q189 : (Jvm.Cond.fieldLink "WeekFoot$State" (15 : Nat) "WeekFoot$State" "cuts" "[I") ∈ lw_all := lw_g (lw_at lw_m1 86 rfl) rfl
theorem q193 : (Jvm.Cond.fieldLink "WeekFoot$State" (18 : Nat) "WeekFoot$State" "shorter" "[I") ∈ lw_all := lw_g (lw_at lw_m1 90 rfl) rfl
theorem q197 : (Jvm.Cond.fieldLink "WeekFoot$State" (21 : Nat) "WeekFoot$State" "world" "[I") ∈ lw_all := lw_g (lw_at lw_m1 94 rfl) rfl
theorem q200 : (Jvm.Cond.fieldLink "WeekFoot$State" (24 : Nat) "WeekFoot$State" "counts" "[Z") ∈ lw_all := lw_g (lw_at lw_m1 97 rfl) rfl
theorem q204 : (Jvm.Cond.fieldLink "WeekFoot$State" (33 : Nat) "WeekFoot$State" "entries" "Ljava/util/ArrayList;") ∈ lw_all := lw_g (lw_at lw_m1 101 rfl) rfl
theorem q209 : (Jvm.Cond.fieldLink "WeekFoot$State" (50 : Nat) "WeekFoot$State" "shorters" "I") ∈ lw_all := lw_g (lw_at lw_m1 106 rfl) rfl
theorem q212 : (Jvm.Cond.laysFinal "WeekFoot$State" "WeekFoot$State" "keepers" "[I") ∈ lw_all := lw_g (lw_at lw_m1 109 rfl) rfl
theorem q213 : (Jvm.Cond.soleField "WeekFoot$State" "keepers") ∈ lw_all := lw_g (lw_at lw_m1 110 rfl) rfl
theorem q214 : (Jvm.Cond.laysFinal "WeekFoot$State" "WeekFoot$State" "cuts" "[I") ∈ lw_all := lw_g (lw_at lw_m1 111 rfl) rfl
theorem q215 : (Jvm.Cond.soleField "WeekFoot$State" "cuts") ∈ lw_all := lw_g (lw_at lw_m1 112 rfl) rfl
theorem q216 : (Jvm.Cond.laysFinal "WeekFoot$State" "WeekFoot$State" "shorter" "[I") ∈ lw_all := lw_g (lw_at lw_m1 113 rfl) rfl
theorem q217 : (Jvm.Cond.soleField "WeekFoot$State" "shorter") ∈ lw_all := lw_g (lw_at lw_m1 114 rfl) rfl
theorem q218 : (Jvm.Cond.laysFinal "WeekFoot$State" "WeekFoot$State" "world" "[I") ∈ lw_all := lw_g (lw_at lw_m1 115 rfl) rfl
theorem q219 : (Jvm.Cond.soleField "WeekFoot$State" "world") ∈ lw_all := lw_g (lw_at lw_m1 116 rfl) rfl
theorem q220 : (Jvm.Cond.laysFinal "WeekFoot$State" "WeekFoot$State" "counts" "[Z") ∈ lw_all := lw_g (lw_at lw_m1 117 rfl) rfl
theorem q221 : (Jvm.Cond.soleField "WeekFoot$State" "counts") ∈ lw_all := lw_g (lw_at lw_m1 118 rfl) rfl
theorem q222 : (Jvm.Cond.laysFinal "WeekFoot$State" "WeekFoot$State" "entries" "Ljava/util/ArrayList;") ∈ lw_all := lw_g (lw_at lw_m1 119 rfl) rfl
theorem q223 : (Jvm.Cond.soleField "WeekFoot$State" "entries") ∈ lw_all := lw_g (lw_at lw_m1 120 rfl) rfl
theorem q224 : (Jvm.Cond.lays "WeekFoot$State" "WeekFoot$State" "shorters" "I") ∈ lw_all := lw_g (lw_at lw_m1 121 rfl) rfl
theorem q225 : (Jvm.Cond.soleField "WeekFoot$State" "shorters") ∈ lw_all := lw_g (lw_at lw_m1 122 rfl) rfl
theorem q226 : (Jvm.Cond.superclass "WeekFoot$State" "java/lang/Object") ∈ lw_all := lw_g (lw_at lw_m1 123 rfl) rfl
theorem q228 : (Jvm.Cond.instanceMethod ({ cls := "WeekFoot$State", name := "takes", desc := "(LWeekFoot$State;)V" } : Jvm.MethodName)) ∈ lw_all := lw_g (lw_at lw_m1 125 rfl) rfl
theorem q229 : (Jvm.Cond.selects "WeekFoot$State" ({ cls := "WeekFoot$State", name := "takes", desc := "(LWeekFoot$State;)V" } : Jvm.MethodName) ({ cls := "WeekFoot$State", name := "takes", desc := "(LWeekFoot$State;)V" } : Jvm.MethodName)) ∈ lw_all := lw_g (lw_at lw_m1 126 rfl) rfl
theorem q230 : (Jvm.Cond.code ({ cls := "WeekFoot$State", name := "takes", desc := "(LWeekFoot$State;)V" } : Jvm.MethodName) prog_12_method_2_code (2 : Nat) (Option.none : Option Jvm.ClassFile.FieldType)) ∈ lw_all := lw_g (lw_at lw_m1 127 rfl) rfl
theorem q231 : (Jvm.Cond.methodLink "WeekFoot$State" (37 : Nat) ({ cls := "java/lang/System", name := "arraycopy", desc := "(Ljava/lang/Object;ILjava/lang/Object;II)V" } : Jvm.MethodName)) ∈ lw_all := lw_g (lw_at lw_m1 128 rfl) rfl
theorem q234 : (Jvm.Cond.methodLink "WeekFoot$State" (43 : Nat) ({ cls := "java/util/ArrayList", name := "clear", desc := "()V" } : Jvm.MethodName)) ∈ lw_all := lw_g (lw_at lw_m1 131 rfl) rfl
theorem q238 : (Jvm.Cond.methodLink "WeekFoot$State" (46 : Nat) ({ cls := "java/util/ArrayList", name := "addAll", desc := "(Ljava/util/Collection;)Z" } : Jvm.MethodName)) ∈ lw_all := lw_g (lw_at lw_m1 135 rfl) rfl
theorem q268 : (Jvm.Cond.selects "WeekFoot$State" ({ cls := "java/lang/Object", name := "getClass", desc := "()Ljava/lang/Class;" } : Jvm.MethodName) ({ cls := "java/lang/Object", name := "getClass", desc := "()Ljava/lang/Class;" } : Jvm.MethodName)) ∈ lw_all := lw_g (lw_at lw_m1 165 rfl) rfl
theorem q339 : (Jvm.Cond.instanceMethod ({ cls := "WeekFoot$State", name := "isShorter", desc := "(II)Z" } : Jvm.MethodName)) ∈ lw_all := lw_g (lw_at lw_m1 236 rfl) rfl
theorem q340 : (Jvm.Cond.selects "WeekFoot$State" ({ cls := "WeekFoot$State", name := "isShorter", desc := "(II)Z" } : Jvm.MethodName) ({ cls := "WeekFoot$State", name := "isShorter", desc := "(II)Z" } : Jvm.MethodName)) ∈ lw_all := lw_g (lw_at lw_m1 237 rfl) rfl
theorem q341 : (Jvm.Cond.code ({ cls := "WeekFoot$State", name := "isShorter", desc := "(II)Z" } : Jvm.MethodName) prog_12_method_4_code (5 : Nat) (Option.some Jvm.ClassFile.FieldType.boolean)) ∈ lw_all := lw_g (lw_at lw_m1 238 rfl) rfl
theorem q343 : (Jvm.Cond.instanceMethod ({ cls := "WeekFoot$State", name := "shorter", desc := "(II)V" } : Jvm.MethodName)) ∈ lw_all := lw_g (lw_at lw_m2 0 rfl) rfl
theorem q344 : (Jvm.Cond.selects "WeekFoot$State" ({ cls := "WeekFoot$State", name := "shorter", desc := "(II)V" } : Jvm.MethodName) ({ cls := "WeekFoot$State", name := "shorter", desc := "(II)V" } : Jvm.MethodName)) ∈ lw_all := lw_g (lw_at lw_m2 1 rfl) rfl
theorem q345 : (Jvm.Cond.code ({ cls := "WeekFoot$State", name := "shorter", desc := "(II)V" } : Jvm.MethodName) prog_12_method_5_code (3 : Nat) (Option.none : Option Jvm.ClassFile.FieldType)) ∈ lw_all := lw_g (lw_at lw_m2 2 rfl) rfl
theorem q365 : (Jvm.Cond.fieldLinkNest "WeekFoot$State" (62 : Nat) "WeekFoot$Entry" "thing" "I" "WeekFoot") ∈ lw_tbl := lw_at lw_m2 22 rfl
theorem q370 : (Jvm.Cond.fieldLinkNest "WeekFoot$State" (67 : Nat) "WeekFoot$Entry" "week" "I" "WeekFoot") ∈ lw_tbl := lw_at lw_m2 27 rfl
theorem q387 : (Jvm.Cond.instanceMethod ({ cls := "WeekFoot$State", name := "adds", desc := "(LWeekFoot$Entry;)V" } : Jvm.MethodName)) ∈ lw_all := lw_g (lw_at lw_m2 44 rfl) rfl
theorem q388 : (Jvm.Cond.selects "WeekFoot$State" ({ cls := "WeekFoot$State", name := "adds", desc := "(LWeekFoot$Entry;)V" } : Jvm.MethodName) ({ cls := "WeekFoot$State", name := "adds", desc := "(LWeekFoot$Entry;)V" } : Jvm.MethodName)) ∈ lw_all := lw_g (lw_at lw_m2 45 rfl) rfl
theorem q389 : (Jvm.Cond.code ({ cls := "WeekFoot$State", name := "adds", desc := "(LWeekFoot$Entry;)V" } : Jvm.MethodName) prog_12_method_3_code (2 : Nat) (Option.none : Option Jvm.ClassFile.FieldType)) ∈ lw_all := lw_g (lw_at lw_m2 46 rfl) rfl
theorem q390 : (Jvm.Cond.methodLink "WeekFoot$State" (54 : Nat) ({ cls := "java/util/ArrayList", name := "size", desc := "()I" } : Jvm.MethodName)) ∈ lw_all := lw_g (lw_at lw_m2 47 rfl) rfl
theorem q391 : (Jvm.Cond.methodLink "WeekFoot$State" (58 : Nat) ({ cls := "java/util/ArrayList", name := "add", desc := "(Ljava/lang/Object;)Z" } : Jvm.MethodName)) ∈ lw_all := lw_g (lw_at lw_m2 48 rfl) rfl
theorem q430 : (Jvm.Cond.instanceMethod ({ cls := "WeekFoot$State", name := "lengthOf", desc := "(LWeekFoot$Entry;)I" } : Jvm.MethodName)) ∈ lw_all := lw_g (lw_at lw_m2 87 rfl) rfl
theorem q431 : (Jvm.Cond.selects "WeekFoot$State" ({ cls := "WeekFoot$State", name := "lengthOf", desc := "(LWeekFoot$Entry;)I" } : Jvm.MethodName) ({ cls := "WeekFoot$State", name := "lengthOf", desc := "(LWeekFoot$Entry;)I" } : Jvm.MethodName)) ∈ lw_all := lw_g (lw_at lw_m2 88 rfl) rfl
theorem q432 : (Jvm.Cond.code ({ cls := "WeekFoot$State", name := "lengthOf", desc := "(LWeekFoot$Entry;)I" } : Jvm.MethodName) prog_12_method_6_code (2 : Nat) (Option.some Jvm.ClassFile.FieldType.int)) ∈ lw_all := lw_g (lw_at lw_m2 89 rfl) rfl
theorem q1972 : (Jvm.Cond.castable "WeekFoot$State" "java/lang/Object") ∈ lw_tbl := lw_at lw_m8 189 rfl
theorem in_X2 : ∀ w ∈ wsX20, w ∈ lw_all := lw_in wsX20 [212, 214, 216, 218, 220, 222, 224] (by decide +kernel) (by decide +kernel)
/-! WeekFoot$Ends -/
set_option maxRecDepth 100000
def RX3 : String := "WeekFoot$Ends"
def TX3 : u_T := fun k => match k with
  | 0 => ("WeekFoot$Ends", "upper", "[LWeekFoot$Big;", true)
  | 1 => ("WeekFoot$Ends", "lower", "[LWeekFoot$Big;", true)
  | 2 => ("WeekFoot$Ends", "top", "LWeekFoot$Big;", true)
  | 3 => ("WeekFoot$Ends", "bottom", "LWeekFoot$Big;", true)
  | 4 => ("WeekFoot$Ends", "there", "[Z", true)
  | 5 => ("WeekFoot$Ends", "open", "[Z", true)
  | 6 => ("WeekFoot$Ends", "made", "I", false)
  | 7 => ("WeekFoot$Ends", "can", "Z", false)
  | _ => ("WeekFoot$Ends", "this$0", "LWeekFoot;", true)
def tyX3 : Nat → FieldType := fun k => match k with
  | 0 => .array (.object "WeekFoot$Big")
  | 1 => .array (.object "WeekFoot$Big")
  | 2 => .object "WeekFoot$Big"
  | 3 => .object "WeekFoot$Big"
  | 4 => .array .boolean
  | 5 => .array .boolean
  | 6 => .int
  | 7 => .boolean
  | _ => .object "WeekFoot"
abbrev wsX30 : List Cond := u_ws RX3 TX3 9
theorem nmX3 : ∀ a, a < 9 → ∀ b, b < 9 → a ≠ b → (TX3 a).2.1 ≠ (TX3 b).2.1 := by decide +kernel
theorem tyX3_ok : ∀ k, k < 9 → parseFieldDescriptor (TX3 k).2.2.1 = some (tyX3 k) := by decide +kernel
abbrev cX3_init : ByteArray := prog_6_method_1_code
def yX3_init : MethodName := ⟨RX3, "<init>", "(LWeekFoot;)V"⟩
def dkwX3_init_4 : List UInt8 := [183, 0, 24, 83, 42, 180, 0, 21, 28, 187, 0, 15, 89, 183, 0, 24, 83, 132, 2, 1, 167, 255, 220, 177]
abbrev dktX3_init_4 : List UInt8 := dkwX3_init_4 ++ []
def dkwX3_init_3 : List UInt8 := [42, 2, 181, 0, 39, 3, 61, 28, 17, 1, 0, 162, 0, 35, 42, 180, 0, 17, 28, 187, 0, 15, 89]
abbrev dktX3_init_3 : List UInt8 := dkwX3_init_3 ++ dktX3_init_4
def dkwX3_init_2 : List UInt8 := [183, 0, 24, 181, 0, 29, 42, 17, 1, 0, 188, 4, 181, 0, 32, 42, 17, 1, 0, 188, 4, 181, 0, 36]
abbrev dktX3_init_2 : List UInt8 := dkwX3_init_2 ++ dktX3_init_3
def dkwX3_init_1 : List UInt8 := [189, 0, 15, 181, 0, 21, 42, 187, 0, 15, 89, 183, 0, 24, 181, 0, 25, 42, 187, 0, 15, 89]
abbrev dktX3_init_1 : List UInt8 := dkwX3_init_1 ++ dktX3_init_2
def dkwX3_init_0 : List UInt8 := [42, 43, 181, 0, 3, 42, 183, 0, 9, 42, 17, 1, 0, 189, 0, 15, 181, 0, 17, 42, 17, 1, 0]
abbrev dktX3_init_0 : List UInt8 := dkwX3_init_0 ++ dktX3_init_1
theorem dksX3_init_0 : cX3_init.data.toList.drop 0 = dktX3_init_0 := by decide +kernel
theorem dksX3_init_1 : cX3_init.data.toList.drop 23 = dktX3_init_1 := dk_seg dksX3_init_0 23 rfl rfl
theorem dksX3_init_2 : cX3_init.data.toList.drop 45 = dktX3_init_2 := dk_seg dksX3_init_1 22 rfl rfl
theorem dksX3_init_3 : cX3_init.data.toList.drop 69 = dktX3_init_3 := dk_seg dksX3_init_2 24 rfl rfl
theorem dksX3_init_4 : cX3_init.data.toList.drop 92 = dktX3_init_4 := dk_seg dksX3_init_3 23 rfl rfl
theorem dX3_init_0 : decode cX3_init 0 = .ok (.aload_n 0, 1) := dk_42 (dk_at dksX3_init_0 0 rfl rfl)
theorem dX3_init_1 : decode cX3_init 1 = .ok (.aload_n 1, 1) := dk_43 (dk_at dksX3_init_0 1 rfl rfl)
theorem dX3_init_2 : decode cX3_init 2 = .ok (.putfield 3, 3) := dk_181 0 3 (dk_at dksX3_init_0 2 rfl rfl)
theorem dX3_init_5 : decode cX3_init 5 = .ok (.aload_n 0, 1) := dk_42 (dk_at dksX3_init_0 5 rfl rfl)
theorem dX3_init_6 : decode cX3_init 6 = .ok (.invokespecial 9, 3) := dk_183 0 9 (dk_at dksX3_init_0 6 rfl rfl)
theorem dX3_init_9 : decode cX3_init 9 = .ok (.aload_n 0, 1) := dk_42 (dk_at dksX3_init_0 9 rfl rfl)
theorem dX3_init_10 : decode cX3_init 10 = .ok (.sipush 256, 3) := dk_17 1 0 (dk_at dksX3_init_0 10 rfl rfl)
theorem dX3_init_13 : decode cX3_init 13 = .ok (.anewarray 15, 3) := dk_189 0 15 (dk_at dksX3_init_0 13 rfl rfl)
theorem dX3_init_16 : decode cX3_init 16 = .ok (.putfield 17, 3) := dk_181 0 17 (dk_at dksX3_init_0 16 rfl rfl)
theorem dX3_init_19 : decode cX3_init 19 = .ok (.aload_n 0, 1) := dk_42 (dk_at dksX3_init_0 19 rfl rfl)
theorem dX3_init_20 : decode cX3_init 20 = .ok (.sipush 256, 3) := dk_17 1 0 (dk_at dksX3_init_0 20 rfl rfl)
theorem dX3_init_23 : decode cX3_init 23 = .ok (.anewarray 15, 3) := dk_189 0 15 (dk_at dksX3_init_1 0 rfl rfl)
theorem dX3_init_26 : decode cX3_init 26 = .ok (.putfield 21, 3) := dk_181 0 21 (dk_at dksX3_init_1 3 rfl rfl)
theorem dX3_init_29 : decode cX3_init 29 = .ok (.aload_n 0, 1) := dk_42 (dk_at dksX3_init_1 6 rfl rfl)
theorem dX3_init_30 : decode cX3_init 30 = .ok (.new 15, 3) := dk_187 0 15 (dk_at dksX3_init_1 7 rfl rfl)
theorem dX3_init_33 : decode cX3_init 33 = .ok (.dup, 1) := dk_89 (dk_at dksX3_init_1 10 rfl rfl)
theorem dX3_init_34 : decode cX3_init 34 = .ok (.invokespecial 24, 3) := dk_183 0 24 (dk_at dksX3_init_1 11 rfl rfl)
theorem dX3_init_37 : decode cX3_init 37 = .ok (.putfield 25, 3) := dk_181 0 25 (dk_at dksX3_init_1 14 rfl rfl)
theorem dX3_init_40 : decode cX3_init 40 = .ok (.aload_n 0, 1) := dk_42 (dk_at dksX3_init_1 17 rfl rfl)
theorem dX3_init_41 : decode cX3_init 41 = .ok (.new 15, 3) := dk_187 0 15 (dk_at dksX3_init_1 18 rfl rfl)
theorem dX3_init_44 : decode cX3_init 44 = .ok (.dup, 1) := dk_89 (dk_at dksX3_init_1 21 rfl rfl)
theorem dX3_init_45 : decode cX3_init 45 = .ok (.invokespecial 24, 3) := dk_183 0 24 (dk_at dksX3_init_2 0 rfl rfl)
theorem dX3_init_48 : decode cX3_init 48 = .ok (.putfield 29, 3) := dk_181 0 29 (dk_at dksX3_init_2 3 rfl rfl)
theorem dX3_init_51 : decode cX3_init 51 = .ok (.aload_n 0, 1) := dk_42 (dk_at dksX3_init_2 6 rfl rfl)
theorem dX3_init_52 : decode cX3_init 52 = .ok (.sipush 256, 3) := dk_17 1 0 (dk_at dksX3_init_2 7 rfl rfl)
theorem dX3_init_55 : decode cX3_init 55 = .ok (.newarray .boolean, 2) := dk_188_4 (dk_at dksX3_init_2 10 rfl rfl)
theorem dX3_init_57 : decode cX3_init 57 = .ok (.putfield 32, 3) := dk_181 0 32 (dk_at dksX3_init_2 12 rfl rfl)
theorem dX3_init_60 : decode cX3_init 60 = .ok (.aload_n 0, 1) := dk_42 (dk_at dksX3_init_2 15 rfl rfl)
theorem dX3_init_61 : decode cX3_init 61 = .ok (.sipush 256, 3) := dk_17 1 0 (dk_at dksX3_init_2 16 rfl rfl)
theorem dX3_init_64 : decode cX3_init 64 = .ok (.newarray .boolean, 2) := dk_188_4 (dk_at dksX3_init_2 19 rfl rfl)
theorem dX3_init_66 : decode cX3_init 66 = .ok (.putfield 36, 3) := dk_181 0 36 (dk_at dksX3_init_2 21 rfl rfl)
theorem dX3_init_69 : decode cX3_init 69 = .ok (.aload_n 0, 1) := dk_42 (dk_at dksX3_init_3 0 rfl rfl)
theorem dX3_init_70 : decode cX3_init 70 = .ok (.iconst (-1), 1) := dk_2 (dk_at dksX3_init_3 1 rfl rfl)
theorem dX3_init_71 : decode cX3_init 71 = .ok (.putfield 39, 3) := dk_181 0 39 (dk_at dksX3_init_3 2 rfl rfl)
theorem dX3_init_74 : decode cX3_init 74 = .ok (.iconst 0, 1) := dk_3 (dk_at dksX3_init_3 5 rfl rfl)
theorem dX3_init_75 : decode cX3_init 75 = .ok (.istore_n 2, 1) := dk_61 (dk_at dksX3_init_3 6 rfl rfl)
theorem dX3_init_76 : decode cX3_init 76 = .ok (.iload_n 2, 1) := dk_28 (dk_at dksX3_init_3 7 rfl rfl)
theorem dX3_init_77 : decode cX3_init 77 = .ok (.sipush 256, 3) := dk_17 1 0 (dk_at dksX3_init_3 8 rfl rfl)
theorem dX3_init_80 : decode cX3_init 80 = .ok (.if_icmp .ge 35, 3) := dk_162 0 35 (dk_at dksX3_init_3 11 rfl rfl)
theorem dX3_init_83 : decode cX3_init 83 = .ok (.aload_n 0, 1) := dk_42 (dk_at dksX3_init_3 14 rfl rfl)
theorem dX3_init_84 : decode cX3_init 84 = .ok (.getfield 17, 3) := dk_180 0 17 (dk_at dksX3_init_3 15 rfl rfl)
theorem dX3_init_87 : decode cX3_init 87 = .ok (.iload_n 2, 1) := dk_28 (dk_at dksX3_init_3 18 rfl rfl)
theorem dX3_init_88 : decode cX3_init 88 = .ok (.new 15, 3) := dk_187 0 15 (dk_at dksX3_init_3 19 rfl rfl)
theorem dX3_init_91 : decode cX3_init 91 = .ok (.dup, 1) := dk_89 (dk_at dksX3_init_3 22 rfl rfl)
theorem dX3_init_92 : decode cX3_init 92 = .ok (.invokespecial 24, 3) := dk_183 0 24 (dk_at dksX3_init_4 0 rfl rfl)
theorem dX3_init_95 : decode cX3_init 95 = .ok (.aastore, 1) := dk_83 (dk_at dksX3_init_4 3 rfl rfl)
theorem dX3_init_96 : decode cX3_init 96 = .ok (.aload_n 0, 1) := dk_42 (dk_at dksX3_init_4 4 rfl rfl)
theorem dX3_init_97 : decode cX3_init 97 = .ok (.getfield 21, 3) := dk_180 0 21 (dk_at dksX3_init_4 5 rfl rfl)
theorem dX3_init_100 : decode cX3_init 100 = .ok (.iload_n 2, 1) := dk_28 (dk_at dksX3_init_4 8 rfl rfl)
theorem dX3_init_101 : decode cX3_init 101 = .ok (.new 15, 3) := dk_187 0 15 (dk_at dksX3_init_4 9 rfl rfl)
theorem dX3_init_104 : decode cX3_init 104 = .ok (.dup, 1) := dk_89 (dk_at dksX3_init_4 12 rfl rfl)
theorem dX3_init_105 : decode cX3_init 105 = .ok (.invokespecial 24, 3) := dk_183 0 24 (dk_at dksX3_init_4 13 rfl rfl)
theorem dX3_init_108 : decode cX3_init 108 = .ok (.aastore, 1) := dk_83 (dk_at dksX3_init_4 16 rfl rfl)
theorem dX3_init_109 : decode cX3_init 109 = .ok (.iinc 2 1, 3) := dk_132 2 1 (dk_at dksX3_init_4 17 rfl rfl)
theorem dX3_init_112 : decode cX3_init 112 = .ok (.goto (-36), 3) := dk_167 255 220 (dk_at dksX3_init_4 20 rfl rfl)
theorem dX3_init_115 : decode cX3_init 115 = .ok (.return_, 1) := dk_177 (dk_at dksX3_init_4 23 rfl rfl)
abbrev cX3_looks : ByteArray := prog_6_method_2_code
def yX3_looks : MethodName := ⟨RX3, "looks", "()Z"⟩
def dkwX3_looks_2 : List UInt8 := [2, 2, 182, 0, 64, 172]
abbrev dktX3_looks_2 : List UInt8 := dkwX3_looks_2 ++ []
def dkwX3_looks_1 : List UInt8 := [180, 0, 43, 181, 0, 39, 42, 42, 180, 0, 3, 182, 0, 50, 42, 180, 0, 3, 180, 0, 54, 180, 0, 58]
abbrev dktX3_looks_1 : List UInt8 := dkwX3_looks_1 ++ dktX3_looks_2
def dkwX3_looks_0 : List UInt8 := [42, 180, 0, 39, 42, 180, 0, 3, 180, 0, 43, 160, 0, 8, 42, 180, 0, 46, 172, 42, 42, 180, 0, 3]
abbrev dktX3_looks_0 : List UInt8 := dkwX3_looks_0 ++ dktX3_looks_1
theorem dksX3_looks_0 : cX3_looks.data.toList.drop 0 = dktX3_looks_0 := by decide +kernel
theorem dksX3_looks_1 : cX3_looks.data.toList.drop 24 = dktX3_looks_1 := dk_seg dksX3_looks_0 24 rfl rfl
theorem dksX3_looks_2 : cX3_looks.data.toList.drop 48 = dktX3_looks_2 := dk_seg dksX3_looks_1 24 rfl rfl
theorem dX3_looks_0 : decode cX3_looks 0 = .ok (.aload_n 0, 1) := dk_42 (dk_at dksX3_looks_0 0 rfl rfl)
theorem dX3_looks_1 : decode cX3_looks 1 = .ok (.getfield 39, 3) := dk_180 0 39 (dk_at dksX3_looks_0 1 rfl rfl)
theorem dX3_looks_4 : decode cX3_looks 4 = .ok (.aload_n 0, 1) := dk_42 (dk_at dksX3_looks_0 4 rfl rfl)
theorem dX3_looks_5 : decode cX3_looks 5 = .ok (.getfield 3, 3) := dk_180 0 3 (dk_at dksX3_looks_0 5 rfl rfl)
theorem dX3_looks_8 : decode cX3_looks 8 = .ok (.getfield 43, 3) := dk_180 0 43 (dk_at dksX3_looks_0 8 rfl rfl)
theorem dX3_looks_11 : decode cX3_looks 11 = .ok (.if_icmp .ne 8, 3) := dk_160 0 8 (dk_at dksX3_looks_0 11 rfl rfl)
theorem dX3_looks_14 : decode cX3_looks 14 = .ok (.aload_n 0, 1) := dk_42 (dk_at dksX3_looks_0 14 rfl rfl)
theorem dX3_looks_15 : decode cX3_looks 15 = .ok (.getfield 46, 3) := dk_180 0 46 (dk_at dksX3_looks_0 15 rfl rfl)
theorem dX3_looks_18 : decode cX3_looks 18 = .ok (.ireturn, 1) := dk_172 (dk_at dksX3_looks_0 18 rfl rfl)
theorem dX3_looks_19 : decode cX3_looks 19 = .ok (.aload_n 0, 1) := dk_42 (dk_at dksX3_looks_0 19 rfl rfl)
theorem dX3_looks_20 : decode cX3_looks 20 = .ok (.aload_n 0, 1) := dk_42 (dk_at dksX3_looks_0 20 rfl rfl)
theorem dX3_looks_21 : decode cX3_looks 21 = .ok (.getfield 3, 3) := dk_180 0 3 (dk_at dksX3_looks_0 21 rfl rfl)
theorem dX3_looks_24 : decode cX3_looks 24 = .ok (.getfield 43, 3) := dk_180 0 43 (dk_at dksX3_looks_1 0 rfl rfl)
theorem dX3_looks_27 : decode cX3_looks 27 = .ok (.putfield 39, 3) := dk_181 0 39 (dk_at dksX3_looks_1 3 rfl rfl)
theorem dX3_looks_30 : decode cX3_looks 30 = .ok (.aload_n 0, 1) := dk_42 (dk_at dksX3_looks_1 6 rfl rfl)
theorem dX3_looks_31 : decode cX3_looks 31 = .ok (.aload_n 0, 1) := dk_42 (dk_at dksX3_looks_1 7 rfl rfl)
theorem dX3_looks_32 : decode cX3_looks 32 = .ok (.getfield 3, 3) := dk_180 0 3 (dk_at dksX3_looks_1 8 rfl rfl)
theorem dX3_looks_35 : decode cX3_looks 35 = .ok (.invokevirtual 50, 3) := dk_182 0 50 (dk_at dksX3_looks_1 11 rfl rfl)
theorem dX3_looks_38 : decode cX3_looks 38 = .ok (.aload_n 0, 1) := dk_42 (dk_at dksX3_looks_1 14 rfl rfl)
theorem dX3_looks_39 : decode cX3_looks 39 = .ok (.getfield 3, 3) := dk_180 0 3 (dk_at dksX3_looks_1 15 rfl rfl)
theorem dX3_looks_42 : decode cX3_looks 42 = .ok (.getfield 54, 3) := dk_180 0 54 (dk_at dksX3_looks_1 18 rfl rfl)
theorem dX3_looks_45 : decode cX3_looks 45 = .ok (.getfield 58, 3) := dk_180 0 58 (dk_at dksX3_looks_1 21 rfl rfl)
theorem dX3_looks_48 : decode cX3_looks 48 = .ok (.iconst (-1), 1) := dk_2 (dk_at dksX3_looks_2 0 rfl rfl)
theorem dX3_looks_49 : decode cX3_looks 49 = .ok (.iconst (-1), 1) := dk_2 (dk_at dksX3_looks_2 1 rfl rfl)
theorem dX3_looks_50 : decode cX3_looks 50 = .ok (.invokevirtual 64, 3) := dk_182 0 64 (dk_at dksX3_looks_2 2 rfl rfl)
theorem dX3_looks_53 : decode cX3_looks 53 = .ok (.ireturn, 1) := dk_172 (dk_at dksX3_looks_2 5 rfl rfl)
abbrev cX3_fits : ByteArray := prog_6_method_3_code
def yX3_fits : MethodName := ⟨RX3, "fits", "(I[III)Z"⟩
def dkwX3_fits_10 : List UInt8 := [167, 255, 209, 42, 42, 182, 0, 99, 181, 0, 46, 42, 180, 0, 46, 172]
abbrev dktX3_fits_10 : List UInt8 := dkwX3_fits_10 ++ []
def dkwX3_fits_9 : List UInt8 := [21, 5, 29, 160, 0, 17, 42, 21, 5, 16, 6, 21, 5, 96, 4, 4, 3, 182, 0, 68, 132, 5, 1]
abbrev dktX3_fits_9 : List UInt8 := dkwX3_fits_9 ++ dktX3_fits_10
def dkwX3_fits_8 : List UInt8 := [21, 5, 16, 6, 162, 0, 46, 42, 180, 0, 3, 180, 0, 54, 180, 0, 96, 21, 5, 46, 2, 160, 0, 9]
abbrev dktX3_fits_8 : List UInt8 := dkwX3_fits_8 ++ dktX3_fits_9
def dkwX3_fits_7 : List UInt8 := [180, 0, 93, 5, 21, 5, 104, 46, 96, 4, 4, 4, 182, 0, 68, 132, 5, 1, 167, 255, 193, 3, 54, 5]
abbrev dktX3_fits_7 : List UInt8 := dkwX3_fits_7 ++ dktX3_fits_8
def dkwX3_fits_6 : List UInt8 := [180, 0, 54, 180, 0, 93, 5, 21, 5, 104, 4, 96, 46, 96, 16, 12, 42, 180, 0, 3, 180, 0, 54]
abbrev dktX3_fits_6 : List UInt8 := dkwX3_fits_6 ++ dktX3_fits_7
def dkwX3_fits_5 : List UInt8 := [21, 5, 42, 180, 0, 3, 180, 0, 54, 180, 0, 90, 162, 0, 54, 42, 16, 12, 42, 180, 0, 3]
abbrev dktX3_fits_5 : List UInt8 := dkwX3_fits_5 ++ dktX3_fits_6
def dkwX3_fits_4 : List UInt8 := [21, 5, 182, 0, 81, 192, 0, 85, 44, 29, 21, 4, 182, 0, 87, 132, 5, 1, 167, 255, 199, 3, 54, 5]
abbrev dktX3_fits_4 : List UInt8 := dkwX3_fits_4 ++ dktX3_fits_5
def dkwX3_fits_3 : List UInt8 := [162, 0, 45, 27, 21, 5, 122, 4, 126, 4, 160, 0, 29, 42, 42, 180, 0, 3, 180, 0, 54, 180, 0, 72]
abbrev dktX3_fits_3 : List UInt8 := dkwX3_fits_3 ++ dktX3_fits_4
def dkwX3_fits_2 : List UInt8 := [132, 5, 1, 167, 255, 235, 3, 54, 5, 21, 5, 42, 180, 0, 3, 180, 0, 54, 180, 0, 72, 182, 0, 76]
abbrev dktX3_fits_2 : List UInt8 := dkwX3_fits_2 ++ dktX3_fits_3
def dkwX3_fits_1 : List UInt8 := [167, 255, 237, 3, 54, 5, 21, 5, 16, 16, 162, 0, 20, 42, 21, 5, 21, 5, 4, 4, 3, 182, 0, 68]
abbrev dktX3_fits_1 : List UInt8 := dkwX3_fits_1 ++ dktX3_fits_2
def dkwX3_fits_0 : List UInt8 := [3, 54, 5, 21, 5, 17, 1, 0, 162, 0, 17, 42, 180, 0, 32, 21, 5, 3, 84, 132, 5, 1]
abbrev dktX3_fits_0 : List UInt8 := dkwX3_fits_0 ++ dktX3_fits_1
theorem dksX3_fits_0 : cX3_fits.data.toList.drop 0 = dktX3_fits_0 := by decide +kernel
theorem dksX3_fits_1 : cX3_fits.data.toList.drop 22 = dktX3_fits_1 := dk_seg dksX3_fits_0 22 rfl rfl
theorem dksX3_fits_2 : cX3_fits.data.toList.drop 46 = dktX3_fits_2 := dk_seg dksX3_fits_1 24 rfl rfl
theorem dksX3_fits_3 : cX3_fits.data.toList.drop 70 = dktX3_fits_3 := dk_seg dksX3_fits_2 24 rfl rfl
theorem dksX3_fits_4 : cX3_fits.data.toList.drop 94 = dktX3_fits_4 := dk_seg dksX3_fits_3 24 rfl rfl
theorem dksX3_fits_5 : cX3_fits.data.toList.drop 118 = dktX3_fits_5 := dk_seg dksX3_fits_4 24 rfl rfl
theorem dksX3_fits_6 : cX3_fits.data.toList.drop 140 = dktX3_fits_6 := dk_seg dksX3_fits_5 22 rfl rfl
theorem dksX3_fits_7 : cX3_fits.data.toList.drop 163 = dktX3_fits_7 := dk_seg dksX3_fits_6 23 rfl rfl
theorem dksX3_fits_8 : cX3_fits.data.toList.drop 187 = dktX3_fits_8 := dk_seg dksX3_fits_7 24 rfl rfl
theorem dksX3_fits_9 : cX3_fits.data.toList.drop 211 = dktX3_fits_9 := dk_seg dksX3_fits_8 24 rfl rfl
theorem dksX3_fits_10 : cX3_fits.data.toList.drop 234 = dktX3_fits_10 := dk_seg dksX3_fits_9 23 rfl rfl
theorem dX3_fits_0 : decode cX3_fits 0 = .ok (.iconst 0, 1) := dk_3 (dk_at dksX3_fits_0 0 rfl rfl)
theorem dX3_fits_1 : decode cX3_fits 1 = .ok (.istore 5, 2) := dk_54 5 (dk_at dksX3_fits_0 1 rfl rfl)
theorem dX3_fits_3 : decode cX3_fits 3 = .ok (.iload 5, 2) := dk_21 5 (dk_at dksX3_fits_0 3 rfl rfl)
theorem dX3_fits_5 : decode cX3_fits 5 = .ok (.sipush 256, 3) := dk_17 1 0 (dk_at dksX3_fits_0 5 rfl rfl)
theorem dX3_fits_8 : decode cX3_fits 8 = .ok (.if_icmp .ge 17, 3) := dk_162 0 17 (dk_at dksX3_fits_0 8 rfl rfl)
theorem dX3_fits_11 : decode cX3_fits 11 = .ok (.aload_n 0, 1) := dk_42 (dk_at dksX3_fits_0 11 rfl rfl)
theorem dX3_fits_12 : decode cX3_fits 12 = .ok (.getfield 32, 3) := dk_180 0 32 (dk_at dksX3_fits_0 12 rfl rfl)
theorem dX3_fits_15 : decode cX3_fits 15 = .ok (.iload 5, 2) := dk_21 5 (dk_at dksX3_fits_0 15 rfl rfl)
theorem dX3_fits_17 : decode cX3_fits 17 = .ok (.iconst 0, 1) := dk_3 (dk_at dksX3_fits_0 17 rfl rfl)
theorem dX3_fits_18 : decode cX3_fits 18 = .ok (.bastore, 1) := dk_84 (dk_at dksX3_fits_0 18 rfl rfl)
theorem dX3_fits_19 : decode cX3_fits 19 = .ok (.iinc 5 1, 3) := dk_132 5 1 (dk_at dksX3_fits_0 19 rfl rfl)
theorem dX3_fits_22 : decode cX3_fits 22 = .ok (.goto (-19), 3) := dk_167 255 237 (dk_at dksX3_fits_1 0 rfl rfl)
theorem dX3_fits_25 : decode cX3_fits 25 = .ok (.iconst 0, 1) := dk_3 (dk_at dksX3_fits_1 3 rfl rfl)
theorem dX3_fits_26 : decode cX3_fits 26 = .ok (.istore 5, 2) := dk_54 5 (dk_at dksX3_fits_1 4 rfl rfl)
theorem dX3_fits_28 : decode cX3_fits 28 = .ok (.iload 5, 2) := dk_21 5 (dk_at dksX3_fits_1 6 rfl rfl)
theorem dX3_fits_30 : decode cX3_fits 30 = .ok (.bipush 16, 2) := dk_16 16 (dk_at dksX3_fits_1 8 rfl rfl)
theorem dX3_fits_32 : decode cX3_fits 32 = .ok (.if_icmp .ge 20, 3) := dk_162 0 20 (dk_at dksX3_fits_1 10 rfl rfl)
theorem dX3_fits_35 : decode cX3_fits 35 = .ok (.aload_n 0, 1) := dk_42 (dk_at dksX3_fits_1 13 rfl rfl)
theorem dX3_fits_36 : decode cX3_fits 36 = .ok (.iload 5, 2) := dk_21 5 (dk_at dksX3_fits_1 14 rfl rfl)
theorem dX3_fits_38 : decode cX3_fits 38 = .ok (.iload 5, 2) := dk_21 5 (dk_at dksX3_fits_1 16 rfl rfl)
theorem dX3_fits_40 : decode cX3_fits 40 = .ok (.iconst 1, 1) := dk_4 (dk_at dksX3_fits_1 18 rfl rfl)
theorem dX3_fits_41 : decode cX3_fits 41 = .ok (.iconst 1, 1) := dk_4 (dk_at dksX3_fits_1 19 rfl rfl)
theorem dX3_fits_42 : decode cX3_fits 42 = .ok (.iconst 0, 1) := dk_3 (dk_at dksX3_fits_1 20 rfl rfl)
theorem dX3_fits_43 : decode cX3_fits 43 = .ok (.invokevirtual 68, 3) := dk_182 0 68 (dk_at dksX3_fits_1 21 rfl rfl)
theorem dX3_fits_46 : decode cX3_fits 46 = .ok (.iinc 5 1, 3) := dk_132 5 1 (dk_at dksX3_fits_2 0 rfl rfl)
theorem dX3_fits_49 : decode cX3_fits 49 = .ok (.goto (-21), 3) := dk_167 255 235 (dk_at dksX3_fits_2 3 rfl rfl)
theorem dX3_fits_52 : decode cX3_fits 52 = .ok (.iconst 0, 1) := dk_3 (dk_at dksX3_fits_2 6 rfl rfl)
theorem dX3_fits_53 : decode cX3_fits 53 = .ok (.istore 5, 2) := dk_54 5 (dk_at dksX3_fits_2 7 rfl rfl)
theorem dX3_fits_55 : decode cX3_fits 55 = .ok (.iload 5, 2) := dk_21 5 (dk_at dksX3_fits_2 9 rfl rfl)
theorem dX3_fits_57 : decode cX3_fits 57 = .ok (.aload_n 0, 1) := dk_42 (dk_at dksX3_fits_2 11 rfl rfl)
theorem dX3_fits_58 : decode cX3_fits 58 = .ok (.getfield 3, 3) := dk_180 0 3 (dk_at dksX3_fits_2 12 rfl rfl)
theorem dX3_fits_61 : decode cX3_fits 61 = .ok (.getfield 54, 3) := dk_180 0 54 (dk_at dksX3_fits_2 15 rfl rfl)
theorem dX3_fits_64 : decode cX3_fits 64 = .ok (.getfield 72, 3) := dk_180 0 72 (dk_at dksX3_fits_2 18 rfl rfl)
theorem dX3_fits_67 : decode cX3_fits 67 = .ok (.invokevirtual 76, 3) := dk_182 0 76 (dk_at dksX3_fits_2 21 rfl rfl)
theorem dX3_fits_70 : decode cX3_fits 70 = .ok (.if_icmp .ge 45, 3) := dk_162 0 45 (dk_at dksX3_fits_3 0 rfl rfl)
theorem dX3_fits_73 : decode cX3_fits 73 = .ok (.iload_n 1, 1) := dk_27 (dk_at dksX3_fits_3 3 rfl rfl)
theorem dX3_fits_74 : decode cX3_fits 74 = .ok (.iload 5, 2) := dk_21 5 (dk_at dksX3_fits_3 4 rfl rfl)
theorem dX3_fits_76 : decode cX3_fits 76 = .ok (.ishr, 1) := dk_122 (dk_at dksX3_fits_3 6 rfl rfl)
theorem dX3_fits_77 : decode cX3_fits 77 = .ok (.iconst 1, 1) := dk_4 (dk_at dksX3_fits_3 7 rfl rfl)
theorem dX3_fits_78 : decode cX3_fits 78 = .ok (.iand, 1) := dk_126 (dk_at dksX3_fits_3 8 rfl rfl)
theorem dX3_fits_79 : decode cX3_fits 79 = .ok (.iconst 1, 1) := dk_4 (dk_at dksX3_fits_3 9 rfl rfl)
theorem dX3_fits_80 : decode cX3_fits 80 = .ok (.if_icmp .ne 29, 3) := dk_160 0 29 (dk_at dksX3_fits_3 10 rfl rfl)
theorem dX3_fits_83 : decode cX3_fits 83 = .ok (.aload_n 0, 1) := dk_42 (dk_at dksX3_fits_3 13 rfl rfl)
theorem dX3_fits_84 : decode cX3_fits 84 = .ok (.aload_n 0, 1) := dk_42 (dk_at dksX3_fits_3 14 rfl rfl)
theorem dX3_fits_85 : decode cX3_fits 85 = .ok (.getfield 3, 3) := dk_180 0 3 (dk_at dksX3_fits_3 15 rfl rfl)
theorem dX3_fits_88 : decode cX3_fits 88 = .ok (.getfield 54, 3) := dk_180 0 54 (dk_at dksX3_fits_3 18 rfl rfl)
theorem dX3_fits_91 : decode cX3_fits 91 = .ok (.getfield 72, 3) := dk_180 0 72 (dk_at dksX3_fits_3 21 rfl rfl)
theorem dX3_fits_94 : decode cX3_fits 94 = .ok (.iload 5, 2) := dk_21 5 (dk_at dksX3_fits_4 0 rfl rfl)
theorem dX3_fits_96 : decode cX3_fits 96 = .ok (.invokevirtual 81, 3) := dk_182 0 81 (dk_at dksX3_fits_4 2 rfl rfl)
theorem dX3_fits_99 : decode cX3_fits 99 = .ok (.checkcast 85, 3) := dk_192 0 85 (dk_at dksX3_fits_4 5 rfl rfl)
theorem dX3_fits_102 : decode cX3_fits 102 = .ok (.aload_n 2, 1) := dk_44 (dk_at dksX3_fits_4 8 rfl rfl)
theorem dX3_fits_103 : decode cX3_fits 103 = .ok (.iload_n 3, 1) := dk_29 (dk_at dksX3_fits_4 9 rfl rfl)
theorem dX3_fits_104 : decode cX3_fits 104 = .ok (.iload 4, 2) := dk_21 4 (dk_at dksX3_fits_4 10 rfl rfl)
theorem dX3_fits_106 : decode cX3_fits 106 = .ok (.invokevirtual 87, 3) := dk_182 0 87 (dk_at dksX3_fits_4 12 rfl rfl)
theorem dX3_fits_109 : decode cX3_fits 109 = .ok (.iinc 5 1, 3) := dk_132 5 1 (dk_at dksX3_fits_4 15 rfl rfl)
theorem dX3_fits_112 : decode cX3_fits 112 = .ok (.goto (-57), 3) := dk_167 255 199 (dk_at dksX3_fits_4 18 rfl rfl)
theorem dX3_fits_115 : decode cX3_fits 115 = .ok (.iconst 0, 1) := dk_3 (dk_at dksX3_fits_4 21 rfl rfl)
theorem dX3_fits_116 : decode cX3_fits 116 = .ok (.istore 5, 2) := dk_54 5 (dk_at dksX3_fits_4 22 rfl rfl)
theorem dX3_fits_118 : decode cX3_fits 118 = .ok (.iload 5, 2) := dk_21 5 (dk_at dksX3_fits_5 0 rfl rfl)
theorem dX3_fits_120 : decode cX3_fits 120 = .ok (.aload_n 0, 1) := dk_42 (dk_at dksX3_fits_5 2 rfl rfl)
theorem dX3_fits_121 : decode cX3_fits 121 = .ok (.getfield 3, 3) := dk_180 0 3 (dk_at dksX3_fits_5 3 rfl rfl)
theorem dX3_fits_124 : decode cX3_fits 124 = .ok (.getfield 54, 3) := dk_180 0 54 (dk_at dksX3_fits_5 6 rfl rfl)
theorem dX3_fits_127 : decode cX3_fits 127 = .ok (.getfield 90, 3) := dk_180 0 90 (dk_at dksX3_fits_5 9 rfl rfl)
theorem dX3_fits_130 : decode cX3_fits 130 = .ok (.if_icmp .ge 54, 3) := dk_162 0 54 (dk_at dksX3_fits_5 12 rfl rfl)
theorem dX3_fits_133 : decode cX3_fits 133 = .ok (.aload_n 0, 1) := dk_42 (dk_at dksX3_fits_5 15 rfl rfl)
theorem dX3_fits_134 : decode cX3_fits 134 = .ok (.bipush 12, 2) := dk_16 12 (dk_at dksX3_fits_5 16 rfl rfl)
theorem dX3_fits_136 : decode cX3_fits 136 = .ok (.aload_n 0, 1) := dk_42 (dk_at dksX3_fits_5 18 rfl rfl)
theorem dX3_fits_137 : decode cX3_fits 137 = .ok (.getfield 3, 3) := dk_180 0 3 (dk_at dksX3_fits_5 19 rfl rfl)
theorem dX3_fits_140 : decode cX3_fits 140 = .ok (.getfield 54, 3) := dk_180 0 54 (dk_at dksX3_fits_6 0 rfl rfl)
theorem dX3_fits_143 : decode cX3_fits 143 = .ok (.getfield 93, 3) := dk_180 0 93 (dk_at dksX3_fits_6 3 rfl rfl)
theorem dX3_fits_146 : decode cX3_fits 146 = .ok (.iconst 2, 1) := dk_5 (dk_at dksX3_fits_6 6 rfl rfl)
theorem dX3_fits_147 : decode cX3_fits 147 = .ok (.iload 5, 2) := dk_21 5 (dk_at dksX3_fits_6 7 rfl rfl)
theorem dX3_fits_149 : decode cX3_fits 149 = .ok (.imul, 1) := dk_104 (dk_at dksX3_fits_6 9 rfl rfl)
theorem dX3_fits_150 : decode cX3_fits 150 = .ok (.iconst 1, 1) := dk_4 (dk_at dksX3_fits_6 10 rfl rfl)
theorem dX3_fits_151 : decode cX3_fits 151 = .ok (.iadd, 1) := dk_96 (dk_at dksX3_fits_6 11 rfl rfl)
theorem dX3_fits_152 : decode cX3_fits 152 = .ok (.iaload, 1) := dk_46 (dk_at dksX3_fits_6 12 rfl rfl)
theorem dX3_fits_153 : decode cX3_fits 153 = .ok (.iadd, 1) := dk_96 (dk_at dksX3_fits_6 13 rfl rfl)
theorem dX3_fits_154 : decode cX3_fits 154 = .ok (.bipush 12, 2) := dk_16 12 (dk_at dksX3_fits_6 14 rfl rfl)
theorem dX3_fits_156 : decode cX3_fits 156 = .ok (.aload_n 0, 1) := dk_42 (dk_at dksX3_fits_6 16 rfl rfl)
theorem dX3_fits_157 : decode cX3_fits 157 = .ok (.getfield 3, 3) := dk_180 0 3 (dk_at dksX3_fits_6 17 rfl rfl)
theorem dX3_fits_160 : decode cX3_fits 160 = .ok (.getfield 54, 3) := dk_180 0 54 (dk_at dksX3_fits_6 20 rfl rfl)
theorem dX3_fits_163 : decode cX3_fits 163 = .ok (.getfield 93, 3) := dk_180 0 93 (dk_at dksX3_fits_7 0 rfl rfl)
theorem dX3_fits_166 : decode cX3_fits 166 = .ok (.iconst 2, 1) := dk_5 (dk_at dksX3_fits_7 3 rfl rfl)
theorem dX3_fits_167 : decode cX3_fits 167 = .ok (.iload 5, 2) := dk_21 5 (dk_at dksX3_fits_7 4 rfl rfl)
theorem dX3_fits_169 : decode cX3_fits 169 = .ok (.imul, 1) := dk_104 (dk_at dksX3_fits_7 6 rfl rfl)
theorem dX3_fits_170 : decode cX3_fits 170 = .ok (.iaload, 1) := dk_46 (dk_at dksX3_fits_7 7 rfl rfl)
theorem dX3_fits_171 : decode cX3_fits 171 = .ok (.iadd, 1) := dk_96 (dk_at dksX3_fits_7 8 rfl rfl)
theorem dX3_fits_172 : decode cX3_fits 172 = .ok (.iconst 1, 1) := dk_4 (dk_at dksX3_fits_7 9 rfl rfl)
theorem dX3_fits_173 : decode cX3_fits 173 = .ok (.iconst 1, 1) := dk_4 (dk_at dksX3_fits_7 10 rfl rfl)
theorem dX3_fits_174 : decode cX3_fits 174 = .ok (.iconst 1, 1) := dk_4 (dk_at dksX3_fits_7 11 rfl rfl)
theorem dX3_fits_175 : decode cX3_fits 175 = .ok (.invokevirtual 68, 3) := dk_182 0 68 (dk_at dksX3_fits_7 12 rfl rfl)
theorem dX3_fits_178 : decode cX3_fits 178 = .ok (.iinc 5 1, 3) := dk_132 5 1 (dk_at dksX3_fits_7 15 rfl rfl)
theorem dX3_fits_181 : decode cX3_fits 181 = .ok (.goto (-63), 3) := dk_167 255 193 (dk_at dksX3_fits_7 18 rfl rfl)
theorem dX3_fits_184 : decode cX3_fits 184 = .ok (.iconst 0, 1) := dk_3 (dk_at dksX3_fits_7 21 rfl rfl)
theorem dX3_fits_185 : decode cX3_fits 185 = .ok (.istore 5, 2) := dk_54 5 (dk_at dksX3_fits_7 22 rfl rfl)
theorem dX3_fits_187 : decode cX3_fits 187 = .ok (.iload 5, 2) := dk_21 5 (dk_at dksX3_fits_8 0 rfl rfl)
theorem dX3_fits_189 : decode cX3_fits 189 = .ok (.bipush 6, 2) := dk_16 6 (dk_at dksX3_fits_8 2 rfl rfl)
theorem dX3_fits_191 : decode cX3_fits 191 = .ok (.if_icmp .ge 46, 3) := dk_162 0 46 (dk_at dksX3_fits_8 4 rfl rfl)
theorem dX3_fits_194 : decode cX3_fits 194 = .ok (.aload_n 0, 1) := dk_42 (dk_at dksX3_fits_8 7 rfl rfl)
theorem dX3_fits_195 : decode cX3_fits 195 = .ok (.getfield 3, 3) := dk_180 0 3 (dk_at dksX3_fits_8 8 rfl rfl)
theorem dX3_fits_198 : decode cX3_fits 198 = .ok (.getfield 54, 3) := dk_180 0 54 (dk_at dksX3_fits_8 11 rfl rfl)
theorem dX3_fits_201 : decode cX3_fits 201 = .ok (.getfield 96, 3) := dk_180 0 96 (dk_at dksX3_fits_8 14 rfl rfl)
theorem dX3_fits_204 : decode cX3_fits 204 = .ok (.iload 5, 2) := dk_21 5 (dk_at dksX3_fits_8 17 rfl rfl)
theorem dX3_fits_206 : decode cX3_fits 206 = .ok (.iaload, 1) := dk_46 (dk_at dksX3_fits_8 19 rfl rfl)
theorem dX3_fits_207 : decode cX3_fits 207 = .ok (.iconst (-1), 1) := dk_2 (dk_at dksX3_fits_8 20 rfl rfl)
theorem dX3_fits_208 : decode cX3_fits 208 = .ok (.if_icmp .ne 9, 3) := dk_160 0 9 (dk_at dksX3_fits_8 21 rfl rfl)
theorem dX3_fits_211 : decode cX3_fits 211 = .ok (.iload 5, 2) := dk_21 5 (dk_at dksX3_fits_9 0 rfl rfl)
theorem dX3_fits_213 : decode cX3_fits 213 = .ok (.iload_n 3, 1) := dk_29 (dk_at dksX3_fits_9 2 rfl rfl)
theorem dX3_fits_214 : decode cX3_fits 214 = .ok (.if_icmp .ne 17, 3) := dk_160 0 17 (dk_at dksX3_fits_9 3 rfl rfl)
theorem dX3_fits_217 : decode cX3_fits 217 = .ok (.aload_n 0, 1) := dk_42 (dk_at dksX3_fits_9 6 rfl rfl)
theorem dX3_fits_218 : decode cX3_fits 218 = .ok (.iload 5, 2) := dk_21 5 (dk_at dksX3_fits_9 7 rfl rfl)
theorem dX3_fits_220 : decode cX3_fits 220 = .ok (.bipush 6, 2) := dk_16 6 (dk_at dksX3_fits_9 9 rfl rfl)
theorem dX3_fits_222 : decode cX3_fits 222 = .ok (.iload 5, 2) := dk_21 5 (dk_at dksX3_fits_9 11 rfl rfl)
theorem dX3_fits_224 : decode cX3_fits 224 = .ok (.iadd, 1) := dk_96 (dk_at dksX3_fits_9 13 rfl rfl)
theorem dX3_fits_225 : decode cX3_fits 225 = .ok (.iconst 1, 1) := dk_4 (dk_at dksX3_fits_9 14 rfl rfl)
theorem dX3_fits_226 : decode cX3_fits 226 = .ok (.iconst 1, 1) := dk_4 (dk_at dksX3_fits_9 15 rfl rfl)
theorem dX3_fits_227 : decode cX3_fits 227 = .ok (.iconst 0, 1) := dk_3 (dk_at dksX3_fits_9 16 rfl rfl)
theorem dX3_fits_228 : decode cX3_fits 228 = .ok (.invokevirtual 68, 3) := dk_182 0 68 (dk_at dksX3_fits_9 17 rfl rfl)
theorem dX3_fits_231 : decode cX3_fits 231 = .ok (.iinc 5 1, 3) := dk_132 5 1 (dk_at dksX3_fits_9 20 rfl rfl)
theorem dX3_fits_234 : decode cX3_fits 234 = .ok (.goto (-47), 3) := dk_167 255 209 (dk_at dksX3_fits_10 0 rfl rfl)
theorem dX3_fits_237 : decode cX3_fits 237 = .ok (.aload_n 0, 1) := dk_42 (dk_at dksX3_fits_10 3 rfl rfl)
theorem dX3_fits_238 : decode cX3_fits 238 = .ok (.aload_n 0, 1) := dk_42 (dk_at dksX3_fits_10 4 rfl rfl)
theorem dX3_fits_239 : decode cX3_fits 239 = .ok (.invokevirtual 99, 3) := dk_182 0 99 (dk_at dksX3_fits_10 5 rfl rfl)
theorem dX3_fits_242 : decode cX3_fits 242 = .ok (.putfield 46, 3) := dk_181 0 46 (dk_at dksX3_fits_10 8 rfl rfl)
theorem dX3_fits_245 : decode cX3_fits 245 = .ok (.aload_n 0, 1) := dk_42 (dk_at dksX3_fits_10 11 rfl rfl)
theorem dX3_fits_246 : decode cX3_fits 246 = .ok (.getfield 46, 3) := dk_180 0 46 (dk_at dksX3_fits_10 12 rfl rfl)
theorem dX3_fits_249 : decode cX3_fits 249 = .ok (.ireturn, 1) := dk_172 (dk_at dksX3_fits_10 15 rfl rfl)
abbrev cX3_ties : ByteArray := prog_6_method_5_code
def yX3_ties : MethodName := ⟨RX3, "ties", "(IIIIZ)V"⟩
def dkwX3_ties_1 : List UInt8 := [21, 5, 182, 0, 126, 177]
abbrev dktX3_ties_1 : List UInt8 := dkwX3_ties_1 ++ []
def dkwX3_ties_0 : List UInt8 := [42, 180, 0, 25, 29, 182, 0, 122, 42, 180, 0, 29, 21, 4, 182, 0, 122, 42, 16, 16, 27, 104, 28, 96]
abbrev dktX3_ties_0 : List UInt8 := dkwX3_ties_0 ++ dktX3_ties_1
theorem dksX3_ties_0 : cX3_ties.data.toList.drop 0 = dktX3_ties_0 := by decide +kernel
theorem dksX3_ties_1 : cX3_ties.data.toList.drop 24 = dktX3_ties_1 := dk_seg dksX3_ties_0 24 rfl rfl
theorem dX3_ties_0 : decode cX3_ties 0 = .ok (.aload_n 0, 1) := dk_42 (dk_at dksX3_ties_0 0 rfl rfl)
theorem dX3_ties_1 : decode cX3_ties 1 = .ok (.getfield 25, 3) := dk_180 0 25 (dk_at dksX3_ties_0 1 rfl rfl)
theorem dX3_ties_4 : decode cX3_ties 4 = .ok (.iload_n 3, 1) := dk_29 (dk_at dksX3_ties_0 4 rfl rfl)
theorem dX3_ties_5 : decode cX3_ties 5 = .ok (.invokevirtual 122, 3) := dk_182 0 122 (dk_at dksX3_ties_0 5 rfl rfl)
theorem dX3_ties_8 : decode cX3_ties 8 = .ok (.aload_n 0, 1) := dk_42 (dk_at dksX3_ties_0 8 rfl rfl)
theorem dX3_ties_9 : decode cX3_ties 9 = .ok (.getfield 29, 3) := dk_180 0 29 (dk_at dksX3_ties_0 9 rfl rfl)
theorem dX3_ties_12 : decode cX3_ties 12 = .ok (.iload 4, 2) := dk_21 4 (dk_at dksX3_ties_0 12 rfl rfl)
theorem dX3_ties_14 : decode cX3_ties 14 = .ok (.invokevirtual 122, 3) := dk_182 0 122 (dk_at dksX3_ties_0 14 rfl rfl)
theorem dX3_ties_17 : decode cX3_ties 17 = .ok (.aload_n 0, 1) := dk_42 (dk_at dksX3_ties_0 17 rfl rfl)
theorem dX3_ties_18 : decode cX3_ties 18 = .ok (.bipush 16, 2) := dk_16 16 (dk_at dksX3_ties_0 18 rfl rfl)
theorem dX3_ties_20 : decode cX3_ties 20 = .ok (.iload_n 1, 1) := dk_27 (dk_at dksX3_ties_0 20 rfl rfl)
theorem dX3_ties_21 : decode cX3_ties 21 = .ok (.imul, 1) := dk_104 (dk_at dksX3_ties_0 21 rfl rfl)
theorem dX3_ties_22 : decode cX3_ties 22 = .ok (.iload_n 2, 1) := dk_28 (dk_at dksX3_ties_0 22 rfl rfl)
theorem dX3_ties_23 : decode cX3_ties 23 = .ok (.iadd, 1) := dk_96 (dk_at dksX3_ties_0 23 rfl rfl)
theorem dX3_ties_24 : decode cX3_ties 24 = .ok (.iload 5, 2) := dk_21 5 (dk_at dksX3_ties_1 0 rfl rfl)
theorem dX3_ties_26 : decode cX3_ties 26 = .ok (.invokevirtual 126, 3) := dk_182 0 126 (dk_at dksX3_ties_1 2 rfl rfl)
theorem dX3_ties_29 : decode cX3_ties 29 = .ok (.return_, 1) := dk_177 (dk_at dksX3_ties_1 5 rfl rfl)
abbrev cX3_comes : ByteArray := prog_6_method_6_code
def yX3_comes : MethodName := ⟨RX3, "comes", "(IZ)V"⟩
def dkwX3_comes_5 : List UInt8 := [50, 42, 180, 0, 29, 182, 0, 144, 42, 180, 0, 36, 27, 28, 84, 177]
abbrev dktX3_comes_5 : List UInt8 := dkwX3_comes_5 ++ []
def dkwX3_comes_4 : List UInt8 := [180, 0, 32, 27, 4, 84, 42, 180, 0, 17, 27, 50, 42, 180, 0, 25, 182, 0, 144, 42, 180, 0, 21, 27]
abbrev dktX3_comes_4 : List UInt8 := dkwX3_comes_4 ++ dktX3_comes_5
def dkwX3_comes_3 : List UInt8 := [155, 0, 20, 29, 154, 0, 17, 42, 180, 0, 36, 27, 51, 154, 0, 7, 28, 154, 0, 4, 177, 42]
abbrev dktX3_comes_3 : List UInt8 := dkwX3_comes_3 ++ dktX3_comes_4
def dkwX3_comes_2 : List UInt8 := [182, 0, 133, 42, 180, 0, 3, 180, 0, 130, 42, 180, 0, 3, 180, 0, 137, 182, 0, 140, 62, 29]
abbrev dktX3_comes_2 : List UInt8 := dkwX3_comes_2 ++ dktX3_comes_3
def dkwX3_comes_1 : List UInt8 := [27, 50, 182, 0, 133, 42, 180, 0, 3, 180, 0, 137, 42, 180, 0, 17, 27, 50, 42, 180, 0, 29]
abbrev dktX3_comes_1 : List UInt8 := dkwX3_comes_1 ++ dktX3_comes_2
def dkwX3_comes_0 : List UInt8 := [42, 180, 0, 32, 27, 51, 153, 0, 83, 42, 180, 0, 3, 180, 0, 130, 42, 180, 0, 25, 42, 180, 0, 21]
abbrev dktX3_comes_0 : List UInt8 := dkwX3_comes_0 ++ dktX3_comes_1
theorem dksX3_comes_0 : cX3_comes.data.toList.drop 0 = dktX3_comes_0 := by decide +kernel
theorem dksX3_comes_1 : cX3_comes.data.toList.drop 24 = dktX3_comes_1 := dk_seg dksX3_comes_0 24 rfl rfl
theorem dksX3_comes_2 : cX3_comes.data.toList.drop 46 = dktX3_comes_2 := dk_seg dksX3_comes_1 22 rfl rfl
theorem dksX3_comes_3 : cX3_comes.data.toList.drop 68 = dktX3_comes_3 := dk_seg dksX3_comes_2 22 rfl rfl
theorem dksX3_comes_4 : cX3_comes.data.toList.drop 90 = dktX3_comes_4 := dk_seg dksX3_comes_3 22 rfl rfl
theorem dksX3_comes_5 : cX3_comes.data.toList.drop 114 = dktX3_comes_5 := dk_seg dksX3_comes_4 24 rfl rfl
theorem dX3_comes_0 : decode cX3_comes 0 = .ok (.aload_n 0, 1) := dk_42 (dk_at dksX3_comes_0 0 rfl rfl)
theorem dX3_comes_1 : decode cX3_comes 1 = .ok (.getfield 32, 3) := dk_180 0 32 (dk_at dksX3_comes_0 1 rfl rfl)
theorem dX3_comes_4 : decode cX3_comes 4 = .ok (.iload_n 1, 1) := dk_27 (dk_at dksX3_comes_0 4 rfl rfl)
theorem dX3_comes_5 : decode cX3_comes 5 = .ok (.baload, 1) := dk_51 (dk_at dksX3_comes_0 5 rfl rfl)
theorem dX3_comes_6 : decode cX3_comes 6 = .ok (.ifCond .eq 83, 3) := dk_153 0 83 (dk_at dksX3_comes_0 6 rfl rfl)
theorem dX3_comes_9 : decode cX3_comes 9 = .ok (.aload_n 0, 1) := dk_42 (dk_at dksX3_comes_0 9 rfl rfl)
theorem dX3_comes_10 : decode cX3_comes 10 = .ok (.getfield 3, 3) := dk_180 0 3 (dk_at dksX3_comes_0 10 rfl rfl)
theorem dX3_comes_13 : decode cX3_comes 13 = .ok (.getfield 130, 3) := dk_180 0 130 (dk_at dksX3_comes_0 13 rfl rfl)
theorem dX3_comes_16 : decode cX3_comes 16 = .ok (.aload_n 0, 1) := dk_42 (dk_at dksX3_comes_0 16 rfl rfl)
theorem dX3_comes_17 : decode cX3_comes 17 = .ok (.getfield 25, 3) := dk_180 0 25 (dk_at dksX3_comes_0 17 rfl rfl)
theorem dX3_comes_20 : decode cX3_comes 20 = .ok (.aload_n 0, 1) := dk_42 (dk_at dksX3_comes_0 20 rfl rfl)
theorem dX3_comes_21 : decode cX3_comes 21 = .ok (.getfield 21, 3) := dk_180 0 21 (dk_at dksX3_comes_0 21 rfl rfl)
theorem dX3_comes_24 : decode cX3_comes 24 = .ok (.iload_n 1, 1) := dk_27 (dk_at dksX3_comes_1 0 rfl rfl)
theorem dX3_comes_25 : decode cX3_comes 25 = .ok (.aaload, 1) := dk_50 (dk_at dksX3_comes_1 1 rfl rfl)
theorem dX3_comes_26 : decode cX3_comes 26 = .ok (.invokevirtual 133, 3) := dk_182 0 133 (dk_at dksX3_comes_1 2 rfl rfl)
theorem dX3_comes_29 : decode cX3_comes 29 = .ok (.aload_n 0, 1) := dk_42 (dk_at dksX3_comes_1 5 rfl rfl)
theorem dX3_comes_30 : decode cX3_comes 30 = .ok (.getfield 3, 3) := dk_180 0 3 (dk_at dksX3_comes_1 6 rfl rfl)
theorem dX3_comes_33 : decode cX3_comes 33 = .ok (.getfield 137, 3) := dk_180 0 137 (dk_at dksX3_comes_1 9 rfl rfl)
theorem dX3_comes_36 : decode cX3_comes 36 = .ok (.aload_n 0, 1) := dk_42 (dk_at dksX3_comes_1 12 rfl rfl)
theorem dX3_comes_37 : decode cX3_comes 37 = .ok (.getfield 17, 3) := dk_180 0 17 (dk_at dksX3_comes_1 13 rfl rfl)
theorem dX3_comes_40 : decode cX3_comes 40 = .ok (.iload_n 1, 1) := dk_27 (dk_at dksX3_comes_1 16 rfl rfl)
theorem dX3_comes_41 : decode cX3_comes 41 = .ok (.aaload, 1) := dk_50 (dk_at dksX3_comes_1 17 rfl rfl)
theorem dX3_comes_42 : decode cX3_comes 42 = .ok (.aload_n 0, 1) := dk_42 (dk_at dksX3_comes_1 18 rfl rfl)
theorem dX3_comes_43 : decode cX3_comes 43 = .ok (.getfield 29, 3) := dk_180 0 29 (dk_at dksX3_comes_1 19 rfl rfl)
theorem dX3_comes_46 : decode cX3_comes 46 = .ok (.invokevirtual 133, 3) := dk_182 0 133 (dk_at dksX3_comes_2 0 rfl rfl)
theorem dX3_comes_49 : decode cX3_comes 49 = .ok (.aload_n 0, 1) := dk_42 (dk_at dksX3_comes_2 3 rfl rfl)
theorem dX3_comes_50 : decode cX3_comes 50 = .ok (.getfield 3, 3) := dk_180 0 3 (dk_at dksX3_comes_2 4 rfl rfl)
theorem dX3_comes_53 : decode cX3_comes 53 = .ok (.getfield 130, 3) := dk_180 0 130 (dk_at dksX3_comes_2 7 rfl rfl)
theorem dX3_comes_56 : decode cX3_comes 56 = .ok (.aload_n 0, 1) := dk_42 (dk_at dksX3_comes_2 10 rfl rfl)
theorem dX3_comes_57 : decode cX3_comes 57 = .ok (.getfield 3, 3) := dk_180 0 3 (dk_at dksX3_comes_2 11 rfl rfl)
theorem dX3_comes_60 : decode cX3_comes 60 = .ok (.getfield 137, 3) := dk_180 0 137 (dk_at dksX3_comes_2 14 rfl rfl)
theorem dX3_comes_63 : decode cX3_comes 63 = .ok (.invokevirtual 140, 3) := dk_182 0 140 (dk_at dksX3_comes_2 17 rfl rfl)
theorem dX3_comes_66 : decode cX3_comes 66 = .ok (.istore_n 3, 1) := dk_62 (dk_at dksX3_comes_2 20 rfl rfl)
theorem dX3_comes_67 : decode cX3_comes 67 = .ok (.iload_n 3, 1) := dk_29 (dk_at dksX3_comes_2 21 rfl rfl)
theorem dX3_comes_68 : decode cX3_comes 68 = .ok (.ifCond .lt 20, 3) := dk_155 0 20 (dk_at dksX3_comes_3 0 rfl rfl)
theorem dX3_comes_71 : decode cX3_comes 71 = .ok (.iload_n 3, 1) := dk_29 (dk_at dksX3_comes_3 3 rfl rfl)
theorem dX3_comes_72 : decode cX3_comes 72 = .ok (.ifCond .ne 17, 3) := dk_154 0 17 (dk_at dksX3_comes_3 4 rfl rfl)
theorem dX3_comes_75 : decode cX3_comes 75 = .ok (.aload_n 0, 1) := dk_42 (dk_at dksX3_comes_3 7 rfl rfl)
theorem dX3_comes_76 : decode cX3_comes 76 = .ok (.getfield 36, 3) := dk_180 0 36 (dk_at dksX3_comes_3 8 rfl rfl)
theorem dX3_comes_79 : decode cX3_comes 79 = .ok (.iload_n 1, 1) := dk_27 (dk_at dksX3_comes_3 11 rfl rfl)
theorem dX3_comes_80 : decode cX3_comes 80 = .ok (.baload, 1) := dk_51 (dk_at dksX3_comes_3 12 rfl rfl)
theorem dX3_comes_81 : decode cX3_comes 81 = .ok (.ifCond .ne 7, 3) := dk_154 0 7 (dk_at dksX3_comes_3 13 rfl rfl)
theorem dX3_comes_84 : decode cX3_comes 84 = .ok (.iload_n 2, 1) := dk_28 (dk_at dksX3_comes_3 16 rfl rfl)
theorem dX3_comes_85 : decode cX3_comes 85 = .ok (.ifCond .ne 4, 3) := dk_154 0 4 (dk_at dksX3_comes_3 17 rfl rfl)
theorem dX3_comes_88 : decode cX3_comes 88 = .ok (.return_, 1) := dk_177 (dk_at dksX3_comes_3 20 rfl rfl)
theorem dX3_comes_89 : decode cX3_comes 89 = .ok (.aload_n 0, 1) := dk_42 (dk_at dksX3_comes_3 21 rfl rfl)
theorem dX3_comes_90 : decode cX3_comes 90 = .ok (.getfield 32, 3) := dk_180 0 32 (dk_at dksX3_comes_4 0 rfl rfl)
theorem dX3_comes_93 : decode cX3_comes 93 = .ok (.iload_n 1, 1) := dk_27 (dk_at dksX3_comes_4 3 rfl rfl)
theorem dX3_comes_94 : decode cX3_comes 94 = .ok (.iconst 1, 1) := dk_4 (dk_at dksX3_comes_4 4 rfl rfl)
theorem dX3_comes_95 : decode cX3_comes 95 = .ok (.bastore, 1) := dk_84 (dk_at dksX3_comes_4 5 rfl rfl)
theorem dX3_comes_96 : decode cX3_comes 96 = .ok (.aload_n 0, 1) := dk_42 (dk_at dksX3_comes_4 6 rfl rfl)
theorem dX3_comes_97 : decode cX3_comes 97 = .ok (.getfield 17, 3) := dk_180 0 17 (dk_at dksX3_comes_4 7 rfl rfl)
theorem dX3_comes_100 : decode cX3_comes 100 = .ok (.iload_n 1, 1) := dk_27 (dk_at dksX3_comes_4 10 rfl rfl)
theorem dX3_comes_101 : decode cX3_comes 101 = .ok (.aaload, 1) := dk_50 (dk_at dksX3_comes_4 11 rfl rfl)
theorem dX3_comes_102 : decode cX3_comes 102 = .ok (.aload_n 0, 1) := dk_42 (dk_at dksX3_comes_4 12 rfl rfl)
theorem dX3_comes_103 : decode cX3_comes 103 = .ok (.getfield 25, 3) := dk_180 0 25 (dk_at dksX3_comes_4 13 rfl rfl)
theorem dX3_comes_106 : decode cX3_comes 106 = .ok (.invokevirtual 144, 3) := dk_182 0 144 (dk_at dksX3_comes_4 16 rfl rfl)
theorem dX3_comes_109 : decode cX3_comes 109 = .ok (.aload_n 0, 1) := dk_42 (dk_at dksX3_comes_4 19 rfl rfl)
theorem dX3_comes_110 : decode cX3_comes 110 = .ok (.getfield 21, 3) := dk_180 0 21 (dk_at dksX3_comes_4 20 rfl rfl)
theorem dX3_comes_113 : decode cX3_comes 113 = .ok (.iload_n 1, 1) := dk_27 (dk_at dksX3_comes_4 23 rfl rfl)
theorem dX3_comes_114 : decode cX3_comes 114 = .ok (.aaload, 1) := dk_50 (dk_at dksX3_comes_5 0 rfl rfl)
theorem dX3_comes_115 : decode cX3_comes 115 = .ok (.aload_n 0, 1) := dk_42 (dk_at dksX3_comes_5 1 rfl rfl)
theorem dX3_comes_116 : decode cX3_comes 116 = .ok (.getfield 29, 3) := dk_180 0 29 (dk_at dksX3_comes_5 2 rfl rfl)
theorem dX3_comes_119 : decode cX3_comes 119 = .ok (.invokevirtual 144, 3) := dk_182 0 144 (dk_at dksX3_comes_5 5 rfl rfl)
theorem dX3_comes_122 : decode cX3_comes 122 = .ok (.aload_n 0, 1) := dk_42 (dk_at dksX3_comes_5 8 rfl rfl)
theorem dX3_comes_123 : decode cX3_comes 123 = .ok (.getfield 36, 3) := dk_180 0 36 (dk_at dksX3_comes_5 9 rfl rfl)
theorem dX3_comes_126 : decode cX3_comes 126 = .ok (.iload_n 1, 1) := dk_27 (dk_at dksX3_comes_5 12 rfl rfl)
theorem dX3_comes_127 : decode cX3_comes 127 = .ok (.iload_n 2, 1) := dk_28 (dk_at dksX3_comes_5 13 rfl rfl)
theorem dX3_comes_128 : decode cX3_comes 128 = .ok (.bastore, 1) := dk_84 (dk_at dksX3_comes_5 14 rfl rfl)
theorem dX3_comes_129 : decode cX3_comes 129 = .ok (.return_, 1) := dk_177 (dk_at dksX3_comes_5 15 rfl rfl)
abbrev cX3_ties_2 : ByteArray := prog_6_method_4_code
def yX3_ties_2 : MethodName := ⟨RX3, "ties", "(LWeekFoot$Entry;[III)V"⟩
def dkwX3_ties_2_4 : List UInt8 := [180, 0, 119, 153, 0, 7, 4, 167, 0, 4, 3, 182, 0, 68, 177]
abbrev dktX3_ties_2_4 : List UInt8 := dkwX3_ties_2_4 ++ []
def dkwX3_ties_2_3 : List UInt8 := [21, 5, 21, 6, 43, 182, 0, 113, 5, 3, 182, 0, 68, 42, 21, 6, 21, 5, 5, 43, 182, 0, 116, 43]
abbrev dktX3_ties_2_3 : List UInt8 := dkwX3_ties_2_3 ++ dktX3_ties_2_4
def dkwX3_ties_2_2 : List UInt8 := [180, 0, 3, 180, 0, 54, 43, 182, 0, 109, 54, 5, 16, 12, 44, 43, 180, 0, 103, 46, 96, 54, 6, 42]
abbrev dktX3_ties_2_2 : List UInt8 := dkwX3_ties_2_2 ++ dktX3_ties_2_3
def dkwX3_ties_2_1 : List UInt8 := [21, 4, 161, 0, 13, 43, 180, 0, 106, 16, 6, 96, 167, 0, 21, 43, 180, 0, 106, 167, 0, 14, 42]
abbrev dktX3_ties_2_1 : List UInt8 := dkwX3_ties_2_1 ++ dktX3_ties_2_2
def dkwX3_ties_2_0 : List UInt8 := [44, 43, 180, 0, 103, 46, 2, 160, 0, 4, 177, 43, 180, 0, 106, 29, 160, 0, 29, 43, 180, 0, 103]
abbrev dktX3_ties_2_0 : List UInt8 := dkwX3_ties_2_0 ++ dktX3_ties_2_1
theorem dksX3_ties_2_0 : cX3_ties_2.data.toList.drop 0 = dktX3_ties_2_0 := by decide +kernel
theorem dksX3_ties_2_1 : cX3_ties_2.data.toList.drop 23 = dktX3_ties_2_1 := dk_seg dksX3_ties_2_0 23 rfl rfl
theorem dksX3_ties_2_2 : cX3_ties_2.data.toList.drop 46 = dktX3_ties_2_2 := dk_seg dksX3_ties_2_1 23 rfl rfl
theorem dksX3_ties_2_3 : cX3_ties_2.data.toList.drop 70 = dktX3_ties_2_3 := dk_seg dksX3_ties_2_2 24 rfl rfl
theorem dksX3_ties_2_4 : cX3_ties_2.data.toList.drop 94 = dktX3_ties_2_4 := dk_seg dksX3_ties_2_3 24 rfl rfl
theorem dX3_ties_2_0 : decode cX3_ties_2 0 = .ok (.aload_n 2, 1) := dk_44 (dk_at dksX3_ties_2_0 0 rfl rfl)
theorem dX3_ties_2_1 : decode cX3_ties_2 1 = .ok (.aload_n 1, 1) := dk_43 (dk_at dksX3_ties_2_0 1 rfl rfl)
theorem dX3_ties_2_2 : decode cX3_ties_2 2 = .ok (.getfield 103, 3) := dk_180 0 103 (dk_at dksX3_ties_2_0 2 rfl rfl)
theorem dX3_ties_2_5 : decode cX3_ties_2 5 = .ok (.iaload, 1) := dk_46 (dk_at dksX3_ties_2_0 5 rfl rfl)
theorem dX3_ties_2_6 : decode cX3_ties_2 6 = .ok (.iconst (-1), 1) := dk_2 (dk_at dksX3_ties_2_0 6 rfl rfl)
theorem dX3_ties_2_7 : decode cX3_ties_2 7 = .ok (.if_icmp .ne 4, 3) := dk_160 0 4 (dk_at dksX3_ties_2_0 7 rfl rfl)
theorem dX3_ties_2_10 : decode cX3_ties_2 10 = .ok (.return_, 1) := dk_177 (dk_at dksX3_ties_2_0 10 rfl rfl)
theorem dX3_ties_2_11 : decode cX3_ties_2 11 = .ok (.aload_n 1, 1) := dk_43 (dk_at dksX3_ties_2_0 11 rfl rfl)
theorem dX3_ties_2_12 : decode cX3_ties_2 12 = .ok (.getfield 106, 3) := dk_180 0 106 (dk_at dksX3_ties_2_0 12 rfl rfl)
theorem dX3_ties_2_15 : decode cX3_ties_2 15 = .ok (.iload_n 3, 1) := dk_29 (dk_at dksX3_ties_2_0 15 rfl rfl)
theorem dX3_ties_2_16 : decode cX3_ties_2 16 = .ok (.if_icmp .ne 29, 3) := dk_160 0 29 (dk_at dksX3_ties_2_0 16 rfl rfl)
theorem dX3_ties_2_19 : decode cX3_ties_2 19 = .ok (.aload_n 1, 1) := dk_43 (dk_at dksX3_ties_2_0 19 rfl rfl)
theorem dX3_ties_2_20 : decode cX3_ties_2 20 = .ok (.getfield 103, 3) := dk_180 0 103 (dk_at dksX3_ties_2_0 20 rfl rfl)
theorem dX3_ties_2_23 : decode cX3_ties_2 23 = .ok (.iload 4, 2) := dk_21 4 (dk_at dksX3_ties_2_1 0 rfl rfl)
theorem dX3_ties_2_25 : decode cX3_ties_2 25 = .ok (.if_icmp .lt 13, 3) := dk_161 0 13 (dk_at dksX3_ties_2_1 2 rfl rfl)
theorem dX3_ties_2_28 : decode cX3_ties_2 28 = .ok (.aload_n 1, 1) := dk_43 (dk_at dksX3_ties_2_1 5 rfl rfl)
theorem dX3_ties_2_29 : decode cX3_ties_2 29 = .ok (.getfield 106, 3) := dk_180 0 106 (dk_at dksX3_ties_2_1 6 rfl rfl)
theorem dX3_ties_2_32 : decode cX3_ties_2 32 = .ok (.bipush 6, 2) := dk_16 6 (dk_at dksX3_ties_2_1 9 rfl rfl)
theorem dX3_ties_2_34 : decode cX3_ties_2 34 = .ok (.iadd, 1) := dk_96 (dk_at dksX3_ties_2_1 11 rfl rfl)
theorem dX3_ties_2_35 : decode cX3_ties_2 35 = .ok (.goto 21, 3) := dk_167 0 21 (dk_at dksX3_ties_2_1 12 rfl rfl)
theorem dX3_ties_2_38 : decode cX3_ties_2 38 = .ok (.aload_n 1, 1) := dk_43 (dk_at dksX3_ties_2_1 15 rfl rfl)
theorem dX3_ties_2_39 : decode cX3_ties_2 39 = .ok (.getfield 106, 3) := dk_180 0 106 (dk_at dksX3_ties_2_1 16 rfl rfl)
theorem dX3_ties_2_42 : decode cX3_ties_2 42 = .ok (.goto 14, 3) := dk_167 0 14 (dk_at dksX3_ties_2_1 19 rfl rfl)
theorem dX3_ties_2_45 : decode cX3_ties_2 45 = .ok (.aload_n 0, 1) := dk_42 (dk_at dksX3_ties_2_1 22 rfl rfl)
theorem dX3_ties_2_46 : decode cX3_ties_2 46 = .ok (.getfield 3, 3) := dk_180 0 3 (dk_at dksX3_ties_2_2 0 rfl rfl)
theorem dX3_ties_2_49 : decode cX3_ties_2 49 = .ok (.getfield 54, 3) := dk_180 0 54 (dk_at dksX3_ties_2_2 3 rfl rfl)
theorem dX3_ties_2_52 : decode cX3_ties_2 52 = .ok (.aload_n 1, 1) := dk_43 (dk_at dksX3_ties_2_2 6 rfl rfl)
theorem dX3_ties_2_53 : decode cX3_ties_2 53 = .ok (.invokevirtual 109, 3) := dk_182 0 109 (dk_at dksX3_ties_2_2 7 rfl rfl)
theorem dX3_ties_2_56 : decode cX3_ties_2 56 = .ok (.istore 5, 2) := dk_54 5 (dk_at dksX3_ties_2_2 10 rfl rfl)
theorem dX3_ties_2_58 : decode cX3_ties_2 58 = .ok (.bipush 12, 2) := dk_16 12 (dk_at dksX3_ties_2_2 12 rfl rfl)
theorem dX3_ties_2_60 : decode cX3_ties_2 60 = .ok (.aload_n 2, 1) := dk_44 (dk_at dksX3_ties_2_2 14 rfl rfl)
theorem dX3_ties_2_61 : decode cX3_ties_2 61 = .ok (.aload_n 1, 1) := dk_43 (dk_at dksX3_ties_2_2 15 rfl rfl)
theorem dX3_ties_2_62 : decode cX3_ties_2 62 = .ok (.getfield 103, 3) := dk_180 0 103 (dk_at dksX3_ties_2_2 16 rfl rfl)
theorem dX3_ties_2_65 : decode cX3_ties_2 65 = .ok (.iaload, 1) := dk_46 (dk_at dksX3_ties_2_2 19 rfl rfl)
theorem dX3_ties_2_66 : decode cX3_ties_2 66 = .ok (.iadd, 1) := dk_96 (dk_at dksX3_ties_2_2 20 rfl rfl)
theorem dX3_ties_2_67 : decode cX3_ties_2 67 = .ok (.istore 6, 2) := dk_54 6 (dk_at dksX3_ties_2_2 21 rfl rfl)
theorem dX3_ties_2_69 : decode cX3_ties_2 69 = .ok (.aload_n 0, 1) := dk_42 (dk_at dksX3_ties_2_2 23 rfl rfl)
theorem dX3_ties_2_70 : decode cX3_ties_2 70 = .ok (.iload 5, 2) := dk_21 5 (dk_at dksX3_ties_2_3 0 rfl rfl)
theorem dX3_ties_2_72 : decode cX3_ties_2 72 = .ok (.iload 6, 2) := dk_21 6 (dk_at dksX3_ties_2_3 2 rfl rfl)
theorem dX3_ties_2_74 : decode cX3_ties_2 74 = .ok (.aload_n 1, 1) := dk_43 (dk_at dksX3_ties_2_3 4 rfl rfl)
theorem dX3_ties_2_75 : decode cX3_ties_2 75 = .ok (.invokevirtual 113, 3) := dk_182 0 113 (dk_at dksX3_ties_2_3 5 rfl rfl)
theorem dX3_ties_2_78 : decode cX3_ties_2 78 = .ok (.iconst 2, 1) := dk_5 (dk_at dksX3_ties_2_3 8 rfl rfl)
theorem dX3_ties_2_79 : decode cX3_ties_2 79 = .ok (.iconst 0, 1) := dk_3 (dk_at dksX3_ties_2_3 9 rfl rfl)
theorem dX3_ties_2_80 : decode cX3_ties_2 80 = .ok (.invokevirtual 68, 3) := dk_182 0 68 (dk_at dksX3_ties_2_3 10 rfl rfl)
theorem dX3_ties_2_83 : decode cX3_ties_2 83 = .ok (.aload_n 0, 1) := dk_42 (dk_at dksX3_ties_2_3 13 rfl rfl)
theorem dX3_ties_2_84 : decode cX3_ties_2 84 = .ok (.iload 6, 2) := dk_21 6 (dk_at dksX3_ties_2_3 14 rfl rfl)
theorem dX3_ties_2_86 : decode cX3_ties_2 86 = .ok (.iload 5, 2) := dk_21 5 (dk_at dksX3_ties_2_3 16 rfl rfl)
theorem dX3_ties_2_88 : decode cX3_ties_2 88 = .ok (.iconst 2, 1) := dk_5 (dk_at dksX3_ties_2_3 18 rfl rfl)
theorem dX3_ties_2_89 : decode cX3_ties_2 89 = .ok (.aload_n 1, 1) := dk_43 (dk_at dksX3_ties_2_3 19 rfl rfl)
theorem dX3_ties_2_90 : decode cX3_ties_2 90 = .ok (.invokevirtual 116, 3) := dk_182 0 116 (dk_at dksX3_ties_2_3 20 rfl rfl)
theorem dX3_ties_2_93 : decode cX3_ties_2 93 = .ok (.aload_n 1, 1) := dk_43 (dk_at dksX3_ties_2_3 23 rfl rfl)
theorem dX3_ties_2_94 : decode cX3_ties_2 94 = .ok (.getfield 119, 3) := dk_180 0 119 (dk_at dksX3_ties_2_4 0 rfl rfl)
theorem dX3_ties_2_97 : decode cX3_ties_2 97 = .ok (.ifCond .eq 7, 3) := dk_153 0 7 (dk_at dksX3_ties_2_4 3 rfl rfl)
theorem dX3_ties_2_100 : decode cX3_ties_2 100 = .ok (.iconst 1, 1) := dk_4 (dk_at dksX3_ties_2_4 6 rfl rfl)
theorem dX3_ties_2_101 : decode cX3_ties_2 101 = .ok (.goto 4, 3) := dk_167 0 4 (dk_at dksX3_ties_2_4 7 rfl rfl)
theorem dX3_ties_2_104 : decode cX3_ties_2 104 = .ok (.iconst 0, 1) := dk_3 (dk_at dksX3_ties_2_4 10 rfl rfl)
theorem dX3_ties_2_105 : decode cX3_ties_2 105 = .ok (.invokevirtual 68, 3) := dk_182 0 68 (dk_at dksX3_ties_2_4 11 rfl rfl)
theorem dX3_ties_2_108 : decode cX3_ties_2 108 = .ok (.return_, 1) := dk_177 (dk_at dksX3_ties_2_4 14 rfl rfl)
abbrev cX3_closes : ByteArray := prog_6_method_7_code
def yX3_closes : MethodName := ⟨RX3, "closes", "()Z"⟩
def dkwX3_closes_5 : List UInt8 := [167, 255, 175, 132, 1, 1, 167, 255, 161, 4, 172]
abbrev dktX3_closes_5 : List UInt8 := dkwX3_closes_5 ++ []
def dkwX3_closes_4 : List UInt8 := [182, 0, 152, 132, 3, 1, 167, 255, 221, 42, 28, 182, 0, 148, 153, 0, 5, 3, 172, 132, 2, 1]
abbrev dktX3_closes_4 : List UInt8 := dkwX3_closes_4 ++ dktX3_closes_5
def dkwX3_closes_3 : List UInt8 := [29, 27, 159, 0, 24, 42, 180, 0, 32, 16, 16, 27, 104, 29, 96, 51, 153, 0, 10, 42, 28, 27, 29]
abbrev dktX3_closes_3 : List UInt8 := dkwX3_closes_3 ++ dktX3_closes_4
def dkwX3_closes_2 : List UInt8 := [180, 0, 32, 16, 16, 28, 104, 27, 96, 51, 154, 0, 6, 167, 0, 53, 3, 62, 29, 16, 16, 162, 0, 35]
abbrev dktX3_closes_2 : List UInt8 := dkwX3_closes_2 ++ dktX3_closes_3
def dkwX3_closes_1 : List UInt8 := [3, 60, 27, 16, 16, 162, 0, 95, 3, 61, 28, 16, 16, 162, 0, 81, 28, 27, 159, 0, 70, 42]
abbrev dktX3_closes_1 : List UInt8 := dkwX3_closes_1 ++ dktX3_closes_2
def dkwX3_closes_0 : List UInt8 := [3, 60, 27, 16, 16, 162, 0, 19, 42, 27, 182, 0, 148, 153, 0, 5, 3, 172, 132, 1, 1, 167, 255, 237]
abbrev dktX3_closes_0 : List UInt8 := dkwX3_closes_0 ++ dktX3_closes_1
theorem dksX3_closes_0 : cX3_closes.data.toList.drop 0 = dktX3_closes_0 := by decide +kernel
theorem dksX3_closes_1 : cX3_closes.data.toList.drop 24 = dktX3_closes_1 := dk_seg dksX3_closes_0 24 rfl rfl
theorem dksX3_closes_2 : cX3_closes.data.toList.drop 46 = dktX3_closes_2 := dk_seg dksX3_closes_1 22 rfl rfl
theorem dksX3_closes_3 : cX3_closes.data.toList.drop 70 = dktX3_closes_3 := dk_seg dksX3_closes_2 24 rfl rfl
theorem dksX3_closes_4 : cX3_closes.data.toList.drop 93 = dktX3_closes_4 := dk_seg dksX3_closes_3 23 rfl rfl
theorem dksX3_closes_5 : cX3_closes.data.toList.drop 115 = dktX3_closes_5 := dk_seg dksX3_closes_4 22 rfl rfl
theorem dX3_closes_0 : decode cX3_closes 0 = .ok (.iconst 0, 1) := dk_3 (dk_at dksX3_closes_0 0 rfl rfl)
theorem dX3_closes_1 : decode cX3_closes 1 = .ok (.istore_n 1, 1) := dk_60 (dk_at dksX3_closes_0 1 rfl rfl)
theorem dX3_closes_2 : decode cX3_closes 2 = .ok (.iload_n 1, 1) := dk_27 (dk_at dksX3_closes_0 2 rfl rfl)
theorem dX3_closes_3 : decode cX3_closes 3 = .ok (.bipush 16, 2) := dk_16 16 (dk_at dksX3_closes_0 3 rfl rfl)
theorem dX3_closes_5 : decode cX3_closes 5 = .ok (.if_icmp .ge 19, 3) := dk_162 0 19 (dk_at dksX3_closes_0 5 rfl rfl)
theorem dX3_closes_8 : decode cX3_closes 8 = .ok (.aload_n 0, 1) := dk_42 (dk_at dksX3_closes_0 8 rfl rfl)
theorem dX3_closes_9 : decode cX3_closes 9 = .ok (.iload_n 1, 1) := dk_27 (dk_at dksX3_closes_0 9 rfl rfl)
theorem dX3_closes_10 : decode cX3_closes 10 = .ok (.invokevirtual 148, 3) := dk_182 0 148 (dk_at dksX3_closes_0 10 rfl rfl)
theorem dX3_closes_13 : decode cX3_closes 13 = .ok (.ifCond .eq 5, 3) := dk_153 0 5 (dk_at dksX3_closes_0 13 rfl rfl)
theorem dX3_closes_16 : decode cX3_closes 16 = .ok (.iconst 0, 1) := dk_3 (dk_at dksX3_closes_0 16 rfl rfl)
theorem dX3_closes_17 : decode cX3_closes 17 = .ok (.ireturn, 1) := dk_172 (dk_at dksX3_closes_0 17 rfl rfl)
theorem dX3_closes_18 : decode cX3_closes 18 = .ok (.iinc 1 1, 3) := dk_132 1 1 (dk_at dksX3_closes_0 18 rfl rfl)
theorem dX3_closes_21 : decode cX3_closes 21 = .ok (.goto (-19), 3) := dk_167 255 237 (dk_at dksX3_closes_0 21 rfl rfl)
theorem dX3_closes_24 : decode cX3_closes 24 = .ok (.iconst 0, 1) := dk_3 (dk_at dksX3_closes_1 0 rfl rfl)
theorem dX3_closes_25 : decode cX3_closes 25 = .ok (.istore_n 1, 1) := dk_60 (dk_at dksX3_closes_1 1 rfl rfl)
theorem dX3_closes_26 : decode cX3_closes 26 = .ok (.iload_n 1, 1) := dk_27 (dk_at dksX3_closes_1 2 rfl rfl)
theorem dX3_closes_27 : decode cX3_closes 27 = .ok (.bipush 16, 2) := dk_16 16 (dk_at dksX3_closes_1 3 rfl rfl)
theorem dX3_closes_29 : decode cX3_closes 29 = .ok (.if_icmp .ge 95, 3) := dk_162 0 95 (dk_at dksX3_closes_1 5 rfl rfl)
theorem dX3_closes_32 : decode cX3_closes 32 = .ok (.iconst 0, 1) := dk_3 (dk_at dksX3_closes_1 8 rfl rfl)
theorem dX3_closes_33 : decode cX3_closes 33 = .ok (.istore_n 2, 1) := dk_61 (dk_at dksX3_closes_1 9 rfl rfl)
theorem dX3_closes_34 : decode cX3_closes 34 = .ok (.iload_n 2, 1) := dk_28 (dk_at dksX3_closes_1 10 rfl rfl)
theorem dX3_closes_35 : decode cX3_closes 35 = .ok (.bipush 16, 2) := dk_16 16 (dk_at dksX3_closes_1 11 rfl rfl)
theorem dX3_closes_37 : decode cX3_closes 37 = .ok (.if_icmp .ge 81, 3) := dk_162 0 81 (dk_at dksX3_closes_1 13 rfl rfl)
theorem dX3_closes_40 : decode cX3_closes 40 = .ok (.iload_n 2, 1) := dk_28 (dk_at dksX3_closes_1 16 rfl rfl)
theorem dX3_closes_41 : decode cX3_closes 41 = .ok (.iload_n 1, 1) := dk_27 (dk_at dksX3_closes_1 17 rfl rfl)
theorem dX3_closes_42 : decode cX3_closes 42 = .ok (.if_icmp .eq 70, 3) := dk_159 0 70 (dk_at dksX3_closes_1 18 rfl rfl)
theorem dX3_closes_45 : decode cX3_closes 45 = .ok (.aload_n 0, 1) := dk_42 (dk_at dksX3_closes_1 21 rfl rfl)
theorem dX3_closes_46 : decode cX3_closes 46 = .ok (.getfield 32, 3) := dk_180 0 32 (dk_at dksX3_closes_2 0 rfl rfl)
theorem dX3_closes_49 : decode cX3_closes 49 = .ok (.bipush 16, 2) := dk_16 16 (dk_at dksX3_closes_2 3 rfl rfl)
theorem dX3_closes_51 : decode cX3_closes 51 = .ok (.iload_n 2, 1) := dk_28 (dk_at dksX3_closes_2 5 rfl rfl)
theorem dX3_closes_52 : decode cX3_closes 52 = .ok (.imul, 1) := dk_104 (dk_at dksX3_closes_2 6 rfl rfl)
theorem dX3_closes_53 : decode cX3_closes 53 = .ok (.iload_n 1, 1) := dk_27 (dk_at dksX3_closes_2 7 rfl rfl)
theorem dX3_closes_54 : decode cX3_closes 54 = .ok (.iadd, 1) := dk_96 (dk_at dksX3_closes_2 8 rfl rfl)
theorem dX3_closes_55 : decode cX3_closes 55 = .ok (.baload, 1) := dk_51 (dk_at dksX3_closes_2 9 rfl rfl)
theorem dX3_closes_56 : decode cX3_closes 56 = .ok (.ifCond .ne 6, 3) := dk_154 0 6 (dk_at dksX3_closes_2 10 rfl rfl)
theorem dX3_closes_59 : decode cX3_closes 59 = .ok (.goto 53, 3) := dk_167 0 53 (dk_at dksX3_closes_2 13 rfl rfl)
theorem dX3_closes_62 : decode cX3_closes 62 = .ok (.iconst 0, 1) := dk_3 (dk_at dksX3_closes_2 16 rfl rfl)
theorem dX3_closes_63 : decode cX3_closes 63 = .ok (.istore_n 3, 1) := dk_62 (dk_at dksX3_closes_2 17 rfl rfl)
theorem dX3_closes_64 : decode cX3_closes 64 = .ok (.iload_n 3, 1) := dk_29 (dk_at dksX3_closes_2 18 rfl rfl)
theorem dX3_closes_65 : decode cX3_closes 65 = .ok (.bipush 16, 2) := dk_16 16 (dk_at dksX3_closes_2 19 rfl rfl)
theorem dX3_closes_67 : decode cX3_closes 67 = .ok (.if_icmp .ge 35, 3) := dk_162 0 35 (dk_at dksX3_closes_2 21 rfl rfl)
theorem dX3_closes_70 : decode cX3_closes 70 = .ok (.iload_n 3, 1) := dk_29 (dk_at dksX3_closes_3 0 rfl rfl)
theorem dX3_closes_71 : decode cX3_closes 71 = .ok (.iload_n 1, 1) := dk_27 (dk_at dksX3_closes_3 1 rfl rfl)
theorem dX3_closes_72 : decode cX3_closes 72 = .ok (.if_icmp .eq 24, 3) := dk_159 0 24 (dk_at dksX3_closes_3 2 rfl rfl)
theorem dX3_closes_75 : decode cX3_closes 75 = .ok (.aload_n 0, 1) := dk_42 (dk_at dksX3_closes_3 5 rfl rfl)
theorem dX3_closes_76 : decode cX3_closes 76 = .ok (.getfield 32, 3) := dk_180 0 32 (dk_at dksX3_closes_3 6 rfl rfl)
theorem dX3_closes_79 : decode cX3_closes 79 = .ok (.bipush 16, 2) := dk_16 16 (dk_at dksX3_closes_3 9 rfl rfl)
theorem dX3_closes_81 : decode cX3_closes 81 = .ok (.iload_n 1, 1) := dk_27 (dk_at dksX3_closes_3 11 rfl rfl)
theorem dX3_closes_82 : decode cX3_closes 82 = .ok (.imul, 1) := dk_104 (dk_at dksX3_closes_3 12 rfl rfl)
theorem dX3_closes_83 : decode cX3_closes 83 = .ok (.iload_n 3, 1) := dk_29 (dk_at dksX3_closes_3 13 rfl rfl)
theorem dX3_closes_84 : decode cX3_closes 84 = .ok (.iadd, 1) := dk_96 (dk_at dksX3_closes_3 14 rfl rfl)
theorem dX3_closes_85 : decode cX3_closes 85 = .ok (.baload, 1) := dk_51 (dk_at dksX3_closes_3 15 rfl rfl)
theorem dX3_closes_86 : decode cX3_closes 86 = .ok (.ifCond .eq 10, 3) := dk_153 0 10 (dk_at dksX3_closes_3 16 rfl rfl)
theorem dX3_closes_89 : decode cX3_closes 89 = .ok (.aload_n 0, 1) := dk_42 (dk_at dksX3_closes_3 19 rfl rfl)
theorem dX3_closes_90 : decode cX3_closes 90 = .ok (.iload_n 2, 1) := dk_28 (dk_at dksX3_closes_3 20 rfl rfl)
theorem dX3_closes_91 : decode cX3_closes 91 = .ok (.iload_n 1, 1) := dk_27 (dk_at dksX3_closes_3 21 rfl rfl)
theorem dX3_closes_92 : decode cX3_closes 92 = .ok (.iload_n 3, 1) := dk_29 (dk_at dksX3_closes_3 22 rfl rfl)
theorem dX3_closes_93 : decode cX3_closes 93 = .ok (.invokevirtual 152, 3) := dk_182 0 152 (dk_at dksX3_closes_4 0 rfl rfl)
theorem dX3_closes_96 : decode cX3_closes 96 = .ok (.iinc 3 1, 3) := dk_132 3 1 (dk_at dksX3_closes_4 3 rfl rfl)
theorem dX3_closes_99 : decode cX3_closes 99 = .ok (.goto (-35), 3) := dk_167 255 221 (dk_at dksX3_closes_4 6 rfl rfl)
theorem dX3_closes_102 : decode cX3_closes 102 = .ok (.aload_n 0, 1) := dk_42 (dk_at dksX3_closes_4 9 rfl rfl)
theorem dX3_closes_103 : decode cX3_closes 103 = .ok (.iload_n 2, 1) := dk_28 (dk_at dksX3_closes_4 10 rfl rfl)
theorem dX3_closes_104 : decode cX3_closes 104 = .ok (.invokevirtual 148, 3) := dk_182 0 148 (dk_at dksX3_closes_4 11 rfl rfl)
theorem dX3_closes_107 : decode cX3_closes 107 = .ok (.ifCond .eq 5, 3) := dk_153 0 5 (dk_at dksX3_closes_4 14 rfl rfl)
theorem dX3_closes_110 : decode cX3_closes 110 = .ok (.iconst 0, 1) := dk_3 (dk_at dksX3_closes_4 17 rfl rfl)
theorem dX3_closes_111 : decode cX3_closes 111 = .ok (.ireturn, 1) := dk_172 (dk_at dksX3_closes_4 18 rfl rfl)
theorem dX3_closes_112 : decode cX3_closes 112 = .ok (.iinc 2 1, 3) := dk_132 2 1 (dk_at dksX3_closes_4 19 rfl rfl)
theorem dX3_closes_115 : decode cX3_closes 115 = .ok (.goto (-81), 3) := dk_167 255 175 (dk_at dksX3_closes_5 0 rfl rfl)
theorem dX3_closes_118 : decode cX3_closes 118 = .ok (.iinc 1 1, 3) := dk_132 1 1 (dk_at dksX3_closes_5 3 rfl rfl)
theorem dX3_closes_121 : decode cX3_closes 121 = .ok (.goto (-95), 3) := dk_167 255 161 (dk_at dksX3_closes_5 6 rfl rfl)
theorem dX3_closes_124 : decode cX3_closes 124 = .ok (.iconst 1, 1) := dk_4 (dk_at dksX3_closes_5 9 rfl rfl)
theorem dX3_closes_125 : decode cX3_closes 125 = .ok (.ireturn, 1) := dk_172 (dk_at dksX3_closes_5 10 rfl rfl)
abbrev cX3_isBad : ByteArray := prog_6_method_9_code
def yX3_isBad : MethodName := ⟨RX3, "isBad", "(I)Z"⟩
def dkwX3_isBad_1 : List UInt8 := [157, 0, 16, 29, 154, 0, 16, 42, 180, 0, 36, 28, 51, 153, 0, 7, 4, 167, 0, 4, 3, 172]
abbrev dktX3_isBad_1 : List UInt8 := dkwX3_isBad_1 ++ []
def dkwX3_isBad_0 : List UInt8 := [16, 16, 27, 104, 27, 96, 61, 42, 180, 0, 17, 28, 50, 42, 180, 0, 21, 28, 50, 182, 0, 140, 62, 29]
abbrev dktX3_isBad_0 : List UInt8 := dkwX3_isBad_0 ++ dktX3_isBad_1
theorem dksX3_isBad_0 : cX3_isBad.data.toList.drop 0 = dktX3_isBad_0 := by decide +kernel
theorem dksX3_isBad_1 : cX3_isBad.data.toList.drop 24 = dktX3_isBad_1 := dk_seg dksX3_isBad_0 24 rfl rfl
theorem dX3_isBad_0 : decode cX3_isBad 0 = .ok (.bipush 16, 2) := dk_16 16 (dk_at dksX3_isBad_0 0 rfl rfl)
theorem dX3_isBad_2 : decode cX3_isBad 2 = .ok (.iload_n 1, 1) := dk_27 (dk_at dksX3_isBad_0 2 rfl rfl)
theorem dX3_isBad_3 : decode cX3_isBad 3 = .ok (.imul, 1) := dk_104 (dk_at dksX3_isBad_0 3 rfl rfl)
theorem dX3_isBad_4 : decode cX3_isBad 4 = .ok (.iload_n 1, 1) := dk_27 (dk_at dksX3_isBad_0 4 rfl rfl)
theorem dX3_isBad_5 : decode cX3_isBad 5 = .ok (.iadd, 1) := dk_96 (dk_at dksX3_isBad_0 5 rfl rfl)
theorem dX3_isBad_6 : decode cX3_isBad 6 = .ok (.istore_n 2, 1) := dk_61 (dk_at dksX3_isBad_0 6 rfl rfl)
theorem dX3_isBad_7 : decode cX3_isBad 7 = .ok (.aload_n 0, 1) := dk_42 (dk_at dksX3_isBad_0 7 rfl rfl)
theorem dX3_isBad_8 : decode cX3_isBad 8 = .ok (.getfield 17, 3) := dk_180 0 17 (dk_at dksX3_isBad_0 8 rfl rfl)
theorem dX3_isBad_11 : decode cX3_isBad 11 = .ok (.iload_n 2, 1) := dk_28 (dk_at dksX3_isBad_0 11 rfl rfl)
theorem dX3_isBad_12 : decode cX3_isBad 12 = .ok (.aaload, 1) := dk_50 (dk_at dksX3_isBad_0 12 rfl rfl)
theorem dX3_isBad_13 : decode cX3_isBad 13 = .ok (.aload_n 0, 1) := dk_42 (dk_at dksX3_isBad_0 13 rfl rfl)
theorem dX3_isBad_14 : decode cX3_isBad 14 = .ok (.getfield 21, 3) := dk_180 0 21 (dk_at dksX3_isBad_0 14 rfl rfl)
theorem dX3_isBad_17 : decode cX3_isBad 17 = .ok (.iload_n 2, 1) := dk_28 (dk_at dksX3_isBad_0 17 rfl rfl)
theorem dX3_isBad_18 : decode cX3_isBad 18 = .ok (.aaload, 1) := dk_50 (dk_at dksX3_isBad_0 18 rfl rfl)
theorem dX3_isBad_19 : decode cX3_isBad 19 = .ok (.invokevirtual 140, 3) := dk_182 0 140 (dk_at dksX3_isBad_0 19 rfl rfl)
theorem dX3_isBad_22 : decode cX3_isBad 22 = .ok (.istore_n 3, 1) := dk_62 (dk_at dksX3_isBad_0 22 rfl rfl)
theorem dX3_isBad_23 : decode cX3_isBad 23 = .ok (.iload_n 3, 1) := dk_29 (dk_at dksX3_isBad_0 23 rfl rfl)
theorem dX3_isBad_24 : decode cX3_isBad 24 = .ok (.ifCond .gt 16, 3) := dk_157 0 16 (dk_at dksX3_isBad_1 0 rfl rfl)
theorem dX3_isBad_27 : decode cX3_isBad 27 = .ok (.iload_n 3, 1) := dk_29 (dk_at dksX3_isBad_1 3 rfl rfl)
theorem dX3_isBad_28 : decode cX3_isBad 28 = .ok (.ifCond .ne 16, 3) := dk_154 0 16 (dk_at dksX3_isBad_1 4 rfl rfl)
theorem dX3_isBad_31 : decode cX3_isBad 31 = .ok (.aload_n 0, 1) := dk_42 (dk_at dksX3_isBad_1 7 rfl rfl)
theorem dX3_isBad_32 : decode cX3_isBad 32 = .ok (.getfield 36, 3) := dk_180 0 36 (dk_at dksX3_isBad_1 8 rfl rfl)
theorem dX3_isBad_35 : decode cX3_isBad 35 = .ok (.iload_n 2, 1) := dk_28 (dk_at dksX3_isBad_1 11 rfl rfl)
theorem dX3_isBad_36 : decode cX3_isBad 36 = .ok (.baload, 1) := dk_51 (dk_at dksX3_isBad_1 12 rfl rfl)
theorem dX3_isBad_37 : decode cX3_isBad 37 = .ok (.ifCond .eq 7, 3) := dk_153 0 7 (dk_at dksX3_isBad_1 13 rfl rfl)
theorem dX3_isBad_40 : decode cX3_isBad 40 = .ok (.iconst 1, 1) := dk_4 (dk_at dksX3_isBad_1 16 rfl rfl)
theorem dX3_isBad_41 : decode cX3_isBad 41 = .ok (.goto 4, 3) := dk_167 0 4 (dk_at dksX3_isBad_1 17 rfl rfl)
theorem dX3_isBad_44 : decode cX3_isBad 44 = .ok (.iconst 0, 1) := dk_3 (dk_at dksX3_isBad_1 20 rfl rfl)
theorem dX3_isBad_45 : decode cX3_isBad 45 = .ok (.ireturn, 1) := dk_172 (dk_at dksX3_isBad_1 21 rfl rfl)
abbrev cX3_goes : ByteArray := prog_6_method_8_code
def yX3_goes : MethodName := ⟨RX3, "goes", "(III)V"⟩
def dkwX3_goes_3 : List UInt8 := [154, 0, 13, 42, 180, 0, 36, 21, 5, 51, 153, 0, 7, 4, 167, 0, 4, 3, 182, 0, 126, 177]
abbrev dktX3_goes_3 : List UInt8 := dkwX3_goes_3 ++ []
def dkwX3_goes_2 : List UInt8 := [42, 180, 0, 21, 21, 5, 50, 182, 0, 133, 42, 16, 16, 27, 104, 29, 96, 42, 180, 0, 36, 21, 4, 51]
abbrev dktX3_goes_2 : List UInt8 := dkwX3_goes_2 ++ dktX3_goes_3
def dkwX3_goes_1 : List UInt8 := [21, 4, 50, 42, 180, 0, 17, 21, 5, 50, 182, 0, 133, 42, 180, 0, 29, 42, 180, 0, 21, 21, 4, 50]
abbrev dktX3_goes_1 : List UInt8 := dkwX3_goes_1 ++ dktX3_goes_2
def dkwX3_goes_0 : List UInt8 := [16, 16, 27, 104, 28, 96, 54, 4, 16, 16, 28, 104, 29, 96, 54, 5, 42, 180, 0, 25, 42, 180, 0, 17]
abbrev dktX3_goes_0 : List UInt8 := dkwX3_goes_0 ++ dktX3_goes_1
theorem dksX3_goes_0 : cX3_goes.data.toList.drop 0 = dktX3_goes_0 := by decide +kernel
theorem dksX3_goes_1 : cX3_goes.data.toList.drop 24 = dktX3_goes_1 := dk_seg dksX3_goes_0 24 rfl rfl
theorem dksX3_goes_2 : cX3_goes.data.toList.drop 48 = dktX3_goes_2 := dk_seg dksX3_goes_1 24 rfl rfl
theorem dksX3_goes_3 : cX3_goes.data.toList.drop 72 = dktX3_goes_3 := dk_seg dksX3_goes_2 24 rfl rfl
theorem dX3_goes_0 : decode cX3_goes 0 = .ok (.bipush 16, 2) := dk_16 16 (dk_at dksX3_goes_0 0 rfl rfl)
theorem dX3_goes_2 : decode cX3_goes 2 = .ok (.iload_n 1, 1) := dk_27 (dk_at dksX3_goes_0 2 rfl rfl)
theorem dX3_goes_3 : decode cX3_goes 3 = .ok (.imul, 1) := dk_104 (dk_at dksX3_goes_0 3 rfl rfl)
theorem dX3_goes_4 : decode cX3_goes 4 = .ok (.iload_n 2, 1) := dk_28 (dk_at dksX3_goes_0 4 rfl rfl)
theorem dX3_goes_5 : decode cX3_goes 5 = .ok (.iadd, 1) := dk_96 (dk_at dksX3_goes_0 5 rfl rfl)
theorem dX3_goes_6 : decode cX3_goes 6 = .ok (.istore 4, 2) := dk_54 4 (dk_at dksX3_goes_0 6 rfl rfl)
theorem dX3_goes_8 : decode cX3_goes 8 = .ok (.bipush 16, 2) := dk_16 16 (dk_at dksX3_goes_0 8 rfl rfl)
theorem dX3_goes_10 : decode cX3_goes 10 = .ok (.iload_n 2, 1) := dk_28 (dk_at dksX3_goes_0 10 rfl rfl)
theorem dX3_goes_11 : decode cX3_goes 11 = .ok (.imul, 1) := dk_104 (dk_at dksX3_goes_0 11 rfl rfl)
theorem dX3_goes_12 : decode cX3_goes 12 = .ok (.iload_n 3, 1) := dk_29 (dk_at dksX3_goes_0 12 rfl rfl)
theorem dX3_goes_13 : decode cX3_goes 13 = .ok (.iadd, 1) := dk_96 (dk_at dksX3_goes_0 13 rfl rfl)
theorem dX3_goes_14 : decode cX3_goes 14 = .ok (.istore 5, 2) := dk_54 5 (dk_at dksX3_goes_0 14 rfl rfl)
theorem dX3_goes_16 : decode cX3_goes 16 = .ok (.aload_n 0, 1) := dk_42 (dk_at dksX3_goes_0 16 rfl rfl)
theorem dX3_goes_17 : decode cX3_goes 17 = .ok (.getfield 25, 3) := dk_180 0 25 (dk_at dksX3_goes_0 17 rfl rfl)
theorem dX3_goes_20 : decode cX3_goes 20 = .ok (.aload_n 0, 1) := dk_42 (dk_at dksX3_goes_0 20 rfl rfl)
theorem dX3_goes_21 : decode cX3_goes 21 = .ok (.getfield 17, 3) := dk_180 0 17 (dk_at dksX3_goes_0 21 rfl rfl)
theorem dX3_goes_24 : decode cX3_goes 24 = .ok (.iload 4, 2) := dk_21 4 (dk_at dksX3_goes_1 0 rfl rfl)
theorem dX3_goes_26 : decode cX3_goes 26 = .ok (.aaload, 1) := dk_50 (dk_at dksX3_goes_1 2 rfl rfl)
theorem dX3_goes_27 : decode cX3_goes 27 = .ok (.aload_n 0, 1) := dk_42 (dk_at dksX3_goes_1 3 rfl rfl)
theorem dX3_goes_28 : decode cX3_goes 28 = .ok (.getfield 17, 3) := dk_180 0 17 (dk_at dksX3_goes_1 4 rfl rfl)
theorem dX3_goes_31 : decode cX3_goes 31 = .ok (.iload 5, 2) := dk_21 5 (dk_at dksX3_goes_1 7 rfl rfl)
theorem dX3_goes_33 : decode cX3_goes 33 = .ok (.aaload, 1) := dk_50 (dk_at dksX3_goes_1 9 rfl rfl)
theorem dX3_goes_34 : decode cX3_goes 34 = .ok (.invokevirtual 133, 3) := dk_182 0 133 (dk_at dksX3_goes_1 10 rfl rfl)
theorem dX3_goes_37 : decode cX3_goes 37 = .ok (.aload_n 0, 1) := dk_42 (dk_at dksX3_goes_1 13 rfl rfl)
theorem dX3_goes_38 : decode cX3_goes 38 = .ok (.getfield 29, 3) := dk_180 0 29 (dk_at dksX3_goes_1 14 rfl rfl)
theorem dX3_goes_41 : decode cX3_goes 41 = .ok (.aload_n 0, 1) := dk_42 (dk_at dksX3_goes_1 17 rfl rfl)
theorem dX3_goes_42 : decode cX3_goes 42 = .ok (.getfield 21, 3) := dk_180 0 21 (dk_at dksX3_goes_1 18 rfl rfl)
theorem dX3_goes_45 : decode cX3_goes 45 = .ok (.iload 4, 2) := dk_21 4 (dk_at dksX3_goes_1 21 rfl rfl)
theorem dX3_goes_47 : decode cX3_goes 47 = .ok (.aaload, 1) := dk_50 (dk_at dksX3_goes_1 23 rfl rfl)
theorem dX3_goes_48 : decode cX3_goes 48 = .ok (.aload_n 0, 1) := dk_42 (dk_at dksX3_goes_2 0 rfl rfl)
theorem dX3_goes_49 : decode cX3_goes 49 = .ok (.getfield 21, 3) := dk_180 0 21 (dk_at dksX3_goes_2 1 rfl rfl)
theorem dX3_goes_52 : decode cX3_goes 52 = .ok (.iload 5, 2) := dk_21 5 (dk_at dksX3_goes_2 4 rfl rfl)
theorem dX3_goes_54 : decode cX3_goes 54 = .ok (.aaload, 1) := dk_50 (dk_at dksX3_goes_2 6 rfl rfl)
theorem dX3_goes_55 : decode cX3_goes 55 = .ok (.invokevirtual 133, 3) := dk_182 0 133 (dk_at dksX3_goes_2 7 rfl rfl)
theorem dX3_goes_58 : decode cX3_goes 58 = .ok (.aload_n 0, 1) := dk_42 (dk_at dksX3_goes_2 10 rfl rfl)
theorem dX3_goes_59 : decode cX3_goes 59 = .ok (.bipush 16, 2) := dk_16 16 (dk_at dksX3_goes_2 11 rfl rfl)
theorem dX3_goes_61 : decode cX3_goes 61 = .ok (.iload_n 1, 1) := dk_27 (dk_at dksX3_goes_2 13 rfl rfl)
theorem dX3_goes_62 : decode cX3_goes 62 = .ok (.imul, 1) := dk_104 (dk_at dksX3_goes_2 14 rfl rfl)
theorem dX3_goes_63 : decode cX3_goes 63 = .ok (.iload_n 3, 1) := dk_29 (dk_at dksX3_goes_2 15 rfl rfl)
theorem dX3_goes_64 : decode cX3_goes 64 = .ok (.iadd, 1) := dk_96 (dk_at dksX3_goes_2 16 rfl rfl)
theorem dX3_goes_65 : decode cX3_goes 65 = .ok (.aload_n 0, 1) := dk_42 (dk_at dksX3_goes_2 17 rfl rfl)
theorem dX3_goes_66 : decode cX3_goes 66 = .ok (.getfield 36, 3) := dk_180 0 36 (dk_at dksX3_goes_2 18 rfl rfl)
theorem dX3_goes_69 : decode cX3_goes 69 = .ok (.iload 4, 2) := dk_21 4 (dk_at dksX3_goes_2 21 rfl rfl)
theorem dX3_goes_71 : decode cX3_goes 71 = .ok (.baload, 1) := dk_51 (dk_at dksX3_goes_2 23 rfl rfl)
theorem dX3_goes_72 : decode cX3_goes 72 = .ok (.ifCond .ne 13, 3) := dk_154 0 13 (dk_at dksX3_goes_3 0 rfl rfl)
theorem dX3_goes_75 : decode cX3_goes 75 = .ok (.aload_n 0, 1) := dk_42 (dk_at dksX3_goes_3 3 rfl rfl)
theorem dX3_goes_76 : decode cX3_goes 76 = .ok (.getfield 36, 3) := dk_180 0 36 (dk_at dksX3_goes_3 4 rfl rfl)
theorem dX3_goes_79 : decode cX3_goes 79 = .ok (.iload 5, 2) := dk_21 5 (dk_at dksX3_goes_3 7 rfl rfl)
theorem dX3_goes_81 : decode cX3_goes 81 = .ok (.baload, 1) := dk_51 (dk_at dksX3_goes_3 9 rfl rfl)
theorem dX3_goes_82 : decode cX3_goes 82 = .ok (.ifCond .eq 7, 3) := dk_153 0 7 (dk_at dksX3_goes_3 10 rfl rfl)
theorem dX3_goes_85 : decode cX3_goes 85 = .ok (.iconst 1, 1) := dk_4 (dk_at dksX3_goes_3 13 rfl rfl)
theorem dX3_goes_86 : decode cX3_goes 86 = .ok (.goto 4, 3) := dk_167 0 4 (dk_at dksX3_goes_3 14 rfl rfl)
theorem dX3_goes_89 : decode cX3_goes 89 = .ok (.iconst 0, 1) := dk_3 (dk_at dksX3_goes_3 17 rfl rfl)
theorem dX3_goes_90 : decode cX3_goes 90 = .ok (.invokevirtual 126, 3) := dk_182 0 126 (dk_at dksX3_goes_3 18 rfl rfl)
theorem dX3_goes_93 : decode cX3_goes 93 = .ok (.return_, 1) := dk_177 (dk_at dksX3_goes_3 21 rfl rfl)
abbrev cX3_above : ByteArray := prog_6_method_10_code
def yX3_above : MethodName := ⟨RX3, "above", "(II)I"⟩
def dkwX3_above_2 : List UInt8 := [180, 0, 36, 29, 51, 153, 0, 7, 5, 167, 0, 13, 21, 4, 154, 0, 7, 4, 167, 0, 4, 3, 172]
abbrev dktX3_above_2 : List UInt8 := dkwX3_above_2 ++ []
def dkwX3_above_1 : List UInt8 := [42, 180, 0, 21, 29, 50, 182, 0, 140, 54, 4, 21, 4, 157, 0, 17, 21, 4, 154, 0, 16, 42]
abbrev dktX3_above_1 : List UInt8 := dkwX3_above_1 ++ dktX3_above_2
def dkwX3_above_0 : List UInt8 := [16, 16, 27, 104, 28, 96, 62, 42, 180, 0, 32, 29, 51, 154, 0, 5, 3, 172, 42, 180, 0, 17, 29, 50]
abbrev dktX3_above_0 : List UInt8 := dkwX3_above_0 ++ dktX3_above_1
theorem dksX3_above_0 : cX3_above.data.toList.drop 0 = dktX3_above_0 := by decide +kernel
theorem dksX3_above_1 : cX3_above.data.toList.drop 24 = dktX3_above_1 := dk_seg dksX3_above_0 24 rfl rfl
theorem dksX3_above_2 : cX3_above.data.toList.drop 46 = dktX3_above_2 := dk_seg dksX3_above_1 22 rfl rfl
theorem dX3_above_0 : decode cX3_above 0 = .ok (.bipush 16, 2) := dk_16 16 (dk_at dksX3_above_0 0 rfl rfl)
theorem dX3_above_2 : decode cX3_above 2 = .ok (.iload_n 1, 1) := dk_27 (dk_at dksX3_above_0 2 rfl rfl)
theorem dX3_above_3 : decode cX3_above 3 = .ok (.imul, 1) := dk_104 (dk_at dksX3_above_0 3 rfl rfl)
theorem dX3_above_4 : decode cX3_above 4 = .ok (.iload_n 2, 1) := dk_28 (dk_at dksX3_above_0 4 rfl rfl)
theorem dX3_above_5 : decode cX3_above 5 = .ok (.iadd, 1) := dk_96 (dk_at dksX3_above_0 5 rfl rfl)
theorem dX3_above_6 : decode cX3_above 6 = .ok (.istore_n 3, 1) := dk_62 (dk_at dksX3_above_0 6 rfl rfl)
theorem dX3_above_7 : decode cX3_above 7 = .ok (.aload_n 0, 1) := dk_42 (dk_at dksX3_above_0 7 rfl rfl)
theorem dX3_above_8 : decode cX3_above 8 = .ok (.getfield 32, 3) := dk_180 0 32 (dk_at dksX3_above_0 8 rfl rfl)
theorem dX3_above_11 : decode cX3_above 11 = .ok (.iload_n 3, 1) := dk_29 (dk_at dksX3_above_0 11 rfl rfl)
theorem dX3_above_12 : decode cX3_above 12 = .ok (.baload, 1) := dk_51 (dk_at dksX3_above_0 12 rfl rfl)
theorem dX3_above_13 : decode cX3_above 13 = .ok (.ifCond .ne 5, 3) := dk_154 0 5 (dk_at dksX3_above_0 13 rfl rfl)
theorem dX3_above_16 : decode cX3_above 16 = .ok (.iconst 0, 1) := dk_3 (dk_at dksX3_above_0 16 rfl rfl)
theorem dX3_above_17 : decode cX3_above 17 = .ok (.ireturn, 1) := dk_172 (dk_at dksX3_above_0 17 rfl rfl)
theorem dX3_above_18 : decode cX3_above 18 = .ok (.aload_n 0, 1) := dk_42 (dk_at dksX3_above_0 18 rfl rfl)
theorem dX3_above_19 : decode cX3_above 19 = .ok (.getfield 17, 3) := dk_180 0 17 (dk_at dksX3_above_0 19 rfl rfl)
theorem dX3_above_22 : decode cX3_above 22 = .ok (.iload_n 3, 1) := dk_29 (dk_at dksX3_above_0 22 rfl rfl)
theorem dX3_above_23 : decode cX3_above 23 = .ok (.aaload, 1) := dk_50 (dk_at dksX3_above_0 23 rfl rfl)
theorem dX3_above_24 : decode cX3_above 24 = .ok (.aload_n 0, 1) := dk_42 (dk_at dksX3_above_1 0 rfl rfl)
theorem dX3_above_25 : decode cX3_above 25 = .ok (.getfield 21, 3) := dk_180 0 21 (dk_at dksX3_above_1 1 rfl rfl)
theorem dX3_above_28 : decode cX3_above 28 = .ok (.iload_n 3, 1) := dk_29 (dk_at dksX3_above_1 4 rfl rfl)
theorem dX3_above_29 : decode cX3_above 29 = .ok (.aaload, 1) := dk_50 (dk_at dksX3_above_1 5 rfl rfl)
theorem dX3_above_30 : decode cX3_above 30 = .ok (.invokevirtual 140, 3) := dk_182 0 140 (dk_at dksX3_above_1 6 rfl rfl)
theorem dX3_above_33 : decode cX3_above 33 = .ok (.istore 4, 2) := dk_54 4 (dk_at dksX3_above_1 9 rfl rfl)
theorem dX3_above_35 : decode cX3_above 35 = .ok (.iload 4, 2) := dk_21 4 (dk_at dksX3_above_1 11 rfl rfl)
theorem dX3_above_37 : decode cX3_above 37 = .ok (.ifCond .gt 17, 3) := dk_157 0 17 (dk_at dksX3_above_1 13 rfl rfl)
theorem dX3_above_40 : decode cX3_above 40 = .ok (.iload 4, 2) := dk_21 4 (dk_at dksX3_above_1 16 rfl rfl)
theorem dX3_above_42 : decode cX3_above 42 = .ok (.ifCond .ne 16, 3) := dk_154 0 16 (dk_at dksX3_above_1 18 rfl rfl)
theorem dX3_above_45 : decode cX3_above 45 = .ok (.aload_n 0, 1) := dk_42 (dk_at dksX3_above_1 21 rfl rfl)
theorem dX3_above_46 : decode cX3_above 46 = .ok (.getfield 36, 3) := dk_180 0 36 (dk_at dksX3_above_2 0 rfl rfl)
theorem dX3_above_49 : decode cX3_above 49 = .ok (.iload_n 3, 1) := dk_29 (dk_at dksX3_above_2 3 rfl rfl)
theorem dX3_above_50 : decode cX3_above 50 = .ok (.baload, 1) := dk_51 (dk_at dksX3_above_2 4 rfl rfl)
theorem dX3_above_51 : decode cX3_above 51 = .ok (.ifCond .eq 7, 3) := dk_153 0 7 (dk_at dksX3_above_2 5 rfl rfl)
theorem dX3_above_54 : decode cX3_above 54 = .ok (.iconst 2, 1) := dk_5 (dk_at dksX3_above_2 8 rfl rfl)
theorem dX3_above_55 : decode cX3_above 55 = .ok (.goto 13, 3) := dk_167 0 13 (dk_at dksX3_above_2 9 rfl rfl)
theorem dX3_above_58 : decode cX3_above 58 = .ok (.iload 4, 2) := dk_21 4 (dk_at dksX3_above_2 12 rfl rfl)
theorem dX3_above_60 : decode cX3_above 60 = .ok (.ifCond .ne 7, 3) := dk_154 0 7 (dk_at dksX3_above_2 14 rfl rfl)
theorem dX3_above_63 : decode cX3_above 63 = .ok (.iconst 1, 1) := dk_4 (dk_at dksX3_above_2 17 rfl rfl)
theorem dX3_above_64 : decode cX3_above 64 = .ok (.goto 4, 3) := dk_167 0 4 (dk_at dksX3_above_2 18 rfl rfl)
theorem dX3_above_67 : decode cX3_above 67 = .ok (.iconst 0, 1) := dk_3 (dk_at dksX3_above_2 21 rfl rfl)
theorem dX3_above_68 : decode cX3_above 68 = .ok (.ireturn, 1) := dk_172 (dk_at dksX3_above_2 22 rfl rfl)
theorem q110 : (Jvm.Cond.initialized "WeekFoot$Ends") ∈ lw_all := lw_g (lw_at lw_m1 7 rfl) rfl
theorem q186 : (Jvm.Cond.fieldLinkNest "WeekFoot$Ends" (58 : Nat) "WeekFoot$State" "keepers" "[I" "WeekFoot") ∈ lw_tbl := lw_at lw_m1 83 rfl
theorem q191 : (Jvm.Cond.fieldLinkNest "WeekFoot$Ends" (96 : Nat) "WeekFoot$State" "cuts" "[I" "WeekFoot") ∈ lw_tbl := lw_at lw_m1 88 rfl
theorem q195 : (Jvm.Cond.fieldLinkNest "WeekFoot$Ends" (93 : Nat) "WeekFoot$State" "shorter" "[I" "WeekFoot") ∈ lw_tbl := lw_at lw_m1 92 rfl
theorem q206 : (Jvm.Cond.fieldLinkNest "WeekFoot$Ends" (72 : Nat) "WeekFoot$State" "entries" "Ljava/util/ArrayList;" "WeekFoot") ∈ lw_tbl := lw_at lw_m1 103 rfl
theorem q210 : (Jvm.Cond.fieldLinkNest "WeekFoot$Ends" (90 : Nat) "WeekFoot$State" "shorters" "I" "WeekFoot") ∈ lw_tbl := lw_at lw_m1 107 rfl
theorem q262 : (Jvm.Cond.selects "WeekFoot$Ends" ({ cls := "java/lang/Object", name := "getClass", desc := "()Ljava/lang/Class;" } : Jvm.MethodName) ({ cls := "java/lang/Object", name := "getClass", desc := "()Ljava/lang/Class;" } : Jvm.MethodName)) ∈ lw_all := lw_g (lw_at lw_m1 159 rfl) rfl
theorem q364 : (Jvm.Cond.fieldLinkNest "WeekFoot$Ends" (106 : Nat) "WeekFoot$Entry" "thing" "I" "WeekFoot") ∈ lw_tbl := lw_at lw_m2 21 rfl
theorem q369 : (Jvm.Cond.fieldLinkNest "WeekFoot$Ends" (103 : Nat) "WeekFoot$Entry" "week" "I" "WeekFoot") ∈ lw_tbl := lw_at lw_m2 26 rfl
theorem q375 : (Jvm.Cond.fieldLinkNest "WeekFoot$Ends" (119 : Nat) "WeekFoot$Entry" "kind" "I" "WeekFoot") ∈ lw_tbl := lw_at lw_m2 32 rfl
theorem q772 : (Jvm.Cond.instantiable "WeekFoot$Ends" (9 : Nat)) ∈ lw_all := lw_g (lw_at lw_m3 189 rfl) rfl
theorem q774 : (Jvm.Cond.instanceMethod ({ cls := "WeekFoot$Ends", name := "<init>", desc := "(LWeekFoot;)V" } : Jvm.MethodName)) ∈ lw_all := lw_g (lw_at lw_m3 191 rfl) rfl
theorem q775 : (Jvm.Cond.code ({ cls := "WeekFoot$Ends", name := "<init>", desc := "(LWeekFoot;)V" } : Jvm.MethodName) prog_6_method_1_code (3 : Nat) (Option.none : Option Jvm.ClassFile.FieldType)) ∈ lw_all := lw_g (lw_at lw_m3 192 rfl) rfl
theorem q776 : (Jvm.Cond.methodLink "WeekFoot$Ends" (9 : Nat) ({ cls := "java/lang/Object", name := "<init>", desc := "()V" } : Jvm.MethodName)) ∈ lw_all := lw_g (lw_at lw_m3 193 rfl) rfl
theorem q777 : (Jvm.Cond.classLink "WeekFoot$Ends" (15 : Nat) "WeekFoot$Big") ∈ lw_all := lw_g (lw_at lw_m3 194 rfl) rfl
theorem q779 : (Jvm.Cond.methodLinkNest "WeekFoot$Ends" (24 : Nat) ({ cls := "WeekFoot$Big", name := "<init>", desc := "()V" } : Jvm.MethodName) "WeekFoot") ∈ lw_tbl := lw_at lw_m3 196 rfl
theorem q780 : (Jvm.Cond.fieldLink "WeekFoot$Ends" (17 : Nat) "WeekFoot$Ends" "upper" "[LWeekFoot$Big;") ∈ lw_all := lw_g (lw_at lw_m3 197 rfl) rfl
theorem q782 : (Jvm.Cond.fieldLink "WeekFoot$Ends" (21 : Nat) "WeekFoot$Ends" "lower" "[LWeekFoot$Big;") ∈ lw_all := lw_g (lw_at lw_m3 199 rfl) rfl
theorem q784 : (Jvm.Cond.fieldLink "WeekFoot$Ends" (25 : Nat) "WeekFoot$Ends" "top" "LWeekFoot$Big;") ∈ lw_all := lw_g (lw_at lw_m3 201 rfl) rfl
theorem q785 : (Jvm.Cond.fieldLink "WeekFoot$Ends" (29 : Nat) "WeekFoot$Ends" "bottom" "LWeekFoot$Big;") ∈ lw_all := lw_g (lw_at lw_m3 202 rfl) rfl
theorem q786 : (Jvm.Cond.fieldLink "WeekFoot$Ends" (32 : Nat) "WeekFoot$Ends" "there" "[Z") ∈ lw_all := lw_g (lw_at lw_m3 203 rfl) rfl
theorem q788 : (Jvm.Cond.fieldLink "WeekFoot$Ends" (36 : Nat) "WeekFoot$Ends" "open" "[Z") ∈ lw_all := lw_g (lw_at lw_m3 205 rfl) rfl
theorem q790 : (Jvm.Cond.fieldLink "WeekFoot$Ends" (39 : Nat) "WeekFoot$Ends" "made" "I") ∈ lw_all := lw_g (lw_at lw_m3 207 rfl) rfl
theorem q791 : (Jvm.Cond.fieldLink "WeekFoot$Ends" (46 : Nat) "WeekFoot$Ends" "can" "Z") ∈ lw_all := lw_g (lw_at lw_m3 208 rfl) rfl
theorem q792 : (Jvm.Cond.fieldLink "WeekFoot$Ends" (3 : Nat) "WeekFoot$Ends" "this$0" "LWeekFoot;") ∈ lw_all := lw_g (lw_at lw_m3 209 rfl) rfl
theorem q793 : (Jvm.Cond.laysFinal "WeekFoot$Ends" "WeekFoot$Ends" "upper" "[LWeekFoot$Big;") ∈ lw_all := lw_g (lw_at lw_m3 210 rfl) rfl
theorem q794 : (Jvm.Cond.soleField "WeekFoot$Ends" "upper") ∈ lw_all := lw_g (lw_at lw_m3 211 rfl) rfl
theorem q795 : (Jvm.Cond.laysFinal "WeekFoot$Ends" "WeekFoot$Ends" "lower" "[LWeekFoot$Big;") ∈ lw_all := lw_g (lw_at lw_m3 212 rfl) rfl
theorem q796 : (Jvm.Cond.soleField "WeekFoot$Ends" "lower") ∈ lw_all := lw_g (lw_at lw_m3 213 rfl) rfl
theorem q797 : (Jvm.Cond.laysFinal "WeekFoot$Ends" "WeekFoot$Ends" "top" "LWeekFoot$Big;") ∈ lw_all := lw_g (lw_at lw_m3 214 rfl) rfl
theorem q798 : (Jvm.Cond.soleField "WeekFoot$Ends" "top") ∈ lw_all := lw_g (lw_at lw_m3 215 rfl) rfl
theorem q799 : (Jvm.Cond.laysFinal "WeekFoot$Ends" "WeekFoot$Ends" "bottom" "LWeekFoot$Big;") ∈ lw_all := lw_g (lw_at lw_m3 216 rfl) rfl
theorem q800 : (Jvm.Cond.soleField "WeekFoot$Ends" "bottom") ∈ lw_all := lw_g (lw_at lw_m3 217 rfl) rfl
theorem q801 : (Jvm.Cond.laysFinal "WeekFoot$Ends" "WeekFoot$Ends" "there" "[Z") ∈ lw_all := lw_g (lw_at lw_m3 218 rfl) rfl
theorem q802 : (Jvm.Cond.soleField "WeekFoot$Ends" "there") ∈ lw_all := lw_g (lw_at lw_m3 219 rfl) rfl
theorem q803 : (Jvm.Cond.laysFinal "WeekFoot$Ends" "WeekFoot$Ends" "open" "[Z") ∈ lw_all := lw_g (lw_at lw_m3 220 rfl) rfl
theorem q804 : (Jvm.Cond.soleField "WeekFoot$Ends" "open") ∈ lw_all := lw_g (lw_at lw_m3 221 rfl) rfl
theorem q805 : (Jvm.Cond.lays "WeekFoot$Ends" "WeekFoot$Ends" "made" "I") ∈ lw_all := lw_g (lw_at lw_m3 222 rfl) rfl
theorem q806 : (Jvm.Cond.soleField "WeekFoot$Ends" "made") ∈ lw_all := lw_g (lw_at lw_m3 223 rfl) rfl
theorem q807 : (Jvm.Cond.lays "WeekFoot$Ends" "WeekFoot$Ends" "can" "Z") ∈ lw_all := lw_g (lw_at lw_m3 224 rfl) rfl
theorem q808 : (Jvm.Cond.soleField "WeekFoot$Ends" "can") ∈ lw_all := lw_g (lw_at lw_m3 225 rfl) rfl
theorem q809 : (Jvm.Cond.laysFinal "WeekFoot$Ends" "WeekFoot$Ends" "this$0" "LWeekFoot;") ∈ lw_all := lw_g (lw_at lw_m3 226 rfl) rfl
theorem q810 : (Jvm.Cond.soleField "WeekFoot$Ends" "this$0") ∈ lw_all := lw_g (lw_at lw_m3 227 rfl) rfl
theorem q811 : (Jvm.Cond.superclass "WeekFoot$Ends" "java/lang/Object") ∈ lw_all := lw_g (lw_at lw_m3 228 rfl) rfl
theorem q877 : (Jvm.Cond.fieldLinkNest "WeekFoot$Ends" (130 : Nat) "WeekFoot" "one" "LWeekFoot$Big;" "WeekFoot") ∈ lw_tbl := lw_at lw_m4 54 rfl
theorem q879 : (Jvm.Cond.fieldLinkNest "WeekFoot$Ends" (137 : Nat) "WeekFoot" "two" "LWeekFoot$Big;" "WeekFoot") ∈ lw_tbl := lw_at lw_m4 56 rfl
theorem q881 : (Jvm.Cond.fieldLinkNest "WeekFoot$Ends" (54 : Nat) "WeekFoot" "state" "LWeekFoot$State;" "WeekFoot") ∈ lw_tbl := lw_at lw_m4 58 rfl
theorem q889 : (Jvm.Cond.fieldLinkNest "WeekFoot$Ends" (43 : Nat) "WeekFoot" "version" "I" "WeekFoot") ∈ lw_tbl := lw_at lw_m4 66 rfl
theorem q972 : (Jvm.Cond.instanceMethod ({ cls := "WeekFoot$Ends", name := "looks", desc := "()Z" } : Jvm.MethodName)) ∈ lw_all := lw_g (lw_at lw_m4 149 rfl) rfl
theorem q973 : (Jvm.Cond.selects "WeekFoot$Ends" ({ cls := "WeekFoot$Ends", name := "looks", desc := "()Z" } : Jvm.MethodName) ({ cls := "WeekFoot$Ends", name := "looks", desc := "()Z" } : Jvm.MethodName)) ∈ lw_all := lw_g (lw_at lw_m4 150 rfl) rfl
theorem q974 : (Jvm.Cond.code ({ cls := "WeekFoot$Ends", name := "looks", desc := "()Z" } : Jvm.MethodName) prog_6_method_2_code (1 : Nat) (Option.some Jvm.ClassFile.FieldType.boolean)) ∈ lw_all := lw_g (lw_at lw_m4 151 rfl) rfl
theorem q975 : (Jvm.Cond.methodLinkNest "WeekFoot$Ends" (50 : Nat) ({ cls := "WeekFoot", name := "counted", desc := "()I" } : Jvm.MethodName) "WeekFoot") ∈ lw_tbl := lw_at lw_m4 152 rfl
theorem q979 : (Jvm.Cond.methodLink "WeekFoot$Ends" (64 : Nat) ({ cls := "WeekFoot$Ends", name := "fits", desc := "(I[III)Z" } : Jvm.MethodName)) ∈ lw_all := lw_g (lw_at lw_m4 156 rfl) rfl
theorem q980 : (Jvm.Cond.instanceMethod ({ cls := "WeekFoot$Ends", name := "fits", desc := "(I[III)Z" } : Jvm.MethodName)) ∈ lw_all := lw_g (lw_at lw_m4 157 rfl) rfl
theorem q981 : (Jvm.Cond.selects "WeekFoot$Ends" ({ cls := "WeekFoot$Ends", name := "fits", desc := "(I[III)Z" } : Jvm.MethodName) ({ cls := "WeekFoot$Ends", name := "fits", desc := "(I[III)Z" } : Jvm.MethodName)) ∈ lw_all := lw_g (lw_at lw_m4 158 rfl) rfl
theorem q982 : (Jvm.Cond.code ({ cls := "WeekFoot$Ends", name := "fits", desc := "(I[III)Z" } : Jvm.MethodName) prog_6_method_3_code (6 : Nat) (Option.some Jvm.ClassFile.FieldType.boolean)) ∈ lw_all := lw_g (lw_at lw_m4 159 rfl) rfl
theorem q983 : (Jvm.Cond.methodLink "WeekFoot$Ends" (68 : Nat) ({ cls := "WeekFoot$Ends", name := "ties", desc := "(IIIIZ)V" } : Jvm.MethodName)) ∈ lw_all := lw_g (lw_at lw_m4 160 rfl) rfl
theorem q984 : (Jvm.Cond.privateMethod ({ cls := "WeekFoot$Ends", name := "ties", desc := "(IIIIZ)V" } : Jvm.MethodName)) ∈ lw_tbl := lw_at lw_m4 161 rfl
theorem q985 : (Jvm.Cond.instanceMethod ({ cls := "WeekFoot$Ends", name := "ties", desc := "(IIIIZ)V" } : Jvm.MethodName)) ∈ lw_all := lw_g (lw_at lw_m4 162 rfl) rfl
theorem q986 : (Jvm.Cond.code ({ cls := "WeekFoot$Ends", name := "ties", desc := "(IIIIZ)V" } : Jvm.MethodName) prog_6_method_5_code (6 : Nat) (Option.none : Option Jvm.ClassFile.FieldType)) ∈ lw_all := lw_g (lw_at lw_m4 163 rfl) rfl
theorem q987 : (Jvm.Cond.methodLink "WeekFoot$Ends" (122 : Nat) ({ cls := "WeekFoot$Big", name := "be", desc := "(I)V" } : Jvm.MethodName)) ∈ lw_all := lw_g (lw_at lw_m4 164 rfl) rfl
theorem q991 : (Jvm.Cond.methodLink "WeekFoot$Ends" (126 : Nat) ({ cls := "WeekFoot$Ends", name := "comes", desc := "(IZ)V" } : Jvm.MethodName)) ∈ lw_all := lw_g (lw_at lw_m4 168 rfl) rfl
theorem q992 : (Jvm.Cond.privateMethod ({ cls := "WeekFoot$Ends", name := "comes", desc := "(IZ)V" } : Jvm.MethodName)) ∈ lw_tbl := lw_at lw_m4 169 rfl
theorem q993 : (Jvm.Cond.instanceMethod ({ cls := "WeekFoot$Ends", name := "comes", desc := "(IZ)V" } : Jvm.MethodName)) ∈ lw_all := lw_g (lw_at lw_m4 170 rfl) rfl
theorem q994 : (Jvm.Cond.code ({ cls := "WeekFoot$Ends", name := "comes", desc := "(IZ)V" } : Jvm.MethodName) prog_6_method_6_code (4 : Nat) (Option.none : Option Jvm.ClassFile.FieldType)) ∈ lw_all := lw_g (lw_at lw_m4 171 rfl) rfl
theorem q995 : (Jvm.Cond.methodLink "WeekFoot$Ends" (133 : Nat) ({ cls := "WeekFoot$Big", name := "product", desc := "(LWeekFoot$Big;LWeekFoot$Big;)V" } : Jvm.MethodName)) ∈ lw_all := lw_g (lw_at lw_m4 172 rfl) rfl
theorem q1001 : (Jvm.Cond.methodLink "WeekFoot$Ends" (140 : Nat) ({ cls := "WeekFoot$Big", name := "against", desc := "(LWeekFoot$Big;)I" } : Jvm.MethodName)) ∈ lw_all := lw_g (lw_at lw_m4 178 rfl) rfl
theorem q1008 : (Jvm.Cond.methodLink "WeekFoot$Ends" (144 : Nat) ({ cls := "WeekFoot$Big", name := "like", desc := "(LWeekFoot$Big;)V" } : Jvm.MethodName)) ∈ lw_all := lw_g (lw_at lw_m4 185 rfl) rfl
theorem q1013 : (Jvm.Cond.methodLink "WeekFoot$Ends" (76 : Nat) ({ cls := "java/util/ArrayList", name := "size", desc := "()I" } : Jvm.MethodName)) ∈ lw_all := lw_g (lw_at lw_m4 190 rfl) rfl
theorem q1014 : (Jvm.Cond.methodLink "WeekFoot$Ends" (81 : Nat) ({ cls := "java/util/ArrayList", name := "get", desc := "(I)Ljava/lang/Object;" } : Jvm.MethodName)) ∈ lw_all := lw_g (lw_at lw_m4 191 rfl) rfl
theorem q1015 : (Jvm.Cond.classLink "WeekFoot$Ends" (85 : Nat) "WeekFoot$Entry") ∈ lw_all := lw_g (lw_at lw_m4 192 rfl) rfl
theorem q1016 : (Jvm.Cond.methodLink "WeekFoot$Ends" (87 : Nat) ({ cls := "WeekFoot$Ends", name := "ties", desc := "(LWeekFoot$Entry;[III)V" } : Jvm.MethodName)) ∈ lw_all := lw_g (lw_at lw_m4 193 rfl) rfl
theorem q1017 : (Jvm.Cond.privateMethod ({ cls := "WeekFoot$Ends", name := "ties", desc := "(LWeekFoot$Entry;[III)V" } : Jvm.MethodName)) ∈ lw_tbl := lw_at lw_m4 194 rfl
theorem q1018 : (Jvm.Cond.instanceMethod ({ cls := "WeekFoot$Ends", name := "ties", desc := "(LWeekFoot$Entry;[III)V" } : Jvm.MethodName)) ∈ lw_all := lw_g (lw_at lw_m4 195 rfl) rfl
theorem q1019 : (Jvm.Cond.code ({ cls := "WeekFoot$Ends", name := "ties", desc := "(LWeekFoot$Entry;[III)V" } : Jvm.MethodName) prog_6_method_4_code (7 : Nat) (Option.none : Option Jvm.ClassFile.FieldType)) ∈ lw_all := lw_g (lw_at lw_m4 196 rfl) rfl
theorem q1020 : (Jvm.Cond.methodLink "WeekFoot$Ends" (109 : Nat) ({ cls := "WeekFoot$State", name := "lengthOf", desc := "(LWeekFoot$Entry;)I" } : Jvm.MethodName)) ∈ lw_all := lw_g (lw_at lw_m4 197 rfl) rfl
theorem q1021 : (Jvm.Cond.methodLink "WeekFoot$Ends" (113 : Nat) ({ cls := "WeekFoot$Entry", name := "low", desc := "()I" } : Jvm.MethodName)) ∈ lw_all := lw_g (lw_at lw_m4 198 rfl) rfl
theorem q1025 : (Jvm.Cond.methodLink "WeekFoot$Ends" (116 : Nat) ({ cls := "WeekFoot$Entry", name := "high", desc := "()I" } : Jvm.MethodName)) ∈ lw_all := lw_g (lw_at lw_m4 202 rfl) rfl
theorem q1029 : (Jvm.Cond.methodLink "WeekFoot$Ends" (99 : Nat) ({ cls := "WeekFoot$Ends", name := "closes", desc := "()Z" } : Jvm.MethodName)) ∈ lw_all := lw_g (lw_at lw_m4 206 rfl) rfl
theorem q1030 : (Jvm.Cond.privateMethod ({ cls := "WeekFoot$Ends", name := "closes", desc := "()Z" } : Jvm.MethodName)) ∈ lw_tbl := lw_at lw_m4 207 rfl
theorem q1031 : (Jvm.Cond.instanceMethod ({ cls := "WeekFoot$Ends", name := "closes", desc := "()Z" } : Jvm.MethodName)) ∈ lw_all := lw_g (lw_at lw_m4 208 rfl) rfl
theorem q1032 : (Jvm.Cond.code ({ cls := "WeekFoot$Ends", name := "closes", desc := "()Z" } : Jvm.MethodName) prog_6_method_7_code (4 : Nat) (Option.some Jvm.ClassFile.FieldType.boolean)) ∈ lw_all := lw_g (lw_at lw_m4 209 rfl) rfl
theorem q1033 : (Jvm.Cond.methodLink "WeekFoot$Ends" (148 : Nat) ({ cls := "WeekFoot$Ends", name := "isBad", desc := "(I)Z" } : Jvm.MethodName)) ∈ lw_all := lw_g (lw_at lw_m4 210 rfl) rfl
theorem q1034 : (Jvm.Cond.privateMethod ({ cls := "WeekFoot$Ends", name := "isBad", desc := "(I)Z" } : Jvm.MethodName)) ∈ lw_tbl := lw_at lw_m4 211 rfl
theorem q1035 : (Jvm.Cond.instanceMethod ({ cls := "WeekFoot$Ends", name := "isBad", desc := "(I)Z" } : Jvm.MethodName)) ∈ lw_all := lw_g (lw_at lw_m4 212 rfl) rfl
theorem q1036 : (Jvm.Cond.code ({ cls := "WeekFoot$Ends", name := "isBad", desc := "(I)Z" } : Jvm.MethodName) prog_6_method_9_code (4 : Nat) (Option.some Jvm.ClassFile.FieldType.boolean)) ∈ lw_all := lw_g (lw_at lw_m4 213 rfl) rfl
theorem q1037 : (Jvm.Cond.methodLink "WeekFoot$Ends" (152 : Nat) ({ cls := "WeekFoot$Ends", name := "goes", desc := "(III)V" } : Jvm.MethodName)) ∈ lw_all := lw_g (lw_at lw_m4 214 rfl) rfl
theorem q1038 : (Jvm.Cond.privateMethod ({ cls := "WeekFoot$Ends", name := "goes", desc := "(III)V" } : Jvm.MethodName)) ∈ lw_tbl := lw_at lw_m4 215 rfl
theorem q1039 : (Jvm.Cond.instanceMethod ({ cls := "WeekFoot$Ends", name := "goes", desc := "(III)V" } : Jvm.MethodName)) ∈ lw_all := lw_g (lw_at lw_m4 216 rfl) rfl
theorem q1040 : (Jvm.Cond.code ({ cls := "WeekFoot$Ends", name := "goes", desc := "(III)V" } : Jvm.MethodName) prog_6_method_8_code (6 : Nat) (Option.none : Option Jvm.ClassFile.FieldType)) ∈ lw_all := lw_g (lw_at lw_m4 217 rfl) rfl
theorem q1067 : (Jvm.Cond.instanceMethod ({ cls := "WeekFoot$Ends", name := "above", desc := "(II)I" } : Jvm.MethodName)) ∈ lw_all := lw_g (lw_at lw_m5 4 rfl) rfl
theorem q1068 : (Jvm.Cond.selects "WeekFoot$Ends" ({ cls := "WeekFoot$Ends", name := "above", desc := "(II)I" } : Jvm.MethodName) ({ cls := "WeekFoot$Ends", name := "above", desc := "(II)I" } : Jvm.MethodName)) ∈ lw_all := lw_g (lw_at lw_m5 5 rfl) rfl
theorem q1069 : (Jvm.Cond.code ({ cls := "WeekFoot$Ends", name := "above", desc := "(II)I" } : Jvm.MethodName) prog_6_method_10_code (5 : Nat) (Option.some Jvm.ClassFile.FieldType.int)) ∈ lw_all := lw_g (lw_at lw_m5 6 rfl) rfl
theorem q1977 : (Jvm.Cond.castable "WeekFoot$Ends" "java/lang/Object") ∈ lw_tbl := lw_at lw_m8 194 rfl
theorem in_X3 : ∀ w ∈ wsX30, w ∈ lw_all := lw_in wsX30 [793, 795, 797, 799, 801, 803, 805, 807, 809] (by decide +kernel) (by decide +kernel)
/-! WeekFoot$Whose -/
set_option maxRecDepth 100000
def RX4 : String := "WeekFoot$Whose"
def TX4 : u_T := fun k => match k with
  | 0 => ("WeekFoot$Whose", "weeks", "[I", true)
  | 1 => ("WeekFoot$Whose", "keepers", "[I", true)
  | 2 => ("WeekFoot$Whose", "could", "[I", true)
  | 3 => ("WeekFoot$Whose", "made", "I", false)
  | 4 => ("WeekFoot$Whose", "many", "I", false)
  | 5 => ("WeekFoot$Whose", "ways", "I", false)
  | _ => ("WeekFoot$Whose", "this$0", "LWeekFoot;", true)
def tyX4 : Nat → FieldType := fun k => match k with
  | 0 => .array .int
  | 1 => .array .int
  | 2 => .array .int
  | 3 => .int
  | 4 => .int
  | 5 => .int
  | _ => .object "WeekFoot"
abbrev wsX40 : List Cond := u_ws RX4 TX4 7
theorem nmX4 : ∀ a, a < 7 → ∀ b, b < 7 → a ≠ b → (TX4 a).2.1 ≠ (TX4 b).2.1 := by decide +kernel
theorem tyX4_ok : ∀ k, k < 7 → parseFieldDescriptor (TX4 k).2.2.1 = some (tyX4 k) := by decide +kernel
abbrev cX4_init : ByteArray := prog_13_method_1_code
def yX4_init : MethodName := ⟨RX4, "<init>", "(LWeekFoot;)V"⟩
def dkwX4_init_1 : List UInt8 := [181, 0, 19, 42, 17, 0, 128, 188, 10, 181, 0, 22, 42, 2, 181, 0, 25, 177]
abbrev dktX4_init_1 : List UInt8 := dkwX4_init_1 ++ []
def dkwX4_init_0 : List UInt8 := [42, 43, 181, 0, 3, 42, 183, 0, 9, 42, 16, 32, 188, 10, 181, 0, 15, 42, 16, 32, 188, 10]
abbrev dktX4_init_0 : List UInt8 := dkwX4_init_0 ++ dktX4_init_1
theorem dksX4_init_0 : cX4_init.data.toList.drop 0 = dktX4_init_0 := by decide +kernel
theorem dksX4_init_1 : cX4_init.data.toList.drop 22 = dktX4_init_1 := dk_seg dksX4_init_0 22 rfl rfl
theorem dX4_init_0 : decode cX4_init 0 = .ok (.aload_n 0, 1) := dk_42 (dk_at dksX4_init_0 0 rfl rfl)
theorem dX4_init_1 : decode cX4_init 1 = .ok (.aload_n 1, 1) := dk_43 (dk_at dksX4_init_0 1 rfl rfl)
theorem dX4_init_2 : decode cX4_init 2 = .ok (.putfield 3, 3) := dk_181 0 3 (dk_at dksX4_init_0 2 rfl rfl)
theorem dX4_init_5 : decode cX4_init 5 = .ok (.aload_n 0, 1) := dk_42 (dk_at dksX4_init_0 5 rfl rfl)
theorem dX4_init_6 : decode cX4_init 6 = .ok (.invokespecial 9, 3) := dk_183 0 9 (dk_at dksX4_init_0 6 rfl rfl)
theorem dX4_init_9 : decode cX4_init 9 = .ok (.aload_n 0, 1) := dk_42 (dk_at dksX4_init_0 9 rfl rfl)
theorem dX4_init_10 : decode cX4_init 10 = .ok (.bipush 32, 2) := dk_16 32 (dk_at dksX4_init_0 10 rfl rfl)
theorem dX4_init_12 : decode cX4_init 12 = .ok (.newarray .int, 2) := dk_188_10 (dk_at dksX4_init_0 12 rfl rfl)
theorem dX4_init_14 : decode cX4_init 14 = .ok (.putfield 15, 3) := dk_181 0 15 (dk_at dksX4_init_0 14 rfl rfl)
theorem dX4_init_17 : decode cX4_init 17 = .ok (.aload_n 0, 1) := dk_42 (dk_at dksX4_init_0 17 rfl rfl)
theorem dX4_init_18 : decode cX4_init 18 = .ok (.bipush 32, 2) := dk_16 32 (dk_at dksX4_init_0 18 rfl rfl)
theorem dX4_init_20 : decode cX4_init 20 = .ok (.newarray .int, 2) := dk_188_10 (dk_at dksX4_init_0 20 rfl rfl)
theorem dX4_init_22 : decode cX4_init 22 = .ok (.putfield 19, 3) := dk_181 0 19 (dk_at dksX4_init_1 0 rfl rfl)
theorem dX4_init_25 : decode cX4_init 25 = .ok (.aload_n 0, 1) := dk_42 (dk_at dksX4_init_1 3 rfl rfl)
theorem dX4_init_26 : decode cX4_init 26 = .ok (.sipush 128, 3) := dk_17 0 128 (dk_at dksX4_init_1 4 rfl rfl)
theorem dX4_init_29 : decode cX4_init 29 = .ok (.newarray .int, 2) := dk_188_10 (dk_at dksX4_init_1 7 rfl rfl)
theorem dX4_init_31 : decode cX4_init 31 = .ok (.putfield 22, 3) := dk_181 0 22 (dk_at dksX4_init_1 9 rfl rfl)
theorem dX4_init_34 : decode cX4_init 34 = .ok (.aload_n 0, 1) := dk_42 (dk_at dksX4_init_1 12 rfl rfl)
theorem dX4_init_35 : decode cX4_init 35 = .ok (.iconst (-1), 1) := dk_2 (dk_at dksX4_init_1 13 rfl rfl)
theorem dX4_init_36 : decode cX4_init 36 = .ok (.putfield 25, 3) := dk_181 0 25 (dk_at dksX4_init_1 14 rfl rfl)
theorem dX4_init_39 : decode cX4_init 39 = .ok (.return_, 1) := dk_177 (dk_at dksX4_init_1 17 rfl rfl)
abbrev cX4_looks : ByteArray := prog_13_method_2_code
def yX4_looks : MethodName := ⟨RX4, "looks", "()V"⟩
def dkwX4_looks_6 : List UInt8 := [6, 163, 0, 8, 42, 3, 182, 0, 49, 177]
abbrev dktX4_looks_6 : List UInt8 := dkwX4_looks_6 ++ []
def dkwX4_looks_5 : List UInt8 := [27, 17, 0, 128, 162, 0, 16, 42, 180, 0, 22, 27, 3, 79, 132, 1, 1, 167, 255, 239, 42, 180, 0, 32]
abbrev dktX4_looks_5 : List UInt8 := dkwX4_looks_5 ++ dktX4_looks_6
def dkwX4_looks_4 : List UInt8 := [42, 180, 0, 32, 27, 79, 42, 89, 180, 0, 32, 4, 96, 181, 0, 32, 132, 1, 1, 167, 255, 182, 3, 60]
abbrev dktX4_looks_4 : List UInt8 := dkwX4_looks_4 ++ dktX4_looks_5
def dkwX4_looks_3 : List UInt8 := [180, 0, 42, 27, 46, 2, 160, 0, 34, 42, 27, 182, 0, 45, 154, 0, 6, 167, 0, 23, 42, 180, 0, 15]
abbrev dktX4_looks_3 : List UInt8 := dkwX4_looks_3 ++ dktX4_looks_4
def dkwX4_looks_2 : List UInt8 := [180, 0, 19, 27, 42, 180, 0, 3, 180, 0, 38, 180, 0, 42, 27, 46, 79, 42, 180, 0, 3, 180, 0, 38]
abbrev dktX4_looks_2 : List UInt8 := dkwX4_looks_2 ++ dktX4_looks_3
def dkwX4_looks_1 : List UInt8 := [181, 0, 25, 42, 3, 181, 0, 32, 42, 3, 181, 0, 35, 3, 60, 27, 16, 32, 162, 0, 74, 42]
abbrev dktX4_looks_1 : List UInt8 := dkwX4_looks_1 ++ dktX4_looks_2
def dkwX4_looks_0 : List UInt8 := [42, 180, 0, 25, 42, 180, 0, 3, 180, 0, 29, 160, 0, 4, 177, 42, 42, 180, 0, 3, 180, 0, 29]
abbrev dktX4_looks_0 : List UInt8 := dkwX4_looks_0 ++ dktX4_looks_1
theorem dksX4_looks_0 : cX4_looks.data.toList.drop 0 = dktX4_looks_0 := by decide +kernel
theorem dksX4_looks_1 : cX4_looks.data.toList.drop 23 = dktX4_looks_1 := dk_seg dksX4_looks_0 23 rfl rfl
theorem dksX4_looks_2 : cX4_looks.data.toList.drop 45 = dktX4_looks_2 := dk_seg dksX4_looks_1 22 rfl rfl
theorem dksX4_looks_3 : cX4_looks.data.toList.drop 69 = dktX4_looks_3 := dk_seg dksX4_looks_2 24 rfl rfl
theorem dksX4_looks_4 : cX4_looks.data.toList.drop 93 = dktX4_looks_4 := dk_seg dksX4_looks_3 24 rfl rfl
theorem dksX4_looks_5 : cX4_looks.data.toList.drop 117 = dktX4_looks_5 := dk_seg dksX4_looks_4 24 rfl rfl
theorem dksX4_looks_6 : cX4_looks.data.toList.drop 141 = dktX4_looks_6 := dk_seg dksX4_looks_5 24 rfl rfl
theorem dX4_looks_0 : decode cX4_looks 0 = .ok (.aload_n 0, 1) := dk_42 (dk_at dksX4_looks_0 0 rfl rfl)
theorem dX4_looks_1 : decode cX4_looks 1 = .ok (.getfield 25, 3) := dk_180 0 25 (dk_at dksX4_looks_0 1 rfl rfl)
theorem dX4_looks_4 : decode cX4_looks 4 = .ok (.aload_n 0, 1) := dk_42 (dk_at dksX4_looks_0 4 rfl rfl)
theorem dX4_looks_5 : decode cX4_looks 5 = .ok (.getfield 3, 3) := dk_180 0 3 (dk_at dksX4_looks_0 5 rfl rfl)
theorem dX4_looks_8 : decode cX4_looks 8 = .ok (.getfield 29, 3) := dk_180 0 29 (dk_at dksX4_looks_0 8 rfl rfl)
theorem dX4_looks_11 : decode cX4_looks 11 = .ok (.if_icmp .ne 4, 3) := dk_160 0 4 (dk_at dksX4_looks_0 11 rfl rfl)
theorem dX4_looks_14 : decode cX4_looks 14 = .ok (.return_, 1) := dk_177 (dk_at dksX4_looks_0 14 rfl rfl)
theorem dX4_looks_15 : decode cX4_looks 15 = .ok (.aload_n 0, 1) := dk_42 (dk_at dksX4_looks_0 15 rfl rfl)
theorem dX4_looks_16 : decode cX4_looks 16 = .ok (.aload_n 0, 1) := dk_42 (dk_at dksX4_looks_0 16 rfl rfl)
theorem dX4_looks_17 : decode cX4_looks 17 = .ok (.getfield 3, 3) := dk_180 0 3 (dk_at dksX4_looks_0 17 rfl rfl)
theorem dX4_looks_20 : decode cX4_looks 20 = .ok (.getfield 29, 3) := dk_180 0 29 (dk_at dksX4_looks_0 20 rfl rfl)
theorem dX4_looks_23 : decode cX4_looks 23 = .ok (.putfield 25, 3) := dk_181 0 25 (dk_at dksX4_looks_1 0 rfl rfl)
theorem dX4_looks_26 : decode cX4_looks 26 = .ok (.aload_n 0, 1) := dk_42 (dk_at dksX4_looks_1 3 rfl rfl)
theorem dX4_looks_27 : decode cX4_looks 27 = .ok (.iconst 0, 1) := dk_3 (dk_at dksX4_looks_1 4 rfl rfl)
theorem dX4_looks_28 : decode cX4_looks 28 = .ok (.putfield 32, 3) := dk_181 0 32 (dk_at dksX4_looks_1 5 rfl rfl)
theorem dX4_looks_31 : decode cX4_looks 31 = .ok (.aload_n 0, 1) := dk_42 (dk_at dksX4_looks_1 8 rfl rfl)
theorem dX4_looks_32 : decode cX4_looks 32 = .ok (.iconst 0, 1) := dk_3 (dk_at dksX4_looks_1 9 rfl rfl)
theorem dX4_looks_33 : decode cX4_looks 33 = .ok (.putfield 35, 3) := dk_181 0 35 (dk_at dksX4_looks_1 10 rfl rfl)
theorem dX4_looks_36 : decode cX4_looks 36 = .ok (.iconst 0, 1) := dk_3 (dk_at dksX4_looks_1 13 rfl rfl)
theorem dX4_looks_37 : decode cX4_looks 37 = .ok (.istore_n 1, 1) := dk_60 (dk_at dksX4_looks_1 14 rfl rfl)
theorem dX4_looks_38 : decode cX4_looks 38 = .ok (.iload_n 1, 1) := dk_27 (dk_at dksX4_looks_1 15 rfl rfl)
theorem dX4_looks_39 : decode cX4_looks 39 = .ok (.bipush 32, 2) := dk_16 32 (dk_at dksX4_looks_1 16 rfl rfl)
theorem dX4_looks_41 : decode cX4_looks 41 = .ok (.if_icmp .ge 74, 3) := dk_162 0 74 (dk_at dksX4_looks_1 18 rfl rfl)
theorem dX4_looks_44 : decode cX4_looks 44 = .ok (.aload_n 0, 1) := dk_42 (dk_at dksX4_looks_1 21 rfl rfl)
theorem dX4_looks_45 : decode cX4_looks 45 = .ok (.getfield 19, 3) := dk_180 0 19 (dk_at dksX4_looks_2 0 rfl rfl)
theorem dX4_looks_48 : decode cX4_looks 48 = .ok (.iload_n 1, 1) := dk_27 (dk_at dksX4_looks_2 3 rfl rfl)
theorem dX4_looks_49 : decode cX4_looks 49 = .ok (.aload_n 0, 1) := dk_42 (dk_at dksX4_looks_2 4 rfl rfl)
theorem dX4_looks_50 : decode cX4_looks 50 = .ok (.getfield 3, 3) := dk_180 0 3 (dk_at dksX4_looks_2 5 rfl rfl)
theorem dX4_looks_53 : decode cX4_looks 53 = .ok (.getfield 38, 3) := dk_180 0 38 (dk_at dksX4_looks_2 8 rfl rfl)
theorem dX4_looks_56 : decode cX4_looks 56 = .ok (.getfield 42, 3) := dk_180 0 42 (dk_at dksX4_looks_2 11 rfl rfl)
theorem dX4_looks_59 : decode cX4_looks 59 = .ok (.iload_n 1, 1) := dk_27 (dk_at dksX4_looks_2 14 rfl rfl)
theorem dX4_looks_60 : decode cX4_looks 60 = .ok (.iaload, 1) := dk_46 (dk_at dksX4_looks_2 15 rfl rfl)
theorem dX4_looks_61 : decode cX4_looks 61 = .ok (.iastore, 1) := dk_79 (dk_at dksX4_looks_2 16 rfl rfl)
theorem dX4_looks_62 : decode cX4_looks 62 = .ok (.aload_n 0, 1) := dk_42 (dk_at dksX4_looks_2 17 rfl rfl)
theorem dX4_looks_63 : decode cX4_looks 63 = .ok (.getfield 3, 3) := dk_180 0 3 (dk_at dksX4_looks_2 18 rfl rfl)
theorem dX4_looks_66 : decode cX4_looks 66 = .ok (.getfield 38, 3) := dk_180 0 38 (dk_at dksX4_looks_2 21 rfl rfl)
theorem dX4_looks_69 : decode cX4_looks 69 = .ok (.getfield 42, 3) := dk_180 0 42 (dk_at dksX4_looks_3 0 rfl rfl)
theorem dX4_looks_72 : decode cX4_looks 72 = .ok (.iload_n 1, 1) := dk_27 (dk_at dksX4_looks_3 3 rfl rfl)
theorem dX4_looks_73 : decode cX4_looks 73 = .ok (.iaload, 1) := dk_46 (dk_at dksX4_looks_3 4 rfl rfl)
theorem dX4_looks_74 : decode cX4_looks 74 = .ok (.iconst (-1), 1) := dk_2 (dk_at dksX4_looks_3 5 rfl rfl)
theorem dX4_looks_75 : decode cX4_looks 75 = .ok (.if_icmp .ne 34, 3) := dk_160 0 34 (dk_at dksX4_looks_3 6 rfl rfl)
theorem dX4_looks_78 : decode cX4_looks 78 = .ok (.aload_n 0, 1) := dk_42 (dk_at dksX4_looks_3 9 rfl rfl)
theorem dX4_looks_79 : decode cX4_looks 79 = .ok (.iload_n 1, 1) := dk_27 (dk_at dksX4_looks_3 10 rfl rfl)
theorem dX4_looks_80 : decode cX4_looks 80 = .ok (.invokevirtual 45, 3) := dk_182 0 45 (dk_at dksX4_looks_3 11 rfl rfl)
theorem dX4_looks_83 : decode cX4_looks 83 = .ok (.ifCond .ne 6, 3) := dk_154 0 6 (dk_at dksX4_looks_3 14 rfl rfl)
theorem dX4_looks_86 : decode cX4_looks 86 = .ok (.goto 23, 3) := dk_167 0 23 (dk_at dksX4_looks_3 17 rfl rfl)
theorem dX4_looks_89 : decode cX4_looks 89 = .ok (.aload_n 0, 1) := dk_42 (dk_at dksX4_looks_3 20 rfl rfl)
theorem dX4_looks_90 : decode cX4_looks 90 = .ok (.getfield 15, 3) := dk_180 0 15 (dk_at dksX4_looks_3 21 rfl rfl)
theorem dX4_looks_93 : decode cX4_looks 93 = .ok (.aload_n 0, 1) := dk_42 (dk_at dksX4_looks_4 0 rfl rfl)
theorem dX4_looks_94 : decode cX4_looks 94 = .ok (.getfield 32, 3) := dk_180 0 32 (dk_at dksX4_looks_4 1 rfl rfl)
theorem dX4_looks_97 : decode cX4_looks 97 = .ok (.iload_n 1, 1) := dk_27 (dk_at dksX4_looks_4 4 rfl rfl)
theorem dX4_looks_98 : decode cX4_looks 98 = .ok (.iastore, 1) := dk_79 (dk_at dksX4_looks_4 5 rfl rfl)
theorem dX4_looks_99 : decode cX4_looks 99 = .ok (.aload_n 0, 1) := dk_42 (dk_at dksX4_looks_4 6 rfl rfl)
theorem dX4_looks_100 : decode cX4_looks 100 = .ok (.dup, 1) := dk_89 (dk_at dksX4_looks_4 7 rfl rfl)
theorem dX4_looks_101 : decode cX4_looks 101 = .ok (.getfield 32, 3) := dk_180 0 32 (dk_at dksX4_looks_4 8 rfl rfl)
theorem dX4_looks_104 : decode cX4_looks 104 = .ok (.iconst 1, 1) := dk_4 (dk_at dksX4_looks_4 11 rfl rfl)
theorem dX4_looks_105 : decode cX4_looks 105 = .ok (.iadd, 1) := dk_96 (dk_at dksX4_looks_4 12 rfl rfl)
theorem dX4_looks_106 : decode cX4_looks 106 = .ok (.putfield 32, 3) := dk_181 0 32 (dk_at dksX4_looks_4 13 rfl rfl)
theorem dX4_looks_109 : decode cX4_looks 109 = .ok (.iinc 1 1, 3) := dk_132 1 1 (dk_at dksX4_looks_4 16 rfl rfl)
theorem dX4_looks_112 : decode cX4_looks 112 = .ok (.goto (-74), 3) := dk_167 255 182 (dk_at dksX4_looks_4 19 rfl rfl)
theorem dX4_looks_115 : decode cX4_looks 115 = .ok (.iconst 0, 1) := dk_3 (dk_at dksX4_looks_4 22 rfl rfl)
theorem dX4_looks_116 : decode cX4_looks 116 = .ok (.istore_n 1, 1) := dk_60 (dk_at dksX4_looks_4 23 rfl rfl)
theorem dX4_looks_117 : decode cX4_looks 117 = .ok (.iload_n 1, 1) := dk_27 (dk_at dksX4_looks_5 0 rfl rfl)
theorem dX4_looks_118 : decode cX4_looks 118 = .ok (.sipush 128, 3) := dk_17 0 128 (dk_at dksX4_looks_5 1 rfl rfl)
theorem dX4_looks_121 : decode cX4_looks 121 = .ok (.if_icmp .ge 16, 3) := dk_162 0 16 (dk_at dksX4_looks_5 4 rfl rfl)
theorem dX4_looks_124 : decode cX4_looks 124 = .ok (.aload_n 0, 1) := dk_42 (dk_at dksX4_looks_5 7 rfl rfl)
theorem dX4_looks_125 : decode cX4_looks 125 = .ok (.getfield 22, 3) := dk_180 0 22 (dk_at dksX4_looks_5 8 rfl rfl)
theorem dX4_looks_128 : decode cX4_looks 128 = .ok (.iload_n 1, 1) := dk_27 (dk_at dksX4_looks_5 11 rfl rfl)
theorem dX4_looks_129 : decode cX4_looks 129 = .ok (.iconst 0, 1) := dk_3 (dk_at dksX4_looks_5 12 rfl rfl)
theorem dX4_looks_130 : decode cX4_looks 130 = .ok (.iastore, 1) := dk_79 (dk_at dksX4_looks_5 13 rfl rfl)
theorem dX4_looks_131 : decode cX4_looks 131 = .ok (.iinc 1 1, 3) := dk_132 1 1 (dk_at dksX4_looks_5 14 rfl rfl)
theorem dX4_looks_134 : decode cX4_looks 134 = .ok (.goto (-17), 3) := dk_167 255 239 (dk_at dksX4_looks_5 17 rfl rfl)
theorem dX4_looks_137 : decode cX4_looks 137 = .ok (.aload_n 0, 1) := dk_42 (dk_at dksX4_looks_5 20 rfl rfl)
theorem dX4_looks_138 : decode cX4_looks 138 = .ok (.getfield 32, 3) := dk_180 0 32 (dk_at dksX4_looks_5 21 rfl rfl)
theorem dX4_looks_141 : decode cX4_looks 141 = .ok (.iconst 3, 1) := dk_6 (dk_at dksX4_looks_6 0 rfl rfl)
theorem dX4_looks_142 : decode cX4_looks 142 = .ok (.if_icmp .gt 8, 3) := dk_163 0 8 (dk_at dksX4_looks_6 1 rfl rfl)
theorem dX4_looks_145 : decode cX4_looks 145 = .ok (.aload_n 0, 1) := dk_42 (dk_at dksX4_looks_6 4 rfl rfl)
theorem dX4_looks_146 : decode cX4_looks 146 = .ok (.iconst 0, 1) := dk_3 (dk_at dksX4_looks_6 5 rfl rfl)
theorem dX4_looks_147 : decode cX4_looks 147 = .ok (.invokevirtual 49, 3) := dk_182 0 49 (dk_at dksX4_looks_6 6 rfl rfl)
theorem dX4_looks_150 : decode cX4_looks 150 = .ok (.return_, 1) := dk_177 (dk_at dksX4_looks_6 9 rfl rfl)
abbrev cX4_isUsed : ByteArray := prog_13_method_3_code
def yX4_isUsed : MethodName := ⟨RX4, "isUsed", "(I)Z"⟩
def dkwX4_isUsed_3 : List UInt8 := [3, 61, 132, 3, 1, 167, 255, 187, 28, 172]
abbrev dktX4_isUsed_3 : List UInt8 := dkwX4_isUsed_3 ++ []
def dkwX4_isUsed_2 : List UInt8 := [180, 0, 38, 180, 0, 53, 29, 182, 0, 67, 192, 0, 71, 180, 0, 73, 27, 160, 0, 7, 4, 167, 0, 4]
abbrev dktX4_isUsed_2 : List UInt8 := dkwX4_isUsed_2 ++ dktX4_isUsed_3
def dkwX4_isUsed_1 : List UInt8 := [154, 0, 42, 42, 180, 0, 3, 180, 0, 38, 180, 0, 63, 29, 51, 153, 0, 31, 42, 180, 0, 3]
abbrev dktX4_isUsed_1 : List UInt8 := dkwX4_isUsed_1 ++ dktX4_isUsed_2
def dkwX4_isUsed_0 : List UInt8 := [3, 61, 3, 62, 29, 42, 180, 0, 3, 180, 0, 38, 180, 0, 53, 182, 0, 57, 162, 0, 58, 28]
abbrev dktX4_isUsed_0 : List UInt8 := dkwX4_isUsed_0 ++ dktX4_isUsed_1
theorem dksX4_isUsed_0 : cX4_isUsed.data.toList.drop 0 = dktX4_isUsed_0 := by decide +kernel
theorem dksX4_isUsed_1 : cX4_isUsed.data.toList.drop 22 = dktX4_isUsed_1 := dk_seg dksX4_isUsed_0 22 rfl rfl
theorem dksX4_isUsed_2 : cX4_isUsed.data.toList.drop 44 = dktX4_isUsed_2 := dk_seg dksX4_isUsed_1 22 rfl rfl
theorem dksX4_isUsed_3 : cX4_isUsed.data.toList.drop 68 = dktX4_isUsed_3 := dk_seg dksX4_isUsed_2 24 rfl rfl
theorem dX4_isUsed_0 : decode cX4_isUsed 0 = .ok (.iconst 0, 1) := dk_3 (dk_at dksX4_isUsed_0 0 rfl rfl)
theorem dX4_isUsed_1 : decode cX4_isUsed 1 = .ok (.istore_n 2, 1) := dk_61 (dk_at dksX4_isUsed_0 1 rfl rfl)
theorem dX4_isUsed_2 : decode cX4_isUsed 2 = .ok (.iconst 0, 1) := dk_3 (dk_at dksX4_isUsed_0 2 rfl rfl)
theorem dX4_isUsed_3 : decode cX4_isUsed 3 = .ok (.istore_n 3, 1) := dk_62 (dk_at dksX4_isUsed_0 3 rfl rfl)
theorem dX4_isUsed_4 : decode cX4_isUsed 4 = .ok (.iload_n 3, 1) := dk_29 (dk_at dksX4_isUsed_0 4 rfl rfl)
theorem dX4_isUsed_5 : decode cX4_isUsed 5 = .ok (.aload_n 0, 1) := dk_42 (dk_at dksX4_isUsed_0 5 rfl rfl)
theorem dX4_isUsed_6 : decode cX4_isUsed 6 = .ok (.getfield 3, 3) := dk_180 0 3 (dk_at dksX4_isUsed_0 6 rfl rfl)
theorem dX4_isUsed_9 : decode cX4_isUsed 9 = .ok (.getfield 38, 3) := dk_180 0 38 (dk_at dksX4_isUsed_0 9 rfl rfl)
theorem dX4_isUsed_12 : decode cX4_isUsed 12 = .ok (.getfield 53, 3) := dk_180 0 53 (dk_at dksX4_isUsed_0 12 rfl rfl)
theorem dX4_isUsed_15 : decode cX4_isUsed 15 = .ok (.invokevirtual 57, 3) := dk_182 0 57 (dk_at dksX4_isUsed_0 15 rfl rfl)
theorem dX4_isUsed_18 : decode cX4_isUsed 18 = .ok (.if_icmp .ge 58, 3) := dk_162 0 58 (dk_at dksX4_isUsed_0 18 rfl rfl)
theorem dX4_isUsed_21 : decode cX4_isUsed 21 = .ok (.iload_n 2, 1) := dk_28 (dk_at dksX4_isUsed_0 21 rfl rfl)
theorem dX4_isUsed_22 : decode cX4_isUsed 22 = .ok (.ifCond .ne 42, 3) := dk_154 0 42 (dk_at dksX4_isUsed_1 0 rfl rfl)
theorem dX4_isUsed_25 : decode cX4_isUsed 25 = .ok (.aload_n 0, 1) := dk_42 (dk_at dksX4_isUsed_1 3 rfl rfl)
theorem dX4_isUsed_26 : decode cX4_isUsed 26 = .ok (.getfield 3, 3) := dk_180 0 3 (dk_at dksX4_isUsed_1 4 rfl rfl)
theorem dX4_isUsed_29 : decode cX4_isUsed 29 = .ok (.getfield 38, 3) := dk_180 0 38 (dk_at dksX4_isUsed_1 7 rfl rfl)
theorem dX4_isUsed_32 : decode cX4_isUsed 32 = .ok (.getfield 63, 3) := dk_180 0 63 (dk_at dksX4_isUsed_1 10 rfl rfl)
theorem dX4_isUsed_35 : decode cX4_isUsed 35 = .ok (.iload_n 3, 1) := dk_29 (dk_at dksX4_isUsed_1 13 rfl rfl)
theorem dX4_isUsed_36 : decode cX4_isUsed 36 = .ok (.baload, 1) := dk_51 (dk_at dksX4_isUsed_1 14 rfl rfl)
theorem dX4_isUsed_37 : decode cX4_isUsed 37 = .ok (.ifCond .eq 31, 3) := dk_153 0 31 (dk_at dksX4_isUsed_1 15 rfl rfl)
theorem dX4_isUsed_40 : decode cX4_isUsed 40 = .ok (.aload_n 0, 1) := dk_42 (dk_at dksX4_isUsed_1 18 rfl rfl)
theorem dX4_isUsed_41 : decode cX4_isUsed 41 = .ok (.getfield 3, 3) := dk_180 0 3 (dk_at dksX4_isUsed_1 19 rfl rfl)
theorem dX4_isUsed_44 : decode cX4_isUsed 44 = .ok (.getfield 38, 3) := dk_180 0 38 (dk_at dksX4_isUsed_2 0 rfl rfl)
theorem dX4_isUsed_47 : decode cX4_isUsed 47 = .ok (.getfield 53, 3) := dk_180 0 53 (dk_at dksX4_isUsed_2 3 rfl rfl)
theorem dX4_isUsed_50 : decode cX4_isUsed 50 = .ok (.iload_n 3, 1) := dk_29 (dk_at dksX4_isUsed_2 6 rfl rfl)
theorem dX4_isUsed_51 : decode cX4_isUsed 51 = .ok (.invokevirtual 67, 3) := dk_182 0 67 (dk_at dksX4_isUsed_2 7 rfl rfl)
theorem dX4_isUsed_54 : decode cX4_isUsed 54 = .ok (.checkcast 71, 3) := dk_192 0 71 (dk_at dksX4_isUsed_2 10 rfl rfl)
theorem dX4_isUsed_57 : decode cX4_isUsed 57 = .ok (.getfield 73, 3) := dk_180 0 73 (dk_at dksX4_isUsed_2 13 rfl rfl)
theorem dX4_isUsed_60 : decode cX4_isUsed 60 = .ok (.iload_n 1, 1) := dk_27 (dk_at dksX4_isUsed_2 16 rfl rfl)
theorem dX4_isUsed_61 : decode cX4_isUsed 61 = .ok (.if_icmp .ne 7, 3) := dk_160 0 7 (dk_at dksX4_isUsed_2 17 rfl rfl)
theorem dX4_isUsed_64 : decode cX4_isUsed 64 = .ok (.iconst 1, 1) := dk_4 (dk_at dksX4_isUsed_2 20 rfl rfl)
theorem dX4_isUsed_65 : decode cX4_isUsed 65 = .ok (.goto 4, 3) := dk_167 0 4 (dk_at dksX4_isUsed_2 21 rfl rfl)
theorem dX4_isUsed_68 : decode cX4_isUsed 68 = .ok (.iconst 0, 1) := dk_3 (dk_at dksX4_isUsed_3 0 rfl rfl)
theorem dX4_isUsed_69 : decode cX4_isUsed 69 = .ok (.istore_n 2, 1) := dk_61 (dk_at dksX4_isUsed_3 1 rfl rfl)
theorem dX4_isUsed_70 : decode cX4_isUsed 70 = .ok (.iinc 3 1, 3) := dk_132 3 1 (dk_at dksX4_isUsed_3 2 rfl rfl)
theorem dX4_isUsed_73 : decode cX4_isUsed 73 = .ok (.goto (-69), 3) := dk_167 255 187 (dk_at dksX4_isUsed_3 5 rfl rfl)
theorem dX4_isUsed_76 : decode cX4_isUsed 76 = .ok (.iload_n 2, 1) := dk_28 (dk_at dksX4_isUsed_3 8 rfl rfl)
theorem dX4_isUsed_77 : decode cX4_isUsed 77 = .ok (.ireturn, 1) := dk_172 (dk_at dksX4_isUsed_3 9 rfl rfl)
abbrev cX4_gives : ByteArray := prog_13_method_4_code
def yX4_gives : MethodName := ⟨RX4, "gives", "(I)V"⟩
def dkwX4_gives_5 : List UInt8 := [42, 180, 0, 19, 42, 180, 0, 15, 27, 46, 2, 79, 177]
abbrev dktX4_gives_5 : List UInt8 := dkwX4_gives_5 ++ []
def dkwX4_gives_4 : List UInt8 := [180, 0, 19, 42, 180, 0, 15, 27, 46, 28, 79, 42, 27, 4, 96, 182, 0, 49, 132, 2, 1, 167, 255, 229]
abbrev dktX4_gives_4 : List UInt8 := dkwX4_gives_4 ++ dktX4_gives_5
def dkwX4_gives_3 : List UInt8 := [46, 46, 96, 92, 46, 4, 96, 79, 132, 2, 1, 167, 255, 221, 177, 3, 61, 28, 7, 162, 0, 28, 42]
abbrev dktX4_gives_3 : List UInt8 := dkwX4_gives_3 ++ dktX4_gives_4
def dkwX4_gives_2 : List UInt8 := [28, 42, 180, 0, 32, 162, 0, 33, 42, 180, 0, 22, 7, 28, 104, 42, 180, 0, 19, 42, 180, 0, 15, 28]
abbrev dktX4_gives_2 : List UInt8 := dkwX4_gives_2 ++ dktX4_gives_3
def dkwX4_gives_1 : List UInt8 := [180, 0, 19, 2, 2, 182, 0, 83, 154, 0, 4, 177, 42, 89, 180, 0, 35, 4, 96, 181, 0, 35, 3, 61]
abbrev dktX4_gives_1 : List UInt8 := dkwX4_gives_1 ++ dktX4_gives_2
def dkwX4_gives_0 : List UInt8 := [27, 42, 180, 0, 32, 160, 0, 81, 42, 180, 0, 3, 180, 0, 76, 42, 180, 0, 3, 182, 0, 80, 42]
abbrev dktX4_gives_0 : List UInt8 := dkwX4_gives_0 ++ dktX4_gives_1
theorem dksX4_gives_0 : cX4_gives.data.toList.drop 0 = dktX4_gives_0 := by decide +kernel
theorem dksX4_gives_1 : cX4_gives.data.toList.drop 23 = dktX4_gives_1 := dk_seg dksX4_gives_0 23 rfl rfl
theorem dksX4_gives_2 : cX4_gives.data.toList.drop 47 = dktX4_gives_2 := dk_seg dksX4_gives_1 24 rfl rfl
theorem dksX4_gives_3 : cX4_gives.data.toList.drop 71 = dktX4_gives_3 := dk_seg dksX4_gives_2 24 rfl rfl
theorem dksX4_gives_4 : cX4_gives.data.toList.drop 94 = dktX4_gives_4 := dk_seg dksX4_gives_3 23 rfl rfl
theorem dksX4_gives_5 : cX4_gives.data.toList.drop 118 = dktX4_gives_5 := dk_seg dksX4_gives_4 24 rfl rfl
theorem dX4_gives_0 : decode cX4_gives 0 = .ok (.iload_n 1, 1) := dk_27 (dk_at dksX4_gives_0 0 rfl rfl)
theorem dX4_gives_1 : decode cX4_gives 1 = .ok (.aload_n 0, 1) := dk_42 (dk_at dksX4_gives_0 1 rfl rfl)
theorem dX4_gives_2 : decode cX4_gives 2 = .ok (.getfield 32, 3) := dk_180 0 32 (dk_at dksX4_gives_0 2 rfl rfl)
theorem dX4_gives_5 : decode cX4_gives 5 = .ok (.if_icmp .ne 81, 3) := dk_160 0 81 (dk_at dksX4_gives_0 5 rfl rfl)
theorem dX4_gives_8 : decode cX4_gives 8 = .ok (.aload_n 0, 1) := dk_42 (dk_at dksX4_gives_0 8 rfl rfl)
theorem dX4_gives_9 : decode cX4_gives 9 = .ok (.getfield 3, 3) := dk_180 0 3 (dk_at dksX4_gives_0 9 rfl rfl)
theorem dX4_gives_12 : decode cX4_gives 12 = .ok (.getfield 76, 3) := dk_180 0 76 (dk_at dksX4_gives_0 12 rfl rfl)
theorem dX4_gives_15 : decode cX4_gives 15 = .ok (.aload_n 0, 1) := dk_42 (dk_at dksX4_gives_0 15 rfl rfl)
theorem dX4_gives_16 : decode cX4_gives 16 = .ok (.getfield 3, 3) := dk_180 0 3 (dk_at dksX4_gives_0 16 rfl rfl)
theorem dX4_gives_19 : decode cX4_gives 19 = .ok (.invokevirtual 80, 3) := dk_182 0 80 (dk_at dksX4_gives_0 19 rfl rfl)
theorem dX4_gives_22 : decode cX4_gives 22 = .ok (.aload_n 0, 1) := dk_42 (dk_at dksX4_gives_0 22 rfl rfl)
theorem dX4_gives_23 : decode cX4_gives 23 = .ok (.getfield 19, 3) := dk_180 0 19 (dk_at dksX4_gives_1 0 rfl rfl)
theorem dX4_gives_26 : decode cX4_gives 26 = .ok (.iconst (-1), 1) := dk_2 (dk_at dksX4_gives_1 3 rfl rfl)
theorem dX4_gives_27 : decode cX4_gives 27 = .ok (.iconst (-1), 1) := dk_2 (dk_at dksX4_gives_1 4 rfl rfl)
theorem dX4_gives_28 : decode cX4_gives 28 = .ok (.invokevirtual 83, 3) := dk_182 0 83 (dk_at dksX4_gives_1 5 rfl rfl)
theorem dX4_gives_31 : decode cX4_gives 31 = .ok (.ifCond .ne 4, 3) := dk_154 0 4 (dk_at dksX4_gives_1 8 rfl rfl)
theorem dX4_gives_34 : decode cX4_gives 34 = .ok (.return_, 1) := dk_177 (dk_at dksX4_gives_1 11 rfl rfl)
theorem dX4_gives_35 : decode cX4_gives 35 = .ok (.aload_n 0, 1) := dk_42 (dk_at dksX4_gives_1 12 rfl rfl)
theorem dX4_gives_36 : decode cX4_gives 36 = .ok (.dup, 1) := dk_89 (dk_at dksX4_gives_1 13 rfl rfl)
theorem dX4_gives_37 : decode cX4_gives 37 = .ok (.getfield 35, 3) := dk_180 0 35 (dk_at dksX4_gives_1 14 rfl rfl)
theorem dX4_gives_40 : decode cX4_gives 40 = .ok (.iconst 1, 1) := dk_4 (dk_at dksX4_gives_1 17 rfl rfl)
theorem dX4_gives_41 : decode cX4_gives 41 = .ok (.iadd, 1) := dk_96 (dk_at dksX4_gives_1 18 rfl rfl)
theorem dX4_gives_42 : decode cX4_gives 42 = .ok (.putfield 35, 3) := dk_181 0 35 (dk_at dksX4_gives_1 19 rfl rfl)
theorem dX4_gives_45 : decode cX4_gives 45 = .ok (.iconst 0, 1) := dk_3 (dk_at dksX4_gives_1 22 rfl rfl)
theorem dX4_gives_46 : decode cX4_gives 46 = .ok (.istore_n 2, 1) := dk_61 (dk_at dksX4_gives_1 23 rfl rfl)
theorem dX4_gives_47 : decode cX4_gives 47 = .ok (.iload_n 2, 1) := dk_28 (dk_at dksX4_gives_2 0 rfl rfl)
theorem dX4_gives_48 : decode cX4_gives 48 = .ok (.aload_n 0, 1) := dk_42 (dk_at dksX4_gives_2 1 rfl rfl)
theorem dX4_gives_49 : decode cX4_gives 49 = .ok (.getfield 32, 3) := dk_180 0 32 (dk_at dksX4_gives_2 2 rfl rfl)
theorem dX4_gives_52 : decode cX4_gives 52 = .ok (.if_icmp .ge 33, 3) := dk_162 0 33 (dk_at dksX4_gives_2 5 rfl rfl)
theorem dX4_gives_55 : decode cX4_gives 55 = .ok (.aload_n 0, 1) := dk_42 (dk_at dksX4_gives_2 8 rfl rfl)
theorem dX4_gives_56 : decode cX4_gives 56 = .ok (.getfield 22, 3) := dk_180 0 22 (dk_at dksX4_gives_2 9 rfl rfl)
theorem dX4_gives_59 : decode cX4_gives 59 = .ok (.iconst 4, 1) := dk_7 (dk_at dksX4_gives_2 12 rfl rfl)
theorem dX4_gives_60 : decode cX4_gives 60 = .ok (.iload_n 2, 1) := dk_28 (dk_at dksX4_gives_2 13 rfl rfl)
theorem dX4_gives_61 : decode cX4_gives 61 = .ok (.imul, 1) := dk_104 (dk_at dksX4_gives_2 14 rfl rfl)
theorem dX4_gives_62 : decode cX4_gives 62 = .ok (.aload_n 0, 1) := dk_42 (dk_at dksX4_gives_2 15 rfl rfl)
theorem dX4_gives_63 : decode cX4_gives 63 = .ok (.getfield 19, 3) := dk_180 0 19 (dk_at dksX4_gives_2 16 rfl rfl)
theorem dX4_gives_66 : decode cX4_gives 66 = .ok (.aload_n 0, 1) := dk_42 (dk_at dksX4_gives_2 19 rfl rfl)
theorem dX4_gives_67 : decode cX4_gives 67 = .ok (.getfield 15, 3) := dk_180 0 15 (dk_at dksX4_gives_2 20 rfl rfl)
theorem dX4_gives_70 : decode cX4_gives 70 = .ok (.iload_n 2, 1) := dk_28 (dk_at dksX4_gives_2 23 rfl rfl)
theorem dX4_gives_71 : decode cX4_gives 71 = .ok (.iaload, 1) := dk_46 (dk_at dksX4_gives_3 0 rfl rfl)
theorem dX4_gives_72 : decode cX4_gives 72 = .ok (.iaload, 1) := dk_46 (dk_at dksX4_gives_3 1 rfl rfl)
theorem dX4_gives_73 : decode cX4_gives 73 = .ok (.iadd, 1) := dk_96 (dk_at dksX4_gives_3 2 rfl rfl)
theorem dX4_gives_74 : decode cX4_gives 74 = .ok (.dup2, 1) := dk_92 (dk_at dksX4_gives_3 3 rfl rfl)
theorem dX4_gives_75 : decode cX4_gives 75 = .ok (.iaload, 1) := dk_46 (dk_at dksX4_gives_3 4 rfl rfl)
theorem dX4_gives_76 : decode cX4_gives 76 = .ok (.iconst 1, 1) := dk_4 (dk_at dksX4_gives_3 5 rfl rfl)
theorem dX4_gives_77 : decode cX4_gives 77 = .ok (.iadd, 1) := dk_96 (dk_at dksX4_gives_3 6 rfl rfl)
theorem dX4_gives_78 : decode cX4_gives 78 = .ok (.iastore, 1) := dk_79 (dk_at dksX4_gives_3 7 rfl rfl)
theorem dX4_gives_79 : decode cX4_gives 79 = .ok (.iinc 2 1, 3) := dk_132 2 1 (dk_at dksX4_gives_3 8 rfl rfl)
theorem dX4_gives_82 : decode cX4_gives 82 = .ok (.goto (-35), 3) := dk_167 255 221 (dk_at dksX4_gives_3 11 rfl rfl)
theorem dX4_gives_85 : decode cX4_gives 85 = .ok (.return_, 1) := dk_177 (dk_at dksX4_gives_3 14 rfl rfl)
theorem dX4_gives_86 : decode cX4_gives 86 = .ok (.iconst 0, 1) := dk_3 (dk_at dksX4_gives_3 15 rfl rfl)
theorem dX4_gives_87 : decode cX4_gives 87 = .ok (.istore_n 2, 1) := dk_61 (dk_at dksX4_gives_3 16 rfl rfl)
theorem dX4_gives_88 : decode cX4_gives 88 = .ok (.iload_n 2, 1) := dk_28 (dk_at dksX4_gives_3 17 rfl rfl)
theorem dX4_gives_89 : decode cX4_gives 89 = .ok (.iconst 4, 1) := dk_7 (dk_at dksX4_gives_3 18 rfl rfl)
theorem dX4_gives_90 : decode cX4_gives 90 = .ok (.if_icmp .ge 28, 3) := dk_162 0 28 (dk_at dksX4_gives_3 19 rfl rfl)
theorem dX4_gives_93 : decode cX4_gives 93 = .ok (.aload_n 0, 1) := dk_42 (dk_at dksX4_gives_3 22 rfl rfl)
theorem dX4_gives_94 : decode cX4_gives 94 = .ok (.getfield 19, 3) := dk_180 0 19 (dk_at dksX4_gives_4 0 rfl rfl)
theorem dX4_gives_97 : decode cX4_gives 97 = .ok (.aload_n 0, 1) := dk_42 (dk_at dksX4_gives_4 3 rfl rfl)
theorem dX4_gives_98 : decode cX4_gives 98 = .ok (.getfield 15, 3) := dk_180 0 15 (dk_at dksX4_gives_4 4 rfl rfl)
theorem dX4_gives_101 : decode cX4_gives 101 = .ok (.iload_n 1, 1) := dk_27 (dk_at dksX4_gives_4 7 rfl rfl)
theorem dX4_gives_102 : decode cX4_gives 102 = .ok (.iaload, 1) := dk_46 (dk_at dksX4_gives_4 8 rfl rfl)
theorem dX4_gives_103 : decode cX4_gives 103 = .ok (.iload_n 2, 1) := dk_28 (dk_at dksX4_gives_4 9 rfl rfl)
theorem dX4_gives_104 : decode cX4_gives 104 = .ok (.iastore, 1) := dk_79 (dk_at dksX4_gives_4 10 rfl rfl)
theorem dX4_gives_105 : decode cX4_gives 105 = .ok (.aload_n 0, 1) := dk_42 (dk_at dksX4_gives_4 11 rfl rfl)
theorem dX4_gives_106 : decode cX4_gives 106 = .ok (.iload_n 1, 1) := dk_27 (dk_at dksX4_gives_4 12 rfl rfl)
theorem dX4_gives_107 : decode cX4_gives 107 = .ok (.iconst 1, 1) := dk_4 (dk_at dksX4_gives_4 13 rfl rfl)
theorem dX4_gives_108 : decode cX4_gives 108 = .ok (.iadd, 1) := dk_96 (dk_at dksX4_gives_4 14 rfl rfl)
theorem dX4_gives_109 : decode cX4_gives 109 = .ok (.invokevirtual 49, 3) := dk_182 0 49 (dk_at dksX4_gives_4 15 rfl rfl)
theorem dX4_gives_112 : decode cX4_gives 112 = .ok (.iinc 2 1, 3) := dk_132 2 1 (dk_at dksX4_gives_4 18 rfl rfl)
theorem dX4_gives_115 : decode cX4_gives 115 = .ok (.goto (-27), 3) := dk_167 255 229 (dk_at dksX4_gives_4 21 rfl rfl)
theorem dX4_gives_118 : decode cX4_gives 118 = .ok (.aload_n 0, 1) := dk_42 (dk_at dksX4_gives_5 0 rfl rfl)
theorem dX4_gives_119 : decode cX4_gives 119 = .ok (.getfield 19, 3) := dk_180 0 19 (dk_at dksX4_gives_5 1 rfl rfl)
theorem dX4_gives_122 : decode cX4_gives 122 = .ok (.aload_n 0, 1) := dk_42 (dk_at dksX4_gives_5 4 rfl rfl)
theorem dX4_gives_123 : decode cX4_gives 123 = .ok (.getfield 15, 3) := dk_180 0 15 (dk_at dksX4_gives_5 5 rfl rfl)
theorem dX4_gives_126 : decode cX4_gives 126 = .ok (.iload_n 1, 1) := dk_27 (dk_at dksX4_gives_5 8 rfl rfl)
theorem dX4_gives_127 : decode cX4_gives 127 = .ok (.iaload, 1) := dk_46 (dk_at dksX4_gives_5 9 rfl rfl)
theorem dX4_gives_128 : decode cX4_gives 128 = .ok (.iconst (-1), 1) := dk_2 (dk_at dksX4_gives_5 10 rfl rfl)
theorem dX4_gives_129 : decode cX4_gives 129 = .ok (.iastore, 1) := dk_79 (dk_at dksX4_gives_5 11 rfl rfl)
theorem dX4_gives_130 : decode cX4_gives 130 = .ok (.return_, 1) := dk_177 (dk_at dksX4_gives_5 12 rfl rfl)
abbrev cX4_placeOf : ByteArray := prog_13_method_5_code
def yX4_placeOf : MethodName := ⟨RX4, "placeOf", "(I)I"⟩
def dkwX4_placeOf_1 : List UInt8 := [132, 2, 1, 167, 255, 233, 2, 172]
abbrev dktX4_placeOf_1 : List UInt8 := dkwX4_placeOf_1 ++ []
def dkwX4_placeOf_0 : List UInt8 := [3, 61, 28, 42, 180, 0, 32, 162, 0, 21, 42, 180, 0, 15, 28, 46, 27, 160, 0, 5, 28, 172]
abbrev dktX4_placeOf_0 : List UInt8 := dkwX4_placeOf_0 ++ dktX4_placeOf_1
theorem dksX4_placeOf_0 : cX4_placeOf.data.toList.drop 0 = dktX4_placeOf_0 := by decide +kernel
theorem dksX4_placeOf_1 : cX4_placeOf.data.toList.drop 22 = dktX4_placeOf_1 := dk_seg dksX4_placeOf_0 22 rfl rfl
theorem dX4_placeOf_0 : decode cX4_placeOf 0 = .ok (.iconst 0, 1) := dk_3 (dk_at dksX4_placeOf_0 0 rfl rfl)
theorem dX4_placeOf_1 : decode cX4_placeOf 1 = .ok (.istore_n 2, 1) := dk_61 (dk_at dksX4_placeOf_0 1 rfl rfl)
theorem dX4_placeOf_2 : decode cX4_placeOf 2 = .ok (.iload_n 2, 1) := dk_28 (dk_at dksX4_placeOf_0 2 rfl rfl)
theorem dX4_placeOf_3 : decode cX4_placeOf 3 = .ok (.aload_n 0, 1) := dk_42 (dk_at dksX4_placeOf_0 3 rfl rfl)
theorem dX4_placeOf_4 : decode cX4_placeOf 4 = .ok (.getfield 32, 3) := dk_180 0 32 (dk_at dksX4_placeOf_0 4 rfl rfl)
theorem dX4_placeOf_7 : decode cX4_placeOf 7 = .ok (.if_icmp .ge 21, 3) := dk_162 0 21 (dk_at dksX4_placeOf_0 7 rfl rfl)
theorem dX4_placeOf_10 : decode cX4_placeOf 10 = .ok (.aload_n 0, 1) := dk_42 (dk_at dksX4_placeOf_0 10 rfl rfl)
theorem dX4_placeOf_11 : decode cX4_placeOf 11 = .ok (.getfield 15, 3) := dk_180 0 15 (dk_at dksX4_placeOf_0 11 rfl rfl)
theorem dX4_placeOf_14 : decode cX4_placeOf 14 = .ok (.iload_n 2, 1) := dk_28 (dk_at dksX4_placeOf_0 14 rfl rfl)
theorem dX4_placeOf_15 : decode cX4_placeOf 15 = .ok (.iaload, 1) := dk_46 (dk_at dksX4_placeOf_0 15 rfl rfl)
theorem dX4_placeOf_16 : decode cX4_placeOf 16 = .ok (.iload_n 1, 1) := dk_27 (dk_at dksX4_placeOf_0 16 rfl rfl)
theorem dX4_placeOf_17 : decode cX4_placeOf 17 = .ok (.if_icmp .ne 5, 3) := dk_160 0 5 (dk_at dksX4_placeOf_0 17 rfl rfl)
theorem dX4_placeOf_20 : decode cX4_placeOf 20 = .ok (.iload_n 2, 1) := dk_28 (dk_at dksX4_placeOf_0 20 rfl rfl)
theorem dX4_placeOf_21 : decode cX4_placeOf 21 = .ok (.ireturn, 1) := dk_172 (dk_at dksX4_placeOf_0 21 rfl rfl)
theorem dX4_placeOf_22 : decode cX4_placeOf 22 = .ok (.iinc 2 1, 3) := dk_132 2 1 (dk_at dksX4_placeOf_1 0 rfl rfl)
theorem dX4_placeOf_25 : decode cX4_placeOf 25 = .ok (.goto (-23), 3) := dk_167 255 233 (dk_at dksX4_placeOf_1 3 rfl rfl)
theorem dX4_placeOf_28 : decode cX4_placeOf 28 = .ok (.iconst (-1), 1) := dk_2 (dk_at dksX4_placeOf_1 6 rfl rfl)
theorem dX4_placeOf_29 : decode cX4_placeOf 29 = .ok (.ireturn, 1) := dk_172 (dk_at dksX4_placeOf_1 7 rfl rfl)
theorem q111 : (Jvm.Cond.initialized "WeekFoot$Whose") ∈ lw_all := lw_g (lw_at lw_m1 8 rfl) rfl
theorem q187 : (Jvm.Cond.fieldLinkNest "WeekFoot$Whose" (42 : Nat) "WeekFoot$State" "keepers" "[I" "WeekFoot") ∈ lw_tbl := lw_at lw_m1 84 rfl
theorem q201 : (Jvm.Cond.fieldLinkNest "WeekFoot$Whose" (63 : Nat) "WeekFoot$State" "counts" "[Z" "WeekFoot") ∈ lw_tbl := lw_at lw_m1 98 rfl
theorem q205 : (Jvm.Cond.fieldLinkNest "WeekFoot$Whose" (53 : Nat) "WeekFoot$State" "entries" "Ljava/util/ArrayList;" "WeekFoot") ∈ lw_tbl := lw_at lw_m1 102 rfl
theorem q269 : (Jvm.Cond.selects "WeekFoot$Whose" ({ cls := "java/lang/Object", name := "getClass", desc := "()Ljava/lang/Class;" } : Jvm.MethodName) ({ cls := "java/lang/Object", name := "getClass", desc := "()Ljava/lang/Class;" } : Jvm.MethodName)) ∈ lw_all := lw_g (lw_at lw_m1 166 rfl) rfl
theorem q368 : (Jvm.Cond.fieldLinkNest "WeekFoot$Whose" (73 : Nat) "WeekFoot$Entry" "week" "I" "WeekFoot") ∈ lw_tbl := lw_at lw_m2 25 rfl
theorem q814 : (Jvm.Cond.instantiable "WeekFoot$Whose" (7 : Nat)) ∈ lw_all := lw_g (lw_at lw_m3 231 rfl) rfl
theorem q816 : (Jvm.Cond.instanceMethod ({ cls := "WeekFoot$Whose", name := "<init>", desc := "(LWeekFoot;)V" } : Jvm.MethodName)) ∈ lw_all := lw_g (lw_at lw_m3 233 rfl) rfl
theorem q817 : (Jvm.Cond.code ({ cls := "WeekFoot$Whose", name := "<init>", desc := "(LWeekFoot;)V" } : Jvm.MethodName) prog_13_method_1_code (2 : Nat) (Option.none : Option Jvm.ClassFile.FieldType)) ∈ lw_all := lw_g (lw_at lw_m3 234 rfl) rfl
theorem q818 : (Jvm.Cond.methodLink "WeekFoot$Whose" (9 : Nat) ({ cls := "java/lang/Object", name := "<init>", desc := "()V" } : Jvm.MethodName)) ∈ lw_all := lw_g (lw_at lw_m3 235 rfl) rfl
theorem q819 : (Jvm.Cond.fieldLink "WeekFoot$Whose" (15 : Nat) "WeekFoot$Whose" "weeks" "[I") ∈ lw_all := lw_g (lw_at lw_m3 236 rfl) rfl
theorem q820 : (Jvm.Cond.fieldLink "WeekFoot$Whose" (19 : Nat) "WeekFoot$Whose" "keepers" "[I") ∈ lw_all := lw_g (lw_at lw_m3 237 rfl) rfl
theorem q821 : (Jvm.Cond.fieldLink "WeekFoot$Whose" (22 : Nat) "WeekFoot$Whose" "could" "[I") ∈ lw_all := lw_g (lw_at lw_m3 238 rfl) rfl
theorem q823 : (Jvm.Cond.fieldLink "WeekFoot$Whose" (25 : Nat) "WeekFoot$Whose" "made" "I") ∈ lw_all := lw_g (lw_at lw_m4 0 rfl) rfl
theorem q824 : (Jvm.Cond.fieldLink "WeekFoot$Whose" (32 : Nat) "WeekFoot$Whose" "many" "I") ∈ lw_all := lw_g (lw_at lw_m4 1 rfl) rfl
theorem q826 : (Jvm.Cond.fieldLink "WeekFoot$Whose" (35 : Nat) "WeekFoot$Whose" "ways" "I") ∈ lw_all := lw_g (lw_at lw_m4 3 rfl) rfl
theorem q828 : (Jvm.Cond.fieldLink "WeekFoot$Whose" (3 : Nat) "WeekFoot$Whose" "this$0" "LWeekFoot;") ∈ lw_all := lw_g (lw_at lw_m4 5 rfl) rfl
theorem q829 : (Jvm.Cond.laysFinal "WeekFoot$Whose" "WeekFoot$Whose" "weeks" "[I") ∈ lw_all := lw_g (lw_at lw_m4 6 rfl) rfl
theorem q830 : (Jvm.Cond.soleField "WeekFoot$Whose" "weeks") ∈ lw_all := lw_g (lw_at lw_m4 7 rfl) rfl
theorem q831 : (Jvm.Cond.laysFinal "WeekFoot$Whose" "WeekFoot$Whose" "keepers" "[I") ∈ lw_all := lw_g (lw_at lw_m4 8 rfl) rfl
theorem q832 : (Jvm.Cond.soleField "WeekFoot$Whose" "keepers") ∈ lw_all := lw_g (lw_at lw_m4 9 rfl) rfl
theorem q833 : (Jvm.Cond.laysFinal "WeekFoot$Whose" "WeekFoot$Whose" "could" "[I") ∈ lw_all := lw_g (lw_at lw_m4 10 rfl) rfl
theorem q834 : (Jvm.Cond.soleField "WeekFoot$Whose" "could") ∈ lw_all := lw_g (lw_at lw_m4 11 rfl) rfl
theorem q835 : (Jvm.Cond.lays "WeekFoot$Whose" "WeekFoot$Whose" "made" "I") ∈ lw_all := lw_g (lw_at lw_m4 12 rfl) rfl
theorem q836 : (Jvm.Cond.soleField "WeekFoot$Whose" "made") ∈ lw_all := lw_g (lw_at lw_m4 13 rfl) rfl
theorem q837 : (Jvm.Cond.lays "WeekFoot$Whose" "WeekFoot$Whose" "many" "I") ∈ lw_all := lw_g (lw_at lw_m4 14 rfl) rfl
theorem q838 : (Jvm.Cond.soleField "WeekFoot$Whose" "many") ∈ lw_all := lw_g (lw_at lw_m4 15 rfl) rfl
theorem q839 : (Jvm.Cond.lays "WeekFoot$Whose" "WeekFoot$Whose" "ways" "I") ∈ lw_all := lw_g (lw_at lw_m4 16 rfl) rfl
theorem q840 : (Jvm.Cond.soleField "WeekFoot$Whose" "ways") ∈ lw_all := lw_g (lw_at lw_m4 17 rfl) rfl
theorem q841 : (Jvm.Cond.laysFinal "WeekFoot$Whose" "WeekFoot$Whose" "this$0" "LWeekFoot;") ∈ lw_all := lw_g (lw_at lw_m4 18 rfl) rfl
theorem q842 : (Jvm.Cond.soleField "WeekFoot$Whose" "this$0") ∈ lw_all := lw_g (lw_at lw_m4 19 rfl) rfl
theorem q843 : (Jvm.Cond.superclass "WeekFoot$Whose" "java/lang/Object") ∈ lw_all := lw_g (lw_at lw_m4 20 rfl) rfl
theorem q882 : (Jvm.Cond.fieldLinkNest "WeekFoot$Whose" (38 : Nat) "WeekFoot" "state" "LWeekFoot$State;" "WeekFoot") ∈ lw_tbl := lw_at lw_m4 59 rfl
theorem q890 : (Jvm.Cond.fieldLinkNest "WeekFoot$Whose" (29 : Nat) "WeekFoot" "version" "I" "WeekFoot") ∈ lw_tbl := lw_at lw_m4 67 rfl
theorem q893 : (Jvm.Cond.fieldLinkNest "WeekFoot$Whose" (76 : Nat) "WeekFoot" "others" "LWeekFoot$Ends;" "WeekFoot") ∈ lw_tbl := lw_at lw_m4 70 rfl
theorem q1199 : (Jvm.Cond.instanceMethod ({ cls := "WeekFoot$Whose", name := "looks", desc := "()V" } : Jvm.MethodName)) ∈ lw_all := lw_g (lw_at lw_m5 136 rfl) rfl
theorem q1200 : (Jvm.Cond.selects "WeekFoot$Whose" ({ cls := "WeekFoot$Whose", name := "looks", desc := "()V" } : Jvm.MethodName) ({ cls := "WeekFoot$Whose", name := "looks", desc := "()V" } : Jvm.MethodName)) ∈ lw_all := lw_g (lw_at lw_m5 137 rfl) rfl
theorem q1201 : (Jvm.Cond.code ({ cls := "WeekFoot$Whose", name := "looks", desc := "()V" } : Jvm.MethodName) prog_13_method_2_code (2 : Nat) (Option.none : Option Jvm.ClassFile.FieldType)) ∈ lw_all := lw_g (lw_at lw_m5 138 rfl) rfl
theorem q1202 : (Jvm.Cond.methodLink "WeekFoot$Whose" (45 : Nat) ({ cls := "WeekFoot$Whose", name := "isUsed", desc := "(I)Z" } : Jvm.MethodName)) ∈ lw_all := lw_g (lw_at lw_m5 139 rfl) rfl
theorem q1203 : (Jvm.Cond.privateMethod ({ cls := "WeekFoot$Whose", name := "isUsed", desc := "(I)Z" } : Jvm.MethodName)) ∈ lw_tbl := lw_at lw_m5 140 rfl
theorem q1204 : (Jvm.Cond.instanceMethod ({ cls := "WeekFoot$Whose", name := "isUsed", desc := "(I)Z" } : Jvm.MethodName)) ∈ lw_all := lw_g (lw_at lw_m5 141 rfl) rfl
theorem q1205 : (Jvm.Cond.code ({ cls := "WeekFoot$Whose", name := "isUsed", desc := "(I)Z" } : Jvm.MethodName) prog_13_method_3_code (4 : Nat) (Option.some Jvm.ClassFile.FieldType.boolean)) ∈ lw_all := lw_g (lw_at lw_m5 142 rfl) rfl
theorem q1206 : (Jvm.Cond.methodLink "WeekFoot$Whose" (57 : Nat) ({ cls := "java/util/ArrayList", name := "size", desc := "()I" } : Jvm.MethodName)) ∈ lw_all := lw_g (lw_at lw_m5 143 rfl) rfl
theorem q1207 : (Jvm.Cond.methodLink "WeekFoot$Whose" (67 : Nat) ({ cls := "java/util/ArrayList", name := "get", desc := "(I)Ljava/lang/Object;" } : Jvm.MethodName)) ∈ lw_all := lw_g (lw_at lw_m5 144 rfl) rfl
theorem q1208 : (Jvm.Cond.classLink "WeekFoot$Whose" (71 : Nat) "WeekFoot$Entry") ∈ lw_all := lw_g (lw_at lw_m5 145 rfl) rfl
theorem q1209 : (Jvm.Cond.methodLink "WeekFoot$Whose" (49 : Nat) ({ cls := "WeekFoot$Whose", name := "gives", desc := "(I)V" } : Jvm.MethodName)) ∈ lw_all := lw_g (lw_at lw_m5 146 rfl) rfl
theorem q1210 : (Jvm.Cond.privateMethod ({ cls := "WeekFoot$Whose", name := "gives", desc := "(I)V" } : Jvm.MethodName)) ∈ lw_tbl := lw_at lw_m5 147 rfl
theorem q1211 : (Jvm.Cond.instanceMethod ({ cls := "WeekFoot$Whose", name := "gives", desc := "(I)V" } : Jvm.MethodName)) ∈ lw_all := lw_g (lw_at lw_m5 148 rfl) rfl
theorem q1212 : (Jvm.Cond.code ({ cls := "WeekFoot$Whose", name := "gives", desc := "(I)V" } : Jvm.MethodName) prog_13_method_4_code (3 : Nat) (Option.none : Option Jvm.ClassFile.FieldType)) ∈ lw_all := lw_g (lw_at lw_m5 149 rfl) rfl
theorem q1213 : (Jvm.Cond.methodLinkNest "WeekFoot$Whose" (80 : Nat) ({ cls := "WeekFoot", name := "counted", desc := "()I" } : Jvm.MethodName) "WeekFoot") ∈ lw_tbl := lw_at lw_m5 150 rfl
theorem q1214 : (Jvm.Cond.methodLink "WeekFoot$Whose" (83 : Nat) ({ cls := "WeekFoot$Ends", name := "fits", desc := "(I[III)Z" } : Jvm.MethodName)) ∈ lw_all := lw_g (lw_at lw_m5 151 rfl) rfl
theorem q1216 : (Jvm.Cond.instanceMethod ({ cls := "WeekFoot$Whose", name := "placeOf", desc := "(I)I" } : Jvm.MethodName)) ∈ lw_all := lw_g (lw_at lw_m5 153 rfl) rfl
theorem q1217 : (Jvm.Cond.selects "WeekFoot$Whose" ({ cls := "WeekFoot$Whose", name := "placeOf", desc := "(I)I" } : Jvm.MethodName) ({ cls := "WeekFoot$Whose", name := "placeOf", desc := "(I)I" } : Jvm.MethodName)) ∈ lw_all := lw_g (lw_at lw_m5 154 rfl) rfl
theorem q1218 : (Jvm.Cond.code ({ cls := "WeekFoot$Whose", name := "placeOf", desc := "(I)I" } : Jvm.MethodName) prog_13_method_5_code (3 : Nat) (Option.some Jvm.ClassFile.FieldType.int)) ∈ lw_all := lw_g (lw_at lw_m5 155 rfl) rfl
theorem q1978 : (Jvm.Cond.castable "WeekFoot$Whose" "java/lang/Object") ∈ lw_tbl := lw_at lw_m8 195 rfl
theorem in_X4 : ∀ w ∈ wsX40, w ∈ lw_all := lw_in wsX40 [829, 831, 833, 835, 837, 839, 841] (by decide +kernel) (by decide +kernel)
/-! WeekFoot$Year -/
set_option maxRecDepth 100000
def RX5 : String := "WeekFoot$Year"
def TX5 : u_T := fun k => match k with
  | 0 => ("WeekFoot$Year", "keepers", "[I", true)
  | 1 => ("WeekFoot$Year", "buys", "I", false)
  | 2 => ("WeekFoot$Year", "sells", "I", false)
  | 3 => ("WeekFoot$Year", "gain", "I", false)
  | 4 => ("WeekFoot$Year", "isThere", "Z", false)
  | _ => ("WeekFoot$Year", "this$0", "LWeekFoot;", true)
def tyX5 : Nat → FieldType := fun k => match k with
  | 0 => .array .int
  | 1 => .int
  | 2 => .int
  | 3 => .int
  | 4 => .boolean
  | _ => .object "WeekFoot"
abbrev wsX50 : List Cond := u_ws RX5 TX5 6
theorem nmX5 : ∀ a, a < 6 → ∀ b, b < 6 → a ≠ b → (TX5 a).2.1 ≠ (TX5 b).2.1 := by decide +kernel
theorem tyX5_ok : ∀ k, k < 6 → parseFieldDescriptor (TX5 k).2.2.1 = some (tyX5 k) := by decide +kernel
abbrev cX5_init : ByteArray := prog_14_method_1_code
def yX5_init : MethodName := ⟨RX5, "<init>", "(LWeekFoot;)V"⟩
def dkwX5_init_0 : List UInt8 := [42, 43, 181, 0, 3, 42, 183, 0, 9, 42, 16, 32, 188, 10, 181, 0, 15, 177]
abbrev dktX5_init_0 : List UInt8 := dkwX5_init_0 ++ []
theorem dksX5_init_0 : cX5_init.data.toList.drop 0 = dktX5_init_0 := by decide +kernel
theorem dX5_init_0 : decode cX5_init 0 = .ok (.aload_n 0, 1) := dk_42 (dk_at dksX5_init_0 0 rfl rfl)
theorem dX5_init_1 : decode cX5_init 1 = .ok (.aload_n 1, 1) := dk_43 (dk_at dksX5_init_0 1 rfl rfl)
theorem dX5_init_2 : decode cX5_init 2 = .ok (.putfield 3, 3) := dk_181 0 3 (dk_at dksX5_init_0 2 rfl rfl)
theorem dX5_init_5 : decode cX5_init 5 = .ok (.aload_n 0, 1) := dk_42 (dk_at dksX5_init_0 5 rfl rfl)
theorem dX5_init_6 : decode cX5_init 6 = .ok (.invokespecial 9, 3) := dk_183 0 9 (dk_at dksX5_init_0 6 rfl rfl)
theorem dX5_init_9 : decode cX5_init 9 = .ok (.aload_n 0, 1) := dk_42 (dk_at dksX5_init_0 9 rfl rfl)
theorem dX5_init_10 : decode cX5_init 10 = .ok (.bipush 32, 2) := dk_16 32 (dk_at dksX5_init_0 10 rfl rfl)
theorem dX5_init_12 : decode cX5_init 12 = .ok (.newarray .int, 2) := dk_188_10 (dk_at dksX5_init_0 12 rfl rfl)
theorem dX5_init_14 : decode cX5_init 14 = .ok (.putfield 15, 3) := dk_181 0 15 (dk_at dksX5_init_0 14 rfl rfl)
theorem dX5_init_17 : decode cX5_init 17 = .ok (.return_, 1) := dk_177 (dk_at dksX5_init_0 17 rfl rfl)
abbrev cX5_draws : ByteArray := prog_14_method_3_code
def yX5_draws : MethodName := ⟨RX5, "draws", "(I)V"⟩
def dkwX5_draws_1 : List UInt8 := [136, 61, 42, 180, 0, 15, 29, 28, 7, 112, 79, 132, 3, 1, 167, 255, 222, 42, 4, 181, 0, 34, 177]
abbrev dktX5_draws_1 : List UInt8 := dkwX5_draws_1 ++ []
def dkwX5_draws_0 : List UInt8 := [27, 61, 3, 62, 29, 16, 32, 162, 0, 34, 28, 133, 20, 0, 28, 105, 20, 0, 30, 97, 20, 0, 32, 113]
abbrev dktX5_draws_0 : List UInt8 := dkwX5_draws_0 ++ dktX5_draws_1
theorem dksX5_draws_0 : cX5_draws.data.toList.drop 0 = dktX5_draws_0 := by decide +kernel
theorem dksX5_draws_1 : cX5_draws.data.toList.drop 24 = dktX5_draws_1 := dk_seg dksX5_draws_0 24 rfl rfl
theorem dX5_draws_0 : decode cX5_draws 0 = .ok (.iload_n 1, 1) := dk_27 (dk_at dksX5_draws_0 0 rfl rfl)
theorem dX5_draws_1 : decode cX5_draws 1 = .ok (.istore_n 2, 1) := dk_61 (dk_at dksX5_draws_0 1 rfl rfl)
theorem dX5_draws_2 : decode cX5_draws 2 = .ok (.iconst 0, 1) := dk_3 (dk_at dksX5_draws_0 2 rfl rfl)
theorem dX5_draws_3 : decode cX5_draws 3 = .ok (.istore_n 3, 1) := dk_62 (dk_at dksX5_draws_0 3 rfl rfl)
theorem dX5_draws_4 : decode cX5_draws 4 = .ok (.iload_n 3, 1) := dk_29 (dk_at dksX5_draws_0 4 rfl rfl)
theorem dX5_draws_5 : decode cX5_draws 5 = .ok (.bipush 32, 2) := dk_16 32 (dk_at dksX5_draws_0 5 rfl rfl)
theorem dX5_draws_7 : decode cX5_draws 7 = .ok (.if_icmp .ge 34, 3) := dk_162 0 34 (dk_at dksX5_draws_0 7 rfl rfl)
theorem dX5_draws_10 : decode cX5_draws 10 = .ok (.iload_n 2, 1) := dk_28 (dk_at dksX5_draws_0 10 rfl rfl)
theorem dX5_draws_11 : decode cX5_draws 11 = .ok (.i2l, 1) := dk_133 (dk_at dksX5_draws_0 11 rfl rfl)
theorem dX5_draws_12 : decode cX5_draws 12 = .ok (.ldc2_w 28, 3) := dk_20 0 28 (dk_at dksX5_draws_0 12 rfl rfl)
theorem dX5_draws_15 : decode cX5_draws 15 = .ok (.lmul, 1) := dk_105 (dk_at dksX5_draws_0 15 rfl rfl)
theorem dX5_draws_16 : decode cX5_draws 16 = .ok (.ldc2_w 30, 3) := dk_20 0 30 (dk_at dksX5_draws_0 16 rfl rfl)
theorem dX5_draws_19 : decode cX5_draws 19 = .ok (.ladd, 1) := dk_97 (dk_at dksX5_draws_0 19 rfl rfl)
theorem dX5_draws_20 : decode cX5_draws 20 = .ok (.ldc2_w 32, 3) := dk_20 0 32 (dk_at dksX5_draws_0 20 rfl rfl)
theorem dX5_draws_23 : decode cX5_draws 23 = .ok (.lrem, 1) := dk_113 (dk_at dksX5_draws_0 23 rfl rfl)
theorem dX5_draws_24 : decode cX5_draws 24 = .ok (.l2i, 1) := dk_136 (dk_at dksX5_draws_1 0 rfl rfl)
theorem dX5_draws_25 : decode cX5_draws 25 = .ok (.istore_n 2, 1) := dk_61 (dk_at dksX5_draws_1 1 rfl rfl)
theorem dX5_draws_26 : decode cX5_draws 26 = .ok (.aload_n 0, 1) := dk_42 (dk_at dksX5_draws_1 2 rfl rfl)
theorem dX5_draws_27 : decode cX5_draws 27 = .ok (.getfield 15, 3) := dk_180 0 15 (dk_at dksX5_draws_1 3 rfl rfl)
theorem dX5_draws_30 : decode cX5_draws 30 = .ok (.iload_n 3, 1) := dk_29 (dk_at dksX5_draws_1 6 rfl rfl)
theorem dX5_draws_31 : decode cX5_draws 31 = .ok (.iload_n 2, 1) := dk_28 (dk_at dksX5_draws_1 7 rfl rfl)
theorem dX5_draws_32 : decode cX5_draws 32 = .ok (.iconst 4, 1) := dk_7 (dk_at dksX5_draws_1 8 rfl rfl)
theorem dX5_draws_33 : decode cX5_draws 33 = .ok (.irem, 1) := dk_112 (dk_at dksX5_draws_1 9 rfl rfl)
theorem dX5_draws_34 : decode cX5_draws 34 = .ok (.iastore, 1) := dk_79 (dk_at dksX5_draws_1 10 rfl rfl)
theorem dX5_draws_35 : decode cX5_draws 35 = .ok (.iinc 3 1, 3) := dk_132 3 1 (dk_at dksX5_draws_1 11 rfl rfl)
theorem dX5_draws_38 : decode cX5_draws 38 = .ok (.goto (-34), 3) := dk_167 255 222 (dk_at dksX5_draws_1 14 rfl rfl)
theorem dX5_draws_41 : decode cX5_draws 41 = .ok (.aload_n 0, 1) := dk_42 (dk_at dksX5_draws_1 17 rfl rfl)
theorem dX5_draws_42 : decode cX5_draws 42 = .ok (.iconst 1, 1) := dk_4 (dk_at dksX5_draws_1 18 rfl rfl)
theorem dX5_draws_43 : decode cX5_draws 43 = .ok (.putfield 34, 3) := dk_181 0 34 (dk_at dksX5_draws_1 19 rfl rfl)
theorem dX5_draws_46 : decode cX5_draws 46 = .ok (.return_, 1) := dk_177 (dk_at dksX5_draws_1 22 rfl rfl)
abbrev cX5_trades : ByteArray := prog_14_method_4_code
def yX5_trades : MethodName := ⟨RX5, "trades", "(I)V"⟩
def dkwX5_trades_3 : List UInt8 := [29, 181, 0, 45, 132, 3, 1, 167, 255, 204, 132, 2, 1, 167, 255, 188, 177]
abbrev dktX5_trades_3 : List UInt8 := dkwX5_trades_3 ++ []
def dkwX5_trades_2 : List UInt8 := [21, 4, 42, 180, 0, 38, 163, 0, 6, 167, 0, 19, 42, 21, 4, 181, 0, 38, 42, 28, 181, 0, 42, 42]
abbrev dktX5_trades_2 : List UInt8 := dkwX5_trades_2 ++ dktX5_trades_3
def dkwX5_trades_1 : List UInt8 := [4, 96, 62, 29, 16, 32, 162, 0, 52, 42, 27, 29, 182, 0, 48, 42, 27, 28, 182, 0, 48, 100, 54, 4]
abbrev dktX5_trades_1 : List UInt8 := dkwX5_trades_1 ++ dktX5_trades_2
def dkwX5_trades_0 : List UInt8 := [42, 3, 181, 0, 38, 42, 2, 181, 0, 42, 42, 2, 181, 0, 45, 3, 61, 28, 16, 32, 162, 0, 68, 28]
abbrev dktX5_trades_0 : List UInt8 := dkwX5_trades_0 ++ dktX5_trades_1
theorem dksX5_trades_0 : cX5_trades.data.toList.drop 0 = dktX5_trades_0 := by decide +kernel
theorem dksX5_trades_1 : cX5_trades.data.toList.drop 24 = dktX5_trades_1 := dk_seg dksX5_trades_0 24 rfl rfl
theorem dksX5_trades_2 : cX5_trades.data.toList.drop 48 = dktX5_trades_2 := dk_seg dksX5_trades_1 24 rfl rfl
theorem dksX5_trades_3 : cX5_trades.data.toList.drop 72 = dktX5_trades_3 := dk_seg dksX5_trades_2 24 rfl rfl
theorem dX5_trades_0 : decode cX5_trades 0 = .ok (.aload_n 0, 1) := dk_42 (dk_at dksX5_trades_0 0 rfl rfl)
theorem dX5_trades_1 : decode cX5_trades 1 = .ok (.iconst 0, 1) := dk_3 (dk_at dksX5_trades_0 1 rfl rfl)
theorem dX5_trades_2 : decode cX5_trades 2 = .ok (.putfield 38, 3) := dk_181 0 38 (dk_at dksX5_trades_0 2 rfl rfl)
theorem dX5_trades_5 : decode cX5_trades 5 = .ok (.aload_n 0, 1) := dk_42 (dk_at dksX5_trades_0 5 rfl rfl)
theorem dX5_trades_6 : decode cX5_trades 6 = .ok (.iconst (-1), 1) := dk_2 (dk_at dksX5_trades_0 6 rfl rfl)
theorem dX5_trades_7 : decode cX5_trades 7 = .ok (.putfield 42, 3) := dk_181 0 42 (dk_at dksX5_trades_0 7 rfl rfl)
theorem dX5_trades_10 : decode cX5_trades 10 = .ok (.aload_n 0, 1) := dk_42 (dk_at dksX5_trades_0 10 rfl rfl)
theorem dX5_trades_11 : decode cX5_trades 11 = .ok (.iconst (-1), 1) := dk_2 (dk_at dksX5_trades_0 11 rfl rfl)
theorem dX5_trades_12 : decode cX5_trades 12 = .ok (.putfield 45, 3) := dk_181 0 45 (dk_at dksX5_trades_0 12 rfl rfl)
theorem dX5_trades_15 : decode cX5_trades 15 = .ok (.iconst 0, 1) := dk_3 (dk_at dksX5_trades_0 15 rfl rfl)
theorem dX5_trades_16 : decode cX5_trades 16 = .ok (.istore_n 2, 1) := dk_61 (dk_at dksX5_trades_0 16 rfl rfl)
theorem dX5_trades_17 : decode cX5_trades 17 = .ok (.iload_n 2, 1) := dk_28 (dk_at dksX5_trades_0 17 rfl rfl)
theorem dX5_trades_18 : decode cX5_trades 18 = .ok (.bipush 32, 2) := dk_16 32 (dk_at dksX5_trades_0 18 rfl rfl)
theorem dX5_trades_20 : decode cX5_trades 20 = .ok (.if_icmp .ge 68, 3) := dk_162 0 68 (dk_at dksX5_trades_0 20 rfl rfl)
theorem dX5_trades_23 : decode cX5_trades 23 = .ok (.iload_n 2, 1) := dk_28 (dk_at dksX5_trades_0 23 rfl rfl)
theorem dX5_trades_24 : decode cX5_trades 24 = .ok (.iconst 1, 1) := dk_4 (dk_at dksX5_trades_1 0 rfl rfl)
theorem dX5_trades_25 : decode cX5_trades 25 = .ok (.iadd, 1) := dk_96 (dk_at dksX5_trades_1 1 rfl rfl)
theorem dX5_trades_26 : decode cX5_trades 26 = .ok (.istore_n 3, 1) := dk_62 (dk_at dksX5_trades_1 2 rfl rfl)
theorem dX5_trades_27 : decode cX5_trades 27 = .ok (.iload_n 3, 1) := dk_29 (dk_at dksX5_trades_1 3 rfl rfl)
theorem dX5_trades_28 : decode cX5_trades 28 = .ok (.bipush 32, 2) := dk_16 32 (dk_at dksX5_trades_1 4 rfl rfl)
theorem dX5_trades_30 : decode cX5_trades 30 = .ok (.if_icmp .ge 52, 3) := dk_162 0 52 (dk_at dksX5_trades_1 6 rfl rfl)
theorem dX5_trades_33 : decode cX5_trades 33 = .ok (.aload_n 0, 1) := dk_42 (dk_at dksX5_trades_1 9 rfl rfl)
theorem dX5_trades_34 : decode cX5_trades 34 = .ok (.iload_n 1, 1) := dk_27 (dk_at dksX5_trades_1 10 rfl rfl)
theorem dX5_trades_35 : decode cX5_trades 35 = .ok (.iload_n 3, 1) := dk_29 (dk_at dksX5_trades_1 11 rfl rfl)
theorem dX5_trades_36 : decode cX5_trades 36 = .ok (.invokevirtual 48, 3) := dk_182 0 48 (dk_at dksX5_trades_1 12 rfl rfl)
theorem dX5_trades_39 : decode cX5_trades 39 = .ok (.aload_n 0, 1) := dk_42 (dk_at dksX5_trades_1 15 rfl rfl)
theorem dX5_trades_40 : decode cX5_trades 40 = .ok (.iload_n 1, 1) := dk_27 (dk_at dksX5_trades_1 16 rfl rfl)
theorem dX5_trades_41 : decode cX5_trades 41 = .ok (.iload_n 2, 1) := dk_28 (dk_at dksX5_trades_1 17 rfl rfl)
theorem dX5_trades_42 : decode cX5_trades 42 = .ok (.invokevirtual 48, 3) := dk_182 0 48 (dk_at dksX5_trades_1 18 rfl rfl)
theorem dX5_trades_45 : decode cX5_trades 45 = .ok (.isub, 1) := dk_100 (dk_at dksX5_trades_1 21 rfl rfl)
theorem dX5_trades_46 : decode cX5_trades 46 = .ok (.istore 4, 2) := dk_54 4 (dk_at dksX5_trades_1 22 rfl rfl)
theorem dX5_trades_48 : decode cX5_trades 48 = .ok (.iload 4, 2) := dk_21 4 (dk_at dksX5_trades_2 0 rfl rfl)
theorem dX5_trades_50 : decode cX5_trades 50 = .ok (.aload_n 0, 1) := dk_42 (dk_at dksX5_trades_2 2 rfl rfl)
theorem dX5_trades_51 : decode cX5_trades 51 = .ok (.getfield 38, 3) := dk_180 0 38 (dk_at dksX5_trades_2 3 rfl rfl)
theorem dX5_trades_54 : decode cX5_trades 54 = .ok (.if_icmp .gt 6, 3) := dk_163 0 6 (dk_at dksX5_trades_2 6 rfl rfl)
theorem dX5_trades_57 : decode cX5_trades 57 = .ok (.goto 19, 3) := dk_167 0 19 (dk_at dksX5_trades_2 9 rfl rfl)
theorem dX5_trades_60 : decode cX5_trades 60 = .ok (.aload_n 0, 1) := dk_42 (dk_at dksX5_trades_2 12 rfl rfl)
theorem dX5_trades_61 : decode cX5_trades 61 = .ok (.iload 4, 2) := dk_21 4 (dk_at dksX5_trades_2 13 rfl rfl)
theorem dX5_trades_63 : decode cX5_trades 63 = .ok (.putfield 38, 3) := dk_181 0 38 (dk_at dksX5_trades_2 15 rfl rfl)
theorem dX5_trades_66 : decode cX5_trades 66 = .ok (.aload_n 0, 1) := dk_42 (dk_at dksX5_trades_2 18 rfl rfl)
theorem dX5_trades_67 : decode cX5_trades 67 = .ok (.iload_n 2, 1) := dk_28 (dk_at dksX5_trades_2 19 rfl rfl)
theorem dX5_trades_68 : decode cX5_trades 68 = .ok (.putfield 42, 3) := dk_181 0 42 (dk_at dksX5_trades_2 20 rfl rfl)
theorem dX5_trades_71 : decode cX5_trades 71 = .ok (.aload_n 0, 1) := dk_42 (dk_at dksX5_trades_2 23 rfl rfl)
theorem dX5_trades_72 : decode cX5_trades 72 = .ok (.iload_n 3, 1) := dk_29 (dk_at dksX5_trades_3 0 rfl rfl)
theorem dX5_trades_73 : decode cX5_trades 73 = .ok (.putfield 45, 3) := dk_181 0 45 (dk_at dksX5_trades_3 1 rfl rfl)
theorem dX5_trades_76 : decode cX5_trades 76 = .ok (.iinc 3 1, 3) := dk_132 3 1 (dk_at dksX5_trades_3 4 rfl rfl)
theorem dX5_trades_79 : decode cX5_trades 79 = .ok (.goto (-52), 3) := dk_167 255 204 (dk_at dksX5_trades_3 7 rfl rfl)
theorem dX5_trades_82 : decode cX5_trades 82 = .ok (.iinc 2 1, 3) := dk_132 2 1 (dk_at dksX5_trades_3 10 rfl rfl)
theorem dX5_trades_85 : decode cX5_trades 85 = .ok (.goto (-68), 3) := dk_167 255 188 (dk_at dksX5_trades_3 13 rfl rfl)
theorem dX5_trades_88 : decode cX5_trades 88 = .ok (.return_, 1) := dk_177 (dk_at dksX5_trades_3 16 rfl rfl)
abbrev cX5_feet : ByteArray := prog_14_method_2_code
def yX5_feet : MethodName := ⟨RX5, "feet", "(II)I"⟩
def dkwX5_feet_1 : List UInt8 := [42, 180, 0, 15, 28, 46, 96, 46, 108, 172]
abbrev dktX5_feet_1 : List UInt8 := dkwX5_feet_1 ++ []
def dkwX5_feet_0 : List UInt8 := [42, 180, 0, 3, 180, 0, 19, 180, 0, 23, 27, 46, 42, 180, 0, 3, 180, 0, 19, 180, 0, 23, 16, 12]
abbrev dktX5_feet_0 : List UInt8 := dkwX5_feet_0 ++ dktX5_feet_1
theorem dksX5_feet_0 : cX5_feet.data.toList.drop 0 = dktX5_feet_0 := by decide +kernel
theorem dksX5_feet_1 : cX5_feet.data.toList.drop 24 = dktX5_feet_1 := dk_seg dksX5_feet_0 24 rfl rfl
theorem dX5_feet_0 : decode cX5_feet 0 = .ok (.aload_n 0, 1) := dk_42 (dk_at dksX5_feet_0 0 rfl rfl)
theorem dX5_feet_1 : decode cX5_feet 1 = .ok (.getfield 3, 3) := dk_180 0 3 (dk_at dksX5_feet_0 1 rfl rfl)
theorem dX5_feet_4 : decode cX5_feet 4 = .ok (.getfield 19, 3) := dk_180 0 19 (dk_at dksX5_feet_0 4 rfl rfl)
theorem dX5_feet_7 : decode cX5_feet 7 = .ok (.getfield 23, 3) := dk_180 0 23 (dk_at dksX5_feet_0 7 rfl rfl)
theorem dX5_feet_10 : decode cX5_feet 10 = .ok (.iload_n 1, 1) := dk_27 (dk_at dksX5_feet_0 10 rfl rfl)
theorem dX5_feet_11 : decode cX5_feet 11 = .ok (.iaload, 1) := dk_46 (dk_at dksX5_feet_0 11 rfl rfl)
theorem dX5_feet_12 : decode cX5_feet 12 = .ok (.aload_n 0, 1) := dk_42 (dk_at dksX5_feet_0 12 rfl rfl)
theorem dX5_feet_13 : decode cX5_feet 13 = .ok (.getfield 3, 3) := dk_180 0 3 (dk_at dksX5_feet_0 13 rfl rfl)
theorem dX5_feet_16 : decode cX5_feet 16 = .ok (.getfield 19, 3) := dk_180 0 19 (dk_at dksX5_feet_0 16 rfl rfl)
theorem dX5_feet_19 : decode cX5_feet 19 = .ok (.getfield 23, 3) := dk_180 0 23 (dk_at dksX5_feet_0 19 rfl rfl)
theorem dX5_feet_22 : decode cX5_feet 22 = .ok (.bipush 12, 2) := dk_16 12 (dk_at dksX5_feet_0 22 rfl rfl)
theorem dX5_feet_24 : decode cX5_feet 24 = .ok (.aload_n 0, 1) := dk_42 (dk_at dksX5_feet_1 0 rfl rfl)
theorem dX5_feet_25 : decode cX5_feet 25 = .ok (.getfield 15, 3) := dk_180 0 15 (dk_at dksX5_feet_1 1 rfl rfl)
theorem dX5_feet_28 : decode cX5_feet 28 = .ok (.iload_n 2, 1) := dk_28 (dk_at dksX5_feet_1 4 rfl rfl)
theorem dX5_feet_29 : decode cX5_feet 29 = .ok (.iaload, 1) := dk_46 (dk_at dksX5_feet_1 5 rfl rfl)
theorem dX5_feet_30 : decode cX5_feet 30 = .ok (.iadd, 1) := dk_96 (dk_at dksX5_feet_1 6 rfl rfl)
theorem dX5_feet_31 : decode cX5_feet 31 = .ok (.iaload, 1) := dk_46 (dk_at dksX5_feet_1 7 rfl rfl)
theorem dX5_feet_32 : decode cX5_feet 32 = .ok (.idiv, 1) := dk_108 (dk_at dksX5_feet_1 8 rfl rfl)
theorem dX5_feet_33 : decode cX5_feet 33 = .ok (.ireturn, 1) := dk_172 (dk_at dksX5_feet_1 9 rfl rfl)
theorem q112 : (Jvm.Cond.initialized "WeekFoot$Year") ∈ lw_all := lw_g (lw_at lw_m1 9 rfl) rfl
theorem q198 : (Jvm.Cond.fieldLinkNest "WeekFoot$Year" (23 : Nat) "WeekFoot$State" "world" "[I" "WeekFoot") ∈ lw_tbl := lw_at lw_m1 95 rfl
theorem q270 : (Jvm.Cond.selects "WeekFoot$Year" ({ cls := "java/lang/Object", name := "getClass", desc := "()Ljava/lang/Class;" } : Jvm.MethodName) ({ cls := "java/lang/Object", name := "getClass", desc := "()Ljava/lang/Class;" } : Jvm.MethodName)) ∈ lw_all := lw_g (lw_at lw_m1 167 rfl) rfl
theorem q845 : (Jvm.Cond.instantiable "WeekFoot$Year" (6 : Nat)) ∈ lw_all := lw_g (lw_at lw_m4 22 rfl) rfl
theorem q847 : (Jvm.Cond.instanceMethod ({ cls := "WeekFoot$Year", name := "<init>", desc := "(LWeekFoot;)V" } : Jvm.MethodName)) ∈ lw_all := lw_g (lw_at lw_m4 24 rfl) rfl
theorem q848 : (Jvm.Cond.code ({ cls := "WeekFoot$Year", name := "<init>", desc := "(LWeekFoot;)V" } : Jvm.MethodName) prog_14_method_1_code (2 : Nat) (Option.none : Option Jvm.ClassFile.FieldType)) ∈ lw_all := lw_g (lw_at lw_m4 25 rfl) rfl
theorem q849 : (Jvm.Cond.methodLink "WeekFoot$Year" (9 : Nat) ({ cls := "java/lang/Object", name := "<init>", desc := "()V" } : Jvm.MethodName)) ∈ lw_all := lw_g (lw_at lw_m4 26 rfl) rfl
theorem q850 : (Jvm.Cond.fieldLink "WeekFoot$Year" (15 : Nat) "WeekFoot$Year" "keepers" "[I") ∈ lw_all := lw_g (lw_at lw_m4 27 rfl) rfl
theorem q852 : (Jvm.Cond.fieldLink "WeekFoot$Year" (42 : Nat) "WeekFoot$Year" "buys" "I") ∈ lw_all := lw_g (lw_at lw_m4 29 rfl) rfl
theorem q854 : (Jvm.Cond.fieldLink "WeekFoot$Year" (45 : Nat) "WeekFoot$Year" "sells" "I") ∈ lw_all := lw_g (lw_at lw_m4 31 rfl) rfl
theorem q856 : (Jvm.Cond.fieldLink "WeekFoot$Year" (38 : Nat) "WeekFoot$Year" "gain" "I") ∈ lw_all := lw_g (lw_at lw_m4 33 rfl) rfl
theorem q858 : (Jvm.Cond.fieldLink "WeekFoot$Year" (34 : Nat) "WeekFoot$Year" "isThere" "Z") ∈ lw_all := lw_g (lw_at lw_m4 35 rfl) rfl
theorem q860 : (Jvm.Cond.fieldLink "WeekFoot$Year" (3 : Nat) "WeekFoot$Year" "this$0" "LWeekFoot;") ∈ lw_all := lw_g (lw_at lw_m4 37 rfl) rfl
theorem q861 : (Jvm.Cond.laysFinal "WeekFoot$Year" "WeekFoot$Year" "keepers" "[I") ∈ lw_all := lw_g (lw_at lw_m4 38 rfl) rfl
theorem q862 : (Jvm.Cond.soleField "WeekFoot$Year" "keepers") ∈ lw_all := lw_g (lw_at lw_m4 39 rfl) rfl
theorem q863 : (Jvm.Cond.lays "WeekFoot$Year" "WeekFoot$Year" "buys" "I") ∈ lw_all := lw_g (lw_at lw_m4 40 rfl) rfl
theorem q864 : (Jvm.Cond.soleField "WeekFoot$Year" "buys") ∈ lw_all := lw_g (lw_at lw_m4 41 rfl) rfl
theorem q865 : (Jvm.Cond.lays "WeekFoot$Year" "WeekFoot$Year" "sells" "I") ∈ lw_all := lw_g (lw_at lw_m4 42 rfl) rfl
theorem q866 : (Jvm.Cond.soleField "WeekFoot$Year" "sells") ∈ lw_all := lw_g (lw_at lw_m4 43 rfl) rfl
theorem q867 : (Jvm.Cond.lays "WeekFoot$Year" "WeekFoot$Year" "gain" "I") ∈ lw_all := lw_g (lw_at lw_m4 44 rfl) rfl
theorem q868 : (Jvm.Cond.soleField "WeekFoot$Year" "gain") ∈ lw_all := lw_g (lw_at lw_m4 45 rfl) rfl
theorem q869 : (Jvm.Cond.lays "WeekFoot$Year" "WeekFoot$Year" "isThere" "Z") ∈ lw_all := lw_g (lw_at lw_m4 46 rfl) rfl
theorem q870 : (Jvm.Cond.soleField "WeekFoot$Year" "isThere") ∈ lw_all := lw_g (lw_at lw_m4 47 rfl) rfl
theorem q871 : (Jvm.Cond.laysFinal "WeekFoot$Year" "WeekFoot$Year" "this$0" "LWeekFoot;") ∈ lw_all := lw_g (lw_at lw_m4 48 rfl) rfl
theorem q872 : (Jvm.Cond.soleField "WeekFoot$Year" "this$0") ∈ lw_all := lw_g (lw_at lw_m4 49 rfl) rfl
theorem q873 : (Jvm.Cond.superclass "WeekFoot$Year" "java/lang/Object") ∈ lw_all := lw_g (lw_at lw_m4 50 rfl) rfl
theorem q880 : (Jvm.Cond.fieldLinkNest "WeekFoot$Year" (19 : Nat) "WeekFoot" "state" "LWeekFoot$State;" "WeekFoot") ∈ lw_tbl := lw_at lw_m4 57 rfl
theorem q1257 : (Jvm.Cond.instanceMethod ({ cls := "WeekFoot$Year", name := "draws", desc := "(I)V" } : Jvm.MethodName)) ∈ lw_all := lw_g (lw_at lw_m5 194 rfl) rfl
theorem q1258 : (Jvm.Cond.selects "WeekFoot$Year" ({ cls := "WeekFoot$Year", name := "draws", desc := "(I)V" } : Jvm.MethodName) ({ cls := "WeekFoot$Year", name := "draws", desc := "(I)V" } : Jvm.MethodName)) ∈ lw_all := lw_g (lw_at lw_m5 195 rfl) rfl
theorem q1259 : (Jvm.Cond.code ({ cls := "WeekFoot$Year", name := "draws", desc := "(I)V" } : Jvm.MethodName) prog_14_method_3_code (4 : Nat) (Option.none : Option Jvm.ClassFile.FieldType)) ∈ lw_all := lw_g (lw_at lw_m5 196 rfl) rfl
theorem q1260 : (Jvm.Cond.constantLong "WeekFoot$Year" (28 : Nat) (1103 : Int64)) ∈ lw_all := lw_g (lw_at lw_m5 197 rfl) rfl
theorem q1261 : (Jvm.Cond.constantLong "WeekFoot$Year" (30 : Nat) (12345 : Int64)) ∈ lw_all := lw_g (lw_at lw_m5 198 rfl) rfl
theorem q1262 : (Jvm.Cond.constantLong "WeekFoot$Year" (32 : Nat) (1000003 : Int64)) ∈ lw_all := lw_g (lw_at lw_m5 199 rfl) rfl
theorem q1264 : (Jvm.Cond.instanceMethod ({ cls := "WeekFoot$Year", name := "trades", desc := "(I)V" } : Jvm.MethodName)) ∈ lw_all := lw_g (lw_at lw_m5 201 rfl) rfl
theorem q1265 : (Jvm.Cond.selects "WeekFoot$Year" ({ cls := "WeekFoot$Year", name := "trades", desc := "(I)V" } : Jvm.MethodName) ({ cls := "WeekFoot$Year", name := "trades", desc := "(I)V" } : Jvm.MethodName)) ∈ lw_all := lw_g (lw_at lw_m5 202 rfl) rfl
theorem q1266 : (Jvm.Cond.code ({ cls := "WeekFoot$Year", name := "trades", desc := "(I)V" } : Jvm.MethodName) prog_14_method_4_code (5 : Nat) (Option.none : Option Jvm.ClassFile.FieldType)) ∈ lw_all := lw_g (lw_at lw_m5 203 rfl) rfl
theorem q1267 : (Jvm.Cond.methodLink "WeekFoot$Year" (48 : Nat) ({ cls := "WeekFoot$Year", name := "feet", desc := "(II)I" } : Jvm.MethodName)) ∈ lw_all := lw_g (lw_at lw_m5 204 rfl) rfl
theorem q1268 : (Jvm.Cond.instanceMethod ({ cls := "WeekFoot$Year", name := "feet", desc := "(II)I" } : Jvm.MethodName)) ∈ lw_all := lw_g (lw_at lw_m5 205 rfl) rfl
theorem q1269 : (Jvm.Cond.selects "WeekFoot$Year" ({ cls := "WeekFoot$Year", name := "feet", desc := "(II)I" } : Jvm.MethodName) ({ cls := "WeekFoot$Year", name := "feet", desc := "(II)I" } : Jvm.MethodName)) ∈ lw_all := lw_g (lw_at lw_m5 206 rfl) rfl
theorem q1270 : (Jvm.Cond.code ({ cls := "WeekFoot$Year", name := "feet", desc := "(II)I" } : Jvm.MethodName) prog_14_method_2_code (3 : Nat) (Option.some Jvm.ClassFile.FieldType.int)) ∈ lw_all := lw_g (lw_at lw_m5 207 rfl) rfl
theorem q1979 : (Jvm.Cond.castable "WeekFoot$Year" "java/lang/Object") ∈ lw_tbl := lw_at lw_m8 196 rfl
theorem in_X5 : ∀ w ∈ wsX50, w ∈ lw_all := lw_in wsX50 [861, 863, 865, 867, 869, 871] (by decide +kernel) (by decide +kernel)
/-! WeekFoot$Entry -/
set_option maxRecDepth 100000
def RX6 : String := "WeekFoot$Entry"
def TX6 : u_T := fun k => match k with
  | 0 => ("WeekFoot$Entry", "thing", "I", true)
  | 1 => ("WeekFoot$Entry", "week", "I", true)
  | 2 => ("WeekFoot$Entry", "number", "I", true)
  | _ => ("WeekFoot$Entry", "kind", "I", true)
def tyX6 : Nat → FieldType := fun k => match k with
  | 0 => .int
  | 1 => .int
  | 2 => .int
  | _ => .int
abbrev wsX60 : List Cond := u_ws RX6 TX6 4
theorem nmX6 : ∀ a, a < 4 → ∀ b, b < 4 → a ≠ b → (TX6 a).2.1 ≠ (TX6 b).2.1 := by decide +kernel
theorem tyX6_ok : ∀ k, k < 4 → parseFieldDescriptor (TX6 k).2.2.1 = some (tyX6 k) := by decide +kernel
abbrev cX6_init : ByteArray := prog_7_method_1_code
def yX6_init : MethodName := ⟨RX6, "<init>", "(IIII)V"⟩
def dkwX6_init_1 : List UInt8 := [181, 0, 21, 177]
abbrev dktX6_init_1 : List UInt8 := dkwX6_init_1 ++ []
def dkwX6_init_0 : List UInt8 := [42, 183, 0, 3, 42, 27, 181, 0, 9, 42, 28, 181, 0, 15, 42, 29, 181, 0, 18, 42, 21, 4]
abbrev dktX6_init_0 : List UInt8 := dkwX6_init_0 ++ dktX6_init_1
theorem dksX6_init_0 : cX6_init.data.toList.drop 0 = dktX6_init_0 := by decide +kernel
theorem dksX6_init_1 : cX6_init.data.toList.drop 22 = dktX6_init_1 := dk_seg dksX6_init_0 22 rfl rfl
theorem dX6_init_0 : decode cX6_init 0 = .ok (.aload_n 0, 1) := dk_42 (dk_at dksX6_init_0 0 rfl rfl)
theorem dX6_init_1 : decode cX6_init 1 = .ok (.invokespecial 3, 3) := dk_183 0 3 (dk_at dksX6_init_0 1 rfl rfl)
theorem dX6_init_4 : decode cX6_init 4 = .ok (.aload_n 0, 1) := dk_42 (dk_at dksX6_init_0 4 rfl rfl)
theorem dX6_init_5 : decode cX6_init 5 = .ok (.iload_n 1, 1) := dk_27 (dk_at dksX6_init_0 5 rfl rfl)
theorem dX6_init_6 : decode cX6_init 6 = .ok (.putfield 9, 3) := dk_181 0 9 (dk_at dksX6_init_0 6 rfl rfl)
theorem dX6_init_9 : decode cX6_init 9 = .ok (.aload_n 0, 1) := dk_42 (dk_at dksX6_init_0 9 rfl rfl)
theorem dX6_init_10 : decode cX6_init 10 = .ok (.iload_n 2, 1) := dk_28 (dk_at dksX6_init_0 10 rfl rfl)
theorem dX6_init_11 : decode cX6_init 11 = .ok (.putfield 15, 3) := dk_181 0 15 (dk_at dksX6_init_0 11 rfl rfl)
theorem dX6_init_14 : decode cX6_init 14 = .ok (.aload_n 0, 1) := dk_42 (dk_at dksX6_init_0 14 rfl rfl)
theorem dX6_init_15 : decode cX6_init 15 = .ok (.iload_n 3, 1) := dk_29 (dk_at dksX6_init_0 15 rfl rfl)
theorem dX6_init_16 : decode cX6_init 16 = .ok (.putfield 18, 3) := dk_181 0 18 (dk_at dksX6_init_0 16 rfl rfl)
theorem dX6_init_19 : decode cX6_init 19 = .ok (.aload_n 0, 1) := dk_42 (dk_at dksX6_init_0 19 rfl rfl)
theorem dX6_init_20 : decode cX6_init 20 = .ok (.iload 4, 2) := dk_21 4 (dk_at dksX6_init_0 20 rfl rfl)
theorem dX6_init_22 : decode cX6_init 22 = .ok (.putfield 21, 3) := dk_181 0 21 (dk_at dksX6_init_1 0 rfl rfl)
theorem dX6_init_25 : decode cX6_init 25 = .ok (.return_, 1) := dk_177 (dk_at dksX6_init_1 3 rfl rfl)
abbrev cX6_low : ByteArray := prog_7_method_2_code
def yX6_low : MethodName := ⟨RX6, "low", "()I"⟩
def dkwX6_low_1 : List UInt8 := [104, 172]
abbrev dktX6_low_1 : List UInt8 := dkwX6_low_1 ++ []
def dkwX6_low_0 : List UInt8 := [42, 180, 0, 21, 5, 160, 0, 14, 5, 42, 180, 0, 18, 104, 4, 100, 167, 0, 9, 5, 42, 180, 0, 18]
abbrev dktX6_low_0 : List UInt8 := dkwX6_low_0 ++ dktX6_low_1
theorem dksX6_low_0 : cX6_low.data.toList.drop 0 = dktX6_low_0 := by decide +kernel
theorem dksX6_low_1 : cX6_low.data.toList.drop 24 = dktX6_low_1 := dk_seg dksX6_low_0 24 rfl rfl
theorem dX6_low_0 : decode cX6_low 0 = .ok (.aload_n 0, 1) := dk_42 (dk_at dksX6_low_0 0 rfl rfl)
theorem dX6_low_1 : decode cX6_low 1 = .ok (.getfield 21, 3) := dk_180 0 21 (dk_at dksX6_low_0 1 rfl rfl)
theorem dX6_low_4 : decode cX6_low 4 = .ok (.iconst 2, 1) := dk_5 (dk_at dksX6_low_0 4 rfl rfl)
theorem dX6_low_5 : decode cX6_low 5 = .ok (.if_icmp .ne 14, 3) := dk_160 0 14 (dk_at dksX6_low_0 5 rfl rfl)
theorem dX6_low_8 : decode cX6_low 8 = .ok (.iconst 2, 1) := dk_5 (dk_at dksX6_low_0 8 rfl rfl)
theorem dX6_low_9 : decode cX6_low 9 = .ok (.aload_n 0, 1) := dk_42 (dk_at dksX6_low_0 9 rfl rfl)
theorem dX6_low_10 : decode cX6_low 10 = .ok (.getfield 18, 3) := dk_180 0 18 (dk_at dksX6_low_0 10 rfl rfl)
theorem dX6_low_13 : decode cX6_low 13 = .ok (.imul, 1) := dk_104 (dk_at dksX6_low_0 13 rfl rfl)
theorem dX6_low_14 : decode cX6_low 14 = .ok (.iconst 1, 1) := dk_4 (dk_at dksX6_low_0 14 rfl rfl)
theorem dX6_low_15 : decode cX6_low 15 = .ok (.isub, 1) := dk_100 (dk_at dksX6_low_0 15 rfl rfl)
theorem dX6_low_16 : decode cX6_low 16 = .ok (.goto 9, 3) := dk_167 0 9 (dk_at dksX6_low_0 16 rfl rfl)
theorem dX6_low_19 : decode cX6_low 19 = .ok (.iconst 2, 1) := dk_5 (dk_at dksX6_low_0 19 rfl rfl)
theorem dX6_low_20 : decode cX6_low 20 = .ok (.aload_n 0, 1) := dk_42 (dk_at dksX6_low_0 20 rfl rfl)
theorem dX6_low_21 : decode cX6_low 21 = .ok (.getfield 18, 3) := dk_180 0 18 (dk_at dksX6_low_0 21 rfl rfl)
theorem dX6_low_24 : decode cX6_low 24 = .ok (.imul, 1) := dk_104 (dk_at dksX6_low_1 0 rfl rfl)
theorem dX6_low_25 : decode cX6_low 25 = .ok (.ireturn, 1) := dk_172 (dk_at dksX6_low_1 1 rfl rfl)
abbrev cX6_high : ByteArray := prog_7_method_3_code
def yX6_high : MethodName := ⟨RX6, "high", "()I"⟩
def dkwX6_high_1 : List UInt8 := [160, 0, 14, 5, 42, 180, 0, 18, 104, 5, 96, 167, 0, 9, 5, 42, 180, 0, 18, 104, 172]
abbrev dktX6_high_1 : List UInt8 := dkwX6_high_1 ++ []
def dkwX6_high_0 : List UInt8 := [42, 180, 0, 21, 5, 160, 0, 14, 5, 42, 180, 0, 18, 104, 4, 96, 167, 0, 28, 42, 180, 0, 21, 4]
abbrev dktX6_high_0 : List UInt8 := dkwX6_high_0 ++ dktX6_high_1
theorem dksX6_high_0 : cX6_high.data.toList.drop 0 = dktX6_high_0 := by decide +kernel
theorem dksX6_high_1 : cX6_high.data.toList.drop 24 = dktX6_high_1 := dk_seg dksX6_high_0 24 rfl rfl
theorem dX6_high_0 : decode cX6_high 0 = .ok (.aload_n 0, 1) := dk_42 (dk_at dksX6_high_0 0 rfl rfl)
theorem dX6_high_1 : decode cX6_high 1 = .ok (.getfield 21, 3) := dk_180 0 21 (dk_at dksX6_high_0 1 rfl rfl)
theorem dX6_high_4 : decode cX6_high 4 = .ok (.iconst 2, 1) := dk_5 (dk_at dksX6_high_0 4 rfl rfl)
theorem dX6_high_5 : decode cX6_high 5 = .ok (.if_icmp .ne 14, 3) := dk_160 0 14 (dk_at dksX6_high_0 5 rfl rfl)
theorem dX6_high_8 : decode cX6_high 8 = .ok (.iconst 2, 1) := dk_5 (dk_at dksX6_high_0 8 rfl rfl)
theorem dX6_high_9 : decode cX6_high 9 = .ok (.aload_n 0, 1) := dk_42 (dk_at dksX6_high_0 9 rfl rfl)
theorem dX6_high_10 : decode cX6_high 10 = .ok (.getfield 18, 3) := dk_180 0 18 (dk_at dksX6_high_0 10 rfl rfl)
theorem dX6_high_13 : decode cX6_high 13 = .ok (.imul, 1) := dk_104 (dk_at dksX6_high_0 13 rfl rfl)
theorem dX6_high_14 : decode cX6_high 14 = .ok (.iconst 1, 1) := dk_4 (dk_at dksX6_high_0 14 rfl rfl)
theorem dX6_high_15 : decode cX6_high 15 = .ok (.iadd, 1) := dk_96 (dk_at dksX6_high_0 15 rfl rfl)
theorem dX6_high_16 : decode cX6_high 16 = .ok (.goto 28, 3) := dk_167 0 28 (dk_at dksX6_high_0 16 rfl rfl)
theorem dX6_high_19 : decode cX6_high 19 = .ok (.aload_n 0, 1) := dk_42 (dk_at dksX6_high_0 19 rfl rfl)
theorem dX6_high_20 : decode cX6_high 20 = .ok (.getfield 21, 3) := dk_180 0 21 (dk_at dksX6_high_0 20 rfl rfl)
theorem dX6_high_23 : decode cX6_high 23 = .ok (.iconst 1, 1) := dk_4 (dk_at dksX6_high_0 23 rfl rfl)
theorem dX6_high_24 : decode cX6_high 24 = .ok (.if_icmp .ne 14, 3) := dk_160 0 14 (dk_at dksX6_high_1 0 rfl rfl)
theorem dX6_high_27 : decode cX6_high 27 = .ok (.iconst 2, 1) := dk_5 (dk_at dksX6_high_1 3 rfl rfl)
theorem dX6_high_28 : decode cX6_high 28 = .ok (.aload_n 0, 1) := dk_42 (dk_at dksX6_high_1 4 rfl rfl)
theorem dX6_high_29 : decode cX6_high 29 = .ok (.getfield 18, 3) := dk_180 0 18 (dk_at dksX6_high_1 5 rfl rfl)
theorem dX6_high_32 : decode cX6_high 32 = .ok (.imul, 1) := dk_104 (dk_at dksX6_high_1 8 rfl rfl)
theorem dX6_high_33 : decode cX6_high 33 = .ok (.iconst 2, 1) := dk_5 (dk_at dksX6_high_1 9 rfl rfl)
theorem dX6_high_34 : decode cX6_high 34 = .ok (.iadd, 1) := dk_96 (dk_at dksX6_high_1 10 rfl rfl)
theorem dX6_high_35 : decode cX6_high 35 = .ok (.goto 9, 3) := dk_167 0 9 (dk_at dksX6_high_1 11 rfl rfl)
theorem dX6_high_38 : decode cX6_high 38 = .ok (.iconst 2, 1) := dk_5 (dk_at dksX6_high_1 14 rfl rfl)
theorem dX6_high_39 : decode cX6_high 39 = .ok (.aload_n 0, 1) := dk_42 (dk_at dksX6_high_1 15 rfl rfl)
theorem dX6_high_40 : decode cX6_high 40 = .ok (.getfield 18, 3) := dk_180 0 18 (dk_at dksX6_high_1 16 rfl rfl)
theorem dX6_high_43 : decode cX6_high 43 = .ok (.imul, 1) := dk_104 (dk_at dksX6_high_1 19 rfl rfl)
theorem dX6_high_44 : decode cX6_high 44 = .ok (.ireturn, 1) := dk_172 (dk_at dksX6_high_1 20 rfl rfl)
abbrev cX6_isSo : ByteArray := prog_7_method_4_code
def yX6_isSo : MethodName := ⟨RX6, "isSo", "(II)Z"⟩
def dkwX6_isSo_2 : List UInt8 := [167, 0, 4, 3, 172]
abbrev dktX6_isSo_2 : List UInt8 := dkwX6_isSo_2 ++ []
def dkwX6_isSo_1 : List UInt8 := [182, 0, 28, 28, 104, 160, 0, 20, 167, 0, 13, 29, 42, 182, 0, 28, 28, 104, 162, 0, 7, 4]
abbrev dktX6_isSo_1 : List UInt8 := dkwX6_isSo_1 ++ dktX6_isSo_2
def dkwX6_isSo_0 : List UInt8 := [5, 27, 104, 62, 29, 42, 182, 0, 24, 28, 104, 161, 0, 37, 42, 180, 0, 21, 154, 0, 16, 29, 42]
abbrev dktX6_isSo_0 : List UInt8 := dkwX6_isSo_0 ++ dktX6_isSo_1
theorem dksX6_isSo_0 : cX6_isSo.data.toList.drop 0 = dktX6_isSo_0 := by decide +kernel
theorem dksX6_isSo_1 : cX6_isSo.data.toList.drop 23 = dktX6_isSo_1 := dk_seg dksX6_isSo_0 23 rfl rfl
theorem dksX6_isSo_2 : cX6_isSo.data.toList.drop 45 = dktX6_isSo_2 := dk_seg dksX6_isSo_1 22 rfl rfl
theorem dX6_isSo_0 : decode cX6_isSo 0 = .ok (.iconst 2, 1) := dk_5 (dk_at dksX6_isSo_0 0 rfl rfl)
theorem dX6_isSo_1 : decode cX6_isSo 1 = .ok (.iload_n 1, 1) := dk_27 (dk_at dksX6_isSo_0 1 rfl rfl)
theorem dX6_isSo_2 : decode cX6_isSo 2 = .ok (.imul, 1) := dk_104 (dk_at dksX6_isSo_0 2 rfl rfl)
theorem dX6_isSo_3 : decode cX6_isSo 3 = .ok (.istore_n 3, 1) := dk_62 (dk_at dksX6_isSo_0 3 rfl rfl)
theorem dX6_isSo_4 : decode cX6_isSo 4 = .ok (.iload_n 3, 1) := dk_29 (dk_at dksX6_isSo_0 4 rfl rfl)
theorem dX6_isSo_5 : decode cX6_isSo 5 = .ok (.aload_n 0, 1) := dk_42 (dk_at dksX6_isSo_0 5 rfl rfl)
theorem dX6_isSo_6 : decode cX6_isSo 6 = .ok (.invokevirtual 24, 3) := dk_182 0 24 (dk_at dksX6_isSo_0 6 rfl rfl)
theorem dX6_isSo_9 : decode cX6_isSo 9 = .ok (.iload_n 2, 1) := dk_28 (dk_at dksX6_isSo_0 9 rfl rfl)
theorem dX6_isSo_10 : decode cX6_isSo 10 = .ok (.imul, 1) := dk_104 (dk_at dksX6_isSo_0 10 rfl rfl)
theorem dX6_isSo_11 : decode cX6_isSo 11 = .ok (.if_icmp .lt 37, 3) := dk_161 0 37 (dk_at dksX6_isSo_0 11 rfl rfl)
theorem dX6_isSo_14 : decode cX6_isSo 14 = .ok (.aload_n 0, 1) := dk_42 (dk_at dksX6_isSo_0 14 rfl rfl)
theorem dX6_isSo_15 : decode cX6_isSo 15 = .ok (.getfield 21, 3) := dk_180 0 21 (dk_at dksX6_isSo_0 15 rfl rfl)
theorem dX6_isSo_18 : decode cX6_isSo 18 = .ok (.ifCond .ne 16, 3) := dk_154 0 16 (dk_at dksX6_isSo_0 18 rfl rfl)
theorem dX6_isSo_21 : decode cX6_isSo 21 = .ok (.iload_n 3, 1) := dk_29 (dk_at dksX6_isSo_0 21 rfl rfl)
theorem dX6_isSo_22 : decode cX6_isSo 22 = .ok (.aload_n 0, 1) := dk_42 (dk_at dksX6_isSo_0 22 rfl rfl)
theorem dX6_isSo_23 : decode cX6_isSo 23 = .ok (.invokevirtual 28, 3) := dk_182 0 28 (dk_at dksX6_isSo_1 0 rfl rfl)
theorem dX6_isSo_26 : decode cX6_isSo 26 = .ok (.iload_n 2, 1) := dk_28 (dk_at dksX6_isSo_1 3 rfl rfl)
theorem dX6_isSo_27 : decode cX6_isSo 27 = .ok (.imul, 1) := dk_104 (dk_at dksX6_isSo_1 4 rfl rfl)
theorem dX6_isSo_28 : decode cX6_isSo 28 = .ok (.if_icmp .ne 20, 3) := dk_160 0 20 (dk_at dksX6_isSo_1 5 rfl rfl)
theorem dX6_isSo_31 : decode cX6_isSo 31 = .ok (.goto 13, 3) := dk_167 0 13 (dk_at dksX6_isSo_1 8 rfl rfl)
theorem dX6_isSo_34 : decode cX6_isSo 34 = .ok (.iload_n 3, 1) := dk_29 (dk_at dksX6_isSo_1 11 rfl rfl)
theorem dX6_isSo_35 : decode cX6_isSo 35 = .ok (.aload_n 0, 1) := dk_42 (dk_at dksX6_isSo_1 12 rfl rfl)
theorem dX6_isSo_36 : decode cX6_isSo 36 = .ok (.invokevirtual 28, 3) := dk_182 0 28 (dk_at dksX6_isSo_1 13 rfl rfl)
theorem dX6_isSo_39 : decode cX6_isSo 39 = .ok (.iload_n 2, 1) := dk_28 (dk_at dksX6_isSo_1 16 rfl rfl)
theorem dX6_isSo_40 : decode cX6_isSo 40 = .ok (.imul, 1) := dk_104 (dk_at dksX6_isSo_1 17 rfl rfl)
theorem dX6_isSo_41 : decode cX6_isSo 41 = .ok (.if_icmp .ge 7, 3) := dk_162 0 7 (dk_at dksX6_isSo_1 18 rfl rfl)
theorem dX6_isSo_44 : decode cX6_isSo 44 = .ok (.iconst 1, 1) := dk_4 (dk_at dksX6_isSo_1 21 rfl rfl)
theorem dX6_isSo_45 : decode cX6_isSo 45 = .ok (.goto 4, 3) := dk_167 0 4 (dk_at dksX6_isSo_2 0 rfl rfl)
theorem dX6_isSo_48 : decode cX6_isSo 48 = .ok (.iconst 0, 1) := dk_3 (dk_at dksX6_isSo_2 3 rfl rfl)
theorem dX6_isSo_49 : decode cX6_isSo 49 = .ok (.ireturn, 1) := dk_172 (dk_at dksX6_isSo_2 4 rfl rfl)
theorem q113 : (Jvm.Cond.initialized "WeekFoot$Entry") ∈ lw_all := lw_g (lw_at lw_m1 10 rfl) rfl
theorem q263 : (Jvm.Cond.selects "WeekFoot$Entry" ({ cls := "java/lang/Object", name := "getClass", desc := "()Ljava/lang/Class;" } : Jvm.MethodName) ({ cls := "java/lang/Object", name := "getClass", desc := "()Ljava/lang/Class;" } : Jvm.MethodName)) ∈ lw_all := lw_g (lw_at lw_m1 160 rfl) rfl
theorem q358 : (Jvm.Cond.instantiable "WeekFoot$Entry" (4 : Nat)) ∈ lw_all := lw_g (lw_at lw_m2 15 rfl) rfl
theorem q360 : (Jvm.Cond.instanceMethod ({ cls := "WeekFoot$Entry", name := "<init>", desc := "(IIII)V" } : Jvm.MethodName)) ∈ lw_all := lw_g (lw_at lw_m2 17 rfl) rfl
theorem q361 : (Jvm.Cond.code ({ cls := "WeekFoot$Entry", name := "<init>", desc := "(IIII)V" } : Jvm.MethodName) prog_7_method_1_code (5 : Nat) (Option.none : Option Jvm.ClassFile.FieldType)) ∈ lw_all := lw_g (lw_at lw_m2 18 rfl) rfl
theorem q362 : (Jvm.Cond.methodLink "WeekFoot$Entry" (3 : Nat) ({ cls := "java/lang/Object", name := "<init>", desc := "()V" } : Jvm.MethodName)) ∈ lw_all := lw_g (lw_at lw_m2 19 rfl) rfl
theorem q363 : (Jvm.Cond.fieldLink "WeekFoot$Entry" (9 : Nat) "WeekFoot$Entry" "thing" "I") ∈ lw_all := lw_g (lw_at lw_m2 20 rfl) rfl
theorem q367 : (Jvm.Cond.fieldLink "WeekFoot$Entry" (15 : Nat) "WeekFoot$Entry" "week" "I") ∈ lw_all := lw_g (lw_at lw_m2 24 rfl) rfl
theorem q372 : (Jvm.Cond.fieldLink "WeekFoot$Entry" (18 : Nat) "WeekFoot$Entry" "number" "I") ∈ lw_all := lw_g (lw_at lw_m2 29 rfl) rfl
theorem q374 : (Jvm.Cond.fieldLink "WeekFoot$Entry" (21 : Nat) "WeekFoot$Entry" "kind" "I") ∈ lw_all := lw_g (lw_at lw_m2 31 rfl) rfl
theorem q377 : (Jvm.Cond.laysFinal "WeekFoot$Entry" "WeekFoot$Entry" "thing" "I") ∈ lw_all := lw_g (lw_at lw_m2 34 rfl) rfl
theorem q378 : (Jvm.Cond.soleField "WeekFoot$Entry" "thing") ∈ lw_all := lw_g (lw_at lw_m2 35 rfl) rfl
theorem q379 : (Jvm.Cond.laysFinal "WeekFoot$Entry" "WeekFoot$Entry" "week" "I") ∈ lw_all := lw_g (lw_at lw_m2 36 rfl) rfl
theorem q380 : (Jvm.Cond.soleField "WeekFoot$Entry" "week") ∈ lw_all := lw_g (lw_at lw_m2 37 rfl) rfl
theorem q381 : (Jvm.Cond.laysFinal "WeekFoot$Entry" "WeekFoot$Entry" "number" "I") ∈ lw_all := lw_g (lw_at lw_m2 38 rfl) rfl
theorem q382 : (Jvm.Cond.soleField "WeekFoot$Entry" "number") ∈ lw_all := lw_g (lw_at lw_m2 39 rfl) rfl
theorem q383 : (Jvm.Cond.laysFinal "WeekFoot$Entry" "WeekFoot$Entry" "kind" "I") ∈ lw_all := lw_g (lw_at lw_m2 40 rfl) rfl
theorem q384 : (Jvm.Cond.soleField "WeekFoot$Entry" "kind") ∈ lw_all := lw_g (lw_at lw_m2 41 rfl) rfl
theorem q385 : (Jvm.Cond.superclass "WeekFoot$Entry" "java/lang/Object") ∈ lw_all := lw_g (lw_at lw_m2 42 rfl) rfl
theorem q1022 : (Jvm.Cond.instanceMethod ({ cls := "WeekFoot$Entry", name := "low", desc := "()I" } : Jvm.MethodName)) ∈ lw_all := lw_g (lw_at lw_m4 199 rfl) rfl
theorem q1023 : (Jvm.Cond.selects "WeekFoot$Entry" ({ cls := "WeekFoot$Entry", name := "low", desc := "()I" } : Jvm.MethodName) ({ cls := "WeekFoot$Entry", name := "low", desc := "()I" } : Jvm.MethodName)) ∈ lw_all := lw_g (lw_at lw_m4 200 rfl) rfl
theorem q1024 : (Jvm.Cond.code ({ cls := "WeekFoot$Entry", name := "low", desc := "()I" } : Jvm.MethodName) prog_7_method_2_code (1 : Nat) (Option.some Jvm.ClassFile.FieldType.int)) ∈ lw_all := lw_g (lw_at lw_m4 201 rfl) rfl
theorem q1026 : (Jvm.Cond.instanceMethod ({ cls := "WeekFoot$Entry", name := "high", desc := "()I" } : Jvm.MethodName)) ∈ lw_all := lw_g (lw_at lw_m4 203 rfl) rfl
theorem q1027 : (Jvm.Cond.selects "WeekFoot$Entry" ({ cls := "WeekFoot$Entry", name := "high", desc := "()I" } : Jvm.MethodName) ({ cls := "WeekFoot$Entry", name := "high", desc := "()I" } : Jvm.MethodName)) ∈ lw_all := lw_g (lw_at lw_m4 204 rfl) rfl
theorem q1028 : (Jvm.Cond.code ({ cls := "WeekFoot$Entry", name := "high", desc := "()I" } : Jvm.MethodName) prog_7_method_3_code (1 : Nat) (Option.some Jvm.ClassFile.FieldType.int)) ∈ lw_all := lw_g (lw_at lw_m4 205 rfl) rfl
theorem q1247 : (Jvm.Cond.instanceMethod ({ cls := "WeekFoot$Entry", name := "isSo", desc := "(II)Z" } : Jvm.MethodName)) ∈ lw_all := lw_g (lw_at lw_m5 184 rfl) rfl
theorem q1248 : (Jvm.Cond.selects "WeekFoot$Entry" ({ cls := "WeekFoot$Entry", name := "isSo", desc := "(II)Z" } : Jvm.MethodName) ({ cls := "WeekFoot$Entry", name := "isSo", desc := "(II)Z" } : Jvm.MethodName)) ∈ lw_all := lw_g (lw_at lw_m5 185 rfl) rfl
theorem q1249 : (Jvm.Cond.code ({ cls := "WeekFoot$Entry", name := "isSo", desc := "(II)Z" } : Jvm.MethodName) prog_7_method_4_code (4 : Nat) (Option.some Jvm.ClassFile.FieldType.boolean)) ∈ lw_all := lw_g (lw_at lw_m5 186 rfl) rfl
theorem q1250 : (Jvm.Cond.methodLink "WeekFoot$Entry" (24 : Nat) ({ cls := "WeekFoot$Entry", name := "low", desc := "()I" } : Jvm.MethodName)) ∈ lw_all := lw_g (lw_at lw_m5 187 rfl) rfl
theorem q1251 : (Jvm.Cond.methodLink "WeekFoot$Entry" (28 : Nat) ({ cls := "WeekFoot$Entry", name := "high", desc := "()I" } : Jvm.MethodName)) ∈ lw_all := lw_g (lw_at lw_m5 188 rfl) rfl
theorem q1974 : (Jvm.Cond.castable "WeekFoot$Entry" "java/lang/Object") ∈ lw_tbl := lw_at lw_m8 191 rfl
theorem in_X6 : ∀ w ∈ wsX60, w ∈ lw_all := lw_in wsX60 [377, 379, 381, 383] (by decide +kernel) (by decide +kernel)
/-! WeekFoot$Reader -/
set_option maxRecDepth 100000
def RX8 : String := "WeekFoot$Reader"
def TX8 : u_T := fun k => match k with
  | 0 => ("WeekFoot$Reader", "tape", "[B", true)
  | 1 => ("WeekFoot$Reader", "size", "I", true)
  | 2 => ("WeekFoot$Reader", "made", "Ljava/util/ArrayList;", true)
  | 3 => ("WeekFoot$Reader", "above", "[I", true)
  | 4 => ("WeekFoot$Reader", "from", "I", false)
  | 5 => ("WeekFoot$Reader", "to", "I", false)
  | 6 => ("WeekFoot$Reader", "entries", "I", false)
  | _ => ("WeekFoot$Reader", "shorters", "I", false)
def tyX8 : Nat → FieldType := fun k => match k with
  | 0 => .array .byte
  | 1 => .int
  | 2 => .object "java/util/ArrayList"
  | 3 => .array .int
  | 4 => .int
  | 5 => .int
  | 6 => .int
  | _ => .int
abbrev wsX80 : List Cond := u_ws RX8 TX8 8
theorem nmX8 : ∀ a, a < 8 → ∀ b, b < 8 → a ≠ b → (TX8 a).2.1 ≠ (TX8 b).2.1 := by decide +kernel
theorem tyX8_ok : ∀ k, k < 8 → parseFieldDescriptor (TX8 k).2.2.1 = some (tyX8 k) := by decide +kernel
abbrev cX8_init : ByteArray := prog_11_method_1_code
def yX8_init : MethodName := ⟨RX8, "<init>", "([BILWeekFoot$State;)V"⟩
def dkwX8_init_4 : List UInt8 := [79, 132, 4, 1, 167, 255, 214, 177]
abbrev dktX8_init_4 : List UInt8 := dkwX8_init_4 ++ []
def dkwX8_init_3 : List UInt8 := [180, 0, 46, 5, 21, 4, 104, 46, 92, 46, 4, 45, 180, 0, 46, 5, 21, 4, 104, 4, 96, 46, 120, 128]
abbrev dktX8_init_3 : List UInt8 := dkwX8_init_3 ++ dktX8_init_4
def dkwX8_init_2 : List UInt8 := [180, 0, 42, 181, 0, 45, 3, 54, 4, 21, 4, 45, 180, 0, 42, 162, 0, 39, 42, 180, 0, 20, 45]
abbrev dktX8_init_2 : List UInt8 := dkwX8_init_2 ++ dktX8_init_3
def dkwX8_init_1 : List UInt8 := [43, 181, 0, 24, 42, 28, 181, 0, 28, 42, 45, 180, 0, 32, 182, 0, 37, 181, 0, 40, 42, 45]
abbrev dktX8_init_1 : List UInt8 := dkwX8_init_1 ++ dktX8_init_2
def dkwX8_init_0 : List UInt8 := [42, 183, 0, 3, 42, 187, 0, 9, 89, 5, 183, 0, 11, 181, 0, 14, 42, 7, 188, 10, 181, 0, 20, 42]
abbrev dktX8_init_0 : List UInt8 := dkwX8_init_0 ++ dktX8_init_1
theorem dksX8_init_0 : cX8_init.data.toList.drop 0 = dktX8_init_0 := by decide +kernel
theorem dksX8_init_1 : cX8_init.data.toList.drop 24 = dktX8_init_1 := dk_seg dksX8_init_0 24 rfl rfl
theorem dksX8_init_2 : cX8_init.data.toList.drop 46 = dktX8_init_2 := dk_seg dksX8_init_1 22 rfl rfl
theorem dksX8_init_3 : cX8_init.data.toList.drop 69 = dktX8_init_3 := dk_seg dksX8_init_2 23 rfl rfl
theorem dksX8_init_4 : cX8_init.data.toList.drop 93 = dktX8_init_4 := dk_seg dksX8_init_3 24 rfl rfl
theorem dX8_init_0 : decode cX8_init 0 = .ok (.aload_n 0, 1) := dk_42 (dk_at dksX8_init_0 0 rfl rfl)
theorem dX8_init_1 : decode cX8_init 1 = .ok (.invokespecial 3, 3) := dk_183 0 3 (dk_at dksX8_init_0 1 rfl rfl)
theorem dX8_init_4 : decode cX8_init 4 = .ok (.aload_n 0, 1) := dk_42 (dk_at dksX8_init_0 4 rfl rfl)
theorem dX8_init_5 : decode cX8_init 5 = .ok (.new 9, 3) := dk_187 0 9 (dk_at dksX8_init_0 5 rfl rfl)
theorem dX8_init_8 : decode cX8_init 8 = .ok (.dup, 1) := dk_89 (dk_at dksX8_init_0 8 rfl rfl)
theorem dX8_init_9 : decode cX8_init 9 = .ok (.iconst 2, 1) := dk_5 (dk_at dksX8_init_0 9 rfl rfl)
theorem dX8_init_10 : decode cX8_init 10 = .ok (.invokespecial 11, 3) := dk_183 0 11 (dk_at dksX8_init_0 10 rfl rfl)
theorem dX8_init_13 : decode cX8_init 13 = .ok (.putfield 14, 3) := dk_181 0 14 (dk_at dksX8_init_0 13 rfl rfl)
theorem dX8_init_16 : decode cX8_init 16 = .ok (.aload_n 0, 1) := dk_42 (dk_at dksX8_init_0 16 rfl rfl)
theorem dX8_init_17 : decode cX8_init 17 = .ok (.iconst 4, 1) := dk_7 (dk_at dksX8_init_0 17 rfl rfl)
theorem dX8_init_18 : decode cX8_init 18 = .ok (.newarray .int, 2) := dk_188_10 (dk_at dksX8_init_0 18 rfl rfl)
theorem dX8_init_20 : decode cX8_init 20 = .ok (.putfield 20, 3) := dk_181 0 20 (dk_at dksX8_init_0 20 rfl rfl)
theorem dX8_init_23 : decode cX8_init 23 = .ok (.aload_n 0, 1) := dk_42 (dk_at dksX8_init_0 23 rfl rfl)
theorem dX8_init_24 : decode cX8_init 24 = .ok (.aload_n 1, 1) := dk_43 (dk_at dksX8_init_1 0 rfl rfl)
theorem dX8_init_25 : decode cX8_init 25 = .ok (.putfield 24, 3) := dk_181 0 24 (dk_at dksX8_init_1 1 rfl rfl)
theorem dX8_init_28 : decode cX8_init 28 = .ok (.aload_n 0, 1) := dk_42 (dk_at dksX8_init_1 4 rfl rfl)
theorem dX8_init_29 : decode cX8_init 29 = .ok (.iload_n 2, 1) := dk_28 (dk_at dksX8_init_1 5 rfl rfl)
theorem dX8_init_30 : decode cX8_init 30 = .ok (.putfield 28, 3) := dk_181 0 28 (dk_at dksX8_init_1 6 rfl rfl)
theorem dX8_init_33 : decode cX8_init 33 = .ok (.aload_n 0, 1) := dk_42 (dk_at dksX8_init_1 9 rfl rfl)
theorem dX8_init_34 : decode cX8_init 34 = .ok (.aload_n 3, 1) := dk_45 (dk_at dksX8_init_1 10 rfl rfl)
theorem dX8_init_35 : decode cX8_init 35 = .ok (.getfield 32, 3) := dk_180 0 32 (dk_at dksX8_init_1 11 rfl rfl)
theorem dX8_init_38 : decode cX8_init 38 = .ok (.invokevirtual 37, 3) := dk_182 0 37 (dk_at dksX8_init_1 14 rfl rfl)
theorem dX8_init_41 : decode cX8_init 41 = .ok (.putfield 40, 3) := dk_181 0 40 (dk_at dksX8_init_1 17 rfl rfl)
theorem dX8_init_44 : decode cX8_init 44 = .ok (.aload_n 0, 1) := dk_42 (dk_at dksX8_init_1 20 rfl rfl)
theorem dX8_init_45 : decode cX8_init 45 = .ok (.aload_n 3, 1) := dk_45 (dk_at dksX8_init_1 21 rfl rfl)
theorem dX8_init_46 : decode cX8_init 46 = .ok (.getfield 42, 3) := dk_180 0 42 (dk_at dksX8_init_2 0 rfl rfl)
theorem dX8_init_49 : decode cX8_init 49 = .ok (.putfield 45, 3) := dk_181 0 45 (dk_at dksX8_init_2 3 rfl rfl)
theorem dX8_init_52 : decode cX8_init 52 = .ok (.iconst 0, 1) := dk_3 (dk_at dksX8_init_2 6 rfl rfl)
theorem dX8_init_53 : decode cX8_init 53 = .ok (.istore 4, 2) := dk_54 4 (dk_at dksX8_init_2 7 rfl rfl)
theorem dX8_init_55 : decode cX8_init 55 = .ok (.iload 4, 2) := dk_21 4 (dk_at dksX8_init_2 9 rfl rfl)
theorem dX8_init_57 : decode cX8_init 57 = .ok (.aload_n 3, 1) := dk_45 (dk_at dksX8_init_2 11 rfl rfl)
theorem dX8_init_58 : decode cX8_init 58 = .ok (.getfield 42, 3) := dk_180 0 42 (dk_at dksX8_init_2 12 rfl rfl)
theorem dX8_init_61 : decode cX8_init 61 = .ok (.if_icmp .ge 39, 3) := dk_162 0 39 (dk_at dksX8_init_2 15 rfl rfl)
theorem dX8_init_64 : decode cX8_init 64 = .ok (.aload_n 0, 1) := dk_42 (dk_at dksX8_init_2 18 rfl rfl)
theorem dX8_init_65 : decode cX8_init 65 = .ok (.getfield 20, 3) := dk_180 0 20 (dk_at dksX8_init_2 19 rfl rfl)
theorem dX8_init_68 : decode cX8_init 68 = .ok (.aload_n 3, 1) := dk_45 (dk_at dksX8_init_2 22 rfl rfl)
theorem dX8_init_69 : decode cX8_init 69 = .ok (.getfield 46, 3) := dk_180 0 46 (dk_at dksX8_init_3 0 rfl rfl)
theorem dX8_init_72 : decode cX8_init 72 = .ok (.iconst 2, 1) := dk_5 (dk_at dksX8_init_3 3 rfl rfl)
theorem dX8_init_73 : decode cX8_init 73 = .ok (.iload 4, 2) := dk_21 4 (dk_at dksX8_init_3 4 rfl rfl)
theorem dX8_init_75 : decode cX8_init 75 = .ok (.imul, 1) := dk_104 (dk_at dksX8_init_3 6 rfl rfl)
theorem dX8_init_76 : decode cX8_init 76 = .ok (.iaload, 1) := dk_46 (dk_at dksX8_init_3 7 rfl rfl)
theorem dX8_init_77 : decode cX8_init 77 = .ok (.dup2, 1) := dk_92 (dk_at dksX8_init_3 8 rfl rfl)
theorem dX8_init_78 : decode cX8_init 78 = .ok (.iaload, 1) := dk_46 (dk_at dksX8_init_3 9 rfl rfl)
theorem dX8_init_79 : decode cX8_init 79 = .ok (.iconst 1, 1) := dk_4 (dk_at dksX8_init_3 10 rfl rfl)
theorem dX8_init_80 : decode cX8_init 80 = .ok (.aload_n 3, 1) := dk_45 (dk_at dksX8_init_3 11 rfl rfl)
theorem dX8_init_81 : decode cX8_init 81 = .ok (.getfield 46, 3) := dk_180 0 46 (dk_at dksX8_init_3 12 rfl rfl)
theorem dX8_init_84 : decode cX8_init 84 = .ok (.iconst 2, 1) := dk_5 (dk_at dksX8_init_3 15 rfl rfl)
theorem dX8_init_85 : decode cX8_init 85 = .ok (.iload 4, 2) := dk_21 4 (dk_at dksX8_init_3 16 rfl rfl)
theorem dX8_init_87 : decode cX8_init 87 = .ok (.imul, 1) := dk_104 (dk_at dksX8_init_3 18 rfl rfl)
theorem dX8_init_88 : decode cX8_init 88 = .ok (.iconst 1, 1) := dk_4 (dk_at dksX8_init_3 19 rfl rfl)
theorem dX8_init_89 : decode cX8_init 89 = .ok (.iadd, 1) := dk_96 (dk_at dksX8_init_3 20 rfl rfl)
theorem dX8_init_90 : decode cX8_init 90 = .ok (.iaload, 1) := dk_46 (dk_at dksX8_init_3 21 rfl rfl)
theorem dX8_init_91 : decode cX8_init 91 = .ok (.ishl, 1) := dk_120 (dk_at dksX8_init_3 22 rfl rfl)
theorem dX8_init_92 : decode cX8_init 92 = .ok (.ior, 1) := dk_128 (dk_at dksX8_init_3 23 rfl rfl)
theorem dX8_init_93 : decode cX8_init 93 = .ok (.iastore, 1) := dk_79 (dk_at dksX8_init_4 0 rfl rfl)
theorem dX8_init_94 : decode cX8_init 94 = .ok (.iinc 4 1, 3) := dk_132 4 1 (dk_at dksX8_init_4 1 rfl rfl)
theorem dX8_init_97 : decode cX8_init 97 = .ok (.goto (-42), 3) := dk_167 255 214 (dk_at dksX8_init_4 4 rfl rfl)
theorem dX8_init_100 : decode cX8_init 100 = .ok (.return_, 1) := dk_177 (dk_at dksX8_init_4 7 rfl rfl)
abbrev cX8_read : ByteArray := prog_11_method_8_code
def yX8_read : MethodName := ⟨RX8, "read", "()V"⟩
def dkwX8_read_1 : List UInt8 := [42, 180, 0, 52, 42, 180, 0, 28, 162, 0, 15, 187, 0, 78, 89, 42, 180, 0, 52, 183, 0, 80, 191, 177]
abbrev dktX8_read_1 : List UInt8 := dkwX8_read_1 ++ []
def dkwX8_read_0 : List UInt8 := [42, 182, 0, 72, 42, 182, 0, 81, 42, 18, 84, 182, 0, 75, 153, 0, 10, 42, 182, 0, 81, 167, 255, 243]
abbrev dktX8_read_0 : List UInt8 := dkwX8_read_0 ++ dktX8_read_1
theorem dksX8_read_0 : cX8_read.data.toList.drop 0 = dktX8_read_0 := by decide +kernel
theorem dksX8_read_1 : cX8_read.data.toList.drop 24 = dktX8_read_1 := dk_seg dksX8_read_0 24 rfl rfl
theorem dX8_read_0 : decode cX8_read 0 = .ok (.aload_n 0, 1) := dk_42 (dk_at dksX8_read_0 0 rfl rfl)
theorem dX8_read_1 : decode cX8_read 1 = .ok (.invokevirtual 72, 3) := dk_182 0 72 (dk_at dksX8_read_0 1 rfl rfl)
theorem dX8_read_4 : decode cX8_read 4 = .ok (.aload_n 0, 1) := dk_42 (dk_at dksX8_read_0 4 rfl rfl)
theorem dX8_read_5 : decode cX8_read 5 = .ok (.invokevirtual 81, 3) := dk_182 0 81 (dk_at dksX8_read_0 5 rfl rfl)
theorem dX8_read_8 : decode cX8_read 8 = .ok (.aload_n 0, 1) := dk_42 (dk_at dksX8_read_0 8 rfl rfl)
theorem dX8_read_9 : decode cX8_read 9 = .ok (.ldc 84, 2) := dk_18 84 (dk_at dksX8_read_0 9 rfl rfl)
theorem dX8_read_11 : decode cX8_read 11 = .ok (.invokevirtual 75, 3) := dk_182 0 75 (dk_at dksX8_read_0 11 rfl rfl)
theorem dX8_read_14 : decode cX8_read 14 = .ok (.ifCond .eq 10, 3) := dk_153 0 10 (dk_at dksX8_read_0 14 rfl rfl)
theorem dX8_read_17 : decode cX8_read 17 = .ok (.aload_n 0, 1) := dk_42 (dk_at dksX8_read_0 17 rfl rfl)
theorem dX8_read_18 : decode cX8_read 18 = .ok (.invokevirtual 81, 3) := dk_182 0 81 (dk_at dksX8_read_0 18 rfl rfl)
theorem dX8_read_21 : decode cX8_read 21 = .ok (.goto (-13), 3) := dk_167 255 243 (dk_at dksX8_read_0 21 rfl rfl)
theorem dX8_read_24 : decode cX8_read 24 = .ok (.aload_n 0, 1) := dk_42 (dk_at dksX8_read_1 0 rfl rfl)
theorem dX8_read_25 : decode cX8_read 25 = .ok (.getfield 52, 3) := dk_180 0 52 (dk_at dksX8_read_1 1 rfl rfl)
theorem dX8_read_28 : decode cX8_read 28 = .ok (.aload_n 0, 1) := dk_42 (dk_at dksX8_read_1 4 rfl rfl)
theorem dX8_read_29 : decode cX8_read 29 = .ok (.getfield 28, 3) := dk_180 0 28 (dk_at dksX8_read_1 5 rfl rfl)
theorem dX8_read_32 : decode cX8_read 32 = .ok (.if_icmp .ge 15, 3) := dk_162 0 15 (dk_at dksX8_read_1 8 rfl rfl)
theorem dX8_read_35 : decode cX8_read 35 = .ok (.new 78, 3) := dk_187 0 78 (dk_at dksX8_read_1 11 rfl rfl)
theorem dX8_read_38 : decode cX8_read 38 = .ok (.dup, 1) := dk_89 (dk_at dksX8_read_1 14 rfl rfl)
theorem dX8_read_39 : decode cX8_read 39 = .ok (.aload_n 0, 1) := dk_42 (dk_at dksX8_read_1 15 rfl rfl)
theorem dX8_read_40 : decode cX8_read 40 = .ok (.getfield 52, 3) := dk_180 0 52 (dk_at dksX8_read_1 16 rfl rfl)
theorem dX8_read_43 : decode cX8_read 43 = .ok (.invokespecial 80, 3) := dk_183 0 80 (dk_at dksX8_read_1 19 rfl rfl)
theorem dX8_read_46 : decode cX8_read 46 = .ok (.athrow, 1) := dk_191 (dk_at dksX8_read_1 22 rfl rfl)
theorem dX8_read_47 : decode cX8_read 47 = .ok (.return_, 1) := dk_177 (dk_at dksX8_read_1 23 rfl rfl)
abbrev cX8_next : ByteArray := prog_11_method_3_code
def yX8_next : MethodName := ⟨RX8, "next", "()V"⟩
def dkwX8_next_6 : List UInt8 := [162, 0, 13, 42, 89, 180, 0, 49, 4, 96, 181, 0, 49, 177]
abbrev dktX8_next_6 : List UInt8 := dkwX8_next_6 ++ []
def dkwX8_next_5 : List UInt8 := [153, 0, 37, 42, 89, 180, 0, 49, 4, 96, 181, 0, 49, 167, 255, 231, 42, 180, 0, 52, 42, 180, 0, 28]
abbrev dktX8_next_5 : List UInt8 := dkwX8_next_5 ++ dktX8_next_6
def dkwX8_next_4 : List UInt8 := [16, 48, 16, 57, 182, 0, 55, 153, 0, 31, 42, 42, 180, 0, 49, 16, 48, 16, 57, 182, 0, 55]
abbrev dktX8_next_4 : List UInt8 := dkwX8_next_4 ++ dktX8_next_5
def dkwX8_next_3 : List UInt8 := [182, 0, 55, 153, 0, 80, 42, 89, 180, 0, 49, 4, 96, 181, 0, 49, 167, 255, 231, 42, 42, 180, 0, 52]
abbrev dktX8_next_3 : List UInt8 := dkwX8_next_3 ++ dktX8_next_4
def dkwX8_next_2 : List UInt8 := [180, 0, 52, 16, 97, 16, 122, 182, 0, 55, 153, 0, 31, 42, 42, 180, 0, 49, 16, 97, 16, 122]
abbrev dktX8_next_2 : List UInt8 := dkwX8_next_2 ++ dktX8_next_3
def dkwX8_next_1 : List UInt8 := [89, 180, 0, 52, 4, 96, 181, 0, 52, 167, 255, 231, 42, 42, 180, 0, 52, 181, 0, 49, 42, 42]
abbrev dktX8_next_1 : List UInt8 := dkwX8_next_1 ++ dktX8_next_2
def dkwX8_next_0 : List UInt8 := [42, 42, 180, 0, 49, 181, 0, 52, 42, 42, 180, 0, 52, 16, 32, 16, 32, 182, 0, 55, 153, 0, 16, 42]
abbrev dktX8_next_0 : List UInt8 := dkwX8_next_0 ++ dktX8_next_1
theorem dksX8_next_0 : cX8_next.data.toList.drop 0 = dktX8_next_0 := by decide +kernel
theorem dksX8_next_1 : cX8_next.data.toList.drop 24 = dktX8_next_1 := dk_seg dksX8_next_0 24 rfl rfl
theorem dksX8_next_2 : cX8_next.data.toList.drop 46 = dktX8_next_2 := dk_seg dksX8_next_1 22 rfl rfl
theorem dksX8_next_3 : cX8_next.data.toList.drop 68 = dktX8_next_3 := dk_seg dksX8_next_2 22 rfl rfl
theorem dksX8_next_4 : cX8_next.data.toList.drop 92 = dktX8_next_4 := dk_seg dksX8_next_3 24 rfl rfl
theorem dksX8_next_5 : cX8_next.data.toList.drop 114 = dktX8_next_5 := dk_seg dksX8_next_4 22 rfl rfl
theorem dksX8_next_6 : cX8_next.data.toList.drop 138 = dktX8_next_6 := dk_seg dksX8_next_5 24 rfl rfl
theorem dX8_next_0 : decode cX8_next 0 = .ok (.aload_n 0, 1) := dk_42 (dk_at dksX8_next_0 0 rfl rfl)
theorem dX8_next_1 : decode cX8_next 1 = .ok (.aload_n 0, 1) := dk_42 (dk_at dksX8_next_0 1 rfl rfl)
theorem dX8_next_2 : decode cX8_next 2 = .ok (.getfield 49, 3) := dk_180 0 49 (dk_at dksX8_next_0 2 rfl rfl)
theorem dX8_next_5 : decode cX8_next 5 = .ok (.putfield 52, 3) := dk_181 0 52 (dk_at dksX8_next_0 5 rfl rfl)
theorem dX8_next_8 : decode cX8_next 8 = .ok (.aload_n 0, 1) := dk_42 (dk_at dksX8_next_0 8 rfl rfl)
theorem dX8_next_9 : decode cX8_next 9 = .ok (.aload_n 0, 1) := dk_42 (dk_at dksX8_next_0 9 rfl rfl)
theorem dX8_next_10 : decode cX8_next 10 = .ok (.getfield 52, 3) := dk_180 0 52 (dk_at dksX8_next_0 10 rfl rfl)
theorem dX8_next_13 : decode cX8_next 13 = .ok (.bipush 32, 2) := dk_16 32 (dk_at dksX8_next_0 13 rfl rfl)
theorem dX8_next_15 : decode cX8_next 15 = .ok (.bipush 32, 2) := dk_16 32 (dk_at dksX8_next_0 15 rfl rfl)
theorem dX8_next_17 : decode cX8_next 17 = .ok (.invokevirtual 55, 3) := dk_182 0 55 (dk_at dksX8_next_0 17 rfl rfl)
theorem dX8_next_20 : decode cX8_next 20 = .ok (.ifCond .eq 16, 3) := dk_153 0 16 (dk_at dksX8_next_0 20 rfl rfl)
theorem dX8_next_23 : decode cX8_next 23 = .ok (.aload_n 0, 1) := dk_42 (dk_at dksX8_next_0 23 rfl rfl)
theorem dX8_next_24 : decode cX8_next 24 = .ok (.dup, 1) := dk_89 (dk_at dksX8_next_1 0 rfl rfl)
theorem dX8_next_25 : decode cX8_next 25 = .ok (.getfield 52, 3) := dk_180 0 52 (dk_at dksX8_next_1 1 rfl rfl)
theorem dX8_next_28 : decode cX8_next 28 = .ok (.iconst 1, 1) := dk_4 (dk_at dksX8_next_1 4 rfl rfl)
theorem dX8_next_29 : decode cX8_next 29 = .ok (.iadd, 1) := dk_96 (dk_at dksX8_next_1 5 rfl rfl)
theorem dX8_next_30 : decode cX8_next 30 = .ok (.putfield 52, 3) := dk_181 0 52 (dk_at dksX8_next_1 6 rfl rfl)
theorem dX8_next_33 : decode cX8_next 33 = .ok (.goto (-25), 3) := dk_167 255 231 (dk_at dksX8_next_1 9 rfl rfl)
theorem dX8_next_36 : decode cX8_next 36 = .ok (.aload_n 0, 1) := dk_42 (dk_at dksX8_next_1 12 rfl rfl)
theorem dX8_next_37 : decode cX8_next 37 = .ok (.aload_n 0, 1) := dk_42 (dk_at dksX8_next_1 13 rfl rfl)
theorem dX8_next_38 : decode cX8_next 38 = .ok (.getfield 52, 3) := dk_180 0 52 (dk_at dksX8_next_1 14 rfl rfl)
theorem dX8_next_41 : decode cX8_next 41 = .ok (.putfield 49, 3) := dk_181 0 49 (dk_at dksX8_next_1 17 rfl rfl)
theorem dX8_next_44 : decode cX8_next 44 = .ok (.aload_n 0, 1) := dk_42 (dk_at dksX8_next_1 20 rfl rfl)
theorem dX8_next_45 : decode cX8_next 45 = .ok (.aload_n 0, 1) := dk_42 (dk_at dksX8_next_1 21 rfl rfl)
theorem dX8_next_46 : decode cX8_next 46 = .ok (.getfield 52, 3) := dk_180 0 52 (dk_at dksX8_next_2 0 rfl rfl)
theorem dX8_next_49 : decode cX8_next 49 = .ok (.bipush 97, 2) := dk_16 97 (dk_at dksX8_next_2 3 rfl rfl)
theorem dX8_next_51 : decode cX8_next 51 = .ok (.bipush 122, 2) := dk_16 122 (dk_at dksX8_next_2 5 rfl rfl)
theorem dX8_next_53 : decode cX8_next 53 = .ok (.invokevirtual 55, 3) := dk_182 0 55 (dk_at dksX8_next_2 7 rfl rfl)
theorem dX8_next_56 : decode cX8_next 56 = .ok (.ifCond .eq 31, 3) := dk_153 0 31 (dk_at dksX8_next_2 10 rfl rfl)
theorem dX8_next_59 : decode cX8_next 59 = .ok (.aload_n 0, 1) := dk_42 (dk_at dksX8_next_2 13 rfl rfl)
theorem dX8_next_60 : decode cX8_next 60 = .ok (.aload_n 0, 1) := dk_42 (dk_at dksX8_next_2 14 rfl rfl)
theorem dX8_next_61 : decode cX8_next 61 = .ok (.getfield 49, 3) := dk_180 0 49 (dk_at dksX8_next_2 15 rfl rfl)
theorem dX8_next_64 : decode cX8_next 64 = .ok (.bipush 97, 2) := dk_16 97 (dk_at dksX8_next_2 18 rfl rfl)
theorem dX8_next_66 : decode cX8_next 66 = .ok (.bipush 122, 2) := dk_16 122 (dk_at dksX8_next_2 20 rfl rfl)
theorem dX8_next_68 : decode cX8_next 68 = .ok (.invokevirtual 55, 3) := dk_182 0 55 (dk_at dksX8_next_3 0 rfl rfl)
theorem dX8_next_71 : decode cX8_next 71 = .ok (.ifCond .eq 80, 3) := dk_153 0 80 (dk_at dksX8_next_3 3 rfl rfl)
theorem dX8_next_74 : decode cX8_next 74 = .ok (.aload_n 0, 1) := dk_42 (dk_at dksX8_next_3 6 rfl rfl)
theorem dX8_next_75 : decode cX8_next 75 = .ok (.dup, 1) := dk_89 (dk_at dksX8_next_3 7 rfl rfl)
theorem dX8_next_76 : decode cX8_next 76 = .ok (.getfield 49, 3) := dk_180 0 49 (dk_at dksX8_next_3 8 rfl rfl)
theorem dX8_next_79 : decode cX8_next 79 = .ok (.iconst 1, 1) := dk_4 (dk_at dksX8_next_3 11 rfl rfl)
theorem dX8_next_80 : decode cX8_next 80 = .ok (.iadd, 1) := dk_96 (dk_at dksX8_next_3 12 rfl rfl)
theorem dX8_next_81 : decode cX8_next 81 = .ok (.putfield 49, 3) := dk_181 0 49 (dk_at dksX8_next_3 13 rfl rfl)
theorem dX8_next_84 : decode cX8_next 84 = .ok (.goto (-25), 3) := dk_167 255 231 (dk_at dksX8_next_3 16 rfl rfl)
theorem dX8_next_87 : decode cX8_next 87 = .ok (.aload_n 0, 1) := dk_42 (dk_at dksX8_next_3 19 rfl rfl)
theorem dX8_next_88 : decode cX8_next 88 = .ok (.aload_n 0, 1) := dk_42 (dk_at dksX8_next_3 20 rfl rfl)
theorem dX8_next_89 : decode cX8_next 89 = .ok (.getfield 52, 3) := dk_180 0 52 (dk_at dksX8_next_3 21 rfl rfl)
theorem dX8_next_92 : decode cX8_next 92 = .ok (.bipush 48, 2) := dk_16 48 (dk_at dksX8_next_4 0 rfl rfl)
theorem dX8_next_94 : decode cX8_next 94 = .ok (.bipush 57, 2) := dk_16 57 (dk_at dksX8_next_4 2 rfl rfl)
theorem dX8_next_96 : decode cX8_next 96 = .ok (.invokevirtual 55, 3) := dk_182 0 55 (dk_at dksX8_next_4 4 rfl rfl)
theorem dX8_next_99 : decode cX8_next 99 = .ok (.ifCond .eq 31, 3) := dk_153 0 31 (dk_at dksX8_next_4 7 rfl rfl)
theorem dX8_next_102 : decode cX8_next 102 = .ok (.aload_n 0, 1) := dk_42 (dk_at dksX8_next_4 10 rfl rfl)
theorem dX8_next_103 : decode cX8_next 103 = .ok (.aload_n 0, 1) := dk_42 (dk_at dksX8_next_4 11 rfl rfl)
theorem dX8_next_104 : decode cX8_next 104 = .ok (.getfield 49, 3) := dk_180 0 49 (dk_at dksX8_next_4 12 rfl rfl)
theorem dX8_next_107 : decode cX8_next 107 = .ok (.bipush 48, 2) := dk_16 48 (dk_at dksX8_next_4 15 rfl rfl)
theorem dX8_next_109 : decode cX8_next 109 = .ok (.bipush 57, 2) := dk_16 57 (dk_at dksX8_next_4 17 rfl rfl)
theorem dX8_next_111 : decode cX8_next 111 = .ok (.invokevirtual 55, 3) := dk_182 0 55 (dk_at dksX8_next_4 19 rfl rfl)
theorem dX8_next_114 : decode cX8_next 114 = .ok (.ifCond .eq 37, 3) := dk_153 0 37 (dk_at dksX8_next_5 0 rfl rfl)
theorem dX8_next_117 : decode cX8_next 117 = .ok (.aload_n 0, 1) := dk_42 (dk_at dksX8_next_5 3 rfl rfl)
theorem dX8_next_118 : decode cX8_next 118 = .ok (.dup, 1) := dk_89 (dk_at dksX8_next_5 4 rfl rfl)
theorem dX8_next_119 : decode cX8_next 119 = .ok (.getfield 49, 3) := dk_180 0 49 (dk_at dksX8_next_5 5 rfl rfl)
theorem dX8_next_122 : decode cX8_next 122 = .ok (.iconst 1, 1) := dk_4 (dk_at dksX8_next_5 8 rfl rfl)
theorem dX8_next_123 : decode cX8_next 123 = .ok (.iadd, 1) := dk_96 (dk_at dksX8_next_5 9 rfl rfl)
theorem dX8_next_124 : decode cX8_next 124 = .ok (.putfield 49, 3) := dk_181 0 49 (dk_at dksX8_next_5 10 rfl rfl)
theorem dX8_next_127 : decode cX8_next 127 = .ok (.goto (-25), 3) := dk_167 255 231 (dk_at dksX8_next_5 13 rfl rfl)
theorem dX8_next_130 : decode cX8_next 130 = .ok (.aload_n 0, 1) := dk_42 (dk_at dksX8_next_5 16 rfl rfl)
theorem dX8_next_131 : decode cX8_next 131 = .ok (.getfield 52, 3) := dk_180 0 52 (dk_at dksX8_next_5 17 rfl rfl)
theorem dX8_next_134 : decode cX8_next 134 = .ok (.aload_n 0, 1) := dk_42 (dk_at dksX8_next_5 20 rfl rfl)
theorem dX8_next_135 : decode cX8_next 135 = .ok (.getfield 28, 3) := dk_180 0 28 (dk_at dksX8_next_5 21 rfl rfl)
theorem dX8_next_138 : decode cX8_next 138 = .ok (.if_icmp .ge 13, 3) := dk_162 0 13 (dk_at dksX8_next_6 0 rfl rfl)
theorem dX8_next_141 : decode cX8_next 141 = .ok (.aload_n 0, 1) := dk_42 (dk_at dksX8_next_6 3 rfl rfl)
theorem dX8_next_142 : decode cX8_next 142 = .ok (.dup, 1) := dk_89 (dk_at dksX8_next_6 4 rfl rfl)
theorem dX8_next_143 : decode cX8_next 143 = .ok (.getfield 49, 3) := dk_180 0 49 (dk_at dksX8_next_6 5 rfl rfl)
theorem dX8_next_146 : decode cX8_next 146 = .ok (.iconst 1, 1) := dk_4 (dk_at dksX8_next_6 8 rfl rfl)
theorem dX8_next_147 : decode cX8_next 147 = .ok (.iadd, 1) := dk_96 (dk_at dksX8_next_6 9 rfl rfl)
theorem dX8_next_148 : decode cX8_next 148 = .ok (.putfield 49, 3) := dk_181 0 49 (dk_at dksX8_next_6 10 rfl rfl)
theorem dX8_next_151 : decode cX8_next 151 = .ok (.return_, 1) := dk_177 (dk_at dksX8_next_6 13 rfl rfl)
abbrev cX8_isIn : ByteArray := prog_11_method_2_code
def yX8_isIn : MethodName := ⟨RX8, "isIn", "(III)Z"⟩
def dkwX8_isIn_1 : List UInt8 := [29, 163, 0, 7, 4, 167, 0, 4, 3, 172]
abbrev dktX8_isIn_1 : List UInt8 := dkwX8_isIn_1 ++ []
def dkwX8_isIn_0 : List UInt8 := [27, 42, 180, 0, 28, 162, 0, 27, 42, 180, 0, 24, 27, 51, 28, 161, 0, 17, 42, 180, 0, 24, 27, 51]
abbrev dktX8_isIn_0 : List UInt8 := dkwX8_isIn_0 ++ dktX8_isIn_1
theorem dksX8_isIn_0 : cX8_isIn.data.toList.drop 0 = dktX8_isIn_0 := by decide +kernel
theorem dksX8_isIn_1 : cX8_isIn.data.toList.drop 24 = dktX8_isIn_1 := dk_seg dksX8_isIn_0 24 rfl rfl
theorem dX8_isIn_0 : decode cX8_isIn 0 = .ok (.iload_n 1, 1) := dk_27 (dk_at dksX8_isIn_0 0 rfl rfl)
theorem dX8_isIn_1 : decode cX8_isIn 1 = .ok (.aload_n 0, 1) := dk_42 (dk_at dksX8_isIn_0 1 rfl rfl)
theorem dX8_isIn_2 : decode cX8_isIn 2 = .ok (.getfield 28, 3) := dk_180 0 28 (dk_at dksX8_isIn_0 2 rfl rfl)
theorem dX8_isIn_5 : decode cX8_isIn 5 = .ok (.if_icmp .ge 27, 3) := dk_162 0 27 (dk_at dksX8_isIn_0 5 rfl rfl)
theorem dX8_isIn_8 : decode cX8_isIn 8 = .ok (.aload_n 0, 1) := dk_42 (dk_at dksX8_isIn_0 8 rfl rfl)
theorem dX8_isIn_9 : decode cX8_isIn 9 = .ok (.getfield 24, 3) := dk_180 0 24 (dk_at dksX8_isIn_0 9 rfl rfl)
theorem dX8_isIn_12 : decode cX8_isIn 12 = .ok (.iload_n 1, 1) := dk_27 (dk_at dksX8_isIn_0 12 rfl rfl)
theorem dX8_isIn_13 : decode cX8_isIn 13 = .ok (.baload, 1) := dk_51 (dk_at dksX8_isIn_0 13 rfl rfl)
theorem dX8_isIn_14 : decode cX8_isIn 14 = .ok (.iload_n 2, 1) := dk_28 (dk_at dksX8_isIn_0 14 rfl rfl)
theorem dX8_isIn_15 : decode cX8_isIn 15 = .ok (.if_icmp .lt 17, 3) := dk_161 0 17 (dk_at dksX8_isIn_0 15 rfl rfl)
theorem dX8_isIn_18 : decode cX8_isIn 18 = .ok (.aload_n 0, 1) := dk_42 (dk_at dksX8_isIn_0 18 rfl rfl)
theorem dX8_isIn_19 : decode cX8_isIn 19 = .ok (.getfield 24, 3) := dk_180 0 24 (dk_at dksX8_isIn_0 19 rfl rfl)
theorem dX8_isIn_22 : decode cX8_isIn 22 = .ok (.iload_n 1, 1) := dk_27 (dk_at dksX8_isIn_0 22 rfl rfl)
theorem dX8_isIn_23 : decode cX8_isIn 23 = .ok (.baload, 1) := dk_51 (dk_at dksX8_isIn_0 23 rfl rfl)
theorem dX8_isIn_24 : decode cX8_isIn 24 = .ok (.iload_n 3, 1) := dk_29 (dk_at dksX8_isIn_1 0 rfl rfl)
theorem dX8_isIn_25 : decode cX8_isIn 25 = .ok (.if_icmp .gt 7, 3) := dk_163 0 7 (dk_at dksX8_isIn_1 1 rfl rfl)
theorem dX8_isIn_28 : decode cX8_isIn 28 = .ok (.iconst 1, 1) := dk_4 (dk_at dksX8_isIn_1 4 rfl rfl)
theorem dX8_isIn_29 : decode cX8_isIn 29 = .ok (.goto 4, 3) := dk_167 0 4 (dk_at dksX8_isIn_1 5 rfl rfl)
theorem dX8_isIn_32 : decode cX8_isIn 32 = .ok (.iconst 0, 1) := dk_3 (dk_at dksX8_isIn_1 8 rfl rfl)
theorem dX8_isIn_33 : decode cX8_isIn 33 = .ok (.ireturn, 1) := dk_172 (dk_at dksX8_isIn_1 9 rfl rfl)
abbrev cX8_clause : ByteArray := prog_11_method_9_code
def yX8_clause : MethodName := ⟨RX8, "clause", "()V"⟩
def dkwX8_clause_2 : List UInt8 := [167, 0, 15, 187, 0, 78, 89, 42, 180, 0, 52, 183, 0, 80, 191, 177]
abbrev dktX8_clause_2 : List UInt8 := dkwX8_clause_2 ++ []
def dkwX8_clause_1 : List UInt8 := [153, 0, 10, 42, 182, 0, 93, 167, 0, 31, 42, 18, 96, 182, 0, 68, 153, 0, 10, 42, 182, 0, 98]
abbrev dktX8_clause_1 : List UInt8 := dkwX8_clause_1 ++ dktX8_clause_2
def dkwX8_clause_0 : List UInt8 := [42, 18, 86, 182, 0, 68, 153, 0, 10, 42, 182, 0, 88, 167, 0, 47, 42, 18, 91, 182, 0, 68]
abbrev dktX8_clause_0 : List UInt8 := dkwX8_clause_0 ++ dktX8_clause_1
theorem dksX8_clause_0 : cX8_clause.data.toList.drop 0 = dktX8_clause_0 := by decide +kernel
theorem dksX8_clause_1 : cX8_clause.data.toList.drop 22 = dktX8_clause_1 := dk_seg dksX8_clause_0 22 rfl rfl
theorem dksX8_clause_2 : cX8_clause.data.toList.drop 45 = dktX8_clause_2 := dk_seg dksX8_clause_1 23 rfl rfl
theorem dX8_clause_0 : decode cX8_clause 0 = .ok (.aload_n 0, 1) := dk_42 (dk_at dksX8_clause_0 0 rfl rfl)
theorem dX8_clause_1 : decode cX8_clause 1 = .ok (.ldc 86, 2) := dk_18 86 (dk_at dksX8_clause_0 1 rfl rfl)
theorem dX8_clause_3 : decode cX8_clause 3 = .ok (.invokevirtual 68, 3) := dk_182 0 68 (dk_at dksX8_clause_0 3 rfl rfl)
theorem dX8_clause_6 : decode cX8_clause 6 = .ok (.ifCond .eq 10, 3) := dk_153 0 10 (dk_at dksX8_clause_0 6 rfl rfl)
theorem dX8_clause_9 : decode cX8_clause 9 = .ok (.aload_n 0, 1) := dk_42 (dk_at dksX8_clause_0 9 rfl rfl)
theorem dX8_clause_10 : decode cX8_clause 10 = .ok (.invokevirtual 88, 3) := dk_182 0 88 (dk_at dksX8_clause_0 10 rfl rfl)
theorem dX8_clause_13 : decode cX8_clause 13 = .ok (.goto 47, 3) := dk_167 0 47 (dk_at dksX8_clause_0 13 rfl rfl)
theorem dX8_clause_16 : decode cX8_clause 16 = .ok (.aload_n 0, 1) := dk_42 (dk_at dksX8_clause_0 16 rfl rfl)
theorem dX8_clause_17 : decode cX8_clause 17 = .ok (.ldc 91, 2) := dk_18 91 (dk_at dksX8_clause_0 17 rfl rfl)
theorem dX8_clause_19 : decode cX8_clause 19 = .ok (.invokevirtual 68, 3) := dk_182 0 68 (dk_at dksX8_clause_0 19 rfl rfl)
theorem dX8_clause_22 : decode cX8_clause 22 = .ok (.ifCond .eq 10, 3) := dk_153 0 10 (dk_at dksX8_clause_1 0 rfl rfl)
theorem dX8_clause_25 : decode cX8_clause 25 = .ok (.aload_n 0, 1) := dk_42 (dk_at dksX8_clause_1 3 rfl rfl)
theorem dX8_clause_26 : decode cX8_clause 26 = .ok (.invokevirtual 93, 3) := dk_182 0 93 (dk_at dksX8_clause_1 4 rfl rfl)
theorem dX8_clause_29 : decode cX8_clause 29 = .ok (.goto 31, 3) := dk_167 0 31 (dk_at dksX8_clause_1 7 rfl rfl)
theorem dX8_clause_32 : decode cX8_clause 32 = .ok (.aload_n 0, 1) := dk_42 (dk_at dksX8_clause_1 10 rfl rfl)
theorem dX8_clause_33 : decode cX8_clause 33 = .ok (.ldc 96, 2) := dk_18 96 (dk_at dksX8_clause_1 11 rfl rfl)
theorem dX8_clause_35 : decode cX8_clause 35 = .ok (.invokevirtual 68, 3) := dk_182 0 68 (dk_at dksX8_clause_1 13 rfl rfl)
theorem dX8_clause_38 : decode cX8_clause 38 = .ok (.ifCond .eq 10, 3) := dk_153 0 10 (dk_at dksX8_clause_1 16 rfl rfl)
theorem dX8_clause_41 : decode cX8_clause 41 = .ok (.aload_n 0, 1) := dk_42 (dk_at dksX8_clause_1 19 rfl rfl)
theorem dX8_clause_42 : decode cX8_clause 42 = .ok (.invokevirtual 98, 3) := dk_182 0 98 (dk_at dksX8_clause_1 20 rfl rfl)
theorem dX8_clause_45 : decode cX8_clause 45 = .ok (.goto 15, 3) := dk_167 0 15 (dk_at dksX8_clause_2 0 rfl rfl)
theorem dX8_clause_48 : decode cX8_clause 48 = .ok (.new 78, 3) := dk_187 0 78 (dk_at dksX8_clause_2 3 rfl rfl)
theorem dX8_clause_51 : decode cX8_clause 51 = .ok (.dup, 1) := dk_89 (dk_at dksX8_clause_2 6 rfl rfl)
theorem dX8_clause_52 : decode cX8_clause 52 = .ok (.aload_n 0, 1) := dk_42 (dk_at dksX8_clause_2 7 rfl rfl)
theorem dX8_clause_53 : decode cX8_clause 53 = .ok (.getfield 52, 3) := dk_180 0 52 (dk_at dksX8_clause_2 8 rfl rfl)
theorem dX8_clause_56 : decode cX8_clause 56 = .ok (.invokespecial 80, 3) := dk_183 0 80 (dk_at dksX8_clause_2 11 rfl rfl)
theorem dX8_clause_59 : decode cX8_clause 59 = .ok (.athrow, 1) := dk_191 (dk_at dksX8_clause_2 14 rfl rfl)
theorem dX8_clause_60 : decode cX8_clause 60 = .ok (.return_, 1) := dk_177 (dk_at dksX8_clause_2 15 rfl rfl)
abbrev cX8_is : ByteArray := prog_11_method_4_code
def yX8_is : MethodName := ⟨RX8, "is", "(Ljava/lang/String;)Z"⟩
def dkwX8_is_2 : List UInt8 := [159, 0, 5, 3, 172, 132, 2, 1, 167, 255, 224, 4, 172]
abbrev dktX8_is_2 : List UInt8 := dkwX8_is_2 ++ []
def dkwX8_is_1 : List UInt8 := [182, 0, 59, 162, 0, 30, 42, 180, 0, 24, 42, 180, 0, 52, 28, 96, 51, 43, 28, 182, 0, 64]
abbrev dktX8_is_1 : List UInt8 := dkwX8_is_1 ++ dktX8_is_2
def dkwX8_is_0 : List UInt8 := [42, 180, 0, 49, 42, 180, 0, 52, 100, 43, 182, 0, 59, 159, 0, 5, 3, 172, 3, 61, 28, 43]
abbrev dktX8_is_0 : List UInt8 := dkwX8_is_0 ++ dktX8_is_1
theorem dksX8_is_0 : cX8_is.data.toList.drop 0 = dktX8_is_0 := by decide +kernel
theorem dksX8_is_1 : cX8_is.data.toList.drop 22 = dktX8_is_1 := dk_seg dksX8_is_0 22 rfl rfl
theorem dksX8_is_2 : cX8_is.data.toList.drop 44 = dktX8_is_2 := dk_seg dksX8_is_1 22 rfl rfl
theorem dX8_is_0 : decode cX8_is 0 = .ok (.aload_n 0, 1) := dk_42 (dk_at dksX8_is_0 0 rfl rfl)
theorem dX8_is_1 : decode cX8_is 1 = .ok (.getfield 49, 3) := dk_180 0 49 (dk_at dksX8_is_0 1 rfl rfl)
theorem dX8_is_4 : decode cX8_is 4 = .ok (.aload_n 0, 1) := dk_42 (dk_at dksX8_is_0 4 rfl rfl)
theorem dX8_is_5 : decode cX8_is 5 = .ok (.getfield 52, 3) := dk_180 0 52 (dk_at dksX8_is_0 5 rfl rfl)
theorem dX8_is_8 : decode cX8_is 8 = .ok (.isub, 1) := dk_100 (dk_at dksX8_is_0 8 rfl rfl)
theorem dX8_is_9 : decode cX8_is 9 = .ok (.aload_n 1, 1) := dk_43 (dk_at dksX8_is_0 9 rfl rfl)
theorem dX8_is_10 : decode cX8_is 10 = .ok (.invokevirtual 59, 3) := dk_182 0 59 (dk_at dksX8_is_0 10 rfl rfl)
theorem dX8_is_13 : decode cX8_is 13 = .ok (.if_icmp .eq 5, 3) := dk_159 0 5 (dk_at dksX8_is_0 13 rfl rfl)
theorem dX8_is_16 : decode cX8_is 16 = .ok (.iconst 0, 1) := dk_3 (dk_at dksX8_is_0 16 rfl rfl)
theorem dX8_is_17 : decode cX8_is 17 = .ok (.ireturn, 1) := dk_172 (dk_at dksX8_is_0 17 rfl rfl)
theorem dX8_is_18 : decode cX8_is 18 = .ok (.iconst 0, 1) := dk_3 (dk_at dksX8_is_0 18 rfl rfl)
theorem dX8_is_19 : decode cX8_is 19 = .ok (.istore_n 2, 1) := dk_61 (dk_at dksX8_is_0 19 rfl rfl)
theorem dX8_is_20 : decode cX8_is 20 = .ok (.iload_n 2, 1) := dk_28 (dk_at dksX8_is_0 20 rfl rfl)
theorem dX8_is_21 : decode cX8_is 21 = .ok (.aload_n 1, 1) := dk_43 (dk_at dksX8_is_0 21 rfl rfl)
theorem dX8_is_22 : decode cX8_is 22 = .ok (.invokevirtual 59, 3) := dk_182 0 59 (dk_at dksX8_is_1 0 rfl rfl)
theorem dX8_is_25 : decode cX8_is 25 = .ok (.if_icmp .ge 30, 3) := dk_162 0 30 (dk_at dksX8_is_1 3 rfl rfl)
theorem dX8_is_28 : decode cX8_is 28 = .ok (.aload_n 0, 1) := dk_42 (dk_at dksX8_is_1 6 rfl rfl)
theorem dX8_is_29 : decode cX8_is 29 = .ok (.getfield 24, 3) := dk_180 0 24 (dk_at dksX8_is_1 7 rfl rfl)
theorem dX8_is_32 : decode cX8_is 32 = .ok (.aload_n 0, 1) := dk_42 (dk_at dksX8_is_1 10 rfl rfl)
theorem dX8_is_33 : decode cX8_is 33 = .ok (.getfield 52, 3) := dk_180 0 52 (dk_at dksX8_is_1 11 rfl rfl)
theorem dX8_is_36 : decode cX8_is 36 = .ok (.iload_n 2, 1) := dk_28 (dk_at dksX8_is_1 14 rfl rfl)
theorem dX8_is_37 : decode cX8_is 37 = .ok (.iadd, 1) := dk_96 (dk_at dksX8_is_1 15 rfl rfl)
theorem dX8_is_38 : decode cX8_is 38 = .ok (.baload, 1) := dk_51 (dk_at dksX8_is_1 16 rfl rfl)
theorem dX8_is_39 : decode cX8_is 39 = .ok (.aload_n 1, 1) := dk_43 (dk_at dksX8_is_1 17 rfl rfl)
theorem dX8_is_40 : decode cX8_is 40 = .ok (.iload_n 2, 1) := dk_28 (dk_at dksX8_is_1 18 rfl rfl)
theorem dX8_is_41 : decode cX8_is 41 = .ok (.invokevirtual 64, 3) := dk_182 0 64 (dk_at dksX8_is_1 19 rfl rfl)
theorem dX8_is_44 : decode cX8_is 44 = .ok (.if_icmp .eq 5, 3) := dk_159 0 5 (dk_at dksX8_is_2 0 rfl rfl)
theorem dX8_is_47 : decode cX8_is 47 = .ok (.iconst 0, 1) := dk_3 (dk_at dksX8_is_2 3 rfl rfl)
theorem dX8_is_48 : decode cX8_is 48 = .ok (.ireturn, 1) := dk_172 (dk_at dksX8_is_2 4 rfl rfl)
theorem dX8_is_49 : decode cX8_is 49 = .ok (.iinc 2 1, 3) := dk_132 2 1 (dk_at dksX8_is_2 5 rfl rfl)
theorem dX8_is_52 : decode cX8_is 52 = .ok (.goto (-32), 3) := dk_167 255 224 (dk_at dksX8_is_2 8 rfl rfl)
theorem dX8_is_55 : decode cX8_is 55 = .ok (.iconst 1, 1) := dk_4 (dk_at dksX8_is_2 11 rfl rfl)
theorem dX8_is_56 : decode cX8_is 56 = .ok (.ireturn, 1) := dk_172 (dk_at dksX8_is_2 12 rfl rfl)
abbrev cX8_weeks : ByteArray := prog_11_method_10_code
def yX8_weeks : MethodName := ⟨RX8, "weeks", "()V"⟩
def dkwX8_weeks_3 : List UInt8 := [182, 0, 75, 153, 0, 7, 2, 167, 0, 9, 42, 3, 6, 182, 0, 100, 183, 0, 115, 182, 0, 118, 87, 177]
abbrev dktX8_weeks_3 : List UInt8 := dkwX8_weeks_3 ++ []
def dkwX8_weeks_2 : List UInt8 := [183, 0, 80, 191, 42, 18, 105, 182, 0, 107, 42, 180, 0, 14, 187, 0, 111, 89, 27, 28, 42, 18, 113]
abbrev dktX8_weeks_2 : List UInt8 := dkwX8_weeks_2 ++ dktX8_weeks_3
def dkwX8_weeks_1 : List UInt8 := [180, 0, 52, 62, 42, 3, 16, 31, 182, 0, 100, 61, 28, 27, 162, 0, 12, 187, 0, 78, 89, 29]
abbrev dktX8_weeks_1 : List UInt8 := dkwX8_weeks_1 ++ dktX8_weeks_2
def dkwX8_weeks_0 : List UInt8 := [42, 182, 0, 72, 42, 3, 16, 31, 182, 0, 100, 60, 27, 61, 42, 18, 104, 182, 0, 75, 153, 0, 30, 42]
abbrev dktX8_weeks_0 : List UInt8 := dkwX8_weeks_0 ++ dktX8_weeks_1
theorem dksX8_weeks_0 : cX8_weeks.data.toList.drop 0 = dktX8_weeks_0 := by decide +kernel
theorem dksX8_weeks_1 : cX8_weeks.data.toList.drop 24 = dktX8_weeks_1 := dk_seg dksX8_weeks_0 24 rfl rfl
theorem dksX8_weeks_2 : cX8_weeks.data.toList.drop 46 = dktX8_weeks_2 := dk_seg dksX8_weeks_1 22 rfl rfl
theorem dksX8_weeks_3 : cX8_weeks.data.toList.drop 69 = dktX8_weeks_3 := dk_seg dksX8_weeks_2 23 rfl rfl
theorem dX8_weeks_0 : decode cX8_weeks 0 = .ok (.aload_n 0, 1) := dk_42 (dk_at dksX8_weeks_0 0 rfl rfl)
theorem dX8_weeks_1 : decode cX8_weeks 1 = .ok (.invokevirtual 72, 3) := dk_182 0 72 (dk_at dksX8_weeks_0 1 rfl rfl)
theorem dX8_weeks_4 : decode cX8_weeks 4 = .ok (.aload_n 0, 1) := dk_42 (dk_at dksX8_weeks_0 4 rfl rfl)
theorem dX8_weeks_5 : decode cX8_weeks 5 = .ok (.iconst 0, 1) := dk_3 (dk_at dksX8_weeks_0 5 rfl rfl)
theorem dX8_weeks_6 : decode cX8_weeks 6 = .ok (.bipush 31, 2) := dk_16 31 (dk_at dksX8_weeks_0 6 rfl rfl)
theorem dX8_weeks_8 : decode cX8_weeks 8 = .ok (.invokevirtual 100, 3) := dk_182 0 100 (dk_at dksX8_weeks_0 8 rfl rfl)
theorem dX8_weeks_11 : decode cX8_weeks 11 = .ok (.istore_n 1, 1) := dk_60 (dk_at dksX8_weeks_0 11 rfl rfl)
theorem dX8_weeks_12 : decode cX8_weeks 12 = .ok (.iload_n 1, 1) := dk_27 (dk_at dksX8_weeks_0 12 rfl rfl)
theorem dX8_weeks_13 : decode cX8_weeks 13 = .ok (.istore_n 2, 1) := dk_61 (dk_at dksX8_weeks_0 13 rfl rfl)
theorem dX8_weeks_14 : decode cX8_weeks 14 = .ok (.aload_n 0, 1) := dk_42 (dk_at dksX8_weeks_0 14 rfl rfl)
theorem dX8_weeks_15 : decode cX8_weeks 15 = .ok (.ldc 104, 2) := dk_18 104 (dk_at dksX8_weeks_0 15 rfl rfl)
theorem dX8_weeks_17 : decode cX8_weeks 17 = .ok (.invokevirtual 75, 3) := dk_182 0 75 (dk_at dksX8_weeks_0 17 rfl rfl)
theorem dX8_weeks_20 : decode cX8_weeks 20 = .ok (.ifCond .eq 30, 3) := dk_153 0 30 (dk_at dksX8_weeks_0 20 rfl rfl)
theorem dX8_weeks_23 : decode cX8_weeks 23 = .ok (.aload_n 0, 1) := dk_42 (dk_at dksX8_weeks_0 23 rfl rfl)
theorem dX8_weeks_24 : decode cX8_weeks 24 = .ok (.getfield 52, 3) := dk_180 0 52 (dk_at dksX8_weeks_1 0 rfl rfl)
theorem dX8_weeks_27 : decode cX8_weeks 27 = .ok (.istore_n 3, 1) := dk_62 (dk_at dksX8_weeks_1 3 rfl rfl)
theorem dX8_weeks_28 : decode cX8_weeks 28 = .ok (.aload_n 0, 1) := dk_42 (dk_at dksX8_weeks_1 4 rfl rfl)
theorem dX8_weeks_29 : decode cX8_weeks 29 = .ok (.iconst 0, 1) := dk_3 (dk_at dksX8_weeks_1 5 rfl rfl)
theorem dX8_weeks_30 : decode cX8_weeks 30 = .ok (.bipush 31, 2) := dk_16 31 (dk_at dksX8_weeks_1 6 rfl rfl)
theorem dX8_weeks_32 : decode cX8_weeks 32 = .ok (.invokevirtual 100, 3) := dk_182 0 100 (dk_at dksX8_weeks_1 8 rfl rfl)
theorem dX8_weeks_35 : decode cX8_weeks 35 = .ok (.istore_n 2, 1) := dk_61 (dk_at dksX8_weeks_1 11 rfl rfl)
theorem dX8_weeks_36 : decode cX8_weeks 36 = .ok (.iload_n 2, 1) := dk_28 (dk_at dksX8_weeks_1 12 rfl rfl)
theorem dX8_weeks_37 : decode cX8_weeks 37 = .ok (.iload_n 1, 1) := dk_27 (dk_at dksX8_weeks_1 13 rfl rfl)
theorem dX8_weeks_38 : decode cX8_weeks 38 = .ok (.if_icmp .ge 12, 3) := dk_162 0 12 (dk_at dksX8_weeks_1 14 rfl rfl)
theorem dX8_weeks_41 : decode cX8_weeks 41 = .ok (.new 78, 3) := dk_187 0 78 (dk_at dksX8_weeks_1 17 rfl rfl)
theorem dX8_weeks_44 : decode cX8_weeks 44 = .ok (.dup, 1) := dk_89 (dk_at dksX8_weeks_1 20 rfl rfl)
theorem dX8_weeks_45 : decode cX8_weeks 45 = .ok (.iload_n 3, 1) := dk_29 (dk_at dksX8_weeks_1 21 rfl rfl)
theorem dX8_weeks_46 : decode cX8_weeks 46 = .ok (.invokespecial 80, 3) := dk_183 0 80 (dk_at dksX8_weeks_2 0 rfl rfl)
theorem dX8_weeks_49 : decode cX8_weeks 49 = .ok (.athrow, 1) := dk_191 (dk_at dksX8_weeks_2 3 rfl rfl)
theorem dX8_weeks_50 : decode cX8_weeks 50 = .ok (.aload_n 0, 1) := dk_42 (dk_at dksX8_weeks_2 4 rfl rfl)
theorem dX8_weeks_51 : decode cX8_weeks 51 = .ok (.ldc 105, 2) := dk_18 105 (dk_at dksX8_weeks_2 5 rfl rfl)
theorem dX8_weeks_53 : decode cX8_weeks 53 = .ok (.invokevirtual 107, 3) := dk_182 0 107 (dk_at dksX8_weeks_2 7 rfl rfl)
theorem dX8_weeks_56 : decode cX8_weeks 56 = .ok (.aload_n 0, 1) := dk_42 (dk_at dksX8_weeks_2 10 rfl rfl)
theorem dX8_weeks_57 : decode cX8_weeks 57 = .ok (.getfield 14, 3) := dk_180 0 14 (dk_at dksX8_weeks_2 11 rfl rfl)
theorem dX8_weeks_60 : decode cX8_weeks 60 = .ok (.new 111, 3) := dk_187 0 111 (dk_at dksX8_weeks_2 14 rfl rfl)
theorem dX8_weeks_63 : decode cX8_weeks 63 = .ok (.dup, 1) := dk_89 (dk_at dksX8_weeks_2 17 rfl rfl)
theorem dX8_weeks_64 : decode cX8_weeks 64 = .ok (.iload_n 1, 1) := dk_27 (dk_at dksX8_weeks_2 18 rfl rfl)
theorem dX8_weeks_65 : decode cX8_weeks 65 = .ok (.iload_n 2, 1) := dk_28 (dk_at dksX8_weeks_2 19 rfl rfl)
theorem dX8_weeks_66 : decode cX8_weeks 66 = .ok (.aload_n 0, 1) := dk_42 (dk_at dksX8_weeks_2 20 rfl rfl)
theorem dX8_weeks_67 : decode cX8_weeks 67 = .ok (.ldc 113, 2) := dk_18 113 (dk_at dksX8_weeks_2 21 rfl rfl)
theorem dX8_weeks_69 : decode cX8_weeks 69 = .ok (.invokevirtual 75, 3) := dk_182 0 75 (dk_at dksX8_weeks_3 0 rfl rfl)
theorem dX8_weeks_72 : decode cX8_weeks 72 = .ok (.ifCond .eq 7, 3) := dk_153 0 7 (dk_at dksX8_weeks_3 3 rfl rfl)
theorem dX8_weeks_75 : decode cX8_weeks 75 = .ok (.iconst (-1), 1) := dk_2 (dk_at dksX8_weeks_3 6 rfl rfl)
theorem dX8_weeks_76 : decode cX8_weeks 76 = .ok (.goto 9, 3) := dk_167 0 9 (dk_at dksX8_weeks_3 7 rfl rfl)
theorem dX8_weeks_79 : decode cX8_weeks 79 = .ok (.aload_n 0, 1) := dk_42 (dk_at dksX8_weeks_3 10 rfl rfl)
theorem dX8_weeks_80 : decode cX8_weeks 80 = .ok (.iconst 0, 1) := dk_3 (dk_at dksX8_weeks_3 11 rfl rfl)
theorem dX8_weeks_81 : decode cX8_weeks 81 = .ok (.iconst 3, 1) := dk_6 (dk_at dksX8_weeks_3 12 rfl rfl)
theorem dX8_weeks_82 : decode cX8_weeks 82 = .ok (.invokevirtual 100, 3) := dk_182 0 100 (dk_at dksX8_weeks_3 13 rfl rfl)
theorem dX8_weeks_85 : decode cX8_weeks 85 = .ok (.invokespecial 115, 3) := dk_183 0 115 (dk_at dksX8_weeks_3 16 rfl rfl)
theorem dX8_weeks_88 : decode cX8_weeks 88 = .ok (.invokevirtual 118, 3) := dk_182 0 118 (dk_at dksX8_weeks_3 19 rfl rfl)
theorem dX8_weeks_91 : decode cX8_weeks 91 = .ok (.pop, 1) := dk_87 (dk_at dksX8_weeks_3 22 rfl rfl)
theorem dX8_weeks_92 : decode cX8_weeks 92 = .ok (.return_, 1) := dk_177 (dk_at dksX8_weeks_3 23 rfl rfl)
abbrev cX8_number : ByteArray := prog_11_method_7_code
def yX8_number : MethodName := ⟨RX8, "number", "(II)I"⟩
def dkwX8_number_4 : List UInt8 := [191, 42, 182, 0, 72, 29, 172]
abbrev dktX8_number_4 : List UInt8 := dkwX8_number_4 ++ []
def dkwX8_number_3 : List UInt8 := [167, 255, 223, 29, 27, 161, 0, 8, 29, 28, 164, 0, 15, 187, 0, 78, 89, 42, 180, 0, 52, 183, 0, 80]
abbrev dktX8_number_3 : List UInt8 := dkwX8_number_3 ++ dktX8_number_4
def dkwX8_number_2 : List UInt8 := [163, 0, 25, 16, 10, 29, 104, 42, 180, 0, 24, 21, 4, 51, 96, 16, 48, 100, 62, 132, 4, 1]
abbrev dktX8_number_2 : List UInt8 := dkwX8_number_2 ++ dktX8_number_3
def dkwX8_number_1 : List UInt8 := [183, 0, 80, 191, 3, 62, 42, 180, 0, 52, 54, 4, 21, 4, 42, 180, 0, 49, 162, 0, 30, 29, 28]
abbrev dktX8_number_1 : List UInt8 := dkwX8_number_1 ++ dktX8_number_2
def dkwX8_number_0 : List UInt8 := [42, 42, 180, 0, 52, 16, 48, 16, 57, 182, 0, 55, 154, 0, 15, 187, 0, 78, 89, 42, 180, 0, 52]
abbrev dktX8_number_0 : List UInt8 := dkwX8_number_0 ++ dktX8_number_1
theorem dksX8_number_0 : cX8_number.data.toList.drop 0 = dktX8_number_0 := by decide +kernel
theorem dksX8_number_1 : cX8_number.data.toList.drop 23 = dktX8_number_1 := dk_seg dksX8_number_0 23 rfl rfl
theorem dksX8_number_2 : cX8_number.data.toList.drop 46 = dktX8_number_2 := dk_seg dksX8_number_1 23 rfl rfl
theorem dksX8_number_3 : cX8_number.data.toList.drop 68 = dktX8_number_3 := dk_seg dksX8_number_2 22 rfl rfl
theorem dksX8_number_4 : cX8_number.data.toList.drop 92 = dktX8_number_4 := dk_seg dksX8_number_3 24 rfl rfl
theorem dX8_number_0 : decode cX8_number 0 = .ok (.aload_n 0, 1) := dk_42 (dk_at dksX8_number_0 0 rfl rfl)
theorem dX8_number_1 : decode cX8_number 1 = .ok (.aload_n 0, 1) := dk_42 (dk_at dksX8_number_0 1 rfl rfl)
theorem dX8_number_2 : decode cX8_number 2 = .ok (.getfield 52, 3) := dk_180 0 52 (dk_at dksX8_number_0 2 rfl rfl)
theorem dX8_number_5 : decode cX8_number 5 = .ok (.bipush 48, 2) := dk_16 48 (dk_at dksX8_number_0 5 rfl rfl)
theorem dX8_number_7 : decode cX8_number 7 = .ok (.bipush 57, 2) := dk_16 57 (dk_at dksX8_number_0 7 rfl rfl)
theorem dX8_number_9 : decode cX8_number 9 = .ok (.invokevirtual 55, 3) := dk_182 0 55 (dk_at dksX8_number_0 9 rfl rfl)
theorem dX8_number_12 : decode cX8_number 12 = .ok (.ifCond .ne 15, 3) := dk_154 0 15 (dk_at dksX8_number_0 12 rfl rfl)
theorem dX8_number_15 : decode cX8_number 15 = .ok (.new 78, 3) := dk_187 0 78 (dk_at dksX8_number_0 15 rfl rfl)
theorem dX8_number_18 : decode cX8_number 18 = .ok (.dup, 1) := dk_89 (dk_at dksX8_number_0 18 rfl rfl)
theorem dX8_number_19 : decode cX8_number 19 = .ok (.aload_n 0, 1) := dk_42 (dk_at dksX8_number_0 19 rfl rfl)
theorem dX8_number_20 : decode cX8_number 20 = .ok (.getfield 52, 3) := dk_180 0 52 (dk_at dksX8_number_0 20 rfl rfl)
theorem dX8_number_23 : decode cX8_number 23 = .ok (.invokespecial 80, 3) := dk_183 0 80 (dk_at dksX8_number_1 0 rfl rfl)
theorem dX8_number_26 : decode cX8_number 26 = .ok (.athrow, 1) := dk_191 (dk_at dksX8_number_1 3 rfl rfl)
theorem dX8_number_27 : decode cX8_number 27 = .ok (.iconst 0, 1) := dk_3 (dk_at dksX8_number_1 4 rfl rfl)
theorem dX8_number_28 : decode cX8_number 28 = .ok (.istore_n 3, 1) := dk_62 (dk_at dksX8_number_1 5 rfl rfl)
theorem dX8_number_29 : decode cX8_number 29 = .ok (.aload_n 0, 1) := dk_42 (dk_at dksX8_number_1 6 rfl rfl)
theorem dX8_number_30 : decode cX8_number 30 = .ok (.getfield 52, 3) := dk_180 0 52 (dk_at dksX8_number_1 7 rfl rfl)
theorem dX8_number_33 : decode cX8_number 33 = .ok (.istore 4, 2) := dk_54 4 (dk_at dksX8_number_1 10 rfl rfl)
theorem dX8_number_35 : decode cX8_number 35 = .ok (.iload 4, 2) := dk_21 4 (dk_at dksX8_number_1 12 rfl rfl)
theorem dX8_number_37 : decode cX8_number 37 = .ok (.aload_n 0, 1) := dk_42 (dk_at dksX8_number_1 14 rfl rfl)
theorem dX8_number_38 : decode cX8_number 38 = .ok (.getfield 49, 3) := dk_180 0 49 (dk_at dksX8_number_1 15 rfl rfl)
theorem dX8_number_41 : decode cX8_number 41 = .ok (.if_icmp .ge 30, 3) := dk_162 0 30 (dk_at dksX8_number_1 18 rfl rfl)
theorem dX8_number_44 : decode cX8_number 44 = .ok (.iload_n 3, 1) := dk_29 (dk_at dksX8_number_1 21 rfl rfl)
theorem dX8_number_45 : decode cX8_number 45 = .ok (.iload_n 2, 1) := dk_28 (dk_at dksX8_number_1 22 rfl rfl)
theorem dX8_number_46 : decode cX8_number 46 = .ok (.if_icmp .gt 25, 3) := dk_163 0 25 (dk_at dksX8_number_2 0 rfl rfl)
theorem dX8_number_49 : decode cX8_number 49 = .ok (.bipush 10, 2) := dk_16 10 (dk_at dksX8_number_2 3 rfl rfl)
theorem dX8_number_51 : decode cX8_number 51 = .ok (.iload_n 3, 1) := dk_29 (dk_at dksX8_number_2 5 rfl rfl)
theorem dX8_number_52 : decode cX8_number 52 = .ok (.imul, 1) := dk_104 (dk_at dksX8_number_2 6 rfl rfl)
theorem dX8_number_53 : decode cX8_number 53 = .ok (.aload_n 0, 1) := dk_42 (dk_at dksX8_number_2 7 rfl rfl)
theorem dX8_number_54 : decode cX8_number 54 = .ok (.getfield 24, 3) := dk_180 0 24 (dk_at dksX8_number_2 8 rfl rfl)
theorem dX8_number_57 : decode cX8_number 57 = .ok (.iload 4, 2) := dk_21 4 (dk_at dksX8_number_2 11 rfl rfl)
theorem dX8_number_59 : decode cX8_number 59 = .ok (.baload, 1) := dk_51 (dk_at dksX8_number_2 13 rfl rfl)
theorem dX8_number_60 : decode cX8_number 60 = .ok (.iadd, 1) := dk_96 (dk_at dksX8_number_2 14 rfl rfl)
theorem dX8_number_61 : decode cX8_number 61 = .ok (.bipush 48, 2) := dk_16 48 (dk_at dksX8_number_2 15 rfl rfl)
theorem dX8_number_63 : decode cX8_number 63 = .ok (.isub, 1) := dk_100 (dk_at dksX8_number_2 17 rfl rfl)
theorem dX8_number_64 : decode cX8_number 64 = .ok (.istore_n 3, 1) := dk_62 (dk_at dksX8_number_2 18 rfl rfl)
theorem dX8_number_65 : decode cX8_number 65 = .ok (.iinc 4 1, 3) := dk_132 4 1 (dk_at dksX8_number_2 19 rfl rfl)
theorem dX8_number_68 : decode cX8_number 68 = .ok (.goto (-33), 3) := dk_167 255 223 (dk_at dksX8_number_3 0 rfl rfl)
theorem dX8_number_71 : decode cX8_number 71 = .ok (.iload_n 3, 1) := dk_29 (dk_at dksX8_number_3 3 rfl rfl)
theorem dX8_number_72 : decode cX8_number 72 = .ok (.iload_n 1, 1) := dk_27 (dk_at dksX8_number_3 4 rfl rfl)
theorem dX8_number_73 : decode cX8_number 73 = .ok (.if_icmp .lt 8, 3) := dk_161 0 8 (dk_at dksX8_number_3 5 rfl rfl)
theorem dX8_number_76 : decode cX8_number 76 = .ok (.iload_n 3, 1) := dk_29 (dk_at dksX8_number_3 8 rfl rfl)
theorem dX8_number_77 : decode cX8_number 77 = .ok (.iload_n 2, 1) := dk_28 (dk_at dksX8_number_3 9 rfl rfl)
theorem dX8_number_78 : decode cX8_number 78 = .ok (.if_icmp .le 15, 3) := dk_164 0 15 (dk_at dksX8_number_3 10 rfl rfl)
theorem dX8_number_81 : decode cX8_number 81 = .ok (.new 78, 3) := dk_187 0 78 (dk_at dksX8_number_3 13 rfl rfl)
theorem dX8_number_84 : decode cX8_number 84 = .ok (.dup, 1) := dk_89 (dk_at dksX8_number_3 16 rfl rfl)
theorem dX8_number_85 : decode cX8_number 85 = .ok (.aload_n 0, 1) := dk_42 (dk_at dksX8_number_3 17 rfl rfl)
theorem dX8_number_86 : decode cX8_number 86 = .ok (.getfield 52, 3) := dk_180 0 52 (dk_at dksX8_number_3 18 rfl rfl)
theorem dX8_number_89 : decode cX8_number 89 = .ok (.invokespecial 80, 3) := dk_183 0 80 (dk_at dksX8_number_3 21 rfl rfl)
theorem dX8_number_92 : decode cX8_number 92 = .ok (.athrow, 1) := dk_191 (dk_at dksX8_number_4 0 rfl rfl)
theorem dX8_number_93 : decode cX8_number 93 = .ok (.aload_n 0, 1) := dk_42 (dk_at dksX8_number_4 1 rfl rfl)
theorem dX8_number_94 : decode cX8_number 94 = .ok (.invokevirtual 72, 3) := dk_182 0 72 (dk_at dksX8_number_4 2 rfl rfl)
theorem dX8_number_97 : decode cX8_number 97 = .ok (.iload_n 3, 1) := dk_29 (dk_at dksX8_number_4 5 rfl rfl)
theorem dX8_number_98 : decode cX8_number 98 = .ok (.ireturn, 1) := dk_172 (dk_at dksX8_number_4 6 rfl rfl)
abbrev cX8_takes : ByteArray := prog_11_method_5_code
def yX8_takes : MethodName := ⟨RX8, "takes", "(Ljava/lang/String;)Z"⟩
def dkwX8_takes_0 : List UInt8 := [42, 43, 182, 0, 68, 61, 28, 153, 0, 7, 42, 182, 0, 72, 28, 172]
abbrev dktX8_takes_0 : List UInt8 := dkwX8_takes_0 ++ []
theorem dksX8_takes_0 : cX8_takes.data.toList.drop 0 = dktX8_takes_0 := by decide +kernel
theorem dX8_takes_0 : decode cX8_takes 0 = .ok (.aload_n 0, 1) := dk_42 (dk_at dksX8_takes_0 0 rfl rfl)
theorem dX8_takes_1 : decode cX8_takes 1 = .ok (.aload_n 1, 1) := dk_43 (dk_at dksX8_takes_0 1 rfl rfl)
theorem dX8_takes_2 : decode cX8_takes 2 = .ok (.invokevirtual 68, 3) := dk_182 0 68 (dk_at dksX8_takes_0 2 rfl rfl)
theorem dX8_takes_5 : decode cX8_takes 5 = .ok (.istore_n 2, 1) := dk_61 (dk_at dksX8_takes_0 5 rfl rfl)
theorem dX8_takes_6 : decode cX8_takes 6 = .ok (.iload_n 2, 1) := dk_28 (dk_at dksX8_takes_0 6 rfl rfl)
theorem dX8_takes_7 : decode cX8_takes 7 = .ok (.ifCond .eq 7, 3) := dk_153 0 7 (dk_at dksX8_takes_0 7 rfl rfl)
theorem dX8_takes_10 : decode cX8_takes 10 = .ok (.aload_n 0, 1) := dk_42 (dk_at dksX8_takes_0 10 rfl rfl)
theorem dX8_takes_11 : decode cX8_takes 11 = .ok (.invokevirtual 72, 3) := dk_182 0 72 (dk_at dksX8_takes_0 11 rfl rfl)
theorem dX8_takes_14 : decode cX8_takes 14 = .ok (.iload_n 2, 1) := dk_28 (dk_at dksX8_takes_0 14 rfl rfl)
theorem dX8_takes_15 : decode cX8_takes 15 = .ok (.ireturn, 1) := dk_172 (dk_at dksX8_takes_0 15 rfl rfl)
abbrev cX8_need : ByteArray := prog_11_method_6_code
def yX8_need : MethodName := ⟨RX8, "need", "(Ljava/lang/String;)V"⟩
def dkwX8_need_0 : List UInt8 := [42, 43, 182, 0, 75, 154, 0, 15, 187, 0, 78, 89, 42, 180, 0, 52, 183, 0, 80, 191, 177]
abbrev dktX8_need_0 : List UInt8 := dkwX8_need_0 ++ []
theorem dksX8_need_0 : cX8_need.data.toList.drop 0 = dktX8_need_0 := by decide +kernel
theorem dX8_need_0 : decode cX8_need 0 = .ok (.aload_n 0, 1) := dk_42 (dk_at dksX8_need_0 0 rfl rfl)
theorem dX8_need_1 : decode cX8_need 1 = .ok (.aload_n 1, 1) := dk_43 (dk_at dksX8_need_0 1 rfl rfl)
theorem dX8_need_2 : decode cX8_need 2 = .ok (.invokevirtual 75, 3) := dk_182 0 75 (dk_at dksX8_need_0 2 rfl rfl)
theorem dX8_need_5 : decode cX8_need 5 = .ok (.ifCond .ne 15, 3) := dk_154 0 15 (dk_at dksX8_need_0 5 rfl rfl)
theorem dX8_need_8 : decode cX8_need 8 = .ok (.new 78, 3) := dk_187 0 78 (dk_at dksX8_need_0 8 rfl rfl)
theorem dX8_need_11 : decode cX8_need 11 = .ok (.dup, 1) := dk_89 (dk_at dksX8_need_0 11 rfl rfl)
theorem dX8_need_12 : decode cX8_need 12 = .ok (.aload_n 0, 1) := dk_42 (dk_at dksX8_need_0 12 rfl rfl)
theorem dX8_need_13 : decode cX8_need 13 = .ok (.getfield 52, 3) := dk_180 0 52 (dk_at dksX8_need_0 13 rfl rfl)
theorem dX8_need_16 : decode cX8_need 16 = .ok (.invokespecial 80, 3) := dk_183 0 80 (dk_at dksX8_need_0 16 rfl rfl)
theorem dX8_need_19 : decode cX8_need 19 = .ok (.athrow, 1) := dk_191 (dk_at dksX8_need_0 19 rfl rfl)
theorem dX8_need_20 : decode cX8_need 20 = .ok (.return_, 1) := dk_177 (dk_at dksX8_need_0 20 rfl rfl)
abbrev cX8_below : ByteArray := prog_11_method_11_code
def yX8_below : MethodName := ⟨RX8, "below", "()V"⟩
def dkwX8_below_6 : List UInt8 := [182, 0, 118, 87, 177]
abbrev dktX8_below_6 : List UInt8 := dkwX8_below_6 ++ []
def dkwX8_below_5 : List UInt8 := [28, 92, 46, 4, 21, 4, 120, 128, 79, 42, 180, 0, 14, 187, 0, 123, 89, 28, 21, 4, 183, 0, 125]
abbrev dktX8_below_5 : List UInt8 := dkwX8_below_5 ++ dktX8_below_6
def dkwX8_below_4 : List UInt8 := [191, 42, 89, 180, 0, 45, 21, 5, 153, 0, 7, 4, 167, 0, 4, 3, 96, 181, 0, 45, 42, 180, 0, 20]
abbrev dktX8_below_4 : List UInt8 := dkwX8_below_4 ++ dktX8_below_5
def dkwX8_below_3 : List UInt8 := [54, 5, 21, 5, 153, 0, 21, 42, 180, 0, 45, 16, 6, 160, 0, 12, 187, 0, 78, 89, 27, 183, 0, 80]
abbrev dktX8_below_3 : List UInt8 := dkwX8_below_3 ++ dktX8_below_4
def dkwX8_below_2 : List UInt8 := [183, 0, 80, 191, 42, 180, 0, 20, 28, 46, 21, 4, 122, 4, 126, 154, 0, 7, 4, 167, 0, 4, 3]
abbrev dktX8_below_2 : List UInt8 := dkwX8_below_2 ++ dktX8_below_3
def dkwX8_below_1 : List UInt8 := [180, 0, 52, 62, 42, 3, 6, 182, 0, 100, 54, 4, 28, 21, 4, 160, 0, 12, 187, 0, 78, 89, 29]
abbrev dktX8_below_1 : List UInt8 := dkwX8_below_1 ++ dktX8_below_2
def dkwX8_below_0 : List UInt8 := [42, 180, 0, 52, 60, 42, 182, 0, 72, 42, 3, 6, 182, 0, 100, 61, 42, 18, 122, 182, 0, 107, 42]
abbrev dktX8_below_0 : List UInt8 := dkwX8_below_0 ++ dktX8_below_1
theorem dksX8_below_0 : cX8_below.data.toList.drop 0 = dktX8_below_0 := by decide +kernel
theorem dksX8_below_1 : cX8_below.data.toList.drop 23 = dktX8_below_1 := dk_seg dksX8_below_0 23 rfl rfl
theorem dksX8_below_2 : cX8_below.data.toList.drop 46 = dktX8_below_2 := dk_seg dksX8_below_1 23 rfl rfl
theorem dksX8_below_3 : cX8_below.data.toList.drop 69 = dktX8_below_3 := dk_seg dksX8_below_2 23 rfl rfl
theorem dksX8_below_4 : cX8_below.data.toList.drop 93 = dktX8_below_4 := dk_seg dksX8_below_3 24 rfl rfl
theorem dksX8_below_5 : cX8_below.data.toList.drop 117 = dktX8_below_5 := dk_seg dksX8_below_4 24 rfl rfl
theorem dksX8_below_6 : cX8_below.data.toList.drop 140 = dktX8_below_6 := dk_seg dksX8_below_5 23 rfl rfl
theorem dX8_below_0 : decode cX8_below 0 = .ok (.aload_n 0, 1) := dk_42 (dk_at dksX8_below_0 0 rfl rfl)
theorem dX8_below_1 : decode cX8_below 1 = .ok (.getfield 52, 3) := dk_180 0 52 (dk_at dksX8_below_0 1 rfl rfl)
theorem dX8_below_4 : decode cX8_below 4 = .ok (.istore_n 1, 1) := dk_60 (dk_at dksX8_below_0 4 rfl rfl)
theorem dX8_below_5 : decode cX8_below 5 = .ok (.aload_n 0, 1) := dk_42 (dk_at dksX8_below_0 5 rfl rfl)
theorem dX8_below_6 : decode cX8_below 6 = .ok (.invokevirtual 72, 3) := dk_182 0 72 (dk_at dksX8_below_0 6 rfl rfl)
theorem dX8_below_9 : decode cX8_below 9 = .ok (.aload_n 0, 1) := dk_42 (dk_at dksX8_below_0 9 rfl rfl)
theorem dX8_below_10 : decode cX8_below 10 = .ok (.iconst 0, 1) := dk_3 (dk_at dksX8_below_0 10 rfl rfl)
theorem dX8_below_11 : decode cX8_below 11 = .ok (.iconst 3, 1) := dk_6 (dk_at dksX8_below_0 11 rfl rfl)
theorem dX8_below_12 : decode cX8_below 12 = .ok (.invokevirtual 100, 3) := dk_182 0 100 (dk_at dksX8_below_0 12 rfl rfl)
theorem dX8_below_15 : decode cX8_below 15 = .ok (.istore_n 2, 1) := dk_61 (dk_at dksX8_below_0 15 rfl rfl)
theorem dX8_below_16 : decode cX8_below 16 = .ok (.aload_n 0, 1) := dk_42 (dk_at dksX8_below_0 16 rfl rfl)
theorem dX8_below_17 : decode cX8_below 17 = .ok (.ldc 122, 2) := dk_18 122 (dk_at dksX8_below_0 17 rfl rfl)
theorem dX8_below_19 : decode cX8_below 19 = .ok (.invokevirtual 107, 3) := dk_182 0 107 (dk_at dksX8_below_0 19 rfl rfl)
theorem dX8_below_22 : decode cX8_below 22 = .ok (.aload_n 0, 1) := dk_42 (dk_at dksX8_below_0 22 rfl rfl)
theorem dX8_below_23 : decode cX8_below 23 = .ok (.getfield 52, 3) := dk_180 0 52 (dk_at dksX8_below_1 0 rfl rfl)
theorem dX8_below_26 : decode cX8_below 26 = .ok (.istore_n 3, 1) := dk_62 (dk_at dksX8_below_1 3 rfl rfl)
theorem dX8_below_27 : decode cX8_below 27 = .ok (.aload_n 0, 1) := dk_42 (dk_at dksX8_below_1 4 rfl rfl)
theorem dX8_below_28 : decode cX8_below 28 = .ok (.iconst 0, 1) := dk_3 (dk_at dksX8_below_1 5 rfl rfl)
theorem dX8_below_29 : decode cX8_below 29 = .ok (.iconst 3, 1) := dk_6 (dk_at dksX8_below_1 6 rfl rfl)
theorem dX8_below_30 : decode cX8_below 30 = .ok (.invokevirtual 100, 3) := dk_182 0 100 (dk_at dksX8_below_1 7 rfl rfl)
theorem dX8_below_33 : decode cX8_below 33 = .ok (.istore 4, 2) := dk_54 4 (dk_at dksX8_below_1 10 rfl rfl)
theorem dX8_below_35 : decode cX8_below 35 = .ok (.iload_n 2, 1) := dk_28 (dk_at dksX8_below_1 12 rfl rfl)
theorem dX8_below_36 : decode cX8_below 36 = .ok (.iload 4, 2) := dk_21 4 (dk_at dksX8_below_1 13 rfl rfl)
theorem dX8_below_38 : decode cX8_below 38 = .ok (.if_icmp .ne 12, 3) := dk_160 0 12 (dk_at dksX8_below_1 15 rfl rfl)
theorem dX8_below_41 : decode cX8_below 41 = .ok (.new 78, 3) := dk_187 0 78 (dk_at dksX8_below_1 18 rfl rfl)
theorem dX8_below_44 : decode cX8_below 44 = .ok (.dup, 1) := dk_89 (dk_at dksX8_below_1 21 rfl rfl)
theorem dX8_below_45 : decode cX8_below 45 = .ok (.iload_n 3, 1) := dk_29 (dk_at dksX8_below_1 22 rfl rfl)
theorem dX8_below_46 : decode cX8_below 46 = .ok (.invokespecial 80, 3) := dk_183 0 80 (dk_at dksX8_below_2 0 rfl rfl)
theorem dX8_below_49 : decode cX8_below 49 = .ok (.athrow, 1) := dk_191 (dk_at dksX8_below_2 3 rfl rfl)
theorem dX8_below_50 : decode cX8_below 50 = .ok (.aload_n 0, 1) := dk_42 (dk_at dksX8_below_2 4 rfl rfl)
theorem dX8_below_51 : decode cX8_below 51 = .ok (.getfield 20, 3) := dk_180 0 20 (dk_at dksX8_below_2 5 rfl rfl)
theorem dX8_below_54 : decode cX8_below 54 = .ok (.iload_n 2, 1) := dk_28 (dk_at dksX8_below_2 8 rfl rfl)
theorem dX8_below_55 : decode cX8_below 55 = .ok (.iaload, 1) := dk_46 (dk_at dksX8_below_2 9 rfl rfl)
theorem dX8_below_56 : decode cX8_below 56 = .ok (.iload 4, 2) := dk_21 4 (dk_at dksX8_below_2 10 rfl rfl)
theorem dX8_below_58 : decode cX8_below 58 = .ok (.ishr, 1) := dk_122 (dk_at dksX8_below_2 12 rfl rfl)
theorem dX8_below_59 : decode cX8_below 59 = .ok (.iconst 1, 1) := dk_4 (dk_at dksX8_below_2 13 rfl rfl)
theorem dX8_below_60 : decode cX8_below 60 = .ok (.iand, 1) := dk_126 (dk_at dksX8_below_2 14 rfl rfl)
theorem dX8_below_61 : decode cX8_below 61 = .ok (.ifCond .ne 7, 3) := dk_154 0 7 (dk_at dksX8_below_2 15 rfl rfl)
theorem dX8_below_64 : decode cX8_below 64 = .ok (.iconst 1, 1) := dk_4 (dk_at dksX8_below_2 18 rfl rfl)
theorem dX8_below_65 : decode cX8_below 65 = .ok (.goto 4, 3) := dk_167 0 4 (dk_at dksX8_below_2 19 rfl rfl)
theorem dX8_below_68 : decode cX8_below 68 = .ok (.iconst 0, 1) := dk_3 (dk_at dksX8_below_2 22 rfl rfl)
theorem dX8_below_69 : decode cX8_below 69 = .ok (.istore 5, 2) := dk_54 5 (dk_at dksX8_below_3 0 rfl rfl)
theorem dX8_below_71 : decode cX8_below 71 = .ok (.iload 5, 2) := dk_21 5 (dk_at dksX8_below_3 2 rfl rfl)
theorem dX8_below_73 : decode cX8_below 73 = .ok (.ifCond .eq 21, 3) := dk_153 0 21 (dk_at dksX8_below_3 4 rfl rfl)
theorem dX8_below_76 : decode cX8_below 76 = .ok (.aload_n 0, 1) := dk_42 (dk_at dksX8_below_3 7 rfl rfl)
theorem dX8_below_77 : decode cX8_below 77 = .ok (.getfield 45, 3) := dk_180 0 45 (dk_at dksX8_below_3 8 rfl rfl)
theorem dX8_below_80 : decode cX8_below 80 = .ok (.bipush 6, 2) := dk_16 6 (dk_at dksX8_below_3 11 rfl rfl)
theorem dX8_below_82 : decode cX8_below 82 = .ok (.if_icmp .ne 12, 3) := dk_160 0 12 (dk_at dksX8_below_3 13 rfl rfl)
theorem dX8_below_85 : decode cX8_below 85 = .ok (.new 78, 3) := dk_187 0 78 (dk_at dksX8_below_3 16 rfl rfl)
theorem dX8_below_88 : decode cX8_below 88 = .ok (.dup, 1) := dk_89 (dk_at dksX8_below_3 19 rfl rfl)
theorem dX8_below_89 : decode cX8_below 89 = .ok (.iload_n 1, 1) := dk_27 (dk_at dksX8_below_3 20 rfl rfl)
theorem dX8_below_90 : decode cX8_below 90 = .ok (.invokespecial 80, 3) := dk_183 0 80 (dk_at dksX8_below_3 21 rfl rfl)
theorem dX8_below_93 : decode cX8_below 93 = .ok (.athrow, 1) := dk_191 (dk_at dksX8_below_4 0 rfl rfl)
theorem dX8_below_94 : decode cX8_below 94 = .ok (.aload_n 0, 1) := dk_42 (dk_at dksX8_below_4 1 rfl rfl)
theorem dX8_below_95 : decode cX8_below 95 = .ok (.dup, 1) := dk_89 (dk_at dksX8_below_4 2 rfl rfl)
theorem dX8_below_96 : decode cX8_below 96 = .ok (.getfield 45, 3) := dk_180 0 45 (dk_at dksX8_below_4 3 rfl rfl)
theorem dX8_below_99 : decode cX8_below 99 = .ok (.iload 5, 2) := dk_21 5 (dk_at dksX8_below_4 6 rfl rfl)
theorem dX8_below_101 : decode cX8_below 101 = .ok (.ifCond .eq 7, 3) := dk_153 0 7 (dk_at dksX8_below_4 8 rfl rfl)
theorem dX8_below_104 : decode cX8_below 104 = .ok (.iconst 1, 1) := dk_4 (dk_at dksX8_below_4 11 rfl rfl)
theorem dX8_below_105 : decode cX8_below 105 = .ok (.goto 4, 3) := dk_167 0 4 (dk_at dksX8_below_4 12 rfl rfl)
theorem dX8_below_108 : decode cX8_below 108 = .ok (.iconst 0, 1) := dk_3 (dk_at dksX8_below_4 15 rfl rfl)
theorem dX8_below_109 : decode cX8_below 109 = .ok (.iadd, 1) := dk_96 (dk_at dksX8_below_4 16 rfl rfl)
theorem dX8_below_110 : decode cX8_below 110 = .ok (.putfield 45, 3) := dk_181 0 45 (dk_at dksX8_below_4 17 rfl rfl)
theorem dX8_below_113 : decode cX8_below 113 = .ok (.aload_n 0, 1) := dk_42 (dk_at dksX8_below_4 20 rfl rfl)
theorem dX8_below_114 : decode cX8_below 114 = .ok (.getfield 20, 3) := dk_180 0 20 (dk_at dksX8_below_4 21 rfl rfl)
theorem dX8_below_117 : decode cX8_below 117 = .ok (.iload_n 2, 1) := dk_28 (dk_at dksX8_below_5 0 rfl rfl)
theorem dX8_below_118 : decode cX8_below 118 = .ok (.dup2, 1) := dk_92 (dk_at dksX8_below_5 1 rfl rfl)
theorem dX8_below_119 : decode cX8_below 119 = .ok (.iaload, 1) := dk_46 (dk_at dksX8_below_5 2 rfl rfl)
theorem dX8_below_120 : decode cX8_below 120 = .ok (.iconst 1, 1) := dk_4 (dk_at dksX8_below_5 3 rfl rfl)
theorem dX8_below_121 : decode cX8_below 121 = .ok (.iload 4, 2) := dk_21 4 (dk_at dksX8_below_5 4 rfl rfl)
theorem dX8_below_123 : decode cX8_below 123 = .ok (.ishl, 1) := dk_120 (dk_at dksX8_below_5 6 rfl rfl)
theorem dX8_below_124 : decode cX8_below 124 = .ok (.ior, 1) := dk_128 (dk_at dksX8_below_5 7 rfl rfl)
theorem dX8_below_125 : decode cX8_below 125 = .ok (.iastore, 1) := dk_79 (dk_at dksX8_below_5 8 rfl rfl)
theorem dX8_below_126 : decode cX8_below 126 = .ok (.aload_n 0, 1) := dk_42 (dk_at dksX8_below_5 9 rfl rfl)
theorem dX8_below_127 : decode cX8_below 127 = .ok (.getfield 14, 3) := dk_180 0 14 (dk_at dksX8_below_5 10 rfl rfl)
theorem dX8_below_130 : decode cX8_below 130 = .ok (.new 123, 3) := dk_187 0 123 (dk_at dksX8_below_5 13 rfl rfl)
theorem dX8_below_133 : decode cX8_below 133 = .ok (.dup, 1) := dk_89 (dk_at dksX8_below_5 16 rfl rfl)
theorem dX8_below_134 : decode cX8_below 134 = .ok (.iload_n 2, 1) := dk_28 (dk_at dksX8_below_5 17 rfl rfl)
theorem dX8_below_135 : decode cX8_below 135 = .ok (.iload 4, 2) := dk_21 4 (dk_at dksX8_below_5 18 rfl rfl)
theorem dX8_below_137 : decode cX8_below 137 = .ok (.invokespecial 125, 3) := dk_183 0 125 (dk_at dksX8_below_5 20 rfl rfl)
theorem dX8_below_140 : decode cX8_below 140 = .ok (.invokevirtual 118, 3) := dk_182 0 118 (dk_at dksX8_below_6 0 rfl rfl)
theorem dX8_below_143 : decode cX8_below 143 = .ok (.pop, 1) := dk_87 (dk_at dksX8_below_6 3 rfl rfl)
theorem dX8_below_144 : decode cX8_below 144 = .ok (.return_, 1) := dk_177 (dk_at dksX8_below_6 4 rfl rfl)
abbrev cX8_thing : ByteArray := prog_11_method_12_code
def yX8_thing : MethodName := ⟨RX8, "thing", "()V"⟩
def dkwX8_thing_5 : List UInt8 := [182, 0, 141, 182, 0, 118, 87, 167, 255, 234, 42, 180, 0, 14, 44, 182, 0, 118, 87, 177]
abbrev dktX8_thing_5 : List UInt8 := dkwX8_thing_5 ++ []
def dkwX8_thing_4 : List UInt8 := [27, 182, 0, 141, 182, 0, 118, 87, 42, 18, 145, 182, 0, 75, 153, 0, 19, 44, 180, 0, 140, 42, 27]
abbrev dktX8_thing_4 : List UInt8 := dkwX8_thing_4 ++ dktX8_thing_5
def dkwX8_thing_3 : List UInt8 := [182, 0, 100, 183, 0, 134, 182, 0, 118, 87, 177, 187, 0, 137, 89, 183, 0, 139, 77, 44, 180, 0, 140, 42]
abbrev dktX8_thing_3 : List UInt8 := dkwX8_thing_3 ++ dktX8_thing_4
def dkwX8_thing_2 : List UInt8 := [167, 0, 32, 42, 18, 135, 182, 0, 107, 42, 180, 0, 14, 187, 0, 132, 89, 27, 42, 4, 16, 31]
abbrev dktX8_thing_2 : List UInt8 := dkwX8_thing_2 ++ dktX8_thing_3
def dkwX8_thing_1 : List UInt8 := [182, 0, 75, 153, 0, 23, 42, 180, 0, 14, 187, 0, 132, 89, 27, 2, 183, 0, 134, 182, 0, 118, 87]
abbrev dktX8_thing_1 : List UInt8 := dkwX8_thing_1 ++ dktX8_thing_2
def dkwX8_thing_0 : List UInt8 := [42, 182, 0, 72, 42, 3, 8, 182, 0, 100, 60, 42, 18, 128, 182, 0, 75, 153, 0, 62, 42, 18, 130]
abbrev dktX8_thing_0 : List UInt8 := dkwX8_thing_0 ++ dktX8_thing_1
theorem dksX8_thing_0 : cX8_thing.data.toList.drop 0 = dktX8_thing_0 := by decide +kernel
theorem dksX8_thing_1 : cX8_thing.data.toList.drop 23 = dktX8_thing_1 := dk_seg dksX8_thing_0 23 rfl rfl
theorem dksX8_thing_2 : cX8_thing.data.toList.drop 46 = dktX8_thing_2 := dk_seg dksX8_thing_1 23 rfl rfl
theorem dksX8_thing_3 : cX8_thing.data.toList.drop 68 = dktX8_thing_3 := dk_seg dksX8_thing_2 22 rfl rfl
theorem dksX8_thing_4 : cX8_thing.data.toList.drop 92 = dktX8_thing_4 := dk_seg dksX8_thing_3 24 rfl rfl
theorem dksX8_thing_5 : cX8_thing.data.toList.drop 115 = dktX8_thing_5 := dk_seg dksX8_thing_4 23 rfl rfl
theorem dX8_thing_0 : decode cX8_thing 0 = .ok (.aload_n 0, 1) := dk_42 (dk_at dksX8_thing_0 0 rfl rfl)
theorem dX8_thing_1 : decode cX8_thing 1 = .ok (.invokevirtual 72, 3) := dk_182 0 72 (dk_at dksX8_thing_0 1 rfl rfl)
theorem dX8_thing_4 : decode cX8_thing 4 = .ok (.aload_n 0, 1) := dk_42 (dk_at dksX8_thing_0 4 rfl rfl)
theorem dX8_thing_5 : decode cX8_thing 5 = .ok (.iconst 0, 1) := dk_3 (dk_at dksX8_thing_0 5 rfl rfl)
theorem dX8_thing_6 : decode cX8_thing 6 = .ok (.iconst 5, 1) := dk_8 (dk_at dksX8_thing_0 6 rfl rfl)
theorem dX8_thing_7 : decode cX8_thing 7 = .ok (.invokevirtual 100, 3) := dk_182 0 100 (dk_at dksX8_thing_0 7 rfl rfl)
theorem dX8_thing_10 : decode cX8_thing 10 = .ok (.istore_n 1, 1) := dk_60 (dk_at dksX8_thing_0 10 rfl rfl)
theorem dX8_thing_11 : decode cX8_thing 11 = .ok (.aload_n 0, 1) := dk_42 (dk_at dksX8_thing_0 11 rfl rfl)
theorem dX8_thing_12 : decode cX8_thing 12 = .ok (.ldc 128, 2) := dk_18 128 (dk_at dksX8_thing_0 12 rfl rfl)
theorem dX8_thing_14 : decode cX8_thing 14 = .ok (.invokevirtual 75, 3) := dk_182 0 75 (dk_at dksX8_thing_0 14 rfl rfl)
theorem dX8_thing_17 : decode cX8_thing 17 = .ok (.ifCond .eq 62, 3) := dk_153 0 62 (dk_at dksX8_thing_0 17 rfl rfl)
theorem dX8_thing_20 : decode cX8_thing 20 = .ok (.aload_n 0, 1) := dk_42 (dk_at dksX8_thing_0 20 rfl rfl)
theorem dX8_thing_21 : decode cX8_thing 21 = .ok (.ldc 130, 2) := dk_18 130 (dk_at dksX8_thing_0 21 rfl rfl)
theorem dX8_thing_23 : decode cX8_thing 23 = .ok (.invokevirtual 75, 3) := dk_182 0 75 (dk_at dksX8_thing_1 0 rfl rfl)
theorem dX8_thing_26 : decode cX8_thing 26 = .ok (.ifCond .eq 23, 3) := dk_153 0 23 (dk_at dksX8_thing_1 3 rfl rfl)
theorem dX8_thing_29 : decode cX8_thing 29 = .ok (.aload_n 0, 1) := dk_42 (dk_at dksX8_thing_1 6 rfl rfl)
theorem dX8_thing_30 : decode cX8_thing 30 = .ok (.getfield 14, 3) := dk_180 0 14 (dk_at dksX8_thing_1 7 rfl rfl)
theorem dX8_thing_33 : decode cX8_thing 33 = .ok (.new 132, 3) := dk_187 0 132 (dk_at dksX8_thing_1 10 rfl rfl)
theorem dX8_thing_36 : decode cX8_thing 36 = .ok (.dup, 1) := dk_89 (dk_at dksX8_thing_1 13 rfl rfl)
theorem dX8_thing_37 : decode cX8_thing 37 = .ok (.iload_n 1, 1) := dk_27 (dk_at dksX8_thing_1 14 rfl rfl)
theorem dX8_thing_38 : decode cX8_thing 38 = .ok (.iconst (-1), 1) := dk_2 (dk_at dksX8_thing_1 15 rfl rfl)
theorem dX8_thing_39 : decode cX8_thing 39 = .ok (.invokespecial 134, 3) := dk_183 0 134 (dk_at dksX8_thing_1 16 rfl rfl)
theorem dX8_thing_42 : decode cX8_thing 42 = .ok (.invokevirtual 118, 3) := dk_182 0 118 (dk_at dksX8_thing_1 19 rfl rfl)
theorem dX8_thing_45 : decode cX8_thing 45 = .ok (.pop, 1) := dk_87 (dk_at dksX8_thing_1 22 rfl rfl)
theorem dX8_thing_46 : decode cX8_thing 46 = .ok (.goto 32, 3) := dk_167 0 32 (dk_at dksX8_thing_2 0 rfl rfl)
theorem dX8_thing_49 : decode cX8_thing 49 = .ok (.aload_n 0, 1) := dk_42 (dk_at dksX8_thing_2 3 rfl rfl)
theorem dX8_thing_50 : decode cX8_thing 50 = .ok (.ldc 135, 2) := dk_18 135 (dk_at dksX8_thing_2 4 rfl rfl)
theorem dX8_thing_52 : decode cX8_thing 52 = .ok (.invokevirtual 107, 3) := dk_182 0 107 (dk_at dksX8_thing_2 6 rfl rfl)
theorem dX8_thing_55 : decode cX8_thing 55 = .ok (.aload_n 0, 1) := dk_42 (dk_at dksX8_thing_2 9 rfl rfl)
theorem dX8_thing_56 : decode cX8_thing 56 = .ok (.getfield 14, 3) := dk_180 0 14 (dk_at dksX8_thing_2 10 rfl rfl)
theorem dX8_thing_59 : decode cX8_thing 59 = .ok (.new 132, 3) := dk_187 0 132 (dk_at dksX8_thing_2 13 rfl rfl)
theorem dX8_thing_62 : decode cX8_thing 62 = .ok (.dup, 1) := dk_89 (dk_at dksX8_thing_2 16 rfl rfl)
theorem dX8_thing_63 : decode cX8_thing 63 = .ok (.iload_n 1, 1) := dk_27 (dk_at dksX8_thing_2 17 rfl rfl)
theorem dX8_thing_64 : decode cX8_thing 64 = .ok (.aload_n 0, 1) := dk_42 (dk_at dksX8_thing_2 18 rfl rfl)
theorem dX8_thing_65 : decode cX8_thing 65 = .ok (.iconst 1, 1) := dk_4 (dk_at dksX8_thing_2 19 rfl rfl)
theorem dX8_thing_66 : decode cX8_thing 66 = .ok (.bipush 31, 2) := dk_16 31 (dk_at dksX8_thing_2 20 rfl rfl)
theorem dX8_thing_68 : decode cX8_thing 68 = .ok (.invokevirtual 100, 3) := dk_182 0 100 (dk_at dksX8_thing_3 0 rfl rfl)
theorem dX8_thing_71 : decode cX8_thing 71 = .ok (.invokespecial 134, 3) := dk_183 0 134 (dk_at dksX8_thing_3 3 rfl rfl)
theorem dX8_thing_74 : decode cX8_thing 74 = .ok (.invokevirtual 118, 3) := dk_182 0 118 (dk_at dksX8_thing_3 6 rfl rfl)
theorem dX8_thing_77 : decode cX8_thing 77 = .ok (.pop, 1) := dk_87 (dk_at dksX8_thing_3 9 rfl rfl)
theorem dX8_thing_78 : decode cX8_thing 78 = .ok (.return_, 1) := dk_177 (dk_at dksX8_thing_3 10 rfl rfl)
theorem dX8_thing_79 : decode cX8_thing 79 = .ok (.new 137, 3) := dk_187 0 137 (dk_at dksX8_thing_3 11 rfl rfl)
theorem dX8_thing_82 : decode cX8_thing 82 = .ok (.dup, 1) := dk_89 (dk_at dksX8_thing_3 14 rfl rfl)
theorem dX8_thing_83 : decode cX8_thing 83 = .ok (.invokespecial 139, 3) := dk_183 0 139 (dk_at dksX8_thing_3 15 rfl rfl)
theorem dX8_thing_86 : decode cX8_thing 86 = .ok (.astore_n 2, 1) := dk_77 (dk_at dksX8_thing_3 18 rfl rfl)
theorem dX8_thing_87 : decode cX8_thing 87 = .ok (.aload_n 2, 1) := dk_44 (dk_at dksX8_thing_3 19 rfl rfl)
theorem dX8_thing_88 : decode cX8_thing 88 = .ok (.getfield 140, 3) := dk_180 0 140 (dk_at dksX8_thing_3 20 rfl rfl)
theorem dX8_thing_91 : decode cX8_thing 91 = .ok (.aload_n 0, 1) := dk_42 (dk_at dksX8_thing_3 23 rfl rfl)
theorem dX8_thing_92 : decode cX8_thing 92 = .ok (.iload_n 1, 1) := dk_27 (dk_at dksX8_thing_4 0 rfl rfl)
theorem dX8_thing_93 : decode cX8_thing 93 = .ok (.invokevirtual 141, 3) := dk_182 0 141 (dk_at dksX8_thing_4 1 rfl rfl)
theorem dX8_thing_96 : decode cX8_thing 96 = .ok (.invokevirtual 118, 3) := dk_182 0 118 (dk_at dksX8_thing_4 4 rfl rfl)
theorem dX8_thing_99 : decode cX8_thing 99 = .ok (.pop, 1) := dk_87 (dk_at dksX8_thing_4 7 rfl rfl)
theorem dX8_thing_100 : decode cX8_thing 100 = .ok (.aload_n 0, 1) := dk_42 (dk_at dksX8_thing_4 8 rfl rfl)
theorem dX8_thing_101 : decode cX8_thing 101 = .ok (.ldc 145, 2) := dk_18 145 (dk_at dksX8_thing_4 9 rfl rfl)
theorem dX8_thing_103 : decode cX8_thing 103 = .ok (.invokevirtual 75, 3) := dk_182 0 75 (dk_at dksX8_thing_4 11 rfl rfl)
theorem dX8_thing_106 : decode cX8_thing 106 = .ok (.ifCond .eq 19, 3) := dk_153 0 19 (dk_at dksX8_thing_4 14 rfl rfl)
theorem dX8_thing_109 : decode cX8_thing 109 = .ok (.aload_n 2, 1) := dk_44 (dk_at dksX8_thing_4 17 rfl rfl)
theorem dX8_thing_110 : decode cX8_thing 110 = .ok (.getfield 140, 3) := dk_180 0 140 (dk_at dksX8_thing_4 18 rfl rfl)
theorem dX8_thing_113 : decode cX8_thing 113 = .ok (.aload_n 0, 1) := dk_42 (dk_at dksX8_thing_4 21 rfl rfl)
theorem dX8_thing_114 : decode cX8_thing 114 = .ok (.iload_n 1, 1) := dk_27 (dk_at dksX8_thing_4 22 rfl rfl)
theorem dX8_thing_115 : decode cX8_thing 115 = .ok (.invokevirtual 141, 3) := dk_182 0 141 (dk_at dksX8_thing_5 0 rfl rfl)
theorem dX8_thing_118 : decode cX8_thing 118 = .ok (.invokevirtual 118, 3) := dk_182 0 118 (dk_at dksX8_thing_5 3 rfl rfl)
theorem dX8_thing_121 : decode cX8_thing 121 = .ok (.pop, 1) := dk_87 (dk_at dksX8_thing_5 6 rfl rfl)
theorem dX8_thing_122 : decode cX8_thing 122 = .ok (.goto (-22), 3) := dk_167 255 234 (dk_at dksX8_thing_5 7 rfl rfl)
theorem dX8_thing_125 : decode cX8_thing 125 = .ok (.aload_n 0, 1) := dk_42 (dk_at dksX8_thing_5 10 rfl rfl)
theorem dX8_thing_126 : decode cX8_thing 126 = .ok (.getfield 14, 3) := dk_180 0 14 (dk_at dksX8_thing_5 11 rfl rfl)
theorem dX8_thing_129 : decode cX8_thing 129 = .ok (.aload_n 2, 1) := dk_44 (dk_at dksX8_thing_5 14 rfl rfl)
theorem dX8_thing_130 : decode cX8_thing 130 = .ok (.invokevirtual 118, 3) := dk_182 0 118 (dk_at dksX8_thing_5 15 rfl rfl)
theorem dX8_thing_133 : decode cX8_thing 133 = .ok (.pop, 1) := dk_87 (dk_at dksX8_thing_5 18 rfl rfl)
theorem dX8_thing_134 : decode cX8_thing 134 = .ok (.return_, 1) := dk_177 (dk_at dksX8_thing_5 19 rfl rfl)
abbrev cX8_measure : ByteArray := prog_11_method_13_code
def yX8_measure : MethodName := ⟨RX8, "measure", "(I)LWeekFoot$Entry;"⟩
def dkwX8_measure_5 : List UInt8 := [183, 0, 156, 176]
abbrev dktX8_measure_5 : List UInt8 := dkwX8_measure_5 ++ []
def dkwX8_measure_4 : List UInt8 := [54, 4, 21, 4, 154, 0, 10, 42, 18, 152, 182, 0, 75, 87, 187, 0, 154, 89, 27, 28, 29, 21, 4]
abbrev dktX8_measure_4 : List UInt8 := dkwX8_measure_4 ++ dktX8_measure_5
def dkwX8_measure_3 : List UInt8 := [182, 0, 75, 153, 0, 7, 4, 167, 0, 17, 42, 18, 150, 182, 0, 75, 153, 0, 7, 5, 167, 0, 4, 3]
abbrev dktX8_measure_3 : List UInt8 := dkwX8_measure_3 ++ dktX8_measure_4
def dkwX8_measure_2 : List UInt8 := [16, 31, 182, 0, 100, 61, 42, 18, 147, 182, 0, 107, 42, 4, 16, 99, 182, 0, 100, 62, 42, 18, 148]
abbrev dktX8_measure_2 : List UInt8 := dkwX8_measure_2 ++ dktX8_measure_3
def dkwX8_measure_1 : List UInt8 := [180, 0, 52, 183, 0, 80, 191, 42, 89, 180, 0, 40, 4, 96, 181, 0, 40, 42, 182, 0, 72, 42, 3]
abbrev dktX8_measure_1 : List UInt8 := dkwX8_measure_1 ++ dktX8_measure_2
def dkwX8_measure_0 : List UInt8 := [42, 18, 135, 182, 0, 68, 153, 0, 12, 42, 180, 0, 40, 16, 24, 160, 0, 15, 187, 0, 78, 89, 42]
abbrev dktX8_measure_0 : List UInt8 := dkwX8_measure_0 ++ dktX8_measure_1
theorem dksX8_measure_0 : cX8_measure.data.toList.drop 0 = dktX8_measure_0 := by decide +kernel
theorem dksX8_measure_1 : cX8_measure.data.toList.drop 23 = dktX8_measure_1 := dk_seg dksX8_measure_0 23 rfl rfl
theorem dksX8_measure_2 : cX8_measure.data.toList.drop 46 = dktX8_measure_2 := dk_seg dksX8_measure_1 23 rfl rfl
theorem dksX8_measure_3 : cX8_measure.data.toList.drop 69 = dktX8_measure_3 := dk_seg dksX8_measure_2 23 rfl rfl
theorem dksX8_measure_4 : cX8_measure.data.toList.drop 93 = dktX8_measure_4 := dk_seg dksX8_measure_3 24 rfl rfl
theorem dksX8_measure_5 : cX8_measure.data.toList.drop 116 = dktX8_measure_5 := dk_seg dksX8_measure_4 23 rfl rfl
theorem dX8_measure_0 : decode cX8_measure 0 = .ok (.aload_n 0, 1) := dk_42 (dk_at dksX8_measure_0 0 rfl rfl)
theorem dX8_measure_1 : decode cX8_measure 1 = .ok (.ldc 135, 2) := dk_18 135 (dk_at dksX8_measure_0 1 rfl rfl)
theorem dX8_measure_3 : decode cX8_measure 3 = .ok (.invokevirtual 68, 3) := dk_182 0 68 (dk_at dksX8_measure_0 3 rfl rfl)
theorem dX8_measure_6 : decode cX8_measure 6 = .ok (.ifCond .eq 12, 3) := dk_153 0 12 (dk_at dksX8_measure_0 6 rfl rfl)
theorem dX8_measure_9 : decode cX8_measure 9 = .ok (.aload_n 0, 1) := dk_42 (dk_at dksX8_measure_0 9 rfl rfl)
theorem dX8_measure_10 : decode cX8_measure 10 = .ok (.getfield 40, 3) := dk_180 0 40 (dk_at dksX8_measure_0 10 rfl rfl)
theorem dX8_measure_13 : decode cX8_measure 13 = .ok (.bipush 24, 2) := dk_16 24 (dk_at dksX8_measure_0 13 rfl rfl)
theorem dX8_measure_15 : decode cX8_measure 15 = .ok (.if_icmp .ne 15, 3) := dk_160 0 15 (dk_at dksX8_measure_0 15 rfl rfl)
theorem dX8_measure_18 : decode cX8_measure 18 = .ok (.new 78, 3) := dk_187 0 78 (dk_at dksX8_measure_0 18 rfl rfl)
theorem dX8_measure_21 : decode cX8_measure 21 = .ok (.dup, 1) := dk_89 (dk_at dksX8_measure_0 21 rfl rfl)
theorem dX8_measure_22 : decode cX8_measure 22 = .ok (.aload_n 0, 1) := dk_42 (dk_at dksX8_measure_0 22 rfl rfl)
theorem dX8_measure_23 : decode cX8_measure 23 = .ok (.getfield 52, 3) := dk_180 0 52 (dk_at dksX8_measure_1 0 rfl rfl)
theorem dX8_measure_26 : decode cX8_measure 26 = .ok (.invokespecial 80, 3) := dk_183 0 80 (dk_at dksX8_measure_1 3 rfl rfl)
theorem dX8_measure_29 : decode cX8_measure 29 = .ok (.athrow, 1) := dk_191 (dk_at dksX8_measure_1 6 rfl rfl)
theorem dX8_measure_30 : decode cX8_measure 30 = .ok (.aload_n 0, 1) := dk_42 (dk_at dksX8_measure_1 7 rfl rfl)
theorem dX8_measure_31 : decode cX8_measure 31 = .ok (.dup, 1) := dk_89 (dk_at dksX8_measure_1 8 rfl rfl)
theorem dX8_measure_32 : decode cX8_measure 32 = .ok (.getfield 40, 3) := dk_180 0 40 (dk_at dksX8_measure_1 9 rfl rfl)
theorem dX8_measure_35 : decode cX8_measure 35 = .ok (.iconst 1, 1) := dk_4 (dk_at dksX8_measure_1 12 rfl rfl)
theorem dX8_measure_36 : decode cX8_measure 36 = .ok (.iadd, 1) := dk_96 (dk_at dksX8_measure_1 13 rfl rfl)
theorem dX8_measure_37 : decode cX8_measure 37 = .ok (.putfield 40, 3) := dk_181 0 40 (dk_at dksX8_measure_1 14 rfl rfl)
theorem dX8_measure_40 : decode cX8_measure 40 = .ok (.aload_n 0, 1) := dk_42 (dk_at dksX8_measure_1 17 rfl rfl)
theorem dX8_measure_41 : decode cX8_measure 41 = .ok (.invokevirtual 72, 3) := dk_182 0 72 (dk_at dksX8_measure_1 18 rfl rfl)
theorem dX8_measure_44 : decode cX8_measure 44 = .ok (.aload_n 0, 1) := dk_42 (dk_at dksX8_measure_1 21 rfl rfl)
theorem dX8_measure_45 : decode cX8_measure 45 = .ok (.iconst 0, 1) := dk_3 (dk_at dksX8_measure_1 22 rfl rfl)
theorem dX8_measure_46 : decode cX8_measure 46 = .ok (.bipush 31, 2) := dk_16 31 (dk_at dksX8_measure_2 0 rfl rfl)
theorem dX8_measure_48 : decode cX8_measure 48 = .ok (.invokevirtual 100, 3) := dk_182 0 100 (dk_at dksX8_measure_2 2 rfl rfl)
theorem dX8_measure_51 : decode cX8_measure 51 = .ok (.istore_n 2, 1) := dk_61 (dk_at dksX8_measure_2 5 rfl rfl)
theorem dX8_measure_52 : decode cX8_measure 52 = .ok (.aload_n 0, 1) := dk_42 (dk_at dksX8_measure_2 6 rfl rfl)
theorem dX8_measure_53 : decode cX8_measure 53 = .ok (.ldc 147, 2) := dk_18 147 (dk_at dksX8_measure_2 7 rfl rfl)
theorem dX8_measure_55 : decode cX8_measure 55 = .ok (.invokevirtual 107, 3) := dk_182 0 107 (dk_at dksX8_measure_2 9 rfl rfl)
theorem dX8_measure_58 : decode cX8_measure 58 = .ok (.aload_n 0, 1) := dk_42 (dk_at dksX8_measure_2 12 rfl rfl)
theorem dX8_measure_59 : decode cX8_measure 59 = .ok (.iconst 1, 1) := dk_4 (dk_at dksX8_measure_2 13 rfl rfl)
theorem dX8_measure_60 : decode cX8_measure 60 = .ok (.bipush 99, 2) := dk_16 99 (dk_at dksX8_measure_2 14 rfl rfl)
theorem dX8_measure_62 : decode cX8_measure 62 = .ok (.invokevirtual 100, 3) := dk_182 0 100 (dk_at dksX8_measure_2 16 rfl rfl)
theorem dX8_measure_65 : decode cX8_measure 65 = .ok (.istore_n 3, 1) := dk_62 (dk_at dksX8_measure_2 19 rfl rfl)
theorem dX8_measure_66 : decode cX8_measure 66 = .ok (.aload_n 0, 1) := dk_42 (dk_at dksX8_measure_2 20 rfl rfl)
theorem dX8_measure_67 : decode cX8_measure 67 = .ok (.ldc 148, 2) := dk_18 148 (dk_at dksX8_measure_2 21 rfl rfl)
theorem dX8_measure_69 : decode cX8_measure 69 = .ok (.invokevirtual 75, 3) := dk_182 0 75 (dk_at dksX8_measure_3 0 rfl rfl)
theorem dX8_measure_72 : decode cX8_measure 72 = .ok (.ifCond .eq 7, 3) := dk_153 0 7 (dk_at dksX8_measure_3 3 rfl rfl)
theorem dX8_measure_75 : decode cX8_measure 75 = .ok (.iconst 1, 1) := dk_4 (dk_at dksX8_measure_3 6 rfl rfl)
theorem dX8_measure_76 : decode cX8_measure 76 = .ok (.goto 17, 3) := dk_167 0 17 (dk_at dksX8_measure_3 7 rfl rfl)
theorem dX8_measure_79 : decode cX8_measure 79 = .ok (.aload_n 0, 1) := dk_42 (dk_at dksX8_measure_3 10 rfl rfl)
theorem dX8_measure_80 : decode cX8_measure 80 = .ok (.ldc 150, 2) := dk_18 150 (dk_at dksX8_measure_3 11 rfl rfl)
theorem dX8_measure_82 : decode cX8_measure 82 = .ok (.invokevirtual 75, 3) := dk_182 0 75 (dk_at dksX8_measure_3 13 rfl rfl)
theorem dX8_measure_85 : decode cX8_measure 85 = .ok (.ifCond .eq 7, 3) := dk_153 0 7 (dk_at dksX8_measure_3 16 rfl rfl)
theorem dX8_measure_88 : decode cX8_measure 88 = .ok (.iconst 2, 1) := dk_5 (dk_at dksX8_measure_3 19 rfl rfl)
theorem dX8_measure_89 : decode cX8_measure 89 = .ok (.goto 4, 3) := dk_167 0 4 (dk_at dksX8_measure_3 20 rfl rfl)
theorem dX8_measure_92 : decode cX8_measure 92 = .ok (.iconst 0, 1) := dk_3 (dk_at dksX8_measure_3 23 rfl rfl)
theorem dX8_measure_93 : decode cX8_measure 93 = .ok (.istore 4, 2) := dk_54 4 (dk_at dksX8_measure_4 0 rfl rfl)
theorem dX8_measure_95 : decode cX8_measure 95 = .ok (.iload 4, 2) := dk_21 4 (dk_at dksX8_measure_4 2 rfl rfl)
theorem dX8_measure_97 : decode cX8_measure 97 = .ok (.ifCond .ne 10, 3) := dk_154 0 10 (dk_at dksX8_measure_4 4 rfl rfl)
theorem dX8_measure_100 : decode cX8_measure 100 = .ok (.aload_n 0, 1) := dk_42 (dk_at dksX8_measure_4 7 rfl rfl)
theorem dX8_measure_101 : decode cX8_measure 101 = .ok (.ldc 152, 2) := dk_18 152 (dk_at dksX8_measure_4 8 rfl rfl)
theorem dX8_measure_103 : decode cX8_measure 103 = .ok (.invokevirtual 75, 3) := dk_182 0 75 (dk_at dksX8_measure_4 10 rfl rfl)
theorem dX8_measure_106 : decode cX8_measure 106 = .ok (.pop, 1) := dk_87 (dk_at dksX8_measure_4 13 rfl rfl)
theorem dX8_measure_107 : decode cX8_measure 107 = .ok (.new 154, 3) := dk_187 0 154 (dk_at dksX8_measure_4 14 rfl rfl)
theorem dX8_measure_110 : decode cX8_measure 110 = .ok (.dup, 1) := dk_89 (dk_at dksX8_measure_4 17 rfl rfl)
theorem dX8_measure_111 : decode cX8_measure 111 = .ok (.iload_n 1, 1) := dk_27 (dk_at dksX8_measure_4 18 rfl rfl)
theorem dX8_measure_112 : decode cX8_measure 112 = .ok (.iload_n 2, 1) := dk_28 (dk_at dksX8_measure_4 19 rfl rfl)
theorem dX8_measure_113 : decode cX8_measure 113 = .ok (.iload_n 3, 1) := dk_29 (dk_at dksX8_measure_4 20 rfl rfl)
theorem dX8_measure_114 : decode cX8_measure 114 = .ok (.iload 4, 2) := dk_21 4 (dk_at dksX8_measure_4 21 rfl rfl)
theorem dX8_measure_116 : decode cX8_measure 116 = .ok (.invokespecial 156, 3) := dk_183 0 156 (dk_at dksX8_measure_5 0 rfl rfl)
theorem dX8_measure_119 : decode cX8_measure 119 = .ok (.areturn, 1) := dk_176 (dk_at dksX8_measure_5 3 rfl rfl)
theorem q121 : (Jvm.Cond.initialized "WeekFoot$Reader") ∈ lw_all := lw_g (lw_at lw_m1 18 rfl) rfl
theorem q194 : (Jvm.Cond.fieldLinkNest "WeekFoot$Reader" (46 : Nat) "WeekFoot$State" "shorter" "[I" "WeekFoot") ∈ lw_tbl := lw_at lw_m1 91 rfl
theorem q203 : (Jvm.Cond.fieldLinkNest "WeekFoot$Reader" (32 : Nat) "WeekFoot$State" "entries" "Ljava/util/ArrayList;" "WeekFoot") ∈ lw_tbl := lw_at lw_m1 100 rfl
theorem q208 : (Jvm.Cond.fieldLinkNest "WeekFoot$Reader" (42 : Nat) "WeekFoot$State" "shorters" "I" "WeekFoot") ∈ lw_tbl := lw_at lw_m1 105 rfl
theorem q267 : (Jvm.Cond.selects "WeekFoot$Reader" ({ cls := "java/lang/Object", name := "getClass", desc := "()Ljava/lang/Class;" } : Jvm.MethodName) ({ cls := "java/lang/Object", name := "getClass", desc := "()Ljava/lang/Class;" } : Jvm.MethodName)) ∈ lw_all := lw_g (lw_at lw_m1 164 rfl) rfl
theorem q459 : (Jvm.Cond.instantiable "WeekFoot$Reader" (8 : Nat)) ∈ lw_all := lw_g (lw_at lw_m2 116 rfl) rfl
theorem q461 : (Jvm.Cond.instanceMethod ({ cls := "WeekFoot$Reader", name := "<init>", desc := "([BILWeekFoot$State;)V" } : Jvm.MethodName)) ∈ lw_all := lw_g (lw_at lw_m2 118 rfl) rfl
theorem q462 : (Jvm.Cond.code ({ cls := "WeekFoot$Reader", name := "<init>", desc := "([BILWeekFoot$State;)V" } : Jvm.MethodName) prog_11_method_1_code (5 : Nat) (Option.none : Option Jvm.ClassFile.FieldType)) ∈ lw_all := lw_g (lw_at lw_m2 119 rfl) rfl
theorem q463 : (Jvm.Cond.methodLink "WeekFoot$Reader" (3 : Nat) ({ cls := "java/lang/Object", name := "<init>", desc := "()V" } : Jvm.MethodName)) ∈ lw_all := lw_g (lw_at lw_m2 120 rfl) rfl
theorem q464 : (Jvm.Cond.classLink "WeekFoot$Reader" (9 : Nat) "java/util/ArrayList") ∈ lw_all := lw_g (lw_at lw_m2 121 rfl) rfl
theorem q465 : (Jvm.Cond.methodLink "WeekFoot$Reader" (11 : Nat) ({ cls := "java/util/ArrayList", name := "<init>", desc := "(I)V" } : Jvm.MethodName)) ∈ lw_all := lw_g (lw_at lw_m2 122 rfl) rfl
theorem q466 : (Jvm.Cond.methodLink "WeekFoot$Reader" (37 : Nat) ({ cls := "java/util/ArrayList", name := "size", desc := "()I" } : Jvm.MethodName)) ∈ lw_all := lw_g (lw_at lw_m2 123 rfl) rfl
theorem q467 : (Jvm.Cond.fieldLink "WeekFoot$Reader" (24 : Nat) "WeekFoot$Reader" "tape" "[B") ∈ lw_all := lw_g (lw_at lw_m2 124 rfl) rfl
theorem q468 : (Jvm.Cond.fieldLink "WeekFoot$Reader" (28 : Nat) "WeekFoot$Reader" "size" "I") ∈ lw_all := lw_g (lw_at lw_m2 125 rfl) rfl
theorem q469 : (Jvm.Cond.fieldLink "WeekFoot$Reader" (14 : Nat) "WeekFoot$Reader" "made" "Ljava/util/ArrayList;") ∈ lw_all := lw_g (lw_at lw_m2 126 rfl) rfl
theorem q471 : (Jvm.Cond.fieldLink "WeekFoot$Reader" (20 : Nat) "WeekFoot$Reader" "above" "[I") ∈ lw_all := lw_g (lw_at lw_m2 128 rfl) rfl
theorem q472 : (Jvm.Cond.fieldLink "WeekFoot$Reader" (52 : Nat) "WeekFoot$Reader" "from" "I") ∈ lw_all := lw_g (lw_at lw_m2 129 rfl) rfl
theorem q473 : (Jvm.Cond.fieldLink "WeekFoot$Reader" (49 : Nat) "WeekFoot$Reader" "to" "I") ∈ lw_all := lw_g (lw_at lw_m2 130 rfl) rfl
theorem q474 : (Jvm.Cond.fieldLink "WeekFoot$Reader" (40 : Nat) "WeekFoot$Reader" "entries" "I") ∈ lw_all := lw_g (lw_at lw_m2 131 rfl) rfl
theorem q475 : (Jvm.Cond.fieldLink "WeekFoot$Reader" (45 : Nat) "WeekFoot$Reader" "shorters" "I") ∈ lw_all := lw_g (lw_at lw_m2 132 rfl) rfl
theorem q476 : (Jvm.Cond.laysFinal "WeekFoot$Reader" "WeekFoot$Reader" "tape" "[B") ∈ lw_all := lw_g (lw_at lw_m2 133 rfl) rfl
theorem q477 : (Jvm.Cond.soleField "WeekFoot$Reader" "tape") ∈ lw_all := lw_g (lw_at lw_m2 134 rfl) rfl
theorem q478 : (Jvm.Cond.laysFinal "WeekFoot$Reader" "WeekFoot$Reader" "size" "I") ∈ lw_all := lw_g (lw_at lw_m2 135 rfl) rfl
theorem q479 : (Jvm.Cond.soleField "WeekFoot$Reader" "size") ∈ lw_all := lw_g (lw_at lw_m2 136 rfl) rfl
theorem q480 : (Jvm.Cond.laysFinal "WeekFoot$Reader" "WeekFoot$Reader" "made" "Ljava/util/ArrayList;") ∈ lw_all := lw_g (lw_at lw_m2 137 rfl) rfl
theorem q481 : (Jvm.Cond.soleField "WeekFoot$Reader" "made") ∈ lw_all := lw_g (lw_at lw_m2 138 rfl) rfl
theorem q482 : (Jvm.Cond.laysFinal "WeekFoot$Reader" "WeekFoot$Reader" "above" "[I") ∈ lw_all := lw_g (lw_at lw_m2 139 rfl) rfl
theorem q483 : (Jvm.Cond.soleField "WeekFoot$Reader" "above") ∈ lw_all := lw_g (lw_at lw_m2 140 rfl) rfl
theorem q484 : (Jvm.Cond.lays "WeekFoot$Reader" "WeekFoot$Reader" "from" "I") ∈ lw_all := lw_g (lw_at lw_m2 141 rfl) rfl
theorem q485 : (Jvm.Cond.soleField "WeekFoot$Reader" "from") ∈ lw_all := lw_g (lw_at lw_m2 142 rfl) rfl
theorem q486 : (Jvm.Cond.lays "WeekFoot$Reader" "WeekFoot$Reader" "to" "I") ∈ lw_all := lw_g (lw_at lw_m2 143 rfl) rfl
theorem q487 : (Jvm.Cond.soleField "WeekFoot$Reader" "to") ∈ lw_all := lw_g (lw_at lw_m2 144 rfl) rfl
theorem q488 : (Jvm.Cond.lays "WeekFoot$Reader" "WeekFoot$Reader" "entries" "I") ∈ lw_all := lw_g (lw_at lw_m2 145 rfl) rfl
theorem q489 : (Jvm.Cond.soleField "WeekFoot$Reader" "entries") ∈ lw_all := lw_g (lw_at lw_m2 146 rfl) rfl
theorem q490 : (Jvm.Cond.lays "WeekFoot$Reader" "WeekFoot$Reader" "shorters" "I") ∈ lw_all := lw_g (lw_at lw_m2 147 rfl) rfl
theorem q491 : (Jvm.Cond.soleField "WeekFoot$Reader" "shorters") ∈ lw_all := lw_g (lw_at lw_m2 148 rfl) rfl
theorem q492 : (Jvm.Cond.superclass "WeekFoot$Reader" "java/lang/Object") ∈ lw_all := lw_g (lw_at lw_m2 149 rfl) rfl
theorem q494 : (Jvm.Cond.instanceMethod ({ cls := "WeekFoot$Reader", name := "read", desc := "()V" } : Jvm.MethodName)) ∈ lw_all := lw_g (lw_at lw_m2 151 rfl) rfl
theorem q495 : (Jvm.Cond.selects "WeekFoot$Reader" ({ cls := "WeekFoot$Reader", name := "read", desc := "()V" } : Jvm.MethodName) ({ cls := "WeekFoot$Reader", name := "read", desc := "()V" } : Jvm.MethodName)) ∈ lw_all := lw_g (lw_at lw_m2 152 rfl) rfl
theorem q496 : (Jvm.Cond.code ({ cls := "WeekFoot$Reader", name := "read", desc := "()V" } : Jvm.MethodName) prog_11_method_8_code (1 : Nat) (Option.none : Option Jvm.ClassFile.FieldType)) ∈ lw_all := lw_g (lw_at lw_m2 153 rfl) rfl
theorem q497 : (Jvm.Cond.methodLink "WeekFoot$Reader" (72 : Nat) ({ cls := "WeekFoot$Reader", name := "next", desc := "()V" } : Jvm.MethodName)) ∈ lw_all := lw_g (lw_at lw_m2 154 rfl) rfl
theorem q498 : (Jvm.Cond.privateMethod ({ cls := "WeekFoot$Reader", name := "next", desc := "()V" } : Jvm.MethodName)) ∈ lw_tbl := lw_at lw_m2 155 rfl
theorem q499 : (Jvm.Cond.instanceMethod ({ cls := "WeekFoot$Reader", name := "next", desc := "()V" } : Jvm.MethodName)) ∈ lw_all := lw_g (lw_at lw_m2 156 rfl) rfl
theorem q500 : (Jvm.Cond.code ({ cls := "WeekFoot$Reader", name := "next", desc := "()V" } : Jvm.MethodName) prog_11_method_3_code (1 : Nat) (Option.none : Option Jvm.ClassFile.FieldType)) ∈ lw_all := lw_g (lw_at lw_m2 157 rfl) rfl
theorem q501 : (Jvm.Cond.methodLink "WeekFoot$Reader" (55 : Nat) ({ cls := "WeekFoot$Reader", name := "isIn", desc := "(III)Z" } : Jvm.MethodName)) ∈ lw_all := lw_g (lw_at lw_m2 158 rfl) rfl
theorem q502 : (Jvm.Cond.privateMethod ({ cls := "WeekFoot$Reader", name := "isIn", desc := "(III)Z" } : Jvm.MethodName)) ∈ lw_tbl := lw_at lw_m2 159 rfl
theorem q503 : (Jvm.Cond.instanceMethod ({ cls := "WeekFoot$Reader", name := "isIn", desc := "(III)Z" } : Jvm.MethodName)) ∈ lw_all := lw_g (lw_at lw_m2 160 rfl) rfl
theorem q504 : (Jvm.Cond.code ({ cls := "WeekFoot$Reader", name := "isIn", desc := "(III)Z" } : Jvm.MethodName) prog_11_method_2_code (4 : Nat) (Option.some Jvm.ClassFile.FieldType.boolean)) ∈ lw_all := lw_g (lw_at lw_m2 161 rfl) rfl
theorem q505 : (Jvm.Cond.methodLink "WeekFoot$Reader" (81 : Nat) ({ cls := "WeekFoot$Reader", name := "clause", desc := "()V" } : Jvm.MethodName)) ∈ lw_all := lw_g (lw_at lw_m2 162 rfl) rfl
theorem q506 : (Jvm.Cond.privateMethod ({ cls := "WeekFoot$Reader", name := "clause", desc := "()V" } : Jvm.MethodName)) ∈ lw_tbl := lw_at lw_m2 163 rfl
theorem q507 : (Jvm.Cond.instanceMethod ({ cls := "WeekFoot$Reader", name := "clause", desc := "()V" } : Jvm.MethodName)) ∈ lw_all := lw_g (lw_at lw_m2 164 rfl) rfl
theorem q508 : (Jvm.Cond.code ({ cls := "WeekFoot$Reader", name := "clause", desc := "()V" } : Jvm.MethodName) prog_11_method_9_code (1 : Nat) (Option.none : Option Jvm.ClassFile.FieldType)) ∈ lw_all := lw_g (lw_at lw_m2 165 rfl) rfl
theorem q509 : (Jvm.Cond.stringRef "WeekFoot$Reader" (86 : Nat) "week") ∈ lw_tbl := lw_at lw_m2 166 rfl
theorem q510 : (Jvm.Cond.methodLink "WeekFoot$Reader" (68 : Nat) ({ cls := "WeekFoot$Reader", name := "is", desc := "(Ljava/lang/String;)Z" } : Jvm.MethodName)) ∈ lw_all := lw_g (lw_at lw_m2 167 rfl) rfl
theorem q511 : (Jvm.Cond.privateMethod ({ cls := "WeekFoot$Reader", name := "is", desc := "(Ljava/lang/String;)Z" } : Jvm.MethodName)) ∈ lw_tbl := lw_at lw_m2 168 rfl
theorem q512 : (Jvm.Cond.instanceMethod ({ cls := "WeekFoot$Reader", name := "is", desc := "(Ljava/lang/String;)Z" } : Jvm.MethodName)) ∈ lw_all := lw_g (lw_at lw_m2 169 rfl) rfl
theorem q513 : (Jvm.Cond.code ({ cls := "WeekFoot$Reader", name := "is", desc := "(Ljava/lang/String;)Z" } : Jvm.MethodName) prog_11_method_4_code (3 : Nat) (Option.some Jvm.ClassFile.FieldType.boolean)) ∈ lw_all := lw_g (lw_at lw_m2 170 rfl) rfl
theorem q514 : (Jvm.Cond.methodLink "WeekFoot$Reader" (59 : Nat) ({ cls := "java/lang/String", name := "length", desc := "()I" } : Jvm.MethodName)) ∈ lw_all := lw_g (lw_at lw_m2 171 rfl) rfl
theorem q524 : (Jvm.Cond.methodLink "WeekFoot$Reader" (64 : Nat) ({ cls := "java/lang/String", name := "charAt", desc := "(I)C" } : Jvm.MethodName)) ∈ lw_all := lw_g (lw_at lw_m2 181 rfl) rfl
theorem q560 : (Jvm.Cond.methodLink "WeekFoot$Reader" (88 : Nat) ({ cls := "WeekFoot$Reader", name := "weeks", desc := "()V" } : Jvm.MethodName)) ∈ lw_all := lw_g (lw_at lw_m2 217 rfl) rfl
theorem q561 : (Jvm.Cond.privateMethod ({ cls := "WeekFoot$Reader", name := "weeks", desc := "()V" } : Jvm.MethodName)) ∈ lw_tbl := lw_at lw_m2 218 rfl
theorem q562 : (Jvm.Cond.instanceMethod ({ cls := "WeekFoot$Reader", name := "weeks", desc := "()V" } : Jvm.MethodName)) ∈ lw_all := lw_g (lw_at lw_m2 219 rfl) rfl
theorem q563 : (Jvm.Cond.code ({ cls := "WeekFoot$Reader", name := "weeks", desc := "()V" } : Jvm.MethodName) prog_11_method_10_code (4 : Nat) (Option.none : Option Jvm.ClassFile.FieldType)) ∈ lw_all := lw_g (lw_at lw_m2 220 rfl) rfl
theorem q564 : (Jvm.Cond.methodLink "WeekFoot$Reader" (100 : Nat) ({ cls := "WeekFoot$Reader", name := "number", desc := "(II)I" } : Jvm.MethodName)) ∈ lw_all := lw_g (lw_at lw_m2 221 rfl) rfl
theorem q565 : (Jvm.Cond.privateMethod ({ cls := "WeekFoot$Reader", name := "number", desc := "(II)I" } : Jvm.MethodName)) ∈ lw_tbl := lw_at lw_m2 222 rfl
theorem q566 : (Jvm.Cond.instanceMethod ({ cls := "WeekFoot$Reader", name := "number", desc := "(II)I" } : Jvm.MethodName)) ∈ lw_all := lw_g (lw_at lw_m2 223 rfl) rfl
theorem q567 : (Jvm.Cond.code ({ cls := "WeekFoot$Reader", name := "number", desc := "(II)I" } : Jvm.MethodName) prog_11_method_7_code (5 : Nat) (Option.some Jvm.ClassFile.FieldType.int)) ∈ lw_all := lw_g (lw_at lw_m2 224 rfl) rfl
theorem q568 : (Jvm.Cond.classLink "WeekFoot$Reader" (78 : Nat) "WeekFoot$Fault") ∈ lw_all := lw_g (lw_at lw_m2 225 rfl) rfl
theorem q605 : (Jvm.Cond.methodLink "WeekFoot$Reader" (80 : Nat) ({ cls := "WeekFoot$Fault", name := "<init>", desc := "(I)V" } : Jvm.MethodName)) ∈ lw_all := lw_g (lw_at lw_m3 22 rfl) rfl
theorem q632 : (Jvm.Cond.stringRef "WeekFoot$Reader" (104 : Nat) "to") ∈ lw_tbl := lw_at lw_m3 49 rfl
theorem q633 : (Jvm.Cond.methodLink "WeekFoot$Reader" (75 : Nat) ({ cls := "WeekFoot$Reader", name := "takes", desc := "(Ljava/lang/String;)Z" } : Jvm.MethodName)) ∈ lw_all := lw_g (lw_at lw_m3 50 rfl) rfl
theorem q634 : (Jvm.Cond.privateMethod ({ cls := "WeekFoot$Reader", name := "takes", desc := "(Ljava/lang/String;)Z" } : Jvm.MethodName)) ∈ lw_tbl := lw_at lw_m3 51 rfl
theorem q635 : (Jvm.Cond.instanceMethod ({ cls := "WeekFoot$Reader", name := "takes", desc := "(Ljava/lang/String;)Z" } : Jvm.MethodName)) ∈ lw_all := lw_g (lw_at lw_m3 52 rfl) rfl
theorem q636 : (Jvm.Cond.code ({ cls := "WeekFoot$Reader", name := "takes", desc := "(Ljava/lang/String;)Z" } : Jvm.MethodName) prog_11_method_5_code (3 : Nat) (Option.some Jvm.ClassFile.FieldType.boolean)) ∈ lw_all := lw_g (lw_at lw_m3 53 rfl) rfl
theorem q637 : (Jvm.Cond.stringRef "WeekFoot$Reader" (105 : Nat) "by") ∈ lw_tbl := lw_at lw_m3 54 rfl
theorem q638 : (Jvm.Cond.methodLink "WeekFoot$Reader" (107 : Nat) ({ cls := "WeekFoot$Reader", name := "need", desc := "(Ljava/lang/String;)V" } : Jvm.MethodName)) ∈ lw_all := lw_g (lw_at lw_m3 55 rfl) rfl
theorem q639 : (Jvm.Cond.privateMethod ({ cls := "WeekFoot$Reader", name := "need", desc := "(Ljava/lang/String;)V" } : Jvm.MethodName)) ∈ lw_tbl := lw_at lw_m3 56 rfl
theorem q640 : (Jvm.Cond.instanceMethod ({ cls := "WeekFoot$Reader", name := "need", desc := "(Ljava/lang/String;)V" } : Jvm.MethodName)) ∈ lw_all := lw_g (lw_at lw_m3 57 rfl) rfl
theorem q641 : (Jvm.Cond.code ({ cls := "WeekFoot$Reader", name := "need", desc := "(Ljava/lang/String;)V" } : Jvm.MethodName) prog_11_method_6_code (2 : Nat) (Option.none : Option Jvm.ClassFile.FieldType)) ∈ lw_all := lw_g (lw_at lw_m3 58 rfl) rfl
theorem q642 : (Jvm.Cond.classLink "WeekFoot$Reader" (111 : Nat) "WeekFoot$Kept") ∈ lw_all := lw_g (lw_at lw_m3 59 rfl) rfl
theorem q644 : (Jvm.Cond.stringRef "WeekFoot$Reader" (113 : Nat) "nobody") ∈ lw_tbl := lw_at lw_m3 61 rfl
theorem q645 : (Jvm.Cond.methodLink "WeekFoot$Reader" (115 : Nat) ({ cls := "WeekFoot$Kept", name := "<init>", desc := "(III)V" } : Jvm.MethodName)) ∈ lw_all := lw_g (lw_at lw_m3 62 rfl) rfl
theorem q662 : (Jvm.Cond.methodLink "WeekFoot$Reader" (118 : Nat) ({ cls := "java/util/ArrayList", name := "add", desc := "(Ljava/lang/Object;)Z" } : Jvm.MethodName)) ∈ lw_all := lw_g (lw_at lw_m3 79 rfl) rfl
theorem q663 : (Jvm.Cond.stringRef "WeekFoot$Reader" (91 : Nat) "keeper") ∈ lw_tbl := lw_at lw_m3 80 rfl
theorem q664 : (Jvm.Cond.methodLink "WeekFoot$Reader" (93 : Nat) ({ cls := "WeekFoot$Reader", name := "below", desc := "()V" } : Jvm.MethodName)) ∈ lw_all := lw_g (lw_at lw_m3 81 rfl) rfl
theorem q665 : (Jvm.Cond.privateMethod ({ cls := "WeekFoot$Reader", name := "below", desc := "()V" } : Jvm.MethodName)) ∈ lw_tbl := lw_at lw_m3 82 rfl
theorem q666 : (Jvm.Cond.instanceMethod ({ cls := "WeekFoot$Reader", name := "below", desc := "()V" } : Jvm.MethodName)) ∈ lw_all := lw_g (lw_at lw_m3 83 rfl) rfl
theorem q667 : (Jvm.Cond.code ({ cls := "WeekFoot$Reader", name := "below", desc := "()V" } : Jvm.MethodName) prog_11_method_11_code (6 : Nat) (Option.none : Option Jvm.ClassFile.FieldType)) ∈ lw_all := lw_g (lw_at lw_m3 84 rfl) rfl
theorem q668 : (Jvm.Cond.stringRef "WeekFoot$Reader" (122 : Nat) "below") ∈ lw_tbl := lw_at lw_m3 85 rfl
theorem q669 : (Jvm.Cond.classLink "WeekFoot$Reader" (123 : Nat) "WeekFoot$Below") ∈ lw_all := lw_g (lw_at lw_m3 86 rfl) rfl
theorem q671 : (Jvm.Cond.methodLink "WeekFoot$Reader" (125 : Nat) ({ cls := "WeekFoot$Below", name := "<init>", desc := "(II)V" } : Jvm.MethodName)) ∈ lw_all := lw_g (lw_at lw_m3 88 rfl) rfl
theorem q682 : (Jvm.Cond.stringRef "WeekFoot$Reader" (96 : Nat) "thing") ∈ lw_tbl := lw_at lw_m3 99 rfl
theorem q683 : (Jvm.Cond.methodLink "WeekFoot$Reader" (98 : Nat) ({ cls := "WeekFoot$Reader", name := "thing", desc := "()V" } : Jvm.MethodName)) ∈ lw_all := lw_g (lw_at lw_m3 100 rfl) rfl
theorem q684 : (Jvm.Cond.privateMethod ({ cls := "WeekFoot$Reader", name := "thing", desc := "()V" } : Jvm.MethodName)) ∈ lw_tbl := lw_at lw_m3 101 rfl
theorem q685 : (Jvm.Cond.instanceMethod ({ cls := "WeekFoot$Reader", name := "thing", desc := "()V" } : Jvm.MethodName)) ∈ lw_all := lw_g (lw_at lw_m3 102 rfl) rfl
theorem q686 : (Jvm.Cond.code ({ cls := "WeekFoot$Reader", name := "thing", desc := "()V" } : Jvm.MethodName) prog_11_method_12_code (3 : Nat) (Option.none : Option Jvm.ClassFile.FieldType)) ∈ lw_all := lw_g (lw_at lw_m3 103 rfl) rfl
theorem q687 : (Jvm.Cond.stringRef "WeekFoot$Reader" (128 : Nat) "cut") ∈ lw_tbl := lw_at lw_m3 104 rfl
theorem q688 : (Jvm.Cond.stringRef "WeekFoot$Reader" (130 : Nat) "never") ∈ lw_tbl := lw_at lw_m3 105 rfl
theorem q689 : (Jvm.Cond.classLink "WeekFoot$Reader" (132 : Nat) "WeekFoot$Cut") ∈ lw_all := lw_g (lw_at lw_m3 106 rfl) rfl
theorem q691 : (Jvm.Cond.methodLink "WeekFoot$Reader" (134 : Nat) ({ cls := "WeekFoot$Cut", name := "<init>", desc := "(II)V" } : Jvm.MethodName)) ∈ lw_all := lw_g (lw_at lw_m3 108 rfl) rfl
theorem q702 : (Jvm.Cond.stringRef "WeekFoot$Reader" (135 : Nat) "in") ∈ lw_tbl := lw_at lw_m3 119 rfl
theorem q703 : (Jvm.Cond.classLink "WeekFoot$Reader" (137 : Nat) "WeekFoot$Measured") ∈ lw_all := lw_g (lw_at lw_m3 120 rfl) rfl
theorem q705 : (Jvm.Cond.methodLinkNest "WeekFoot$Reader" (139 : Nat) ({ cls := "WeekFoot$Measured", name := "<init>", desc := "()V" } : Jvm.MethodName) "WeekFoot") ∈ lw_tbl := lw_at lw_m3 122 rfl
theorem q712 : (Jvm.Cond.fieldLinkNest "WeekFoot$Reader" (140 : Nat) "WeekFoot$Measured" "entries" "Ljava/util/ArrayList;" "WeekFoot") ∈ lw_tbl := lw_at lw_m3 129 rfl
theorem q716 : (Jvm.Cond.methodLink "WeekFoot$Reader" (141 : Nat) ({ cls := "WeekFoot$Reader", name := "measure", desc := "(I)LWeekFoot$Entry;" } : Jvm.MethodName)) ∈ lw_all := lw_g (lw_at lw_m3 133 rfl) rfl
theorem q717 : (Jvm.Cond.privateMethod ({ cls := "WeekFoot$Reader", name := "measure", desc := "(I)LWeekFoot$Entry;" } : Jvm.MethodName)) ∈ lw_tbl := lw_at lw_m3 134 rfl
theorem q718 : (Jvm.Cond.instanceMethod ({ cls := "WeekFoot$Reader", name := "measure", desc := "(I)LWeekFoot$Entry;" } : Jvm.MethodName)) ∈ lw_all := lw_g (lw_at lw_m3 135 rfl) rfl
theorem q719 : (Jvm.Cond.code ({ cls := "WeekFoot$Reader", name := "measure", desc := "(I)LWeekFoot$Entry;" } : Jvm.MethodName) prog_11_method_13_code (5 : Nat) (Option.some (Jvm.ClassFile.FieldType.object "WeekFoot$Entry"))) ∈ lw_all := lw_g (lw_at lw_m3 136 rfl) rfl
theorem q720 : (Jvm.Cond.stringRef "WeekFoot$Reader" (147 : Nat) "is") ∈ lw_tbl := lw_at lw_m3 137 rfl
theorem q721 : (Jvm.Cond.stringRef "WeekFoot$Reader" (148 : Nat) "whole") ∈ lw_tbl := lw_at lw_m3 138 rfl
theorem q722 : (Jvm.Cond.stringRef "WeekFoot$Reader" (150 : Nat) "half") ∈ lw_tbl := lw_at lw_m3 139 rfl
theorem q723 : (Jvm.Cond.stringRef "WeekFoot$Reader" (152 : Nat) "exact") ∈ lw_tbl := lw_at lw_m3 140 rfl
theorem q724 : (Jvm.Cond.classLink "WeekFoot$Reader" (154 : Nat) "WeekFoot$Entry") ∈ lw_all := lw_g (lw_at lw_m3 141 rfl) rfl
theorem q725 : (Jvm.Cond.methodLink "WeekFoot$Reader" (156 : Nat) ({ cls := "WeekFoot$Entry", name := "<init>", desc := "(IIII)V" } : Jvm.MethodName)) ∈ lw_all := lw_g (lw_at lw_m3 142 rfl) rfl
theorem q726 : (Jvm.Cond.stringRef "WeekFoot$Reader" (145 : Nat) ",") ∈ lw_tbl := lw_at lw_m3 143 rfl
theorem q727 : (Jvm.Cond.stringRef "WeekFoot$Reader" (84 : Nat) ";") ∈ lw_tbl := lw_at lw_m3 144 rfl
theorem q1981 : (Jvm.Cond.castable "WeekFoot$Reader" "java/lang/Object") ∈ lw_tbl := lw_at lw_m8 198 rfl
theorem in_X8 : ∀ w ∈ wsX80, w ∈ lw_all := lw_in wsX80 [476, 478, 480, 482, 484, 486, 488, 490] (by decide +kernel) (by decide +kernel)
/-! WeekFoot$Fault -/
set_option maxRecDepth 100000
def RX9 : String := "WeekFoot$Fault"
def TX9 : u_T := fun k => match k with
  | 0 => ("java/lang/Throwable", "cause", "Ljava/lang/Throwable;", false)
  | 1 => ("java/lang/Throwable", "stackTrace", "[Ljava/lang/StackTraceElement;", false)
  | 2 => ("java/lang/Throwable", "suppressedExceptions", "Ljava/util/List;", false)
  | 3 => ("java/lang/Throwable", "detailMessage", "Ljava/lang/String;", false)
  | 4 => ("java/lang/Throwable", "backtrace", "Ljava/lang/Object;", false)
  | 5 => ("java/lang/Throwable", "depth", "I", false)
  | _ => ("WeekFoot$Fault", "place", "I", true)
def tyX9 : Nat → FieldType := fun k => match k with
  | 0 => .object "java/lang/Throwable"
  | 1 => .array (.object "java/lang/StackTraceElement")
  | 2 => .object "java/util/List"
  | 3 => .object "java/lang/String"
  | 4 => .object "java/lang/Object"
  | 5 => .int
  | _ => .int
abbrev wsX90 : List Cond := u_ws RX9 TX9 7
theorem nmX9 : ∀ a, a < 7 → ∀ b, b < 7 → a ≠ b → (TX9 a).2.1 ≠ (TX9 b).2.1 := by decide +kernel
theorem tyX9_ok : ∀ k, k < 7 → parseFieldDescriptor (TX9 k).2.2.1 = some (tyX9 k) := by decide +kernel
abbrev cX9_init : ByteArray := prog_8_method_1_code
def yX9_init : MethodName := ⟨RX9, "<init>", "(I)V"⟩
def dkwX9_init_0 : List UInt8 := [42, 1, 1, 3, 3, 183, 0, 1, 42, 27, 181, 0, 7, 177]
abbrev dktX9_init_0 : List UInt8 := dkwX9_init_0 ++ []
theorem dksX9_init_0 : cX9_init.data.toList.drop 0 = dktX9_init_0 := by decide +kernel
theorem dX9_init_0 : decode cX9_init 0 = .ok (.aload_n 0, 1) := dk_42 (dk_at dksX9_init_0 0 rfl rfl)
theorem dX9_init_1 : decode cX9_init 1 = .ok (.aconst_null, 1) := dk_1 (dk_at dksX9_init_0 1 rfl rfl)
theorem dX9_init_2 : decode cX9_init 2 = .ok (.aconst_null, 1) := dk_1 (dk_at dksX9_init_0 2 rfl rfl)
theorem dX9_init_3 : decode cX9_init 3 = .ok (.iconst 0, 1) := dk_3 (dk_at dksX9_init_0 3 rfl rfl)
theorem dX9_init_4 : decode cX9_init 4 = .ok (.iconst 0, 1) := dk_3 (dk_at dksX9_init_0 4 rfl rfl)
theorem dX9_init_5 : decode cX9_init 5 = .ok (.invokespecial 1, 3) := dk_183 0 1 (dk_at dksX9_init_0 5 rfl rfl)
theorem dX9_init_8 : decode cX9_init 8 = .ok (.aload_n 0, 1) := dk_42 (dk_at dksX9_init_0 8 rfl rfl)
theorem dX9_init_9 : decode cX9_init 9 = .ok (.iload_n 1, 1) := dk_27 (dk_at dksX9_init_0 9 rfl rfl)
theorem dX9_init_10 : decode cX9_init 10 = .ok (.putfield 7, 3) := dk_181 0 7 (dk_at dksX9_init_0 10 rfl rfl)
theorem dX9_init_13 : decode cX9_init 13 = .ok (.return_, 1) := dk_177 (dk_at dksX9_init_0 13 rfl rfl)
theorem q127 : (Jvm.Cond.initialized "WeekFoot$Fault") ∈ lw_all := lw_g (lw_at lw_m1 24 rfl) rfl
theorem q264 : (Jvm.Cond.selects "WeekFoot$Fault" ({ cls := "java/lang/Object", name := "getClass", desc := "()Ljava/lang/Class;" } : Jvm.MethodName) ({ cls := "java/lang/Object", name := "getClass", desc := "()Ljava/lang/Class;" } : Jvm.MethodName)) ∈ lw_all := lw_g (lw_at lw_m1 161 rfl) rfl
theorem q569 : (Jvm.Cond.instantiable "WeekFoot$Fault" (7 : Nat)) ∈ lw_all := lw_g (lw_at lw_m2 226 rfl) rfl
theorem q570 : (Jvm.Cond.castable "WeekFoot$Fault" "WeekFoot$Fault") ∈ lw_tbl := lw_at lw_m2 227 rfl
theorem q575 : (Jvm.Cond.selects "WeekFoot$Fault" ({ cls := "java/lang/Throwable", name := "fillInStackTrace", desc := "(I)Ljava/lang/Throwable;" } : Jvm.MethodName) ({ cls := "java/lang/Throwable", name := "fillInStackTrace", desc := "(I)Ljava/lang/Throwable;" } : Jvm.MethodName)) ∈ lw_all := lw_g (lw_at lw_m2 232 rfl) rfl
theorem q576 : (Jvm.Cond.selects "WeekFoot$Fault" ({ cls := "java/lang/Throwable", name := "fillInStackTrace", desc := "()Ljava/lang/Throwable;" } : Jvm.MethodName) ({ cls := "java/lang/Throwable", name := "fillInStackTrace", desc := "()Ljava/lang/Throwable;" } : Jvm.MethodName)) ∈ lw_all := lw_g (lw_at lw_m2 233 rfl) rfl
theorem q577 : (Jvm.Cond.lays "WeekFoot$Fault" "java/lang/Throwable" "cause" "Ljava/lang/Throwable;") ∈ lw_all := lw_g (lw_at lw_m2 234 rfl) rfl
theorem q579 : (Jvm.Cond.lays "WeekFoot$Fault" "java/lang/Throwable" "stackTrace" "[Ljava/lang/StackTraceElement;") ∈ lw_all := lw_g (lw_at lw_m2 236 rfl) rfl
theorem q581 : (Jvm.Cond.lays "WeekFoot$Fault" "java/lang/Throwable" "suppressedExceptions" "Ljava/util/List;") ∈ lw_all := lw_g (lw_at lw_m2 238 rfl) rfl
theorem q583 : (Jvm.Cond.lays "WeekFoot$Fault" "java/lang/Throwable" "detailMessage" "Ljava/lang/String;") ∈ lw_all := lw_g (lw_at lw_m3 0 rfl) rfl
theorem q585 : (Jvm.Cond.lays "WeekFoot$Fault" "java/lang/Throwable" "backtrace" "Ljava/lang/Object;") ∈ lw_all := lw_g (lw_at lw_m3 2 rfl) rfl
theorem q606 : (Jvm.Cond.instanceMethod ({ cls := "WeekFoot$Fault", name := "<init>", desc := "(I)V" } : Jvm.MethodName)) ∈ lw_all := lw_g (lw_at lw_m3 23 rfl) rfl
theorem q607 : (Jvm.Cond.code ({ cls := "WeekFoot$Fault", name := "<init>", desc := "(I)V" } : Jvm.MethodName) prog_8_method_1_code (2 : Nat) (Option.none : Option Jvm.ClassFile.FieldType)) ∈ lw_all := lw_g (lw_at lw_m3 24 rfl) rfl
theorem q608 : (Jvm.Cond.methodLink "WeekFoot$Fault" (1 : Nat) ({ cls := "java/lang/Exception", name := "<init>", desc := "(Ljava/lang/String;Ljava/lang/Throwable;ZZ)V" } : Jvm.MethodName)) ∈ lw_all := lw_g (lw_at lw_m3 25 rfl) rfl
theorem q614 : (Jvm.Cond.fieldLink "WeekFoot$Fault" (7 : Nat) "WeekFoot$Fault" "place" "I") ∈ lw_all := lw_g (lw_at lw_m3 31 rfl) rfl
theorem q621 : (Jvm.Cond.laysFinal "WeekFoot$Fault" "WeekFoot$Fault" "place" "I") ∈ lw_all := lw_g (lw_at lw_m3 38 rfl) rfl
theorem q622 : (Jvm.Cond.soleField "WeekFoot$Fault" "place") ∈ lw_all := lw_g (lw_at lw_m3 39 rfl) rfl
theorem q627 : (Jvm.Cond.lays "WeekFoot$Fault" "java/lang/Throwable" "depth" "I") ∈ lw_all := lw_g (lw_at lw_m3 44 rfl) rfl
theorem q630 : (Jvm.Cond.superclass "WeekFoot$Fault" "java/lang/Exception") ∈ lw_all := lw_g (lw_at lw_m3 47 rfl) rfl
theorem q1982 : (Jvm.Cond.castable "WeekFoot$Fault" "java/lang/Object") ∈ lw_tbl := lw_at lw_m8 199 rfl
theorem in_X9 : ∀ w ∈ wsX90, w ∈ lw_all := lw_in wsX90 [577, 579, 581, 583, 585, 627, 621] (by decide +kernel) (by decide +kernel)
/-! WeekFoot$Clause -/
set_option maxRecDepth 100000
def RX10 : String := "WeekFoot$Clause"
abbrev cX10_init : ByteArray := prog_4_method_1_code
def yX10_init : MethodName := ⟨RX10, "<init>", "()V"⟩
theorem dX10_init_0 : decode cX10_init 0 = .ok (.aload_n 0, 1) := by decide +kernel
theorem dX10_init_1 : decode cX10_init 1 = .ok (.invokespecial 1, 3) := by decide +kernel
theorem dX10_init_4 : decode cX10_init 4 = .ok (.return_, 1) := by decide +kernel
theorem q128 : (Jvm.Cond.initialized "WeekFoot$Clause") ∈ lw_all := lw_g (lw_at lw_m1 25 rfl) rfl
theorem q649 : (Jvm.Cond.instanceMethod ({ cls := "WeekFoot$Clause", name := "<init>", desc := "()V" } : Jvm.MethodName)) ∈ lw_all := lw_g (lw_at lw_m3 66 rfl) rfl
theorem q650 : (Jvm.Cond.code ({ cls := "WeekFoot$Clause", name := "<init>", desc := "()V" } : Jvm.MethodName) prog_4_method_1_code (1 : Nat) (Option.none : Option Jvm.ClassFile.FieldType)) ∈ lw_all := lw_g (lw_at lw_m3 67 rfl) rfl
theorem q651 : (Jvm.Cond.methodLink "WeekFoot$Clause" (1 : Nat) ({ cls := "java/lang/Object", name := "<init>", desc := "()V" } : Jvm.MethodName)) ∈ lw_all := lw_g (lw_at lw_m3 68 rfl) rfl
theorem q730 : (Jvm.Cond.declares ({ cls := "WeekFoot$Clause", name := "tells", desc := "(LWeekFoot$State;)V" } : Jvm.MethodName)) ∈ lw_tbl := lw_at lw_m3 147 rfl
theorem q731 : (Jvm.Cond.sameMethod "WeekFoot$Clause" "WeekFoot$Clause" "tells" "(LWeekFoot$State;)V") ∈ lw_all := lw_g (lw_at lw_m3 148 rfl) rfl
/-! WeekFoot$Kept -/
set_option maxRecDepth 100000
def RX11 : String := "WeekFoot$Kept"
def TX11 : u_T := fun k => match k with
  | 0 => ("WeekFoot$Kept", "from", "I", true)
  | 1 => ("WeekFoot$Kept", "to", "I", true)
  | _ => ("WeekFoot$Kept", "keeper", "I", true)
def tyX11 : Nat → FieldType := fun k => match k with
  | 0 => .int
  | 1 => .int
  | _ => .int
abbrev wsX110 : List Cond := u_ws RX11 TX11 3
theorem nmX11 : ∀ a, a < 3 → ∀ b, b < 3 → a ≠ b → (TX11 a).2.1 ≠ (TX11 b).2.1 := by decide +kernel
theorem tyX11_ok : ∀ k, k < 3 → parseFieldDescriptor (TX11 k).2.2.1 = some (tyX11 k) := by decide +kernel
abbrev cX11_init : ByteArray := prog_9_method_1_code
def yX11_init : MethodName := ⟨RX11, "<init>", "(III)V"⟩
def dkwX11_init_0 : List UInt8 := [42, 183, 0, 1, 42, 27, 181, 0, 7, 42, 28, 181, 0, 13, 42, 29, 181, 0, 16, 177]
abbrev dktX11_init_0 : List UInt8 := dkwX11_init_0 ++ []
theorem dksX11_init_0 : cX11_init.data.toList.drop 0 = dktX11_init_0 := by decide +kernel
theorem dX11_init_0 : decode cX11_init 0 = .ok (.aload_n 0, 1) := dk_42 (dk_at dksX11_init_0 0 rfl rfl)
theorem dX11_init_1 : decode cX11_init 1 = .ok (.invokespecial 1, 3) := dk_183 0 1 (dk_at dksX11_init_0 1 rfl rfl)
theorem dX11_init_4 : decode cX11_init 4 = .ok (.aload_n 0, 1) := dk_42 (dk_at dksX11_init_0 4 rfl rfl)
theorem dX11_init_5 : decode cX11_init 5 = .ok (.iload_n 1, 1) := dk_27 (dk_at dksX11_init_0 5 rfl rfl)
theorem dX11_init_6 : decode cX11_init 6 = .ok (.putfield 7, 3) := dk_181 0 7 (dk_at dksX11_init_0 6 rfl rfl)
theorem dX11_init_9 : decode cX11_init 9 = .ok (.aload_n 0, 1) := dk_42 (dk_at dksX11_init_0 9 rfl rfl)
theorem dX11_init_10 : decode cX11_init 10 = .ok (.iload_n 2, 1) := dk_28 (dk_at dksX11_init_0 10 rfl rfl)
theorem dX11_init_11 : decode cX11_init 11 = .ok (.putfield 13, 3) := dk_181 0 13 (dk_at dksX11_init_0 11 rfl rfl)
theorem dX11_init_14 : decode cX11_init 14 = .ok (.aload_n 0, 1) := dk_42 (dk_at dksX11_init_0 14 rfl rfl)
theorem dX11_init_15 : decode cX11_init 15 = .ok (.iload_n 3, 1) := dk_29 (dk_at dksX11_init_0 15 rfl rfl)
theorem dX11_init_16 : decode cX11_init 16 = .ok (.putfield 16, 3) := dk_181 0 16 (dk_at dksX11_init_0 16 rfl rfl)
theorem dX11_init_19 : decode cX11_init 19 = .ok (.return_, 1) := dk_177 (dk_at dksX11_init_0 19 rfl rfl)
abbrev cX11_tells : ByteArray := prog_9_method_2_code
def yX11_tells : MethodName := ⟨RX11, "tells", "(LWeekFoot$State;)V"⟩
def dkwX11_tells_1 : List UInt8 := [132, 2, 1, 167, 255, 235, 177]
abbrev dktX11_tells_1 : List UInt8 := dkwX11_tells_1 ++ []
def dkwX11_tells_0 : List UInt8 := [42, 180, 0, 7, 61, 28, 42, 180, 0, 13, 163, 0, 19, 43, 180, 0, 19, 28, 42, 180, 0, 16, 79]
abbrev dktX11_tells_0 : List UInt8 := dkwX11_tells_0 ++ dktX11_tells_1
theorem dksX11_tells_0 : cX11_tells.data.toList.drop 0 = dktX11_tells_0 := by decide +kernel
theorem dksX11_tells_1 : cX11_tells.data.toList.drop 23 = dktX11_tells_1 := dk_seg dksX11_tells_0 23 rfl rfl
theorem dX11_tells_0 : decode cX11_tells 0 = .ok (.aload_n 0, 1) := dk_42 (dk_at dksX11_tells_0 0 rfl rfl)
theorem dX11_tells_1 : decode cX11_tells 1 = .ok (.getfield 7, 3) := dk_180 0 7 (dk_at dksX11_tells_0 1 rfl rfl)
theorem dX11_tells_4 : decode cX11_tells 4 = .ok (.istore_n 2, 1) := dk_61 (dk_at dksX11_tells_0 4 rfl rfl)
theorem dX11_tells_5 : decode cX11_tells 5 = .ok (.iload_n 2, 1) := dk_28 (dk_at dksX11_tells_0 5 rfl rfl)
theorem dX11_tells_6 : decode cX11_tells 6 = .ok (.aload_n 0, 1) := dk_42 (dk_at dksX11_tells_0 6 rfl rfl)
theorem dX11_tells_7 : decode cX11_tells 7 = .ok (.getfield 13, 3) := dk_180 0 13 (dk_at dksX11_tells_0 7 rfl rfl)
theorem dX11_tells_10 : decode cX11_tells 10 = .ok (.if_icmp .gt 19, 3) := dk_163 0 19 (dk_at dksX11_tells_0 10 rfl rfl)
theorem dX11_tells_13 : decode cX11_tells 13 = .ok (.aload_n 1, 1) := dk_43 (dk_at dksX11_tells_0 13 rfl rfl)
theorem dX11_tells_14 : decode cX11_tells 14 = .ok (.getfield 19, 3) := dk_180 0 19 (dk_at dksX11_tells_0 14 rfl rfl)
theorem dX11_tells_17 : decode cX11_tells 17 = .ok (.iload_n 2, 1) := dk_28 (dk_at dksX11_tells_0 17 rfl rfl)
theorem dX11_tells_18 : decode cX11_tells 18 = .ok (.aload_n 0, 1) := dk_42 (dk_at dksX11_tells_0 18 rfl rfl)
theorem dX11_tells_19 : decode cX11_tells 19 = .ok (.getfield 16, 3) := dk_180 0 16 (dk_at dksX11_tells_0 19 rfl rfl)
theorem dX11_tells_22 : decode cX11_tells 22 = .ok (.iastore, 1) := dk_79 (dk_at dksX11_tells_0 22 rfl rfl)
theorem dX11_tells_23 : decode cX11_tells 23 = .ok (.iinc 2 1, 3) := dk_132 2 1 (dk_at dksX11_tells_1 0 rfl rfl)
theorem dX11_tells_26 : decode cX11_tells 26 = .ok (.goto (-21), 3) := dk_167 255 235 (dk_at dksX11_tells_1 3 rfl rfl)
theorem dX11_tells_29 : decode cX11_tells 29 = .ok (.return_, 1) := dk_177 (dk_at dksX11_tells_1 6 rfl rfl)
theorem q129 : (Jvm.Cond.initialized "WeekFoot$Kept") ∈ lw_all := lw_g (lw_at lw_m1 26 rfl) rfl
theorem q185 : (Jvm.Cond.fieldLinkNest "WeekFoot$Kept" (19 : Nat) "WeekFoot$State" "keepers" "[I" "WeekFoot") ∈ lw_tbl := lw_at lw_m1 82 rfl
theorem q265 : (Jvm.Cond.selects "WeekFoot$Kept" ({ cls := "java/lang/Object", name := "getClass", desc := "()Ljava/lang/Class;" } : Jvm.MethodName) ({ cls := "java/lang/Object", name := "getClass", desc := "()Ljava/lang/Class;" } : Jvm.MethodName)) ∈ lw_all := lw_g (lw_at lw_m1 162 rfl) rfl
theorem q643 : (Jvm.Cond.instantiable "WeekFoot$Kept" (3 : Nat)) ∈ lw_all := lw_g (lw_at lw_m3 60 rfl) rfl
theorem q646 : (Jvm.Cond.instanceMethod ({ cls := "WeekFoot$Kept", name := "<init>", desc := "(III)V" } : Jvm.MethodName)) ∈ lw_all := lw_g (lw_at lw_m3 63 rfl) rfl
theorem q647 : (Jvm.Cond.code ({ cls := "WeekFoot$Kept", name := "<init>", desc := "(III)V" } : Jvm.MethodName) prog_9_method_1_code (4 : Nat) (Option.none : Option Jvm.ClassFile.FieldType)) ∈ lw_all := lw_g (lw_at lw_m3 64 rfl) rfl
theorem q648 : (Jvm.Cond.methodLinkNest "WeekFoot$Kept" (1 : Nat) ({ cls := "WeekFoot$Clause", name := "<init>", desc := "()V" } : Jvm.MethodName) "WeekFoot") ∈ lw_tbl := lw_at lw_m3 65 rfl
theorem q652 : (Jvm.Cond.fieldLink "WeekFoot$Kept" (7 : Nat) "WeekFoot$Kept" "from" "I") ∈ lw_all := lw_g (lw_at lw_m3 69 rfl) rfl
theorem q653 : (Jvm.Cond.fieldLink "WeekFoot$Kept" (13 : Nat) "WeekFoot$Kept" "to" "I") ∈ lw_all := lw_g (lw_at lw_m3 70 rfl) rfl
theorem q654 : (Jvm.Cond.fieldLink "WeekFoot$Kept" (16 : Nat) "WeekFoot$Kept" "keeper" "I") ∈ lw_all := lw_g (lw_at lw_m3 71 rfl) rfl
theorem q655 : (Jvm.Cond.laysFinal "WeekFoot$Kept" "WeekFoot$Kept" "from" "I") ∈ lw_all := lw_g (lw_at lw_m3 72 rfl) rfl
theorem q656 : (Jvm.Cond.soleField "WeekFoot$Kept" "from") ∈ lw_all := lw_g (lw_at lw_m3 73 rfl) rfl
theorem q657 : (Jvm.Cond.laysFinal "WeekFoot$Kept" "WeekFoot$Kept" "to" "I") ∈ lw_all := lw_g (lw_at lw_m3 74 rfl) rfl
theorem q658 : (Jvm.Cond.soleField "WeekFoot$Kept" "to") ∈ lw_all := lw_g (lw_at lw_m3 75 rfl) rfl
theorem q659 : (Jvm.Cond.laysFinal "WeekFoot$Kept" "WeekFoot$Kept" "keeper" "I") ∈ lw_all := lw_g (lw_at lw_m3 76 rfl) rfl
theorem q660 : (Jvm.Cond.soleField "WeekFoot$Kept" "keeper") ∈ lw_all := lw_g (lw_at lw_m3 77 rfl) rfl
theorem q661 : (Jvm.Cond.superclass "WeekFoot$Kept" "WeekFoot$Clause") ∈ lw_all := lw_g (lw_at lw_m3 78 rfl) rfl
theorem q740 : (Jvm.Cond.selects "WeekFoot$Kept" ({ cls := "WeekFoot$Clause", name := "tells", desc := "(LWeekFoot$State;)V" } : Jvm.MethodName) ({ cls := "WeekFoot$Kept", name := "tells", desc := "(LWeekFoot$State;)V" } : Jvm.MethodName)) ∈ lw_all := lw_g (lw_at lw_m3 157 rfl) rfl
theorem q741 : (Jvm.Cond.instanceMethod ({ cls := "WeekFoot$Kept", name := "tells", desc := "(LWeekFoot$State;)V" } : Jvm.MethodName)) ∈ lw_all := lw_g (lw_at lw_m3 158 rfl) rfl
theorem q742 : (Jvm.Cond.code ({ cls := "WeekFoot$Kept", name := "tells", desc := "(LWeekFoot$State;)V" } : Jvm.MethodName) prog_9_method_2_code (3 : Nat) (Option.none : Option Jvm.ClassFile.FieldType)) ∈ lw_all := lw_g (lw_at lw_m3 159 rfl) rfl
theorem q1970 : (Jvm.Cond.castable "WeekFoot$Kept" "WeekFoot$Clause") ∈ lw_tbl := lw_at lw_m8 187 rfl
theorem q1983 : (Jvm.Cond.castable "WeekFoot$Kept" "java/lang/Object") ∈ lw_tbl := lw_at lw_m8 200 rfl
theorem in_X11 : ∀ w ∈ wsX110, w ∈ lw_all := lw_in wsX110 [655, 657, 659] (by decide +kernel) (by decide +kernel)
/-! WeekFoot$Below -/
set_option maxRecDepth 100000
def RX12 : String := "WeekFoot$Below"
def TX12 : u_T := fun k => match k with
  | 0 => ("WeekFoot$Below", "one", "I", true)
  | _ => ("WeekFoot$Below", "other", "I", true)
def tyX12 : Nat → FieldType := fun k => match k with
  | 0 => .int
  | _ => .int
abbrev wsX120 : List Cond := u_ws RX12 TX12 2
theorem nmX12 : ∀ a, a < 2 → ∀ b, b < 2 → a ≠ b → (TX12 a).2.1 ≠ (TX12 b).2.1 := by decide +kernel
theorem tyX12_ok : ∀ k, k < 2 → parseFieldDescriptor (TX12 k).2.2.1 = some (tyX12 k) := by decide +kernel
abbrev cX12_init : ByteArray := prog_2_method_1_code
def yX12_init : MethodName := ⟨RX12, "<init>", "(II)V"⟩
def dkwX12_init_0 : List UInt8 := [42, 183, 0, 1, 42, 27, 181, 0, 7, 42, 28, 181, 0, 13, 177]
abbrev dktX12_init_0 : List UInt8 := dkwX12_init_0 ++ []
theorem dksX12_init_0 : cX12_init.data.toList.drop 0 = dktX12_init_0 := by decide +kernel
theorem dX12_init_0 : decode cX12_init 0 = .ok (.aload_n 0, 1) := dk_42 (dk_at dksX12_init_0 0 rfl rfl)
theorem dX12_init_1 : decode cX12_init 1 = .ok (.invokespecial 1, 3) := dk_183 0 1 (dk_at dksX12_init_0 1 rfl rfl)
theorem dX12_init_4 : decode cX12_init 4 = .ok (.aload_n 0, 1) := dk_42 (dk_at dksX12_init_0 4 rfl rfl)
theorem dX12_init_5 : decode cX12_init 5 = .ok (.iload_n 1, 1) := dk_27 (dk_at dksX12_init_0 5 rfl rfl)
theorem dX12_init_6 : decode cX12_init 6 = .ok (.putfield 7, 3) := dk_181 0 7 (dk_at dksX12_init_0 6 rfl rfl)
theorem dX12_init_9 : decode cX12_init 9 = .ok (.aload_n 0, 1) := dk_42 (dk_at dksX12_init_0 9 rfl rfl)
theorem dX12_init_10 : decode cX12_init 10 = .ok (.iload_n 2, 1) := dk_28 (dk_at dksX12_init_0 10 rfl rfl)
theorem dX12_init_11 : decode cX12_init 11 = .ok (.putfield 13, 3) := dk_181 0 13 (dk_at dksX12_init_0 11 rfl rfl)
theorem dX12_init_14 : decode cX12_init 14 = .ok (.return_, 1) := dk_177 (dk_at dksX12_init_0 14 rfl rfl)
abbrev cX12_tells : ByteArray := prog_2_method_2_code
def yX12_tells : MethodName := ⟨RX12, "tells", "(LWeekFoot$State;)V"⟩
def dkwX12_tells_1 : List UInt8 := [182, 0, 22, 177]
abbrev dktX12_tells_1 : List UInt8 := dkwX12_tells_1 ++ []
def dkwX12_tells_0 : List UInt8 := [43, 42, 180, 0, 7, 42, 180, 0, 13, 182, 0, 16, 154, 0, 15, 43, 42, 180, 0, 7, 42, 180, 0, 13]
abbrev dktX12_tells_0 : List UInt8 := dkwX12_tells_0 ++ dktX12_tells_1
theorem dksX12_tells_0 : cX12_tells.data.toList.drop 0 = dktX12_tells_0 := by decide +kernel
theorem dksX12_tells_1 : cX12_tells.data.toList.drop 24 = dktX12_tells_1 := dk_seg dksX12_tells_0 24 rfl rfl
theorem dX12_tells_0 : decode cX12_tells 0 = .ok (.aload_n 1, 1) := dk_43 (dk_at dksX12_tells_0 0 rfl rfl)
theorem dX12_tells_1 : decode cX12_tells 1 = .ok (.aload_n 0, 1) := dk_42 (dk_at dksX12_tells_0 1 rfl rfl)
theorem dX12_tells_2 : decode cX12_tells 2 = .ok (.getfield 7, 3) := dk_180 0 7 (dk_at dksX12_tells_0 2 rfl rfl)
theorem dX12_tells_5 : decode cX12_tells 5 = .ok (.aload_n 0, 1) := dk_42 (dk_at dksX12_tells_0 5 rfl rfl)
theorem dX12_tells_6 : decode cX12_tells 6 = .ok (.getfield 13, 3) := dk_180 0 13 (dk_at dksX12_tells_0 6 rfl rfl)
theorem dX12_tells_9 : decode cX12_tells 9 = .ok (.invokevirtual 16, 3) := dk_182 0 16 (dk_at dksX12_tells_0 9 rfl rfl)
theorem dX12_tells_12 : decode cX12_tells 12 = .ok (.ifCond .ne 15, 3) := dk_154 0 15 (dk_at dksX12_tells_0 12 rfl rfl)
theorem dX12_tells_15 : decode cX12_tells 15 = .ok (.aload_n 1, 1) := dk_43 (dk_at dksX12_tells_0 15 rfl rfl)
theorem dX12_tells_16 : decode cX12_tells 16 = .ok (.aload_n 0, 1) := dk_42 (dk_at dksX12_tells_0 16 rfl rfl)
theorem dX12_tells_17 : decode cX12_tells 17 = .ok (.getfield 7, 3) := dk_180 0 7 (dk_at dksX12_tells_0 17 rfl rfl)
theorem dX12_tells_20 : decode cX12_tells 20 = .ok (.aload_n 0, 1) := dk_42 (dk_at dksX12_tells_0 20 rfl rfl)
theorem dX12_tells_21 : decode cX12_tells 21 = .ok (.getfield 13, 3) := dk_180 0 13 (dk_at dksX12_tells_0 21 rfl rfl)
theorem dX12_tells_24 : decode cX12_tells 24 = .ok (.invokevirtual 22, 3) := dk_182 0 22 (dk_at dksX12_tells_1 0 rfl rfl)
theorem dX12_tells_27 : decode cX12_tells 27 = .ok (.return_, 1) := dk_177 (dk_at dksX12_tells_1 3 rfl rfl)
theorem q130 : (Jvm.Cond.initialized "WeekFoot$Below") ∈ lw_all := lw_g (lw_at lw_m1 27 rfl) rfl
theorem q259 : (Jvm.Cond.selects "WeekFoot$Below" ({ cls := "java/lang/Object", name := "getClass", desc := "()Ljava/lang/Class;" } : Jvm.MethodName) ({ cls := "java/lang/Object", name := "getClass", desc := "()Ljava/lang/Class;" } : Jvm.MethodName)) ∈ lw_all := lw_g (lw_at lw_m1 156 rfl) rfl
theorem q670 : (Jvm.Cond.instantiable "WeekFoot$Below" (2 : Nat)) ∈ lw_all := lw_g (lw_at lw_m3 87 rfl) rfl
theorem q672 : (Jvm.Cond.instanceMethod ({ cls := "WeekFoot$Below", name := "<init>", desc := "(II)V" } : Jvm.MethodName)) ∈ lw_all := lw_g (lw_at lw_m3 89 rfl) rfl
theorem q673 : (Jvm.Cond.code ({ cls := "WeekFoot$Below", name := "<init>", desc := "(II)V" } : Jvm.MethodName) prog_2_method_1_code (3 : Nat) (Option.none : Option Jvm.ClassFile.FieldType)) ∈ lw_all := lw_g (lw_at lw_m3 90 rfl) rfl
theorem q674 : (Jvm.Cond.methodLinkNest "WeekFoot$Below" (1 : Nat) ({ cls := "WeekFoot$Clause", name := "<init>", desc := "()V" } : Jvm.MethodName) "WeekFoot") ∈ lw_tbl := lw_at lw_m3 91 rfl
theorem q675 : (Jvm.Cond.fieldLink "WeekFoot$Below" (7 : Nat) "WeekFoot$Below" "one" "I") ∈ lw_all := lw_g (lw_at lw_m3 92 rfl) rfl
theorem q676 : (Jvm.Cond.fieldLink "WeekFoot$Below" (13 : Nat) "WeekFoot$Below" "other" "I") ∈ lw_all := lw_g (lw_at lw_m3 93 rfl) rfl
theorem q677 : (Jvm.Cond.laysFinal "WeekFoot$Below" "WeekFoot$Below" "one" "I") ∈ lw_all := lw_g (lw_at lw_m3 94 rfl) rfl
theorem q678 : (Jvm.Cond.soleField "WeekFoot$Below" "one") ∈ lw_all := lw_g (lw_at lw_m3 95 rfl) rfl
theorem q679 : (Jvm.Cond.laysFinal "WeekFoot$Below" "WeekFoot$Below" "other" "I") ∈ lw_all := lw_g (lw_at lw_m3 96 rfl) rfl
theorem q680 : (Jvm.Cond.soleField "WeekFoot$Below" "other") ∈ lw_all := lw_g (lw_at lw_m3 97 rfl) rfl
theorem q681 : (Jvm.Cond.superclass "WeekFoot$Below" "WeekFoot$Clause") ∈ lw_all := lw_g (lw_at lw_m3 98 rfl) rfl
theorem q732 : (Jvm.Cond.selects "WeekFoot$Below" ({ cls := "WeekFoot$Clause", name := "tells", desc := "(LWeekFoot$State;)V" } : Jvm.MethodName) ({ cls := "WeekFoot$Below", name := "tells", desc := "(LWeekFoot$State;)V" } : Jvm.MethodName)) ∈ lw_all := lw_g (lw_at lw_m3 149 rfl) rfl
theorem q733 : (Jvm.Cond.instanceMethod ({ cls := "WeekFoot$Below", name := "tells", desc := "(LWeekFoot$State;)V" } : Jvm.MethodName)) ∈ lw_all := lw_g (lw_at lw_m3 150 rfl) rfl
theorem q734 : (Jvm.Cond.code ({ cls := "WeekFoot$Below", name := "tells", desc := "(LWeekFoot$State;)V" } : Jvm.MethodName) prog_2_method_2_code (2 : Nat) (Option.none : Option Jvm.ClassFile.FieldType)) ∈ lw_all := lw_g (lw_at lw_m3 151 rfl) rfl
theorem q735 : (Jvm.Cond.methodLink "WeekFoot$Below" (16 : Nat) ({ cls := "WeekFoot$State", name := "isShorter", desc := "(II)Z" } : Jvm.MethodName)) ∈ lw_all := lw_g (lw_at lw_m3 152 rfl) rfl
theorem q736 : (Jvm.Cond.methodLink "WeekFoot$Below" (22 : Nat) ({ cls := "WeekFoot$State", name := "shorter", desc := "(II)V" } : Jvm.MethodName)) ∈ lw_all := lw_g (lw_at lw_m3 153 rfl) rfl
theorem q1968 : (Jvm.Cond.castable "WeekFoot$Below" "WeekFoot$Clause") ∈ lw_tbl := lw_at lw_m8 185 rfl
theorem q1984 : (Jvm.Cond.castable "WeekFoot$Below" "java/lang/Object") ∈ lw_tbl := lw_at lw_m8 201 rfl
theorem in_X12 : ∀ w ∈ wsX120, w ∈ lw_all := lw_in wsX120 [677, 679] (by decide +kernel) (by decide +kernel)
/-! WeekFoot$Cut -/
set_option maxRecDepth 100000
def RX13 : String := "WeekFoot$Cut"
def TX13 : u_T := fun k => match k with
  | 0 => ("WeekFoot$Cut", "thing", "I", true)
  | _ => ("WeekFoot$Cut", "week", "I", true)
def tyX13 : Nat → FieldType := fun k => match k with
  | 0 => .int
  | _ => .int
abbrev wsX130 : List Cond := u_ws RX13 TX13 2
theorem nmX13 : ∀ a, a < 2 → ∀ b, b < 2 → a ≠ b → (TX13 a).2.1 ≠ (TX13 b).2.1 := by decide +kernel
theorem tyX13_ok : ∀ k, k < 2 → parseFieldDescriptor (TX13 k).2.2.1 = some (tyX13 k) := by decide +kernel
abbrev cX13_init : ByteArray := prog_5_method_1_code
def yX13_init : MethodName := ⟨RX13, "<init>", "(II)V"⟩
def dkwX13_init_0 : List UInt8 := [42, 183, 0, 1, 42, 27, 181, 0, 7, 42, 28, 181, 0, 13, 177]
abbrev dktX13_init_0 : List UInt8 := dkwX13_init_0 ++ []
theorem dksX13_init_0 : cX13_init.data.toList.drop 0 = dktX13_init_0 := by decide +kernel
theorem dX13_init_0 : decode cX13_init 0 = .ok (.aload_n 0, 1) := dk_42 (dk_at dksX13_init_0 0 rfl rfl)
theorem dX13_init_1 : decode cX13_init 1 = .ok (.invokespecial 1, 3) := dk_183 0 1 (dk_at dksX13_init_0 1 rfl rfl)
theorem dX13_init_4 : decode cX13_init 4 = .ok (.aload_n 0, 1) := dk_42 (dk_at dksX13_init_0 4 rfl rfl)
theorem dX13_init_5 : decode cX13_init 5 = .ok (.iload_n 1, 1) := dk_27 (dk_at dksX13_init_0 5 rfl rfl)
theorem dX13_init_6 : decode cX13_init 6 = .ok (.putfield 7, 3) := dk_181 0 7 (dk_at dksX13_init_0 6 rfl rfl)
theorem dX13_init_9 : decode cX13_init 9 = .ok (.aload_n 0, 1) := dk_42 (dk_at dksX13_init_0 9 rfl rfl)
theorem dX13_init_10 : decode cX13_init 10 = .ok (.iload_n 2, 1) := dk_28 (dk_at dksX13_init_0 10 rfl rfl)
theorem dX13_init_11 : decode cX13_init 11 = .ok (.putfield 13, 3) := dk_181 0 13 (dk_at dksX13_init_0 11 rfl rfl)
theorem dX13_init_14 : decode cX13_init 14 = .ok (.return_, 1) := dk_177 (dk_at dksX13_init_0 14 rfl rfl)
abbrev cX13_tells : ByteArray := prog_5_method_2_code
def yX13_tells : MethodName := ⟨RX13, "tells", "(LWeekFoot$State;)V"⟩
def dkwX13_tells_0 : List UInt8 := [43, 180, 0, 16, 42, 180, 0, 7, 42, 180, 0, 13, 79, 177]
abbrev dktX13_tells_0 : List UInt8 := dkwX13_tells_0 ++ []
theorem dksX13_tells_0 : cX13_tells.data.toList.drop 0 = dktX13_tells_0 := by decide +kernel
theorem dX13_tells_0 : decode cX13_tells 0 = .ok (.aload_n 1, 1) := dk_43 (dk_at dksX13_tells_0 0 rfl rfl)
theorem dX13_tells_1 : decode cX13_tells 1 = .ok (.getfield 16, 3) := dk_180 0 16 (dk_at dksX13_tells_0 1 rfl rfl)
theorem dX13_tells_4 : decode cX13_tells 4 = .ok (.aload_n 0, 1) := dk_42 (dk_at dksX13_tells_0 4 rfl rfl)
theorem dX13_tells_5 : decode cX13_tells 5 = .ok (.getfield 7, 3) := dk_180 0 7 (dk_at dksX13_tells_0 5 rfl rfl)
theorem dX13_tells_8 : decode cX13_tells 8 = .ok (.aload_n 0, 1) := dk_42 (dk_at dksX13_tells_0 8 rfl rfl)
theorem dX13_tells_9 : decode cX13_tells 9 = .ok (.getfield 13, 3) := dk_180 0 13 (dk_at dksX13_tells_0 9 rfl rfl)
theorem dX13_tells_12 : decode cX13_tells 12 = .ok (.iastore, 1) := dk_79 (dk_at dksX13_tells_0 12 rfl rfl)
theorem dX13_tells_13 : decode cX13_tells 13 = .ok (.return_, 1) := dk_177 (dk_at dksX13_tells_0 13 rfl rfl)
theorem q131 : (Jvm.Cond.initialized "WeekFoot$Cut") ∈ lw_all := lw_g (lw_at lw_m1 28 rfl) rfl
theorem q190 : (Jvm.Cond.fieldLinkNest "WeekFoot$Cut" (16 : Nat) "WeekFoot$State" "cuts" "[I" "WeekFoot") ∈ lw_tbl := lw_at lw_m1 87 rfl
theorem q261 : (Jvm.Cond.selects "WeekFoot$Cut" ({ cls := "java/lang/Object", name := "getClass", desc := "()Ljava/lang/Class;" } : Jvm.MethodName) ({ cls := "java/lang/Object", name := "getClass", desc := "()Ljava/lang/Class;" } : Jvm.MethodName)) ∈ lw_all := lw_g (lw_at lw_m1 158 rfl) rfl
theorem q690 : (Jvm.Cond.instantiable "WeekFoot$Cut" (2 : Nat)) ∈ lw_all := lw_g (lw_at lw_m3 107 rfl) rfl
theorem q692 : (Jvm.Cond.instanceMethod ({ cls := "WeekFoot$Cut", name := "<init>", desc := "(II)V" } : Jvm.MethodName)) ∈ lw_all := lw_g (lw_at lw_m3 109 rfl) rfl
theorem q693 : (Jvm.Cond.code ({ cls := "WeekFoot$Cut", name := "<init>", desc := "(II)V" } : Jvm.MethodName) prog_5_method_1_code (3 : Nat) (Option.none : Option Jvm.ClassFile.FieldType)) ∈ lw_all := lw_g (lw_at lw_m3 110 rfl) rfl
theorem q694 : (Jvm.Cond.methodLinkNest "WeekFoot$Cut" (1 : Nat) ({ cls := "WeekFoot$Clause", name := "<init>", desc := "()V" } : Jvm.MethodName) "WeekFoot") ∈ lw_tbl := lw_at lw_m3 111 rfl
theorem q695 : (Jvm.Cond.fieldLink "WeekFoot$Cut" (7 : Nat) "WeekFoot$Cut" "thing" "I") ∈ lw_all := lw_g (lw_at lw_m3 112 rfl) rfl
theorem q696 : (Jvm.Cond.fieldLink "WeekFoot$Cut" (13 : Nat) "WeekFoot$Cut" "week" "I") ∈ lw_all := lw_g (lw_at lw_m3 113 rfl) rfl
theorem q697 : (Jvm.Cond.laysFinal "WeekFoot$Cut" "WeekFoot$Cut" "thing" "I") ∈ lw_all := lw_g (lw_at lw_m3 114 rfl) rfl
theorem q698 : (Jvm.Cond.soleField "WeekFoot$Cut" "thing") ∈ lw_all := lw_g (lw_at lw_m3 115 rfl) rfl
theorem q699 : (Jvm.Cond.laysFinal "WeekFoot$Cut" "WeekFoot$Cut" "week" "I") ∈ lw_all := lw_g (lw_at lw_m3 116 rfl) rfl
theorem q700 : (Jvm.Cond.soleField "WeekFoot$Cut" "week") ∈ lw_all := lw_g (lw_at lw_m3 117 rfl) rfl
theorem q701 : (Jvm.Cond.superclass "WeekFoot$Cut" "WeekFoot$Clause") ∈ lw_all := lw_g (lw_at lw_m3 118 rfl) rfl
theorem q737 : (Jvm.Cond.selects "WeekFoot$Cut" ({ cls := "WeekFoot$Clause", name := "tells", desc := "(LWeekFoot$State;)V" } : Jvm.MethodName) ({ cls := "WeekFoot$Cut", name := "tells", desc := "(LWeekFoot$State;)V" } : Jvm.MethodName)) ∈ lw_all := lw_g (lw_at lw_m3 154 rfl) rfl
theorem q738 : (Jvm.Cond.instanceMethod ({ cls := "WeekFoot$Cut", name := "tells", desc := "(LWeekFoot$State;)V" } : Jvm.MethodName)) ∈ lw_all := lw_g (lw_at lw_m3 155 rfl) rfl
theorem q739 : (Jvm.Cond.code ({ cls := "WeekFoot$Cut", name := "tells", desc := "(LWeekFoot$State;)V" } : Jvm.MethodName) prog_5_method_2_code (2 : Nat) (Option.none : Option Jvm.ClassFile.FieldType)) ∈ lw_all := lw_g (lw_at lw_m3 156 rfl) rfl
theorem q1969 : (Jvm.Cond.castable "WeekFoot$Cut" "WeekFoot$Clause") ∈ lw_tbl := lw_at lw_m8 186 rfl
theorem q1985 : (Jvm.Cond.castable "WeekFoot$Cut" "java/lang/Object") ∈ lw_tbl := lw_at lw_m8 202 rfl
theorem in_X13 : ∀ w ∈ wsX130, w ∈ lw_all := lw_in wsX130 [697, 699] (by decide +kernel) (by decide +kernel)
/-! WeekFoot$Measured -/
set_option maxRecDepth 100000
def RX14 : String := "WeekFoot$Measured"
def TX14 : u_T := fun k => match k with
  | _ => ("WeekFoot$Measured", "entries", "Ljava/util/ArrayList;", true)
def tyX14 : Nat → FieldType := fun k => match k with
  | _ => .object "java/util/ArrayList"
abbrev wsX140 : List Cond := u_ws RX14 TX14 1
theorem nmX14 : ∀ a, a < 1 → ∀ b, b < 1 → a ≠ b → (TX14 a).2.1 ≠ (TX14 b).2.1 := by decide +kernel
theorem tyX14_ok : ∀ k, k < 1 → parseFieldDescriptor (TX14 k).2.2.1 = some (tyX14 k) := by decide +kernel
abbrev cX14_init : ByteArray := prog_10_method_1_code
def yX14_init : MethodName := ⟨RX14, "<init>", "()V"⟩
def dkwX14_init_0 : List UInt8 := [42, 183, 0, 1, 42, 187, 0, 7, 89, 5, 183, 0, 9, 181, 0, 12, 177]
abbrev dktX14_init_0 : List UInt8 := dkwX14_init_0 ++ []
theorem dksX14_init_0 : cX14_init.data.toList.drop 0 = dktX14_init_0 := by decide +kernel
theorem dX14_init_0 : decode cX14_init 0 = .ok (.aload_n 0, 1) := dk_42 (dk_at dksX14_init_0 0 rfl rfl)
theorem dX14_init_1 : decode cX14_init 1 = .ok (.invokespecial 1, 3) := dk_183 0 1 (dk_at dksX14_init_0 1 rfl rfl)
theorem dX14_init_4 : decode cX14_init 4 = .ok (.aload_n 0, 1) := dk_42 (dk_at dksX14_init_0 4 rfl rfl)
theorem dX14_init_5 : decode cX14_init 5 = .ok (.new 7, 3) := dk_187 0 7 (dk_at dksX14_init_0 5 rfl rfl)
theorem dX14_init_8 : decode cX14_init 8 = .ok (.dup, 1) := dk_89 (dk_at dksX14_init_0 8 rfl rfl)
theorem dX14_init_9 : decode cX14_init 9 = .ok (.iconst 2, 1) := dk_5 (dk_at dksX14_init_0 9 rfl rfl)
theorem dX14_init_10 : decode cX14_init 10 = .ok (.invokespecial 9, 3) := dk_183 0 9 (dk_at dksX14_init_0 10 rfl rfl)
theorem dX14_init_13 : decode cX14_init 13 = .ok (.putfield 12, 3) := dk_181 0 12 (dk_at dksX14_init_0 13 rfl rfl)
theorem dX14_init_16 : decode cX14_init 16 = .ok (.return_, 1) := dk_177 (dk_at dksX14_init_0 16 rfl rfl)
abbrev cX14_tells : ByteArray := prog_10_method_2_code
def yX14_tells : MethodName := ⟨RX14, "tells", "(LWeekFoot$State;)V"⟩
def dkwX14_tells_1 : List UInt8 := [192, 0, 26, 182, 0, 28, 132, 2, 1, 167, 255, 227, 177]
abbrev dktX14_tells_1 : List UInt8 := dkwX14_tells_1 ++ []
def dkwX14_tells_0 : List UInt8 := [3, 61, 28, 42, 180, 0, 12, 182, 0, 18, 162, 0, 24, 43, 42, 180, 0, 12, 28, 182, 0, 22]
abbrev dktX14_tells_0 : List UInt8 := dkwX14_tells_0 ++ dktX14_tells_1
theorem dksX14_tells_0 : cX14_tells.data.toList.drop 0 = dktX14_tells_0 := by decide +kernel
theorem dksX14_tells_1 : cX14_tells.data.toList.drop 22 = dktX14_tells_1 := dk_seg dksX14_tells_0 22 rfl rfl
theorem dX14_tells_0 : decode cX14_tells 0 = .ok (.iconst 0, 1) := dk_3 (dk_at dksX14_tells_0 0 rfl rfl)
theorem dX14_tells_1 : decode cX14_tells 1 = .ok (.istore_n 2, 1) := dk_61 (dk_at dksX14_tells_0 1 rfl rfl)
theorem dX14_tells_2 : decode cX14_tells 2 = .ok (.iload_n 2, 1) := dk_28 (dk_at dksX14_tells_0 2 rfl rfl)
theorem dX14_tells_3 : decode cX14_tells 3 = .ok (.aload_n 0, 1) := dk_42 (dk_at dksX14_tells_0 3 rfl rfl)
theorem dX14_tells_4 : decode cX14_tells 4 = .ok (.getfield 12, 3) := dk_180 0 12 (dk_at dksX14_tells_0 4 rfl rfl)
theorem dX14_tells_7 : decode cX14_tells 7 = .ok (.invokevirtual 18, 3) := dk_182 0 18 (dk_at dksX14_tells_0 7 rfl rfl)
theorem dX14_tells_10 : decode cX14_tells 10 = .ok (.if_icmp .ge 24, 3) := dk_162 0 24 (dk_at dksX14_tells_0 10 rfl rfl)
theorem dX14_tells_13 : decode cX14_tells 13 = .ok (.aload_n 1, 1) := dk_43 (dk_at dksX14_tells_0 13 rfl rfl)
theorem dX14_tells_14 : decode cX14_tells 14 = .ok (.aload_n 0, 1) := dk_42 (dk_at dksX14_tells_0 14 rfl rfl)
theorem dX14_tells_15 : decode cX14_tells 15 = .ok (.getfield 12, 3) := dk_180 0 12 (dk_at dksX14_tells_0 15 rfl rfl)
theorem dX14_tells_18 : decode cX14_tells 18 = .ok (.iload_n 2, 1) := dk_28 (dk_at dksX14_tells_0 18 rfl rfl)
theorem dX14_tells_19 : decode cX14_tells 19 = .ok (.invokevirtual 22, 3) := dk_182 0 22 (dk_at dksX14_tells_0 19 rfl rfl)
theorem dX14_tells_22 : decode cX14_tells 22 = .ok (.checkcast 26, 3) := dk_192 0 26 (dk_at dksX14_tells_1 0 rfl rfl)
theorem dX14_tells_25 : decode cX14_tells 25 = .ok (.invokevirtual 28, 3) := dk_182 0 28 (dk_at dksX14_tells_1 3 rfl rfl)
theorem dX14_tells_28 : decode cX14_tells 28 = .ok (.iinc 2 1, 3) := dk_132 2 1 (dk_at dksX14_tells_1 6 rfl rfl)
theorem dX14_tells_31 : decode cX14_tells 31 = .ok (.goto (-29), 3) := dk_167 255 227 (dk_at dksX14_tells_1 9 rfl rfl)
theorem dX14_tells_34 : decode cX14_tells 34 = .ok (.return_, 1) := dk_177 (dk_at dksX14_tells_1 12 rfl rfl)
theorem q132 : (Jvm.Cond.initialized "WeekFoot$Measured") ∈ lw_all := lw_g (lw_at lw_m1 29 rfl) rfl
theorem q266 : (Jvm.Cond.selects "WeekFoot$Measured" ({ cls := "java/lang/Object", name := "getClass", desc := "()Ljava/lang/Class;" } : Jvm.MethodName) ({ cls := "java/lang/Object", name := "getClass", desc := "()Ljava/lang/Class;" } : Jvm.MethodName)) ∈ lw_all := lw_g (lw_at lw_m1 163 rfl) rfl
theorem q704 : (Jvm.Cond.instantiable "WeekFoot$Measured" (1 : Nat)) ∈ lw_all := lw_g (lw_at lw_m3 121 rfl) rfl
theorem q706 : (Jvm.Cond.instanceMethod ({ cls := "WeekFoot$Measured", name := "<init>", desc := "()V" } : Jvm.MethodName)) ∈ lw_all := lw_g (lw_at lw_m3 123 rfl) rfl
theorem q707 : (Jvm.Cond.code ({ cls := "WeekFoot$Measured", name := "<init>", desc := "()V" } : Jvm.MethodName) prog_10_method_1_code (1 : Nat) (Option.none : Option Jvm.ClassFile.FieldType)) ∈ lw_all := lw_g (lw_at lw_m3 124 rfl) rfl
theorem q708 : (Jvm.Cond.methodLinkNest "WeekFoot$Measured" (1 : Nat) ({ cls := "WeekFoot$Clause", name := "<init>", desc := "()V" } : Jvm.MethodName) "WeekFoot") ∈ lw_tbl := lw_at lw_m3 125 rfl
theorem q709 : (Jvm.Cond.classLink "WeekFoot$Measured" (7 : Nat) "java/util/ArrayList") ∈ lw_all := lw_g (lw_at lw_m3 126 rfl) rfl
theorem q710 : (Jvm.Cond.methodLink "WeekFoot$Measured" (9 : Nat) ({ cls := "java/util/ArrayList", name := "<init>", desc := "(I)V" } : Jvm.MethodName)) ∈ lw_all := lw_g (lw_at lw_m3 127 rfl) rfl
theorem q711 : (Jvm.Cond.fieldLink "WeekFoot$Measured" (12 : Nat) "WeekFoot$Measured" "entries" "Ljava/util/ArrayList;") ∈ lw_all := lw_g (lw_at lw_m3 128 rfl) rfl
theorem q713 : (Jvm.Cond.laysFinal "WeekFoot$Measured" "WeekFoot$Measured" "entries" "Ljava/util/ArrayList;") ∈ lw_all := lw_g (lw_at lw_m3 130 rfl) rfl
theorem q714 : (Jvm.Cond.soleField "WeekFoot$Measured" "entries") ∈ lw_all := lw_g (lw_at lw_m3 131 rfl) rfl
theorem q715 : (Jvm.Cond.superclass "WeekFoot$Measured" "WeekFoot$Clause") ∈ lw_all := lw_g (lw_at lw_m3 132 rfl) rfl
theorem q743 : (Jvm.Cond.selects "WeekFoot$Measured" ({ cls := "WeekFoot$Clause", name := "tells", desc := "(LWeekFoot$State;)V" } : Jvm.MethodName) ({ cls := "WeekFoot$Measured", name := "tells", desc := "(LWeekFoot$State;)V" } : Jvm.MethodName)) ∈ lw_all := lw_g (lw_at lw_m3 160 rfl) rfl
theorem q744 : (Jvm.Cond.instanceMethod ({ cls := "WeekFoot$Measured", name := "tells", desc := "(LWeekFoot$State;)V" } : Jvm.MethodName)) ∈ lw_all := lw_g (lw_at lw_m3 161 rfl) rfl
theorem q745 : (Jvm.Cond.code ({ cls := "WeekFoot$Measured", name := "tells", desc := "(LWeekFoot$State;)V" } : Jvm.MethodName) prog_10_method_2_code (3 : Nat) (Option.none : Option Jvm.ClassFile.FieldType)) ∈ lw_all := lw_g (lw_at lw_m3 162 rfl) rfl
theorem q746 : (Jvm.Cond.methodLink "WeekFoot$Measured" (18 : Nat) ({ cls := "java/util/ArrayList", name := "size", desc := "()I" } : Jvm.MethodName)) ∈ lw_all := lw_g (lw_at lw_m3 163 rfl) rfl
theorem q747 : (Jvm.Cond.methodLink "WeekFoot$Measured" (22 : Nat) ({ cls := "java/util/ArrayList", name := "get", desc := "(I)Ljava/lang/Object;" } : Jvm.MethodName)) ∈ lw_all := lw_g (lw_at lw_m3 164 rfl) rfl
theorem q748 : (Jvm.Cond.classLink "WeekFoot$Measured" (26 : Nat) "WeekFoot$Entry") ∈ lw_all := lw_g (lw_at lw_m3 165 rfl) rfl
theorem q749 : (Jvm.Cond.methodLink "WeekFoot$Measured" (28 : Nat) ({ cls := "WeekFoot$State", name := "adds", desc := "(LWeekFoot$Entry;)V" } : Jvm.MethodName)) ∈ lw_all := lw_g (lw_at lw_m3 166 rfl) rfl
theorem q1971 : (Jvm.Cond.castable "WeekFoot$Measured" "WeekFoot$Clause") ∈ lw_tbl := lw_at lw_m8 188 rfl
theorem q1986 : (Jvm.Cond.castable "WeekFoot$Measured" "java/lang/Object") ∈ lw_tbl := lw_at lw_m8 203 rfl
theorem in_X14 : ∀ w ∈ wsX140, w ∈ lw_all := lw_in wsX140 [713] (by decide +kernel) (by decide +kernel)
