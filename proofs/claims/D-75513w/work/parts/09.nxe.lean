set_option maxRecDepth 100000
abbrev cX5_weights : ByteArray := prog_16_method_93_code
def yX5_weights : MethodName := ⟨RX5, "weights", "(I)I"⟩
def dkwX5_weights_1 : List UInt8 := [182, 1, 121, 27, 160, 0, 7, 28, 4, 96, 61, 132, 3, 1, 167, 255, 228, 28, 172]
abbrev dktX5_weights_1 : List UInt8 := dkwX5_weights_1 ++ []
def dkwX5_weights_0 : List UInt8 := [42, 3, 181, 0, 80, 3, 61, 3, 62, 29, 42, 182, 0, 169, 162, 0, 26, 42, 29, 182, 0, 172, 42]
abbrev dktX5_weights_0 : List UInt8 := dkwX5_weights_0 ++ dktX5_weights_1
theorem dksX5_weights_0 : cX5_weights.data.toList.drop 0 = dktX5_weights_0 := by decide +kernel
theorem dksX5_weights_1 : cX5_weights.data.toList.drop 23 = dktX5_weights_1 := dk_seg dksX5_weights_0 23 rfl rfl
theorem dX5_weights_0 : decode cX5_weights 0 = .ok (.aload_n 0, 1) := dk_42 (dk_at dksX5_weights_0 0 rfl rfl)
theorem dX5_weights_1 : decode cX5_weights 1 = .ok (.iconst 0, 1) := dk_3 (dk_at dksX5_weights_0 1 rfl rfl)
theorem dX5_weights_2 : decode cX5_weights 2 = .ok (.putfield 80, 3) := dk_181 0 80 (dk_at dksX5_weights_0 2 rfl rfl)
theorem dX5_weights_5 : decode cX5_weights 5 = .ok (.iconst 0, 1) := dk_3 (dk_at dksX5_weights_0 5 rfl rfl)
theorem dX5_weights_6 : decode cX5_weights 6 = .ok (.istore_n 2, 1) := dk_61 (dk_at dksX5_weights_0 6 rfl rfl)
theorem dX5_weights_7 : decode cX5_weights 7 = .ok (.iconst 0, 1) := dk_3 (dk_at dksX5_weights_0 7 rfl rfl)
theorem dX5_weights_8 : decode cX5_weights 8 = .ok (.istore_n 3, 1) := dk_62 (dk_at dksX5_weights_0 8 rfl rfl)
theorem dX5_weights_9 : decode cX5_weights 9 = .ok (.iload_n 3, 1) := dk_29 (dk_at dksX5_weights_0 9 rfl rfl)
theorem dX5_weights_10 : decode cX5_weights 10 = .ok (.aload_n 0, 1) := dk_42 (dk_at dksX5_weights_0 10 rfl rfl)
theorem dX5_weights_11 : decode cX5_weights 11 = .ok (.invokevirtual 169, 3) := dk_182 0 169 (dk_at dksX5_weights_0 11 rfl rfl)
theorem dX5_weights_14 : decode cX5_weights 14 = .ok (.if_icmp .ge 26, 3) := dk_162 0 26 (dk_at dksX5_weights_0 14 rfl rfl)
theorem dX5_weights_17 : decode cX5_weights 17 = .ok (.aload_n 0, 1) := dk_42 (dk_at dksX5_weights_0 17 rfl rfl)
theorem dX5_weights_18 : decode cX5_weights 18 = .ok (.iload_n 3, 1) := dk_29 (dk_at dksX5_weights_0 18 rfl rfl)
theorem dX5_weights_19 : decode cX5_weights 19 = .ok (.invokevirtual 172, 3) := dk_182 0 172 (dk_at dksX5_weights_0 19 rfl rfl)
theorem dX5_weights_22 : decode cX5_weights 22 = .ok (.aload_n 0, 1) := dk_42 (dk_at dksX5_weights_0 22 rfl rfl)
theorem dX5_weights_23 : decode cX5_weights 23 = .ok (.invokevirtual 377, 3) := dk_182 1 121 (dk_at dksX5_weights_1 0 rfl rfl)
theorem dX5_weights_26 : decode cX5_weights 26 = .ok (.iload_n 1, 1) := dk_27 (dk_at dksX5_weights_1 3 rfl rfl)
theorem dX5_weights_27 : decode cX5_weights 27 = .ok (.if_icmp .ne 7, 3) := dk_160 0 7 (dk_at dksX5_weights_1 4 rfl rfl)
theorem dX5_weights_30 : decode cX5_weights 30 = .ok (.iload_n 2, 1) := dk_28 (dk_at dksX5_weights_1 7 rfl rfl)
theorem dX5_weights_31 : decode cX5_weights 31 = .ok (.iconst 1, 1) := dk_4 (dk_at dksX5_weights_1 8 rfl rfl)
theorem dX5_weights_32 : decode cX5_weights 32 = .ok (.iadd, 1) := dk_96 (dk_at dksX5_weights_1 9 rfl rfl)
theorem dX5_weights_33 : decode cX5_weights 33 = .ok (.istore_n 2, 1) := dk_61 (dk_at dksX5_weights_1 10 rfl rfl)
theorem dX5_weights_34 : decode cX5_weights 34 = .ok (.iinc 3 1, 3) := dk_132 3 1 (dk_at dksX5_weights_1 11 rfl rfl)
theorem dX5_weights_37 : decode cX5_weights 37 = .ok (.goto (-28), 3) := dk_167 255 228 (dk_at dksX5_weights_1 14 rfl rfl)
theorem dX5_weights_40 : decode cX5_weights 40 = .ok (.iload_n 2, 1) := dk_28 (dk_at dksX5_weights_1 17 rfl rfl)
theorem dX5_weights_41 : decode cX5_weights 41 = .ok (.ireturn, 1) := dk_172 (dk_at dksX5_weights_1 18 rfl rfl)
abbrev cX5_weight : ByteArray := prog_16_method_92_code
def yX5_weight : MethodName := ⟨RX5, "weight", "()I"⟩
def dkwX5_weight_0 : List UInt8 := [42, 180, 0, 99, 42, 180, 0, 102, 128, 184, 1, 118, 172]
abbrev dktX5_weight_0 : List UInt8 := dkwX5_weight_0 ++ []
theorem dksX5_weight_0 : cX5_weight.data.toList.drop 0 = dktX5_weight_0 := by decide +kernel
theorem dX5_weight_0 : decode cX5_weight 0 = .ok (.aload_n 0, 1) := dk_42 (dk_at dksX5_weight_0 0 rfl rfl)
theorem dX5_weight_1 : decode cX5_weight 1 = .ok (.getfield 99, 3) := dk_180 0 99 (dk_at dksX5_weight_0 1 rfl rfl)
theorem dX5_weight_4 : decode cX5_weight 4 = .ok (.aload_n 0, 1) := dk_42 (dk_at dksX5_weight_0 4 rfl rfl)
theorem dX5_weight_5 : decode cX5_weight 5 = .ok (.getfield 102, 3) := dk_180 0 102 (dk_at dksX5_weight_0 5 rfl rfl)
theorem dX5_weight_8 : decode cX5_weight 8 = .ok (.ior, 1) := dk_128 (dk_at dksX5_weight_0 8 rfl rfl)
theorem dX5_weight_9 : decode cX5_weight 9 = .ok (.invokestatic 374, 3) := dk_184 1 118 (dk_at dksX5_weight_0 9 rfl rfl)
theorem dX5_weight_12 : decode cX5_weight 12 = .ok (.ireturn, 1) := dk_172 (dk_at dksX5_weight_0 12 rfl rfl)
abbrev cX5_bits : ByteArray := prog_16_method_8_code
def yX5_bits : MethodName := ⟨RX5, "bits", "(I)I"⟩
def dkwX5_bits_1 : List UInt8 := [27, 172]
abbrev dktX5_bits_1 : List UInt8 := dkwX5_bits_1 ++ []
def dkwX5_bits_0 : List UInt8 := [3, 60, 3, 61, 28, 16, 8, 162, 0, 17, 27, 26, 28, 122, 4, 126, 96, 60, 132, 2, 1, 167, 255, 239]
abbrev dktX5_bits_0 : List UInt8 := dkwX5_bits_0 ++ dktX5_bits_1
theorem dksX5_bits_0 : cX5_bits.data.toList.drop 0 = dktX5_bits_0 := by decide +kernel
theorem dksX5_bits_1 : cX5_bits.data.toList.drop 24 = dktX5_bits_1 := dk_seg dksX5_bits_0 24 rfl rfl
theorem dX5_bits_0 : decode cX5_bits 0 = .ok (.iconst 0, 1) := dk_3 (dk_at dksX5_bits_0 0 rfl rfl)
theorem dX5_bits_1 : decode cX5_bits 1 = .ok (.istore_n 1, 1) := dk_60 (dk_at dksX5_bits_0 1 rfl rfl)
theorem dX5_bits_2 : decode cX5_bits 2 = .ok (.iconst 0, 1) := dk_3 (dk_at dksX5_bits_0 2 rfl rfl)
theorem dX5_bits_3 : decode cX5_bits 3 = .ok (.istore_n 2, 1) := dk_61 (dk_at dksX5_bits_0 3 rfl rfl)
theorem dX5_bits_4 : decode cX5_bits 4 = .ok (.iload_n 2, 1) := dk_28 (dk_at dksX5_bits_0 4 rfl rfl)
theorem dX5_bits_5 : decode cX5_bits 5 = .ok (.bipush 8, 2) := dk_16 8 (dk_at dksX5_bits_0 5 rfl rfl)
theorem dX5_bits_7 : decode cX5_bits 7 = .ok (.if_icmp .ge 17, 3) := dk_162 0 17 (dk_at dksX5_bits_0 7 rfl rfl)
theorem dX5_bits_10 : decode cX5_bits 10 = .ok (.iload_n 1, 1) := dk_27 (dk_at dksX5_bits_0 10 rfl rfl)
theorem dX5_bits_11 : decode cX5_bits 11 = .ok (.iload_n 0, 1) := dk_26 (dk_at dksX5_bits_0 11 rfl rfl)
theorem dX5_bits_12 : decode cX5_bits 12 = .ok (.iload_n 2, 1) := dk_28 (dk_at dksX5_bits_0 12 rfl rfl)
theorem dX5_bits_13 : decode cX5_bits 13 = .ok (.ishr, 1) := dk_122 (dk_at dksX5_bits_0 13 rfl rfl)
theorem dX5_bits_14 : decode cX5_bits 14 = .ok (.iconst 1, 1) := dk_4 (dk_at dksX5_bits_0 14 rfl rfl)
theorem dX5_bits_15 : decode cX5_bits 15 = .ok (.iand, 1) := dk_126 (dk_at dksX5_bits_0 15 rfl rfl)
theorem dX5_bits_16 : decode cX5_bits 16 = .ok (.iadd, 1) := dk_96 (dk_at dksX5_bits_0 16 rfl rfl)
theorem dX5_bits_17 : decode cX5_bits 17 = .ok (.istore_n 1, 1) := dk_60 (dk_at dksX5_bits_0 17 rfl rfl)
theorem dX5_bits_18 : decode cX5_bits 18 = .ok (.iinc 2 1, 3) := dk_132 2 1 (dk_at dksX5_bits_0 18 rfl rfl)
theorem dX5_bits_21 : decode cX5_bits 21 = .ok (.goto (-17), 3) := dk_167 255 239 (dk_at dksX5_bits_0 21 rfl rfl)
theorem dX5_bits_24 : decode cX5_bits 24 = .ok (.iload_n 1, 1) := dk_27 (dk_at dksX5_bits_1 0 rfl rfl)
theorem dX5_bits_25 : decode cX5_bits 25 = .ok (.ireturn, 1) := dk_172 (dk_at dksX5_bits_1 1 rfl rfl)
abbrev cX5_lightest : ByteArray := prog_16_method_94_code
def yX5_lightest : MethodName := ⟨RX5, "lightest", "(I)I"⟩
def dkwX5_lightest_6 : List UInt8 := [160, 0, 7, 29, 167, 0, 8, 42, 27, 182, 1, 115, 172]
abbrev dktX5_lightest_6 : List UInt8 := dkwX5_lightest_6 ++ []
def dkwX5_lightest_5 : List UInt8 := [180, 0, 99, 54, 4, 42, 180, 0, 102, 54, 5, 132, 6, 1, 167, 255, 157, 42, 28, 182, 0, 172, 27, 6]
abbrev dktX5_lightest_5 : List UInt8 := dkwX5_lightest_5 ++ dktX5_lightest_6
def dkwX5_lightest_4 : List UInt8 := [21, 5, 100, 54, 7, 21, 7, 155, 0, 6, 167, 0, 23, 21, 6, 61, 42, 182, 1, 121, 62, 42]
abbrev dktX5_lightest_4 : List UInt8 := dkwX5_lightest_4 ++ dktX5_lightest_5
def dkwX5_lightest_3 : List UInt8 := [42, 180, 0, 99, 21, 4, 159, 0, 13, 42, 180, 0, 99, 21, 4, 100, 167, 0, 10, 42, 180, 0, 102]
abbrev dktX5_lightest_3 : List UInt8 := dkwX5_lightest_3 ++ dktX5_lightest_4
def dkwX5_lightest_2 : List UInt8 := [154, 0, 7, 2, 167, 0, 46, 42, 182, 1, 121, 29, 159, 0, 12, 42, 182, 1, 121, 29, 100, 167, 0, 29]
abbrev dktX5_lightest_2 : List UInt8 := dkwX5_lightest_2 ++ dktX5_lightest_3
def dkwX5_lightest_1 : List UInt8 := [54, 4, 3, 54, 5, 4, 54, 6, 21, 6, 42, 182, 0, 169, 162, 0, 96, 42, 21, 6, 182, 0, 172, 28]
abbrev dktX5_lightest_1 : List UInt8 := dkwX5_lightest_1 ++ dktX5_lightest_2
def dkwX5_lightest_0 : List UInt8 := [42, 27, 133, 9, 20, 1, 124, 184, 0, 135, 182, 0, 87, 154, 0, 5, 3, 172, 3, 61, 3, 62, 3]
abbrev dktX5_lightest_0 : List UInt8 := dkwX5_lightest_0 ++ dktX5_lightest_1
theorem dksX5_lightest_0 : cX5_lightest.data.toList.drop 0 = dktX5_lightest_0 := by decide +kernel
theorem dksX5_lightest_1 : cX5_lightest.data.toList.drop 23 = dktX5_lightest_1 := dk_seg dksX5_lightest_0 23 rfl rfl
theorem dksX5_lightest_2 : cX5_lightest.data.toList.drop 47 = dktX5_lightest_2 := dk_seg dksX5_lightest_1 24 rfl rfl
theorem dksX5_lightest_3 : cX5_lightest.data.toList.drop 71 = dktX5_lightest_3 := dk_seg dksX5_lightest_2 24 rfl rfl
theorem dksX5_lightest_4 : cX5_lightest.data.toList.drop 94 = dktX5_lightest_4 := dk_seg dksX5_lightest_3 23 rfl rfl
theorem dksX5_lightest_5 : cX5_lightest.data.toList.drop 116 = dktX5_lightest_5 := dk_seg dksX5_lightest_4 22 rfl rfl
theorem dksX5_lightest_6 : cX5_lightest.data.toList.drop 140 = dktX5_lightest_6 := dk_seg dksX5_lightest_5 24 rfl rfl
theorem dX5_lightest_0 : decode cX5_lightest 0 = .ok (.aload_n 0, 1) := dk_42 (dk_at dksX5_lightest_0 0 rfl rfl)
theorem dX5_lightest_1 : decode cX5_lightest 1 = .ok (.iload_n 1, 1) := dk_27 (dk_at dksX5_lightest_0 1 rfl rfl)
theorem dX5_lightest_2 : decode cX5_lightest 2 = .ok (.i2l, 1) := dk_133 (dk_at dksX5_lightest_0 2 rfl rfl)
theorem dX5_lightest_3 : decode cX5_lightest 3 = .ok (.lconst 0, 1) := dk_9 (dk_at dksX5_lightest_0 3 rfl rfl)
theorem dX5_lightest_4 : decode cX5_lightest 4 = .ok (.ldc2_w 380, 3) := dk_20 1 124 (dk_at dksX5_lightest_0 4 rfl rfl)
theorem dX5_lightest_7 : decode cX5_lightest 7 = .ok (.invokestatic 135, 3) := dk_184 0 135 (dk_at dksX5_lightest_0 7 rfl rfl)
theorem dX5_lightest_10 : decode cX5_lightest 10 = .ok (.invokevirtual 87, 3) := dk_182 0 87 (dk_at dksX5_lightest_0 10 rfl rfl)
theorem dX5_lightest_13 : decode cX5_lightest 13 = .ok (.ifCond .ne 5, 3) := dk_154 0 5 (dk_at dksX5_lightest_0 13 rfl rfl)
theorem dX5_lightest_16 : decode cX5_lightest 16 = .ok (.iconst 0, 1) := dk_3 (dk_at dksX5_lightest_0 16 rfl rfl)
theorem dX5_lightest_17 : decode cX5_lightest 17 = .ok (.ireturn, 1) := dk_172 (dk_at dksX5_lightest_0 17 rfl rfl)
theorem dX5_lightest_18 : decode cX5_lightest 18 = .ok (.iconst 0, 1) := dk_3 (dk_at dksX5_lightest_0 18 rfl rfl)
theorem dX5_lightest_19 : decode cX5_lightest 19 = .ok (.istore_n 2, 1) := dk_61 (dk_at dksX5_lightest_0 19 rfl rfl)
theorem dX5_lightest_20 : decode cX5_lightest 20 = .ok (.iconst 0, 1) := dk_3 (dk_at dksX5_lightest_0 20 rfl rfl)
theorem dX5_lightest_21 : decode cX5_lightest 21 = .ok (.istore_n 3, 1) := dk_62 (dk_at dksX5_lightest_0 21 rfl rfl)
theorem dX5_lightest_22 : decode cX5_lightest 22 = .ok (.iconst 0, 1) := dk_3 (dk_at dksX5_lightest_0 22 rfl rfl)
theorem dX5_lightest_23 : decode cX5_lightest 23 = .ok (.istore 4, 2) := dk_54 4 (dk_at dksX5_lightest_1 0 rfl rfl)
theorem dX5_lightest_25 : decode cX5_lightest 25 = .ok (.iconst 0, 1) := dk_3 (dk_at dksX5_lightest_1 2 rfl rfl)
theorem dX5_lightest_26 : decode cX5_lightest 26 = .ok (.istore 5, 2) := dk_54 5 (dk_at dksX5_lightest_1 3 rfl rfl)
theorem dX5_lightest_28 : decode cX5_lightest 28 = .ok (.iconst 1, 1) := dk_4 (dk_at dksX5_lightest_1 5 rfl rfl)
theorem dX5_lightest_29 : decode cX5_lightest 29 = .ok (.istore 6, 2) := dk_54 6 (dk_at dksX5_lightest_1 6 rfl rfl)
theorem dX5_lightest_31 : decode cX5_lightest 31 = .ok (.iload 6, 2) := dk_21 6 (dk_at dksX5_lightest_1 8 rfl rfl)
theorem dX5_lightest_33 : decode cX5_lightest 33 = .ok (.aload_n 0, 1) := dk_42 (dk_at dksX5_lightest_1 10 rfl rfl)
theorem dX5_lightest_34 : decode cX5_lightest 34 = .ok (.invokevirtual 169, 3) := dk_182 0 169 (dk_at dksX5_lightest_1 11 rfl rfl)
theorem dX5_lightest_37 : decode cX5_lightest 37 = .ok (.if_icmp .ge 96, 3) := dk_162 0 96 (dk_at dksX5_lightest_1 14 rfl rfl)
theorem dX5_lightest_40 : decode cX5_lightest 40 = .ok (.aload_n 0, 1) := dk_42 (dk_at dksX5_lightest_1 17 rfl rfl)
theorem dX5_lightest_41 : decode cX5_lightest 41 = .ok (.iload 6, 2) := dk_21 6 (dk_at dksX5_lightest_1 18 rfl rfl)
theorem dX5_lightest_43 : decode cX5_lightest 43 = .ok (.invokevirtual 172, 3) := dk_182 0 172 (dk_at dksX5_lightest_1 20 rfl rfl)
theorem dX5_lightest_46 : decode cX5_lightest 46 = .ok (.iload_n 2, 1) := dk_28 (dk_at dksX5_lightest_1 23 rfl rfl)
theorem dX5_lightest_47 : decode cX5_lightest 47 = .ok (.ifCond .ne 7, 3) := dk_154 0 7 (dk_at dksX5_lightest_2 0 rfl rfl)
theorem dX5_lightest_50 : decode cX5_lightest 50 = .ok (.iconst (-1), 1) := dk_2 (dk_at dksX5_lightest_2 3 rfl rfl)
theorem dX5_lightest_51 : decode cX5_lightest 51 = .ok (.goto 46, 3) := dk_167 0 46 (dk_at dksX5_lightest_2 4 rfl rfl)
theorem dX5_lightest_54 : decode cX5_lightest 54 = .ok (.aload_n 0, 1) := dk_42 (dk_at dksX5_lightest_2 7 rfl rfl)
theorem dX5_lightest_55 : decode cX5_lightest 55 = .ok (.invokevirtual 377, 3) := dk_182 1 121 (dk_at dksX5_lightest_2 8 rfl rfl)
theorem dX5_lightest_58 : decode cX5_lightest 58 = .ok (.iload_n 3, 1) := dk_29 (dk_at dksX5_lightest_2 11 rfl rfl)
theorem dX5_lightest_59 : decode cX5_lightest 59 = .ok (.if_icmp .eq 12, 3) := dk_159 0 12 (dk_at dksX5_lightest_2 12 rfl rfl)
theorem dX5_lightest_62 : decode cX5_lightest 62 = .ok (.aload_n 0, 1) := dk_42 (dk_at dksX5_lightest_2 15 rfl rfl)
theorem dX5_lightest_63 : decode cX5_lightest 63 = .ok (.invokevirtual 377, 3) := dk_182 1 121 (dk_at dksX5_lightest_2 16 rfl rfl)
theorem dX5_lightest_66 : decode cX5_lightest 66 = .ok (.iload_n 3, 1) := dk_29 (dk_at dksX5_lightest_2 19 rfl rfl)
theorem dX5_lightest_67 : decode cX5_lightest 67 = .ok (.isub, 1) := dk_100 (dk_at dksX5_lightest_2 20 rfl rfl)
theorem dX5_lightest_68 : decode cX5_lightest 68 = .ok (.goto 29, 3) := dk_167 0 29 (dk_at dksX5_lightest_2 21 rfl rfl)
theorem dX5_lightest_71 : decode cX5_lightest 71 = .ok (.aload_n 0, 1) := dk_42 (dk_at dksX5_lightest_3 0 rfl rfl)
theorem dX5_lightest_72 : decode cX5_lightest 72 = .ok (.getfield 99, 3) := dk_180 0 99 (dk_at dksX5_lightest_3 1 rfl rfl)
theorem dX5_lightest_75 : decode cX5_lightest 75 = .ok (.iload 4, 2) := dk_21 4 (dk_at dksX5_lightest_3 4 rfl rfl)
theorem dX5_lightest_77 : decode cX5_lightest 77 = .ok (.if_icmp .eq 13, 3) := dk_159 0 13 (dk_at dksX5_lightest_3 6 rfl rfl)
theorem dX5_lightest_80 : decode cX5_lightest 80 = .ok (.aload_n 0, 1) := dk_42 (dk_at dksX5_lightest_3 9 rfl rfl)
theorem dX5_lightest_81 : decode cX5_lightest 81 = .ok (.getfield 99, 3) := dk_180 0 99 (dk_at dksX5_lightest_3 10 rfl rfl)
theorem dX5_lightest_84 : decode cX5_lightest 84 = .ok (.iload 4, 2) := dk_21 4 (dk_at dksX5_lightest_3 13 rfl rfl)
theorem dX5_lightest_86 : decode cX5_lightest 86 = .ok (.isub, 1) := dk_100 (dk_at dksX5_lightest_3 15 rfl rfl)
theorem dX5_lightest_87 : decode cX5_lightest 87 = .ok (.goto 10, 3) := dk_167 0 10 (dk_at dksX5_lightest_3 16 rfl rfl)
theorem dX5_lightest_90 : decode cX5_lightest 90 = .ok (.aload_n 0, 1) := dk_42 (dk_at dksX5_lightest_3 19 rfl rfl)
theorem dX5_lightest_91 : decode cX5_lightest 91 = .ok (.getfield 102, 3) := dk_180 0 102 (dk_at dksX5_lightest_3 20 rfl rfl)
theorem dX5_lightest_94 : decode cX5_lightest 94 = .ok (.iload 5, 2) := dk_21 5 (dk_at dksX5_lightest_4 0 rfl rfl)
theorem dX5_lightest_96 : decode cX5_lightest 96 = .ok (.isub, 1) := dk_100 (dk_at dksX5_lightest_4 2 rfl rfl)
theorem dX5_lightest_97 : decode cX5_lightest 97 = .ok (.istore 7, 2) := dk_54 7 (dk_at dksX5_lightest_4 3 rfl rfl)
theorem dX5_lightest_99 : decode cX5_lightest 99 = .ok (.iload 7, 2) := dk_21 7 (dk_at dksX5_lightest_4 5 rfl rfl)
theorem dX5_lightest_101 : decode cX5_lightest 101 = .ok (.ifCond .lt 6, 3) := dk_155 0 6 (dk_at dksX5_lightest_4 7 rfl rfl)
theorem dX5_lightest_104 : decode cX5_lightest 104 = .ok (.goto 23, 3) := dk_167 0 23 (dk_at dksX5_lightest_4 10 rfl rfl)
theorem dX5_lightest_107 : decode cX5_lightest 107 = .ok (.iload 6, 2) := dk_21 6 (dk_at dksX5_lightest_4 13 rfl rfl)
theorem dX5_lightest_109 : decode cX5_lightest 109 = .ok (.istore_n 2, 1) := dk_61 (dk_at dksX5_lightest_4 15 rfl rfl)
theorem dX5_lightest_110 : decode cX5_lightest 110 = .ok (.aload_n 0, 1) := dk_42 (dk_at dksX5_lightest_4 16 rfl rfl)
theorem dX5_lightest_111 : decode cX5_lightest 111 = .ok (.invokevirtual 377, 3) := dk_182 1 121 (dk_at dksX5_lightest_4 17 rfl rfl)
theorem dX5_lightest_114 : decode cX5_lightest 114 = .ok (.istore_n 3, 1) := dk_62 (dk_at dksX5_lightest_4 20 rfl rfl)
theorem dX5_lightest_115 : decode cX5_lightest 115 = .ok (.aload_n 0, 1) := dk_42 (dk_at dksX5_lightest_4 21 rfl rfl)
theorem dX5_lightest_116 : decode cX5_lightest 116 = .ok (.getfield 99, 3) := dk_180 0 99 (dk_at dksX5_lightest_5 0 rfl rfl)
theorem dX5_lightest_119 : decode cX5_lightest 119 = .ok (.istore 4, 2) := dk_54 4 (dk_at dksX5_lightest_5 3 rfl rfl)
theorem dX5_lightest_121 : decode cX5_lightest 121 = .ok (.aload_n 0, 1) := dk_42 (dk_at dksX5_lightest_5 5 rfl rfl)
theorem dX5_lightest_122 : decode cX5_lightest 122 = .ok (.getfield 102, 3) := dk_180 0 102 (dk_at dksX5_lightest_5 6 rfl rfl)
theorem dX5_lightest_125 : decode cX5_lightest 125 = .ok (.istore 5, 2) := dk_54 5 (dk_at dksX5_lightest_5 9 rfl rfl)
theorem dX5_lightest_127 : decode cX5_lightest 127 = .ok (.iinc 6 1, 3) := dk_132 6 1 (dk_at dksX5_lightest_5 11 rfl rfl)
theorem dX5_lightest_130 : decode cX5_lightest 130 = .ok (.goto (-99), 3) := dk_167 255 157 (dk_at dksX5_lightest_5 14 rfl rfl)
theorem dX5_lightest_133 : decode cX5_lightest 133 = .ok (.aload_n 0, 1) := dk_42 (dk_at dksX5_lightest_5 17 rfl rfl)
theorem dX5_lightest_134 : decode cX5_lightest 134 = .ok (.iload_n 2, 1) := dk_28 (dk_at dksX5_lightest_5 18 rfl rfl)
theorem dX5_lightest_135 : decode cX5_lightest 135 = .ok (.invokevirtual 172, 3) := dk_182 0 172 (dk_at dksX5_lightest_5 19 rfl rfl)
theorem dX5_lightest_138 : decode cX5_lightest 138 = .ok (.iload_n 1, 1) := dk_27 (dk_at dksX5_lightest_5 22 rfl rfl)
theorem dX5_lightest_139 : decode cX5_lightest 139 = .ok (.iconst 3, 1) := dk_6 (dk_at dksX5_lightest_5 23 rfl rfl)
theorem dX5_lightest_140 : decode cX5_lightest 140 = .ok (.if_icmp .ne 7, 3) := dk_160 0 7 (dk_at dksX5_lightest_6 0 rfl rfl)
theorem dX5_lightest_143 : decode cX5_lightest 143 = .ok (.iload_n 3, 1) := dk_29 (dk_at dksX5_lightest_6 3 rfl rfl)
theorem dX5_lightest_144 : decode cX5_lightest 144 = .ok (.goto 8, 3) := dk_167 0 8 (dk_at dksX5_lightest_6 4 rfl rfl)
theorem dX5_lightest_147 : decode cX5_lightest 147 = .ok (.aload_n 0, 1) := dk_42 (dk_at dksX5_lightest_6 7 rfl rfl)
theorem dX5_lightest_148 : decode cX5_lightest 148 = .ok (.iload_n 1, 1) := dk_27 (dk_at dksX5_lightest_6 8 rfl rfl)
theorem dX5_lightest_149 : decode cX5_lightest 149 = .ok (.invokevirtual 371, 3) := dk_182 1 115 (dk_at dksX5_lightest_6 9 rfl rfl)
theorem dX5_lightest_152 : decode cX5_lightest 152 = .ok (.ireturn, 1) := dk_172 (dk_at dksX5_lightest_6 12 rfl rfl)
abbrev cX5_pushed : ByteArray := prog_16_method_98_code
def yX5_pushed : MethodName := ⟨RX5, "pushed", "(IIIII)I"⟩
def dkwX5_pushed_2 : List UInt8 := [42, 180, 0, 28, 21, 6, 46, 182, 0, 132, 132, 6, 1, 167, 255, 222, 42, 21, 5, 182, 1, 115, 172]
abbrev dktX5_pushed_2 : List UInt8 := dkwX5_pushed_2 ++ []
def dkwX5_pushed_1 : List UInt8 := [27, 54, 6, 21, 6, 28, 162, 0, 34, 42, 42, 180, 0, 22, 21, 6, 46, 42, 180, 0, 25, 21, 6, 46]
abbrev dktX5_pushed_1 : List UInt8 := dkwX5_pushed_1 ++ dktX5_pushed_2
def dkwX5_pushed_0 : List UInt8 := [42, 27, 28, 29, 21, 4, 21, 5, 182, 1, 132, 154, 0, 5, 3, 172, 42, 29, 21, 4, 3, 182, 0, 112]
abbrev dktX5_pushed_0 : List UInt8 := dkwX5_pushed_0 ++ dktX5_pushed_1
theorem dksX5_pushed_0 : cX5_pushed.data.toList.drop 0 = dktX5_pushed_0 := by decide +kernel
theorem dksX5_pushed_1 : cX5_pushed.data.toList.drop 24 = dktX5_pushed_1 := dk_seg dksX5_pushed_0 24 rfl rfl
theorem dksX5_pushed_2 : cX5_pushed.data.toList.drop 48 = dktX5_pushed_2 := dk_seg dksX5_pushed_1 24 rfl rfl
theorem dX5_pushed_0 : decode cX5_pushed 0 = .ok (.aload_n 0, 1) := dk_42 (dk_at dksX5_pushed_0 0 rfl rfl)
theorem dX5_pushed_1 : decode cX5_pushed 1 = .ok (.iload_n 1, 1) := dk_27 (dk_at dksX5_pushed_0 1 rfl rfl)
theorem dX5_pushed_2 : decode cX5_pushed 2 = .ok (.iload_n 2, 1) := dk_28 (dk_at dksX5_pushed_0 2 rfl rfl)
theorem dX5_pushed_3 : decode cX5_pushed 3 = .ok (.iload_n 3, 1) := dk_29 (dk_at dksX5_pushed_0 3 rfl rfl)
theorem dX5_pushed_4 : decode cX5_pushed 4 = .ok (.iload 4, 2) := dk_21 4 (dk_at dksX5_pushed_0 4 rfl rfl)
theorem dX5_pushed_6 : decode cX5_pushed 6 = .ok (.iload 5, 2) := dk_21 5 (dk_at dksX5_pushed_0 6 rfl rfl)
theorem dX5_pushed_8 : decode cX5_pushed 8 = .ok (.invokevirtual 388, 3) := dk_182 1 132 (dk_at dksX5_pushed_0 8 rfl rfl)
theorem dX5_pushed_11 : decode cX5_pushed 11 = .ok (.ifCond .ne 5, 3) := dk_154 0 5 (dk_at dksX5_pushed_0 11 rfl rfl)
theorem dX5_pushed_14 : decode cX5_pushed 14 = .ok (.iconst 0, 1) := dk_3 (dk_at dksX5_pushed_0 14 rfl rfl)
theorem dX5_pushed_15 : decode cX5_pushed 15 = .ok (.ireturn, 1) := dk_172 (dk_at dksX5_pushed_0 15 rfl rfl)
theorem dX5_pushed_16 : decode cX5_pushed 16 = .ok (.aload_n 0, 1) := dk_42 (dk_at dksX5_pushed_0 16 rfl rfl)
theorem dX5_pushed_17 : decode cX5_pushed 17 = .ok (.iload_n 3, 1) := dk_29 (dk_at dksX5_pushed_0 17 rfl rfl)
theorem dX5_pushed_18 : decode cX5_pushed 18 = .ok (.iload 4, 2) := dk_21 4 (dk_at dksX5_pushed_0 18 rfl rfl)
theorem dX5_pushed_20 : decode cX5_pushed 20 = .ok (.iconst 0, 1) := dk_3 (dk_at dksX5_pushed_0 20 rfl rfl)
theorem dX5_pushed_21 : decode cX5_pushed 21 = .ok (.invokevirtual 112, 3) := dk_182 0 112 (dk_at dksX5_pushed_0 21 rfl rfl)
theorem dX5_pushed_24 : decode cX5_pushed 24 = .ok (.iload_n 1, 1) := dk_27 (dk_at dksX5_pushed_1 0 rfl rfl)
theorem dX5_pushed_25 : decode cX5_pushed 25 = .ok (.istore 6, 2) := dk_54 6 (dk_at dksX5_pushed_1 1 rfl rfl)
theorem dX5_pushed_27 : decode cX5_pushed 27 = .ok (.iload 6, 2) := dk_21 6 (dk_at dksX5_pushed_1 3 rfl rfl)
theorem dX5_pushed_29 : decode cX5_pushed 29 = .ok (.iload_n 2, 1) := dk_28 (dk_at dksX5_pushed_1 5 rfl rfl)
theorem dX5_pushed_30 : decode cX5_pushed 30 = .ok (.if_icmp .ge 34, 3) := dk_162 0 34 (dk_at dksX5_pushed_1 6 rfl rfl)
theorem dX5_pushed_33 : decode cX5_pushed 33 = .ok (.aload_n 0, 1) := dk_42 (dk_at dksX5_pushed_1 9 rfl rfl)
theorem dX5_pushed_34 : decode cX5_pushed 34 = .ok (.aload_n 0, 1) := dk_42 (dk_at dksX5_pushed_1 10 rfl rfl)
theorem dX5_pushed_35 : decode cX5_pushed 35 = .ok (.getfield 22, 3) := dk_180 0 22 (dk_at dksX5_pushed_1 11 rfl rfl)
theorem dX5_pushed_38 : decode cX5_pushed 38 = .ok (.iload 6, 2) := dk_21 6 (dk_at dksX5_pushed_1 14 rfl rfl)
theorem dX5_pushed_40 : decode cX5_pushed 40 = .ok (.iaload, 1) := dk_46 (dk_at dksX5_pushed_1 16 rfl rfl)
theorem dX5_pushed_41 : decode cX5_pushed 41 = .ok (.aload_n 0, 1) := dk_42 (dk_at dksX5_pushed_1 17 rfl rfl)
theorem dX5_pushed_42 : decode cX5_pushed 42 = .ok (.getfield 25, 3) := dk_180 0 25 (dk_at dksX5_pushed_1 18 rfl rfl)
theorem dX5_pushed_45 : decode cX5_pushed 45 = .ok (.iload 6, 2) := dk_21 6 (dk_at dksX5_pushed_1 21 rfl rfl)
theorem dX5_pushed_47 : decode cX5_pushed 47 = .ok (.iaload, 1) := dk_46 (dk_at dksX5_pushed_1 23 rfl rfl)
theorem dX5_pushed_48 : decode cX5_pushed 48 = .ok (.aload_n 0, 1) := dk_42 (dk_at dksX5_pushed_2 0 rfl rfl)
theorem dX5_pushed_49 : decode cX5_pushed 49 = .ok (.getfield 28, 3) := dk_180 0 28 (dk_at dksX5_pushed_2 1 rfl rfl)
theorem dX5_pushed_52 : decode cX5_pushed 52 = .ok (.iload 6, 2) := dk_21 6 (dk_at dksX5_pushed_2 4 rfl rfl)
theorem dX5_pushed_54 : decode cX5_pushed 54 = .ok (.iaload, 1) := dk_46 (dk_at dksX5_pushed_2 6 rfl rfl)
theorem dX5_pushed_55 : decode cX5_pushed 55 = .ok (.invokevirtual 132, 3) := dk_182 0 132 (dk_at dksX5_pushed_2 7 rfl rfl)
theorem dX5_pushed_58 : decode cX5_pushed 58 = .ok (.iinc 6 1, 3) := dk_132 6 1 (dk_at dksX5_pushed_2 10 rfl rfl)
theorem dX5_pushed_61 : decode cX5_pushed 61 = .ok (.goto (-34), 3) := dk_167 255 222 (dk_at dksX5_pushed_2 13 rfl rfl)
theorem dX5_pushed_64 : decode cX5_pushed 64 = .ok (.aload_n 0, 1) := dk_42 (dk_at dksX5_pushed_2 16 rfl rfl)
theorem dX5_pushed_65 : decode cX5_pushed 65 = .ok (.iload 5, 2) := dk_21 5 (dk_at dksX5_pushed_2 17 rfl rfl)
theorem dX5_pushed_67 : decode cX5_pushed 67 = .ok (.invokevirtual 371, 3) := dk_182 1 115 (dk_at dksX5_pushed_2 19 rfl rfl)
theorem dX5_pushed_70 : decode cX5_pushed 70 = .ok (.ireturn, 1) := dk_172 (dk_at dksX5_pushed_2 22 rfl rfl)
abbrev cX5_mayPush : ByteArray := prog_16_method_97_code
def yX5_mayPush : MethodName := ⟨RX5, "mayPush", "(IIIII)Z"⟩
def dkwX5_mayPush_2 : List UInt8 := [153, 0, 21, 42, 42, 27, 28, 182, 1, 129, 6, 182, 0, 147, 153, 0, 7, 4, 167, 0, 4, 3, 172]
abbrev dktX5_mayPush_2 : List UInt8 := dkwX5_mayPush_2 ++ []
def dkwX5_mayPush_1 : List UInt8 := [167, 0, 4, 3, 182, 0, 87, 153, 0, 36, 42, 42, 29, 21, 4, 182, 0, 202, 5, 182, 0, 147]
abbrev dktX5_mayPush_1 : List UInt8 := dkwX5_mayPush_1 ++ dktX5_mayPush_2
def dkwX5_mayPush_0 : List UInt8 := [42, 42, 27, 28, 182, 1, 126, 153, 0, 20, 21, 5, 133, 9, 20, 1, 107, 184, 0, 135, 153, 0, 7, 4]
abbrev dktX5_mayPush_0 : List UInt8 := dkwX5_mayPush_0 ++ dktX5_mayPush_1
theorem dksX5_mayPush_0 : cX5_mayPush.data.toList.drop 0 = dktX5_mayPush_0 := by decide +kernel
theorem dksX5_mayPush_1 : cX5_mayPush.data.toList.drop 24 = dktX5_mayPush_1 := dk_seg dksX5_mayPush_0 24 rfl rfl
theorem dksX5_mayPush_2 : cX5_mayPush.data.toList.drop 46 = dktX5_mayPush_2 := dk_seg dksX5_mayPush_1 22 rfl rfl
theorem dX5_mayPush_0 : decode cX5_mayPush 0 = .ok (.aload_n 0, 1) := dk_42 (dk_at dksX5_mayPush_0 0 rfl rfl)
theorem dX5_mayPush_1 : decode cX5_mayPush 1 = .ok (.aload_n 0, 1) := dk_42 (dk_at dksX5_mayPush_0 1 rfl rfl)
theorem dX5_mayPush_2 : decode cX5_mayPush 2 = .ok (.iload_n 1, 1) := dk_27 (dk_at dksX5_mayPush_0 2 rfl rfl)
theorem dX5_mayPush_3 : decode cX5_mayPush 3 = .ok (.iload_n 2, 1) := dk_28 (dk_at dksX5_mayPush_0 3 rfl rfl)
theorem dX5_mayPush_4 : decode cX5_mayPush 4 = .ok (.invokevirtual 382, 3) := dk_182 1 126 (dk_at dksX5_mayPush_0 4 rfl rfl)
theorem dX5_mayPush_7 : decode cX5_mayPush 7 = .ok (.ifCond .eq 20, 3) := dk_153 0 20 (dk_at dksX5_mayPush_0 7 rfl rfl)
theorem dX5_mayPush_10 : decode cX5_mayPush 10 = .ok (.iload 5, 2) := dk_21 5 (dk_at dksX5_mayPush_0 10 rfl rfl)
theorem dX5_mayPush_12 : decode cX5_mayPush 12 = .ok (.i2l, 1) := dk_133 (dk_at dksX5_mayPush_0 12 rfl rfl)
theorem dX5_mayPush_13 : decode cX5_mayPush 13 = .ok (.lconst 0, 1) := dk_9 (dk_at dksX5_mayPush_0 13 rfl rfl)
theorem dX5_mayPush_14 : decode cX5_mayPush 14 = .ok (.ldc2_w 363, 3) := dk_20 1 107 (dk_at dksX5_mayPush_0 14 rfl rfl)
theorem dX5_mayPush_17 : decode cX5_mayPush 17 = .ok (.invokestatic 135, 3) := dk_184 0 135 (dk_at dksX5_mayPush_0 17 rfl rfl)
theorem dX5_mayPush_20 : decode cX5_mayPush 20 = .ok (.ifCond .eq 7, 3) := dk_153 0 7 (dk_at dksX5_mayPush_0 20 rfl rfl)
theorem dX5_mayPush_23 : decode cX5_mayPush 23 = .ok (.iconst 1, 1) := dk_4 (dk_at dksX5_mayPush_0 23 rfl rfl)
theorem dX5_mayPush_24 : decode cX5_mayPush 24 = .ok (.goto 4, 3) := dk_167 0 4 (dk_at dksX5_mayPush_1 0 rfl rfl)
theorem dX5_mayPush_27 : decode cX5_mayPush 27 = .ok (.iconst 0, 1) := dk_3 (dk_at dksX5_mayPush_1 3 rfl rfl)
theorem dX5_mayPush_28 : decode cX5_mayPush 28 = .ok (.invokevirtual 87, 3) := dk_182 0 87 (dk_at dksX5_mayPush_1 4 rfl rfl)
theorem dX5_mayPush_31 : decode cX5_mayPush 31 = .ok (.ifCond .eq 36, 3) := dk_153 0 36 (dk_at dksX5_mayPush_1 7 rfl rfl)
theorem dX5_mayPush_34 : decode cX5_mayPush 34 = .ok (.aload_n 0, 1) := dk_42 (dk_at dksX5_mayPush_1 10 rfl rfl)
theorem dX5_mayPush_35 : decode cX5_mayPush 35 = .ok (.aload_n 0, 1) := dk_42 (dk_at dksX5_mayPush_1 11 rfl rfl)
theorem dX5_mayPush_36 : decode cX5_mayPush 36 = .ok (.iload_n 3, 1) := dk_29 (dk_at dksX5_mayPush_1 12 rfl rfl)
theorem dX5_mayPush_37 : decode cX5_mayPush 37 = .ok (.iload 4, 2) := dk_21 4 (dk_at dksX5_mayPush_1 13 rfl rfl)
theorem dX5_mayPush_39 : decode cX5_mayPush 39 = .ok (.invokevirtual 202, 3) := dk_182 0 202 (dk_at dksX5_mayPush_1 15 rfl rfl)
theorem dX5_mayPush_42 : decode cX5_mayPush 42 = .ok (.iconst 2, 1) := dk_5 (dk_at dksX5_mayPush_1 18 rfl rfl)
theorem dX5_mayPush_43 : decode cX5_mayPush 43 = .ok (.invokevirtual 147, 3) := dk_182 0 147 (dk_at dksX5_mayPush_1 19 rfl rfl)
theorem dX5_mayPush_46 : decode cX5_mayPush 46 = .ok (.ifCond .eq 21, 3) := dk_153 0 21 (dk_at dksX5_mayPush_2 0 rfl rfl)
theorem dX5_mayPush_49 : decode cX5_mayPush 49 = .ok (.aload_n 0, 1) := dk_42 (dk_at dksX5_mayPush_2 3 rfl rfl)
theorem dX5_mayPush_50 : decode cX5_mayPush 50 = .ok (.aload_n 0, 1) := dk_42 (dk_at dksX5_mayPush_2 4 rfl rfl)
theorem dX5_mayPush_51 : decode cX5_mayPush 51 = .ok (.iload_n 1, 1) := dk_27 (dk_at dksX5_mayPush_2 5 rfl rfl)
theorem dX5_mayPush_52 : decode cX5_mayPush 52 = .ok (.iload_n 2, 1) := dk_28 (dk_at dksX5_mayPush_2 6 rfl rfl)
theorem dX5_mayPush_53 : decode cX5_mayPush 53 = .ok (.invokevirtual 385, 3) := dk_182 1 129 (dk_at dksX5_mayPush_2 7 rfl rfl)
theorem dX5_mayPush_56 : decode cX5_mayPush 56 = .ok (.iconst 3, 1) := dk_6 (dk_at dksX5_mayPush_2 10 rfl rfl)
theorem dX5_mayPush_57 : decode cX5_mayPush 57 = .ok (.invokevirtual 147, 3) := dk_182 0 147 (dk_at dksX5_mayPush_2 11 rfl rfl)
theorem dX5_mayPush_60 : decode cX5_mayPush 60 = .ok (.ifCond .eq 7, 3) := dk_153 0 7 (dk_at dksX5_mayPush_2 14 rfl rfl)
theorem dX5_mayPush_63 : decode cX5_mayPush 63 = .ok (.iconst 1, 1) := dk_4 (dk_at dksX5_mayPush_2 17 rfl rfl)
theorem dX5_mayPush_64 : decode cX5_mayPush 64 = .ok (.goto 4, 3) := dk_167 0 4 (dk_at dksX5_mayPush_2 18 rfl rfl)
theorem dX5_mayPush_67 : decode cX5_mayPush 67 = .ok (.iconst 0, 1) := dk_3 (dk_at dksX5_mayPush_2 21 rfl rfl)
theorem dX5_mayPush_68 : decode cX5_mayPush 68 = .ok (.ireturn, 1) := dk_172 (dk_at dksX5_mayPush_2 22 rfl rfl)
abbrev cX5_isPiece : ByteArray := prog_16_method_95_code
def yX5_isPiece : MethodName := ⟨RX5, "isPiece", "(II)Z"⟩
def dkwX5_isPiece_0 : List UInt8 := [27, 155, 0, 20, 28, 27, 161, 0, 15, 28, 42, 180, 0, 213, 163, 0, 7, 4, 167, 0, 4, 3, 172]
abbrev dktX5_isPiece_0 : List UInt8 := dkwX5_isPiece_0 ++ []
theorem dksX5_isPiece_0 : cX5_isPiece.data.toList.drop 0 = dktX5_isPiece_0 := by decide +kernel
theorem dX5_isPiece_0 : decode cX5_isPiece 0 = .ok (.iload_n 1, 1) := dk_27 (dk_at dksX5_isPiece_0 0 rfl rfl)
theorem dX5_isPiece_1 : decode cX5_isPiece 1 = .ok (.ifCond .lt 20, 3) := dk_155 0 20 (dk_at dksX5_isPiece_0 1 rfl rfl)
theorem dX5_isPiece_4 : decode cX5_isPiece 4 = .ok (.iload_n 2, 1) := dk_28 (dk_at dksX5_isPiece_0 4 rfl rfl)
theorem dX5_isPiece_5 : decode cX5_isPiece 5 = .ok (.iload_n 1, 1) := dk_27 (dk_at dksX5_isPiece_0 5 rfl rfl)
theorem dX5_isPiece_6 : decode cX5_isPiece 6 = .ok (.if_icmp .lt 15, 3) := dk_161 0 15 (dk_at dksX5_isPiece_0 6 rfl rfl)
theorem dX5_isPiece_9 : decode cX5_isPiece 9 = .ok (.iload_n 2, 1) := dk_28 (dk_at dksX5_isPiece_0 9 rfl rfl)
theorem dX5_isPiece_10 : decode cX5_isPiece 10 = .ok (.aload_n 0, 1) := dk_42 (dk_at dksX5_isPiece_0 10 rfl rfl)
theorem dX5_isPiece_11 : decode cX5_isPiece 11 = .ok (.getfield 213, 3) := dk_180 0 213 (dk_at dksX5_isPiece_0 11 rfl rfl)
theorem dX5_isPiece_14 : decode cX5_isPiece 14 = .ok (.if_icmp .gt 7, 3) := dk_163 0 7 (dk_at dksX5_isPiece_0 14 rfl rfl)
theorem dX5_isPiece_17 : decode cX5_isPiece 17 = .ok (.iconst 1, 1) := dk_4 (dk_at dksX5_isPiece_0 17 rfl rfl)
theorem dX5_isPiece_18 : decode cX5_isPiece 18 = .ok (.goto 4, 3) := dk_167 0 4 (dk_at dksX5_isPiece_0 18 rfl rfl)
theorem dX5_isPiece_21 : decode cX5_isPiece 21 = .ok (.iconst 0, 1) := dk_3 (dk_at dksX5_isPiece_0 21 rfl rfl)
theorem dX5_isPiece_22 : decode cX5_isPiece 22 = .ok (.ireturn, 1) := dk_172 (dk_at dksX5_isPiece_0 22 rfl rfl)
abbrev cX5_areGates : ByteArray := prog_16_method_96_code
def yX5_areGates : MethodName := ⟨RX5, "areGates", "(II)Z"⟩
def dkwX5_areGates_1 : List UInt8 := [167, 255, 235, 4, 172]
abbrev dktX5_areGates_1 : List UInt8 := dkwX5_areGates_1 ++ []
def dkwX5_areGates_0 : List UInt8 := [27, 62, 29, 28, 162, 0, 22, 42, 180, 0, 22, 29, 46, 16, 9, 160, 0, 5, 3, 172, 132, 3, 1]
abbrev dktX5_areGates_0 : List UInt8 := dkwX5_areGates_0 ++ dktX5_areGates_1
theorem dksX5_areGates_0 : cX5_areGates.data.toList.drop 0 = dktX5_areGates_0 := by decide +kernel
theorem dksX5_areGates_1 : cX5_areGates.data.toList.drop 23 = dktX5_areGates_1 := dk_seg dksX5_areGates_0 23 rfl rfl
theorem dX5_areGates_0 : decode cX5_areGates 0 = .ok (.iload_n 1, 1) := dk_27 (dk_at dksX5_areGates_0 0 rfl rfl)
theorem dX5_areGates_1 : decode cX5_areGates 1 = .ok (.istore_n 3, 1) := dk_62 (dk_at dksX5_areGates_0 1 rfl rfl)
theorem dX5_areGates_2 : decode cX5_areGates 2 = .ok (.iload_n 3, 1) := dk_29 (dk_at dksX5_areGates_0 2 rfl rfl)
theorem dX5_areGates_3 : decode cX5_areGates 3 = .ok (.iload_n 2, 1) := dk_28 (dk_at dksX5_areGates_0 3 rfl rfl)
theorem dX5_areGates_4 : decode cX5_areGates 4 = .ok (.if_icmp .ge 22, 3) := dk_162 0 22 (dk_at dksX5_areGates_0 4 rfl rfl)
theorem dX5_areGates_7 : decode cX5_areGates 7 = .ok (.aload_n 0, 1) := dk_42 (dk_at dksX5_areGates_0 7 rfl rfl)
theorem dX5_areGates_8 : decode cX5_areGates 8 = .ok (.getfield 22, 3) := dk_180 0 22 (dk_at dksX5_areGates_0 8 rfl rfl)
theorem dX5_areGates_11 : decode cX5_areGates 11 = .ok (.iload_n 3, 1) := dk_29 (dk_at dksX5_areGates_0 11 rfl rfl)
theorem dX5_areGates_12 : decode cX5_areGates 12 = .ok (.iaload, 1) := dk_46 (dk_at dksX5_areGates_0 12 rfl rfl)
theorem dX5_areGates_13 : decode cX5_areGates 13 = .ok (.bipush 9, 2) := dk_16 9 (dk_at dksX5_areGates_0 13 rfl rfl)
theorem dX5_areGates_15 : decode cX5_areGates 15 = .ok (.if_icmp .ne 5, 3) := dk_160 0 5 (dk_at dksX5_areGates_0 15 rfl rfl)
theorem dX5_areGates_18 : decode cX5_areGates 18 = .ok (.iconst 0, 1) := dk_3 (dk_at dksX5_areGates_0 18 rfl rfl)
theorem dX5_areGates_19 : decode cX5_areGates 19 = .ok (.ireturn, 1) := dk_172 (dk_at dksX5_areGates_0 19 rfl rfl)
theorem dX5_areGates_20 : decode cX5_areGates 20 = .ok (.iinc 3 1, 3) := dk_132 3 1 (dk_at dksX5_areGates_0 20 rfl rfl)
theorem dX5_areGates_23 : decode cX5_areGates 23 = .ok (.goto (-21), 3) := dk_167 255 235 (dk_at dksX5_areGates_1 0 rfl rfl)
theorem dX5_areGates_26 : decode cX5_areGates 26 = .ok (.iconst 1, 1) := dk_4 (dk_at dksX5_areGates_1 3 rfl rfl)
theorem dX5_areGates_27 : decode cX5_areGates 27 = .ok (.ireturn, 1) := dk_172 (dk_at dksX5_areGates_1 4 rfl rfl)
abbrev cX5_pulled : ByteArray := prog_16_method_99_code
def yX5_pulled : MethodName := ⟨RX5, "pulled", "(IIIII)I"⟩
def dkwX5_pulled_3 : List UInt8 := [182, 1, 115, 172]
abbrev dktX5_pulled_3 : List UInt8 := dkwX5_pulled_3 ++ []
def dkwX5_pulled_2 : List UInt8 := [21, 6, 46, 42, 180, 0, 28, 21, 6, 46, 182, 1, 136, 132, 6, 255, 167, 255, 222, 42, 21, 5]
abbrev dktX5_pulled_2 : List UInt8 := dkwX5_pulled_2 ++ dktX5_pulled_3
def dkwX5_pulled_1 : List UInt8 := [28, 4, 100, 54, 6, 21, 6, 27, 161, 0, 34, 42, 42, 180, 0, 22, 21, 6, 46, 42, 180, 0, 25]
abbrev dktX5_pulled_1 : List UInt8 := dkwX5_pulled_1 ++ dktX5_pulled_2
def dkwX5_pulled_0 : List UInt8 := [42, 27, 28, 29, 21, 4, 21, 5, 182, 1, 132, 154, 0, 5, 3, 172, 42, 29, 21, 4, 3, 182, 0, 112]
abbrev dktX5_pulled_0 : List UInt8 := dkwX5_pulled_0 ++ dktX5_pulled_1
theorem dksX5_pulled_0 : cX5_pulled.data.toList.drop 0 = dktX5_pulled_0 := by decide +kernel
theorem dksX5_pulled_1 : cX5_pulled.data.toList.drop 24 = dktX5_pulled_1 := dk_seg dksX5_pulled_0 24 rfl rfl
theorem dksX5_pulled_2 : cX5_pulled.data.toList.drop 47 = dktX5_pulled_2 := dk_seg dksX5_pulled_1 23 rfl rfl
theorem dksX5_pulled_3 : cX5_pulled.data.toList.drop 69 = dktX5_pulled_3 := dk_seg dksX5_pulled_2 22 rfl rfl
theorem dX5_pulled_0 : decode cX5_pulled 0 = .ok (.aload_n 0, 1) := dk_42 (dk_at dksX5_pulled_0 0 rfl rfl)
theorem dX5_pulled_1 : decode cX5_pulled 1 = .ok (.iload_n 1, 1) := dk_27 (dk_at dksX5_pulled_0 1 rfl rfl)
theorem dX5_pulled_2 : decode cX5_pulled 2 = .ok (.iload_n 2, 1) := dk_28 (dk_at dksX5_pulled_0 2 rfl rfl)
theorem dX5_pulled_3 : decode cX5_pulled 3 = .ok (.iload_n 3, 1) := dk_29 (dk_at dksX5_pulled_0 3 rfl rfl)
theorem dX5_pulled_4 : decode cX5_pulled 4 = .ok (.iload 4, 2) := dk_21 4 (dk_at dksX5_pulled_0 4 rfl rfl)
theorem dX5_pulled_6 : decode cX5_pulled 6 = .ok (.iload 5, 2) := dk_21 5 (dk_at dksX5_pulled_0 6 rfl rfl)
theorem dX5_pulled_8 : decode cX5_pulled 8 = .ok (.invokevirtual 388, 3) := dk_182 1 132 (dk_at dksX5_pulled_0 8 rfl rfl)
theorem dX5_pulled_11 : decode cX5_pulled 11 = .ok (.ifCond .ne 5, 3) := dk_154 0 5 (dk_at dksX5_pulled_0 11 rfl rfl)
theorem dX5_pulled_14 : decode cX5_pulled 14 = .ok (.iconst 0, 1) := dk_3 (dk_at dksX5_pulled_0 14 rfl rfl)
theorem dX5_pulled_15 : decode cX5_pulled 15 = .ok (.ireturn, 1) := dk_172 (dk_at dksX5_pulled_0 15 rfl rfl)
theorem dX5_pulled_16 : decode cX5_pulled 16 = .ok (.aload_n 0, 1) := dk_42 (dk_at dksX5_pulled_0 16 rfl rfl)
theorem dX5_pulled_17 : decode cX5_pulled 17 = .ok (.iload_n 3, 1) := dk_29 (dk_at dksX5_pulled_0 17 rfl rfl)
theorem dX5_pulled_18 : decode cX5_pulled 18 = .ok (.iload 4, 2) := dk_21 4 (dk_at dksX5_pulled_0 18 rfl rfl)
theorem dX5_pulled_20 : decode cX5_pulled 20 = .ok (.iconst 0, 1) := dk_3 (dk_at dksX5_pulled_0 20 rfl rfl)
theorem dX5_pulled_21 : decode cX5_pulled 21 = .ok (.invokevirtual 112, 3) := dk_182 0 112 (dk_at dksX5_pulled_0 21 rfl rfl)
theorem dX5_pulled_24 : decode cX5_pulled 24 = .ok (.iload_n 2, 1) := dk_28 (dk_at dksX5_pulled_1 0 rfl rfl)
theorem dX5_pulled_25 : decode cX5_pulled 25 = .ok (.iconst 1, 1) := dk_4 (dk_at dksX5_pulled_1 1 rfl rfl)
theorem dX5_pulled_26 : decode cX5_pulled 26 = .ok (.isub, 1) := dk_100 (dk_at dksX5_pulled_1 2 rfl rfl)
theorem dX5_pulled_27 : decode cX5_pulled 27 = .ok (.istore 6, 2) := dk_54 6 (dk_at dksX5_pulled_1 3 rfl rfl)
theorem dX5_pulled_29 : decode cX5_pulled 29 = .ok (.iload 6, 2) := dk_21 6 (dk_at dksX5_pulled_1 5 rfl rfl)
theorem dX5_pulled_31 : decode cX5_pulled 31 = .ok (.iload_n 1, 1) := dk_27 (dk_at dksX5_pulled_1 7 rfl rfl)
theorem dX5_pulled_32 : decode cX5_pulled 32 = .ok (.if_icmp .lt 34, 3) := dk_161 0 34 (dk_at dksX5_pulled_1 8 rfl rfl)
theorem dX5_pulled_35 : decode cX5_pulled 35 = .ok (.aload_n 0, 1) := dk_42 (dk_at dksX5_pulled_1 11 rfl rfl)
theorem dX5_pulled_36 : decode cX5_pulled 36 = .ok (.aload_n 0, 1) := dk_42 (dk_at dksX5_pulled_1 12 rfl rfl)
theorem dX5_pulled_37 : decode cX5_pulled 37 = .ok (.getfield 22, 3) := dk_180 0 22 (dk_at dksX5_pulled_1 13 rfl rfl)
theorem dX5_pulled_40 : decode cX5_pulled 40 = .ok (.iload 6, 2) := dk_21 6 (dk_at dksX5_pulled_1 16 rfl rfl)
theorem dX5_pulled_42 : decode cX5_pulled 42 = .ok (.iaload, 1) := dk_46 (dk_at dksX5_pulled_1 18 rfl rfl)
theorem dX5_pulled_43 : decode cX5_pulled 43 = .ok (.aload_n 0, 1) := dk_42 (dk_at dksX5_pulled_1 19 rfl rfl)
theorem dX5_pulled_44 : decode cX5_pulled 44 = .ok (.getfield 25, 3) := dk_180 0 25 (dk_at dksX5_pulled_1 20 rfl rfl)
theorem dX5_pulled_47 : decode cX5_pulled 47 = .ok (.iload 6, 2) := dk_21 6 (dk_at dksX5_pulled_2 0 rfl rfl)
theorem dX5_pulled_49 : decode cX5_pulled 49 = .ok (.iaload, 1) := dk_46 (dk_at dksX5_pulled_2 2 rfl rfl)
theorem dX5_pulled_50 : decode cX5_pulled 50 = .ok (.aload_n 0, 1) := dk_42 (dk_at dksX5_pulled_2 3 rfl rfl)
theorem dX5_pulled_51 : decode cX5_pulled 51 = .ok (.getfield 28, 3) := dk_180 0 28 (dk_at dksX5_pulled_2 4 rfl rfl)
theorem dX5_pulled_54 : decode cX5_pulled 54 = .ok (.iload 6, 2) := dk_21 6 (dk_at dksX5_pulled_2 7 rfl rfl)
theorem dX5_pulled_56 : decode cX5_pulled 56 = .ok (.iaload, 1) := dk_46 (dk_at dksX5_pulled_2 9 rfl rfl)
theorem dX5_pulled_57 : decode cX5_pulled 57 = .ok (.invokevirtual 392, 3) := dk_182 1 136 (dk_at dksX5_pulled_2 10 rfl rfl)
theorem dX5_pulled_60 : decode cX5_pulled 60 = .ok (.iinc 6 (-1), 3) := dk_132 6 255 (dk_at dksX5_pulled_2 13 rfl rfl)
theorem dX5_pulled_63 : decode cX5_pulled 63 = .ok (.goto (-34), 3) := dk_167 255 222 (dk_at dksX5_pulled_2 16 rfl rfl)
theorem dX5_pulled_66 : decode cX5_pulled 66 = .ok (.aload_n 0, 1) := dk_42 (dk_at dksX5_pulled_2 19 rfl rfl)
theorem dX5_pulled_67 : decode cX5_pulled 67 = .ok (.iload 5, 2) := dk_21 5 (dk_at dksX5_pulled_2 20 rfl rfl)
theorem dX5_pulled_69 : decode cX5_pulled 69 = .ok (.invokevirtual 371, 3) := dk_182 1 115 (dk_at dksX5_pulled_3 0 rfl rfl)
theorem dX5_pulled_72 : decode cX5_pulled 72 = .ok (.ireturn, 1) := dk_172 (dk_at dksX5_pulled_3 3 rfl rfl)
abbrev cX5_undoes : ByteArray := prog_16_method_25_code
def yX5_undoes : MethodName := ⟨RX5, "undoes", "(III)V"⟩
def dkwX5_undoes_1 : List UInt8 := [182, 0, 132, 177]
abbrev dktX5_undoes_1 : List UInt8 := dkwX5_undoes_1 ++ []
def dkwX5_undoes_0 : List UInt8 := [42, 27, 4, 160, 0, 7, 5, 167, 0, 13, 27, 5, 160, 0, 7, 4, 167, 0, 4, 27, 28, 29]
abbrev dktX5_undoes_0 : List UInt8 := dkwX5_undoes_0 ++ dktX5_undoes_1
theorem dksX5_undoes_0 : cX5_undoes.data.toList.drop 0 = dktX5_undoes_0 := by decide +kernel
theorem dksX5_undoes_1 : cX5_undoes.data.toList.drop 22 = dktX5_undoes_1 := dk_seg dksX5_undoes_0 22 rfl rfl
theorem dX5_undoes_0 : decode cX5_undoes 0 = .ok (.aload_n 0, 1) := dk_42 (dk_at dksX5_undoes_0 0 rfl rfl)
theorem dX5_undoes_1 : decode cX5_undoes 1 = .ok (.iload_n 1, 1) := dk_27 (dk_at dksX5_undoes_0 1 rfl rfl)
theorem dX5_undoes_2 : decode cX5_undoes 2 = .ok (.iconst 1, 1) := dk_4 (dk_at dksX5_undoes_0 2 rfl rfl)
theorem dX5_undoes_3 : decode cX5_undoes 3 = .ok (.if_icmp .ne 7, 3) := dk_160 0 7 (dk_at dksX5_undoes_0 3 rfl rfl)
theorem dX5_undoes_6 : decode cX5_undoes 6 = .ok (.iconst 2, 1) := dk_5 (dk_at dksX5_undoes_0 6 rfl rfl)
theorem dX5_undoes_7 : decode cX5_undoes 7 = .ok (.goto 13, 3) := dk_167 0 13 (dk_at dksX5_undoes_0 7 rfl rfl)
theorem dX5_undoes_10 : decode cX5_undoes 10 = .ok (.iload_n 1, 1) := dk_27 (dk_at dksX5_undoes_0 10 rfl rfl)
theorem dX5_undoes_11 : decode cX5_undoes 11 = .ok (.iconst 2, 1) := dk_5 (dk_at dksX5_undoes_0 11 rfl rfl)
theorem dX5_undoes_12 : decode cX5_undoes 12 = .ok (.if_icmp .ne 7, 3) := dk_160 0 7 (dk_at dksX5_undoes_0 12 rfl rfl)
theorem dX5_undoes_15 : decode cX5_undoes 15 = .ok (.iconst 1, 1) := dk_4 (dk_at dksX5_undoes_0 15 rfl rfl)
theorem dX5_undoes_16 : decode cX5_undoes 16 = .ok (.goto 4, 3) := dk_167 0 4 (dk_at dksX5_undoes_0 16 rfl rfl)
theorem dX5_undoes_19 : decode cX5_undoes 19 = .ok (.iload_n 1, 1) := dk_27 (dk_at dksX5_undoes_0 19 rfl rfl)
theorem dX5_undoes_20 : decode cX5_undoes 20 = .ok (.iload_n 2, 1) := dk_28 (dk_at dksX5_undoes_0 20 rfl rfl)
theorem dX5_undoes_21 : decode cX5_undoes 21 = .ok (.iload_n 3, 1) := dk_29 (dk_at dksX5_undoes_0 21 rfl rfl)
theorem dX5_undoes_22 : decode cX5_undoes 22 = .ok (.invokevirtual 132, 3) := dk_182 0 132 (dk_at dksX5_undoes_1 0 rfl rfl)
theorem dX5_undoes_25 : decode cX5_undoes 25 = .ok (.return_, 1) := dk_177 (dk_at dksX5_undoes_1 3 rfl rfl)
abbrev cX5_partner : ByteArray := prog_16_method_100_code
def yX5_partner : MethodName := ⟨RX5, "partner", "(II)I"⟩
def dkwX5_partner_3 : List UInt8 := [167, 0, 5, 21, 4, 172, 132, 4, 1, 167, 255, 220, 132, 3, 1, 167, 255, 203, 2, 172]
abbrev dktX5_partner_3 : List UInt8 := dkwX5_partner_3 ++ []
def dkwX5_partner_2 : List UInt8 := [182, 0, 169, 162, 0, 33, 42, 29, 21, 4, 182, 0, 179, 4, 27, 120, 160, 0, 14, 28, 154, 0, 7, 29]
abbrev dktX5_partner_2 : List UInt8 := dkwX5_partner_2 ++ dktX5_partner_3
def dkwX5_partner_1 : List UInt8 := [182, 0, 87, 154, 0, 5, 3, 172, 3, 62, 29, 42, 182, 0, 169, 162, 0, 51, 3, 54, 4, 21, 4, 42]
abbrev dktX5_partner_1 : List UInt8 := dkwX5_partner_1 ++ dktX5_partner_2
def dkwX5_partner_0 : List UInt8 := [42, 42, 27, 182, 1, 104, 153, 0, 17, 28, 133, 9, 10, 184, 0, 135, 153, 0, 7, 4, 167, 0, 4, 3]
abbrev dktX5_partner_0 : List UInt8 := dkwX5_partner_0 ++ dktX5_partner_1
theorem dksX5_partner_0 : cX5_partner.data.toList.drop 0 = dktX5_partner_0 := by decide +kernel
theorem dksX5_partner_1 : cX5_partner.data.toList.drop 24 = dktX5_partner_1 := dk_seg dksX5_partner_0 24 rfl rfl
theorem dksX5_partner_2 : cX5_partner.data.toList.drop 48 = dktX5_partner_2 := dk_seg dksX5_partner_1 24 rfl rfl
theorem dksX5_partner_3 : cX5_partner.data.toList.drop 72 = dktX5_partner_3 := dk_seg dksX5_partner_2 24 rfl rfl
theorem dX5_partner_0 : decode cX5_partner 0 = .ok (.aload_n 0, 1) := dk_42 (dk_at dksX5_partner_0 0 rfl rfl)
theorem dX5_partner_1 : decode cX5_partner 1 = .ok (.aload_n 0, 1) := dk_42 (dk_at dksX5_partner_0 1 rfl rfl)
theorem dX5_partner_2 : decode cX5_partner 2 = .ok (.iload_n 1, 1) := dk_27 (dk_at dksX5_partner_0 2 rfl rfl)
theorem dX5_partner_3 : decode cX5_partner 3 = .ok (.invokevirtual 360, 3) := dk_182 1 104 (dk_at dksX5_partner_0 3 rfl rfl)
theorem dX5_partner_6 : decode cX5_partner 6 = .ok (.ifCond .eq 17, 3) := dk_153 0 17 (dk_at dksX5_partner_0 6 rfl rfl)
theorem dX5_partner_9 : decode cX5_partner 9 = .ok (.iload_n 2, 1) := dk_28 (dk_at dksX5_partner_0 9 rfl rfl)
theorem dX5_partner_10 : decode cX5_partner 10 = .ok (.i2l, 1) := dk_133 (dk_at dksX5_partner_0 10 rfl rfl)
theorem dX5_partner_11 : decode cX5_partner 11 = .ok (.lconst 0, 1) := dk_9 (dk_at dksX5_partner_0 11 rfl rfl)
theorem dX5_partner_12 : decode cX5_partner 12 = .ok (.lconst 1, 1) := dk_10 (dk_at dksX5_partner_0 12 rfl rfl)
theorem dX5_partner_13 : decode cX5_partner 13 = .ok (.invokestatic 135, 3) := dk_184 0 135 (dk_at dksX5_partner_0 13 rfl rfl)
theorem dX5_partner_16 : decode cX5_partner 16 = .ok (.ifCond .eq 7, 3) := dk_153 0 7 (dk_at dksX5_partner_0 16 rfl rfl)
theorem dX5_partner_19 : decode cX5_partner 19 = .ok (.iconst 1, 1) := dk_4 (dk_at dksX5_partner_0 19 rfl rfl)
theorem dX5_partner_20 : decode cX5_partner 20 = .ok (.goto 4, 3) := dk_167 0 4 (dk_at dksX5_partner_0 20 rfl rfl)
theorem dX5_partner_23 : decode cX5_partner 23 = .ok (.iconst 0, 1) := dk_3 (dk_at dksX5_partner_0 23 rfl rfl)
theorem dX5_partner_24 : decode cX5_partner 24 = .ok (.invokevirtual 87, 3) := dk_182 0 87 (dk_at dksX5_partner_1 0 rfl rfl)
theorem dX5_partner_27 : decode cX5_partner 27 = .ok (.ifCond .ne 5, 3) := dk_154 0 5 (dk_at dksX5_partner_1 3 rfl rfl)
theorem dX5_partner_30 : decode cX5_partner 30 = .ok (.iconst 0, 1) := dk_3 (dk_at dksX5_partner_1 6 rfl rfl)
theorem dX5_partner_31 : decode cX5_partner 31 = .ok (.ireturn, 1) := dk_172 (dk_at dksX5_partner_1 7 rfl rfl)
theorem dX5_partner_32 : decode cX5_partner 32 = .ok (.iconst 0, 1) := dk_3 (dk_at dksX5_partner_1 8 rfl rfl)
theorem dX5_partner_33 : decode cX5_partner 33 = .ok (.istore_n 3, 1) := dk_62 (dk_at dksX5_partner_1 9 rfl rfl)
theorem dX5_partner_34 : decode cX5_partner 34 = .ok (.iload_n 3, 1) := dk_29 (dk_at dksX5_partner_1 10 rfl rfl)
theorem dX5_partner_35 : decode cX5_partner 35 = .ok (.aload_n 0, 1) := dk_42 (dk_at dksX5_partner_1 11 rfl rfl)
theorem dX5_partner_36 : decode cX5_partner 36 = .ok (.invokevirtual 169, 3) := dk_182 0 169 (dk_at dksX5_partner_1 12 rfl rfl)
theorem dX5_partner_39 : decode cX5_partner 39 = .ok (.if_icmp .ge 51, 3) := dk_162 0 51 (dk_at dksX5_partner_1 15 rfl rfl)
theorem dX5_partner_42 : decode cX5_partner 42 = .ok (.iconst 0, 1) := dk_3 (dk_at dksX5_partner_1 18 rfl rfl)
theorem dX5_partner_43 : decode cX5_partner 43 = .ok (.istore 4, 2) := dk_54 4 (dk_at dksX5_partner_1 19 rfl rfl)
theorem dX5_partner_45 : decode cX5_partner 45 = .ok (.iload 4, 2) := dk_21 4 (dk_at dksX5_partner_1 21 rfl rfl)
theorem dX5_partner_47 : decode cX5_partner 47 = .ok (.aload_n 0, 1) := dk_42 (dk_at dksX5_partner_1 23 rfl rfl)
theorem dX5_partner_48 : decode cX5_partner 48 = .ok (.invokevirtual 169, 3) := dk_182 0 169 (dk_at dksX5_partner_2 0 rfl rfl)
theorem dX5_partner_51 : decode cX5_partner 51 = .ok (.if_icmp .ge 33, 3) := dk_162 0 33 (dk_at dksX5_partner_2 3 rfl rfl)
theorem dX5_partner_54 : decode cX5_partner 54 = .ok (.aload_n 0, 1) := dk_42 (dk_at dksX5_partner_2 6 rfl rfl)
theorem dX5_partner_55 : decode cX5_partner 55 = .ok (.iload_n 3, 1) := dk_29 (dk_at dksX5_partner_2 7 rfl rfl)
theorem dX5_partner_56 : decode cX5_partner 56 = .ok (.iload 4, 2) := dk_21 4 (dk_at dksX5_partner_2 8 rfl rfl)
theorem dX5_partner_58 : decode cX5_partner 58 = .ok (.invokevirtual 179, 3) := dk_182 0 179 (dk_at dksX5_partner_2 10 rfl rfl)
theorem dX5_partner_61 : decode cX5_partner 61 = .ok (.iconst 1, 1) := dk_4 (dk_at dksX5_partner_2 13 rfl rfl)
theorem dX5_partner_62 : decode cX5_partner 62 = .ok (.iload_n 1, 1) := dk_27 (dk_at dksX5_partner_2 14 rfl rfl)
theorem dX5_partner_63 : decode cX5_partner 63 = .ok (.ishl, 1) := dk_120 (dk_at dksX5_partner_2 15 rfl rfl)
theorem dX5_partner_64 : decode cX5_partner 64 = .ok (.if_icmp .ne 14, 3) := dk_160 0 14 (dk_at dksX5_partner_2 16 rfl rfl)
theorem dX5_partner_67 : decode cX5_partner 67 = .ok (.iload_n 2, 1) := dk_28 (dk_at dksX5_partner_2 19 rfl rfl)
theorem dX5_partner_68 : decode cX5_partner 68 = .ok (.ifCond .ne 7, 3) := dk_154 0 7 (dk_at dksX5_partner_2 20 rfl rfl)
theorem dX5_partner_71 : decode cX5_partner 71 = .ok (.iload_n 3, 1) := dk_29 (dk_at dksX5_partner_2 23 rfl rfl)
theorem dX5_partner_72 : decode cX5_partner 72 = .ok (.goto 5, 3) := dk_167 0 5 (dk_at dksX5_partner_3 0 rfl rfl)
theorem dX5_partner_75 : decode cX5_partner 75 = .ok (.iload 4, 2) := dk_21 4 (dk_at dksX5_partner_3 3 rfl rfl)
theorem dX5_partner_77 : decode cX5_partner 77 = .ok (.ireturn, 1) := dk_172 (dk_at dksX5_partner_3 5 rfl rfl)
theorem dX5_partner_78 : decode cX5_partner 78 = .ok (.iinc 4 1, 3) := dk_132 4 1 (dk_at dksX5_partner_3 6 rfl rfl)
theorem dX5_partner_81 : decode cX5_partner 81 = .ok (.goto (-36), 3) := dk_167 255 220 (dk_at dksX5_partner_3 9 rfl rfl)
theorem dX5_partner_84 : decode cX5_partner 84 = .ok (.iinc 3 1, 3) := dk_132 3 1 (dk_at dksX5_partner_3 12 rfl rfl)
theorem dX5_partner_87 : decode cX5_partner 87 = .ok (.goto (-53), 3) := dk_167 255 203 (dk_at dksX5_partner_3 15 rfl rfl)
theorem dX5_partner_90 : decode cX5_partner 90 = .ok (.iconst (-1), 1) := dk_2 (dk_at dksX5_partner_3 18 rfl rfl)
theorem dX5_partner_91 : decode cX5_partner 91 = .ok (.ireturn, 1) := dk_172 (dk_at dksX5_partner_3 19 rfl rfl)
abbrev cX5_entropy : ByteArray := prog_16_method_104_code
def yX5_entropy : MethodName := ⟨RX5, "entropy", "(I)I"⟩
def dkwX5_entropy_0 : List UInt8 := [42, 42, 27, 182, 1, 112, 182, 0, 87, 154, 0, 5, 3, 172, 42, 182, 1, 142, 42, 27, 182, 1, 145, 172]
abbrev dktX5_entropy_0 : List UInt8 := dkwX5_entropy_0 ++ []
theorem dksX5_entropy_0 : cX5_entropy.data.toList.drop 0 = dktX5_entropy_0 := by decide +kernel
theorem dX5_entropy_0 : decode cX5_entropy 0 = .ok (.aload_n 0, 1) := dk_42 (dk_at dksX5_entropy_0 0 rfl rfl)
theorem dX5_entropy_1 : decode cX5_entropy 1 = .ok (.aload_n 0, 1) := dk_42 (dk_at dksX5_entropy_0 1 rfl rfl)
theorem dX5_entropy_2 : decode cX5_entropy 2 = .ok (.iload_n 1, 1) := dk_27 (dk_at dksX5_entropy_0 2 rfl rfl)
theorem dX5_entropy_3 : decode cX5_entropy 3 = .ok (.invokevirtual 368, 3) := dk_182 1 112 (dk_at dksX5_entropy_0 3 rfl rfl)
theorem dX5_entropy_6 : decode cX5_entropy 6 = .ok (.invokevirtual 87, 3) := dk_182 0 87 (dk_at dksX5_entropy_0 6 rfl rfl)
theorem dX5_entropy_9 : decode cX5_entropy 9 = .ok (.ifCond .ne 5, 3) := dk_154 0 5 (dk_at dksX5_entropy_0 9 rfl rfl)
theorem dX5_entropy_12 : decode cX5_entropy 12 = .ok (.iconst 0, 1) := dk_3 (dk_at dksX5_entropy_0 12 rfl rfl)
theorem dX5_entropy_13 : decode cX5_entropy 13 = .ok (.ireturn, 1) := dk_172 (dk_at dksX5_entropy_0 13 rfl rfl)
theorem dX5_entropy_14 : decode cX5_entropy 14 = .ok (.aload_n 0, 1) := dk_42 (dk_at dksX5_entropy_0 14 rfl rfl)
theorem dX5_entropy_15 : decode cX5_entropy 15 = .ok (.invokevirtual 398, 3) := dk_182 1 142 (dk_at dksX5_entropy_0 15 rfl rfl)
theorem dX5_entropy_18 : decode cX5_entropy 18 = .ok (.aload_n 0, 1) := dk_42 (dk_at dksX5_entropy_0 18 rfl rfl)
theorem dX5_entropy_19 : decode cX5_entropy 19 = .ok (.iload_n 1, 1) := dk_27 (dk_at dksX5_entropy_0 19 rfl rfl)
theorem dX5_entropy_20 : decode cX5_entropy 20 = .ok (.invokevirtual 401, 3) := dk_182 1 145 (dk_at dksX5_entropy_0 20 rfl rfl)
theorem dX5_entropy_23 : decode cX5_entropy 23 = .ok (.ireturn, 1) := dk_172 (dk_at dksX5_entropy_0 23 rfl rfl)
abbrev cX5_laysSupports : ByteArray := prog_16_method_101_code
def yX5_laysSupports : MethodName := ⟨RX5, "laysSupports", "()V"⟩
def dkwX5_laysSupports_1 : List UInt8 := [42, 180, 0, 102, 128, 79, 132, 1, 1, 167, 255, 225, 177]
abbrev dktX5_laysSupports_1 : List UInt8 := dkwX5_laysSupports_1 ++ []
def dkwX5_laysSupports_0 : List UInt8 := [3, 60, 27, 42, 182, 0, 169, 162, 0, 29, 42, 27, 182, 0, 172, 42, 180, 0, 60, 27, 42, 180, 0, 99]
abbrev dktX5_laysSupports_0 : List UInt8 := dkwX5_laysSupports_0 ++ dktX5_laysSupports_1
theorem dksX5_laysSupports_0 : cX5_laysSupports.data.toList.drop 0 = dktX5_laysSupports_0 := by decide +kernel
theorem dksX5_laysSupports_1 : cX5_laysSupports.data.toList.drop 24 = dktX5_laysSupports_1 := dk_seg dksX5_laysSupports_0 24 rfl rfl
theorem dX5_laysSupports_0 : decode cX5_laysSupports 0 = .ok (.iconst 0, 1) := dk_3 (dk_at dksX5_laysSupports_0 0 rfl rfl)
theorem dX5_laysSupports_1 : decode cX5_laysSupports 1 = .ok (.istore_n 1, 1) := dk_60 (dk_at dksX5_laysSupports_0 1 rfl rfl)
theorem dX5_laysSupports_2 : decode cX5_laysSupports 2 = .ok (.iload_n 1, 1) := dk_27 (dk_at dksX5_laysSupports_0 2 rfl rfl)
theorem dX5_laysSupports_3 : decode cX5_laysSupports 3 = .ok (.aload_n 0, 1) := dk_42 (dk_at dksX5_laysSupports_0 3 rfl rfl)
theorem dX5_laysSupports_4 : decode cX5_laysSupports 4 = .ok (.invokevirtual 169, 3) := dk_182 0 169 (dk_at dksX5_laysSupports_0 4 rfl rfl)
theorem dX5_laysSupports_7 : decode cX5_laysSupports 7 = .ok (.if_icmp .ge 29, 3) := dk_162 0 29 (dk_at dksX5_laysSupports_0 7 rfl rfl)
theorem dX5_laysSupports_10 : decode cX5_laysSupports 10 = .ok (.aload_n 0, 1) := dk_42 (dk_at dksX5_laysSupports_0 10 rfl rfl)
theorem dX5_laysSupports_11 : decode cX5_laysSupports 11 = .ok (.iload_n 1, 1) := dk_27 (dk_at dksX5_laysSupports_0 11 rfl rfl)
theorem dX5_laysSupports_12 : decode cX5_laysSupports 12 = .ok (.invokevirtual 172, 3) := dk_182 0 172 (dk_at dksX5_laysSupports_0 12 rfl rfl)
theorem dX5_laysSupports_15 : decode cX5_laysSupports 15 = .ok (.aload_n 0, 1) := dk_42 (dk_at dksX5_laysSupports_0 15 rfl rfl)
theorem dX5_laysSupports_16 : decode cX5_laysSupports 16 = .ok (.getfield 60, 3) := dk_180 0 60 (dk_at dksX5_laysSupports_0 16 rfl rfl)
theorem dX5_laysSupports_19 : decode cX5_laysSupports 19 = .ok (.iload_n 1, 1) := dk_27 (dk_at dksX5_laysSupports_0 19 rfl rfl)
theorem dX5_laysSupports_20 : decode cX5_laysSupports 20 = .ok (.aload_n 0, 1) := dk_42 (dk_at dksX5_laysSupports_0 20 rfl rfl)
theorem dX5_laysSupports_21 : decode cX5_laysSupports 21 = .ok (.getfield 99, 3) := dk_180 0 99 (dk_at dksX5_laysSupports_0 21 rfl rfl)
theorem dX5_laysSupports_24 : decode cX5_laysSupports 24 = .ok (.aload_n 0, 1) := dk_42 (dk_at dksX5_laysSupports_1 0 rfl rfl)
theorem dX5_laysSupports_25 : decode cX5_laysSupports 25 = .ok (.getfield 102, 3) := dk_180 0 102 (dk_at dksX5_laysSupports_1 1 rfl rfl)
theorem dX5_laysSupports_28 : decode cX5_laysSupports 28 = .ok (.ior, 1) := dk_128 (dk_at dksX5_laysSupports_1 4 rfl rfl)
theorem dX5_laysSupports_29 : decode cX5_laysSupports 29 = .ok (.iastore, 1) := dk_79 (dk_at dksX5_laysSupports_1 5 rfl rfl)
theorem dX5_laysSupports_30 : decode cX5_laysSupports 30 = .ok (.iinc 1 1, 3) := dk_132 1 1 (dk_at dksX5_laysSupports_1 6 rfl rfl)
theorem dX5_laysSupports_33 : decode cX5_laysSupports 33 = .ok (.goto (-31), 3) := dk_167 255 225 (dk_at dksX5_laysSupports_1 9 rfl rfl)
theorem dX5_laysSupports_36 : decode cX5_laysSupports 36 = .ok (.return_, 1) := dk_177 (dk_at dksX5_laysSupports_1 12 rfl rfl)
abbrev cX5_entropyOf : ByteArray := prog_16_method_103_code
def yX5_entropyOf : MethodName := ⟨RX5, "entropyOf", "(I)I"⟩
def dkwX5_entropyOf_1 : List UInt8 := [154, 0, 7, 28, 4, 96, 61, 132, 3, 1, 167, 255, 228, 27, 184, 1, 118, 28, 184, 1, 139, 100, 172]
abbrev dktX5_entropyOf_1 : List UInt8 := dkwX5_entropyOf_1 ++ []
def dkwX5_entropyOf_0 : List UInt8 := [3, 61, 3, 62, 29, 42, 182, 0, 169, 162, 0, 26, 42, 180, 0, 60, 29, 46, 27, 2, 130, 126]
abbrev dktX5_entropyOf_0 : List UInt8 := dkwX5_entropyOf_0 ++ dktX5_entropyOf_1
theorem dksX5_entropyOf_0 : cX5_entropyOf.data.toList.drop 0 = dktX5_entropyOf_0 := by decide +kernel
theorem dksX5_entropyOf_1 : cX5_entropyOf.data.toList.drop 22 = dktX5_entropyOf_1 := dk_seg dksX5_entropyOf_0 22 rfl rfl
theorem dX5_entropyOf_0 : decode cX5_entropyOf 0 = .ok (.iconst 0, 1) := dk_3 (dk_at dksX5_entropyOf_0 0 rfl rfl)
theorem dX5_entropyOf_1 : decode cX5_entropyOf 1 = .ok (.istore_n 2, 1) := dk_61 (dk_at dksX5_entropyOf_0 1 rfl rfl)
theorem dX5_entropyOf_2 : decode cX5_entropyOf 2 = .ok (.iconst 0, 1) := dk_3 (dk_at dksX5_entropyOf_0 2 rfl rfl)
theorem dX5_entropyOf_3 : decode cX5_entropyOf 3 = .ok (.istore_n 3, 1) := dk_62 (dk_at dksX5_entropyOf_0 3 rfl rfl)
theorem dX5_entropyOf_4 : decode cX5_entropyOf 4 = .ok (.iload_n 3, 1) := dk_29 (dk_at dksX5_entropyOf_0 4 rfl rfl)
theorem dX5_entropyOf_5 : decode cX5_entropyOf 5 = .ok (.aload_n 0, 1) := dk_42 (dk_at dksX5_entropyOf_0 5 rfl rfl)
theorem dX5_entropyOf_6 : decode cX5_entropyOf 6 = .ok (.invokevirtual 169, 3) := dk_182 0 169 (dk_at dksX5_entropyOf_0 6 rfl rfl)
theorem dX5_entropyOf_9 : decode cX5_entropyOf 9 = .ok (.if_icmp .ge 26, 3) := dk_162 0 26 (dk_at dksX5_entropyOf_0 9 rfl rfl)
theorem dX5_entropyOf_12 : decode cX5_entropyOf 12 = .ok (.aload_n 0, 1) := dk_42 (dk_at dksX5_entropyOf_0 12 rfl rfl)
theorem dX5_entropyOf_13 : decode cX5_entropyOf 13 = .ok (.getfield 60, 3) := dk_180 0 60 (dk_at dksX5_entropyOf_0 13 rfl rfl)
theorem dX5_entropyOf_16 : decode cX5_entropyOf 16 = .ok (.iload_n 3, 1) := dk_29 (dk_at dksX5_entropyOf_0 16 rfl rfl)
theorem dX5_entropyOf_17 : decode cX5_entropyOf 17 = .ok (.iaload, 1) := dk_46 (dk_at dksX5_entropyOf_0 17 rfl rfl)
theorem dX5_entropyOf_18 : decode cX5_entropyOf 18 = .ok (.iload_n 1, 1) := dk_27 (dk_at dksX5_entropyOf_0 18 rfl rfl)
theorem dX5_entropyOf_19 : decode cX5_entropyOf 19 = .ok (.iconst (-1), 1) := dk_2 (dk_at dksX5_entropyOf_0 19 rfl rfl)
theorem dX5_entropyOf_20 : decode cX5_entropyOf 20 = .ok (.ixor, 1) := dk_130 (dk_at dksX5_entropyOf_0 20 rfl rfl)
theorem dX5_entropyOf_21 : decode cX5_entropyOf 21 = .ok (.iand, 1) := dk_126 (dk_at dksX5_entropyOf_0 21 rfl rfl)
theorem dX5_entropyOf_22 : decode cX5_entropyOf 22 = .ok (.ifCond .ne 7, 3) := dk_154 0 7 (dk_at dksX5_entropyOf_1 0 rfl rfl)
theorem dX5_entropyOf_25 : decode cX5_entropyOf 25 = .ok (.iload_n 2, 1) := dk_28 (dk_at dksX5_entropyOf_1 3 rfl rfl)
theorem dX5_entropyOf_26 : decode cX5_entropyOf 26 = .ok (.iconst 1, 1) := dk_4 (dk_at dksX5_entropyOf_1 4 rfl rfl)
theorem dX5_entropyOf_27 : decode cX5_entropyOf 27 = .ok (.iadd, 1) := dk_96 (dk_at dksX5_entropyOf_1 5 rfl rfl)
theorem dX5_entropyOf_28 : decode cX5_entropyOf 28 = .ok (.istore_n 2, 1) := dk_61 (dk_at dksX5_entropyOf_1 6 rfl rfl)
theorem dX5_entropyOf_29 : decode cX5_entropyOf 29 = .ok (.iinc 3 1, 3) := dk_132 3 1 (dk_at dksX5_entropyOf_1 7 rfl rfl)
theorem dX5_entropyOf_32 : decode cX5_entropyOf 32 = .ok (.goto (-28), 3) := dk_167 255 228 (dk_at dksX5_entropyOf_1 10 rfl rfl)
theorem dX5_entropyOf_35 : decode cX5_entropyOf 35 = .ok (.iload_n 1, 1) := dk_27 (dk_at dksX5_entropyOf_1 13 rfl rfl)
theorem dX5_entropyOf_36 : decode cX5_entropyOf 36 = .ok (.invokestatic 374, 3) := dk_184 1 118 (dk_at dksX5_entropyOf_1 14 rfl rfl)
theorem dX5_entropyOf_39 : decode cX5_entropyOf 39 = .ok (.iload_n 2, 1) := dk_28 (dk_at dksX5_entropyOf_1 17 rfl rfl)
theorem dX5_entropyOf_40 : decode cX5_entropyOf 40 = .ok (.invokestatic 395, 3) := dk_184 1 139 (dk_at dksX5_entropyOf_1 18 rfl rfl)
theorem dX5_entropyOf_43 : decode cX5_entropyOf 43 = .ok (.isub, 1) := dk_100 (dk_at dksX5_entropyOf_1 21 rfl rfl)
theorem dX5_entropyOf_44 : decode cX5_entropyOf 44 = .ok (.ireturn, 1) := dk_172 (dk_at dksX5_entropyOf_1 22 rfl rfl)
abbrev cX5_powerOf : ByteArray := prog_16_method_102_code
def yX5_powerOf : MethodName := ⟨RX5, "powerOf", "(I)I"⟩
def dkwX5_powerOf_0 : List UInt8 := [3, 60, 4, 27, 120, 26, 162, 0, 10, 27, 4, 96, 60, 167, 255, 245, 27, 172]
abbrev dktX5_powerOf_0 : List UInt8 := dkwX5_powerOf_0 ++ []
theorem dksX5_powerOf_0 : cX5_powerOf.data.toList.drop 0 = dktX5_powerOf_0 := by decide +kernel
theorem dX5_powerOf_0 : decode cX5_powerOf 0 = .ok (.iconst 0, 1) := dk_3 (dk_at dksX5_powerOf_0 0 rfl rfl)
theorem dX5_powerOf_1 : decode cX5_powerOf 1 = .ok (.istore_n 1, 1) := dk_60 (dk_at dksX5_powerOf_0 1 rfl rfl)
theorem dX5_powerOf_2 : decode cX5_powerOf 2 = .ok (.iconst 1, 1) := dk_4 (dk_at dksX5_powerOf_0 2 rfl rfl)
theorem dX5_powerOf_3 : decode cX5_powerOf 3 = .ok (.iload_n 1, 1) := dk_27 (dk_at dksX5_powerOf_0 3 rfl rfl)
theorem dX5_powerOf_4 : decode cX5_powerOf 4 = .ok (.ishl, 1) := dk_120 (dk_at dksX5_powerOf_0 4 rfl rfl)
theorem dX5_powerOf_5 : decode cX5_powerOf 5 = .ok (.iload_n 0, 1) := dk_26 (dk_at dksX5_powerOf_0 5 rfl rfl)
theorem dX5_powerOf_6 : decode cX5_powerOf 6 = .ok (.if_icmp .ge 10, 3) := dk_162 0 10 (dk_at dksX5_powerOf_0 6 rfl rfl)
theorem dX5_powerOf_9 : decode cX5_powerOf 9 = .ok (.iload_n 1, 1) := dk_27 (dk_at dksX5_powerOf_0 9 rfl rfl)
theorem dX5_powerOf_10 : decode cX5_powerOf 10 = .ok (.iconst 1, 1) := dk_4 (dk_at dksX5_powerOf_0 10 rfl rfl)
theorem dX5_powerOf_11 : decode cX5_powerOf 11 = .ok (.iadd, 1) := dk_96 (dk_at dksX5_powerOf_0 11 rfl rfl)
theorem dX5_powerOf_12 : decode cX5_powerOf 12 = .ok (.istore_n 1, 1) := dk_60 (dk_at dksX5_powerOf_0 12 rfl rfl)
theorem dX5_powerOf_13 : decode cX5_powerOf 13 = .ok (.goto (-11), 3) := dk_167 255 245 (dk_at dksX5_powerOf_0 13 rfl rfl)
theorem dX5_powerOf_16 : decode cX5_powerOf 16 = .ok (.iload_n 1, 1) := dk_27 (dk_at dksX5_powerOf_0 16 rfl rfl)
theorem dX5_powerOf_17 : decode cX5_powerOf 17 = .ok (.ireturn, 1) := dk_172 (dk_at dksX5_powerOf_0 17 rfl rfl)
abbrev cX5_freeQubits : ByteArray := prog_16_method_105_code
def yX5_freeQubits : MethodName := ⟨RX5, "freeQubits", "()I"⟩
def dkwX5_freeQubits_1 : List UInt8 := [4, 28, 120, 182, 1, 145, 154, 0, 9, 27, 4, 28, 120, 128, 60, 132, 2, 1, 167, 255, 227, 27, 172]
abbrev dktX5_freeQubits_1 : List UInt8 := dkwX5_freeQubits_1 ++ []
def dkwX5_freeQubits_0 : List UInt8 := [42, 3, 181, 0, 80, 42, 182, 1, 142, 3, 60, 3, 61, 28, 42, 180, 0, 7, 3, 46, 162, 0, 25, 42]
abbrev dktX5_freeQubits_0 : List UInt8 := dkwX5_freeQubits_0 ++ dktX5_freeQubits_1
theorem dksX5_freeQubits_0 : cX5_freeQubits.data.toList.drop 0 = dktX5_freeQubits_0 := by decide +kernel
theorem dksX5_freeQubits_1 : cX5_freeQubits.data.toList.drop 24 = dktX5_freeQubits_1 := dk_seg dksX5_freeQubits_0 24 rfl rfl
theorem dX5_freeQubits_0 : decode cX5_freeQubits 0 = .ok (.aload_n 0, 1) := dk_42 (dk_at dksX5_freeQubits_0 0 rfl rfl)
theorem dX5_freeQubits_1 : decode cX5_freeQubits 1 = .ok (.iconst 0, 1) := dk_3 (dk_at dksX5_freeQubits_0 1 rfl rfl)
theorem dX5_freeQubits_2 : decode cX5_freeQubits 2 = .ok (.putfield 80, 3) := dk_181 0 80 (dk_at dksX5_freeQubits_0 2 rfl rfl)
theorem dX5_freeQubits_5 : decode cX5_freeQubits 5 = .ok (.aload_n 0, 1) := dk_42 (dk_at dksX5_freeQubits_0 5 rfl rfl)
theorem dX5_freeQubits_6 : decode cX5_freeQubits 6 = .ok (.invokevirtual 398, 3) := dk_182 1 142 (dk_at dksX5_freeQubits_0 6 rfl rfl)
theorem dX5_freeQubits_9 : decode cX5_freeQubits 9 = .ok (.iconst 0, 1) := dk_3 (dk_at dksX5_freeQubits_0 9 rfl rfl)
theorem dX5_freeQubits_10 : decode cX5_freeQubits 10 = .ok (.istore_n 1, 1) := dk_60 (dk_at dksX5_freeQubits_0 10 rfl rfl)
theorem dX5_freeQubits_11 : decode cX5_freeQubits 11 = .ok (.iconst 0, 1) := dk_3 (dk_at dksX5_freeQubits_0 11 rfl rfl)
theorem dX5_freeQubits_12 : decode cX5_freeQubits 12 = .ok (.istore_n 2, 1) := dk_61 (dk_at dksX5_freeQubits_0 12 rfl rfl)
theorem dX5_freeQubits_13 : decode cX5_freeQubits 13 = .ok (.iload_n 2, 1) := dk_28 (dk_at dksX5_freeQubits_0 13 rfl rfl)
theorem dX5_freeQubits_14 : decode cX5_freeQubits 14 = .ok (.aload_n 0, 1) := dk_42 (dk_at dksX5_freeQubits_0 14 rfl rfl)
theorem dX5_freeQubits_15 : decode cX5_freeQubits 15 = .ok (.getfield 7, 3) := dk_180 0 7 (dk_at dksX5_freeQubits_0 15 rfl rfl)
theorem dX5_freeQubits_18 : decode cX5_freeQubits 18 = .ok (.iconst 0, 1) := dk_3 (dk_at dksX5_freeQubits_0 18 rfl rfl)
theorem dX5_freeQubits_19 : decode cX5_freeQubits 19 = .ok (.iaload, 1) := dk_46 (dk_at dksX5_freeQubits_0 19 rfl rfl)
theorem dX5_freeQubits_20 : decode cX5_freeQubits 20 = .ok (.if_icmp .ge 25, 3) := dk_162 0 25 (dk_at dksX5_freeQubits_0 20 rfl rfl)
theorem dX5_freeQubits_23 : decode cX5_freeQubits 23 = .ok (.aload_n 0, 1) := dk_42 (dk_at dksX5_freeQubits_0 23 rfl rfl)
theorem dX5_freeQubits_24 : decode cX5_freeQubits 24 = .ok (.iconst 1, 1) := dk_4 (dk_at dksX5_freeQubits_1 0 rfl rfl)
theorem dX5_freeQubits_25 : decode cX5_freeQubits 25 = .ok (.iload_n 2, 1) := dk_28 (dk_at dksX5_freeQubits_1 1 rfl rfl)
theorem dX5_freeQubits_26 : decode cX5_freeQubits 26 = .ok (.ishl, 1) := dk_120 (dk_at dksX5_freeQubits_1 2 rfl rfl)
theorem dX5_freeQubits_27 : decode cX5_freeQubits 27 = .ok (.invokevirtual 401, 3) := dk_182 1 145 (dk_at dksX5_freeQubits_1 3 rfl rfl)
theorem dX5_freeQubits_30 : decode cX5_freeQubits 30 = .ok (.ifCond .ne 9, 3) := dk_154 0 9 (dk_at dksX5_freeQubits_1 6 rfl rfl)
theorem dX5_freeQubits_33 : decode cX5_freeQubits 33 = .ok (.iload_n 1, 1) := dk_27 (dk_at dksX5_freeQubits_1 9 rfl rfl)
theorem dX5_freeQubits_34 : decode cX5_freeQubits 34 = .ok (.iconst 1, 1) := dk_4 (dk_at dksX5_freeQubits_1 10 rfl rfl)
theorem dX5_freeQubits_35 : decode cX5_freeQubits 35 = .ok (.iload_n 2, 1) := dk_28 (dk_at dksX5_freeQubits_1 11 rfl rfl)
theorem dX5_freeQubits_36 : decode cX5_freeQubits 36 = .ok (.ishl, 1) := dk_120 (dk_at dksX5_freeQubits_1 12 rfl rfl)
theorem dX5_freeQubits_37 : decode cX5_freeQubits 37 = .ok (.ior, 1) := dk_128 (dk_at dksX5_freeQubits_1 13 rfl rfl)
theorem dX5_freeQubits_38 : decode cX5_freeQubits 38 = .ok (.istore_n 1, 1) := dk_60 (dk_at dksX5_freeQubits_1 14 rfl rfl)
theorem dX5_freeQubits_39 : decode cX5_freeQubits 39 = .ok (.iinc 2 1, 3) := dk_132 2 1 (dk_at dksX5_freeQubits_1 15 rfl rfl)
theorem dX5_freeQubits_42 : decode cX5_freeQubits 42 = .ok (.goto (-29), 3) := dk_167 255 227 (dk_at dksX5_freeQubits_1 18 rfl rfl)
theorem dX5_freeQubits_45 : decode cX5_freeQubits 45 = .ok (.iload_n 1, 1) := dk_27 (dk_at dksX5_freeQubits_1 21 rfl rfl)
theorem dX5_freeQubits_46 : decode cX5_freeQubits 46 = .ok (.ireturn, 1) := dk_172 (dk_at dksX5_freeQubits_1 22 rfl rfl)
abbrev cX5_block : ByteArray := prog_16_method_106_code
def yX5_block : MethodName := ⟨RX5, "block", "(I)I"⟩
def dkwX5_block_3 : List UInt8 := [172]
abbrev dktX5_block_3 : List UInt8 := dkwX5_block_3 ++ []
def dkwX5_block_2 : List UInt8 := [28, 184, 1, 118, 163, 0, 13, 42, 29, 182, 1, 145, 154, 0, 5, 29, 61, 132, 3, 255, 167, 255, 220, 28]
abbrev dktX5_block_2 : List UInt8 := dkwX5_block_2 ++ dktX5_block_3
def dkwX5_block_1 : List UInt8 := [61, 42, 182, 0, 169, 4, 100, 62, 29, 158, 0, 38, 29, 27, 184, 0, 91, 153, 0, 24, 29, 184, 1, 118]
abbrev dktX5_block_1 : List UInt8 := dkwX5_block_1 ++ dktX5_block_2
def dkwX5_block_0 : List UInt8 := [42, 42, 27, 182, 0, 143, 182, 0, 87, 154, 0, 5, 3, 172, 42, 182, 1, 142, 42, 182, 0, 169, 4, 100]
abbrev dktX5_block_0 : List UInt8 := dkwX5_block_0 ++ dktX5_block_1
theorem dksX5_block_0 : cX5_block.data.toList.drop 0 = dktX5_block_0 := by decide +kernel
theorem dksX5_block_1 : cX5_block.data.toList.drop 24 = dktX5_block_1 := dk_seg dksX5_block_0 24 rfl rfl
theorem dksX5_block_2 : cX5_block.data.toList.drop 48 = dktX5_block_2 := dk_seg dksX5_block_1 24 rfl rfl
theorem dksX5_block_3 : cX5_block.data.toList.drop 72 = dktX5_block_3 := dk_seg dksX5_block_2 24 rfl rfl
theorem dX5_block_0 : decode cX5_block 0 = .ok (.aload_n 0, 1) := dk_42 (dk_at dksX5_block_0 0 rfl rfl)
theorem dX5_block_1 : decode cX5_block 1 = .ok (.aload_n 0, 1) := dk_42 (dk_at dksX5_block_0 1 rfl rfl)
theorem dX5_block_2 : decode cX5_block 2 = .ok (.iload_n 1, 1) := dk_27 (dk_at dksX5_block_0 2 rfl rfl)
theorem dX5_block_3 : decode cX5_block 3 = .ok (.invokevirtual 143, 3) := dk_182 0 143 (dk_at dksX5_block_0 3 rfl rfl)
theorem dX5_block_6 : decode cX5_block 6 = .ok (.invokevirtual 87, 3) := dk_182 0 87 (dk_at dksX5_block_0 6 rfl rfl)
theorem dX5_block_9 : decode cX5_block 9 = .ok (.ifCond .ne 5, 3) := dk_154 0 5 (dk_at dksX5_block_0 9 rfl rfl)
theorem dX5_block_12 : decode cX5_block 12 = .ok (.iconst 0, 1) := dk_3 (dk_at dksX5_block_0 12 rfl rfl)
theorem dX5_block_13 : decode cX5_block 13 = .ok (.ireturn, 1) := dk_172 (dk_at dksX5_block_0 13 rfl rfl)
theorem dX5_block_14 : decode cX5_block 14 = .ok (.aload_n 0, 1) := dk_42 (dk_at dksX5_block_0 14 rfl rfl)
theorem dX5_block_15 : decode cX5_block 15 = .ok (.invokevirtual 398, 3) := dk_182 1 142 (dk_at dksX5_block_0 15 rfl rfl)
theorem dX5_block_18 : decode cX5_block 18 = .ok (.aload_n 0, 1) := dk_42 (dk_at dksX5_block_0 18 rfl rfl)
theorem dX5_block_19 : decode cX5_block 19 = .ok (.invokevirtual 169, 3) := dk_182 0 169 (dk_at dksX5_block_0 19 rfl rfl)
theorem dX5_block_22 : decode cX5_block 22 = .ok (.iconst 1, 1) := dk_4 (dk_at dksX5_block_0 22 rfl rfl)
theorem dX5_block_23 : decode cX5_block 23 = .ok (.isub, 1) := dk_100 (dk_at dksX5_block_0 23 rfl rfl)
theorem dX5_block_24 : decode cX5_block 24 = .ok (.istore_n 2, 1) := dk_61 (dk_at dksX5_block_1 0 rfl rfl)
theorem dX5_block_25 : decode cX5_block 25 = .ok (.aload_n 0, 1) := dk_42 (dk_at dksX5_block_1 1 rfl rfl)
theorem dX5_block_26 : decode cX5_block 26 = .ok (.invokevirtual 169, 3) := dk_182 0 169 (dk_at dksX5_block_1 2 rfl rfl)
theorem dX5_block_29 : decode cX5_block 29 = .ok (.iconst 1, 1) := dk_4 (dk_at dksX5_block_1 5 rfl rfl)
theorem dX5_block_30 : decode cX5_block 30 = .ok (.isub, 1) := dk_100 (dk_at dksX5_block_1 6 rfl rfl)
theorem dX5_block_31 : decode cX5_block 31 = .ok (.istore_n 3, 1) := dk_62 (dk_at dksX5_block_1 7 rfl rfl)
theorem dX5_block_32 : decode cX5_block 32 = .ok (.iload_n 3, 1) := dk_29 (dk_at dksX5_block_1 8 rfl rfl)
theorem dX5_block_33 : decode cX5_block 33 = .ok (.ifCond .le 38, 3) := dk_158 0 38 (dk_at dksX5_block_1 9 rfl rfl)
theorem dX5_block_36 : decode cX5_block 36 = .ok (.iload_n 3, 1) := dk_29 (dk_at dksX5_block_1 12 rfl rfl)
theorem dX5_block_37 : decode cX5_block 37 = .ok (.iload_n 1, 1) := dk_27 (dk_at dksX5_block_1 13 rfl rfl)
theorem dX5_block_38 : decode cX5_block 38 = .ok (.invokestatic 91, 3) := dk_184 0 91 (dk_at dksX5_block_1 14 rfl rfl)
theorem dX5_block_41 : decode cX5_block 41 = .ok (.ifCond .eq 24, 3) := dk_153 0 24 (dk_at dksX5_block_1 17 rfl rfl)
theorem dX5_block_44 : decode cX5_block 44 = .ok (.iload_n 3, 1) := dk_29 (dk_at dksX5_block_1 20 rfl rfl)
theorem dX5_block_45 : decode cX5_block 45 = .ok (.invokestatic 374, 3) := dk_184 1 118 (dk_at dksX5_block_1 21 rfl rfl)
theorem dX5_block_48 : decode cX5_block 48 = .ok (.iload_n 2, 1) := dk_28 (dk_at dksX5_block_2 0 rfl rfl)
theorem dX5_block_49 : decode cX5_block 49 = .ok (.invokestatic 374, 3) := dk_184 1 118 (dk_at dksX5_block_2 1 rfl rfl)
theorem dX5_block_52 : decode cX5_block 52 = .ok (.if_icmp .gt 13, 3) := dk_163 0 13 (dk_at dksX5_block_2 4 rfl rfl)
theorem dX5_block_55 : decode cX5_block 55 = .ok (.aload_n 0, 1) := dk_42 (dk_at dksX5_block_2 7 rfl rfl)
theorem dX5_block_56 : decode cX5_block 56 = .ok (.iload_n 3, 1) := dk_29 (dk_at dksX5_block_2 8 rfl rfl)
theorem dX5_block_57 : decode cX5_block 57 = .ok (.invokevirtual 401, 3) := dk_182 1 145 (dk_at dksX5_block_2 9 rfl rfl)
theorem dX5_block_60 : decode cX5_block 60 = .ok (.ifCond .ne 5, 3) := dk_154 0 5 (dk_at dksX5_block_2 12 rfl rfl)
theorem dX5_block_63 : decode cX5_block 63 = .ok (.iload_n 3, 1) := dk_29 (dk_at dksX5_block_2 15 rfl rfl)
theorem dX5_block_64 : decode cX5_block 64 = .ok (.istore_n 2, 1) := dk_61 (dk_at dksX5_block_2 16 rfl rfl)
theorem dX5_block_65 : decode cX5_block 65 = .ok (.iinc 3 (-1), 3) := dk_132 3 255 (dk_at dksX5_block_2 17 rfl rfl)
theorem dX5_block_68 : decode cX5_block 68 = .ok (.goto (-36), 3) := dk_167 255 220 (dk_at dksX5_block_2 20 rfl rfl)
theorem dX5_block_71 : decode cX5_block 71 = .ok (.iload_n 2, 1) := dk_28 (dk_at dksX5_block_2 23 rfl rfl)
theorem dX5_block_72 : decode cX5_block 72 = .ok (.ireturn, 1) := dk_172 (dk_at dksX5_block_3 0 rfl rfl)
abbrev cX5_shared : ByteArray := prog_16_method_107_code
def yX5_shared : MethodName := ⟨RX5, "shared", "(II)I"⟩
def dkwX5_shared_2 : List UInt8 := [182, 1, 145, 96, 42, 27, 28, 128, 182, 1, 145, 100, 172]
abbrev dktX5_shared_2 : List UInt8 := dkwX5_shared_2 ++ []
def dkwX5_shared_1 : List UInt8 := [167, 0, 4, 3, 182, 0, 87, 154, 0, 5, 3, 172, 42, 182, 1, 142, 42, 27, 182, 1, 145, 42, 28]
abbrev dktX5_shared_1 : List UInt8 := dkwX5_shared_1 ++ dktX5_shared_2
def dkwX5_shared_0 : List UInt8 := [42, 42, 27, 182, 1, 112, 153, 0, 21, 42, 28, 182, 1, 112, 153, 0, 13, 27, 28, 126, 154, 0, 7, 4]
abbrev dktX5_shared_0 : List UInt8 := dkwX5_shared_0 ++ dktX5_shared_1
theorem dksX5_shared_0 : cX5_shared.data.toList.drop 0 = dktX5_shared_0 := by decide +kernel
theorem dksX5_shared_1 : cX5_shared.data.toList.drop 24 = dktX5_shared_1 := dk_seg dksX5_shared_0 24 rfl rfl
theorem dksX5_shared_2 : cX5_shared.data.toList.drop 47 = dktX5_shared_2 := dk_seg dksX5_shared_1 23 rfl rfl
theorem dX5_shared_0 : decode cX5_shared 0 = .ok (.aload_n 0, 1) := dk_42 (dk_at dksX5_shared_0 0 rfl rfl)
theorem dX5_shared_1 : decode cX5_shared 1 = .ok (.aload_n 0, 1) := dk_42 (dk_at dksX5_shared_0 1 rfl rfl)
theorem dX5_shared_2 : decode cX5_shared 2 = .ok (.iload_n 1, 1) := dk_27 (dk_at dksX5_shared_0 2 rfl rfl)
theorem dX5_shared_3 : decode cX5_shared 3 = .ok (.invokevirtual 368, 3) := dk_182 1 112 (dk_at dksX5_shared_0 3 rfl rfl)
theorem dX5_shared_6 : decode cX5_shared 6 = .ok (.ifCond .eq 21, 3) := dk_153 0 21 (dk_at dksX5_shared_0 6 rfl rfl)
theorem dX5_shared_9 : decode cX5_shared 9 = .ok (.aload_n 0, 1) := dk_42 (dk_at dksX5_shared_0 9 rfl rfl)
theorem dX5_shared_10 : decode cX5_shared 10 = .ok (.iload_n 2, 1) := dk_28 (dk_at dksX5_shared_0 10 rfl rfl)
theorem dX5_shared_11 : decode cX5_shared 11 = .ok (.invokevirtual 368, 3) := dk_182 1 112 (dk_at dksX5_shared_0 11 rfl rfl)
theorem dX5_shared_14 : decode cX5_shared 14 = .ok (.ifCond .eq 13, 3) := dk_153 0 13 (dk_at dksX5_shared_0 14 rfl rfl)
theorem dX5_shared_17 : decode cX5_shared 17 = .ok (.iload_n 1, 1) := dk_27 (dk_at dksX5_shared_0 17 rfl rfl)
theorem dX5_shared_18 : decode cX5_shared 18 = .ok (.iload_n 2, 1) := dk_28 (dk_at dksX5_shared_0 18 rfl rfl)
theorem dX5_shared_19 : decode cX5_shared 19 = .ok (.iand, 1) := dk_126 (dk_at dksX5_shared_0 19 rfl rfl)
theorem dX5_shared_20 : decode cX5_shared 20 = .ok (.ifCond .ne 7, 3) := dk_154 0 7 (dk_at dksX5_shared_0 20 rfl rfl)
theorem dX5_shared_23 : decode cX5_shared 23 = .ok (.iconst 1, 1) := dk_4 (dk_at dksX5_shared_0 23 rfl rfl)
theorem dX5_shared_24 : decode cX5_shared 24 = .ok (.goto 4, 3) := dk_167 0 4 (dk_at dksX5_shared_1 0 rfl rfl)
theorem dX5_shared_27 : decode cX5_shared 27 = .ok (.iconst 0, 1) := dk_3 (dk_at dksX5_shared_1 3 rfl rfl)
theorem dX5_shared_28 : decode cX5_shared 28 = .ok (.invokevirtual 87, 3) := dk_182 0 87 (dk_at dksX5_shared_1 4 rfl rfl)
theorem dX5_shared_31 : decode cX5_shared 31 = .ok (.ifCond .ne 5, 3) := dk_154 0 5 (dk_at dksX5_shared_1 7 rfl rfl)
theorem dX5_shared_34 : decode cX5_shared 34 = .ok (.iconst 0, 1) := dk_3 (dk_at dksX5_shared_1 10 rfl rfl)
theorem dX5_shared_35 : decode cX5_shared 35 = .ok (.ireturn, 1) := dk_172 (dk_at dksX5_shared_1 11 rfl rfl)
theorem dX5_shared_36 : decode cX5_shared 36 = .ok (.aload_n 0, 1) := dk_42 (dk_at dksX5_shared_1 12 rfl rfl)
theorem dX5_shared_37 : decode cX5_shared 37 = .ok (.invokevirtual 398, 3) := dk_182 1 142 (dk_at dksX5_shared_1 13 rfl rfl)
theorem dX5_shared_40 : decode cX5_shared 40 = .ok (.aload_n 0, 1) := dk_42 (dk_at dksX5_shared_1 16 rfl rfl)
theorem dX5_shared_41 : decode cX5_shared 41 = .ok (.iload_n 1, 1) := dk_27 (dk_at dksX5_shared_1 17 rfl rfl)
theorem dX5_shared_42 : decode cX5_shared 42 = .ok (.invokevirtual 401, 3) := dk_182 1 145 (dk_at dksX5_shared_1 18 rfl rfl)
theorem dX5_shared_45 : decode cX5_shared 45 = .ok (.aload_n 0, 1) := dk_42 (dk_at dksX5_shared_1 21 rfl rfl)
theorem dX5_shared_46 : decode cX5_shared 46 = .ok (.iload_n 2, 1) := dk_28 (dk_at dksX5_shared_1 22 rfl rfl)
theorem dX5_shared_47 : decode cX5_shared 47 = .ok (.invokevirtual 401, 3) := dk_182 1 145 (dk_at dksX5_shared_2 0 rfl rfl)
theorem dX5_shared_50 : decode cX5_shared 50 = .ok (.iadd, 1) := dk_96 (dk_at dksX5_shared_2 3 rfl rfl)
theorem dX5_shared_51 : decode cX5_shared 51 = .ok (.aload_n 0, 1) := dk_42 (dk_at dksX5_shared_2 4 rfl rfl)
theorem dX5_shared_52 : decode cX5_shared 52 = .ok (.iload_n 1, 1) := dk_27 (dk_at dksX5_shared_2 5 rfl rfl)
theorem dX5_shared_53 : decode cX5_shared 53 = .ok (.iload_n 2, 1) := dk_28 (dk_at dksX5_shared_2 6 rfl rfl)
theorem dX5_shared_54 : decode cX5_shared 54 = .ok (.ior, 1) := dk_128 (dk_at dksX5_shared_2 7 rfl rfl)
theorem dX5_shared_55 : decode cX5_shared 55 = .ok (.invokevirtual 401, 3) := dk_182 1 145 (dk_at dksX5_shared_2 8 rfl rfl)
theorem dX5_shared_58 : decode cX5_shared 58 = .ok (.isub, 1) := dk_100 (dk_at dksX5_shared_2 11 rfl rfl)
theorem dX5_shared_59 : decode cX5_shared 59 = .ok (.ireturn, 1) := dk_172 (dk_at dksX5_shared_2 12 rfl rfl)
abbrev cX5_mostEntangled : ByteArray := prog_16_method_108_code
def yX5_mostEntangled : MethodName := ⟨RX5, "mostEntangled", "(I)I"⟩
def dkwX5_mostEntangled_3 : List UInt8 := [28, 172]
abbrev dktX5_mostEntangled_3 : List UInt8 := dkwX5_mostEntangled_3 ++ []
def dkwX5_mostEntangled_2 : List UInt8 := [153, 0, 16, 42, 29, 182, 1, 145, 42, 28, 182, 1, 145, 164, 0, 5, 29, 61, 132, 3, 1, 167, 255, 218]
abbrev dktX5_mostEntangled_2 : List UInt8 := dkwX5_mostEntangled_2 ++ dktX5_mostEntangled_3
def dkwX5_mostEntangled_1 : List UInt8 := [182, 1, 142, 3, 61, 4, 62, 29, 42, 182, 0, 169, 162, 0, 36, 29, 184, 1, 118, 27, 160, 0, 22, 28]
abbrev dktX5_mostEntangled_1 : List UInt8 := dkwX5_mostEntangled_1 ++ dktX5_mostEntangled_2
def dkwX5_mostEntangled_0 : List UInt8 := [42, 27, 133, 10, 42, 180, 0, 7, 3, 46, 133, 184, 0, 135, 182, 0, 87, 154, 0, 5, 3, 172, 42]
abbrev dktX5_mostEntangled_0 : List UInt8 := dkwX5_mostEntangled_0 ++ dktX5_mostEntangled_1
theorem dksX5_mostEntangled_0 : cX5_mostEntangled.data.toList.drop 0 = dktX5_mostEntangled_0 := by decide +kernel
theorem dksX5_mostEntangled_1 : cX5_mostEntangled.data.toList.drop 23 = dktX5_mostEntangled_1 := dk_seg dksX5_mostEntangled_0 23 rfl rfl
theorem dksX5_mostEntangled_2 : cX5_mostEntangled.data.toList.drop 47 = dktX5_mostEntangled_2 := dk_seg dksX5_mostEntangled_1 24 rfl rfl
theorem dksX5_mostEntangled_3 : cX5_mostEntangled.data.toList.drop 71 = dktX5_mostEntangled_3 := dk_seg dksX5_mostEntangled_2 24 rfl rfl
theorem dX5_mostEntangled_0 : decode cX5_mostEntangled 0 = .ok (.aload_n 0, 1) := dk_42 (dk_at dksX5_mostEntangled_0 0 rfl rfl)
theorem dX5_mostEntangled_1 : decode cX5_mostEntangled 1 = .ok (.iload_n 1, 1) := dk_27 (dk_at dksX5_mostEntangled_0 1 rfl rfl)
theorem dX5_mostEntangled_2 : decode cX5_mostEntangled 2 = .ok (.i2l, 1) := dk_133 (dk_at dksX5_mostEntangled_0 2 rfl rfl)
theorem dX5_mostEntangled_3 : decode cX5_mostEntangled 3 = .ok (.lconst 1, 1) := dk_10 (dk_at dksX5_mostEntangled_0 3 rfl rfl)
theorem dX5_mostEntangled_4 : decode cX5_mostEntangled 4 = .ok (.aload_n 0, 1) := dk_42 (dk_at dksX5_mostEntangled_0 4 rfl rfl)
theorem dX5_mostEntangled_5 : decode cX5_mostEntangled 5 = .ok (.getfield 7, 3) := dk_180 0 7 (dk_at dksX5_mostEntangled_0 5 rfl rfl)
theorem dX5_mostEntangled_8 : decode cX5_mostEntangled 8 = .ok (.iconst 0, 1) := dk_3 (dk_at dksX5_mostEntangled_0 8 rfl rfl)
theorem dX5_mostEntangled_9 : decode cX5_mostEntangled 9 = .ok (.iaload, 1) := dk_46 (dk_at dksX5_mostEntangled_0 9 rfl rfl)
theorem dX5_mostEntangled_10 : decode cX5_mostEntangled 10 = .ok (.i2l, 1) := dk_133 (dk_at dksX5_mostEntangled_0 10 rfl rfl)
theorem dX5_mostEntangled_11 : decode cX5_mostEntangled 11 = .ok (.invokestatic 135, 3) := dk_184 0 135 (dk_at dksX5_mostEntangled_0 11 rfl rfl)
theorem dX5_mostEntangled_14 : decode cX5_mostEntangled 14 = .ok (.invokevirtual 87, 3) := dk_182 0 87 (dk_at dksX5_mostEntangled_0 14 rfl rfl)
theorem dX5_mostEntangled_17 : decode cX5_mostEntangled 17 = .ok (.ifCond .ne 5, 3) := dk_154 0 5 (dk_at dksX5_mostEntangled_0 17 rfl rfl)
theorem dX5_mostEntangled_20 : decode cX5_mostEntangled 20 = .ok (.iconst 0, 1) := dk_3 (dk_at dksX5_mostEntangled_0 20 rfl rfl)
theorem dX5_mostEntangled_21 : decode cX5_mostEntangled 21 = .ok (.ireturn, 1) := dk_172 (dk_at dksX5_mostEntangled_0 21 rfl rfl)
theorem dX5_mostEntangled_22 : decode cX5_mostEntangled 22 = .ok (.aload_n 0, 1) := dk_42 (dk_at dksX5_mostEntangled_0 22 rfl rfl)
theorem dX5_mostEntangled_23 : decode cX5_mostEntangled 23 = .ok (.invokevirtual 398, 3) := dk_182 1 142 (dk_at dksX5_mostEntangled_1 0 rfl rfl)
theorem dX5_mostEntangled_26 : decode cX5_mostEntangled 26 = .ok (.iconst 0, 1) := dk_3 (dk_at dksX5_mostEntangled_1 3 rfl rfl)
theorem dX5_mostEntangled_27 : decode cX5_mostEntangled 27 = .ok (.istore_n 2, 1) := dk_61 (dk_at dksX5_mostEntangled_1 4 rfl rfl)
theorem dX5_mostEntangled_28 : decode cX5_mostEntangled 28 = .ok (.iconst 1, 1) := dk_4 (dk_at dksX5_mostEntangled_1 5 rfl rfl)
theorem dX5_mostEntangled_29 : decode cX5_mostEntangled 29 = .ok (.istore_n 3, 1) := dk_62 (dk_at dksX5_mostEntangled_1 6 rfl rfl)
theorem dX5_mostEntangled_30 : decode cX5_mostEntangled 30 = .ok (.iload_n 3, 1) := dk_29 (dk_at dksX5_mostEntangled_1 7 rfl rfl)
theorem dX5_mostEntangled_31 : decode cX5_mostEntangled 31 = .ok (.aload_n 0, 1) := dk_42 (dk_at dksX5_mostEntangled_1 8 rfl rfl)
theorem dX5_mostEntangled_32 : decode cX5_mostEntangled 32 = .ok (.invokevirtual 169, 3) := dk_182 0 169 (dk_at dksX5_mostEntangled_1 9 rfl rfl)
theorem dX5_mostEntangled_35 : decode cX5_mostEntangled 35 = .ok (.if_icmp .ge 36, 3) := dk_162 0 36 (dk_at dksX5_mostEntangled_1 12 rfl rfl)
theorem dX5_mostEntangled_38 : decode cX5_mostEntangled 38 = .ok (.iload_n 3, 1) := dk_29 (dk_at dksX5_mostEntangled_1 15 rfl rfl)
theorem dX5_mostEntangled_39 : decode cX5_mostEntangled 39 = .ok (.invokestatic 374, 3) := dk_184 1 118 (dk_at dksX5_mostEntangled_1 16 rfl rfl)
theorem dX5_mostEntangled_42 : decode cX5_mostEntangled 42 = .ok (.iload_n 1, 1) := dk_27 (dk_at dksX5_mostEntangled_1 19 rfl rfl)
theorem dX5_mostEntangled_43 : decode cX5_mostEntangled 43 = .ok (.if_icmp .ne 22, 3) := dk_160 0 22 (dk_at dksX5_mostEntangled_1 20 rfl rfl)
theorem dX5_mostEntangled_46 : decode cX5_mostEntangled 46 = .ok (.iload_n 2, 1) := dk_28 (dk_at dksX5_mostEntangled_1 23 rfl rfl)
theorem dX5_mostEntangled_47 : decode cX5_mostEntangled 47 = .ok (.ifCond .eq 16, 3) := dk_153 0 16 (dk_at dksX5_mostEntangled_2 0 rfl rfl)
theorem dX5_mostEntangled_50 : decode cX5_mostEntangled 50 = .ok (.aload_n 0, 1) := dk_42 (dk_at dksX5_mostEntangled_2 3 rfl rfl)
theorem dX5_mostEntangled_51 : decode cX5_mostEntangled 51 = .ok (.iload_n 3, 1) := dk_29 (dk_at dksX5_mostEntangled_2 4 rfl rfl)
theorem dX5_mostEntangled_52 : decode cX5_mostEntangled 52 = .ok (.invokevirtual 401, 3) := dk_182 1 145 (dk_at dksX5_mostEntangled_2 5 rfl rfl)
theorem dX5_mostEntangled_55 : decode cX5_mostEntangled 55 = .ok (.aload_n 0, 1) := dk_42 (dk_at dksX5_mostEntangled_2 8 rfl rfl)
theorem dX5_mostEntangled_56 : decode cX5_mostEntangled 56 = .ok (.iload_n 2, 1) := dk_28 (dk_at dksX5_mostEntangled_2 9 rfl rfl)
theorem dX5_mostEntangled_57 : decode cX5_mostEntangled 57 = .ok (.invokevirtual 401, 3) := dk_182 1 145 (dk_at dksX5_mostEntangled_2 10 rfl rfl)
theorem dX5_mostEntangled_60 : decode cX5_mostEntangled 60 = .ok (.if_icmp .le 5, 3) := dk_164 0 5 (dk_at dksX5_mostEntangled_2 13 rfl rfl)
theorem dX5_mostEntangled_63 : decode cX5_mostEntangled 63 = .ok (.iload_n 3, 1) := dk_29 (dk_at dksX5_mostEntangled_2 16 rfl rfl)
theorem dX5_mostEntangled_64 : decode cX5_mostEntangled 64 = .ok (.istore_n 2, 1) := dk_61 (dk_at dksX5_mostEntangled_2 17 rfl rfl)
theorem dX5_mostEntangled_65 : decode cX5_mostEntangled 65 = .ok (.iinc 3 1, 3) := dk_132 3 1 (dk_at dksX5_mostEntangled_2 18 rfl rfl)
theorem dX5_mostEntangled_68 : decode cX5_mostEntangled 68 = .ok (.goto (-38), 3) := dk_167 255 218 (dk_at dksX5_mostEntangled_2 21 rfl rfl)
theorem dX5_mostEntangled_71 : decode cX5_mostEntangled 71 = .ok (.iload_n 2, 1) := dk_28 (dk_at dksX5_mostEntangled_3 0 rfl rfl)
theorem dX5_mostEntangled_72 : decode cX5_mostEntangled 72 = .ok (.ireturn, 1) := dk_172 (dk_at dksX5_mostEntangled_3 1 rfl rfl)
abbrev cX5_closestPair : ByteArray := prog_16_method_109_code
def yX5_closestPair : MethodName := ⟨RX5, "closestPair", "()I"⟩
def dkwX5_closestPair_5 : List UInt8 := [132, 3, 1, 167, 255, 170, 27, 172]
abbrev dktX5_closestPair_5 : List UInt8 := dkwX5_closestPair_5 ++ []
def dkwX5_closestPair_4 : List UInt8 := [163, 0, 6, 167, 0, 14, 16, 8, 29, 104, 21, 4, 96, 60, 21, 5, 61, 132, 4, 1, 167, 255, 191]
abbrev dktX5_closestPair_4 : List UInt8 := dkwX5_closestPair_4 ++ dktX5_closestPair_5
def dkwX5_closestPair_3 : List UInt8 := [120, 182, 1, 145, 96, 42, 4, 29, 120, 4, 21, 4, 120, 128, 182, 1, 145, 100, 54, 5, 21, 5, 28]
abbrev dktX5_closestPair_3 : List UInt8 := dkwX5_closestPair_3 ++ dktX5_closestPair_4
def dkwX5_closestPair_2 : List UInt8 := [54, 4, 21, 4, 42, 180, 0, 7, 3, 46, 162, 0, 60, 42, 4, 29, 120, 182, 1, 145, 42, 4, 21, 4]
abbrev dktX5_closestPair_2 : List UInt8 := dkwX5_closestPair_2 ++ dktX5_closestPair_3
def dkwX5_closestPair_1 : List UInt8 := [42, 182, 1, 142, 3, 60, 2, 61, 3, 62, 29, 42, 180, 0, 7, 3, 46, 162, 0, 82, 29, 4, 96]
abbrev dktX5_closestPair_1 : List UInt8 := dkwX5_closestPair_1 ++ dktX5_closestPair_2
def dkwX5_closestPair_0 : List UInt8 := [42, 42, 180, 0, 7, 3, 46, 4, 164, 0, 7, 4, 167, 0, 4, 3, 182, 0, 87, 154, 0, 5, 3, 172]
abbrev dktX5_closestPair_0 : List UInt8 := dkwX5_closestPair_0 ++ dktX5_closestPair_1
theorem dksX5_closestPair_0 : cX5_closestPair.data.toList.drop 0 = dktX5_closestPair_0 := by decide +kernel
theorem dksX5_closestPair_1 : cX5_closestPair.data.toList.drop 24 = dktX5_closestPair_1 := dk_seg dksX5_closestPair_0 24 rfl rfl
theorem dksX5_closestPair_2 : cX5_closestPair.data.toList.drop 47 = dktX5_closestPair_2 := dk_seg dksX5_closestPair_1 23 rfl rfl
theorem dksX5_closestPair_3 : cX5_closestPair.data.toList.drop 71 = dktX5_closestPair_3 := dk_seg dksX5_closestPair_2 24 rfl rfl
theorem dksX5_closestPair_4 : cX5_closestPair.data.toList.drop 94 = dktX5_closestPair_4 := dk_seg dksX5_closestPair_3 23 rfl rfl
theorem dksX5_closestPair_5 : cX5_closestPair.data.toList.drop 117 = dktX5_closestPair_5 := dk_seg dksX5_closestPair_4 23 rfl rfl
theorem dX5_closestPair_0 : decode cX5_closestPair 0 = .ok (.aload_n 0, 1) := dk_42 (dk_at dksX5_closestPair_0 0 rfl rfl)
theorem dX5_closestPair_1 : decode cX5_closestPair 1 = .ok (.aload_n 0, 1) := dk_42 (dk_at dksX5_closestPair_0 1 rfl rfl)
theorem dX5_closestPair_2 : decode cX5_closestPair 2 = .ok (.getfield 7, 3) := dk_180 0 7 (dk_at dksX5_closestPair_0 2 rfl rfl)
theorem dX5_closestPair_5 : decode cX5_closestPair 5 = .ok (.iconst 0, 1) := dk_3 (dk_at dksX5_closestPair_0 5 rfl rfl)
theorem dX5_closestPair_6 : decode cX5_closestPair 6 = .ok (.iaload, 1) := dk_46 (dk_at dksX5_closestPair_0 6 rfl rfl)
theorem dX5_closestPair_7 : decode cX5_closestPair 7 = .ok (.iconst 1, 1) := dk_4 (dk_at dksX5_closestPair_0 7 rfl rfl)
theorem dX5_closestPair_8 : decode cX5_closestPair 8 = .ok (.if_icmp .le 7, 3) := dk_164 0 7 (dk_at dksX5_closestPair_0 8 rfl rfl)
theorem dX5_closestPair_11 : decode cX5_closestPair 11 = .ok (.iconst 1, 1) := dk_4 (dk_at dksX5_closestPair_0 11 rfl rfl)
theorem dX5_closestPair_12 : decode cX5_closestPair 12 = .ok (.goto 4, 3) := dk_167 0 4 (dk_at dksX5_closestPair_0 12 rfl rfl)
theorem dX5_closestPair_15 : decode cX5_closestPair 15 = .ok (.iconst 0, 1) := dk_3 (dk_at dksX5_closestPair_0 15 rfl rfl)
theorem dX5_closestPair_16 : decode cX5_closestPair 16 = .ok (.invokevirtual 87, 3) := dk_182 0 87 (dk_at dksX5_closestPair_0 16 rfl rfl)
theorem dX5_closestPair_19 : decode cX5_closestPair 19 = .ok (.ifCond .ne 5, 3) := dk_154 0 5 (dk_at dksX5_closestPair_0 19 rfl rfl)
theorem dX5_closestPair_22 : decode cX5_closestPair 22 = .ok (.iconst 0, 1) := dk_3 (dk_at dksX5_closestPair_0 22 rfl rfl)
theorem dX5_closestPair_23 : decode cX5_closestPair 23 = .ok (.ireturn, 1) := dk_172 (dk_at dksX5_closestPair_0 23 rfl rfl)
theorem dX5_closestPair_24 : decode cX5_closestPair 24 = .ok (.aload_n 0, 1) := dk_42 (dk_at dksX5_closestPair_1 0 rfl rfl)
theorem dX5_closestPair_25 : decode cX5_closestPair 25 = .ok (.invokevirtual 398, 3) := dk_182 1 142 (dk_at dksX5_closestPair_1 1 rfl rfl)
theorem dX5_closestPair_28 : decode cX5_closestPair 28 = .ok (.iconst 0, 1) := dk_3 (dk_at dksX5_closestPair_1 4 rfl rfl)
theorem dX5_closestPair_29 : decode cX5_closestPair 29 = .ok (.istore_n 1, 1) := dk_60 (dk_at dksX5_closestPair_1 5 rfl rfl)
theorem dX5_closestPair_30 : decode cX5_closestPair 30 = .ok (.iconst (-1), 1) := dk_2 (dk_at dksX5_closestPair_1 6 rfl rfl)
theorem dX5_closestPair_31 : decode cX5_closestPair 31 = .ok (.istore_n 2, 1) := dk_61 (dk_at dksX5_closestPair_1 7 rfl rfl)
theorem dX5_closestPair_32 : decode cX5_closestPair 32 = .ok (.iconst 0, 1) := dk_3 (dk_at dksX5_closestPair_1 8 rfl rfl)
theorem dX5_closestPair_33 : decode cX5_closestPair 33 = .ok (.istore_n 3, 1) := dk_62 (dk_at dksX5_closestPair_1 9 rfl rfl)
theorem dX5_closestPair_34 : decode cX5_closestPair 34 = .ok (.iload_n 3, 1) := dk_29 (dk_at dksX5_closestPair_1 10 rfl rfl)
theorem dX5_closestPair_35 : decode cX5_closestPair 35 = .ok (.aload_n 0, 1) := dk_42 (dk_at dksX5_closestPair_1 11 rfl rfl)
theorem dX5_closestPair_36 : decode cX5_closestPair 36 = .ok (.getfield 7, 3) := dk_180 0 7 (dk_at dksX5_closestPair_1 12 rfl rfl)
theorem dX5_closestPair_39 : decode cX5_closestPair 39 = .ok (.iconst 0, 1) := dk_3 (dk_at dksX5_closestPair_1 15 rfl rfl)
theorem dX5_closestPair_40 : decode cX5_closestPair 40 = .ok (.iaload, 1) := dk_46 (dk_at dksX5_closestPair_1 16 rfl rfl)
theorem dX5_closestPair_41 : decode cX5_closestPair 41 = .ok (.if_icmp .ge 82, 3) := dk_162 0 82 (dk_at dksX5_closestPair_1 17 rfl rfl)
theorem dX5_closestPair_44 : decode cX5_closestPair 44 = .ok (.iload_n 3, 1) := dk_29 (dk_at dksX5_closestPair_1 20 rfl rfl)
theorem dX5_closestPair_45 : decode cX5_closestPair 45 = .ok (.iconst 1, 1) := dk_4 (dk_at dksX5_closestPair_1 21 rfl rfl)
theorem dX5_closestPair_46 : decode cX5_closestPair 46 = .ok (.iadd, 1) := dk_96 (dk_at dksX5_closestPair_1 22 rfl rfl)
theorem dX5_closestPair_47 : decode cX5_closestPair 47 = .ok (.istore 4, 2) := dk_54 4 (dk_at dksX5_closestPair_2 0 rfl rfl)
theorem dX5_closestPair_49 : decode cX5_closestPair 49 = .ok (.iload 4, 2) := dk_21 4 (dk_at dksX5_closestPair_2 2 rfl rfl)
theorem dX5_closestPair_51 : decode cX5_closestPair 51 = .ok (.aload_n 0, 1) := dk_42 (dk_at dksX5_closestPair_2 4 rfl rfl)
theorem dX5_closestPair_52 : decode cX5_closestPair 52 = .ok (.getfield 7, 3) := dk_180 0 7 (dk_at dksX5_closestPair_2 5 rfl rfl)
theorem dX5_closestPair_55 : decode cX5_closestPair 55 = .ok (.iconst 0, 1) := dk_3 (dk_at dksX5_closestPair_2 8 rfl rfl)
theorem dX5_closestPair_56 : decode cX5_closestPair 56 = .ok (.iaload, 1) := dk_46 (dk_at dksX5_closestPair_2 9 rfl rfl)
theorem dX5_closestPair_57 : decode cX5_closestPair 57 = .ok (.if_icmp .ge 60, 3) := dk_162 0 60 (dk_at dksX5_closestPair_2 10 rfl rfl)
theorem dX5_closestPair_60 : decode cX5_closestPair 60 = .ok (.aload_n 0, 1) := dk_42 (dk_at dksX5_closestPair_2 13 rfl rfl)
theorem dX5_closestPair_61 : decode cX5_closestPair 61 = .ok (.iconst 1, 1) := dk_4 (dk_at dksX5_closestPair_2 14 rfl rfl)
theorem dX5_closestPair_62 : decode cX5_closestPair 62 = .ok (.iload_n 3, 1) := dk_29 (dk_at dksX5_closestPair_2 15 rfl rfl)
theorem dX5_closestPair_63 : decode cX5_closestPair 63 = .ok (.ishl, 1) := dk_120 (dk_at dksX5_closestPair_2 16 rfl rfl)
theorem dX5_closestPair_64 : decode cX5_closestPair 64 = .ok (.invokevirtual 401, 3) := dk_182 1 145 (dk_at dksX5_closestPair_2 17 rfl rfl)
theorem dX5_closestPair_67 : decode cX5_closestPair 67 = .ok (.aload_n 0, 1) := dk_42 (dk_at dksX5_closestPair_2 20 rfl rfl)
theorem dX5_closestPair_68 : decode cX5_closestPair 68 = .ok (.iconst 1, 1) := dk_4 (dk_at dksX5_closestPair_2 21 rfl rfl)
theorem dX5_closestPair_69 : decode cX5_closestPair 69 = .ok (.iload 4, 2) := dk_21 4 (dk_at dksX5_closestPair_2 22 rfl rfl)
theorem dX5_closestPair_71 : decode cX5_closestPair 71 = .ok (.ishl, 1) := dk_120 (dk_at dksX5_closestPair_3 0 rfl rfl)
theorem dX5_closestPair_72 : decode cX5_closestPair 72 = .ok (.invokevirtual 401, 3) := dk_182 1 145 (dk_at dksX5_closestPair_3 1 rfl rfl)
theorem dX5_closestPair_75 : decode cX5_closestPair 75 = .ok (.iadd, 1) := dk_96 (dk_at dksX5_closestPair_3 4 rfl rfl)
theorem dX5_closestPair_76 : decode cX5_closestPair 76 = .ok (.aload_n 0, 1) := dk_42 (dk_at dksX5_closestPair_3 5 rfl rfl)
theorem dX5_closestPair_77 : decode cX5_closestPair 77 = .ok (.iconst 1, 1) := dk_4 (dk_at dksX5_closestPair_3 6 rfl rfl)
theorem dX5_closestPair_78 : decode cX5_closestPair 78 = .ok (.iload_n 3, 1) := dk_29 (dk_at dksX5_closestPair_3 7 rfl rfl)
theorem dX5_closestPair_79 : decode cX5_closestPair 79 = .ok (.ishl, 1) := dk_120 (dk_at dksX5_closestPair_3 8 rfl rfl)
theorem dX5_closestPair_80 : decode cX5_closestPair 80 = .ok (.iconst 1, 1) := dk_4 (dk_at dksX5_closestPair_3 9 rfl rfl)
theorem dX5_closestPair_81 : decode cX5_closestPair 81 = .ok (.iload 4, 2) := dk_21 4 (dk_at dksX5_closestPair_3 10 rfl rfl)
theorem dX5_closestPair_83 : decode cX5_closestPair 83 = .ok (.ishl, 1) := dk_120 (dk_at dksX5_closestPair_3 12 rfl rfl)
theorem dX5_closestPair_84 : decode cX5_closestPair 84 = .ok (.ior, 1) := dk_128 (dk_at dksX5_closestPair_3 13 rfl rfl)
theorem dX5_closestPair_85 : decode cX5_closestPair 85 = .ok (.invokevirtual 401, 3) := dk_182 1 145 (dk_at dksX5_closestPair_3 14 rfl rfl)
theorem dX5_closestPair_88 : decode cX5_closestPair 88 = .ok (.isub, 1) := dk_100 (dk_at dksX5_closestPair_3 17 rfl rfl)
theorem dX5_closestPair_89 : decode cX5_closestPair 89 = .ok (.istore 5, 2) := dk_54 5 (dk_at dksX5_closestPair_3 18 rfl rfl)
theorem dX5_closestPair_91 : decode cX5_closestPair 91 = .ok (.iload 5, 2) := dk_21 5 (dk_at dksX5_closestPair_3 20 rfl rfl)
theorem dX5_closestPair_93 : decode cX5_closestPair 93 = .ok (.iload_n 2, 1) := dk_28 (dk_at dksX5_closestPair_3 22 rfl rfl)
theorem dX5_closestPair_94 : decode cX5_closestPair 94 = .ok (.if_icmp .gt 6, 3) := dk_163 0 6 (dk_at dksX5_closestPair_4 0 rfl rfl)
theorem dX5_closestPair_97 : decode cX5_closestPair 97 = .ok (.goto 14, 3) := dk_167 0 14 (dk_at dksX5_closestPair_4 3 rfl rfl)
theorem dX5_closestPair_100 : decode cX5_closestPair 100 = .ok (.bipush 8, 2) := dk_16 8 (dk_at dksX5_closestPair_4 6 rfl rfl)
theorem dX5_closestPair_102 : decode cX5_closestPair 102 = .ok (.iload_n 3, 1) := dk_29 (dk_at dksX5_closestPair_4 8 rfl rfl)
theorem dX5_closestPair_103 : decode cX5_closestPair 103 = .ok (.imul, 1) := dk_104 (dk_at dksX5_closestPair_4 9 rfl rfl)
theorem dX5_closestPair_104 : decode cX5_closestPair 104 = .ok (.iload 4, 2) := dk_21 4 (dk_at dksX5_closestPair_4 10 rfl rfl)
theorem dX5_closestPair_106 : decode cX5_closestPair 106 = .ok (.iadd, 1) := dk_96 (dk_at dksX5_closestPair_4 12 rfl rfl)
theorem dX5_closestPair_107 : decode cX5_closestPair 107 = .ok (.istore_n 1, 1) := dk_60 (dk_at dksX5_closestPair_4 13 rfl rfl)
theorem dX5_closestPair_108 : decode cX5_closestPair 108 = .ok (.iload 5, 2) := dk_21 5 (dk_at dksX5_closestPair_4 14 rfl rfl)
theorem dX5_closestPair_110 : decode cX5_closestPair 110 = .ok (.istore_n 2, 1) := dk_61 (dk_at dksX5_closestPair_4 16 rfl rfl)
theorem dX5_closestPair_111 : decode cX5_closestPair 111 = .ok (.iinc 4 1, 3) := dk_132 4 1 (dk_at dksX5_closestPair_4 17 rfl rfl)
theorem dX5_closestPair_114 : decode cX5_closestPair 114 = .ok (.goto (-65), 3) := dk_167 255 191 (dk_at dksX5_closestPair_4 20 rfl rfl)
theorem dX5_closestPair_117 : decode cX5_closestPair 117 = .ok (.iinc 3 1, 3) := dk_132 3 1 (dk_at dksX5_closestPair_5 0 rfl rfl)
theorem dX5_closestPair_120 : decode cX5_closestPair 120 = .ok (.goto (-86), 3) := dk_167 255 170 (dk_at dksX5_closestPair_5 3 rfl rfl)
theorem dX5_closestPair_123 : decode cX5_closestPair 123 = .ok (.iload_n 1, 1) := dk_27 (dk_at dksX5_closestPair_5 6 rfl rfl)
theorem dX5_closestPair_124 : decode cX5_closestPair 124 = .ok (.ireturn, 1) := dk_172 (dk_at dksX5_closestPair_5 7 rfl rfl)
abbrev cX5_spread : ByteArray := prog_16_method_111_code
def yX5_spread : MethodName := ⟨RX5, "spread", "()I"⟩
def dkwX5_spread_0 : List UInt8 := [42, 3, 181, 0, 80, 42, 182, 1, 148, 172]
abbrev dktX5_spread_0 : List UInt8 := dkwX5_spread_0 ++ []
theorem dksX5_spread_0 : cX5_spread.data.toList.drop 0 = dktX5_spread_0 := by decide +kernel
theorem dX5_spread_0 : decode cX5_spread 0 = .ok (.aload_n 0, 1) := dk_42 (dk_at dksX5_spread_0 0 rfl rfl)
theorem dX5_spread_1 : decode cX5_spread 1 = .ok (.iconst 0, 1) := dk_3 (dk_at dksX5_spread_0 1 rfl rfl)
theorem dX5_spread_2 : decode cX5_spread 2 = .ok (.putfield 80, 3) := dk_181 0 80 (dk_at dksX5_spread_0 2 rfl rfl)
theorem dX5_spread_5 : decode cX5_spread 5 = .ok (.aload_n 0, 1) := dk_42 (dk_at dksX5_spread_0 5 rfl rfl)
theorem dX5_spread_6 : decode cX5_spread 6 = .ok (.invokevirtual 404, 3) := dk_182 1 148 (dk_at dksX5_spread_0 6 rfl rfl)
theorem dX5_spread_9 : decode cX5_spread 9 = .ok (.ireturn, 1) := dk_172 (dk_at dksX5_spread_0 9 rfl rfl)
abbrev cX5_spreadOf : ByteArray := prog_16_method_110_code
def yX5_spreadOf : MethodName := ⟨RX5, "spreadOf", "()I"⟩
def dkwX5_spreadOf_1 : List UInt8 := [27, 4, 96, 60, 132, 2, 1, 167, 255, 229, 42, 180, 0, 7, 3, 46, 27, 184, 1, 139, 100, 172]
abbrev dktX5_spreadOf_1 : List UInt8 := dkwX5_spreadOf_1 ++ []
def dkwX5_spreadOf_0 : List UInt8 := [3, 60, 3, 61, 28, 42, 182, 0, 169, 162, 0, 25, 42, 28, 182, 0, 172, 42, 180, 0, 99, 154, 0, 7]
abbrev dktX5_spreadOf_0 : List UInt8 := dkwX5_spreadOf_0 ++ dktX5_spreadOf_1
theorem dksX5_spreadOf_0 : cX5_spreadOf.data.toList.drop 0 = dktX5_spreadOf_0 := by decide +kernel
theorem dksX5_spreadOf_1 : cX5_spreadOf.data.toList.drop 24 = dktX5_spreadOf_1 := dk_seg dksX5_spreadOf_0 24 rfl rfl
theorem dX5_spreadOf_0 : decode cX5_spreadOf 0 = .ok (.iconst 0, 1) := dk_3 (dk_at dksX5_spreadOf_0 0 rfl rfl)
theorem dX5_spreadOf_1 : decode cX5_spreadOf 1 = .ok (.istore_n 1, 1) := dk_60 (dk_at dksX5_spreadOf_0 1 rfl rfl)
theorem dX5_spreadOf_2 : decode cX5_spreadOf 2 = .ok (.iconst 0, 1) := dk_3 (dk_at dksX5_spreadOf_0 2 rfl rfl)
theorem dX5_spreadOf_3 : decode cX5_spreadOf 3 = .ok (.istore_n 2, 1) := dk_61 (dk_at dksX5_spreadOf_0 3 rfl rfl)
theorem dX5_spreadOf_4 : decode cX5_spreadOf 4 = .ok (.iload_n 2, 1) := dk_28 (dk_at dksX5_spreadOf_0 4 rfl rfl)
theorem dX5_spreadOf_5 : decode cX5_spreadOf 5 = .ok (.aload_n 0, 1) := dk_42 (dk_at dksX5_spreadOf_0 5 rfl rfl)
theorem dX5_spreadOf_6 : decode cX5_spreadOf 6 = .ok (.invokevirtual 169, 3) := dk_182 0 169 (dk_at dksX5_spreadOf_0 6 rfl rfl)
theorem dX5_spreadOf_9 : decode cX5_spreadOf 9 = .ok (.if_icmp .ge 25, 3) := dk_162 0 25 (dk_at dksX5_spreadOf_0 9 rfl rfl)
theorem dX5_spreadOf_12 : decode cX5_spreadOf 12 = .ok (.aload_n 0, 1) := dk_42 (dk_at dksX5_spreadOf_0 12 rfl rfl)
theorem dX5_spreadOf_13 : decode cX5_spreadOf 13 = .ok (.iload_n 2, 1) := dk_28 (dk_at dksX5_spreadOf_0 13 rfl rfl)
theorem dX5_spreadOf_14 : decode cX5_spreadOf 14 = .ok (.invokevirtual 172, 3) := dk_182 0 172 (dk_at dksX5_spreadOf_0 14 rfl rfl)
theorem dX5_spreadOf_17 : decode cX5_spreadOf 17 = .ok (.aload_n 0, 1) := dk_42 (dk_at dksX5_spreadOf_0 17 rfl rfl)
theorem dX5_spreadOf_18 : decode cX5_spreadOf 18 = .ok (.getfield 99, 3) := dk_180 0 99 (dk_at dksX5_spreadOf_0 18 rfl rfl)
theorem dX5_spreadOf_21 : decode cX5_spreadOf 21 = .ok (.ifCond .ne 7, 3) := dk_154 0 7 (dk_at dksX5_spreadOf_0 21 rfl rfl)
theorem dX5_spreadOf_24 : decode cX5_spreadOf 24 = .ok (.iload_n 1, 1) := dk_27 (dk_at dksX5_spreadOf_1 0 rfl rfl)
theorem dX5_spreadOf_25 : decode cX5_spreadOf 25 = .ok (.iconst 1, 1) := dk_4 (dk_at dksX5_spreadOf_1 1 rfl rfl)
theorem dX5_spreadOf_26 : decode cX5_spreadOf 26 = .ok (.iadd, 1) := dk_96 (dk_at dksX5_spreadOf_1 2 rfl rfl)
theorem dX5_spreadOf_27 : decode cX5_spreadOf 27 = .ok (.istore_n 1, 1) := dk_60 (dk_at dksX5_spreadOf_1 3 rfl rfl)
theorem dX5_spreadOf_28 : decode cX5_spreadOf 28 = .ok (.iinc 2 1, 3) := dk_132 2 1 (dk_at dksX5_spreadOf_1 4 rfl rfl)
theorem dX5_spreadOf_31 : decode cX5_spreadOf 31 = .ok (.goto (-27), 3) := dk_167 255 229 (dk_at dksX5_spreadOf_1 7 rfl rfl)
theorem dX5_spreadOf_34 : decode cX5_spreadOf 34 = .ok (.aload_n 0, 1) := dk_42 (dk_at dksX5_spreadOf_1 10 rfl rfl)
theorem dX5_spreadOf_35 : decode cX5_spreadOf 35 = .ok (.getfield 7, 3) := dk_180 0 7 (dk_at dksX5_spreadOf_1 11 rfl rfl)
theorem dX5_spreadOf_38 : decode cX5_spreadOf 38 = .ok (.iconst 0, 1) := dk_3 (dk_at dksX5_spreadOf_1 14 rfl rfl)
theorem dX5_spreadOf_39 : decode cX5_spreadOf 39 = .ok (.iaload, 1) := dk_46 (dk_at dksX5_spreadOf_1 15 rfl rfl)
theorem dX5_spreadOf_40 : decode cX5_spreadOf 40 = .ok (.iload_n 1, 1) := dk_27 (dk_at dksX5_spreadOf_1 16 rfl rfl)
theorem dX5_spreadOf_41 : decode cX5_spreadOf 41 = .ok (.invokestatic 395, 3) := dk_184 1 139 (dk_at dksX5_spreadOf_1 17 rfl rfl)
theorem dX5_spreadOf_44 : decode cX5_spreadOf 44 = .ok (.isub, 1) := dk_100 (dk_at dksX5_spreadOf_1 20 rfl rfl)
theorem dX5_spreadOf_45 : decode cX5_spreadOf 45 = .ok (.ireturn, 1) := dk_172 (dk_at dksX5_spreadOf_1 21 rfl rfl)
abbrev cX5_probability : ByteArray := prog_16_method_113_code
def yX5_probability : MethodName := ⟨RX5, "probability", "(I)D"⟩
def dkwX5_probability_1 : List UInt8 := [182, 1, 148, 120, 135, 111, 167, 0, 4, 14, 175]
abbrev dktX5_probability_1 : List UInt8 := dkwX5_probability_1 ++ []
def dkwX5_probability_0 : List UInt8 := [42, 42, 27, 182, 1, 112, 182, 0, 87, 153, 0, 23, 42, 27, 182, 1, 151, 153, 0, 15, 15, 4, 42]
abbrev dktX5_probability_0 : List UInt8 := dkwX5_probability_0 ++ dktX5_probability_1
theorem dksX5_probability_0 : cX5_probability.data.toList.drop 0 = dktX5_probability_0 := by decide +kernel
theorem dksX5_probability_1 : cX5_probability.data.toList.drop 23 = dktX5_probability_1 := dk_seg dksX5_probability_0 23 rfl rfl
theorem dX5_probability_0 : decode cX5_probability 0 = .ok (.aload_n 0, 1) := dk_42 (dk_at dksX5_probability_0 0 rfl rfl)
theorem dX5_probability_1 : decode cX5_probability 1 = .ok (.aload_n 0, 1) := dk_42 (dk_at dksX5_probability_0 1 rfl rfl)
theorem dX5_probability_2 : decode cX5_probability 2 = .ok (.iload_n 1, 1) := dk_27 (dk_at dksX5_probability_0 2 rfl rfl)
theorem dX5_probability_3 : decode cX5_probability 3 = .ok (.invokevirtual 368, 3) := dk_182 1 112 (dk_at dksX5_probability_0 3 rfl rfl)
theorem dX5_probability_6 : decode cX5_probability 6 = .ok (.invokevirtual 87, 3) := dk_182 0 87 (dk_at dksX5_probability_0 6 rfl rfl)
theorem dX5_probability_9 : decode cX5_probability 9 = .ok (.ifCond .eq 23, 3) := dk_153 0 23 (dk_at dksX5_probability_0 9 rfl rfl)
theorem dX5_probability_12 : decode cX5_probability 12 = .ok (.aload_n 0, 1) := dk_42 (dk_at dksX5_probability_0 12 rfl rfl)
theorem dX5_probability_13 : decode cX5_probability 13 = .ok (.iload_n 1, 1) := dk_27 (dk_at dksX5_probability_0 13 rfl rfl)
theorem dX5_probability_14 : decode cX5_probability 14 = .ok (.invokevirtual 407, 3) := dk_182 1 151 (dk_at dksX5_probability_0 14 rfl rfl)
theorem dX5_probability_17 : decode cX5_probability 17 = .ok (.ifCond .eq 15, 3) := dk_153 0 15 (dk_at dksX5_probability_0 17 rfl rfl)
theorem dX5_probability_20 : decode cX5_probability 20 = .ok (.dconst 1, 1) := dk_15 (dk_at dksX5_probability_0 20 rfl rfl)
theorem dX5_probability_21 : decode cX5_probability 21 = .ok (.iconst 1, 1) := dk_4 (dk_at dksX5_probability_0 21 rfl rfl)
theorem dX5_probability_22 : decode cX5_probability 22 = .ok (.aload_n 0, 1) := dk_42 (dk_at dksX5_probability_0 22 rfl rfl)
theorem dX5_probability_23 : decode cX5_probability 23 = .ok (.invokevirtual 404, 3) := dk_182 1 148 (dk_at dksX5_probability_1 0 rfl rfl)
theorem dX5_probability_26 : decode cX5_probability 26 = .ok (.ishl, 1) := dk_120 (dk_at dksX5_probability_1 3 rfl rfl)
theorem dX5_probability_27 : decode cX5_probability 27 = .ok (.i2d, 1) := dk_135 (dk_at dksX5_probability_1 4 rfl rfl)
theorem dX5_probability_28 : decode cX5_probability 28 = .ok (.ddiv, 1) := dk_111 (dk_at dksX5_probability_1 5 rfl rfl)
theorem dX5_probability_29 : decode cX5_probability 29 = .ok (.goto 4, 3) := dk_167 0 4 (dk_at dksX5_probability_1 6 rfl rfl)
theorem dX5_probability_32 : decode cX5_probability 32 = .ok (.dconst 0, 1) := dk_14 (dk_at dksX5_probability_1 9 rfl rfl)
theorem dX5_probability_33 : decode cX5_probability 33 = .ok (.dreturn, 1) := dk_175 (dk_at dksX5_probability_1 10 rfl rfl)
abbrev cX5_isPossible : ByteArray := prog_16_method_112_code
def yX5_isPossible : MethodName := ⟨RX5, "isPossible", "(I)Z"⟩
def dkwX5_isPossible_2 : List UInt8 := [167, 255, 213, 4, 172]
abbrev dktX5_isPossible_2 : List UInt8 := dkwX5_isPossible_2 ++ []
def dkwX5_isPossible_1 : List UInt8 := [180, 0, 102, 27, 126, 184, 1, 118, 5, 112, 42, 180, 0, 105, 159, 0, 5, 3, 172, 132, 2, 1]
abbrev dktX5_isPossible_1 : List UInt8 := dkwX5_isPossible_1 ++ dktX5_isPossible_2
def dkwX5_isPossible_0 : List UInt8 := [3, 61, 28, 42, 182, 0, 169, 162, 0, 41, 42, 28, 182, 0, 172, 42, 180, 0, 99, 154, 0, 23, 42]
abbrev dktX5_isPossible_0 : List UInt8 := dkwX5_isPossible_0 ++ dktX5_isPossible_1
theorem dksX5_isPossible_0 : cX5_isPossible.data.toList.drop 0 = dktX5_isPossible_0 := by decide +kernel
theorem dksX5_isPossible_1 : cX5_isPossible.data.toList.drop 23 = dktX5_isPossible_1 := dk_seg dksX5_isPossible_0 23 rfl rfl
theorem dksX5_isPossible_2 : cX5_isPossible.data.toList.drop 45 = dktX5_isPossible_2 := dk_seg dksX5_isPossible_1 22 rfl rfl
theorem dX5_isPossible_0 : decode cX5_isPossible 0 = .ok (.iconst 0, 1) := dk_3 (dk_at dksX5_isPossible_0 0 rfl rfl)
theorem dX5_isPossible_1 : decode cX5_isPossible 1 = .ok (.istore_n 2, 1) := dk_61 (dk_at dksX5_isPossible_0 1 rfl rfl)
theorem dX5_isPossible_2 : decode cX5_isPossible 2 = .ok (.iload_n 2, 1) := dk_28 (dk_at dksX5_isPossible_0 2 rfl rfl)
theorem dX5_isPossible_3 : decode cX5_isPossible 3 = .ok (.aload_n 0, 1) := dk_42 (dk_at dksX5_isPossible_0 3 rfl rfl)
theorem dX5_isPossible_4 : decode cX5_isPossible 4 = .ok (.invokevirtual 169, 3) := dk_182 0 169 (dk_at dksX5_isPossible_0 4 rfl rfl)
theorem dX5_isPossible_7 : decode cX5_isPossible 7 = .ok (.if_icmp .ge 41, 3) := dk_162 0 41 (dk_at dksX5_isPossible_0 7 rfl rfl)
theorem dX5_isPossible_10 : decode cX5_isPossible 10 = .ok (.aload_n 0, 1) := dk_42 (dk_at dksX5_isPossible_0 10 rfl rfl)
theorem dX5_isPossible_11 : decode cX5_isPossible 11 = .ok (.iload_n 2, 1) := dk_28 (dk_at dksX5_isPossible_0 11 rfl rfl)
theorem dX5_isPossible_12 : decode cX5_isPossible 12 = .ok (.invokevirtual 172, 3) := dk_182 0 172 (dk_at dksX5_isPossible_0 12 rfl rfl)
theorem dX5_isPossible_15 : decode cX5_isPossible 15 = .ok (.aload_n 0, 1) := dk_42 (dk_at dksX5_isPossible_0 15 rfl rfl)
theorem dX5_isPossible_16 : decode cX5_isPossible 16 = .ok (.getfield 99, 3) := dk_180 0 99 (dk_at dksX5_isPossible_0 16 rfl rfl)
theorem dX5_isPossible_19 : decode cX5_isPossible 19 = .ok (.ifCond .ne 23, 3) := dk_154 0 23 (dk_at dksX5_isPossible_0 19 rfl rfl)
theorem dX5_isPossible_22 : decode cX5_isPossible 22 = .ok (.aload_n 0, 1) := dk_42 (dk_at dksX5_isPossible_0 22 rfl rfl)
theorem dX5_isPossible_23 : decode cX5_isPossible 23 = .ok (.getfield 102, 3) := dk_180 0 102 (dk_at dksX5_isPossible_1 0 rfl rfl)
theorem dX5_isPossible_26 : decode cX5_isPossible 26 = .ok (.iload_n 1, 1) := dk_27 (dk_at dksX5_isPossible_1 3 rfl rfl)
theorem dX5_isPossible_27 : decode cX5_isPossible 27 = .ok (.iand, 1) := dk_126 (dk_at dksX5_isPossible_1 4 rfl rfl)
theorem dX5_isPossible_28 : decode cX5_isPossible 28 = .ok (.invokestatic 374, 3) := dk_184 1 118 (dk_at dksX5_isPossible_1 5 rfl rfl)
theorem dX5_isPossible_31 : decode cX5_isPossible 31 = .ok (.iconst 2, 1) := dk_5 (dk_at dksX5_isPossible_1 8 rfl rfl)
theorem dX5_isPossible_32 : decode cX5_isPossible 32 = .ok (.irem, 1) := dk_112 (dk_at dksX5_isPossible_1 9 rfl rfl)
theorem dX5_isPossible_33 : decode cX5_isPossible 33 = .ok (.aload_n 0, 1) := dk_42 (dk_at dksX5_isPossible_1 10 rfl rfl)
theorem dX5_isPossible_34 : decode cX5_isPossible 34 = .ok (.getfield 105, 3) := dk_180 0 105 (dk_at dksX5_isPossible_1 11 rfl rfl)
theorem dX5_isPossible_37 : decode cX5_isPossible 37 = .ok (.if_icmp .eq 5, 3) := dk_159 0 5 (dk_at dksX5_isPossible_1 14 rfl rfl)
theorem dX5_isPossible_40 : decode cX5_isPossible 40 = .ok (.iconst 0, 1) := dk_3 (dk_at dksX5_isPossible_1 17 rfl rfl)
theorem dX5_isPossible_41 : decode cX5_isPossible 41 = .ok (.ireturn, 1) := dk_172 (dk_at dksX5_isPossible_1 18 rfl rfl)
theorem dX5_isPossible_42 : decode cX5_isPossible 42 = .ok (.iinc 2 1, 3) := dk_132 2 1 (dk_at dksX5_isPossible_1 19 rfl rfl)
theorem dX5_isPossible_45 : decode cX5_isPossible 45 = .ok (.goto (-43), 3) := dk_167 255 213 (dk_at dksX5_isPossible_2 0 rfl rfl)
theorem dX5_isPossible_48 : decode cX5_isPossible 48 = .ok (.iconst 1, 1) := dk_4 (dk_at dksX5_isPossible_2 3 rfl rfl)
theorem dX5_isPossible_49 : decode cX5_isPossible 49 = .ok (.ireturn, 1) := dk_172 (dk_at dksX5_isPossible_2 4 rfl rfl)
abbrev cX5_possible : ByteArray := prog_16_method_114_code
def yX5_possible : MethodName := ⟨RX5, "possible", "(I)I"⟩
def dkwX5_possible_2 : List UInt8 := [167, 255, 220, 2, 172]
abbrev dktX5_possible_2 : List UInt8 := dkwX5_possible_2 ++ []
def dkwX5_possible_1 : List UInt8 := [182, 1, 151, 154, 0, 6, 167, 0, 13, 28, 154, 0, 5, 29, 172, 28, 4, 100, 61, 132, 3, 1]
abbrev dktX5_possible_1 : List UInt8 := dkwX5_possible_1 ++ dktX5_possible_2
def dkwX5_possible_0 : List UInt8 := [42, 3, 181, 0, 80, 27, 61, 3, 62, 29, 42, 182, 0, 169, 162, 0, 34, 28, 155, 0, 30, 42, 29]
abbrev dktX5_possible_0 : List UInt8 := dkwX5_possible_0 ++ dktX5_possible_1
theorem dksX5_possible_0 : cX5_possible.data.toList.drop 0 = dktX5_possible_0 := by decide +kernel
theorem dksX5_possible_1 : cX5_possible.data.toList.drop 23 = dktX5_possible_1 := dk_seg dksX5_possible_0 23 rfl rfl
theorem dksX5_possible_2 : cX5_possible.data.toList.drop 45 = dktX5_possible_2 := dk_seg dksX5_possible_1 22 rfl rfl
theorem dX5_possible_0 : decode cX5_possible 0 = .ok (.aload_n 0, 1) := dk_42 (dk_at dksX5_possible_0 0 rfl rfl)
theorem dX5_possible_1 : decode cX5_possible 1 = .ok (.iconst 0, 1) := dk_3 (dk_at dksX5_possible_0 1 rfl rfl)
theorem dX5_possible_2 : decode cX5_possible 2 = .ok (.putfield 80, 3) := dk_181 0 80 (dk_at dksX5_possible_0 2 rfl rfl)
theorem dX5_possible_5 : decode cX5_possible 5 = .ok (.iload_n 1, 1) := dk_27 (dk_at dksX5_possible_0 5 rfl rfl)
theorem dX5_possible_6 : decode cX5_possible 6 = .ok (.istore_n 2, 1) := dk_61 (dk_at dksX5_possible_0 6 rfl rfl)
theorem dX5_possible_7 : decode cX5_possible 7 = .ok (.iconst 0, 1) := dk_3 (dk_at dksX5_possible_0 7 rfl rfl)
theorem dX5_possible_8 : decode cX5_possible 8 = .ok (.istore_n 3, 1) := dk_62 (dk_at dksX5_possible_0 8 rfl rfl)
theorem dX5_possible_9 : decode cX5_possible 9 = .ok (.iload_n 3, 1) := dk_29 (dk_at dksX5_possible_0 9 rfl rfl)
theorem dX5_possible_10 : decode cX5_possible 10 = .ok (.aload_n 0, 1) := dk_42 (dk_at dksX5_possible_0 10 rfl rfl)
theorem dX5_possible_11 : decode cX5_possible 11 = .ok (.invokevirtual 169, 3) := dk_182 0 169 (dk_at dksX5_possible_0 11 rfl rfl)
theorem dX5_possible_14 : decode cX5_possible 14 = .ok (.if_icmp .ge 34, 3) := dk_162 0 34 (dk_at dksX5_possible_0 14 rfl rfl)
theorem dX5_possible_17 : decode cX5_possible 17 = .ok (.iload_n 2, 1) := dk_28 (dk_at dksX5_possible_0 17 rfl rfl)
theorem dX5_possible_18 : decode cX5_possible 18 = .ok (.ifCond .lt 30, 3) := dk_155 0 30 (dk_at dksX5_possible_0 18 rfl rfl)
theorem dX5_possible_21 : decode cX5_possible 21 = .ok (.aload_n 0, 1) := dk_42 (dk_at dksX5_possible_0 21 rfl rfl)
theorem dX5_possible_22 : decode cX5_possible 22 = .ok (.iload_n 3, 1) := dk_29 (dk_at dksX5_possible_0 22 rfl rfl)
theorem dX5_possible_23 : decode cX5_possible 23 = .ok (.invokevirtual 407, 3) := dk_182 1 151 (dk_at dksX5_possible_1 0 rfl rfl)
theorem dX5_possible_26 : decode cX5_possible 26 = .ok (.ifCond .ne 6, 3) := dk_154 0 6 (dk_at dksX5_possible_1 3 rfl rfl)
theorem dX5_possible_29 : decode cX5_possible 29 = .ok (.goto 13, 3) := dk_167 0 13 (dk_at dksX5_possible_1 6 rfl rfl)
theorem dX5_possible_32 : decode cX5_possible 32 = .ok (.iload_n 2, 1) := dk_28 (dk_at dksX5_possible_1 9 rfl rfl)
theorem dX5_possible_33 : decode cX5_possible 33 = .ok (.ifCond .ne 5, 3) := dk_154 0 5 (dk_at dksX5_possible_1 10 rfl rfl)
theorem dX5_possible_36 : decode cX5_possible 36 = .ok (.iload_n 3, 1) := dk_29 (dk_at dksX5_possible_1 13 rfl rfl)
theorem dX5_possible_37 : decode cX5_possible 37 = .ok (.ireturn, 1) := dk_172 (dk_at dksX5_possible_1 14 rfl rfl)
theorem dX5_possible_38 : decode cX5_possible 38 = .ok (.iload_n 2, 1) := dk_28 (dk_at dksX5_possible_1 15 rfl rfl)
theorem dX5_possible_39 : decode cX5_possible 39 = .ok (.iconst 1, 1) := dk_4 (dk_at dksX5_possible_1 16 rfl rfl)
theorem dX5_possible_40 : decode cX5_possible 40 = .ok (.isub, 1) := dk_100 (dk_at dksX5_possible_1 17 rfl rfl)
theorem dX5_possible_41 : decode cX5_possible 41 = .ok (.istore_n 2, 1) := dk_61 (dk_at dksX5_possible_1 18 rfl rfl)
theorem dX5_possible_42 : decode cX5_possible 42 = .ok (.iinc 3 1, 3) := dk_132 3 1 (dk_at dksX5_possible_1 19 rfl rfl)
theorem dX5_possible_45 : decode cX5_possible 45 = .ok (.goto (-36), 3) := dk_167 255 220 (dk_at dksX5_possible_2 0 rfl rfl)
theorem dX5_possible_48 : decode cX5_possible 48 = .ok (.iconst (-1), 1) := dk_2 (dk_at dksX5_possible_2 3 rfl rfl)
theorem dX5_possible_49 : decode cX5_possible 49 = .ok (.ireturn, 1) := dk_172 (dk_at dksX5_possible_2 4 rfl rfl)
abbrev cX5_keep : ByteArray := prog_16_method_116_code
def yX5_keep : MethodName := ⟨RX5, "keep", "(I)Z"⟩
def dkwX5_keep_2 : List UInt8 := [79, 132, 3, 1, 167, 255, 227, 42, 180, 0, 66, 27, 4, 84, 28, 172]
abbrev dktX5_keep_2 : List UInt8 := dkwX5_keep_2 ++ []
def dkwX5_keep_1 : List UInt8 := [16, 24, 162, 0, 29, 42, 180, 0, 63, 16, 24, 27, 104, 29, 96, 42, 180, 0, 7, 16, 6, 29, 96, 46]
abbrev dktX5_keep_1 : List UInt8 := dkwX5_keep_1 ++ dktX5_keep_2
def dkwX5_keep_0 : List UInt8 := [42, 42, 27, 182, 1, 154, 182, 0, 87, 154, 0, 5, 3, 172, 42, 180, 0, 66, 27, 51, 61, 3, 62, 29]
abbrev dktX5_keep_0 : List UInt8 := dkwX5_keep_0 ++ dktX5_keep_1
theorem dksX5_keep_0 : cX5_keep.data.toList.drop 0 = dktX5_keep_0 := by decide +kernel
theorem dksX5_keep_1 : cX5_keep.data.toList.drop 24 = dktX5_keep_1 := dk_seg dksX5_keep_0 24 rfl rfl
theorem dksX5_keep_2 : cX5_keep.data.toList.drop 48 = dktX5_keep_2 := dk_seg dksX5_keep_1 24 rfl rfl
theorem dX5_keep_0 : decode cX5_keep 0 = .ok (.aload_n 0, 1) := dk_42 (dk_at dksX5_keep_0 0 rfl rfl)
theorem dX5_keep_1 : decode cX5_keep 1 = .ok (.aload_n 0, 1) := dk_42 (dk_at dksX5_keep_0 1 rfl rfl)
theorem dX5_keep_2 : decode cX5_keep 2 = .ok (.iload_n 1, 1) := dk_27 (dk_at dksX5_keep_0 2 rfl rfl)
theorem dX5_keep_3 : decode cX5_keep 3 = .ok (.invokevirtual 410, 3) := dk_182 1 154 (dk_at dksX5_keep_0 3 rfl rfl)
theorem dX5_keep_6 : decode cX5_keep 6 = .ok (.invokevirtual 87, 3) := dk_182 0 87 (dk_at dksX5_keep_0 6 rfl rfl)
theorem dX5_keep_9 : decode cX5_keep 9 = .ok (.ifCond .ne 5, 3) := dk_154 0 5 (dk_at dksX5_keep_0 9 rfl rfl)
theorem dX5_keep_12 : decode cX5_keep 12 = .ok (.iconst 0, 1) := dk_3 (dk_at dksX5_keep_0 12 rfl rfl)
theorem dX5_keep_13 : decode cX5_keep 13 = .ok (.ireturn, 1) := dk_172 (dk_at dksX5_keep_0 13 rfl rfl)
theorem dX5_keep_14 : decode cX5_keep 14 = .ok (.aload_n 0, 1) := dk_42 (dk_at dksX5_keep_0 14 rfl rfl)
theorem dX5_keep_15 : decode cX5_keep 15 = .ok (.getfield 66, 3) := dk_180 0 66 (dk_at dksX5_keep_0 15 rfl rfl)
theorem dX5_keep_18 : decode cX5_keep 18 = .ok (.iload_n 1, 1) := dk_27 (dk_at dksX5_keep_0 18 rfl rfl)
theorem dX5_keep_19 : decode cX5_keep 19 = .ok (.baload, 1) := dk_51 (dk_at dksX5_keep_0 19 rfl rfl)
theorem dX5_keep_20 : decode cX5_keep 20 = .ok (.istore_n 2, 1) := dk_61 (dk_at dksX5_keep_0 20 rfl rfl)
theorem dX5_keep_21 : decode cX5_keep 21 = .ok (.iconst 0, 1) := dk_3 (dk_at dksX5_keep_0 21 rfl rfl)
theorem dX5_keep_22 : decode cX5_keep 22 = .ok (.istore_n 3, 1) := dk_62 (dk_at dksX5_keep_0 22 rfl rfl)
theorem dX5_keep_23 : decode cX5_keep 23 = .ok (.iload_n 3, 1) := dk_29 (dk_at dksX5_keep_0 23 rfl rfl)
theorem dX5_keep_24 : decode cX5_keep 24 = .ok (.bipush 24, 2) := dk_16 24 (dk_at dksX5_keep_1 0 rfl rfl)
theorem dX5_keep_26 : decode cX5_keep 26 = .ok (.if_icmp .ge 29, 3) := dk_162 0 29 (dk_at dksX5_keep_1 2 rfl rfl)
theorem dX5_keep_29 : decode cX5_keep 29 = .ok (.aload_n 0, 1) := dk_42 (dk_at dksX5_keep_1 5 rfl rfl)
theorem dX5_keep_30 : decode cX5_keep 30 = .ok (.getfield 63, 3) := dk_180 0 63 (dk_at dksX5_keep_1 6 rfl rfl)
theorem dX5_keep_33 : decode cX5_keep 33 = .ok (.bipush 24, 2) := dk_16 24 (dk_at dksX5_keep_1 9 rfl rfl)
theorem dX5_keep_35 : decode cX5_keep 35 = .ok (.iload_n 1, 1) := dk_27 (dk_at dksX5_keep_1 11 rfl rfl)
theorem dX5_keep_36 : decode cX5_keep 36 = .ok (.imul, 1) := dk_104 (dk_at dksX5_keep_1 12 rfl rfl)
theorem dX5_keep_37 : decode cX5_keep 37 = .ok (.iload_n 3, 1) := dk_29 (dk_at dksX5_keep_1 13 rfl rfl)
theorem dX5_keep_38 : decode cX5_keep 38 = .ok (.iadd, 1) := dk_96 (dk_at dksX5_keep_1 14 rfl rfl)
theorem dX5_keep_39 : decode cX5_keep 39 = .ok (.aload_n 0, 1) := dk_42 (dk_at dksX5_keep_1 15 rfl rfl)
theorem dX5_keep_40 : decode cX5_keep 40 = .ok (.getfield 7, 3) := dk_180 0 7 (dk_at dksX5_keep_1 16 rfl rfl)
theorem dX5_keep_43 : decode cX5_keep 43 = .ok (.bipush 6, 2) := dk_16 6 (dk_at dksX5_keep_1 19 rfl rfl)
theorem dX5_keep_45 : decode cX5_keep 45 = .ok (.iload_n 3, 1) := dk_29 (dk_at dksX5_keep_1 21 rfl rfl)
theorem dX5_keep_46 : decode cX5_keep 46 = .ok (.iadd, 1) := dk_96 (dk_at dksX5_keep_1 22 rfl rfl)
theorem dX5_keep_47 : decode cX5_keep 47 = .ok (.iaload, 1) := dk_46 (dk_at dksX5_keep_1 23 rfl rfl)
theorem dX5_keep_48 : decode cX5_keep 48 = .ok (.iastore, 1) := dk_79 (dk_at dksX5_keep_2 0 rfl rfl)
theorem dX5_keep_49 : decode cX5_keep 49 = .ok (.iinc 3 1, 3) := dk_132 3 1 (dk_at dksX5_keep_2 1 rfl rfl)
theorem dX5_keep_52 : decode cX5_keep 52 = .ok (.goto (-29), 3) := dk_167 255 227 (dk_at dksX5_keep_2 4 rfl rfl)
theorem dX5_keep_55 : decode cX5_keep 55 = .ok (.aload_n 0, 1) := dk_42 (dk_at dksX5_keep_2 7 rfl rfl)
theorem dX5_keep_56 : decode cX5_keep 56 = .ok (.getfield 66, 3) := dk_180 0 66 (dk_at dksX5_keep_2 8 rfl rfl)
theorem dX5_keep_59 : decode cX5_keep 59 = .ok (.iload_n 1, 1) := dk_27 (dk_at dksX5_keep_2 11 rfl rfl)
theorem dX5_keep_60 : decode cX5_keep 60 = .ok (.iconst 1, 1) := dk_4 (dk_at dksX5_keep_2 12 rfl rfl)
theorem dX5_keep_61 : decode cX5_keep 61 = .ok (.bastore, 1) := dk_84 (dk_at dksX5_keep_2 13 rfl rfl)
theorem dX5_keep_62 : decode cX5_keep 62 = .ok (.iload_n 2, 1) := dk_28 (dk_at dksX5_keep_2 14 rfl rfl)
theorem dX5_keep_63 : decode cX5_keep 63 = .ok (.ireturn, 1) := dk_172 (dk_at dksX5_keep_2 15 rfl rfl)
abbrev cX5_isSlot : ByteArray := prog_16_method_115_code
def yX5_isSlot : MethodName := ⟨RX5, "isSlot", "(I)Z"⟩
def dkwX5_isSlot_0 : List UInt8 := [27, 133, 9, 10, 184, 0, 135, 172]
abbrev dktX5_isSlot_0 : List UInt8 := dkwX5_isSlot_0 ++ []
theorem dksX5_isSlot_0 : cX5_isSlot.data.toList.drop 0 = dktX5_isSlot_0 := by decide +kernel
theorem dX5_isSlot_0 : decode cX5_isSlot 0 = .ok (.iload_n 1, 1) := dk_27 (dk_at dksX5_isSlot_0 0 rfl rfl)
theorem dX5_isSlot_1 : decode cX5_isSlot 1 = .ok (.i2l, 1) := dk_133 (dk_at dksX5_isSlot_0 1 rfl rfl)
theorem dX5_isSlot_2 : decode cX5_isSlot 2 = .ok (.lconst 0, 1) := dk_9 (dk_at dksX5_isSlot_0 2 rfl rfl)
theorem dX5_isSlot_3 : decode cX5_isSlot 3 = .ok (.lconst 1, 1) := dk_10 (dk_at dksX5_isSlot_0 3 rfl rfl)
theorem dX5_isSlot_4 : decode cX5_isSlot 4 = .ok (.invokestatic 135, 3) := dk_184 0 135 (dk_at dksX5_isSlot_0 4 rfl rfl)
theorem dX5_isSlot_7 : decode cX5_isSlot 7 = .ok (.ireturn, 1) := dk_172 (dk_at dksX5_isSlot_0 7 rfl rfl)
abbrev cX5_goBack : ByteArray := prog_16_method_119_code
def yX5_goBack : MethodName := ⟨RX5, "goBack", "(I)I"⟩
def dkwX5_goBack_1 : List UInt8 := [3, 79, 42, 182, 0, 160, 42, 182, 0, 163, 172]
abbrev dktX5_goBack_1 : List UInt8 := dkwX5_goBack_1 ++ []
def dkwX5_goBack_0 : List UInt8 := [42, 27, 182, 1, 157, 154, 0, 5, 3, 172, 42, 182, 0, 151, 42, 27, 182, 1, 160, 42, 180, 0, 7, 8]
abbrev dktX5_goBack_0 : List UInt8 := dkwX5_goBack_0 ++ dktX5_goBack_1
theorem dksX5_goBack_0 : cX5_goBack.data.toList.drop 0 = dktX5_goBack_0 := by decide +kernel
theorem dksX5_goBack_1 : cX5_goBack.data.toList.drop 24 = dktX5_goBack_1 := dk_seg dksX5_goBack_0 24 rfl rfl
theorem dX5_goBack_0 : decode cX5_goBack 0 = .ok (.aload_n 0, 1) := dk_42 (dk_at dksX5_goBack_0 0 rfl rfl)
theorem dX5_goBack_1 : decode cX5_goBack 1 = .ok (.iload_n 1, 1) := dk_27 (dk_at dksX5_goBack_0 1 rfl rfl)
theorem dX5_goBack_2 : decode cX5_goBack 2 = .ok (.invokevirtual 413, 3) := dk_182 1 157 (dk_at dksX5_goBack_0 2 rfl rfl)
theorem dX5_goBack_5 : decode cX5_goBack 5 = .ok (.ifCond .ne 5, 3) := dk_154 0 5 (dk_at dksX5_goBack_0 5 rfl rfl)
theorem dX5_goBack_8 : decode cX5_goBack 8 = .ok (.iconst 0, 1) := dk_3 (dk_at dksX5_goBack_0 8 rfl rfl)
theorem dX5_goBack_9 : decode cX5_goBack 9 = .ok (.ireturn, 1) := dk_172 (dk_at dksX5_goBack_0 9 rfl rfl)
theorem dX5_goBack_10 : decode cX5_goBack 10 = .ok (.aload_n 0, 1) := dk_42 (dk_at dksX5_goBack_0 10 rfl rfl)
theorem dX5_goBack_11 : decode cX5_goBack 11 = .ok (.invokevirtual 151, 3) := dk_182 0 151 (dk_at dksX5_goBack_0 11 rfl rfl)
theorem dX5_goBack_14 : decode cX5_goBack 14 = .ok (.aload_n 0, 1) := dk_42 (dk_at dksX5_goBack_0 14 rfl rfl)
theorem dX5_goBack_15 : decode cX5_goBack 15 = .ok (.iload_n 1, 1) := dk_27 (dk_at dksX5_goBack_0 15 rfl rfl)
theorem dX5_goBack_16 : decode cX5_goBack 16 = .ok (.invokevirtual 416, 3) := dk_182 1 160 (dk_at dksX5_goBack_0 16 rfl rfl)
theorem dX5_goBack_19 : decode cX5_goBack 19 = .ok (.aload_n 0, 1) := dk_42 (dk_at dksX5_goBack_0 19 rfl rfl)
theorem dX5_goBack_20 : decode cX5_goBack 20 = .ok (.getfield 7, 3) := dk_180 0 7 (dk_at dksX5_goBack_0 20 rfl rfl)
theorem dX5_goBack_23 : decode cX5_goBack 23 = .ok (.iconst 5, 1) := dk_8 (dk_at dksX5_goBack_0 23 rfl rfl)
theorem dX5_goBack_24 : decode cX5_goBack 24 = .ok (.iconst 0, 1) := dk_3 (dk_at dksX5_goBack_1 0 rfl rfl)
theorem dX5_goBack_25 : decode cX5_goBack 25 = .ok (.iastore, 1) := dk_79 (dk_at dksX5_goBack_1 1 rfl rfl)
theorem dX5_goBack_26 : decode cX5_goBack 26 = .ok (.aload_n 0, 1) := dk_42 (dk_at dksX5_goBack_1 2 rfl rfl)
theorem dX5_goBack_27 : decode cX5_goBack 27 = .ok (.invokevirtual 160, 3) := dk_182 0 160 (dk_at dksX5_goBack_1 3 rfl rfl)
theorem dX5_goBack_30 : decode cX5_goBack 30 = .ok (.aload_n 0, 1) := dk_42 (dk_at dksX5_goBack_1 6 rfl rfl)
theorem dX5_goBack_31 : decode cX5_goBack 31 = .ok (.invokevirtual 163, 3) := dk_182 0 163 (dk_at dksX5_goBack_1 7 rfl rfl)
theorem dX5_goBack_34 : decode cX5_goBack 34 = .ok (.ireturn, 1) := dk_172 (dk_at dksX5_goBack_1 10 rfl rfl)
abbrev cX5_mayUse : ByteArray := prog_16_method_118_code
def yX5_mayUse : MethodName := ⟨RX5, "mayUse", "(I)Z"⟩
def dkwX5_mayUse_1 : List UInt8 := [153, 0, 7, 4, 167, 0, 4, 3, 172]
abbrev dktX5_mayUse_1 : List UInt8 := dkwX5_mayUse_1 ++ []
def dkwX5_mayUse_0 : List UInt8 := [42, 42, 27, 182, 1, 154, 182, 0, 87, 153, 0, 21, 42, 42, 180, 0, 66, 27, 51, 5, 182, 0, 147]
abbrev dktX5_mayUse_0 : List UInt8 := dkwX5_mayUse_0 ++ dktX5_mayUse_1
theorem dksX5_mayUse_0 : cX5_mayUse.data.toList.drop 0 = dktX5_mayUse_0 := by decide +kernel
theorem dksX5_mayUse_1 : cX5_mayUse.data.toList.drop 23 = dktX5_mayUse_1 := dk_seg dksX5_mayUse_0 23 rfl rfl
theorem dX5_mayUse_0 : decode cX5_mayUse 0 = .ok (.aload_n 0, 1) := dk_42 (dk_at dksX5_mayUse_0 0 rfl rfl)
theorem dX5_mayUse_1 : decode cX5_mayUse 1 = .ok (.aload_n 0, 1) := dk_42 (dk_at dksX5_mayUse_0 1 rfl rfl)
theorem dX5_mayUse_2 : decode cX5_mayUse 2 = .ok (.iload_n 1, 1) := dk_27 (dk_at dksX5_mayUse_0 2 rfl rfl)
theorem dX5_mayUse_3 : decode cX5_mayUse 3 = .ok (.invokevirtual 410, 3) := dk_182 1 154 (dk_at dksX5_mayUse_0 3 rfl rfl)
theorem dX5_mayUse_6 : decode cX5_mayUse 6 = .ok (.invokevirtual 87, 3) := dk_182 0 87 (dk_at dksX5_mayUse_0 6 rfl rfl)
theorem dX5_mayUse_9 : decode cX5_mayUse 9 = .ok (.ifCond .eq 21, 3) := dk_153 0 21 (dk_at dksX5_mayUse_0 9 rfl rfl)
theorem dX5_mayUse_12 : decode cX5_mayUse 12 = .ok (.aload_n 0, 1) := dk_42 (dk_at dksX5_mayUse_0 12 rfl rfl)
theorem dX5_mayUse_13 : decode cX5_mayUse 13 = .ok (.aload_n 0, 1) := dk_42 (dk_at dksX5_mayUse_0 13 rfl rfl)
theorem dX5_mayUse_14 : decode cX5_mayUse 14 = .ok (.getfield 66, 3) := dk_180 0 66 (dk_at dksX5_mayUse_0 14 rfl rfl)
theorem dX5_mayUse_17 : decode cX5_mayUse 17 = .ok (.iload_n 1, 1) := dk_27 (dk_at dksX5_mayUse_0 17 rfl rfl)
theorem dX5_mayUse_18 : decode cX5_mayUse 18 = .ok (.baload, 1) := dk_51 (dk_at dksX5_mayUse_0 18 rfl rfl)
theorem dX5_mayUse_19 : decode cX5_mayUse 19 = .ok (.iconst 2, 1) := dk_5 (dk_at dksX5_mayUse_0 19 rfl rfl)
theorem dX5_mayUse_20 : decode cX5_mayUse 20 = .ok (.invokevirtual 147, 3) := dk_182 0 147 (dk_at dksX5_mayUse_0 20 rfl rfl)
theorem dX5_mayUse_23 : decode cX5_mayUse 23 = .ok (.ifCond .eq 7, 3) := dk_153 0 7 (dk_at dksX5_mayUse_1 0 rfl rfl)
theorem dX5_mayUse_26 : decode cX5_mayUse 26 = .ok (.iconst 1, 1) := dk_4 (dk_at dksX5_mayUse_1 3 rfl rfl)
theorem dX5_mayUse_27 : decode cX5_mayUse 27 = .ok (.goto 4, 3) := dk_167 0 4 (dk_at dksX5_mayUse_1 4 rfl rfl)
theorem dX5_mayUse_30 : decode cX5_mayUse 30 = .ok (.iconst 0, 1) := dk_3 (dk_at dksX5_mayUse_1 7 rfl rfl)
theorem dX5_mayUse_31 : decode cX5_mayUse 31 = .ok (.ireturn, 1) := dk_172 (dk_at dksX5_mayUse_1 8 rfl rfl)
abbrev cX5_takesSlot : ByteArray := prog_16_method_117_code
def yX5_takesSlot : MethodName := ⟨RX5, "takesSlot", "(I)V"⟩
def dkwX5_takesSlot_1 : List UInt8 := [28, 96, 46, 79, 132, 2, 1, 167, 255, 227, 177]
abbrev dktX5_takesSlot_1 : List UInt8 := dkwX5_takesSlot_1 ++ []
def dkwX5_takesSlot_0 : List UInt8 := [3, 61, 28, 16, 24, 162, 0, 29, 42, 180, 0, 7, 16, 6, 28, 96, 42, 180, 0, 63, 16, 24, 27, 104]
abbrev dktX5_takesSlot_0 : List UInt8 := dkwX5_takesSlot_0 ++ dktX5_takesSlot_1
theorem dksX5_takesSlot_0 : cX5_takesSlot.data.toList.drop 0 = dktX5_takesSlot_0 := by decide +kernel
theorem dksX5_takesSlot_1 : cX5_takesSlot.data.toList.drop 24 = dktX5_takesSlot_1 := dk_seg dksX5_takesSlot_0 24 rfl rfl
theorem dX5_takesSlot_0 : decode cX5_takesSlot 0 = .ok (.iconst 0, 1) := dk_3 (dk_at dksX5_takesSlot_0 0 rfl rfl)
theorem dX5_takesSlot_1 : decode cX5_takesSlot 1 = .ok (.istore_n 2, 1) := dk_61 (dk_at dksX5_takesSlot_0 1 rfl rfl)
theorem dX5_takesSlot_2 : decode cX5_takesSlot 2 = .ok (.iload_n 2, 1) := dk_28 (dk_at dksX5_takesSlot_0 2 rfl rfl)
theorem dX5_takesSlot_3 : decode cX5_takesSlot 3 = .ok (.bipush 24, 2) := dk_16 24 (dk_at dksX5_takesSlot_0 3 rfl rfl)
theorem dX5_takesSlot_5 : decode cX5_takesSlot 5 = .ok (.if_icmp .ge 29, 3) := dk_162 0 29 (dk_at dksX5_takesSlot_0 5 rfl rfl)
theorem dX5_takesSlot_8 : decode cX5_takesSlot 8 = .ok (.aload_n 0, 1) := dk_42 (dk_at dksX5_takesSlot_0 8 rfl rfl)
theorem dX5_takesSlot_9 : decode cX5_takesSlot 9 = .ok (.getfield 7, 3) := dk_180 0 7 (dk_at dksX5_takesSlot_0 9 rfl rfl)
theorem dX5_takesSlot_12 : decode cX5_takesSlot 12 = .ok (.bipush 6, 2) := dk_16 6 (dk_at dksX5_takesSlot_0 12 rfl rfl)
theorem dX5_takesSlot_14 : decode cX5_takesSlot 14 = .ok (.iload_n 2, 1) := dk_28 (dk_at dksX5_takesSlot_0 14 rfl rfl)
theorem dX5_takesSlot_15 : decode cX5_takesSlot 15 = .ok (.iadd, 1) := dk_96 (dk_at dksX5_takesSlot_0 15 rfl rfl)
theorem dX5_takesSlot_16 : decode cX5_takesSlot 16 = .ok (.aload_n 0, 1) := dk_42 (dk_at dksX5_takesSlot_0 16 rfl rfl)
theorem dX5_takesSlot_17 : decode cX5_takesSlot 17 = .ok (.getfield 63, 3) := dk_180 0 63 (dk_at dksX5_takesSlot_0 17 rfl rfl)
theorem dX5_takesSlot_20 : decode cX5_takesSlot 20 = .ok (.bipush 24, 2) := dk_16 24 (dk_at dksX5_takesSlot_0 20 rfl rfl)
theorem dX5_takesSlot_22 : decode cX5_takesSlot 22 = .ok (.iload_n 1, 1) := dk_27 (dk_at dksX5_takesSlot_0 22 rfl rfl)
theorem dX5_takesSlot_23 : decode cX5_takesSlot 23 = .ok (.imul, 1) := dk_104 (dk_at dksX5_takesSlot_0 23 rfl rfl)
theorem dX5_takesSlot_24 : decode cX5_takesSlot 24 = .ok (.iload_n 2, 1) := dk_28 (dk_at dksX5_takesSlot_1 0 rfl rfl)
theorem dX5_takesSlot_25 : decode cX5_takesSlot 25 = .ok (.iadd, 1) := dk_96 (dk_at dksX5_takesSlot_1 1 rfl rfl)
theorem dX5_takesSlot_26 : decode cX5_takesSlot 26 = .ok (.iaload, 1) := dk_46 (dk_at dksX5_takesSlot_1 2 rfl rfl)
theorem dX5_takesSlot_27 : decode cX5_takesSlot 27 = .ok (.iastore, 1) := dk_79 (dk_at dksX5_takesSlot_1 3 rfl rfl)
theorem dX5_takesSlot_28 : decode cX5_takesSlot 28 = .ok (.iinc 2 1, 3) := dk_132 2 1 (dk_at dksX5_takesSlot_1 4 rfl rfl)
theorem dX5_takesSlot_31 : decode cX5_takesSlot 31 = .ok (.goto (-29), 3) := dk_167 255 227 (dk_at dksX5_takesSlot_1 7 rfl rfl)
theorem dX5_takesSlot_34 : decode cX5_takesSlot 34 = .ok (.return_, 1) := dk_177 (dk_at dksX5_takesSlot_1 10 rfl rfl)
abbrev cX5_isSame : ByteArray := prog_16_method_121_code
def yX5_isSame : MethodName := ⟨RX5, "isSame", "(I)Z"⟩
def dkwX5_isSame_1 : List UInt8 := [160, 0, 7, 4, 167, 0, 4, 3, 172]
abbrev dktX5_isSame_1 : List UInt8 := dkwX5_isSame_1 ++ []
def dkwX5_isSame_0 : List UInt8 := [42, 27, 182, 1, 157, 154, 0, 5, 3, 172, 42, 27, 182, 1, 169, 42, 180, 1, 163, 42, 182, 0, 169]
abbrev dktX5_isSame_0 : List UInt8 := dkwX5_isSame_0 ++ dktX5_isSame_1
theorem dksX5_isSame_0 : cX5_isSame.data.toList.drop 0 = dktX5_isSame_0 := by decide +kernel
theorem dksX5_isSame_1 : cX5_isSame.data.toList.drop 23 = dktX5_isSame_1 := dk_seg dksX5_isSame_0 23 rfl rfl
theorem dX5_isSame_0 : decode cX5_isSame 0 = .ok (.aload_n 0, 1) := dk_42 (dk_at dksX5_isSame_0 0 rfl rfl)
theorem dX5_isSame_1 : decode cX5_isSame 1 = .ok (.iload_n 1, 1) := dk_27 (dk_at dksX5_isSame_0 1 rfl rfl)
theorem dX5_isSame_2 : decode cX5_isSame 2 = .ok (.invokevirtual 413, 3) := dk_182 1 157 (dk_at dksX5_isSame_0 2 rfl rfl)
theorem dX5_isSame_5 : decode cX5_isSame 5 = .ok (.ifCond .ne 5, 3) := dk_154 0 5 (dk_at dksX5_isSame_0 5 rfl rfl)
theorem dX5_isSame_8 : decode cX5_isSame 8 = .ok (.iconst 0, 1) := dk_3 (dk_at dksX5_isSame_0 8 rfl rfl)
theorem dX5_isSame_9 : decode cX5_isSame 9 = .ok (.ireturn, 1) := dk_172 (dk_at dksX5_isSame_0 9 rfl rfl)
theorem dX5_isSame_10 : decode cX5_isSame 10 = .ok (.aload_n 0, 1) := dk_42 (dk_at dksX5_isSame_0 10 rfl rfl)
theorem dX5_isSame_11 : decode cX5_isSame 11 = .ok (.iload_n 1, 1) := dk_27 (dk_at dksX5_isSame_0 11 rfl rfl)
theorem dX5_isSame_12 : decode cX5_isSame 12 = .ok (.invokevirtual 425, 3) := dk_182 1 169 (dk_at dksX5_isSame_0 12 rfl rfl)
theorem dX5_isSame_15 : decode cX5_isSame 15 = .ok (.aload_n 0, 1) := dk_42 (dk_at dksX5_isSame_0 15 rfl rfl)
theorem dX5_isSame_16 : decode cX5_isSame 16 = .ok (.getfield 419, 3) := dk_180 1 163 (dk_at dksX5_isSame_0 16 rfl rfl)
theorem dX5_isSame_19 : decode cX5_isSame 19 = .ok (.aload_n 0, 1) := dk_42 (dk_at dksX5_isSame_0 19 rfl rfl)
theorem dX5_isSame_20 : decode cX5_isSame 20 = .ok (.invokevirtual 169, 3) := dk_182 0 169 (dk_at dksX5_isSame_0 20 rfl rfl)
theorem dX5_isSame_23 : decode cX5_isSame 23 = .ok (.if_icmp .ne 7, 3) := dk_160 0 7 (dk_at dksX5_isSame_1 0 rfl rfl)
theorem dX5_isSame_26 : decode cX5_isSame 26 = .ok (.iconst 1, 1) := dk_4 (dk_at dksX5_isSame_1 3 rfl rfl)
theorem dX5_isSame_27 : decode cX5_isSame 27 = .ok (.goto 4, 3) := dk_167 0 4 (dk_at dksX5_isSame_1 4 rfl rfl)
theorem dX5_isSame_30 : decode cX5_isSame 30 = .ok (.iconst 0, 1) := dk_3 (dk_at dksX5_isSame_1 7 rfl rfl)
theorem dX5_isSame_31 : decode cX5_isSame 31 = .ok (.ireturn, 1) := dk_172 (dk_at dksX5_isSame_1 8 rfl rfl)
abbrev cX5_compares : ByteArray := prog_16_method_120_code
def yX5_compares : MethodName := ⟨RX5, "compares", "(I)V"⟩
def dkwX5_compares_5 : List UInt8 := [180, 0, 16, 42, 180, 0, 7, 184, 0, 83, 132, 2, 1, 167, 255, 148, 177]
abbrev dktX5_compares_5 : List UInt8 := dkwX5_compares_5 ++ []
def dkwX5_compares_4 : List UInt8 := [2, 159, 0, 22, 42, 180, 0, 105, 21, 5, 159, 0, 13, 42, 42, 180, 1, 166, 4, 96, 181, 1, 166, 42]
abbrev dktX5_compares_4 : List UInt8 := dkwX5_compares_4 ++ dktX5_compares_5
def dkwX5_compares_3 : List UInt8 := [159, 0, 22, 42, 180, 0, 105, 21, 5, 160, 0, 13, 42, 42, 180, 1, 163, 4, 96, 181, 1, 163, 21, 6]
abbrev dktX5_compares_3 : List UInt8 := dkwX5_compares_3 ++ dktX5_compares_4
def dkwX5_compares_2 : List UInt8 := [180, 0, 105, 54, 5, 42, 27, 182, 1, 160, 42, 29, 21, 4, 182, 0, 183, 54, 6, 21, 6, 2]
abbrev dktX5_compares_2 : List UInt8 := dkwX5_compares_2 ++ dktX5_compares_3
def dkwX5_compares_1 : List UInt8 := [42, 182, 0, 169, 162, 0, 106, 42, 28, 182, 0, 172, 42, 180, 0, 99, 62, 42, 180, 0, 102, 54, 4, 42]
abbrev dktX5_compares_1 : List UInt8 := dkwX5_compares_1 ++ dktX5_compares_2
def dkwX5_compares_0 : List UInt8 := [42, 3, 181, 1, 163, 42, 3, 181, 1, 166, 42, 180, 0, 7, 42, 180, 0, 16, 184, 0, 83, 3, 61, 28]
abbrev dktX5_compares_0 : List UInt8 := dkwX5_compares_0 ++ dktX5_compares_1
theorem dksX5_compares_0 : cX5_compares.data.toList.drop 0 = dktX5_compares_0 := by decide +kernel
theorem dksX5_compares_1 : cX5_compares.data.toList.drop 24 = dktX5_compares_1 := dk_seg dksX5_compares_0 24 rfl rfl
theorem dksX5_compares_2 : cX5_compares.data.toList.drop 48 = dktX5_compares_2 := dk_seg dksX5_compares_1 24 rfl rfl
theorem dksX5_compares_3 : cX5_compares.data.toList.drop 70 = dktX5_compares_3 := dk_seg dksX5_compares_2 22 rfl rfl
theorem dksX5_compares_4 : cX5_compares.data.toList.drop 94 = dktX5_compares_4 := dk_seg dksX5_compares_3 24 rfl rfl
theorem dksX5_compares_5 : cX5_compares.data.toList.drop 118 = dktX5_compares_5 := dk_seg dksX5_compares_4 24 rfl rfl
theorem dX5_compares_0 : decode cX5_compares 0 = .ok (.aload_n 0, 1) := dk_42 (dk_at dksX5_compares_0 0 rfl rfl)
theorem dX5_compares_1 : decode cX5_compares 1 = .ok (.iconst 0, 1) := dk_3 (dk_at dksX5_compares_0 1 rfl rfl)
theorem dX5_compares_2 : decode cX5_compares 2 = .ok (.putfield 419, 3) := dk_181 1 163 (dk_at dksX5_compares_0 2 rfl rfl)
theorem dX5_compares_5 : decode cX5_compares 5 = .ok (.aload_n 0, 1) := dk_42 (dk_at dksX5_compares_0 5 rfl rfl)
theorem dX5_compares_6 : decode cX5_compares 6 = .ok (.iconst 0, 1) := dk_3 (dk_at dksX5_compares_0 6 rfl rfl)
theorem dX5_compares_7 : decode cX5_compares 7 = .ok (.putfield 422, 3) := dk_181 1 166 (dk_at dksX5_compares_0 7 rfl rfl)
theorem dX5_compares_10 : decode cX5_compares 10 = .ok (.aload_n 0, 1) := dk_42 (dk_at dksX5_compares_0 10 rfl rfl)
theorem dX5_compares_11 : decode cX5_compares 11 = .ok (.getfield 7, 3) := dk_180 0 7 (dk_at dksX5_compares_0 11 rfl rfl)
theorem dX5_compares_14 : decode cX5_compares 14 = .ok (.aload_n 0, 1) := dk_42 (dk_at dksX5_compares_0 14 rfl rfl)
theorem dX5_compares_15 : decode cX5_compares 15 = .ok (.getfield 16, 3) := dk_180 0 16 (dk_at dksX5_compares_0 15 rfl rfl)
theorem dX5_compares_18 : decode cX5_compares 18 = .ok (.invokestatic 83, 3) := dk_184 0 83 (dk_at dksX5_compares_0 18 rfl rfl)
theorem dX5_compares_21 : decode cX5_compares 21 = .ok (.iconst 0, 1) := dk_3 (dk_at dksX5_compares_0 21 rfl rfl)
theorem dX5_compares_22 : decode cX5_compares 22 = .ok (.istore_n 2, 1) := dk_61 (dk_at dksX5_compares_0 22 rfl rfl)
theorem dX5_compares_23 : decode cX5_compares 23 = .ok (.iload_n 2, 1) := dk_28 (dk_at dksX5_compares_0 23 rfl rfl)
theorem dX5_compares_24 : decode cX5_compares 24 = .ok (.aload_n 0, 1) := dk_42 (dk_at dksX5_compares_1 0 rfl rfl)
theorem dX5_compares_25 : decode cX5_compares 25 = .ok (.invokevirtual 169, 3) := dk_182 0 169 (dk_at dksX5_compares_1 1 rfl rfl)
theorem dX5_compares_28 : decode cX5_compares 28 = .ok (.if_icmp .ge 106, 3) := dk_162 0 106 (dk_at dksX5_compares_1 4 rfl rfl)
theorem dX5_compares_31 : decode cX5_compares 31 = .ok (.aload_n 0, 1) := dk_42 (dk_at dksX5_compares_1 7 rfl rfl)
theorem dX5_compares_32 : decode cX5_compares 32 = .ok (.iload_n 2, 1) := dk_28 (dk_at dksX5_compares_1 8 rfl rfl)
theorem dX5_compares_33 : decode cX5_compares 33 = .ok (.invokevirtual 172, 3) := dk_182 0 172 (dk_at dksX5_compares_1 9 rfl rfl)
theorem dX5_compares_36 : decode cX5_compares 36 = .ok (.aload_n 0, 1) := dk_42 (dk_at dksX5_compares_1 12 rfl rfl)
theorem dX5_compares_37 : decode cX5_compares 37 = .ok (.getfield 99, 3) := dk_180 0 99 (dk_at dksX5_compares_1 13 rfl rfl)
theorem dX5_compares_40 : decode cX5_compares 40 = .ok (.istore_n 3, 1) := dk_62 (dk_at dksX5_compares_1 16 rfl rfl)
theorem dX5_compares_41 : decode cX5_compares 41 = .ok (.aload_n 0, 1) := dk_42 (dk_at dksX5_compares_1 17 rfl rfl)
theorem dX5_compares_42 : decode cX5_compares 42 = .ok (.getfield 102, 3) := dk_180 0 102 (dk_at dksX5_compares_1 18 rfl rfl)
theorem dX5_compares_45 : decode cX5_compares 45 = .ok (.istore 4, 2) := dk_54 4 (dk_at dksX5_compares_1 21 rfl rfl)
theorem dX5_compares_47 : decode cX5_compares 47 = .ok (.aload_n 0, 1) := dk_42 (dk_at dksX5_compares_1 23 rfl rfl)
theorem dX5_compares_48 : decode cX5_compares 48 = .ok (.getfield 105, 3) := dk_180 0 105 (dk_at dksX5_compares_2 0 rfl rfl)
theorem dX5_compares_51 : decode cX5_compares 51 = .ok (.istore 5, 2) := dk_54 5 (dk_at dksX5_compares_2 3 rfl rfl)
theorem dX5_compares_53 : decode cX5_compares 53 = .ok (.aload_n 0, 1) := dk_42 (dk_at dksX5_compares_2 5 rfl rfl)
theorem dX5_compares_54 : decode cX5_compares 54 = .ok (.iload_n 1, 1) := dk_27 (dk_at dksX5_compares_2 6 rfl rfl)
theorem dX5_compares_55 : decode cX5_compares 55 = .ok (.invokevirtual 416, 3) := dk_182 1 160 (dk_at dksX5_compares_2 7 rfl rfl)
theorem dX5_compares_58 : decode cX5_compares 58 = .ok (.aload_n 0, 1) := dk_42 (dk_at dksX5_compares_2 10 rfl rfl)
theorem dX5_compares_59 : decode cX5_compares 59 = .ok (.iload_n 3, 1) := dk_29 (dk_at dksX5_compares_2 11 rfl rfl)
theorem dX5_compares_60 : decode cX5_compares 60 = .ok (.iload 4, 2) := dk_21 4 (dk_at dksX5_compares_2 12 rfl rfl)
theorem dX5_compares_62 : decode cX5_compares 62 = .ok (.invokevirtual 183, 3) := dk_182 0 183 (dk_at dksX5_compares_2 14 rfl rfl)
theorem dX5_compares_65 : decode cX5_compares 65 = .ok (.istore 6, 2) := dk_54 6 (dk_at dksX5_compares_2 17 rfl rfl)
theorem dX5_compares_67 : decode cX5_compares 67 = .ok (.iload 6, 2) := dk_21 6 (dk_at dksX5_compares_2 19 rfl rfl)
theorem dX5_compares_69 : decode cX5_compares 69 = .ok (.iconst (-1), 1) := dk_2 (dk_at dksX5_compares_2 21 rfl rfl)
theorem dX5_compares_70 : decode cX5_compares 70 = .ok (.if_icmp .eq 22, 3) := dk_159 0 22 (dk_at dksX5_compares_3 0 rfl rfl)
theorem dX5_compares_73 : decode cX5_compares 73 = .ok (.aload_n 0, 1) := dk_42 (dk_at dksX5_compares_3 3 rfl rfl)
theorem dX5_compares_74 : decode cX5_compares 74 = .ok (.getfield 105, 3) := dk_180 0 105 (dk_at dksX5_compares_3 4 rfl rfl)
theorem dX5_compares_77 : decode cX5_compares 77 = .ok (.iload 5, 2) := dk_21 5 (dk_at dksX5_compares_3 7 rfl rfl)
theorem dX5_compares_79 : decode cX5_compares 79 = .ok (.if_icmp .ne 13, 3) := dk_160 0 13 (dk_at dksX5_compares_3 9 rfl rfl)
theorem dX5_compares_82 : decode cX5_compares 82 = .ok (.aload_n 0, 1) := dk_42 (dk_at dksX5_compares_3 12 rfl rfl)
theorem dX5_compares_83 : decode cX5_compares 83 = .ok (.aload_n 0, 1) := dk_42 (dk_at dksX5_compares_3 13 rfl rfl)
theorem dX5_compares_84 : decode cX5_compares 84 = .ok (.getfield 419, 3) := dk_180 1 163 (dk_at dksX5_compares_3 14 rfl rfl)
theorem dX5_compares_87 : decode cX5_compares 87 = .ok (.iconst 1, 1) := dk_4 (dk_at dksX5_compares_3 17 rfl rfl)
theorem dX5_compares_88 : decode cX5_compares 88 = .ok (.iadd, 1) := dk_96 (dk_at dksX5_compares_3 18 rfl rfl)
theorem dX5_compares_89 : decode cX5_compares 89 = .ok (.putfield 419, 3) := dk_181 1 163 (dk_at dksX5_compares_3 19 rfl rfl)
theorem dX5_compares_92 : decode cX5_compares 92 = .ok (.iload 6, 2) := dk_21 6 (dk_at dksX5_compares_3 22 rfl rfl)
theorem dX5_compares_94 : decode cX5_compares 94 = .ok (.iconst (-1), 1) := dk_2 (dk_at dksX5_compares_4 0 rfl rfl)
theorem dX5_compares_95 : decode cX5_compares 95 = .ok (.if_icmp .eq 22, 3) := dk_159 0 22 (dk_at dksX5_compares_4 1 rfl rfl)
theorem dX5_compares_98 : decode cX5_compares 98 = .ok (.aload_n 0, 1) := dk_42 (dk_at dksX5_compares_4 4 rfl rfl)
theorem dX5_compares_99 : decode cX5_compares 99 = .ok (.getfield 105, 3) := dk_180 0 105 (dk_at dksX5_compares_4 5 rfl rfl)
theorem dX5_compares_102 : decode cX5_compares 102 = .ok (.iload 5, 2) := dk_21 5 (dk_at dksX5_compares_4 8 rfl rfl)
theorem dX5_compares_104 : decode cX5_compares 104 = .ok (.if_icmp .eq 13, 3) := dk_159 0 13 (dk_at dksX5_compares_4 10 rfl rfl)
theorem dX5_compares_107 : decode cX5_compares 107 = .ok (.aload_n 0, 1) := dk_42 (dk_at dksX5_compares_4 13 rfl rfl)
theorem dX5_compares_108 : decode cX5_compares 108 = .ok (.aload_n 0, 1) := dk_42 (dk_at dksX5_compares_4 14 rfl rfl)
theorem dX5_compares_109 : decode cX5_compares 109 = .ok (.getfield 422, 3) := dk_180 1 166 (dk_at dksX5_compares_4 15 rfl rfl)
theorem dX5_compares_112 : decode cX5_compares 112 = .ok (.iconst 1, 1) := dk_4 (dk_at dksX5_compares_4 18 rfl rfl)
theorem dX5_compares_113 : decode cX5_compares 113 = .ok (.iadd, 1) := dk_96 (dk_at dksX5_compares_4 19 rfl rfl)
theorem dX5_compares_114 : decode cX5_compares 114 = .ok (.putfield 422, 3) := dk_181 1 166 (dk_at dksX5_compares_4 20 rfl rfl)
theorem dX5_compares_117 : decode cX5_compares 117 = .ok (.aload_n 0, 1) := dk_42 (dk_at dksX5_compares_4 23 rfl rfl)
theorem dX5_compares_118 : decode cX5_compares 118 = .ok (.getfield 16, 3) := dk_180 0 16 (dk_at dksX5_compares_5 0 rfl rfl)
theorem dX5_compares_121 : decode cX5_compares 121 = .ok (.aload_n 0, 1) := dk_42 (dk_at dksX5_compares_5 3 rfl rfl)
theorem dX5_compares_122 : decode cX5_compares 122 = .ok (.getfield 7, 3) := dk_180 0 7 (dk_at dksX5_compares_5 4 rfl rfl)
theorem dX5_compares_125 : decode cX5_compares 125 = .ok (.invokestatic 83, 3) := dk_184 0 83 (dk_at dksX5_compares_5 7 rfl rfl)
theorem dX5_compares_128 : decode cX5_compares 128 = .ok (.iinc 2 1, 3) := dk_132 2 1 (dk_at dksX5_compares_5 10 rfl rfl)
theorem dX5_compares_131 : decode cX5_compares 131 = .ok (.goto (-108), 3) := dk_167 255 148 (dk_at dksX5_compares_5 13 rfl rfl)
theorem dX5_compares_134 : decode cX5_compares 134 = .ok (.return_, 1) := dk_177 (dk_at dksX5_compares_5 16 rfl rfl)
abbrev cX5_overlap : ByteArray := prog_16_method_123_code
def yX5_overlap : MethodName := ⟨RX5, "overlap", "(I)I"⟩
def dkwX5_overlap_0 : List UInt8 := [42, 27, 182, 1, 157, 153, 0, 11, 42, 27, 182, 1, 172, 167, 0, 4, 3, 172]
abbrev dktX5_overlap_0 : List UInt8 := dkwX5_overlap_0 ++ []
theorem dksX5_overlap_0 : cX5_overlap.data.toList.drop 0 = dktX5_overlap_0 := by decide +kernel
theorem dX5_overlap_0 : decode cX5_overlap 0 = .ok (.aload_n 0, 1) := dk_42 (dk_at dksX5_overlap_0 0 rfl rfl)
theorem dX5_overlap_1 : decode cX5_overlap 1 = .ok (.iload_n 1, 1) := dk_27 (dk_at dksX5_overlap_0 1 rfl rfl)
theorem dX5_overlap_2 : decode cX5_overlap 2 = .ok (.invokevirtual 413, 3) := dk_182 1 157 (dk_at dksX5_overlap_0 2 rfl rfl)
theorem dX5_overlap_5 : decode cX5_overlap 5 = .ok (.ifCond .eq 11, 3) := dk_153 0 11 (dk_at dksX5_overlap_0 5 rfl rfl)
theorem dX5_overlap_8 : decode cX5_overlap 8 = .ok (.aload_n 0, 1) := dk_42 (dk_at dksX5_overlap_0 8 rfl rfl)
theorem dX5_overlap_9 : decode cX5_overlap 9 = .ok (.iload_n 1, 1) := dk_27 (dk_at dksX5_overlap_0 9 rfl rfl)
theorem dX5_overlap_10 : decode cX5_overlap 10 = .ok (.invokevirtual 428, 3) := dk_182 1 172 (dk_at dksX5_overlap_0 10 rfl rfl)
theorem dX5_overlap_13 : decode cX5_overlap 13 = .ok (.goto 4, 3) := dk_167 0 4 (dk_at dksX5_overlap_0 13 rfl rfl)
theorem dX5_overlap_16 : decode cX5_overlap 16 = .ok (.iconst 0, 1) := dk_3 (dk_at dksX5_overlap_0 16 rfl rfl)
theorem dX5_overlap_17 : decode cX5_overlap 17 = .ok (.ireturn, 1) := dk_172 (dk_at dksX5_overlap_0 17 rfl rfl)
abbrev cX5_overlapOf : ByteArray := prog_16_method_122_code
def yX5_overlapOf : MethodName := ⟨RX5, "overlapOf", "(I)I"⟩
def dkwX5_overlapOf_1 : List UInt8 := [180, 1, 163, 184, 1, 139, 100, 172]
abbrev dktX5_overlapOf_1 : List UInt8 := dkwX5_overlapOf_1 ++ []
def dkwX5_overlapOf_0 : List UInt8 := [42, 27, 182, 1, 169, 42, 180, 1, 166, 158, 0, 7, 2, 167, 0, 17, 42, 180, 0, 7, 3, 46, 42]
abbrev dktX5_overlapOf_0 : List UInt8 := dkwX5_overlapOf_0 ++ dktX5_overlapOf_1
theorem dksX5_overlapOf_0 : cX5_overlapOf.data.toList.drop 0 = dktX5_overlapOf_0 := by decide +kernel
theorem dksX5_overlapOf_1 : cX5_overlapOf.data.toList.drop 23 = dktX5_overlapOf_1 := dk_seg dksX5_overlapOf_0 23 rfl rfl
theorem dX5_overlapOf_0 : decode cX5_overlapOf 0 = .ok (.aload_n 0, 1) := dk_42 (dk_at dksX5_overlapOf_0 0 rfl rfl)
theorem dX5_overlapOf_1 : decode cX5_overlapOf 1 = .ok (.iload_n 1, 1) := dk_27 (dk_at dksX5_overlapOf_0 1 rfl rfl)
theorem dX5_overlapOf_2 : decode cX5_overlapOf 2 = .ok (.invokevirtual 425, 3) := dk_182 1 169 (dk_at dksX5_overlapOf_0 2 rfl rfl)
theorem dX5_overlapOf_5 : decode cX5_overlapOf 5 = .ok (.aload_n 0, 1) := dk_42 (dk_at dksX5_overlapOf_0 5 rfl rfl)
theorem dX5_overlapOf_6 : decode cX5_overlapOf 6 = .ok (.getfield 422, 3) := dk_180 1 166 (dk_at dksX5_overlapOf_0 6 rfl rfl)
theorem dX5_overlapOf_9 : decode cX5_overlapOf 9 = .ok (.ifCond .le 7, 3) := dk_158 0 7 (dk_at dksX5_overlapOf_0 9 rfl rfl)
theorem dX5_overlapOf_12 : decode cX5_overlapOf 12 = .ok (.iconst (-1), 1) := dk_2 (dk_at dksX5_overlapOf_0 12 rfl rfl)
theorem dX5_overlapOf_13 : decode cX5_overlapOf 13 = .ok (.goto 17, 3) := dk_167 0 17 (dk_at dksX5_overlapOf_0 13 rfl rfl)
theorem dX5_overlapOf_16 : decode cX5_overlapOf 16 = .ok (.aload_n 0, 1) := dk_42 (dk_at dksX5_overlapOf_0 16 rfl rfl)
theorem dX5_overlapOf_17 : decode cX5_overlapOf 17 = .ok (.getfield 7, 3) := dk_180 0 7 (dk_at dksX5_overlapOf_0 17 rfl rfl)
theorem dX5_overlapOf_20 : decode cX5_overlapOf 20 = .ok (.iconst 0, 1) := dk_3 (dk_at dksX5_overlapOf_0 20 rfl rfl)
theorem dX5_overlapOf_21 : decode cX5_overlapOf 21 = .ok (.iaload, 1) := dk_46 (dk_at dksX5_overlapOf_0 21 rfl rfl)
theorem dX5_overlapOf_22 : decode cX5_overlapOf 22 = .ok (.aload_n 0, 1) := dk_42 (dk_at dksX5_overlapOf_0 22 rfl rfl)
theorem dX5_overlapOf_23 : decode cX5_overlapOf 23 = .ok (.getfield 419, 3) := dk_180 1 163 (dk_at dksX5_overlapOf_1 0 rfl rfl)
theorem dX5_overlapOf_26 : decode cX5_overlapOf 26 = .ok (.invokestatic 395, 3) := dk_184 1 139 (dk_at dksX5_overlapOf_1 3 rfl rfl)
theorem dX5_overlapOf_29 : decode cX5_overlapOf 29 = .ok (.isub, 1) := dk_100 (dk_at dksX5_overlapOf_1 6 rfl rfl)
theorem dX5_overlapOf_30 : decode cX5_overlapOf 30 = .ok (.ireturn, 1) := dk_172 (dk_at dksX5_overlapOf_1 7 rfl rfl)
abbrev cX5_agreeing : ByteArray := prog_16_method_124_code
def yX5_agreeing : MethodName := ⟨RX5, "agreeing", "(I)I"⟩
def dkwX5_agreeing_0 : List UInt8 := [42, 27, 182, 1, 157, 154, 0, 5, 3, 172, 42, 27, 182, 1, 169, 42, 180, 1, 163, 172]
abbrev dktX5_agreeing_0 : List UInt8 := dkwX5_agreeing_0 ++ []
theorem dksX5_agreeing_0 : cX5_agreeing.data.toList.drop 0 = dktX5_agreeing_0 := by decide +kernel
theorem dX5_agreeing_0 : decode cX5_agreeing 0 = .ok (.aload_n 0, 1) := dk_42 (dk_at dksX5_agreeing_0 0 rfl rfl)
theorem dX5_agreeing_1 : decode cX5_agreeing 1 = .ok (.iload_n 1, 1) := dk_27 (dk_at dksX5_agreeing_0 1 rfl rfl)
theorem dX5_agreeing_2 : decode cX5_agreeing 2 = .ok (.invokevirtual 413, 3) := dk_182 1 157 (dk_at dksX5_agreeing_0 2 rfl rfl)
theorem dX5_agreeing_5 : decode cX5_agreeing 5 = .ok (.ifCond .ne 5, 3) := dk_154 0 5 (dk_at dksX5_agreeing_0 5 rfl rfl)
theorem dX5_agreeing_8 : decode cX5_agreeing 8 = .ok (.iconst 0, 1) := dk_3 (dk_at dksX5_agreeing_0 8 rfl rfl)
theorem dX5_agreeing_9 : decode cX5_agreeing 9 = .ok (.ireturn, 1) := dk_172 (dk_at dksX5_agreeing_0 9 rfl rfl)
theorem dX5_agreeing_10 : decode cX5_agreeing 10 = .ok (.aload_n 0, 1) := dk_42 (dk_at dksX5_agreeing_0 10 rfl rfl)
theorem dX5_agreeing_11 : decode cX5_agreeing 11 = .ok (.iload_n 1, 1) := dk_27 (dk_at dksX5_agreeing_0 11 rfl rfl)
theorem dX5_agreeing_12 : decode cX5_agreeing 12 = .ok (.invokevirtual 425, 3) := dk_182 1 169 (dk_at dksX5_agreeing_0 12 rfl rfl)
theorem dX5_agreeing_15 : decode cX5_agreeing 15 = .ok (.aload_n 0, 1) := dk_42 (dk_at dksX5_agreeing_0 15 rfl rfl)
theorem dX5_agreeing_16 : decode cX5_agreeing 16 = .ok (.getfield 419, 3) := dk_180 1 163 (dk_at dksX5_agreeing_0 16 rfl rfl)
theorem dX5_agreeing_19 : decode cX5_agreeing 19 = .ok (.ireturn, 1) := dk_172 (dk_at dksX5_agreeing_0 19 rfl rfl)
abbrev cX5_outsiders : ByteArray := prog_16_method_125_code
def yX5_outsiders : MethodName := ⟨RX5, "outsiders", "(I)I"⟩
def dkwX5_outsiders_3 : List UInt8 := [29, 120, 128, 61, 42, 180, 0, 16, 42, 180, 0, 7, 184, 0, 83, 132, 3, 1, 167, 255, 192, 28, 172]
abbrev dktX5_outsiders_3 : List UInt8 := dkwX5_outsiders_3 ++ []
def dkwX5_outsiders_2 : List UInt8 := [180, 0, 102, 54, 5, 42, 27, 182, 1, 160, 42, 21, 4, 21, 5, 182, 0, 183, 2, 160, 0, 9, 28, 4]
abbrev dktX5_outsiders_2 : List UInt8 := dkwX5_outsiders_2 ++ dktX5_outsiders_3
def dkwX5_outsiders_1 : List UInt8 := [62, 29, 42, 180, 0, 7, 3, 46, 162, 0, 60, 42, 29, 182, 0, 116, 42, 180, 0, 99, 54, 4, 42]
abbrev dktX5_outsiders_1 : List UInt8 := dkwX5_outsiders_1 ++ dktX5_outsiders_2
def dkwX5_outsiders_0 : List UInt8 := [42, 27, 182, 1, 157, 154, 0, 5, 3, 172, 3, 61, 42, 180, 0, 7, 42, 180, 0, 16, 184, 0, 83, 3]
abbrev dktX5_outsiders_0 : List UInt8 := dkwX5_outsiders_0 ++ dktX5_outsiders_1
theorem dksX5_outsiders_0 : cX5_outsiders.data.toList.drop 0 = dktX5_outsiders_0 := by decide +kernel
theorem dksX5_outsiders_1 : cX5_outsiders.data.toList.drop 24 = dktX5_outsiders_1 := dk_seg dksX5_outsiders_0 24 rfl rfl
theorem dksX5_outsiders_2 : cX5_outsiders.data.toList.drop 47 = dktX5_outsiders_2 := dk_seg dksX5_outsiders_1 23 rfl rfl
theorem dksX5_outsiders_3 : cX5_outsiders.data.toList.drop 71 = dktX5_outsiders_3 := dk_seg dksX5_outsiders_2 24 rfl rfl
theorem dX5_outsiders_0 : decode cX5_outsiders 0 = .ok (.aload_n 0, 1) := dk_42 (dk_at dksX5_outsiders_0 0 rfl rfl)
theorem dX5_outsiders_1 : decode cX5_outsiders 1 = .ok (.iload_n 1, 1) := dk_27 (dk_at dksX5_outsiders_0 1 rfl rfl)
theorem dX5_outsiders_2 : decode cX5_outsiders 2 = .ok (.invokevirtual 413, 3) := dk_182 1 157 (dk_at dksX5_outsiders_0 2 rfl rfl)
theorem dX5_outsiders_5 : decode cX5_outsiders 5 = .ok (.ifCond .ne 5, 3) := dk_154 0 5 (dk_at dksX5_outsiders_0 5 rfl rfl)
theorem dX5_outsiders_8 : decode cX5_outsiders 8 = .ok (.iconst 0, 1) := dk_3 (dk_at dksX5_outsiders_0 8 rfl rfl)
theorem dX5_outsiders_9 : decode cX5_outsiders 9 = .ok (.ireturn, 1) := dk_172 (dk_at dksX5_outsiders_0 9 rfl rfl)
theorem dX5_outsiders_10 : decode cX5_outsiders 10 = .ok (.iconst 0, 1) := dk_3 (dk_at dksX5_outsiders_0 10 rfl rfl)
theorem dX5_outsiders_11 : decode cX5_outsiders 11 = .ok (.istore_n 2, 1) := dk_61 (dk_at dksX5_outsiders_0 11 rfl rfl)
theorem dX5_outsiders_12 : decode cX5_outsiders 12 = .ok (.aload_n 0, 1) := dk_42 (dk_at dksX5_outsiders_0 12 rfl rfl)
theorem dX5_outsiders_13 : decode cX5_outsiders 13 = .ok (.getfield 7, 3) := dk_180 0 7 (dk_at dksX5_outsiders_0 13 rfl rfl)
theorem dX5_outsiders_16 : decode cX5_outsiders 16 = .ok (.aload_n 0, 1) := dk_42 (dk_at dksX5_outsiders_0 16 rfl rfl)
theorem dX5_outsiders_17 : decode cX5_outsiders 17 = .ok (.getfield 16, 3) := dk_180 0 16 (dk_at dksX5_outsiders_0 17 rfl rfl)
theorem dX5_outsiders_20 : decode cX5_outsiders 20 = .ok (.invokestatic 83, 3) := dk_184 0 83 (dk_at dksX5_outsiders_0 20 rfl rfl)
theorem dX5_outsiders_23 : decode cX5_outsiders 23 = .ok (.iconst 0, 1) := dk_3 (dk_at dksX5_outsiders_0 23 rfl rfl)
theorem dX5_outsiders_24 : decode cX5_outsiders 24 = .ok (.istore_n 3, 1) := dk_62 (dk_at dksX5_outsiders_1 0 rfl rfl)
theorem dX5_outsiders_25 : decode cX5_outsiders 25 = .ok (.iload_n 3, 1) := dk_29 (dk_at dksX5_outsiders_1 1 rfl rfl)
theorem dX5_outsiders_26 : decode cX5_outsiders 26 = .ok (.aload_n 0, 1) := dk_42 (dk_at dksX5_outsiders_1 2 rfl rfl)
theorem dX5_outsiders_27 : decode cX5_outsiders 27 = .ok (.getfield 7, 3) := dk_180 0 7 (dk_at dksX5_outsiders_1 3 rfl rfl)
theorem dX5_outsiders_30 : decode cX5_outsiders 30 = .ok (.iconst 0, 1) := dk_3 (dk_at dksX5_outsiders_1 6 rfl rfl)
theorem dX5_outsiders_31 : decode cX5_outsiders 31 = .ok (.iaload, 1) := dk_46 (dk_at dksX5_outsiders_1 7 rfl rfl)
theorem dX5_outsiders_32 : decode cX5_outsiders 32 = .ok (.if_icmp .ge 60, 3) := dk_162 0 60 (dk_at dksX5_outsiders_1 8 rfl rfl)
theorem dX5_outsiders_35 : decode cX5_outsiders 35 = .ok (.aload_n 0, 1) := dk_42 (dk_at dksX5_outsiders_1 11 rfl rfl)
theorem dX5_outsiders_36 : decode cX5_outsiders 36 = .ok (.iload_n 3, 1) := dk_29 (dk_at dksX5_outsiders_1 12 rfl rfl)
theorem dX5_outsiders_37 : decode cX5_outsiders 37 = .ok (.invokevirtual 116, 3) := dk_182 0 116 (dk_at dksX5_outsiders_1 13 rfl rfl)
theorem dX5_outsiders_40 : decode cX5_outsiders 40 = .ok (.aload_n 0, 1) := dk_42 (dk_at dksX5_outsiders_1 16 rfl rfl)
theorem dX5_outsiders_41 : decode cX5_outsiders 41 = .ok (.getfield 99, 3) := dk_180 0 99 (dk_at dksX5_outsiders_1 17 rfl rfl)
theorem dX5_outsiders_44 : decode cX5_outsiders 44 = .ok (.istore 4, 2) := dk_54 4 (dk_at dksX5_outsiders_1 20 rfl rfl)
theorem dX5_outsiders_46 : decode cX5_outsiders 46 = .ok (.aload_n 0, 1) := dk_42 (dk_at dksX5_outsiders_1 22 rfl rfl)
theorem dX5_outsiders_47 : decode cX5_outsiders 47 = .ok (.getfield 102, 3) := dk_180 0 102 (dk_at dksX5_outsiders_2 0 rfl rfl)
theorem dX5_outsiders_50 : decode cX5_outsiders 50 = .ok (.istore 5, 2) := dk_54 5 (dk_at dksX5_outsiders_2 3 rfl rfl)
theorem dX5_outsiders_52 : decode cX5_outsiders 52 = .ok (.aload_n 0, 1) := dk_42 (dk_at dksX5_outsiders_2 5 rfl rfl)
theorem dX5_outsiders_53 : decode cX5_outsiders 53 = .ok (.iload_n 1, 1) := dk_27 (dk_at dksX5_outsiders_2 6 rfl rfl)
theorem dX5_outsiders_54 : decode cX5_outsiders 54 = .ok (.invokevirtual 416, 3) := dk_182 1 160 (dk_at dksX5_outsiders_2 7 rfl rfl)
theorem dX5_outsiders_57 : decode cX5_outsiders 57 = .ok (.aload_n 0, 1) := dk_42 (dk_at dksX5_outsiders_2 10 rfl rfl)
theorem dX5_outsiders_58 : decode cX5_outsiders 58 = .ok (.iload 4, 2) := dk_21 4 (dk_at dksX5_outsiders_2 11 rfl rfl)
theorem dX5_outsiders_60 : decode cX5_outsiders 60 = .ok (.iload 5, 2) := dk_21 5 (dk_at dksX5_outsiders_2 13 rfl rfl)
theorem dX5_outsiders_62 : decode cX5_outsiders 62 = .ok (.invokevirtual 183, 3) := dk_182 0 183 (dk_at dksX5_outsiders_2 15 rfl rfl)
theorem dX5_outsiders_65 : decode cX5_outsiders 65 = .ok (.iconst (-1), 1) := dk_2 (dk_at dksX5_outsiders_2 18 rfl rfl)
theorem dX5_outsiders_66 : decode cX5_outsiders 66 = .ok (.if_icmp .ne 9, 3) := dk_160 0 9 (dk_at dksX5_outsiders_2 19 rfl rfl)
theorem dX5_outsiders_69 : decode cX5_outsiders 69 = .ok (.iload_n 2, 1) := dk_28 (dk_at dksX5_outsiders_2 22 rfl rfl)
theorem dX5_outsiders_70 : decode cX5_outsiders 70 = .ok (.iconst 1, 1) := dk_4 (dk_at dksX5_outsiders_2 23 rfl rfl)
theorem dX5_outsiders_71 : decode cX5_outsiders 71 = .ok (.iload_n 3, 1) := dk_29 (dk_at dksX5_outsiders_3 0 rfl rfl)
theorem dX5_outsiders_72 : decode cX5_outsiders 72 = .ok (.ishl, 1) := dk_120 (dk_at dksX5_outsiders_3 1 rfl rfl)
theorem dX5_outsiders_73 : decode cX5_outsiders 73 = .ok (.ior, 1) := dk_128 (dk_at dksX5_outsiders_3 2 rfl rfl)
theorem dX5_outsiders_74 : decode cX5_outsiders 74 = .ok (.istore_n 2, 1) := dk_61 (dk_at dksX5_outsiders_3 3 rfl rfl)
theorem dX5_outsiders_75 : decode cX5_outsiders 75 = .ok (.aload_n 0, 1) := dk_42 (dk_at dksX5_outsiders_3 4 rfl rfl)
theorem dX5_outsiders_76 : decode cX5_outsiders 76 = .ok (.getfield 16, 3) := dk_180 0 16 (dk_at dksX5_outsiders_3 5 rfl rfl)
theorem dX5_outsiders_79 : decode cX5_outsiders 79 = .ok (.aload_n 0, 1) := dk_42 (dk_at dksX5_outsiders_3 8 rfl rfl)
theorem dX5_outsiders_80 : decode cX5_outsiders 80 = .ok (.getfield 7, 3) := dk_180 0 7 (dk_at dksX5_outsiders_3 9 rfl rfl)
theorem dX5_outsiders_83 : decode cX5_outsiders 83 = .ok (.invokestatic 83, 3) := dk_184 0 83 (dk_at dksX5_outsiders_3 12 rfl rfl)
theorem dX5_outsiders_86 : decode cX5_outsiders 86 = .ok (.iinc 3 1, 3) := dk_132 3 1 (dk_at dksX5_outsiders_3 15 rfl rfl)
theorem dX5_outsiders_89 : decode cX5_outsiders 89 = .ok (.goto (-64), 3) := dk_167 255 192 (dk_at dksX5_outsiders_3 18 rfl rfl)
theorem dX5_outsiders_92 : decode cX5_outsiders 92 = .ok (.iload_n 2, 1) := dk_28 (dk_at dksX5_outsiders_3 21 rfl rfl)
theorem dX5_outsiders_93 : decode cX5_outsiders 93 = .ok (.ireturn, 1) := dk_172 (dk_at dksX5_outsiders_3 22 rfl rfl)
abbrev cX5_innerSquare : ByteArray := prog_16_method_126_code
def yX5_innerSquare : MethodName := ⟨RX5, "innerSquare", "(I)F"⟩
def dkwX5_innerSquare_1 : List UInt8 := [167, 0, 9, 12, 4, 28, 120, 134, 110, 174]
abbrev dktX5_innerSquare_1 : List UInt8 := dkwX5_innerSquare_1 ++ []
def dkwX5_innerSquare_0 : List UInt8 := [42, 27, 182, 1, 157, 153, 0, 11, 42, 27, 182, 1, 172, 167, 0, 4, 2, 61, 28, 2, 160, 0, 7, 11]
abbrev dktX5_innerSquare_0 : List UInt8 := dkwX5_innerSquare_0 ++ dktX5_innerSquare_1
theorem dksX5_innerSquare_0 : cX5_innerSquare.data.toList.drop 0 = dktX5_innerSquare_0 := by decide +kernel
theorem dksX5_innerSquare_1 : cX5_innerSquare.data.toList.drop 24 = dktX5_innerSquare_1 := dk_seg dksX5_innerSquare_0 24 rfl rfl
theorem dX5_innerSquare_0 : decode cX5_innerSquare 0 = .ok (.aload_n 0, 1) := dk_42 (dk_at dksX5_innerSquare_0 0 rfl rfl)
theorem dX5_innerSquare_1 : decode cX5_innerSquare 1 = .ok (.iload_n 1, 1) := dk_27 (dk_at dksX5_innerSquare_0 1 rfl rfl)
theorem dX5_innerSquare_2 : decode cX5_innerSquare 2 = .ok (.invokevirtual 413, 3) := dk_182 1 157 (dk_at dksX5_innerSquare_0 2 rfl rfl)
theorem dX5_innerSquare_5 : decode cX5_innerSquare 5 = .ok (.ifCond .eq 11, 3) := dk_153 0 11 (dk_at dksX5_innerSquare_0 5 rfl rfl)
theorem dX5_innerSquare_8 : decode cX5_innerSquare 8 = .ok (.aload_n 0, 1) := dk_42 (dk_at dksX5_innerSquare_0 8 rfl rfl)
theorem dX5_innerSquare_9 : decode cX5_innerSquare 9 = .ok (.iload_n 1, 1) := dk_27 (dk_at dksX5_innerSquare_0 9 rfl rfl)
theorem dX5_innerSquare_10 : decode cX5_innerSquare 10 = .ok (.invokevirtual 428, 3) := dk_182 1 172 (dk_at dksX5_innerSquare_0 10 rfl rfl)
theorem dX5_innerSquare_13 : decode cX5_innerSquare 13 = .ok (.goto 4, 3) := dk_167 0 4 (dk_at dksX5_innerSquare_0 13 rfl rfl)
theorem dX5_innerSquare_16 : decode cX5_innerSquare 16 = .ok (.iconst (-1), 1) := dk_2 (dk_at dksX5_innerSquare_0 16 rfl rfl)
theorem dX5_innerSquare_17 : decode cX5_innerSquare 17 = .ok (.istore_n 2, 1) := dk_61 (dk_at dksX5_innerSquare_0 17 rfl rfl)
theorem dX5_innerSquare_18 : decode cX5_innerSquare 18 = .ok (.iload_n 2, 1) := dk_28 (dk_at dksX5_innerSquare_0 18 rfl rfl)
theorem dX5_innerSquare_19 : decode cX5_innerSquare 19 = .ok (.iconst (-1), 1) := dk_2 (dk_at dksX5_innerSquare_0 19 rfl rfl)
theorem dX5_innerSquare_20 : decode cX5_innerSquare 20 = .ok (.if_icmp .ne 7, 3) := dk_160 0 7 (dk_at dksX5_innerSquare_0 20 rfl rfl)
theorem dX5_innerSquare_23 : decode cX5_innerSquare 23 = .ok (.fconst 0, 1) := dk_11 (dk_at dksX5_innerSquare_0 23 rfl rfl)
theorem dX5_innerSquare_24 : decode cX5_innerSquare 24 = .ok (.goto 9, 3) := dk_167 0 9 (dk_at dksX5_innerSquare_1 0 rfl rfl)
theorem dX5_innerSquare_27 : decode cX5_innerSquare 27 = .ok (.fconst 1, 1) := dk_12 (dk_at dksX5_innerSquare_1 3 rfl rfl)
theorem dX5_innerSquare_28 : decode cX5_innerSquare 28 = .ok (.iconst 1, 1) := dk_4 (dk_at dksX5_innerSquare_1 4 rfl rfl)
theorem dX5_innerSquare_29 : decode cX5_innerSquare 29 = .ok (.iload_n 2, 1) := dk_28 (dk_at dksX5_innerSquare_1 5 rfl rfl)
theorem dX5_innerSquare_30 : decode cX5_innerSquare 30 = .ok (.ishl, 1) := dk_120 (dk_at dksX5_innerSquare_1 6 rfl rfl)
theorem dX5_innerSquare_31 : decode cX5_innerSquare 31 = .ok (.i2f, 1) := dk_134 (dk_at dksX5_innerSquare_1 7 rfl rfl)
theorem dX5_innerSquare_32 : decode cX5_innerSquare 32 = .ok (.fdiv, 1) := dk_110 (dk_at dksX5_innerSquare_1 8 rfl rfl)
theorem dX5_innerSquare_33 : decode cX5_innerSquare 33 = .ok (.freturn, 1) := dk_174 (dk_at dksX5_innerSquare_1 9 rfl rfl)
abbrev cX5_print : ByteArray := prog_16_method_131_code
def yX5_print : MethodName := ⟨RX5, "print", "(Z)I"⟩
def dkwX5_print_4 : List UInt8 := [132, 2, 1, 167, 255, 191, 42, 180, 0, 16, 42, 180, 0, 7, 184, 0, 83, 42, 180, 1, 175, 172]
abbrev dktX5_print_4 : List UInt8 := dkwX5_print_4 ++ []
def dkwX5_print_3 : List UInt8 := [16, 6, 28, 96, 46, 42, 180, 0, 7, 16, 14, 28, 96, 46, 182, 1, 186, 42, 16, 10, 182, 1, 180]
abbrev dktX5_print_3 : List UInt8 := dkwX5_print_3 ++ dktX5_print_4
def dkwX5_print_2 : List UInt8 := [16, 22, 28, 96, 46, 4, 160, 0, 8, 16, 45, 167, 0, 5, 16, 43, 182, 1, 180, 42, 42, 180, 0, 7]
abbrev dktX5_print_2 : List UInt8 := dkwX5_print_2 ++ dktX5_print_3
def dkwX5_print_1 : List UInt8 := [153, 0, 7, 42, 182, 1, 101, 3, 61, 28, 42, 180, 0, 7, 3, 46, 162, 0, 61, 42, 42, 180, 0, 7]
abbrev dktX5_print_1 : List UInt8 := dkwX5_print_1 ++ dktX5_print_2
def dkwX5_print_0 : List UInt8 := [42, 3, 181, 0, 80, 42, 3, 181, 1, 175, 42, 180, 0, 7, 42, 180, 0, 16, 184, 0, 83, 27]
abbrev dktX5_print_0 : List UInt8 := dkwX5_print_0 ++ dktX5_print_1
theorem dksX5_print_0 : cX5_print.data.toList.drop 0 = dktX5_print_0 := by decide +kernel
theorem dksX5_print_1 : cX5_print.data.toList.drop 22 = dktX5_print_1 := dk_seg dksX5_print_0 22 rfl rfl
theorem dksX5_print_2 : cX5_print.data.toList.drop 46 = dktX5_print_2 := dk_seg dksX5_print_1 24 rfl rfl
theorem dksX5_print_3 : cX5_print.data.toList.drop 70 = dktX5_print_3 := dk_seg dksX5_print_2 24 rfl rfl
theorem dksX5_print_4 : cX5_print.data.toList.drop 93 = dktX5_print_4 := dk_seg dksX5_print_3 23 rfl rfl
theorem dX5_print_0 : decode cX5_print 0 = .ok (.aload_n 0, 1) := dk_42 (dk_at dksX5_print_0 0 rfl rfl)
theorem dX5_print_1 : decode cX5_print 1 = .ok (.iconst 0, 1) := dk_3 (dk_at dksX5_print_0 1 rfl rfl)
theorem dX5_print_2 : decode cX5_print 2 = .ok (.putfield 80, 3) := dk_181 0 80 (dk_at dksX5_print_0 2 rfl rfl)
theorem dX5_print_5 : decode cX5_print 5 = .ok (.aload_n 0, 1) := dk_42 (dk_at dksX5_print_0 5 rfl rfl)
theorem dX5_print_6 : decode cX5_print 6 = .ok (.iconst 0, 1) := dk_3 (dk_at dksX5_print_0 6 rfl rfl)
theorem dX5_print_7 : decode cX5_print 7 = .ok (.putfield 431, 3) := dk_181 1 175 (dk_at dksX5_print_0 7 rfl rfl)
theorem dX5_print_10 : decode cX5_print 10 = .ok (.aload_n 0, 1) := dk_42 (dk_at dksX5_print_0 10 rfl rfl)
theorem dX5_print_11 : decode cX5_print 11 = .ok (.getfield 7, 3) := dk_180 0 7 (dk_at dksX5_print_0 11 rfl rfl)
theorem dX5_print_14 : decode cX5_print 14 = .ok (.aload_n 0, 1) := dk_42 (dk_at dksX5_print_0 14 rfl rfl)
theorem dX5_print_15 : decode cX5_print 15 = .ok (.getfield 16, 3) := dk_180 0 16 (dk_at dksX5_print_0 15 rfl rfl)
theorem dX5_print_18 : decode cX5_print 18 = .ok (.invokestatic 83, 3) := dk_184 0 83 (dk_at dksX5_print_0 18 rfl rfl)
theorem dX5_print_21 : decode cX5_print 21 = .ok (.iload_n 1, 1) := dk_27 (dk_at dksX5_print_0 21 rfl rfl)
theorem dX5_print_22 : decode cX5_print 22 = .ok (.ifCond .eq 7, 3) := dk_153 0 7 (dk_at dksX5_print_1 0 rfl rfl)
theorem dX5_print_25 : decode cX5_print 25 = .ok (.aload_n 0, 1) := dk_42 (dk_at dksX5_print_1 3 rfl rfl)
theorem dX5_print_26 : decode cX5_print 26 = .ok (.invokevirtual 357, 3) := dk_182 1 101 (dk_at dksX5_print_1 4 rfl rfl)
theorem dX5_print_29 : decode cX5_print 29 = .ok (.iconst 0, 1) := dk_3 (dk_at dksX5_print_1 7 rfl rfl)
theorem dX5_print_30 : decode cX5_print 30 = .ok (.istore_n 2, 1) := dk_61 (dk_at dksX5_print_1 8 rfl rfl)
theorem dX5_print_31 : decode cX5_print 31 = .ok (.iload_n 2, 1) := dk_28 (dk_at dksX5_print_1 9 rfl rfl)
theorem dX5_print_32 : decode cX5_print 32 = .ok (.aload_n 0, 1) := dk_42 (dk_at dksX5_print_1 10 rfl rfl)
theorem dX5_print_33 : decode cX5_print 33 = .ok (.getfield 7, 3) := dk_180 0 7 (dk_at dksX5_print_1 11 rfl rfl)
theorem dX5_print_36 : decode cX5_print 36 = .ok (.iconst 0, 1) := dk_3 (dk_at dksX5_print_1 14 rfl rfl)
theorem dX5_print_37 : decode cX5_print 37 = .ok (.iaload, 1) := dk_46 (dk_at dksX5_print_1 15 rfl rfl)
theorem dX5_print_38 : decode cX5_print 38 = .ok (.if_icmp .ge 61, 3) := dk_162 0 61 (dk_at dksX5_print_1 16 rfl rfl)
theorem dX5_print_41 : decode cX5_print 41 = .ok (.aload_n 0, 1) := dk_42 (dk_at dksX5_print_1 19 rfl rfl)
theorem dX5_print_42 : decode cX5_print 42 = .ok (.aload_n 0, 1) := dk_42 (dk_at dksX5_print_1 20 rfl rfl)
theorem dX5_print_43 : decode cX5_print 43 = .ok (.getfield 7, 3) := dk_180 0 7 (dk_at dksX5_print_1 21 rfl rfl)
theorem dX5_print_46 : decode cX5_print 46 = .ok (.bipush 22, 2) := dk_16 22 (dk_at dksX5_print_2 0 rfl rfl)
theorem dX5_print_48 : decode cX5_print 48 = .ok (.iload_n 2, 1) := dk_28 (dk_at dksX5_print_2 2 rfl rfl)
theorem dX5_print_49 : decode cX5_print 49 = .ok (.iadd, 1) := dk_96 (dk_at dksX5_print_2 3 rfl rfl)
theorem dX5_print_50 : decode cX5_print 50 = .ok (.iaload, 1) := dk_46 (dk_at dksX5_print_2 4 rfl rfl)
theorem dX5_print_51 : decode cX5_print 51 = .ok (.iconst 1, 1) := dk_4 (dk_at dksX5_print_2 5 rfl rfl)
theorem dX5_print_52 : decode cX5_print 52 = .ok (.if_icmp .ne 8, 3) := dk_160 0 8 (dk_at dksX5_print_2 6 rfl rfl)
theorem dX5_print_55 : decode cX5_print 55 = .ok (.bipush 45, 2) := dk_16 45 (dk_at dksX5_print_2 9 rfl rfl)
theorem dX5_print_57 : decode cX5_print 57 = .ok (.goto 5, 3) := dk_167 0 5 (dk_at dksX5_print_2 11 rfl rfl)
theorem dX5_print_60 : decode cX5_print 60 = .ok (.bipush 43, 2) := dk_16 43 (dk_at dksX5_print_2 14 rfl rfl)
theorem dX5_print_62 : decode cX5_print 62 = .ok (.invokevirtual 436, 3) := dk_182 1 180 (dk_at dksX5_print_2 16 rfl rfl)
theorem dX5_print_65 : decode cX5_print 65 = .ok (.aload_n 0, 1) := dk_42 (dk_at dksX5_print_2 19 rfl rfl)
theorem dX5_print_66 : decode cX5_print 66 = .ok (.aload_n 0, 1) := dk_42 (dk_at dksX5_print_2 20 rfl rfl)
theorem dX5_print_67 : decode cX5_print 67 = .ok (.getfield 7, 3) := dk_180 0 7 (dk_at dksX5_print_2 21 rfl rfl)
theorem dX5_print_70 : decode cX5_print 70 = .ok (.bipush 6, 2) := dk_16 6 (dk_at dksX5_print_3 0 rfl rfl)
theorem dX5_print_72 : decode cX5_print 72 = .ok (.iload_n 2, 1) := dk_28 (dk_at dksX5_print_3 2 rfl rfl)
theorem dX5_print_73 : decode cX5_print 73 = .ok (.iadd, 1) := dk_96 (dk_at dksX5_print_3 3 rfl rfl)
theorem dX5_print_74 : decode cX5_print 74 = .ok (.iaload, 1) := dk_46 (dk_at dksX5_print_3 4 rfl rfl)
theorem dX5_print_75 : decode cX5_print 75 = .ok (.aload_n 0, 1) := dk_42 (dk_at dksX5_print_3 5 rfl rfl)
theorem dX5_print_76 : decode cX5_print 76 = .ok (.getfield 7, 3) := dk_180 0 7 (dk_at dksX5_print_3 6 rfl rfl)
theorem dX5_print_79 : decode cX5_print 79 = .ok (.bipush 14, 2) := dk_16 14 (dk_at dksX5_print_3 9 rfl rfl)
theorem dX5_print_81 : decode cX5_print 81 = .ok (.iload_n 2, 1) := dk_28 (dk_at dksX5_print_3 11 rfl rfl)
theorem dX5_print_82 : decode cX5_print 82 = .ok (.iadd, 1) := dk_96 (dk_at dksX5_print_3 12 rfl rfl)
theorem dX5_print_83 : decode cX5_print 83 = .ok (.iaload, 1) := dk_46 (dk_at dksX5_print_3 13 rfl rfl)
theorem dX5_print_84 : decode cX5_print 84 = .ok (.invokevirtual 442, 3) := dk_182 1 186 (dk_at dksX5_print_3 14 rfl rfl)
theorem dX5_print_87 : decode cX5_print 87 = .ok (.aload_n 0, 1) := dk_42 (dk_at dksX5_print_3 17 rfl rfl)
theorem dX5_print_88 : decode cX5_print 88 = .ok (.bipush 10, 2) := dk_16 10 (dk_at dksX5_print_3 18 rfl rfl)
theorem dX5_print_90 : decode cX5_print 90 = .ok (.invokevirtual 436, 3) := dk_182 1 180 (dk_at dksX5_print_3 20 rfl rfl)
theorem dX5_print_93 : decode cX5_print 93 = .ok (.iinc 2 1, 3) := dk_132 2 1 (dk_at dksX5_print_4 0 rfl rfl)
theorem dX5_print_96 : decode cX5_print 96 = .ok (.goto (-65), 3) := dk_167 255 191 (dk_at dksX5_print_4 3 rfl rfl)
theorem dX5_print_99 : decode cX5_print 99 = .ok (.aload_n 0, 1) := dk_42 (dk_at dksX5_print_4 6 rfl rfl)
theorem dX5_print_100 : decode cX5_print 100 = .ok (.getfield 16, 3) := dk_180 0 16 (dk_at dksX5_print_4 7 rfl rfl)
theorem dX5_print_103 : decode cX5_print 103 = .ok (.aload_n 0, 1) := dk_42 (dk_at dksX5_print_4 10 rfl rfl)
theorem dX5_print_104 : decode cX5_print 104 = .ok (.getfield 7, 3) := dk_180 0 7 (dk_at dksX5_print_4 11 rfl rfl)
theorem dX5_print_107 : decode cX5_print 107 = .ok (.invokestatic 83, 3) := dk_184 0 83 (dk_at dksX5_print_4 14 rfl rfl)
theorem dX5_print_110 : decode cX5_print 110 = .ok (.aload_n 0, 1) := dk_42 (dk_at dksX5_print_4 17 rfl rfl)
theorem dX5_print_111 : decode cX5_print 111 = .ok (.getfield 431, 3) := dk_180 1 175 (dk_at dksX5_print_4 18 rfl rfl)
theorem dX5_print_114 : decode cX5_print 114 = .ok (.ireturn, 1) := dk_172 (dk_at dksX5_print_4 21 rfl rfl)
abbrev cX5_says : ByteArray := prog_16_method_127_code
def yX5_says : MethodName := ⟨RX5, "says", "(I)V"⟩
def dkwX5_says_0 : List UInt8 := [42, 180, 0, 70, 42, 180, 1, 175, 27, 145, 84, 42, 42, 180, 1, 175, 4, 96, 181, 1, 175, 177]
abbrev dktX5_says_0 : List UInt8 := dkwX5_says_0 ++ []
theorem dksX5_says_0 : cX5_says.data.toList.drop 0 = dktX5_says_0 := by decide +kernel
theorem dX5_says_0 : decode cX5_says 0 = .ok (.aload_n 0, 1) := dk_42 (dk_at dksX5_says_0 0 rfl rfl)
theorem dX5_says_1 : decode cX5_says 1 = .ok (.getfield 70, 3) := dk_180 0 70 (dk_at dksX5_says_0 1 rfl rfl)
theorem dX5_says_4 : decode cX5_says 4 = .ok (.aload_n 0, 1) := dk_42 (dk_at dksX5_says_0 4 rfl rfl)
theorem dX5_says_5 : decode cX5_says 5 = .ok (.getfield 431, 3) := dk_180 1 175 (dk_at dksX5_says_0 5 rfl rfl)
theorem dX5_says_8 : decode cX5_says 8 = .ok (.iload_n 1, 1) := dk_27 (dk_at dksX5_says_0 8 rfl rfl)
theorem dX5_says_9 : decode cX5_says 9 = .ok (.i2b, 1) := dk_145 (dk_at dksX5_says_0 9 rfl rfl)
theorem dX5_says_10 : decode cX5_says 10 = .ok (.bastore, 1) := dk_84 (dk_at dksX5_says_0 10 rfl rfl)
theorem dX5_says_11 : decode cX5_says 11 = .ok (.aload_n 0, 1) := dk_42 (dk_at dksX5_says_0 11 rfl rfl)
theorem dX5_says_12 : decode cX5_says 12 = .ok (.aload_n 0, 1) := dk_42 (dk_at dksX5_says_0 12 rfl rfl)
theorem dX5_says_13 : decode cX5_says 13 = .ok (.getfield 431, 3) := dk_180 1 175 (dk_at dksX5_says_0 13 rfl rfl)
theorem dX5_says_16 : decode cX5_says 16 = .ok (.iconst 1, 1) := dk_4 (dk_at dksX5_says_0 16 rfl rfl)
theorem dX5_says_17 : decode cX5_says 17 = .ok (.iadd, 1) := dk_96 (dk_at dksX5_says_0 17 rfl rfl)
theorem dX5_says_18 : decode cX5_says 18 = .ok (.putfield 431, 3) := dk_181 1 175 (dk_at dksX5_says_0 18 rfl rfl)
theorem dX5_says_21 : decode cX5_says 21 = .ok (.return_, 1) := dk_177 (dk_at dksX5_says_0 21 rfl rfl)
abbrev cX5_saysLetters : ByteArray := prog_16_method_128_code
def yX5_saysLetters : MethodName := ⟨RX5, "saysLetters", "(II)V"⟩
def dkwX5_saysLetters_1 : List UInt8 := [182, 1, 21, 182, 1, 180, 132, 3, 1, 167, 255, 227, 177]
abbrev dktX5_saysLetters_1 : List UInt8 := dkwX5_saysLetters_1 ++ []
def dkwX5_saysLetters_0 : List UInt8 := [3, 62, 29, 42, 180, 0, 7, 3, 46, 162, 0, 25, 42, 19, 1, 178, 27, 28, 29, 184, 0, 95]
abbrev dktX5_saysLetters_0 : List UInt8 := dkwX5_saysLetters_0 ++ dktX5_saysLetters_1
theorem dksX5_saysLetters_0 : cX5_saysLetters.data.toList.drop 0 = dktX5_saysLetters_0 := by decide +kernel
theorem dksX5_saysLetters_1 : cX5_saysLetters.data.toList.drop 22 = dktX5_saysLetters_1 := dk_seg dksX5_saysLetters_0 22 rfl rfl
theorem dX5_saysLetters_0 : decode cX5_saysLetters 0 = .ok (.iconst 0, 1) := dk_3 (dk_at dksX5_saysLetters_0 0 rfl rfl)
theorem dX5_saysLetters_1 : decode cX5_saysLetters 1 = .ok (.istore_n 3, 1) := dk_62 (dk_at dksX5_saysLetters_0 1 rfl rfl)
theorem dX5_saysLetters_2 : decode cX5_saysLetters 2 = .ok (.iload_n 3, 1) := dk_29 (dk_at dksX5_saysLetters_0 2 rfl rfl)
theorem dX5_saysLetters_3 : decode cX5_saysLetters 3 = .ok (.aload_n 0, 1) := dk_42 (dk_at dksX5_saysLetters_0 3 rfl rfl)
theorem dX5_saysLetters_4 : decode cX5_saysLetters 4 = .ok (.getfield 7, 3) := dk_180 0 7 (dk_at dksX5_saysLetters_0 4 rfl rfl)
theorem dX5_saysLetters_7 : decode cX5_saysLetters 7 = .ok (.iconst 0, 1) := dk_3 (dk_at dksX5_saysLetters_0 7 rfl rfl)
theorem dX5_saysLetters_8 : decode cX5_saysLetters 8 = .ok (.iaload, 1) := dk_46 (dk_at dksX5_saysLetters_0 8 rfl rfl)
theorem dX5_saysLetters_9 : decode cX5_saysLetters 9 = .ok (.if_icmp .ge 25, 3) := dk_162 0 25 (dk_at dksX5_saysLetters_0 9 rfl rfl)
theorem dX5_saysLetters_12 : decode cX5_saysLetters 12 = .ok (.aload_n 0, 1) := dk_42 (dk_at dksX5_saysLetters_0 12 rfl rfl)
theorem dX5_saysLetters_13 : decode cX5_saysLetters 13 = .ok (.ldc_w 434, 3) := dk_19 1 178 (dk_at dksX5_saysLetters_0 13 rfl rfl)
theorem dX5_saysLetters_16 : decode cX5_saysLetters 16 = .ok (.iload_n 1, 1) := dk_27 (dk_at dksX5_saysLetters_0 16 rfl rfl)
theorem dX5_saysLetters_17 : decode cX5_saysLetters 17 = .ok (.iload_n 2, 1) := dk_28 (dk_at dksX5_saysLetters_0 17 rfl rfl)
theorem dX5_saysLetters_18 : decode cX5_saysLetters 18 = .ok (.iload_n 3, 1) := dk_29 (dk_at dksX5_saysLetters_0 18 rfl rfl)
theorem dX5_saysLetters_19 : decode cX5_saysLetters 19 = .ok (.invokestatic 95, 3) := dk_184 0 95 (dk_at dksX5_saysLetters_0 19 rfl rfl)
theorem dX5_saysLetters_22 : decode cX5_saysLetters 22 = .ok (.invokevirtual 277, 3) := dk_182 1 21 (dk_at dksX5_saysLetters_1 0 rfl rfl)
theorem dX5_saysLetters_25 : decode cX5_saysLetters 25 = .ok (.invokevirtual 436, 3) := dk_182 1 180 (dk_at dksX5_saysLetters_1 3 rfl rfl)
theorem dX5_saysLetters_28 : decode cX5_saysLetters 28 = .ok (.iinc 3 1, 3) := dk_132 3 1 (dk_at dksX5_saysLetters_1 6 rfl rfl)
theorem dX5_saysLetters_31 : decode cX5_saysLetters 31 = .ok (.goto (-29), 3) := dk_167 255 227 (dk_at dksX5_saysLetters_1 9 rfl rfl)
theorem dX5_saysLetters_34 : decode cX5_saysLetters 34 = .ok (.return_, 1) := dk_177 (dk_at dksX5_saysLetters_1 12 rfl rfl)
abbrev cX5_printProgram : ByteArray := prog_16_method_133_code
def yX5_printProgram : MethodName := ⟨RX5, "printProgram", "()I"⟩
def dkwX5_printProgram_1 : List UInt8 := [182, 1, 192, 132, 1, 1, 167, 255, 240, 42, 180, 1, 175, 172]
abbrev dktX5_printProgram_1 : List UInt8 := dkwX5_printProgram_1 ++ []
def dkwX5_printProgram_0 : List UInt8 := [42, 3, 181, 0, 80, 42, 3, 181, 1, 175, 3, 60, 27, 42, 180, 0, 213, 162, 0, 14, 42, 27]
abbrev dktX5_printProgram_0 : List UInt8 := dkwX5_printProgram_0 ++ dktX5_printProgram_1
theorem dksX5_printProgram_0 : cX5_printProgram.data.toList.drop 0 = dktX5_printProgram_0 := by decide +kernel
theorem dksX5_printProgram_1 : cX5_printProgram.data.toList.drop 22 = dktX5_printProgram_1 := dk_seg dksX5_printProgram_0 22 rfl rfl
theorem dX5_printProgram_0 : decode cX5_printProgram 0 = .ok (.aload_n 0, 1) := dk_42 (dk_at dksX5_printProgram_0 0 rfl rfl)
theorem dX5_printProgram_1 : decode cX5_printProgram 1 = .ok (.iconst 0, 1) := dk_3 (dk_at dksX5_printProgram_0 1 rfl rfl)
theorem dX5_printProgram_2 : decode cX5_printProgram 2 = .ok (.putfield 80, 3) := dk_181 0 80 (dk_at dksX5_printProgram_0 2 rfl rfl)
theorem dX5_printProgram_5 : decode cX5_printProgram 5 = .ok (.aload_n 0, 1) := dk_42 (dk_at dksX5_printProgram_0 5 rfl rfl)
theorem dX5_printProgram_6 : decode cX5_printProgram 6 = .ok (.iconst 0, 1) := dk_3 (dk_at dksX5_printProgram_0 6 rfl rfl)
theorem dX5_printProgram_7 : decode cX5_printProgram 7 = .ok (.putfield 431, 3) := dk_181 1 175 (dk_at dksX5_printProgram_0 7 rfl rfl)
theorem dX5_printProgram_10 : decode cX5_printProgram 10 = .ok (.iconst 0, 1) := dk_3 (dk_at dksX5_printProgram_0 10 rfl rfl)
theorem dX5_printProgram_11 : decode cX5_printProgram 11 = .ok (.istore_n 1, 1) := dk_60 (dk_at dksX5_printProgram_0 11 rfl rfl)
theorem dX5_printProgram_12 : decode cX5_printProgram 12 = .ok (.iload_n 1, 1) := dk_27 (dk_at dksX5_printProgram_0 12 rfl rfl)
theorem dX5_printProgram_13 : decode cX5_printProgram 13 = .ok (.aload_n 0, 1) := dk_42 (dk_at dksX5_printProgram_0 13 rfl rfl)
theorem dX5_printProgram_14 : decode cX5_printProgram 14 = .ok (.getfield 213, 3) := dk_180 0 213 (dk_at dksX5_printProgram_0 14 rfl rfl)
theorem dX5_printProgram_17 : decode cX5_printProgram 17 = .ok (.if_icmp .ge 14, 3) := dk_162 0 14 (dk_at dksX5_printProgram_0 17 rfl rfl)
theorem dX5_printProgram_20 : decode cX5_printProgram 20 = .ok (.aload_n 0, 1) := dk_42 (dk_at dksX5_printProgram_0 20 rfl rfl)
theorem dX5_printProgram_21 : decode cX5_printProgram 21 = .ok (.iload_n 1, 1) := dk_27 (dk_at dksX5_printProgram_0 21 rfl rfl)
theorem dX5_printProgram_22 : decode cX5_printProgram 22 = .ok (.invokevirtual 448, 3) := dk_182 1 192 (dk_at dksX5_printProgram_1 0 rfl rfl)
theorem dX5_printProgram_25 : decode cX5_printProgram 25 = .ok (.iinc 1 1, 3) := dk_132 1 1 (dk_at dksX5_printProgram_1 3 rfl rfl)
theorem dX5_printProgram_28 : decode cX5_printProgram 28 = .ok (.goto (-16), 3) := dk_167 255 240 (dk_at dksX5_printProgram_1 6 rfl rfl)
theorem dX5_printProgram_31 : decode cX5_printProgram 31 = .ok (.aload_n 0, 1) := dk_42 (dk_at dksX5_printProgram_1 9 rfl rfl)
theorem dX5_printProgram_32 : decode cX5_printProgram 32 = .ok (.getfield 431, 3) := dk_180 1 175 (dk_at dksX5_printProgram_1 10 rfl rfl)
theorem dX5_printProgram_35 : decode cX5_printProgram 35 = .ok (.ireturn, 1) := dk_172 (dk_at dksX5_printProgram_1 13 rfl rfl)
abbrev cX5_saysOperation : ByteArray := prog_16_method_132_code
def yX5_saysOperation : MethodName := ⟨RX5, "saysOperation", "(I)V"⟩
def dkwX5_saysOperation_5 : List UInt8 := [182, 1, 183, 42, 16, 59, 182, 1, 180, 177]
abbrev dktX5_saysOperation_5 : List UInt8 := dkwX5_saysOperation_5 ++ []
def dkwX5_saysOperation_4 : List UInt8 := [180, 0, 28, 27, 46, 2, 159, 0, 19, 42, 16, 32, 182, 1, 180, 42, 42, 180, 0, 28, 27, 46]
abbrev dktX5_saysOperation_4 : List UInt8 := dkwX5_saysOperation_4 ++ dktX5_saysOperation_5
def dkwX5_saysOperation_3 : List UInt8 := [42, 180, 0, 37, 27, 46, 182, 1, 186, 167, 0, 39, 42, 42, 180, 0, 25, 27, 46, 182, 1, 183, 42]
abbrev dktX5_saysOperation_3 : List UInt8 := dkwX5_saysOperation_3 ++ dktX5_saysOperation_4
def dkwX5_saysOperation_2 : List UInt8 := [42, 16, 32, 182, 1, 180, 42, 180, 0, 22, 27, 46, 16, 9, 160, 0, 22, 42, 42, 180, 0, 34, 27, 46]
abbrev dktX5_saysOperation_2 : List UInt8 := dkwX5_saysOperation_2 ++ dktX5_saysOperation_3
def dkwX5_saysOperation_1 : List UInt8 := [180, 0, 31, 27, 46, 182, 1, 183, 42, 16, 32, 182, 1, 180, 42, 42, 180, 0, 22, 27, 46, 182, 1, 189]
abbrev dktX5_saysOperation_1 : List UInt8 := dkwX5_saysOperation_1 ++ dktX5_saysOperation_2
def dkwX5_saysOperation_0 : List UInt8 := [42, 180, 0, 31, 27, 46, 2, 159, 0, 31, 42, 16, 10, 182, 1, 189, 42, 16, 32, 182, 1, 180, 42, 42]
abbrev dktX5_saysOperation_0 : List UInt8 := dkwX5_saysOperation_0 ++ dktX5_saysOperation_1
theorem dksX5_saysOperation_0 : cX5_saysOperation.data.toList.drop 0 = dktX5_saysOperation_0 := by decide +kernel
theorem dksX5_saysOperation_1 : cX5_saysOperation.data.toList.drop 24 = dktX5_saysOperation_1 := dk_seg dksX5_saysOperation_0 24 rfl rfl
theorem dksX5_saysOperation_2 : cX5_saysOperation.data.toList.drop 48 = dktX5_saysOperation_2 := dk_seg dksX5_saysOperation_1 24 rfl rfl
theorem dksX5_saysOperation_3 : cX5_saysOperation.data.toList.drop 72 = dktX5_saysOperation_3 := dk_seg dksX5_saysOperation_2 24 rfl rfl
theorem dksX5_saysOperation_4 : cX5_saysOperation.data.toList.drop 95 = dktX5_saysOperation_4 := dk_seg dksX5_saysOperation_3 23 rfl rfl
theorem dksX5_saysOperation_5 : cX5_saysOperation.data.toList.drop 117 = dktX5_saysOperation_5 := dk_seg dksX5_saysOperation_4 22 rfl rfl
theorem dX5_saysOperation_0 : decode cX5_saysOperation 0 = .ok (.aload_n 0, 1) := dk_42 (dk_at dksX5_saysOperation_0 0 rfl rfl)
theorem dX5_saysOperation_1 : decode cX5_saysOperation 1 = .ok (.getfield 31, 3) := dk_180 0 31 (dk_at dksX5_saysOperation_0 1 rfl rfl)
theorem dX5_saysOperation_4 : decode cX5_saysOperation 4 = .ok (.iload_n 1, 1) := dk_27 (dk_at dksX5_saysOperation_0 4 rfl rfl)
theorem dX5_saysOperation_5 : decode cX5_saysOperation 5 = .ok (.iaload, 1) := dk_46 (dk_at dksX5_saysOperation_0 5 rfl rfl)
theorem dX5_saysOperation_6 : decode cX5_saysOperation 6 = .ok (.iconst (-1), 1) := dk_2 (dk_at dksX5_saysOperation_0 6 rfl rfl)
theorem dX5_saysOperation_7 : decode cX5_saysOperation 7 = .ok (.if_icmp .eq 31, 3) := dk_159 0 31 (dk_at dksX5_saysOperation_0 7 rfl rfl)
theorem dX5_saysOperation_10 : decode cX5_saysOperation 10 = .ok (.aload_n 0, 1) := dk_42 (dk_at dksX5_saysOperation_0 10 rfl rfl)
theorem dX5_saysOperation_11 : decode cX5_saysOperation 11 = .ok (.bipush 10, 2) := dk_16 10 (dk_at dksX5_saysOperation_0 11 rfl rfl)
theorem dX5_saysOperation_13 : decode cX5_saysOperation 13 = .ok (.invokevirtual 445, 3) := dk_182 1 189 (dk_at dksX5_saysOperation_0 13 rfl rfl)
theorem dX5_saysOperation_16 : decode cX5_saysOperation 16 = .ok (.aload_n 0, 1) := dk_42 (dk_at dksX5_saysOperation_0 16 rfl rfl)
theorem dX5_saysOperation_17 : decode cX5_saysOperation 17 = .ok (.bipush 32, 2) := dk_16 32 (dk_at dksX5_saysOperation_0 17 rfl rfl)
theorem dX5_saysOperation_19 : decode cX5_saysOperation 19 = .ok (.invokevirtual 436, 3) := dk_182 1 180 (dk_at dksX5_saysOperation_0 19 rfl rfl)
theorem dX5_saysOperation_22 : decode cX5_saysOperation 22 = .ok (.aload_n 0, 1) := dk_42 (dk_at dksX5_saysOperation_0 22 rfl rfl)
theorem dX5_saysOperation_23 : decode cX5_saysOperation 23 = .ok (.aload_n 0, 1) := dk_42 (dk_at dksX5_saysOperation_0 23 rfl rfl)
theorem dX5_saysOperation_24 : decode cX5_saysOperation 24 = .ok (.getfield 31, 3) := dk_180 0 31 (dk_at dksX5_saysOperation_1 0 rfl rfl)
theorem dX5_saysOperation_27 : decode cX5_saysOperation 27 = .ok (.iload_n 1, 1) := dk_27 (dk_at dksX5_saysOperation_1 3 rfl rfl)
theorem dX5_saysOperation_28 : decode cX5_saysOperation 28 = .ok (.iaload, 1) := dk_46 (dk_at dksX5_saysOperation_1 4 rfl rfl)
theorem dX5_saysOperation_29 : decode cX5_saysOperation 29 = .ok (.invokevirtual 439, 3) := dk_182 1 183 (dk_at dksX5_saysOperation_1 5 rfl rfl)
theorem dX5_saysOperation_32 : decode cX5_saysOperation 32 = .ok (.aload_n 0, 1) := dk_42 (dk_at dksX5_saysOperation_1 8 rfl rfl)
theorem dX5_saysOperation_33 : decode cX5_saysOperation 33 = .ok (.bipush 32, 2) := dk_16 32 (dk_at dksX5_saysOperation_1 9 rfl rfl)
theorem dX5_saysOperation_35 : decode cX5_saysOperation 35 = .ok (.invokevirtual 436, 3) := dk_182 1 180 (dk_at dksX5_saysOperation_1 11 rfl rfl)
theorem dX5_saysOperation_38 : decode cX5_saysOperation 38 = .ok (.aload_n 0, 1) := dk_42 (dk_at dksX5_saysOperation_1 14 rfl rfl)
theorem dX5_saysOperation_39 : decode cX5_saysOperation 39 = .ok (.aload_n 0, 1) := dk_42 (dk_at dksX5_saysOperation_1 15 rfl rfl)
theorem dX5_saysOperation_40 : decode cX5_saysOperation 40 = .ok (.getfield 22, 3) := dk_180 0 22 (dk_at dksX5_saysOperation_1 16 rfl rfl)
theorem dX5_saysOperation_43 : decode cX5_saysOperation 43 = .ok (.iload_n 1, 1) := dk_27 (dk_at dksX5_saysOperation_1 19 rfl rfl)
theorem dX5_saysOperation_44 : decode cX5_saysOperation 44 = .ok (.iaload, 1) := dk_46 (dk_at dksX5_saysOperation_1 20 rfl rfl)
theorem dX5_saysOperation_45 : decode cX5_saysOperation 45 = .ok (.invokevirtual 445, 3) := dk_182 1 189 (dk_at dksX5_saysOperation_1 21 rfl rfl)
theorem dX5_saysOperation_48 : decode cX5_saysOperation 48 = .ok (.aload_n 0, 1) := dk_42 (dk_at dksX5_saysOperation_2 0 rfl rfl)
theorem dX5_saysOperation_49 : decode cX5_saysOperation 49 = .ok (.bipush 32, 2) := dk_16 32 (dk_at dksX5_saysOperation_2 1 rfl rfl)
theorem dX5_saysOperation_51 : decode cX5_saysOperation 51 = .ok (.invokevirtual 436, 3) := dk_182 1 180 (dk_at dksX5_saysOperation_2 3 rfl rfl)
theorem dX5_saysOperation_54 : decode cX5_saysOperation 54 = .ok (.aload_n 0, 1) := dk_42 (dk_at dksX5_saysOperation_2 6 rfl rfl)
theorem dX5_saysOperation_55 : decode cX5_saysOperation 55 = .ok (.getfield 22, 3) := dk_180 0 22 (dk_at dksX5_saysOperation_2 7 rfl rfl)
theorem dX5_saysOperation_58 : decode cX5_saysOperation 58 = .ok (.iload_n 1, 1) := dk_27 (dk_at dksX5_saysOperation_2 10 rfl rfl)
theorem dX5_saysOperation_59 : decode cX5_saysOperation 59 = .ok (.iaload, 1) := dk_46 (dk_at dksX5_saysOperation_2 11 rfl rfl)
theorem dX5_saysOperation_60 : decode cX5_saysOperation 60 = .ok (.bipush 9, 2) := dk_16 9 (dk_at dksX5_saysOperation_2 12 rfl rfl)
theorem dX5_saysOperation_62 : decode cX5_saysOperation 62 = .ok (.if_icmp .ne 22, 3) := dk_160 0 22 (dk_at dksX5_saysOperation_2 14 rfl rfl)
theorem dX5_saysOperation_65 : decode cX5_saysOperation 65 = .ok (.aload_n 0, 1) := dk_42 (dk_at dksX5_saysOperation_2 17 rfl rfl)
theorem dX5_saysOperation_66 : decode cX5_saysOperation 66 = .ok (.aload_n 0, 1) := dk_42 (dk_at dksX5_saysOperation_2 18 rfl rfl)
theorem dX5_saysOperation_67 : decode cX5_saysOperation 67 = .ok (.getfield 34, 3) := dk_180 0 34 (dk_at dksX5_saysOperation_2 19 rfl rfl)
theorem dX5_saysOperation_70 : decode cX5_saysOperation 70 = .ok (.iload_n 1, 1) := dk_27 (dk_at dksX5_saysOperation_2 22 rfl rfl)
theorem dX5_saysOperation_71 : decode cX5_saysOperation 71 = .ok (.iaload, 1) := dk_46 (dk_at dksX5_saysOperation_2 23 rfl rfl)
theorem dX5_saysOperation_72 : decode cX5_saysOperation 72 = .ok (.aload_n 0, 1) := dk_42 (dk_at dksX5_saysOperation_3 0 rfl rfl)
theorem dX5_saysOperation_73 : decode cX5_saysOperation 73 = .ok (.getfield 37, 3) := dk_180 0 37 (dk_at dksX5_saysOperation_3 1 rfl rfl)
theorem dX5_saysOperation_76 : decode cX5_saysOperation 76 = .ok (.iload_n 1, 1) := dk_27 (dk_at dksX5_saysOperation_3 4 rfl rfl)
theorem dX5_saysOperation_77 : decode cX5_saysOperation 77 = .ok (.iaload, 1) := dk_46 (dk_at dksX5_saysOperation_3 5 rfl rfl)
theorem dX5_saysOperation_78 : decode cX5_saysOperation 78 = .ok (.invokevirtual 442, 3) := dk_182 1 186 (dk_at dksX5_saysOperation_3 6 rfl rfl)
theorem dX5_saysOperation_81 : decode cX5_saysOperation 81 = .ok (.goto 39, 3) := dk_167 0 39 (dk_at dksX5_saysOperation_3 9 rfl rfl)
theorem dX5_saysOperation_84 : decode cX5_saysOperation 84 = .ok (.aload_n 0, 1) := dk_42 (dk_at dksX5_saysOperation_3 12 rfl rfl)
theorem dX5_saysOperation_85 : decode cX5_saysOperation 85 = .ok (.aload_n 0, 1) := dk_42 (dk_at dksX5_saysOperation_3 13 rfl rfl)
theorem dX5_saysOperation_86 : decode cX5_saysOperation 86 = .ok (.getfield 25, 3) := dk_180 0 25 (dk_at dksX5_saysOperation_3 14 rfl rfl)
theorem dX5_saysOperation_89 : decode cX5_saysOperation 89 = .ok (.iload_n 1, 1) := dk_27 (dk_at dksX5_saysOperation_3 17 rfl rfl)
theorem dX5_saysOperation_90 : decode cX5_saysOperation 90 = .ok (.iaload, 1) := dk_46 (dk_at dksX5_saysOperation_3 18 rfl rfl)
theorem dX5_saysOperation_91 : decode cX5_saysOperation 91 = .ok (.invokevirtual 439, 3) := dk_182 1 183 (dk_at dksX5_saysOperation_3 19 rfl rfl)
theorem dX5_saysOperation_94 : decode cX5_saysOperation 94 = .ok (.aload_n 0, 1) := dk_42 (dk_at dksX5_saysOperation_3 22 rfl rfl)
theorem dX5_saysOperation_95 : decode cX5_saysOperation 95 = .ok (.getfield 28, 3) := dk_180 0 28 (dk_at dksX5_saysOperation_4 0 rfl rfl)
theorem dX5_saysOperation_98 : decode cX5_saysOperation 98 = .ok (.iload_n 1, 1) := dk_27 (dk_at dksX5_saysOperation_4 3 rfl rfl)
theorem dX5_saysOperation_99 : decode cX5_saysOperation 99 = .ok (.iaload, 1) := dk_46 (dk_at dksX5_saysOperation_4 4 rfl rfl)
theorem dX5_saysOperation_100 : decode cX5_saysOperation 100 = .ok (.iconst (-1), 1) := dk_2 (dk_at dksX5_saysOperation_4 5 rfl rfl)
theorem dX5_saysOperation_101 : decode cX5_saysOperation 101 = .ok (.if_icmp .eq 19, 3) := dk_159 0 19 (dk_at dksX5_saysOperation_4 6 rfl rfl)
theorem dX5_saysOperation_104 : decode cX5_saysOperation 104 = .ok (.aload_n 0, 1) := dk_42 (dk_at dksX5_saysOperation_4 9 rfl rfl)
theorem dX5_saysOperation_105 : decode cX5_saysOperation 105 = .ok (.bipush 32, 2) := dk_16 32 (dk_at dksX5_saysOperation_4 10 rfl rfl)
theorem dX5_saysOperation_107 : decode cX5_saysOperation 107 = .ok (.invokevirtual 436, 3) := dk_182 1 180 (dk_at dksX5_saysOperation_4 12 rfl rfl)
theorem dX5_saysOperation_110 : decode cX5_saysOperation 110 = .ok (.aload_n 0, 1) := dk_42 (dk_at dksX5_saysOperation_4 15 rfl rfl)
theorem dX5_saysOperation_111 : decode cX5_saysOperation 111 = .ok (.aload_n 0, 1) := dk_42 (dk_at dksX5_saysOperation_4 16 rfl rfl)
theorem dX5_saysOperation_112 : decode cX5_saysOperation 112 = .ok (.getfield 28, 3) := dk_180 0 28 (dk_at dksX5_saysOperation_4 17 rfl rfl)
theorem dX5_saysOperation_115 : decode cX5_saysOperation 115 = .ok (.iload_n 1, 1) := dk_27 (dk_at dksX5_saysOperation_4 20 rfl rfl)
theorem dX5_saysOperation_116 : decode cX5_saysOperation 116 = .ok (.iaload, 1) := dk_46 (dk_at dksX5_saysOperation_4 21 rfl rfl)
theorem dX5_saysOperation_117 : decode cX5_saysOperation 117 = .ok (.invokevirtual 439, 3) := dk_182 1 183 (dk_at dksX5_saysOperation_5 0 rfl rfl)
theorem dX5_saysOperation_120 : decode cX5_saysOperation 120 = .ok (.aload_n 0, 1) := dk_42 (dk_at dksX5_saysOperation_5 3 rfl rfl)
theorem dX5_saysOperation_121 : decode cX5_saysOperation 121 = .ok (.bipush 59, 2) := dk_16 59 (dk_at dksX5_saysOperation_5 4 rfl rfl)
theorem dX5_saysOperation_123 : decode cX5_saysOperation 123 = .ok (.invokevirtual 436, 3) := dk_182 1 180 (dk_at dksX5_saysOperation_5 6 rfl rfl)
theorem dX5_saysOperation_126 : decode cX5_saysOperation 126 = .ok (.return_, 1) := dk_177 (dk_at dksX5_saysOperation_5 9 rfl rfl)
abbrev cX5_saysWord : ByteArray := prog_16_method_130_code
def yX5_saysWord : MethodName := ⟨RX5, "saysWord", "(I)V"⟩
def dkwX5_saysWord_2 : List UInt8 := [182, 1, 21, 182, 1, 180, 132, 2, 1, 167, 255, 230, 177]
abbrev dktX5_saysWord_2 : List UInt8 := dkwX5_saysWord_2 ++ []
def dkwX5_saysWord_1 : List UInt8 := [62, 132, 2, 1, 167, 255, 232, 19, 1, 15, 28, 182, 1, 21, 16, 32, 159, 0, 20, 42, 19, 1, 15, 28]
abbrev dktX5_saysWord_1 : List UInt8 := dkwX5_saysWord_1 ++ dktX5_saysWord_2
def dkwX5_saysWord_0 : List UInt8 := [3, 61, 3, 62, 29, 27, 162, 0, 25, 19, 1, 15, 28, 182, 1, 21, 16, 32, 160, 0, 7, 29, 4, 96]
abbrev dktX5_saysWord_0 : List UInt8 := dkwX5_saysWord_0 ++ dktX5_saysWord_1
theorem dksX5_saysWord_0 : cX5_saysWord.data.toList.drop 0 = dktX5_saysWord_0 := by decide +kernel
theorem dksX5_saysWord_1 : cX5_saysWord.data.toList.drop 24 = dktX5_saysWord_1 := dk_seg dksX5_saysWord_0 24 rfl rfl
theorem dksX5_saysWord_2 : cX5_saysWord.data.toList.drop 48 = dktX5_saysWord_2 := dk_seg dksX5_saysWord_1 24 rfl rfl
theorem dX5_saysWord_0 : decode cX5_saysWord 0 = .ok (.iconst 0, 1) := dk_3 (dk_at dksX5_saysWord_0 0 rfl rfl)
theorem dX5_saysWord_1 : decode cX5_saysWord 1 = .ok (.istore_n 2, 1) := dk_61 (dk_at dksX5_saysWord_0 1 rfl rfl)
theorem dX5_saysWord_2 : decode cX5_saysWord 2 = .ok (.iconst 0, 1) := dk_3 (dk_at dksX5_saysWord_0 2 rfl rfl)
theorem dX5_saysWord_3 : decode cX5_saysWord 3 = .ok (.istore_n 3, 1) := dk_62 (dk_at dksX5_saysWord_0 3 rfl rfl)
theorem dX5_saysWord_4 : decode cX5_saysWord 4 = .ok (.iload_n 3, 1) := dk_29 (dk_at dksX5_saysWord_0 4 rfl rfl)
theorem dX5_saysWord_5 : decode cX5_saysWord 5 = .ok (.iload_n 1, 1) := dk_27 (dk_at dksX5_saysWord_0 5 rfl rfl)
theorem dX5_saysWord_6 : decode cX5_saysWord 6 = .ok (.if_icmp .ge 25, 3) := dk_162 0 25 (dk_at dksX5_saysWord_0 6 rfl rfl)
theorem dX5_saysWord_9 : decode cX5_saysWord 9 = .ok (.ldc_w 271, 3) := dk_19 1 15 (dk_at dksX5_saysWord_0 9 rfl rfl)
theorem dX5_saysWord_12 : decode cX5_saysWord 12 = .ok (.iload_n 2, 1) := dk_28 (dk_at dksX5_saysWord_0 12 rfl rfl)
theorem dX5_saysWord_13 : decode cX5_saysWord 13 = .ok (.invokevirtual 277, 3) := dk_182 1 21 (dk_at dksX5_saysWord_0 13 rfl rfl)
theorem dX5_saysWord_16 : decode cX5_saysWord 16 = .ok (.bipush 32, 2) := dk_16 32 (dk_at dksX5_saysWord_0 16 rfl rfl)
theorem dX5_saysWord_18 : decode cX5_saysWord 18 = .ok (.if_icmp .ne 7, 3) := dk_160 0 7 (dk_at dksX5_saysWord_0 18 rfl rfl)
theorem dX5_saysWord_21 : decode cX5_saysWord 21 = .ok (.iload_n 3, 1) := dk_29 (dk_at dksX5_saysWord_0 21 rfl rfl)
theorem dX5_saysWord_22 : decode cX5_saysWord 22 = .ok (.iconst 1, 1) := dk_4 (dk_at dksX5_saysWord_0 22 rfl rfl)
theorem dX5_saysWord_23 : decode cX5_saysWord 23 = .ok (.iadd, 1) := dk_96 (dk_at dksX5_saysWord_0 23 rfl rfl)
theorem dX5_saysWord_24 : decode cX5_saysWord 24 = .ok (.istore_n 3, 1) := dk_62 (dk_at dksX5_saysWord_1 0 rfl rfl)
theorem dX5_saysWord_25 : decode cX5_saysWord 25 = .ok (.iinc 2 1, 3) := dk_132 2 1 (dk_at dksX5_saysWord_1 1 rfl rfl)
theorem dX5_saysWord_28 : decode cX5_saysWord 28 = .ok (.goto (-24), 3) := dk_167 255 232 (dk_at dksX5_saysWord_1 4 rfl rfl)
theorem dX5_saysWord_31 : decode cX5_saysWord 31 = .ok (.ldc_w 271, 3) := dk_19 1 15 (dk_at dksX5_saysWord_1 7 rfl rfl)
theorem dX5_saysWord_34 : decode cX5_saysWord 34 = .ok (.iload_n 2, 1) := dk_28 (dk_at dksX5_saysWord_1 10 rfl rfl)
theorem dX5_saysWord_35 : decode cX5_saysWord 35 = .ok (.invokevirtual 277, 3) := dk_182 1 21 (dk_at dksX5_saysWord_1 11 rfl rfl)
theorem dX5_saysWord_38 : decode cX5_saysWord 38 = .ok (.bipush 32, 2) := dk_16 32 (dk_at dksX5_saysWord_1 14 rfl rfl)
theorem dX5_saysWord_40 : decode cX5_saysWord 40 = .ok (.if_icmp .eq 20, 3) := dk_159 0 20 (dk_at dksX5_saysWord_1 16 rfl rfl)
theorem dX5_saysWord_43 : decode cX5_saysWord 43 = .ok (.aload_n 0, 1) := dk_42 (dk_at dksX5_saysWord_1 19 rfl rfl)
theorem dX5_saysWord_44 : decode cX5_saysWord 44 = .ok (.ldc_w 271, 3) := dk_19 1 15 (dk_at dksX5_saysWord_1 20 rfl rfl)
theorem dX5_saysWord_47 : decode cX5_saysWord 47 = .ok (.iload_n 2, 1) := dk_28 (dk_at dksX5_saysWord_1 23 rfl rfl)
theorem dX5_saysWord_48 : decode cX5_saysWord 48 = .ok (.invokevirtual 277, 3) := dk_182 1 21 (dk_at dksX5_saysWord_2 0 rfl rfl)
theorem dX5_saysWord_51 : decode cX5_saysWord 51 = .ok (.invokevirtual 436, 3) := dk_182 1 180 (dk_at dksX5_saysWord_2 3 rfl rfl)
theorem dX5_saysWord_54 : decode cX5_saysWord 54 = .ok (.iinc 2 1, 3) := dk_132 2 1 (dk_at dksX5_saysWord_2 6 rfl rfl)
theorem dX5_saysWord_57 : decode cX5_saysWord 57 = .ok (.goto (-26), 3) := dk_167 255 230 (dk_at dksX5_saysWord_2 9 rfl rfl)
theorem dX5_saysWord_60 : decode cX5_saysWord 60 = .ok (.return_, 1) := dk_177 (dk_at dksX5_saysWord_2 12 rfl rfl)
abbrev cX5_saysNumber : ByteArray := prog_16_method_129_code
def yX5_saysNumber : MethodName := ⟨RX5, "saysNumber", "(I)V"⟩
def dkwX5_saysNumber_1 : List UInt8 := [182, 1, 180, 177]
abbrev dktX5_saysNumber_1 : List UInt8 := dkwX5_saysNumber_1 ++ []
def dkwX5_saysNumber_0 : List UInt8 := [27, 16, 10, 161, 0, 11, 42, 27, 16, 10, 108, 182, 1, 183, 42, 16, 48, 27, 16, 10, 112, 96]
abbrev dktX5_saysNumber_0 : List UInt8 := dkwX5_saysNumber_0 ++ dktX5_saysNumber_1
theorem dksX5_saysNumber_0 : cX5_saysNumber.data.toList.drop 0 = dktX5_saysNumber_0 := by decide +kernel
theorem dksX5_saysNumber_1 : cX5_saysNumber.data.toList.drop 22 = dktX5_saysNumber_1 := dk_seg dksX5_saysNumber_0 22 rfl rfl
theorem dX5_saysNumber_0 : decode cX5_saysNumber 0 = .ok (.iload_n 1, 1) := dk_27 (dk_at dksX5_saysNumber_0 0 rfl rfl)
theorem dX5_saysNumber_1 : decode cX5_saysNumber 1 = .ok (.bipush 10, 2) := dk_16 10 (dk_at dksX5_saysNumber_0 1 rfl rfl)
theorem dX5_saysNumber_3 : decode cX5_saysNumber 3 = .ok (.if_icmp .lt 11, 3) := dk_161 0 11 (dk_at dksX5_saysNumber_0 3 rfl rfl)
theorem dX5_saysNumber_6 : decode cX5_saysNumber 6 = .ok (.aload_n 0, 1) := dk_42 (dk_at dksX5_saysNumber_0 6 rfl rfl)
theorem dX5_saysNumber_7 : decode cX5_saysNumber 7 = .ok (.iload_n 1, 1) := dk_27 (dk_at dksX5_saysNumber_0 7 rfl rfl)
theorem dX5_saysNumber_8 : decode cX5_saysNumber 8 = .ok (.bipush 10, 2) := dk_16 10 (dk_at dksX5_saysNumber_0 8 rfl rfl)
theorem dX5_saysNumber_10 : decode cX5_saysNumber 10 = .ok (.idiv, 1) := dk_108 (dk_at dksX5_saysNumber_0 10 rfl rfl)
theorem dX5_saysNumber_11 : decode cX5_saysNumber 11 = .ok (.invokevirtual 439, 3) := dk_182 1 183 (dk_at dksX5_saysNumber_0 11 rfl rfl)
theorem dX5_saysNumber_14 : decode cX5_saysNumber 14 = .ok (.aload_n 0, 1) := dk_42 (dk_at dksX5_saysNumber_0 14 rfl rfl)
theorem dX5_saysNumber_15 : decode cX5_saysNumber 15 = .ok (.bipush 48, 2) := dk_16 48 (dk_at dksX5_saysNumber_0 15 rfl rfl)
theorem dX5_saysNumber_17 : decode cX5_saysNumber 17 = .ok (.iload_n 1, 1) := dk_27 (dk_at dksX5_saysNumber_0 17 rfl rfl)
theorem dX5_saysNumber_18 : decode cX5_saysNumber 18 = .ok (.bipush 10, 2) := dk_16 10 (dk_at dksX5_saysNumber_0 18 rfl rfl)
theorem dX5_saysNumber_20 : decode cX5_saysNumber 20 = .ok (.irem, 1) := dk_112 (dk_at dksX5_saysNumber_0 20 rfl rfl)
theorem dX5_saysNumber_21 : decode cX5_saysNumber 21 = .ok (.iadd, 1) := dk_96 (dk_at dksX5_saysNumber_0 21 rfl rfl)
theorem dX5_saysNumber_22 : decode cX5_saysNumber 22 = .ok (.invokevirtual 436, 3) := dk_182 1 180 (dk_at dksX5_saysNumber_1 0 rfl rfl)
theorem dX5_saysNumber_25 : decode cX5_saysNumber 25 = .ok (.return_, 1) := dk_177 (dk_at dksX5_saysNumber_1 3 rfl rfl)
abbrev cX5_outputByte : ByteArray := prog_16_method_134_code
def yX5_outputByte : MethodName := ⟨RX5, "outputByte", "(I)I"⟩
def dkwX5_outputByte_1 : List UInt8 := [180, 0, 70, 27, 51, 167, 0, 4, 2, 172]
abbrev dktX5_outputByte_1 : List UInt8 := dkwX5_outputByte_1 ++ []
def dkwX5_outputByte_0 : List UInt8 := [42, 3, 181, 0, 80, 27, 133, 9, 42, 180, 1, 175, 133, 10, 101, 184, 0, 135, 153, 0, 12, 42]
abbrev dktX5_outputByte_0 : List UInt8 := dkwX5_outputByte_0 ++ dktX5_outputByte_1
theorem dksX5_outputByte_0 : cX5_outputByte.data.toList.drop 0 = dktX5_outputByte_0 := by decide +kernel
theorem dksX5_outputByte_1 : cX5_outputByte.data.toList.drop 22 = dktX5_outputByte_1 := dk_seg dksX5_outputByte_0 22 rfl rfl
theorem dX5_outputByte_0 : decode cX5_outputByte 0 = .ok (.aload_n 0, 1) := dk_42 (dk_at dksX5_outputByte_0 0 rfl rfl)
theorem dX5_outputByte_1 : decode cX5_outputByte 1 = .ok (.iconst 0, 1) := dk_3 (dk_at dksX5_outputByte_0 1 rfl rfl)
theorem dX5_outputByte_2 : decode cX5_outputByte 2 = .ok (.putfield 80, 3) := dk_181 0 80 (dk_at dksX5_outputByte_0 2 rfl rfl)
theorem dX5_outputByte_5 : decode cX5_outputByte 5 = .ok (.iload_n 1, 1) := dk_27 (dk_at dksX5_outputByte_0 5 rfl rfl)
theorem dX5_outputByte_6 : decode cX5_outputByte 6 = .ok (.i2l, 1) := dk_133 (dk_at dksX5_outputByte_0 6 rfl rfl)
theorem dX5_outputByte_7 : decode cX5_outputByte 7 = .ok (.lconst 0, 1) := dk_9 (dk_at dksX5_outputByte_0 7 rfl rfl)
theorem dX5_outputByte_8 : decode cX5_outputByte 8 = .ok (.aload_n 0, 1) := dk_42 (dk_at dksX5_outputByte_0 8 rfl rfl)
theorem dX5_outputByte_9 : decode cX5_outputByte 9 = .ok (.getfield 431, 3) := dk_180 1 175 (dk_at dksX5_outputByte_0 9 rfl rfl)
theorem dX5_outputByte_12 : decode cX5_outputByte 12 = .ok (.i2l, 1) := dk_133 (dk_at dksX5_outputByte_0 12 rfl rfl)
theorem dX5_outputByte_13 : decode cX5_outputByte 13 = .ok (.lconst 1, 1) := dk_10 (dk_at dksX5_outputByte_0 13 rfl rfl)
theorem dX5_outputByte_14 : decode cX5_outputByte 14 = .ok (.lsub, 1) := dk_101 (dk_at dksX5_outputByte_0 14 rfl rfl)
theorem dX5_outputByte_15 : decode cX5_outputByte 15 = .ok (.invokestatic 135, 3) := dk_184 0 135 (dk_at dksX5_outputByte_0 15 rfl rfl)
theorem dX5_outputByte_18 : decode cX5_outputByte 18 = .ok (.ifCond .eq 12, 3) := dk_153 0 12 (dk_at dksX5_outputByte_0 18 rfl rfl)
theorem dX5_outputByte_21 : decode cX5_outputByte 21 = .ok (.aload_n 0, 1) := dk_42 (dk_at dksX5_outputByte_0 21 rfl rfl)
theorem dX5_outputByte_22 : decode cX5_outputByte 22 = .ok (.getfield 70, 3) := dk_180 0 70 (dk_at dksX5_outputByte_1 0 rfl rfl)
theorem dX5_outputByte_25 : decode cX5_outputByte 25 = .ok (.iload_n 1, 1) := dk_27 (dk_at dksX5_outputByte_1 3 rfl rfl)
theorem dX5_outputByte_26 : decode cX5_outputByte 26 = .ok (.baload, 1) := dk_51 (dk_at dksX5_outputByte_1 4 rfl rfl)
theorem dX5_outputByte_27 : decode cX5_outputByte 27 = .ok (.goto 4, 3) := dk_167 0 4 (dk_at dksX5_outputByte_1 5 rfl rfl)
theorem dX5_outputByte_30 : decode cX5_outputByte 30 = .ok (.iconst (-1), 1) := dk_2 (dk_at dksX5_outputByte_1 8 rfl rfl)
theorem dX5_outputByte_31 : decode cX5_outputByte 31 = .ok (.ireturn, 1) := dk_172 (dk_at dksX5_outputByte_1 9 rfl rfl)
theorem q132 : (Jvm.Cond.initialized "StringTableauModel") ∈ lw_all := lw_g (lw_at lw_m1 13 rfl) rfl
theorem q1056 : (Jvm.Cond.selects "StringTableauModel" ({ cls := "java/lang/Object", name := "getClass", desc := "()Ljava/lang/Class;" } : Jvm.MethodName) ({ cls := "java/lang/Object", name := "getClass", desc := "()Ljava/lang/Class;" } : Jvm.MethodName)) ∈ lw_all := lw_g (lw_at lw_m4 217 rfl) rfl
theorem q2260 : (Jvm.Cond.selects "StringTableauModel" ({ cls := "java/lang/Object", name := "hashCode", desc := "()I" } : Jvm.MethodName) ({ cls := "java/lang/Object", name := "hashCode", desc := "()I" } : Jvm.MethodName)) ∈ lw_all := lw_g (lw_at lw_m9 221 rfl) rfl
theorem q2618 : (Jvm.Cond.selects "StringTableauModel" ({ cls := "java/lang/Object", name := "equals", desc := "(Ljava/lang/Object;)Z" } : Jvm.MethodName) ({ cls := "java/lang/Object", name := "equals", desc := "(Ljava/lang/Object;)Z" } : Jvm.MethodName)) ∈ lw_all := lw_g (lw_at lw_m11 99 rfl) rfl
theorem q2841 : (Jvm.Cond.instantiable "StringTableauModel" (42 : Nat)) ∈ lw_all := lw_g (lw_at lw_m12 82 rfl) rfl
theorem q2843 : (Jvm.Cond.instanceMethod ({ cls := "StringTableauModel", name := "<init>", desc := "()V" } : Jvm.MethodName)) ∈ lw_all := lw_g (lw_at lw_m12 84 rfl) rfl
theorem q2844 : (Jvm.Cond.code ({ cls := "StringTableauModel", name := "<init>", desc := "()V" } : Jvm.MethodName) prog_16_method_1_code (1 : Nat) (Option.none : Option Jvm.ClassFile.FieldType)) ∈ lw_all := lw_g (lw_at lw_m12 85 rfl) rfl
theorem q2845 : (Jvm.Cond.methodLink "StringTableauModel" (1 : Nat) ({ cls := "java/lang/Object", name := "<init>", desc := "()V" } : Jvm.MethodName)) ∈ lw_all := lw_g (lw_at lw_m12 86 rfl) rfl
theorem q2846 : (Jvm.Cond.methodLink "StringTableauModel" (73 : Nat) ({ cls := "StringTableauModel", name := "begins", desc := "(II)V" } : Jvm.MethodName)) ∈ lw_all := lw_g (lw_at lw_m12 87 rfl) rfl
theorem q2847 : (Jvm.Cond.privateMethod ({ cls := "StringTableauModel", name := "begins", desc := "(II)V" } : Jvm.MethodName)) ∈ lw_tbl := lw_at lw_m12 88 rfl
theorem q2848 : (Jvm.Cond.instanceMethod ({ cls := "StringTableauModel", name := "begins", desc := "(II)V" } : Jvm.MethodName)) ∈ lw_all := lw_g (lw_at lw_m12 89 rfl) rfl
theorem q2849 : (Jvm.Cond.code ({ cls := "StringTableauModel", name := "begins", desc := "(II)V" } : Jvm.MethodName) prog_16_method_2_code (4 : Nat) (Option.none : Option Jvm.ClassFile.FieldType)) ∈ lw_all := lw_g (lw_at lw_m12 90 rfl) rfl
theorem q2850 : (Jvm.Cond.fieldLink "StringTableauModel" (80 : Nat) "StringTableauModel" "told" "I") ∈ lw_all := lw_g (lw_at lw_m12 91 rfl) rfl
theorem q2851 : (Jvm.Cond.fieldLink "StringTableauModel" (7 : Nat) "StringTableauModel" "now" "[I") ∈ lw_all := lw_g (lw_at lw_m12 92 rfl) rfl
theorem q2852 : (Jvm.Cond.fieldLink "StringTableauModel" (13 : Nat) "StringTableauModel" "aside" "[I") ∈ lw_all := lw_g (lw_at lw_m12 93 rfl) rfl
theorem q2853 : (Jvm.Cond.fieldLink "StringTableauModel" (16 : Nat) "StringTableauModel" "tried" "[I") ∈ lw_all := lw_g (lw_at lw_m12 94 rfl) rfl
theorem q2854 : (Jvm.Cond.fieldLink "StringTableauModel" (19 : Nat) "StringTableauModel" "history" "[I") ∈ lw_all := lw_g (lw_at lw_m12 95 rfl) rfl
theorem q2855 : (Jvm.Cond.fieldLink "StringTableauModel" (77 : Nat) "StringTableauModel" "historyMany" "I") ∈ lw_all := lw_g (lw_at lw_m12 96 rfl) rfl
theorem q2856 : (Jvm.Cond.fieldLink "StringTableauModel" (99 : Nat) "StringTableauModel" "outX" "I") ∈ lw_all := lw_g (lw_at lw_m12 97 rfl) rfl
theorem q2857 : (Jvm.Cond.fieldLink "StringTableauModel" (102 : Nat) "StringTableauModel" "outZ" "I") ∈ lw_all := lw_g (lw_at lw_m12 98 rfl) rfl
theorem q2858 : (Jvm.Cond.fieldLink "StringTableauModel" (105 : Nat) "StringTableauModel" "outMinus" "I") ∈ lw_all := lw_g (lw_at lw_m12 99 rfl) rfl
theorem q2859 : (Jvm.Cond.fieldLink "StringTableauModel" (22 : Nat) "StringTableauModel" "kinds" "[I") ∈ lw_all := lw_g (lw_at lw_m12 100 rfl) rfl
theorem q2860 : (Jvm.Cond.fieldLink "StringTableauModel" (25 : Nat) "StringTableauModel" "firsts" "[I") ∈ lw_all := lw_g (lw_at lw_m12 101 rfl) rfl
theorem q2861 : (Jvm.Cond.fieldLink "StringTableauModel" (28 : Nat) "StringTableauModel" "seconds" "[I") ∈ lw_all := lw_g (lw_at lw_m12 102 rfl) rfl
theorem q2862 : (Jvm.Cond.fieldLink "StringTableauModel" (31 : Nat) "StringTableauModel" "whens" "[I") ∈ lw_all := lw_g (lw_at lw_m12 103 rfl) rfl
theorem q2863 : (Jvm.Cond.fieldLink "StringTableauModel" (34 : Nat) "StringTableauModel" "xs" "[I") ∈ lw_all := lw_g (lw_at lw_m12 104 rfl) rfl
theorem q2864 : (Jvm.Cond.fieldLink "StringTableauModel" (37 : Nat) "StringTableauModel" "zs" "[I") ∈ lw_all := lw_g (lw_at lw_m12 105 rfl) rfl
theorem q2865 : (Jvm.Cond.fieldLink "StringTableauModel" (40 : Nat) "StringTableauModel" "signs" "[I") ∈ lw_all := lw_g (lw_at lw_m12 106 rfl) rfl
theorem q2866 : (Jvm.Cond.fieldLink "StringTableauModel" (43 : Nat) "StringTableauModel" "tolds" "[I") ∈ lw_all := lw_g (lw_at lw_m12 107 rfl) rfl
theorem q2867 : (Jvm.Cond.fieldLink "StringTableauModel" (46 : Nat) "StringTableauModel" "numbers" "[I") ∈ lw_all := lw_g (lw_at lw_m12 108 rfl) rfl
theorem q2868 : (Jvm.Cond.fieldLink "StringTableauModel" (213 : Nat) "StringTableauModel" "operations" "I") ∈ lw_all := lw_g (lw_at lw_m12 109 rfl) rfl
theorem q2869 : (Jvm.Cond.fieldLink "StringTableauModel" (49 : Nat) "StringTableauModel" "buffer" "[B") ∈ lw_all := lw_g (lw_at lw_m12 110 rfl) rfl
theorem q2870 : (Jvm.Cond.fieldLink "StringTableauModel" (230 : Nat) "StringTableauModel" "filled" "I") ∈ lw_all := lw_g (lw_at lw_m12 111 rfl) rfl
theorem q2871 : (Jvm.Cond.fieldLink "StringTableauModel" (233 : Nat) "StringTableauModel" "length" "I") ∈ lw_all := lw_g (lw_at lw_m12 112 rfl) rfl
theorem q2872 : (Jvm.Cond.fieldLink "StringTableauModel" (236 : Nat) "StringTableauModel" "at" "I") ∈ lw_all := lw_g (lw_at lw_m12 113 rfl) rfl
theorem q2873 : (Jvm.Cond.fieldLink "StringTableauModel" (242 : Nat) "StringTableauModel" "from" "I") ∈ lw_all := lw_g (lw_at lw_m12 114 rfl) rfl
theorem q2874 : (Jvm.Cond.fieldLink "StringTableauModel" (245 : Nat) "StringTableauModel" "token" "I") ∈ lw_all := lw_g (lw_at lw_m12 115 rfl) rfl
theorem q2875 : (Jvm.Cond.fieldLink "StringTableauModel" (255 : Nat) "StringTableauModel" "word" "I") ∈ lw_all := lw_g (lw_at lw_m12 116 rfl) rfl
theorem q2876 : (Jvm.Cond.fieldLink "StringTableauModel" (268 : Nat) "StringTableauModel" "value" "I") ∈ lw_all := lw_g (lw_at lw_m12 117 rfl) rfl
theorem q2877 : (Jvm.Cond.fieldLink "StringTableauModel" (281 : Nat) "StringTableauModel" "code" "I") ∈ lw_all := lw_g (lw_at lw_m12 118 rfl) rfl
theorem q2878 : (Jvm.Cond.fieldLink "StringTableauModel" (53 : Nat) "StringTableauModel" "offset" "I") ∈ lw_all := lw_g (lw_at lw_m12 119 rfl) rfl
theorem q2879 : (Jvm.Cond.fieldLink "StringTableauModel" (307 : Nat) "StringTableauModel" "qubits" "I") ∈ lw_all := lw_g (lw_at lw_m12 120 rfl) rfl
theorem q2880 : (Jvm.Cond.fieldLink "StringTableauModel" (330 : Nat) "StringTableauModel" "seed" "I") ∈ lw_all := lw_g (lw_at lw_m12 121 rfl) rfl
theorem q2881 : (Jvm.Cond.fieldLink "StringTableauModel" (326 : Nat) "StringTableauModel" "hasSeed" "Z") ∈ lw_all := lw_g (lw_at lw_m12 122 rfl) rfl
theorem q2882 : (Jvm.Cond.fieldLink "StringTableauModel" (322 : Nat) "StringTableauModel" "measures" "I") ∈ lw_all := lw_g (lw_at lw_m12 123 rfl) rfl
theorem q2883 : (Jvm.Cond.fieldLink "StringTableauModel" (57 : Nat) "StringTableauModel" "draft" "[I") ∈ lw_all := lw_g (lw_at lw_m12 124 rfl) rfl
theorem q2884 : (Jvm.Cond.fieldLink "StringTableauModel" (301 : Nat) "StringTableauModel" "drafts" "I") ∈ lw_all := lw_g (lw_at lw_m12 125 rfl) rfl
theorem q2885 : (Jvm.Cond.fieldLink "StringTableauModel" (60 : Nat) "StringTableauModel" "supports" "[I") ∈ lw_all := lw_g (lw_at lw_m12 126 rfl) rfl
theorem q2886 : (Jvm.Cond.fieldLink "StringTableauModel" (63 : Nat) "StringTableauModel" "kept" "[I") ∈ lw_all := lw_g (lw_at lw_m12 127 rfl) rfl
theorem q2887 : (Jvm.Cond.fieldLink "StringTableauModel" (66 : Nat) "StringTableauModel" "isKept" "[Z") ∈ lw_all := lw_g (lw_at lw_m12 128 rfl) rfl
theorem q2888 : (Jvm.Cond.fieldLink "StringTableauModel" (419 : Nat) "StringTableauModel" "alike" "I") ∈ lw_all := lw_g (lw_at lw_m12 129 rfl) rfl
theorem q2889 : (Jvm.Cond.fieldLink "StringTableauModel" (422 : Nat) "StringTableauModel" "unlike" "I") ∈ lw_all := lw_g (lw_at lw_m12 130 rfl) rfl
theorem q2890 : (Jvm.Cond.fieldLink "StringTableauModel" (70 : Nat) "StringTableauModel" "output" "[B") ∈ lw_all := lw_g (lw_at lw_m12 131 rfl) rfl
theorem q2891 : (Jvm.Cond.fieldLink "StringTableauModel" (431 : Nat) "StringTableauModel" "written" "I") ∈ lw_all := lw_g (lw_at lw_m12 132 rfl) rfl
theorem q2892 : (Jvm.Cond.lays "StringTableauModel" "StringTableauModel" "told" "I") ∈ lw_all := lw_g (lw_at lw_m12 133 rfl) rfl
theorem q2893 : (Jvm.Cond.soleField "StringTableauModel" "told") ∈ lw_all := lw_g (lw_at lw_m12 134 rfl) rfl
theorem q2894 : (Jvm.Cond.laysFinal "StringTableauModel" "StringTableauModel" "now" "[I") ∈ lw_all := lw_g (lw_at lw_m12 135 rfl) rfl
theorem q2895 : (Jvm.Cond.soleField "StringTableauModel" "now") ∈ lw_all := lw_g (lw_at lw_m12 136 rfl) rfl
theorem q2896 : (Jvm.Cond.laysFinal "StringTableauModel" "StringTableauModel" "aside" "[I") ∈ lw_all := lw_g (lw_at lw_m12 137 rfl) rfl
theorem q2897 : (Jvm.Cond.soleField "StringTableauModel" "aside") ∈ lw_all := lw_g (lw_at lw_m12 138 rfl) rfl
theorem q2898 : (Jvm.Cond.laysFinal "StringTableauModel" "StringTableauModel" "tried" "[I") ∈ lw_all := lw_g (lw_at lw_m12 139 rfl) rfl
theorem q2899 : (Jvm.Cond.soleField "StringTableauModel" "tried") ∈ lw_all := lw_g (lw_at lw_m12 140 rfl) rfl
theorem q2900 : (Jvm.Cond.laysFinal "StringTableauModel" "StringTableauModel" "history" "[I") ∈ lw_all := lw_g (lw_at lw_m12 141 rfl) rfl
theorem q2901 : (Jvm.Cond.soleField "StringTableauModel" "history") ∈ lw_all := lw_g (lw_at lw_m12 142 rfl) rfl
theorem q2902 : (Jvm.Cond.lays "StringTableauModel" "StringTableauModel" "historyMany" "I") ∈ lw_all := lw_g (lw_at lw_m12 143 rfl) rfl
theorem q2903 : (Jvm.Cond.soleField "StringTableauModel" "historyMany") ∈ lw_all := lw_g (lw_at lw_m12 144 rfl) rfl
theorem q2904 : (Jvm.Cond.lays "StringTableauModel" "StringTableauModel" "outX" "I") ∈ lw_all := lw_g (lw_at lw_m12 145 rfl) rfl
theorem q2905 : (Jvm.Cond.soleField "StringTableauModel" "outX") ∈ lw_all := lw_g (lw_at lw_m12 146 rfl) rfl
theorem q2906 : (Jvm.Cond.lays "StringTableauModel" "StringTableauModel" "outZ" "I") ∈ lw_all := lw_g (lw_at lw_m12 147 rfl) rfl
theorem q2907 : (Jvm.Cond.soleField "StringTableauModel" "outZ") ∈ lw_all := lw_g (lw_at lw_m12 148 rfl) rfl
theorem q2908 : (Jvm.Cond.lays "StringTableauModel" "StringTableauModel" "outMinus" "I") ∈ lw_all := lw_g (lw_at lw_m12 149 rfl) rfl
theorem q2909 : (Jvm.Cond.soleField "StringTableauModel" "outMinus") ∈ lw_all := lw_g (lw_at lw_m12 150 rfl) rfl
theorem q2910 : (Jvm.Cond.laysFinal "StringTableauModel" "StringTableauModel" "kinds" "[I") ∈ lw_all := lw_g (lw_at lw_m12 151 rfl) rfl
theorem q2911 : (Jvm.Cond.soleField "StringTableauModel" "kinds") ∈ lw_all := lw_g (lw_at lw_m12 152 rfl) rfl
theorem q2912 : (Jvm.Cond.laysFinal "StringTableauModel" "StringTableauModel" "firsts" "[I") ∈ lw_all := lw_g (lw_at lw_m12 153 rfl) rfl
theorem q2913 : (Jvm.Cond.soleField "StringTableauModel" "firsts") ∈ lw_all := lw_g (lw_at lw_m12 154 rfl) rfl
theorem q2914 : (Jvm.Cond.laysFinal "StringTableauModel" "StringTableauModel" "seconds" "[I") ∈ lw_all := lw_g (lw_at lw_m12 155 rfl) rfl
theorem q2915 : (Jvm.Cond.soleField "StringTableauModel" "seconds") ∈ lw_all := lw_g (lw_at lw_m12 156 rfl) rfl
theorem q2916 : (Jvm.Cond.laysFinal "StringTableauModel" "StringTableauModel" "whens" "[I") ∈ lw_all := lw_g (lw_at lw_m12 157 rfl) rfl
theorem q2917 : (Jvm.Cond.soleField "StringTableauModel" "whens") ∈ lw_all := lw_g (lw_at lw_m12 158 rfl) rfl
theorem q2918 : (Jvm.Cond.laysFinal "StringTableauModel" "StringTableauModel" "xs" "[I") ∈ lw_all := lw_g (lw_at lw_m12 159 rfl) rfl
theorem q2919 : (Jvm.Cond.soleField "StringTableauModel" "xs") ∈ lw_all := lw_g (lw_at lw_m12 160 rfl) rfl
theorem q2920 : (Jvm.Cond.laysFinal "StringTableauModel" "StringTableauModel" "zs" "[I") ∈ lw_all := lw_g (lw_at lw_m12 161 rfl) rfl
theorem q2921 : (Jvm.Cond.soleField "StringTableauModel" "zs") ∈ lw_all := lw_g (lw_at lw_m12 162 rfl) rfl
theorem q2922 : (Jvm.Cond.laysFinal "StringTableauModel" "StringTableauModel" "signs" "[I") ∈ lw_all := lw_g (lw_at lw_m12 163 rfl) rfl
theorem q2923 : (Jvm.Cond.soleField "StringTableauModel" "signs") ∈ lw_all := lw_g (lw_at lw_m12 164 rfl) rfl
theorem q2924 : (Jvm.Cond.laysFinal "StringTableauModel" "StringTableauModel" "tolds" "[I") ∈ lw_all := lw_g (lw_at lw_m12 165 rfl) rfl
theorem q2925 : (Jvm.Cond.soleField "StringTableauModel" "tolds") ∈ lw_all := lw_g (lw_at lw_m12 166 rfl) rfl
theorem q2926 : (Jvm.Cond.laysFinal "StringTableauModel" "StringTableauModel" "numbers" "[I") ∈ lw_all := lw_g (lw_at lw_m12 167 rfl) rfl
theorem q2927 : (Jvm.Cond.soleField "StringTableauModel" "numbers") ∈ lw_all := lw_g (lw_at lw_m12 168 rfl) rfl
theorem q2928 : (Jvm.Cond.lays "StringTableauModel" "StringTableauModel" "operations" "I") ∈ lw_all := lw_g (lw_at lw_m12 169 rfl) rfl
theorem q2929 : (Jvm.Cond.soleField "StringTableauModel" "operations") ∈ lw_all := lw_g (lw_at lw_m12 170 rfl) rfl
theorem q2930 : (Jvm.Cond.laysFinal "StringTableauModel" "StringTableauModel" "buffer" "[B") ∈ lw_all := lw_g (lw_at lw_m12 171 rfl) rfl
theorem q2931 : (Jvm.Cond.soleField "StringTableauModel" "buffer") ∈ lw_all := lw_g (lw_at lw_m12 172 rfl) rfl
theorem q2932 : (Jvm.Cond.lays "StringTableauModel" "StringTableauModel" "filled" "I") ∈ lw_all := lw_g (lw_at lw_m12 173 rfl) rfl
theorem q2933 : (Jvm.Cond.soleField "StringTableauModel" "filled") ∈ lw_all := lw_g (lw_at lw_m12 174 rfl) rfl
theorem q2934 : (Jvm.Cond.lays "StringTableauModel" "StringTableauModel" "length" "I") ∈ lw_all := lw_g (lw_at lw_m12 175 rfl) rfl
theorem q2935 : (Jvm.Cond.soleField "StringTableauModel" "length") ∈ lw_all := lw_g (lw_at lw_m12 176 rfl) rfl
theorem q2936 : (Jvm.Cond.lays "StringTableauModel" "StringTableauModel" "at" "I") ∈ lw_all := lw_g (lw_at lw_m12 177 rfl) rfl
theorem q2937 : (Jvm.Cond.soleField "StringTableauModel" "at") ∈ lw_all := lw_g (lw_at lw_m12 178 rfl) rfl
theorem q2938 : (Jvm.Cond.lays "StringTableauModel" "StringTableauModel" "from" "I") ∈ lw_all := lw_g (lw_at lw_m12 179 rfl) rfl
theorem q2939 : (Jvm.Cond.soleField "StringTableauModel" "from") ∈ lw_all := lw_g (lw_at lw_m12 180 rfl) rfl
theorem q2940 : (Jvm.Cond.lays "StringTableauModel" "StringTableauModel" "token" "I") ∈ lw_all := lw_g (lw_at lw_m12 181 rfl) rfl
theorem q2941 : (Jvm.Cond.soleField "StringTableauModel" "token") ∈ lw_all := lw_g (lw_at lw_m12 182 rfl) rfl
theorem q2942 : (Jvm.Cond.lays "StringTableauModel" "StringTableauModel" "word" "I") ∈ lw_all := lw_g (lw_at lw_m12 183 rfl) rfl
theorem q2943 : (Jvm.Cond.soleField "StringTableauModel" "word") ∈ lw_all := lw_g (lw_at lw_m12 184 rfl) rfl
theorem q2944 : (Jvm.Cond.lays "StringTableauModel" "StringTableauModel" "value" "I") ∈ lw_all := lw_g (lw_at lw_m12 185 rfl) rfl
theorem q2945 : (Jvm.Cond.soleField "StringTableauModel" "value") ∈ lw_all := lw_g (lw_at lw_m12 186 rfl) rfl
theorem q2946 : (Jvm.Cond.lays "StringTableauModel" "StringTableauModel" "code" "I") ∈ lw_all := lw_g (lw_at lw_m12 187 rfl) rfl
theorem q2947 : (Jvm.Cond.soleField "StringTableauModel" "code") ∈ lw_all := lw_g (lw_at lw_m12 188 rfl) rfl
theorem q2948 : (Jvm.Cond.lays "StringTableauModel" "StringTableauModel" "offset" "I") ∈ lw_all := lw_g (lw_at lw_m12 189 rfl) rfl
theorem q2949 : (Jvm.Cond.soleField "StringTableauModel" "offset") ∈ lw_all := lw_g (lw_at lw_m12 190 rfl) rfl
theorem q2950 : (Jvm.Cond.lays "StringTableauModel" "StringTableauModel" "qubits" "I") ∈ lw_all := lw_g (lw_at lw_m12 191 rfl) rfl
theorem q2951 : (Jvm.Cond.soleField "StringTableauModel" "qubits") ∈ lw_all := lw_g (lw_at lw_m12 192 rfl) rfl
theorem q2952 : (Jvm.Cond.lays "StringTableauModel" "StringTableauModel" "seed" "I") ∈ lw_all := lw_g (lw_at lw_m12 193 rfl) rfl
theorem q2953 : (Jvm.Cond.soleField "StringTableauModel" "seed") ∈ lw_all := lw_g (lw_at lw_m12 194 rfl) rfl
theorem q2954 : (Jvm.Cond.lays "StringTableauModel" "StringTableauModel" "hasSeed" "Z") ∈ lw_all := lw_g (lw_at lw_m12 195 rfl) rfl
theorem q2955 : (Jvm.Cond.soleField "StringTableauModel" "hasSeed") ∈ lw_all := lw_g (lw_at lw_m12 196 rfl) rfl
theorem q2956 : (Jvm.Cond.lays "StringTableauModel" "StringTableauModel" "measures" "I") ∈ lw_all := lw_g (lw_at lw_m12 197 rfl) rfl
theorem q2957 : (Jvm.Cond.soleField "StringTableauModel" "measures") ∈ lw_all := lw_g (lw_at lw_m12 198 rfl) rfl
theorem q2958 : (Jvm.Cond.laysFinal "StringTableauModel" "StringTableauModel" "draft" "[I") ∈ lw_all := lw_g (lw_at lw_m12 199 rfl) rfl
theorem q2959 : (Jvm.Cond.soleField "StringTableauModel" "draft") ∈ lw_all := lw_g (lw_at lw_m12 200 rfl) rfl
theorem q2960 : (Jvm.Cond.lays "StringTableauModel" "StringTableauModel" "drafts" "I") ∈ lw_all := lw_g (lw_at lw_m12 201 rfl) rfl
theorem q2961 : (Jvm.Cond.soleField "StringTableauModel" "drafts") ∈ lw_all := lw_g (lw_at lw_m12 202 rfl) rfl
theorem q2962 : (Jvm.Cond.laysFinal "StringTableauModel" "StringTableauModel" "supports" "[I") ∈ lw_all := lw_g (lw_at lw_m12 203 rfl) rfl
theorem q2963 : (Jvm.Cond.soleField "StringTableauModel" "supports") ∈ lw_all := lw_g (lw_at lw_m12 204 rfl) rfl
theorem q2964 : (Jvm.Cond.laysFinal "StringTableauModel" "StringTableauModel" "kept" "[I") ∈ lw_all := lw_g (lw_at lw_m12 205 rfl) rfl
theorem q2965 : (Jvm.Cond.soleField "StringTableauModel" "kept") ∈ lw_all := lw_g (lw_at lw_m12 206 rfl) rfl
theorem q2966 : (Jvm.Cond.laysFinal "StringTableauModel" "StringTableauModel" "isKept" "[Z") ∈ lw_all := lw_g (lw_at lw_m12 207 rfl) rfl
theorem q2967 : (Jvm.Cond.soleField "StringTableauModel" "isKept") ∈ lw_all := lw_g (lw_at lw_m12 208 rfl) rfl
theorem q2968 : (Jvm.Cond.lays "StringTableauModel" "StringTableauModel" "alike" "I") ∈ lw_all := lw_g (lw_at lw_m12 209 rfl) rfl
theorem q2969 : (Jvm.Cond.soleField "StringTableauModel" "alike") ∈ lw_all := lw_g (lw_at lw_m12 210 rfl) rfl
theorem q2970 : (Jvm.Cond.lays "StringTableauModel" "StringTableauModel" "unlike" "I") ∈ lw_all := lw_g (lw_at lw_m12 211 rfl) rfl
theorem q2971 : (Jvm.Cond.soleField "StringTableauModel" "unlike") ∈ lw_all := lw_g (lw_at lw_m12 212 rfl) rfl
theorem q2972 : (Jvm.Cond.laysFinal "StringTableauModel" "StringTableauModel" "output" "[B") ∈ lw_all := lw_g (lw_at lw_m12 213 rfl) rfl
theorem q2973 : (Jvm.Cond.soleField "StringTableauModel" "output") ∈ lw_all := lw_g (lw_at lw_m12 214 rfl) rfl
theorem q2974 : (Jvm.Cond.lays "StringTableauModel" "StringTableauModel" "written" "I") ∈ lw_all := lw_g (lw_at lw_m12 215 rfl) rfl
theorem q2975 : (Jvm.Cond.soleField "StringTableauModel" "written") ∈ lw_all := lw_g (lw_at lw_m12 216 rfl) rfl
theorem q2976 : (Jvm.Cond.superclass "StringTableauModel" "java/lang/Object") ∈ lw_all := lw_g (lw_at lw_m12 217 rfl) rfl
theorem q2979 : (Jvm.Cond.instanceMethod ({ cls := "StringTableauModel", name := "thrown", desc := "()I" } : Jvm.MethodName)) ∈ lw_all := lw_g (lw_at lw_m12 220 rfl) rfl
theorem q2980 : (Jvm.Cond.selects "StringTableauModel" ({ cls := "StringTableauModel", name := "thrown", desc := "()I" } : Jvm.MethodName) ({ cls := "StringTableauModel", name := "thrown", desc := "()I" } : Jvm.MethodName)) ∈ lw_all := lw_g (lw_at lw_m12 221 rfl) rfl
theorem q2981 : (Jvm.Cond.code ({ cls := "StringTableauModel", name := "thrown", desc := "()I" } : Jvm.MethodName) prog_16_method_3_code (1 : Nat) (Option.some Jvm.ClassFile.FieldType.int)) ∈ lw_all := lw_g (lw_at lw_m12 222 rfl) rfl
theorem q2983 : (Jvm.Cond.instanceMethod ({ cls := "StringTableauModel", name := "undo", desc := "()I" } : Jvm.MethodName)) ∈ lw_all := lw_g (lw_at lw_m12 224 rfl) rfl
theorem q2984 : (Jvm.Cond.selects "StringTableauModel" ({ cls := "StringTableauModel", name := "undo", desc := "()I" } : Jvm.MethodName) ({ cls := "StringTableauModel", name := "undo", desc := "()I" } : Jvm.MethodName)) ∈ lw_all := lw_g (lw_at lw_m12 225 rfl) rfl
theorem q2985 : (Jvm.Cond.code ({ cls := "StringTableauModel", name := "undo", desc := "()I" } : Jvm.MethodName) prog_16_method_13_code (2 : Nat) (Option.some Jvm.ClassFile.FieldType.int)) ∈ lw_all := lw_g (lw_at lw_m12 226 rfl) rfl
theorem q2986 : (Jvm.Cond.methodLink "StringTableauModel" (87 : Nat) ({ cls := "StringTableauModel", name := "is", desc := "(Z)Z" } : Jvm.MethodName)) ∈ lw_all := lw_g (lw_at lw_m12 227 rfl) rfl
theorem q2987 : (Jvm.Cond.privateMethod ({ cls := "StringTableauModel", name := "is", desc := "(Z)Z" } : Jvm.MethodName)) ∈ lw_tbl := lw_at lw_m12 228 rfl
theorem q2988 : (Jvm.Cond.instanceMethod ({ cls := "StringTableauModel", name := "is", desc := "(Z)Z" } : Jvm.MethodName)) ∈ lw_all := lw_g (lw_at lw_m12 229 rfl) rfl
theorem q2989 : (Jvm.Cond.code ({ cls := "StringTableauModel", name := "is", desc := "(Z)Z" } : Jvm.MethodName) prog_16_method_4_code (2 : Nat) (Option.some Jvm.ClassFile.FieldType.boolean)) ∈ lw_all := lw_g (lw_at lw_m12 230 rfl) rfl
theorem q2991 : (Jvm.Cond.instanceMethod ({ cls := "StringTableauModel", name := "gate", desc := "(III)I" } : Jvm.MethodName)) ∈ lw_all := lw_g (lw_at lw_m12 232 rfl) rfl
theorem q2992 : (Jvm.Cond.selects "StringTableauModel" ({ cls := "StringTableauModel", name := "gate", desc := "(III)I" } : Jvm.MethodName) ({ cls := "StringTableauModel", name := "gate", desc := "(III)I" } : Jvm.MethodName)) ∈ lw_all := lw_g (lw_at lw_m12 233 rfl) rfl
theorem q2993 : (Jvm.Cond.code ({ cls := "StringTableauModel", name := "gate", desc := "(III)I" } : Jvm.MethodName) prog_16_method_29_code (5 : Nat) (Option.some Jvm.ClassFile.FieldType.int)) ∈ lw_all := lw_g (lw_at lw_m12 234 rfl) rfl
theorem q2994 : (Jvm.Cond.constantLong "StringTableauModel" (139 : Nat) (6 : Int64)) ∈ lw_all := lw_g (lw_at lw_m12 235 rfl) rfl
theorem q2995 : (Jvm.Cond.constantLong "StringTableauModel" (141 : Nat) (8 : Int64)) ∈ lw_all := lw_g (lw_at lw_m12 236 rfl) rfl
theorem q2996 : (Jvm.Cond.methodLink "StringTableauModel" (135 : Nat) ({ cls := "StringTableauModel", name := "isIn", desc := "(JJJ)Z" } : Jvm.MethodName)) ∈ lw_all := lw_g (lw_at lw_m12 237 rfl) rfl
theorem q2997 : (Jvm.Cond.static ({ cls := "StringTableauModel", name := "isIn", desc := "(JJJ)Z" } : Jvm.MethodName)) ∈ lw_all := lw_g (lw_at lw_m12 238 rfl) rfl
theorem q2998 : (Jvm.Cond.code ({ cls := "StringTableauModel", name := "isIn", desc := "(JJJ)Z" } : Jvm.MethodName) prog_16_method_6_code (6 : Nat) (Option.some Jvm.ClassFile.FieldType.boolean)) ∈ lw_all := lw_g (lw_at lw_m12 239 rfl) rfl
theorem q2999 : (Jvm.Cond.methodLink "StringTableauModel" (143 : Nat) ({ cls := "StringTableauModel", name := "isQubit", desc := "(I)Z" } : Jvm.MethodName)) ∈ lw_all := lw_g (lw_at lw_m13 0 rfl) rfl
theorem q3000 : (Jvm.Cond.privateMethod ({ cls := "StringTableauModel", name := "isQubit", desc := "(I)Z" } : Jvm.MethodName)) ∈ lw_tbl := lw_at lw_m13 1 rfl
theorem q3001 : (Jvm.Cond.instanceMethod ({ cls := "StringTableauModel", name := "isQubit", desc := "(I)Z" } : Jvm.MethodName)) ∈ lw_all := lw_g (lw_at lw_m13 2 rfl) rfl
theorem q3002 : (Jvm.Cond.code ({ cls := "StringTableauModel", name := "isQubit", desc := "(I)Z" } : Jvm.MethodName) prog_16_method_28_code (2 : Nat) (Option.some Jvm.ClassFile.FieldType.boolean)) ∈ lw_all := lw_g (lw_at lw_m13 3 rfl) rfl
theorem q3003 : (Jvm.Cond.methodLink "StringTableauModel" (147 : Nat) ({ cls := "StringTableauModel", name := "may", desc := "(ZI)Z" } : Jvm.MethodName)) ∈ lw_all := lw_g (lw_at lw_m13 4 rfl) rfl
theorem q3004 : (Jvm.Cond.privateMethod ({ cls := "StringTableauModel", name := "may", desc := "(ZI)Z" } : Jvm.MethodName)) ∈ lw_tbl := lw_at lw_m13 5 rfl
theorem q3005 : (Jvm.Cond.instanceMethod ({ cls := "StringTableauModel", name := "may", desc := "(ZI)Z" } : Jvm.MethodName)) ∈ lw_all := lw_g (lw_at lw_m13 6 rfl) rfl
theorem q3006 : (Jvm.Cond.code ({ cls := "StringTableauModel", name := "may", desc := "(ZI)Z" } : Jvm.MethodName) prog_16_method_5_code (3 : Nat) (Option.some Jvm.ClassFile.FieldType.boolean)) ∈ lw_all := lw_g (lw_at lw_m13 7 rfl) rfl
theorem q3007 : (Jvm.Cond.methodLink "StringTableauModel" (151 : Nat) ({ cls := "StringTableauModel", name := "starts", desc := "()V" } : Jvm.MethodName)) ∈ lw_all := lw_g (lw_at lw_m13 8 rfl) rfl
theorem q3008 : (Jvm.Cond.privateMethod ({ cls := "StringTableauModel", name := "starts", desc := "()V" } : Jvm.MethodName)) ∈ lw_tbl := lw_at lw_m13 9 rfl
theorem q3009 : (Jvm.Cond.instanceMethod ({ cls := "StringTableauModel", name := "starts", desc := "()V" } : Jvm.MethodName)) ∈ lw_all := lw_g (lw_at lw_m13 10 rfl) rfl
theorem q3010 : (Jvm.Cond.code ({ cls := "StringTableauModel", name := "starts", desc := "()V" } : Jvm.MethodName) prog_16_method_11_code (1 : Nat) (Option.none : Option Jvm.ClassFile.FieldType)) ∈ lw_all := lw_g (lw_at lw_m13 11 rfl) rfl
theorem q3011 : (Jvm.Cond.methodLink "StringTableauModel" (83 : Nat) ({ cls := "StringTableauModel", name := "copies", desc := "([I[I)V" } : Jvm.MethodName)) ∈ lw_all := lw_g (lw_at lw_m13 12 rfl) rfl
theorem q3012 : (Jvm.Cond.static ({ cls := "StringTableauModel", name := "copies", desc := "([I[I)V" } : Jvm.MethodName)) ∈ lw_all := lw_g (lw_at lw_m13 13 rfl) rfl
theorem q3013 : (Jvm.Cond.code ({ cls := "StringTableauModel", name := "copies", desc := "([I[I)V" } : Jvm.MethodName) prog_16_method_9_code (3 : Nat) (Option.none : Option Jvm.ClassFile.FieldType)) ∈ lw_all := lw_g (lw_at lw_m13 14 rfl) rfl
theorem q3014 : (Jvm.Cond.methodLink "StringTableauModel" (154 : Nat) ({ cls := "StringTableauModel", name := "goes", desc := "(III)V" } : Jvm.MethodName)) ∈ lw_all := lw_g (lw_at lw_m13 15 rfl) rfl
theorem q3015 : (Jvm.Cond.privateMethod ({ cls := "StringTableauModel", name := "goes", desc := "(III)V" } : Jvm.MethodName)) ∈ lw_tbl := lw_at lw_m13 16 rfl
theorem q3016 : (Jvm.Cond.instanceMethod ({ cls := "StringTableauModel", name := "goes", desc := "(III)V" } : Jvm.MethodName)) ∈ lw_all := lw_g (lw_at lw_m13 17 rfl) rfl
theorem q3017 : (Jvm.Cond.code ({ cls := "StringTableauModel", name := "goes", desc := "(III)V" } : Jvm.MethodName) prog_16_method_26_code (5 : Nat) (Option.none : Option Jvm.ClassFile.FieldType)) ∈ lw_all := lw_g (lw_at lw_m13 18 rfl) rfl
theorem q3018 : (Jvm.Cond.methodLink "StringTableauModel" (116 : Nat) ({ cls := "StringTableauModel", name := "takesRow", desc := "(I)V" } : Jvm.MethodName)) ∈ lw_all := lw_g (lw_at lw_m13 19 rfl) rfl
theorem q3019 : (Jvm.Cond.privateMethod ({ cls := "StringTableauModel", name := "takesRow", desc := "(I)V" } : Jvm.MethodName)) ∈ lw_tbl := lw_at lw_m13 20 rfl
theorem q3020 : (Jvm.Cond.instanceMethod ({ cls := "StringTableauModel", name := "takesRow", desc := "(I)V" } : Jvm.MethodName)) ∈ lw_all := lw_g (lw_at lw_m13 21 rfl) rfl
theorem q3021 : (Jvm.Cond.code ({ cls := "StringTableauModel", name := "takesRow", desc := "(I)V" } : Jvm.MethodName) prog_16_method_19_code (2 : Nat) (Option.none : Option Jvm.ClassFile.FieldType)) ∈ lw_all := lw_g (lw_at lw_m13 22 rfl) rfl
theorem q3022 : (Jvm.Cond.methodLink "StringTableauModel" (112 : Nat) ({ cls := "StringTableauModel", name := "takes", desc := "(III)V" } : Jvm.MethodName)) ∈ lw_all := lw_g (lw_at lw_m13 23 rfl) rfl
theorem q3023 : (Jvm.Cond.privateMethod ({ cls := "StringTableauModel", name := "takes", desc := "(III)V" } : Jvm.MethodName)) ∈ lw_tbl := lw_at lw_m13 24 rfl
theorem q3024 : (Jvm.Cond.instanceMethod ({ cls := "StringTableauModel", name := "takes", desc := "(III)V" } : Jvm.MethodName)) ∈ lw_all := lw_g (lw_at lw_m13 25 rfl) rfl
theorem q3025 : (Jvm.Cond.code ({ cls := "StringTableauModel", name := "takes", desc := "(III)V" } : Jvm.MethodName) prog_16_method_17_code (4 : Nat) (Option.none : Option Jvm.ClassFile.FieldType)) ∈ lw_all := lw_g (lw_at lw_m13 26 rfl) rfl
theorem q3026 : (Jvm.Cond.methodLink "StringTableauModel" (132 : Nat) ({ cls := "StringTableauModel", name := "does", desc := "(III)V" } : Jvm.MethodName)) ∈ lw_all := lw_g (lw_at lw_m13 27 rfl) rfl
theorem q3027 : (Jvm.Cond.privateMethod ({ cls := "StringTableauModel", name := "does", desc := "(III)V" } : Jvm.MethodName)) ∈ lw_tbl := lw_at lw_m13 28 rfl
theorem q3028 : (Jvm.Cond.instanceMethod ({ cls := "StringTableauModel", name := "does", desc := "(III)V" } : Jvm.MethodName)) ∈ lw_all := lw_g (lw_at lw_m13 29 rfl) rfl
theorem q3029 : (Jvm.Cond.code ({ cls := "StringTableauModel", name := "does", desc := "(III)V" } : Jvm.MethodName) prog_16_method_24_code (4 : Nat) (Option.none : Option Jvm.ClassFile.FieldType)) ∈ lw_all := lw_g (lw_at lw_m13 30 rfl) rfl
theorem q3030 : (Jvm.Cond.methodLink "StringTableauModel" (126 : Nat) ({ cls := "StringTableauModel", name := "one", desc := "(II)V" } : Jvm.MethodName)) ∈ lw_all := lw_g (lw_at lw_m13 31 rfl) rfl
theorem q3031 : (Jvm.Cond.privateMethod ({ cls := "StringTableauModel", name := "one", desc := "(II)V" } : Jvm.MethodName)) ∈ lw_tbl := lw_at lw_m13 32 rfl
theorem q3032 : (Jvm.Cond.instanceMethod ({ cls := "StringTableauModel", name := "one", desc := "(II)V" } : Jvm.MethodName)) ∈ lw_all := lw_g (lw_at lw_m13 33 rfl) rfl
theorem q3033 : (Jvm.Cond.code ({ cls := "StringTableauModel", name := "one", desc := "(II)V" } : Jvm.MethodName) prog_16_method_22_code (5 : Nat) (Option.none : Option Jvm.ClassFile.FieldType)) ∈ lw_all := lw_g (lw_at lw_m13 34 rfl) rfl
theorem q3034 : (Jvm.Cond.methodLink "StringTableauModel" (95 : Nat) ({ cls := "StringTableauModel", name := "letterOf", desc := "(III)I" } : Jvm.MethodName)) ∈ lw_all := lw_g (lw_at lw_m13 35 rfl) rfl
theorem q3035 : (Jvm.Cond.static ({ cls := "StringTableauModel", name := "letterOf", desc := "(III)I" } : Jvm.MethodName)) ∈ lw_all := lw_g (lw_at lw_m13 36 rfl) rfl
theorem q3036 : (Jvm.Cond.code ({ cls := "StringTableauModel", name := "letterOf", desc := "(III)I" } : Jvm.MethodName) prog_16_method_14_code (3 : Nat) (Option.some Jvm.ClassFile.FieldType.int)) ∈ lw_all := lw_g (lw_at lw_m13 37 rfl) rfl
theorem q3037 : (Jvm.Cond.methodLink "StringTableauModel" (91 : Nat) ({ cls := "StringTableauModel", name := "has", desc := "(II)Z" } : Jvm.MethodName)) ∈ lw_all := lw_g (lw_at lw_m13 38 rfl) rfl
theorem q3038 : (Jvm.Cond.static ({ cls := "StringTableauModel", name := "has", desc := "(II)Z" } : Jvm.MethodName)) ∈ lw_all := lw_g (lw_at lw_m13 39 rfl) rfl
theorem q3039 : (Jvm.Cond.code ({ cls := "StringTableauModel", name := "has", desc := "(II)Z" } : Jvm.MethodName) prog_16_method_7_code (2 : Nat) (Option.some Jvm.ClassFile.FieldType.boolean)) ∈ lw_all := lw_g (lw_at lw_m13 40 rfl) rfl
theorem q3040 : (Jvm.Cond.methodLink "StringTableauModel" (129 : Nat) ({ cls := "StringTableauModel", name := "two", desc := "(III)V" } : Jvm.MethodName)) ∈ lw_all := lw_g (lw_at lw_m13 41 rfl) rfl
theorem q3041 : (Jvm.Cond.privateMethod ({ cls := "StringTableauModel", name := "two", desc := "(III)V" } : Jvm.MethodName)) ∈ lw_tbl := lw_at lw_m13 42 rfl
theorem q3042 : (Jvm.Cond.instanceMethod ({ cls := "StringTableauModel", name := "two", desc := "(III)V" } : Jvm.MethodName)) ∈ lw_all := lw_g (lw_at lw_m13 43 rfl) rfl
theorem q3043 : (Jvm.Cond.code ({ cls := "StringTableauModel", name := "two", desc := "(III)V" } : Jvm.MethodName) prog_16_method_23_code (8 : Nat) (Option.none : Option Jvm.ClassFile.FieldType)) ∈ lw_all := lw_g (lw_at lw_m13 44 rfl) rfl
theorem q3044 : (Jvm.Cond.methodLink "StringTableauModel" (123 : Nat) ({ cls := "StringTableauModel", name := "laysRow", desc := "(I)V" } : Jvm.MethodName)) ∈ lw_all := lw_g (lw_at lw_m13 45 rfl) rfl
theorem q3045 : (Jvm.Cond.privateMethod ({ cls := "StringTableauModel", name := "laysRow", desc := "(I)V" } : Jvm.MethodName)) ∈ lw_tbl := lw_at lw_m13 46 rfl
theorem q3046 : (Jvm.Cond.instanceMethod ({ cls := "StringTableauModel", name := "laysRow", desc := "(I)V" } : Jvm.MethodName)) ∈ lw_all := lw_g (lw_at lw_m13 47 rfl) rfl
theorem q3047 : (Jvm.Cond.code ({ cls := "StringTableauModel", name := "laysRow", desc := "(I)V" } : Jvm.MethodName) prog_16_method_20_code (2 : Nat) (Option.none : Option Jvm.ClassFile.FieldType)) ∈ lw_all := lw_g (lw_at lw_m13 48 rfl) rfl
theorem q3048 : (Jvm.Cond.methodLink "StringTableauModel" (157 : Nat) ({ cls := "StringTableauModel", name := "trails", desc := "(III)V" } : Jvm.MethodName)) ∈ lw_all := lw_g (lw_at lw_m13 49 rfl) rfl
theorem q3049 : (Jvm.Cond.privateMethod ({ cls := "StringTableauModel", name := "trails", desc := "(III)V" } : Jvm.MethodName)) ∈ lw_tbl := lw_at lw_m13 50 rfl
theorem q3050 : (Jvm.Cond.instanceMethod ({ cls := "StringTableauModel", name := "trails", desc := "(III)V" } : Jvm.MethodName)) ∈ lw_all := lw_g (lw_at lw_m13 51 rfl) rfl
theorem q3051 : (Jvm.Cond.code ({ cls := "StringTableauModel", name := "trails", desc := "(III)V" } : Jvm.MethodName) prog_16_method_27_code (5 : Nat) (Option.none : Option Jvm.ClassFile.FieldType)) ∈ lw_all := lw_g (lw_at lw_m13 52 rfl) rfl
theorem q3052 : (Jvm.Cond.methodLink "StringTableauModel" (160 : Nat) ({ cls := "StringTableauModel", name := "keeps", desc := "()V" } : Jvm.MethodName)) ∈ lw_all := lw_g (lw_at lw_m13 53 rfl) rfl
theorem q3053 : (Jvm.Cond.privateMethod ({ cls := "StringTableauModel", name := "keeps", desc := "()V" } : Jvm.MethodName)) ∈ lw_tbl := lw_at lw_m13 54 rfl
theorem q3054 : (Jvm.Cond.instanceMethod ({ cls := "StringTableauModel", name := "keeps", desc := "()V" } : Jvm.MethodName)) ∈ lw_all := lw_g (lw_at lw_m13 55 rfl) rfl
theorem q3055 : (Jvm.Cond.code ({ cls := "StringTableauModel", name := "keeps", desc := "()V" } : Jvm.MethodName) prog_16_method_10_code (2 : Nat) (Option.none : Option Jvm.ClassFile.FieldType)) ∈ lw_all := lw_g (lw_at lw_m13 56 rfl) rfl
theorem q3056 : (Jvm.Cond.methodLink "StringTableauModel" (163 : Nat) ({ cls := "StringTableauModel", name := "changed", desc := "()I" } : Jvm.MethodName)) ∈ lw_all := lw_g (lw_at lw_m13 57 rfl) rfl
theorem q3057 : (Jvm.Cond.privateMethod ({ cls := "StringTableauModel", name := "changed", desc := "()I" } : Jvm.MethodName)) ∈ lw_tbl := lw_at lw_m13 58 rfl
theorem q3058 : (Jvm.Cond.instanceMethod ({ cls := "StringTableauModel", name := "changed", desc := "()I" } : Jvm.MethodName)) ∈ lw_all := lw_g (lw_at lw_m13 59 rfl) rfl
theorem q3059 : (Jvm.Cond.code ({ cls := "StringTableauModel", name := "changed", desc := "()I" } : Jvm.MethodName) prog_16_method_12_code (3 : Nat) (Option.some Jvm.ClassFile.FieldType.int)) ∈ lw_all := lw_g (lw_at lw_m13 60 rfl) rfl
theorem q3061 : (Jvm.Cond.instanceMethod ({ cls := "StringTableauModel", name := "reverse", desc := "(I)I" } : Jvm.MethodName)) ∈ lw_all := lw_g (lw_at lw_m13 62 rfl) rfl
theorem q3062 : (Jvm.Cond.selects "StringTableauModel" ({ cls := "StringTableauModel", name := "reverse", desc := "(I)I" } : Jvm.MethodName) ({ cls := "StringTableauModel", name := "reverse", desc := "(I)I" } : Jvm.MethodName)) ∈ lw_all := lw_g (lw_at lw_m13 63 rfl) rfl
theorem q3063 : (Jvm.Cond.code ({ cls := "StringTableauModel", name := "reverse", desc := "(I)I" } : Jvm.MethodName) prog_16_method_30_code (5 : Nat) (Option.some Jvm.ClassFile.FieldType.int)) ∈ lw_all := lw_g (lw_at lw_m13 64 rfl) rfl
theorem q3064 : (Jvm.Cond.constantLong "StringTableauModel" (167 : Nat) (80 : Int64)) ∈ lw_all := lw_g (lw_at lw_m13 65 rfl) rfl
theorem q3066 : (Jvm.Cond.instanceMethod ({ cls := "StringTableauModel", name := "measure", desc := "(IIZI)I" } : Jvm.MethodName)) ∈ lw_all := lw_g (lw_at lw_m13 67 rfl) rfl
theorem q3067 : (Jvm.Cond.selects "StringTableauModel" ({ cls := "StringTableauModel", name := "measure", desc := "(IIZI)I" } : Jvm.MethodName) ({ cls := "StringTableauModel", name := "measure", desc := "(IIZI)I" } : Jvm.MethodName)) ∈ lw_all := lw_g (lw_at lw_m13 68 rfl) rfl
theorem q3068 : (Jvm.Cond.code ({ cls := "StringTableauModel", name := "measure", desc := "(IIZI)I" } : Jvm.MethodName) prog_16_method_41_code (6 : Nat) (Option.some Jvm.ClassFile.FieldType.int)) ∈ lw_all := lw_g (lw_at lw_m13 69 rfl) rfl
theorem q3069 : (Jvm.Cond.methodLink "StringTableauModel" (202 : Nat) ({ cls := "StringTableauModel", name := "areMasks", desc := "(II)Z" } : Jvm.MethodName)) ∈ lw_all := lw_g (lw_at lw_m13 70 rfl) rfl
theorem q3070 : (Jvm.Cond.privateMethod ({ cls := "StringTableauModel", name := "areMasks", desc := "(II)Z" } : Jvm.MethodName)) ∈ lw_tbl := lw_at lw_m13 71 rfl
theorem q3071 : (Jvm.Cond.instanceMethod ({ cls := "StringTableauModel", name := "areMasks", desc := "(II)Z" } : Jvm.MethodName)) ∈ lw_all := lw_g (lw_at lw_m13 72 rfl) rfl
theorem q3072 : (Jvm.Cond.code ({ cls := "StringTableauModel", name := "areMasks", desc := "(II)Z" } : Jvm.MethodName) prog_16_method_34_code (3 : Nat) (Option.some Jvm.ClassFile.FieldType.boolean)) ∈ lw_all := lw_g (lw_at lw_m13 73 rfl) rfl
theorem q3073 : (Jvm.Cond.methodLink "StringTableauModel" (169 : Nat) ({ cls := "StringTableauModel", name := "sets", desc := "()I" } : Jvm.MethodName)) ∈ lw_all := lw_g (lw_at lw_m13 74 rfl) rfl
theorem q3074 : (Jvm.Cond.privateMethod ({ cls := "StringTableauModel", name := "sets", desc := "()I" } : Jvm.MethodName)) ∈ lw_tbl := lw_at lw_m13 75 rfl
theorem q3075 : (Jvm.Cond.instanceMethod ({ cls := "StringTableauModel", name := "sets", desc := "()I" } : Jvm.MethodName)) ∈ lw_all := lw_g (lw_at lw_m13 76 rfl) rfl
theorem q3076 : (Jvm.Cond.code ({ cls := "StringTableauModel", name := "sets", desc := "()I" } : Jvm.MethodName) prog_16_method_32_code (1 : Nat) (Option.some Jvm.ClassFile.FieldType.int)) ∈ lw_all := lw_g (lw_at lw_m13 77 rfl) rfl
theorem q3077 : (Jvm.Cond.constantLong "StringTableauModel" (205 : Nat) (-1 : Int64)) ∈ lw_all := lw_g (lw_at lw_m13 78 rfl) rfl
theorem q3078 : (Jvm.Cond.methodLink "StringTableauModel" (207 : Nat) ({ cls := "StringTableauModel", name := "canMeasure", desc := "(IIII)Z" } : Jvm.MethodName)) ∈ lw_all := lw_g (lw_at lw_m13 79 rfl) rfl
theorem q3079 : (Jvm.Cond.privateMethod ({ cls := "StringTableauModel", name := "canMeasure", desc := "(IIII)Z" } : Jvm.MethodName)) ∈ lw_tbl := lw_at lw_m13 80 rfl
theorem q3080 : (Jvm.Cond.instanceMethod ({ cls := "StringTableauModel", name := "canMeasure", desc := "(IIII)Z" } : Jvm.MethodName)) ∈ lw_all := lw_g (lw_at lw_m13 81 rfl) rfl
theorem q3081 : (Jvm.Cond.code ({ cls := "StringTableauModel", name := "canMeasure", desc := "(IIII)Z" } : Jvm.MethodName) prog_16_method_39_code (6 : Nat) (Option.some Jvm.ClassFile.FieldType.boolean)) ∈ lw_all := lw_g (lw_at lw_m13 82 rfl) rfl
theorem q3082 : (Jvm.Cond.methodLink "StringTableauModel" (189 : Nat) ({ cls := "StringTableauModel", name := "determined", desc := "(III)I" } : Jvm.MethodName)) ∈ lw_all := lw_g (lw_at lw_m13 83 rfl) rfl
theorem q3083 : (Jvm.Cond.privateMethod ({ cls := "StringTableauModel", name := "determined", desc := "(III)I" } : Jvm.MethodName)) ∈ lw_tbl := lw_at lw_m13 84 rfl
theorem q3084 : (Jvm.Cond.instanceMethod ({ cls := "StringTableauModel", name := "determined", desc := "(III)I" } : Jvm.MethodName)) ∈ lw_all := lw_g (lw_at lw_m13 85 rfl) rfl
theorem q3085 : (Jvm.Cond.code ({ cls := "StringTableauModel", name := "determined", desc := "(III)I" } : Jvm.MethodName) prog_16_method_36_code (5 : Nat) (Option.some Jvm.ClassFile.FieldType.int)) ∈ lw_all := lw_g (lw_at lw_m13 86 rfl) rfl
theorem q3086 : (Jvm.Cond.methodLink "StringTableauModel" (179 : Nat) ({ cls := "StringTableauModel", name := "againstOf", desc := "(II)I" } : Jvm.MethodName)) ∈ lw_all := lw_g (lw_at lw_m13 87 rfl) rfl
theorem q3087 : (Jvm.Cond.privateMethod ({ cls := "StringTableauModel", name := "againstOf", desc := "(II)I" } : Jvm.MethodName)) ∈ lw_tbl := lw_at lw_m13 88 rfl
theorem q3088 : (Jvm.Cond.instanceMethod ({ cls := "StringTableauModel", name := "againstOf", desc := "(II)I" } : Jvm.MethodName)) ∈ lw_all := lw_g (lw_at lw_m13 89 rfl) rfl
theorem q3089 : (Jvm.Cond.code ({ cls := "StringTableauModel", name := "againstOf", desc := "(II)I" } : Jvm.MethodName) prog_16_method_35_code (5 : Nat) (Option.some Jvm.ClassFile.FieldType.int)) ∈ lw_all := lw_g (lw_at lw_m13 90 rfl) rfl
theorem q3090 : (Jvm.Cond.methodLink "StringTableauModel" (175 : Nat) ({ cls := "StringTableauModel", name := "doCommute", desc := "(IIII)Z" } : Jvm.MethodName)) ∈ lw_all := lw_g (lw_at lw_m13 91 rfl) rfl
theorem q3091 : (Jvm.Cond.static ({ cls := "StringTableauModel", name := "doCommute", desc := "(IIII)Z" } : Jvm.MethodName)) ∈ lw_all := lw_g (lw_at lw_m13 92 rfl) rfl
theorem q3092 : (Jvm.Cond.code ({ cls := "StringTableauModel", name := "doCommute", desc := "(IIII)Z" } : Jvm.MethodName) prog_16_method_16_code (8 : Nat) (Option.some Jvm.ClassFile.FieldType.boolean)) ∈ lw_all := lw_g (lw_at lw_m13 93 rfl) rfl
theorem q3093 : (Jvm.Cond.methodLink "StringTableauModel" (183 : Nat) ({ cls := "StringTableauModel", name := "setOf", desc := "(II)I" } : Jvm.MethodName)) ∈ lw_all := lw_g (lw_at lw_m13 94 rfl) rfl
theorem q3094 : (Jvm.Cond.privateMethod ({ cls := "StringTableauModel", name := "setOf", desc := "(II)I" } : Jvm.MethodName)) ∈ lw_tbl := lw_at lw_m13 95 rfl
theorem q3095 : (Jvm.Cond.instanceMethod ({ cls := "StringTableauModel", name := "setOf", desc := "(II)I" } : Jvm.MethodName)) ∈ lw_all := lw_g (lw_at lw_m13 96 rfl) rfl
theorem q3096 : (Jvm.Cond.code ({ cls := "StringTableauModel", name := "setOf", desc := "(II)I" } : Jvm.MethodName) prog_16_method_33_code (4 : Nat) (Option.some Jvm.ClassFile.FieldType.int)) ∈ lw_all := lw_g (lw_at lw_m13 97 rfl) rfl
theorem q3097 : (Jvm.Cond.methodLink "StringTableauModel" (172 : Nat) ({ cls := "StringTableauModel", name := "takesElement", desc := "(I)V" } : Jvm.MethodName)) ∈ lw_all := lw_g (lw_at lw_m13 98 rfl) rfl
theorem q3098 : (Jvm.Cond.privateMethod ({ cls := "StringTableauModel", name := "takesElement", desc := "(I)V" } : Jvm.MethodName)) ∈ lw_tbl := lw_at lw_m13 99 rfl
theorem q3099 : (Jvm.Cond.instanceMethod ({ cls := "StringTableauModel", name := "takesElement", desc := "(I)V" } : Jvm.MethodName)) ∈ lw_all := lw_g (lw_at lw_m13 100 rfl) rfl
theorem q3100 : (Jvm.Cond.code ({ cls := "StringTableauModel", name := "takesElement", desc := "(I)V" } : Jvm.MethodName) prog_16_method_31_code (3 : Nat) (Option.none : Option Jvm.ClassFile.FieldType)) ∈ lw_all := lw_g (lw_at lw_m13 101 rfl) rfl
theorem q3101 : (Jvm.Cond.methodLink "StringTableauModel" (120 : Nat) ({ cls := "StringTableauModel", name := "times", desc := "(III)V" } : Jvm.MethodName)) ∈ lw_all := lw_g (lw_at lw_m13 102 rfl) rfl
theorem q3102 : (Jvm.Cond.privateMethod ({ cls := "StringTableauModel", name := "times", desc := "(III)V" } : Jvm.MethodName)) ∈ lw_tbl := lw_at lw_m13 103 rfl
theorem q3103 : (Jvm.Cond.instanceMethod ({ cls := "StringTableauModel", name := "times", desc := "(III)V" } : Jvm.MethodName)) ∈ lw_all := lw_g (lw_at lw_m13 104 rfl) rfl
theorem q3104 : (Jvm.Cond.code ({ cls := "StringTableauModel", name := "times", desc := "(III)V" } : Jvm.MethodName) prog_16_method_18_code (5 : Nat) (Option.none : Option Jvm.ClassFile.FieldType)) ∈ lw_all := lw_g (lw_at lw_m13 105 rfl) rfl
theorem q3105 : (Jvm.Cond.methodLink "StringTableauModel" (108 : Nat) ({ cls := "StringTableauModel", name := "phaseOf", desc := "(IIII)I" } : Jvm.MethodName)) ∈ lw_all := lw_g (lw_at lw_m13 106 rfl) rfl
theorem q3106 : (Jvm.Cond.static ({ cls := "StringTableauModel", name := "phaseOf", desc := "(IIII)I" } : Jvm.MethodName)) ∈ lw_all := lw_g (lw_at lw_m13 107 rfl) rfl
theorem q3107 : (Jvm.Cond.code ({ cls := "StringTableauModel", name := "phaseOf", desc := "(IIII)I" } : Jvm.MethodName) prog_16_method_15_code (8 : Nat) (Option.some Jvm.ClassFile.FieldType.int)) ∈ lw_all := lw_g (lw_at lw_m13 108 rfl) rfl
theorem q3108 : (Jvm.Cond.methodLink "StringTableauModel" (210 : Nat) ({ cls := "StringTableauModel", name := "measures", desc := "(IIII)I" } : Jvm.MethodName)) ∈ lw_all := lw_g (lw_at lw_m13 109 rfl) rfl
theorem q3109 : (Jvm.Cond.privateMethod ({ cls := "StringTableauModel", name := "measures", desc := "(IIII)I" } : Jvm.MethodName)) ∈ lw_tbl := lw_at lw_m13 110 rfl
theorem q3110 : (Jvm.Cond.instanceMethod ({ cls := "StringTableauModel", name := "measures", desc := "(IIII)I" } : Jvm.MethodName)) ∈ lw_all := lw_g (lw_at lw_m13 111 rfl) rfl
theorem q3111 : (Jvm.Cond.code ({ cls := "StringTableauModel", name := "measures", desc := "(IIII)I" } : Jvm.MethodName) prog_16_method_40_code (10 : Nat) (Option.some Jvm.ClassFile.FieldType.int)) ∈ lw_all := lw_g (lw_at lw_m13 112 rfl) rfl
theorem q3112 : (Jvm.Cond.methodLink "StringTableauModel" (192 : Nat) ({ cls := "StringTableauModel", name := "records", desc := "(IZ)V" } : Jvm.MethodName)) ∈ lw_all := lw_g (lw_at lw_m13 113 rfl) rfl
theorem q3113 : (Jvm.Cond.privateMethod ({ cls := "StringTableauModel", name := "records", desc := "(IZ)V" } : Jvm.MethodName)) ∈ lw_tbl := lw_at lw_m13 114 rfl
theorem q3114 : (Jvm.Cond.instanceMethod ({ cls := "StringTableauModel", name := "records", desc := "(IZ)V" } : Jvm.MethodName)) ∈ lw_all := lw_g (lw_at lw_m13 115 rfl) rfl
theorem q3115 : (Jvm.Cond.code ({ cls := "StringTableauModel", name := "records", desc := "(IZ)V" } : Jvm.MethodName) prog_16_method_38_code (3 : Nat) (Option.none : Option Jvm.ClassFile.FieldType)) ∈ lw_all := lw_g (lw_at lw_m13 116 rfl) rfl
theorem q3116 : (Jvm.Cond.methodLink "StringTableauModel" (196 : Nat) ({ cls := "StringTableauModel", name := "draws", desc := "()I" } : Jvm.MethodName)) ∈ lw_all := lw_g (lw_at lw_m13 117 rfl) rfl
theorem q3117 : (Jvm.Cond.privateMethod ({ cls := "StringTableauModel", name := "draws", desc := "()I" } : Jvm.MethodName)) ∈ lw_tbl := lw_at lw_m13 118 rfl
theorem q3118 : (Jvm.Cond.instanceMethod ({ cls := "StringTableauModel", name := "draws", desc := "()I" } : Jvm.MethodName)) ∈ lw_all := lw_g (lw_at lw_m13 119 rfl) rfl
theorem q3119 : (Jvm.Cond.code ({ cls := "StringTableauModel", name := "draws", desc := "()I" } : Jvm.MethodName) prog_16_method_37_code (1 : Nat) (Option.some Jvm.ClassFile.FieldType.int)) ∈ lw_all := lw_g (lw_at lw_m13 120 rfl) rfl
theorem q3120 : (Jvm.Cond.constant "StringTableauModel" (186 : Nat) (1103515245 : Int32)) ∈ lw_all := lw_g (lw_at lw_m13 121 rfl) rfl
theorem q3121 : (Jvm.Cond.constant "StringTableauModel" (187 : Nat) (2147483647 : Int32)) ∈ lw_all := lw_g (lw_at lw_m13 122 rfl) rfl
theorem q3122 : (Jvm.Cond.constant "StringTableauModel" (188 : Nat) (65536 : Int32)) ∈ lw_all := lw_g (lw_at lw_m13 123 rfl) rfl
theorem q3123 : (Jvm.Cond.methodLink "StringTableauModel" (199 : Nat) ({ cls := "StringTableauModel", name := "multiplies", desc := "(II)V" } : Jvm.MethodName)) ∈ lw_all := lw_g (lw_at lw_m13 124 rfl) rfl
theorem q3124 : (Jvm.Cond.privateMethod ({ cls := "StringTableauModel", name := "multiplies", desc := "(II)V" } : Jvm.MethodName)) ∈ lw_tbl := lw_at lw_m13 125 rfl
theorem q3125 : (Jvm.Cond.instanceMethod ({ cls := "StringTableauModel", name := "multiplies", desc := "(II)V" } : Jvm.MethodName)) ∈ lw_all := lw_g (lw_at lw_m13 126 rfl) rfl
theorem q3126 : (Jvm.Cond.code ({ cls := "StringTableauModel", name := "multiplies", desc := "(II)V" } : Jvm.MethodName) prog_16_method_21_code (3 : Nat) (Option.none : Option Jvm.ClassFile.FieldType)) ∈ lw_all := lw_g (lw_at lw_m13 127 rfl) rfl
theorem q3128 : (Jvm.Cond.instanceMethod ({ cls := "StringTableauModel", name := "measureAll", desc := "()I" } : Jvm.MethodName)) ∈ lw_all := lw_g (lw_at lw_m13 129 rfl) rfl
theorem q3129 : (Jvm.Cond.selects "StringTableauModel" ({ cls := "StringTableauModel", name := "measureAll", desc := "()I" } : Jvm.MethodName) ({ cls := "StringTableauModel", name := "measureAll", desc := "()I" } : Jvm.MethodName)) ∈ lw_all := lw_g (lw_at lw_m13 130 rfl) rfl
theorem q3130 : (Jvm.Cond.code ({ cls := "StringTableauModel", name := "measureAll", desc := "()I" } : Jvm.MethodName) prog_16_method_42_code (3 : Nat) (Option.some Jvm.ClassFile.FieldType.int)) ∈ lw_all := lw_g (lw_at lw_m13 131 rfl) rfl
theorem q3132 : (Jvm.Cond.instanceMethod ({ cls := "StringTableauModel", name := "step", desc := "()I" } : Jvm.MethodName)) ∈ lw_all := lw_g (lw_at lw_m13 133 rfl) rfl
theorem q3133 : (Jvm.Cond.selects "StringTableauModel" ({ cls := "StringTableauModel", name := "step", desc := "()I" } : Jvm.MethodName) ({ cls := "StringTableauModel", name := "step", desc := "()I" } : Jvm.MethodName)) ∈ lw_all := lw_g (lw_at lw_m13 134 rfl) rfl
theorem q3134 : (Jvm.Cond.code ({ cls := "StringTableauModel", name := "step", desc := "()I" } : Jvm.MethodName) prog_16_method_44_code (2 : Nat) (Option.some Jvm.ClassFile.FieldType.int)) ∈ lw_all := lw_g (lw_at lw_m13 135 rfl) rfl
theorem q3135 : (Jvm.Cond.methodLink "StringTableauModel" (216 : Nat) ({ cls := "StringTableauModel", name := "steps", desc := "()I" } : Jvm.MethodName)) ∈ lw_all := lw_g (lw_at lw_m13 136 rfl) rfl
theorem q3136 : (Jvm.Cond.privateMethod ({ cls := "StringTableauModel", name := "steps", desc := "()I" } : Jvm.MethodName)) ∈ lw_tbl := lw_at lw_m13 137 rfl
theorem q3137 : (Jvm.Cond.instanceMethod ({ cls := "StringTableauModel", name := "steps", desc := "()I" } : Jvm.MethodName)) ∈ lw_all := lw_g (lw_at lw_m13 138 rfl) rfl
theorem q3138 : (Jvm.Cond.code ({ cls := "StringTableauModel", name := "steps", desc := "()I" } : Jvm.MethodName) prog_16_method_43_code (3 : Nat) (Option.some Jvm.ClassFile.FieldType.int)) ∈ lw_all := lw_g (lw_at lw_m13 139 rfl) rfl
theorem q3140 : (Jvm.Cond.instanceMethod ({ cls := "StringTableauModel", name := "run", desc := "(I)I" } : Jvm.MethodName)) ∈ lw_all := lw_g (lw_at lw_m13 141 rfl) rfl
theorem q3141 : (Jvm.Cond.selects "StringTableauModel" ({ cls := "StringTableauModel", name := "run", desc := "(I)I" } : Jvm.MethodName) ({ cls := "StringTableauModel", name := "run", desc := "(I)I" } : Jvm.MethodName)) ∈ lw_all := lw_g (lw_at lw_m13 142 rfl) rfl
theorem q3142 : (Jvm.Cond.code ({ cls := "StringTableauModel", name := "run", desc := "(I)I" } : Jvm.MethodName) prog_16_method_46_code (3 : Nat) (Option.some Jvm.ClassFile.FieldType.int)) ∈ lw_all := lw_g (lw_at lw_m13 143 rfl) rfl
theorem q3143 : (Jvm.Cond.constantLong "StringTableauModel" (219 : Nat) (60 : Int64)) ∈ lw_all := lw_g (lw_at lw_m13 144 rfl) rfl
theorem q3144 : (Jvm.Cond.methodLink "StringTableauModel" (221 : Nat) ({ cls := "StringTableauModel", name := "runs", desc := "(I)I" } : Jvm.MethodName)) ∈ lw_all := lw_g (lw_at lw_m13 145 rfl) rfl
theorem q3145 : (Jvm.Cond.privateMethod ({ cls := "StringTableauModel", name := "runs", desc := "(I)I" } : Jvm.MethodName)) ∈ lw_tbl := lw_at lw_m13 146 rfl
theorem q3146 : (Jvm.Cond.instanceMethod ({ cls := "StringTableauModel", name := "runs", desc := "(I)I" } : Jvm.MethodName)) ∈ lw_all := lw_g (lw_at lw_m13 147 rfl) rfl
theorem q3147 : (Jvm.Cond.code ({ cls := "StringTableauModel", name := "runs", desc := "(I)I" } : Jvm.MethodName) prog_16_method_45_code (3 : Nat) (Option.some Jvm.ClassFile.FieldType.int)) ∈ lw_all := lw_g (lw_at lw_m13 148 rfl) rfl
theorem q3149 : (Jvm.Cond.instanceMethod ({ cls := "StringTableauModel", name := "runnable", desc := "()I" } : Jvm.MethodName)) ∈ lw_all := lw_g (lw_at lw_m13 150 rfl) rfl
theorem q3150 : (Jvm.Cond.selects "StringTableauModel" ({ cls := "StringTableauModel", name := "runnable", desc := "()I" } : Jvm.MethodName) ({ cls := "StringTableauModel", name := "runnable", desc := "()I" } : Jvm.MethodName)) ∈ lw_all := lw_g (lw_at lw_m13 151 rfl) rfl
theorem q3151 : (Jvm.Cond.code ({ cls := "StringTableauModel", name := "runnable", desc := "()I" } : Jvm.MethodName) prog_16_method_47_code (2 : Nat) (Option.some Jvm.ClassFile.FieldType.int)) ∈ lw_all := lw_g (lw_at lw_m13 152 rfl) rfl
theorem q3153 : (Jvm.Cond.instanceMethod ({ cls := "StringTableauModel", name := "count", desc := "(I)I" } : Jvm.MethodName)) ∈ lw_all := lw_g (lw_at lw_m13 154 rfl) rfl
theorem q3154 : (Jvm.Cond.selects "StringTableauModel" ({ cls := "StringTableauModel", name := "count", desc := "(I)I" } : Jvm.MethodName) ({ cls := "StringTableauModel", name := "count", desc := "(I)I" } : Jvm.MethodName)) ∈ lw_all := lw_g (lw_at lw_m13 155 rfl) rfl
theorem q3155 : (Jvm.Cond.code ({ cls := "StringTableauModel", name := "count", desc := "(I)I" } : Jvm.MethodName) prog_16_method_48_code (2 : Nat) (Option.some Jvm.ClassFile.FieldType.int)) ∈ lw_all := lw_g (lw_at lw_m13 156 rfl) rfl
theorem q3156 : (Jvm.Cond.methodLink "StringTableauModel" (225 : Nat) ({ cls := "StringTableauModel", name := "randoms", desc := "()I" } : Jvm.MethodName)) ∈ lw_all := lw_g (lw_at lw_m13 157 rfl) rfl
theorem q3157 : (Jvm.Cond.privateMethod ({ cls := "StringTableauModel", name := "randoms", desc := "()I" } : Jvm.MethodName)) ∈ lw_tbl := lw_at lw_m13 158 rfl
theorem q3158 : (Jvm.Cond.instanceMethod ({ cls := "StringTableauModel", name := "randoms", desc := "()I" } : Jvm.MethodName)) ∈ lw_all := lw_g (lw_at lw_m13 159 rfl) rfl
theorem q3159 : (Jvm.Cond.code ({ cls := "StringTableauModel", name := "randoms", desc := "()I" } : Jvm.MethodName) prog_16_method_49_code (3 : Nat) (Option.some Jvm.ClassFile.FieldType.int)) ∈ lw_all := lw_g (lw_at lw_m13 160 rfl) rfl
theorem q3161 : (Jvm.Cond.instanceMethod ({ cls := "StringTableauModel", name := "operation", desc := "(II)I" } : Jvm.MethodName)) ∈ lw_all := lw_g (lw_at lw_m13 162 rfl) rfl
theorem q3162 : (Jvm.Cond.selects "StringTableauModel" ({ cls := "StringTableauModel", name := "operation", desc := "(II)I" } : Jvm.MethodName) ({ cls := "StringTableauModel", name := "operation", desc := "(II)I" } : Jvm.MethodName)) ∈ lw_all := lw_g (lw_at lw_m13 163 rfl) rfl
theorem q3163 : (Jvm.Cond.code ({ cls := "StringTableauModel", name := "operation", desc := "(II)I" } : Jvm.MethodName) prog_16_method_50_code (3 : Nat) (Option.some Jvm.ClassFile.FieldType.int)) ∈ lw_all := lw_g (lw_at lw_m13 164 rfl) rfl
theorem q3164 : (Jvm.Cond.constantLong "StringTableauModel" (228 : Nat) (7 : Int64)) ∈ lw_all := lw_g (lw_at lw_m13 165 rfl) rfl
theorem q3166 : (Jvm.Cond.instanceMethod ({ cls := "StringTableauModel", name := "feed", desc := "(IIIII)I" } : Jvm.MethodName)) ∈ lw_all := lw_g (lw_at lw_m13 167 rfl) rfl
theorem q3167 : (Jvm.Cond.selects "StringTableauModel" ({ cls := "StringTableauModel", name := "feed", desc := "(IIIII)I" } : Jvm.MethodName) ({ cls := "StringTableauModel", name := "feed", desc := "(IIIII)I" } : Jvm.MethodName)) ∈ lw_all := lw_g (lw_at lw_m13 168 rfl) rfl
theorem q3168 : (Jvm.Cond.code ({ cls := "StringTableauModel", name := "feed", desc := "(IIIII)I" } : Jvm.MethodName) prog_16_method_51_code (8 : Nat) (Option.some Jvm.ClassFile.FieldType.int)) ∈ lw_all := lw_g (lw_at lw_m13 169 rfl) rfl
theorem q3170 : (Jvm.Cond.instanceMethod ({ cls := "StringTableauModel", name := "truncate", desc := "(I)Z" } : Jvm.MethodName)) ∈ lw_all := lw_g (lw_at lw_m13 171 rfl) rfl
theorem q3171 : (Jvm.Cond.selects "StringTableauModel" ({ cls := "StringTableauModel", name := "truncate", desc := "(I)Z" } : Jvm.MethodName) ({ cls := "StringTableauModel", name := "truncate", desc := "(I)Z" } : Jvm.MethodName)) ∈ lw_all := lw_g (lw_at lw_m13 172 rfl) rfl
theorem q3172 : (Jvm.Cond.code ({ cls := "StringTableauModel", name := "truncate", desc := "(I)Z" } : Jvm.MethodName) prog_16_method_52_code (2 : Nat) (Option.some Jvm.ClassFile.FieldType.boolean)) ∈ lw_all := lw_g (lw_at lw_m13 173 rfl) rfl
theorem q3174 : (Jvm.Cond.instanceMethod ({ cls := "StringTableauModel", name := "parse", desc := "()I" } : Jvm.MethodName)) ∈ lw_all := lw_g (lw_at lw_m13 175 rfl) rfl
theorem q3175 : (Jvm.Cond.selects "StringTableauModel" ({ cls := "StringTableauModel", name := "parse", desc := "()I" } : Jvm.MethodName) ({ cls := "StringTableauModel", name := "parse", desc := "()I" } : Jvm.MethodName)) ∈ lw_all := lw_g (lw_at lw_m13 176 rfl) rfl
theorem q3176 : (Jvm.Cond.code ({ cls := "StringTableauModel", name := "parse", desc := "()I" } : Jvm.MethodName) prog_16_method_70_code (1 : Nat) (Option.some Jvm.ClassFile.FieldType.int)) ∈ lw_all := lw_g (lw_at lw_m13 177 rfl) rfl
theorem q3177 : (Jvm.Cond.methodLink "StringTableauModel" (288 : Nat) ({ cls := "StringTableauModel", name := "next", desc := "()V" } : Jvm.MethodName)) ∈ lw_all := lw_g (lw_at lw_m13 178 rfl) rfl
theorem q3178 : (Jvm.Cond.privateMethod ({ cls := "StringTableauModel", name := "next", desc := "()V" } : Jvm.MethodName)) ∈ lw_tbl := lw_at lw_m13 179 rfl
theorem q3179 : (Jvm.Cond.instanceMethod ({ cls := "StringTableauModel", name := "next", desc := "()V" } : Jvm.MethodName)) ∈ lw_all := lw_g (lw_at lw_m13 180 rfl) rfl
theorem q3180 : (Jvm.Cond.code ({ cls := "StringTableauModel", name := "next", desc := "()V" } : Jvm.MethodName) prog_16_method_54_code (2 : Nat) (Option.none : Option Jvm.ClassFile.FieldType)) ∈ lw_all := lw_g (lw_at lw_m13 181 rfl) rfl
theorem q3181 : (Jvm.Cond.methodLink "StringTableauModel" (239 : Nat) ({ cls := "StringTableauModel", name := "here", desc := "(I)I" } : Jvm.MethodName)) ∈ lw_all := lw_g (lw_at lw_m13 182 rfl) rfl
theorem q3182 : (Jvm.Cond.privateMethod ({ cls := "StringTableauModel", name := "here", desc := "(I)I" } : Jvm.MethodName)) ∈ lw_tbl := lw_at lw_m13 183 rfl
theorem q3183 : (Jvm.Cond.instanceMethod ({ cls := "StringTableauModel", name := "here", desc := "(I)I" } : Jvm.MethodName)) ∈ lw_all := lw_g (lw_at lw_m13 184 rfl) rfl
theorem q3184 : (Jvm.Cond.code ({ cls := "StringTableauModel", name := "here", desc := "(I)I" } : Jvm.MethodName) prog_16_method_53_code (2 : Nat) (Option.some Jvm.ClassFile.FieldType.int)) ∈ lw_all := lw_g (lw_at lw_m13 185 rfl) rfl
theorem q3185 : (Jvm.Cond.constantLong "StringTableauModel" (248 : Nat) (97 : Int64)) ∈ lw_all := lw_g (lw_at lw_m13 186 rfl) rfl
theorem q3186 : (Jvm.Cond.constantLong "StringTableauModel" (250 : Nat) (122 : Int64)) ∈ lw_all := lw_g (lw_at lw_m13 187 rfl) rfl
theorem q3187 : (Jvm.Cond.methodLink "StringTableauModel" (252 : Nat) ({ cls := "StringTableauModel", name := "wordHere", desc := "()I" } : Jvm.MethodName)) ∈ lw_all := lw_g (lw_at lw_m13 188 rfl) rfl
theorem q3188 : (Jvm.Cond.privateMethod ({ cls := "StringTableauModel", name := "wordHere", desc := "()I" } : Jvm.MethodName)) ∈ lw_tbl := lw_at lw_m13 189 rfl
theorem q3189 : (Jvm.Cond.instanceMethod ({ cls := "StringTableauModel", name := "wordHere", desc := "()I" } : Jvm.MethodName)) ∈ lw_all := lw_g (lw_at lw_m13 190 rfl) rfl
theorem q3190 : (Jvm.Cond.code ({ cls := "StringTableauModel", name := "wordHere", desc := "()I" } : Jvm.MethodName) prog_16_method_55_code (4 : Nat) (Option.some Jvm.ClassFile.FieldType.int)) ∈ lw_all := lw_g (lw_at lw_m13 191 rfl) rfl
theorem q3191 : (Jvm.Cond.stringRef "StringTableauModel" (271 : Nat) "h s sdg x y z cx cz swap measure when seed told qubits ") ∈ lw_tbl := lw_at lw_m13 192 rfl
theorem q3192 : (Jvm.Cond.methodLink "StringTableauModel" (273 : Nat) ({ cls := "java/lang/String", name := "length", desc := "()I" } : Jvm.MethodName)) ∈ lw_all := lw_g (lw_at lw_m13 193 rfl) rfl
theorem q3193 : (Jvm.Cond.methodLink "StringTableauModel" (277 : Nat) ({ cls := "java/lang/String", name := "charAt", desc := "(I)C" } : Jvm.MethodName)) ∈ lw_all := lw_g (lw_at lw_m13 194 rfl) rfl
theorem q3194 : (Jvm.Cond.constantLong "StringTableauModel" (258 : Nat) (65 : Int64)) ∈ lw_all := lw_g (lw_at lw_m13 195 rfl) rfl
theorem q3195 : (Jvm.Cond.constantLong "StringTableauModel" (260 : Nat) (90 : Int64)) ∈ lw_all := lw_g (lw_at lw_m13 196 rfl) rfl
theorem q3196 : (Jvm.Cond.constantLong "StringTableauModel" (262 : Nat) (88 : Int64)) ∈ lw_all := lw_g (lw_at lw_m13 197 rfl) rfl
theorem q3197 : (Jvm.Cond.constantLong "StringTableauModel" (264 : Nat) (48 : Int64)) ∈ lw_all := lw_g (lw_at lw_m13 198 rfl) rfl
theorem q3198 : (Jvm.Cond.constantLong "StringTableauModel" (266 : Nat) (57 : Int64)) ∈ lw_all := lw_g (lw_at lw_m13 199 rfl) rfl
theorem q3199 : (Jvm.Cond.methodLink "StringTableauModel" (319 : Nat) ({ cls := "StringTableauModel", name := "isWord", desc := "(I)Z" } : Jvm.MethodName)) ∈ lw_all := lw_g (lw_at lw_m13 200 rfl) rfl
theorem q3200 : (Jvm.Cond.privateMethod ({ cls := "StringTableauModel", name := "isWord", desc := "(I)Z" } : Jvm.MethodName)) ∈ lw_tbl := lw_at lw_m13 201 rfl
theorem q3201 : (Jvm.Cond.instanceMethod ({ cls := "StringTableauModel", name := "isWord", desc := "(I)Z" } : Jvm.MethodName)) ∈ lw_all := lw_g (lw_at lw_m13 202 rfl) rfl
theorem q3202 : (Jvm.Cond.code ({ cls := "StringTableauModel", name := "isWord", desc := "(I)Z" } : Jvm.MethodName) prog_16_method_60_code (2 : Nat) (Option.some Jvm.ClassFile.FieldType.boolean)) ∈ lw_all := lw_g (lw_at lw_m13 203 rfl) rfl
theorem q3203 : (Jvm.Cond.methodLink "StringTableauModel" (284 : Nat) ({ cls := "StringTableauModel", name := "fine", desc := "()Z" } : Jvm.MethodName)) ∈ lw_all := lw_g (lw_at lw_m13 204 rfl) rfl
theorem q3204 : (Jvm.Cond.privateMethod ({ cls := "StringTableauModel", name := "fine", desc := "()Z" } : Jvm.MethodName)) ∈ lw_tbl := lw_at lw_m13 205 rfl
theorem q3205 : (Jvm.Cond.instanceMethod ({ cls := "StringTableauModel", name := "fine", desc := "()Z" } : Jvm.MethodName)) ∈ lw_all := lw_g (lw_at lw_m13 206 rfl) rfl
theorem q3206 : (Jvm.Cond.code ({ cls := "StringTableauModel", name := "fine", desc := "()Z" } : Jvm.MethodName) prog_16_method_56_code (1 : Nat) (Option.some Jvm.ClassFile.FieldType.boolean)) ∈ lw_all := lw_g (lw_at lw_m13 207 rfl) rfl
theorem q3207 : (Jvm.Cond.methodLink "StringTableauModel" (294 : Nat) ({ cls := "StringTableauModel", name := "needs", desc := "(ZI)V" } : Jvm.MethodName)) ∈ lw_all := lw_g (lw_at lw_m13 208 rfl) rfl
theorem q3208 : (Jvm.Cond.privateMethod ({ cls := "StringTableauModel", name := "needs", desc := "(ZI)V" } : Jvm.MethodName)) ∈ lw_tbl := lw_at lw_m13 209 rfl
theorem q3209 : (Jvm.Cond.instanceMethod ({ cls := "StringTableauModel", name := "needs", desc := "(ZI)V" } : Jvm.MethodName)) ∈ lw_all := lw_g (lw_at lw_m13 210 rfl) rfl
theorem q3210 : (Jvm.Cond.code ({ cls := "StringTableauModel", name := "needs", desc := "(ZI)V" } : Jvm.MethodName) prog_16_method_57_code (3 : Nat) (Option.none : Option Jvm.ClassFile.FieldType)) ∈ lw_all := lw_g (lw_at lw_m13 211 rfl) rfl
theorem q3211 : (Jvm.Cond.methodLink "StringTableauModel" (298 : Nat) ({ cls := "StringTableauModel", name := "goOn", desc := "()V" } : Jvm.MethodName)) ∈ lw_all := lw_g (lw_at lw_m13 212 rfl) rfl
theorem q3212 : (Jvm.Cond.privateMethod ({ cls := "StringTableauModel", name := "goOn", desc := "()V" } : Jvm.MethodName)) ∈ lw_tbl := lw_at lw_m13 213 rfl
theorem q3213 : (Jvm.Cond.instanceMethod ({ cls := "StringTableauModel", name := "goOn", desc := "()V" } : Jvm.MethodName)) ∈ lw_all := lw_g (lw_at lw_m13 214 rfl) rfl
theorem q3214 : (Jvm.Cond.code ({ cls := "StringTableauModel", name := "goOn", desc := "()V" } : Jvm.MethodName) prog_16_method_58_code (1 : Nat) (Option.none : Option Jvm.ClassFile.FieldType)) ∈ lw_all := lw_g (lw_at lw_m13 215 rfl) rfl
theorem q3215 : (Jvm.Cond.methodLink "StringTableauModel" (310 : Nat) ({ cls := "StringTableauModel", name := "reads", desc := "(III)I" } : Jvm.MethodName)) ∈ lw_all := lw_g (lw_at lw_m13 216 rfl) rfl
theorem q3216 : (Jvm.Cond.privateMethod ({ cls := "StringTableauModel", name := "reads", desc := "(III)I" } : Jvm.MethodName)) ∈ lw_tbl := lw_at lw_m13 217 rfl
theorem q3217 : (Jvm.Cond.instanceMethod ({ cls := "StringTableauModel", name := "reads", desc := "(III)I" } : Jvm.MethodName)) ∈ lw_all := lw_g (lw_at lw_m13 218 rfl) rfl
theorem q3218 : (Jvm.Cond.code ({ cls := "StringTableauModel", name := "reads", desc := "(III)I" } : Jvm.MethodName) prog_16_method_62_code (5 : Nat) (Option.some Jvm.ClassFile.FieldType.int)) ∈ lw_all := lw_g (lw_at lw_m13 219 rfl) rfl
theorem q3219 : (Jvm.Cond.methodLink "StringTableauModel" (336 : Nat) ({ cls := "StringTableauModel", name := "passesSemicolon", desc := "()V" } : Jvm.MethodName)) ∈ lw_all := lw_g (lw_at lw_m13 220 rfl) rfl
theorem q3220 : (Jvm.Cond.privateMethod ({ cls := "StringTableauModel", name := "passesSemicolon", desc := "()V" } : Jvm.MethodName)) ∈ lw_tbl := lw_at lw_m13 221 rfl
theorem q3221 : (Jvm.Cond.instanceMethod ({ cls := "StringTableauModel", name := "passesSemicolon", desc := "()V" } : Jvm.MethodName)) ∈ lw_all := lw_g (lw_at lw_m13 222 rfl) rfl
theorem q3222 : (Jvm.Cond.code ({ cls := "StringTableauModel", name := "passesSemicolon", desc := "()V" } : Jvm.MethodName) prog_16_method_61_code (1 : Nat) (Option.none : Option Jvm.ClassFile.FieldType)) ∈ lw_all := lw_g (lw_at lw_m13 223 rfl) rfl
theorem q3223 : (Jvm.Cond.methodLink "StringTableauModel" (291 : Nat) ({ cls := "StringTableauModel", name := "isSign", desc := "(I)Z" } : Jvm.MethodName)) ∈ lw_all := lw_g (lw_at lw_m13 224 rfl) rfl
theorem q3224 : (Jvm.Cond.privateMethod ({ cls := "StringTableauModel", name := "isSign", desc := "(I)Z" } : Jvm.MethodName)) ∈ lw_tbl := lw_at lw_m13 225 rfl
theorem q3225 : (Jvm.Cond.instanceMethod ({ cls := "StringTableauModel", name := "isSign", desc := "(I)Z" } : Jvm.MethodName)) ∈ lw_all := lw_g (lw_at lw_m13 226 rfl) rfl
theorem q3226 : (Jvm.Cond.code ({ cls := "StringTableauModel", name := "isSign", desc := "(I)Z" } : Jvm.MethodName) prog_16_method_59_code (2 : Nat) (Option.some Jvm.ClassFile.FieldType.boolean)) ∈ lw_all := lw_g (lw_at lw_m13 227 rfl) rfl
theorem q3227 : (Jvm.Cond.methodLink "StringTableauModel" (345 : Nat) ({ cls := "StringTableauModel", name := "statement", desc := "()V" } : Jvm.MethodName)) ∈ lw_all := lw_g (lw_at lw_m13 228 rfl) rfl
theorem q3228 : (Jvm.Cond.privateMethod ({ cls := "StringTableauModel", name := "statement", desc := "()V" } : Jvm.MethodName)) ∈ lw_tbl := lw_at lw_m13 229 rfl
theorem q3229 : (Jvm.Cond.instanceMethod ({ cls := "StringTableauModel", name := "statement", desc := "()V" } : Jvm.MethodName)) ∈ lw_all := lw_g (lw_at lw_m13 230 rfl) rfl
theorem q3230 : (Jvm.Cond.code ({ cls := "StringTableauModel", name := "statement", desc := "()V" } : Jvm.MethodName) prog_16_method_68_code (3 : Nat) (Option.none : Option Jvm.ClassFile.FieldType)) ∈ lw_all := lw_g (lw_at lw_m13 231 rfl) rfl
theorem q3231 : (Jvm.Cond.constantLong "StringTableauModel" (324 : Nat) (10 : Int64)) ∈ lw_all := lw_g (lw_at lw_m13 232 rfl) rfl
theorem q3232 : (Jvm.Cond.methodLink "StringTableauModel" (333 : Nat) ({ cls := "StringTableauModel", name := "operates", desc := "()V" } : Jvm.MethodName)) ∈ lw_all := lw_g (lw_at lw_m13 233 rfl) rfl
theorem q3233 : (Jvm.Cond.privateMethod ({ cls := "StringTableauModel", name := "operates", desc := "()V" } : Jvm.MethodName)) ∈ lw_tbl := lw_at lw_m13 234 rfl
theorem q3234 : (Jvm.Cond.instanceMethod ({ cls := "StringTableauModel", name := "operates", desc := "()V" } : Jvm.MethodName)) ∈ lw_all := lw_g (lw_at lw_m13 235 rfl) rfl
theorem q3235 : (Jvm.Cond.code ({ cls := "StringTableauModel", name := "operates", desc := "()V" } : Jvm.MethodName) prog_16_method_69_code (2 : Nat) (Option.none : Option Jvm.ClassFile.FieldType)) ∈ lw_all := lw_g (lw_at lw_m13 236 rfl) rfl
theorem q3236 : (Jvm.Cond.methodLink "StringTableauModel" (339 : Nat) ({ cls := "StringTableauModel", name := "readsMeasure", desc := "()V" } : Jvm.MethodName)) ∈ lw_all := lw_g (lw_at lw_m13 237 rfl) rfl
theorem q3237 : (Jvm.Cond.privateMethod ({ cls := "StringTableauModel", name := "readsMeasure", desc := "()V" } : Jvm.MethodName)) ∈ lw_tbl := lw_at lw_m13 238 rfl
theorem q3238 : (Jvm.Cond.instanceMethod ({ cls := "StringTableauModel", name := "readsMeasure", desc := "()V" } : Jvm.MethodName)) ∈ lw_all := lw_g (lw_at lw_m13 239 rfl) rfl
theorem q3239 : (Jvm.Cond.code ({ cls := "StringTableauModel", name := "readsMeasure", desc := "()V" } : Jvm.MethodName) prog_16_method_67_code (3 : Nat) (Option.none : Option Jvm.ClassFile.FieldType)) ∈ lw_all := lw_g (lw_at lw_m14 0 rfl) rfl
theorem q3240 : (Jvm.Cond.methodLink "StringTableauModel" (304 : Nat) ({ cls := "StringTableauModel", name := "lays", desc := "(II)V" } : Jvm.MethodName)) ∈ lw_all := lw_g (lw_at lw_m14 1 rfl) rfl
theorem q3241 : (Jvm.Cond.privateMethod ({ cls := "StringTableauModel", name := "lays", desc := "(II)V" } : Jvm.MethodName)) ∈ lw_tbl := lw_at lw_m14 2 rfl
theorem q3242 : (Jvm.Cond.instanceMethod ({ cls := "StringTableauModel", name := "lays", desc := "(II)V" } : Jvm.MethodName)) ∈ lw_all := lw_g (lw_at lw_m14 3 rfl) rfl
theorem q3243 : (Jvm.Cond.code ({ cls := "StringTableauModel", name := "lays", desc := "(II)V" } : Jvm.MethodName) prog_16_method_64_code (3 : Nat) (Option.none : Option Jvm.ClassFile.FieldType)) ∈ lw_all := lw_g (lw_at lw_m14 4 rfl) rfl
theorem q3244 : (Jvm.Cond.methodLink "StringTableauModel" (313 : Nat) ({ cls := "StringTableauModel", name := "readsSign", desc := "()I" } : Jvm.MethodName)) ∈ lw_all := lw_g (lw_at lw_m14 5 rfl) rfl
theorem q3245 : (Jvm.Cond.privateMethod ({ cls := "StringTableauModel", name := "readsSign", desc := "()I" } : Jvm.MethodName)) ∈ lw_tbl := lw_at lw_m14 6 rfl
theorem q3246 : (Jvm.Cond.instanceMethod ({ cls := "StringTableauModel", name := "readsSign", desc := "()I" } : Jvm.MethodName)) ∈ lw_all := lw_g (lw_at lw_m14 7 rfl) rfl
theorem q3247 : (Jvm.Cond.code ({ cls := "StringTableauModel", name := "readsSign", desc := "()I" } : Jvm.MethodName) prog_16_method_63_code (2 : Nat) (Option.some Jvm.ClassFile.FieldType.int)) ∈ lw_all := lw_g (lw_at lw_m14 8 rfl) rfl
theorem q3248 : (Jvm.Cond.methodLink "StringTableauModel" (316 : Nat) ({ cls := "StringTableauModel", name := "readsString", desc := "()V" } : Jvm.MethodName)) ∈ lw_all := lw_g (lw_at lw_m14 9 rfl) rfl
theorem q3249 : (Jvm.Cond.privateMethod ({ cls := "StringTableauModel", name := "readsString", desc := "()V" } : Jvm.MethodName)) ∈ lw_tbl := lw_at lw_m14 10 rfl
theorem q3250 : (Jvm.Cond.instanceMethod ({ cls := "StringTableauModel", name := "readsString", desc := "()V" } : Jvm.MethodName)) ∈ lw_all := lw_g (lw_at lw_m14 11 rfl) rfl
theorem q3251 : (Jvm.Cond.code ({ cls := "StringTableauModel", name := "readsString", desc := "()V" } : Jvm.MethodName) prog_16_method_66_code (5 : Nat) (Option.none : Option Jvm.ClassFile.FieldType)) ∈ lw_all := lw_g (lw_at lw_m14 12 rfl) rfl
theorem q3252 : (Jvm.Cond.methodLink "StringTableauModel" (342 : Nat) ({ cls := "StringTableauModel", name := "readsGate", desc := "(I)V" } : Jvm.MethodName)) ∈ lw_all := lw_g (lw_at lw_m14 13 rfl) rfl
theorem q3253 : (Jvm.Cond.privateMethod ({ cls := "StringTableauModel", name := "readsGate", desc := "(I)V" } : Jvm.MethodName)) ∈ lw_tbl := lw_at lw_m14 14 rfl
theorem q3254 : (Jvm.Cond.instanceMethod ({ cls := "StringTableauModel", name := "readsGate", desc := "(I)V" } : Jvm.MethodName)) ∈ lw_all := lw_g (lw_at lw_m14 15 rfl) rfl
theorem q3255 : (Jvm.Cond.code ({ cls := "StringTableauModel", name := "readsGate", desc := "(I)V" } : Jvm.MethodName) prog_16_method_65_code (5 : Nat) (Option.none : Option Jvm.ClassFile.FieldType)) ∈ lw_all := lw_g (lw_at lw_m14 16 rfl) rfl
theorem q3256 : (Jvm.Cond.methodLink "StringTableauModel" (348 : Nat) ({ cls := "StringTableauModel", name := "takesProgram", desc := "()V" } : Jvm.MethodName)) ∈ lw_all := lw_g (lw_at lw_m14 17 rfl) rfl
theorem q3257 : (Jvm.Cond.privateMethod ({ cls := "StringTableauModel", name := "takesProgram", desc := "()V" } : Jvm.MethodName)) ∈ lw_tbl := lw_at lw_m14 18 rfl
theorem q3258 : (Jvm.Cond.instanceMethod ({ cls := "StringTableauModel", name := "takesProgram", desc := "()V" } : Jvm.MethodName)) ∈ lw_all := lw_g (lw_at lw_m14 19 rfl) rfl
theorem q3259 : (Jvm.Cond.code ({ cls := "StringTableauModel", name := "takesProgram", desc := "()V" } : Jvm.MethodName) prog_16_method_71_code (3 : Nat) (Option.none : Option Jvm.ClassFile.FieldType)) ∈ lw_all := lw_g (lw_at lw_m14 20 rfl) rfl
theorem q3261 : (Jvm.Cond.instanceMethod ({ cls := "StringTableauModel", name := "errorCode", desc := "()I" } : Jvm.MethodName)) ∈ lw_all := lw_g (lw_at lw_m14 22 rfl) rfl
theorem q3262 : (Jvm.Cond.selects "StringTableauModel" ({ cls := "StringTableauModel", name := "errorCode", desc := "()I" } : Jvm.MethodName) ({ cls := "StringTableauModel", name := "errorCode", desc := "()I" } : Jvm.MethodName)) ∈ lw_all := lw_g (lw_at lw_m14 23 rfl) rfl
theorem q3263 : (Jvm.Cond.code ({ cls := "StringTableauModel", name := "errorCode", desc := "()I" } : Jvm.MethodName) prog_16_method_72_code (1 : Nat) (Option.some Jvm.ClassFile.FieldType.int)) ∈ lw_all := lw_g (lw_at lw_m14 24 rfl) rfl
theorem q3265 : (Jvm.Cond.instanceMethod ({ cls := "StringTableauModel", name := "errorOffset", desc := "()I" } : Jvm.MethodName)) ∈ lw_all := lw_g (lw_at lw_m14 26 rfl) rfl
theorem q3266 : (Jvm.Cond.selects "StringTableauModel" ({ cls := "StringTableauModel", name := "errorOffset", desc := "()I" } : Jvm.MethodName) ({ cls := "StringTableauModel", name := "errorOffset", desc := "()I" } : Jvm.MethodName)) ∈ lw_all := lw_g (lw_at lw_m14 27 rfl) rfl
theorem q3267 : (Jvm.Cond.code ({ cls := "StringTableauModel", name := "errorOffset", desc := "()I" } : Jvm.MethodName) prog_16_method_73_code (1 : Nat) (Option.some Jvm.ClassFile.FieldType.int)) ∈ lw_all := lw_g (lw_at lw_m14 28 rfl) rfl
theorem q3269 : (Jvm.Cond.instanceMethod ({ cls := "StringTableauModel", name := "makeCanonical", desc := "()I" } : Jvm.MethodName)) ∈ lw_all := lw_g (lw_at lw_m14 30 rfl) rfl
theorem q3270 : (Jvm.Cond.selects "StringTableauModel" ({ cls := "StringTableauModel", name := "makeCanonical", desc := "()I" } : Jvm.MethodName) ({ cls := "StringTableauModel", name := "makeCanonical", desc := "()I" } : Jvm.MethodName)) ∈ lw_all := lw_g (lw_at lw_m14 31 rfl) rfl
theorem q3271 : (Jvm.Cond.code ({ cls := "StringTableauModel", name := "makeCanonical", desc := "()I" } : Jvm.MethodName) prog_16_method_77_code (1 : Nat) (Option.some Jvm.ClassFile.FieldType.int)) ∈ lw_all := lw_g (lw_at lw_m14 32 rfl) rfl
theorem q3272 : (Jvm.Cond.methodLink "StringTableauModel" (357 : Nat) ({ cls := "StringTableauModel", name := "straightens", desc := "()V" } : Jvm.MethodName)) ∈ lw_all := lw_g (lw_at lw_m14 33 rfl) rfl
theorem q3273 : (Jvm.Cond.privateMethod ({ cls := "StringTableauModel", name := "straightens", desc := "()V" } : Jvm.MethodName)) ∈ lw_tbl := lw_at lw_m14 34 rfl
theorem q3274 : (Jvm.Cond.instanceMethod ({ cls := "StringTableauModel", name := "straightens", desc := "()V" } : Jvm.MethodName)) ∈ lw_all := lw_g (lw_at lw_m14 35 rfl) rfl
theorem q3275 : (Jvm.Cond.code ({ cls := "StringTableauModel", name := "straightens", desc := "()V" } : Jvm.MethodName) prog_16_method_76_code (3 : Nat) (Option.none : Option Jvm.ClassFile.FieldType)) ∈ lw_all := lw_g (lw_at lw_m14 36 rfl) rfl
theorem q3276 : (Jvm.Cond.methodLink "StringTableauModel" (354 : Nat) ({ cls := "StringTableauModel", name := "clears", desc := "(III)I" } : Jvm.MethodName)) ∈ lw_all := lw_g (lw_at lw_m14 37 rfl) rfl
theorem q3277 : (Jvm.Cond.privateMethod ({ cls := "StringTableauModel", name := "clears", desc := "(III)I" } : Jvm.MethodName)) ∈ lw_tbl := lw_at lw_m14 38 rfl
theorem q3278 : (Jvm.Cond.instanceMethod ({ cls := "StringTableauModel", name := "clears", desc := "(III)I" } : Jvm.MethodName)) ∈ lw_all := lw_g (lw_at lw_m14 39 rfl) rfl
theorem q3279 : (Jvm.Cond.code ({ cls := "StringTableauModel", name := "clears", desc := "(III)I" } : Jvm.MethodName) prog_16_method_75_code (6 : Nat) (Option.some Jvm.ClassFile.FieldType.int)) ∈ lw_all := lw_g (lw_at lw_m14 40 rfl) rfl
theorem q3280 : (Jvm.Cond.methodLink "StringTableauModel" (351 : Nat) ({ cls := "StringTableauModel", name := "exchanges", desc := "(II)V" } : Jvm.MethodName)) ∈ lw_all := lw_g (lw_at lw_m14 41 rfl) rfl
theorem q3281 : (Jvm.Cond.privateMethod ({ cls := "StringTableauModel", name := "exchanges", desc := "(II)V" } : Jvm.MethodName)) ∈ lw_tbl := lw_at lw_m14 42 rfl
theorem q3282 : (Jvm.Cond.instanceMethod ({ cls := "StringTableauModel", name := "exchanges", desc := "(II)V" } : Jvm.MethodName)) ∈ lw_all := lw_g (lw_at lw_m14 43 rfl) rfl
theorem q3283 : (Jvm.Cond.code ({ cls := "StringTableauModel", name := "exchanges", desc := "(II)V" } : Jvm.MethodName) prog_16_method_74_code (6 : Nat) (Option.none : Option Jvm.ClassFile.FieldType)) ∈ lw_all := lw_g (lw_at lw_m14 44 rfl) rfl
theorem q3285 : (Jvm.Cond.instanceMethod ({ cls := "StringTableauModel", name := "canonical", desc := "(II)I" } : Jvm.MethodName)) ∈ lw_all := lw_g (lw_at lw_m14 46 rfl) rfl
theorem q3286 : (Jvm.Cond.selects "StringTableauModel" ({ cls := "StringTableauModel", name := "canonical", desc := "(II)I" } : Jvm.MethodName) ({ cls := "StringTableauModel", name := "canonical", desc := "(II)I" } : Jvm.MethodName)) ∈ lw_all := lw_g (lw_at lw_m14 47 rfl) rfl
theorem q3287 : (Jvm.Cond.code ({ cls := "StringTableauModel", name := "canonical", desc := "(II)I" } : Jvm.MethodName) prog_16_method_80_code (4 : Nat) (Option.some Jvm.ClassFile.FieldType.int)) ∈ lw_all := lw_g (lw_at lw_m14 48 rfl) rfl
theorem q3288 : (Jvm.Cond.methodLink "StringTableauModel" (360 : Nat) ({ cls := "StringTableauModel", name := "isRow", desc := "(I)Z" } : Jvm.MethodName)) ∈ lw_all := lw_g (lw_at lw_m14 49 rfl) rfl
theorem q3289 : (Jvm.Cond.privateMethod ({ cls := "StringTableauModel", name := "isRow", desc := "(I)Z" } : Jvm.MethodName)) ∈ lw_tbl := lw_at lw_m14 50 rfl
theorem q3290 : (Jvm.Cond.instanceMethod ({ cls := "StringTableauModel", name := "isRow", desc := "(I)Z" } : Jvm.MethodName)) ∈ lw_all := lw_g (lw_at lw_m14 51 rfl) rfl
theorem q3291 : (Jvm.Cond.code ({ cls := "StringTableauModel", name := "isRow", desc := "(I)Z" } : Jvm.MethodName) prog_16_method_78_code (2 : Nat) (Option.some Jvm.ClassFile.FieldType.boolean)) ∈ lw_all := lw_g (lw_at lw_m14 52 rfl) rfl
theorem q3292 : (Jvm.Cond.constantLong "StringTableauModel" (363 : Nat) (2 : Int64)) ∈ lw_all := lw_g (lw_at lw_m14 53 rfl) rfl
theorem q3293 : (Jvm.Cond.methodLink "StringTableauModel" (365 : Nat) ({ cls := "StringTableauModel", name := "ofRow", desc := "(II)I" } : Jvm.MethodName)) ∈ lw_all := lw_g (lw_at lw_m14 54 rfl) rfl
theorem q3294 : (Jvm.Cond.privateMethod ({ cls := "StringTableauModel", name := "ofRow", desc := "(II)I" } : Jvm.MethodName)) ∈ lw_tbl := lw_at lw_m14 55 rfl
theorem q3295 : (Jvm.Cond.instanceMethod ({ cls := "StringTableauModel", name := "ofRow", desc := "(II)I" } : Jvm.MethodName)) ∈ lw_all := lw_g (lw_at lw_m14 56 rfl) rfl
theorem q3296 : (Jvm.Cond.code ({ cls := "StringTableauModel", name := "ofRow", desc := "(II)I" } : Jvm.MethodName) prog_16_method_79_code (3 : Nat) (Option.some Jvm.ClassFile.FieldType.int)) ∈ lw_all := lw_g (lw_at lw_m14 57 rfl) rfl
theorem q3298 : (Jvm.Cond.instanceMethod ({ cls := "StringTableauModel", name := "letter", desc := "(II)I" } : Jvm.MethodName)) ∈ lw_all := lw_g (lw_at lw_m14 59 rfl) rfl
theorem q3299 : (Jvm.Cond.selects "StringTableauModel" ({ cls := "StringTableauModel", name := "letter", desc := "(II)I" } : Jvm.MethodName) ({ cls := "StringTableauModel", name := "letter", desc := "(II)I" } : Jvm.MethodName)) ∈ lw_all := lw_g (lw_at lw_m14 60 rfl) rfl
theorem q3300 : (Jvm.Cond.code ({ cls := "StringTableauModel", name := "letter", desc := "(II)I" } : Jvm.MethodName) prog_16_method_81_code (3 : Nat) (Option.some Jvm.ClassFile.FieldType.int)) ∈ lw_all := lw_g (lw_at lw_m14 61 rfl) rfl
theorem q3302 : (Jvm.Cond.instanceMethod ({ cls := "StringTableauModel", name := "row", desc := "(II)I" } : Jvm.MethodName)) ∈ lw_all := lw_g (lw_at lw_m14 63 rfl) rfl
theorem q3303 : (Jvm.Cond.selects "StringTableauModel" ({ cls := "StringTableauModel", name := "row", desc := "(II)I" } : Jvm.MethodName) ({ cls := "StringTableauModel", name := "row", desc := "(II)I" } : Jvm.MethodName)) ∈ lw_all := lw_g (lw_at lw_m14 64 rfl) rfl
theorem q3304 : (Jvm.Cond.code ({ cls := "StringTableauModel", name := "row", desc := "(II)I" } : Jvm.MethodName) prog_16_method_82_code (3 : Nat) (Option.some Jvm.ClassFile.FieldType.int)) ∈ lw_all := lw_g (lw_at lw_m14 65 rfl) rfl
theorem q3306 : (Jvm.Cond.instanceMethod ({ cls := "StringTableauModel", name := "measured", desc := "(II)I" } : Jvm.MethodName)) ∈ lw_all := lw_g (lw_at lw_m14 67 rfl) rfl
theorem q3307 : (Jvm.Cond.selects "StringTableauModel" ({ cls := "StringTableauModel", name := "measured", desc := "(II)I" } : Jvm.MethodName) ({ cls := "StringTableauModel", name := "measured", desc := "(II)I" } : Jvm.MethodName)) ∈ lw_all := lw_g (lw_at lw_m14 68 rfl) rfl
theorem q3308 : (Jvm.Cond.code ({ cls := "StringTableauModel", name := "measured", desc := "(II)I" } : Jvm.MethodName) prog_16_method_83_code (3 : Nat) (Option.some Jvm.ClassFile.FieldType.int)) ∈ lw_all := lw_g (lw_at lw_m14 69 rfl) rfl
theorem q3310 : (Jvm.Cond.instanceMethod ({ cls := "StringTableauModel", name := "commute", desc := "(IIII)Z" } : Jvm.MethodName)) ∈ lw_all := lw_g (lw_at lw_m14 71 rfl) rfl
theorem q3311 : (Jvm.Cond.selects "StringTableauModel" ({ cls := "StringTableauModel", name := "commute", desc := "(IIII)Z" } : Jvm.MethodName) ({ cls := "StringTableauModel", name := "commute", desc := "(IIII)Z" } : Jvm.MethodName)) ∈ lw_all := lw_g (lw_at lw_m14 72 rfl) rfl
theorem q3312 : (Jvm.Cond.code ({ cls := "StringTableauModel", name := "commute", desc := "(IIII)Z" } : Jvm.MethodName) prog_16_method_84_code (5 : Nat) (Option.some Jvm.ClassFile.FieldType.boolean)) ∈ lw_all := lw_g (lw_at lw_m14 73 rfl) rfl
theorem q3314 : (Jvm.Cond.instanceMethod ({ cls := "StringTableauModel", name := "phase", desc := "(IIII)I" } : Jvm.MethodName)) ∈ lw_all := lw_g (lw_at lw_m14 75 rfl) rfl
theorem q3315 : (Jvm.Cond.selects "StringTableauModel" ({ cls := "StringTableauModel", name := "phase", desc := "(IIII)I" } : Jvm.MethodName) ({ cls := "StringTableauModel", name := "phase", desc := "(IIII)I" } : Jvm.MethodName)) ∈ lw_all := lw_g (lw_at lw_m14 76 rfl) rfl
theorem q3316 : (Jvm.Cond.code ({ cls := "StringTableauModel", name := "phase", desc := "(IIII)I" } : Jvm.MethodName) prog_16_method_85_code (5 : Nat) (Option.some Jvm.ClassFile.FieldType.int)) ∈ lw_all := lw_g (lw_at lw_m14 77 rfl) rfl
theorem q3318 : (Jvm.Cond.instanceMethod ({ cls := "StringTableauModel", name := "against", desc := "(II)I" } : Jvm.MethodName)) ∈ lw_all := lw_g (lw_at lw_m14 79 rfl) rfl
theorem q3319 : (Jvm.Cond.selects "StringTableauModel" ({ cls := "StringTableauModel", name := "against", desc := "(II)I" } : Jvm.MethodName) ({ cls := "StringTableauModel", name := "against", desc := "(II)I" } : Jvm.MethodName)) ∈ lw_all := lw_g (lw_at lw_m14 80 rfl) rfl
theorem q3320 : (Jvm.Cond.code ({ cls := "StringTableauModel", name := "against", desc := "(II)I" } : Jvm.MethodName) prog_16_method_86_code (3 : Nat) (Option.some Jvm.ClassFile.FieldType.int)) ∈ lw_all := lw_g (lw_at lw_m14 81 rfl) rfl
theorem q3322 : (Jvm.Cond.instanceMethod ({ cls := "StringTableauModel", name := "expectation", desc := "(II)I" } : Jvm.MethodName)) ∈ lw_all := lw_g (lw_at lw_m14 83 rfl) rfl
theorem q3323 : (Jvm.Cond.selects "StringTableauModel" ({ cls := "StringTableauModel", name := "expectation", desc := "(II)I" } : Jvm.MethodName) ({ cls := "StringTableauModel", name := "expectation", desc := "(II)I" } : Jvm.MethodName)) ∈ lw_all := lw_g (lw_at lw_m14 84 rfl) rfl
theorem q3324 : (Jvm.Cond.code ({ cls := "StringTableauModel", name := "expectation", desc := "(II)I" } : Jvm.MethodName) prog_16_method_87_code (3 : Nat) (Option.some Jvm.ClassFile.FieldType.int)) ∈ lw_all := lw_g (lw_at lw_m14 85 rfl) rfl
theorem q3326 : (Jvm.Cond.instanceMethod ({ cls := "StringTableauModel", name := "decompose", desc := "(II)I" } : Jvm.MethodName)) ∈ lw_all := lw_g (lw_at lw_m14 87 rfl) rfl
theorem q3327 : (Jvm.Cond.selects "StringTableauModel" ({ cls := "StringTableauModel", name := "decompose", desc := "(II)I" } : Jvm.MethodName) ({ cls := "StringTableauModel", name := "decompose", desc := "(II)I" } : Jvm.MethodName)) ∈ lw_all := lw_g (lw_at lw_m14 88 rfl) rfl
theorem q3328 : (Jvm.Cond.code ({ cls := "StringTableauModel", name := "decompose", desc := "(II)I" } : Jvm.MethodName) prog_16_method_88_code (3 : Nat) (Option.some Jvm.ClassFile.FieldType.int)) ∈ lw_all := lw_g (lw_at lw_m14 89 rfl) rfl
theorem q3330 : (Jvm.Cond.instanceMethod ({ cls := "StringTableauModel", name := "element", desc := "(II)I" } : Jvm.MethodName)) ∈ lw_all := lw_g (lw_at lw_m14 91 rfl) rfl
theorem q3331 : (Jvm.Cond.selects "StringTableauModel" ({ cls := "StringTableauModel", name := "element", desc := "(II)I" } : Jvm.MethodName) ({ cls := "StringTableauModel", name := "element", desc := "(II)I" } : Jvm.MethodName)) ∈ lw_all := lw_g (lw_at lw_m14 92 rfl) rfl
theorem q3332 : (Jvm.Cond.code ({ cls := "StringTableauModel", name := "element", desc := "(II)I" } : Jvm.MethodName) prog_16_method_91_code (3 : Nat) (Option.some Jvm.ClassFile.FieldType.int)) ∈ lw_all := lw_g (lw_at lw_m14 93 rfl) rfl
theorem q3333 : (Jvm.Cond.methodLink "StringTableauModel" (368 : Nat) ({ cls := "StringTableauModel", name := "isSet", desc := "(I)Z" } : Jvm.MethodName)) ∈ lw_all := lw_g (lw_at lw_m14 94 rfl) rfl
theorem q3334 : (Jvm.Cond.privateMethod ({ cls := "StringTableauModel", name := "isSet", desc := "(I)Z" } : Jvm.MethodName)) ∈ lw_tbl := lw_at lw_m14 95 rfl
theorem q3335 : (Jvm.Cond.instanceMethod ({ cls := "StringTableauModel", name := "isSet", desc := "(I)Z" } : Jvm.MethodName)) ∈ lw_all := lw_g (lw_at lw_m14 96 rfl) rfl
theorem q3336 : (Jvm.Cond.code ({ cls := "StringTableauModel", name := "isSet", desc := "(I)Z" } : Jvm.MethodName) prog_16_method_90_code (2 : Nat) (Option.some Jvm.ClassFile.FieldType.boolean)) ∈ lw_all := lw_g (lw_at lw_m14 97 rfl) rfl
theorem q3337 : (Jvm.Cond.methodLink "StringTableauModel" (371 : Nat) ({ cls := "StringTableauModel", name := "out", desc := "(I)I" } : Jvm.MethodName)) ∈ lw_all := lw_g (lw_at lw_m14 98 rfl) rfl
theorem q3338 : (Jvm.Cond.privateMethod ({ cls := "StringTableauModel", name := "out", desc := "(I)I" } : Jvm.MethodName)) ∈ lw_tbl := lw_at lw_m14 99 rfl
theorem q3339 : (Jvm.Cond.instanceMethod ({ cls := "StringTableauModel", name := "out", desc := "(I)I" } : Jvm.MethodName)) ∈ lw_all := lw_g (lw_at lw_m14 100 rfl) rfl
theorem q3340 : (Jvm.Cond.code ({ cls := "StringTableauModel", name := "out", desc := "(I)I" } : Jvm.MethodName) prog_16_method_89_code (2 : Nat) (Option.some Jvm.ClassFile.FieldType.int)) ∈ lw_all := lw_g (lw_at lw_m14 101 rfl) rfl
theorem q3342 : (Jvm.Cond.instanceMethod ({ cls := "StringTableauModel", name := "weights", desc := "(I)I" } : Jvm.MethodName)) ∈ lw_all := lw_g (lw_at lw_m14 103 rfl) rfl
theorem q3343 : (Jvm.Cond.selects "StringTableauModel" ({ cls := "StringTableauModel", name := "weights", desc := "(I)I" } : Jvm.MethodName) ({ cls := "StringTableauModel", name := "weights", desc := "(I)I" } : Jvm.MethodName)) ∈ lw_all := lw_g (lw_at lw_m14 104 rfl) rfl
theorem q3344 : (Jvm.Cond.code ({ cls := "StringTableauModel", name := "weights", desc := "(I)I" } : Jvm.MethodName) prog_16_method_93_code (4 : Nat) (Option.some Jvm.ClassFile.FieldType.int)) ∈ lw_all := lw_g (lw_at lw_m14 105 rfl) rfl
theorem q3345 : (Jvm.Cond.methodLink "StringTableauModel" (377 : Nat) ({ cls := "StringTableauModel", name := "weight", desc := "()I" } : Jvm.MethodName)) ∈ lw_all := lw_g (lw_at lw_m14 106 rfl) rfl
theorem q3346 : (Jvm.Cond.privateMethod ({ cls := "StringTableauModel", name := "weight", desc := "()I" } : Jvm.MethodName)) ∈ lw_tbl := lw_at lw_m14 107 rfl
theorem q3347 : (Jvm.Cond.instanceMethod ({ cls := "StringTableauModel", name := "weight", desc := "()I" } : Jvm.MethodName)) ∈ lw_all := lw_g (lw_at lw_m14 108 rfl) rfl
theorem q3348 : (Jvm.Cond.code ({ cls := "StringTableauModel", name := "weight", desc := "()I" } : Jvm.MethodName) prog_16_method_92_code (1 : Nat) (Option.some Jvm.ClassFile.FieldType.int)) ∈ lw_all := lw_g (lw_at lw_m14 109 rfl) rfl
theorem q3349 : (Jvm.Cond.methodLink "StringTableauModel" (374 : Nat) ({ cls := "StringTableauModel", name := "bits", desc := "(I)I" } : Jvm.MethodName)) ∈ lw_all := lw_g (lw_at lw_m14 110 rfl) rfl
theorem q3350 : (Jvm.Cond.static ({ cls := "StringTableauModel", name := "bits", desc := "(I)I" } : Jvm.MethodName)) ∈ lw_all := lw_g (lw_at lw_m14 111 rfl) rfl
theorem q3351 : (Jvm.Cond.code ({ cls := "StringTableauModel", name := "bits", desc := "(I)I" } : Jvm.MethodName) prog_16_method_8_code (3 : Nat) (Option.some Jvm.ClassFile.FieldType.int)) ∈ lw_all := lw_g (lw_at lw_m14 112 rfl) rfl
theorem q3353 : (Jvm.Cond.instanceMethod ({ cls := "StringTableauModel", name := "lightest", desc := "(I)I" } : Jvm.MethodName)) ∈ lw_all := lw_g (lw_at lw_m14 114 rfl) rfl
theorem q3354 : (Jvm.Cond.selects "StringTableauModel" ({ cls := "StringTableauModel", name := "lightest", desc := "(I)I" } : Jvm.MethodName) ({ cls := "StringTableauModel", name := "lightest", desc := "(I)I" } : Jvm.MethodName)) ∈ lw_all := lw_g (lw_at lw_m14 115 rfl) rfl
theorem q3355 : (Jvm.Cond.code ({ cls := "StringTableauModel", name := "lightest", desc := "(I)I" } : Jvm.MethodName) prog_16_method_94_code (8 : Nat) (Option.some Jvm.ClassFile.FieldType.int)) ∈ lw_all := lw_g (lw_at lw_m14 116 rfl) rfl
theorem q3356 : (Jvm.Cond.constantLong "StringTableauModel" (380 : Nat) (3 : Int64)) ∈ lw_all := lw_g (lw_at lw_m14 117 rfl) rfl
theorem q3358 : (Jvm.Cond.instanceMethod ({ cls := "StringTableauModel", name := "pushed", desc := "(IIIII)I" } : Jvm.MethodName)) ∈ lw_all := lw_g (lw_at lw_m14 119 rfl) rfl
theorem q3359 : (Jvm.Cond.selects "StringTableauModel" ({ cls := "StringTableauModel", name := "pushed", desc := "(IIIII)I" } : Jvm.MethodName) ({ cls := "StringTableauModel", name := "pushed", desc := "(IIIII)I" } : Jvm.MethodName)) ∈ lw_all := lw_g (lw_at lw_m14 120 rfl) rfl
theorem q3360 : (Jvm.Cond.code ({ cls := "StringTableauModel", name := "pushed", desc := "(IIIII)I" } : Jvm.MethodName) prog_16_method_98_code (7 : Nat) (Option.some Jvm.ClassFile.FieldType.int)) ∈ lw_all := lw_g (lw_at lw_m14 121 rfl) rfl
theorem q3361 : (Jvm.Cond.methodLink "StringTableauModel" (388 : Nat) ({ cls := "StringTableauModel", name := "mayPush", desc := "(IIIII)Z" } : Jvm.MethodName)) ∈ lw_all := lw_g (lw_at lw_m14 122 rfl) rfl
theorem q3362 : (Jvm.Cond.privateMethod ({ cls := "StringTableauModel", name := "mayPush", desc := "(IIIII)Z" } : Jvm.MethodName)) ∈ lw_tbl := lw_at lw_m14 123 rfl
theorem q3363 : (Jvm.Cond.instanceMethod ({ cls := "StringTableauModel", name := "mayPush", desc := "(IIIII)Z" } : Jvm.MethodName)) ∈ lw_all := lw_g (lw_at lw_m14 124 rfl) rfl
theorem q3364 : (Jvm.Cond.code ({ cls := "StringTableauModel", name := "mayPush", desc := "(IIIII)Z" } : Jvm.MethodName) prog_16_method_97_code (6 : Nat) (Option.some Jvm.ClassFile.FieldType.boolean)) ∈ lw_all := lw_g (lw_at lw_m14 125 rfl) rfl
theorem q3365 : (Jvm.Cond.methodLink "StringTableauModel" (382 : Nat) ({ cls := "StringTableauModel", name := "isPiece", desc := "(II)Z" } : Jvm.MethodName)) ∈ lw_all := lw_g (lw_at lw_m14 126 rfl) rfl
theorem q3366 : (Jvm.Cond.privateMethod ({ cls := "StringTableauModel", name := "isPiece", desc := "(II)Z" } : Jvm.MethodName)) ∈ lw_tbl := lw_at lw_m14 127 rfl
theorem q3367 : (Jvm.Cond.instanceMethod ({ cls := "StringTableauModel", name := "isPiece", desc := "(II)Z" } : Jvm.MethodName)) ∈ lw_all := lw_g (lw_at lw_m14 128 rfl) rfl
theorem q3368 : (Jvm.Cond.code ({ cls := "StringTableauModel", name := "isPiece", desc := "(II)Z" } : Jvm.MethodName) prog_16_method_95_code (3 : Nat) (Option.some Jvm.ClassFile.FieldType.boolean)) ∈ lw_all := lw_g (lw_at lw_m14 129 rfl) rfl
theorem q3369 : (Jvm.Cond.methodLink "StringTableauModel" (385 : Nat) ({ cls := "StringTableauModel", name := "areGates", desc := "(II)Z" } : Jvm.MethodName)) ∈ lw_all := lw_g (lw_at lw_m14 130 rfl) rfl
theorem q3370 : (Jvm.Cond.privateMethod ({ cls := "StringTableauModel", name := "areGates", desc := "(II)Z" } : Jvm.MethodName)) ∈ lw_tbl := lw_at lw_m14 131 rfl
theorem q3371 : (Jvm.Cond.instanceMethod ({ cls := "StringTableauModel", name := "areGates", desc := "(II)Z" } : Jvm.MethodName)) ∈ lw_all := lw_g (lw_at lw_m14 132 rfl) rfl
theorem q3372 : (Jvm.Cond.code ({ cls := "StringTableauModel", name := "areGates", desc := "(II)Z" } : Jvm.MethodName) prog_16_method_96_code (4 : Nat) (Option.some Jvm.ClassFile.FieldType.boolean)) ∈ lw_all := lw_g (lw_at lw_m14 133 rfl) rfl
theorem q3374 : (Jvm.Cond.instanceMethod ({ cls := "StringTableauModel", name := "pulled", desc := "(IIIII)I" } : Jvm.MethodName)) ∈ lw_all := lw_g (lw_at lw_m14 135 rfl) rfl
theorem q3375 : (Jvm.Cond.selects "StringTableauModel" ({ cls := "StringTableauModel", name := "pulled", desc := "(IIIII)I" } : Jvm.MethodName) ({ cls := "StringTableauModel", name := "pulled", desc := "(IIIII)I" } : Jvm.MethodName)) ∈ lw_all := lw_g (lw_at lw_m14 136 rfl) rfl
theorem q3376 : (Jvm.Cond.code ({ cls := "StringTableauModel", name := "pulled", desc := "(IIIII)I" } : Jvm.MethodName) prog_16_method_99_code (7 : Nat) (Option.some Jvm.ClassFile.FieldType.int)) ∈ lw_all := lw_g (lw_at lw_m14 137 rfl) rfl
theorem q3377 : (Jvm.Cond.methodLink "StringTableauModel" (392 : Nat) ({ cls := "StringTableauModel", name := "undoes", desc := "(III)V" } : Jvm.MethodName)) ∈ lw_all := lw_g (lw_at lw_m14 138 rfl) rfl
theorem q3378 : (Jvm.Cond.privateMethod ({ cls := "StringTableauModel", name := "undoes", desc := "(III)V" } : Jvm.MethodName)) ∈ lw_tbl := lw_at lw_m14 139 rfl
theorem q3379 : (Jvm.Cond.instanceMethod ({ cls := "StringTableauModel", name := "undoes", desc := "(III)V" } : Jvm.MethodName)) ∈ lw_all := lw_g (lw_at lw_m14 140 rfl) rfl
theorem q3380 : (Jvm.Cond.code ({ cls := "StringTableauModel", name := "undoes", desc := "(III)V" } : Jvm.MethodName) prog_16_method_25_code (4 : Nat) (Option.none : Option Jvm.ClassFile.FieldType)) ∈ lw_all := lw_g (lw_at lw_m14 141 rfl) rfl
theorem q3382 : (Jvm.Cond.instanceMethod ({ cls := "StringTableauModel", name := "partner", desc := "(II)I" } : Jvm.MethodName)) ∈ lw_all := lw_g (lw_at lw_m14 143 rfl) rfl
theorem q3383 : (Jvm.Cond.selects "StringTableauModel" ({ cls := "StringTableauModel", name := "partner", desc := "(II)I" } : Jvm.MethodName) ({ cls := "StringTableauModel", name := "partner", desc := "(II)I" } : Jvm.MethodName)) ∈ lw_all := lw_g (lw_at lw_m14 144 rfl) rfl
theorem q3384 : (Jvm.Cond.code ({ cls := "StringTableauModel", name := "partner", desc := "(II)I" } : Jvm.MethodName) prog_16_method_100_code (5 : Nat) (Option.some Jvm.ClassFile.FieldType.int)) ∈ lw_all := lw_g (lw_at lw_m14 145 rfl) rfl
theorem q3386 : (Jvm.Cond.instanceMethod ({ cls := "StringTableauModel", name := "entropy", desc := "(I)I" } : Jvm.MethodName)) ∈ lw_all := lw_g (lw_at lw_m14 147 rfl) rfl
theorem q3387 : (Jvm.Cond.selects "StringTableauModel" ({ cls := "StringTableauModel", name := "entropy", desc := "(I)I" } : Jvm.MethodName) ({ cls := "StringTableauModel", name := "entropy", desc := "(I)I" } : Jvm.MethodName)) ∈ lw_all := lw_g (lw_at lw_m14 148 rfl) rfl
theorem q3388 : (Jvm.Cond.code ({ cls := "StringTableauModel", name := "entropy", desc := "(I)I" } : Jvm.MethodName) prog_16_method_104_code (2 : Nat) (Option.some Jvm.ClassFile.FieldType.int)) ∈ lw_all := lw_g (lw_at lw_m14 149 rfl) rfl
theorem q3389 : (Jvm.Cond.methodLink "StringTableauModel" (398 : Nat) ({ cls := "StringTableauModel", name := "laysSupports", desc := "()V" } : Jvm.MethodName)) ∈ lw_all := lw_g (lw_at lw_m14 150 rfl) rfl
theorem q3390 : (Jvm.Cond.privateMethod ({ cls := "StringTableauModel", name := "laysSupports", desc := "()V" } : Jvm.MethodName)) ∈ lw_tbl := lw_at lw_m14 151 rfl
theorem q3391 : (Jvm.Cond.instanceMethod ({ cls := "StringTableauModel", name := "laysSupports", desc := "()V" } : Jvm.MethodName)) ∈ lw_all := lw_g (lw_at lw_m14 152 rfl) rfl
theorem q3392 : (Jvm.Cond.code ({ cls := "StringTableauModel", name := "laysSupports", desc := "()V" } : Jvm.MethodName) prog_16_method_101_code (2 : Nat) (Option.none : Option Jvm.ClassFile.FieldType)) ∈ lw_all := lw_g (lw_at lw_m14 153 rfl) rfl
theorem q3393 : (Jvm.Cond.methodLink "StringTableauModel" (401 : Nat) ({ cls := "StringTableauModel", name := "entropyOf", desc := "(I)I" } : Jvm.MethodName)) ∈ lw_all := lw_g (lw_at lw_m14 154 rfl) rfl
theorem q3394 : (Jvm.Cond.privateMethod ({ cls := "StringTableauModel", name := "entropyOf", desc := "(I)I" } : Jvm.MethodName)) ∈ lw_tbl := lw_at lw_m14 155 rfl
theorem q3395 : (Jvm.Cond.instanceMethod ({ cls := "StringTableauModel", name := "entropyOf", desc := "(I)I" } : Jvm.MethodName)) ∈ lw_all := lw_g (lw_at lw_m14 156 rfl) rfl
theorem q3396 : (Jvm.Cond.code ({ cls := "StringTableauModel", name := "entropyOf", desc := "(I)I" } : Jvm.MethodName) prog_16_method_103_code (4 : Nat) (Option.some Jvm.ClassFile.FieldType.int)) ∈ lw_all := lw_g (lw_at lw_m14 157 rfl) rfl
theorem q3397 : (Jvm.Cond.methodLink "StringTableauModel" (395 : Nat) ({ cls := "StringTableauModel", name := "powerOf", desc := "(I)I" } : Jvm.MethodName)) ∈ lw_all := lw_g (lw_at lw_m14 158 rfl) rfl
theorem q3398 : (Jvm.Cond.static ({ cls := "StringTableauModel", name := "powerOf", desc := "(I)I" } : Jvm.MethodName)) ∈ lw_all := lw_g (lw_at lw_m14 159 rfl) rfl
theorem q3399 : (Jvm.Cond.code ({ cls := "StringTableauModel", name := "powerOf", desc := "(I)I" } : Jvm.MethodName) prog_16_method_102_code (2 : Nat) (Option.some Jvm.ClassFile.FieldType.int)) ∈ lw_all := lw_g (lw_at lw_m14 160 rfl) rfl
theorem q3401 : (Jvm.Cond.instanceMethod ({ cls := "StringTableauModel", name := "freeQubits", desc := "()I" } : Jvm.MethodName)) ∈ lw_all := lw_g (lw_at lw_m14 162 rfl) rfl
theorem q3402 : (Jvm.Cond.selects "StringTableauModel" ({ cls := "StringTableauModel", name := "freeQubits", desc := "()I" } : Jvm.MethodName) ({ cls := "StringTableauModel", name := "freeQubits", desc := "()I" } : Jvm.MethodName)) ∈ lw_all := lw_g (lw_at lw_m14 163 rfl) rfl
theorem q3403 : (Jvm.Cond.code ({ cls := "StringTableauModel", name := "freeQubits", desc := "()I" } : Jvm.MethodName) prog_16_method_105_code (3 : Nat) (Option.some Jvm.ClassFile.FieldType.int)) ∈ lw_all := lw_g (lw_at lw_m14 164 rfl) rfl
theorem q3405 : (Jvm.Cond.instanceMethod ({ cls := "StringTableauModel", name := "block", desc := "(I)I" } : Jvm.MethodName)) ∈ lw_all := lw_g (lw_at lw_m14 166 rfl) rfl
theorem q3406 : (Jvm.Cond.selects "StringTableauModel" ({ cls := "StringTableauModel", name := "block", desc := "(I)I" } : Jvm.MethodName) ({ cls := "StringTableauModel", name := "block", desc := "(I)I" } : Jvm.MethodName)) ∈ lw_all := lw_g (lw_at lw_m14 167 rfl) rfl
theorem q3407 : (Jvm.Cond.code ({ cls := "StringTableauModel", name := "block", desc := "(I)I" } : Jvm.MethodName) prog_16_method_106_code (4 : Nat) (Option.some Jvm.ClassFile.FieldType.int)) ∈ lw_all := lw_g (lw_at lw_m14 168 rfl) rfl
theorem q3409 : (Jvm.Cond.instanceMethod ({ cls := "StringTableauModel", name := "shared", desc := "(II)I" } : Jvm.MethodName)) ∈ lw_all := lw_g (lw_at lw_m14 170 rfl) rfl
theorem q3410 : (Jvm.Cond.selects "StringTableauModel" ({ cls := "StringTableauModel", name := "shared", desc := "(II)I" } : Jvm.MethodName) ({ cls := "StringTableauModel", name := "shared", desc := "(II)I" } : Jvm.MethodName)) ∈ lw_all := lw_g (lw_at lw_m14 171 rfl) rfl
theorem q3411 : (Jvm.Cond.code ({ cls := "StringTableauModel", name := "shared", desc := "(II)I" } : Jvm.MethodName) prog_16_method_107_code (3 : Nat) (Option.some Jvm.ClassFile.FieldType.int)) ∈ lw_all := lw_g (lw_at lw_m14 172 rfl) rfl
theorem q3413 : (Jvm.Cond.instanceMethod ({ cls := "StringTableauModel", name := "mostEntangled", desc := "(I)I" } : Jvm.MethodName)) ∈ lw_all := lw_g (lw_at lw_m14 174 rfl) rfl
theorem q3414 : (Jvm.Cond.selects "StringTableauModel" ({ cls := "StringTableauModel", name := "mostEntangled", desc := "(I)I" } : Jvm.MethodName) ({ cls := "StringTableauModel", name := "mostEntangled", desc := "(I)I" } : Jvm.MethodName)) ∈ lw_all := lw_g (lw_at lw_m14 175 rfl) rfl
theorem q3415 : (Jvm.Cond.code ({ cls := "StringTableauModel", name := "mostEntangled", desc := "(I)I" } : Jvm.MethodName) prog_16_method_108_code (4 : Nat) (Option.some Jvm.ClassFile.FieldType.int)) ∈ lw_all := lw_g (lw_at lw_m14 176 rfl) rfl
theorem q3417 : (Jvm.Cond.instanceMethod ({ cls := "StringTableauModel", name := "closestPair", desc := "()I" } : Jvm.MethodName)) ∈ lw_all := lw_g (lw_at lw_m14 178 rfl) rfl
theorem q3418 : (Jvm.Cond.selects "StringTableauModel" ({ cls := "StringTableauModel", name := "closestPair", desc := "()I" } : Jvm.MethodName) ({ cls := "StringTableauModel", name := "closestPair", desc := "()I" } : Jvm.MethodName)) ∈ lw_all := lw_g (lw_at lw_m14 179 rfl) rfl
theorem q3419 : (Jvm.Cond.code ({ cls := "StringTableauModel", name := "closestPair", desc := "()I" } : Jvm.MethodName) prog_16_method_109_code (6 : Nat) (Option.some Jvm.ClassFile.FieldType.int)) ∈ lw_all := lw_g (lw_at lw_m14 180 rfl) rfl
theorem q3421 : (Jvm.Cond.instanceMethod ({ cls := "StringTableauModel", name := "spread", desc := "()I" } : Jvm.MethodName)) ∈ lw_all := lw_g (lw_at lw_m14 182 rfl) rfl
theorem q3422 : (Jvm.Cond.selects "StringTableauModel" ({ cls := "StringTableauModel", name := "spread", desc := "()I" } : Jvm.MethodName) ({ cls := "StringTableauModel", name := "spread", desc := "()I" } : Jvm.MethodName)) ∈ lw_all := lw_g (lw_at lw_m14 183 rfl) rfl
theorem q3423 : (Jvm.Cond.code ({ cls := "StringTableauModel", name := "spread", desc := "()I" } : Jvm.MethodName) prog_16_method_111_code (1 : Nat) (Option.some Jvm.ClassFile.FieldType.int)) ∈ lw_all := lw_g (lw_at lw_m14 184 rfl) rfl
theorem q3424 : (Jvm.Cond.methodLink "StringTableauModel" (404 : Nat) ({ cls := "StringTableauModel", name := "spreadOf", desc := "()I" } : Jvm.MethodName)) ∈ lw_all := lw_g (lw_at lw_m14 185 rfl) rfl
theorem q3425 : (Jvm.Cond.privateMethod ({ cls := "StringTableauModel", name := "spreadOf", desc := "()I" } : Jvm.MethodName)) ∈ lw_tbl := lw_at lw_m14 186 rfl
theorem q3426 : (Jvm.Cond.instanceMethod ({ cls := "StringTableauModel", name := "spreadOf", desc := "()I" } : Jvm.MethodName)) ∈ lw_all := lw_g (lw_at lw_m14 187 rfl) rfl
theorem q3427 : (Jvm.Cond.code ({ cls := "StringTableauModel", name := "spreadOf", desc := "()I" } : Jvm.MethodName) prog_16_method_110_code (3 : Nat) (Option.some Jvm.ClassFile.FieldType.int)) ∈ lw_all := lw_g (lw_at lw_m14 188 rfl) rfl
theorem q3429 : (Jvm.Cond.instanceMethod ({ cls := "StringTableauModel", name := "probability", desc := "(I)D" } : Jvm.MethodName)) ∈ lw_all := lw_g (lw_at lw_m14 190 rfl) rfl
theorem q3430 : (Jvm.Cond.selects "StringTableauModel" ({ cls := "StringTableauModel", name := "probability", desc := "(I)D" } : Jvm.MethodName) ({ cls := "StringTableauModel", name := "probability", desc := "(I)D" } : Jvm.MethodName)) ∈ lw_all := lw_g (lw_at lw_m14 191 rfl) rfl
theorem q3431 : (Jvm.Cond.code ({ cls := "StringTableauModel", name := "probability", desc := "(I)D" } : Jvm.MethodName) prog_16_method_113_code (2 : Nat) (Option.some Jvm.ClassFile.FieldType.double)) ∈ lw_all := lw_g (lw_at lw_m14 192 rfl) rfl
theorem q3432 : (Jvm.Cond.methodLink "StringTableauModel" (407 : Nat) ({ cls := "StringTableauModel", name := "isPossible", desc := "(I)Z" } : Jvm.MethodName)) ∈ lw_all := lw_g (lw_at lw_m14 193 rfl) rfl
theorem q3433 : (Jvm.Cond.privateMethod ({ cls := "StringTableauModel", name := "isPossible", desc := "(I)Z" } : Jvm.MethodName)) ∈ lw_tbl := lw_at lw_m14 194 rfl
theorem q3434 : (Jvm.Cond.instanceMethod ({ cls := "StringTableauModel", name := "isPossible", desc := "(I)Z" } : Jvm.MethodName)) ∈ lw_all := lw_g (lw_at lw_m14 195 rfl) rfl
theorem q3435 : (Jvm.Cond.code ({ cls := "StringTableauModel", name := "isPossible", desc := "(I)Z" } : Jvm.MethodName) prog_16_method_112_code (3 : Nat) (Option.some Jvm.ClassFile.FieldType.boolean)) ∈ lw_all := lw_g (lw_at lw_m14 196 rfl) rfl
theorem q3437 : (Jvm.Cond.instanceMethod ({ cls := "StringTableauModel", name := "possible", desc := "(I)I" } : Jvm.MethodName)) ∈ lw_all := lw_g (lw_at lw_m14 198 rfl) rfl
theorem q3438 : (Jvm.Cond.selects "StringTableauModel" ({ cls := "StringTableauModel", name := "possible", desc := "(I)I" } : Jvm.MethodName) ({ cls := "StringTableauModel", name := "possible", desc := "(I)I" } : Jvm.MethodName)) ∈ lw_all := lw_g (lw_at lw_m14 199 rfl) rfl
theorem q3439 : (Jvm.Cond.code ({ cls := "StringTableauModel", name := "possible", desc := "(I)I" } : Jvm.MethodName) prog_16_method_114_code (4 : Nat) (Option.some Jvm.ClassFile.FieldType.int)) ∈ lw_all := lw_g (lw_at lw_m14 200 rfl) rfl
theorem q3441 : (Jvm.Cond.instanceMethod ({ cls := "StringTableauModel", name := "keep", desc := "(I)Z" } : Jvm.MethodName)) ∈ lw_all := lw_g (lw_at lw_m14 202 rfl) rfl
theorem q3442 : (Jvm.Cond.selects "StringTableauModel" ({ cls := "StringTableauModel", name := "keep", desc := "(I)Z" } : Jvm.MethodName) ({ cls := "StringTableauModel", name := "keep", desc := "(I)Z" } : Jvm.MethodName)) ∈ lw_all := lw_g (lw_at lw_m14 203 rfl) rfl
theorem q3443 : (Jvm.Cond.code ({ cls := "StringTableauModel", name := "keep", desc := "(I)Z" } : Jvm.MethodName) prog_16_method_116_code (4 : Nat) (Option.some Jvm.ClassFile.FieldType.boolean)) ∈ lw_all := lw_g (lw_at lw_m14 204 rfl) rfl
theorem q3444 : (Jvm.Cond.methodLink "StringTableauModel" (410 : Nat) ({ cls := "StringTableauModel", name := "isSlot", desc := "(I)Z" } : Jvm.MethodName)) ∈ lw_all := lw_g (lw_at lw_m14 205 rfl) rfl
theorem q3445 : (Jvm.Cond.privateMethod ({ cls := "StringTableauModel", name := "isSlot", desc := "(I)Z" } : Jvm.MethodName)) ∈ lw_tbl := lw_at lw_m14 206 rfl
theorem q3446 : (Jvm.Cond.instanceMethod ({ cls := "StringTableauModel", name := "isSlot", desc := "(I)Z" } : Jvm.MethodName)) ∈ lw_all := lw_g (lw_at lw_m14 207 rfl) rfl
theorem q3447 : (Jvm.Cond.code ({ cls := "StringTableauModel", name := "isSlot", desc := "(I)Z" } : Jvm.MethodName) prog_16_method_115_code (2 : Nat) (Option.some Jvm.ClassFile.FieldType.boolean)) ∈ lw_all := lw_g (lw_at lw_m14 208 rfl) rfl
theorem q3449 : (Jvm.Cond.instanceMethod ({ cls := "StringTableauModel", name := "goBack", desc := "(I)I" } : Jvm.MethodName)) ∈ lw_all := lw_g (lw_at lw_m14 210 rfl) rfl
theorem q3450 : (Jvm.Cond.selects "StringTableauModel" ({ cls := "StringTableauModel", name := "goBack", desc := "(I)I" } : Jvm.MethodName) ({ cls := "StringTableauModel", name := "goBack", desc := "(I)I" } : Jvm.MethodName)) ∈ lw_all := lw_g (lw_at lw_m14 211 rfl) rfl
theorem q3451 : (Jvm.Cond.code ({ cls := "StringTableauModel", name := "goBack", desc := "(I)I" } : Jvm.MethodName) prog_16_method_119_code (2 : Nat) (Option.some Jvm.ClassFile.FieldType.int)) ∈ lw_all := lw_g (lw_at lw_m14 212 rfl) rfl
theorem q3452 : (Jvm.Cond.methodLink "StringTableauModel" (413 : Nat) ({ cls := "StringTableauModel", name := "mayUse", desc := "(I)Z" } : Jvm.MethodName)) ∈ lw_all := lw_g (lw_at lw_m14 213 rfl) rfl
theorem q3453 : (Jvm.Cond.privateMethod ({ cls := "StringTableauModel", name := "mayUse", desc := "(I)Z" } : Jvm.MethodName)) ∈ lw_tbl := lw_at lw_m14 214 rfl
theorem q3454 : (Jvm.Cond.instanceMethod ({ cls := "StringTableauModel", name := "mayUse", desc := "(I)Z" } : Jvm.MethodName)) ∈ lw_all := lw_g (lw_at lw_m14 215 rfl) rfl
theorem q3455 : (Jvm.Cond.code ({ cls := "StringTableauModel", name := "mayUse", desc := "(I)Z" } : Jvm.MethodName) prog_16_method_118_code (2 : Nat) (Option.some Jvm.ClassFile.FieldType.boolean)) ∈ lw_all := lw_g (lw_at lw_m14 216 rfl) rfl
theorem q3456 : (Jvm.Cond.methodLink "StringTableauModel" (416 : Nat) ({ cls := "StringTableauModel", name := "takesSlot", desc := "(I)V" } : Jvm.MethodName)) ∈ lw_all := lw_g (lw_at lw_m14 217 rfl) rfl
theorem q3457 : (Jvm.Cond.privateMethod ({ cls := "StringTableauModel", name := "takesSlot", desc := "(I)V" } : Jvm.MethodName)) ∈ lw_tbl := lw_at lw_m14 218 rfl
theorem q3458 : (Jvm.Cond.instanceMethod ({ cls := "StringTableauModel", name := "takesSlot", desc := "(I)V" } : Jvm.MethodName)) ∈ lw_all := lw_g (lw_at lw_m14 219 rfl) rfl
theorem q3459 : (Jvm.Cond.code ({ cls := "StringTableauModel", name := "takesSlot", desc := "(I)V" } : Jvm.MethodName) prog_16_method_117_code (3 : Nat) (Option.none : Option Jvm.ClassFile.FieldType)) ∈ lw_all := lw_g (lw_at lw_m14 220 rfl) rfl
theorem q3461 : (Jvm.Cond.instanceMethod ({ cls := "StringTableauModel", name := "isSame", desc := "(I)Z" } : Jvm.MethodName)) ∈ lw_all := lw_g (lw_at lw_m14 222 rfl) rfl
theorem q3462 : (Jvm.Cond.selects "StringTableauModel" ({ cls := "StringTableauModel", name := "isSame", desc := "(I)Z" } : Jvm.MethodName) ({ cls := "StringTableauModel", name := "isSame", desc := "(I)Z" } : Jvm.MethodName)) ∈ lw_all := lw_g (lw_at lw_m14 223 rfl) rfl
theorem q3463 : (Jvm.Cond.code ({ cls := "StringTableauModel", name := "isSame", desc := "(I)Z" } : Jvm.MethodName) prog_16_method_121_code (2 : Nat) (Option.some Jvm.ClassFile.FieldType.boolean)) ∈ lw_all := lw_g (lw_at lw_m14 224 rfl) rfl
theorem q3464 : (Jvm.Cond.methodLink "StringTableauModel" (425 : Nat) ({ cls := "StringTableauModel", name := "compares", desc := "(I)V" } : Jvm.MethodName)) ∈ lw_all := lw_g (lw_at lw_m14 225 rfl) rfl
theorem q3465 : (Jvm.Cond.privateMethod ({ cls := "StringTableauModel", name := "compares", desc := "(I)V" } : Jvm.MethodName)) ∈ lw_tbl := lw_at lw_m14 226 rfl
theorem q3466 : (Jvm.Cond.instanceMethod ({ cls := "StringTableauModel", name := "compares", desc := "(I)V" } : Jvm.MethodName)) ∈ lw_all := lw_g (lw_at lw_m14 227 rfl) rfl
theorem q3467 : (Jvm.Cond.code ({ cls := "StringTableauModel", name := "compares", desc := "(I)V" } : Jvm.MethodName) prog_16_method_120_code (7 : Nat) (Option.none : Option Jvm.ClassFile.FieldType)) ∈ lw_all := lw_g (lw_at lw_m14 228 rfl) rfl
theorem q3469 : (Jvm.Cond.instanceMethod ({ cls := "StringTableauModel", name := "overlap", desc := "(I)I" } : Jvm.MethodName)) ∈ lw_all := lw_g (lw_at lw_m14 230 rfl) rfl
theorem q3470 : (Jvm.Cond.selects "StringTableauModel" ({ cls := "StringTableauModel", name := "overlap", desc := "(I)I" } : Jvm.MethodName) ({ cls := "StringTableauModel", name := "overlap", desc := "(I)I" } : Jvm.MethodName)) ∈ lw_all := lw_g (lw_at lw_m14 231 rfl) rfl
theorem q3471 : (Jvm.Cond.code ({ cls := "StringTableauModel", name := "overlap", desc := "(I)I" } : Jvm.MethodName) prog_16_method_123_code (2 : Nat) (Option.some Jvm.ClassFile.FieldType.int)) ∈ lw_all := lw_g (lw_at lw_m14 232 rfl) rfl
theorem q3472 : (Jvm.Cond.methodLink "StringTableauModel" (428 : Nat) ({ cls := "StringTableauModel", name := "overlapOf", desc := "(I)I" } : Jvm.MethodName)) ∈ lw_all := lw_g (lw_at lw_m14 233 rfl) rfl
theorem q3473 : (Jvm.Cond.privateMethod ({ cls := "StringTableauModel", name := "overlapOf", desc := "(I)I" } : Jvm.MethodName)) ∈ lw_tbl := lw_at lw_m14 234 rfl
theorem q3474 : (Jvm.Cond.instanceMethod ({ cls := "StringTableauModel", name := "overlapOf", desc := "(I)I" } : Jvm.MethodName)) ∈ lw_all := lw_g (lw_at lw_m14 235 rfl) rfl
theorem q3475 : (Jvm.Cond.code ({ cls := "StringTableauModel", name := "overlapOf", desc := "(I)I" } : Jvm.MethodName) prog_16_method_122_code (2 : Nat) (Option.some Jvm.ClassFile.FieldType.int)) ∈ lw_all := lw_g (lw_at lw_m14 236 rfl) rfl
theorem q3477 : (Jvm.Cond.instanceMethod ({ cls := "StringTableauModel", name := "agreeing", desc := "(I)I" } : Jvm.MethodName)) ∈ lw_all := lw_g (lw_at lw_m14 238 rfl) rfl
theorem q3478 : (Jvm.Cond.selects "StringTableauModel" ({ cls := "StringTableauModel", name := "agreeing", desc := "(I)I" } : Jvm.MethodName) ({ cls := "StringTableauModel", name := "agreeing", desc := "(I)I" } : Jvm.MethodName)) ∈ lw_all := lw_g (lw_at lw_m14 239 rfl) rfl
theorem q3479 : (Jvm.Cond.code ({ cls := "StringTableauModel", name := "agreeing", desc := "(I)I" } : Jvm.MethodName) prog_16_method_124_code (2 : Nat) (Option.some Jvm.ClassFile.FieldType.int)) ∈ lw_all := lw_g (lw_at lw_m15 0 rfl) rfl
theorem q3481 : (Jvm.Cond.instanceMethod ({ cls := "StringTableauModel", name := "outsiders", desc := "(I)I" } : Jvm.MethodName)) ∈ lw_all := lw_g (lw_at lw_m15 2 rfl) rfl
theorem q3482 : (Jvm.Cond.selects "StringTableauModel" ({ cls := "StringTableauModel", name := "outsiders", desc := "(I)I" } : Jvm.MethodName) ({ cls := "StringTableauModel", name := "outsiders", desc := "(I)I" } : Jvm.MethodName)) ∈ lw_all := lw_g (lw_at lw_m15 3 rfl) rfl
theorem q3483 : (Jvm.Cond.code ({ cls := "StringTableauModel", name := "outsiders", desc := "(I)I" } : Jvm.MethodName) prog_16_method_125_code (6 : Nat) (Option.some Jvm.ClassFile.FieldType.int)) ∈ lw_all := lw_g (lw_at lw_m15 4 rfl) rfl
theorem q3485 : (Jvm.Cond.instanceMethod ({ cls := "StringTableauModel", name := "innerSquare", desc := "(I)F" } : Jvm.MethodName)) ∈ lw_all := lw_g (lw_at lw_m15 6 rfl) rfl
theorem q3486 : (Jvm.Cond.selects "StringTableauModel" ({ cls := "StringTableauModel", name := "innerSquare", desc := "(I)F" } : Jvm.MethodName) ({ cls := "StringTableauModel", name := "innerSquare", desc := "(I)F" } : Jvm.MethodName)) ∈ lw_all := lw_g (lw_at lw_m15 7 rfl) rfl
theorem q3487 : (Jvm.Cond.code ({ cls := "StringTableauModel", name := "innerSquare", desc := "(I)F" } : Jvm.MethodName) prog_16_method_126_code (3 : Nat) (Option.some Jvm.ClassFile.FieldType.float)) ∈ lw_all := lw_g (lw_at lw_m15 8 rfl) rfl
theorem q3489 : (Jvm.Cond.instanceMethod ({ cls := "StringTableauModel", name := "print", desc := "(Z)I" } : Jvm.MethodName)) ∈ lw_all := lw_g (lw_at lw_m15 10 rfl) rfl
theorem q3490 : (Jvm.Cond.selects "StringTableauModel" ({ cls := "StringTableauModel", name := "print", desc := "(Z)I" } : Jvm.MethodName) ({ cls := "StringTableauModel", name := "print", desc := "(Z)I" } : Jvm.MethodName)) ∈ lw_all := lw_g (lw_at lw_m15 11 rfl) rfl
theorem q3491 : (Jvm.Cond.code ({ cls := "StringTableauModel", name := "print", desc := "(Z)I" } : Jvm.MethodName) prog_16_method_131_code (3 : Nat) (Option.some Jvm.ClassFile.FieldType.int)) ∈ lw_all := lw_g (lw_at lw_m15 12 rfl) rfl
theorem q3492 : (Jvm.Cond.methodLink "StringTableauModel" (436 : Nat) ({ cls := "StringTableauModel", name := "says", desc := "(I)V" } : Jvm.MethodName)) ∈ lw_all := lw_g (lw_at lw_m15 13 rfl) rfl
theorem q3493 : (Jvm.Cond.privateMethod ({ cls := "StringTableauModel", name := "says", desc := "(I)V" } : Jvm.MethodName)) ∈ lw_tbl := lw_at lw_m15 14 rfl
theorem q3494 : (Jvm.Cond.instanceMethod ({ cls := "StringTableauModel", name := "says", desc := "(I)V" } : Jvm.MethodName)) ∈ lw_all := lw_g (lw_at lw_m15 15 rfl) rfl
theorem q3495 : (Jvm.Cond.code ({ cls := "StringTableauModel", name := "says", desc := "(I)V" } : Jvm.MethodName) prog_16_method_127_code (2 : Nat) (Option.none : Option Jvm.ClassFile.FieldType)) ∈ lw_all := lw_g (lw_at lw_m15 16 rfl) rfl
theorem q3496 : (Jvm.Cond.methodLink "StringTableauModel" (442 : Nat) ({ cls := "StringTableauModel", name := "saysLetters", desc := "(II)V" } : Jvm.MethodName)) ∈ lw_all := lw_g (lw_at lw_m15 17 rfl) rfl
theorem q3497 : (Jvm.Cond.privateMethod ({ cls := "StringTableauModel", name := "saysLetters", desc := "(II)V" } : Jvm.MethodName)) ∈ lw_tbl := lw_at lw_m15 18 rfl
theorem q3498 : (Jvm.Cond.instanceMethod ({ cls := "StringTableauModel", name := "saysLetters", desc := "(II)V" } : Jvm.MethodName)) ∈ lw_all := lw_g (lw_at lw_m15 19 rfl) rfl
theorem q3499 : (Jvm.Cond.code ({ cls := "StringTableauModel", name := "saysLetters", desc := "(II)V" } : Jvm.MethodName) prog_16_method_128_code (4 : Nat) (Option.none : Option Jvm.ClassFile.FieldType)) ∈ lw_all := lw_g (lw_at lw_m15 20 rfl) rfl
theorem q3500 : (Jvm.Cond.stringRef "StringTableauModel" (434 : Nat) "IXYZ") ∈ lw_tbl := lw_at lw_m15 21 rfl
theorem q3502 : (Jvm.Cond.instanceMethod ({ cls := "StringTableauModel", name := "printProgram", desc := "()I" } : Jvm.MethodName)) ∈ lw_all := lw_g (lw_at lw_m15 23 rfl) rfl
theorem q3503 : (Jvm.Cond.selects "StringTableauModel" ({ cls := "StringTableauModel", name := "printProgram", desc := "()I" } : Jvm.MethodName) ({ cls := "StringTableauModel", name := "printProgram", desc := "()I" } : Jvm.MethodName)) ∈ lw_all := lw_g (lw_at lw_m15 24 rfl) rfl
theorem q3504 : (Jvm.Cond.code ({ cls := "StringTableauModel", name := "printProgram", desc := "()I" } : Jvm.MethodName) prog_16_method_133_code (2 : Nat) (Option.some Jvm.ClassFile.FieldType.int)) ∈ lw_all := lw_g (lw_at lw_m15 25 rfl) rfl
theorem q3505 : (Jvm.Cond.methodLink "StringTableauModel" (448 : Nat) ({ cls := "StringTableauModel", name := "saysOperation", desc := "(I)V" } : Jvm.MethodName)) ∈ lw_all := lw_g (lw_at lw_m15 26 rfl) rfl
theorem q3506 : (Jvm.Cond.privateMethod ({ cls := "StringTableauModel", name := "saysOperation", desc := "(I)V" } : Jvm.MethodName)) ∈ lw_tbl := lw_at lw_m15 27 rfl
theorem q3507 : (Jvm.Cond.instanceMethod ({ cls := "StringTableauModel", name := "saysOperation", desc := "(I)V" } : Jvm.MethodName)) ∈ lw_all := lw_g (lw_at lw_m15 28 rfl) rfl
theorem q3508 : (Jvm.Cond.code ({ cls := "StringTableauModel", name := "saysOperation", desc := "(I)V" } : Jvm.MethodName) prog_16_method_132_code (2 : Nat) (Option.none : Option Jvm.ClassFile.FieldType)) ∈ lw_all := lw_g (lw_at lw_m15 29 rfl) rfl
theorem q3509 : (Jvm.Cond.methodLink "StringTableauModel" (445 : Nat) ({ cls := "StringTableauModel", name := "saysWord", desc := "(I)V" } : Jvm.MethodName)) ∈ lw_all := lw_g (lw_at lw_m15 30 rfl) rfl
theorem q3510 : (Jvm.Cond.privateMethod ({ cls := "StringTableauModel", name := "saysWord", desc := "(I)V" } : Jvm.MethodName)) ∈ lw_tbl := lw_at lw_m15 31 rfl
theorem q3511 : (Jvm.Cond.instanceMethod ({ cls := "StringTableauModel", name := "saysWord", desc := "(I)V" } : Jvm.MethodName)) ∈ lw_all := lw_g (lw_at lw_m15 32 rfl) rfl
theorem q3512 : (Jvm.Cond.code ({ cls := "StringTableauModel", name := "saysWord", desc := "(I)V" } : Jvm.MethodName) prog_16_method_130_code (4 : Nat) (Option.none : Option Jvm.ClassFile.FieldType)) ∈ lw_all := lw_g (lw_at lw_m15 33 rfl) rfl
theorem q3513 : (Jvm.Cond.methodLink "StringTableauModel" (439 : Nat) ({ cls := "StringTableauModel", name := "saysNumber", desc := "(I)V" } : Jvm.MethodName)) ∈ lw_all := lw_g (lw_at lw_m15 34 rfl) rfl
theorem q3514 : (Jvm.Cond.privateMethod ({ cls := "StringTableauModel", name := "saysNumber", desc := "(I)V" } : Jvm.MethodName)) ∈ lw_tbl := lw_at lw_m15 35 rfl
theorem q3515 : (Jvm.Cond.instanceMethod ({ cls := "StringTableauModel", name := "saysNumber", desc := "(I)V" } : Jvm.MethodName)) ∈ lw_all := lw_g (lw_at lw_m15 36 rfl) rfl
theorem q3516 : (Jvm.Cond.code ({ cls := "StringTableauModel", name := "saysNumber", desc := "(I)V" } : Jvm.MethodName) prog_16_method_129_code (2 : Nat) (Option.none : Option Jvm.ClassFile.FieldType)) ∈ lw_all := lw_g (lw_at lw_m15 37 rfl) rfl
theorem q3518 : (Jvm.Cond.instanceMethod ({ cls := "StringTableauModel", name := "outputByte", desc := "(I)I" } : Jvm.MethodName)) ∈ lw_all := lw_g (lw_at lw_m15 39 rfl) rfl
theorem q3519 : (Jvm.Cond.selects "StringTableauModel" ({ cls := "StringTableauModel", name := "outputByte", desc := "(I)I" } : Jvm.MethodName) ({ cls := "StringTableauModel", name := "outputByte", desc := "(I)I" } : Jvm.MethodName)) ∈ lw_all := lw_g (lw_at lw_m15 40 rfl) rfl
theorem q3520 : (Jvm.Cond.code ({ cls := "StringTableauModel", name := "outputByte", desc := "(I)I" } : Jvm.MethodName) prog_16_method_134_code (2 : Nat) (Option.some Jvm.ClassFile.FieldType.int)) ∈ lw_all := lw_g (lw_at lw_m15 41 rfl) rfl
theorem q3555 : (Jvm.Cond.castable "StringTableauModel" "java/lang/Object") ∈ lw_tbl := lw_at lw_m15 76 rfl
theorem in_X5 : ∀ w ∈ wsX50, w ∈ lw_all := lw_in wsX50 [2892, 2894, 2896, 2898, 2900, 2902, 2904, 2906, 2908, 2910, 2912, 2914, 2916, 2918, 2920, 2922, 2924, 2926, 2928, 2930, 2932, 2934, 2936, 2938, 2940, 2942, 2944, 2946, 2948, 2950, 2952, 2954, 2956, 2958, 2960, 2962, 2964, 2966, 2968, 2970, 2972, 2974] (by decide +kernel) (by decide +kernel)

