set_option maxRecDepth 100000
abbrev cX5_runnable : ByteArray := prog_16_method_47_code
def yX5_runnable : MethodName := ⟨RX5, "runnable", "()I"⟩
def dkwX5_runnable_1 : List UInt8 := [180, 0, 16, 42, 180, 0, 7, 184, 0, 83, 27, 172]
abbrev dktX5_runnable_1 : List UInt8 := dkwX5_runnable_1 ++ []
def dkwX5_runnable_0 : List UInt8 := [42, 3, 181, 0, 80, 42, 180, 0, 7, 42, 180, 0, 16, 184, 0, 83, 42, 16, 60, 182, 0, 221, 60, 42]
abbrev dktX5_runnable_0 : List UInt8 := dkwX5_runnable_0 ++ dktX5_runnable_1
theorem dksX5_runnable_0 : cX5_runnable.data.toList.drop 0 = dktX5_runnable_0 := by decide +kernel
theorem dksX5_runnable_1 : cX5_runnable.data.toList.drop 24 = dktX5_runnable_1 := dk_seg dksX5_runnable_0 24 rfl rfl
theorem dX5_runnable_0 : decode cX5_runnable 0 = .ok (.aload_n 0, 1) := dk_42 (dk_at dksX5_runnable_0 0 rfl rfl)
theorem dX5_runnable_1 : decode cX5_runnable 1 = .ok (.iconst 0, 1) := dk_3 (dk_at dksX5_runnable_0 1 rfl rfl)
theorem dX5_runnable_2 : decode cX5_runnable 2 = .ok (.putfield 80, 3) := dk_181 0 80 (dk_at dksX5_runnable_0 2 rfl rfl)
theorem dX5_runnable_5 : decode cX5_runnable 5 = .ok (.aload_n 0, 1) := dk_42 (dk_at dksX5_runnable_0 5 rfl rfl)
theorem dX5_runnable_6 : decode cX5_runnable 6 = .ok (.getfield 7, 3) := dk_180 0 7 (dk_at dksX5_runnable_0 6 rfl rfl)
theorem dX5_runnable_9 : decode cX5_runnable 9 = .ok (.aload_n 0, 1) := dk_42 (dk_at dksX5_runnable_0 9 rfl rfl)
theorem dX5_runnable_10 : decode cX5_runnable 10 = .ok (.getfield 16, 3) := dk_180 0 16 (dk_at dksX5_runnable_0 10 rfl rfl)
theorem dX5_runnable_13 : decode cX5_runnable 13 = .ok (.invokestatic 83, 3) := dk_184 0 83 (dk_at dksX5_runnable_0 13 rfl rfl)
theorem dX5_runnable_16 : decode cX5_runnable 16 = .ok (.aload_n 0, 1) := dk_42 (dk_at dksX5_runnable_0 16 rfl rfl)
theorem dX5_runnable_17 : decode cX5_runnable 17 = .ok (.bipush 60, 2) := dk_16 60 (dk_at dksX5_runnable_0 17 rfl rfl)
theorem dX5_runnable_19 : decode cX5_runnable 19 = .ok (.invokevirtual 221, 3) := dk_182 0 221 (dk_at dksX5_runnable_0 19 rfl rfl)
theorem dX5_runnable_22 : decode cX5_runnable 22 = .ok (.istore_n 1, 1) := dk_60 (dk_at dksX5_runnable_0 22 rfl rfl)
theorem dX5_runnable_23 : decode cX5_runnable 23 = .ok (.aload_n 0, 1) := dk_42 (dk_at dksX5_runnable_0 23 rfl rfl)
theorem dX5_runnable_24 : decode cX5_runnable 24 = .ok (.getfield 16, 3) := dk_180 0 16 (dk_at dksX5_runnable_1 0 rfl rfl)
theorem dX5_runnable_27 : decode cX5_runnable 27 = .ok (.aload_n 0, 1) := dk_42 (dk_at dksX5_runnable_1 3 rfl rfl)
theorem dX5_runnable_28 : decode cX5_runnable 28 = .ok (.getfield 7, 3) := dk_180 0 7 (dk_at dksX5_runnable_1 4 rfl rfl)
theorem dX5_runnable_31 : decode cX5_runnable 31 = .ok (.invokestatic 83, 3) := dk_184 0 83 (dk_at dksX5_runnable_1 7 rfl rfl)
theorem dX5_runnable_34 : decode cX5_runnable 34 = .ok (.iload_n 1, 1) := dk_27 (dk_at dksX5_runnable_1 10 rfl rfl)
theorem dX5_runnable_35 : decode cX5_runnable 35 = .ok (.ireturn, 1) := dk_172 (dk_at dksX5_runnable_1 11 rfl rfl)
abbrev cX5_count : ByteArray := prog_16_method_48_code
def yX5_count : MethodName := ⟨RX5, "count", "(I)I"⟩
def dkwX5_count_4 : List UInt8 := [160, 0, 10, 42, 180, 0, 77, 167, 0, 4, 2, 172]
abbrev dktX5_count_4 : List UInt8 := dkwX5_count_4 ++ []
def dkwX5_count_3 : List UInt8 := [46, 172, 42, 182, 0, 225, 172, 42, 180, 0, 7, 6, 46, 172, 42, 180, 0, 7, 8, 46, 172, 27, 16, 7]
abbrev dktX5_count_3 : List UInt8 := dkwX5_count_3 ++ dktX5_count_4
def dkwX5_count_2 : List UInt8 := [42, 180, 0, 7, 3, 46, 172, 42, 180, 0, 213, 172, 42, 180, 0, 7, 5, 46, 172, 42, 180, 0, 7, 7]
abbrev dktX5_count_2 : List UInt8 := dkwX5_count_2 ++ dktX5_count_3
def dkwX5_count_1 : List UInt8 := [170, 0, 0, 0, 0, 87, 0, 0, 0, 0, 0, 0, 0, 6, 0, 0, 0, 42, 0, 0, 0, 49, 0, 0, 0, 54, 0, 0, 0, 61, 0, 0, 0, 68, 0, 0, 0, 73, 0, 0, 0, 80]
abbrev dktX5_count_1 : List UInt8 := dkwX5_count_1 ++ dktX5_count_2
def dkwX5_count_0 : List UInt8 := [42, 3, 181, 0, 80, 27]
abbrev dktX5_count_0 : List UInt8 := dkwX5_count_0 ++ dktX5_count_1
theorem dksX5_count_0 : cX5_count.data.toList.drop 0 = dktX5_count_0 := by decide +kernel
theorem dksX5_count_1 : cX5_count.data.toList.drop 6 = dktX5_count_1 := dk_seg dksX5_count_0 6 rfl rfl
theorem dksX5_count_2 : cX5_count.data.toList.drop 48 = dktX5_count_2 := dk_seg dksX5_count_1 42 rfl rfl
theorem dksX5_count_3 : cX5_count.data.toList.drop 72 = dktX5_count_3 := dk_seg dksX5_count_2 24 rfl rfl
theorem dksX5_count_4 : cX5_count.data.toList.drop 96 = dktX5_count_4 := dk_seg dksX5_count_3 24 rfl rfl
theorem dX5_count_0 : decode cX5_count 0 = .ok (.aload_n 0, 1) := dk_42 (dk_at dksX5_count_0 0 rfl rfl)
theorem dX5_count_1 : decode cX5_count 1 = .ok (.iconst 0, 1) := dk_3 (dk_at dksX5_count_0 1 rfl rfl)
theorem dX5_count_2 : decode cX5_count 2 = .ok (.putfield 80, 3) := dk_181 0 80 (dk_at dksX5_count_0 2 rfl rfl)
theorem dX5_count_5 : decode cX5_count 5 = .ok (.iload_n 1, 1) := dk_27 (dk_at dksX5_count_0 5 rfl rfl)
theorem dX5_count_6 : decode cX5_count 6 = .ok (.tableswitch 87 0 6 #[42, 49, 54, 61, 68, 73, 80], 42) := by decide +kernel
theorem dX5_count_48 : decode cX5_count 48 = .ok (.aload_n 0, 1) := dk_42 (dk_at dksX5_count_2 0 rfl rfl)
theorem dX5_count_49 : decode cX5_count 49 = .ok (.getfield 7, 3) := dk_180 0 7 (dk_at dksX5_count_2 1 rfl rfl)
theorem dX5_count_52 : decode cX5_count 52 = .ok (.iconst 0, 1) := dk_3 (dk_at dksX5_count_2 4 rfl rfl)
theorem dX5_count_53 : decode cX5_count 53 = .ok (.iaload, 1) := dk_46 (dk_at dksX5_count_2 5 rfl rfl)
theorem dX5_count_54 : decode cX5_count 54 = .ok (.ireturn, 1) := dk_172 (dk_at dksX5_count_2 6 rfl rfl)
theorem dX5_count_55 : decode cX5_count 55 = .ok (.aload_n 0, 1) := dk_42 (dk_at dksX5_count_2 7 rfl rfl)
theorem dX5_count_56 : decode cX5_count 56 = .ok (.getfield 213, 3) := dk_180 0 213 (dk_at dksX5_count_2 8 rfl rfl)
theorem dX5_count_59 : decode cX5_count 59 = .ok (.ireturn, 1) := dk_172 (dk_at dksX5_count_2 11 rfl rfl)
theorem dX5_count_60 : decode cX5_count 60 = .ok (.aload_n 0, 1) := dk_42 (dk_at dksX5_count_2 12 rfl rfl)
theorem dX5_count_61 : decode cX5_count 61 = .ok (.getfield 7, 3) := dk_180 0 7 (dk_at dksX5_count_2 13 rfl rfl)
theorem dX5_count_64 : decode cX5_count 64 = .ok (.iconst 2, 1) := dk_5 (dk_at dksX5_count_2 16 rfl rfl)
theorem dX5_count_65 : decode cX5_count 65 = .ok (.iaload, 1) := dk_46 (dk_at dksX5_count_2 17 rfl rfl)
theorem dX5_count_66 : decode cX5_count 66 = .ok (.ireturn, 1) := dk_172 (dk_at dksX5_count_2 18 rfl rfl)
theorem dX5_count_67 : decode cX5_count 67 = .ok (.aload_n 0, 1) := dk_42 (dk_at dksX5_count_2 19 rfl rfl)
theorem dX5_count_68 : decode cX5_count 68 = .ok (.getfield 7, 3) := dk_180 0 7 (dk_at dksX5_count_2 20 rfl rfl)
theorem dX5_count_71 : decode cX5_count 71 = .ok (.iconst 4, 1) := dk_7 (dk_at dksX5_count_2 23 rfl rfl)
theorem dX5_count_72 : decode cX5_count 72 = .ok (.iaload, 1) := dk_46 (dk_at dksX5_count_3 0 rfl rfl)
theorem dX5_count_73 : decode cX5_count 73 = .ok (.ireturn, 1) := dk_172 (dk_at dksX5_count_3 1 rfl rfl)
theorem dX5_count_74 : decode cX5_count 74 = .ok (.aload_n 0, 1) := dk_42 (dk_at dksX5_count_3 2 rfl rfl)
theorem dX5_count_75 : decode cX5_count 75 = .ok (.invokevirtual 225, 3) := dk_182 0 225 (dk_at dksX5_count_3 3 rfl rfl)
theorem dX5_count_78 : decode cX5_count 78 = .ok (.ireturn, 1) := dk_172 (dk_at dksX5_count_3 6 rfl rfl)
theorem dX5_count_79 : decode cX5_count 79 = .ok (.aload_n 0, 1) := dk_42 (dk_at dksX5_count_3 7 rfl rfl)
theorem dX5_count_80 : decode cX5_count 80 = .ok (.getfield 7, 3) := dk_180 0 7 (dk_at dksX5_count_3 8 rfl rfl)
theorem dX5_count_83 : decode cX5_count 83 = .ok (.iconst 3, 1) := dk_6 (dk_at dksX5_count_3 11 rfl rfl)
theorem dX5_count_84 : decode cX5_count 84 = .ok (.iaload, 1) := dk_46 (dk_at dksX5_count_3 12 rfl rfl)
theorem dX5_count_85 : decode cX5_count 85 = .ok (.ireturn, 1) := dk_172 (dk_at dksX5_count_3 13 rfl rfl)
theorem dX5_count_86 : decode cX5_count 86 = .ok (.aload_n 0, 1) := dk_42 (dk_at dksX5_count_3 14 rfl rfl)
theorem dX5_count_87 : decode cX5_count 87 = .ok (.getfield 7, 3) := dk_180 0 7 (dk_at dksX5_count_3 15 rfl rfl)
theorem dX5_count_90 : decode cX5_count 90 = .ok (.iconst 5, 1) := dk_8 (dk_at dksX5_count_3 18 rfl rfl)
theorem dX5_count_91 : decode cX5_count 91 = .ok (.iaload, 1) := dk_46 (dk_at dksX5_count_3 19 rfl rfl)
theorem dX5_count_92 : decode cX5_count 92 = .ok (.ireturn, 1) := dk_172 (dk_at dksX5_count_3 20 rfl rfl)
theorem dX5_count_93 : decode cX5_count 93 = .ok (.iload_n 1, 1) := dk_27 (dk_at dksX5_count_3 21 rfl rfl)
theorem dX5_count_94 : decode cX5_count 94 = .ok (.bipush 7, 2) := dk_16 7 (dk_at dksX5_count_3 22 rfl rfl)
theorem dX5_count_96 : decode cX5_count 96 = .ok (.if_icmp .ne 10, 3) := dk_160 0 10 (dk_at dksX5_count_4 0 rfl rfl)
theorem dX5_count_99 : decode cX5_count 99 = .ok (.aload_n 0, 1) := dk_42 (dk_at dksX5_count_4 3 rfl rfl)
theorem dX5_count_100 : decode cX5_count 100 = .ok (.getfield 77, 3) := dk_180 0 77 (dk_at dksX5_count_4 4 rfl rfl)
theorem dX5_count_103 : decode cX5_count 103 = .ok (.goto 4, 3) := dk_167 0 4 (dk_at dksX5_count_4 7 rfl rfl)
theorem dX5_count_106 : decode cX5_count 106 = .ok (.iconst (-1), 1) := dk_2 (dk_at dksX5_count_4 10 rfl rfl)
theorem dX5_count_107 : decode cX5_count 107 = .ok (.ireturn, 1) := dk_172 (dk_at dksX5_count_4 11 rfl rfl)
abbrev cX5_randoms : ByteArray := prog_16_method_49_code
def yX5_randoms : MethodName := ⟨RX5, "randoms", "()I"⟩
def dkwX5_randoms_1 : List UInt8 := [46, 96, 60, 132, 2, 1, 167, 255, 230, 27, 172]
abbrev dktX5_randoms_1 : List UInt8 := dkwX5_randoms_1 ++ []
def dkwX5_randoms_0 : List UInt8 := [3, 60, 3, 61, 28, 42, 180, 0, 7, 7, 46, 162, 0, 22, 27, 42, 180, 0, 7, 17, 0, 130, 28, 96]
abbrev dktX5_randoms_0 : List UInt8 := dkwX5_randoms_0 ++ dktX5_randoms_1
theorem dksX5_randoms_0 : cX5_randoms.data.toList.drop 0 = dktX5_randoms_0 := by decide +kernel
theorem dksX5_randoms_1 : cX5_randoms.data.toList.drop 24 = dktX5_randoms_1 := dk_seg dksX5_randoms_0 24 rfl rfl
theorem dX5_randoms_0 : decode cX5_randoms 0 = .ok (.iconst 0, 1) := dk_3 (dk_at dksX5_randoms_0 0 rfl rfl)
theorem dX5_randoms_1 : decode cX5_randoms 1 = .ok (.istore_n 1, 1) := dk_60 (dk_at dksX5_randoms_0 1 rfl rfl)
theorem dX5_randoms_2 : decode cX5_randoms 2 = .ok (.iconst 0, 1) := dk_3 (dk_at dksX5_randoms_0 2 rfl rfl)
theorem dX5_randoms_3 : decode cX5_randoms 3 = .ok (.istore_n 2, 1) := dk_61 (dk_at dksX5_randoms_0 3 rfl rfl)
theorem dX5_randoms_4 : decode cX5_randoms 4 = .ok (.iload_n 2, 1) := dk_28 (dk_at dksX5_randoms_0 4 rfl rfl)
theorem dX5_randoms_5 : decode cX5_randoms 5 = .ok (.aload_n 0, 1) := dk_42 (dk_at dksX5_randoms_0 5 rfl rfl)
theorem dX5_randoms_6 : decode cX5_randoms 6 = .ok (.getfield 7, 3) := dk_180 0 7 (dk_at dksX5_randoms_0 6 rfl rfl)
theorem dX5_randoms_9 : decode cX5_randoms 9 = .ok (.iconst 4, 1) := dk_7 (dk_at dksX5_randoms_0 9 rfl rfl)
theorem dX5_randoms_10 : decode cX5_randoms 10 = .ok (.iaload, 1) := dk_46 (dk_at dksX5_randoms_0 10 rfl rfl)
theorem dX5_randoms_11 : decode cX5_randoms 11 = .ok (.if_icmp .ge 22, 3) := dk_162 0 22 (dk_at dksX5_randoms_0 11 rfl rfl)
theorem dX5_randoms_14 : decode cX5_randoms 14 = .ok (.iload_n 1, 1) := dk_27 (dk_at dksX5_randoms_0 14 rfl rfl)
theorem dX5_randoms_15 : decode cX5_randoms 15 = .ok (.aload_n 0, 1) := dk_42 (dk_at dksX5_randoms_0 15 rfl rfl)
theorem dX5_randoms_16 : decode cX5_randoms 16 = .ok (.getfield 7, 3) := dk_180 0 7 (dk_at dksX5_randoms_0 16 rfl rfl)
theorem dX5_randoms_19 : decode cX5_randoms 19 = .ok (.sipush 130, 3) := dk_17 0 130 (dk_at dksX5_randoms_0 19 rfl rfl)
theorem dX5_randoms_22 : decode cX5_randoms 22 = .ok (.iload_n 2, 1) := dk_28 (dk_at dksX5_randoms_0 22 rfl rfl)
theorem dX5_randoms_23 : decode cX5_randoms 23 = .ok (.iadd, 1) := dk_96 (dk_at dksX5_randoms_0 23 rfl rfl)
theorem dX5_randoms_24 : decode cX5_randoms 24 = .ok (.iaload, 1) := dk_46 (dk_at dksX5_randoms_1 0 rfl rfl)
theorem dX5_randoms_25 : decode cX5_randoms 25 = .ok (.iadd, 1) := dk_96 (dk_at dksX5_randoms_1 1 rfl rfl)
theorem dX5_randoms_26 : decode cX5_randoms 26 = .ok (.istore_n 1, 1) := dk_60 (dk_at dksX5_randoms_1 2 rfl rfl)
theorem dX5_randoms_27 : decode cX5_randoms 27 = .ok (.iinc 2 1, 3) := dk_132 2 1 (dk_at dksX5_randoms_1 3 rfl rfl)
theorem dX5_randoms_30 : decode cX5_randoms 30 = .ok (.goto (-26), 3) := dk_167 255 230 (dk_at dksX5_randoms_1 6 rfl rfl)
theorem dX5_randoms_33 : decode cX5_randoms 33 = .ok (.iload_n 1, 1) := dk_27 (dk_at dksX5_randoms_1 9 rfl rfl)
theorem dX5_randoms_34 : decode cX5_randoms 34 = .ok (.ireturn, 1) := dk_172 (dk_at dksX5_randoms_1 10 rfl rfl)
abbrev cX5_operation : ByteArray := prog_16_method_50_code
def yX5_operation : MethodName := ⟨RX5, "operation", "(II)I"⟩
def dkwX5_operation_5 : List UInt8 := [27, 46, 172, 42, 180, 0, 43, 27, 46, 172]
abbrev dktX5_operation_5 : List UInt8 := dkwX5_operation_5 ++ []
def dkwX5_operation_4 : List UInt8 := [180, 0, 31, 27, 46, 172, 42, 180, 0, 34, 27, 46, 172, 42, 180, 0, 37, 27, 46, 172, 42, 180, 0, 40]
abbrev dktX5_operation_4 : List UInt8 := dkwX5_operation_4 ++ dktX5_operation_5
def dkwX5_operation_3 : List UInt8 := [42, 180, 0, 22, 27, 46, 172, 42, 180, 0, 25, 27, 46, 172, 42, 180, 0, 28, 27, 46, 172, 42]
abbrev dktX5_operation_3 : List UInt8 := dkwX5_operation_3 ++ dktX5_operation_4
def dkwX5_operation_2 : List UInt8 := [170, 0, 0, 0, 90, 0, 0, 0, 0, 0, 0, 0, 6, 0, 0, 0, 41, 0, 0, 0, 48, 0, 0, 0, 55, 0, 0, 0, 62, 0, 0, 0, 69, 0, 0, 0, 76, 0, 0, 0, 83]
abbrev dktX5_operation_2 : List UInt8 := dkwX5_operation_2 ++ dktX5_operation_3
def dkwX5_operation_1 : List UInt8 := [184, 0, 135, 153, 0, 7, 4, 167, 0, 4, 3, 182, 0, 87, 154, 0, 5, 3, 172, 28]
abbrev dktX5_operation_1 : List UInt8 := dkwX5_operation_1 ++ dktX5_operation_2
def dkwX5_operation_0 : List UInt8 := [42, 27, 133, 9, 42, 180, 0, 213, 4, 100, 133, 184, 0, 135, 153, 0, 19, 28, 133, 9, 20, 0, 228]
abbrev dktX5_operation_0 : List UInt8 := dkwX5_operation_0 ++ dktX5_operation_1
theorem dksX5_operation_0 : cX5_operation.data.toList.drop 0 = dktX5_operation_0 := by decide +kernel
theorem dksX5_operation_1 : cX5_operation.data.toList.drop 23 = dktX5_operation_1 := dk_seg dksX5_operation_0 23 rfl rfl
theorem dksX5_operation_2 : cX5_operation.data.toList.drop 43 = dktX5_operation_2 := dk_seg dksX5_operation_1 20 rfl rfl
theorem dksX5_operation_3 : cX5_operation.data.toList.drop 84 = dktX5_operation_3 := dk_seg dksX5_operation_2 41 rfl rfl
theorem dksX5_operation_4 : cX5_operation.data.toList.drop 106 = dktX5_operation_4 := dk_seg dksX5_operation_3 22 rfl rfl
theorem dksX5_operation_5 : cX5_operation.data.toList.drop 130 = dktX5_operation_5 := dk_seg dksX5_operation_4 24 rfl rfl
theorem dX5_operation_0 : decode cX5_operation 0 = .ok (.aload_n 0, 1) := dk_42 (dk_at dksX5_operation_0 0 rfl rfl)
theorem dX5_operation_1 : decode cX5_operation 1 = .ok (.iload_n 1, 1) := dk_27 (dk_at dksX5_operation_0 1 rfl rfl)
theorem dX5_operation_2 : decode cX5_operation 2 = .ok (.i2l, 1) := dk_133 (dk_at dksX5_operation_0 2 rfl rfl)
theorem dX5_operation_3 : decode cX5_operation 3 = .ok (.lconst 0, 1) := dk_9 (dk_at dksX5_operation_0 3 rfl rfl)
theorem dX5_operation_4 : decode cX5_operation 4 = .ok (.aload_n 0, 1) := dk_42 (dk_at dksX5_operation_0 4 rfl rfl)
theorem dX5_operation_5 : decode cX5_operation 5 = .ok (.getfield 213, 3) := dk_180 0 213 (dk_at dksX5_operation_0 5 rfl rfl)
theorem dX5_operation_8 : decode cX5_operation 8 = .ok (.iconst 1, 1) := dk_4 (dk_at dksX5_operation_0 8 rfl rfl)
theorem dX5_operation_9 : decode cX5_operation 9 = .ok (.isub, 1) := dk_100 (dk_at dksX5_operation_0 9 rfl rfl)
theorem dX5_operation_10 : decode cX5_operation 10 = .ok (.i2l, 1) := dk_133 (dk_at dksX5_operation_0 10 rfl rfl)
theorem dX5_operation_11 : decode cX5_operation 11 = .ok (.invokestatic 135, 3) := dk_184 0 135 (dk_at dksX5_operation_0 11 rfl rfl)
theorem dX5_operation_14 : decode cX5_operation 14 = .ok (.ifCond .eq 19, 3) := dk_153 0 19 (dk_at dksX5_operation_0 14 rfl rfl)
theorem dX5_operation_17 : decode cX5_operation 17 = .ok (.iload_n 2, 1) := dk_28 (dk_at dksX5_operation_0 17 rfl rfl)
theorem dX5_operation_18 : decode cX5_operation 18 = .ok (.i2l, 1) := dk_133 (dk_at dksX5_operation_0 18 rfl rfl)
theorem dX5_operation_19 : decode cX5_operation 19 = .ok (.lconst 0, 1) := dk_9 (dk_at dksX5_operation_0 19 rfl rfl)
theorem dX5_operation_20 : decode cX5_operation 20 = .ok (.ldc2_w 228, 3) := dk_20 0 228 (dk_at dksX5_operation_0 20 rfl rfl)
theorem dX5_operation_23 : decode cX5_operation 23 = .ok (.invokestatic 135, 3) := dk_184 0 135 (dk_at dksX5_operation_1 0 rfl rfl)
theorem dX5_operation_26 : decode cX5_operation 26 = .ok (.ifCond .eq 7, 3) := dk_153 0 7 (dk_at dksX5_operation_1 3 rfl rfl)
theorem dX5_operation_29 : decode cX5_operation 29 = .ok (.iconst 1, 1) := dk_4 (dk_at dksX5_operation_1 6 rfl rfl)
theorem dX5_operation_30 : decode cX5_operation 30 = .ok (.goto 4, 3) := dk_167 0 4 (dk_at dksX5_operation_1 7 rfl rfl)
theorem dX5_operation_33 : decode cX5_operation 33 = .ok (.iconst 0, 1) := dk_3 (dk_at dksX5_operation_1 10 rfl rfl)
theorem dX5_operation_34 : decode cX5_operation 34 = .ok (.invokevirtual 87, 3) := dk_182 0 87 (dk_at dksX5_operation_1 11 rfl rfl)
theorem dX5_operation_37 : decode cX5_operation 37 = .ok (.ifCond .ne 5, 3) := dk_154 0 5 (dk_at dksX5_operation_1 14 rfl rfl)
theorem dX5_operation_40 : decode cX5_operation 40 = .ok (.iconst 0, 1) := dk_3 (dk_at dksX5_operation_1 17 rfl rfl)
theorem dX5_operation_41 : decode cX5_operation 41 = .ok (.ireturn, 1) := dk_172 (dk_at dksX5_operation_1 18 rfl rfl)
theorem dX5_operation_42 : decode cX5_operation 42 = .ok (.iload_n 2, 1) := dk_28 (dk_at dksX5_operation_1 19 rfl rfl)
theorem dX5_operation_43 : decode cX5_operation 43 = .ok (.tableswitch 90 0 6 #[41, 48, 55, 62, 69, 76, 83], 41) := by decide +kernel
theorem dX5_operation_84 : decode cX5_operation 84 = .ok (.aload_n 0, 1) := dk_42 (dk_at dksX5_operation_3 0 rfl rfl)
theorem dX5_operation_85 : decode cX5_operation 85 = .ok (.getfield 22, 3) := dk_180 0 22 (dk_at dksX5_operation_3 1 rfl rfl)
theorem dX5_operation_88 : decode cX5_operation 88 = .ok (.iload_n 1, 1) := dk_27 (dk_at dksX5_operation_3 4 rfl rfl)
theorem dX5_operation_89 : decode cX5_operation 89 = .ok (.iaload, 1) := dk_46 (dk_at dksX5_operation_3 5 rfl rfl)
theorem dX5_operation_90 : decode cX5_operation 90 = .ok (.ireturn, 1) := dk_172 (dk_at dksX5_operation_3 6 rfl rfl)
theorem dX5_operation_91 : decode cX5_operation 91 = .ok (.aload_n 0, 1) := dk_42 (dk_at dksX5_operation_3 7 rfl rfl)
theorem dX5_operation_92 : decode cX5_operation 92 = .ok (.getfield 25, 3) := dk_180 0 25 (dk_at dksX5_operation_3 8 rfl rfl)
theorem dX5_operation_95 : decode cX5_operation 95 = .ok (.iload_n 1, 1) := dk_27 (dk_at dksX5_operation_3 11 rfl rfl)
theorem dX5_operation_96 : decode cX5_operation 96 = .ok (.iaload, 1) := dk_46 (dk_at dksX5_operation_3 12 rfl rfl)
theorem dX5_operation_97 : decode cX5_operation 97 = .ok (.ireturn, 1) := dk_172 (dk_at dksX5_operation_3 13 rfl rfl)
theorem dX5_operation_98 : decode cX5_operation 98 = .ok (.aload_n 0, 1) := dk_42 (dk_at dksX5_operation_3 14 rfl rfl)
theorem dX5_operation_99 : decode cX5_operation 99 = .ok (.getfield 28, 3) := dk_180 0 28 (dk_at dksX5_operation_3 15 rfl rfl)
theorem dX5_operation_102 : decode cX5_operation 102 = .ok (.iload_n 1, 1) := dk_27 (dk_at dksX5_operation_3 18 rfl rfl)
theorem dX5_operation_103 : decode cX5_operation 103 = .ok (.iaload, 1) := dk_46 (dk_at dksX5_operation_3 19 rfl rfl)
theorem dX5_operation_104 : decode cX5_operation 104 = .ok (.ireturn, 1) := dk_172 (dk_at dksX5_operation_3 20 rfl rfl)
theorem dX5_operation_105 : decode cX5_operation 105 = .ok (.aload_n 0, 1) := dk_42 (dk_at dksX5_operation_3 21 rfl rfl)
theorem dX5_operation_106 : decode cX5_operation 106 = .ok (.getfield 31, 3) := dk_180 0 31 (dk_at dksX5_operation_4 0 rfl rfl)
theorem dX5_operation_109 : decode cX5_operation 109 = .ok (.iload_n 1, 1) := dk_27 (dk_at dksX5_operation_4 3 rfl rfl)
theorem dX5_operation_110 : decode cX5_operation 110 = .ok (.iaload, 1) := dk_46 (dk_at dksX5_operation_4 4 rfl rfl)
theorem dX5_operation_111 : decode cX5_operation 111 = .ok (.ireturn, 1) := dk_172 (dk_at dksX5_operation_4 5 rfl rfl)
theorem dX5_operation_112 : decode cX5_operation 112 = .ok (.aload_n 0, 1) := dk_42 (dk_at dksX5_operation_4 6 rfl rfl)
theorem dX5_operation_113 : decode cX5_operation 113 = .ok (.getfield 34, 3) := dk_180 0 34 (dk_at dksX5_operation_4 7 rfl rfl)
theorem dX5_operation_116 : decode cX5_operation 116 = .ok (.iload_n 1, 1) := dk_27 (dk_at dksX5_operation_4 10 rfl rfl)
theorem dX5_operation_117 : decode cX5_operation 117 = .ok (.iaload, 1) := dk_46 (dk_at dksX5_operation_4 11 rfl rfl)
theorem dX5_operation_118 : decode cX5_operation 118 = .ok (.ireturn, 1) := dk_172 (dk_at dksX5_operation_4 12 rfl rfl)
theorem dX5_operation_119 : decode cX5_operation 119 = .ok (.aload_n 0, 1) := dk_42 (dk_at dksX5_operation_4 13 rfl rfl)
theorem dX5_operation_120 : decode cX5_operation 120 = .ok (.getfield 37, 3) := dk_180 0 37 (dk_at dksX5_operation_4 14 rfl rfl)
theorem dX5_operation_123 : decode cX5_operation 123 = .ok (.iload_n 1, 1) := dk_27 (dk_at dksX5_operation_4 17 rfl rfl)
theorem dX5_operation_124 : decode cX5_operation 124 = .ok (.iaload, 1) := dk_46 (dk_at dksX5_operation_4 18 rfl rfl)
theorem dX5_operation_125 : decode cX5_operation 125 = .ok (.ireturn, 1) := dk_172 (dk_at dksX5_operation_4 19 rfl rfl)
theorem dX5_operation_126 : decode cX5_operation 126 = .ok (.aload_n 0, 1) := dk_42 (dk_at dksX5_operation_4 20 rfl rfl)
theorem dX5_operation_127 : decode cX5_operation 127 = .ok (.getfield 40, 3) := dk_180 0 40 (dk_at dksX5_operation_4 21 rfl rfl)
theorem dX5_operation_130 : decode cX5_operation 130 = .ok (.iload_n 1, 1) := dk_27 (dk_at dksX5_operation_5 0 rfl rfl)
theorem dX5_operation_131 : decode cX5_operation 131 = .ok (.iaload, 1) := dk_46 (dk_at dksX5_operation_5 1 rfl rfl)
theorem dX5_operation_132 : decode cX5_operation 132 = .ok (.ireturn, 1) := dk_172 (dk_at dksX5_operation_5 2 rfl rfl)
theorem dX5_operation_133 : decode cX5_operation 133 = .ok (.aload_n 0, 1) := dk_42 (dk_at dksX5_operation_5 3 rfl rfl)
theorem dX5_operation_134 : decode cX5_operation 134 = .ok (.getfield 43, 3) := dk_180 0 43 (dk_at dksX5_operation_5 4 rfl rfl)
theorem dX5_operation_137 : decode cX5_operation 137 = .ok (.iload_n 1, 1) := dk_27 (dk_at dksX5_operation_5 7 rfl rfl)
theorem dX5_operation_138 : decode cX5_operation 138 = .ok (.iaload, 1) := dk_46 (dk_at dksX5_operation_5 8 rfl rfl)
theorem dX5_operation_139 : decode cX5_operation 139 = .ok (.ireturn, 1) := dk_172 (dk_at dksX5_operation_5 9 rfl rfl)
abbrev cX5_feed : ByteArray := prog_16_method_51_code
def yX5_feed : MethodName := ⟨RX5, "feed", "(IIIII)I"⟩
def dkwX5_feed_5 : List UInt8 := [180, 0, 230, 172]
abbrev dktX5_feed_5 : List UInt8 := dkwX5_feed_5 ++ []
def dkwX5_feed_4 : List UInt8 := [112, 104, 100, 122, 145, 84, 42, 42, 180, 0, 230, 4, 96, 181, 0, 230, 132, 6, 1, 167, 255, 165, 42]
abbrev dktX5_feed_4 : List UInt8 := dkwX5_feed_4 ++ dktX5_feed_5
def dkwX5_feed_3 : List UInt8 := [167, 0, 5, 21, 5, 54, 7, 42, 180, 0, 49, 42, 180, 0, 230, 21, 7, 16, 24, 16, 8, 21, 6, 7]
abbrev dktX5_feed_3 : List UInt8 := dkwX5_feed_3 ++ dktX5_feed_4
def dkwX5_feed_2 : List UInt8 := [28, 167, 0, 28, 21, 6, 16, 12, 162, 0, 7, 29, 167, 0, 17, 21, 6, 16, 16, 162, 0, 8, 21, 4]
abbrev dktX5_feed_2 : List UInt8 := dkwX5_feed_2 ++ dktX5_feed_3
def dkwX5_feed_1 : List UInt8 := [21, 6, 16, 20, 162, 0, 90, 21, 6, 7, 162, 0, 7, 27, 167, 0, 39, 21, 6, 16, 8, 162, 0, 7]
abbrev dktX5_feed_1 : List UInt8 := dkwX5_feed_1 ++ dktX5_feed_2
def dkwX5_feed_0 : List UInt8 := [42, 3, 181, 0, 80, 42, 180, 0, 230, 16, 20, 96, 17, 2, 188, 164, 0, 5, 2, 172, 3, 54, 6]
abbrev dktX5_feed_0 : List UInt8 := dkwX5_feed_0 ++ dktX5_feed_1
theorem dksX5_feed_0 : cX5_feed.data.toList.drop 0 = dktX5_feed_0 := by decide +kernel
theorem dksX5_feed_1 : cX5_feed.data.toList.drop 23 = dktX5_feed_1 := dk_seg dksX5_feed_0 23 rfl rfl
theorem dksX5_feed_2 : cX5_feed.data.toList.drop 47 = dktX5_feed_2 := dk_seg dksX5_feed_1 24 rfl rfl
theorem dksX5_feed_3 : cX5_feed.data.toList.drop 71 = dktX5_feed_3 := dk_seg dksX5_feed_2 24 rfl rfl
theorem dksX5_feed_4 : cX5_feed.data.toList.drop 95 = dktX5_feed_4 := dk_seg dksX5_feed_3 24 rfl rfl
theorem dksX5_feed_5 : cX5_feed.data.toList.drop 118 = dktX5_feed_5 := dk_seg dksX5_feed_4 23 rfl rfl
theorem dX5_feed_0 : decode cX5_feed 0 = .ok (.aload_n 0, 1) := dk_42 (dk_at dksX5_feed_0 0 rfl rfl)
theorem dX5_feed_1 : decode cX5_feed 1 = .ok (.iconst 0, 1) := dk_3 (dk_at dksX5_feed_0 1 rfl rfl)
theorem dX5_feed_2 : decode cX5_feed 2 = .ok (.putfield 80, 3) := dk_181 0 80 (dk_at dksX5_feed_0 2 rfl rfl)
theorem dX5_feed_5 : decode cX5_feed 5 = .ok (.aload_n 0, 1) := dk_42 (dk_at dksX5_feed_0 5 rfl rfl)
theorem dX5_feed_6 : decode cX5_feed 6 = .ok (.getfield 230, 3) := dk_180 0 230 (dk_at dksX5_feed_0 6 rfl rfl)
theorem dX5_feed_9 : decode cX5_feed 9 = .ok (.bipush 20, 2) := dk_16 20 (dk_at dksX5_feed_0 9 rfl rfl)
theorem dX5_feed_11 : decode cX5_feed 11 = .ok (.iadd, 1) := dk_96 (dk_at dksX5_feed_0 11 rfl rfl)
theorem dX5_feed_12 : decode cX5_feed 12 = .ok (.sipush 700, 3) := dk_17 2 188 (dk_at dksX5_feed_0 12 rfl rfl)
theorem dX5_feed_15 : decode cX5_feed 15 = .ok (.if_icmp .le 5, 3) := dk_164 0 5 (dk_at dksX5_feed_0 15 rfl rfl)
theorem dX5_feed_18 : decode cX5_feed 18 = .ok (.iconst (-1), 1) := dk_2 (dk_at dksX5_feed_0 18 rfl rfl)
theorem dX5_feed_19 : decode cX5_feed 19 = .ok (.ireturn, 1) := dk_172 (dk_at dksX5_feed_0 19 rfl rfl)
theorem dX5_feed_20 : decode cX5_feed 20 = .ok (.iconst 0, 1) := dk_3 (dk_at dksX5_feed_0 20 rfl rfl)
theorem dX5_feed_21 : decode cX5_feed 21 = .ok (.istore 6, 2) := dk_54 6 (dk_at dksX5_feed_0 21 rfl rfl)
theorem dX5_feed_23 : decode cX5_feed 23 = .ok (.iload 6, 2) := dk_21 6 (dk_at dksX5_feed_1 0 rfl rfl)
theorem dX5_feed_25 : decode cX5_feed 25 = .ok (.bipush 20, 2) := dk_16 20 (dk_at dksX5_feed_1 2 rfl rfl)
theorem dX5_feed_27 : decode cX5_feed 27 = .ok (.if_icmp .ge 90, 3) := dk_162 0 90 (dk_at dksX5_feed_1 4 rfl rfl)
theorem dX5_feed_30 : decode cX5_feed 30 = .ok (.iload 6, 2) := dk_21 6 (dk_at dksX5_feed_1 7 rfl rfl)
theorem dX5_feed_32 : decode cX5_feed 32 = .ok (.iconst 4, 1) := dk_7 (dk_at dksX5_feed_1 9 rfl rfl)
theorem dX5_feed_33 : decode cX5_feed 33 = .ok (.if_icmp .ge 7, 3) := dk_162 0 7 (dk_at dksX5_feed_1 10 rfl rfl)
theorem dX5_feed_36 : decode cX5_feed 36 = .ok (.iload_n 1, 1) := dk_27 (dk_at dksX5_feed_1 13 rfl rfl)
theorem dX5_feed_37 : decode cX5_feed 37 = .ok (.goto 39, 3) := dk_167 0 39 (dk_at dksX5_feed_1 14 rfl rfl)
theorem dX5_feed_40 : decode cX5_feed 40 = .ok (.iload 6, 2) := dk_21 6 (dk_at dksX5_feed_1 17 rfl rfl)
theorem dX5_feed_42 : decode cX5_feed 42 = .ok (.bipush 8, 2) := dk_16 8 (dk_at dksX5_feed_1 19 rfl rfl)
theorem dX5_feed_44 : decode cX5_feed 44 = .ok (.if_icmp .ge 7, 3) := dk_162 0 7 (dk_at dksX5_feed_1 21 rfl rfl)
theorem dX5_feed_47 : decode cX5_feed 47 = .ok (.iload_n 2, 1) := dk_28 (dk_at dksX5_feed_2 0 rfl rfl)
theorem dX5_feed_48 : decode cX5_feed 48 = .ok (.goto 28, 3) := dk_167 0 28 (dk_at dksX5_feed_2 1 rfl rfl)
theorem dX5_feed_51 : decode cX5_feed 51 = .ok (.iload 6, 2) := dk_21 6 (dk_at dksX5_feed_2 4 rfl rfl)
theorem dX5_feed_53 : decode cX5_feed 53 = .ok (.bipush 12, 2) := dk_16 12 (dk_at dksX5_feed_2 6 rfl rfl)
theorem dX5_feed_55 : decode cX5_feed 55 = .ok (.if_icmp .ge 7, 3) := dk_162 0 7 (dk_at dksX5_feed_2 8 rfl rfl)
theorem dX5_feed_58 : decode cX5_feed 58 = .ok (.iload_n 3, 1) := dk_29 (dk_at dksX5_feed_2 11 rfl rfl)
theorem dX5_feed_59 : decode cX5_feed 59 = .ok (.goto 17, 3) := dk_167 0 17 (dk_at dksX5_feed_2 12 rfl rfl)
theorem dX5_feed_62 : decode cX5_feed 62 = .ok (.iload 6, 2) := dk_21 6 (dk_at dksX5_feed_2 15 rfl rfl)
theorem dX5_feed_64 : decode cX5_feed 64 = .ok (.bipush 16, 2) := dk_16 16 (dk_at dksX5_feed_2 17 rfl rfl)
theorem dX5_feed_66 : decode cX5_feed 66 = .ok (.if_icmp .ge 8, 3) := dk_162 0 8 (dk_at dksX5_feed_2 19 rfl rfl)
theorem dX5_feed_69 : decode cX5_feed 69 = .ok (.iload 4, 2) := dk_21 4 (dk_at dksX5_feed_2 22 rfl rfl)
theorem dX5_feed_71 : decode cX5_feed 71 = .ok (.goto 5, 3) := dk_167 0 5 (dk_at dksX5_feed_3 0 rfl rfl)
theorem dX5_feed_74 : decode cX5_feed 74 = .ok (.iload 5, 2) := dk_21 5 (dk_at dksX5_feed_3 3 rfl rfl)
theorem dX5_feed_76 : decode cX5_feed 76 = .ok (.istore 7, 2) := dk_54 7 (dk_at dksX5_feed_3 5 rfl rfl)
theorem dX5_feed_78 : decode cX5_feed 78 = .ok (.aload_n 0, 1) := dk_42 (dk_at dksX5_feed_3 7 rfl rfl)
theorem dX5_feed_79 : decode cX5_feed 79 = .ok (.getfield 49, 3) := dk_180 0 49 (dk_at dksX5_feed_3 8 rfl rfl)
theorem dX5_feed_82 : decode cX5_feed 82 = .ok (.aload_n 0, 1) := dk_42 (dk_at dksX5_feed_3 11 rfl rfl)
theorem dX5_feed_83 : decode cX5_feed 83 = .ok (.getfield 230, 3) := dk_180 0 230 (dk_at dksX5_feed_3 12 rfl rfl)
theorem dX5_feed_86 : decode cX5_feed 86 = .ok (.iload 7, 2) := dk_21 7 (dk_at dksX5_feed_3 15 rfl rfl)
theorem dX5_feed_88 : decode cX5_feed 88 = .ok (.bipush 24, 2) := dk_16 24 (dk_at dksX5_feed_3 17 rfl rfl)
theorem dX5_feed_90 : decode cX5_feed 90 = .ok (.bipush 8, 2) := dk_16 8 (dk_at dksX5_feed_3 19 rfl rfl)
theorem dX5_feed_92 : decode cX5_feed 92 = .ok (.iload 6, 2) := dk_21 6 (dk_at dksX5_feed_3 21 rfl rfl)
theorem dX5_feed_94 : decode cX5_feed 94 = .ok (.iconst 4, 1) := dk_7 (dk_at dksX5_feed_3 23 rfl rfl)
theorem dX5_feed_95 : decode cX5_feed 95 = .ok (.irem, 1) := dk_112 (dk_at dksX5_feed_4 0 rfl rfl)
theorem dX5_feed_96 : decode cX5_feed 96 = .ok (.imul, 1) := dk_104 (dk_at dksX5_feed_4 1 rfl rfl)
theorem dX5_feed_97 : decode cX5_feed 97 = .ok (.isub, 1) := dk_100 (dk_at dksX5_feed_4 2 rfl rfl)
theorem dX5_feed_98 : decode cX5_feed 98 = .ok (.ishr, 1) := dk_122 (dk_at dksX5_feed_4 3 rfl rfl)
theorem dX5_feed_99 : decode cX5_feed 99 = .ok (.i2b, 1) := dk_145 (dk_at dksX5_feed_4 4 rfl rfl)
theorem dX5_feed_100 : decode cX5_feed 100 = .ok (.bastore, 1) := dk_84 (dk_at dksX5_feed_4 5 rfl rfl)
theorem dX5_feed_101 : decode cX5_feed 101 = .ok (.aload_n 0, 1) := dk_42 (dk_at dksX5_feed_4 6 rfl rfl)
theorem dX5_feed_102 : decode cX5_feed 102 = .ok (.aload_n 0, 1) := dk_42 (dk_at dksX5_feed_4 7 rfl rfl)
theorem dX5_feed_103 : decode cX5_feed 103 = .ok (.getfield 230, 3) := dk_180 0 230 (dk_at dksX5_feed_4 8 rfl rfl)
theorem dX5_feed_106 : decode cX5_feed 106 = .ok (.iconst 1, 1) := dk_4 (dk_at dksX5_feed_4 11 rfl rfl)
theorem dX5_feed_107 : decode cX5_feed 107 = .ok (.iadd, 1) := dk_96 (dk_at dksX5_feed_4 12 rfl rfl)
theorem dX5_feed_108 : decode cX5_feed 108 = .ok (.putfield 230, 3) := dk_181 0 230 (dk_at dksX5_feed_4 13 rfl rfl)
theorem dX5_feed_111 : decode cX5_feed 111 = .ok (.iinc 6 1, 3) := dk_132 6 1 (dk_at dksX5_feed_4 16 rfl rfl)
theorem dX5_feed_114 : decode cX5_feed 114 = .ok (.goto (-91), 3) := dk_167 255 165 (dk_at dksX5_feed_4 19 rfl rfl)
theorem dX5_feed_117 : decode cX5_feed 117 = .ok (.aload_n 0, 1) := dk_42 (dk_at dksX5_feed_4 22 rfl rfl)
theorem dX5_feed_118 : decode cX5_feed 118 = .ok (.getfield 230, 3) := dk_180 0 230 (dk_at dksX5_feed_5 0 rfl rfl)
theorem dX5_feed_121 : decode cX5_feed 121 = .ok (.ireturn, 1) := dk_172 (dk_at dksX5_feed_5 3 rfl rfl)
abbrev cX5_truncate : ByteArray := prog_16_method_52_code
def yX5_truncate : MethodName := ⟨RX5, "truncate", "(I)Z"⟩
def dkwX5_truncate_1 : List UInt8 := [181, 0, 230, 4, 172]
abbrev dktX5_truncate_1 : List UInt8 := dkwX5_truncate_1 ++ []
def dkwX5_truncate_0 : List UInt8 := [42, 3, 181, 0, 80, 27, 133, 9, 42, 180, 0, 230, 133, 184, 0, 135, 154, 0, 5, 3, 172, 42, 27]
abbrev dktX5_truncate_0 : List UInt8 := dkwX5_truncate_0 ++ dktX5_truncate_1
theorem dksX5_truncate_0 : cX5_truncate.data.toList.drop 0 = dktX5_truncate_0 := by decide +kernel
theorem dksX5_truncate_1 : cX5_truncate.data.toList.drop 23 = dktX5_truncate_1 := dk_seg dksX5_truncate_0 23 rfl rfl
theorem dX5_truncate_0 : decode cX5_truncate 0 = .ok (.aload_n 0, 1) := dk_42 (dk_at dksX5_truncate_0 0 rfl rfl)
theorem dX5_truncate_1 : decode cX5_truncate 1 = .ok (.iconst 0, 1) := dk_3 (dk_at dksX5_truncate_0 1 rfl rfl)
theorem dX5_truncate_2 : decode cX5_truncate 2 = .ok (.putfield 80, 3) := dk_181 0 80 (dk_at dksX5_truncate_0 2 rfl rfl)
theorem dX5_truncate_5 : decode cX5_truncate 5 = .ok (.iload_n 1, 1) := dk_27 (dk_at dksX5_truncate_0 5 rfl rfl)
theorem dX5_truncate_6 : decode cX5_truncate 6 = .ok (.i2l, 1) := dk_133 (dk_at dksX5_truncate_0 6 rfl rfl)
theorem dX5_truncate_7 : decode cX5_truncate 7 = .ok (.lconst 0, 1) := dk_9 (dk_at dksX5_truncate_0 7 rfl rfl)
theorem dX5_truncate_8 : decode cX5_truncate 8 = .ok (.aload_n 0, 1) := dk_42 (dk_at dksX5_truncate_0 8 rfl rfl)
theorem dX5_truncate_9 : decode cX5_truncate 9 = .ok (.getfield 230, 3) := dk_180 0 230 (dk_at dksX5_truncate_0 9 rfl rfl)
theorem dX5_truncate_12 : decode cX5_truncate 12 = .ok (.i2l, 1) := dk_133 (dk_at dksX5_truncate_0 12 rfl rfl)
theorem dX5_truncate_13 : decode cX5_truncate 13 = .ok (.invokestatic 135, 3) := dk_184 0 135 (dk_at dksX5_truncate_0 13 rfl rfl)
theorem dX5_truncate_16 : decode cX5_truncate 16 = .ok (.ifCond .ne 5, 3) := dk_154 0 5 (dk_at dksX5_truncate_0 16 rfl rfl)
theorem dX5_truncate_19 : decode cX5_truncate 19 = .ok (.iconst 0, 1) := dk_3 (dk_at dksX5_truncate_0 19 rfl rfl)
theorem dX5_truncate_20 : decode cX5_truncate 20 = .ok (.ireturn, 1) := dk_172 (dk_at dksX5_truncate_0 20 rfl rfl)
theorem dX5_truncate_21 : decode cX5_truncate 21 = .ok (.aload_n 0, 1) := dk_42 (dk_at dksX5_truncate_0 21 rfl rfl)
theorem dX5_truncate_22 : decode cX5_truncate 22 = .ok (.iload_n 1, 1) := dk_27 (dk_at dksX5_truncate_0 22 rfl rfl)
theorem dX5_truncate_23 : decode cX5_truncate 23 = .ok (.putfield 230, 3) := dk_181 0 230 (dk_at dksX5_truncate_1 0 rfl rfl)
theorem dX5_truncate_26 : decode cX5_truncate 26 = .ok (.iconst 1, 1) := dk_4 (dk_at dksX5_truncate_1 3 rfl rfl)
theorem dX5_truncate_27 : decode cX5_truncate 27 = .ok (.ireturn, 1) := dk_172 (dk_at dksX5_truncate_1 4 rfl rfl)
abbrev cX5_parse : ByteArray := prog_16_method_70_code
def yX5_parse : MethodName := ⟨RX5, "parse", "()I"⟩
def dkwX5_parse_6 : List UInt8 := [42, 182, 1, 92, 42, 180, 0, 213, 172]
abbrev dktX5_parse_6 : List UInt8 := dkwX5_parse_6 ++ []
def dkwX5_parse_5 : List UInt8 := [180, 1, 51, 42, 180, 1, 74, 182, 0, 73, 42, 180, 0, 66, 3, 3, 84, 42, 180, 0, 66, 4, 3, 84]
abbrev dktX5_parse_5 : List UInt8 := dkwX5_parse_5 ++ dktX5_parse_6
def dkwX5_parse_4 : List UInt8 := [180, 0, 245, 153, 0, 10, 42, 182, 1, 89, 167, 255, 238, 42, 182, 1, 28, 154, 0, 5, 2, 172, 42, 42]
abbrev dktX5_parse_4 : List UInt8 := dkwX5_parse_4 ++ dktX5_parse_5
def dkwX5_parse_3 : List UInt8 := [42, 42, 4, 16, 8, 5, 182, 1, 54, 181, 1, 51, 42, 182, 1, 80, 42, 182, 1, 28, 153, 0, 17, 42]
abbrev dktX5_parse_3 : List UInt8 := dkwX5_parse_3 ++ dktX5_parse_4
def dkwX5_parse_2 : List UInt8 := [42, 3, 181, 1, 45, 42, 182, 1, 32, 42, 42, 16, 13, 182, 1, 63, 4, 182, 1, 38, 42, 182, 1, 42]
abbrev dktX5_parse_2 : List UInt8 := dkwX5_parse_2 ++ dktX5_parse_3
def dkwX5_parse_1 : List UInt8 := [3, 181, 1, 25, 42, 2, 181, 0, 53, 42, 3, 181, 1, 74, 42, 3, 181, 1, 70, 42, 3, 181, 1, 66]
abbrev dktX5_parse_1 : List UInt8 := dkwX5_parse_1 ++ dktX5_parse_2
def dkwX5_parse_0 : List UInt8 := [42, 3, 181, 0, 80, 42, 42, 180, 0, 230, 181, 0, 233, 42, 3, 181, 0, 230, 42, 3, 181, 0, 236, 42]
abbrev dktX5_parse_0 : List UInt8 := dkwX5_parse_0 ++ dktX5_parse_1
theorem dksX5_parse_0 : cX5_parse.data.toList.drop 0 = dktX5_parse_0 := by decide +kernel
theorem dksX5_parse_1 : cX5_parse.data.toList.drop 24 = dktX5_parse_1 := dk_seg dksX5_parse_0 24 rfl rfl
theorem dksX5_parse_2 : cX5_parse.data.toList.drop 48 = dktX5_parse_2 := dk_seg dksX5_parse_1 24 rfl rfl
theorem dksX5_parse_3 : cX5_parse.data.toList.drop 72 = dktX5_parse_3 := dk_seg dksX5_parse_2 24 rfl rfl
theorem dksX5_parse_4 : cX5_parse.data.toList.drop 96 = dktX5_parse_4 := dk_seg dksX5_parse_3 24 rfl rfl
theorem dksX5_parse_5 : cX5_parse.data.toList.drop 120 = dktX5_parse_5 := dk_seg dksX5_parse_4 24 rfl rfl
theorem dksX5_parse_6 : cX5_parse.data.toList.drop 144 = dktX5_parse_6 := dk_seg dksX5_parse_5 24 rfl rfl
theorem dX5_parse_0 : decode cX5_parse 0 = .ok (.aload_n 0, 1) := dk_42 (dk_at dksX5_parse_0 0 rfl rfl)
theorem dX5_parse_1 : decode cX5_parse 1 = .ok (.iconst 0, 1) := dk_3 (dk_at dksX5_parse_0 1 rfl rfl)
theorem dX5_parse_2 : decode cX5_parse 2 = .ok (.putfield 80, 3) := dk_181 0 80 (dk_at dksX5_parse_0 2 rfl rfl)
theorem dX5_parse_5 : decode cX5_parse 5 = .ok (.aload_n 0, 1) := dk_42 (dk_at dksX5_parse_0 5 rfl rfl)
theorem dX5_parse_6 : decode cX5_parse 6 = .ok (.aload_n 0, 1) := dk_42 (dk_at dksX5_parse_0 6 rfl rfl)
theorem dX5_parse_7 : decode cX5_parse 7 = .ok (.getfield 230, 3) := dk_180 0 230 (dk_at dksX5_parse_0 7 rfl rfl)
theorem dX5_parse_10 : decode cX5_parse 10 = .ok (.putfield 233, 3) := dk_181 0 233 (dk_at dksX5_parse_0 10 rfl rfl)
theorem dX5_parse_13 : decode cX5_parse 13 = .ok (.aload_n 0, 1) := dk_42 (dk_at dksX5_parse_0 13 rfl rfl)
theorem dX5_parse_14 : decode cX5_parse 14 = .ok (.iconst 0, 1) := dk_3 (dk_at dksX5_parse_0 14 rfl rfl)
theorem dX5_parse_15 : decode cX5_parse 15 = .ok (.putfield 230, 3) := dk_181 0 230 (dk_at dksX5_parse_0 15 rfl rfl)
theorem dX5_parse_18 : decode cX5_parse 18 = .ok (.aload_n 0, 1) := dk_42 (dk_at dksX5_parse_0 18 rfl rfl)
theorem dX5_parse_19 : decode cX5_parse 19 = .ok (.iconst 0, 1) := dk_3 (dk_at dksX5_parse_0 19 rfl rfl)
theorem dX5_parse_20 : decode cX5_parse 20 = .ok (.putfield 236, 3) := dk_181 0 236 (dk_at dksX5_parse_0 20 rfl rfl)
theorem dX5_parse_23 : decode cX5_parse 23 = .ok (.aload_n 0, 1) := dk_42 (dk_at dksX5_parse_0 23 rfl rfl)
theorem dX5_parse_24 : decode cX5_parse 24 = .ok (.iconst 0, 1) := dk_3 (dk_at dksX5_parse_1 0 rfl rfl)
theorem dX5_parse_25 : decode cX5_parse 25 = .ok (.putfield 281, 3) := dk_181 1 25 (dk_at dksX5_parse_1 1 rfl rfl)
theorem dX5_parse_28 : decode cX5_parse 28 = .ok (.aload_n 0, 1) := dk_42 (dk_at dksX5_parse_1 4 rfl rfl)
theorem dX5_parse_29 : decode cX5_parse 29 = .ok (.iconst (-1), 1) := dk_2 (dk_at dksX5_parse_1 5 rfl rfl)
theorem dX5_parse_30 : decode cX5_parse 30 = .ok (.putfield 53, 3) := dk_181 0 53 (dk_at dksX5_parse_1 6 rfl rfl)
theorem dX5_parse_33 : decode cX5_parse 33 = .ok (.aload_n 0, 1) := dk_42 (dk_at dksX5_parse_1 9 rfl rfl)
theorem dX5_parse_34 : decode cX5_parse 34 = .ok (.iconst 0, 1) := dk_3 (dk_at dksX5_parse_1 10 rfl rfl)
theorem dX5_parse_35 : decode cX5_parse 35 = .ok (.putfield 330, 3) := dk_181 1 74 (dk_at dksX5_parse_1 11 rfl rfl)
theorem dX5_parse_38 : decode cX5_parse 38 = .ok (.aload_n 0, 1) := dk_42 (dk_at dksX5_parse_1 14 rfl rfl)
theorem dX5_parse_39 : decode cX5_parse 39 = .ok (.iconst 0, 1) := dk_3 (dk_at dksX5_parse_1 15 rfl rfl)
theorem dX5_parse_40 : decode cX5_parse 40 = .ok (.putfield 326, 3) := dk_181 1 70 (dk_at dksX5_parse_1 16 rfl rfl)
theorem dX5_parse_43 : decode cX5_parse 43 = .ok (.aload_n 0, 1) := dk_42 (dk_at dksX5_parse_1 19 rfl rfl)
theorem dX5_parse_44 : decode cX5_parse 44 = .ok (.iconst 0, 1) := dk_3 (dk_at dksX5_parse_1 20 rfl rfl)
theorem dX5_parse_45 : decode cX5_parse 45 = .ok (.putfield 322, 3) := dk_181 1 66 (dk_at dksX5_parse_1 21 rfl rfl)
theorem dX5_parse_48 : decode cX5_parse 48 = .ok (.aload_n 0, 1) := dk_42 (dk_at dksX5_parse_2 0 rfl rfl)
theorem dX5_parse_49 : decode cX5_parse 49 = .ok (.iconst 0, 1) := dk_3 (dk_at dksX5_parse_2 1 rfl rfl)
theorem dX5_parse_50 : decode cX5_parse 50 = .ok (.putfield 301, 3) := dk_181 1 45 (dk_at dksX5_parse_2 2 rfl rfl)
theorem dX5_parse_53 : decode cX5_parse 53 = .ok (.aload_n 0, 1) := dk_42 (dk_at dksX5_parse_2 5 rfl rfl)
theorem dX5_parse_54 : decode cX5_parse 54 = .ok (.invokevirtual 288, 3) := dk_182 1 32 (dk_at dksX5_parse_2 6 rfl rfl)
theorem dX5_parse_57 : decode cX5_parse 57 = .ok (.aload_n 0, 1) := dk_42 (dk_at dksX5_parse_2 9 rfl rfl)
theorem dX5_parse_58 : decode cX5_parse 58 = .ok (.aload_n 0, 1) := dk_42 (dk_at dksX5_parse_2 10 rfl rfl)
theorem dX5_parse_59 : decode cX5_parse 59 = .ok (.bipush 13, 2) := dk_16 13 (dk_at dksX5_parse_2 11 rfl rfl)
theorem dX5_parse_61 : decode cX5_parse 61 = .ok (.invokevirtual 319, 3) := dk_182 1 63 (dk_at dksX5_parse_2 13 rfl rfl)
theorem dX5_parse_64 : decode cX5_parse 64 = .ok (.iconst 1, 1) := dk_4 (dk_at dksX5_parse_2 16 rfl rfl)
theorem dX5_parse_65 : decode cX5_parse 65 = .ok (.invokevirtual 294, 3) := dk_182 1 38 (dk_at dksX5_parse_2 17 rfl rfl)
theorem dX5_parse_68 : decode cX5_parse 68 = .ok (.aload_n 0, 1) := dk_42 (dk_at dksX5_parse_2 20 rfl rfl)
theorem dX5_parse_69 : decode cX5_parse 69 = .ok (.invokevirtual 298, 3) := dk_182 1 42 (dk_at dksX5_parse_2 21 rfl rfl)
theorem dX5_parse_72 : decode cX5_parse 72 = .ok (.aload_n 0, 1) := dk_42 (dk_at dksX5_parse_3 0 rfl rfl)
theorem dX5_parse_73 : decode cX5_parse 73 = .ok (.aload_n 0, 1) := dk_42 (dk_at dksX5_parse_3 1 rfl rfl)
theorem dX5_parse_74 : decode cX5_parse 74 = .ok (.iconst 1, 1) := dk_4 (dk_at dksX5_parse_3 2 rfl rfl)
theorem dX5_parse_75 : decode cX5_parse 75 = .ok (.bipush 8, 2) := dk_16 8 (dk_at dksX5_parse_3 3 rfl rfl)
theorem dX5_parse_77 : decode cX5_parse 77 = .ok (.iconst 2, 1) := dk_5 (dk_at dksX5_parse_3 5 rfl rfl)
theorem dX5_parse_78 : decode cX5_parse 78 = .ok (.invokevirtual 310, 3) := dk_182 1 54 (dk_at dksX5_parse_3 6 rfl rfl)
theorem dX5_parse_81 : decode cX5_parse 81 = .ok (.putfield 307, 3) := dk_181 1 51 (dk_at dksX5_parse_3 9 rfl rfl)
theorem dX5_parse_84 : decode cX5_parse 84 = .ok (.aload_n 0, 1) := dk_42 (dk_at dksX5_parse_3 12 rfl rfl)
theorem dX5_parse_85 : decode cX5_parse 85 = .ok (.invokevirtual 336, 3) := dk_182 1 80 (dk_at dksX5_parse_3 13 rfl rfl)
theorem dX5_parse_88 : decode cX5_parse 88 = .ok (.aload_n 0, 1) := dk_42 (dk_at dksX5_parse_3 16 rfl rfl)
theorem dX5_parse_89 : decode cX5_parse 89 = .ok (.invokevirtual 284, 3) := dk_182 1 28 (dk_at dksX5_parse_3 17 rfl rfl)
theorem dX5_parse_92 : decode cX5_parse 92 = .ok (.ifCond .eq 17, 3) := dk_153 0 17 (dk_at dksX5_parse_3 20 rfl rfl)
theorem dX5_parse_95 : decode cX5_parse 95 = .ok (.aload_n 0, 1) := dk_42 (dk_at dksX5_parse_3 23 rfl rfl)
theorem dX5_parse_96 : decode cX5_parse 96 = .ok (.getfield 245, 3) := dk_180 0 245 (dk_at dksX5_parse_4 0 rfl rfl)
theorem dX5_parse_99 : decode cX5_parse 99 = .ok (.ifCond .eq 10, 3) := dk_153 0 10 (dk_at dksX5_parse_4 3 rfl rfl)
theorem dX5_parse_102 : decode cX5_parse 102 = .ok (.aload_n 0, 1) := dk_42 (dk_at dksX5_parse_4 6 rfl rfl)
theorem dX5_parse_103 : decode cX5_parse 103 = .ok (.invokevirtual 345, 3) := dk_182 1 89 (dk_at dksX5_parse_4 7 rfl rfl)
theorem dX5_parse_106 : decode cX5_parse 106 = .ok (.goto (-18), 3) := dk_167 255 238 (dk_at dksX5_parse_4 10 rfl rfl)
theorem dX5_parse_109 : decode cX5_parse 109 = .ok (.aload_n 0, 1) := dk_42 (dk_at dksX5_parse_4 13 rfl rfl)
theorem dX5_parse_110 : decode cX5_parse 110 = .ok (.invokevirtual 284, 3) := dk_182 1 28 (dk_at dksX5_parse_4 14 rfl rfl)
theorem dX5_parse_113 : decode cX5_parse 113 = .ok (.ifCond .ne 5, 3) := dk_154 0 5 (dk_at dksX5_parse_4 17 rfl rfl)
theorem dX5_parse_116 : decode cX5_parse 116 = .ok (.iconst (-1), 1) := dk_2 (dk_at dksX5_parse_4 20 rfl rfl)
theorem dX5_parse_117 : decode cX5_parse 117 = .ok (.ireturn, 1) := dk_172 (dk_at dksX5_parse_4 21 rfl rfl)
theorem dX5_parse_118 : decode cX5_parse 118 = .ok (.aload_n 0, 1) := dk_42 (dk_at dksX5_parse_4 22 rfl rfl)
theorem dX5_parse_119 : decode cX5_parse 119 = .ok (.aload_n 0, 1) := dk_42 (dk_at dksX5_parse_4 23 rfl rfl)
theorem dX5_parse_120 : decode cX5_parse 120 = .ok (.getfield 307, 3) := dk_180 1 51 (dk_at dksX5_parse_5 0 rfl rfl)
theorem dX5_parse_123 : decode cX5_parse 123 = .ok (.aload_n 0, 1) := dk_42 (dk_at dksX5_parse_5 3 rfl rfl)
theorem dX5_parse_124 : decode cX5_parse 124 = .ok (.getfield 330, 3) := dk_180 1 74 (dk_at dksX5_parse_5 4 rfl rfl)
theorem dX5_parse_127 : decode cX5_parse 127 = .ok (.invokevirtual 73, 3) := dk_182 0 73 (dk_at dksX5_parse_5 7 rfl rfl)
theorem dX5_parse_130 : decode cX5_parse 130 = .ok (.aload_n 0, 1) := dk_42 (dk_at dksX5_parse_5 10 rfl rfl)
theorem dX5_parse_131 : decode cX5_parse 131 = .ok (.getfield 66, 3) := dk_180 0 66 (dk_at dksX5_parse_5 11 rfl rfl)
theorem dX5_parse_134 : decode cX5_parse 134 = .ok (.iconst 0, 1) := dk_3 (dk_at dksX5_parse_5 14 rfl rfl)
theorem dX5_parse_135 : decode cX5_parse 135 = .ok (.iconst 0, 1) := dk_3 (dk_at dksX5_parse_5 15 rfl rfl)
theorem dX5_parse_136 : decode cX5_parse 136 = .ok (.bastore, 1) := dk_84 (dk_at dksX5_parse_5 16 rfl rfl)
theorem dX5_parse_137 : decode cX5_parse 137 = .ok (.aload_n 0, 1) := dk_42 (dk_at dksX5_parse_5 17 rfl rfl)
theorem dX5_parse_138 : decode cX5_parse 138 = .ok (.getfield 66, 3) := dk_180 0 66 (dk_at dksX5_parse_5 18 rfl rfl)
theorem dX5_parse_141 : decode cX5_parse 141 = .ok (.iconst 1, 1) := dk_4 (dk_at dksX5_parse_5 21 rfl rfl)
theorem dX5_parse_142 : decode cX5_parse 142 = .ok (.iconst 0, 1) := dk_3 (dk_at dksX5_parse_5 22 rfl rfl)
theorem dX5_parse_143 : decode cX5_parse 143 = .ok (.bastore, 1) := dk_84 (dk_at dksX5_parse_5 23 rfl rfl)
theorem dX5_parse_144 : decode cX5_parse 144 = .ok (.aload_n 0, 1) := dk_42 (dk_at dksX5_parse_6 0 rfl rfl)
theorem dX5_parse_145 : decode cX5_parse 145 = .ok (.invokevirtual 348, 3) := dk_182 1 92 (dk_at dksX5_parse_6 1 rfl rfl)
theorem dX5_parse_148 : decode cX5_parse 148 = .ok (.aload_n 0, 1) := dk_42 (dk_at dksX5_parse_6 4 rfl rfl)
theorem dX5_parse_149 : decode cX5_parse 149 = .ok (.getfield 213, 3) := dk_180 0 213 (dk_at dksX5_parse_6 5 rfl rfl)
theorem dX5_parse_152 : decode cX5_parse 152 = .ok (.ireturn, 1) := dk_172 (dk_at dksX5_parse_6 8 rfl rfl)
abbrev cX5_next : ByteArray := prog_16_method_54_code
def yX5_next : MethodName := ⟨RX5, "next", "()V"⟩
def dkwX5_next_15 : List UInt8 := [181, 0, 245, 42, 27, 181, 0, 255, 177]
abbrev dktX5_next_15 : List UInt8 := dkwX5_next_15 ++ []
def dkwX5_next_14 : List UInt8 := [167, 0, 4, 6, 181, 0, 245, 167, 0, 23, 42, 42, 180, 0, 236, 4, 96, 181, 0, 236, 42, 7]
abbrev dktX5_next_14 : List UInt8 := dkwX5_next_14 ++ dktX5_next_15
def dkwX5_next_13 : List UInt8 := [4, 96, 181, 0, 236, 167, 255, 189, 42, 42, 180, 0, 236, 42, 180, 0, 242, 100, 7, 164, 0, 7, 8]
abbrev dktX5_next_13 : List UInt8 := dkwX5_next_13 ++ dktX5_next_14
def dkwX5_next_12 : List UInt8 := [180, 1, 12, 104, 42, 42, 180, 0, 236, 182, 0, 239, 96, 16, 48, 100, 181, 1, 12, 42, 89, 180, 0, 236]
abbrev dktX5_next_12 : List UInt8 := dkwX5_next_12 ++ dktX5_next_13
def dkwX5_next_11 : List UInt8 := [184, 0, 135, 153, 0, 52, 42, 180, 0, 236, 42, 180, 0, 242, 100, 7, 162, 0, 26, 42, 16, 10, 42]
abbrev dktX5_next_11 : List UInt8 := dkwX5_next_11 ++ dktX5_next_12
def dkwX5_next_10 : List UInt8 := [153, 0, 103, 42, 3, 181, 1, 12, 42, 42, 180, 0, 236, 182, 0, 239, 133, 20, 1, 8, 20, 1, 10]
abbrev dktX5_next_10 : List UInt8 := dkwX5_next_10 ++ dktX5_next_11
def dkwX5_next_9 : List UInt8 := [42, 89, 180, 0, 236, 4, 96, 181, 0, 236, 167, 255, 186, 27, 133, 20, 1, 8, 20, 1, 10, 184, 0, 135]
abbrev dktX5_next_9 : List UInt8 := dkwX5_next_9 ++ dktX5_next_10
def dkwX5_next_8 : List UInt8 := [180, 0, 236, 182, 0, 239, 133, 20, 1, 6, 20, 1, 4, 184, 0, 135, 154, 0, 8, 42, 8, 181, 0, 245]
abbrev dktX5_next_8 : List UInt8 := dkwX5_next_8 ++ dktX5_next_9
def dkwX5_next_7 : List UInt8 := [20, 1, 4, 184, 0, 135, 153, 0, 189, 42, 42, 180, 0, 236, 182, 0, 239, 16, 73, 159, 0, 29, 42, 42]
abbrev dktX5_next_7 : List UInt8 := dkwX5_next_7 ++ dktX5_next_8
def dkwX5_next_6 : List UInt8 := [184, 0, 135, 153, 0, 81, 42, 5, 181, 0, 245, 42, 42, 180, 0, 236, 182, 0, 239, 133, 20, 1, 2]
abbrev dktX5_next_6 : List UInt8 := dkwX5_next_6 ++ dktX5_next_7
def dkwX5_next_5 : List UInt8 := [181, 0, 245, 42, 42, 182, 0, 252, 181, 0, 255, 167, 0, 229, 27, 133, 20, 1, 2, 20, 1, 4]
abbrev dktX5_next_5 : List UInt8 := dkwX5_next_5 ++ dktX5_next_6
def dkwX5_next_4 : List UInt8 := [20, 0, 250, 184, 0, 135, 153, 0, 16, 42, 42, 180, 0, 236, 4, 96, 181, 0, 236, 167, 255, 225, 42, 4]
abbrev dktX5_next_4 : List UInt8 := dkwX5_next_4 ++ dktX5_next_5
def dkwX5_next_3 : List UInt8 := [20, 0, 248, 20, 0, 250, 184, 0, 135, 153, 0, 53, 42, 42, 180, 0, 236, 182, 0, 239, 133, 20, 0, 248]
abbrev dktX5_next_3 : List UInt8 := dkwX5_next_3 ++ dktX5_next_4
def dkwX5_next_2 : List UInt8 := [42, 42, 180, 0, 236, 182, 0, 239, 60, 27, 2, 160, 0, 11, 42, 3, 181, 0, 245, 167, 1, 37, 27, 133]
abbrev dktX5_next_2 : List UInt8 := dkwX5_next_2 ++ dktX5_next_3
def dkwX5_next_1 : List UInt8 := [160, 0, 16, 42, 42, 180, 0, 236, 4, 96, 181, 0, 236, 167, 255, 220, 42, 42, 180, 0, 236, 181, 0, 242]
abbrev dktX5_next_1 : List UInt8 := dkwX5_next_1 ++ dktX5_next_2
def dkwX5_next_0 : List UInt8 := [42, 42, 180, 0, 236, 182, 0, 239, 16, 32, 159, 0, 16, 42, 42, 180, 0, 236, 182, 0, 239, 16, 10]
abbrev dktX5_next_0 : List UInt8 := dkwX5_next_0 ++ dktX5_next_1
theorem dksX5_next_0 : cX5_next.data.toList.drop 0 = dktX5_next_0 := by decide +kernel
theorem dksX5_next_1 : cX5_next.data.toList.drop 23 = dktX5_next_1 := dk_seg dksX5_next_0 23 rfl rfl
theorem dksX5_next_2 : cX5_next.data.toList.drop 47 = dktX5_next_2 := dk_seg dksX5_next_1 24 rfl rfl
theorem dksX5_next_3 : cX5_next.data.toList.drop 71 = dktX5_next_3 := dk_seg dksX5_next_2 24 rfl rfl
theorem dksX5_next_4 : cX5_next.data.toList.drop 95 = dktX5_next_4 := dk_seg dksX5_next_3 24 rfl rfl
theorem dksX5_next_5 : cX5_next.data.toList.drop 119 = dktX5_next_5 := dk_seg dksX5_next_4 24 rfl rfl
theorem dksX5_next_6 : cX5_next.data.toList.drop 141 = dktX5_next_6 := dk_seg dksX5_next_5 22 rfl rfl
theorem dksX5_next_7 : cX5_next.data.toList.drop 164 = dktX5_next_7 := dk_seg dksX5_next_6 23 rfl rfl
theorem dksX5_next_8 : cX5_next.data.toList.drop 188 = dktX5_next_8 := dk_seg dksX5_next_7 24 rfl rfl
theorem dksX5_next_9 : cX5_next.data.toList.drop 212 = dktX5_next_9 := dk_seg dksX5_next_8 24 rfl rfl
theorem dksX5_next_10 : cX5_next.data.toList.drop 236 = dktX5_next_10 := dk_seg dksX5_next_9 24 rfl rfl
theorem dksX5_next_11 : cX5_next.data.toList.drop 259 = dktX5_next_11 := dk_seg dksX5_next_10 23 rfl rfl
theorem dksX5_next_12 : cX5_next.data.toList.drop 282 = dktX5_next_12 := dk_seg dksX5_next_11 23 rfl rfl
theorem dksX5_next_13 : cX5_next.data.toList.drop 306 = dktX5_next_13 := dk_seg dksX5_next_12 24 rfl rfl
theorem dksX5_next_14 : cX5_next.data.toList.drop 329 = dktX5_next_14 := dk_seg dksX5_next_13 23 rfl rfl
theorem dksX5_next_15 : cX5_next.data.toList.drop 351 = dktX5_next_15 := dk_seg dksX5_next_14 22 rfl rfl
theorem dX5_next_0 : decode cX5_next 0 = .ok (.aload_n 0, 1) := dk_42 (dk_at dksX5_next_0 0 rfl rfl)
theorem dX5_next_1 : decode cX5_next 1 = .ok (.aload_n 0, 1) := dk_42 (dk_at dksX5_next_0 1 rfl rfl)
theorem dX5_next_2 : decode cX5_next 2 = .ok (.getfield 236, 3) := dk_180 0 236 (dk_at dksX5_next_0 2 rfl rfl)
theorem dX5_next_5 : decode cX5_next 5 = .ok (.invokevirtual 239, 3) := dk_182 0 239 (dk_at dksX5_next_0 5 rfl rfl)
theorem dX5_next_8 : decode cX5_next 8 = .ok (.bipush 32, 2) := dk_16 32 (dk_at dksX5_next_0 8 rfl rfl)
theorem dX5_next_10 : decode cX5_next 10 = .ok (.if_icmp .eq 16, 3) := dk_159 0 16 (dk_at dksX5_next_0 10 rfl rfl)
theorem dX5_next_13 : decode cX5_next 13 = .ok (.aload_n 0, 1) := dk_42 (dk_at dksX5_next_0 13 rfl rfl)
theorem dX5_next_14 : decode cX5_next 14 = .ok (.aload_n 0, 1) := dk_42 (dk_at dksX5_next_0 14 rfl rfl)
theorem dX5_next_15 : decode cX5_next 15 = .ok (.getfield 236, 3) := dk_180 0 236 (dk_at dksX5_next_0 15 rfl rfl)
theorem dX5_next_18 : decode cX5_next 18 = .ok (.invokevirtual 239, 3) := dk_182 0 239 (dk_at dksX5_next_0 18 rfl rfl)
theorem dX5_next_21 : decode cX5_next 21 = .ok (.bipush 10, 2) := dk_16 10 (dk_at dksX5_next_0 21 rfl rfl)
theorem dX5_next_23 : decode cX5_next 23 = .ok (.if_icmp .ne 16, 3) := dk_160 0 16 (dk_at dksX5_next_1 0 rfl rfl)
theorem dX5_next_26 : decode cX5_next 26 = .ok (.aload_n 0, 1) := dk_42 (dk_at dksX5_next_1 3 rfl rfl)
theorem dX5_next_27 : decode cX5_next 27 = .ok (.aload_n 0, 1) := dk_42 (dk_at dksX5_next_1 4 rfl rfl)
theorem dX5_next_28 : decode cX5_next 28 = .ok (.getfield 236, 3) := dk_180 0 236 (dk_at dksX5_next_1 5 rfl rfl)
theorem dX5_next_31 : decode cX5_next 31 = .ok (.iconst 1, 1) := dk_4 (dk_at dksX5_next_1 8 rfl rfl)
theorem dX5_next_32 : decode cX5_next 32 = .ok (.iadd, 1) := dk_96 (dk_at dksX5_next_1 9 rfl rfl)
theorem dX5_next_33 : decode cX5_next 33 = .ok (.putfield 236, 3) := dk_181 0 236 (dk_at dksX5_next_1 10 rfl rfl)
theorem dX5_next_36 : decode cX5_next 36 = .ok (.goto (-36), 3) := dk_167 255 220 (dk_at dksX5_next_1 13 rfl rfl)
theorem dX5_next_39 : decode cX5_next 39 = .ok (.aload_n 0, 1) := dk_42 (dk_at dksX5_next_1 16 rfl rfl)
theorem dX5_next_40 : decode cX5_next 40 = .ok (.aload_n 0, 1) := dk_42 (dk_at dksX5_next_1 17 rfl rfl)
theorem dX5_next_41 : decode cX5_next 41 = .ok (.getfield 236, 3) := dk_180 0 236 (dk_at dksX5_next_1 18 rfl rfl)
theorem dX5_next_44 : decode cX5_next 44 = .ok (.putfield 242, 3) := dk_181 0 242 (dk_at dksX5_next_1 21 rfl rfl)
theorem dX5_next_47 : decode cX5_next 47 = .ok (.aload_n 0, 1) := dk_42 (dk_at dksX5_next_2 0 rfl rfl)
theorem dX5_next_48 : decode cX5_next 48 = .ok (.aload_n 0, 1) := dk_42 (dk_at dksX5_next_2 1 rfl rfl)
theorem dX5_next_49 : decode cX5_next 49 = .ok (.getfield 236, 3) := dk_180 0 236 (dk_at dksX5_next_2 2 rfl rfl)
theorem dX5_next_52 : decode cX5_next 52 = .ok (.invokevirtual 239, 3) := dk_182 0 239 (dk_at dksX5_next_2 5 rfl rfl)
theorem dX5_next_55 : decode cX5_next 55 = .ok (.istore_n 1, 1) := dk_60 (dk_at dksX5_next_2 8 rfl rfl)
theorem dX5_next_56 : decode cX5_next 56 = .ok (.iload_n 1, 1) := dk_27 (dk_at dksX5_next_2 9 rfl rfl)
theorem dX5_next_57 : decode cX5_next 57 = .ok (.iconst (-1), 1) := dk_2 (dk_at dksX5_next_2 10 rfl rfl)
theorem dX5_next_58 : decode cX5_next 58 = .ok (.if_icmp .ne 11, 3) := dk_160 0 11 (dk_at dksX5_next_2 11 rfl rfl)
theorem dX5_next_61 : decode cX5_next 61 = .ok (.aload_n 0, 1) := dk_42 (dk_at dksX5_next_2 14 rfl rfl)
theorem dX5_next_62 : decode cX5_next 62 = .ok (.iconst 0, 1) := dk_3 (dk_at dksX5_next_2 15 rfl rfl)
theorem dX5_next_63 : decode cX5_next 63 = .ok (.putfield 245, 3) := dk_181 0 245 (dk_at dksX5_next_2 16 rfl rfl)
theorem dX5_next_66 : decode cX5_next 66 = .ok (.goto 293, 3) := dk_167 1 37 (dk_at dksX5_next_2 19 rfl rfl)
theorem dX5_next_69 : decode cX5_next 69 = .ok (.iload_n 1, 1) := dk_27 (dk_at dksX5_next_2 22 rfl rfl)
theorem dX5_next_70 : decode cX5_next 70 = .ok (.i2l, 1) := dk_133 (dk_at dksX5_next_2 23 rfl rfl)
theorem dX5_next_71 : decode cX5_next 71 = .ok (.ldc2_w 248, 3) := dk_20 0 248 (dk_at dksX5_next_3 0 rfl rfl)
theorem dX5_next_74 : decode cX5_next 74 = .ok (.ldc2_w 250, 3) := dk_20 0 250 (dk_at dksX5_next_3 3 rfl rfl)
theorem dX5_next_77 : decode cX5_next 77 = .ok (.invokestatic 135, 3) := dk_184 0 135 (dk_at dksX5_next_3 6 rfl rfl)
theorem dX5_next_80 : decode cX5_next 80 = .ok (.ifCond .eq 53, 3) := dk_153 0 53 (dk_at dksX5_next_3 9 rfl rfl)
theorem dX5_next_83 : decode cX5_next 83 = .ok (.aload_n 0, 1) := dk_42 (dk_at dksX5_next_3 12 rfl rfl)
theorem dX5_next_84 : decode cX5_next 84 = .ok (.aload_n 0, 1) := dk_42 (dk_at dksX5_next_3 13 rfl rfl)
theorem dX5_next_85 : decode cX5_next 85 = .ok (.getfield 236, 3) := dk_180 0 236 (dk_at dksX5_next_3 14 rfl rfl)
theorem dX5_next_88 : decode cX5_next 88 = .ok (.invokevirtual 239, 3) := dk_182 0 239 (dk_at dksX5_next_3 17 rfl rfl)
theorem dX5_next_91 : decode cX5_next 91 = .ok (.i2l, 1) := dk_133 (dk_at dksX5_next_3 20 rfl rfl)
theorem dX5_next_92 : decode cX5_next 92 = .ok (.ldc2_w 248, 3) := dk_20 0 248 (dk_at dksX5_next_3 21 rfl rfl)
theorem dX5_next_95 : decode cX5_next 95 = .ok (.ldc2_w 250, 3) := dk_20 0 250 (dk_at dksX5_next_4 0 rfl rfl)
theorem dX5_next_98 : decode cX5_next 98 = .ok (.invokestatic 135, 3) := dk_184 0 135 (dk_at dksX5_next_4 3 rfl rfl)
theorem dX5_next_101 : decode cX5_next 101 = .ok (.ifCond .eq 16, 3) := dk_153 0 16 (dk_at dksX5_next_4 6 rfl rfl)
theorem dX5_next_104 : decode cX5_next 104 = .ok (.aload_n 0, 1) := dk_42 (dk_at dksX5_next_4 9 rfl rfl)
theorem dX5_next_105 : decode cX5_next 105 = .ok (.aload_n 0, 1) := dk_42 (dk_at dksX5_next_4 10 rfl rfl)
theorem dX5_next_106 : decode cX5_next 106 = .ok (.getfield 236, 3) := dk_180 0 236 (dk_at dksX5_next_4 11 rfl rfl)
theorem dX5_next_109 : decode cX5_next 109 = .ok (.iconst 1, 1) := dk_4 (dk_at dksX5_next_4 14 rfl rfl)
theorem dX5_next_110 : decode cX5_next 110 = .ok (.iadd, 1) := dk_96 (dk_at dksX5_next_4 15 rfl rfl)
theorem dX5_next_111 : decode cX5_next 111 = .ok (.putfield 236, 3) := dk_181 0 236 (dk_at dksX5_next_4 16 rfl rfl)
theorem dX5_next_114 : decode cX5_next 114 = .ok (.goto (-31), 3) := dk_167 255 225 (dk_at dksX5_next_4 19 rfl rfl)
theorem dX5_next_117 : decode cX5_next 117 = .ok (.aload_n 0, 1) := dk_42 (dk_at dksX5_next_4 22 rfl rfl)
theorem dX5_next_118 : decode cX5_next 118 = .ok (.iconst 1, 1) := dk_4 (dk_at dksX5_next_4 23 rfl rfl)
theorem dX5_next_119 : decode cX5_next 119 = .ok (.putfield 245, 3) := dk_181 0 245 (dk_at dksX5_next_5 0 rfl rfl)
theorem dX5_next_122 : decode cX5_next 122 = .ok (.aload_n 0, 1) := dk_42 (dk_at dksX5_next_5 3 rfl rfl)
theorem dX5_next_123 : decode cX5_next 123 = .ok (.aload_n 0, 1) := dk_42 (dk_at dksX5_next_5 4 rfl rfl)
theorem dX5_next_124 : decode cX5_next 124 = .ok (.invokevirtual 252, 3) := dk_182 0 252 (dk_at dksX5_next_5 5 rfl rfl)
theorem dX5_next_127 : decode cX5_next 127 = .ok (.putfield 255, 3) := dk_181 0 255 (dk_at dksX5_next_5 8 rfl rfl)
theorem dX5_next_130 : decode cX5_next 130 = .ok (.goto 229, 3) := dk_167 0 229 (dk_at dksX5_next_5 11 rfl rfl)
theorem dX5_next_133 : decode cX5_next 133 = .ok (.iload_n 1, 1) := dk_27 (dk_at dksX5_next_5 14 rfl rfl)
theorem dX5_next_134 : decode cX5_next 134 = .ok (.i2l, 1) := dk_133 (dk_at dksX5_next_5 15 rfl rfl)
theorem dX5_next_135 : decode cX5_next 135 = .ok (.ldc2_w 258, 3) := dk_20 1 2 (dk_at dksX5_next_5 16 rfl rfl)
theorem dX5_next_138 : decode cX5_next 138 = .ok (.ldc2_w 260, 3) := dk_20 1 4 (dk_at dksX5_next_5 19 rfl rfl)
theorem dX5_next_141 : decode cX5_next 141 = .ok (.invokestatic 135, 3) := dk_184 0 135 (dk_at dksX5_next_6 0 rfl rfl)
theorem dX5_next_144 : decode cX5_next 144 = .ok (.ifCond .eq 81, 3) := dk_153 0 81 (dk_at dksX5_next_6 3 rfl rfl)
theorem dX5_next_147 : decode cX5_next 147 = .ok (.aload_n 0, 1) := dk_42 (dk_at dksX5_next_6 6 rfl rfl)
theorem dX5_next_148 : decode cX5_next 148 = .ok (.iconst 2, 1) := dk_5 (dk_at dksX5_next_6 7 rfl rfl)
theorem dX5_next_149 : decode cX5_next 149 = .ok (.putfield 245, 3) := dk_181 0 245 (dk_at dksX5_next_6 8 rfl rfl)
theorem dX5_next_152 : decode cX5_next 152 = .ok (.aload_n 0, 1) := dk_42 (dk_at dksX5_next_6 11 rfl rfl)
theorem dX5_next_153 : decode cX5_next 153 = .ok (.aload_n 0, 1) := dk_42 (dk_at dksX5_next_6 12 rfl rfl)
theorem dX5_next_154 : decode cX5_next 154 = .ok (.getfield 236, 3) := dk_180 0 236 (dk_at dksX5_next_6 13 rfl rfl)
theorem dX5_next_157 : decode cX5_next 157 = .ok (.invokevirtual 239, 3) := dk_182 0 239 (dk_at dksX5_next_6 16 rfl rfl)
theorem dX5_next_160 : decode cX5_next 160 = .ok (.i2l, 1) := dk_133 (dk_at dksX5_next_6 19 rfl rfl)
theorem dX5_next_161 : decode cX5_next 161 = .ok (.ldc2_w 258, 3) := dk_20 1 2 (dk_at dksX5_next_6 20 rfl rfl)
theorem dX5_next_164 : decode cX5_next 164 = .ok (.ldc2_w 260, 3) := dk_20 1 4 (dk_at dksX5_next_7 0 rfl rfl)
theorem dX5_next_167 : decode cX5_next 167 = .ok (.invokestatic 135, 3) := dk_184 0 135 (dk_at dksX5_next_7 3 rfl rfl)
theorem dX5_next_170 : decode cX5_next 170 = .ok (.ifCond .eq 189, 3) := dk_153 0 189 (dk_at dksX5_next_7 6 rfl rfl)
theorem dX5_next_173 : decode cX5_next 173 = .ok (.aload_n 0, 1) := dk_42 (dk_at dksX5_next_7 9 rfl rfl)
theorem dX5_next_174 : decode cX5_next 174 = .ok (.aload_n 0, 1) := dk_42 (dk_at dksX5_next_7 10 rfl rfl)
theorem dX5_next_175 : decode cX5_next 175 = .ok (.getfield 236, 3) := dk_180 0 236 (dk_at dksX5_next_7 11 rfl rfl)
theorem dX5_next_178 : decode cX5_next 178 = .ok (.invokevirtual 239, 3) := dk_182 0 239 (dk_at dksX5_next_7 14 rfl rfl)
theorem dX5_next_181 : decode cX5_next 181 = .ok (.bipush 73, 2) := dk_16 73 (dk_at dksX5_next_7 17 rfl rfl)
theorem dX5_next_183 : decode cX5_next 183 = .ok (.if_icmp .eq 29, 3) := dk_159 0 29 (dk_at dksX5_next_7 19 rfl rfl)
theorem dX5_next_186 : decode cX5_next 186 = .ok (.aload_n 0, 1) := dk_42 (dk_at dksX5_next_7 22 rfl rfl)
theorem dX5_next_187 : decode cX5_next 187 = .ok (.aload_n 0, 1) := dk_42 (dk_at dksX5_next_7 23 rfl rfl)
theorem dX5_next_188 : decode cX5_next 188 = .ok (.getfield 236, 3) := dk_180 0 236 (dk_at dksX5_next_8 0 rfl rfl)
theorem dX5_next_191 : decode cX5_next 191 = .ok (.invokevirtual 239, 3) := dk_182 0 239 (dk_at dksX5_next_8 3 rfl rfl)
theorem dX5_next_194 : decode cX5_next 194 = .ok (.i2l, 1) := dk_133 (dk_at dksX5_next_8 6 rfl rfl)
theorem dX5_next_195 : decode cX5_next 195 = .ok (.ldc2_w 262, 3) := dk_20 1 6 (dk_at dksX5_next_8 7 rfl rfl)
theorem dX5_next_198 : decode cX5_next 198 = .ok (.ldc2_w 260, 3) := dk_20 1 4 (dk_at dksX5_next_8 10 rfl rfl)
theorem dX5_next_201 : decode cX5_next 201 = .ok (.invokestatic 135, 3) := dk_184 0 135 (dk_at dksX5_next_8 13 rfl rfl)
theorem dX5_next_204 : decode cX5_next 204 = .ok (.ifCond .ne 8, 3) := dk_154 0 8 (dk_at dksX5_next_8 16 rfl rfl)
theorem dX5_next_207 : decode cX5_next 207 = .ok (.aload_n 0, 1) := dk_42 (dk_at dksX5_next_8 19 rfl rfl)
theorem dX5_next_208 : decode cX5_next 208 = .ok (.iconst 5, 1) := dk_8 (dk_at dksX5_next_8 20 rfl rfl)
theorem dX5_next_209 : decode cX5_next 209 = .ok (.putfield 245, 3) := dk_181 0 245 (dk_at dksX5_next_8 21 rfl rfl)
theorem dX5_next_212 : decode cX5_next 212 = .ok (.aload_n 0, 1) := dk_42 (dk_at dksX5_next_9 0 rfl rfl)
theorem dX5_next_213 : decode cX5_next 213 = .ok (.dup, 1) := dk_89 (dk_at dksX5_next_9 1 rfl rfl)
theorem dX5_next_214 : decode cX5_next 214 = .ok (.getfield 236, 3) := dk_180 0 236 (dk_at dksX5_next_9 2 rfl rfl)
theorem dX5_next_217 : decode cX5_next 217 = .ok (.iconst 1, 1) := dk_4 (dk_at dksX5_next_9 5 rfl rfl)
theorem dX5_next_218 : decode cX5_next 218 = .ok (.iadd, 1) := dk_96 (dk_at dksX5_next_9 6 rfl rfl)
theorem dX5_next_219 : decode cX5_next 219 = .ok (.putfield 236, 3) := dk_181 0 236 (dk_at dksX5_next_9 7 rfl rfl)
theorem dX5_next_222 : decode cX5_next 222 = .ok (.goto (-70), 3) := dk_167 255 186 (dk_at dksX5_next_9 10 rfl rfl)
theorem dX5_next_225 : decode cX5_next 225 = .ok (.iload_n 1, 1) := dk_27 (dk_at dksX5_next_9 13 rfl rfl)
theorem dX5_next_226 : decode cX5_next 226 = .ok (.i2l, 1) := dk_133 (dk_at dksX5_next_9 14 rfl rfl)
theorem dX5_next_227 : decode cX5_next 227 = .ok (.ldc2_w 264, 3) := dk_20 1 8 (dk_at dksX5_next_9 15 rfl rfl)
theorem dX5_next_230 : decode cX5_next 230 = .ok (.ldc2_w 266, 3) := dk_20 1 10 (dk_at dksX5_next_9 18 rfl rfl)
theorem dX5_next_233 : decode cX5_next 233 = .ok (.invokestatic 135, 3) := dk_184 0 135 (dk_at dksX5_next_9 21 rfl rfl)
theorem dX5_next_236 : decode cX5_next 236 = .ok (.ifCond .eq 103, 3) := dk_153 0 103 (dk_at dksX5_next_10 0 rfl rfl)
theorem dX5_next_239 : decode cX5_next 239 = .ok (.aload_n 0, 1) := dk_42 (dk_at dksX5_next_10 3 rfl rfl)
theorem dX5_next_240 : decode cX5_next 240 = .ok (.iconst 0, 1) := dk_3 (dk_at dksX5_next_10 4 rfl rfl)
theorem dX5_next_241 : decode cX5_next 241 = .ok (.putfield 268, 3) := dk_181 1 12 (dk_at dksX5_next_10 5 rfl rfl)
theorem dX5_next_244 : decode cX5_next 244 = .ok (.aload_n 0, 1) := dk_42 (dk_at dksX5_next_10 8 rfl rfl)
theorem dX5_next_245 : decode cX5_next 245 = .ok (.aload_n 0, 1) := dk_42 (dk_at dksX5_next_10 9 rfl rfl)
theorem dX5_next_246 : decode cX5_next 246 = .ok (.getfield 236, 3) := dk_180 0 236 (dk_at dksX5_next_10 10 rfl rfl)
theorem dX5_next_249 : decode cX5_next 249 = .ok (.invokevirtual 239, 3) := dk_182 0 239 (dk_at dksX5_next_10 13 rfl rfl)
theorem dX5_next_252 : decode cX5_next 252 = .ok (.i2l, 1) := dk_133 (dk_at dksX5_next_10 16 rfl rfl)
theorem dX5_next_253 : decode cX5_next 253 = .ok (.ldc2_w 264, 3) := dk_20 1 8 (dk_at dksX5_next_10 17 rfl rfl)
theorem dX5_next_256 : decode cX5_next 256 = .ok (.ldc2_w 266, 3) := dk_20 1 10 (dk_at dksX5_next_10 20 rfl rfl)
theorem dX5_next_259 : decode cX5_next 259 = .ok (.invokestatic 135, 3) := dk_184 0 135 (dk_at dksX5_next_11 0 rfl rfl)
theorem dX5_next_262 : decode cX5_next 262 = .ok (.ifCond .eq 52, 3) := dk_153 0 52 (dk_at dksX5_next_11 3 rfl rfl)
theorem dX5_next_265 : decode cX5_next 265 = .ok (.aload_n 0, 1) := dk_42 (dk_at dksX5_next_11 6 rfl rfl)
theorem dX5_next_266 : decode cX5_next 266 = .ok (.getfield 236, 3) := dk_180 0 236 (dk_at dksX5_next_11 7 rfl rfl)
theorem dX5_next_269 : decode cX5_next 269 = .ok (.aload_n 0, 1) := dk_42 (dk_at dksX5_next_11 10 rfl rfl)
theorem dX5_next_270 : decode cX5_next 270 = .ok (.getfield 242, 3) := dk_180 0 242 (dk_at dksX5_next_11 11 rfl rfl)
theorem dX5_next_273 : decode cX5_next 273 = .ok (.isub, 1) := dk_100 (dk_at dksX5_next_11 14 rfl rfl)
theorem dX5_next_274 : decode cX5_next 274 = .ok (.iconst 4, 1) := dk_7 (dk_at dksX5_next_11 15 rfl rfl)
theorem dX5_next_275 : decode cX5_next 275 = .ok (.if_icmp .ge 26, 3) := dk_162 0 26 (dk_at dksX5_next_11 16 rfl rfl)
theorem dX5_next_278 : decode cX5_next 278 = .ok (.aload_n 0, 1) := dk_42 (dk_at dksX5_next_11 19 rfl rfl)
theorem dX5_next_279 : decode cX5_next 279 = .ok (.bipush 10, 2) := dk_16 10 (dk_at dksX5_next_11 20 rfl rfl)
theorem dX5_next_281 : decode cX5_next 281 = .ok (.aload_n 0, 1) := dk_42 (dk_at dksX5_next_11 22 rfl rfl)
theorem dX5_next_282 : decode cX5_next 282 = .ok (.getfield 268, 3) := dk_180 1 12 (dk_at dksX5_next_12 0 rfl rfl)
theorem dX5_next_285 : decode cX5_next 285 = .ok (.imul, 1) := dk_104 (dk_at dksX5_next_12 3 rfl rfl)
theorem dX5_next_286 : decode cX5_next 286 = .ok (.aload_n 0, 1) := dk_42 (dk_at dksX5_next_12 4 rfl rfl)
theorem dX5_next_287 : decode cX5_next 287 = .ok (.aload_n 0, 1) := dk_42 (dk_at dksX5_next_12 5 rfl rfl)
theorem dX5_next_288 : decode cX5_next 288 = .ok (.getfield 236, 3) := dk_180 0 236 (dk_at dksX5_next_12 6 rfl rfl)
theorem dX5_next_291 : decode cX5_next 291 = .ok (.invokevirtual 239, 3) := dk_182 0 239 (dk_at dksX5_next_12 9 rfl rfl)
theorem dX5_next_294 : decode cX5_next 294 = .ok (.iadd, 1) := dk_96 (dk_at dksX5_next_12 12 rfl rfl)
theorem dX5_next_295 : decode cX5_next 295 = .ok (.bipush 48, 2) := dk_16 48 (dk_at dksX5_next_12 13 rfl rfl)
theorem dX5_next_297 : decode cX5_next 297 = .ok (.isub, 1) := dk_100 (dk_at dksX5_next_12 15 rfl rfl)
theorem dX5_next_298 : decode cX5_next 298 = .ok (.putfield 268, 3) := dk_181 1 12 (dk_at dksX5_next_12 16 rfl rfl)
theorem dX5_next_301 : decode cX5_next 301 = .ok (.aload_n 0, 1) := dk_42 (dk_at dksX5_next_12 19 rfl rfl)
theorem dX5_next_302 : decode cX5_next 302 = .ok (.dup, 1) := dk_89 (dk_at dksX5_next_12 20 rfl rfl)
theorem dX5_next_303 : decode cX5_next 303 = .ok (.getfield 236, 3) := dk_180 0 236 (dk_at dksX5_next_12 21 rfl rfl)
theorem dX5_next_306 : decode cX5_next 306 = .ok (.iconst 1, 1) := dk_4 (dk_at dksX5_next_13 0 rfl rfl)
theorem dX5_next_307 : decode cX5_next 307 = .ok (.iadd, 1) := dk_96 (dk_at dksX5_next_13 1 rfl rfl)
theorem dX5_next_308 : decode cX5_next 308 = .ok (.putfield 236, 3) := dk_181 0 236 (dk_at dksX5_next_13 2 rfl rfl)
theorem dX5_next_311 : decode cX5_next 311 = .ok (.goto (-67), 3) := dk_167 255 189 (dk_at dksX5_next_13 5 rfl rfl)
theorem dX5_next_314 : decode cX5_next 314 = .ok (.aload_n 0, 1) := dk_42 (dk_at dksX5_next_13 8 rfl rfl)
theorem dX5_next_315 : decode cX5_next 315 = .ok (.aload_n 0, 1) := dk_42 (dk_at dksX5_next_13 9 rfl rfl)
theorem dX5_next_316 : decode cX5_next 316 = .ok (.getfield 236, 3) := dk_180 0 236 (dk_at dksX5_next_13 10 rfl rfl)
theorem dX5_next_319 : decode cX5_next 319 = .ok (.aload_n 0, 1) := dk_42 (dk_at dksX5_next_13 13 rfl rfl)
theorem dX5_next_320 : decode cX5_next 320 = .ok (.getfield 242, 3) := dk_180 0 242 (dk_at dksX5_next_13 14 rfl rfl)
theorem dX5_next_323 : decode cX5_next 323 = .ok (.isub, 1) := dk_100 (dk_at dksX5_next_13 17 rfl rfl)
theorem dX5_next_324 : decode cX5_next 324 = .ok (.iconst 4, 1) := dk_7 (dk_at dksX5_next_13 18 rfl rfl)
theorem dX5_next_325 : decode cX5_next 325 = .ok (.if_icmp .le 7, 3) := dk_164 0 7 (dk_at dksX5_next_13 19 rfl rfl)
theorem dX5_next_328 : decode cX5_next 328 = .ok (.iconst 5, 1) := dk_8 (dk_at dksX5_next_13 22 rfl rfl)
theorem dX5_next_329 : decode cX5_next 329 = .ok (.goto 4, 3) := dk_167 0 4 (dk_at dksX5_next_14 0 rfl rfl)
theorem dX5_next_332 : decode cX5_next 332 = .ok (.iconst 3, 1) := dk_6 (dk_at dksX5_next_14 3 rfl rfl)
theorem dX5_next_333 : decode cX5_next 333 = .ok (.putfield 245, 3) := dk_181 0 245 (dk_at dksX5_next_14 4 rfl rfl)
theorem dX5_next_336 : decode cX5_next 336 = .ok (.goto 23, 3) := dk_167 0 23 (dk_at dksX5_next_14 7 rfl rfl)
theorem dX5_next_339 : decode cX5_next 339 = .ok (.aload_n 0, 1) := dk_42 (dk_at dksX5_next_14 10 rfl rfl)
theorem dX5_next_340 : decode cX5_next 340 = .ok (.aload_n 0, 1) := dk_42 (dk_at dksX5_next_14 11 rfl rfl)
theorem dX5_next_341 : decode cX5_next 341 = .ok (.getfield 236, 3) := dk_180 0 236 (dk_at dksX5_next_14 12 rfl rfl)
theorem dX5_next_344 : decode cX5_next 344 = .ok (.iconst 1, 1) := dk_4 (dk_at dksX5_next_14 15 rfl rfl)
theorem dX5_next_345 : decode cX5_next 345 = .ok (.iadd, 1) := dk_96 (dk_at dksX5_next_14 16 rfl rfl)
theorem dX5_next_346 : decode cX5_next 346 = .ok (.putfield 236, 3) := dk_181 0 236 (dk_at dksX5_next_14 17 rfl rfl)
theorem dX5_next_349 : decode cX5_next 349 = .ok (.aload_n 0, 1) := dk_42 (dk_at dksX5_next_14 20 rfl rfl)
theorem dX5_next_350 : decode cX5_next 350 = .ok (.iconst 4, 1) := dk_7 (dk_at dksX5_next_14 21 rfl rfl)
theorem dX5_next_351 : decode cX5_next 351 = .ok (.putfield 245, 3) := dk_181 0 245 (dk_at dksX5_next_15 0 rfl rfl)
theorem dX5_next_354 : decode cX5_next 354 = .ok (.aload_n 0, 1) := dk_42 (dk_at dksX5_next_15 3 rfl rfl)
theorem dX5_next_355 : decode cX5_next 355 = .ok (.iload_n 1, 1) := dk_27 (dk_at dksX5_next_15 4 rfl rfl)
theorem dX5_next_356 : decode cX5_next 356 = .ok (.putfield 255, 3) := dk_181 0 255 (dk_at dksX5_next_15 5 rfl rfl)
theorem dX5_next_359 : decode cX5_next 359 = .ok (.return_, 1) := dk_177 (dk_at dksX5_next_15 8 rfl rfl)
abbrev cX5_here : ByteArray := prog_16_method_53_code
def yX5_here : MethodName := ⟨RX5, "here", "(I)I"⟩
def dkwX5_here_0 : List UInt8 := [27, 42, 180, 0, 233, 162, 0, 16, 42, 180, 0, 49, 27, 51, 17, 0, 255, 126, 167, 0, 4, 2, 172]
abbrev dktX5_here_0 : List UInt8 := dkwX5_here_0 ++ []
theorem dksX5_here_0 : cX5_here.data.toList.drop 0 = dktX5_here_0 := by decide +kernel
theorem dX5_here_0 : decode cX5_here 0 = .ok (.iload_n 1, 1) := dk_27 (dk_at dksX5_here_0 0 rfl rfl)
theorem dX5_here_1 : decode cX5_here 1 = .ok (.aload_n 0, 1) := dk_42 (dk_at dksX5_here_0 1 rfl rfl)
theorem dX5_here_2 : decode cX5_here 2 = .ok (.getfield 233, 3) := dk_180 0 233 (dk_at dksX5_here_0 2 rfl rfl)
theorem dX5_here_5 : decode cX5_here 5 = .ok (.if_icmp .ge 16, 3) := dk_162 0 16 (dk_at dksX5_here_0 5 rfl rfl)
theorem dX5_here_8 : decode cX5_here 8 = .ok (.aload_n 0, 1) := dk_42 (dk_at dksX5_here_0 8 rfl rfl)
theorem dX5_here_9 : decode cX5_here 9 = .ok (.getfield 49, 3) := dk_180 0 49 (dk_at dksX5_here_0 9 rfl rfl)
theorem dX5_here_12 : decode cX5_here 12 = .ok (.iload_n 1, 1) := dk_27 (dk_at dksX5_here_0 12 rfl rfl)
theorem dX5_here_13 : decode cX5_here 13 = .ok (.baload, 1) := dk_51 (dk_at dksX5_here_0 13 rfl rfl)
theorem dX5_here_14 : decode cX5_here 14 = .ok (.sipush 255, 3) := dk_17 0 255 (dk_at dksX5_here_0 14 rfl rfl)
theorem dX5_here_17 : decode cX5_here 17 = .ok (.iand, 1) := dk_126 (dk_at dksX5_here_0 17 rfl rfl)
theorem dX5_here_18 : decode cX5_here 18 = .ok (.goto 4, 3) := dk_167 0 4 (dk_at dksX5_here_0 18 rfl rfl)
theorem dX5_here_21 : decode cX5_here 21 = .ok (.iconst (-1), 1) := dk_2 (dk_at dksX5_here_0 21 rfl rfl)
theorem dX5_here_22 : decode cX5_here 22 = .ok (.ireturn, 1) := dk_172 (dk_at dksX5_here_0 22 rfl rfl)
abbrev cX5_wordHere : ByteArray := prog_16_method_55_code
def yX5_wordHere : MethodName := ⟨RX5, "wordHere", "()I"⟩
def dkwX5_wordHere_5 : List UInt8 := [96, 61, 167, 255, 240, 28, 4, 96, 61, 27, 4, 96, 60, 167, 255, 131, 2, 172]
abbrev dktX5_wordHere_5 : List UInt8 := dkwX5_wordHere_5 ++ []
def dkwX5_wordHere_4 : List UInt8 := [96, 42, 180, 0, 236, 160, 0, 5, 27, 172, 19, 1, 15, 28, 182, 1, 21, 16, 32, 159, 0, 10, 28, 4]
abbrev dktX5_wordHere_4 : List UInt8 := dkwX5_wordHere_4 ++ dktX5_wordHere_5
def dkwX5_wordHere_3 : List UInt8 := [96, 62, 167, 255, 202, 19, 1, 15, 28, 29, 96, 182, 1, 21, 16, 32, 160, 0, 18, 42, 180, 0, 242, 29]
abbrev dktX5_wordHere_3 : List UInt8 := dkwX5_wordHere_3 ++ dktX5_wordHere_4
def dkwX5_wordHere_2 : List UInt8 := [180, 0, 49, 42, 180, 0, 242, 29, 96, 51, 19, 1, 15, 28, 29, 96, 182, 1, 21, 160, 0, 10, 29, 4]
abbrev dktX5_wordHere_2 : List UInt8 := dkwX5_wordHere_2 ++ dktX5_wordHere_3
def dkwX5_wordHere_1 : List UInt8 := [182, 1, 21, 16, 32, 159, 0, 46, 42, 180, 0, 242, 29, 96, 42, 180, 0, 236, 162, 0, 33, 42]
abbrev dktX5_wordHere_1 : List UInt8 := dkwX5_wordHere_1 ++ dktX5_wordHere_2
def dkwX5_wordHere_0 : List UInt8 := [3, 60, 3, 61, 28, 19, 1, 15, 182, 1, 17, 162, 0, 121, 3, 62, 19, 1, 15, 28, 29, 96]
abbrev dktX5_wordHere_0 : List UInt8 := dkwX5_wordHere_0 ++ dktX5_wordHere_1
theorem dksX5_wordHere_0 : cX5_wordHere.data.toList.drop 0 = dktX5_wordHere_0 := by decide +kernel
theorem dksX5_wordHere_1 : cX5_wordHere.data.toList.drop 22 = dktX5_wordHere_1 := dk_seg dksX5_wordHere_0 22 rfl rfl
theorem dksX5_wordHere_2 : cX5_wordHere.data.toList.drop 44 = dktX5_wordHere_2 := dk_seg dksX5_wordHere_1 22 rfl rfl
theorem dksX5_wordHere_3 : cX5_wordHere.data.toList.drop 68 = dktX5_wordHere_3 := dk_seg dksX5_wordHere_2 24 rfl rfl
theorem dksX5_wordHere_4 : cX5_wordHere.data.toList.drop 92 = dktX5_wordHere_4 := dk_seg dksX5_wordHere_3 24 rfl rfl
theorem dksX5_wordHere_5 : cX5_wordHere.data.toList.drop 116 = dktX5_wordHere_5 := dk_seg dksX5_wordHere_4 24 rfl rfl
theorem dX5_wordHere_0 : decode cX5_wordHere 0 = .ok (.iconst 0, 1) := dk_3 (dk_at dksX5_wordHere_0 0 rfl rfl)
theorem dX5_wordHere_1 : decode cX5_wordHere 1 = .ok (.istore_n 1, 1) := dk_60 (dk_at dksX5_wordHere_0 1 rfl rfl)
theorem dX5_wordHere_2 : decode cX5_wordHere 2 = .ok (.iconst 0, 1) := dk_3 (dk_at dksX5_wordHere_0 2 rfl rfl)
theorem dX5_wordHere_3 : decode cX5_wordHere 3 = .ok (.istore_n 2, 1) := dk_61 (dk_at dksX5_wordHere_0 3 rfl rfl)
theorem dX5_wordHere_4 : decode cX5_wordHere 4 = .ok (.iload_n 2, 1) := dk_28 (dk_at dksX5_wordHere_0 4 rfl rfl)
theorem dX5_wordHere_5 : decode cX5_wordHere 5 = .ok (.ldc_w 271, 3) := dk_19 1 15 (dk_at dksX5_wordHere_0 5 rfl rfl)
theorem dX5_wordHere_8 : decode cX5_wordHere 8 = .ok (.invokevirtual 273, 3) := dk_182 1 17 (dk_at dksX5_wordHere_0 8 rfl rfl)
theorem dX5_wordHere_11 : decode cX5_wordHere 11 = .ok (.if_icmp .ge 121, 3) := dk_162 0 121 (dk_at dksX5_wordHere_0 11 rfl rfl)
theorem dX5_wordHere_14 : decode cX5_wordHere 14 = .ok (.iconst 0, 1) := dk_3 (dk_at dksX5_wordHere_0 14 rfl rfl)
theorem dX5_wordHere_15 : decode cX5_wordHere 15 = .ok (.istore_n 3, 1) := dk_62 (dk_at dksX5_wordHere_0 15 rfl rfl)
theorem dX5_wordHere_16 : decode cX5_wordHere 16 = .ok (.ldc_w 271, 3) := dk_19 1 15 (dk_at dksX5_wordHere_0 16 rfl rfl)
theorem dX5_wordHere_19 : decode cX5_wordHere 19 = .ok (.iload_n 2, 1) := dk_28 (dk_at dksX5_wordHere_0 19 rfl rfl)
theorem dX5_wordHere_20 : decode cX5_wordHere 20 = .ok (.iload_n 3, 1) := dk_29 (dk_at dksX5_wordHere_0 20 rfl rfl)
theorem dX5_wordHere_21 : decode cX5_wordHere 21 = .ok (.iadd, 1) := dk_96 (dk_at dksX5_wordHere_0 21 rfl rfl)
theorem dX5_wordHere_22 : decode cX5_wordHere 22 = .ok (.invokevirtual 277, 3) := dk_182 1 21 (dk_at dksX5_wordHere_1 0 rfl rfl)
theorem dX5_wordHere_25 : decode cX5_wordHere 25 = .ok (.bipush 32, 2) := dk_16 32 (dk_at dksX5_wordHere_1 3 rfl rfl)
theorem dX5_wordHere_27 : decode cX5_wordHere 27 = .ok (.if_icmp .eq 46, 3) := dk_159 0 46 (dk_at dksX5_wordHere_1 5 rfl rfl)
theorem dX5_wordHere_30 : decode cX5_wordHere 30 = .ok (.aload_n 0, 1) := dk_42 (dk_at dksX5_wordHere_1 8 rfl rfl)
theorem dX5_wordHere_31 : decode cX5_wordHere 31 = .ok (.getfield 242, 3) := dk_180 0 242 (dk_at dksX5_wordHere_1 9 rfl rfl)
theorem dX5_wordHere_34 : decode cX5_wordHere 34 = .ok (.iload_n 3, 1) := dk_29 (dk_at dksX5_wordHere_1 12 rfl rfl)
theorem dX5_wordHere_35 : decode cX5_wordHere 35 = .ok (.iadd, 1) := dk_96 (dk_at dksX5_wordHere_1 13 rfl rfl)
theorem dX5_wordHere_36 : decode cX5_wordHere 36 = .ok (.aload_n 0, 1) := dk_42 (dk_at dksX5_wordHere_1 14 rfl rfl)
theorem dX5_wordHere_37 : decode cX5_wordHere 37 = .ok (.getfield 236, 3) := dk_180 0 236 (dk_at dksX5_wordHere_1 15 rfl rfl)
theorem dX5_wordHere_40 : decode cX5_wordHere 40 = .ok (.if_icmp .ge 33, 3) := dk_162 0 33 (dk_at dksX5_wordHere_1 18 rfl rfl)
theorem dX5_wordHere_43 : decode cX5_wordHere 43 = .ok (.aload_n 0, 1) := dk_42 (dk_at dksX5_wordHere_1 21 rfl rfl)
theorem dX5_wordHere_44 : decode cX5_wordHere 44 = .ok (.getfield 49, 3) := dk_180 0 49 (dk_at dksX5_wordHere_2 0 rfl rfl)
theorem dX5_wordHere_47 : decode cX5_wordHere 47 = .ok (.aload_n 0, 1) := dk_42 (dk_at dksX5_wordHere_2 3 rfl rfl)
theorem dX5_wordHere_48 : decode cX5_wordHere 48 = .ok (.getfield 242, 3) := dk_180 0 242 (dk_at dksX5_wordHere_2 4 rfl rfl)
theorem dX5_wordHere_51 : decode cX5_wordHere 51 = .ok (.iload_n 3, 1) := dk_29 (dk_at dksX5_wordHere_2 7 rfl rfl)
theorem dX5_wordHere_52 : decode cX5_wordHere 52 = .ok (.iadd, 1) := dk_96 (dk_at dksX5_wordHere_2 8 rfl rfl)
theorem dX5_wordHere_53 : decode cX5_wordHere 53 = .ok (.baload, 1) := dk_51 (dk_at dksX5_wordHere_2 9 rfl rfl)
theorem dX5_wordHere_54 : decode cX5_wordHere 54 = .ok (.ldc_w 271, 3) := dk_19 1 15 (dk_at dksX5_wordHere_2 10 rfl rfl)
theorem dX5_wordHere_57 : decode cX5_wordHere 57 = .ok (.iload_n 2, 1) := dk_28 (dk_at dksX5_wordHere_2 13 rfl rfl)
theorem dX5_wordHere_58 : decode cX5_wordHere 58 = .ok (.iload_n 3, 1) := dk_29 (dk_at dksX5_wordHere_2 14 rfl rfl)
theorem dX5_wordHere_59 : decode cX5_wordHere 59 = .ok (.iadd, 1) := dk_96 (dk_at dksX5_wordHere_2 15 rfl rfl)
theorem dX5_wordHere_60 : decode cX5_wordHere 60 = .ok (.invokevirtual 277, 3) := dk_182 1 21 (dk_at dksX5_wordHere_2 16 rfl rfl)
theorem dX5_wordHere_63 : decode cX5_wordHere 63 = .ok (.if_icmp .ne 10, 3) := dk_160 0 10 (dk_at dksX5_wordHere_2 19 rfl rfl)
theorem dX5_wordHere_66 : decode cX5_wordHere 66 = .ok (.iload_n 3, 1) := dk_29 (dk_at dksX5_wordHere_2 22 rfl rfl)
theorem dX5_wordHere_67 : decode cX5_wordHere 67 = .ok (.iconst 1, 1) := dk_4 (dk_at dksX5_wordHere_2 23 rfl rfl)
theorem dX5_wordHere_68 : decode cX5_wordHere 68 = .ok (.iadd, 1) := dk_96 (dk_at dksX5_wordHere_3 0 rfl rfl)
theorem dX5_wordHere_69 : decode cX5_wordHere 69 = .ok (.istore_n 3, 1) := dk_62 (dk_at dksX5_wordHere_3 1 rfl rfl)
theorem dX5_wordHere_70 : decode cX5_wordHere 70 = .ok (.goto (-54), 3) := dk_167 255 202 (dk_at dksX5_wordHere_3 2 rfl rfl)
theorem dX5_wordHere_73 : decode cX5_wordHere 73 = .ok (.ldc_w 271, 3) := dk_19 1 15 (dk_at dksX5_wordHere_3 5 rfl rfl)
theorem dX5_wordHere_76 : decode cX5_wordHere 76 = .ok (.iload_n 2, 1) := dk_28 (dk_at dksX5_wordHere_3 8 rfl rfl)
theorem dX5_wordHere_77 : decode cX5_wordHere 77 = .ok (.iload_n 3, 1) := dk_29 (dk_at dksX5_wordHere_3 9 rfl rfl)
theorem dX5_wordHere_78 : decode cX5_wordHere 78 = .ok (.iadd, 1) := dk_96 (dk_at dksX5_wordHere_3 10 rfl rfl)
theorem dX5_wordHere_79 : decode cX5_wordHere 79 = .ok (.invokevirtual 277, 3) := dk_182 1 21 (dk_at dksX5_wordHere_3 11 rfl rfl)
theorem dX5_wordHere_82 : decode cX5_wordHere 82 = .ok (.bipush 32, 2) := dk_16 32 (dk_at dksX5_wordHere_3 14 rfl rfl)
theorem dX5_wordHere_84 : decode cX5_wordHere 84 = .ok (.if_icmp .ne 18, 3) := dk_160 0 18 (dk_at dksX5_wordHere_3 16 rfl rfl)
theorem dX5_wordHere_87 : decode cX5_wordHere 87 = .ok (.aload_n 0, 1) := dk_42 (dk_at dksX5_wordHere_3 19 rfl rfl)
theorem dX5_wordHere_88 : decode cX5_wordHere 88 = .ok (.getfield 242, 3) := dk_180 0 242 (dk_at dksX5_wordHere_3 20 rfl rfl)
theorem dX5_wordHere_91 : decode cX5_wordHere 91 = .ok (.iload_n 3, 1) := dk_29 (dk_at dksX5_wordHere_3 23 rfl rfl)
theorem dX5_wordHere_92 : decode cX5_wordHere 92 = .ok (.iadd, 1) := dk_96 (dk_at dksX5_wordHere_4 0 rfl rfl)
theorem dX5_wordHere_93 : decode cX5_wordHere 93 = .ok (.aload_n 0, 1) := dk_42 (dk_at dksX5_wordHere_4 1 rfl rfl)
theorem dX5_wordHere_94 : decode cX5_wordHere 94 = .ok (.getfield 236, 3) := dk_180 0 236 (dk_at dksX5_wordHere_4 2 rfl rfl)
theorem dX5_wordHere_97 : decode cX5_wordHere 97 = .ok (.if_icmp .ne 5, 3) := dk_160 0 5 (dk_at dksX5_wordHere_4 5 rfl rfl)
theorem dX5_wordHere_100 : decode cX5_wordHere 100 = .ok (.iload_n 1, 1) := dk_27 (dk_at dksX5_wordHere_4 8 rfl rfl)
theorem dX5_wordHere_101 : decode cX5_wordHere 101 = .ok (.ireturn, 1) := dk_172 (dk_at dksX5_wordHere_4 9 rfl rfl)
theorem dX5_wordHere_102 : decode cX5_wordHere 102 = .ok (.ldc_w 271, 3) := dk_19 1 15 (dk_at dksX5_wordHere_4 10 rfl rfl)
theorem dX5_wordHere_105 : decode cX5_wordHere 105 = .ok (.iload_n 2, 1) := dk_28 (dk_at dksX5_wordHere_4 13 rfl rfl)
theorem dX5_wordHere_106 : decode cX5_wordHere 106 = .ok (.invokevirtual 277, 3) := dk_182 1 21 (dk_at dksX5_wordHere_4 14 rfl rfl)
theorem dX5_wordHere_109 : decode cX5_wordHere 109 = .ok (.bipush 32, 2) := dk_16 32 (dk_at dksX5_wordHere_4 17 rfl rfl)
theorem dX5_wordHere_111 : decode cX5_wordHere 111 = .ok (.if_icmp .eq 10, 3) := dk_159 0 10 (dk_at dksX5_wordHere_4 19 rfl rfl)
theorem dX5_wordHere_114 : decode cX5_wordHere 114 = .ok (.iload_n 2, 1) := dk_28 (dk_at dksX5_wordHere_4 22 rfl rfl)
theorem dX5_wordHere_115 : decode cX5_wordHere 115 = .ok (.iconst 1, 1) := dk_4 (dk_at dksX5_wordHere_4 23 rfl rfl)
theorem dX5_wordHere_116 : decode cX5_wordHere 116 = .ok (.iadd, 1) := dk_96 (dk_at dksX5_wordHere_5 0 rfl rfl)
theorem dX5_wordHere_117 : decode cX5_wordHere 117 = .ok (.istore_n 2, 1) := dk_61 (dk_at dksX5_wordHere_5 1 rfl rfl)
theorem dX5_wordHere_118 : decode cX5_wordHere 118 = .ok (.goto (-16), 3) := dk_167 255 240 (dk_at dksX5_wordHere_5 2 rfl rfl)
theorem dX5_wordHere_121 : decode cX5_wordHere 121 = .ok (.iload_n 2, 1) := dk_28 (dk_at dksX5_wordHere_5 5 rfl rfl)
theorem dX5_wordHere_122 : decode cX5_wordHere 122 = .ok (.iconst 1, 1) := dk_4 (dk_at dksX5_wordHere_5 6 rfl rfl)
theorem dX5_wordHere_123 : decode cX5_wordHere 123 = .ok (.iadd, 1) := dk_96 (dk_at dksX5_wordHere_5 7 rfl rfl)
theorem dX5_wordHere_124 : decode cX5_wordHere 124 = .ok (.istore_n 2, 1) := dk_61 (dk_at dksX5_wordHere_5 8 rfl rfl)
theorem dX5_wordHere_125 : decode cX5_wordHere 125 = .ok (.iload_n 1, 1) := dk_27 (dk_at dksX5_wordHere_5 9 rfl rfl)
theorem dX5_wordHere_126 : decode cX5_wordHere 126 = .ok (.iconst 1, 1) := dk_4 (dk_at dksX5_wordHere_5 10 rfl rfl)
theorem dX5_wordHere_127 : decode cX5_wordHere 127 = .ok (.iadd, 1) := dk_96 (dk_at dksX5_wordHere_5 11 rfl rfl)
theorem dX5_wordHere_128 : decode cX5_wordHere 128 = .ok (.istore_n 1, 1) := dk_60 (dk_at dksX5_wordHere_5 12 rfl rfl)
theorem dX5_wordHere_129 : decode cX5_wordHere 129 = .ok (.goto (-125), 3) := dk_167 255 131 (dk_at dksX5_wordHere_5 13 rfl rfl)
theorem dX5_wordHere_132 : decode cX5_wordHere 132 = .ok (.iconst (-1), 1) := dk_2 (dk_at dksX5_wordHere_5 16 rfl rfl)
theorem dX5_wordHere_133 : decode cX5_wordHere 133 = .ok (.ireturn, 1) := dk_172 (dk_at dksX5_wordHere_5 17 rfl rfl)
abbrev cX5_isWord : ByteArray := prog_16_method_60_code
def yX5_isWord : MethodName := ⟨RX5, "isWord", "(I)Z"⟩
def dkwX5_isWord_1 : List UInt8 := [167, 0, 4, 3, 172]
abbrev dktX5_isWord_1 : List UInt8 := dkwX5_isWord_1 ++ []
def dkwX5_isWord_0 : List UInt8 := [42, 182, 1, 28, 153, 0, 23, 42, 180, 0, 245, 4, 160, 0, 15, 42, 180, 0, 255, 27, 160, 0, 7, 4]
abbrev dktX5_isWord_0 : List UInt8 := dkwX5_isWord_0 ++ dktX5_isWord_1
theorem dksX5_isWord_0 : cX5_isWord.data.toList.drop 0 = dktX5_isWord_0 := by decide +kernel
theorem dksX5_isWord_1 : cX5_isWord.data.toList.drop 24 = dktX5_isWord_1 := dk_seg dksX5_isWord_0 24 rfl rfl
theorem dX5_isWord_0 : decode cX5_isWord 0 = .ok (.aload_n 0, 1) := dk_42 (dk_at dksX5_isWord_0 0 rfl rfl)
theorem dX5_isWord_1 : decode cX5_isWord 1 = .ok (.invokevirtual 284, 3) := dk_182 1 28 (dk_at dksX5_isWord_0 1 rfl rfl)
theorem dX5_isWord_4 : decode cX5_isWord 4 = .ok (.ifCond .eq 23, 3) := dk_153 0 23 (dk_at dksX5_isWord_0 4 rfl rfl)
theorem dX5_isWord_7 : decode cX5_isWord 7 = .ok (.aload_n 0, 1) := dk_42 (dk_at dksX5_isWord_0 7 rfl rfl)
theorem dX5_isWord_8 : decode cX5_isWord 8 = .ok (.getfield 245, 3) := dk_180 0 245 (dk_at dksX5_isWord_0 8 rfl rfl)
theorem dX5_isWord_11 : decode cX5_isWord 11 = .ok (.iconst 1, 1) := dk_4 (dk_at dksX5_isWord_0 11 rfl rfl)
theorem dX5_isWord_12 : decode cX5_isWord 12 = .ok (.if_icmp .ne 15, 3) := dk_160 0 15 (dk_at dksX5_isWord_0 12 rfl rfl)
theorem dX5_isWord_15 : decode cX5_isWord 15 = .ok (.aload_n 0, 1) := dk_42 (dk_at dksX5_isWord_0 15 rfl rfl)
theorem dX5_isWord_16 : decode cX5_isWord 16 = .ok (.getfield 255, 3) := dk_180 0 255 (dk_at dksX5_isWord_0 16 rfl rfl)
theorem dX5_isWord_19 : decode cX5_isWord 19 = .ok (.iload_n 1, 1) := dk_27 (dk_at dksX5_isWord_0 19 rfl rfl)
theorem dX5_isWord_20 : decode cX5_isWord 20 = .ok (.if_icmp .ne 7, 3) := dk_160 0 7 (dk_at dksX5_isWord_0 20 rfl rfl)
theorem dX5_isWord_23 : decode cX5_isWord 23 = .ok (.iconst 1, 1) := dk_4 (dk_at dksX5_isWord_0 23 rfl rfl)
theorem dX5_isWord_24 : decode cX5_isWord 24 = .ok (.goto 4, 3) := dk_167 0 4 (dk_at dksX5_isWord_1 0 rfl rfl)
theorem dX5_isWord_27 : decode cX5_isWord 27 = .ok (.iconst 0, 1) := dk_3 (dk_at dksX5_isWord_1 3 rfl rfl)
theorem dX5_isWord_28 : decode cX5_isWord 28 = .ok (.ireturn, 1) := dk_172 (dk_at dksX5_isWord_1 4 rfl rfl)
abbrev cX5_fine : ByteArray := prog_16_method_56_code
def yX5_fine : MethodName := ⟨RX5, "fine", "()Z"⟩
def dkwX5_fine_0 : List UInt8 := [42, 180, 1, 25, 154, 0, 7, 4, 167, 0, 4, 3, 172]
abbrev dktX5_fine_0 : List UInt8 := dkwX5_fine_0 ++ []
theorem dksX5_fine_0 : cX5_fine.data.toList.drop 0 = dktX5_fine_0 := by decide +kernel
theorem dX5_fine_0 : decode cX5_fine 0 = .ok (.aload_n 0, 1) := dk_42 (dk_at dksX5_fine_0 0 rfl rfl)
theorem dX5_fine_1 : decode cX5_fine 1 = .ok (.getfield 281, 3) := dk_180 1 25 (dk_at dksX5_fine_0 1 rfl rfl)
theorem dX5_fine_4 : decode cX5_fine 4 = .ok (.ifCond .ne 7, 3) := dk_154 0 7 (dk_at dksX5_fine_0 4 rfl rfl)
theorem dX5_fine_7 : decode cX5_fine 7 = .ok (.iconst 1, 1) := dk_4 (dk_at dksX5_fine_0 7 rfl rfl)
theorem dX5_fine_8 : decode cX5_fine 8 = .ok (.goto 4, 3) := dk_167 0 4 (dk_at dksX5_fine_0 8 rfl rfl)
theorem dX5_fine_11 : decode cX5_fine 11 = .ok (.iconst 0, 1) := dk_3 (dk_at dksX5_fine_0 11 rfl rfl)
theorem dX5_fine_12 : decode cX5_fine 12 = .ok (.ireturn, 1) := dk_172 (dk_at dksX5_fine_0 12 rfl rfl)
abbrev cX5_needs : ByteArray := prog_16_method_57_code
def yX5_needs : MethodName := ⟨RX5, "needs", "(ZI)V"⟩
def dkwX5_needs_1 : List UInt8 := [181, 0, 53, 177]
abbrev dktX5_needs_1 : List UInt8 := dkwX5_needs_1 ++ []
def dkwX5_needs_0 : List UInt8 := [42, 180, 1, 25, 154, 0, 7, 27, 153, 0, 4, 177, 42, 28, 181, 1, 25, 42, 42, 180, 0, 242]
abbrev dktX5_needs_0 : List UInt8 := dkwX5_needs_0 ++ dktX5_needs_1
theorem dksX5_needs_0 : cX5_needs.data.toList.drop 0 = dktX5_needs_0 := by decide +kernel
theorem dksX5_needs_1 : cX5_needs.data.toList.drop 22 = dktX5_needs_1 := dk_seg dksX5_needs_0 22 rfl rfl
theorem dX5_needs_0 : decode cX5_needs 0 = .ok (.aload_n 0, 1) := dk_42 (dk_at dksX5_needs_0 0 rfl rfl)
theorem dX5_needs_1 : decode cX5_needs 1 = .ok (.getfield 281, 3) := dk_180 1 25 (dk_at dksX5_needs_0 1 rfl rfl)
theorem dX5_needs_4 : decode cX5_needs 4 = .ok (.ifCond .ne 7, 3) := dk_154 0 7 (dk_at dksX5_needs_0 4 rfl rfl)
theorem dX5_needs_7 : decode cX5_needs 7 = .ok (.iload_n 1, 1) := dk_27 (dk_at dksX5_needs_0 7 rfl rfl)
theorem dX5_needs_8 : decode cX5_needs 8 = .ok (.ifCond .eq 4, 3) := dk_153 0 4 (dk_at dksX5_needs_0 8 rfl rfl)
theorem dX5_needs_11 : decode cX5_needs 11 = .ok (.return_, 1) := dk_177 (dk_at dksX5_needs_0 11 rfl rfl)
theorem dX5_needs_12 : decode cX5_needs 12 = .ok (.aload_n 0, 1) := dk_42 (dk_at dksX5_needs_0 12 rfl rfl)
theorem dX5_needs_13 : decode cX5_needs 13 = .ok (.iload_n 2, 1) := dk_28 (dk_at dksX5_needs_0 13 rfl rfl)
theorem dX5_needs_14 : decode cX5_needs 14 = .ok (.putfield 281, 3) := dk_181 1 25 (dk_at dksX5_needs_0 14 rfl rfl)
theorem dX5_needs_17 : decode cX5_needs 17 = .ok (.aload_n 0, 1) := dk_42 (dk_at dksX5_needs_0 17 rfl rfl)
theorem dX5_needs_18 : decode cX5_needs 18 = .ok (.aload_n 0, 1) := dk_42 (dk_at dksX5_needs_0 18 rfl rfl)
theorem dX5_needs_19 : decode cX5_needs 19 = .ok (.getfield 242, 3) := dk_180 0 242 (dk_at dksX5_needs_0 19 rfl rfl)
theorem dX5_needs_22 : decode cX5_needs 22 = .ok (.putfield 53, 3) := dk_181 0 53 (dk_at dksX5_needs_1 0 rfl rfl)
theorem dX5_needs_25 : decode cX5_needs 25 = .ok (.return_, 1) := dk_177 (dk_at dksX5_needs_1 3 rfl rfl)
abbrev cX5_goOn : ByteArray := prog_16_method_58_code
def yX5_goOn : MethodName := ⟨RX5, "goOn", "()V"⟩
def dkwX5_goOn_0 : List UInt8 := [42, 182, 1, 28, 153, 0, 7, 42, 182, 1, 32, 177]
abbrev dktX5_goOn_0 : List UInt8 := dkwX5_goOn_0 ++ []
theorem dksX5_goOn_0 : cX5_goOn.data.toList.drop 0 = dktX5_goOn_0 := by decide +kernel
theorem dX5_goOn_0 : decode cX5_goOn 0 = .ok (.aload_n 0, 1) := dk_42 (dk_at dksX5_goOn_0 0 rfl rfl)
theorem dX5_goOn_1 : decode cX5_goOn 1 = .ok (.invokevirtual 284, 3) := dk_182 1 28 (dk_at dksX5_goOn_0 1 rfl rfl)
theorem dX5_goOn_4 : decode cX5_goOn 4 = .ok (.ifCond .eq 7, 3) := dk_153 0 7 (dk_at dksX5_goOn_0 4 rfl rfl)
theorem dX5_goOn_7 : decode cX5_goOn 7 = .ok (.aload_n 0, 1) := dk_42 (dk_at dksX5_goOn_0 7 rfl rfl)
theorem dX5_goOn_8 : decode cX5_goOn 8 = .ok (.invokevirtual 288, 3) := dk_182 1 32 (dk_at dksX5_goOn_0 8 rfl rfl)
theorem dX5_goOn_11 : decode cX5_goOn 11 = .ok (.return_, 1) := dk_177 (dk_at dksX5_goOn_0 11 rfl rfl)
abbrev cX5_reads : ByteArray := prog_16_method_62_code
def yX5_reads : MethodName := ⟨RX5, "reads", "(III)I"⟩
def dkwX5_reads_2 : List UInt8 := [54, 4, 42, 182, 1, 42, 21, 4, 172]
abbrev dktX5_reads_2 : List UInt8 := dkwX5_reads_2 ++ []
def dkwX5_reads_1 : List UInt8 := [153, 0, 20, 42, 42, 180, 1, 12, 133, 27, 133, 28, 133, 184, 0, 135, 29, 182, 1, 38, 42, 180, 1, 12]
abbrev dktX5_reads_1 : List UInt8 := dkwX5_reads_1 ++ dktX5_reads_2
def dkwX5_reads_0 : List UInt8 := [42, 42, 180, 0, 245, 6, 160, 0, 7, 4, 167, 0, 4, 3, 4, 182, 1, 38, 42, 182, 1, 28]
abbrev dktX5_reads_0 : List UInt8 := dkwX5_reads_0 ++ dktX5_reads_1
theorem dksX5_reads_0 : cX5_reads.data.toList.drop 0 = dktX5_reads_0 := by decide +kernel
theorem dksX5_reads_1 : cX5_reads.data.toList.drop 22 = dktX5_reads_1 := dk_seg dksX5_reads_0 22 rfl rfl
theorem dksX5_reads_2 : cX5_reads.data.toList.drop 46 = dktX5_reads_2 := dk_seg dksX5_reads_1 24 rfl rfl
theorem dX5_reads_0 : decode cX5_reads 0 = .ok (.aload_n 0, 1) := dk_42 (dk_at dksX5_reads_0 0 rfl rfl)
theorem dX5_reads_1 : decode cX5_reads 1 = .ok (.aload_n 0, 1) := dk_42 (dk_at dksX5_reads_0 1 rfl rfl)
theorem dX5_reads_2 : decode cX5_reads 2 = .ok (.getfield 245, 3) := dk_180 0 245 (dk_at dksX5_reads_0 2 rfl rfl)
theorem dX5_reads_5 : decode cX5_reads 5 = .ok (.iconst 3, 1) := dk_6 (dk_at dksX5_reads_0 5 rfl rfl)
theorem dX5_reads_6 : decode cX5_reads 6 = .ok (.if_icmp .ne 7, 3) := dk_160 0 7 (dk_at dksX5_reads_0 6 rfl rfl)
theorem dX5_reads_9 : decode cX5_reads 9 = .ok (.iconst 1, 1) := dk_4 (dk_at dksX5_reads_0 9 rfl rfl)
theorem dX5_reads_10 : decode cX5_reads 10 = .ok (.goto 4, 3) := dk_167 0 4 (dk_at dksX5_reads_0 10 rfl rfl)
theorem dX5_reads_13 : decode cX5_reads 13 = .ok (.iconst 0, 1) := dk_3 (dk_at dksX5_reads_0 13 rfl rfl)
theorem dX5_reads_14 : decode cX5_reads 14 = .ok (.iconst 1, 1) := dk_4 (dk_at dksX5_reads_0 14 rfl rfl)
theorem dX5_reads_15 : decode cX5_reads 15 = .ok (.invokevirtual 294, 3) := dk_182 1 38 (dk_at dksX5_reads_0 15 rfl rfl)
theorem dX5_reads_18 : decode cX5_reads 18 = .ok (.aload_n 0, 1) := dk_42 (dk_at dksX5_reads_0 18 rfl rfl)
theorem dX5_reads_19 : decode cX5_reads 19 = .ok (.invokevirtual 284, 3) := dk_182 1 28 (dk_at dksX5_reads_0 19 rfl rfl)
theorem dX5_reads_22 : decode cX5_reads 22 = .ok (.ifCond .eq 20, 3) := dk_153 0 20 (dk_at dksX5_reads_1 0 rfl rfl)
theorem dX5_reads_25 : decode cX5_reads 25 = .ok (.aload_n 0, 1) := dk_42 (dk_at dksX5_reads_1 3 rfl rfl)
theorem dX5_reads_26 : decode cX5_reads 26 = .ok (.aload_n 0, 1) := dk_42 (dk_at dksX5_reads_1 4 rfl rfl)
theorem dX5_reads_27 : decode cX5_reads 27 = .ok (.getfield 268, 3) := dk_180 1 12 (dk_at dksX5_reads_1 5 rfl rfl)
theorem dX5_reads_30 : decode cX5_reads 30 = .ok (.i2l, 1) := dk_133 (dk_at dksX5_reads_1 8 rfl rfl)
theorem dX5_reads_31 : decode cX5_reads 31 = .ok (.iload_n 1, 1) := dk_27 (dk_at dksX5_reads_1 9 rfl rfl)
theorem dX5_reads_32 : decode cX5_reads 32 = .ok (.i2l, 1) := dk_133 (dk_at dksX5_reads_1 10 rfl rfl)
theorem dX5_reads_33 : decode cX5_reads 33 = .ok (.iload_n 2, 1) := dk_28 (dk_at dksX5_reads_1 11 rfl rfl)
theorem dX5_reads_34 : decode cX5_reads 34 = .ok (.i2l, 1) := dk_133 (dk_at dksX5_reads_1 12 rfl rfl)
theorem dX5_reads_35 : decode cX5_reads 35 = .ok (.invokestatic 135, 3) := dk_184 0 135 (dk_at dksX5_reads_1 13 rfl rfl)
theorem dX5_reads_38 : decode cX5_reads 38 = .ok (.iload_n 3, 1) := dk_29 (dk_at dksX5_reads_1 16 rfl rfl)
theorem dX5_reads_39 : decode cX5_reads 39 = .ok (.invokevirtual 294, 3) := dk_182 1 38 (dk_at dksX5_reads_1 17 rfl rfl)
theorem dX5_reads_42 : decode cX5_reads 42 = .ok (.aload_n 0, 1) := dk_42 (dk_at dksX5_reads_1 20 rfl rfl)
theorem dX5_reads_43 : decode cX5_reads 43 = .ok (.getfield 268, 3) := dk_180 1 12 (dk_at dksX5_reads_1 21 rfl rfl)
theorem dX5_reads_46 : decode cX5_reads 46 = .ok (.istore 4, 2) := dk_54 4 (dk_at dksX5_reads_2 0 rfl rfl)
theorem dX5_reads_48 : decode cX5_reads 48 = .ok (.aload_n 0, 1) := dk_42 (dk_at dksX5_reads_2 2 rfl rfl)
theorem dX5_reads_49 : decode cX5_reads 49 = .ok (.invokevirtual 298, 3) := dk_182 1 42 (dk_at dksX5_reads_2 3 rfl rfl)
theorem dX5_reads_52 : decode cX5_reads 52 = .ok (.iload 4, 2) := dk_21 4 (dk_at dksX5_reads_2 6 rfl rfl)
theorem dX5_reads_54 : decode cX5_reads 54 = .ok (.ireturn, 1) := dk_172 (dk_at dksX5_reads_2 8 rfl rfl)
abbrev cX5_passesSemicolon : ByteArray := prog_16_method_61_code
def yX5_passesSemicolon : MethodName := ⟨RX5, "passesSemicolon", "()V"⟩
def dkwX5_passesSemicolon_0 : List UInt8 := [42, 42, 16, 59, 182, 1, 35, 4, 182, 1, 38, 42, 182, 1, 42, 177]
abbrev dktX5_passesSemicolon_0 : List UInt8 := dkwX5_passesSemicolon_0 ++ []
theorem dksX5_passesSemicolon_0 : cX5_passesSemicolon.data.toList.drop 0 = dktX5_passesSemicolon_0 := by decide +kernel
theorem dX5_passesSemicolon_0 : decode cX5_passesSemicolon 0 = .ok (.aload_n 0, 1) := dk_42 (dk_at dksX5_passesSemicolon_0 0 rfl rfl)
theorem dX5_passesSemicolon_1 : decode cX5_passesSemicolon 1 = .ok (.aload_n 0, 1) := dk_42 (dk_at dksX5_passesSemicolon_0 1 rfl rfl)
theorem dX5_passesSemicolon_2 : decode cX5_passesSemicolon 2 = .ok (.bipush 59, 2) := dk_16 59 (dk_at dksX5_passesSemicolon_0 2 rfl rfl)
theorem dX5_passesSemicolon_4 : decode cX5_passesSemicolon 4 = .ok (.invokevirtual 291, 3) := dk_182 1 35 (dk_at dksX5_passesSemicolon_0 4 rfl rfl)
theorem dX5_passesSemicolon_7 : decode cX5_passesSemicolon 7 = .ok (.iconst 1, 1) := dk_4 (dk_at dksX5_passesSemicolon_0 7 rfl rfl)
theorem dX5_passesSemicolon_8 : decode cX5_passesSemicolon 8 = .ok (.invokevirtual 294, 3) := dk_182 1 38 (dk_at dksX5_passesSemicolon_0 8 rfl rfl)
theorem dX5_passesSemicolon_11 : decode cX5_passesSemicolon 11 = .ok (.aload_n 0, 1) := dk_42 (dk_at dksX5_passesSemicolon_0 11 rfl rfl)
theorem dX5_passesSemicolon_12 : decode cX5_passesSemicolon 12 = .ok (.invokevirtual 298, 3) := dk_182 1 42 (dk_at dksX5_passesSemicolon_0 12 rfl rfl)
theorem dX5_passesSemicolon_15 : decode cX5_passesSemicolon 15 = .ok (.return_, 1) := dk_177 (dk_at dksX5_passesSemicolon_0 15 rfl rfl)
abbrev cX5_isSign : ByteArray := prog_16_method_59_code
def yX5_isSign : MethodName := ⟨RX5, "isSign", "(I)Z"⟩
def dkwX5_isSign_1 : List UInt8 := [167, 0, 4, 3, 172]
abbrev dktX5_isSign_1 : List UInt8 := dkwX5_isSign_1 ++ []
def dkwX5_isSign_0 : List UInt8 := [42, 182, 1, 28, 153, 0, 23, 42, 180, 0, 245, 7, 160, 0, 15, 42, 180, 0, 255, 27, 160, 0, 7, 4]
abbrev dktX5_isSign_0 : List UInt8 := dkwX5_isSign_0 ++ dktX5_isSign_1
theorem dksX5_isSign_0 : cX5_isSign.data.toList.drop 0 = dktX5_isSign_0 := by decide +kernel
theorem dksX5_isSign_1 : cX5_isSign.data.toList.drop 24 = dktX5_isSign_1 := dk_seg dksX5_isSign_0 24 rfl rfl
theorem dX5_isSign_0 : decode cX5_isSign 0 = .ok (.aload_n 0, 1) := dk_42 (dk_at dksX5_isSign_0 0 rfl rfl)
theorem dX5_isSign_1 : decode cX5_isSign 1 = .ok (.invokevirtual 284, 3) := dk_182 1 28 (dk_at dksX5_isSign_0 1 rfl rfl)
theorem dX5_isSign_4 : decode cX5_isSign 4 = .ok (.ifCond .eq 23, 3) := dk_153 0 23 (dk_at dksX5_isSign_0 4 rfl rfl)
theorem dX5_isSign_7 : decode cX5_isSign 7 = .ok (.aload_n 0, 1) := dk_42 (dk_at dksX5_isSign_0 7 rfl rfl)
theorem dX5_isSign_8 : decode cX5_isSign 8 = .ok (.getfield 245, 3) := dk_180 0 245 (dk_at dksX5_isSign_0 8 rfl rfl)
theorem dX5_isSign_11 : decode cX5_isSign 11 = .ok (.iconst 4, 1) := dk_7 (dk_at dksX5_isSign_0 11 rfl rfl)
theorem dX5_isSign_12 : decode cX5_isSign 12 = .ok (.if_icmp .ne 15, 3) := dk_160 0 15 (dk_at dksX5_isSign_0 12 rfl rfl)
theorem dX5_isSign_15 : decode cX5_isSign 15 = .ok (.aload_n 0, 1) := dk_42 (dk_at dksX5_isSign_0 15 rfl rfl)
theorem dX5_isSign_16 : decode cX5_isSign 16 = .ok (.getfield 255, 3) := dk_180 0 255 (dk_at dksX5_isSign_0 16 rfl rfl)
theorem dX5_isSign_19 : decode cX5_isSign 19 = .ok (.iload_n 1, 1) := dk_27 (dk_at dksX5_isSign_0 19 rfl rfl)
theorem dX5_isSign_20 : decode cX5_isSign 20 = .ok (.if_icmp .ne 7, 3) := dk_160 0 7 (dk_at dksX5_isSign_0 20 rfl rfl)
theorem dX5_isSign_23 : decode cX5_isSign 23 = .ok (.iconst 1, 1) := dk_4 (dk_at dksX5_isSign_0 23 rfl rfl)
theorem dX5_isSign_24 : decode cX5_isSign 24 = .ok (.goto 4, 3) := dk_167 0 4 (dk_at dksX5_isSign_1 0 rfl rfl)
theorem dX5_isSign_27 : decode cX5_isSign 27 = .ok (.iconst 0, 1) := dk_3 (dk_at dksX5_isSign_1 3 rfl rfl)
theorem dX5_isSign_28 : decode cX5_isSign 28 = .ok (.ireturn, 1) := dk_172 (dk_at dksX5_isSign_1 4 rfl rfl)
abbrev cX5_statement : ByteArray := prog_16_method_68_code
def yX5_statement : MethodName := ⟨RX5, "statement", "()V"⟩
def dkwX5_statement_7 : List UInt8 := [180, 1, 45, 4, 96, 181, 1, 45, 42, 182, 1, 80, 177]
abbrev dktX5_statement_7 : List UInt8 := dkwX5_statement_7 ++ []
def dkwX5_statement_6 : List UInt8 := [182, 1, 54, 181, 1, 74, 167, 0, 24, 42, 182, 1, 77, 42, 182, 1, 28, 153, 0, 13, 42, 42]
abbrev dktX5_statement_6 : List UInt8 := dkwX5_statement_6 ++ dktX5_statement_7
def dkwX5_statement_5 : List UInt8 := [154, 0, 4, 177, 27, 153, 0, 28, 42, 4, 181, 1, 70, 42, 182, 1, 42, 42, 42, 3, 17, 39, 15, 5]
abbrev dktX5_statement_5 : List UInt8 := dkwX5_statement_5 ++ dktX5_statement_6
def dkwX5_statement_4 : List UInt8 := [42, 180, 1, 45, 16, 60, 162, 0, 7, 4, 167, 0, 4, 3, 7, 182, 1, 38, 42, 182, 1, 28]
abbrev dktX5_statement_4 : List UInt8 := dkwX5_statement_4 ++ dktX5_statement_5
def dkwX5_statement_3 : List UInt8 := [154, 0, 7, 4, 167, 0, 4, 3, 6, 182, 1, 38, 42, 182, 1, 28, 153, 0, 26, 28, 153, 0, 22, 42]
abbrev dktX5_statement_3 : List UInt8 := dkwX5_statement_3 ++ dktX5_statement_4
def dkwX5_statement_2 : List UInt8 := [167, 0, 4, 3, 4, 182, 1, 38, 42, 182, 1, 28, 153, 0, 24, 27, 153, 0, 20, 42, 42, 180, 1, 70]
abbrev dktX5_statement_2 : List UInt8 := dkwX5_statement_2 ++ dktX5_statement_3
def dkwX5_statement_1 : List UInt8 := [184, 0, 135, 153, 0, 7, 4, 167, 0, 4, 3, 61, 42, 27, 154, 0, 7, 28, 153, 0, 7, 4]
abbrev dktX5_statement_1 : List UInt8 := dkwX5_statement_1 ++ dktX5_statement_2
def dkwX5_statement_0 : List UInt8 := [42, 16, 11, 182, 1, 63, 60, 42, 180, 0, 245, 4, 160, 0, 22, 42, 180, 0, 255, 133, 9, 20, 1, 68]
abbrev dktX5_statement_0 : List UInt8 := dkwX5_statement_0 ++ dktX5_statement_1
theorem dksX5_statement_0 : cX5_statement.data.toList.drop 0 = dktX5_statement_0 := by decide +kernel
theorem dksX5_statement_1 : cX5_statement.data.toList.drop 24 = dktX5_statement_1 := dk_seg dksX5_statement_0 24 rfl rfl
theorem dksX5_statement_2 : cX5_statement.data.toList.drop 46 = dktX5_statement_2 := dk_seg dksX5_statement_1 22 rfl rfl
theorem dksX5_statement_3 : cX5_statement.data.toList.drop 70 = dktX5_statement_3 := dk_seg dksX5_statement_2 24 rfl rfl
theorem dksX5_statement_4 : cX5_statement.data.toList.drop 94 = dktX5_statement_4 := dk_seg dksX5_statement_3 24 rfl rfl
theorem dksX5_statement_5 : cX5_statement.data.toList.drop 116 = dktX5_statement_5 := dk_seg dksX5_statement_4 22 rfl rfl
theorem dksX5_statement_6 : cX5_statement.data.toList.drop 140 = dktX5_statement_6 := dk_seg dksX5_statement_5 24 rfl rfl
theorem dksX5_statement_7 : cX5_statement.data.toList.drop 162 = dktX5_statement_7 := dk_seg dksX5_statement_6 22 rfl rfl
theorem dX5_statement_0 : decode cX5_statement 0 = .ok (.aload_n 0, 1) := dk_42 (dk_at dksX5_statement_0 0 rfl rfl)
theorem dX5_statement_1 : decode cX5_statement 1 = .ok (.bipush 11, 2) := dk_16 11 (dk_at dksX5_statement_0 1 rfl rfl)
theorem dX5_statement_3 : decode cX5_statement 3 = .ok (.invokevirtual 319, 3) := dk_182 1 63 (dk_at dksX5_statement_0 3 rfl rfl)
theorem dX5_statement_6 : decode cX5_statement 6 = .ok (.istore_n 1, 1) := dk_60 (dk_at dksX5_statement_0 6 rfl rfl)
theorem dX5_statement_7 : decode cX5_statement 7 = .ok (.aload_n 0, 1) := dk_42 (dk_at dksX5_statement_0 7 rfl rfl)
theorem dX5_statement_8 : decode cX5_statement 8 = .ok (.getfield 245, 3) := dk_180 0 245 (dk_at dksX5_statement_0 8 rfl rfl)
theorem dX5_statement_11 : decode cX5_statement 11 = .ok (.iconst 1, 1) := dk_4 (dk_at dksX5_statement_0 11 rfl rfl)
theorem dX5_statement_12 : decode cX5_statement 12 = .ok (.if_icmp .ne 22, 3) := dk_160 0 22 (dk_at dksX5_statement_0 12 rfl rfl)
theorem dX5_statement_15 : decode cX5_statement 15 = .ok (.aload_n 0, 1) := dk_42 (dk_at dksX5_statement_0 15 rfl rfl)
theorem dX5_statement_16 : decode cX5_statement 16 = .ok (.getfield 255, 3) := dk_180 0 255 (dk_at dksX5_statement_0 16 rfl rfl)
theorem dX5_statement_19 : decode cX5_statement 19 = .ok (.i2l, 1) := dk_133 (dk_at dksX5_statement_0 19 rfl rfl)
theorem dX5_statement_20 : decode cX5_statement 20 = .ok (.lconst 0, 1) := dk_9 (dk_at dksX5_statement_0 20 rfl rfl)
theorem dX5_statement_21 : decode cX5_statement 21 = .ok (.ldc2_w 324, 3) := dk_20 1 68 (dk_at dksX5_statement_0 21 rfl rfl)
theorem dX5_statement_24 : decode cX5_statement 24 = .ok (.invokestatic 135, 3) := dk_184 0 135 (dk_at dksX5_statement_1 0 rfl rfl)
theorem dX5_statement_27 : decode cX5_statement 27 = .ok (.ifCond .eq 7, 3) := dk_153 0 7 (dk_at dksX5_statement_1 3 rfl rfl)
theorem dX5_statement_30 : decode cX5_statement 30 = .ok (.iconst 1, 1) := dk_4 (dk_at dksX5_statement_1 6 rfl rfl)
theorem dX5_statement_31 : decode cX5_statement 31 = .ok (.goto 4, 3) := dk_167 0 4 (dk_at dksX5_statement_1 7 rfl rfl)
theorem dX5_statement_34 : decode cX5_statement 34 = .ok (.iconst 0, 1) := dk_3 (dk_at dksX5_statement_1 10 rfl rfl)
theorem dX5_statement_35 : decode cX5_statement 35 = .ok (.istore_n 2, 1) := dk_61 (dk_at dksX5_statement_1 11 rfl rfl)
theorem dX5_statement_36 : decode cX5_statement 36 = .ok (.aload_n 0, 1) := dk_42 (dk_at dksX5_statement_1 12 rfl rfl)
theorem dX5_statement_37 : decode cX5_statement 37 = .ok (.iload_n 1, 1) := dk_27 (dk_at dksX5_statement_1 13 rfl rfl)
theorem dX5_statement_38 : decode cX5_statement 38 = .ok (.ifCond .ne 7, 3) := dk_154 0 7 (dk_at dksX5_statement_1 14 rfl rfl)
theorem dX5_statement_41 : decode cX5_statement 41 = .ok (.iload_n 2, 1) := dk_28 (dk_at dksX5_statement_1 17 rfl rfl)
theorem dX5_statement_42 : decode cX5_statement 42 = .ok (.ifCond .eq 7, 3) := dk_153 0 7 (dk_at dksX5_statement_1 18 rfl rfl)
theorem dX5_statement_45 : decode cX5_statement 45 = .ok (.iconst 1, 1) := dk_4 (dk_at dksX5_statement_1 21 rfl rfl)
theorem dX5_statement_46 : decode cX5_statement 46 = .ok (.goto 4, 3) := dk_167 0 4 (dk_at dksX5_statement_2 0 rfl rfl)
theorem dX5_statement_49 : decode cX5_statement 49 = .ok (.iconst 0, 1) := dk_3 (dk_at dksX5_statement_2 3 rfl rfl)
theorem dX5_statement_50 : decode cX5_statement 50 = .ok (.iconst 1, 1) := dk_4 (dk_at dksX5_statement_2 4 rfl rfl)
theorem dX5_statement_51 : decode cX5_statement 51 = .ok (.invokevirtual 294, 3) := dk_182 1 38 (dk_at dksX5_statement_2 5 rfl rfl)
theorem dX5_statement_54 : decode cX5_statement 54 = .ok (.aload_n 0, 1) := dk_42 (dk_at dksX5_statement_2 8 rfl rfl)
theorem dX5_statement_55 : decode cX5_statement 55 = .ok (.invokevirtual 284, 3) := dk_182 1 28 (dk_at dksX5_statement_2 9 rfl rfl)
theorem dX5_statement_58 : decode cX5_statement 58 = .ok (.ifCond .eq 24, 3) := dk_153 0 24 (dk_at dksX5_statement_2 12 rfl rfl)
theorem dX5_statement_61 : decode cX5_statement 61 = .ok (.iload_n 1, 1) := dk_27 (dk_at dksX5_statement_2 15 rfl rfl)
theorem dX5_statement_62 : decode cX5_statement 62 = .ok (.ifCond .eq 20, 3) := dk_153 0 20 (dk_at dksX5_statement_2 16 rfl rfl)
theorem dX5_statement_65 : decode cX5_statement 65 = .ok (.aload_n 0, 1) := dk_42 (dk_at dksX5_statement_2 19 rfl rfl)
theorem dX5_statement_66 : decode cX5_statement 66 = .ok (.aload_n 0, 1) := dk_42 (dk_at dksX5_statement_2 20 rfl rfl)
theorem dX5_statement_67 : decode cX5_statement 67 = .ok (.getfield 326, 3) := dk_180 1 70 (dk_at dksX5_statement_2 21 rfl rfl)
theorem dX5_statement_70 : decode cX5_statement 70 = .ok (.ifCond .ne 7, 3) := dk_154 0 7 (dk_at dksX5_statement_3 0 rfl rfl)
theorem dX5_statement_73 : decode cX5_statement 73 = .ok (.iconst 1, 1) := dk_4 (dk_at dksX5_statement_3 3 rfl rfl)
theorem dX5_statement_74 : decode cX5_statement 74 = .ok (.goto 4, 3) := dk_167 0 4 (dk_at dksX5_statement_3 4 rfl rfl)
theorem dX5_statement_77 : decode cX5_statement 77 = .ok (.iconst 0, 1) := dk_3 (dk_at dksX5_statement_3 7 rfl rfl)
theorem dX5_statement_78 : decode cX5_statement 78 = .ok (.iconst 3, 1) := dk_6 (dk_at dksX5_statement_3 8 rfl rfl)
theorem dX5_statement_79 : decode cX5_statement 79 = .ok (.invokevirtual 294, 3) := dk_182 1 38 (dk_at dksX5_statement_3 9 rfl rfl)
theorem dX5_statement_82 : decode cX5_statement 82 = .ok (.aload_n 0, 1) := dk_42 (dk_at dksX5_statement_3 12 rfl rfl)
theorem dX5_statement_83 : decode cX5_statement 83 = .ok (.invokevirtual 284, 3) := dk_182 1 28 (dk_at dksX5_statement_3 13 rfl rfl)
theorem dX5_statement_86 : decode cX5_statement 86 = .ok (.ifCond .eq 26, 3) := dk_153 0 26 (dk_at dksX5_statement_3 16 rfl rfl)
theorem dX5_statement_89 : decode cX5_statement 89 = .ok (.iload_n 2, 1) := dk_28 (dk_at dksX5_statement_3 19 rfl rfl)
theorem dX5_statement_90 : decode cX5_statement 90 = .ok (.ifCond .eq 22, 3) := dk_153 0 22 (dk_at dksX5_statement_3 20 rfl rfl)
theorem dX5_statement_93 : decode cX5_statement 93 = .ok (.aload_n 0, 1) := dk_42 (dk_at dksX5_statement_3 23 rfl rfl)
theorem dX5_statement_94 : decode cX5_statement 94 = .ok (.aload_n 0, 1) := dk_42 (dk_at dksX5_statement_4 0 rfl rfl)
theorem dX5_statement_95 : decode cX5_statement 95 = .ok (.getfield 301, 3) := dk_180 1 45 (dk_at dksX5_statement_4 1 rfl rfl)
theorem dX5_statement_98 : decode cX5_statement 98 = .ok (.bipush 60, 2) := dk_16 60 (dk_at dksX5_statement_4 4 rfl rfl)
theorem dX5_statement_100 : decode cX5_statement 100 = .ok (.if_icmp .ge 7, 3) := dk_162 0 7 (dk_at dksX5_statement_4 6 rfl rfl)
theorem dX5_statement_103 : decode cX5_statement 103 = .ok (.iconst 1, 1) := dk_4 (dk_at dksX5_statement_4 9 rfl rfl)
theorem dX5_statement_104 : decode cX5_statement 104 = .ok (.goto 4, 3) := dk_167 0 4 (dk_at dksX5_statement_4 10 rfl rfl)
theorem dX5_statement_107 : decode cX5_statement 107 = .ok (.iconst 0, 1) := dk_3 (dk_at dksX5_statement_4 13 rfl rfl)
theorem dX5_statement_108 : decode cX5_statement 108 = .ok (.iconst 4, 1) := dk_7 (dk_at dksX5_statement_4 14 rfl rfl)
theorem dX5_statement_109 : decode cX5_statement 109 = .ok (.invokevirtual 294, 3) := dk_182 1 38 (dk_at dksX5_statement_4 15 rfl rfl)
theorem dX5_statement_112 : decode cX5_statement 112 = .ok (.aload_n 0, 1) := dk_42 (dk_at dksX5_statement_4 18 rfl rfl)
theorem dX5_statement_113 : decode cX5_statement 113 = .ok (.invokevirtual 284, 3) := dk_182 1 28 (dk_at dksX5_statement_4 19 rfl rfl)
theorem dX5_statement_116 : decode cX5_statement 116 = .ok (.ifCond .ne 4, 3) := dk_154 0 4 (dk_at dksX5_statement_5 0 rfl rfl)
theorem dX5_statement_119 : decode cX5_statement 119 = .ok (.return_, 1) := dk_177 (dk_at dksX5_statement_5 3 rfl rfl)
theorem dX5_statement_120 : decode cX5_statement 120 = .ok (.iload_n 1, 1) := dk_27 (dk_at dksX5_statement_5 4 rfl rfl)
theorem dX5_statement_121 : decode cX5_statement 121 = .ok (.ifCond .eq 28, 3) := dk_153 0 28 (dk_at dksX5_statement_5 5 rfl rfl)
theorem dX5_statement_124 : decode cX5_statement 124 = .ok (.aload_n 0, 1) := dk_42 (dk_at dksX5_statement_5 8 rfl rfl)
theorem dX5_statement_125 : decode cX5_statement 125 = .ok (.iconst 1, 1) := dk_4 (dk_at dksX5_statement_5 9 rfl rfl)
theorem dX5_statement_126 : decode cX5_statement 126 = .ok (.putfield 326, 3) := dk_181 1 70 (dk_at dksX5_statement_5 10 rfl rfl)
theorem dX5_statement_129 : decode cX5_statement 129 = .ok (.aload_n 0, 1) := dk_42 (dk_at dksX5_statement_5 13 rfl rfl)
theorem dX5_statement_130 : decode cX5_statement 130 = .ok (.invokevirtual 298, 3) := dk_182 1 42 (dk_at dksX5_statement_5 14 rfl rfl)
theorem dX5_statement_133 : decode cX5_statement 133 = .ok (.aload_n 0, 1) := dk_42 (dk_at dksX5_statement_5 17 rfl rfl)
theorem dX5_statement_134 : decode cX5_statement 134 = .ok (.aload_n 0, 1) := dk_42 (dk_at dksX5_statement_5 18 rfl rfl)
theorem dX5_statement_135 : decode cX5_statement 135 = .ok (.iconst 0, 1) := dk_3 (dk_at dksX5_statement_5 19 rfl rfl)
theorem dX5_statement_136 : decode cX5_statement 136 = .ok (.sipush 9999, 3) := dk_17 39 15 (dk_at dksX5_statement_5 20 rfl rfl)
theorem dX5_statement_139 : decode cX5_statement 139 = .ok (.iconst 2, 1) := dk_5 (dk_at dksX5_statement_5 23 rfl rfl)
theorem dX5_statement_140 : decode cX5_statement 140 = .ok (.invokevirtual 310, 3) := dk_182 1 54 (dk_at dksX5_statement_6 0 rfl rfl)
theorem dX5_statement_143 : decode cX5_statement 143 = .ok (.putfield 330, 3) := dk_181 1 74 (dk_at dksX5_statement_6 3 rfl rfl)
theorem dX5_statement_146 : decode cX5_statement 146 = .ok (.goto 24, 3) := dk_167 0 24 (dk_at dksX5_statement_6 6 rfl rfl)
theorem dX5_statement_149 : decode cX5_statement 149 = .ok (.aload_n 0, 1) := dk_42 (dk_at dksX5_statement_6 9 rfl rfl)
theorem dX5_statement_150 : decode cX5_statement 150 = .ok (.invokevirtual 333, 3) := dk_182 1 77 (dk_at dksX5_statement_6 10 rfl rfl)
theorem dX5_statement_153 : decode cX5_statement 153 = .ok (.aload_n 0, 1) := dk_42 (dk_at dksX5_statement_6 13 rfl rfl)
theorem dX5_statement_154 : decode cX5_statement 154 = .ok (.invokevirtual 284, 3) := dk_182 1 28 (dk_at dksX5_statement_6 14 rfl rfl)
theorem dX5_statement_157 : decode cX5_statement 157 = .ok (.ifCond .eq 13, 3) := dk_153 0 13 (dk_at dksX5_statement_6 17 rfl rfl)
theorem dX5_statement_160 : decode cX5_statement 160 = .ok (.aload_n 0, 1) := dk_42 (dk_at dksX5_statement_6 20 rfl rfl)
theorem dX5_statement_161 : decode cX5_statement 161 = .ok (.aload_n 0, 1) := dk_42 (dk_at dksX5_statement_6 21 rfl rfl)
theorem dX5_statement_162 : decode cX5_statement 162 = .ok (.getfield 301, 3) := dk_180 1 45 (dk_at dksX5_statement_7 0 rfl rfl)
theorem dX5_statement_165 : decode cX5_statement 165 = .ok (.iconst 1, 1) := dk_4 (dk_at dksX5_statement_7 3 rfl rfl)
theorem dX5_statement_166 : decode cX5_statement 166 = .ok (.iadd, 1) := dk_96 (dk_at dksX5_statement_7 4 rfl rfl)
theorem dX5_statement_167 : decode cX5_statement 167 = .ok (.putfield 301, 3) := dk_181 1 45 (dk_at dksX5_statement_7 5 rfl rfl)
theorem dX5_statement_170 : decode cX5_statement 170 = .ok (.aload_n 0, 1) := dk_42 (dk_at dksX5_statement_7 8 rfl rfl)
theorem dX5_statement_171 : decode cX5_statement 171 = .ok (.invokevirtual 336, 3) := dk_182 1 80 (dk_at dksX5_statement_7 9 rfl rfl)
theorem dX5_statement_174 : decode cX5_statement 174 = .ok (.return_, 1) := dk_177 (dk_at dksX5_statement_7 12 rfl rfl)
abbrev cX5_operates : ByteArray := prog_16_method_69_code
def yX5_operates : MethodName := ⟨RX5, "operates", "()V"⟩
def dkwX5_operates_2 : List UInt8 := [153, 0, 8, 42, 27, 182, 1, 86, 177]
abbrev dktX5_operates_2 : List UInt8 := dkwX5_operates_2 ++ []
def dkwX5_operates_1 : List UInt8 := [153, 0, 20, 42, 182, 1, 42, 42, 3, 42, 180, 1, 66, 4, 100, 6, 182, 1, 54, 60, 42, 182, 1, 28]
abbrev dktX5_operates_1 : List UInt8 := dkwX5_operates_1 ++ dktX5_operates_2
def dkwX5_operates_0 : List UInt8 := [42, 16, 9, 182, 1, 63, 153, 0, 8, 42, 182, 1, 83, 177, 2, 60, 42, 16, 10, 182, 1, 63]
abbrev dktX5_operates_0 : List UInt8 := dkwX5_operates_0 ++ dktX5_operates_1
theorem dksX5_operates_0 : cX5_operates.data.toList.drop 0 = dktX5_operates_0 := by decide +kernel
theorem dksX5_operates_1 : cX5_operates.data.toList.drop 22 = dktX5_operates_1 := dk_seg dksX5_operates_0 22 rfl rfl
theorem dksX5_operates_2 : cX5_operates.data.toList.drop 46 = dktX5_operates_2 := dk_seg dksX5_operates_1 24 rfl rfl
theorem dX5_operates_0 : decode cX5_operates 0 = .ok (.aload_n 0, 1) := dk_42 (dk_at dksX5_operates_0 0 rfl rfl)
theorem dX5_operates_1 : decode cX5_operates 1 = .ok (.bipush 9, 2) := dk_16 9 (dk_at dksX5_operates_0 1 rfl rfl)
theorem dX5_operates_3 : decode cX5_operates 3 = .ok (.invokevirtual 319, 3) := dk_182 1 63 (dk_at dksX5_operates_0 3 rfl rfl)
theorem dX5_operates_6 : decode cX5_operates 6 = .ok (.ifCond .eq 8, 3) := dk_153 0 8 (dk_at dksX5_operates_0 6 rfl rfl)
theorem dX5_operates_9 : decode cX5_operates 9 = .ok (.aload_n 0, 1) := dk_42 (dk_at dksX5_operates_0 9 rfl rfl)
theorem dX5_operates_10 : decode cX5_operates 10 = .ok (.invokevirtual 339, 3) := dk_182 1 83 (dk_at dksX5_operates_0 10 rfl rfl)
theorem dX5_operates_13 : decode cX5_operates 13 = .ok (.return_, 1) := dk_177 (dk_at dksX5_operates_0 13 rfl rfl)
theorem dX5_operates_14 : decode cX5_operates 14 = .ok (.iconst (-1), 1) := dk_2 (dk_at dksX5_operates_0 14 rfl rfl)
theorem dX5_operates_15 : decode cX5_operates 15 = .ok (.istore_n 1, 1) := dk_60 (dk_at dksX5_operates_0 15 rfl rfl)
theorem dX5_operates_16 : decode cX5_operates 16 = .ok (.aload_n 0, 1) := dk_42 (dk_at dksX5_operates_0 16 rfl rfl)
theorem dX5_operates_17 : decode cX5_operates 17 = .ok (.bipush 10, 2) := dk_16 10 (dk_at dksX5_operates_0 17 rfl rfl)
theorem dX5_operates_19 : decode cX5_operates 19 = .ok (.invokevirtual 319, 3) := dk_182 1 63 (dk_at dksX5_operates_0 19 rfl rfl)
theorem dX5_operates_22 : decode cX5_operates 22 = .ok (.ifCond .eq 20, 3) := dk_153 0 20 (dk_at dksX5_operates_1 0 rfl rfl)
theorem dX5_operates_25 : decode cX5_operates 25 = .ok (.aload_n 0, 1) := dk_42 (dk_at dksX5_operates_1 3 rfl rfl)
theorem dX5_operates_26 : decode cX5_operates 26 = .ok (.invokevirtual 298, 3) := dk_182 1 42 (dk_at dksX5_operates_1 4 rfl rfl)
theorem dX5_operates_29 : decode cX5_operates 29 = .ok (.aload_n 0, 1) := dk_42 (dk_at dksX5_operates_1 7 rfl rfl)
theorem dX5_operates_30 : decode cX5_operates 30 = .ok (.iconst 0, 1) := dk_3 (dk_at dksX5_operates_1 8 rfl rfl)
theorem dX5_operates_31 : decode cX5_operates 31 = .ok (.aload_n 0, 1) := dk_42 (dk_at dksX5_operates_1 9 rfl rfl)
theorem dX5_operates_32 : decode cX5_operates 32 = .ok (.getfield 322, 3) := dk_180 1 66 (dk_at dksX5_operates_1 10 rfl rfl)
theorem dX5_operates_35 : decode cX5_operates 35 = .ok (.iconst 1, 1) := dk_4 (dk_at dksX5_operates_1 13 rfl rfl)
theorem dX5_operates_36 : decode cX5_operates 36 = .ok (.isub, 1) := dk_100 (dk_at dksX5_operates_1 14 rfl rfl)
theorem dX5_operates_37 : decode cX5_operates 37 = .ok (.iconst 3, 1) := dk_6 (dk_at dksX5_operates_1 15 rfl rfl)
theorem dX5_operates_38 : decode cX5_operates 38 = .ok (.invokevirtual 310, 3) := dk_182 1 54 (dk_at dksX5_operates_1 16 rfl rfl)
theorem dX5_operates_41 : decode cX5_operates 41 = .ok (.istore_n 1, 1) := dk_60 (dk_at dksX5_operates_1 19 rfl rfl)
theorem dX5_operates_42 : decode cX5_operates 42 = .ok (.aload_n 0, 1) := dk_42 (dk_at dksX5_operates_1 20 rfl rfl)
theorem dX5_operates_43 : decode cX5_operates 43 = .ok (.invokevirtual 284, 3) := dk_182 1 28 (dk_at dksX5_operates_1 21 rfl rfl)
theorem dX5_operates_46 : decode cX5_operates 46 = .ok (.ifCond .eq 8, 3) := dk_153 0 8 (dk_at dksX5_operates_2 0 rfl rfl)
theorem dX5_operates_49 : decode cX5_operates 49 = .ok (.aload_n 0, 1) := dk_42 (dk_at dksX5_operates_2 3 rfl rfl)
theorem dX5_operates_50 : decode cX5_operates 50 = .ok (.iload_n 1, 1) := dk_27 (dk_at dksX5_operates_2 4 rfl rfl)
theorem dX5_operates_51 : decode cX5_operates 51 = .ok (.invokevirtual 342, 3) := dk_182 1 86 (dk_at dksX5_operates_2 5 rfl rfl)
theorem dX5_operates_54 : decode cX5_operates 54 = .ok (.return_, 1) := dk_177 (dk_at dksX5_operates_2 8 rfl rfl)
abbrev cX5_readsMeasure : ByteArray := prog_16_method_67_code
def yX5_readsMeasure : MethodName := ⟨RX5, "readsMeasure", "()V"⟩
def dkwX5_readsMeasure_4 : List UInt8 := [182, 1, 48, 42, 42, 180, 1, 66, 4, 96, 181, 1, 66, 177]
abbrev dktX5_readsMeasure_4 : List UInt8 := dkwX5_readsMeasure_4 ++ []
def dkwX5_readsMeasure_3 : List UInt8 := [182, 1, 57, 61, 42, 28, 153, 0, 7, 4, 167, 0, 4, 3, 4, 182, 1, 38, 42, 16, 7, 28]
abbrev dktX5_readsMeasure_3 : List UInt8 := dkwX5_readsMeasure_3 ++ dktX5_readsMeasure_4
def dkwX5_readsMeasure_2 : List UInt8 := [182, 1, 48, 42, 182, 1, 60, 3, 61, 42, 16, 12, 182, 1, 63, 153, 0, 26, 42, 182, 1, 42, 42]
abbrev dktX5_readsMeasure_2 : List UInt8 := dkwX5_readsMeasure_2 ++ dktX5_readsMeasure_3
def dkwX5_readsMeasure_1 : List UInt8 := [6, 2, 182, 1, 48, 42, 182, 1, 57, 60, 42, 16, 6, 27, 2, 160, 0, 7, 2, 167, 0, 4, 4]
abbrev dktX5_readsMeasure_1 : List UInt8 := dkwX5_readsMeasure_1 ++ dktX5_readsMeasure_2
def dkwX5_readsMeasure_0 : List UInt8 := [42, 182, 1, 42, 42, 3, 16, 9, 182, 1, 48, 42, 4, 2, 182, 1, 48, 42, 5, 2, 182, 1, 48, 42]
abbrev dktX5_readsMeasure_0 : List UInt8 := dkwX5_readsMeasure_0 ++ dktX5_readsMeasure_1
theorem dksX5_readsMeasure_0 : cX5_readsMeasure.data.toList.drop 0 = dktX5_readsMeasure_0 := by decide +kernel
theorem dksX5_readsMeasure_1 : cX5_readsMeasure.data.toList.drop 24 = dktX5_readsMeasure_1 := dk_seg dksX5_readsMeasure_0 24 rfl rfl
theorem dksX5_readsMeasure_2 : cX5_readsMeasure.data.toList.drop 47 = dktX5_readsMeasure_2 := dk_seg dksX5_readsMeasure_1 23 rfl rfl
theorem dksX5_readsMeasure_3 : cX5_readsMeasure.data.toList.drop 70 = dktX5_readsMeasure_3 := dk_seg dksX5_readsMeasure_2 23 rfl rfl
theorem dksX5_readsMeasure_4 : cX5_readsMeasure.data.toList.drop 92 = dktX5_readsMeasure_4 := dk_seg dksX5_readsMeasure_3 22 rfl rfl
theorem dX5_readsMeasure_0 : decode cX5_readsMeasure 0 = .ok (.aload_n 0, 1) := dk_42 (dk_at dksX5_readsMeasure_0 0 rfl rfl)
theorem dX5_readsMeasure_1 : decode cX5_readsMeasure 1 = .ok (.invokevirtual 298, 3) := dk_182 1 42 (dk_at dksX5_readsMeasure_0 1 rfl rfl)
theorem dX5_readsMeasure_4 : decode cX5_readsMeasure 4 = .ok (.aload_n 0, 1) := dk_42 (dk_at dksX5_readsMeasure_0 4 rfl rfl)
theorem dX5_readsMeasure_5 : decode cX5_readsMeasure 5 = .ok (.iconst 0, 1) := dk_3 (dk_at dksX5_readsMeasure_0 5 rfl rfl)
theorem dX5_readsMeasure_6 : decode cX5_readsMeasure 6 = .ok (.bipush 9, 2) := dk_16 9 (dk_at dksX5_readsMeasure_0 6 rfl rfl)
theorem dX5_readsMeasure_8 : decode cX5_readsMeasure 8 = .ok (.invokevirtual 304, 3) := dk_182 1 48 (dk_at dksX5_readsMeasure_0 8 rfl rfl)
theorem dX5_readsMeasure_11 : decode cX5_readsMeasure 11 = .ok (.aload_n 0, 1) := dk_42 (dk_at dksX5_readsMeasure_0 11 rfl rfl)
theorem dX5_readsMeasure_12 : decode cX5_readsMeasure 12 = .ok (.iconst 1, 1) := dk_4 (dk_at dksX5_readsMeasure_0 12 rfl rfl)
theorem dX5_readsMeasure_13 : decode cX5_readsMeasure 13 = .ok (.iconst (-1), 1) := dk_2 (dk_at dksX5_readsMeasure_0 13 rfl rfl)
theorem dX5_readsMeasure_14 : decode cX5_readsMeasure 14 = .ok (.invokevirtual 304, 3) := dk_182 1 48 (dk_at dksX5_readsMeasure_0 14 rfl rfl)
theorem dX5_readsMeasure_17 : decode cX5_readsMeasure 17 = .ok (.aload_n 0, 1) := dk_42 (dk_at dksX5_readsMeasure_0 17 rfl rfl)
theorem dX5_readsMeasure_18 : decode cX5_readsMeasure 18 = .ok (.iconst 2, 1) := dk_5 (dk_at dksX5_readsMeasure_0 18 rfl rfl)
theorem dX5_readsMeasure_19 : decode cX5_readsMeasure 19 = .ok (.iconst (-1), 1) := dk_2 (dk_at dksX5_readsMeasure_0 19 rfl rfl)
theorem dX5_readsMeasure_20 : decode cX5_readsMeasure 20 = .ok (.invokevirtual 304, 3) := dk_182 1 48 (dk_at dksX5_readsMeasure_0 20 rfl rfl)
theorem dX5_readsMeasure_23 : decode cX5_readsMeasure 23 = .ok (.aload_n 0, 1) := dk_42 (dk_at dksX5_readsMeasure_0 23 rfl rfl)
theorem dX5_readsMeasure_24 : decode cX5_readsMeasure 24 = .ok (.iconst 3, 1) := dk_6 (dk_at dksX5_readsMeasure_1 0 rfl rfl)
theorem dX5_readsMeasure_25 : decode cX5_readsMeasure 25 = .ok (.iconst (-1), 1) := dk_2 (dk_at dksX5_readsMeasure_1 1 rfl rfl)
theorem dX5_readsMeasure_26 : decode cX5_readsMeasure 26 = .ok (.invokevirtual 304, 3) := dk_182 1 48 (dk_at dksX5_readsMeasure_1 2 rfl rfl)
theorem dX5_readsMeasure_29 : decode cX5_readsMeasure 29 = .ok (.aload_n 0, 1) := dk_42 (dk_at dksX5_readsMeasure_1 5 rfl rfl)
theorem dX5_readsMeasure_30 : decode cX5_readsMeasure 30 = .ok (.invokevirtual 313, 3) := dk_182 1 57 (dk_at dksX5_readsMeasure_1 6 rfl rfl)
theorem dX5_readsMeasure_33 : decode cX5_readsMeasure 33 = .ok (.istore_n 1, 1) := dk_60 (dk_at dksX5_readsMeasure_1 9 rfl rfl)
theorem dX5_readsMeasure_34 : decode cX5_readsMeasure 34 = .ok (.aload_n 0, 1) := dk_42 (dk_at dksX5_readsMeasure_1 10 rfl rfl)
theorem dX5_readsMeasure_35 : decode cX5_readsMeasure 35 = .ok (.bipush 6, 2) := dk_16 6 (dk_at dksX5_readsMeasure_1 11 rfl rfl)
theorem dX5_readsMeasure_37 : decode cX5_readsMeasure 37 = .ok (.iload_n 1, 1) := dk_27 (dk_at dksX5_readsMeasure_1 13 rfl rfl)
theorem dX5_readsMeasure_38 : decode cX5_readsMeasure 38 = .ok (.iconst (-1), 1) := dk_2 (dk_at dksX5_readsMeasure_1 14 rfl rfl)
theorem dX5_readsMeasure_39 : decode cX5_readsMeasure 39 = .ok (.if_icmp .ne 7, 3) := dk_160 0 7 (dk_at dksX5_readsMeasure_1 15 rfl rfl)
theorem dX5_readsMeasure_42 : decode cX5_readsMeasure 42 = .ok (.iconst (-1), 1) := dk_2 (dk_at dksX5_readsMeasure_1 18 rfl rfl)
theorem dX5_readsMeasure_43 : decode cX5_readsMeasure 43 = .ok (.goto 4, 3) := dk_167 0 4 (dk_at dksX5_readsMeasure_1 19 rfl rfl)
theorem dX5_readsMeasure_46 : decode cX5_readsMeasure 46 = .ok (.iconst 1, 1) := dk_4 (dk_at dksX5_readsMeasure_1 22 rfl rfl)
theorem dX5_readsMeasure_47 : decode cX5_readsMeasure 47 = .ok (.invokevirtual 304, 3) := dk_182 1 48 (dk_at dksX5_readsMeasure_2 0 rfl rfl)
theorem dX5_readsMeasure_50 : decode cX5_readsMeasure 50 = .ok (.aload_n 0, 1) := dk_42 (dk_at dksX5_readsMeasure_2 3 rfl rfl)
theorem dX5_readsMeasure_51 : decode cX5_readsMeasure 51 = .ok (.invokevirtual 316, 3) := dk_182 1 60 (dk_at dksX5_readsMeasure_2 4 rfl rfl)
theorem dX5_readsMeasure_54 : decode cX5_readsMeasure 54 = .ok (.iconst 0, 1) := dk_3 (dk_at dksX5_readsMeasure_2 7 rfl rfl)
theorem dX5_readsMeasure_55 : decode cX5_readsMeasure 55 = .ok (.istore_n 2, 1) := dk_61 (dk_at dksX5_readsMeasure_2 8 rfl rfl)
theorem dX5_readsMeasure_56 : decode cX5_readsMeasure 56 = .ok (.aload_n 0, 1) := dk_42 (dk_at dksX5_readsMeasure_2 9 rfl rfl)
theorem dX5_readsMeasure_57 : decode cX5_readsMeasure 57 = .ok (.bipush 12, 2) := dk_16 12 (dk_at dksX5_readsMeasure_2 10 rfl rfl)
theorem dX5_readsMeasure_59 : decode cX5_readsMeasure 59 = .ok (.invokevirtual 319, 3) := dk_182 1 63 (dk_at dksX5_readsMeasure_2 12 rfl rfl)
theorem dX5_readsMeasure_62 : decode cX5_readsMeasure 62 = .ok (.ifCond .eq 26, 3) := dk_153 0 26 (dk_at dksX5_readsMeasure_2 15 rfl rfl)
theorem dX5_readsMeasure_65 : decode cX5_readsMeasure 65 = .ok (.aload_n 0, 1) := dk_42 (dk_at dksX5_readsMeasure_2 18 rfl rfl)
theorem dX5_readsMeasure_66 : decode cX5_readsMeasure 66 = .ok (.invokevirtual 298, 3) := dk_182 1 42 (dk_at dksX5_readsMeasure_2 19 rfl rfl)
theorem dX5_readsMeasure_69 : decode cX5_readsMeasure 69 = .ok (.aload_n 0, 1) := dk_42 (dk_at dksX5_readsMeasure_2 22 rfl rfl)
theorem dX5_readsMeasure_70 : decode cX5_readsMeasure 70 = .ok (.invokevirtual 313, 3) := dk_182 1 57 (dk_at dksX5_readsMeasure_3 0 rfl rfl)
theorem dX5_readsMeasure_73 : decode cX5_readsMeasure 73 = .ok (.istore_n 2, 1) := dk_61 (dk_at dksX5_readsMeasure_3 3 rfl rfl)
theorem dX5_readsMeasure_74 : decode cX5_readsMeasure 74 = .ok (.aload_n 0, 1) := dk_42 (dk_at dksX5_readsMeasure_3 4 rfl rfl)
theorem dX5_readsMeasure_75 : decode cX5_readsMeasure 75 = .ok (.iload_n 2, 1) := dk_28 (dk_at dksX5_readsMeasure_3 5 rfl rfl)
theorem dX5_readsMeasure_76 : decode cX5_readsMeasure 76 = .ok (.ifCond .eq 7, 3) := dk_153 0 7 (dk_at dksX5_readsMeasure_3 6 rfl rfl)
theorem dX5_readsMeasure_79 : decode cX5_readsMeasure 79 = .ok (.iconst 1, 1) := dk_4 (dk_at dksX5_readsMeasure_3 9 rfl rfl)
theorem dX5_readsMeasure_80 : decode cX5_readsMeasure 80 = .ok (.goto 4, 3) := dk_167 0 4 (dk_at dksX5_readsMeasure_3 10 rfl rfl)
theorem dX5_readsMeasure_83 : decode cX5_readsMeasure 83 = .ok (.iconst 0, 1) := dk_3 (dk_at dksX5_readsMeasure_3 13 rfl rfl)
theorem dX5_readsMeasure_84 : decode cX5_readsMeasure 84 = .ok (.iconst 1, 1) := dk_4 (dk_at dksX5_readsMeasure_3 14 rfl rfl)
theorem dX5_readsMeasure_85 : decode cX5_readsMeasure 85 = .ok (.invokevirtual 294, 3) := dk_182 1 38 (dk_at dksX5_readsMeasure_3 15 rfl rfl)
theorem dX5_readsMeasure_88 : decode cX5_readsMeasure 88 = .ok (.aload_n 0, 1) := dk_42 (dk_at dksX5_readsMeasure_3 18 rfl rfl)
theorem dX5_readsMeasure_89 : decode cX5_readsMeasure 89 = .ok (.bipush 7, 2) := dk_16 7 (dk_at dksX5_readsMeasure_3 19 rfl rfl)
theorem dX5_readsMeasure_91 : decode cX5_readsMeasure 91 = .ok (.iload_n 2, 1) := dk_28 (dk_at dksX5_readsMeasure_3 21 rfl rfl)
theorem dX5_readsMeasure_92 : decode cX5_readsMeasure 92 = .ok (.invokevirtual 304, 3) := dk_182 1 48 (dk_at dksX5_readsMeasure_4 0 rfl rfl)
theorem dX5_readsMeasure_95 : decode cX5_readsMeasure 95 = .ok (.aload_n 0, 1) := dk_42 (dk_at dksX5_readsMeasure_4 3 rfl rfl)
theorem dX5_readsMeasure_96 : decode cX5_readsMeasure 96 = .ok (.aload_n 0, 1) := dk_42 (dk_at dksX5_readsMeasure_4 4 rfl rfl)
theorem dX5_readsMeasure_97 : decode cX5_readsMeasure 97 = .ok (.getfield 322, 3) := dk_180 1 66 (dk_at dksX5_readsMeasure_4 5 rfl rfl)
theorem dX5_readsMeasure_100 : decode cX5_readsMeasure 100 = .ok (.iconst 1, 1) := dk_4 (dk_at dksX5_readsMeasure_4 8 rfl rfl)
theorem dX5_readsMeasure_101 : decode cX5_readsMeasure 101 = .ok (.iadd, 1) := dk_96 (dk_at dksX5_readsMeasure_4 9 rfl rfl)
theorem dX5_readsMeasure_102 : decode cX5_readsMeasure 102 = .ok (.putfield 322, 3) := dk_181 1 66 (dk_at dksX5_readsMeasure_4 10 rfl rfl)
theorem dX5_readsMeasure_105 : decode cX5_readsMeasure 105 = .ok (.return_, 1) := dk_177 (dk_at dksX5_readsMeasure_4 13 rfl rfl)
abbrev cX5_lays : ByteArray := prog_16_method_64_code
def yX5_lays : MethodName := ⟨RX5, "lays", "(II)V"⟩
def dkwX5_lays_0 : List UInt8 := [42, 182, 1, 28, 153, 0, 18, 42, 180, 0, 57, 16, 8, 42, 180, 1, 45, 104, 27, 96, 28, 79, 177]
abbrev dktX5_lays_0 : List UInt8 := dkwX5_lays_0 ++ []
theorem dksX5_lays_0 : cX5_lays.data.toList.drop 0 = dktX5_lays_0 := by decide +kernel
theorem dX5_lays_0 : decode cX5_lays 0 = .ok (.aload_n 0, 1) := dk_42 (dk_at dksX5_lays_0 0 rfl rfl)
theorem dX5_lays_1 : decode cX5_lays 1 = .ok (.invokevirtual 284, 3) := dk_182 1 28 (dk_at dksX5_lays_0 1 rfl rfl)
theorem dX5_lays_4 : decode cX5_lays 4 = .ok (.ifCond .eq 18, 3) := dk_153 0 18 (dk_at dksX5_lays_0 4 rfl rfl)
theorem dX5_lays_7 : decode cX5_lays 7 = .ok (.aload_n 0, 1) := dk_42 (dk_at dksX5_lays_0 7 rfl rfl)
theorem dX5_lays_8 : decode cX5_lays 8 = .ok (.getfield 57, 3) := dk_180 0 57 (dk_at dksX5_lays_0 8 rfl rfl)
theorem dX5_lays_11 : decode cX5_lays 11 = .ok (.bipush 8, 2) := dk_16 8 (dk_at dksX5_lays_0 11 rfl rfl)
theorem dX5_lays_13 : decode cX5_lays 13 = .ok (.aload_n 0, 1) := dk_42 (dk_at dksX5_lays_0 13 rfl rfl)
theorem dX5_lays_14 : decode cX5_lays 14 = .ok (.getfield 301, 3) := dk_180 1 45 (dk_at dksX5_lays_0 14 rfl rfl)
theorem dX5_lays_17 : decode cX5_lays 17 = .ok (.imul, 1) := dk_104 (dk_at dksX5_lays_0 17 rfl rfl)
theorem dX5_lays_18 : decode cX5_lays 18 = .ok (.iload_n 1, 1) := dk_27 (dk_at dksX5_lays_0 18 rfl rfl)
theorem dX5_lays_19 : decode cX5_lays 19 = .ok (.iadd, 1) := dk_96 (dk_at dksX5_lays_0 19 rfl rfl)
theorem dX5_lays_20 : decode cX5_lays 20 = .ok (.iload_n 2, 1) := dk_28 (dk_at dksX5_lays_0 20 rfl rfl)
theorem dX5_lays_21 : decode cX5_lays 21 = .ok (.iastore, 1) := dk_79 (dk_at dksX5_lays_0 21 rfl rfl)
theorem dX5_lays_22 : decode cX5_lays 22 = .ok (.return_, 1) := dk_177 (dk_at dksX5_lays_0 22 rfl rfl)
abbrev cX5_readsSign : ByteArray := prog_16_method_63_code
def yX5_readsSign : MethodName := ⟨RX5, "readsSign", "()I"⟩
def dkwX5_readsSign_1 : List UInt8 := [167, 0, 4, 3, 60, 27, 153, 0, 7, 42, 182, 1, 42, 27, 172]
abbrev dktX5_readsSign_1 : List UInt8 := dkwX5_readsSign_1 ++ []
def dkwX5_readsSign_0 : List UInt8 := [42, 16, 43, 182, 1, 35, 153, 0, 7, 4, 167, 0, 17, 42, 16, 45, 182, 1, 35, 153, 0, 7, 2]
abbrev dktX5_readsSign_0 : List UInt8 := dkwX5_readsSign_0 ++ dktX5_readsSign_1
theorem dksX5_readsSign_0 : cX5_readsSign.data.toList.drop 0 = dktX5_readsSign_0 := by decide +kernel
theorem dksX5_readsSign_1 : cX5_readsSign.data.toList.drop 23 = dktX5_readsSign_1 := dk_seg dksX5_readsSign_0 23 rfl rfl
theorem dX5_readsSign_0 : decode cX5_readsSign 0 = .ok (.aload_n 0, 1) := dk_42 (dk_at dksX5_readsSign_0 0 rfl rfl)
theorem dX5_readsSign_1 : decode cX5_readsSign 1 = .ok (.bipush 43, 2) := dk_16 43 (dk_at dksX5_readsSign_0 1 rfl rfl)
theorem dX5_readsSign_3 : decode cX5_readsSign 3 = .ok (.invokevirtual 291, 3) := dk_182 1 35 (dk_at dksX5_readsSign_0 3 rfl rfl)
theorem dX5_readsSign_6 : decode cX5_readsSign 6 = .ok (.ifCond .eq 7, 3) := dk_153 0 7 (dk_at dksX5_readsSign_0 6 rfl rfl)
theorem dX5_readsSign_9 : decode cX5_readsSign 9 = .ok (.iconst 1, 1) := dk_4 (dk_at dksX5_readsSign_0 9 rfl rfl)
theorem dX5_readsSign_10 : decode cX5_readsSign 10 = .ok (.goto 17, 3) := dk_167 0 17 (dk_at dksX5_readsSign_0 10 rfl rfl)
theorem dX5_readsSign_13 : decode cX5_readsSign 13 = .ok (.aload_n 0, 1) := dk_42 (dk_at dksX5_readsSign_0 13 rfl rfl)
theorem dX5_readsSign_14 : decode cX5_readsSign 14 = .ok (.bipush 45, 2) := dk_16 45 (dk_at dksX5_readsSign_0 14 rfl rfl)
theorem dX5_readsSign_16 : decode cX5_readsSign 16 = .ok (.invokevirtual 291, 3) := dk_182 1 35 (dk_at dksX5_readsSign_0 16 rfl rfl)
theorem dX5_readsSign_19 : decode cX5_readsSign 19 = .ok (.ifCond .eq 7, 3) := dk_153 0 7 (dk_at dksX5_readsSign_0 19 rfl rfl)
theorem dX5_readsSign_22 : decode cX5_readsSign 22 = .ok (.iconst (-1), 1) := dk_2 (dk_at dksX5_readsSign_0 22 rfl rfl)
theorem dX5_readsSign_23 : decode cX5_readsSign 23 = .ok (.goto 4, 3) := dk_167 0 4 (dk_at dksX5_readsSign_1 0 rfl rfl)
theorem dX5_readsSign_26 : decode cX5_readsSign 26 = .ok (.iconst 0, 1) := dk_3 (dk_at dksX5_readsSign_1 3 rfl rfl)
theorem dX5_readsSign_27 : decode cX5_readsSign 27 = .ok (.istore_n 1, 1) := dk_60 (dk_at dksX5_readsSign_1 4 rfl rfl)
theorem dX5_readsSign_28 : decode cX5_readsSign 28 = .ok (.iload_n 1, 1) := dk_27 (dk_at dksX5_readsSign_1 5 rfl rfl)
theorem dX5_readsSign_29 : decode cX5_readsSign 29 = .ok (.ifCond .eq 7, 3) := dk_153 0 7 (dk_at dksX5_readsSign_1 6 rfl rfl)
theorem dX5_readsSign_32 : decode cX5_readsSign 32 = .ok (.aload_n 0, 1) := dk_42 (dk_at dksX5_readsSign_1 9 rfl rfl)
theorem dX5_readsSign_33 : decode cX5_readsSign 33 = .ok (.invokevirtual 298, 3) := dk_182 1 42 (dk_at dksX5_readsSign_1 10 rfl rfl)
theorem dX5_readsSign_36 : decode cX5_readsSign 36 = .ok (.iload_n 1, 1) := dk_27 (dk_at dksX5_readsSign_1 13 rfl rfl)
theorem dX5_readsSign_37 : decode cX5_readsSign 37 = .ok (.ireturn, 1) := dk_172 (dk_at dksX5_readsSign_1 14 rfl rfl)
abbrev cX5_readsString : ByteArray := prog_16_method_66_code
def yX5_readsString : MethodName := ⟨RX5, "readsString", "()V"⟩
def dkwX5_readsString_6 : List UInt8 := [182, 1, 38, 42, 7, 27, 182, 1, 48, 42, 8, 28, 182, 1, 48, 42, 182, 1, 42, 177]
abbrev dktX5_readsString_6 : List UInt8 := dkwX5_readsString_6 ++ []
def dkwX5_readsString_5 : List UInt8 := [42, 180, 0, 242, 100, 42, 180, 1, 51, 160, 0, 13, 27, 28, 128, 153, 0, 7, 4, 167, 0, 4, 3, 6]
abbrev dktX5_readsString_5 : List UInt8 := dkwX5_readsString_5 ++ dktX5_readsString_6
def dkwX5_readsString_4 : List UInt8 := [21, 4, 16, 90, 160, 0, 9, 28, 4, 29, 120, 128, 61, 132, 3, 1, 167, 255, 181, 42, 42, 180, 0, 236]
abbrev dktX5_readsString_4 : List UInt8 := dkwX5_readsString_4 ++ dktX5_readsString_5
def dkwX5_readsString_3 : List UInt8 := [159, 0, 10, 21, 4, 16, 89, 160, 0, 9, 27, 4, 29, 120, 128, 60, 21, 4, 16, 89, 159, 0, 10]
abbrev dktX5_readsString_3 : List UInt8 := dkwX5_readsString_3 ++ dktX5_readsString_4
def dkwX5_readsString_2 : List UInt8 := [16, 8, 162, 0, 62, 42, 180, 0, 49, 42, 180, 0, 242, 29, 96, 51, 54, 4, 21, 4, 16, 88]
abbrev dktX5_readsString_2 : List UInt8 := dkwX5_readsString_2 ++ dktX5_readsString_3
def dkwX5_readsString_1 : List UInt8 := [154, 0, 4, 177, 3, 60, 3, 61, 3, 62, 29, 42, 180, 0, 236, 42, 180, 0, 242, 100, 162, 0, 68, 29]
abbrev dktX5_readsString_1 : List UInt8 := dkwX5_readsString_1 ++ dktX5_readsString_2
def dkwX5_readsString_0 : List UInt8 := [42, 42, 180, 0, 245, 5, 160, 0, 7, 4, 167, 0, 4, 3, 4, 182, 1, 38, 42, 182, 1, 28]
abbrev dktX5_readsString_0 : List UInt8 := dkwX5_readsString_0 ++ dktX5_readsString_1
theorem dksX5_readsString_0 : cX5_readsString.data.toList.drop 0 = dktX5_readsString_0 := by decide +kernel
theorem dksX5_readsString_1 : cX5_readsString.data.toList.drop 22 = dktX5_readsString_1 := dk_seg dksX5_readsString_0 22 rfl rfl
theorem dksX5_readsString_2 : cX5_readsString.data.toList.drop 46 = dktX5_readsString_2 := dk_seg dksX5_readsString_1 24 rfl rfl
theorem dksX5_readsString_3 : cX5_readsString.data.toList.drop 68 = dktX5_readsString_3 := dk_seg dksX5_readsString_2 22 rfl rfl
theorem dksX5_readsString_4 : cX5_readsString.data.toList.drop 91 = dktX5_readsString_4 := dk_seg dksX5_readsString_3 23 rfl rfl
theorem dksX5_readsString_5 : cX5_readsString.data.toList.drop 115 = dktX5_readsString_5 := dk_seg dksX5_readsString_4 24 rfl rfl
theorem dksX5_readsString_6 : cX5_readsString.data.toList.drop 139 = dktX5_readsString_6 := dk_seg dksX5_readsString_5 24 rfl rfl
theorem dX5_readsString_0 : decode cX5_readsString 0 = .ok (.aload_n 0, 1) := dk_42 (dk_at dksX5_readsString_0 0 rfl rfl)
theorem dX5_readsString_1 : decode cX5_readsString 1 = .ok (.aload_n 0, 1) := dk_42 (dk_at dksX5_readsString_0 1 rfl rfl)
theorem dX5_readsString_2 : decode cX5_readsString 2 = .ok (.getfield 245, 3) := dk_180 0 245 (dk_at dksX5_readsString_0 2 rfl rfl)
theorem dX5_readsString_5 : decode cX5_readsString 5 = .ok (.iconst 2, 1) := dk_5 (dk_at dksX5_readsString_0 5 rfl rfl)
theorem dX5_readsString_6 : decode cX5_readsString 6 = .ok (.if_icmp .ne 7, 3) := dk_160 0 7 (dk_at dksX5_readsString_0 6 rfl rfl)
theorem dX5_readsString_9 : decode cX5_readsString 9 = .ok (.iconst 1, 1) := dk_4 (dk_at dksX5_readsString_0 9 rfl rfl)
theorem dX5_readsString_10 : decode cX5_readsString 10 = .ok (.goto 4, 3) := dk_167 0 4 (dk_at dksX5_readsString_0 10 rfl rfl)
theorem dX5_readsString_13 : decode cX5_readsString 13 = .ok (.iconst 0, 1) := dk_3 (dk_at dksX5_readsString_0 13 rfl rfl)
theorem dX5_readsString_14 : decode cX5_readsString 14 = .ok (.iconst 1, 1) := dk_4 (dk_at dksX5_readsString_0 14 rfl rfl)
theorem dX5_readsString_15 : decode cX5_readsString 15 = .ok (.invokevirtual 294, 3) := dk_182 1 38 (dk_at dksX5_readsString_0 15 rfl rfl)
theorem dX5_readsString_18 : decode cX5_readsString 18 = .ok (.aload_n 0, 1) := dk_42 (dk_at dksX5_readsString_0 18 rfl rfl)
theorem dX5_readsString_19 : decode cX5_readsString 19 = .ok (.invokevirtual 284, 3) := dk_182 1 28 (dk_at dksX5_readsString_0 19 rfl rfl)
theorem dX5_readsString_22 : decode cX5_readsString 22 = .ok (.ifCond .ne 4, 3) := dk_154 0 4 (dk_at dksX5_readsString_1 0 rfl rfl)
theorem dX5_readsString_25 : decode cX5_readsString 25 = .ok (.return_, 1) := dk_177 (dk_at dksX5_readsString_1 3 rfl rfl)
theorem dX5_readsString_26 : decode cX5_readsString 26 = .ok (.iconst 0, 1) := dk_3 (dk_at dksX5_readsString_1 4 rfl rfl)
theorem dX5_readsString_27 : decode cX5_readsString 27 = .ok (.istore_n 1, 1) := dk_60 (dk_at dksX5_readsString_1 5 rfl rfl)
theorem dX5_readsString_28 : decode cX5_readsString 28 = .ok (.iconst 0, 1) := dk_3 (dk_at dksX5_readsString_1 6 rfl rfl)
theorem dX5_readsString_29 : decode cX5_readsString 29 = .ok (.istore_n 2, 1) := dk_61 (dk_at dksX5_readsString_1 7 rfl rfl)
theorem dX5_readsString_30 : decode cX5_readsString 30 = .ok (.iconst 0, 1) := dk_3 (dk_at dksX5_readsString_1 8 rfl rfl)
theorem dX5_readsString_31 : decode cX5_readsString 31 = .ok (.istore_n 3, 1) := dk_62 (dk_at dksX5_readsString_1 9 rfl rfl)
theorem dX5_readsString_32 : decode cX5_readsString 32 = .ok (.iload_n 3, 1) := dk_29 (dk_at dksX5_readsString_1 10 rfl rfl)
theorem dX5_readsString_33 : decode cX5_readsString 33 = .ok (.aload_n 0, 1) := dk_42 (dk_at dksX5_readsString_1 11 rfl rfl)
theorem dX5_readsString_34 : decode cX5_readsString 34 = .ok (.getfield 236, 3) := dk_180 0 236 (dk_at dksX5_readsString_1 12 rfl rfl)
theorem dX5_readsString_37 : decode cX5_readsString 37 = .ok (.aload_n 0, 1) := dk_42 (dk_at dksX5_readsString_1 15 rfl rfl)
theorem dX5_readsString_38 : decode cX5_readsString 38 = .ok (.getfield 242, 3) := dk_180 0 242 (dk_at dksX5_readsString_1 16 rfl rfl)
theorem dX5_readsString_41 : decode cX5_readsString 41 = .ok (.isub, 1) := dk_100 (dk_at dksX5_readsString_1 19 rfl rfl)
theorem dX5_readsString_42 : decode cX5_readsString 42 = .ok (.if_icmp .ge 68, 3) := dk_162 0 68 (dk_at dksX5_readsString_1 20 rfl rfl)
theorem dX5_readsString_45 : decode cX5_readsString 45 = .ok (.iload_n 3, 1) := dk_29 (dk_at dksX5_readsString_1 23 rfl rfl)
theorem dX5_readsString_46 : decode cX5_readsString 46 = .ok (.bipush 8, 2) := dk_16 8 (dk_at dksX5_readsString_2 0 rfl rfl)
theorem dX5_readsString_48 : decode cX5_readsString 48 = .ok (.if_icmp .ge 62, 3) := dk_162 0 62 (dk_at dksX5_readsString_2 2 rfl rfl)
theorem dX5_readsString_51 : decode cX5_readsString 51 = .ok (.aload_n 0, 1) := dk_42 (dk_at dksX5_readsString_2 5 rfl rfl)
theorem dX5_readsString_52 : decode cX5_readsString 52 = .ok (.getfield 49, 3) := dk_180 0 49 (dk_at dksX5_readsString_2 6 rfl rfl)
theorem dX5_readsString_55 : decode cX5_readsString 55 = .ok (.aload_n 0, 1) := dk_42 (dk_at dksX5_readsString_2 9 rfl rfl)
theorem dX5_readsString_56 : decode cX5_readsString 56 = .ok (.getfield 242, 3) := dk_180 0 242 (dk_at dksX5_readsString_2 10 rfl rfl)
theorem dX5_readsString_59 : decode cX5_readsString 59 = .ok (.iload_n 3, 1) := dk_29 (dk_at dksX5_readsString_2 13 rfl rfl)
theorem dX5_readsString_60 : decode cX5_readsString 60 = .ok (.iadd, 1) := dk_96 (dk_at dksX5_readsString_2 14 rfl rfl)
theorem dX5_readsString_61 : decode cX5_readsString 61 = .ok (.baload, 1) := dk_51 (dk_at dksX5_readsString_2 15 rfl rfl)
theorem dX5_readsString_62 : decode cX5_readsString 62 = .ok (.istore 4, 2) := dk_54 4 (dk_at dksX5_readsString_2 16 rfl rfl)
theorem dX5_readsString_64 : decode cX5_readsString 64 = .ok (.iload 4, 2) := dk_21 4 (dk_at dksX5_readsString_2 18 rfl rfl)
theorem dX5_readsString_66 : decode cX5_readsString 66 = .ok (.bipush 88, 2) := dk_16 88 (dk_at dksX5_readsString_2 20 rfl rfl)
theorem dX5_readsString_68 : decode cX5_readsString 68 = .ok (.if_icmp .eq 10, 3) := dk_159 0 10 (dk_at dksX5_readsString_3 0 rfl rfl)
theorem dX5_readsString_71 : decode cX5_readsString 71 = .ok (.iload 4, 2) := dk_21 4 (dk_at dksX5_readsString_3 3 rfl rfl)
theorem dX5_readsString_73 : decode cX5_readsString 73 = .ok (.bipush 89, 2) := dk_16 89 (dk_at dksX5_readsString_3 5 rfl rfl)
theorem dX5_readsString_75 : decode cX5_readsString 75 = .ok (.if_icmp .ne 9, 3) := dk_160 0 9 (dk_at dksX5_readsString_3 7 rfl rfl)
theorem dX5_readsString_78 : decode cX5_readsString 78 = .ok (.iload_n 1, 1) := dk_27 (dk_at dksX5_readsString_3 10 rfl rfl)
theorem dX5_readsString_79 : decode cX5_readsString 79 = .ok (.iconst 1, 1) := dk_4 (dk_at dksX5_readsString_3 11 rfl rfl)
theorem dX5_readsString_80 : decode cX5_readsString 80 = .ok (.iload_n 3, 1) := dk_29 (dk_at dksX5_readsString_3 12 rfl rfl)
theorem dX5_readsString_81 : decode cX5_readsString 81 = .ok (.ishl, 1) := dk_120 (dk_at dksX5_readsString_3 13 rfl rfl)
theorem dX5_readsString_82 : decode cX5_readsString 82 = .ok (.ior, 1) := dk_128 (dk_at dksX5_readsString_3 14 rfl rfl)
theorem dX5_readsString_83 : decode cX5_readsString 83 = .ok (.istore_n 1, 1) := dk_60 (dk_at dksX5_readsString_3 15 rfl rfl)
theorem dX5_readsString_84 : decode cX5_readsString 84 = .ok (.iload 4, 2) := dk_21 4 (dk_at dksX5_readsString_3 16 rfl rfl)
theorem dX5_readsString_86 : decode cX5_readsString 86 = .ok (.bipush 89, 2) := dk_16 89 (dk_at dksX5_readsString_3 18 rfl rfl)
theorem dX5_readsString_88 : decode cX5_readsString 88 = .ok (.if_icmp .eq 10, 3) := dk_159 0 10 (dk_at dksX5_readsString_3 20 rfl rfl)
theorem dX5_readsString_91 : decode cX5_readsString 91 = .ok (.iload 4, 2) := dk_21 4 (dk_at dksX5_readsString_4 0 rfl rfl)
theorem dX5_readsString_93 : decode cX5_readsString 93 = .ok (.bipush 90, 2) := dk_16 90 (dk_at dksX5_readsString_4 2 rfl rfl)
theorem dX5_readsString_95 : decode cX5_readsString 95 = .ok (.if_icmp .ne 9, 3) := dk_160 0 9 (dk_at dksX5_readsString_4 4 rfl rfl)
theorem dX5_readsString_98 : decode cX5_readsString 98 = .ok (.iload_n 2, 1) := dk_28 (dk_at dksX5_readsString_4 7 rfl rfl)
theorem dX5_readsString_99 : decode cX5_readsString 99 = .ok (.iconst 1, 1) := dk_4 (dk_at dksX5_readsString_4 8 rfl rfl)
theorem dX5_readsString_100 : decode cX5_readsString 100 = .ok (.iload_n 3, 1) := dk_29 (dk_at dksX5_readsString_4 9 rfl rfl)
theorem dX5_readsString_101 : decode cX5_readsString 101 = .ok (.ishl, 1) := dk_120 (dk_at dksX5_readsString_4 10 rfl rfl)
theorem dX5_readsString_102 : decode cX5_readsString 102 = .ok (.ior, 1) := dk_128 (dk_at dksX5_readsString_4 11 rfl rfl)
theorem dX5_readsString_103 : decode cX5_readsString 103 = .ok (.istore_n 2, 1) := dk_61 (dk_at dksX5_readsString_4 12 rfl rfl)
theorem dX5_readsString_104 : decode cX5_readsString 104 = .ok (.iinc 3 1, 3) := dk_132 3 1 (dk_at dksX5_readsString_4 13 rfl rfl)
theorem dX5_readsString_107 : decode cX5_readsString 107 = .ok (.goto (-75), 3) := dk_167 255 181 (dk_at dksX5_readsString_4 16 rfl rfl)
theorem dX5_readsString_110 : decode cX5_readsString 110 = .ok (.aload_n 0, 1) := dk_42 (dk_at dksX5_readsString_4 19 rfl rfl)
theorem dX5_readsString_111 : decode cX5_readsString 111 = .ok (.aload_n 0, 1) := dk_42 (dk_at dksX5_readsString_4 20 rfl rfl)
theorem dX5_readsString_112 : decode cX5_readsString 112 = .ok (.getfield 236, 3) := dk_180 0 236 (dk_at dksX5_readsString_4 21 rfl rfl)
theorem dX5_readsString_115 : decode cX5_readsString 115 = .ok (.aload_n 0, 1) := dk_42 (dk_at dksX5_readsString_5 0 rfl rfl)
theorem dX5_readsString_116 : decode cX5_readsString 116 = .ok (.getfield 242, 3) := dk_180 0 242 (dk_at dksX5_readsString_5 1 rfl rfl)
theorem dX5_readsString_119 : decode cX5_readsString 119 = .ok (.isub, 1) := dk_100 (dk_at dksX5_readsString_5 4 rfl rfl)
theorem dX5_readsString_120 : decode cX5_readsString 120 = .ok (.aload_n 0, 1) := dk_42 (dk_at dksX5_readsString_5 5 rfl rfl)
theorem dX5_readsString_121 : decode cX5_readsString 121 = .ok (.getfield 307, 3) := dk_180 1 51 (dk_at dksX5_readsString_5 6 rfl rfl)
theorem dX5_readsString_124 : decode cX5_readsString 124 = .ok (.if_icmp .ne 13, 3) := dk_160 0 13 (dk_at dksX5_readsString_5 9 rfl rfl)
theorem dX5_readsString_127 : decode cX5_readsString 127 = .ok (.iload_n 1, 1) := dk_27 (dk_at dksX5_readsString_5 12 rfl rfl)
theorem dX5_readsString_128 : decode cX5_readsString 128 = .ok (.iload_n 2, 1) := dk_28 (dk_at dksX5_readsString_5 13 rfl rfl)
theorem dX5_readsString_129 : decode cX5_readsString 129 = .ok (.ior, 1) := dk_128 (dk_at dksX5_readsString_5 14 rfl rfl)
theorem dX5_readsString_130 : decode cX5_readsString 130 = .ok (.ifCond .eq 7, 3) := dk_153 0 7 (dk_at dksX5_readsString_5 15 rfl rfl)
theorem dX5_readsString_133 : decode cX5_readsString 133 = .ok (.iconst 1, 1) := dk_4 (dk_at dksX5_readsString_5 18 rfl rfl)
theorem dX5_readsString_134 : decode cX5_readsString 134 = .ok (.goto 4, 3) := dk_167 0 4 (dk_at dksX5_readsString_5 19 rfl rfl)
theorem dX5_readsString_137 : decode cX5_readsString 137 = .ok (.iconst 0, 1) := dk_3 (dk_at dksX5_readsString_5 22 rfl rfl)
theorem dX5_readsString_138 : decode cX5_readsString 138 = .ok (.iconst 3, 1) := dk_6 (dk_at dksX5_readsString_5 23 rfl rfl)
theorem dX5_readsString_139 : decode cX5_readsString 139 = .ok (.invokevirtual 294, 3) := dk_182 1 38 (dk_at dksX5_readsString_6 0 rfl rfl)
theorem dX5_readsString_142 : decode cX5_readsString 142 = .ok (.aload_n 0, 1) := dk_42 (dk_at dksX5_readsString_6 3 rfl rfl)
theorem dX5_readsString_143 : decode cX5_readsString 143 = .ok (.iconst 4, 1) := dk_7 (dk_at dksX5_readsString_6 4 rfl rfl)
theorem dX5_readsString_144 : decode cX5_readsString 144 = .ok (.iload_n 1, 1) := dk_27 (dk_at dksX5_readsString_6 5 rfl rfl)
theorem dX5_readsString_145 : decode cX5_readsString 145 = .ok (.invokevirtual 304, 3) := dk_182 1 48 (dk_at dksX5_readsString_6 6 rfl rfl)
theorem dX5_readsString_148 : decode cX5_readsString 148 = .ok (.aload_n 0, 1) := dk_42 (dk_at dksX5_readsString_6 9 rfl rfl)
theorem dX5_readsString_149 : decode cX5_readsString 149 = .ok (.iconst 5, 1) := dk_8 (dk_at dksX5_readsString_6 10 rfl rfl)
theorem dX5_readsString_150 : decode cX5_readsString 150 = .ok (.iload_n 2, 1) := dk_28 (dk_at dksX5_readsString_6 11 rfl rfl)
theorem dX5_readsString_151 : decode cX5_readsString 151 = .ok (.invokevirtual 304, 3) := dk_182 1 48 (dk_at dksX5_readsString_6 12 rfl rfl)
theorem dX5_readsString_154 : decode cX5_readsString 154 = .ok (.aload_n 0, 1) := dk_42 (dk_at dksX5_readsString_6 15 rfl rfl)
theorem dX5_readsString_155 : decode cX5_readsString 155 = .ok (.invokevirtual 298, 3) := dk_182 1 42 (dk_at dksX5_readsString_6 16 rfl rfl)
theorem dX5_readsString_158 : decode cX5_readsString 158 = .ok (.return_, 1) := dk_177 (dk_at dksX5_readsString_6 19 rfl rfl)
abbrev cX5_readsGate : ByteArray := prog_16_method_65_code
def yX5_readsGate : MethodName := ⟨RX5, "readsGate", "(I)V"⟩
def dkwX5_readsGate_8 : List UInt8 := [182, 1, 48, 132, 4, 1, 167, 255, 239, 177]
abbrev dktX5_readsGate_8 : List UInt8 := dkwX5_readsGate_8 ++ []
def dkwX5_readsGate_7 : List UInt8 := [182, 1, 42, 42, 6, 27, 182, 1, 48, 7, 54, 4, 21, 4, 16, 8, 162, 0, 16, 42, 21, 4, 3]
abbrev dktX5_readsGate_7 : List UInt8 := dkwX5_readsGate_7 ++ dktX5_readsGate_8
def dkwX5_readsGate_6 : List UInt8 := [29, 159, 0, 7, 4, 167, 0, 4, 3, 5, 182, 1, 38, 42, 5, 42, 180, 1, 12, 182, 1, 48, 42]
abbrev dktX5_readsGate_6 : List UInt8 := dkwX5_readsGate_6 ++ dktX5_readsGate_7
def dkwX5_readsGate_5 : List UInt8 := [42, 42, 180, 1, 12, 133, 9, 42, 180, 1, 51, 4, 100, 133, 184, 0, 135, 153, 0, 15, 42, 180, 1, 12]
abbrev dktX5_readsGate_5 : List UInt8 := dkwX5_readsGate_5 ++ dktX5_readsGate_6
def dkwX5_readsGate_4 : List UInt8 := [42, 180, 0, 245, 6, 160, 0, 7, 4, 167, 0, 4, 3, 4, 182, 1, 38, 42, 182, 1, 28, 153, 0, 40]
abbrev dktX5_readsGate_4 : List UInt8 := dkwX5_readsGate_4 ++ dktX5_readsGate_5
def dkwX5_readsGate_3 : List UInt8 := [29, 182, 1, 48, 42, 5, 2, 182, 1, 48, 42, 182, 1, 28, 153, 0, 84, 28, 16, 6, 161, 0, 78, 42]
abbrev dktX5_readsGate_3 : List UInt8 := dkwX5_readsGate_3 ++ dktX5_readsGate_4
def dkwX5_readsGate_2 : List UInt8 := [182, 1, 42, 42, 3, 28, 182, 1, 48, 42, 3, 42, 180, 1, 51, 4, 100, 5, 182, 1, 54, 62, 42, 4]
abbrev dktX5_readsGate_2 : List UInt8 := dkwX5_readsGate_2 ++ dktX5_readsGate_3
def dkwX5_readsGate_1 : List UInt8 := [180, 0, 255, 167, 0, 4, 2, 61, 42, 28, 2, 159, 0, 7, 4, 167, 0, 4, 3, 4, 182, 1, 38, 42]
abbrev dktX5_readsGate_1 : List UInt8 := dkwX5_readsGate_1 ++ dktX5_readsGate_2
def dkwX5_readsGate_0 : List UInt8 := [42, 180, 0, 245, 4, 160, 0, 25, 42, 180, 0, 255, 133, 9, 20, 0, 141, 184, 0, 135, 153, 0, 10, 42]
abbrev dktX5_readsGate_0 : List UInt8 := dkwX5_readsGate_0 ++ dktX5_readsGate_1
theorem dksX5_readsGate_0 : cX5_readsGate.data.toList.drop 0 = dktX5_readsGate_0 := by decide +kernel
theorem dksX5_readsGate_1 : cX5_readsGate.data.toList.drop 24 = dktX5_readsGate_1 := dk_seg dksX5_readsGate_0 24 rfl rfl
theorem dksX5_readsGate_2 : cX5_readsGate.data.toList.drop 48 = dktX5_readsGate_2 := dk_seg dksX5_readsGate_1 24 rfl rfl
theorem dksX5_readsGate_3 : cX5_readsGate.data.toList.drop 72 = dktX5_readsGate_3 := dk_seg dksX5_readsGate_2 24 rfl rfl
theorem dksX5_readsGate_4 : cX5_readsGate.data.toList.drop 96 = dktX5_readsGate_4 := dk_seg dksX5_readsGate_3 24 rfl rfl
theorem dksX5_readsGate_5 : cX5_readsGate.data.toList.drop 120 = dktX5_readsGate_5 := dk_seg dksX5_readsGate_4 24 rfl rfl
theorem dksX5_readsGate_6 : cX5_readsGate.data.toList.drop 144 = dktX5_readsGate_6 := dk_seg dksX5_readsGate_5 24 rfl rfl
theorem dksX5_readsGate_7 : cX5_readsGate.data.toList.drop 167 = dktX5_readsGate_7 := dk_seg dksX5_readsGate_6 23 rfl rfl
theorem dksX5_readsGate_8 : cX5_readsGate.data.toList.drop 190 = dktX5_readsGate_8 := dk_seg dksX5_readsGate_7 23 rfl rfl
theorem dX5_readsGate_0 : decode cX5_readsGate 0 = .ok (.aload_n 0, 1) := dk_42 (dk_at dksX5_readsGate_0 0 rfl rfl)
theorem dX5_readsGate_1 : decode cX5_readsGate 1 = .ok (.getfield 245, 3) := dk_180 0 245 (dk_at dksX5_readsGate_0 1 rfl rfl)
theorem dX5_readsGate_4 : decode cX5_readsGate 4 = .ok (.iconst 1, 1) := dk_4 (dk_at dksX5_readsGate_0 4 rfl rfl)
theorem dX5_readsGate_5 : decode cX5_readsGate 5 = .ok (.if_icmp .ne 25, 3) := dk_160 0 25 (dk_at dksX5_readsGate_0 5 rfl rfl)
theorem dX5_readsGate_8 : decode cX5_readsGate 8 = .ok (.aload_n 0, 1) := dk_42 (dk_at dksX5_readsGate_0 8 rfl rfl)
theorem dX5_readsGate_9 : decode cX5_readsGate 9 = .ok (.getfield 255, 3) := dk_180 0 255 (dk_at dksX5_readsGate_0 9 rfl rfl)
theorem dX5_readsGate_12 : decode cX5_readsGate 12 = .ok (.i2l, 1) := dk_133 (dk_at dksX5_readsGate_0 12 rfl rfl)
theorem dX5_readsGate_13 : decode cX5_readsGate 13 = .ok (.lconst 0, 1) := dk_9 (dk_at dksX5_readsGate_0 13 rfl rfl)
theorem dX5_readsGate_14 : decode cX5_readsGate 14 = .ok (.ldc2_w 141, 3) := dk_20 0 141 (dk_at dksX5_readsGate_0 14 rfl rfl)
theorem dX5_readsGate_17 : decode cX5_readsGate 17 = .ok (.invokestatic 135, 3) := dk_184 0 135 (dk_at dksX5_readsGate_0 17 rfl rfl)
theorem dX5_readsGate_20 : decode cX5_readsGate 20 = .ok (.ifCond .eq 10, 3) := dk_153 0 10 (dk_at dksX5_readsGate_0 20 rfl rfl)
theorem dX5_readsGate_23 : decode cX5_readsGate 23 = .ok (.aload_n 0, 1) := dk_42 (dk_at dksX5_readsGate_0 23 rfl rfl)
theorem dX5_readsGate_24 : decode cX5_readsGate 24 = .ok (.getfield 255, 3) := dk_180 0 255 (dk_at dksX5_readsGate_1 0 rfl rfl)
theorem dX5_readsGate_27 : decode cX5_readsGate 27 = .ok (.goto 4, 3) := dk_167 0 4 (dk_at dksX5_readsGate_1 3 rfl rfl)
theorem dX5_readsGate_30 : decode cX5_readsGate 30 = .ok (.iconst (-1), 1) := dk_2 (dk_at dksX5_readsGate_1 6 rfl rfl)
theorem dX5_readsGate_31 : decode cX5_readsGate 31 = .ok (.istore_n 2, 1) := dk_61 (dk_at dksX5_readsGate_1 7 rfl rfl)
theorem dX5_readsGate_32 : decode cX5_readsGate 32 = .ok (.aload_n 0, 1) := dk_42 (dk_at dksX5_readsGate_1 8 rfl rfl)
theorem dX5_readsGate_33 : decode cX5_readsGate 33 = .ok (.iload_n 2, 1) := dk_28 (dk_at dksX5_readsGate_1 9 rfl rfl)
theorem dX5_readsGate_34 : decode cX5_readsGate 34 = .ok (.iconst (-1), 1) := dk_2 (dk_at dksX5_readsGate_1 10 rfl rfl)
theorem dX5_readsGate_35 : decode cX5_readsGate 35 = .ok (.if_icmp .eq 7, 3) := dk_159 0 7 (dk_at dksX5_readsGate_1 11 rfl rfl)
theorem dX5_readsGate_38 : decode cX5_readsGate 38 = .ok (.iconst 1, 1) := dk_4 (dk_at dksX5_readsGate_1 14 rfl rfl)
theorem dX5_readsGate_39 : decode cX5_readsGate 39 = .ok (.goto 4, 3) := dk_167 0 4 (dk_at dksX5_readsGate_1 15 rfl rfl)
theorem dX5_readsGate_42 : decode cX5_readsGate 42 = .ok (.iconst 0, 1) := dk_3 (dk_at dksX5_readsGate_1 18 rfl rfl)
theorem dX5_readsGate_43 : decode cX5_readsGate 43 = .ok (.iconst 1, 1) := dk_4 (dk_at dksX5_readsGate_1 19 rfl rfl)
theorem dX5_readsGate_44 : decode cX5_readsGate 44 = .ok (.invokevirtual 294, 3) := dk_182 1 38 (dk_at dksX5_readsGate_1 20 rfl rfl)
theorem dX5_readsGate_47 : decode cX5_readsGate 47 = .ok (.aload_n 0, 1) := dk_42 (dk_at dksX5_readsGate_1 23 rfl rfl)
theorem dX5_readsGate_48 : decode cX5_readsGate 48 = .ok (.invokevirtual 298, 3) := dk_182 1 42 (dk_at dksX5_readsGate_2 0 rfl rfl)
theorem dX5_readsGate_51 : decode cX5_readsGate 51 = .ok (.aload_n 0, 1) := dk_42 (dk_at dksX5_readsGate_2 3 rfl rfl)
theorem dX5_readsGate_52 : decode cX5_readsGate 52 = .ok (.iconst 0, 1) := dk_3 (dk_at dksX5_readsGate_2 4 rfl rfl)
theorem dX5_readsGate_53 : decode cX5_readsGate 53 = .ok (.iload_n 2, 1) := dk_28 (dk_at dksX5_readsGate_2 5 rfl rfl)
theorem dX5_readsGate_54 : decode cX5_readsGate 54 = .ok (.invokevirtual 304, 3) := dk_182 1 48 (dk_at dksX5_readsGate_2 6 rfl rfl)
theorem dX5_readsGate_57 : decode cX5_readsGate 57 = .ok (.aload_n 0, 1) := dk_42 (dk_at dksX5_readsGate_2 9 rfl rfl)
theorem dX5_readsGate_58 : decode cX5_readsGate 58 = .ok (.iconst 0, 1) := dk_3 (dk_at dksX5_readsGate_2 10 rfl rfl)
theorem dX5_readsGate_59 : decode cX5_readsGate 59 = .ok (.aload_n 0, 1) := dk_42 (dk_at dksX5_readsGate_2 11 rfl rfl)
theorem dX5_readsGate_60 : decode cX5_readsGate 60 = .ok (.getfield 307, 3) := dk_180 1 51 (dk_at dksX5_readsGate_2 12 rfl rfl)
theorem dX5_readsGate_63 : decode cX5_readsGate 63 = .ok (.iconst 1, 1) := dk_4 (dk_at dksX5_readsGate_2 15 rfl rfl)
theorem dX5_readsGate_64 : decode cX5_readsGate 64 = .ok (.isub, 1) := dk_100 (dk_at dksX5_readsGate_2 16 rfl rfl)
theorem dX5_readsGate_65 : decode cX5_readsGate 65 = .ok (.iconst 2, 1) := dk_5 (dk_at dksX5_readsGate_2 17 rfl rfl)
theorem dX5_readsGate_66 : decode cX5_readsGate 66 = .ok (.invokevirtual 310, 3) := dk_182 1 54 (dk_at dksX5_readsGate_2 18 rfl rfl)
theorem dX5_readsGate_69 : decode cX5_readsGate 69 = .ok (.istore_n 3, 1) := dk_62 (dk_at dksX5_readsGate_2 21 rfl rfl)
theorem dX5_readsGate_70 : decode cX5_readsGate 70 = .ok (.aload_n 0, 1) := dk_42 (dk_at dksX5_readsGate_2 22 rfl rfl)
theorem dX5_readsGate_71 : decode cX5_readsGate 71 = .ok (.iconst 1, 1) := dk_4 (dk_at dksX5_readsGate_2 23 rfl rfl)
theorem dX5_readsGate_72 : decode cX5_readsGate 72 = .ok (.iload_n 3, 1) := dk_29 (dk_at dksX5_readsGate_3 0 rfl rfl)
theorem dX5_readsGate_73 : decode cX5_readsGate 73 = .ok (.invokevirtual 304, 3) := dk_182 1 48 (dk_at dksX5_readsGate_3 1 rfl rfl)
theorem dX5_readsGate_76 : decode cX5_readsGate 76 = .ok (.aload_n 0, 1) := dk_42 (dk_at dksX5_readsGate_3 4 rfl rfl)
theorem dX5_readsGate_77 : decode cX5_readsGate 77 = .ok (.iconst 2, 1) := dk_5 (dk_at dksX5_readsGate_3 5 rfl rfl)
theorem dX5_readsGate_78 : decode cX5_readsGate 78 = .ok (.iconst (-1), 1) := dk_2 (dk_at dksX5_readsGate_3 6 rfl rfl)
theorem dX5_readsGate_79 : decode cX5_readsGate 79 = .ok (.invokevirtual 304, 3) := dk_182 1 48 (dk_at dksX5_readsGate_3 7 rfl rfl)
theorem dX5_readsGate_82 : decode cX5_readsGate 82 = .ok (.aload_n 0, 1) := dk_42 (dk_at dksX5_readsGate_3 10 rfl rfl)
theorem dX5_readsGate_83 : decode cX5_readsGate 83 = .ok (.invokevirtual 284, 3) := dk_182 1 28 (dk_at dksX5_readsGate_3 11 rfl rfl)
theorem dX5_readsGate_86 : decode cX5_readsGate 86 = .ok (.ifCond .eq 84, 3) := dk_153 0 84 (dk_at dksX5_readsGate_3 14 rfl rfl)
theorem dX5_readsGate_89 : decode cX5_readsGate 89 = .ok (.iload_n 2, 1) := dk_28 (dk_at dksX5_readsGate_3 17 rfl rfl)
theorem dX5_readsGate_90 : decode cX5_readsGate 90 = .ok (.bipush 6, 2) := dk_16 6 (dk_at dksX5_readsGate_3 18 rfl rfl)
theorem dX5_readsGate_92 : decode cX5_readsGate 92 = .ok (.if_icmp .lt 78, 3) := dk_161 0 78 (dk_at dksX5_readsGate_3 20 rfl rfl)
theorem dX5_readsGate_95 : decode cX5_readsGate 95 = .ok (.aload_n 0, 1) := dk_42 (dk_at dksX5_readsGate_3 23 rfl rfl)
theorem dX5_readsGate_96 : decode cX5_readsGate 96 = .ok (.aload_n 0, 1) := dk_42 (dk_at dksX5_readsGate_4 0 rfl rfl)
theorem dX5_readsGate_97 : decode cX5_readsGate 97 = .ok (.getfield 245, 3) := dk_180 0 245 (dk_at dksX5_readsGate_4 1 rfl rfl)
theorem dX5_readsGate_100 : decode cX5_readsGate 100 = .ok (.iconst 3, 1) := dk_6 (dk_at dksX5_readsGate_4 4 rfl rfl)
theorem dX5_readsGate_101 : decode cX5_readsGate 101 = .ok (.if_icmp .ne 7, 3) := dk_160 0 7 (dk_at dksX5_readsGate_4 5 rfl rfl)
theorem dX5_readsGate_104 : decode cX5_readsGate 104 = .ok (.iconst 1, 1) := dk_4 (dk_at dksX5_readsGate_4 8 rfl rfl)
theorem dX5_readsGate_105 : decode cX5_readsGate 105 = .ok (.goto 4, 3) := dk_167 0 4 (dk_at dksX5_readsGate_4 9 rfl rfl)
theorem dX5_readsGate_108 : decode cX5_readsGate 108 = .ok (.iconst 0, 1) := dk_3 (dk_at dksX5_readsGate_4 12 rfl rfl)
theorem dX5_readsGate_109 : decode cX5_readsGate 109 = .ok (.iconst 1, 1) := dk_4 (dk_at dksX5_readsGate_4 13 rfl rfl)
theorem dX5_readsGate_110 : decode cX5_readsGate 110 = .ok (.invokevirtual 294, 3) := dk_182 1 38 (dk_at dksX5_readsGate_4 14 rfl rfl)
theorem dX5_readsGate_113 : decode cX5_readsGate 113 = .ok (.aload_n 0, 1) := dk_42 (dk_at dksX5_readsGate_4 17 rfl rfl)
theorem dX5_readsGate_114 : decode cX5_readsGate 114 = .ok (.invokevirtual 284, 3) := dk_182 1 28 (dk_at dksX5_readsGate_4 18 rfl rfl)
theorem dX5_readsGate_117 : decode cX5_readsGate 117 = .ok (.ifCond .eq 40, 3) := dk_153 0 40 (dk_at dksX5_readsGate_4 21 rfl rfl)
theorem dX5_readsGate_120 : decode cX5_readsGate 120 = .ok (.aload_n 0, 1) := dk_42 (dk_at dksX5_readsGate_5 0 rfl rfl)
theorem dX5_readsGate_121 : decode cX5_readsGate 121 = .ok (.aload_n 0, 1) := dk_42 (dk_at dksX5_readsGate_5 1 rfl rfl)
theorem dX5_readsGate_122 : decode cX5_readsGate 122 = .ok (.getfield 268, 3) := dk_180 1 12 (dk_at dksX5_readsGate_5 2 rfl rfl)
theorem dX5_readsGate_125 : decode cX5_readsGate 125 = .ok (.i2l, 1) := dk_133 (dk_at dksX5_readsGate_5 5 rfl rfl)
theorem dX5_readsGate_126 : decode cX5_readsGate 126 = .ok (.lconst 0, 1) := dk_9 (dk_at dksX5_readsGate_5 6 rfl rfl)
theorem dX5_readsGate_127 : decode cX5_readsGate 127 = .ok (.aload_n 0, 1) := dk_42 (dk_at dksX5_readsGate_5 7 rfl rfl)
theorem dX5_readsGate_128 : decode cX5_readsGate 128 = .ok (.getfield 307, 3) := dk_180 1 51 (dk_at dksX5_readsGate_5 8 rfl rfl)
theorem dX5_readsGate_131 : decode cX5_readsGate 131 = .ok (.iconst 1, 1) := dk_4 (dk_at dksX5_readsGate_5 11 rfl rfl)
theorem dX5_readsGate_132 : decode cX5_readsGate 132 = .ok (.isub, 1) := dk_100 (dk_at dksX5_readsGate_5 12 rfl rfl)
theorem dX5_readsGate_133 : decode cX5_readsGate 133 = .ok (.i2l, 1) := dk_133 (dk_at dksX5_readsGate_5 13 rfl rfl)
theorem dX5_readsGate_134 : decode cX5_readsGate 134 = .ok (.invokestatic 135, 3) := dk_184 0 135 (dk_at dksX5_readsGate_5 14 rfl rfl)
theorem dX5_readsGate_137 : decode cX5_readsGate 137 = .ok (.ifCond .eq 15, 3) := dk_153 0 15 (dk_at dksX5_readsGate_5 17 rfl rfl)
theorem dX5_readsGate_140 : decode cX5_readsGate 140 = .ok (.aload_n 0, 1) := dk_42 (dk_at dksX5_readsGate_5 20 rfl rfl)
theorem dX5_readsGate_141 : decode cX5_readsGate 141 = .ok (.getfield 268, 3) := dk_180 1 12 (dk_at dksX5_readsGate_5 21 rfl rfl)
theorem dX5_readsGate_144 : decode cX5_readsGate 144 = .ok (.iload_n 3, 1) := dk_29 (dk_at dksX5_readsGate_6 0 rfl rfl)
theorem dX5_readsGate_145 : decode cX5_readsGate 145 = .ok (.if_icmp .eq 7, 3) := dk_159 0 7 (dk_at dksX5_readsGate_6 1 rfl rfl)
theorem dX5_readsGate_148 : decode cX5_readsGate 148 = .ok (.iconst 1, 1) := dk_4 (dk_at dksX5_readsGate_6 4 rfl rfl)
theorem dX5_readsGate_149 : decode cX5_readsGate 149 = .ok (.goto 4, 3) := dk_167 0 4 (dk_at dksX5_readsGate_6 5 rfl rfl)
theorem dX5_readsGate_152 : decode cX5_readsGate 152 = .ok (.iconst 0, 1) := dk_3 (dk_at dksX5_readsGate_6 8 rfl rfl)
theorem dX5_readsGate_153 : decode cX5_readsGate 153 = .ok (.iconst 2, 1) := dk_5 (dk_at dksX5_readsGate_6 9 rfl rfl)
theorem dX5_readsGate_154 : decode cX5_readsGate 154 = .ok (.invokevirtual 294, 3) := dk_182 1 38 (dk_at dksX5_readsGate_6 10 rfl rfl)
theorem dX5_readsGate_157 : decode cX5_readsGate 157 = .ok (.aload_n 0, 1) := dk_42 (dk_at dksX5_readsGate_6 13 rfl rfl)
theorem dX5_readsGate_158 : decode cX5_readsGate 158 = .ok (.iconst 2, 1) := dk_5 (dk_at dksX5_readsGate_6 14 rfl rfl)
theorem dX5_readsGate_159 : decode cX5_readsGate 159 = .ok (.aload_n 0, 1) := dk_42 (dk_at dksX5_readsGate_6 15 rfl rfl)
theorem dX5_readsGate_160 : decode cX5_readsGate 160 = .ok (.getfield 268, 3) := dk_180 1 12 (dk_at dksX5_readsGate_6 16 rfl rfl)
theorem dX5_readsGate_163 : decode cX5_readsGate 163 = .ok (.invokevirtual 304, 3) := dk_182 1 48 (dk_at dksX5_readsGate_6 19 rfl rfl)
theorem dX5_readsGate_166 : decode cX5_readsGate 166 = .ok (.aload_n 0, 1) := dk_42 (dk_at dksX5_readsGate_6 22 rfl rfl)
theorem dX5_readsGate_167 : decode cX5_readsGate 167 = .ok (.invokevirtual 298, 3) := dk_182 1 42 (dk_at dksX5_readsGate_7 0 rfl rfl)
theorem dX5_readsGate_170 : decode cX5_readsGate 170 = .ok (.aload_n 0, 1) := dk_42 (dk_at dksX5_readsGate_7 3 rfl rfl)
theorem dX5_readsGate_171 : decode cX5_readsGate 171 = .ok (.iconst 3, 1) := dk_6 (dk_at dksX5_readsGate_7 4 rfl rfl)
theorem dX5_readsGate_172 : decode cX5_readsGate 172 = .ok (.iload_n 1, 1) := dk_27 (dk_at dksX5_readsGate_7 5 rfl rfl)
theorem dX5_readsGate_173 : decode cX5_readsGate 173 = .ok (.invokevirtual 304, 3) := dk_182 1 48 (dk_at dksX5_readsGate_7 6 rfl rfl)
theorem dX5_readsGate_176 : decode cX5_readsGate 176 = .ok (.iconst 4, 1) := dk_7 (dk_at dksX5_readsGate_7 9 rfl rfl)
theorem dX5_readsGate_177 : decode cX5_readsGate 177 = .ok (.istore 4, 2) := dk_54 4 (dk_at dksX5_readsGate_7 10 rfl rfl)
theorem dX5_readsGate_179 : decode cX5_readsGate 179 = .ok (.iload 4, 2) := dk_21 4 (dk_at dksX5_readsGate_7 12 rfl rfl)
theorem dX5_readsGate_181 : decode cX5_readsGate 181 = .ok (.bipush 8, 2) := dk_16 8 (dk_at dksX5_readsGate_7 14 rfl rfl)
theorem dX5_readsGate_183 : decode cX5_readsGate 183 = .ok (.if_icmp .ge 16, 3) := dk_162 0 16 (dk_at dksX5_readsGate_7 16 rfl rfl)
theorem dX5_readsGate_186 : decode cX5_readsGate 186 = .ok (.aload_n 0, 1) := dk_42 (dk_at dksX5_readsGate_7 19 rfl rfl)
theorem dX5_readsGate_187 : decode cX5_readsGate 187 = .ok (.iload 4, 2) := dk_21 4 (dk_at dksX5_readsGate_7 20 rfl rfl)
theorem dX5_readsGate_189 : decode cX5_readsGate 189 = .ok (.iconst 0, 1) := dk_3 (dk_at dksX5_readsGate_7 22 rfl rfl)
theorem dX5_readsGate_190 : decode cX5_readsGate 190 = .ok (.invokevirtual 304, 3) := dk_182 1 48 (dk_at dksX5_readsGate_8 0 rfl rfl)
theorem dX5_readsGate_193 : decode cX5_readsGate 193 = .ok (.iinc 4 1, 3) := dk_132 4 1 (dk_at dksX5_readsGate_8 3 rfl rfl)
theorem dX5_readsGate_196 : decode cX5_readsGate 196 = .ok (.goto (-17), 3) := dk_167 255 239 (dk_at dksX5_readsGate_8 6 rfl rfl)
theorem dX5_readsGate_199 : decode cX5_readsGate 199 = .ok (.return_, 1) := dk_177 (dk_at dksX5_readsGate_8 9 rfl rfl)
abbrev cX5_takesProgram : ByteArray := prog_16_method_71_code
def yX5_takesProgram : MethodName := ⟨RX5, "takesProgram", "()V"⟩
def dkwX5_takesProgram_7 : List UInt8 := [42, 180, 0, 22, 28, 46, 16, 9, 160, 0, 7, 27, 4, 96, 60, 132, 2, 1, 167, 255, 87, 177]
abbrev dktX5_takesProgram_7 : List UInt8 := dkwX5_takesProgram_7 ++ []
def dkwX5_takesProgram_6 : List UInt8 := [180, 0, 43, 28, 42, 180, 0, 57, 16, 8, 28, 104, 16, 7, 96, 46, 79, 42, 180, 0, 46, 28, 27, 79]
abbrev dktX5_takesProgram_6 : List UInt8 := dkwX5_takesProgram_6 ++ dktX5_takesProgram_7
def dkwX5_takesProgram_5 : List UInt8 := [8, 96, 46, 79, 42, 180, 0, 40, 28, 42, 180, 0, 57, 16, 8, 28, 104, 16, 6, 96, 46, 79, 42]
abbrev dktX5_takesProgram_5 : List UInt8 := dkwX5_takesProgram_5 ++ dktX5_takesProgram_6
def dkwX5_takesProgram_4 : List UInt8 := [180, 0, 57, 16, 8, 28, 104, 7, 96, 46, 79, 42, 180, 0, 37, 28, 42, 180, 0, 57, 16, 8, 28, 104]
abbrev dktX5_takesProgram_4 : List UInt8 := dkwX5_takesProgram_4 ++ dktX5_takesProgram_5
def dkwX5_takesProgram_3 : List UInt8 := [180, 0, 31, 28, 42, 180, 0, 57, 16, 8, 28, 104, 6, 96, 46, 79, 42, 180, 0, 34, 28, 42]
abbrev dktX5_takesProgram_3 : List UInt8 := dkwX5_takesProgram_3 ++ dktX5_takesProgram_4
def dkwX5_takesProgram_2 : List UInt8 := [4, 96, 46, 79, 42, 180, 0, 28, 28, 42, 180, 0, 57, 16, 8, 28, 104, 5, 96, 46, 79, 42]
abbrev dktX5_takesProgram_2 : List UInt8 := dkwX5_takesProgram_2 ++ dktX5_takesProgram_3
def dkwX5_takesProgram_1 : List UInt8 := [28, 42, 180, 0, 57, 16, 8, 28, 104, 46, 79, 42, 180, 0, 25, 28, 42, 180, 0, 57, 16, 8, 28, 104]
abbrev dktX5_takesProgram_1 : List UInt8 := dkwX5_takesProgram_1 ++ dktX5_takesProgram_2
def dkwX5_takesProgram_0 : List UInt8 := [42, 42, 180, 1, 45, 181, 0, 213, 3, 60, 3, 61, 28, 42, 180, 1, 45, 162, 0, 167, 42, 180, 0, 22]
abbrev dktX5_takesProgram_0 : List UInt8 := dkwX5_takesProgram_0 ++ dktX5_takesProgram_1
theorem dksX5_takesProgram_0 : cX5_takesProgram.data.toList.drop 0 = dktX5_takesProgram_0 := by decide +kernel
theorem dksX5_takesProgram_1 : cX5_takesProgram.data.toList.drop 24 = dktX5_takesProgram_1 := dk_seg dksX5_takesProgram_0 24 rfl rfl
theorem dksX5_takesProgram_2 : cX5_takesProgram.data.toList.drop 48 = dktX5_takesProgram_2 := dk_seg dksX5_takesProgram_1 24 rfl rfl
theorem dksX5_takesProgram_3 : cX5_takesProgram.data.toList.drop 70 = dktX5_takesProgram_3 := dk_seg dksX5_takesProgram_2 22 rfl rfl
theorem dksX5_takesProgram_4 : cX5_takesProgram.data.toList.drop 92 = dktX5_takesProgram_4 := dk_seg dksX5_takesProgram_3 22 rfl rfl
theorem dksX5_takesProgram_5 : cX5_takesProgram.data.toList.drop 116 = dktX5_takesProgram_5 := dk_seg dksX5_takesProgram_4 24 rfl rfl
theorem dksX5_takesProgram_6 : cX5_takesProgram.data.toList.drop 139 = dktX5_takesProgram_6 := dk_seg dksX5_takesProgram_5 23 rfl rfl
theorem dksX5_takesProgram_7 : cX5_takesProgram.data.toList.drop 163 = dktX5_takesProgram_7 := dk_seg dksX5_takesProgram_6 24 rfl rfl
theorem dX5_takesProgram_0 : decode cX5_takesProgram 0 = .ok (.aload_n 0, 1) := dk_42 (dk_at dksX5_takesProgram_0 0 rfl rfl)
theorem dX5_takesProgram_1 : decode cX5_takesProgram 1 = .ok (.aload_n 0, 1) := dk_42 (dk_at dksX5_takesProgram_0 1 rfl rfl)
theorem dX5_takesProgram_2 : decode cX5_takesProgram 2 = .ok (.getfield 301, 3) := dk_180 1 45 (dk_at dksX5_takesProgram_0 2 rfl rfl)
theorem dX5_takesProgram_5 : decode cX5_takesProgram 5 = .ok (.putfield 213, 3) := dk_181 0 213 (dk_at dksX5_takesProgram_0 5 rfl rfl)
theorem dX5_takesProgram_8 : decode cX5_takesProgram 8 = .ok (.iconst 0, 1) := dk_3 (dk_at dksX5_takesProgram_0 8 rfl rfl)
theorem dX5_takesProgram_9 : decode cX5_takesProgram 9 = .ok (.istore_n 1, 1) := dk_60 (dk_at dksX5_takesProgram_0 9 rfl rfl)
theorem dX5_takesProgram_10 : decode cX5_takesProgram 10 = .ok (.iconst 0, 1) := dk_3 (dk_at dksX5_takesProgram_0 10 rfl rfl)
theorem dX5_takesProgram_11 : decode cX5_takesProgram 11 = .ok (.istore_n 2, 1) := dk_61 (dk_at dksX5_takesProgram_0 11 rfl rfl)
theorem dX5_takesProgram_12 : decode cX5_takesProgram 12 = .ok (.iload_n 2, 1) := dk_28 (dk_at dksX5_takesProgram_0 12 rfl rfl)
theorem dX5_takesProgram_13 : decode cX5_takesProgram 13 = .ok (.aload_n 0, 1) := dk_42 (dk_at dksX5_takesProgram_0 13 rfl rfl)
theorem dX5_takesProgram_14 : decode cX5_takesProgram 14 = .ok (.getfield 301, 3) := dk_180 1 45 (dk_at dksX5_takesProgram_0 14 rfl rfl)
theorem dX5_takesProgram_17 : decode cX5_takesProgram 17 = .ok (.if_icmp .ge 167, 3) := dk_162 0 167 (dk_at dksX5_takesProgram_0 17 rfl rfl)
theorem dX5_takesProgram_20 : decode cX5_takesProgram 20 = .ok (.aload_n 0, 1) := dk_42 (dk_at dksX5_takesProgram_0 20 rfl rfl)
theorem dX5_takesProgram_21 : decode cX5_takesProgram 21 = .ok (.getfield 22, 3) := dk_180 0 22 (dk_at dksX5_takesProgram_0 21 rfl rfl)
theorem dX5_takesProgram_24 : decode cX5_takesProgram 24 = .ok (.iload_n 2, 1) := dk_28 (dk_at dksX5_takesProgram_1 0 rfl rfl)
theorem dX5_takesProgram_25 : decode cX5_takesProgram 25 = .ok (.aload_n 0, 1) := dk_42 (dk_at dksX5_takesProgram_1 1 rfl rfl)
theorem dX5_takesProgram_26 : decode cX5_takesProgram 26 = .ok (.getfield 57, 3) := dk_180 0 57 (dk_at dksX5_takesProgram_1 2 rfl rfl)
theorem dX5_takesProgram_29 : decode cX5_takesProgram 29 = .ok (.bipush 8, 2) := dk_16 8 (dk_at dksX5_takesProgram_1 5 rfl rfl)
theorem dX5_takesProgram_31 : decode cX5_takesProgram 31 = .ok (.iload_n 2, 1) := dk_28 (dk_at dksX5_takesProgram_1 7 rfl rfl)
theorem dX5_takesProgram_32 : decode cX5_takesProgram 32 = .ok (.imul, 1) := dk_104 (dk_at dksX5_takesProgram_1 8 rfl rfl)
theorem dX5_takesProgram_33 : decode cX5_takesProgram 33 = .ok (.iaload, 1) := dk_46 (dk_at dksX5_takesProgram_1 9 rfl rfl)
theorem dX5_takesProgram_34 : decode cX5_takesProgram 34 = .ok (.iastore, 1) := dk_79 (dk_at dksX5_takesProgram_1 10 rfl rfl)
theorem dX5_takesProgram_35 : decode cX5_takesProgram 35 = .ok (.aload_n 0, 1) := dk_42 (dk_at dksX5_takesProgram_1 11 rfl rfl)
theorem dX5_takesProgram_36 : decode cX5_takesProgram 36 = .ok (.getfield 25, 3) := dk_180 0 25 (dk_at dksX5_takesProgram_1 12 rfl rfl)
theorem dX5_takesProgram_39 : decode cX5_takesProgram 39 = .ok (.iload_n 2, 1) := dk_28 (dk_at dksX5_takesProgram_1 15 rfl rfl)
theorem dX5_takesProgram_40 : decode cX5_takesProgram 40 = .ok (.aload_n 0, 1) := dk_42 (dk_at dksX5_takesProgram_1 16 rfl rfl)
theorem dX5_takesProgram_41 : decode cX5_takesProgram 41 = .ok (.getfield 57, 3) := dk_180 0 57 (dk_at dksX5_takesProgram_1 17 rfl rfl)
theorem dX5_takesProgram_44 : decode cX5_takesProgram 44 = .ok (.bipush 8, 2) := dk_16 8 (dk_at dksX5_takesProgram_1 20 rfl rfl)
theorem dX5_takesProgram_46 : decode cX5_takesProgram 46 = .ok (.iload_n 2, 1) := dk_28 (dk_at dksX5_takesProgram_1 22 rfl rfl)
theorem dX5_takesProgram_47 : decode cX5_takesProgram 47 = .ok (.imul, 1) := dk_104 (dk_at dksX5_takesProgram_1 23 rfl rfl)
theorem dX5_takesProgram_48 : decode cX5_takesProgram 48 = .ok (.iconst 1, 1) := dk_4 (dk_at dksX5_takesProgram_2 0 rfl rfl)
theorem dX5_takesProgram_49 : decode cX5_takesProgram 49 = .ok (.iadd, 1) := dk_96 (dk_at dksX5_takesProgram_2 1 rfl rfl)
theorem dX5_takesProgram_50 : decode cX5_takesProgram 50 = .ok (.iaload, 1) := dk_46 (dk_at dksX5_takesProgram_2 2 rfl rfl)
theorem dX5_takesProgram_51 : decode cX5_takesProgram 51 = .ok (.iastore, 1) := dk_79 (dk_at dksX5_takesProgram_2 3 rfl rfl)
theorem dX5_takesProgram_52 : decode cX5_takesProgram 52 = .ok (.aload_n 0, 1) := dk_42 (dk_at dksX5_takesProgram_2 4 rfl rfl)
theorem dX5_takesProgram_53 : decode cX5_takesProgram 53 = .ok (.getfield 28, 3) := dk_180 0 28 (dk_at dksX5_takesProgram_2 5 rfl rfl)
theorem dX5_takesProgram_56 : decode cX5_takesProgram 56 = .ok (.iload_n 2, 1) := dk_28 (dk_at dksX5_takesProgram_2 8 rfl rfl)
theorem dX5_takesProgram_57 : decode cX5_takesProgram 57 = .ok (.aload_n 0, 1) := dk_42 (dk_at dksX5_takesProgram_2 9 rfl rfl)
theorem dX5_takesProgram_58 : decode cX5_takesProgram 58 = .ok (.getfield 57, 3) := dk_180 0 57 (dk_at dksX5_takesProgram_2 10 rfl rfl)
theorem dX5_takesProgram_61 : decode cX5_takesProgram 61 = .ok (.bipush 8, 2) := dk_16 8 (dk_at dksX5_takesProgram_2 13 rfl rfl)
theorem dX5_takesProgram_63 : decode cX5_takesProgram 63 = .ok (.iload_n 2, 1) := dk_28 (dk_at dksX5_takesProgram_2 15 rfl rfl)
theorem dX5_takesProgram_64 : decode cX5_takesProgram 64 = .ok (.imul, 1) := dk_104 (dk_at dksX5_takesProgram_2 16 rfl rfl)
theorem dX5_takesProgram_65 : decode cX5_takesProgram 65 = .ok (.iconst 2, 1) := dk_5 (dk_at dksX5_takesProgram_2 17 rfl rfl)
theorem dX5_takesProgram_66 : decode cX5_takesProgram 66 = .ok (.iadd, 1) := dk_96 (dk_at dksX5_takesProgram_2 18 rfl rfl)
theorem dX5_takesProgram_67 : decode cX5_takesProgram 67 = .ok (.iaload, 1) := dk_46 (dk_at dksX5_takesProgram_2 19 rfl rfl)
theorem dX5_takesProgram_68 : decode cX5_takesProgram 68 = .ok (.iastore, 1) := dk_79 (dk_at dksX5_takesProgram_2 20 rfl rfl)
theorem dX5_takesProgram_69 : decode cX5_takesProgram 69 = .ok (.aload_n 0, 1) := dk_42 (dk_at dksX5_takesProgram_2 21 rfl rfl)
theorem dX5_takesProgram_70 : decode cX5_takesProgram 70 = .ok (.getfield 31, 3) := dk_180 0 31 (dk_at dksX5_takesProgram_3 0 rfl rfl)
theorem dX5_takesProgram_73 : decode cX5_takesProgram 73 = .ok (.iload_n 2, 1) := dk_28 (dk_at dksX5_takesProgram_3 3 rfl rfl)
theorem dX5_takesProgram_74 : decode cX5_takesProgram 74 = .ok (.aload_n 0, 1) := dk_42 (dk_at dksX5_takesProgram_3 4 rfl rfl)
theorem dX5_takesProgram_75 : decode cX5_takesProgram 75 = .ok (.getfield 57, 3) := dk_180 0 57 (dk_at dksX5_takesProgram_3 5 rfl rfl)
theorem dX5_takesProgram_78 : decode cX5_takesProgram 78 = .ok (.bipush 8, 2) := dk_16 8 (dk_at dksX5_takesProgram_3 8 rfl rfl)
theorem dX5_takesProgram_80 : decode cX5_takesProgram 80 = .ok (.iload_n 2, 1) := dk_28 (dk_at dksX5_takesProgram_3 10 rfl rfl)
theorem dX5_takesProgram_81 : decode cX5_takesProgram 81 = .ok (.imul, 1) := dk_104 (dk_at dksX5_takesProgram_3 11 rfl rfl)
theorem dX5_takesProgram_82 : decode cX5_takesProgram 82 = .ok (.iconst 3, 1) := dk_6 (dk_at dksX5_takesProgram_3 12 rfl rfl)
theorem dX5_takesProgram_83 : decode cX5_takesProgram 83 = .ok (.iadd, 1) := dk_96 (dk_at dksX5_takesProgram_3 13 rfl rfl)
theorem dX5_takesProgram_84 : decode cX5_takesProgram 84 = .ok (.iaload, 1) := dk_46 (dk_at dksX5_takesProgram_3 14 rfl rfl)
theorem dX5_takesProgram_85 : decode cX5_takesProgram 85 = .ok (.iastore, 1) := dk_79 (dk_at dksX5_takesProgram_3 15 rfl rfl)
theorem dX5_takesProgram_86 : decode cX5_takesProgram 86 = .ok (.aload_n 0, 1) := dk_42 (dk_at dksX5_takesProgram_3 16 rfl rfl)
theorem dX5_takesProgram_87 : decode cX5_takesProgram 87 = .ok (.getfield 34, 3) := dk_180 0 34 (dk_at dksX5_takesProgram_3 17 rfl rfl)
theorem dX5_takesProgram_90 : decode cX5_takesProgram 90 = .ok (.iload_n 2, 1) := dk_28 (dk_at dksX5_takesProgram_3 20 rfl rfl)
theorem dX5_takesProgram_91 : decode cX5_takesProgram 91 = .ok (.aload_n 0, 1) := dk_42 (dk_at dksX5_takesProgram_3 21 rfl rfl)
theorem dX5_takesProgram_92 : decode cX5_takesProgram 92 = .ok (.getfield 57, 3) := dk_180 0 57 (dk_at dksX5_takesProgram_4 0 rfl rfl)
theorem dX5_takesProgram_95 : decode cX5_takesProgram 95 = .ok (.bipush 8, 2) := dk_16 8 (dk_at dksX5_takesProgram_4 3 rfl rfl)
theorem dX5_takesProgram_97 : decode cX5_takesProgram 97 = .ok (.iload_n 2, 1) := dk_28 (dk_at dksX5_takesProgram_4 5 rfl rfl)
theorem dX5_takesProgram_98 : decode cX5_takesProgram 98 = .ok (.imul, 1) := dk_104 (dk_at dksX5_takesProgram_4 6 rfl rfl)
theorem dX5_takesProgram_99 : decode cX5_takesProgram 99 = .ok (.iconst 4, 1) := dk_7 (dk_at dksX5_takesProgram_4 7 rfl rfl)
theorem dX5_takesProgram_100 : decode cX5_takesProgram 100 = .ok (.iadd, 1) := dk_96 (dk_at dksX5_takesProgram_4 8 rfl rfl)
theorem dX5_takesProgram_101 : decode cX5_takesProgram 101 = .ok (.iaload, 1) := dk_46 (dk_at dksX5_takesProgram_4 9 rfl rfl)
theorem dX5_takesProgram_102 : decode cX5_takesProgram 102 = .ok (.iastore, 1) := dk_79 (dk_at dksX5_takesProgram_4 10 rfl rfl)
theorem dX5_takesProgram_103 : decode cX5_takesProgram 103 = .ok (.aload_n 0, 1) := dk_42 (dk_at dksX5_takesProgram_4 11 rfl rfl)
theorem dX5_takesProgram_104 : decode cX5_takesProgram 104 = .ok (.getfield 37, 3) := dk_180 0 37 (dk_at dksX5_takesProgram_4 12 rfl rfl)
theorem dX5_takesProgram_107 : decode cX5_takesProgram 107 = .ok (.iload_n 2, 1) := dk_28 (dk_at dksX5_takesProgram_4 15 rfl rfl)
theorem dX5_takesProgram_108 : decode cX5_takesProgram 108 = .ok (.aload_n 0, 1) := dk_42 (dk_at dksX5_takesProgram_4 16 rfl rfl)
theorem dX5_takesProgram_109 : decode cX5_takesProgram 109 = .ok (.getfield 57, 3) := dk_180 0 57 (dk_at dksX5_takesProgram_4 17 rfl rfl)
theorem dX5_takesProgram_112 : decode cX5_takesProgram 112 = .ok (.bipush 8, 2) := dk_16 8 (dk_at dksX5_takesProgram_4 20 rfl rfl)
theorem dX5_takesProgram_114 : decode cX5_takesProgram 114 = .ok (.iload_n 2, 1) := dk_28 (dk_at dksX5_takesProgram_4 22 rfl rfl)
theorem dX5_takesProgram_115 : decode cX5_takesProgram 115 = .ok (.imul, 1) := dk_104 (dk_at dksX5_takesProgram_4 23 rfl rfl)
theorem dX5_takesProgram_116 : decode cX5_takesProgram 116 = .ok (.iconst 5, 1) := dk_8 (dk_at dksX5_takesProgram_5 0 rfl rfl)
theorem dX5_takesProgram_117 : decode cX5_takesProgram 117 = .ok (.iadd, 1) := dk_96 (dk_at dksX5_takesProgram_5 1 rfl rfl)
theorem dX5_takesProgram_118 : decode cX5_takesProgram 118 = .ok (.iaload, 1) := dk_46 (dk_at dksX5_takesProgram_5 2 rfl rfl)
theorem dX5_takesProgram_119 : decode cX5_takesProgram 119 = .ok (.iastore, 1) := dk_79 (dk_at dksX5_takesProgram_5 3 rfl rfl)
theorem dX5_takesProgram_120 : decode cX5_takesProgram 120 = .ok (.aload_n 0, 1) := dk_42 (dk_at dksX5_takesProgram_5 4 rfl rfl)
theorem dX5_takesProgram_121 : decode cX5_takesProgram 121 = .ok (.getfield 40, 3) := dk_180 0 40 (dk_at dksX5_takesProgram_5 5 rfl rfl)
theorem dX5_takesProgram_124 : decode cX5_takesProgram 124 = .ok (.iload_n 2, 1) := dk_28 (dk_at dksX5_takesProgram_5 8 rfl rfl)
theorem dX5_takesProgram_125 : decode cX5_takesProgram 125 = .ok (.aload_n 0, 1) := dk_42 (dk_at dksX5_takesProgram_5 9 rfl rfl)
theorem dX5_takesProgram_126 : decode cX5_takesProgram 126 = .ok (.getfield 57, 3) := dk_180 0 57 (dk_at dksX5_takesProgram_5 10 rfl rfl)
theorem dX5_takesProgram_129 : decode cX5_takesProgram 129 = .ok (.bipush 8, 2) := dk_16 8 (dk_at dksX5_takesProgram_5 13 rfl rfl)
theorem dX5_takesProgram_131 : decode cX5_takesProgram 131 = .ok (.iload_n 2, 1) := dk_28 (dk_at dksX5_takesProgram_5 15 rfl rfl)
theorem dX5_takesProgram_132 : decode cX5_takesProgram 132 = .ok (.imul, 1) := dk_104 (dk_at dksX5_takesProgram_5 16 rfl rfl)
theorem dX5_takesProgram_133 : decode cX5_takesProgram 133 = .ok (.bipush 6, 2) := dk_16 6 (dk_at dksX5_takesProgram_5 17 rfl rfl)
theorem dX5_takesProgram_135 : decode cX5_takesProgram 135 = .ok (.iadd, 1) := dk_96 (dk_at dksX5_takesProgram_5 19 rfl rfl)
theorem dX5_takesProgram_136 : decode cX5_takesProgram 136 = .ok (.iaload, 1) := dk_46 (dk_at dksX5_takesProgram_5 20 rfl rfl)
theorem dX5_takesProgram_137 : decode cX5_takesProgram 137 = .ok (.iastore, 1) := dk_79 (dk_at dksX5_takesProgram_5 21 rfl rfl)
theorem dX5_takesProgram_138 : decode cX5_takesProgram 138 = .ok (.aload_n 0, 1) := dk_42 (dk_at dksX5_takesProgram_5 22 rfl rfl)
theorem dX5_takesProgram_139 : decode cX5_takesProgram 139 = .ok (.getfield 43, 3) := dk_180 0 43 (dk_at dksX5_takesProgram_6 0 rfl rfl)
theorem dX5_takesProgram_142 : decode cX5_takesProgram 142 = .ok (.iload_n 2, 1) := dk_28 (dk_at dksX5_takesProgram_6 3 rfl rfl)
theorem dX5_takesProgram_143 : decode cX5_takesProgram 143 = .ok (.aload_n 0, 1) := dk_42 (dk_at dksX5_takesProgram_6 4 rfl rfl)
theorem dX5_takesProgram_144 : decode cX5_takesProgram 144 = .ok (.getfield 57, 3) := dk_180 0 57 (dk_at dksX5_takesProgram_6 5 rfl rfl)
theorem dX5_takesProgram_147 : decode cX5_takesProgram 147 = .ok (.bipush 8, 2) := dk_16 8 (dk_at dksX5_takesProgram_6 8 rfl rfl)
theorem dX5_takesProgram_149 : decode cX5_takesProgram 149 = .ok (.iload_n 2, 1) := dk_28 (dk_at dksX5_takesProgram_6 10 rfl rfl)
theorem dX5_takesProgram_150 : decode cX5_takesProgram 150 = .ok (.imul, 1) := dk_104 (dk_at dksX5_takesProgram_6 11 rfl rfl)
theorem dX5_takesProgram_151 : decode cX5_takesProgram 151 = .ok (.bipush 7, 2) := dk_16 7 (dk_at dksX5_takesProgram_6 12 rfl rfl)
theorem dX5_takesProgram_153 : decode cX5_takesProgram 153 = .ok (.iadd, 1) := dk_96 (dk_at dksX5_takesProgram_6 14 rfl rfl)
theorem dX5_takesProgram_154 : decode cX5_takesProgram 154 = .ok (.iaload, 1) := dk_46 (dk_at dksX5_takesProgram_6 15 rfl rfl)
theorem dX5_takesProgram_155 : decode cX5_takesProgram 155 = .ok (.iastore, 1) := dk_79 (dk_at dksX5_takesProgram_6 16 rfl rfl)
theorem dX5_takesProgram_156 : decode cX5_takesProgram 156 = .ok (.aload_n 0, 1) := dk_42 (dk_at dksX5_takesProgram_6 17 rfl rfl)
theorem dX5_takesProgram_157 : decode cX5_takesProgram 157 = .ok (.getfield 46, 3) := dk_180 0 46 (dk_at dksX5_takesProgram_6 18 rfl rfl)
theorem dX5_takesProgram_160 : decode cX5_takesProgram 160 = .ok (.iload_n 2, 1) := dk_28 (dk_at dksX5_takesProgram_6 21 rfl rfl)
theorem dX5_takesProgram_161 : decode cX5_takesProgram 161 = .ok (.iload_n 1, 1) := dk_27 (dk_at dksX5_takesProgram_6 22 rfl rfl)
theorem dX5_takesProgram_162 : decode cX5_takesProgram 162 = .ok (.iastore, 1) := dk_79 (dk_at dksX5_takesProgram_6 23 rfl rfl)
theorem dX5_takesProgram_163 : decode cX5_takesProgram 163 = .ok (.aload_n 0, 1) := dk_42 (dk_at dksX5_takesProgram_7 0 rfl rfl)
theorem dX5_takesProgram_164 : decode cX5_takesProgram 164 = .ok (.getfield 22, 3) := dk_180 0 22 (dk_at dksX5_takesProgram_7 1 rfl rfl)
theorem dX5_takesProgram_167 : decode cX5_takesProgram 167 = .ok (.iload_n 2, 1) := dk_28 (dk_at dksX5_takesProgram_7 4 rfl rfl)
theorem dX5_takesProgram_168 : decode cX5_takesProgram 168 = .ok (.iaload, 1) := dk_46 (dk_at dksX5_takesProgram_7 5 rfl rfl)
theorem dX5_takesProgram_169 : decode cX5_takesProgram 169 = .ok (.bipush 9, 2) := dk_16 9 (dk_at dksX5_takesProgram_7 6 rfl rfl)
theorem dX5_takesProgram_171 : decode cX5_takesProgram 171 = .ok (.if_icmp .ne 7, 3) := dk_160 0 7 (dk_at dksX5_takesProgram_7 8 rfl rfl)
theorem dX5_takesProgram_174 : decode cX5_takesProgram 174 = .ok (.iload_n 1, 1) := dk_27 (dk_at dksX5_takesProgram_7 11 rfl rfl)
theorem dX5_takesProgram_175 : decode cX5_takesProgram 175 = .ok (.iconst 1, 1) := dk_4 (dk_at dksX5_takesProgram_7 12 rfl rfl)
theorem dX5_takesProgram_176 : decode cX5_takesProgram 176 = .ok (.iadd, 1) := dk_96 (dk_at dksX5_takesProgram_7 13 rfl rfl)
theorem dX5_takesProgram_177 : decode cX5_takesProgram 177 = .ok (.istore_n 1, 1) := dk_60 (dk_at dksX5_takesProgram_7 14 rfl rfl)
theorem dX5_takesProgram_178 : decode cX5_takesProgram 178 = .ok (.iinc 2 1, 3) := dk_132 2 1 (dk_at dksX5_takesProgram_7 15 rfl rfl)
theorem dX5_takesProgram_181 : decode cX5_takesProgram 181 = .ok (.goto (-169), 3) := dk_167 255 87 (dk_at dksX5_takesProgram_7 18 rfl rfl)
theorem dX5_takesProgram_184 : decode cX5_takesProgram 184 = .ok (.return_, 1) := dk_177 (dk_at dksX5_takesProgram_7 21 rfl rfl)
abbrev cX5_errorCode : ByteArray := prog_16_method_72_code
def yX5_errorCode : MethodName := ⟨RX5, "errorCode", "()I"⟩
def dkwX5_errorCode_0 : List UInt8 := [42, 3, 181, 0, 80, 42, 180, 1, 25, 172]
abbrev dktX5_errorCode_0 : List UInt8 := dkwX5_errorCode_0 ++ []
theorem dksX5_errorCode_0 : cX5_errorCode.data.toList.drop 0 = dktX5_errorCode_0 := by decide +kernel
theorem dX5_errorCode_0 : decode cX5_errorCode 0 = .ok (.aload_n 0, 1) := dk_42 (dk_at dksX5_errorCode_0 0 rfl rfl)
theorem dX5_errorCode_1 : decode cX5_errorCode 1 = .ok (.iconst 0, 1) := dk_3 (dk_at dksX5_errorCode_0 1 rfl rfl)
theorem dX5_errorCode_2 : decode cX5_errorCode 2 = .ok (.putfield 80, 3) := dk_181 0 80 (dk_at dksX5_errorCode_0 2 rfl rfl)
theorem dX5_errorCode_5 : decode cX5_errorCode 5 = .ok (.aload_n 0, 1) := dk_42 (dk_at dksX5_errorCode_0 5 rfl rfl)
theorem dX5_errorCode_6 : decode cX5_errorCode 6 = .ok (.getfield 281, 3) := dk_180 1 25 (dk_at dksX5_errorCode_0 6 rfl rfl)
theorem dX5_errorCode_9 : decode cX5_errorCode 9 = .ok (.ireturn, 1) := dk_172 (dk_at dksX5_errorCode_0 9 rfl rfl)
abbrev cX5_errorOffset : ByteArray := prog_16_method_73_code
def yX5_errorOffset : MethodName := ⟨RX5, "errorOffset", "()I"⟩
def dkwX5_errorOffset_0 : List UInt8 := [42, 3, 181, 0, 80, 42, 180, 0, 53, 172]
abbrev dktX5_errorOffset_0 : List UInt8 := dkwX5_errorOffset_0 ++ []
theorem dksX5_errorOffset_0 : cX5_errorOffset.data.toList.drop 0 = dktX5_errorOffset_0 := by decide +kernel
theorem dX5_errorOffset_0 : decode cX5_errorOffset 0 = .ok (.aload_n 0, 1) := dk_42 (dk_at dksX5_errorOffset_0 0 rfl rfl)
theorem dX5_errorOffset_1 : decode cX5_errorOffset 1 = .ok (.iconst 0, 1) := dk_3 (dk_at dksX5_errorOffset_0 1 rfl rfl)
theorem dX5_errorOffset_2 : decode cX5_errorOffset 2 = .ok (.putfield 80, 3) := dk_181 0 80 (dk_at dksX5_errorOffset_0 2 rfl rfl)
theorem dX5_errorOffset_5 : decode cX5_errorOffset 5 = .ok (.aload_n 0, 1) := dk_42 (dk_at dksX5_errorOffset_0 5 rfl rfl)
theorem dX5_errorOffset_6 : decode cX5_errorOffset 6 = .ok (.getfield 53, 3) := dk_180 0 53 (dk_at dksX5_errorOffset_0 6 rfl rfl)
theorem dX5_errorOffset_9 : decode cX5_errorOffset 9 = .ok (.ireturn, 1) := dk_172 (dk_at dksX5_errorOffset_0 9 rfl rfl)
abbrev cX5_makeCanonical : ByteArray := prog_16_method_77_code
def yX5_makeCanonical : MethodName := ⟨RX5, "makeCanonical", "()I"⟩
def dkwX5_makeCanonical_0 : List UInt8 := [42, 3, 181, 0, 80, 42, 182, 0, 151, 42, 182, 1, 101, 42, 182, 0, 160, 42, 182, 0, 163, 172]
abbrev dktX5_makeCanonical_0 : List UInt8 := dkwX5_makeCanonical_0 ++ []
theorem dksX5_makeCanonical_0 : cX5_makeCanonical.data.toList.drop 0 = dktX5_makeCanonical_0 := by decide +kernel
theorem dX5_makeCanonical_0 : decode cX5_makeCanonical 0 = .ok (.aload_n 0, 1) := dk_42 (dk_at dksX5_makeCanonical_0 0 rfl rfl)
theorem dX5_makeCanonical_1 : decode cX5_makeCanonical 1 = .ok (.iconst 0, 1) := dk_3 (dk_at dksX5_makeCanonical_0 1 rfl rfl)
theorem dX5_makeCanonical_2 : decode cX5_makeCanonical 2 = .ok (.putfield 80, 3) := dk_181 0 80 (dk_at dksX5_makeCanonical_0 2 rfl rfl)
theorem dX5_makeCanonical_5 : decode cX5_makeCanonical 5 = .ok (.aload_n 0, 1) := dk_42 (dk_at dksX5_makeCanonical_0 5 rfl rfl)
theorem dX5_makeCanonical_6 : decode cX5_makeCanonical 6 = .ok (.invokevirtual 151, 3) := dk_182 0 151 (dk_at dksX5_makeCanonical_0 6 rfl rfl)
theorem dX5_makeCanonical_9 : decode cX5_makeCanonical 9 = .ok (.aload_n 0, 1) := dk_42 (dk_at dksX5_makeCanonical_0 9 rfl rfl)
theorem dX5_makeCanonical_10 : decode cX5_makeCanonical 10 = .ok (.invokevirtual 357, 3) := dk_182 1 101 (dk_at dksX5_makeCanonical_0 10 rfl rfl)
theorem dX5_makeCanonical_13 : decode cX5_makeCanonical 13 = .ok (.aload_n 0, 1) := dk_42 (dk_at dksX5_makeCanonical_0 13 rfl rfl)
theorem dX5_makeCanonical_14 : decode cX5_makeCanonical 14 = .ok (.invokevirtual 160, 3) := dk_182 0 160 (dk_at dksX5_makeCanonical_0 14 rfl rfl)
theorem dX5_makeCanonical_17 : decode cX5_makeCanonical 17 = .ok (.aload_n 0, 1) := dk_42 (dk_at dksX5_makeCanonical_0 17 rfl rfl)
theorem dX5_makeCanonical_18 : decode cX5_makeCanonical 18 = .ok (.invokevirtual 163, 3) := dk_182 0 163 (dk_at dksX5_makeCanonical_0 18 rfl rfl)
theorem dX5_makeCanonical_21 : decode cX5_makeCanonical 21 = .ok (.ireturn, 1) := dk_172 (dk_at dksX5_makeCanonical_0 21 rfl rfl)
abbrev cX5_straightens : ByteArray := prog_16_method_76_code
def yX5_straightens : MethodName := ⟨RX5, "straightens", "()V"⟩
def dkwX5_straightens_2 : List UInt8 := [182, 1, 98, 60, 132, 2, 1, 167, 255, 234, 177]
abbrev dktX5_straightens_2 : List UInt8 := dkwX5_straightens_2 ++ []
def dkwX5_straightens_1 : List UInt8 := [132, 2, 1, 167, 255, 234, 3, 61, 28, 42, 180, 0, 7, 3, 46, 162, 0, 18, 42, 16, 14, 28, 27]
abbrev dktX5_straightens_1 : List UInt8 := dkwX5_straightens_1 ++ dktX5_straightens_2
def dkwX5_straightens_0 : List UInt8 := [3, 60, 3, 61, 28, 42, 180, 0, 7, 3, 46, 162, 0, 18, 42, 16, 6, 28, 27, 182, 1, 98, 60]
abbrev dktX5_straightens_0 : List UInt8 := dkwX5_straightens_0 ++ dktX5_straightens_1
theorem dksX5_straightens_0 : cX5_straightens.data.toList.drop 0 = dktX5_straightens_0 := by decide +kernel
theorem dksX5_straightens_1 : cX5_straightens.data.toList.drop 23 = dktX5_straightens_1 := dk_seg dksX5_straightens_0 23 rfl rfl
theorem dksX5_straightens_2 : cX5_straightens.data.toList.drop 46 = dktX5_straightens_2 := dk_seg dksX5_straightens_1 23 rfl rfl
theorem dX5_straightens_0 : decode cX5_straightens 0 = .ok (.iconst 0, 1) := dk_3 (dk_at dksX5_straightens_0 0 rfl rfl)
theorem dX5_straightens_1 : decode cX5_straightens 1 = .ok (.istore_n 1, 1) := dk_60 (dk_at dksX5_straightens_0 1 rfl rfl)
theorem dX5_straightens_2 : decode cX5_straightens 2 = .ok (.iconst 0, 1) := dk_3 (dk_at dksX5_straightens_0 2 rfl rfl)
theorem dX5_straightens_3 : decode cX5_straightens 3 = .ok (.istore_n 2, 1) := dk_61 (dk_at dksX5_straightens_0 3 rfl rfl)
theorem dX5_straightens_4 : decode cX5_straightens 4 = .ok (.iload_n 2, 1) := dk_28 (dk_at dksX5_straightens_0 4 rfl rfl)
theorem dX5_straightens_5 : decode cX5_straightens 5 = .ok (.aload_n 0, 1) := dk_42 (dk_at dksX5_straightens_0 5 rfl rfl)
theorem dX5_straightens_6 : decode cX5_straightens 6 = .ok (.getfield 7, 3) := dk_180 0 7 (dk_at dksX5_straightens_0 6 rfl rfl)
theorem dX5_straightens_9 : decode cX5_straightens 9 = .ok (.iconst 0, 1) := dk_3 (dk_at dksX5_straightens_0 9 rfl rfl)
theorem dX5_straightens_10 : decode cX5_straightens 10 = .ok (.iaload, 1) := dk_46 (dk_at dksX5_straightens_0 10 rfl rfl)
theorem dX5_straightens_11 : decode cX5_straightens 11 = .ok (.if_icmp .ge 18, 3) := dk_162 0 18 (dk_at dksX5_straightens_0 11 rfl rfl)
theorem dX5_straightens_14 : decode cX5_straightens 14 = .ok (.aload_n 0, 1) := dk_42 (dk_at dksX5_straightens_0 14 rfl rfl)
theorem dX5_straightens_15 : decode cX5_straightens 15 = .ok (.bipush 6, 2) := dk_16 6 (dk_at dksX5_straightens_0 15 rfl rfl)
theorem dX5_straightens_17 : decode cX5_straightens 17 = .ok (.iload_n 2, 1) := dk_28 (dk_at dksX5_straightens_0 17 rfl rfl)
theorem dX5_straightens_18 : decode cX5_straightens 18 = .ok (.iload_n 1, 1) := dk_27 (dk_at dksX5_straightens_0 18 rfl rfl)
theorem dX5_straightens_19 : decode cX5_straightens 19 = .ok (.invokevirtual 354, 3) := dk_182 1 98 (dk_at dksX5_straightens_0 19 rfl rfl)
theorem dX5_straightens_22 : decode cX5_straightens 22 = .ok (.istore_n 1, 1) := dk_60 (dk_at dksX5_straightens_0 22 rfl rfl)
theorem dX5_straightens_23 : decode cX5_straightens 23 = .ok (.iinc 2 1, 3) := dk_132 2 1 (dk_at dksX5_straightens_1 0 rfl rfl)
theorem dX5_straightens_26 : decode cX5_straightens 26 = .ok (.goto (-22), 3) := dk_167 255 234 (dk_at dksX5_straightens_1 3 rfl rfl)
theorem dX5_straightens_29 : decode cX5_straightens 29 = .ok (.iconst 0, 1) := dk_3 (dk_at dksX5_straightens_1 6 rfl rfl)
theorem dX5_straightens_30 : decode cX5_straightens 30 = .ok (.istore_n 2, 1) := dk_61 (dk_at dksX5_straightens_1 7 rfl rfl)
theorem dX5_straightens_31 : decode cX5_straightens 31 = .ok (.iload_n 2, 1) := dk_28 (dk_at dksX5_straightens_1 8 rfl rfl)
theorem dX5_straightens_32 : decode cX5_straightens 32 = .ok (.aload_n 0, 1) := dk_42 (dk_at dksX5_straightens_1 9 rfl rfl)
theorem dX5_straightens_33 : decode cX5_straightens 33 = .ok (.getfield 7, 3) := dk_180 0 7 (dk_at dksX5_straightens_1 10 rfl rfl)
theorem dX5_straightens_36 : decode cX5_straightens 36 = .ok (.iconst 0, 1) := dk_3 (dk_at dksX5_straightens_1 13 rfl rfl)
theorem dX5_straightens_37 : decode cX5_straightens 37 = .ok (.iaload, 1) := dk_46 (dk_at dksX5_straightens_1 14 rfl rfl)
theorem dX5_straightens_38 : decode cX5_straightens 38 = .ok (.if_icmp .ge 18, 3) := dk_162 0 18 (dk_at dksX5_straightens_1 15 rfl rfl)
theorem dX5_straightens_41 : decode cX5_straightens 41 = .ok (.aload_n 0, 1) := dk_42 (dk_at dksX5_straightens_1 18 rfl rfl)
theorem dX5_straightens_42 : decode cX5_straightens 42 = .ok (.bipush 14, 2) := dk_16 14 (dk_at dksX5_straightens_1 19 rfl rfl)
theorem dX5_straightens_44 : decode cX5_straightens 44 = .ok (.iload_n 2, 1) := dk_28 (dk_at dksX5_straightens_1 21 rfl rfl)
theorem dX5_straightens_45 : decode cX5_straightens 45 = .ok (.iload_n 1, 1) := dk_27 (dk_at dksX5_straightens_1 22 rfl rfl)
theorem dX5_straightens_46 : decode cX5_straightens 46 = .ok (.invokevirtual 354, 3) := dk_182 1 98 (dk_at dksX5_straightens_2 0 rfl rfl)
theorem dX5_straightens_49 : decode cX5_straightens 49 = .ok (.istore_n 1, 1) := dk_60 (dk_at dksX5_straightens_2 3 rfl rfl)
theorem dX5_straightens_50 : decode cX5_straightens 50 = .ok (.iinc 2 1, 3) := dk_132 2 1 (dk_at dksX5_straightens_2 4 rfl rfl)
theorem dX5_straightens_53 : decode cX5_straightens 53 = .ok (.goto (-22), 3) := dk_167 255 234 (dk_at dksX5_straightens_2 7 rfl rfl)
theorem dX5_straightens_56 : decode cX5_straightens 56 = .ok (.return_, 1) := dk_177 (dk_at dksX5_straightens_2 10 rfl rfl)
abbrev cX5_clears : ByteArray := prog_16_method_75_code
def yX5_clears : MethodName := ⟨RX5, "clears", "(III)I"⟩
def dkwX5_clears_4 : List UInt8 := [184, 0, 91, 153, 0, 10, 42, 21, 5, 29, 182, 0, 199, 132, 5, 1, 167, 255, 213, 29, 4, 96, 172]
abbrev dktX5_clears_4 : List UInt8 := dkwX5_clears_4 ++ []
def dkwX5_clears_3 : List UInt8 := [180, 0, 7, 3, 46, 162, 0, 38, 21, 5, 29, 159, 0, 26, 42, 180, 0, 7, 27, 21, 5, 96, 46, 28]
abbrev dktX5_clears_3 : List UInt8 := dkwX5_clears_3 ++ dktX5_clears_4
def dkwX5_clears_2 : List UInt8 := [160, 0, 5, 29, 172, 21, 4, 29, 159, 0, 10, 42, 21, 4, 29, 182, 1, 95, 3, 54, 5, 21, 5, 42]
abbrev dktX5_clears_2 : List UInt8 := dkwX5_clears_2 ++ dktX5_clears_3
def dkwX5_clears_1 : List UInt8 := [184, 0, 91, 154, 0, 12, 21, 4, 4, 96, 54, 4, 167, 255, 223, 21, 4, 42, 180, 0, 7, 3, 46]
abbrev dktX5_clears_1 : List UInt8 := dkwX5_clears_1 ++ dktX5_clears_2
def dkwX5_clears_0 : List UInt8 := [29, 54, 4, 21, 4, 42, 180, 0, 7, 3, 46, 162, 0, 28, 42, 180, 0, 7, 27, 21, 4, 96, 46, 28]
abbrev dktX5_clears_0 : List UInt8 := dkwX5_clears_0 ++ dktX5_clears_1
theorem dksX5_clears_0 : cX5_clears.data.toList.drop 0 = dktX5_clears_0 := by decide +kernel
theorem dksX5_clears_1 : cX5_clears.data.toList.drop 24 = dktX5_clears_1 := dk_seg dksX5_clears_0 24 rfl rfl
theorem dksX5_clears_2 : cX5_clears.data.toList.drop 47 = dktX5_clears_2 := dk_seg dksX5_clears_1 23 rfl rfl
theorem dksX5_clears_3 : cX5_clears.data.toList.drop 71 = dktX5_clears_3 := dk_seg dksX5_clears_2 24 rfl rfl
theorem dksX5_clears_4 : cX5_clears.data.toList.drop 95 = dktX5_clears_4 := dk_seg dksX5_clears_3 24 rfl rfl
theorem dX5_clears_0 : decode cX5_clears 0 = .ok (.iload_n 3, 1) := dk_29 (dk_at dksX5_clears_0 0 rfl rfl)
theorem dX5_clears_1 : decode cX5_clears 1 = .ok (.istore 4, 2) := dk_54 4 (dk_at dksX5_clears_0 1 rfl rfl)
theorem dX5_clears_3 : decode cX5_clears 3 = .ok (.iload 4, 2) := dk_21 4 (dk_at dksX5_clears_0 3 rfl rfl)
theorem dX5_clears_5 : decode cX5_clears 5 = .ok (.aload_n 0, 1) := dk_42 (dk_at dksX5_clears_0 5 rfl rfl)
theorem dX5_clears_6 : decode cX5_clears 6 = .ok (.getfield 7, 3) := dk_180 0 7 (dk_at dksX5_clears_0 6 rfl rfl)
theorem dX5_clears_9 : decode cX5_clears 9 = .ok (.iconst 0, 1) := dk_3 (dk_at dksX5_clears_0 9 rfl rfl)
theorem dX5_clears_10 : decode cX5_clears 10 = .ok (.iaload, 1) := dk_46 (dk_at dksX5_clears_0 10 rfl rfl)
theorem dX5_clears_11 : decode cX5_clears 11 = .ok (.if_icmp .ge 28, 3) := dk_162 0 28 (dk_at dksX5_clears_0 11 rfl rfl)
theorem dX5_clears_14 : decode cX5_clears 14 = .ok (.aload_n 0, 1) := dk_42 (dk_at dksX5_clears_0 14 rfl rfl)
theorem dX5_clears_15 : decode cX5_clears 15 = .ok (.getfield 7, 3) := dk_180 0 7 (dk_at dksX5_clears_0 15 rfl rfl)
theorem dX5_clears_18 : decode cX5_clears 18 = .ok (.iload_n 1, 1) := dk_27 (dk_at dksX5_clears_0 18 rfl rfl)
theorem dX5_clears_19 : decode cX5_clears 19 = .ok (.iload 4, 2) := dk_21 4 (dk_at dksX5_clears_0 19 rfl rfl)
theorem dX5_clears_21 : decode cX5_clears 21 = .ok (.iadd, 1) := dk_96 (dk_at dksX5_clears_0 21 rfl rfl)
theorem dX5_clears_22 : decode cX5_clears 22 = .ok (.iaload, 1) := dk_46 (dk_at dksX5_clears_0 22 rfl rfl)
theorem dX5_clears_23 : decode cX5_clears 23 = .ok (.iload_n 2, 1) := dk_28 (dk_at dksX5_clears_0 23 rfl rfl)
theorem dX5_clears_24 : decode cX5_clears 24 = .ok (.invokestatic 91, 3) := dk_184 0 91 (dk_at dksX5_clears_1 0 rfl rfl)
theorem dX5_clears_27 : decode cX5_clears 27 = .ok (.ifCond .ne 12, 3) := dk_154 0 12 (dk_at dksX5_clears_1 3 rfl rfl)
theorem dX5_clears_30 : decode cX5_clears 30 = .ok (.iload 4, 2) := dk_21 4 (dk_at dksX5_clears_1 6 rfl rfl)
theorem dX5_clears_32 : decode cX5_clears 32 = .ok (.iconst 1, 1) := dk_4 (dk_at dksX5_clears_1 8 rfl rfl)
theorem dX5_clears_33 : decode cX5_clears 33 = .ok (.iadd, 1) := dk_96 (dk_at dksX5_clears_1 9 rfl rfl)
theorem dX5_clears_34 : decode cX5_clears 34 = .ok (.istore 4, 2) := dk_54 4 (dk_at dksX5_clears_1 10 rfl rfl)
theorem dX5_clears_36 : decode cX5_clears 36 = .ok (.goto (-33), 3) := dk_167 255 223 (dk_at dksX5_clears_1 12 rfl rfl)
theorem dX5_clears_39 : decode cX5_clears 39 = .ok (.iload 4, 2) := dk_21 4 (dk_at dksX5_clears_1 15 rfl rfl)
theorem dX5_clears_41 : decode cX5_clears 41 = .ok (.aload_n 0, 1) := dk_42 (dk_at dksX5_clears_1 17 rfl rfl)
theorem dX5_clears_42 : decode cX5_clears 42 = .ok (.getfield 7, 3) := dk_180 0 7 (dk_at dksX5_clears_1 18 rfl rfl)
theorem dX5_clears_45 : decode cX5_clears 45 = .ok (.iconst 0, 1) := dk_3 (dk_at dksX5_clears_1 21 rfl rfl)
theorem dX5_clears_46 : decode cX5_clears 46 = .ok (.iaload, 1) := dk_46 (dk_at dksX5_clears_1 22 rfl rfl)
theorem dX5_clears_47 : decode cX5_clears 47 = .ok (.if_icmp .ne 5, 3) := dk_160 0 5 (dk_at dksX5_clears_2 0 rfl rfl)
theorem dX5_clears_50 : decode cX5_clears 50 = .ok (.iload_n 3, 1) := dk_29 (dk_at dksX5_clears_2 3 rfl rfl)
theorem dX5_clears_51 : decode cX5_clears 51 = .ok (.ireturn, 1) := dk_172 (dk_at dksX5_clears_2 4 rfl rfl)
theorem dX5_clears_52 : decode cX5_clears 52 = .ok (.iload 4, 2) := dk_21 4 (dk_at dksX5_clears_2 5 rfl rfl)
theorem dX5_clears_54 : decode cX5_clears 54 = .ok (.iload_n 3, 1) := dk_29 (dk_at dksX5_clears_2 7 rfl rfl)
theorem dX5_clears_55 : decode cX5_clears 55 = .ok (.if_icmp .eq 10, 3) := dk_159 0 10 (dk_at dksX5_clears_2 8 rfl rfl)
theorem dX5_clears_58 : decode cX5_clears 58 = .ok (.aload_n 0, 1) := dk_42 (dk_at dksX5_clears_2 11 rfl rfl)
theorem dX5_clears_59 : decode cX5_clears 59 = .ok (.iload 4, 2) := dk_21 4 (dk_at dksX5_clears_2 12 rfl rfl)
theorem dX5_clears_61 : decode cX5_clears 61 = .ok (.iload_n 3, 1) := dk_29 (dk_at dksX5_clears_2 14 rfl rfl)
theorem dX5_clears_62 : decode cX5_clears 62 = .ok (.invokevirtual 351, 3) := dk_182 1 95 (dk_at dksX5_clears_2 15 rfl rfl)
theorem dX5_clears_65 : decode cX5_clears 65 = .ok (.iconst 0, 1) := dk_3 (dk_at dksX5_clears_2 18 rfl rfl)
theorem dX5_clears_66 : decode cX5_clears 66 = .ok (.istore 5, 2) := dk_54 5 (dk_at dksX5_clears_2 19 rfl rfl)
theorem dX5_clears_68 : decode cX5_clears 68 = .ok (.iload 5, 2) := dk_21 5 (dk_at dksX5_clears_2 21 rfl rfl)
theorem dX5_clears_70 : decode cX5_clears 70 = .ok (.aload_n 0, 1) := dk_42 (dk_at dksX5_clears_2 23 rfl rfl)
theorem dX5_clears_71 : decode cX5_clears 71 = .ok (.getfield 7, 3) := dk_180 0 7 (dk_at dksX5_clears_3 0 rfl rfl)
theorem dX5_clears_74 : decode cX5_clears 74 = .ok (.iconst 0, 1) := dk_3 (dk_at dksX5_clears_3 3 rfl rfl)
theorem dX5_clears_75 : decode cX5_clears 75 = .ok (.iaload, 1) := dk_46 (dk_at dksX5_clears_3 4 rfl rfl)
theorem dX5_clears_76 : decode cX5_clears 76 = .ok (.if_icmp .ge 38, 3) := dk_162 0 38 (dk_at dksX5_clears_3 5 rfl rfl)
theorem dX5_clears_79 : decode cX5_clears 79 = .ok (.iload 5, 2) := dk_21 5 (dk_at dksX5_clears_3 8 rfl rfl)
theorem dX5_clears_81 : decode cX5_clears 81 = .ok (.iload_n 3, 1) := dk_29 (dk_at dksX5_clears_3 10 rfl rfl)
theorem dX5_clears_82 : decode cX5_clears 82 = .ok (.if_icmp .eq 26, 3) := dk_159 0 26 (dk_at dksX5_clears_3 11 rfl rfl)
theorem dX5_clears_85 : decode cX5_clears 85 = .ok (.aload_n 0, 1) := dk_42 (dk_at dksX5_clears_3 14 rfl rfl)
theorem dX5_clears_86 : decode cX5_clears 86 = .ok (.getfield 7, 3) := dk_180 0 7 (dk_at dksX5_clears_3 15 rfl rfl)
theorem dX5_clears_89 : decode cX5_clears 89 = .ok (.iload_n 1, 1) := dk_27 (dk_at dksX5_clears_3 18 rfl rfl)
theorem dX5_clears_90 : decode cX5_clears 90 = .ok (.iload 5, 2) := dk_21 5 (dk_at dksX5_clears_3 19 rfl rfl)
theorem dX5_clears_92 : decode cX5_clears 92 = .ok (.iadd, 1) := dk_96 (dk_at dksX5_clears_3 21 rfl rfl)
theorem dX5_clears_93 : decode cX5_clears 93 = .ok (.iaload, 1) := dk_46 (dk_at dksX5_clears_3 22 rfl rfl)
theorem dX5_clears_94 : decode cX5_clears 94 = .ok (.iload_n 2, 1) := dk_28 (dk_at dksX5_clears_3 23 rfl rfl)
theorem dX5_clears_95 : decode cX5_clears 95 = .ok (.invokestatic 91, 3) := dk_184 0 91 (dk_at dksX5_clears_4 0 rfl rfl)
theorem dX5_clears_98 : decode cX5_clears 98 = .ok (.ifCond .eq 10, 3) := dk_153 0 10 (dk_at dksX5_clears_4 3 rfl rfl)
theorem dX5_clears_101 : decode cX5_clears 101 = .ok (.aload_n 0, 1) := dk_42 (dk_at dksX5_clears_4 6 rfl rfl)
theorem dX5_clears_102 : decode cX5_clears 102 = .ok (.iload 5, 2) := dk_21 5 (dk_at dksX5_clears_4 7 rfl rfl)
theorem dX5_clears_104 : decode cX5_clears 104 = .ok (.iload_n 3, 1) := dk_29 (dk_at dksX5_clears_4 9 rfl rfl)
theorem dX5_clears_105 : decode cX5_clears 105 = .ok (.invokevirtual 199, 3) := dk_182 0 199 (dk_at dksX5_clears_4 10 rfl rfl)
theorem dX5_clears_108 : decode cX5_clears 108 = .ok (.iinc 5 1, 3) := dk_132 5 1 (dk_at dksX5_clears_4 13 rfl rfl)
theorem dX5_clears_111 : decode cX5_clears 111 = .ok (.goto (-43), 3) := dk_167 255 213 (dk_at dksX5_clears_4 16 rfl rfl)
theorem dX5_clears_114 : decode cX5_clears 114 = .ok (.iload_n 3, 1) := dk_29 (dk_at dksX5_clears_4 19 rfl rfl)
theorem dX5_clears_115 : decode cX5_clears 115 = .ok (.iconst 1, 1) := dk_4 (dk_at dksX5_clears_4 20 rfl rfl)
theorem dX5_clears_116 : decode cX5_clears 116 = .ok (.iadd, 1) := dk_96 (dk_at dksX5_clears_4 21 rfl rfl)
theorem dX5_clears_117 : decode cX5_clears 117 = .ok (.ireturn, 1) := dk_172 (dk_at dksX5_clears_4 22 rfl rfl)
abbrev cX5_exchanges : ByteArray := prog_16_method_74_code
def yX5_exchanges : MethodName := ⟨RX5, "exchanges", "(II)V"⟩
def dkwX5_exchanges_1 : List UInt8 := [182, 0, 116, 42, 27, 182, 0, 123, 42, 29, 21, 4, 21, 5, 182, 0, 112, 42, 28, 182, 0, 123, 177]
abbrev dktX5_exchanges_1 : List UInt8 := dkwX5_exchanges_1 ++ []
def dkwX5_exchanges_0 : List UInt8 := [42, 27, 182, 0, 116, 42, 180, 0, 99, 62, 42, 180, 0, 102, 54, 4, 42, 180, 0, 105, 54, 5, 42, 28]
abbrev dktX5_exchanges_0 : List UInt8 := dkwX5_exchanges_0 ++ dktX5_exchanges_1
theorem dksX5_exchanges_0 : cX5_exchanges.data.toList.drop 0 = dktX5_exchanges_0 := by decide +kernel
theorem dksX5_exchanges_1 : cX5_exchanges.data.toList.drop 24 = dktX5_exchanges_1 := dk_seg dksX5_exchanges_0 24 rfl rfl
theorem dX5_exchanges_0 : decode cX5_exchanges 0 = .ok (.aload_n 0, 1) := dk_42 (dk_at dksX5_exchanges_0 0 rfl rfl)
theorem dX5_exchanges_1 : decode cX5_exchanges 1 = .ok (.iload_n 1, 1) := dk_27 (dk_at dksX5_exchanges_0 1 rfl rfl)
theorem dX5_exchanges_2 : decode cX5_exchanges 2 = .ok (.invokevirtual 116, 3) := dk_182 0 116 (dk_at dksX5_exchanges_0 2 rfl rfl)
theorem dX5_exchanges_5 : decode cX5_exchanges 5 = .ok (.aload_n 0, 1) := dk_42 (dk_at dksX5_exchanges_0 5 rfl rfl)
theorem dX5_exchanges_6 : decode cX5_exchanges 6 = .ok (.getfield 99, 3) := dk_180 0 99 (dk_at dksX5_exchanges_0 6 rfl rfl)
theorem dX5_exchanges_9 : decode cX5_exchanges 9 = .ok (.istore_n 3, 1) := dk_62 (dk_at dksX5_exchanges_0 9 rfl rfl)
theorem dX5_exchanges_10 : decode cX5_exchanges 10 = .ok (.aload_n 0, 1) := dk_42 (dk_at dksX5_exchanges_0 10 rfl rfl)
theorem dX5_exchanges_11 : decode cX5_exchanges 11 = .ok (.getfield 102, 3) := dk_180 0 102 (dk_at dksX5_exchanges_0 11 rfl rfl)
theorem dX5_exchanges_14 : decode cX5_exchanges 14 = .ok (.istore 4, 2) := dk_54 4 (dk_at dksX5_exchanges_0 14 rfl rfl)
theorem dX5_exchanges_16 : decode cX5_exchanges 16 = .ok (.aload_n 0, 1) := dk_42 (dk_at dksX5_exchanges_0 16 rfl rfl)
theorem dX5_exchanges_17 : decode cX5_exchanges 17 = .ok (.getfield 105, 3) := dk_180 0 105 (dk_at dksX5_exchanges_0 17 rfl rfl)
theorem dX5_exchanges_20 : decode cX5_exchanges 20 = .ok (.istore 5, 2) := dk_54 5 (dk_at dksX5_exchanges_0 20 rfl rfl)
theorem dX5_exchanges_22 : decode cX5_exchanges 22 = .ok (.aload_n 0, 1) := dk_42 (dk_at dksX5_exchanges_0 22 rfl rfl)
theorem dX5_exchanges_23 : decode cX5_exchanges 23 = .ok (.iload_n 2, 1) := dk_28 (dk_at dksX5_exchanges_0 23 rfl rfl)
theorem dX5_exchanges_24 : decode cX5_exchanges 24 = .ok (.invokevirtual 116, 3) := dk_182 0 116 (dk_at dksX5_exchanges_1 0 rfl rfl)
theorem dX5_exchanges_27 : decode cX5_exchanges 27 = .ok (.aload_n 0, 1) := dk_42 (dk_at dksX5_exchanges_1 3 rfl rfl)
theorem dX5_exchanges_28 : decode cX5_exchanges 28 = .ok (.iload_n 1, 1) := dk_27 (dk_at dksX5_exchanges_1 4 rfl rfl)
theorem dX5_exchanges_29 : decode cX5_exchanges 29 = .ok (.invokevirtual 123, 3) := dk_182 0 123 (dk_at dksX5_exchanges_1 5 rfl rfl)
theorem dX5_exchanges_32 : decode cX5_exchanges 32 = .ok (.aload_n 0, 1) := dk_42 (dk_at dksX5_exchanges_1 8 rfl rfl)
theorem dX5_exchanges_33 : decode cX5_exchanges 33 = .ok (.iload_n 3, 1) := dk_29 (dk_at dksX5_exchanges_1 9 rfl rfl)
theorem dX5_exchanges_34 : decode cX5_exchanges 34 = .ok (.iload 4, 2) := dk_21 4 (dk_at dksX5_exchanges_1 10 rfl rfl)
theorem dX5_exchanges_36 : decode cX5_exchanges 36 = .ok (.iload 5, 2) := dk_21 5 (dk_at dksX5_exchanges_1 12 rfl rfl)
theorem dX5_exchanges_38 : decode cX5_exchanges 38 = .ok (.invokevirtual 112, 3) := dk_182 0 112 (dk_at dksX5_exchanges_1 14 rfl rfl)
theorem dX5_exchanges_41 : decode cX5_exchanges 41 = .ok (.aload_n 0, 1) := dk_42 (dk_at dksX5_exchanges_1 17 rfl rfl)
theorem dX5_exchanges_42 : decode cX5_exchanges 42 = .ok (.iload_n 2, 1) := dk_28 (dk_at dksX5_exchanges_1 18 rfl rfl)
theorem dX5_exchanges_43 : decode cX5_exchanges 43 = .ok (.invokevirtual 123, 3) := dk_182 0 123 (dk_at dksX5_exchanges_1 19 rfl rfl)
theorem dX5_exchanges_46 : decode cX5_exchanges 46 = .ok (.return_, 1) := dk_177 (dk_at dksX5_exchanges_1 22 rfl rfl)
abbrev cX5_canonical : ByteArray := prog_16_method_80_code
def yX5_canonical : MethodName := ⟨RX5, "canonical", "(II)I"⟩
def dkwX5_canonical_2 : List UInt8 := [182, 1, 101, 42, 27, 28, 182, 1, 109, 62, 42, 180, 0, 16, 42, 180, 0, 7, 184, 0, 83, 29, 172]
abbrev dktX5_canonical_2 : List UInt8 := dkwX5_canonical_2 ++ []
def dkwX5_canonical_1 : List UInt8 := [167, 0, 4, 3, 182, 0, 87, 154, 0, 5, 3, 172, 42, 180, 0, 7, 42, 180, 0, 16, 184, 0, 83, 42]
abbrev dktX5_canonical_1 : List UInt8 := dkwX5_canonical_1 ++ dktX5_canonical_2
def dkwX5_canonical_0 : List UInt8 := [42, 42, 27, 182, 1, 104, 153, 0, 19, 28, 133, 9, 20, 1, 107, 184, 0, 135, 153, 0, 7, 4]
abbrev dktX5_canonical_0 : List UInt8 := dkwX5_canonical_0 ++ dktX5_canonical_1
theorem dksX5_canonical_0 : cX5_canonical.data.toList.drop 0 = dktX5_canonical_0 := by decide +kernel
theorem dksX5_canonical_1 : cX5_canonical.data.toList.drop 22 = dktX5_canonical_1 := dk_seg dksX5_canonical_0 22 rfl rfl
theorem dksX5_canonical_2 : cX5_canonical.data.toList.drop 46 = dktX5_canonical_2 := dk_seg dksX5_canonical_1 24 rfl rfl
theorem dX5_canonical_0 : decode cX5_canonical 0 = .ok (.aload_n 0, 1) := dk_42 (dk_at dksX5_canonical_0 0 rfl rfl)
theorem dX5_canonical_1 : decode cX5_canonical 1 = .ok (.aload_n 0, 1) := dk_42 (dk_at dksX5_canonical_0 1 rfl rfl)
theorem dX5_canonical_2 : decode cX5_canonical 2 = .ok (.iload_n 1, 1) := dk_27 (dk_at dksX5_canonical_0 2 rfl rfl)
theorem dX5_canonical_3 : decode cX5_canonical 3 = .ok (.invokevirtual 360, 3) := dk_182 1 104 (dk_at dksX5_canonical_0 3 rfl rfl)
theorem dX5_canonical_6 : decode cX5_canonical 6 = .ok (.ifCond .eq 19, 3) := dk_153 0 19 (dk_at dksX5_canonical_0 6 rfl rfl)
theorem dX5_canonical_9 : decode cX5_canonical 9 = .ok (.iload_n 2, 1) := dk_28 (dk_at dksX5_canonical_0 9 rfl rfl)
theorem dX5_canonical_10 : decode cX5_canonical 10 = .ok (.i2l, 1) := dk_133 (dk_at dksX5_canonical_0 10 rfl rfl)
theorem dX5_canonical_11 : decode cX5_canonical 11 = .ok (.lconst 0, 1) := dk_9 (dk_at dksX5_canonical_0 11 rfl rfl)
theorem dX5_canonical_12 : decode cX5_canonical 12 = .ok (.ldc2_w 363, 3) := dk_20 1 107 (dk_at dksX5_canonical_0 12 rfl rfl)
theorem dX5_canonical_15 : decode cX5_canonical 15 = .ok (.invokestatic 135, 3) := dk_184 0 135 (dk_at dksX5_canonical_0 15 rfl rfl)
theorem dX5_canonical_18 : decode cX5_canonical 18 = .ok (.ifCond .eq 7, 3) := dk_153 0 7 (dk_at dksX5_canonical_0 18 rfl rfl)
theorem dX5_canonical_21 : decode cX5_canonical 21 = .ok (.iconst 1, 1) := dk_4 (dk_at dksX5_canonical_0 21 rfl rfl)
theorem dX5_canonical_22 : decode cX5_canonical 22 = .ok (.goto 4, 3) := dk_167 0 4 (dk_at dksX5_canonical_1 0 rfl rfl)
theorem dX5_canonical_25 : decode cX5_canonical 25 = .ok (.iconst 0, 1) := dk_3 (dk_at dksX5_canonical_1 3 rfl rfl)
theorem dX5_canonical_26 : decode cX5_canonical 26 = .ok (.invokevirtual 87, 3) := dk_182 0 87 (dk_at dksX5_canonical_1 4 rfl rfl)
theorem dX5_canonical_29 : decode cX5_canonical 29 = .ok (.ifCond .ne 5, 3) := dk_154 0 5 (dk_at dksX5_canonical_1 7 rfl rfl)
theorem dX5_canonical_32 : decode cX5_canonical 32 = .ok (.iconst 0, 1) := dk_3 (dk_at dksX5_canonical_1 10 rfl rfl)
theorem dX5_canonical_33 : decode cX5_canonical 33 = .ok (.ireturn, 1) := dk_172 (dk_at dksX5_canonical_1 11 rfl rfl)
theorem dX5_canonical_34 : decode cX5_canonical 34 = .ok (.aload_n 0, 1) := dk_42 (dk_at dksX5_canonical_1 12 rfl rfl)
theorem dX5_canonical_35 : decode cX5_canonical 35 = .ok (.getfield 7, 3) := dk_180 0 7 (dk_at dksX5_canonical_1 13 rfl rfl)
theorem dX5_canonical_38 : decode cX5_canonical 38 = .ok (.aload_n 0, 1) := dk_42 (dk_at dksX5_canonical_1 16 rfl rfl)
theorem dX5_canonical_39 : decode cX5_canonical 39 = .ok (.getfield 16, 3) := dk_180 0 16 (dk_at dksX5_canonical_1 17 rfl rfl)
theorem dX5_canonical_42 : decode cX5_canonical 42 = .ok (.invokestatic 83, 3) := dk_184 0 83 (dk_at dksX5_canonical_1 20 rfl rfl)
theorem dX5_canonical_45 : decode cX5_canonical 45 = .ok (.aload_n 0, 1) := dk_42 (dk_at dksX5_canonical_1 23 rfl rfl)
theorem dX5_canonical_46 : decode cX5_canonical 46 = .ok (.invokevirtual 357, 3) := dk_182 1 101 (dk_at dksX5_canonical_2 0 rfl rfl)
theorem dX5_canonical_49 : decode cX5_canonical 49 = .ok (.aload_n 0, 1) := dk_42 (dk_at dksX5_canonical_2 3 rfl rfl)
theorem dX5_canonical_50 : decode cX5_canonical 50 = .ok (.iload_n 1, 1) := dk_27 (dk_at dksX5_canonical_2 4 rfl rfl)
theorem dX5_canonical_51 : decode cX5_canonical 51 = .ok (.iload_n 2, 1) := dk_28 (dk_at dksX5_canonical_2 5 rfl rfl)
theorem dX5_canonical_52 : decode cX5_canonical 52 = .ok (.invokevirtual 365, 3) := dk_182 1 109 (dk_at dksX5_canonical_2 6 rfl rfl)
theorem dX5_canonical_55 : decode cX5_canonical 55 = .ok (.istore_n 3, 1) := dk_62 (dk_at dksX5_canonical_2 9 rfl rfl)
theorem dX5_canonical_56 : decode cX5_canonical 56 = .ok (.aload_n 0, 1) := dk_42 (dk_at dksX5_canonical_2 10 rfl rfl)
theorem dX5_canonical_57 : decode cX5_canonical 57 = .ok (.getfield 16, 3) := dk_180 0 16 (dk_at dksX5_canonical_2 11 rfl rfl)
theorem dX5_canonical_60 : decode cX5_canonical 60 = .ok (.aload_n 0, 1) := dk_42 (dk_at dksX5_canonical_2 14 rfl rfl)
theorem dX5_canonical_61 : decode cX5_canonical 61 = .ok (.getfield 7, 3) := dk_180 0 7 (dk_at dksX5_canonical_2 15 rfl rfl)
theorem dX5_canonical_64 : decode cX5_canonical 64 = .ok (.invokestatic 83, 3) := dk_184 0 83 (dk_at dksX5_canonical_2 18 rfl rfl)
theorem dX5_canonical_67 : decode cX5_canonical 67 = .ok (.iload_n 3, 1) := dk_29 (dk_at dksX5_canonical_2 21 rfl rfl)
theorem dX5_canonical_68 : decode cX5_canonical 68 = .ok (.ireturn, 1) := dk_172 (dk_at dksX5_canonical_2 22 rfl rfl)
abbrev cX5_isRow : ByteArray := prog_16_method_78_code
def yX5_isRow : MethodName := ⟨RX5, "isRow", "(I)Z"⟩
def dkwX5_isRow_0 : List UInt8 := [27, 133, 9, 42, 180, 0, 7, 3, 46, 4, 100, 133, 184, 0, 135, 172]
abbrev dktX5_isRow_0 : List UInt8 := dkwX5_isRow_0 ++ []
theorem dksX5_isRow_0 : cX5_isRow.data.toList.drop 0 = dktX5_isRow_0 := by decide +kernel
theorem dX5_isRow_0 : decode cX5_isRow 0 = .ok (.iload_n 1, 1) := dk_27 (dk_at dksX5_isRow_0 0 rfl rfl)
theorem dX5_isRow_1 : decode cX5_isRow 1 = .ok (.i2l, 1) := dk_133 (dk_at dksX5_isRow_0 1 rfl rfl)
theorem dX5_isRow_2 : decode cX5_isRow 2 = .ok (.lconst 0, 1) := dk_9 (dk_at dksX5_isRow_0 2 rfl rfl)
theorem dX5_isRow_3 : decode cX5_isRow 3 = .ok (.aload_n 0, 1) := dk_42 (dk_at dksX5_isRow_0 3 rfl rfl)
theorem dX5_isRow_4 : decode cX5_isRow 4 = .ok (.getfield 7, 3) := dk_180 0 7 (dk_at dksX5_isRow_0 4 rfl rfl)
theorem dX5_isRow_7 : decode cX5_isRow 7 = .ok (.iconst 0, 1) := dk_3 (dk_at dksX5_isRow_0 7 rfl rfl)
theorem dX5_isRow_8 : decode cX5_isRow 8 = .ok (.iaload, 1) := dk_46 (dk_at dksX5_isRow_0 8 rfl rfl)
theorem dX5_isRow_9 : decode cX5_isRow 9 = .ok (.iconst 1, 1) := dk_4 (dk_at dksX5_isRow_0 9 rfl rfl)
theorem dX5_isRow_10 : decode cX5_isRow 10 = .ok (.isub, 1) := dk_100 (dk_at dksX5_isRow_0 10 rfl rfl)
theorem dX5_isRow_11 : decode cX5_isRow 11 = .ok (.i2l, 1) := dk_133 (dk_at dksX5_isRow_0 11 rfl rfl)
theorem dX5_isRow_12 : decode cX5_isRow 12 = .ok (.invokestatic 135, 3) := dk_184 0 135 (dk_at dksX5_isRow_0 12 rfl rfl)
theorem dX5_isRow_15 : decode cX5_isRow 15 = .ok (.ireturn, 1) := dk_172 (dk_at dksX5_isRow_0 15 rfl rfl)
abbrev cX5_ofRow : ByteArray := prog_16_method_79_code
def yX5_ofRow : MethodName := ⟨RX5, "ofRow", "(II)I"⟩
def dkwX5_ofRow_2 : List UInt8 := [46, 172]
abbrev dktX5_ofRow_2 : List UInt8 := dkwX5_ofRow_2 ++ []
def dkwX5_ofRow_1 : List UInt8 := [28, 154, 0, 15, 42, 180, 0, 7, 16, 6, 27, 96, 46, 167, 0, 12, 42, 180, 0, 7, 16, 14, 27, 96]
abbrev dktX5_ofRow_1 : List UInt8 := dkwX5_ofRow_1 ++ dktX5_ofRow_2
def dkwX5_ofRow_0 : List UInt8 := [28, 5, 160, 0, 22, 42, 180, 0, 7, 16, 22, 27, 96, 46, 4, 160, 0, 7, 2, 167, 0, 4, 4, 172]
abbrev dktX5_ofRow_0 : List UInt8 := dkwX5_ofRow_0 ++ dktX5_ofRow_1
theorem dksX5_ofRow_0 : cX5_ofRow.data.toList.drop 0 = dktX5_ofRow_0 := by decide +kernel
theorem dksX5_ofRow_1 : cX5_ofRow.data.toList.drop 24 = dktX5_ofRow_1 := dk_seg dksX5_ofRow_0 24 rfl rfl
theorem dksX5_ofRow_2 : cX5_ofRow.data.toList.drop 48 = dktX5_ofRow_2 := dk_seg dksX5_ofRow_1 24 rfl rfl
theorem dX5_ofRow_0 : decode cX5_ofRow 0 = .ok (.iload_n 2, 1) := dk_28 (dk_at dksX5_ofRow_0 0 rfl rfl)
theorem dX5_ofRow_1 : decode cX5_ofRow 1 = .ok (.iconst 2, 1) := dk_5 (dk_at dksX5_ofRow_0 1 rfl rfl)
theorem dX5_ofRow_2 : decode cX5_ofRow 2 = .ok (.if_icmp .ne 22, 3) := dk_160 0 22 (dk_at dksX5_ofRow_0 2 rfl rfl)
theorem dX5_ofRow_5 : decode cX5_ofRow 5 = .ok (.aload_n 0, 1) := dk_42 (dk_at dksX5_ofRow_0 5 rfl rfl)
theorem dX5_ofRow_6 : decode cX5_ofRow 6 = .ok (.getfield 7, 3) := dk_180 0 7 (dk_at dksX5_ofRow_0 6 rfl rfl)
theorem dX5_ofRow_9 : decode cX5_ofRow 9 = .ok (.bipush 22, 2) := dk_16 22 (dk_at dksX5_ofRow_0 9 rfl rfl)
theorem dX5_ofRow_11 : decode cX5_ofRow 11 = .ok (.iload_n 1, 1) := dk_27 (dk_at dksX5_ofRow_0 11 rfl rfl)
theorem dX5_ofRow_12 : decode cX5_ofRow 12 = .ok (.iadd, 1) := dk_96 (dk_at dksX5_ofRow_0 12 rfl rfl)
theorem dX5_ofRow_13 : decode cX5_ofRow 13 = .ok (.iaload, 1) := dk_46 (dk_at dksX5_ofRow_0 13 rfl rfl)
theorem dX5_ofRow_14 : decode cX5_ofRow 14 = .ok (.iconst 1, 1) := dk_4 (dk_at dksX5_ofRow_0 14 rfl rfl)
theorem dX5_ofRow_15 : decode cX5_ofRow 15 = .ok (.if_icmp .ne 7, 3) := dk_160 0 7 (dk_at dksX5_ofRow_0 15 rfl rfl)
theorem dX5_ofRow_18 : decode cX5_ofRow 18 = .ok (.iconst (-1), 1) := dk_2 (dk_at dksX5_ofRow_0 18 rfl rfl)
theorem dX5_ofRow_19 : decode cX5_ofRow 19 = .ok (.goto 4, 3) := dk_167 0 4 (dk_at dksX5_ofRow_0 19 rfl rfl)
theorem dX5_ofRow_22 : decode cX5_ofRow 22 = .ok (.iconst 1, 1) := dk_4 (dk_at dksX5_ofRow_0 22 rfl rfl)
theorem dX5_ofRow_23 : decode cX5_ofRow 23 = .ok (.ireturn, 1) := dk_172 (dk_at dksX5_ofRow_0 23 rfl rfl)
theorem dX5_ofRow_24 : decode cX5_ofRow 24 = .ok (.iload_n 2, 1) := dk_28 (dk_at dksX5_ofRow_1 0 rfl rfl)
theorem dX5_ofRow_25 : decode cX5_ofRow 25 = .ok (.ifCond .ne 15, 3) := dk_154 0 15 (dk_at dksX5_ofRow_1 1 rfl rfl)
theorem dX5_ofRow_28 : decode cX5_ofRow 28 = .ok (.aload_n 0, 1) := dk_42 (dk_at dksX5_ofRow_1 4 rfl rfl)
theorem dX5_ofRow_29 : decode cX5_ofRow 29 = .ok (.getfield 7, 3) := dk_180 0 7 (dk_at dksX5_ofRow_1 5 rfl rfl)
theorem dX5_ofRow_32 : decode cX5_ofRow 32 = .ok (.bipush 6, 2) := dk_16 6 (dk_at dksX5_ofRow_1 8 rfl rfl)
theorem dX5_ofRow_34 : decode cX5_ofRow 34 = .ok (.iload_n 1, 1) := dk_27 (dk_at dksX5_ofRow_1 10 rfl rfl)
theorem dX5_ofRow_35 : decode cX5_ofRow 35 = .ok (.iadd, 1) := dk_96 (dk_at dksX5_ofRow_1 11 rfl rfl)
theorem dX5_ofRow_36 : decode cX5_ofRow 36 = .ok (.iaload, 1) := dk_46 (dk_at dksX5_ofRow_1 12 rfl rfl)
theorem dX5_ofRow_37 : decode cX5_ofRow 37 = .ok (.goto 12, 3) := dk_167 0 12 (dk_at dksX5_ofRow_1 13 rfl rfl)
theorem dX5_ofRow_40 : decode cX5_ofRow 40 = .ok (.aload_n 0, 1) := dk_42 (dk_at dksX5_ofRow_1 16 rfl rfl)
theorem dX5_ofRow_41 : decode cX5_ofRow 41 = .ok (.getfield 7, 3) := dk_180 0 7 (dk_at dksX5_ofRow_1 17 rfl rfl)
theorem dX5_ofRow_44 : decode cX5_ofRow 44 = .ok (.bipush 14, 2) := dk_16 14 (dk_at dksX5_ofRow_1 20 rfl rfl)
theorem dX5_ofRow_46 : decode cX5_ofRow 46 = .ok (.iload_n 1, 1) := dk_27 (dk_at dksX5_ofRow_1 22 rfl rfl)
theorem dX5_ofRow_47 : decode cX5_ofRow 47 = .ok (.iadd, 1) := dk_96 (dk_at dksX5_ofRow_1 23 rfl rfl)
theorem dX5_ofRow_48 : decode cX5_ofRow 48 = .ok (.iaload, 1) := dk_46 (dk_at dksX5_ofRow_2 0 rfl rfl)
theorem dX5_ofRow_49 : decode cX5_ofRow 49 = .ok (.ireturn, 1) := dk_172 (dk_at dksX5_ofRow_2 1 rfl rfl)
abbrev cX5_letter : ByteArray := prog_16_method_81_code
def yX5_letter : MethodName := ⟨RX5, "letter", "(II)I"⟩
def dkwX5_letter_2 : List UInt8 := [28, 184, 0, 95, 167, 0, 4, 3, 172]
abbrev dktX5_letter_2 : List UInt8 := dkwX5_letter_2 ++ []
def dkwX5_letter_1 : List UInt8 := [182, 0, 87, 153, 0, 28, 42, 180, 0, 7, 16, 6, 27, 96, 46, 42, 180, 0, 7, 16, 14, 27, 96, 46]
abbrev dktX5_letter_1 : List UInt8 := dkwX5_letter_1 ++ dktX5_letter_2
def dkwX5_letter_0 : List UInt8 := [42, 42, 27, 182, 1, 104, 153, 0, 15, 42, 28, 182, 0, 143, 153, 0, 7, 4, 167, 0, 4, 3]
abbrev dktX5_letter_0 : List UInt8 := dkwX5_letter_0 ++ dktX5_letter_1
theorem dksX5_letter_0 : cX5_letter.data.toList.drop 0 = dktX5_letter_0 := by decide +kernel
theorem dksX5_letter_1 : cX5_letter.data.toList.drop 22 = dktX5_letter_1 := dk_seg dksX5_letter_0 22 rfl rfl
theorem dksX5_letter_2 : cX5_letter.data.toList.drop 46 = dktX5_letter_2 := dk_seg dksX5_letter_1 24 rfl rfl
theorem dX5_letter_0 : decode cX5_letter 0 = .ok (.aload_n 0, 1) := dk_42 (dk_at dksX5_letter_0 0 rfl rfl)
theorem dX5_letter_1 : decode cX5_letter 1 = .ok (.aload_n 0, 1) := dk_42 (dk_at dksX5_letter_0 1 rfl rfl)
theorem dX5_letter_2 : decode cX5_letter 2 = .ok (.iload_n 1, 1) := dk_27 (dk_at dksX5_letter_0 2 rfl rfl)
theorem dX5_letter_3 : decode cX5_letter 3 = .ok (.invokevirtual 360, 3) := dk_182 1 104 (dk_at dksX5_letter_0 3 rfl rfl)
theorem dX5_letter_6 : decode cX5_letter 6 = .ok (.ifCond .eq 15, 3) := dk_153 0 15 (dk_at dksX5_letter_0 6 rfl rfl)
theorem dX5_letter_9 : decode cX5_letter 9 = .ok (.aload_n 0, 1) := dk_42 (dk_at dksX5_letter_0 9 rfl rfl)
theorem dX5_letter_10 : decode cX5_letter 10 = .ok (.iload_n 2, 1) := dk_28 (dk_at dksX5_letter_0 10 rfl rfl)
theorem dX5_letter_11 : decode cX5_letter 11 = .ok (.invokevirtual 143, 3) := dk_182 0 143 (dk_at dksX5_letter_0 11 rfl rfl)
theorem dX5_letter_14 : decode cX5_letter 14 = .ok (.ifCond .eq 7, 3) := dk_153 0 7 (dk_at dksX5_letter_0 14 rfl rfl)
theorem dX5_letter_17 : decode cX5_letter 17 = .ok (.iconst 1, 1) := dk_4 (dk_at dksX5_letter_0 17 rfl rfl)
theorem dX5_letter_18 : decode cX5_letter 18 = .ok (.goto 4, 3) := dk_167 0 4 (dk_at dksX5_letter_0 18 rfl rfl)
theorem dX5_letter_21 : decode cX5_letter 21 = .ok (.iconst 0, 1) := dk_3 (dk_at dksX5_letter_0 21 rfl rfl)
theorem dX5_letter_22 : decode cX5_letter 22 = .ok (.invokevirtual 87, 3) := dk_182 0 87 (dk_at dksX5_letter_1 0 rfl rfl)
theorem dX5_letter_25 : decode cX5_letter 25 = .ok (.ifCond .eq 28, 3) := dk_153 0 28 (dk_at dksX5_letter_1 3 rfl rfl)
theorem dX5_letter_28 : decode cX5_letter 28 = .ok (.aload_n 0, 1) := dk_42 (dk_at dksX5_letter_1 6 rfl rfl)
theorem dX5_letter_29 : decode cX5_letter 29 = .ok (.getfield 7, 3) := dk_180 0 7 (dk_at dksX5_letter_1 7 rfl rfl)
theorem dX5_letter_32 : decode cX5_letter 32 = .ok (.bipush 6, 2) := dk_16 6 (dk_at dksX5_letter_1 10 rfl rfl)
theorem dX5_letter_34 : decode cX5_letter 34 = .ok (.iload_n 1, 1) := dk_27 (dk_at dksX5_letter_1 12 rfl rfl)
theorem dX5_letter_35 : decode cX5_letter 35 = .ok (.iadd, 1) := dk_96 (dk_at dksX5_letter_1 13 rfl rfl)
theorem dX5_letter_36 : decode cX5_letter 36 = .ok (.iaload, 1) := dk_46 (dk_at dksX5_letter_1 14 rfl rfl)
theorem dX5_letter_37 : decode cX5_letter 37 = .ok (.aload_n 0, 1) := dk_42 (dk_at dksX5_letter_1 15 rfl rfl)
theorem dX5_letter_38 : decode cX5_letter 38 = .ok (.getfield 7, 3) := dk_180 0 7 (dk_at dksX5_letter_1 16 rfl rfl)
theorem dX5_letter_41 : decode cX5_letter 41 = .ok (.bipush 14, 2) := dk_16 14 (dk_at dksX5_letter_1 19 rfl rfl)
theorem dX5_letter_43 : decode cX5_letter 43 = .ok (.iload_n 1, 1) := dk_27 (dk_at dksX5_letter_1 21 rfl rfl)
theorem dX5_letter_44 : decode cX5_letter 44 = .ok (.iadd, 1) := dk_96 (dk_at dksX5_letter_1 22 rfl rfl)
theorem dX5_letter_45 : decode cX5_letter 45 = .ok (.iaload, 1) := dk_46 (dk_at dksX5_letter_1 23 rfl rfl)
theorem dX5_letter_46 : decode cX5_letter 46 = .ok (.iload_n 2, 1) := dk_28 (dk_at dksX5_letter_2 0 rfl rfl)
theorem dX5_letter_47 : decode cX5_letter 47 = .ok (.invokestatic 95, 3) := dk_184 0 95 (dk_at dksX5_letter_2 1 rfl rfl)
theorem dX5_letter_50 : decode cX5_letter 50 = .ok (.goto 4, 3) := dk_167 0 4 (dk_at dksX5_letter_2 4 rfl rfl)
theorem dX5_letter_53 : decode cX5_letter 53 = .ok (.iconst 0, 1) := dk_3 (dk_at dksX5_letter_2 7 rfl rfl)
theorem dX5_letter_54 : decode cX5_letter 54 = .ok (.ireturn, 1) := dk_172 (dk_at dksX5_letter_2 8 rfl rfl)
abbrev cX5_row : ByteArray := prog_16_method_82_code
def yX5_row : MethodName := ⟨RX5, "row", "(II)I"⟩
def dkwX5_row_1 : List UInt8 := [167, 0, 4, 3, 182, 0, 87, 153, 0, 12, 42, 27, 28, 182, 1, 109, 167, 0, 4, 3, 172]
abbrev dktX5_row_1 : List UInt8 := dkwX5_row_1 ++ []
def dkwX5_row_0 : List UInt8 := [42, 42, 27, 182, 1, 104, 153, 0, 19, 28, 133, 9, 20, 1, 107, 184, 0, 135, 153, 0, 7, 4]
abbrev dktX5_row_0 : List UInt8 := dkwX5_row_0 ++ dktX5_row_1
theorem dksX5_row_0 : cX5_row.data.toList.drop 0 = dktX5_row_0 := by decide +kernel
theorem dksX5_row_1 : cX5_row.data.toList.drop 22 = dktX5_row_1 := dk_seg dksX5_row_0 22 rfl rfl
theorem dX5_row_0 : decode cX5_row 0 = .ok (.aload_n 0, 1) := dk_42 (dk_at dksX5_row_0 0 rfl rfl)
theorem dX5_row_1 : decode cX5_row 1 = .ok (.aload_n 0, 1) := dk_42 (dk_at dksX5_row_0 1 rfl rfl)
theorem dX5_row_2 : decode cX5_row 2 = .ok (.iload_n 1, 1) := dk_27 (dk_at dksX5_row_0 2 rfl rfl)
theorem dX5_row_3 : decode cX5_row 3 = .ok (.invokevirtual 360, 3) := dk_182 1 104 (dk_at dksX5_row_0 3 rfl rfl)
theorem dX5_row_6 : decode cX5_row 6 = .ok (.ifCond .eq 19, 3) := dk_153 0 19 (dk_at dksX5_row_0 6 rfl rfl)
theorem dX5_row_9 : decode cX5_row 9 = .ok (.iload_n 2, 1) := dk_28 (dk_at dksX5_row_0 9 rfl rfl)
theorem dX5_row_10 : decode cX5_row 10 = .ok (.i2l, 1) := dk_133 (dk_at dksX5_row_0 10 rfl rfl)
theorem dX5_row_11 : decode cX5_row 11 = .ok (.lconst 0, 1) := dk_9 (dk_at dksX5_row_0 11 rfl rfl)
theorem dX5_row_12 : decode cX5_row 12 = .ok (.ldc2_w 363, 3) := dk_20 1 107 (dk_at dksX5_row_0 12 rfl rfl)
theorem dX5_row_15 : decode cX5_row 15 = .ok (.invokestatic 135, 3) := dk_184 0 135 (dk_at dksX5_row_0 15 rfl rfl)
theorem dX5_row_18 : decode cX5_row 18 = .ok (.ifCond .eq 7, 3) := dk_153 0 7 (dk_at dksX5_row_0 18 rfl rfl)
theorem dX5_row_21 : decode cX5_row 21 = .ok (.iconst 1, 1) := dk_4 (dk_at dksX5_row_0 21 rfl rfl)
theorem dX5_row_22 : decode cX5_row 22 = .ok (.goto 4, 3) := dk_167 0 4 (dk_at dksX5_row_1 0 rfl rfl)
theorem dX5_row_25 : decode cX5_row 25 = .ok (.iconst 0, 1) := dk_3 (dk_at dksX5_row_1 3 rfl rfl)
theorem dX5_row_26 : decode cX5_row 26 = .ok (.invokevirtual 87, 3) := dk_182 0 87 (dk_at dksX5_row_1 4 rfl rfl)
theorem dX5_row_29 : decode cX5_row 29 = .ok (.ifCond .eq 12, 3) := dk_153 0 12 (dk_at dksX5_row_1 7 rfl rfl)
theorem dX5_row_32 : decode cX5_row 32 = .ok (.aload_n 0, 1) := dk_42 (dk_at dksX5_row_1 10 rfl rfl)
theorem dX5_row_33 : decode cX5_row 33 = .ok (.iload_n 1, 1) := dk_27 (dk_at dksX5_row_1 11 rfl rfl)
theorem dX5_row_34 : decode cX5_row 34 = .ok (.iload_n 2, 1) := dk_28 (dk_at dksX5_row_1 12 rfl rfl)
theorem dX5_row_35 : decode cX5_row 35 = .ok (.invokevirtual 365, 3) := dk_182 1 109 (dk_at dksX5_row_1 13 rfl rfl)
theorem dX5_row_38 : decode cX5_row 38 = .ok (.goto 4, 3) := dk_167 0 4 (dk_at dksX5_row_1 16 rfl rfl)
theorem dX5_row_41 : decode cX5_row 41 = .ok (.iconst 0, 1) := dk_3 (dk_at dksX5_row_1 19 rfl rfl)
theorem dX5_row_42 : decode cX5_row 42 = .ok (.ireturn, 1) := dk_172 (dk_at dksX5_row_1 20 rfl rfl)
abbrev cX5_measured : ByteArray := prog_16_method_83_code
def yX5_measured : MethodName := ⟨RX5, "measured", "(II)I"⟩
def dkwX5_measured_2 : List UInt8 := [154, 0, 8, 16, 30, 167, 0, 6, 17, 0, 130, 27, 96, 46, 167, 0, 4, 3, 172]
abbrev dktX5_measured_2 : List UInt8 := dkwX5_measured_2 ++ []
def dkwX5_measured_1 : List UInt8 := [184, 0, 135, 153, 0, 7, 4, 167, 0, 4, 3, 182, 0, 87, 153, 0, 25, 42, 180, 0, 7, 28]
abbrev dktX5_measured_1 : List UInt8 := dkwX5_measured_1 ++ dktX5_measured_2
def dkwX5_measured_0 : List UInt8 := [42, 27, 133, 9, 42, 180, 0, 7, 7, 46, 4, 100, 133, 184, 0, 135, 153, 0, 17, 28, 133, 9, 10]
abbrev dktX5_measured_0 : List UInt8 := dkwX5_measured_0 ++ dktX5_measured_1
theorem dksX5_measured_0 : cX5_measured.data.toList.drop 0 = dktX5_measured_0 := by decide +kernel
theorem dksX5_measured_1 : cX5_measured.data.toList.drop 23 = dktX5_measured_1 := dk_seg dksX5_measured_0 23 rfl rfl
theorem dksX5_measured_2 : cX5_measured.data.toList.drop 45 = dktX5_measured_2 := dk_seg dksX5_measured_1 22 rfl rfl
theorem dX5_measured_0 : decode cX5_measured 0 = .ok (.aload_n 0, 1) := dk_42 (dk_at dksX5_measured_0 0 rfl rfl)
theorem dX5_measured_1 : decode cX5_measured 1 = .ok (.iload_n 1, 1) := dk_27 (dk_at dksX5_measured_0 1 rfl rfl)
theorem dX5_measured_2 : decode cX5_measured 2 = .ok (.i2l, 1) := dk_133 (dk_at dksX5_measured_0 2 rfl rfl)
theorem dX5_measured_3 : decode cX5_measured 3 = .ok (.lconst 0, 1) := dk_9 (dk_at dksX5_measured_0 3 rfl rfl)
theorem dX5_measured_4 : decode cX5_measured 4 = .ok (.aload_n 0, 1) := dk_42 (dk_at dksX5_measured_0 4 rfl rfl)
theorem dX5_measured_5 : decode cX5_measured 5 = .ok (.getfield 7, 3) := dk_180 0 7 (dk_at dksX5_measured_0 5 rfl rfl)
theorem dX5_measured_8 : decode cX5_measured 8 = .ok (.iconst 4, 1) := dk_7 (dk_at dksX5_measured_0 8 rfl rfl)
theorem dX5_measured_9 : decode cX5_measured 9 = .ok (.iaload, 1) := dk_46 (dk_at dksX5_measured_0 9 rfl rfl)
theorem dX5_measured_10 : decode cX5_measured 10 = .ok (.iconst 1, 1) := dk_4 (dk_at dksX5_measured_0 10 rfl rfl)
theorem dX5_measured_11 : decode cX5_measured 11 = .ok (.isub, 1) := dk_100 (dk_at dksX5_measured_0 11 rfl rfl)
theorem dX5_measured_12 : decode cX5_measured 12 = .ok (.i2l, 1) := dk_133 (dk_at dksX5_measured_0 12 rfl rfl)
theorem dX5_measured_13 : decode cX5_measured 13 = .ok (.invokestatic 135, 3) := dk_184 0 135 (dk_at dksX5_measured_0 13 rfl rfl)
theorem dX5_measured_16 : decode cX5_measured 16 = .ok (.ifCond .eq 17, 3) := dk_153 0 17 (dk_at dksX5_measured_0 16 rfl rfl)
theorem dX5_measured_19 : decode cX5_measured 19 = .ok (.iload_n 2, 1) := dk_28 (dk_at dksX5_measured_0 19 rfl rfl)
theorem dX5_measured_20 : decode cX5_measured 20 = .ok (.i2l, 1) := dk_133 (dk_at dksX5_measured_0 20 rfl rfl)
theorem dX5_measured_21 : decode cX5_measured 21 = .ok (.lconst 0, 1) := dk_9 (dk_at dksX5_measured_0 21 rfl rfl)
theorem dX5_measured_22 : decode cX5_measured 22 = .ok (.lconst 1, 1) := dk_10 (dk_at dksX5_measured_0 22 rfl rfl)
theorem dX5_measured_23 : decode cX5_measured 23 = .ok (.invokestatic 135, 3) := dk_184 0 135 (dk_at dksX5_measured_1 0 rfl rfl)
theorem dX5_measured_26 : decode cX5_measured 26 = .ok (.ifCond .eq 7, 3) := dk_153 0 7 (dk_at dksX5_measured_1 3 rfl rfl)
theorem dX5_measured_29 : decode cX5_measured 29 = .ok (.iconst 1, 1) := dk_4 (dk_at dksX5_measured_1 6 rfl rfl)
theorem dX5_measured_30 : decode cX5_measured 30 = .ok (.goto 4, 3) := dk_167 0 4 (dk_at dksX5_measured_1 7 rfl rfl)
theorem dX5_measured_33 : decode cX5_measured 33 = .ok (.iconst 0, 1) := dk_3 (dk_at dksX5_measured_1 10 rfl rfl)
theorem dX5_measured_34 : decode cX5_measured 34 = .ok (.invokevirtual 87, 3) := dk_182 0 87 (dk_at dksX5_measured_1 11 rfl rfl)
theorem dX5_measured_37 : decode cX5_measured 37 = .ok (.ifCond .eq 25, 3) := dk_153 0 25 (dk_at dksX5_measured_1 14 rfl rfl)
theorem dX5_measured_40 : decode cX5_measured 40 = .ok (.aload_n 0, 1) := dk_42 (dk_at dksX5_measured_1 17 rfl rfl)
theorem dX5_measured_41 : decode cX5_measured 41 = .ok (.getfield 7, 3) := dk_180 0 7 (dk_at dksX5_measured_1 18 rfl rfl)
theorem dX5_measured_44 : decode cX5_measured 44 = .ok (.iload_n 2, 1) := dk_28 (dk_at dksX5_measured_1 21 rfl rfl)
theorem dX5_measured_45 : decode cX5_measured 45 = .ok (.ifCond .ne 8, 3) := dk_154 0 8 (dk_at dksX5_measured_2 0 rfl rfl)
theorem dX5_measured_48 : decode cX5_measured 48 = .ok (.bipush 30, 2) := dk_16 30 (dk_at dksX5_measured_2 3 rfl rfl)
theorem dX5_measured_50 : decode cX5_measured 50 = .ok (.goto 6, 3) := dk_167 0 6 (dk_at dksX5_measured_2 5 rfl rfl)
theorem dX5_measured_53 : decode cX5_measured 53 = .ok (.sipush 130, 3) := dk_17 0 130 (dk_at dksX5_measured_2 8 rfl rfl)
theorem dX5_measured_56 : decode cX5_measured 56 = .ok (.iload_n 1, 1) := dk_27 (dk_at dksX5_measured_2 11 rfl rfl)
theorem dX5_measured_57 : decode cX5_measured 57 = .ok (.iadd, 1) := dk_96 (dk_at dksX5_measured_2 12 rfl rfl)
theorem dX5_measured_58 : decode cX5_measured 58 = .ok (.iaload, 1) := dk_46 (dk_at dksX5_measured_2 13 rfl rfl)
theorem dX5_measured_59 : decode cX5_measured 59 = .ok (.goto 4, 3) := dk_167 0 4 (dk_at dksX5_measured_2 14 rfl rfl)
theorem dX5_measured_62 : decode cX5_measured 62 = .ok (.iconst 0, 1) := dk_3 (dk_at dksX5_measured_2 17 rfl rfl)
theorem dX5_measured_63 : decode cX5_measured 63 = .ok (.ireturn, 1) := dk_172 (dk_at dksX5_measured_2 18 rfl rfl)
abbrev cX5_commute : ByteArray := prog_16_method_84_code
def yX5_commute : MethodName := ⟨RX5, "commute", "(IIII)Z"⟩
def dkwX5_commute_1 : List UInt8 := [3, 182, 0, 87, 153, 0, 18, 27, 28, 29, 21, 4, 184, 0, 175, 153, 0, 7, 4, 167, 0, 4, 3, 172]
abbrev dktX5_commute_1 : List UInt8 := dkwX5_commute_1 ++ []
def dkwX5_commute_0 : List UInt8 := [42, 42, 27, 28, 182, 0, 202, 153, 0, 17, 42, 29, 21, 4, 182, 0, 202, 153, 0, 7, 4, 167, 0, 4]
abbrev dktX5_commute_0 : List UInt8 := dkwX5_commute_0 ++ dktX5_commute_1
theorem dksX5_commute_0 : cX5_commute.data.toList.drop 0 = dktX5_commute_0 := by decide +kernel
theorem dksX5_commute_1 : cX5_commute.data.toList.drop 24 = dktX5_commute_1 := dk_seg dksX5_commute_0 24 rfl rfl
theorem dX5_commute_0 : decode cX5_commute 0 = .ok (.aload_n 0, 1) := dk_42 (dk_at dksX5_commute_0 0 rfl rfl)
theorem dX5_commute_1 : decode cX5_commute 1 = .ok (.aload_n 0, 1) := dk_42 (dk_at dksX5_commute_0 1 rfl rfl)
theorem dX5_commute_2 : decode cX5_commute 2 = .ok (.iload_n 1, 1) := dk_27 (dk_at dksX5_commute_0 2 rfl rfl)
theorem dX5_commute_3 : decode cX5_commute 3 = .ok (.iload_n 2, 1) := dk_28 (dk_at dksX5_commute_0 3 rfl rfl)
theorem dX5_commute_4 : decode cX5_commute 4 = .ok (.invokevirtual 202, 3) := dk_182 0 202 (dk_at dksX5_commute_0 4 rfl rfl)
theorem dX5_commute_7 : decode cX5_commute 7 = .ok (.ifCond .eq 17, 3) := dk_153 0 17 (dk_at dksX5_commute_0 7 rfl rfl)
theorem dX5_commute_10 : decode cX5_commute 10 = .ok (.aload_n 0, 1) := dk_42 (dk_at dksX5_commute_0 10 rfl rfl)
theorem dX5_commute_11 : decode cX5_commute 11 = .ok (.iload_n 3, 1) := dk_29 (dk_at dksX5_commute_0 11 rfl rfl)
theorem dX5_commute_12 : decode cX5_commute 12 = .ok (.iload 4, 2) := dk_21 4 (dk_at dksX5_commute_0 12 rfl rfl)
theorem dX5_commute_14 : decode cX5_commute 14 = .ok (.invokevirtual 202, 3) := dk_182 0 202 (dk_at dksX5_commute_0 14 rfl rfl)
theorem dX5_commute_17 : decode cX5_commute 17 = .ok (.ifCond .eq 7, 3) := dk_153 0 7 (dk_at dksX5_commute_0 17 rfl rfl)
theorem dX5_commute_20 : decode cX5_commute 20 = .ok (.iconst 1, 1) := dk_4 (dk_at dksX5_commute_0 20 rfl rfl)
theorem dX5_commute_21 : decode cX5_commute 21 = .ok (.goto 4, 3) := dk_167 0 4 (dk_at dksX5_commute_0 21 rfl rfl)
theorem dX5_commute_24 : decode cX5_commute 24 = .ok (.iconst 0, 1) := dk_3 (dk_at dksX5_commute_1 0 rfl rfl)
theorem dX5_commute_25 : decode cX5_commute 25 = .ok (.invokevirtual 87, 3) := dk_182 0 87 (dk_at dksX5_commute_1 1 rfl rfl)
theorem dX5_commute_28 : decode cX5_commute 28 = .ok (.ifCond .eq 18, 3) := dk_153 0 18 (dk_at dksX5_commute_1 4 rfl rfl)
theorem dX5_commute_31 : decode cX5_commute 31 = .ok (.iload_n 1, 1) := dk_27 (dk_at dksX5_commute_1 7 rfl rfl)
theorem dX5_commute_32 : decode cX5_commute 32 = .ok (.iload_n 2, 1) := dk_28 (dk_at dksX5_commute_1 8 rfl rfl)
theorem dX5_commute_33 : decode cX5_commute 33 = .ok (.iload_n 3, 1) := dk_29 (dk_at dksX5_commute_1 9 rfl rfl)
theorem dX5_commute_34 : decode cX5_commute 34 = .ok (.iload 4, 2) := dk_21 4 (dk_at dksX5_commute_1 10 rfl rfl)
theorem dX5_commute_36 : decode cX5_commute 36 = .ok (.invokestatic 175, 3) := dk_184 0 175 (dk_at dksX5_commute_1 12 rfl rfl)
theorem dX5_commute_39 : decode cX5_commute 39 = .ok (.ifCond .eq 7, 3) := dk_153 0 7 (dk_at dksX5_commute_1 15 rfl rfl)
theorem dX5_commute_42 : decode cX5_commute 42 = .ok (.iconst 1, 1) := dk_4 (dk_at dksX5_commute_1 18 rfl rfl)
theorem dX5_commute_43 : decode cX5_commute 43 = .ok (.goto 4, 3) := dk_167 0 4 (dk_at dksX5_commute_1 19 rfl rfl)
theorem dX5_commute_46 : decode cX5_commute 46 = .ok (.iconst 0, 1) := dk_3 (dk_at dksX5_commute_1 22 rfl rfl)
theorem dX5_commute_47 : decode cX5_commute 47 = .ok (.ireturn, 1) := dk_172 (dk_at dksX5_commute_1 23 rfl rfl)
abbrev cX5_phase : ByteArray := prog_16_method_85_code
def yX5_phase : MethodName := ⟨RX5, "phase", "(IIII)I"⟩
def dkwX5_phase_1 : List UInt8 := [3, 182, 0, 87, 153, 0, 14, 27, 28, 29, 21, 4, 184, 0, 108, 167, 0, 4, 3, 172]
abbrev dktX5_phase_1 : List UInt8 := dkwX5_phase_1 ++ []
def dkwX5_phase_0 : List UInt8 := [42, 42, 27, 28, 182, 0, 202, 153, 0, 17, 42, 29, 21, 4, 182, 0, 202, 153, 0, 7, 4, 167, 0, 4]
abbrev dktX5_phase_0 : List UInt8 := dkwX5_phase_0 ++ dktX5_phase_1
theorem dksX5_phase_0 : cX5_phase.data.toList.drop 0 = dktX5_phase_0 := by decide +kernel
theorem dksX5_phase_1 : cX5_phase.data.toList.drop 24 = dktX5_phase_1 := dk_seg dksX5_phase_0 24 rfl rfl
theorem dX5_phase_0 : decode cX5_phase 0 = .ok (.aload_n 0, 1) := dk_42 (dk_at dksX5_phase_0 0 rfl rfl)
theorem dX5_phase_1 : decode cX5_phase 1 = .ok (.aload_n 0, 1) := dk_42 (dk_at dksX5_phase_0 1 rfl rfl)
theorem dX5_phase_2 : decode cX5_phase 2 = .ok (.iload_n 1, 1) := dk_27 (dk_at dksX5_phase_0 2 rfl rfl)
theorem dX5_phase_3 : decode cX5_phase 3 = .ok (.iload_n 2, 1) := dk_28 (dk_at dksX5_phase_0 3 rfl rfl)
theorem dX5_phase_4 : decode cX5_phase 4 = .ok (.invokevirtual 202, 3) := dk_182 0 202 (dk_at dksX5_phase_0 4 rfl rfl)
theorem dX5_phase_7 : decode cX5_phase 7 = .ok (.ifCond .eq 17, 3) := dk_153 0 17 (dk_at dksX5_phase_0 7 rfl rfl)
theorem dX5_phase_10 : decode cX5_phase 10 = .ok (.aload_n 0, 1) := dk_42 (dk_at dksX5_phase_0 10 rfl rfl)
theorem dX5_phase_11 : decode cX5_phase 11 = .ok (.iload_n 3, 1) := dk_29 (dk_at dksX5_phase_0 11 rfl rfl)
theorem dX5_phase_12 : decode cX5_phase 12 = .ok (.iload 4, 2) := dk_21 4 (dk_at dksX5_phase_0 12 rfl rfl)
theorem dX5_phase_14 : decode cX5_phase 14 = .ok (.invokevirtual 202, 3) := dk_182 0 202 (dk_at dksX5_phase_0 14 rfl rfl)
theorem dX5_phase_17 : decode cX5_phase 17 = .ok (.ifCond .eq 7, 3) := dk_153 0 7 (dk_at dksX5_phase_0 17 rfl rfl)
theorem dX5_phase_20 : decode cX5_phase 20 = .ok (.iconst 1, 1) := dk_4 (dk_at dksX5_phase_0 20 rfl rfl)
theorem dX5_phase_21 : decode cX5_phase 21 = .ok (.goto 4, 3) := dk_167 0 4 (dk_at dksX5_phase_0 21 rfl rfl)
theorem dX5_phase_24 : decode cX5_phase 24 = .ok (.iconst 0, 1) := dk_3 (dk_at dksX5_phase_1 0 rfl rfl)
theorem dX5_phase_25 : decode cX5_phase 25 = .ok (.invokevirtual 87, 3) := dk_182 0 87 (dk_at dksX5_phase_1 1 rfl rfl)
theorem dX5_phase_28 : decode cX5_phase 28 = .ok (.ifCond .eq 14, 3) := dk_153 0 14 (dk_at dksX5_phase_1 4 rfl rfl)
theorem dX5_phase_31 : decode cX5_phase 31 = .ok (.iload_n 1, 1) := dk_27 (dk_at dksX5_phase_1 7 rfl rfl)
theorem dX5_phase_32 : decode cX5_phase 32 = .ok (.iload_n 2, 1) := dk_28 (dk_at dksX5_phase_1 8 rfl rfl)
theorem dX5_phase_33 : decode cX5_phase 33 = .ok (.iload_n 3, 1) := dk_29 (dk_at dksX5_phase_1 9 rfl rfl)
theorem dX5_phase_34 : decode cX5_phase 34 = .ok (.iload 4, 2) := dk_21 4 (dk_at dksX5_phase_1 10 rfl rfl)
theorem dX5_phase_36 : decode cX5_phase 36 = .ok (.invokestatic 108, 3) := dk_184 0 108 (dk_at dksX5_phase_1 12 rfl rfl)
theorem dX5_phase_39 : decode cX5_phase 39 = .ok (.goto 4, 3) := dk_167 0 4 (dk_at dksX5_phase_1 15 rfl rfl)
theorem dX5_phase_42 : decode cX5_phase 42 = .ok (.iconst 0, 1) := dk_3 (dk_at dksX5_phase_1 18 rfl rfl)
theorem dX5_phase_43 : decode cX5_phase 43 = .ok (.ireturn, 1) := dk_172 (dk_at dksX5_phase_1 19 rfl rfl)
abbrev cX5_against : ByteArray := prog_16_method_86_code
def yX5_against : MethodName := ⟨RX5, "against", "(II)I"⟩
def dkwX5_against_0 : List UInt8 := [42, 42, 27, 28, 182, 0, 202, 182, 0, 87, 153, 0, 12, 42, 27, 28, 182, 0, 179, 167, 0, 4, 3, 172]
abbrev dktX5_against_0 : List UInt8 := dkwX5_against_0 ++ []
theorem dksX5_against_0 : cX5_against.data.toList.drop 0 = dktX5_against_0 := by decide +kernel
theorem dX5_against_0 : decode cX5_against 0 = .ok (.aload_n 0, 1) := dk_42 (dk_at dksX5_against_0 0 rfl rfl)
theorem dX5_against_1 : decode cX5_against 1 = .ok (.aload_n 0, 1) := dk_42 (dk_at dksX5_against_0 1 rfl rfl)
theorem dX5_against_2 : decode cX5_against 2 = .ok (.iload_n 1, 1) := dk_27 (dk_at dksX5_against_0 2 rfl rfl)
theorem dX5_against_3 : decode cX5_against 3 = .ok (.iload_n 2, 1) := dk_28 (dk_at dksX5_against_0 3 rfl rfl)
theorem dX5_against_4 : decode cX5_against 4 = .ok (.invokevirtual 202, 3) := dk_182 0 202 (dk_at dksX5_against_0 4 rfl rfl)
theorem dX5_against_7 : decode cX5_against 7 = .ok (.invokevirtual 87, 3) := dk_182 0 87 (dk_at dksX5_against_0 7 rfl rfl)
theorem dX5_against_10 : decode cX5_against 10 = .ok (.ifCond .eq 12, 3) := dk_153 0 12 (dk_at dksX5_against_0 10 rfl rfl)
theorem dX5_against_13 : decode cX5_against 13 = .ok (.aload_n 0, 1) := dk_42 (dk_at dksX5_against_0 13 rfl rfl)
theorem dX5_against_14 : decode cX5_against 14 = .ok (.iload_n 1, 1) := dk_27 (dk_at dksX5_against_0 14 rfl rfl)
theorem dX5_against_15 : decode cX5_against 15 = .ok (.iload_n 2, 1) := dk_28 (dk_at dksX5_against_0 15 rfl rfl)
theorem dX5_against_16 : decode cX5_against 16 = .ok (.invokevirtual 179, 3) := dk_182 0 179 (dk_at dksX5_against_0 16 rfl rfl)
theorem dX5_against_19 : decode cX5_against 19 = .ok (.goto 4, 3) := dk_167 0 4 (dk_at dksX5_against_0 19 rfl rfl)
theorem dX5_against_22 : decode cX5_against 22 = .ok (.iconst 0, 1) := dk_3 (dk_at dksX5_against_0 22 rfl rfl)
theorem dX5_against_23 : decode cX5_against 23 = .ok (.ireturn, 1) := dk_172 (dk_at dksX5_against_0 23 rfl rfl)
abbrev cX5_expectation : ByteArray := prog_16_method_87_code
def yX5_expectation : MethodName := ⟨RX5, "expectation", "(II)I"⟩
def dkwX5_expectation_1 : List UInt8 := [172, 42, 180, 0, 105, 4, 160, 0, 7, 2, 167, 0, 4, 4, 172]
abbrev dktX5_expectation_1 : List UInt8 := dkwX5_expectation_1 ++ []
def dkwX5_expectation_0 : List UInt8 := [42, 42, 27, 28, 182, 0, 202, 182, 0, 87, 153, 0, 13, 42, 27, 28, 182, 0, 183, 2, 160, 0, 5, 3]
abbrev dktX5_expectation_0 : List UInt8 := dkwX5_expectation_0 ++ dktX5_expectation_1
theorem dksX5_expectation_0 : cX5_expectation.data.toList.drop 0 = dktX5_expectation_0 := by decide +kernel
theorem dksX5_expectation_1 : cX5_expectation.data.toList.drop 24 = dktX5_expectation_1 := dk_seg dksX5_expectation_0 24 rfl rfl
theorem dX5_expectation_0 : decode cX5_expectation 0 = .ok (.aload_n 0, 1) := dk_42 (dk_at dksX5_expectation_0 0 rfl rfl)
theorem dX5_expectation_1 : decode cX5_expectation 1 = .ok (.aload_n 0, 1) := dk_42 (dk_at dksX5_expectation_0 1 rfl rfl)
theorem dX5_expectation_2 : decode cX5_expectation 2 = .ok (.iload_n 1, 1) := dk_27 (dk_at dksX5_expectation_0 2 rfl rfl)
theorem dX5_expectation_3 : decode cX5_expectation 3 = .ok (.iload_n 2, 1) := dk_28 (dk_at dksX5_expectation_0 3 rfl rfl)
theorem dX5_expectation_4 : decode cX5_expectation 4 = .ok (.invokevirtual 202, 3) := dk_182 0 202 (dk_at dksX5_expectation_0 4 rfl rfl)
theorem dX5_expectation_7 : decode cX5_expectation 7 = .ok (.invokevirtual 87, 3) := dk_182 0 87 (dk_at dksX5_expectation_0 7 rfl rfl)
theorem dX5_expectation_10 : decode cX5_expectation 10 = .ok (.ifCond .eq 13, 3) := dk_153 0 13 (dk_at dksX5_expectation_0 10 rfl rfl)
theorem dX5_expectation_13 : decode cX5_expectation 13 = .ok (.aload_n 0, 1) := dk_42 (dk_at dksX5_expectation_0 13 rfl rfl)
theorem dX5_expectation_14 : decode cX5_expectation 14 = .ok (.iload_n 1, 1) := dk_27 (dk_at dksX5_expectation_0 14 rfl rfl)
theorem dX5_expectation_15 : decode cX5_expectation 15 = .ok (.iload_n 2, 1) := dk_28 (dk_at dksX5_expectation_0 15 rfl rfl)
theorem dX5_expectation_16 : decode cX5_expectation 16 = .ok (.invokevirtual 183, 3) := dk_182 0 183 (dk_at dksX5_expectation_0 16 rfl rfl)
theorem dX5_expectation_19 : decode cX5_expectation 19 = .ok (.iconst (-1), 1) := dk_2 (dk_at dksX5_expectation_0 19 rfl rfl)
theorem dX5_expectation_20 : decode cX5_expectation 20 = .ok (.if_icmp .ne 5, 3) := dk_160 0 5 (dk_at dksX5_expectation_0 20 rfl rfl)
theorem dX5_expectation_23 : decode cX5_expectation 23 = .ok (.iconst 0, 1) := dk_3 (dk_at dksX5_expectation_0 23 rfl rfl)
theorem dX5_expectation_24 : decode cX5_expectation 24 = .ok (.ireturn, 1) := dk_172 (dk_at dksX5_expectation_1 0 rfl rfl)
theorem dX5_expectation_25 : decode cX5_expectation 25 = .ok (.aload_n 0, 1) := dk_42 (dk_at dksX5_expectation_1 1 rfl rfl)
theorem dX5_expectation_26 : decode cX5_expectation 26 = .ok (.getfield 105, 3) := dk_180 0 105 (dk_at dksX5_expectation_1 2 rfl rfl)
theorem dX5_expectation_29 : decode cX5_expectation 29 = .ok (.iconst 1, 1) := dk_4 (dk_at dksX5_expectation_1 5 rfl rfl)
theorem dX5_expectation_30 : decode cX5_expectation 30 = .ok (.if_icmp .ne 7, 3) := dk_160 0 7 (dk_at dksX5_expectation_1 6 rfl rfl)
theorem dX5_expectation_33 : decode cX5_expectation 33 = .ok (.iconst (-1), 1) := dk_2 (dk_at dksX5_expectation_1 9 rfl rfl)
theorem dX5_expectation_34 : decode cX5_expectation 34 = .ok (.goto 4, 3) := dk_167 0 4 (dk_at dksX5_expectation_1 10 rfl rfl)
theorem dX5_expectation_37 : decode cX5_expectation 37 = .ok (.iconst 1, 1) := dk_4 (dk_at dksX5_expectation_1 13 rfl rfl)
theorem dX5_expectation_38 : decode cX5_expectation 38 = .ok (.ireturn, 1) := dk_172 (dk_at dksX5_expectation_1 14 rfl rfl)
abbrev cX5_decompose : ByteArray := prog_16_method_88_code
def yX5_decompose : MethodName := ⟨RX5, "decompose", "(II)I"⟩
def dkwX5_decompose_0 : List UInt8 := [42, 42, 27, 28, 182, 0, 202, 182, 0, 87, 153, 0, 12, 42, 27, 28, 182, 0, 183, 167, 0, 4, 3, 172]
abbrev dktX5_decompose_0 : List UInt8 := dkwX5_decompose_0 ++ []
theorem dksX5_decompose_0 : cX5_decompose.data.toList.drop 0 = dktX5_decompose_0 := by decide +kernel
theorem dX5_decompose_0 : decode cX5_decompose 0 = .ok (.aload_n 0, 1) := dk_42 (dk_at dksX5_decompose_0 0 rfl rfl)
theorem dX5_decompose_1 : decode cX5_decompose 1 = .ok (.aload_n 0, 1) := dk_42 (dk_at dksX5_decompose_0 1 rfl rfl)
theorem dX5_decompose_2 : decode cX5_decompose 2 = .ok (.iload_n 1, 1) := dk_27 (dk_at dksX5_decompose_0 2 rfl rfl)
theorem dX5_decompose_3 : decode cX5_decompose 3 = .ok (.iload_n 2, 1) := dk_28 (dk_at dksX5_decompose_0 3 rfl rfl)
theorem dX5_decompose_4 : decode cX5_decompose 4 = .ok (.invokevirtual 202, 3) := dk_182 0 202 (dk_at dksX5_decompose_0 4 rfl rfl)
theorem dX5_decompose_7 : decode cX5_decompose 7 = .ok (.invokevirtual 87, 3) := dk_182 0 87 (dk_at dksX5_decompose_0 7 rfl rfl)
theorem dX5_decompose_10 : decode cX5_decompose 10 = .ok (.ifCond .eq 12, 3) := dk_153 0 12 (dk_at dksX5_decompose_0 10 rfl rfl)
theorem dX5_decompose_13 : decode cX5_decompose 13 = .ok (.aload_n 0, 1) := dk_42 (dk_at dksX5_decompose_0 13 rfl rfl)
theorem dX5_decompose_14 : decode cX5_decompose 14 = .ok (.iload_n 1, 1) := dk_27 (dk_at dksX5_decompose_0 14 rfl rfl)
theorem dX5_decompose_15 : decode cX5_decompose 15 = .ok (.iload_n 2, 1) := dk_28 (dk_at dksX5_decompose_0 15 rfl rfl)
theorem dX5_decompose_16 : decode cX5_decompose 16 = .ok (.invokevirtual 183, 3) := dk_182 0 183 (dk_at dksX5_decompose_0 16 rfl rfl)
theorem dX5_decompose_19 : decode cX5_decompose 19 = .ok (.goto 4, 3) := dk_167 0 4 (dk_at dksX5_decompose_0 19 rfl rfl)
theorem dX5_decompose_22 : decode cX5_decompose 22 = .ok (.iconst 0, 1) := dk_3 (dk_at dksX5_decompose_0 22 rfl rfl)
theorem dX5_decompose_23 : decode cX5_decompose 23 = .ok (.ireturn, 1) := dk_172 (dk_at dksX5_decompose_0 23 rfl rfl)
abbrev cX5_element : ByteArray := prog_16_method_91_code
def yX5_element : MethodName := ⟨RX5, "element", "(II)I"⟩
def dkwX5_element_1 : List UInt8 := [182, 0, 147, 154, 0, 5, 3, 172, 42, 27, 182, 0, 172, 42, 28, 182, 1, 115, 172]
abbrev dktX5_element_1 : List UInt8 := dkwX5_element_1 ++ []
def dkwX5_element_0 : List UInt8 := [42, 28, 133, 9, 20, 1, 107, 184, 0, 135, 182, 0, 87, 153, 0, 16, 42, 42, 27, 182, 1, 112, 5]
abbrev dktX5_element_0 : List UInt8 := dkwX5_element_0 ++ dktX5_element_1
theorem dksX5_element_0 : cX5_element.data.toList.drop 0 = dktX5_element_0 := by decide +kernel
theorem dksX5_element_1 : cX5_element.data.toList.drop 23 = dktX5_element_1 := dk_seg dksX5_element_0 23 rfl rfl
theorem dX5_element_0 : decode cX5_element 0 = .ok (.aload_n 0, 1) := dk_42 (dk_at dksX5_element_0 0 rfl rfl)
theorem dX5_element_1 : decode cX5_element 1 = .ok (.iload_n 2, 1) := dk_28 (dk_at dksX5_element_0 1 rfl rfl)
theorem dX5_element_2 : decode cX5_element 2 = .ok (.i2l, 1) := dk_133 (dk_at dksX5_element_0 2 rfl rfl)
theorem dX5_element_3 : decode cX5_element 3 = .ok (.lconst 0, 1) := dk_9 (dk_at dksX5_element_0 3 rfl rfl)
theorem dX5_element_4 : decode cX5_element 4 = .ok (.ldc2_w 363, 3) := dk_20 1 107 (dk_at dksX5_element_0 4 rfl rfl)
theorem dX5_element_7 : decode cX5_element 7 = .ok (.invokestatic 135, 3) := dk_184 0 135 (dk_at dksX5_element_0 7 rfl rfl)
theorem dX5_element_10 : decode cX5_element 10 = .ok (.invokevirtual 87, 3) := dk_182 0 87 (dk_at dksX5_element_0 10 rfl rfl)
theorem dX5_element_13 : decode cX5_element 13 = .ok (.ifCond .eq 16, 3) := dk_153 0 16 (dk_at dksX5_element_0 13 rfl rfl)
theorem dX5_element_16 : decode cX5_element 16 = .ok (.aload_n 0, 1) := dk_42 (dk_at dksX5_element_0 16 rfl rfl)
theorem dX5_element_17 : decode cX5_element 17 = .ok (.aload_n 0, 1) := dk_42 (dk_at dksX5_element_0 17 rfl rfl)
theorem dX5_element_18 : decode cX5_element 18 = .ok (.iload_n 1, 1) := dk_27 (dk_at dksX5_element_0 18 rfl rfl)
theorem dX5_element_19 : decode cX5_element 19 = .ok (.invokevirtual 368, 3) := dk_182 1 112 (dk_at dksX5_element_0 19 rfl rfl)
theorem dX5_element_22 : decode cX5_element 22 = .ok (.iconst 2, 1) := dk_5 (dk_at dksX5_element_0 22 rfl rfl)
theorem dX5_element_23 : decode cX5_element 23 = .ok (.invokevirtual 147, 3) := dk_182 0 147 (dk_at dksX5_element_1 0 rfl rfl)
theorem dX5_element_26 : decode cX5_element 26 = .ok (.ifCond .ne 5, 3) := dk_154 0 5 (dk_at dksX5_element_1 3 rfl rfl)
theorem dX5_element_29 : decode cX5_element 29 = .ok (.iconst 0, 1) := dk_3 (dk_at dksX5_element_1 6 rfl rfl)
theorem dX5_element_30 : decode cX5_element 30 = .ok (.ireturn, 1) := dk_172 (dk_at dksX5_element_1 7 rfl rfl)
theorem dX5_element_31 : decode cX5_element 31 = .ok (.aload_n 0, 1) := dk_42 (dk_at dksX5_element_1 8 rfl rfl)
theorem dX5_element_32 : decode cX5_element 32 = .ok (.iload_n 1, 1) := dk_27 (dk_at dksX5_element_1 9 rfl rfl)
theorem dX5_element_33 : decode cX5_element 33 = .ok (.invokevirtual 172, 3) := dk_182 0 172 (dk_at dksX5_element_1 10 rfl rfl)
theorem dX5_element_36 : decode cX5_element 36 = .ok (.aload_n 0, 1) := dk_42 (dk_at dksX5_element_1 13 rfl rfl)
theorem dX5_element_37 : decode cX5_element 37 = .ok (.iload_n 2, 1) := dk_28 (dk_at dksX5_element_1 14 rfl rfl)
theorem dX5_element_38 : decode cX5_element 38 = .ok (.invokevirtual 371, 3) := dk_182 1 115 (dk_at dksX5_element_1 15 rfl rfl)
theorem dX5_element_41 : decode cX5_element 41 = .ok (.ireturn, 1) := dk_172 (dk_at dksX5_element_1 18 rfl rfl)
abbrev cX5_isSet : ByteArray := prog_16_method_90_code
def yX5_isSet : MethodName := ⟨RX5, "isSet", "(I)Z"⟩
def dkwX5_isSet_0 : List UInt8 := [27, 133, 9, 42, 182, 0, 169, 4, 100, 133, 184, 0, 135, 172]
abbrev dktX5_isSet_0 : List UInt8 := dkwX5_isSet_0 ++ []
theorem dksX5_isSet_0 : cX5_isSet.data.toList.drop 0 = dktX5_isSet_0 := by decide +kernel
theorem dX5_isSet_0 : decode cX5_isSet 0 = .ok (.iload_n 1, 1) := dk_27 (dk_at dksX5_isSet_0 0 rfl rfl)
theorem dX5_isSet_1 : decode cX5_isSet 1 = .ok (.i2l, 1) := dk_133 (dk_at dksX5_isSet_0 1 rfl rfl)
theorem dX5_isSet_2 : decode cX5_isSet 2 = .ok (.lconst 0, 1) := dk_9 (dk_at dksX5_isSet_0 2 rfl rfl)
theorem dX5_isSet_3 : decode cX5_isSet 3 = .ok (.aload_n 0, 1) := dk_42 (dk_at dksX5_isSet_0 3 rfl rfl)
theorem dX5_isSet_4 : decode cX5_isSet 4 = .ok (.invokevirtual 169, 3) := dk_182 0 169 (dk_at dksX5_isSet_0 4 rfl rfl)
theorem dX5_isSet_7 : decode cX5_isSet 7 = .ok (.iconst 1, 1) := dk_4 (dk_at dksX5_isSet_0 7 rfl rfl)
theorem dX5_isSet_8 : decode cX5_isSet 8 = .ok (.isub, 1) := dk_100 (dk_at dksX5_isSet_0 8 rfl rfl)
theorem dX5_isSet_9 : decode cX5_isSet 9 = .ok (.i2l, 1) := dk_133 (dk_at dksX5_isSet_0 9 rfl rfl)
theorem dX5_isSet_10 : decode cX5_isSet 10 = .ok (.invokestatic 135, 3) := dk_184 0 135 (dk_at dksX5_isSet_0 10 rfl rfl)
theorem dX5_isSet_13 : decode cX5_isSet 13 = .ok (.ireturn, 1) := dk_172 (dk_at dksX5_isSet_0 13 rfl rfl)
abbrev cX5_out : ByteArray := prog_16_method_89_code
def yX5_out : MethodName := ⟨RX5, "out", "(I)I"⟩
def dkwX5_out_1 : List UInt8 := [180, 0, 99, 167, 0, 7, 42, 180, 0, 102, 172]
abbrev dktX5_out_1 : List UInt8 := dkwX5_out_1 ++ []
def dkwX5_out_0 : List UInt8 := [27, 5, 160, 0, 17, 42, 180, 0, 105, 4, 160, 0, 7, 2, 167, 0, 4, 4, 172, 27, 154, 0, 10, 42]
abbrev dktX5_out_0 : List UInt8 := dkwX5_out_0 ++ dktX5_out_1
theorem dksX5_out_0 : cX5_out.data.toList.drop 0 = dktX5_out_0 := by decide +kernel
theorem dksX5_out_1 : cX5_out.data.toList.drop 24 = dktX5_out_1 := dk_seg dksX5_out_0 24 rfl rfl
theorem dX5_out_0 : decode cX5_out 0 = .ok (.iload_n 1, 1) := dk_27 (dk_at dksX5_out_0 0 rfl rfl)
theorem dX5_out_1 : decode cX5_out 1 = .ok (.iconst 2, 1) := dk_5 (dk_at dksX5_out_0 1 rfl rfl)
theorem dX5_out_2 : decode cX5_out 2 = .ok (.if_icmp .ne 17, 3) := dk_160 0 17 (dk_at dksX5_out_0 2 rfl rfl)
theorem dX5_out_5 : decode cX5_out 5 = .ok (.aload_n 0, 1) := dk_42 (dk_at dksX5_out_0 5 rfl rfl)
theorem dX5_out_6 : decode cX5_out 6 = .ok (.getfield 105, 3) := dk_180 0 105 (dk_at dksX5_out_0 6 rfl rfl)
theorem dX5_out_9 : decode cX5_out 9 = .ok (.iconst 1, 1) := dk_4 (dk_at dksX5_out_0 9 rfl rfl)
theorem dX5_out_10 : decode cX5_out 10 = .ok (.if_icmp .ne 7, 3) := dk_160 0 7 (dk_at dksX5_out_0 10 rfl rfl)
theorem dX5_out_13 : decode cX5_out 13 = .ok (.iconst (-1), 1) := dk_2 (dk_at dksX5_out_0 13 rfl rfl)
theorem dX5_out_14 : decode cX5_out 14 = .ok (.goto 4, 3) := dk_167 0 4 (dk_at dksX5_out_0 14 rfl rfl)
theorem dX5_out_17 : decode cX5_out 17 = .ok (.iconst 1, 1) := dk_4 (dk_at dksX5_out_0 17 rfl rfl)
theorem dX5_out_18 : decode cX5_out 18 = .ok (.ireturn, 1) := dk_172 (dk_at dksX5_out_0 18 rfl rfl)
theorem dX5_out_19 : decode cX5_out 19 = .ok (.iload_n 1, 1) := dk_27 (dk_at dksX5_out_0 19 rfl rfl)
theorem dX5_out_20 : decode cX5_out 20 = .ok (.ifCond .ne 10, 3) := dk_154 0 10 (dk_at dksX5_out_0 20 rfl rfl)
theorem dX5_out_23 : decode cX5_out 23 = .ok (.aload_n 0, 1) := dk_42 (dk_at dksX5_out_0 23 rfl rfl)
theorem dX5_out_24 : decode cX5_out 24 = .ok (.getfield 99, 3) := dk_180 0 99 (dk_at dksX5_out_1 0 rfl rfl)
theorem dX5_out_27 : decode cX5_out 27 = .ok (.goto 7, 3) := dk_167 0 7 (dk_at dksX5_out_1 3 rfl rfl)
theorem dX5_out_30 : decode cX5_out 30 = .ok (.aload_n 0, 1) := dk_42 (dk_at dksX5_out_1 6 rfl rfl)
theorem dX5_out_31 : decode cX5_out 31 = .ok (.getfield 102, 3) := dk_180 0 102 (dk_at dksX5_out_1 7 rfl rfl)
theorem dX5_out_34 : decode cX5_out 34 = .ok (.ireturn, 1) := dk_172 (dk_at dksX5_out_1 10 rfl rfl)
