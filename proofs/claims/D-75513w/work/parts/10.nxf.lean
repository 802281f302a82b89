/-! StringTableau$Parser -/
set_option maxRecDepth 100000
def RX6 : String := "StringTableau$Parser"
def TX6 : u_T := fun k => match k with
  | 0 => ("StringTableau$Parser", "operations", "Ljava/util/List;", true)
  | 1 => ("StringTableau$Parser", "next", "I", false)
  | 2 => ("StringTableau$Parser", "start", "I", false)
  | 3 => ("StringTableau$Parser", "kind", "I", false)
  | 4 => ("StringTableau$Parser", "value", "I", false)
  | 5 => ("StringTableau$Parser", "qubits", "I", false)
  | 6 => ("StringTableau$Parser", "seed", "I", false)
  | 7 => ("StringTableau$Parser", "measures", "I", false)
  | 8 => ("StringTableau$Parser", "hasSeed", "Z", false)
  | 9 => ("StringTableau$Parser", "word", "Ljava/lang/String;", false)
  | _ => ("StringTableau$Parser", "this$0", "LStringTableau;", true)
def tyX6 : Nat → FieldType := fun k => match k with
  | 0 => .object "java/util/List"
  | 1 => .int
  | 2 => .int
  | 3 => .int
  | 4 => .int
  | 5 => .int
  | 6 => .int
  | 7 => .int
  | 8 => .boolean
  | 9 => .object "java/lang/String"
  | _ => .object "StringTableau"
abbrev wsX60 : List Cond := u_ws RX6 TX6 11
theorem nmX6 : ∀ a, a < 11 → ∀ b, b < 11 → a ≠ b → (TX6 a).2.1 ≠ (TX6 b).2.1 := by decide +kernel
theorem tyX6_ok : ∀ k, k < 11 → parseFieldDescriptor (TX6 k).2.2.1 = some (tyX6 k) := by decide +kernel
abbrev cX6_init : ByteArray := prog_8_method_1_code
def yX6_init : MethodName := ⟨RX6, "<init>", "(LStringTableau;)V"⟩
def dkwX6_init_1 : List UInt8 := [181, 0, 24, 42, 182, 0, 28, 177]
abbrev dktX6_init_1 : List UInt8 := dkwX6_init_1 ++ []
def dkwX6_init_0 : List UInt8 := [42, 43, 181, 0, 3, 42, 183, 0, 9, 42, 187, 0, 15, 89, 183, 0, 17, 181, 0, 18, 42, 18, 22]
abbrev dktX6_init_0 : List UInt8 := dkwX6_init_0 ++ dktX6_init_1
theorem dksX6_init_0 : cX6_init.data.toList.drop 0 = dktX6_init_0 := by decide +kernel
theorem dksX6_init_1 : cX6_init.data.toList.drop 23 = dktX6_init_1 := dk_seg dksX6_init_0 23 rfl rfl
theorem dX6_init_0 : decode cX6_init 0 = .ok (.aload_n 0, 1) := dk_42 (dk_at dksX6_init_0 0 rfl rfl)
theorem dX6_init_1 : decode cX6_init 1 = .ok (.aload_n 1, 1) := dk_43 (dk_at dksX6_init_0 1 rfl rfl)
theorem dX6_init_2 : decode cX6_init 2 = .ok (.putfield 3, 3) := dk_181 0 3 (dk_at dksX6_init_0 2 rfl rfl)
theorem dX6_init_5 : decode cX6_init 5 = .ok (.aload_n 0, 1) := dk_42 (dk_at dksX6_init_0 5 rfl rfl)
theorem dX6_init_6 : decode cX6_init 6 = .ok (.invokespecial 9, 3) := dk_183 0 9 (dk_at dksX6_init_0 6 rfl rfl)
theorem dX6_init_9 : decode cX6_init 9 = .ok (.aload_n 0, 1) := dk_42 (dk_at dksX6_init_0 9 rfl rfl)
theorem dX6_init_10 : decode cX6_init 10 = .ok (.new 15, 3) := dk_187 0 15 (dk_at dksX6_init_0 10 rfl rfl)
theorem dX6_init_13 : decode cX6_init 13 = .ok (.dup, 1) := dk_89 (dk_at dksX6_init_0 13 rfl rfl)
theorem dX6_init_14 : decode cX6_init 14 = .ok (.invokespecial 17, 3) := dk_183 0 17 (dk_at dksX6_init_0 14 rfl rfl)
theorem dX6_init_17 : decode cX6_init 17 = .ok (.putfield 18, 3) := dk_181 0 18 (dk_at dksX6_init_0 17 rfl rfl)
theorem dX6_init_20 : decode cX6_init 20 = .ok (.aload_n 0, 1) := dk_42 (dk_at dksX6_init_0 20 rfl rfl)
theorem dX6_init_21 : decode cX6_init 21 = .ok (.ldc 22, 2) := dk_18 22 (dk_at dksX6_init_0 21 rfl rfl)
theorem dX6_init_23 : decode cX6_init 23 = .ok (.putfield 24, 3) := dk_181 0 24 (dk_at dksX6_init_1 0 rfl rfl)
theorem dX6_init_26 : decode cX6_init 26 = .ok (.aload_n 0, 1) := dk_42 (dk_at dksX6_init_1 3 rfl rfl)
theorem dX6_init_27 : decode cX6_init 27 = .ok (.invokevirtual 28, 3) := dk_182 0 28 (dk_at dksX6_init_1 4 rfl rfl)
theorem dX6_init_30 : decode cX6_init 30 = .ok (.return_, 1) := dk_177 (dk_at dksX6_init_1 7 rfl rfl)
abbrev cX6_advance : ByteArray := prog_8_method_4_code
def yX6_advance : MethodName := ⟨RX6, "advance", "()V"⟩
def dkwX6_advance_12 : List UInt8 := [16, 7, 181, 0, 67, 42, 89, 180, 0, 42, 4, 96, 181, 0, 42, 177]
abbrev dktX6_advance_12 : List UInt8 := dkwX6_advance_12 ++ []
def dkwX6_advance_11 : List UInt8 := [167, 0, 25, 27, 16, 43, 160, 0, 7, 7, 167, 0, 15, 27, 16, 45, 160, 0, 7, 8, 167, 0, 5]
abbrev dktX6_advance_11 : List UInt8 := dkwX6_advance_11 ++ dktX6_advance_12
def dkwX6_advance_10 : List UInt8 := [164, 0, 8, 16, 7, 167, 0, 4, 6, 181, 0, 67, 167, 0, 50, 42, 27, 16, 59, 160, 0, 8, 16, 6]
abbrev dktX6_advance_10 : List UInt8 := dkwX6_advance_10 ++ dktX6_advance_11
def dkwX6_advance_9 : List UInt8 := [180, 0, 42, 4, 96, 181, 0, 42, 167, 255, 192, 42, 42, 180, 0, 42, 42, 180, 0, 61, 100, 7]
abbrev dktX6_advance_9 : List UInt8 := dkwX6_advance_9 ++ dktX6_advance_10
def dkwX6_advance_8 : List UInt8 := [42, 180, 0, 64, 104, 42, 42, 180, 0, 42, 182, 0, 45, 96, 16, 48, 100, 181, 0, 64, 42, 89]
abbrev dktX6_advance_8 : List UInt8 := dkwX6_advance_8 ++ dktX6_advance_9
def dkwX6_advance_7 : List UInt8 := [16, 57, 184, 0, 49, 153, 0, 52, 42, 180, 0, 42, 42, 180, 0, 61, 100, 7, 162, 0, 26, 42, 16, 10]
abbrev dktX6_advance_7 : List UInt8 := dkwX6_advance_7 ++ dktX6_advance_8
def dkwX6_advance_6 : List UInt8 := [167, 0, 154, 27, 16, 48, 16, 57, 184, 0, 49, 153, 0, 96, 42, 42, 180, 0, 42, 182, 0, 45, 16, 48]
abbrev dktX6_advance_6 : List UInt8 := dkwX6_advance_6 ++ dktX6_advance_7
def dkwX6_advance_5 : List UInt8 := [184, 0, 49, 153, 0, 23, 42, 42, 16, 65, 16, 90, 182, 0, 70, 181, 0, 24, 42, 5, 181, 0, 67]
abbrev dktX6_advance_5 : List UInt8 := dkwX6_advance_5 ++ dktX6_advance_6
def dkwX6_advance_4 : List UInt8 := [16, 97, 16, 122, 182, 0, 70, 181, 0, 24, 42, 4, 181, 0, 67, 167, 0, 185, 27, 16, 65, 16, 90]
abbrev dktX6_advance_4 : List UInt8 := dkwX6_advance_4 ++ dktX6_advance_5
def dkwX6_advance_3 : List UInt8 := [160, 0, 11, 42, 3, 181, 0, 67, 167, 0, 216, 27, 16, 97, 16, 122, 184, 0, 49, 153, 0, 23, 42, 42]
abbrev dktX6_advance_3 : List UInt8 := dkwX6_advance_3 ++ dktX6_advance_4
def dkwX6_advance_2 : List UInt8 := [42, 42, 180, 0, 42, 182, 0, 45, 60, 42, 18, 22, 181, 0, 24, 42, 3, 181, 0, 64, 27, 2]
abbrev dktX6_advance_2 : List UInt8 := dkwX6_advance_2 ++ dktX6_advance_3
def dkwX6_advance_1 : List UInt8 := [160, 0, 16, 42, 89, 180, 0, 42, 4, 96, 181, 0, 42, 167, 255, 220, 42, 42, 180, 0, 42, 181, 0, 61]
abbrev dktX6_advance_1 : List UInt8 := dkwX6_advance_1 ++ dktX6_advance_2
def dkwX6_advance_0 : List UInt8 := [42, 42, 180, 0, 42, 182, 0, 45, 16, 32, 159, 0, 16, 42, 42, 180, 0, 42, 182, 0, 45, 16, 10]
abbrev dktX6_advance_0 : List UInt8 := dkwX6_advance_0 ++ dktX6_advance_1
theorem dksX6_advance_0 : cX6_advance.data.toList.drop 0 = dktX6_advance_0 := by decide +kernel
theorem dksX6_advance_1 : cX6_advance.data.toList.drop 23 = dktX6_advance_1 := dk_seg dksX6_advance_0 23 rfl rfl
theorem dksX6_advance_2 : cX6_advance.data.toList.drop 47 = dktX6_advance_2 := dk_seg dksX6_advance_1 24 rfl rfl
theorem dksX6_advance_3 : cX6_advance.data.toList.drop 69 = dktX6_advance_3 := dk_seg dksX6_advance_2 22 rfl rfl
theorem dksX6_advance_4 : cX6_advance.data.toList.drop 93 = dktX6_advance_4 := dk_seg dksX6_advance_3 24 rfl rfl
theorem dksX6_advance_5 : cX6_advance.data.toList.drop 116 = dktX6_advance_5 := dk_seg dksX6_advance_4 23 rfl rfl
theorem dksX6_advance_6 : cX6_advance.data.toList.drop 139 = dktX6_advance_6 := dk_seg dksX6_advance_5 23 rfl rfl
theorem dksX6_advance_7 : cX6_advance.data.toList.drop 163 = dktX6_advance_7 := dk_seg dksX6_advance_6 24 rfl rfl
theorem dksX6_advance_8 : cX6_advance.data.toList.drop 187 = dktX6_advance_8 := dk_seg dksX6_advance_7 24 rfl rfl
theorem dksX6_advance_9 : cX6_advance.data.toList.drop 209 = dktX6_advance_9 := dk_seg dksX6_advance_8 22 rfl rfl
theorem dksX6_advance_10 : cX6_advance.data.toList.drop 231 = dktX6_advance_10 := dk_seg dksX6_advance_9 22 rfl rfl
theorem dksX6_advance_11 : cX6_advance.data.toList.drop 255 = dktX6_advance_11 := dk_seg dksX6_advance_10 24 rfl rfl
theorem dksX6_advance_12 : cX6_advance.data.toList.drop 278 = dktX6_advance_12 := dk_seg dksX6_advance_11 23 rfl rfl
theorem dX6_advance_0 : decode cX6_advance 0 = .ok (.aload_n 0, 1) := dk_42 (dk_at dksX6_advance_0 0 rfl rfl)
theorem dX6_advance_1 : decode cX6_advance 1 = .ok (.aload_n 0, 1) := dk_42 (dk_at dksX6_advance_0 1 rfl rfl)
theorem dX6_advance_2 : decode cX6_advance 2 = .ok (.getfield 42, 3) := dk_180 0 42 (dk_at dksX6_advance_0 2 rfl rfl)
theorem dX6_advance_5 : decode cX6_advance 5 = .ok (.invokevirtual 45, 3) := dk_182 0 45 (dk_at dksX6_advance_0 5 rfl rfl)
theorem dX6_advance_8 : decode cX6_advance 8 = .ok (.bipush 32, 2) := dk_16 32 (dk_at dksX6_advance_0 8 rfl rfl)
theorem dX6_advance_10 : decode cX6_advance 10 = .ok (.if_icmp .eq 16, 3) := dk_159 0 16 (dk_at dksX6_advance_0 10 rfl rfl)
theorem dX6_advance_13 : decode cX6_advance 13 = .ok (.aload_n 0, 1) := dk_42 (dk_at dksX6_advance_0 13 rfl rfl)
theorem dX6_advance_14 : decode cX6_advance 14 = .ok (.aload_n 0, 1) := dk_42 (dk_at dksX6_advance_0 14 rfl rfl)
theorem dX6_advance_15 : decode cX6_advance 15 = .ok (.getfield 42, 3) := dk_180 0 42 (dk_at dksX6_advance_0 15 rfl rfl)
theorem dX6_advance_18 : decode cX6_advance 18 = .ok (.invokevirtual 45, 3) := dk_182 0 45 (dk_at dksX6_advance_0 18 rfl rfl)
theorem dX6_advance_21 : decode cX6_advance 21 = .ok (.bipush 10, 2) := dk_16 10 (dk_at dksX6_advance_0 21 rfl rfl)
theorem dX6_advance_23 : decode cX6_advance 23 = .ok (.if_icmp .ne 16, 3) := dk_160 0 16 (dk_at dksX6_advance_1 0 rfl rfl)
theorem dX6_advance_26 : decode cX6_advance 26 = .ok (.aload_n 0, 1) := dk_42 (dk_at dksX6_advance_1 3 rfl rfl)
theorem dX6_advance_27 : decode cX6_advance 27 = .ok (.dup, 1) := dk_89 (dk_at dksX6_advance_1 4 rfl rfl)
theorem dX6_advance_28 : decode cX6_advance 28 = .ok (.getfield 42, 3) := dk_180 0 42 (dk_at dksX6_advance_1 5 rfl rfl)
theorem dX6_advance_31 : decode cX6_advance 31 = .ok (.iconst 1, 1) := dk_4 (dk_at dksX6_advance_1 8 rfl rfl)
theorem dX6_advance_32 : decode cX6_advance 32 = .ok (.iadd, 1) := dk_96 (dk_at dksX6_advance_1 9 rfl rfl)
theorem dX6_advance_33 : decode cX6_advance 33 = .ok (.putfield 42, 3) := dk_181 0 42 (dk_at dksX6_advance_1 10 rfl rfl)
theorem dX6_advance_36 : decode cX6_advance 36 = .ok (.goto (-36), 3) := dk_167 255 220 (dk_at dksX6_advance_1 13 rfl rfl)
theorem dX6_advance_39 : decode cX6_advance 39 = .ok (.aload_n 0, 1) := dk_42 (dk_at dksX6_advance_1 16 rfl rfl)
theorem dX6_advance_40 : decode cX6_advance 40 = .ok (.aload_n 0, 1) := dk_42 (dk_at dksX6_advance_1 17 rfl rfl)
theorem dX6_advance_41 : decode cX6_advance 41 = .ok (.getfield 42, 3) := dk_180 0 42 (dk_at dksX6_advance_1 18 rfl rfl)
theorem dX6_advance_44 : decode cX6_advance 44 = .ok (.putfield 61, 3) := dk_181 0 61 (dk_at dksX6_advance_1 21 rfl rfl)
theorem dX6_advance_47 : decode cX6_advance 47 = .ok (.aload_n 0, 1) := dk_42 (dk_at dksX6_advance_2 0 rfl rfl)
theorem dX6_advance_48 : decode cX6_advance 48 = .ok (.aload_n 0, 1) := dk_42 (dk_at dksX6_advance_2 1 rfl rfl)
theorem dX6_advance_49 : decode cX6_advance 49 = .ok (.getfield 42, 3) := dk_180 0 42 (dk_at dksX6_advance_2 2 rfl rfl)
theorem dX6_advance_52 : decode cX6_advance 52 = .ok (.invokevirtual 45, 3) := dk_182 0 45 (dk_at dksX6_advance_2 5 rfl rfl)
theorem dX6_advance_55 : decode cX6_advance 55 = .ok (.istore_n 1, 1) := dk_60 (dk_at dksX6_advance_2 8 rfl rfl)
theorem dX6_advance_56 : decode cX6_advance 56 = .ok (.aload_n 0, 1) := dk_42 (dk_at dksX6_advance_2 9 rfl rfl)
theorem dX6_advance_57 : decode cX6_advance 57 = .ok (.ldc 22, 2) := dk_18 22 (dk_at dksX6_advance_2 10 rfl rfl)
theorem dX6_advance_59 : decode cX6_advance 59 = .ok (.putfield 24, 3) := dk_181 0 24 (dk_at dksX6_advance_2 12 rfl rfl)
theorem dX6_advance_62 : decode cX6_advance 62 = .ok (.aload_n 0, 1) := dk_42 (dk_at dksX6_advance_2 15 rfl rfl)
theorem dX6_advance_63 : decode cX6_advance 63 = .ok (.iconst 0, 1) := dk_3 (dk_at dksX6_advance_2 16 rfl rfl)
theorem dX6_advance_64 : decode cX6_advance 64 = .ok (.putfield 64, 3) := dk_181 0 64 (dk_at dksX6_advance_2 17 rfl rfl)
theorem dX6_advance_67 : decode cX6_advance 67 = .ok (.iload_n 1, 1) := dk_27 (dk_at dksX6_advance_2 20 rfl rfl)
theorem dX6_advance_68 : decode cX6_advance 68 = .ok (.iconst (-1), 1) := dk_2 (dk_at dksX6_advance_2 21 rfl rfl)
theorem dX6_advance_69 : decode cX6_advance 69 = .ok (.if_icmp .ne 11, 3) := dk_160 0 11 (dk_at dksX6_advance_3 0 rfl rfl)
theorem dX6_advance_72 : decode cX6_advance 72 = .ok (.aload_n 0, 1) := dk_42 (dk_at dksX6_advance_3 3 rfl rfl)
theorem dX6_advance_73 : decode cX6_advance 73 = .ok (.iconst 0, 1) := dk_3 (dk_at dksX6_advance_3 4 rfl rfl)
theorem dX6_advance_74 : decode cX6_advance 74 = .ok (.putfield 67, 3) := dk_181 0 67 (dk_at dksX6_advance_3 5 rfl rfl)
theorem dX6_advance_77 : decode cX6_advance 77 = .ok (.goto 216, 3) := dk_167 0 216 (dk_at dksX6_advance_3 8 rfl rfl)
theorem dX6_advance_80 : decode cX6_advance 80 = .ok (.iload_n 1, 1) := dk_27 (dk_at dksX6_advance_3 11 rfl rfl)
theorem dX6_advance_81 : decode cX6_advance 81 = .ok (.bipush 97, 2) := dk_16 97 (dk_at dksX6_advance_3 12 rfl rfl)
theorem dX6_advance_83 : decode cX6_advance 83 = .ok (.bipush 122, 2) := dk_16 122 (dk_at dksX6_advance_3 14 rfl rfl)
theorem dX6_advance_85 : decode cX6_advance 85 = .ok (.invokestatic 49, 3) := dk_184 0 49 (dk_at dksX6_advance_3 16 rfl rfl)
theorem dX6_advance_88 : decode cX6_advance 88 = .ok (.ifCond .eq 23, 3) := dk_153 0 23 (dk_at dksX6_advance_3 19 rfl rfl)
theorem dX6_advance_91 : decode cX6_advance 91 = .ok (.aload_n 0, 1) := dk_42 (dk_at dksX6_advance_3 22 rfl rfl)
theorem dX6_advance_92 : decode cX6_advance 92 = .ok (.aload_n 0, 1) := dk_42 (dk_at dksX6_advance_3 23 rfl rfl)
theorem dX6_advance_93 : decode cX6_advance 93 = .ok (.bipush 97, 2) := dk_16 97 (dk_at dksX6_advance_4 0 rfl rfl)
theorem dX6_advance_95 : decode cX6_advance 95 = .ok (.bipush 122, 2) := dk_16 122 (dk_at dksX6_advance_4 2 rfl rfl)
theorem dX6_advance_97 : decode cX6_advance 97 = .ok (.invokevirtual 70, 3) := dk_182 0 70 (dk_at dksX6_advance_4 4 rfl rfl)
theorem dX6_advance_100 : decode cX6_advance 100 = .ok (.putfield 24, 3) := dk_181 0 24 (dk_at dksX6_advance_4 7 rfl rfl)
theorem dX6_advance_103 : decode cX6_advance 103 = .ok (.aload_n 0, 1) := dk_42 (dk_at dksX6_advance_4 10 rfl rfl)
theorem dX6_advance_104 : decode cX6_advance 104 = .ok (.iconst 1, 1) := dk_4 (dk_at dksX6_advance_4 11 rfl rfl)
theorem dX6_advance_105 : decode cX6_advance 105 = .ok (.putfield 67, 3) := dk_181 0 67 (dk_at dksX6_advance_4 12 rfl rfl)
theorem dX6_advance_108 : decode cX6_advance 108 = .ok (.goto 185, 3) := dk_167 0 185 (dk_at dksX6_advance_4 15 rfl rfl)
theorem dX6_advance_111 : decode cX6_advance 111 = .ok (.iload_n 1, 1) := dk_27 (dk_at dksX6_advance_4 18 rfl rfl)
theorem dX6_advance_112 : decode cX6_advance 112 = .ok (.bipush 65, 2) := dk_16 65 (dk_at dksX6_advance_4 19 rfl rfl)
theorem dX6_advance_114 : decode cX6_advance 114 = .ok (.bipush 90, 2) := dk_16 90 (dk_at dksX6_advance_4 21 rfl rfl)
theorem dX6_advance_116 : decode cX6_advance 116 = .ok (.invokestatic 49, 3) := dk_184 0 49 (dk_at dksX6_advance_5 0 rfl rfl)
theorem dX6_advance_119 : decode cX6_advance 119 = .ok (.ifCond .eq 23, 3) := dk_153 0 23 (dk_at dksX6_advance_5 3 rfl rfl)
theorem dX6_advance_122 : decode cX6_advance 122 = .ok (.aload_n 0, 1) := dk_42 (dk_at dksX6_advance_5 6 rfl rfl)
theorem dX6_advance_123 : decode cX6_advance 123 = .ok (.aload_n 0, 1) := dk_42 (dk_at dksX6_advance_5 7 rfl rfl)
theorem dX6_advance_124 : decode cX6_advance 124 = .ok (.bipush 65, 2) := dk_16 65 (dk_at dksX6_advance_5 8 rfl rfl)
theorem dX6_advance_126 : decode cX6_advance 126 = .ok (.bipush 90, 2) := dk_16 90 (dk_at dksX6_advance_5 10 rfl rfl)
theorem dX6_advance_128 : decode cX6_advance 128 = .ok (.invokevirtual 70, 3) := dk_182 0 70 (dk_at dksX6_advance_5 12 rfl rfl)
theorem dX6_advance_131 : decode cX6_advance 131 = .ok (.putfield 24, 3) := dk_181 0 24 (dk_at dksX6_advance_5 15 rfl rfl)
theorem dX6_advance_134 : decode cX6_advance 134 = .ok (.aload_n 0, 1) := dk_42 (dk_at dksX6_advance_5 18 rfl rfl)
theorem dX6_advance_135 : decode cX6_advance 135 = .ok (.iconst 2, 1) := dk_5 (dk_at dksX6_advance_5 19 rfl rfl)
theorem dX6_advance_136 : decode cX6_advance 136 = .ok (.putfield 67, 3) := dk_181 0 67 (dk_at dksX6_advance_5 20 rfl rfl)
theorem dX6_advance_139 : decode cX6_advance 139 = .ok (.goto 154, 3) := dk_167 0 154 (dk_at dksX6_advance_6 0 rfl rfl)
theorem dX6_advance_142 : decode cX6_advance 142 = .ok (.iload_n 1, 1) := dk_27 (dk_at dksX6_advance_6 3 rfl rfl)
theorem dX6_advance_143 : decode cX6_advance 143 = .ok (.bipush 48, 2) := dk_16 48 (dk_at dksX6_advance_6 4 rfl rfl)
theorem dX6_advance_145 : decode cX6_advance 145 = .ok (.bipush 57, 2) := dk_16 57 (dk_at dksX6_advance_6 6 rfl rfl)
theorem dX6_advance_147 : decode cX6_advance 147 = .ok (.invokestatic 49, 3) := dk_184 0 49 (dk_at dksX6_advance_6 8 rfl rfl)
theorem dX6_advance_150 : decode cX6_advance 150 = .ok (.ifCond .eq 96, 3) := dk_153 0 96 (dk_at dksX6_advance_6 11 rfl rfl)
theorem dX6_advance_153 : decode cX6_advance 153 = .ok (.aload_n 0, 1) := dk_42 (dk_at dksX6_advance_6 14 rfl rfl)
theorem dX6_advance_154 : decode cX6_advance 154 = .ok (.aload_n 0, 1) := dk_42 (dk_at dksX6_advance_6 15 rfl rfl)
theorem dX6_advance_155 : decode cX6_advance 155 = .ok (.getfield 42, 3) := dk_180 0 42 (dk_at dksX6_advance_6 16 rfl rfl)
theorem dX6_advance_158 : decode cX6_advance 158 = .ok (.invokevirtual 45, 3) := dk_182 0 45 (dk_at dksX6_advance_6 19 rfl rfl)
theorem dX6_advance_161 : decode cX6_advance 161 = .ok (.bipush 48, 2) := dk_16 48 (dk_at dksX6_advance_6 22 rfl rfl)
theorem dX6_advance_163 : decode cX6_advance 163 = .ok (.bipush 57, 2) := dk_16 57 (dk_at dksX6_advance_7 0 rfl rfl)
theorem dX6_advance_165 : decode cX6_advance 165 = .ok (.invokestatic 49, 3) := dk_184 0 49 (dk_at dksX6_advance_7 2 rfl rfl)
theorem dX6_advance_168 : decode cX6_advance 168 = .ok (.ifCond .eq 52, 3) := dk_153 0 52 (dk_at dksX6_advance_7 5 rfl rfl)
theorem dX6_advance_171 : decode cX6_advance 171 = .ok (.aload_n 0, 1) := dk_42 (dk_at dksX6_advance_7 8 rfl rfl)
theorem dX6_advance_172 : decode cX6_advance 172 = .ok (.getfield 42, 3) := dk_180 0 42 (dk_at dksX6_advance_7 9 rfl rfl)
theorem dX6_advance_175 : decode cX6_advance 175 = .ok (.aload_n 0, 1) := dk_42 (dk_at dksX6_advance_7 12 rfl rfl)
theorem dX6_advance_176 : decode cX6_advance 176 = .ok (.getfield 61, 3) := dk_180 0 61 (dk_at dksX6_advance_7 13 rfl rfl)
theorem dX6_advance_179 : decode cX6_advance 179 = .ok (.isub, 1) := dk_100 (dk_at dksX6_advance_7 16 rfl rfl)
theorem dX6_advance_180 : decode cX6_advance 180 = .ok (.iconst 4, 1) := dk_7 (dk_at dksX6_advance_7 17 rfl rfl)
theorem dX6_advance_181 : decode cX6_advance 181 = .ok (.if_icmp .ge 26, 3) := dk_162 0 26 (dk_at dksX6_advance_7 18 rfl rfl)
theorem dX6_advance_184 : decode cX6_advance 184 = .ok (.aload_n 0, 1) := dk_42 (dk_at dksX6_advance_7 21 rfl rfl)
theorem dX6_advance_185 : decode cX6_advance 185 = .ok (.bipush 10, 2) := dk_16 10 (dk_at dksX6_advance_7 22 rfl rfl)
theorem dX6_advance_187 : decode cX6_advance 187 = .ok (.aload_n 0, 1) := dk_42 (dk_at dksX6_advance_8 0 rfl rfl)
theorem dX6_advance_188 : decode cX6_advance 188 = .ok (.getfield 64, 3) := dk_180 0 64 (dk_at dksX6_advance_8 1 rfl rfl)
theorem dX6_advance_191 : decode cX6_advance 191 = .ok (.imul, 1) := dk_104 (dk_at dksX6_advance_8 4 rfl rfl)
theorem dX6_advance_192 : decode cX6_advance 192 = .ok (.aload_n 0, 1) := dk_42 (dk_at dksX6_advance_8 5 rfl rfl)
theorem dX6_advance_193 : decode cX6_advance 193 = .ok (.aload_n 0, 1) := dk_42 (dk_at dksX6_advance_8 6 rfl rfl)
theorem dX6_advance_194 : decode cX6_advance 194 = .ok (.getfield 42, 3) := dk_180 0 42 (dk_at dksX6_advance_8 7 rfl rfl)
theorem dX6_advance_197 : decode cX6_advance 197 = .ok (.invokevirtual 45, 3) := dk_182 0 45 (dk_at dksX6_advance_8 10 rfl rfl)
theorem dX6_advance_200 : decode cX6_advance 200 = .ok (.iadd, 1) := dk_96 (dk_at dksX6_advance_8 13 rfl rfl)
theorem dX6_advance_201 : decode cX6_advance 201 = .ok (.bipush 48, 2) := dk_16 48 (dk_at dksX6_advance_8 14 rfl rfl)
theorem dX6_advance_203 : decode cX6_advance 203 = .ok (.isub, 1) := dk_100 (dk_at dksX6_advance_8 16 rfl rfl)
theorem dX6_advance_204 : decode cX6_advance 204 = .ok (.putfield 64, 3) := dk_181 0 64 (dk_at dksX6_advance_8 17 rfl rfl)
theorem dX6_advance_207 : decode cX6_advance 207 = .ok (.aload_n 0, 1) := dk_42 (dk_at dksX6_advance_8 20 rfl rfl)
theorem dX6_advance_208 : decode cX6_advance 208 = .ok (.dup, 1) := dk_89 (dk_at dksX6_advance_8 21 rfl rfl)
theorem dX6_advance_209 : decode cX6_advance 209 = .ok (.getfield 42, 3) := dk_180 0 42 (dk_at dksX6_advance_9 0 rfl rfl)
theorem dX6_advance_212 : decode cX6_advance 212 = .ok (.iconst 1, 1) := dk_4 (dk_at dksX6_advance_9 3 rfl rfl)
theorem dX6_advance_213 : decode cX6_advance 213 = .ok (.iadd, 1) := dk_96 (dk_at dksX6_advance_9 4 rfl rfl)
theorem dX6_advance_214 : decode cX6_advance 214 = .ok (.putfield 42, 3) := dk_181 0 42 (dk_at dksX6_advance_9 5 rfl rfl)
theorem dX6_advance_217 : decode cX6_advance 217 = .ok (.goto (-64), 3) := dk_167 255 192 (dk_at dksX6_advance_9 8 rfl rfl)
theorem dX6_advance_220 : decode cX6_advance 220 = .ok (.aload_n 0, 1) := dk_42 (dk_at dksX6_advance_9 11 rfl rfl)
theorem dX6_advance_221 : decode cX6_advance 221 = .ok (.aload_n 0, 1) := dk_42 (dk_at dksX6_advance_9 12 rfl rfl)
theorem dX6_advance_222 : decode cX6_advance 222 = .ok (.getfield 42, 3) := dk_180 0 42 (dk_at dksX6_advance_9 13 rfl rfl)
theorem dX6_advance_225 : decode cX6_advance 225 = .ok (.aload_n 0, 1) := dk_42 (dk_at dksX6_advance_9 16 rfl rfl)
theorem dX6_advance_226 : decode cX6_advance 226 = .ok (.getfield 61, 3) := dk_180 0 61 (dk_at dksX6_advance_9 17 rfl rfl)
theorem dX6_advance_229 : decode cX6_advance 229 = .ok (.isub, 1) := dk_100 (dk_at dksX6_advance_9 20 rfl rfl)
theorem dX6_advance_230 : decode cX6_advance 230 = .ok (.iconst 4, 1) := dk_7 (dk_at dksX6_advance_9 21 rfl rfl)
theorem dX6_advance_231 : decode cX6_advance 231 = .ok (.if_icmp .le 8, 3) := dk_164 0 8 (dk_at dksX6_advance_10 0 rfl rfl)
theorem dX6_advance_234 : decode cX6_advance 234 = .ok (.bipush 7, 2) := dk_16 7 (dk_at dksX6_advance_10 3 rfl rfl)
theorem dX6_advance_236 : decode cX6_advance 236 = .ok (.goto 4, 3) := dk_167 0 4 (dk_at dksX6_advance_10 5 rfl rfl)
theorem dX6_advance_239 : decode cX6_advance 239 = .ok (.iconst 3, 1) := dk_6 (dk_at dksX6_advance_10 8 rfl rfl)
theorem dX6_advance_240 : decode cX6_advance 240 = .ok (.putfield 67, 3) := dk_181 0 67 (dk_at dksX6_advance_10 9 rfl rfl)
theorem dX6_advance_243 : decode cX6_advance 243 = .ok (.goto 50, 3) := dk_167 0 50 (dk_at dksX6_advance_10 12 rfl rfl)
theorem dX6_advance_246 : decode cX6_advance 246 = .ok (.aload_n 0, 1) := dk_42 (dk_at dksX6_advance_10 15 rfl rfl)
theorem dX6_advance_247 : decode cX6_advance 247 = .ok (.iload_n 1, 1) := dk_27 (dk_at dksX6_advance_10 16 rfl rfl)
theorem dX6_advance_248 : decode cX6_advance 248 = .ok (.bipush 59, 2) := dk_16 59 (dk_at dksX6_advance_10 17 rfl rfl)
theorem dX6_advance_250 : decode cX6_advance 250 = .ok (.if_icmp .ne 8, 3) := dk_160 0 8 (dk_at dksX6_advance_10 19 rfl rfl)
theorem dX6_advance_253 : decode cX6_advance 253 = .ok (.bipush 6, 2) := dk_16 6 (dk_at dksX6_advance_10 22 rfl rfl)
theorem dX6_advance_255 : decode cX6_advance 255 = .ok (.goto 25, 3) := dk_167 0 25 (dk_at dksX6_advance_11 0 rfl rfl)
theorem dX6_advance_258 : decode cX6_advance 258 = .ok (.iload_n 1, 1) := dk_27 (dk_at dksX6_advance_11 3 rfl rfl)
theorem dX6_advance_259 : decode cX6_advance 259 = .ok (.bipush 43, 2) := dk_16 43 (dk_at dksX6_advance_11 4 rfl rfl)
theorem dX6_advance_261 : decode cX6_advance 261 = .ok (.if_icmp .ne 7, 3) := dk_160 0 7 (dk_at dksX6_advance_11 6 rfl rfl)
theorem dX6_advance_264 : decode cX6_advance 264 = .ok (.iconst 4, 1) := dk_7 (dk_at dksX6_advance_11 9 rfl rfl)
theorem dX6_advance_265 : decode cX6_advance 265 = .ok (.goto 15, 3) := dk_167 0 15 (dk_at dksX6_advance_11 10 rfl rfl)
theorem dX6_advance_268 : decode cX6_advance 268 = .ok (.iload_n 1, 1) := dk_27 (dk_at dksX6_advance_11 13 rfl rfl)
theorem dX6_advance_269 : decode cX6_advance 269 = .ok (.bipush 45, 2) := dk_16 45 (dk_at dksX6_advance_11 14 rfl rfl)
theorem dX6_advance_271 : decode cX6_advance 271 = .ok (.if_icmp .ne 7, 3) := dk_160 0 7 (dk_at dksX6_advance_11 16 rfl rfl)
theorem dX6_advance_274 : decode cX6_advance 274 = .ok (.iconst 5, 1) := dk_8 (dk_at dksX6_advance_11 19 rfl rfl)
theorem dX6_advance_275 : decode cX6_advance 275 = .ok (.goto 5, 3) := dk_167 0 5 (dk_at dksX6_advance_11 20 rfl rfl)
theorem dX6_advance_278 : decode cX6_advance 278 = .ok (.bipush 7, 2) := dk_16 7 (dk_at dksX6_advance_12 0 rfl rfl)
theorem dX6_advance_280 : decode cX6_advance 280 = .ok (.putfield 67, 3) := dk_181 0 67 (dk_at dksX6_advance_12 2 rfl rfl)
theorem dX6_advance_283 : decode cX6_advance 283 = .ok (.aload_n 0, 1) := dk_42 (dk_at dksX6_advance_12 5 rfl rfl)
theorem dX6_advance_284 : decode cX6_advance 284 = .ok (.dup, 1) := dk_89 (dk_at dksX6_advance_12 6 rfl rfl)
theorem dX6_advance_285 : decode cX6_advance 285 = .ok (.getfield 42, 3) := dk_180 0 42 (dk_at dksX6_advance_12 7 rfl rfl)
theorem dX6_advance_288 : decode cX6_advance 288 = .ok (.iconst 1, 1) := dk_4 (dk_at dksX6_advance_12 10 rfl rfl)
theorem dX6_advance_289 : decode cX6_advance 289 = .ok (.iadd, 1) := dk_96 (dk_at dksX6_advance_12 11 rfl rfl)
theorem dX6_advance_290 : decode cX6_advance 290 = .ok (.putfield 42, 3) := dk_181 0 42 (dk_at dksX6_advance_12 12 rfl rfl)
theorem dX6_advance_293 : decode cX6_advance 293 = .ok (.return_, 1) := dk_177 (dk_at dksX6_advance_12 15 rfl rfl)
abbrev cX6_byteAt : ByteArray := prog_8_method_2_code
def yX6_byteAt : MethodName := ⟨RX6, "byteAt", "(I)I"⟩
def dkwX6_byteAt_1 : List UInt8 := [167, 0, 4, 2, 172]
abbrev dktX6_byteAt_1 : List UInt8 := dkwX6_byteAt_1 ++ []
def dkwX6_byteAt_0 : List UInt8 := [27, 42, 180, 0, 3, 180, 0, 31, 162, 0, 19, 42, 180, 0, 3, 180, 0, 35, 27, 51, 17, 0, 255, 126]
abbrev dktX6_byteAt_0 : List UInt8 := dkwX6_byteAt_0 ++ dktX6_byteAt_1
theorem dksX6_byteAt_0 : cX6_byteAt.data.toList.drop 0 = dktX6_byteAt_0 := by decide +kernel
theorem dksX6_byteAt_1 : cX6_byteAt.data.toList.drop 24 = dktX6_byteAt_1 := dk_seg dksX6_byteAt_0 24 rfl rfl
theorem dX6_byteAt_0 : decode cX6_byteAt 0 = .ok (.iload_n 1, 1) := dk_27 (dk_at dksX6_byteAt_0 0 rfl rfl)
theorem dX6_byteAt_1 : decode cX6_byteAt 1 = .ok (.aload_n 0, 1) := dk_42 (dk_at dksX6_byteAt_0 1 rfl rfl)
theorem dX6_byteAt_2 : decode cX6_byteAt 2 = .ok (.getfield 3, 3) := dk_180 0 3 (dk_at dksX6_byteAt_0 2 rfl rfl)
theorem dX6_byteAt_5 : decode cX6_byteAt 5 = .ok (.getfield 31, 3) := dk_180 0 31 (dk_at dksX6_byteAt_0 5 rfl rfl)
theorem dX6_byteAt_8 : decode cX6_byteAt 8 = .ok (.if_icmp .ge 19, 3) := dk_162 0 19 (dk_at dksX6_byteAt_0 8 rfl rfl)
theorem dX6_byteAt_11 : decode cX6_byteAt 11 = .ok (.aload_n 0, 1) := dk_42 (dk_at dksX6_byteAt_0 11 rfl rfl)
theorem dX6_byteAt_12 : decode cX6_byteAt 12 = .ok (.getfield 3, 3) := dk_180 0 3 (dk_at dksX6_byteAt_0 12 rfl rfl)
theorem dX6_byteAt_15 : decode cX6_byteAt 15 = .ok (.getfield 35, 3) := dk_180 0 35 (dk_at dksX6_byteAt_0 15 rfl rfl)
theorem dX6_byteAt_18 : decode cX6_byteAt 18 = .ok (.iload_n 1, 1) := dk_27 (dk_at dksX6_byteAt_0 18 rfl rfl)
theorem dX6_byteAt_19 : decode cX6_byteAt 19 = .ok (.baload, 1) := dk_51 (dk_at dksX6_byteAt_0 19 rfl rfl)
theorem dX6_byteAt_20 : decode cX6_byteAt 20 = .ok (.sipush 255, 3) := dk_17 0 255 (dk_at dksX6_byteAt_0 20 rfl rfl)
theorem dX6_byteAt_23 : decode cX6_byteAt 23 = .ok (.iand, 1) := dk_126 (dk_at dksX6_byteAt_0 23 rfl rfl)
theorem dX6_byteAt_24 : decode cX6_byteAt 24 = .ok (.goto 4, 3) := dk_167 0 4 (dk_at dksX6_byteAt_1 0 rfl rfl)
theorem dX6_byteAt_27 : decode cX6_byteAt 27 = .ok (.iconst (-1), 1) := dk_2 (dk_at dksX6_byteAt_1 3 rfl rfl)
theorem dX6_byteAt_28 : decode cX6_byteAt 28 = .ok (.ireturn, 1) := dk_172 (dk_at dksX6_byteAt_1 4 rfl rfl)
abbrev cX6_letters : ByteArray := prog_8_method_3_code
def yX6_letters : MethodName := ⟨RX6, "letters", "(CC)Ljava/lang/String;"⟩
def dkwX6_letters_2 : List UInt8 := [167, 255, 216, 45, 182, 0, 57, 176]
abbrev dktX6_letters_2 : List UInt8 := dkwX6_letters_2 ++ []
def dkwX6_letters_1 : List UInt8 := [45, 42, 42, 180, 0, 42, 182, 0, 45, 146, 182, 0, 53, 87, 42, 89, 180, 0, 42, 4, 96, 181, 0, 42]
abbrev dktX6_letters_1 : List UInt8 := dkwX6_letters_1 ++ dktX6_letters_2
def dkwX6_letters_0 : List UInt8 := [187, 0, 39, 89, 183, 0, 41, 78, 42, 42, 180, 0, 42, 182, 0, 45, 27, 28, 184, 0, 49, 153, 0, 30]
abbrev dktX6_letters_0 : List UInt8 := dkwX6_letters_0 ++ dktX6_letters_1
theorem dksX6_letters_0 : cX6_letters.data.toList.drop 0 = dktX6_letters_0 := by decide +kernel
theorem dksX6_letters_1 : cX6_letters.data.toList.drop 24 = dktX6_letters_1 := dk_seg dksX6_letters_0 24 rfl rfl
theorem dksX6_letters_2 : cX6_letters.data.toList.drop 48 = dktX6_letters_2 := dk_seg dksX6_letters_1 24 rfl rfl
theorem dX6_letters_0 : decode cX6_letters 0 = .ok (.new 39, 3) := dk_187 0 39 (dk_at dksX6_letters_0 0 rfl rfl)
theorem dX6_letters_3 : decode cX6_letters 3 = .ok (.dup, 1) := dk_89 (dk_at dksX6_letters_0 3 rfl rfl)
theorem dX6_letters_4 : decode cX6_letters 4 = .ok (.invokespecial 41, 3) := dk_183 0 41 (dk_at dksX6_letters_0 4 rfl rfl)
theorem dX6_letters_7 : decode cX6_letters 7 = .ok (.astore_n 3, 1) := dk_78 (dk_at dksX6_letters_0 7 rfl rfl)
theorem dX6_letters_8 : decode cX6_letters 8 = .ok (.aload_n 0, 1) := dk_42 (dk_at dksX6_letters_0 8 rfl rfl)
theorem dX6_letters_9 : decode cX6_letters 9 = .ok (.aload_n 0, 1) := dk_42 (dk_at dksX6_letters_0 9 rfl rfl)
theorem dX6_letters_10 : decode cX6_letters 10 = .ok (.getfield 42, 3) := dk_180 0 42 (dk_at dksX6_letters_0 10 rfl rfl)
theorem dX6_letters_13 : decode cX6_letters 13 = .ok (.invokevirtual 45, 3) := dk_182 0 45 (dk_at dksX6_letters_0 13 rfl rfl)
theorem dX6_letters_16 : decode cX6_letters 16 = .ok (.iload_n 1, 1) := dk_27 (dk_at dksX6_letters_0 16 rfl rfl)
theorem dX6_letters_17 : decode cX6_letters 17 = .ok (.iload_n 2, 1) := dk_28 (dk_at dksX6_letters_0 17 rfl rfl)
theorem dX6_letters_18 : decode cX6_letters 18 = .ok (.invokestatic 49, 3) := dk_184 0 49 (dk_at dksX6_letters_0 18 rfl rfl)
theorem dX6_letters_21 : decode cX6_letters 21 = .ok (.ifCond .eq 30, 3) := dk_153 0 30 (dk_at dksX6_letters_0 21 rfl rfl)
theorem dX6_letters_24 : decode cX6_letters 24 = .ok (.aload_n 3, 1) := dk_45 (dk_at dksX6_letters_1 0 rfl rfl)
theorem dX6_letters_25 : decode cX6_letters 25 = .ok (.aload_n 0, 1) := dk_42 (dk_at dksX6_letters_1 1 rfl rfl)
theorem dX6_letters_26 : decode cX6_letters 26 = .ok (.aload_n 0, 1) := dk_42 (dk_at dksX6_letters_1 2 rfl rfl)
theorem dX6_letters_27 : decode cX6_letters 27 = .ok (.getfield 42, 3) := dk_180 0 42 (dk_at dksX6_letters_1 3 rfl rfl)
theorem dX6_letters_30 : decode cX6_letters 30 = .ok (.invokevirtual 45, 3) := dk_182 0 45 (dk_at dksX6_letters_1 6 rfl rfl)
theorem dX6_letters_33 : decode cX6_letters 33 = .ok (.i2c, 1) := dk_146 (dk_at dksX6_letters_1 9 rfl rfl)
theorem dX6_letters_34 : decode cX6_letters 34 = .ok (.invokevirtual 53, 3) := dk_182 0 53 (dk_at dksX6_letters_1 10 rfl rfl)
theorem dX6_letters_37 : decode cX6_letters 37 = .ok (.pop, 1) := dk_87 (dk_at dksX6_letters_1 13 rfl rfl)
theorem dX6_letters_38 : decode cX6_letters 38 = .ok (.aload_n 0, 1) := dk_42 (dk_at dksX6_letters_1 14 rfl rfl)
theorem dX6_letters_39 : decode cX6_letters 39 = .ok (.dup, 1) := dk_89 (dk_at dksX6_letters_1 15 rfl rfl)
theorem dX6_letters_40 : decode cX6_letters 40 = .ok (.getfield 42, 3) := dk_180 0 42 (dk_at dksX6_letters_1 16 rfl rfl)
theorem dX6_letters_43 : decode cX6_letters 43 = .ok (.iconst 1, 1) := dk_4 (dk_at dksX6_letters_1 19 rfl rfl)
theorem dX6_letters_44 : decode cX6_letters 44 = .ok (.iadd, 1) := dk_96 (dk_at dksX6_letters_1 20 rfl rfl)
theorem dX6_letters_45 : decode cX6_letters 45 = .ok (.putfield 42, 3) := dk_181 0 42 (dk_at dksX6_letters_1 21 rfl rfl)
theorem dX6_letters_48 : decode cX6_letters 48 = .ok (.goto (-40), 3) := dk_167 255 216 (dk_at dksX6_letters_2 0 rfl rfl)
theorem dX6_letters_51 : decode cX6_letters 51 = .ok (.aload_n 3, 1) := dk_45 (dk_at dksX6_letters_2 3 rfl rfl)
theorem dX6_letters_52 : decode cX6_letters 52 = .ok (.invokevirtual 57, 3) := dk_182 0 57 (dk_at dksX6_letters_2 4 rfl rfl)
theorem dX6_letters_55 : decode cX6_letters 55 = .ok (.areturn, 1) := dk_176 (dk_at dksX6_letters_2 7 rfl rfl)
abbrev cX6_parse : ByteArray := prog_8_method_17_code
def yX6_parse : MethodName := ⟨RX6, "parse", "()LStringTableau$State;"⟩
def dkwX6_parse_2 : List UInt8 := [167, 255, 241, 187, 0, 207, 89, 42, 180, 0, 118, 42, 180, 0, 198, 183, 0, 209, 176]
abbrev dktX6_parse_2 : List UInt8 := dkwX6_parse_2 ++ []
def dkwX6_parse_1 : List UInt8 := [181, 0, 118, 42, 182, 0, 201, 42, 180, 0, 67, 153, 0, 14, 42, 182, 0, 204, 42, 182, 0, 201]
abbrev dktX6_parse_1 : List UInt8 := dkwX6_parse_1 ++ dktX6_parse_2
def dkwX6_parse_0 : List UInt8 := [42, 18, 200, 182, 0, 164, 60, 42, 27, 4, 182, 0, 85, 42, 42, 4, 16, 8, 5, 182, 0, 121]
abbrev dktX6_parse_0 : List UInt8 := dkwX6_parse_0 ++ dktX6_parse_1
theorem dksX6_parse_0 : cX6_parse.data.toList.drop 0 = dktX6_parse_0 := by decide +kernel
theorem dksX6_parse_1 : cX6_parse.data.toList.drop 22 = dktX6_parse_1 := dk_seg dksX6_parse_0 22 rfl rfl
theorem dksX6_parse_2 : cX6_parse.data.toList.drop 44 = dktX6_parse_2 := dk_seg dksX6_parse_1 22 rfl rfl
theorem dX6_parse_0 : decode cX6_parse 0 = .ok (.aload_n 0, 1) := dk_42 (dk_at dksX6_parse_0 0 rfl rfl)
theorem dX6_parse_1 : decode cX6_parse 1 = .ok (.ldc 200, 2) := dk_18 200 (dk_at dksX6_parse_0 1 rfl rfl)
theorem dX6_parse_3 : decode cX6_parse 3 = .ok (.invokevirtual 164, 3) := dk_182 0 164 (dk_at dksX6_parse_0 3 rfl rfl)
theorem dX6_parse_6 : decode cX6_parse 6 = .ok (.istore_n 1, 1) := dk_60 (dk_at dksX6_parse_0 6 rfl rfl)
theorem dX6_parse_7 : decode cX6_parse 7 = .ok (.aload_n 0, 1) := dk_42 (dk_at dksX6_parse_0 7 rfl rfl)
theorem dX6_parse_8 : decode cX6_parse 8 = .ok (.iload_n 1, 1) := dk_27 (dk_at dksX6_parse_0 8 rfl rfl)
theorem dX6_parse_9 : decode cX6_parse 9 = .ok (.iconst 1, 1) := dk_4 (dk_at dksX6_parse_0 9 rfl rfl)
theorem dX6_parse_10 : decode cX6_parse 10 = .ok (.invokevirtual 85, 3) := dk_182 0 85 (dk_at dksX6_parse_0 10 rfl rfl)
theorem dX6_parse_13 : decode cX6_parse 13 = .ok (.aload_n 0, 1) := dk_42 (dk_at dksX6_parse_0 13 rfl rfl)
theorem dX6_parse_14 : decode cX6_parse 14 = .ok (.aload_n 0, 1) := dk_42 (dk_at dksX6_parse_0 14 rfl rfl)
theorem dX6_parse_15 : decode cX6_parse 15 = .ok (.iconst 1, 1) := dk_4 (dk_at dksX6_parse_0 15 rfl rfl)
theorem dX6_parse_16 : decode cX6_parse 16 = .ok (.bipush 8, 2) := dk_16 8 (dk_at dksX6_parse_0 16 rfl rfl)
theorem dX6_parse_18 : decode cX6_parse 18 = .ok (.iconst 2, 1) := dk_5 (dk_at dksX6_parse_0 18 rfl rfl)
theorem dX6_parse_19 : decode cX6_parse 19 = .ok (.invokevirtual 121, 3) := dk_182 0 121 (dk_at dksX6_parse_0 19 rfl rfl)
theorem dX6_parse_22 : decode cX6_parse 22 = .ok (.putfield 118, 3) := dk_181 0 118 (dk_at dksX6_parse_1 0 rfl rfl)
theorem dX6_parse_25 : decode cX6_parse 25 = .ok (.aload_n 0, 1) := dk_42 (dk_at dksX6_parse_1 3 rfl rfl)
theorem dX6_parse_26 : decode cX6_parse 26 = .ok (.invokevirtual 201, 3) := dk_182 0 201 (dk_at dksX6_parse_1 4 rfl rfl)
theorem dX6_parse_29 : decode cX6_parse 29 = .ok (.aload_n 0, 1) := dk_42 (dk_at dksX6_parse_1 7 rfl rfl)
theorem dX6_parse_30 : decode cX6_parse 30 = .ok (.getfield 67, 3) := dk_180 0 67 (dk_at dksX6_parse_1 8 rfl rfl)
theorem dX6_parse_33 : decode cX6_parse 33 = .ok (.ifCond .eq 14, 3) := dk_153 0 14 (dk_at dksX6_parse_1 11 rfl rfl)
theorem dX6_parse_36 : decode cX6_parse 36 = .ok (.aload_n 0, 1) := dk_42 (dk_at dksX6_parse_1 14 rfl rfl)
theorem dX6_parse_37 : decode cX6_parse 37 = .ok (.invokevirtual 204, 3) := dk_182 0 204 (dk_at dksX6_parse_1 15 rfl rfl)
theorem dX6_parse_40 : decode cX6_parse 40 = .ok (.aload_n 0, 1) := dk_42 (dk_at dksX6_parse_1 18 rfl rfl)
theorem dX6_parse_41 : decode cX6_parse 41 = .ok (.invokevirtual 201, 3) := dk_182 0 201 (dk_at dksX6_parse_1 19 rfl rfl)
theorem dX6_parse_44 : decode cX6_parse 44 = .ok (.goto (-15), 3) := dk_167 255 241 (dk_at dksX6_parse_2 0 rfl rfl)
theorem dX6_parse_47 : decode cX6_parse 47 = .ok (.new 207, 3) := dk_187 0 207 (dk_at dksX6_parse_2 3 rfl rfl)
theorem dX6_parse_50 : decode cX6_parse 50 = .ok (.dup, 1) := dk_89 (dk_at dksX6_parse_2 6 rfl rfl)
theorem dX6_parse_51 : decode cX6_parse 51 = .ok (.aload_n 0, 1) := dk_42 (dk_at dksX6_parse_2 7 rfl rfl)
theorem dX6_parse_52 : decode cX6_parse 52 = .ok (.getfield 118, 3) := dk_180 0 118 (dk_at dksX6_parse_2 8 rfl rfl)
theorem dX6_parse_55 : decode cX6_parse 55 = .ok (.aload_n 0, 1) := dk_42 (dk_at dksX6_parse_2 11 rfl rfl)
theorem dX6_parse_56 : decode cX6_parse 56 = .ok (.getfield 198, 3) := dk_180 0 198 (dk_at dksX6_parse_2 12 rfl rfl)
theorem dX6_parse_59 : decode cX6_parse 59 = .ok (.invokespecial 209, 3) := dk_183 0 209 (dk_at dksX6_parse_2 15 rfl rfl)
theorem dX6_parse_62 : decode cX6_parse 62 = .ok (.areturn, 1) := dk_176 (dk_at dksX6_parse_2 18 rfl rfl)
abbrev cX6_accept : ByteArray := prog_8_method_6_code
def yX6_accept : MethodName := ⟨RX6, "accept", "(Ljava/lang/String;)Z"⟩
def dkwX6_accept_1 : List UInt8 := [61, 28, 153, 0, 7, 42, 182, 0, 28, 28, 172]
abbrev dktX6_accept_1 : List UInt8 := dkwX6_accept_1 ++ []
def dkwX6_accept_0 : List UInt8 := [42, 180, 0, 67, 4, 160, 0, 18, 42, 180, 0, 24, 43, 182, 0, 79, 153, 0, 7, 4, 167, 0, 4, 3]
abbrev dktX6_accept_0 : List UInt8 := dkwX6_accept_0 ++ dktX6_accept_1
theorem dksX6_accept_0 : cX6_accept.data.toList.drop 0 = dktX6_accept_0 := by decide +kernel
theorem dksX6_accept_1 : cX6_accept.data.toList.drop 24 = dktX6_accept_1 := dk_seg dksX6_accept_0 24 rfl rfl
theorem dX6_accept_0 : decode cX6_accept 0 = .ok (.aload_n 0, 1) := dk_42 (dk_at dksX6_accept_0 0 rfl rfl)
theorem dX6_accept_1 : decode cX6_accept 1 = .ok (.getfield 67, 3) := dk_180 0 67 (dk_at dksX6_accept_0 1 rfl rfl)
theorem dX6_accept_4 : decode cX6_accept 4 = .ok (.iconst 1, 1) := dk_4 (dk_at dksX6_accept_0 4 rfl rfl)
theorem dX6_accept_5 : decode cX6_accept 5 = .ok (.if_icmp .ne 18, 3) := dk_160 0 18 (dk_at dksX6_accept_0 5 rfl rfl)
theorem dX6_accept_8 : decode cX6_accept 8 = .ok (.aload_n 0, 1) := dk_42 (dk_at dksX6_accept_0 8 rfl rfl)
theorem dX6_accept_9 : decode cX6_accept 9 = .ok (.getfield 24, 3) := dk_180 0 24 (dk_at dksX6_accept_0 9 rfl rfl)
theorem dX6_accept_12 : decode cX6_accept 12 = .ok (.aload_n 1, 1) := dk_43 (dk_at dksX6_accept_0 12 rfl rfl)
theorem dX6_accept_13 : decode cX6_accept 13 = .ok (.invokevirtual 79, 3) := dk_182 0 79 (dk_at dksX6_accept_0 13 rfl rfl)
theorem dX6_accept_16 : decode cX6_accept 16 = .ok (.ifCond .eq 7, 3) := dk_153 0 7 (dk_at dksX6_accept_0 16 rfl rfl)
theorem dX6_accept_19 : decode cX6_accept 19 = .ok (.iconst 1, 1) := dk_4 (dk_at dksX6_accept_0 19 rfl rfl)
theorem dX6_accept_20 : decode cX6_accept 20 = .ok (.goto 4, 3) := dk_167 0 4 (dk_at dksX6_accept_0 20 rfl rfl)
theorem dX6_accept_23 : decode cX6_accept 23 = .ok (.iconst 0, 1) := dk_3 (dk_at dksX6_accept_0 23 rfl rfl)
theorem dX6_accept_24 : decode cX6_accept 24 = .ok (.istore_n 2, 1) := dk_61 (dk_at dksX6_accept_1 0 rfl rfl)
theorem dX6_accept_25 : decode cX6_accept 25 = .ok (.iload_n 2, 1) := dk_28 (dk_at dksX6_accept_1 1 rfl rfl)
theorem dX6_accept_26 : decode cX6_accept 26 = .ok (.ifCond .eq 7, 3) := dk_153 0 7 (dk_at dksX6_accept_1 2 rfl rfl)
theorem dX6_accept_29 : decode cX6_accept 29 = .ok (.aload_n 0, 1) := dk_42 (dk_at dksX6_accept_1 5 rfl rfl)
theorem dX6_accept_30 : decode cX6_accept 30 = .ok (.invokevirtual 28, 3) := dk_182 0 28 (dk_at dksX6_accept_1 6 rfl rfl)
theorem dX6_accept_33 : decode cX6_accept 33 = .ok (.iload_n 2, 1) := dk_28 (dk_at dksX6_accept_1 9 rfl rfl)
theorem dX6_accept_34 : decode cX6_accept 34 = .ok (.ireturn, 1) := dk_172 (dk_at dksX6_accept_1 10 rfl rfl)
abbrev cX6_require : ByteArray := prog_8_method_5_code
def yX6_require : MethodName := ⟨RX6, "require", "(ZI)V"⟩
def dkwX6_require_0 : List UInt8 := [27, 154, 0, 16, 187, 0, 74, 89, 28, 42, 180, 0, 61, 183, 0, 76, 191, 177]
abbrev dktX6_require_0 : List UInt8 := dkwX6_require_0 ++ []
theorem dksX6_require_0 : cX6_require.data.toList.drop 0 = dktX6_require_0 := by decide +kernel
theorem dX6_require_0 : decode cX6_require 0 = .ok (.iload_n 1, 1) := dk_27 (dk_at dksX6_require_0 0 rfl rfl)
theorem dX6_require_1 : decode cX6_require 1 = .ok (.ifCond .ne 16, 3) := dk_154 0 16 (dk_at dksX6_require_0 1 rfl rfl)
theorem dX6_require_4 : decode cX6_require 4 = .ok (.new 74, 3) := dk_187 0 74 (dk_at dksX6_require_0 4 rfl rfl)
theorem dX6_require_7 : decode cX6_require 7 = .ok (.dup, 1) := dk_89 (dk_at dksX6_require_0 7 rfl rfl)
theorem dX6_require_8 : decode cX6_require 8 = .ok (.iload_n 2, 1) := dk_28 (dk_at dksX6_require_0 8 rfl rfl)
theorem dX6_require_9 : decode cX6_require 9 = .ok (.aload_n 0, 1) := dk_42 (dk_at dksX6_require_0 9 rfl rfl)
theorem dX6_require_10 : decode cX6_require 10 = .ok (.getfield 61, 3) := dk_180 0 61 (dk_at dksX6_require_0 10 rfl rfl)
theorem dX6_require_13 : decode cX6_require 13 = .ok (.invokespecial 76, 3) := dk_183 0 76 (dk_at dksX6_require_0 13 rfl rfl)
theorem dX6_require_16 : decode cX6_require 16 = .ok (.athrow, 1) := dk_191 (dk_at dksX6_require_0 16 rfl rfl)
theorem dX6_require_17 : decode cX6_require 17 = .ok (.return_, 1) := dk_177 (dk_at dksX6_require_0 17 rfl rfl)
abbrev cX6_number : ByteArray := prog_8_method_7_code
def yX6_number : MethodName := ⟨RX6, "number", "(III)I"⟩
def dkwX6_number_1 : List UInt8 := [28, 184, 0, 49, 29, 182, 0, 85, 42, 180, 0, 64, 54, 4, 42, 182, 0, 28, 21, 4, 172]
abbrev dktX6_number_1 : List UInt8 := dkwX6_number_1 ++ []
def dkwX6_number_0 : List UInt8 := [42, 42, 180, 0, 67, 6, 160, 0, 7, 4, 167, 0, 4, 3, 4, 182, 0, 85, 42, 42, 180, 0, 64, 27]
abbrev dktX6_number_0 : List UInt8 := dkwX6_number_0 ++ dktX6_number_1
theorem dksX6_number_0 : cX6_number.data.toList.drop 0 = dktX6_number_0 := by decide +kernel
theorem dksX6_number_1 : cX6_number.data.toList.drop 24 = dktX6_number_1 := dk_seg dksX6_number_0 24 rfl rfl
theorem dX6_number_0 : decode cX6_number 0 = .ok (.aload_n 0, 1) := dk_42 (dk_at dksX6_number_0 0 rfl rfl)
theorem dX6_number_1 : decode cX6_number 1 = .ok (.aload_n 0, 1) := dk_42 (dk_at dksX6_number_0 1 rfl rfl)
theorem dX6_number_2 : decode cX6_number 2 = .ok (.getfield 67, 3) := dk_180 0 67 (dk_at dksX6_number_0 2 rfl rfl)
theorem dX6_number_5 : decode cX6_number 5 = .ok (.iconst 3, 1) := dk_6 (dk_at dksX6_number_0 5 rfl rfl)
theorem dX6_number_6 : decode cX6_number 6 = .ok (.if_icmp .ne 7, 3) := dk_160 0 7 (dk_at dksX6_number_0 6 rfl rfl)
theorem dX6_number_9 : decode cX6_number 9 = .ok (.iconst 1, 1) := dk_4 (dk_at dksX6_number_0 9 rfl rfl)
theorem dX6_number_10 : decode cX6_number 10 = .ok (.goto 4, 3) := dk_167 0 4 (dk_at dksX6_number_0 10 rfl rfl)
theorem dX6_number_13 : decode cX6_number 13 = .ok (.iconst 0, 1) := dk_3 (dk_at dksX6_number_0 13 rfl rfl)
theorem dX6_number_14 : decode cX6_number 14 = .ok (.iconst 1, 1) := dk_4 (dk_at dksX6_number_0 14 rfl rfl)
theorem dX6_number_15 : decode cX6_number 15 = .ok (.invokevirtual 85, 3) := dk_182 0 85 (dk_at dksX6_number_0 15 rfl rfl)
theorem dX6_number_18 : decode cX6_number 18 = .ok (.aload_n 0, 1) := dk_42 (dk_at dksX6_number_0 18 rfl rfl)
theorem dX6_number_19 : decode cX6_number 19 = .ok (.aload_n 0, 1) := dk_42 (dk_at dksX6_number_0 19 rfl rfl)
theorem dX6_number_20 : decode cX6_number 20 = .ok (.getfield 64, 3) := dk_180 0 64 (dk_at dksX6_number_0 20 rfl rfl)
theorem dX6_number_23 : decode cX6_number 23 = .ok (.iload_n 1, 1) := dk_27 (dk_at dksX6_number_0 23 rfl rfl)
theorem dX6_number_24 : decode cX6_number 24 = .ok (.iload_n 2, 1) := dk_28 (dk_at dksX6_number_1 0 rfl rfl)
theorem dX6_number_25 : decode cX6_number 25 = .ok (.invokestatic 49, 3) := dk_184 0 49 (dk_at dksX6_number_1 1 rfl rfl)
theorem dX6_number_28 : decode cX6_number 28 = .ok (.iload_n 3, 1) := dk_29 (dk_at dksX6_number_1 4 rfl rfl)
theorem dX6_number_29 : decode cX6_number 29 = .ok (.invokevirtual 85, 3) := dk_182 0 85 (dk_at dksX6_number_1 5 rfl rfl)
theorem dX6_number_32 : decode cX6_number 32 = .ok (.aload_n 0, 1) := dk_42 (dk_at dksX6_number_1 8 rfl rfl)
theorem dX6_number_33 : decode cX6_number 33 = .ok (.getfield 64, 3) := dk_180 0 64 (dk_at dksX6_number_1 9 rfl rfl)
theorem dX6_number_36 : decode cX6_number 36 = .ok (.istore 4, 2) := dk_54 4 (dk_at dksX6_number_1 12 rfl rfl)
theorem dX6_number_38 : decode cX6_number 38 = .ok (.aload_n 0, 1) := dk_42 (dk_at dksX6_number_1 14 rfl rfl)
theorem dX6_number_39 : decode cX6_number 39 = .ok (.invokevirtual 28, 3) := dk_182 0 28 (dk_at dksX6_number_1 15 rfl rfl)
theorem dX6_number_42 : decode cX6_number 42 = .ok (.iload 4, 2) := dk_21 4 (dk_at dksX6_number_1 18 rfl rfl)
theorem dX6_number_44 : decode cX6_number 44 = .ok (.ireturn, 1) := dk_172 (dk_at dksX6_number_1 20 rfl rfl)
abbrev cX6_end : ByteArray := prog_8_method_16_code
def yX6_end : MethodName := ⟨RX6, "end", "()V"⟩
def dkwX6_end_0 : List UInt8 := [42, 42, 180, 0, 67, 16, 6, 160, 0, 7, 4, 167, 0, 4, 3, 4, 182, 0, 85, 42, 182, 0, 28, 177]
abbrev dktX6_end_0 : List UInt8 := dkwX6_end_0 ++ []
theorem dksX6_end_0 : cX6_end.data.toList.drop 0 = dktX6_end_0 := by decide +kernel
theorem dX6_end_0 : decode cX6_end 0 = .ok (.aload_n 0, 1) := dk_42 (dk_at dksX6_end_0 0 rfl rfl)
theorem dX6_end_1 : decode cX6_end 1 = .ok (.aload_n 0, 1) := dk_42 (dk_at dksX6_end_0 1 rfl rfl)
theorem dX6_end_2 : decode cX6_end 2 = .ok (.getfield 67, 3) := dk_180 0 67 (dk_at dksX6_end_0 2 rfl rfl)
theorem dX6_end_5 : decode cX6_end 5 = .ok (.bipush 6, 2) := dk_16 6 (dk_at dksX6_end_0 5 rfl rfl)
theorem dX6_end_7 : decode cX6_end 7 = .ok (.if_icmp .ne 7, 3) := dk_160 0 7 (dk_at dksX6_end_0 7 rfl rfl)
theorem dX6_end_10 : decode cX6_end 10 = .ok (.iconst 1, 1) := dk_4 (dk_at dksX6_end_0 10 rfl rfl)
theorem dX6_end_11 : decode cX6_end 11 = .ok (.goto 4, 3) := dk_167 0 4 (dk_at dksX6_end_0 11 rfl rfl)
theorem dX6_end_14 : decode cX6_end 14 = .ok (.iconst 0, 1) := dk_3 (dk_at dksX6_end_0 14 rfl rfl)
theorem dX6_end_15 : decode cX6_end 15 = .ok (.iconst 1, 1) := dk_4 (dk_at dksX6_end_0 15 rfl rfl)
theorem dX6_end_16 : decode cX6_end 16 = .ok (.invokevirtual 85, 3) := dk_182 0 85 (dk_at dksX6_end_0 16 rfl rfl)
theorem dX6_end_19 : decode cX6_end 19 = .ok (.aload_n 0, 1) := dk_42 (dk_at dksX6_end_0 19 rfl rfl)
theorem dX6_end_20 : decode cX6_end 20 = .ok (.invokevirtual 28, 3) := dk_182 0 28 (dk_at dksX6_end_0 20 rfl rfl)
theorem dX6_end_23 : decode cX6_end 23 = .ok (.return_, 1) := dk_177 (dk_at dksX6_end_0 23 rfl rfl)
abbrev cX6_statement : ByteArray := prog_8_method_15_code
def yX6_statement : MethodName := ⟨RX6, "statement", "()V"⟩
def dkwX6_statement_2 : List UInt8 := [17, 39, 15, 5, 182, 0, 121, 181, 0, 198, 177]
abbrev dktX6_statement_2 : List UInt8 := dkwX6_statement_2 ++ []
def dkwX6_statement_1 : List UInt8 := [154, 0, 7, 4, 167, 0, 4, 3, 6, 182, 0, 85, 42, 4, 181, 0, 194, 42, 182, 0, 28, 42, 42, 3]
abbrev dktX6_statement_1 : List UInt8 := dkwX6_statement_1 ++ dktX6_statement_2
def dkwX6_statement_0 : List UInt8 := [42, 180, 0, 24, 18, 189, 182, 0, 79, 154, 0, 8, 42, 182, 0, 191, 177, 42, 42, 180, 0, 194]
abbrev dktX6_statement_0 : List UInt8 := dkwX6_statement_0 ++ dktX6_statement_1
theorem dksX6_statement_0 : cX6_statement.data.toList.drop 0 = dktX6_statement_0 := by decide +kernel
theorem dksX6_statement_1 : cX6_statement.data.toList.drop 22 = dktX6_statement_1 := dk_seg dksX6_statement_0 22 rfl rfl
theorem dksX6_statement_2 : cX6_statement.data.toList.drop 46 = dktX6_statement_2 := dk_seg dksX6_statement_1 24 rfl rfl
theorem dX6_statement_0 : decode cX6_statement 0 = .ok (.aload_n 0, 1) := dk_42 (dk_at dksX6_statement_0 0 rfl rfl)
theorem dX6_statement_1 : decode cX6_statement 1 = .ok (.getfield 24, 3) := dk_180 0 24 (dk_at dksX6_statement_0 1 rfl rfl)
theorem dX6_statement_4 : decode cX6_statement 4 = .ok (.ldc 189, 2) := dk_18 189 (dk_at dksX6_statement_0 4 rfl rfl)
theorem dX6_statement_6 : decode cX6_statement 6 = .ok (.invokevirtual 79, 3) := dk_182 0 79 (dk_at dksX6_statement_0 6 rfl rfl)
theorem dX6_statement_9 : decode cX6_statement 9 = .ok (.ifCond .ne 8, 3) := dk_154 0 8 (dk_at dksX6_statement_0 9 rfl rfl)
theorem dX6_statement_12 : decode cX6_statement 12 = .ok (.aload_n 0, 1) := dk_42 (dk_at dksX6_statement_0 12 rfl rfl)
theorem dX6_statement_13 : decode cX6_statement 13 = .ok (.invokevirtual 191, 3) := dk_182 0 191 (dk_at dksX6_statement_0 13 rfl rfl)
theorem dX6_statement_16 : decode cX6_statement 16 = .ok (.return_, 1) := dk_177 (dk_at dksX6_statement_0 16 rfl rfl)
theorem dX6_statement_17 : decode cX6_statement 17 = .ok (.aload_n 0, 1) := dk_42 (dk_at dksX6_statement_0 17 rfl rfl)
theorem dX6_statement_18 : decode cX6_statement 18 = .ok (.aload_n 0, 1) := dk_42 (dk_at dksX6_statement_0 18 rfl rfl)
theorem dX6_statement_19 : decode cX6_statement 19 = .ok (.getfield 194, 3) := dk_180 0 194 (dk_at dksX6_statement_0 19 rfl rfl)
theorem dX6_statement_22 : decode cX6_statement 22 = .ok (.ifCond .ne 7, 3) := dk_154 0 7 (dk_at dksX6_statement_1 0 rfl rfl)
theorem dX6_statement_25 : decode cX6_statement 25 = .ok (.iconst 1, 1) := dk_4 (dk_at dksX6_statement_1 3 rfl rfl)
theorem dX6_statement_26 : decode cX6_statement 26 = .ok (.goto 4, 3) := dk_167 0 4 (dk_at dksX6_statement_1 4 rfl rfl)
theorem dX6_statement_29 : decode cX6_statement 29 = .ok (.iconst 0, 1) := dk_3 (dk_at dksX6_statement_1 7 rfl rfl)
theorem dX6_statement_30 : decode cX6_statement 30 = .ok (.iconst 3, 1) := dk_6 (dk_at dksX6_statement_1 8 rfl rfl)
theorem dX6_statement_31 : decode cX6_statement 31 = .ok (.invokevirtual 85, 3) := dk_182 0 85 (dk_at dksX6_statement_1 9 rfl rfl)
theorem dX6_statement_34 : decode cX6_statement 34 = .ok (.aload_n 0, 1) := dk_42 (dk_at dksX6_statement_1 12 rfl rfl)
theorem dX6_statement_35 : decode cX6_statement 35 = .ok (.iconst 1, 1) := dk_4 (dk_at dksX6_statement_1 13 rfl rfl)
theorem dX6_statement_36 : decode cX6_statement 36 = .ok (.putfield 194, 3) := dk_181 0 194 (dk_at dksX6_statement_1 14 rfl rfl)
theorem dX6_statement_39 : decode cX6_statement 39 = .ok (.aload_n 0, 1) := dk_42 (dk_at dksX6_statement_1 17 rfl rfl)
theorem dX6_statement_40 : decode cX6_statement 40 = .ok (.invokevirtual 28, 3) := dk_182 0 28 (dk_at dksX6_statement_1 18 rfl rfl)
theorem dX6_statement_43 : decode cX6_statement 43 = .ok (.aload_n 0, 1) := dk_42 (dk_at dksX6_statement_1 21 rfl rfl)
theorem dX6_statement_44 : decode cX6_statement 44 = .ok (.aload_n 0, 1) := dk_42 (dk_at dksX6_statement_1 22 rfl rfl)
theorem dX6_statement_45 : decode cX6_statement 45 = .ok (.iconst 0, 1) := dk_3 (dk_at dksX6_statement_1 23 rfl rfl)
theorem dX6_statement_46 : decode cX6_statement 46 = .ok (.sipush 9999, 3) := dk_17 39 15 (dk_at dksX6_statement_2 0 rfl rfl)
theorem dX6_statement_49 : decode cX6_statement 49 = .ok (.iconst 2, 1) := dk_5 (dk_at dksX6_statement_2 3 rfl rfl)
theorem dX6_statement_50 : decode cX6_statement 50 = .ok (.invokevirtual 121, 3) := dk_182 0 121 (dk_at dksX6_statement_2 4 rfl rfl)
theorem dX6_statement_53 : decode cX6_statement 53 = .ok (.putfield 198, 3) := dk_181 0 198 (dk_at dksX6_statement_2 7 rfl rfl)
theorem dX6_statement_56 : decode cX6_statement 56 = .ok (.return_, 1) := dk_177 (dk_at dksX6_statement_2 10 rfl rfl)
abbrev cX6_operation : ByteArray := prog_8_method_14_code
def yX6_operation : MethodName := ⟨RX6, "operation", "()V"⟩
def dkwX6_operation_4 : List UInt8 := [42, 3, 42, 180, 0, 170, 4, 100, 6, 182, 0, 121, 61, 42, 28, 182, 0, 185, 177]
abbrev dktX6_operation_4 : List UInt8 := dkwX6_operation_4 ++ []
def dkwX6_operation_3 : List UInt8 := [18, 178, 182, 0, 164, 153, 0, 8, 42, 182, 0, 183, 177, 2, 61, 42, 18, 176, 182, 0, 164, 153, 0, 16]
abbrev dktX6_operation_3 : List UInt8 := dkwX6_operation_3 ++ dktX6_operation_4
def dkwX6_operation_2 : List UInt8 := [180, 0, 18, 185, 0, 180, 1, 0, 16, 60, 162, 0, 7, 4, 167, 0, 4, 3, 7, 182, 0, 85, 42]
abbrev dktX6_operation_2 : List UInt8 := dkwX6_operation_2 ++ dktX6_operation_3
def dkwX6_operation_1 : List UInt8 := [42, 182, 0, 115, 2, 159, 0, 7, 4, 167, 0, 4, 3, 60, 42, 27, 4, 182, 0, 85, 42, 42]
abbrev dktX6_operation_1 : List UInt8 := dkwX6_operation_1 ++ dktX6_operation_2
def dkwX6_operation_0 : List UInt8 := [42, 180, 0, 24, 18, 176, 182, 0, 79, 154, 0, 23, 42, 180, 0, 24, 18, 178, 182, 0, 79, 154, 0, 11]
abbrev dktX6_operation_0 : List UInt8 := dkwX6_operation_0 ++ dktX6_operation_1
theorem dksX6_operation_0 : cX6_operation.data.toList.drop 0 = dktX6_operation_0 := by decide +kernel
theorem dksX6_operation_1 : cX6_operation.data.toList.drop 24 = dktX6_operation_1 := dk_seg dksX6_operation_0 24 rfl rfl
theorem dksX6_operation_2 : cX6_operation.data.toList.drop 46 = dktX6_operation_2 := dk_seg dksX6_operation_1 22 rfl rfl
theorem dksX6_operation_3 : cX6_operation.data.toList.drop 69 = dktX6_operation_3 := dk_seg dksX6_operation_2 23 rfl rfl
theorem dksX6_operation_4 : cX6_operation.data.toList.drop 93 = dktX6_operation_4 := dk_seg dksX6_operation_3 24 rfl rfl
theorem dX6_operation_0 : decode cX6_operation 0 = .ok (.aload_n 0, 1) := dk_42 (dk_at dksX6_operation_0 0 rfl rfl)
theorem dX6_operation_1 : decode cX6_operation 1 = .ok (.getfield 24, 3) := dk_180 0 24 (dk_at dksX6_operation_0 1 rfl rfl)
theorem dX6_operation_4 : decode cX6_operation 4 = .ok (.ldc 176, 2) := dk_18 176 (dk_at dksX6_operation_0 4 rfl rfl)
theorem dX6_operation_6 : decode cX6_operation 6 = .ok (.invokevirtual 79, 3) := dk_182 0 79 (dk_at dksX6_operation_0 6 rfl rfl)
theorem dX6_operation_9 : decode cX6_operation 9 = .ok (.ifCond .ne 23, 3) := dk_154 0 23 (dk_at dksX6_operation_0 9 rfl rfl)
theorem dX6_operation_12 : decode cX6_operation 12 = .ok (.aload_n 0, 1) := dk_42 (dk_at dksX6_operation_0 12 rfl rfl)
theorem dX6_operation_13 : decode cX6_operation 13 = .ok (.getfield 24, 3) := dk_180 0 24 (dk_at dksX6_operation_0 13 rfl rfl)
theorem dX6_operation_16 : decode cX6_operation 16 = .ok (.ldc 178, 2) := dk_18 178 (dk_at dksX6_operation_0 16 rfl rfl)
theorem dX6_operation_18 : decode cX6_operation 18 = .ok (.invokevirtual 79, 3) := dk_182 0 79 (dk_at dksX6_operation_0 18 rfl rfl)
theorem dX6_operation_21 : decode cX6_operation 21 = .ok (.ifCond .ne 11, 3) := dk_154 0 11 (dk_at dksX6_operation_0 21 rfl rfl)
theorem dX6_operation_24 : decode cX6_operation 24 = .ok (.aload_n 0, 1) := dk_42 (dk_at dksX6_operation_1 0 rfl rfl)
theorem dX6_operation_25 : decode cX6_operation 25 = .ok (.invokevirtual 115, 3) := dk_182 0 115 (dk_at dksX6_operation_1 1 rfl rfl)
theorem dX6_operation_28 : decode cX6_operation 28 = .ok (.iconst (-1), 1) := dk_2 (dk_at dksX6_operation_1 4 rfl rfl)
theorem dX6_operation_29 : decode cX6_operation 29 = .ok (.if_icmp .eq 7, 3) := dk_159 0 7 (dk_at dksX6_operation_1 5 rfl rfl)
theorem dX6_operation_32 : decode cX6_operation 32 = .ok (.iconst 1, 1) := dk_4 (dk_at dksX6_operation_1 8 rfl rfl)
theorem dX6_operation_33 : decode cX6_operation 33 = .ok (.goto 4, 3) := dk_167 0 4 (dk_at dksX6_operation_1 9 rfl rfl)
theorem dX6_operation_36 : decode cX6_operation 36 = .ok (.iconst 0, 1) := dk_3 (dk_at dksX6_operation_1 12 rfl rfl)
theorem dX6_operation_37 : decode cX6_operation 37 = .ok (.istore_n 1, 1) := dk_60 (dk_at dksX6_operation_1 13 rfl rfl)
theorem dX6_operation_38 : decode cX6_operation 38 = .ok (.aload_n 0, 1) := dk_42 (dk_at dksX6_operation_1 14 rfl rfl)
theorem dX6_operation_39 : decode cX6_operation 39 = .ok (.iload_n 1, 1) := dk_27 (dk_at dksX6_operation_1 15 rfl rfl)
theorem dX6_operation_40 : decode cX6_operation 40 = .ok (.iconst 1, 1) := dk_4 (dk_at dksX6_operation_1 16 rfl rfl)
theorem dX6_operation_41 : decode cX6_operation 41 = .ok (.invokevirtual 85, 3) := dk_182 0 85 (dk_at dksX6_operation_1 17 rfl rfl)
theorem dX6_operation_44 : decode cX6_operation 44 = .ok (.aload_n 0, 1) := dk_42 (dk_at dksX6_operation_1 20 rfl rfl)
theorem dX6_operation_45 : decode cX6_operation 45 = .ok (.aload_n 0, 1) := dk_42 (dk_at dksX6_operation_1 21 rfl rfl)
theorem dX6_operation_46 : decode cX6_operation 46 = .ok (.getfield 18, 3) := dk_180 0 18 (dk_at dksX6_operation_2 0 rfl rfl)
theorem dX6_operation_49 : decode cX6_operation 49 = .ok (.invokeinterface 180 1, 5) := by decide +kernel
theorem dX6_operation_54 : decode cX6_operation 54 = .ok (.bipush 60, 2) := dk_16 60 (dk_at dksX6_operation_2 8 rfl rfl)
theorem dX6_operation_56 : decode cX6_operation 56 = .ok (.if_icmp .ge 7, 3) := dk_162 0 7 (dk_at dksX6_operation_2 10 rfl rfl)
theorem dX6_operation_59 : decode cX6_operation 59 = .ok (.iconst 1, 1) := dk_4 (dk_at dksX6_operation_2 13 rfl rfl)
theorem dX6_operation_60 : decode cX6_operation 60 = .ok (.goto 4, 3) := dk_167 0 4 (dk_at dksX6_operation_2 14 rfl rfl)
theorem dX6_operation_63 : decode cX6_operation 63 = .ok (.iconst 0, 1) := dk_3 (dk_at dksX6_operation_2 17 rfl rfl)
theorem dX6_operation_64 : decode cX6_operation 64 = .ok (.iconst 4, 1) := dk_7 (dk_at dksX6_operation_2 18 rfl rfl)
theorem dX6_operation_65 : decode cX6_operation 65 = .ok (.invokevirtual 85, 3) := dk_182 0 85 (dk_at dksX6_operation_2 19 rfl rfl)
theorem dX6_operation_68 : decode cX6_operation 68 = .ok (.aload_n 0, 1) := dk_42 (dk_at dksX6_operation_2 22 rfl rfl)
theorem dX6_operation_69 : decode cX6_operation 69 = .ok (.ldc 178, 2) := dk_18 178 (dk_at dksX6_operation_3 0 rfl rfl)
theorem dX6_operation_71 : decode cX6_operation 71 = .ok (.invokevirtual 164, 3) := dk_182 0 164 (dk_at dksX6_operation_3 2 rfl rfl)
theorem dX6_operation_74 : decode cX6_operation 74 = .ok (.ifCond .eq 8, 3) := dk_153 0 8 (dk_at dksX6_operation_3 5 rfl rfl)
theorem dX6_operation_77 : decode cX6_operation 77 = .ok (.aload_n 0, 1) := dk_42 (dk_at dksX6_operation_3 8 rfl rfl)
theorem dX6_operation_78 : decode cX6_operation 78 = .ok (.invokevirtual 183, 3) := dk_182 0 183 (dk_at dksX6_operation_3 9 rfl rfl)
theorem dX6_operation_81 : decode cX6_operation 81 = .ok (.return_, 1) := dk_177 (dk_at dksX6_operation_3 12 rfl rfl)
theorem dX6_operation_82 : decode cX6_operation 82 = .ok (.iconst (-1), 1) := dk_2 (dk_at dksX6_operation_3 13 rfl rfl)
theorem dX6_operation_83 : decode cX6_operation 83 = .ok (.istore_n 2, 1) := dk_61 (dk_at dksX6_operation_3 14 rfl rfl)
theorem dX6_operation_84 : decode cX6_operation 84 = .ok (.aload_n 0, 1) := dk_42 (dk_at dksX6_operation_3 15 rfl rfl)
theorem dX6_operation_85 : decode cX6_operation 85 = .ok (.ldc 176, 2) := dk_18 176 (dk_at dksX6_operation_3 16 rfl rfl)
theorem dX6_operation_87 : decode cX6_operation 87 = .ok (.invokevirtual 164, 3) := dk_182 0 164 (dk_at dksX6_operation_3 18 rfl rfl)
theorem dX6_operation_90 : decode cX6_operation 90 = .ok (.ifCond .eq 16, 3) := dk_153 0 16 (dk_at dksX6_operation_3 21 rfl rfl)
theorem dX6_operation_93 : decode cX6_operation 93 = .ok (.aload_n 0, 1) := dk_42 (dk_at dksX6_operation_4 0 rfl rfl)
theorem dX6_operation_94 : decode cX6_operation 94 = .ok (.iconst 0, 1) := dk_3 (dk_at dksX6_operation_4 1 rfl rfl)
theorem dX6_operation_95 : decode cX6_operation 95 = .ok (.aload_n 0, 1) := dk_42 (dk_at dksX6_operation_4 2 rfl rfl)
theorem dX6_operation_96 : decode cX6_operation 96 = .ok (.getfield 170, 3) := dk_180 0 170 (dk_at dksX6_operation_4 3 rfl rfl)
theorem dX6_operation_99 : decode cX6_operation 99 = .ok (.iconst 1, 1) := dk_4 (dk_at dksX6_operation_4 6 rfl rfl)
theorem dX6_operation_100 : decode cX6_operation 100 = .ok (.isub, 1) := dk_100 (dk_at dksX6_operation_4 7 rfl rfl)
theorem dX6_operation_101 : decode cX6_operation 101 = .ok (.iconst 3, 1) := dk_6 (dk_at dksX6_operation_4 8 rfl rfl)
theorem dX6_operation_102 : decode cX6_operation 102 = .ok (.invokevirtual 121, 3) := dk_182 0 121 (dk_at dksX6_operation_4 9 rfl rfl)
theorem dX6_operation_105 : decode cX6_operation 105 = .ok (.istore_n 2, 1) := dk_61 (dk_at dksX6_operation_4 12 rfl rfl)
theorem dX6_operation_106 : decode cX6_operation 106 = .ok (.aload_n 0, 1) := dk_42 (dk_at dksX6_operation_4 13 rfl rfl)
theorem dX6_operation_107 : decode cX6_operation 107 = .ok (.iload_n 2, 1) := dk_28 (dk_at dksX6_operation_4 14 rfl rfl)
theorem dX6_operation_108 : decode cX6_operation 108 = .ok (.invokevirtual 185, 3) := dk_182 0 185 (dk_at dksX6_operation_4 15 rfl rfl)
theorem dX6_operation_111 : decode cX6_operation 111 = .ok (.return_, 1) := dk_177 (dk_at dksX6_operation_4 18 rfl rfl)
abbrev cX6_gateKind : ByteArray := prog_8_method_10_code
def yX6_gateKind : MethodName := ⟨RX6, "gateKind", "()I"⟩
def dkwX6_gateKind_9 : List UInt8 := [3, 172, 4, 172, 5, 172, 6, 172, 7, 172, 8, 172, 16, 6, 172, 16, 7, 172, 16, 8, 172, 2, 172]
abbrev dktX6_gateKind_9 : List UInt8 := dkwX6_gateKind_9 ++ []
def dkwX6_gateKind_8 : List UInt8 := [170, 0, 0, 0, 70, 0, 0, 0, 0, 0, 0, 0, 8, 0, 0, 0, 49, 0, 0, 0, 51, 0, 0, 0, 53, 0, 0, 0, 55, 0, 0, 0, 57, 0, 0, 0, 59, 0, 0, 0, 61, 0, 0, 0, 64, 0, 0, 0, 67]
abbrev dktX6_gateKind_8 : List UInt8 := dkwX6_gateKind_8 ++ dktX6_gateKind_9
def dkwX6_gateKind_7 : List UInt8 := [182, 0, 79, 153, 0, 6, 16, 8, 61, 28]
abbrev dktX6_gateKind_7 : List UInt8 := dkwX6_gateKind_7 ++ dktX6_gateKind_8
def dkwX6_gateKind_6 : List UInt8 := [61, 167, 0, 30, 43, 18, 111, 182, 0, 79, 153, 0, 21, 16, 7, 61, 167, 0, 15, 43, 18, 113]
abbrev dktX6_gateKind_6 : List UInt8 := dkwX6_gateKind_6 ++ dktX6_gateKind_7
def dkwX6_gateKind_5 : List UInt8 := [18, 107, 182, 0, 79, 153, 0, 50, 8, 61, 167, 0, 45, 43, 18, 109, 182, 0, 79, 153, 0, 36, 16, 6]
abbrev dktX6_gateKind_5 : List UInt8 := dkwX6_gateKind_5 ++ dktX6_gateKind_6
def dkwX6_gateKind_4 : List UInt8 := [153, 0, 78, 6, 61, 167, 0, 73, 43, 18, 105, 182, 0, 79, 153, 0, 64, 7, 61, 167, 0, 59, 43]
abbrev dktX6_gateKind_4 : List UInt8 := dkwX6_gateKind_4 ++ dktX6_gateKind_5
def dkwX6_gateKind_3 : List UInt8 := [61, 167, 0, 101, 43, 18, 101, 182, 0, 79, 153, 0, 92, 5, 61, 167, 0, 87, 43, 18, 103, 182, 0, 79]
abbrev dktX6_gateKind_3 : List UInt8 := dkwX6_gateKind_3 ++ dktX6_gateKind_4
def dkwX6_gateKind_2 : List UInt8 := [43, 18, 97, 182, 0, 79, 153, 0, 120, 3, 61, 167, 0, 115, 43, 18, 99, 182, 0, 79, 153, 0, 106, 4]
abbrev dktX6_gateKind_2 : List UInt8 := dkwX6_gateKind_2 ++ dktX6_gateKind_3
def dkwX6_gateKind_1 : List UInt8 := [171, 0, 0, 0, 207, 0, 0, 0, 9, 0, 0, 0, 104, 0, 0, 0, 81, 0, 0, 0, 115, 0, 0, 0, 95, 0, 0, 0, 120, 0, 0, 0, 123, 0, 0, 0, 121, 0, 0, 0, 137, 0, 0, 0, 122, 0, 0, 0, 151, 0, 0, 12, 117, 0, 0, 0, 165, 0, 0, 12, 119, 0, 0, 0, 180, 0, 1, 188, 54, 0, 0, 0, 109, 0, 54, 17, 147, 0, 0, 0, 195]
abbrev dktX6_gateKind_1 : List UInt8 := dkwX6_gateKind_1 ++ dktX6_gateKind_2
def dkwX6_gateKind_0 : List UInt8 := [42, 180, 0, 24, 76, 2, 61, 43, 182, 0, 93]
abbrev dktX6_gateKind_0 : List UInt8 := dkwX6_gateKind_0 ++ dktX6_gateKind_1
theorem dksX6_gateKind_0 : cX6_gateKind.data.toList.drop 0 = dktX6_gateKind_0 := by decide +kernel
theorem dksX6_gateKind_1 : cX6_gateKind.data.toList.drop 11 = dktX6_gateKind_1 := dk_seg dksX6_gateKind_0 11 rfl rfl
theorem dksX6_gateKind_2 : cX6_gateKind.data.toList.drop 92 = dktX6_gateKind_2 := dk_seg dksX6_gateKind_1 81 rfl rfl
theorem dksX6_gateKind_3 : cX6_gateKind.data.toList.drop 116 = dktX6_gateKind_3 := dk_seg dksX6_gateKind_2 24 rfl rfl
theorem dksX6_gateKind_4 : cX6_gateKind.data.toList.drop 140 = dktX6_gateKind_4 := dk_seg dksX6_gateKind_3 24 rfl rfl
theorem dksX6_gateKind_5 : cX6_gateKind.data.toList.drop 163 = dktX6_gateKind_5 := dk_seg dksX6_gateKind_4 23 rfl rfl
theorem dksX6_gateKind_6 : cX6_gateKind.data.toList.drop 187 = dktX6_gateKind_6 := dk_seg dksX6_gateKind_5 24 rfl rfl
theorem dksX6_gateKind_7 : cX6_gateKind.data.toList.drop 209 = dktX6_gateKind_7 := dk_seg dksX6_gateKind_6 22 rfl rfl
theorem dksX6_gateKind_8 : cX6_gateKind.data.toList.drop 219 = dktX6_gateKind_8 := dk_seg dksX6_gateKind_7 10 rfl rfl
theorem dksX6_gateKind_9 : cX6_gateKind.data.toList.drop 268 = dktX6_gateKind_9 := dk_seg dksX6_gateKind_8 49 rfl rfl
theorem dX6_gateKind_0 : decode cX6_gateKind 0 = .ok (.aload_n 0, 1) := dk_42 (dk_at dksX6_gateKind_0 0 rfl rfl)
theorem dX6_gateKind_1 : decode cX6_gateKind 1 = .ok (.getfield 24, 3) := dk_180 0 24 (dk_at dksX6_gateKind_0 1 rfl rfl)
theorem dX6_gateKind_4 : decode cX6_gateKind 4 = .ok (.astore_n 1, 1) := dk_76 (dk_at dksX6_gateKind_0 4 rfl rfl)
theorem dX6_gateKind_5 : decode cX6_gateKind 5 = .ok (.iconst (-1), 1) := dk_2 (dk_at dksX6_gateKind_0 5 rfl rfl)
theorem dX6_gateKind_6 : decode cX6_gateKind 6 = .ok (.istore_n 2, 1) := dk_61 (dk_at dksX6_gateKind_0 6 rfl rfl)
theorem dX6_gateKind_7 : decode cX6_gateKind 7 = .ok (.aload_n 1, 1) := dk_43 (dk_at dksX6_gateKind_0 7 rfl rfl)
theorem dX6_gateKind_8 : decode cX6_gateKind 8 = .ok (.invokevirtual 93, 3) := dk_182 0 93 (dk_at dksX6_gateKind_0 8 rfl rfl)
theorem dX6_gateKind_11 : decode cX6_gateKind 11 = .ok (.lookupswitch 207 #[(104, 81), (115, 95), (120, 123), (121, 137), (122, 151), (3189, 165), (3191, 180), (113718, 109), (3543443, 195)], 81) := by decide +kernel
theorem dX6_gateKind_92 : decode cX6_gateKind 92 = .ok (.aload_n 1, 1) := dk_43 (dk_at dksX6_gateKind_2 0 rfl rfl)
theorem dX6_gateKind_93 : decode cX6_gateKind 93 = .ok (.ldc 97, 2) := dk_18 97 (dk_at dksX6_gateKind_2 1 rfl rfl)
theorem dX6_gateKind_95 : decode cX6_gateKind 95 = .ok (.invokevirtual 79, 3) := dk_182 0 79 (dk_at dksX6_gateKind_2 3 rfl rfl)
theorem dX6_gateKind_98 : decode cX6_gateKind 98 = .ok (.ifCond .eq 120, 3) := dk_153 0 120 (dk_at dksX6_gateKind_2 6 rfl rfl)
theorem dX6_gateKind_101 : decode cX6_gateKind 101 = .ok (.iconst 0, 1) := dk_3 (dk_at dksX6_gateKind_2 9 rfl rfl)
theorem dX6_gateKind_102 : decode cX6_gateKind 102 = .ok (.istore_n 2, 1) := dk_61 (dk_at dksX6_gateKind_2 10 rfl rfl)
theorem dX6_gateKind_103 : decode cX6_gateKind 103 = .ok (.goto 115, 3) := dk_167 0 115 (dk_at dksX6_gateKind_2 11 rfl rfl)
theorem dX6_gateKind_106 : decode cX6_gateKind 106 = .ok (.aload_n 1, 1) := dk_43 (dk_at dksX6_gateKind_2 14 rfl rfl)
theorem dX6_gateKind_107 : decode cX6_gateKind 107 = .ok (.ldc 99, 2) := dk_18 99 (dk_at dksX6_gateKind_2 15 rfl rfl)
theorem dX6_gateKind_109 : decode cX6_gateKind 109 = .ok (.invokevirtual 79, 3) := dk_182 0 79 (dk_at dksX6_gateKind_2 17 rfl rfl)
theorem dX6_gateKind_112 : decode cX6_gateKind 112 = .ok (.ifCond .eq 106, 3) := dk_153 0 106 (dk_at dksX6_gateKind_2 20 rfl rfl)
theorem dX6_gateKind_115 : decode cX6_gateKind 115 = .ok (.iconst 1, 1) := dk_4 (dk_at dksX6_gateKind_2 23 rfl rfl)
theorem dX6_gateKind_116 : decode cX6_gateKind 116 = .ok (.istore_n 2, 1) := dk_61 (dk_at dksX6_gateKind_3 0 rfl rfl)
theorem dX6_gateKind_117 : decode cX6_gateKind 117 = .ok (.goto 101, 3) := dk_167 0 101 (dk_at dksX6_gateKind_3 1 rfl rfl)
theorem dX6_gateKind_120 : decode cX6_gateKind 120 = .ok (.aload_n 1, 1) := dk_43 (dk_at dksX6_gateKind_3 4 rfl rfl)
theorem dX6_gateKind_121 : decode cX6_gateKind 121 = .ok (.ldc 101, 2) := dk_18 101 (dk_at dksX6_gateKind_3 5 rfl rfl)
theorem dX6_gateKind_123 : decode cX6_gateKind 123 = .ok (.invokevirtual 79, 3) := dk_182 0 79 (dk_at dksX6_gateKind_3 7 rfl rfl)
theorem dX6_gateKind_126 : decode cX6_gateKind 126 = .ok (.ifCond .eq 92, 3) := dk_153 0 92 (dk_at dksX6_gateKind_3 10 rfl rfl)
theorem dX6_gateKind_129 : decode cX6_gateKind 129 = .ok (.iconst 2, 1) := dk_5 (dk_at dksX6_gateKind_3 13 rfl rfl)
theorem dX6_gateKind_130 : decode cX6_gateKind 130 = .ok (.istore_n 2, 1) := dk_61 (dk_at dksX6_gateKind_3 14 rfl rfl)
theorem dX6_gateKind_131 : decode cX6_gateKind 131 = .ok (.goto 87, 3) := dk_167 0 87 (dk_at dksX6_gateKind_3 15 rfl rfl)
theorem dX6_gateKind_134 : decode cX6_gateKind 134 = .ok (.aload_n 1, 1) := dk_43 (dk_at dksX6_gateKind_3 18 rfl rfl)
theorem dX6_gateKind_135 : decode cX6_gateKind 135 = .ok (.ldc 103, 2) := dk_18 103 (dk_at dksX6_gateKind_3 19 rfl rfl)
theorem dX6_gateKind_137 : decode cX6_gateKind 137 = .ok (.invokevirtual 79, 3) := dk_182 0 79 (dk_at dksX6_gateKind_3 21 rfl rfl)
theorem dX6_gateKind_140 : decode cX6_gateKind 140 = .ok (.ifCond .eq 78, 3) := dk_153 0 78 (dk_at dksX6_gateKind_4 0 rfl rfl)
theorem dX6_gateKind_143 : decode cX6_gateKind 143 = .ok (.iconst 3, 1) := dk_6 (dk_at dksX6_gateKind_4 3 rfl rfl)
theorem dX6_gateKind_144 : decode cX6_gateKind 144 = .ok (.istore_n 2, 1) := dk_61 (dk_at dksX6_gateKind_4 4 rfl rfl)
theorem dX6_gateKind_145 : decode cX6_gateKind 145 = .ok (.goto 73, 3) := dk_167 0 73 (dk_at dksX6_gateKind_4 5 rfl rfl)
theorem dX6_gateKind_148 : decode cX6_gateKind 148 = .ok (.aload_n 1, 1) := dk_43 (dk_at dksX6_gateKind_4 8 rfl rfl)
theorem dX6_gateKind_149 : decode cX6_gateKind 149 = .ok (.ldc 105, 2) := dk_18 105 (dk_at dksX6_gateKind_4 9 rfl rfl)
theorem dX6_gateKind_151 : decode cX6_gateKind 151 = .ok (.invokevirtual 79, 3) := dk_182 0 79 (dk_at dksX6_gateKind_4 11 rfl rfl)
theorem dX6_gateKind_154 : decode cX6_gateKind 154 = .ok (.ifCond .eq 64, 3) := dk_153 0 64 (dk_at dksX6_gateKind_4 14 rfl rfl)
theorem dX6_gateKind_157 : decode cX6_gateKind 157 = .ok (.iconst 4, 1) := dk_7 (dk_at dksX6_gateKind_4 17 rfl rfl)
theorem dX6_gateKind_158 : decode cX6_gateKind 158 = .ok (.istore_n 2, 1) := dk_61 (dk_at dksX6_gateKind_4 18 rfl rfl)
theorem dX6_gateKind_159 : decode cX6_gateKind 159 = .ok (.goto 59, 3) := dk_167 0 59 (dk_at dksX6_gateKind_4 19 rfl rfl)
theorem dX6_gateKind_162 : decode cX6_gateKind 162 = .ok (.aload_n 1, 1) := dk_43 (dk_at dksX6_gateKind_4 22 rfl rfl)
theorem dX6_gateKind_163 : decode cX6_gateKind 163 = .ok (.ldc 107, 2) := dk_18 107 (dk_at dksX6_gateKind_5 0 rfl rfl)
theorem dX6_gateKind_165 : decode cX6_gateKind 165 = .ok (.invokevirtual 79, 3) := dk_182 0 79 (dk_at dksX6_gateKind_5 2 rfl rfl)
theorem dX6_gateKind_168 : decode cX6_gateKind 168 = .ok (.ifCond .eq 50, 3) := dk_153 0 50 (dk_at dksX6_gateKind_5 5 rfl rfl)
theorem dX6_gateKind_171 : decode cX6_gateKind 171 = .ok (.iconst 5, 1) := dk_8 (dk_at dksX6_gateKind_5 8 rfl rfl)
theorem dX6_gateKind_172 : decode cX6_gateKind 172 = .ok (.istore_n 2, 1) := dk_61 (dk_at dksX6_gateKind_5 9 rfl rfl)
theorem dX6_gateKind_173 : decode cX6_gateKind 173 = .ok (.goto 45, 3) := dk_167 0 45 (dk_at dksX6_gateKind_5 10 rfl rfl)
theorem dX6_gateKind_176 : decode cX6_gateKind 176 = .ok (.aload_n 1, 1) := dk_43 (dk_at dksX6_gateKind_5 13 rfl rfl)
theorem dX6_gateKind_177 : decode cX6_gateKind 177 = .ok (.ldc 109, 2) := dk_18 109 (dk_at dksX6_gateKind_5 14 rfl rfl)
theorem dX6_gateKind_179 : decode cX6_gateKind 179 = .ok (.invokevirtual 79, 3) := dk_182 0 79 (dk_at dksX6_gateKind_5 16 rfl rfl)
theorem dX6_gateKind_182 : decode cX6_gateKind 182 = .ok (.ifCond .eq 36, 3) := dk_153 0 36 (dk_at dksX6_gateKind_5 19 rfl rfl)
theorem dX6_gateKind_185 : decode cX6_gateKind 185 = .ok (.bipush 6, 2) := dk_16 6 (dk_at dksX6_gateKind_5 22 rfl rfl)
theorem dX6_gateKind_187 : decode cX6_gateKind 187 = .ok (.istore_n 2, 1) := dk_61 (dk_at dksX6_gateKind_6 0 rfl rfl)
theorem dX6_gateKind_188 : decode cX6_gateKind 188 = .ok (.goto 30, 3) := dk_167 0 30 (dk_at dksX6_gateKind_6 1 rfl rfl)
theorem dX6_gateKind_191 : decode cX6_gateKind 191 = .ok (.aload_n 1, 1) := dk_43 (dk_at dksX6_gateKind_6 4 rfl rfl)
theorem dX6_gateKind_192 : decode cX6_gateKind 192 = .ok (.ldc 111, 2) := dk_18 111 (dk_at dksX6_gateKind_6 5 rfl rfl)
theorem dX6_gateKind_194 : decode cX6_gateKind 194 = .ok (.invokevirtual 79, 3) := dk_182 0 79 (dk_at dksX6_gateKind_6 7 rfl rfl)
theorem dX6_gateKind_197 : decode cX6_gateKind 197 = .ok (.ifCond .eq 21, 3) := dk_153 0 21 (dk_at dksX6_gateKind_6 10 rfl rfl)
theorem dX6_gateKind_200 : decode cX6_gateKind 200 = .ok (.bipush 7, 2) := dk_16 7 (dk_at dksX6_gateKind_6 13 rfl rfl)
theorem dX6_gateKind_202 : decode cX6_gateKind 202 = .ok (.istore_n 2, 1) := dk_61 (dk_at dksX6_gateKind_6 15 rfl rfl)
theorem dX6_gateKind_203 : decode cX6_gateKind 203 = .ok (.goto 15, 3) := dk_167 0 15 (dk_at dksX6_gateKind_6 16 rfl rfl)
theorem dX6_gateKind_206 : decode cX6_gateKind 206 = .ok (.aload_n 1, 1) := dk_43 (dk_at dksX6_gateKind_6 19 rfl rfl)
theorem dX6_gateKind_207 : decode cX6_gateKind 207 = .ok (.ldc 113, 2) := dk_18 113 (dk_at dksX6_gateKind_6 20 rfl rfl)
theorem dX6_gateKind_209 : decode cX6_gateKind 209 = .ok (.invokevirtual 79, 3) := dk_182 0 79 (dk_at dksX6_gateKind_7 0 rfl rfl)
theorem dX6_gateKind_212 : decode cX6_gateKind 212 = .ok (.ifCond .eq 6, 3) := dk_153 0 6 (dk_at dksX6_gateKind_7 3 rfl rfl)
theorem dX6_gateKind_215 : decode cX6_gateKind 215 = .ok (.bipush 8, 2) := dk_16 8 (dk_at dksX6_gateKind_7 6 rfl rfl)
theorem dX6_gateKind_217 : decode cX6_gateKind 217 = .ok (.istore_n 2, 1) := dk_61 (dk_at dksX6_gateKind_7 8 rfl rfl)
theorem dX6_gateKind_218 : decode cX6_gateKind 218 = .ok (.iload_n 2, 1) := dk_28 (dk_at dksX6_gateKind_7 9 rfl rfl)
theorem dX6_gateKind_219 : decode cX6_gateKind 219 = .ok (.tableswitch 70 0 8 #[49, 51, 53, 55, 57, 59, 61, 64, 67], 49) := by decide +kernel
theorem dX6_gateKind_268 : decode cX6_gateKind 268 = .ok (.iconst 0, 1) := dk_3 (dk_at dksX6_gateKind_9 0 rfl rfl)
theorem dX6_gateKind_269 : decode cX6_gateKind 269 = .ok (.ireturn, 1) := dk_172 (dk_at dksX6_gateKind_9 1 rfl rfl)
theorem dX6_gateKind_270 : decode cX6_gateKind 270 = .ok (.iconst 1, 1) := dk_4 (dk_at dksX6_gateKind_9 2 rfl rfl)
theorem dX6_gateKind_271 : decode cX6_gateKind 271 = .ok (.ireturn, 1) := dk_172 (dk_at dksX6_gateKind_9 3 rfl rfl)
theorem dX6_gateKind_272 : decode cX6_gateKind 272 = .ok (.iconst 2, 1) := dk_5 (dk_at dksX6_gateKind_9 4 rfl rfl)
theorem dX6_gateKind_273 : decode cX6_gateKind 273 = .ok (.ireturn, 1) := dk_172 (dk_at dksX6_gateKind_9 5 rfl rfl)
theorem dX6_gateKind_274 : decode cX6_gateKind 274 = .ok (.iconst 3, 1) := dk_6 (dk_at dksX6_gateKind_9 6 rfl rfl)
theorem dX6_gateKind_275 : decode cX6_gateKind 275 = .ok (.ireturn, 1) := dk_172 (dk_at dksX6_gateKind_9 7 rfl rfl)
theorem dX6_gateKind_276 : decode cX6_gateKind 276 = .ok (.iconst 4, 1) := dk_7 (dk_at dksX6_gateKind_9 8 rfl rfl)
theorem dX6_gateKind_277 : decode cX6_gateKind 277 = .ok (.ireturn, 1) := dk_172 (dk_at dksX6_gateKind_9 9 rfl rfl)
theorem dX6_gateKind_278 : decode cX6_gateKind 278 = .ok (.iconst 5, 1) := dk_8 (dk_at dksX6_gateKind_9 10 rfl rfl)
theorem dX6_gateKind_279 : decode cX6_gateKind 279 = .ok (.ireturn, 1) := dk_172 (dk_at dksX6_gateKind_9 11 rfl rfl)
theorem dX6_gateKind_280 : decode cX6_gateKind 280 = .ok (.bipush 6, 2) := dk_16 6 (dk_at dksX6_gateKind_9 12 rfl rfl)
theorem dX6_gateKind_282 : decode cX6_gateKind 282 = .ok (.ireturn, 1) := dk_172 (dk_at dksX6_gateKind_9 14 rfl rfl)
theorem dX6_gateKind_283 : decode cX6_gateKind 283 = .ok (.bipush 7, 2) := dk_16 7 (dk_at dksX6_gateKind_9 15 rfl rfl)
theorem dX6_gateKind_285 : decode cX6_gateKind 285 = .ok (.ireturn, 1) := dk_172 (dk_at dksX6_gateKind_9 17 rfl rfl)
theorem dX6_gateKind_286 : decode cX6_gateKind 286 = .ok (.bipush 8, 2) := dk_16 8 (dk_at dksX6_gateKind_9 18 rfl rfl)
theorem dX6_gateKind_288 : decode cX6_gateKind 288 = .ok (.ireturn, 1) := dk_172 (dk_at dksX6_gateKind_9 20 rfl rfl)
theorem dX6_gateKind_289 : decode cX6_gateKind 289 = .ok (.iconst (-1), 1) := dk_2 (dk_at dksX6_gateKind_9 21 rfl rfl)
theorem dX6_gateKind_290 : decode cX6_gateKind 290 = .ok (.ireturn, 1) := dk_172 (dk_at dksX6_gateKind_9 22 rfl rfl)
abbrev cX6_measure : ByteArray := prog_8_method_13_code
def yX6_measure : MethodName := ⟨RX6, "measure", "()V"⟩
def dkwX6_measure_3 : List UInt8 := [185, 0, 134, 2, 0, 87, 42, 89, 180, 0, 170, 4, 96, 181, 0, 170, 177]
abbrev dktX6_measure_3 : List UInt8 := dkwX6_measure_3 ++ []
def dkwX6_measure_2 : List UInt8 := [180, 0, 18, 187, 0, 168, 89, 42, 180, 0, 3, 44, 29, 42, 180, 0, 170, 183, 0, 173]
abbrev dktX6_measure_2 : List UInt8 := dkwX6_measure_2 ++ dktX6_measure_3
def dkwX6_measure_1 : List UInt8 := [182, 0, 158, 77, 42, 18, 162, 182, 0, 164, 153, 0, 10, 42, 182, 0, 155, 167, 0, 4, 3, 62, 42]
abbrev dktX6_measure_1 : List UInt8 := dkwX6_measure_1 ++ dktX6_measure_2
def dkwX6_measure_0 : List UInt8 := [42, 182, 0, 89, 153, 0, 15, 42, 182, 0, 155, 2, 160, 0, 7, 4, 167, 0, 4, 3, 60, 42, 27]
abbrev dktX6_measure_0 : List UInt8 := dkwX6_measure_0 ++ dktX6_measure_1
theorem dksX6_measure_0 : cX6_measure.data.toList.drop 0 = dktX6_measure_0 := by decide +kernel
theorem dksX6_measure_1 : cX6_measure.data.toList.drop 23 = dktX6_measure_1 := dk_seg dksX6_measure_0 23 rfl rfl
theorem dksX6_measure_2 : cX6_measure.data.toList.drop 46 = dktX6_measure_2 := dk_seg dksX6_measure_1 23 rfl rfl
theorem dksX6_measure_3 : cX6_measure.data.toList.drop 66 = dktX6_measure_3 := dk_seg dksX6_measure_2 20 rfl rfl
theorem dX6_measure_0 : decode cX6_measure 0 = .ok (.aload_n 0, 1) := dk_42 (dk_at dksX6_measure_0 0 rfl rfl)
theorem dX6_measure_1 : decode cX6_measure 1 = .ok (.invokevirtual 89, 3) := dk_182 0 89 (dk_at dksX6_measure_0 1 rfl rfl)
theorem dX6_measure_4 : decode cX6_measure 4 = .ok (.ifCond .eq 15, 3) := dk_153 0 15 (dk_at dksX6_measure_0 4 rfl rfl)
theorem dX6_measure_7 : decode cX6_measure 7 = .ok (.aload_n 0, 1) := dk_42 (dk_at dksX6_measure_0 7 rfl rfl)
theorem dX6_measure_8 : decode cX6_measure 8 = .ok (.invokevirtual 155, 3) := dk_182 0 155 (dk_at dksX6_measure_0 8 rfl rfl)
theorem dX6_measure_11 : decode cX6_measure 11 = .ok (.iconst (-1), 1) := dk_2 (dk_at dksX6_measure_0 11 rfl rfl)
theorem dX6_measure_12 : decode cX6_measure 12 = .ok (.if_icmp .ne 7, 3) := dk_160 0 7 (dk_at dksX6_measure_0 12 rfl rfl)
theorem dX6_measure_15 : decode cX6_measure 15 = .ok (.iconst 1, 1) := dk_4 (dk_at dksX6_measure_0 15 rfl rfl)
theorem dX6_measure_16 : decode cX6_measure 16 = .ok (.goto 4, 3) := dk_167 0 4 (dk_at dksX6_measure_0 16 rfl rfl)
theorem dX6_measure_19 : decode cX6_measure 19 = .ok (.iconst 0, 1) := dk_3 (dk_at dksX6_measure_0 19 rfl rfl)
theorem dX6_measure_20 : decode cX6_measure 20 = .ok (.istore_n 1, 1) := dk_60 (dk_at dksX6_measure_0 20 rfl rfl)
theorem dX6_measure_21 : decode cX6_measure 21 = .ok (.aload_n 0, 1) := dk_42 (dk_at dksX6_measure_0 21 rfl rfl)
theorem dX6_measure_22 : decode cX6_measure 22 = .ok (.iload_n 1, 1) := dk_27 (dk_at dksX6_measure_0 22 rfl rfl)
theorem dX6_measure_23 : decode cX6_measure 23 = .ok (.invokevirtual 158, 3) := dk_182 0 158 (dk_at dksX6_measure_1 0 rfl rfl)
theorem dX6_measure_26 : decode cX6_measure 26 = .ok (.astore_n 2, 1) := dk_77 (dk_at dksX6_measure_1 3 rfl rfl)
theorem dX6_measure_27 : decode cX6_measure 27 = .ok (.aload_n 0, 1) := dk_42 (dk_at dksX6_measure_1 4 rfl rfl)
theorem dX6_measure_28 : decode cX6_measure 28 = .ok (.ldc 162, 2) := dk_18 162 (dk_at dksX6_measure_1 5 rfl rfl)
theorem dX6_measure_30 : decode cX6_measure 30 = .ok (.invokevirtual 164, 3) := dk_182 0 164 (dk_at dksX6_measure_1 7 rfl rfl)
theorem dX6_measure_33 : decode cX6_measure 33 = .ok (.ifCond .eq 10, 3) := dk_153 0 10 (dk_at dksX6_measure_1 10 rfl rfl)
theorem dX6_measure_36 : decode cX6_measure 36 = .ok (.aload_n 0, 1) := dk_42 (dk_at dksX6_measure_1 13 rfl rfl)
theorem dX6_measure_37 : decode cX6_measure 37 = .ok (.invokevirtual 155, 3) := dk_182 0 155 (dk_at dksX6_measure_1 14 rfl rfl)
theorem dX6_measure_40 : decode cX6_measure 40 = .ok (.goto 4, 3) := dk_167 0 4 (dk_at dksX6_measure_1 17 rfl rfl)
theorem dX6_measure_43 : decode cX6_measure 43 = .ok (.iconst 0, 1) := dk_3 (dk_at dksX6_measure_1 20 rfl rfl)
theorem dX6_measure_44 : decode cX6_measure 44 = .ok (.istore_n 3, 1) := dk_62 (dk_at dksX6_measure_1 21 rfl rfl)
theorem dX6_measure_45 : decode cX6_measure 45 = .ok (.aload_n 0, 1) := dk_42 (dk_at dksX6_measure_1 22 rfl rfl)
theorem dX6_measure_46 : decode cX6_measure 46 = .ok (.getfield 18, 3) := dk_180 0 18 (dk_at dksX6_measure_2 0 rfl rfl)
theorem dX6_measure_49 : decode cX6_measure 49 = .ok (.new 168, 3) := dk_187 0 168 (dk_at dksX6_measure_2 3 rfl rfl)
theorem dX6_measure_52 : decode cX6_measure 52 = .ok (.dup, 1) := dk_89 (dk_at dksX6_measure_2 6 rfl rfl)
theorem dX6_measure_53 : decode cX6_measure 53 = .ok (.aload_n 0, 1) := dk_42 (dk_at dksX6_measure_2 7 rfl rfl)
theorem dX6_measure_54 : decode cX6_measure 54 = .ok (.getfield 3, 3) := dk_180 0 3 (dk_at dksX6_measure_2 8 rfl rfl)
theorem dX6_measure_57 : decode cX6_measure 57 = .ok (.aload_n 2, 1) := dk_44 (dk_at dksX6_measure_2 11 rfl rfl)
theorem dX6_measure_58 : decode cX6_measure 58 = .ok (.iload_n 3, 1) := dk_29 (dk_at dksX6_measure_2 12 rfl rfl)
theorem dX6_measure_59 : decode cX6_measure 59 = .ok (.aload_n 0, 1) := dk_42 (dk_at dksX6_measure_2 13 rfl rfl)
theorem dX6_measure_60 : decode cX6_measure 60 = .ok (.getfield 170, 3) := dk_180 0 170 (dk_at dksX6_measure_2 14 rfl rfl)
theorem dX6_measure_63 : decode cX6_measure 63 = .ok (.invokespecial 173, 3) := dk_183 0 173 (dk_at dksX6_measure_2 17 rfl rfl)
theorem dX6_measure_66 : decode cX6_measure 66 = .ok (.invokeinterface 134 2, 5) := by decide +kernel
theorem dX6_measure_71 : decode cX6_measure 71 = .ok (.pop, 1) := dk_87 (dk_at dksX6_measure_3 5 rfl rfl)
theorem dX6_measure_72 : decode cX6_measure 72 = .ok (.aload_n 0, 1) := dk_42 (dk_at dksX6_measure_3 6 rfl rfl)
theorem dX6_measure_73 : decode cX6_measure 73 = .ok (.dup, 1) := dk_89 (dk_at dksX6_measure_3 7 rfl rfl)
theorem dX6_measure_74 : decode cX6_measure 74 = .ok (.getfield 170, 3) := dk_180 0 170 (dk_at dksX6_measure_3 8 rfl rfl)
theorem dX6_measure_77 : decode cX6_measure 77 = .ok (.iconst 1, 1) := dk_4 (dk_at dksX6_measure_3 11 rfl rfl)
theorem dX6_measure_78 : decode cX6_measure 78 = .ok (.iadd, 1) := dk_96 (dk_at dksX6_measure_3 12 rfl rfl)
theorem dX6_measure_79 : decode cX6_measure 79 = .ok (.putfield 170, 3) := dk_181 0 170 (dk_at dksX6_measure_3 13 rfl rfl)
theorem dX6_measure_82 : decode cX6_measure 82 = .ok (.return_, 1) := dk_177 (dk_at dksX6_measure_3 16 rfl rfl)
abbrev cX6_isSign : ByteArray := prog_8_method_8_code
def yX6_isSign : MethodName := ⟨RX6, "isSign", "()Z"⟩
def dkwX6_isSign_0 : List UInt8 := [42, 180, 0, 67, 7, 159, 0, 11, 42, 180, 0, 67, 8, 160, 0, 7, 4, 167, 0, 4, 3, 172]
abbrev dktX6_isSign_0 : List UInt8 := dkwX6_isSign_0 ++ []
theorem dksX6_isSign_0 : cX6_isSign.data.toList.drop 0 = dktX6_isSign_0 := by decide +kernel
theorem dX6_isSign_0 : decode cX6_isSign 0 = .ok (.aload_n 0, 1) := dk_42 (dk_at dksX6_isSign_0 0 rfl rfl)
theorem dX6_isSign_1 : decode cX6_isSign 1 = .ok (.getfield 67, 3) := dk_180 0 67 (dk_at dksX6_isSign_0 1 rfl rfl)
theorem dX6_isSign_4 : decode cX6_isSign 4 = .ok (.iconst 4, 1) := dk_7 (dk_at dksX6_isSign_0 4 rfl rfl)
theorem dX6_isSign_5 : decode cX6_isSign 5 = .ok (.if_icmp .eq 11, 3) := dk_159 0 11 (dk_at dksX6_isSign_0 5 rfl rfl)
theorem dX6_isSign_8 : decode cX6_isSign 8 = .ok (.aload_n 0, 1) := dk_42 (dk_at dksX6_isSign_0 8 rfl rfl)
theorem dX6_isSign_9 : decode cX6_isSign 9 = .ok (.getfield 67, 3) := dk_180 0 67 (dk_at dksX6_isSign_0 9 rfl rfl)
theorem dX6_isSign_12 : decode cX6_isSign 12 = .ok (.iconst 5, 1) := dk_8 (dk_at dksX6_isSign_0 12 rfl rfl)
theorem dX6_isSign_13 : decode cX6_isSign 13 = .ok (.if_icmp .ne 7, 3) := dk_160 0 7 (dk_at dksX6_isSign_0 13 rfl rfl)
theorem dX6_isSign_16 : decode cX6_isSign 16 = .ok (.iconst 1, 1) := dk_4 (dk_at dksX6_isSign_0 16 rfl rfl)
theorem dX6_isSign_17 : decode cX6_isSign 17 = .ok (.goto 4, 3) := dk_167 0 4 (dk_at dksX6_isSign_0 17 rfl rfl)
theorem dX6_isSign_20 : decode cX6_isSign 20 = .ok (.iconst 0, 1) := dk_3 (dk_at dksX6_isSign_0 20 rfl rfl)
theorem dX6_isSign_21 : decode cX6_isSign 21 = .ok (.ireturn, 1) := dk_172 (dk_at dksX6_isSign_0 21 rfl rfl)
abbrev cX6_sign : ByteArray := prog_8_method_9_code
def yX6_sign : MethodName := ⟨RX6, "sign", "()I"⟩
def dkwX6_sign_1 : List UInt8 := [182, 0, 28, 27, 172]
abbrev dktX6_sign_1 : List UInt8 := dkwX6_sign_1 ++ []
def dkwX6_sign_0 : List UInt8 := [42, 42, 182, 0, 89, 4, 182, 0, 85, 42, 180, 0, 67, 7, 160, 0, 7, 4, 167, 0, 4, 2, 60, 42]
abbrev dktX6_sign_0 : List UInt8 := dkwX6_sign_0 ++ dktX6_sign_1
theorem dksX6_sign_0 : cX6_sign.data.toList.drop 0 = dktX6_sign_0 := by decide +kernel
theorem dksX6_sign_1 : cX6_sign.data.toList.drop 24 = dktX6_sign_1 := dk_seg dksX6_sign_0 24 rfl rfl
theorem dX6_sign_0 : decode cX6_sign 0 = .ok (.aload_n 0, 1) := dk_42 (dk_at dksX6_sign_0 0 rfl rfl)
theorem dX6_sign_1 : decode cX6_sign 1 = .ok (.aload_n 0, 1) := dk_42 (dk_at dksX6_sign_0 1 rfl rfl)
theorem dX6_sign_2 : decode cX6_sign 2 = .ok (.invokevirtual 89, 3) := dk_182 0 89 (dk_at dksX6_sign_0 2 rfl rfl)
theorem dX6_sign_5 : decode cX6_sign 5 = .ok (.iconst 1, 1) := dk_4 (dk_at dksX6_sign_0 5 rfl rfl)
theorem dX6_sign_6 : decode cX6_sign 6 = .ok (.invokevirtual 85, 3) := dk_182 0 85 (dk_at dksX6_sign_0 6 rfl rfl)
theorem dX6_sign_9 : decode cX6_sign 9 = .ok (.aload_n 0, 1) := dk_42 (dk_at dksX6_sign_0 9 rfl rfl)
theorem dX6_sign_10 : decode cX6_sign 10 = .ok (.getfield 67, 3) := dk_180 0 67 (dk_at dksX6_sign_0 10 rfl rfl)
theorem dX6_sign_13 : decode cX6_sign 13 = .ok (.iconst 4, 1) := dk_7 (dk_at dksX6_sign_0 13 rfl rfl)
theorem dX6_sign_14 : decode cX6_sign 14 = .ok (.if_icmp .ne 7, 3) := dk_160 0 7 (dk_at dksX6_sign_0 14 rfl rfl)
theorem dX6_sign_17 : decode cX6_sign 17 = .ok (.iconst 1, 1) := dk_4 (dk_at dksX6_sign_0 17 rfl rfl)
theorem dX6_sign_18 : decode cX6_sign 18 = .ok (.goto 4, 3) := dk_167 0 4 (dk_at dksX6_sign_0 18 rfl rfl)
theorem dX6_sign_21 : decode cX6_sign 21 = .ok (.iconst (-1), 1) := dk_2 (dk_at dksX6_sign_0 21 rfl rfl)
theorem dX6_sign_22 : decode cX6_sign 22 = .ok (.istore_n 1, 1) := dk_60 (dk_at dksX6_sign_0 22 rfl rfl)
theorem dX6_sign_23 : decode cX6_sign 23 = .ok (.aload_n 0, 1) := dk_42 (dk_at dksX6_sign_0 23 rfl rfl)
theorem dX6_sign_24 : decode cX6_sign 24 = .ok (.invokevirtual 28, 3) := dk_182 0 28 (dk_at dksX6_sign_1 0 rfl rfl)
theorem dX6_sign_27 : decode cX6_sign 27 = .ok (.iload_n 1, 1) := dk_27 (dk_at dksX6_sign_1 3 rfl rfl)
theorem dX6_sign_28 : decode cX6_sign 28 = .ok (.ireturn, 1) := dk_172 (dk_at dksX6_sign_1 4 rfl rfl)
abbrev cX6_string : ByteArray := prog_8_method_12_code
def yX6_string : MethodName := ⟨RX6, "string", "(Z)LStringTableau$Row;"⟩
def dkwX6_string_6 : List UInt8 := [4, 167, 0, 4, 3, 6, 182, 0, 85, 42, 182, 0, 28, 187, 0, 150, 89, 28, 29, 27, 183, 0, 152, 176]
abbrev dktX6_string_6 : List UInt8 := dkwX6_string_6 ++ []
def dkwX6_string_5 : List UInt8 := [167, 255, 166, 42, 42, 180, 0, 24, 182, 0, 139, 42, 180, 0, 118, 160, 0, 13, 28, 29, 128, 153, 0, 7]
abbrev dktX6_string_5 : List UInt8 := dkwX6_string_5 ++ dktX6_string_6
def dkwX6_string_4 : List UInt8 := [28, 4, 21, 4, 120, 128, 61, 21, 5, 4, 164, 0, 10, 29, 4, 21, 4, 120, 128, 62, 132, 4, 1]
abbrev dktX6_string_4 : List UInt8 := dkwX6_string_4 ++ dktX6_string_5
def dkwX6_string_3 : List UInt8 := [21, 4, 42, 180, 0, 118, 161, 0, 6, 167, 0, 35, 21, 5, 4, 159, 0, 9, 21, 5, 5, 160, 0, 10]
abbrev dktX6_string_3 : List UInt8 := dkwX6_string_3 ++ dktX6_string_4
def dkwX6_string_2 : List UInt8 := [182, 0, 143, 182, 0, 147, 54, 5, 42, 21, 5, 155, 0, 7, 4, 167, 0, 4, 3, 4, 182, 0, 85]
abbrev dktX6_string_2 : List UInt8 := dkwX6_string_2 ++ dktX6_string_3
def dkwX6_string_1 : List UInt8 := [54, 4, 21, 4, 42, 180, 0, 24, 182, 0, 139, 162, 0, 84, 18, 141, 42, 180, 0, 24, 21, 4]
abbrev dktX6_string_1 : List UInt8 := dkwX6_string_1 ++ dktX6_string_2
def dkwX6_string_0 : List UInt8 := [42, 42, 180, 0, 67, 5, 160, 0, 7, 4, 167, 0, 4, 3, 4, 182, 0, 85, 3, 61, 3, 62, 3]
abbrev dktX6_string_0 : List UInt8 := dkwX6_string_0 ++ dktX6_string_1
theorem dksX6_string_0 : cX6_string.data.toList.drop 0 = dktX6_string_0 := by decide +kernel
theorem dksX6_string_1 : cX6_string.data.toList.drop 23 = dktX6_string_1 := dk_seg dksX6_string_0 23 rfl rfl
theorem dksX6_string_2 : cX6_string.data.toList.drop 45 = dktX6_string_2 := dk_seg dksX6_string_1 22 rfl rfl
theorem dksX6_string_3 : cX6_string.data.toList.drop 68 = dktX6_string_3 := dk_seg dksX6_string_2 23 rfl rfl
theorem dksX6_string_4 : cX6_string.data.toList.drop 92 = dktX6_string_4 := dk_seg dksX6_string_3 24 rfl rfl
theorem dksX6_string_5 : cX6_string.data.toList.drop 115 = dktX6_string_5 := dk_seg dksX6_string_4 23 rfl rfl
theorem dksX6_string_6 : cX6_string.data.toList.drop 139 = dktX6_string_6 := dk_seg dksX6_string_5 24 rfl rfl
theorem dX6_string_0 : decode cX6_string 0 = .ok (.aload_n 0, 1) := dk_42 (dk_at dksX6_string_0 0 rfl rfl)
theorem dX6_string_1 : decode cX6_string 1 = .ok (.aload_n 0, 1) := dk_42 (dk_at dksX6_string_0 1 rfl rfl)
theorem dX6_string_2 : decode cX6_string 2 = .ok (.getfield 67, 3) := dk_180 0 67 (dk_at dksX6_string_0 2 rfl rfl)
theorem dX6_string_5 : decode cX6_string 5 = .ok (.iconst 2, 1) := dk_5 (dk_at dksX6_string_0 5 rfl rfl)
theorem dX6_string_6 : decode cX6_string 6 = .ok (.if_icmp .ne 7, 3) := dk_160 0 7 (dk_at dksX6_string_0 6 rfl rfl)
theorem dX6_string_9 : decode cX6_string 9 = .ok (.iconst 1, 1) := dk_4 (dk_at dksX6_string_0 9 rfl rfl)
theorem dX6_string_10 : decode cX6_string 10 = .ok (.goto 4, 3) := dk_167 0 4 (dk_at dksX6_string_0 10 rfl rfl)
theorem dX6_string_13 : decode cX6_string 13 = .ok (.iconst 0, 1) := dk_3 (dk_at dksX6_string_0 13 rfl rfl)
theorem dX6_string_14 : decode cX6_string 14 = .ok (.iconst 1, 1) := dk_4 (dk_at dksX6_string_0 14 rfl rfl)
theorem dX6_string_15 : decode cX6_string 15 = .ok (.invokevirtual 85, 3) := dk_182 0 85 (dk_at dksX6_string_0 15 rfl rfl)
theorem dX6_string_18 : decode cX6_string 18 = .ok (.iconst 0, 1) := dk_3 (dk_at dksX6_string_0 18 rfl rfl)
theorem dX6_string_19 : decode cX6_string 19 = .ok (.istore_n 2, 1) := dk_61 (dk_at dksX6_string_0 19 rfl rfl)
theorem dX6_string_20 : decode cX6_string 20 = .ok (.iconst 0, 1) := dk_3 (dk_at dksX6_string_0 20 rfl rfl)
theorem dX6_string_21 : decode cX6_string 21 = .ok (.istore_n 3, 1) := dk_62 (dk_at dksX6_string_0 21 rfl rfl)
theorem dX6_string_22 : decode cX6_string 22 = .ok (.iconst 0, 1) := dk_3 (dk_at dksX6_string_0 22 rfl rfl)
theorem dX6_string_23 : decode cX6_string 23 = .ok (.istore 4, 2) := dk_54 4 (dk_at dksX6_string_1 0 rfl rfl)
theorem dX6_string_25 : decode cX6_string 25 = .ok (.iload 4, 2) := dk_21 4 (dk_at dksX6_string_1 2 rfl rfl)
theorem dX6_string_27 : decode cX6_string 27 = .ok (.aload_n 0, 1) := dk_42 (dk_at dksX6_string_1 4 rfl rfl)
theorem dX6_string_28 : decode cX6_string 28 = .ok (.getfield 24, 3) := dk_180 0 24 (dk_at dksX6_string_1 5 rfl rfl)
theorem dX6_string_31 : decode cX6_string 31 = .ok (.invokevirtual 139, 3) := dk_182 0 139 (dk_at dksX6_string_1 8 rfl rfl)
theorem dX6_string_34 : decode cX6_string 34 = .ok (.if_icmp .ge 84, 3) := dk_162 0 84 (dk_at dksX6_string_1 11 rfl rfl)
theorem dX6_string_37 : decode cX6_string 37 = .ok (.ldc 141, 2) := dk_18 141 (dk_at dksX6_string_1 14 rfl rfl)
theorem dX6_string_39 : decode cX6_string 39 = .ok (.aload_n 0, 1) := dk_42 (dk_at dksX6_string_1 16 rfl rfl)
theorem dX6_string_40 : decode cX6_string 40 = .ok (.getfield 24, 3) := dk_180 0 24 (dk_at dksX6_string_1 17 rfl rfl)
theorem dX6_string_43 : decode cX6_string 43 = .ok (.iload 4, 2) := dk_21 4 (dk_at dksX6_string_1 20 rfl rfl)
theorem dX6_string_45 : decode cX6_string 45 = .ok (.invokevirtual 143, 3) := dk_182 0 143 (dk_at dksX6_string_2 0 rfl rfl)
theorem dX6_string_48 : decode cX6_string 48 = .ok (.invokevirtual 147, 3) := dk_182 0 147 (dk_at dksX6_string_2 3 rfl rfl)
theorem dX6_string_51 : decode cX6_string 51 = .ok (.istore 5, 2) := dk_54 5 (dk_at dksX6_string_2 6 rfl rfl)
theorem dX6_string_53 : decode cX6_string 53 = .ok (.aload_n 0, 1) := dk_42 (dk_at dksX6_string_2 8 rfl rfl)
theorem dX6_string_54 : decode cX6_string 54 = .ok (.iload 5, 2) := dk_21 5 (dk_at dksX6_string_2 9 rfl rfl)
theorem dX6_string_56 : decode cX6_string 56 = .ok (.ifCond .lt 7, 3) := dk_155 0 7 (dk_at dksX6_string_2 11 rfl rfl)
theorem dX6_string_59 : decode cX6_string 59 = .ok (.iconst 1, 1) := dk_4 (dk_at dksX6_string_2 14 rfl rfl)
theorem dX6_string_60 : decode cX6_string 60 = .ok (.goto 4, 3) := dk_167 0 4 (dk_at dksX6_string_2 15 rfl rfl)
theorem dX6_string_63 : decode cX6_string 63 = .ok (.iconst 0, 1) := dk_3 (dk_at dksX6_string_2 18 rfl rfl)
theorem dX6_string_64 : decode cX6_string 64 = .ok (.iconst 1, 1) := dk_4 (dk_at dksX6_string_2 19 rfl rfl)
theorem dX6_string_65 : decode cX6_string 65 = .ok (.invokevirtual 85, 3) := dk_182 0 85 (dk_at dksX6_string_2 20 rfl rfl)
theorem dX6_string_68 : decode cX6_string 68 = .ok (.iload 4, 2) := dk_21 4 (dk_at dksX6_string_3 0 rfl rfl)
theorem dX6_string_70 : decode cX6_string 70 = .ok (.aload_n 0, 1) := dk_42 (dk_at dksX6_string_3 2 rfl rfl)
theorem dX6_string_71 : decode cX6_string 71 = .ok (.getfield 118, 3) := dk_180 0 118 (dk_at dksX6_string_3 3 rfl rfl)
theorem dX6_string_74 : decode cX6_string 74 = .ok (.if_icmp .lt 6, 3) := dk_161 0 6 (dk_at dksX6_string_3 6 rfl rfl)
theorem dX6_string_77 : decode cX6_string 77 = .ok (.goto 35, 3) := dk_167 0 35 (dk_at dksX6_string_3 9 rfl rfl)
theorem dX6_string_80 : decode cX6_string 80 = .ok (.iload 5, 2) := dk_21 5 (dk_at dksX6_string_3 12 rfl rfl)
theorem dX6_string_82 : decode cX6_string 82 = .ok (.iconst 1, 1) := dk_4 (dk_at dksX6_string_3 14 rfl rfl)
theorem dX6_string_83 : decode cX6_string 83 = .ok (.if_icmp .eq 9, 3) := dk_159 0 9 (dk_at dksX6_string_3 15 rfl rfl)
theorem dX6_string_86 : decode cX6_string 86 = .ok (.iload 5, 2) := dk_21 5 (dk_at dksX6_string_3 18 rfl rfl)
theorem dX6_string_88 : decode cX6_string 88 = .ok (.iconst 2, 1) := dk_5 (dk_at dksX6_string_3 20 rfl rfl)
theorem dX6_string_89 : decode cX6_string 89 = .ok (.if_icmp .ne 10, 3) := dk_160 0 10 (dk_at dksX6_string_3 21 rfl rfl)
theorem dX6_string_92 : decode cX6_string 92 = .ok (.iload_n 2, 1) := dk_28 (dk_at dksX6_string_4 0 rfl rfl)
theorem dX6_string_93 : decode cX6_string 93 = .ok (.iconst 1, 1) := dk_4 (dk_at dksX6_string_4 1 rfl rfl)
theorem dX6_string_94 : decode cX6_string 94 = .ok (.iload 4, 2) := dk_21 4 (dk_at dksX6_string_4 2 rfl rfl)
theorem dX6_string_96 : decode cX6_string 96 = .ok (.ishl, 1) := dk_120 (dk_at dksX6_string_4 4 rfl rfl)
theorem dX6_string_97 : decode cX6_string 97 = .ok (.ior, 1) := dk_128 (dk_at dksX6_string_4 5 rfl rfl)
theorem dX6_string_98 : decode cX6_string 98 = .ok (.istore_n 2, 1) := dk_61 (dk_at dksX6_string_4 6 rfl rfl)
theorem dX6_string_99 : decode cX6_string 99 = .ok (.iload 5, 2) := dk_21 5 (dk_at dksX6_string_4 7 rfl rfl)
theorem dX6_string_101 : decode cX6_string 101 = .ok (.iconst 1, 1) := dk_4 (dk_at dksX6_string_4 9 rfl rfl)
theorem dX6_string_102 : decode cX6_string 102 = .ok (.if_icmp .le 10, 3) := dk_164 0 10 (dk_at dksX6_string_4 10 rfl rfl)
theorem dX6_string_105 : decode cX6_string 105 = .ok (.iload_n 3, 1) := dk_29 (dk_at dksX6_string_4 13 rfl rfl)
theorem dX6_string_106 : decode cX6_string 106 = .ok (.iconst 1, 1) := dk_4 (dk_at dksX6_string_4 14 rfl rfl)
theorem dX6_string_107 : decode cX6_string 107 = .ok (.iload 4, 2) := dk_21 4 (dk_at dksX6_string_4 15 rfl rfl)
theorem dX6_string_109 : decode cX6_string 109 = .ok (.ishl, 1) := dk_120 (dk_at dksX6_string_4 17 rfl rfl)
theorem dX6_string_110 : decode cX6_string 110 = .ok (.ior, 1) := dk_128 (dk_at dksX6_string_4 18 rfl rfl)
theorem dX6_string_111 : decode cX6_string 111 = .ok (.istore_n 3, 1) := dk_62 (dk_at dksX6_string_4 19 rfl rfl)
theorem dX6_string_112 : decode cX6_string 112 = .ok (.iinc 4 1, 3) := dk_132 4 1 (dk_at dksX6_string_4 20 rfl rfl)
theorem dX6_string_115 : decode cX6_string 115 = .ok (.goto (-90), 3) := dk_167 255 166 (dk_at dksX6_string_5 0 rfl rfl)
theorem dX6_string_118 : decode cX6_string 118 = .ok (.aload_n 0, 1) := dk_42 (dk_at dksX6_string_5 3 rfl rfl)
theorem dX6_string_119 : decode cX6_string 119 = .ok (.aload_n 0, 1) := dk_42 (dk_at dksX6_string_5 4 rfl rfl)
theorem dX6_string_120 : decode cX6_string 120 = .ok (.getfield 24, 3) := dk_180 0 24 (dk_at dksX6_string_5 5 rfl rfl)
theorem dX6_string_123 : decode cX6_string 123 = .ok (.invokevirtual 139, 3) := dk_182 0 139 (dk_at dksX6_string_5 8 rfl rfl)
theorem dX6_string_126 : decode cX6_string 126 = .ok (.aload_n 0, 1) := dk_42 (dk_at dksX6_string_5 11 rfl rfl)
theorem dX6_string_127 : decode cX6_string 127 = .ok (.getfield 118, 3) := dk_180 0 118 (dk_at dksX6_string_5 12 rfl rfl)
theorem dX6_string_130 : decode cX6_string 130 = .ok (.if_icmp .ne 13, 3) := dk_160 0 13 (dk_at dksX6_string_5 15 rfl rfl)
theorem dX6_string_133 : decode cX6_string 133 = .ok (.iload_n 2, 1) := dk_28 (dk_at dksX6_string_5 18 rfl rfl)
theorem dX6_string_134 : decode cX6_string 134 = .ok (.iload_n 3, 1) := dk_29 (dk_at dksX6_string_5 19 rfl rfl)
theorem dX6_string_135 : decode cX6_string 135 = .ok (.ior, 1) := dk_128 (dk_at dksX6_string_5 20 rfl rfl)
theorem dX6_string_136 : decode cX6_string 136 = .ok (.ifCond .eq 7, 3) := dk_153 0 7 (dk_at dksX6_string_5 21 rfl rfl)
theorem dX6_string_139 : decode cX6_string 139 = .ok (.iconst 1, 1) := dk_4 (dk_at dksX6_string_6 0 rfl rfl)
theorem dX6_string_140 : decode cX6_string 140 = .ok (.goto 4, 3) := dk_167 0 4 (dk_at dksX6_string_6 1 rfl rfl)
theorem dX6_string_143 : decode cX6_string 143 = .ok (.iconst 0, 1) := dk_3 (dk_at dksX6_string_6 4 rfl rfl)
theorem dX6_string_144 : decode cX6_string 144 = .ok (.iconst 3, 1) := dk_6 (dk_at dksX6_string_6 5 rfl rfl)
theorem dX6_string_145 : decode cX6_string 145 = .ok (.invokevirtual 85, 3) := dk_182 0 85 (dk_at dksX6_string_6 6 rfl rfl)
theorem dX6_string_148 : decode cX6_string 148 = .ok (.aload_n 0, 1) := dk_42 (dk_at dksX6_string_6 9 rfl rfl)
theorem dX6_string_149 : decode cX6_string 149 = .ok (.invokevirtual 28, 3) := dk_182 0 28 (dk_at dksX6_string_6 10 rfl rfl)
theorem dX6_string_152 : decode cX6_string 152 = .ok (.new 150, 3) := dk_187 0 150 (dk_at dksX6_string_6 13 rfl rfl)
theorem dX6_string_155 : decode cX6_string 155 = .ok (.dup, 1) := dk_89 (dk_at dksX6_string_6 16 rfl rfl)
theorem dX6_string_156 : decode cX6_string 156 = .ok (.iload_n 2, 1) := dk_28 (dk_at dksX6_string_6 17 rfl rfl)
theorem dX6_string_157 : decode cX6_string 157 = .ok (.iload_n 3, 1) := dk_29 (dk_at dksX6_string_6 18 rfl rfl)
theorem dX6_string_158 : decode cX6_string 158 = .ok (.iload_n 1, 1) := dk_27 (dk_at dksX6_string_6 19 rfl rfl)
theorem dX6_string_159 : decode cX6_string 159 = .ok (.invokespecial 152, 3) := dk_183 0 152 (dk_at dksX6_string_6 20 rfl rfl)
theorem dX6_string_162 : decode cX6_string 162 = .ok (.areturn, 1) := dk_176 (dk_at dksX6_string_6 23 rfl rfl)
abbrev cX6_gate : ByteArray := prog_8_method_11_code
def yX6_gate : MethodName := ⟨RX6, "gate", "(I)V"⟩
def dkwX6_gate_4 : List UInt8 := [89, 42, 180, 0, 3, 28, 29, 21, 4, 27, 183, 0, 131, 185, 0, 134, 2, 0, 87, 177]
abbrev dktX6_gate_4 : List UInt8 := dkwX6_gate_4 ++ []
def dkwX6_gate_3 : List UInt8 := [182, 0, 85, 42, 3, 42, 180, 0, 118, 4, 100, 5, 182, 0, 121, 54, 4, 42, 180, 0, 18, 187, 0, 129]
abbrev dktX6_gate_3 : List UInt8 := dkwX6_gate_3 ++ dktX6_gate_4
def dkwX6_gate_2 : List UInt8 := [42, 180, 0, 67, 6, 160, 0, 11, 42, 180, 0, 64, 29, 159, 0, 7, 4, 167, 0, 4, 3, 5]
abbrev dktX6_gate_2 : List UInt8 := dkwX6_gate_2 ++ dktX6_gate_3
def dkwX6_gate_1 : List UInt8 := [42, 3, 42, 180, 0, 118, 4, 100, 5, 182, 0, 121, 62, 2, 54, 4, 28, 184, 0, 125, 153, 0, 43, 42]
abbrev dktX6_gate_1 : List UInt8 := dkwX6_gate_1 ++ dktX6_gate_2
def dkwX6_gate_0 : List UInt8 := [42, 182, 0, 115, 61, 42, 28, 2, 159, 0, 7, 4, 167, 0, 4, 3, 4, 182, 0, 85, 42, 182, 0, 28]
abbrev dktX6_gate_0 : List UInt8 := dkwX6_gate_0 ++ dktX6_gate_1
theorem dksX6_gate_0 : cX6_gate.data.toList.drop 0 = dktX6_gate_0 := by decide +kernel
theorem dksX6_gate_1 : cX6_gate.data.toList.drop 24 = dktX6_gate_1 := dk_seg dksX6_gate_0 24 rfl rfl
theorem dksX6_gate_2 : cX6_gate.data.toList.drop 48 = dktX6_gate_2 := dk_seg dksX6_gate_1 24 rfl rfl
theorem dksX6_gate_3 : cX6_gate.data.toList.drop 70 = dktX6_gate_3 := dk_seg dksX6_gate_2 22 rfl rfl
theorem dksX6_gate_4 : cX6_gate.data.toList.drop 94 = dktX6_gate_4 := dk_seg dksX6_gate_3 24 rfl rfl
theorem dX6_gate_0 : decode cX6_gate 0 = .ok (.aload_n 0, 1) := dk_42 (dk_at dksX6_gate_0 0 rfl rfl)
theorem dX6_gate_1 : decode cX6_gate 1 = .ok (.invokevirtual 115, 3) := dk_182 0 115 (dk_at dksX6_gate_0 1 rfl rfl)
theorem dX6_gate_4 : decode cX6_gate 4 = .ok (.istore_n 2, 1) := dk_61 (dk_at dksX6_gate_0 4 rfl rfl)
theorem dX6_gate_5 : decode cX6_gate 5 = .ok (.aload_n 0, 1) := dk_42 (dk_at dksX6_gate_0 5 rfl rfl)
theorem dX6_gate_6 : decode cX6_gate 6 = .ok (.iload_n 2, 1) := dk_28 (dk_at dksX6_gate_0 6 rfl rfl)
theorem dX6_gate_7 : decode cX6_gate 7 = .ok (.iconst (-1), 1) := dk_2 (dk_at dksX6_gate_0 7 rfl rfl)
theorem dX6_gate_8 : decode cX6_gate 8 = .ok (.if_icmp .eq 7, 3) := dk_159 0 7 (dk_at dksX6_gate_0 8 rfl rfl)
theorem dX6_gate_11 : decode cX6_gate 11 = .ok (.iconst 1, 1) := dk_4 (dk_at dksX6_gate_0 11 rfl rfl)
theorem dX6_gate_12 : decode cX6_gate 12 = .ok (.goto 4, 3) := dk_167 0 4 (dk_at dksX6_gate_0 12 rfl rfl)
theorem dX6_gate_15 : decode cX6_gate 15 = .ok (.iconst 0, 1) := dk_3 (dk_at dksX6_gate_0 15 rfl rfl)
theorem dX6_gate_16 : decode cX6_gate 16 = .ok (.iconst 1, 1) := dk_4 (dk_at dksX6_gate_0 16 rfl rfl)
theorem dX6_gate_17 : decode cX6_gate 17 = .ok (.invokevirtual 85, 3) := dk_182 0 85 (dk_at dksX6_gate_0 17 rfl rfl)
theorem dX6_gate_20 : decode cX6_gate 20 = .ok (.aload_n 0, 1) := dk_42 (dk_at dksX6_gate_0 20 rfl rfl)
theorem dX6_gate_21 : decode cX6_gate 21 = .ok (.invokevirtual 28, 3) := dk_182 0 28 (dk_at dksX6_gate_0 21 rfl rfl)
theorem dX6_gate_24 : decode cX6_gate 24 = .ok (.aload_n 0, 1) := dk_42 (dk_at dksX6_gate_1 0 rfl rfl)
theorem dX6_gate_25 : decode cX6_gate 25 = .ok (.iconst 0, 1) := dk_3 (dk_at dksX6_gate_1 1 rfl rfl)
theorem dX6_gate_26 : decode cX6_gate 26 = .ok (.aload_n 0, 1) := dk_42 (dk_at dksX6_gate_1 2 rfl rfl)
theorem dX6_gate_27 : decode cX6_gate 27 = .ok (.getfield 118, 3) := dk_180 0 118 (dk_at dksX6_gate_1 3 rfl rfl)
theorem dX6_gate_30 : decode cX6_gate 30 = .ok (.iconst 1, 1) := dk_4 (dk_at dksX6_gate_1 6 rfl rfl)
theorem dX6_gate_31 : decode cX6_gate 31 = .ok (.isub, 1) := dk_100 (dk_at dksX6_gate_1 7 rfl rfl)
theorem dX6_gate_32 : decode cX6_gate 32 = .ok (.iconst 2, 1) := dk_5 (dk_at dksX6_gate_1 8 rfl rfl)
theorem dX6_gate_33 : decode cX6_gate 33 = .ok (.invokevirtual 121, 3) := dk_182 0 121 (dk_at dksX6_gate_1 9 rfl rfl)
theorem dX6_gate_36 : decode cX6_gate 36 = .ok (.istore_n 3, 1) := dk_62 (dk_at dksX6_gate_1 12 rfl rfl)
theorem dX6_gate_37 : decode cX6_gate 37 = .ok (.iconst (-1), 1) := dk_2 (dk_at dksX6_gate_1 13 rfl rfl)
theorem dX6_gate_38 : decode cX6_gate 38 = .ok (.istore 4, 2) := dk_54 4 (dk_at dksX6_gate_1 14 rfl rfl)
theorem dX6_gate_40 : decode cX6_gate 40 = .ok (.iload_n 2, 1) := dk_28 (dk_at dksX6_gate_1 16 rfl rfl)
theorem dX6_gate_41 : decode cX6_gate 41 = .ok (.invokestatic 125, 3) := dk_184 0 125 (dk_at dksX6_gate_1 17 rfl rfl)
theorem dX6_gate_44 : decode cX6_gate 44 = .ok (.ifCond .eq 43, 3) := dk_153 0 43 (dk_at dksX6_gate_1 20 rfl rfl)
theorem dX6_gate_47 : decode cX6_gate 47 = .ok (.aload_n 0, 1) := dk_42 (dk_at dksX6_gate_1 23 rfl rfl)
theorem dX6_gate_48 : decode cX6_gate 48 = .ok (.aload_n 0, 1) := dk_42 (dk_at dksX6_gate_2 0 rfl rfl)
theorem dX6_gate_49 : decode cX6_gate 49 = .ok (.getfield 67, 3) := dk_180 0 67 (dk_at dksX6_gate_2 1 rfl rfl)
theorem dX6_gate_52 : decode cX6_gate 52 = .ok (.iconst 3, 1) := dk_6 (dk_at dksX6_gate_2 4 rfl rfl)
theorem dX6_gate_53 : decode cX6_gate 53 = .ok (.if_icmp .ne 11, 3) := dk_160 0 11 (dk_at dksX6_gate_2 5 rfl rfl)
theorem dX6_gate_56 : decode cX6_gate 56 = .ok (.aload_n 0, 1) := dk_42 (dk_at dksX6_gate_2 8 rfl rfl)
theorem dX6_gate_57 : decode cX6_gate 57 = .ok (.getfield 64, 3) := dk_180 0 64 (dk_at dksX6_gate_2 9 rfl rfl)
theorem dX6_gate_60 : decode cX6_gate 60 = .ok (.iload_n 3, 1) := dk_29 (dk_at dksX6_gate_2 12 rfl rfl)
theorem dX6_gate_61 : decode cX6_gate 61 = .ok (.if_icmp .eq 7, 3) := dk_159 0 7 (dk_at dksX6_gate_2 13 rfl rfl)
theorem dX6_gate_64 : decode cX6_gate 64 = .ok (.iconst 1, 1) := dk_4 (dk_at dksX6_gate_2 16 rfl rfl)
theorem dX6_gate_65 : decode cX6_gate 65 = .ok (.goto 4, 3) := dk_167 0 4 (dk_at dksX6_gate_2 17 rfl rfl)
theorem dX6_gate_68 : decode cX6_gate 68 = .ok (.iconst 0, 1) := dk_3 (dk_at dksX6_gate_2 20 rfl rfl)
theorem dX6_gate_69 : decode cX6_gate 69 = .ok (.iconst 2, 1) := dk_5 (dk_at dksX6_gate_2 21 rfl rfl)
theorem dX6_gate_70 : decode cX6_gate 70 = .ok (.invokevirtual 85, 3) := dk_182 0 85 (dk_at dksX6_gate_3 0 rfl rfl)
theorem dX6_gate_73 : decode cX6_gate 73 = .ok (.aload_n 0, 1) := dk_42 (dk_at dksX6_gate_3 3 rfl rfl)
theorem dX6_gate_74 : decode cX6_gate 74 = .ok (.iconst 0, 1) := dk_3 (dk_at dksX6_gate_3 4 rfl rfl)
theorem dX6_gate_75 : decode cX6_gate 75 = .ok (.aload_n 0, 1) := dk_42 (dk_at dksX6_gate_3 5 rfl rfl)
theorem dX6_gate_76 : decode cX6_gate 76 = .ok (.getfield 118, 3) := dk_180 0 118 (dk_at dksX6_gate_3 6 rfl rfl)
theorem dX6_gate_79 : decode cX6_gate 79 = .ok (.iconst 1, 1) := dk_4 (dk_at dksX6_gate_3 9 rfl rfl)
theorem dX6_gate_80 : decode cX6_gate 80 = .ok (.isub, 1) := dk_100 (dk_at dksX6_gate_3 10 rfl rfl)
theorem dX6_gate_81 : decode cX6_gate 81 = .ok (.iconst 2, 1) := dk_5 (dk_at dksX6_gate_3 11 rfl rfl)
theorem dX6_gate_82 : decode cX6_gate 82 = .ok (.invokevirtual 121, 3) := dk_182 0 121 (dk_at dksX6_gate_3 12 rfl rfl)
theorem dX6_gate_85 : decode cX6_gate 85 = .ok (.istore 4, 2) := dk_54 4 (dk_at dksX6_gate_3 15 rfl rfl)
theorem dX6_gate_87 : decode cX6_gate 87 = .ok (.aload_n 0, 1) := dk_42 (dk_at dksX6_gate_3 17 rfl rfl)
theorem dX6_gate_88 : decode cX6_gate 88 = .ok (.getfield 18, 3) := dk_180 0 18 (dk_at dksX6_gate_3 18 rfl rfl)
theorem dX6_gate_91 : decode cX6_gate 91 = .ok (.new 129, 3) := dk_187 0 129 (dk_at dksX6_gate_3 21 rfl rfl)
theorem dX6_gate_94 : decode cX6_gate 94 = .ok (.dup, 1) := dk_89 (dk_at dksX6_gate_4 0 rfl rfl)
theorem dX6_gate_95 : decode cX6_gate 95 = .ok (.aload_n 0, 1) := dk_42 (dk_at dksX6_gate_4 1 rfl rfl)
theorem dX6_gate_96 : decode cX6_gate 96 = .ok (.getfield 3, 3) := dk_180 0 3 (dk_at dksX6_gate_4 2 rfl rfl)
theorem dX6_gate_99 : decode cX6_gate 99 = .ok (.iload_n 2, 1) := dk_28 (dk_at dksX6_gate_4 5 rfl rfl)
theorem dX6_gate_100 : decode cX6_gate 100 = .ok (.iload_n 3, 1) := dk_29 (dk_at dksX6_gate_4 6 rfl rfl)
theorem dX6_gate_101 : decode cX6_gate 101 = .ok (.iload 4, 2) := dk_21 4 (dk_at dksX6_gate_4 7 rfl rfl)
theorem dX6_gate_103 : decode cX6_gate 103 = .ok (.iload_n 1, 1) := dk_27 (dk_at dksX6_gate_4 9 rfl rfl)
theorem dX6_gate_104 : decode cX6_gate 104 = .ok (.invokespecial 131, 3) := dk_183 0 131 (dk_at dksX6_gate_4 10 rfl rfl)
theorem dX6_gate_107 : decode cX6_gate 107 = .ok (.invokeinterface 134 2, 5) := by decide +kernel
theorem dX6_gate_112 : decode cX6_gate 112 = .ok (.pop, 1) := dk_87 (dk_at dksX6_gate_4 18 rfl rfl)
theorem dX6_gate_113 : decode cX6_gate 113 = .ok (.return_, 1) := dk_177 (dk_at dksX6_gate_4 19 rfl rfl)
theorem q133 : (Jvm.Cond.initialized "StringTableau$Parser") ∈ lw_all := lw_g (lw_at lw_m1 14 rfl) rfl
theorem q350 : (Jvm.Cond.fieldLinkNest "StringTableau$Parser" (35 : Nat) "StringTableau" "buffer" "[B" "StringTableau") ∈ lw_tbl := lw_at lw_m1 231 rfl
theorem q351 : (Jvm.Cond.fieldLinkNest "StringTableau$Parser" (31 : Nat) "StringTableau" "length" "I" "StringTableau") ∈ lw_tbl := lw_at lw_m1 232 rfl
theorem q396 : (Jvm.Cond.instantiable "StringTableau$Parser" (11 : Nat)) ∈ lw_all := lw_g (lw_at lw_m2 37 rfl) rfl
theorem q398 : (Jvm.Cond.instanceMethod ({ cls := "StringTableau$Parser", name := "<init>", desc := "(LStringTableau;)V" } : Jvm.MethodName)) ∈ lw_all := lw_g (lw_at lw_m2 39 rfl) rfl
theorem q399 : (Jvm.Cond.code ({ cls := "StringTableau$Parser", name := "<init>", desc := "(LStringTableau;)V" } : Jvm.MethodName) prog_8_method_1_code (2 : Nat) (Option.none : Option Jvm.ClassFile.FieldType)) ∈ lw_all := lw_g (lw_at lw_m2 40 rfl) rfl
theorem q400 : (Jvm.Cond.methodLink "StringTableau$Parser" (9 : Nat) ({ cls := "java/lang/Object", name := "<init>", desc := "()V" } : Jvm.MethodName)) ∈ lw_all := lw_g (lw_at lw_m2 41 rfl) rfl
theorem q401 : (Jvm.Cond.classLink "StringTableau$Parser" (15 : Nat) "java/util/ArrayList") ∈ lw_all := lw_g (lw_at lw_m2 42 rfl) rfl
theorem q402 : (Jvm.Cond.methodLink "StringTableau$Parser" (17 : Nat) ({ cls := "java/util/ArrayList", name := "<init>", desc := "()V" } : Jvm.MethodName)) ∈ lw_all := lw_g (lw_at lw_m2 43 rfl) rfl
theorem q403 : (Jvm.Cond.stringRef "StringTableau$Parser" (22 : Nat) "") ∈ lw_tbl := lw_at lw_m2 44 rfl
theorem q404 : (Jvm.Cond.methodLink "StringTableau$Parser" (28 : Nat) ({ cls := "StringTableau$Parser", name := "advance", desc := "()V" } : Jvm.MethodName)) ∈ lw_all := lw_g (lw_at lw_m2 45 rfl) rfl
theorem q405 : (Jvm.Cond.privateMethod ({ cls := "StringTableau$Parser", name := "advance", desc := "()V" } : Jvm.MethodName)) ∈ lw_tbl := lw_at lw_m2 46 rfl
theorem q406 : (Jvm.Cond.instanceMethod ({ cls := "StringTableau$Parser", name := "advance", desc := "()V" } : Jvm.MethodName)) ∈ lw_all := lw_g (lw_at lw_m2 47 rfl) rfl
theorem q407 : (Jvm.Cond.code ({ cls := "StringTableau$Parser", name := "advance", desc := "()V" } : Jvm.MethodName) prog_8_method_4_code (2 : Nat) (Option.none : Option Jvm.ClassFile.FieldType)) ∈ lw_all := lw_g (lw_at lw_m2 48 rfl) rfl
theorem q408 : (Jvm.Cond.methodLink "StringTableau$Parser" (45 : Nat) ({ cls := "StringTableau$Parser", name := "byteAt", desc := "(I)I" } : Jvm.MethodName)) ∈ lw_all := lw_g (lw_at lw_m2 49 rfl) rfl
theorem q409 : (Jvm.Cond.privateMethod ({ cls := "StringTableau$Parser", name := "byteAt", desc := "(I)I" } : Jvm.MethodName)) ∈ lw_tbl := lw_at lw_m2 50 rfl
theorem q410 : (Jvm.Cond.instanceMethod ({ cls := "StringTableau$Parser", name := "byteAt", desc := "(I)I" } : Jvm.MethodName)) ∈ lw_all := lw_g (lw_at lw_m2 51 rfl) rfl
theorem q411 : (Jvm.Cond.code ({ cls := "StringTableau$Parser", name := "byteAt", desc := "(I)I" } : Jvm.MethodName) prog_8_method_2_code (2 : Nat) (Option.some Jvm.ClassFile.FieldType.int)) ∈ lw_all := lw_g (lw_at lw_m2 52 rfl) rfl
theorem q412 : (Jvm.Cond.methodLinkNest "StringTableau$Parser" (49 : Nat) ({ cls := "StringTableau", name := "inRange", desc := "(III)Z" } : Jvm.MethodName) "StringTableau") ∈ lw_tbl := lw_at lw_m2 53 rfl
theorem q413 : (Jvm.Cond.methodLink "StringTableau$Parser" (70 : Nat) ({ cls := "StringTableau$Parser", name := "letters", desc := "(CC)Ljava/lang/String;" } : Jvm.MethodName)) ∈ lw_all := lw_g (lw_at lw_m2 54 rfl) rfl
theorem q414 : (Jvm.Cond.privateMethod ({ cls := "StringTableau$Parser", name := "letters", desc := "(CC)Ljava/lang/String;" } : Jvm.MethodName)) ∈ lw_tbl := lw_at lw_m2 55 rfl
theorem q415 : (Jvm.Cond.instanceMethod ({ cls := "StringTableau$Parser", name := "letters", desc := "(CC)Ljava/lang/String;" } : Jvm.MethodName)) ∈ lw_all := lw_g (lw_at lw_m2 56 rfl) rfl
theorem q416 : (Jvm.Cond.code ({ cls := "StringTableau$Parser", name := "letters", desc := "(CC)Ljava/lang/String;" } : Jvm.MethodName) prog_8_method_3_code (4 : Nat) (Option.some (Jvm.ClassFile.FieldType.object "java/lang/String"))) ∈ lw_all := lw_g (lw_at lw_m2 57 rfl) rfl
theorem q417 : (Jvm.Cond.classLink "StringTableau$Parser" (39 : Nat) "java/lang/StringBuilder") ∈ lw_all := lw_g (lw_at lw_m2 58 rfl) rfl
theorem q418 : (Jvm.Cond.methodLink "StringTableau$Parser" (41 : Nat) ({ cls := "java/lang/StringBuilder", name := "<init>", desc := "()V" } : Jvm.MethodName)) ∈ lw_all := lw_g (lw_at lw_m2 59 rfl) rfl
theorem q419 : (Jvm.Cond.methodLink "StringTableau$Parser" (53 : Nat) ({ cls := "java/lang/StringBuilder", name := "append", desc := "(C)Ljava/lang/StringBuilder;" } : Jvm.MethodName)) ∈ lw_all := lw_g (lw_at lw_m2 60 rfl) rfl
theorem q514 : (Jvm.Cond.methodLink "StringTableau$Parser" (57 : Nat) ({ cls := "java/lang/StringBuilder", name := "toString", desc := "()Ljava/lang/String;" } : Jvm.MethodName)) ∈ lw_all := lw_g (lw_at lw_m2 155 rfl) rfl
theorem q722 : (Jvm.Cond.fieldLink "StringTableau$Parser" (18 : Nat) "StringTableau$Parser" "operations" "Ljava/util/List;") ∈ lw_all := lw_g (lw_at lw_m3 123 rfl) rfl
theorem q724 : (Jvm.Cond.fieldLink "StringTableau$Parser" (42 : Nat) "StringTableau$Parser" "next" "I") ∈ lw_all := lw_g (lw_at lw_m3 125 rfl) rfl
theorem q725 : (Jvm.Cond.fieldLink "StringTableau$Parser" (61 : Nat) "StringTableau$Parser" "start" "I") ∈ lw_all := lw_g (lw_at lw_m3 126 rfl) rfl
theorem q726 : (Jvm.Cond.fieldLink "StringTableau$Parser" (67 : Nat) "StringTableau$Parser" "kind" "I") ∈ lw_all := lw_g (lw_at lw_m3 127 rfl) rfl
theorem q727 : (Jvm.Cond.fieldLink "StringTableau$Parser" (64 : Nat) "StringTableau$Parser" "value" "I") ∈ lw_all := lw_g (lw_at lw_m3 128 rfl) rfl
theorem q728 : (Jvm.Cond.fieldLink "StringTableau$Parser" (118 : Nat) "StringTableau$Parser" "qubits" "I") ∈ lw_all := lw_g (lw_at lw_m3 129 rfl) rfl
theorem q729 : (Jvm.Cond.fieldLink "StringTableau$Parser" (198 : Nat) "StringTableau$Parser" "seed" "I") ∈ lw_all := lw_g (lw_at lw_m3 130 rfl) rfl
theorem q730 : (Jvm.Cond.fieldLink "StringTableau$Parser" (170 : Nat) "StringTableau$Parser" "measures" "I") ∈ lw_all := lw_g (lw_at lw_m3 131 rfl) rfl
theorem q731 : (Jvm.Cond.fieldLink "StringTableau$Parser" (194 : Nat) "StringTableau$Parser" "hasSeed" "Z") ∈ lw_all := lw_g (lw_at lw_m3 132 rfl) rfl
theorem q732 : (Jvm.Cond.fieldLink "StringTableau$Parser" (24 : Nat) "StringTableau$Parser" "word" "Ljava/lang/String;") ∈ lw_all := lw_g (lw_at lw_m3 133 rfl) rfl
theorem q733 : (Jvm.Cond.fieldLink "StringTableau$Parser" (3 : Nat) "StringTableau$Parser" "this$0" "LStringTableau;") ∈ lw_all := lw_g (lw_at lw_m3 134 rfl) rfl
theorem q734 : (Jvm.Cond.laysFinal "StringTableau$Parser" "StringTableau$Parser" "operations" "Ljava/util/List;") ∈ lw_all := lw_g (lw_at lw_m3 135 rfl) rfl
theorem q735 : (Jvm.Cond.soleField "StringTableau$Parser" "operations") ∈ lw_all := lw_g (lw_at lw_m3 136 rfl) rfl
theorem q736 : (Jvm.Cond.lays "StringTableau$Parser" "StringTableau$Parser" "next" "I") ∈ lw_all := lw_g (lw_at lw_m3 137 rfl) rfl
theorem q737 : (Jvm.Cond.soleField "StringTableau$Parser" "next") ∈ lw_all := lw_g (lw_at lw_m3 138 rfl) rfl
theorem q738 : (Jvm.Cond.lays "StringTableau$Parser" "StringTableau$Parser" "start" "I") ∈ lw_all := lw_g (lw_at lw_m3 139 rfl) rfl
theorem q739 : (Jvm.Cond.soleField "StringTableau$Parser" "start") ∈ lw_all := lw_g (lw_at lw_m3 140 rfl) rfl
theorem q740 : (Jvm.Cond.lays "StringTableau$Parser" "StringTableau$Parser" "kind" "I") ∈ lw_all := lw_g (lw_at lw_m3 141 rfl) rfl
theorem q741 : (Jvm.Cond.soleField "StringTableau$Parser" "kind") ∈ lw_all := lw_g (lw_at lw_m3 142 rfl) rfl
theorem q742 : (Jvm.Cond.lays "StringTableau$Parser" "StringTableau$Parser" "value" "I") ∈ lw_all := lw_g (lw_at lw_m3 143 rfl) rfl
theorem q743 : (Jvm.Cond.soleField "StringTableau$Parser" "value") ∈ lw_all := lw_g (lw_at lw_m3 144 rfl) rfl
theorem q744 : (Jvm.Cond.lays "StringTableau$Parser" "StringTableau$Parser" "qubits" "I") ∈ lw_all := lw_g (lw_at lw_m3 145 rfl) rfl
theorem q745 : (Jvm.Cond.soleField "StringTableau$Parser" "qubits") ∈ lw_all := lw_g (lw_at lw_m3 146 rfl) rfl
theorem q746 : (Jvm.Cond.lays "StringTableau$Parser" "StringTableau$Parser" "seed" "I") ∈ lw_all := lw_g (lw_at lw_m3 147 rfl) rfl
theorem q747 : (Jvm.Cond.soleField "StringTableau$Parser" "seed") ∈ lw_all := lw_g (lw_at lw_m3 148 rfl) rfl
theorem q748 : (Jvm.Cond.lays "StringTableau$Parser" "StringTableau$Parser" "measures" "I") ∈ lw_all := lw_g (lw_at lw_m3 149 rfl) rfl
theorem q749 : (Jvm.Cond.soleField "StringTableau$Parser" "measures") ∈ lw_all := lw_g (lw_at lw_m3 150 rfl) rfl
theorem q750 : (Jvm.Cond.lays "StringTableau$Parser" "StringTableau$Parser" "hasSeed" "Z") ∈ lw_all := lw_g (lw_at lw_m3 151 rfl) rfl
theorem q751 : (Jvm.Cond.soleField "StringTableau$Parser" "hasSeed") ∈ lw_all := lw_g (lw_at lw_m3 152 rfl) rfl
theorem q752 : (Jvm.Cond.lays "StringTableau$Parser" "StringTableau$Parser" "word" "Ljava/lang/String;") ∈ lw_all := lw_g (lw_at lw_m3 153 rfl) rfl
theorem q753 : (Jvm.Cond.soleField "StringTableau$Parser" "word") ∈ lw_all := lw_g (lw_at lw_m3 154 rfl) rfl
theorem q754 : (Jvm.Cond.laysFinal "StringTableau$Parser" "StringTableau$Parser" "this$0" "LStringTableau;") ∈ lw_all := lw_g (lw_at lw_m3 155 rfl) rfl
theorem q755 : (Jvm.Cond.soleField "StringTableau$Parser" "this$0") ∈ lw_all := lw_g (lw_at lw_m3 156 rfl) rfl
theorem q756 : (Jvm.Cond.superclass "StringTableau$Parser" "java/lang/Object") ∈ lw_all := lw_g (lw_at lw_m3 157 rfl) rfl
theorem q758 : (Jvm.Cond.instanceMethod ({ cls := "StringTableau$Parser", name := "parse", desc := "()LStringTableau$State;" } : Jvm.MethodName)) ∈ lw_all := lw_g (lw_at lw_m3 159 rfl) rfl
theorem q759 : (Jvm.Cond.selects "StringTableau$Parser" ({ cls := "StringTableau$Parser", name := "parse", desc := "()LStringTableau$State;" } : Jvm.MethodName) ({ cls := "StringTableau$Parser", name := "parse", desc := "()LStringTableau$State;" } : Jvm.MethodName)) ∈ lw_all := lw_g (lw_at lw_m3 160 rfl) rfl
theorem q760 : (Jvm.Cond.code ({ cls := "StringTableau$Parser", name := "parse", desc := "()LStringTableau$State;" } : Jvm.MethodName) prog_8_method_17_code (2 : Nat) (Option.some (Jvm.ClassFile.FieldType.object "StringTableau$State"))) ∈ lw_all := lw_g (lw_at lw_m3 161 rfl) rfl
theorem q761 : (Jvm.Cond.stringRef "StringTableau$Parser" (200 : Nat) "qubits") ∈ lw_tbl := lw_at lw_m3 162 rfl
theorem q762 : (Jvm.Cond.methodLink "StringTableau$Parser" (164 : Nat) ({ cls := "StringTableau$Parser", name := "accept", desc := "(Ljava/lang/String;)Z" } : Jvm.MethodName)) ∈ lw_all := lw_g (lw_at lw_m3 163 rfl) rfl
theorem q763 : (Jvm.Cond.privateMethod ({ cls := "StringTableau$Parser", name := "accept", desc := "(Ljava/lang/String;)Z" } : Jvm.MethodName)) ∈ lw_tbl := lw_at lw_m3 164 rfl
theorem q764 : (Jvm.Cond.instanceMethod ({ cls := "StringTableau$Parser", name := "accept", desc := "(Ljava/lang/String;)Z" } : Jvm.MethodName)) ∈ lw_all := lw_g (lw_at lw_m3 165 rfl) rfl
theorem q765 : (Jvm.Cond.code ({ cls := "StringTableau$Parser", name := "accept", desc := "(Ljava/lang/String;)Z" } : Jvm.MethodName) prog_8_method_6_code (3 : Nat) (Option.some Jvm.ClassFile.FieldType.boolean)) ∈ lw_all := lw_g (lw_at lw_m3 166 rfl) rfl
theorem q766 : (Jvm.Cond.methodLink "StringTableau$Parser" (79 : Nat) ({ cls := "java/lang/String", name := "equals", desc := "(Ljava/lang/Object;)Z" } : Jvm.MethodName)) ∈ lw_all := lw_g (lw_at lw_m3 167 rfl) rfl
theorem q774 : (Jvm.Cond.methodLink "StringTableau$Parser" (85 : Nat) ({ cls := "StringTableau$Parser", name := "require", desc := "(ZI)V" } : Jvm.MethodName)) ∈ lw_all := lw_g (lw_at lw_m3 175 rfl) rfl
theorem q775 : (Jvm.Cond.privateMethod ({ cls := "StringTableau$Parser", name := "require", desc := "(ZI)V" } : Jvm.MethodName)) ∈ lw_tbl := lw_at lw_m3 176 rfl
theorem q776 : (Jvm.Cond.instanceMethod ({ cls := "StringTableau$Parser", name := "require", desc := "(ZI)V" } : Jvm.MethodName)) ∈ lw_all := lw_g (lw_at lw_m3 177 rfl) rfl
theorem q777 : (Jvm.Cond.code ({ cls := "StringTableau$Parser", name := "require", desc := "(ZI)V" } : Jvm.MethodName) prog_8_method_5_code (3 : Nat) (Option.none : Option Jvm.ClassFile.FieldType)) ∈ lw_all := lw_g (lw_at lw_m3 178 rfl) rfl
theorem q778 : (Jvm.Cond.classLink "StringTableau$Parser" (74 : Nat) "StringTableau$ParseException") ∈ lw_all := lw_g (lw_at lw_m3 179 rfl) rfl
theorem q787 : (Jvm.Cond.methodLink "StringTableau$Parser" (76 : Nat) ({ cls := "StringTableau$ParseException", name := "<init>", desc := "(II)V" } : Jvm.MethodName)) ∈ lw_all := lw_g (lw_at lw_m3 188 rfl) rfl
theorem q806 : (Jvm.Cond.methodLink "StringTableau$Parser" (121 : Nat) ({ cls := "StringTableau$Parser", name := "number", desc := "(III)I" } : Jvm.MethodName)) ∈ lw_all := lw_g (lw_at lw_m3 207 rfl) rfl
theorem q807 : (Jvm.Cond.privateMethod ({ cls := "StringTableau$Parser", name := "number", desc := "(III)I" } : Jvm.MethodName)) ∈ lw_tbl := lw_at lw_m3 208 rfl
theorem q808 : (Jvm.Cond.instanceMethod ({ cls := "StringTableau$Parser", name := "number", desc := "(III)I" } : Jvm.MethodName)) ∈ lw_all := lw_g (lw_at lw_m3 209 rfl) rfl
theorem q809 : (Jvm.Cond.code ({ cls := "StringTableau$Parser", name := "number", desc := "(III)I" } : Jvm.MethodName) prog_8_method_7_code (5 : Nat) (Option.some Jvm.ClassFile.FieldType.int)) ∈ lw_all := lw_g (lw_at lw_m3 210 rfl) rfl
theorem q810 : (Jvm.Cond.methodLink "StringTableau$Parser" (201 : Nat) ({ cls := "StringTableau$Parser", name := "end", desc := "()V" } : Jvm.MethodName)) ∈ lw_all := lw_g (lw_at lw_m3 211 rfl) rfl
theorem q811 : (Jvm.Cond.privateMethod ({ cls := "StringTableau$Parser", name := "end", desc := "()V" } : Jvm.MethodName)) ∈ lw_tbl := lw_at lw_m3 212 rfl
theorem q812 : (Jvm.Cond.instanceMethod ({ cls := "StringTableau$Parser", name := "end", desc := "()V" } : Jvm.MethodName)) ∈ lw_all := lw_g (lw_at lw_m3 213 rfl) rfl
theorem q813 : (Jvm.Cond.code ({ cls := "StringTableau$Parser", name := "end", desc := "()V" } : Jvm.MethodName) prog_8_method_16_code (1 : Nat) (Option.none : Option Jvm.ClassFile.FieldType)) ∈ lw_all := lw_g (lw_at lw_m3 214 rfl) rfl
theorem q814 : (Jvm.Cond.methodLink "StringTableau$Parser" (204 : Nat) ({ cls := "StringTableau$Parser", name := "statement", desc := "()V" } : Jvm.MethodName)) ∈ lw_all := lw_g (lw_at lw_m3 215 rfl) rfl
theorem q815 : (Jvm.Cond.privateMethod ({ cls := "StringTableau$Parser", name := "statement", desc := "()V" } : Jvm.MethodName)) ∈ lw_tbl := lw_at lw_m3 216 rfl
theorem q816 : (Jvm.Cond.instanceMethod ({ cls := "StringTableau$Parser", name := "statement", desc := "()V" } : Jvm.MethodName)) ∈ lw_all := lw_g (lw_at lw_m3 217 rfl) rfl
theorem q817 : (Jvm.Cond.code ({ cls := "StringTableau$Parser", name := "statement", desc := "()V" } : Jvm.MethodName) prog_8_method_15_code (1 : Nat) (Option.none : Option Jvm.ClassFile.FieldType)) ∈ lw_all := lw_g (lw_at lw_m3 218 rfl) rfl
theorem q818 : (Jvm.Cond.stringRef "StringTableau$Parser" (189 : Nat) "seed") ∈ lw_tbl := lw_at lw_m3 219 rfl
theorem q819 : (Jvm.Cond.methodLink "StringTableau$Parser" (191 : Nat) ({ cls := "StringTableau$Parser", name := "operation", desc := "()V" } : Jvm.MethodName)) ∈ lw_all := lw_g (lw_at lw_m3 220 rfl) rfl
theorem q820 : (Jvm.Cond.privateMethod ({ cls := "StringTableau$Parser", name := "operation", desc := "()V" } : Jvm.MethodName)) ∈ lw_tbl := lw_at lw_m3 221 rfl
theorem q821 : (Jvm.Cond.instanceMethod ({ cls := "StringTableau$Parser", name := "operation", desc := "()V" } : Jvm.MethodName)) ∈ lw_all := lw_g (lw_at lw_m3 222 rfl) rfl
theorem q822 : (Jvm.Cond.code ({ cls := "StringTableau$Parser", name := "operation", desc := "()V" } : Jvm.MethodName) prog_8_method_14_code (3 : Nat) (Option.none : Option Jvm.ClassFile.FieldType)) ∈ lw_all := lw_g (lw_at lw_m3 223 rfl) rfl
theorem q823 : (Jvm.Cond.stringRef "StringTableau$Parser" (176 : Nat) "when") ∈ lw_tbl := lw_at lw_m3 224 rfl
theorem q824 : (Jvm.Cond.stringRef "StringTableau$Parser" (178 : Nat) "measure") ∈ lw_tbl := lw_at lw_m3 225 rfl
theorem q825 : (Jvm.Cond.methodLink "StringTableau$Parser" (115 : Nat) ({ cls := "StringTableau$Parser", name := "gateKind", desc := "()I" } : Jvm.MethodName)) ∈ lw_all := lw_g (lw_at lw_m3 226 rfl) rfl
theorem q826 : (Jvm.Cond.privateMethod ({ cls := "StringTableau$Parser", name := "gateKind", desc := "()I" } : Jvm.MethodName)) ∈ lw_tbl := lw_at lw_m3 227 rfl
theorem q827 : (Jvm.Cond.instanceMethod ({ cls := "StringTableau$Parser", name := "gateKind", desc := "()I" } : Jvm.MethodName)) ∈ lw_all := lw_g (lw_at lw_m3 228 rfl) rfl
theorem q828 : (Jvm.Cond.code ({ cls := "StringTableau$Parser", name := "gateKind", desc := "()I" } : Jvm.MethodName) prog_8_method_10_code (3 : Nat) (Option.some Jvm.ClassFile.FieldType.int)) ∈ lw_all := lw_g (lw_at lw_m3 229 rfl) rfl
theorem q829 : (Jvm.Cond.methodLink "StringTableau$Parser" (93 : Nat) ({ cls := "java/lang/String", name := "hashCode", desc := "()I" } : Jvm.MethodName)) ∈ lw_all := lw_g (lw_at lw_m3 230 rfl) rfl
theorem q890 : (Jvm.Cond.stringRef "StringTableau$Parser" (97 : Nat) "h") ∈ lw_tbl := lw_at lw_m4 51 rfl
theorem q891 : (Jvm.Cond.stringRef "StringTableau$Parser" (99 : Nat) "s") ∈ lw_tbl := lw_at lw_m4 52 rfl
theorem q892 : (Jvm.Cond.stringRef "StringTableau$Parser" (101 : Nat) "sdg") ∈ lw_tbl := lw_at lw_m4 53 rfl
theorem q893 : (Jvm.Cond.stringRef "StringTableau$Parser" (103 : Nat) "x") ∈ lw_tbl := lw_at lw_m4 54 rfl
theorem q894 : (Jvm.Cond.stringRef "StringTableau$Parser" (105 : Nat) "y") ∈ lw_tbl := lw_at lw_m4 55 rfl
theorem q895 : (Jvm.Cond.stringRef "StringTableau$Parser" (107 : Nat) "z") ∈ lw_tbl := lw_at lw_m4 56 rfl
theorem q896 : (Jvm.Cond.stringRef "StringTableau$Parser" (109 : Nat) "cx") ∈ lw_tbl := lw_at lw_m4 57 rfl
theorem q897 : (Jvm.Cond.stringRef "StringTableau$Parser" (111 : Nat) "cz") ∈ lw_tbl := lw_at lw_m4 58 rfl
theorem q898 : (Jvm.Cond.stringRef "StringTableau$Parser" (113 : Nat) "swap") ∈ lw_tbl := lw_at lw_m4 59 rfl
theorem q899 : (Jvm.Cond.interfaceEntry "StringTableau$Parser" (180 : Nat)) ∈ lw_tbl := lw_at lw_m4 60 rfl
theorem q900 : (Jvm.Cond.methodLink "StringTableau$Parser" (180 : Nat) ({ cls := "java/util/List", name := "size", desc := "()I" } : Jvm.MethodName)) ∈ lw_all := lw_g (lw_at lw_m4 61 rfl) rfl
theorem q909 : (Jvm.Cond.methodLink "StringTableau$Parser" (183 : Nat) ({ cls := "StringTableau$Parser", name := "measure", desc := "()V" } : Jvm.MethodName)) ∈ lw_all := lw_g (lw_at lw_m4 70 rfl) rfl
theorem q910 : (Jvm.Cond.privateMethod ({ cls := "StringTableau$Parser", name := "measure", desc := "()V" } : Jvm.MethodName)) ∈ lw_tbl := lw_at lw_m4 71 rfl
theorem q911 : (Jvm.Cond.instanceMethod ({ cls := "StringTableau$Parser", name := "measure", desc := "()V" } : Jvm.MethodName)) ∈ lw_all := lw_g (lw_at lw_m4 72 rfl) rfl
theorem q912 : (Jvm.Cond.code ({ cls := "StringTableau$Parser", name := "measure", desc := "()V" } : Jvm.MethodName) prog_8_method_13_code (4 : Nat) (Option.none : Option Jvm.ClassFile.FieldType)) ∈ lw_all := lw_g (lw_at lw_m4 73 rfl) rfl
theorem q913 : (Jvm.Cond.methodLink "StringTableau$Parser" (89 : Nat) ({ cls := "StringTableau$Parser", name := "isSign", desc := "()Z" } : Jvm.MethodName)) ∈ lw_all := lw_g (lw_at lw_m4 74 rfl) rfl
theorem q914 : (Jvm.Cond.privateMethod ({ cls := "StringTableau$Parser", name := "isSign", desc := "()Z" } : Jvm.MethodName)) ∈ lw_tbl := lw_at lw_m4 75 rfl
theorem q915 : (Jvm.Cond.instanceMethod ({ cls := "StringTableau$Parser", name := "isSign", desc := "()Z" } : Jvm.MethodName)) ∈ lw_all := lw_g (lw_at lw_m4 76 rfl) rfl
theorem q916 : (Jvm.Cond.code ({ cls := "StringTableau$Parser", name := "isSign", desc := "()Z" } : Jvm.MethodName) prog_8_method_8_code (1 : Nat) (Option.some Jvm.ClassFile.FieldType.boolean)) ∈ lw_all := lw_g (lw_at lw_m4 77 rfl) rfl
theorem q917 : (Jvm.Cond.methodLink "StringTableau$Parser" (155 : Nat) ({ cls := "StringTableau$Parser", name := "sign", desc := "()I" } : Jvm.MethodName)) ∈ lw_all := lw_g (lw_at lw_m4 78 rfl) rfl
theorem q918 : (Jvm.Cond.privateMethod ({ cls := "StringTableau$Parser", name := "sign", desc := "()I" } : Jvm.MethodName)) ∈ lw_tbl := lw_at lw_m4 79 rfl
theorem q919 : (Jvm.Cond.instanceMethod ({ cls := "StringTableau$Parser", name := "sign", desc := "()I" } : Jvm.MethodName)) ∈ lw_all := lw_g (lw_at lw_m4 80 rfl) rfl
theorem q920 : (Jvm.Cond.code ({ cls := "StringTableau$Parser", name := "sign", desc := "()I" } : Jvm.MethodName) prog_8_method_9_code (2 : Nat) (Option.some Jvm.ClassFile.FieldType.int)) ∈ lw_all := lw_g (lw_at lw_m4 81 rfl) rfl
theorem q921 : (Jvm.Cond.methodLink "StringTableau$Parser" (158 : Nat) ({ cls := "StringTableau$Parser", name := "string", desc := "(Z)LStringTableau$Row;" } : Jvm.MethodName)) ∈ lw_all := lw_g (lw_at lw_m4 82 rfl) rfl
theorem q922 : (Jvm.Cond.privateMethod ({ cls := "StringTableau$Parser", name := "string", desc := "(Z)LStringTableau$Row;" } : Jvm.MethodName)) ∈ lw_tbl := lw_at lw_m4 83 rfl
theorem q923 : (Jvm.Cond.instanceMethod ({ cls := "StringTableau$Parser", name := "string", desc := "(Z)LStringTableau$Row;" } : Jvm.MethodName)) ∈ lw_all := lw_g (lw_at lw_m4 84 rfl) rfl
theorem q924 : (Jvm.Cond.code ({ cls := "StringTableau$Parser", name := "string", desc := "(Z)LStringTableau$Row;" } : Jvm.MethodName) prog_8_method_12_code (6 : Nat) (Option.some (Jvm.ClassFile.FieldType.object "StringTableau$Row"))) ∈ lw_all := lw_g (lw_at lw_m4 85 rfl) rfl
theorem q925 : (Jvm.Cond.methodLink "StringTableau$Parser" (139 : Nat) ({ cls := "java/lang/String", name := "length", desc := "()I" } : Jvm.MethodName)) ∈ lw_all := lw_g (lw_at lw_m4 86 rfl) rfl
theorem q926 : (Jvm.Cond.stringRef "StringTableau$Parser" (141 : Nat) "IXYZ") ∈ lw_tbl := lw_at lw_m4 87 rfl
theorem q927 : (Jvm.Cond.methodLink "StringTableau$Parser" (143 : Nat) ({ cls := "java/lang/String", name := "charAt", desc := "(I)C" } : Jvm.MethodName)) ∈ lw_all := lw_g (lw_at lw_m4 88 rfl) rfl
theorem q938 : (Jvm.Cond.methodLink "StringTableau$Parser" (147 : Nat) ({ cls := "java/lang/String", name := "indexOf", desc := "(I)I" } : Jvm.MethodName)) ∈ lw_all := lw_g (lw_at lw_m4 99 rfl) rfl
theorem q984 : (Jvm.Cond.classLink "StringTableau$Parser" (150 : Nat) "StringTableau$Row") ∈ lw_all := lw_g (lw_at lw_m4 145 rfl) rfl
theorem q985 : (Jvm.Cond.methodLink "StringTableau$Parser" (152 : Nat) ({ cls := "StringTableau$Row", name := "<init>", desc := "(IIZ)V" } : Jvm.MethodName)) ∈ lw_all := lw_g (lw_at lw_m4 146 rfl) rfl
theorem q986 : (Jvm.Cond.stringRef "StringTableau$Parser" (162 : Nat) "told") ∈ lw_tbl := lw_at lw_m4 147 rfl
theorem q987 : (Jvm.Cond.classLink "StringTableau$Parser" (168 : Nat) "StringTableau$MeasureOperation") ∈ lw_all := lw_g (lw_at lw_m4 148 rfl) rfl
theorem q989 : (Jvm.Cond.methodLink "StringTableau$Parser" (173 : Nat) ({ cls := "StringTableau$MeasureOperation", name := "<init>", desc := "(LStringTableau;LStringTableau$Row;II)V" } : Jvm.MethodName)) ∈ lw_all := lw_g (lw_at lw_m4 150 rfl) rfl
theorem q1017 : (Jvm.Cond.interfaceEntry "StringTableau$Parser" (134 : Nat)) ∈ lw_tbl := lw_at lw_m4 178 rfl
theorem q1018 : (Jvm.Cond.methodLink "StringTableau$Parser" (134 : Nat) ({ cls := "java/util/List", name := "add", desc := "(Ljava/lang/Object;)Z" } : Jvm.MethodName)) ∈ lw_all := lw_g (lw_at lw_m4 179 rfl) rfl
theorem q1049 : (Jvm.Cond.selects "StringTableau$Parser" ({ cls := "java/lang/Object", name := "getClass", desc := "()Ljava/lang/Class;" } : Jvm.MethodName) ({ cls := "java/lang/Object", name := "getClass", desc := "()Ljava/lang/Class;" } : Jvm.MethodName)) ∈ lw_all := lw_g (lw_at lw_m4 210 rfl) rfl
theorem q1085 : (Jvm.Cond.methodLink "StringTableau$Parser" (185 : Nat) ({ cls := "StringTableau$Parser", name := "gate", desc := "(I)V" } : Jvm.MethodName)) ∈ lw_all := lw_g (lw_at lw_m5 6 rfl) rfl
theorem q1086 : (Jvm.Cond.privateMethod ({ cls := "StringTableau$Parser", name := "gate", desc := "(I)V" } : Jvm.MethodName)) ∈ lw_tbl := lw_at lw_m5 7 rfl
theorem q1087 : (Jvm.Cond.instanceMethod ({ cls := "StringTableau$Parser", name := "gate", desc := "(I)V" } : Jvm.MethodName)) ∈ lw_all := lw_g (lw_at lw_m5 8 rfl) rfl
theorem q1088 : (Jvm.Cond.code ({ cls := "StringTableau$Parser", name := "gate", desc := "(I)V" } : Jvm.MethodName) prog_8_method_11_code (5 : Nat) (Option.none : Option Jvm.ClassFile.FieldType)) ∈ lw_all := lw_g (lw_at lw_m5 9 rfl) rfl
theorem q1089 : (Jvm.Cond.methodLinkNest "StringTableau$Parser" (125 : Nat) ({ cls := "StringTableau", name := "isDouble", desc := "(I)Z" } : Jvm.MethodName) "StringTableau") ∈ lw_tbl := lw_at lw_m5 10 rfl
theorem q1092 : (Jvm.Cond.classLink "StringTableau$Parser" (129 : Nat) "StringTableau$GateOperation") ∈ lw_all := lw_g (lw_at lw_m5 13 rfl) rfl
theorem q1094 : (Jvm.Cond.methodLink "StringTableau$Parser" (131 : Nat) ({ cls := "StringTableau$GateOperation", name := "<init>", desc := "(LStringTableau;IIII)V" } : Jvm.MethodName)) ∈ lw_all := lw_g (lw_at lw_m5 15 rfl) rfl
theorem q1113 : (Jvm.Cond.classLink "StringTableau$Parser" (207 : Nat) "StringTableau$State") ∈ lw_all := lw_g (lw_at lw_m5 34 rfl) rfl
theorem q1114 : (Jvm.Cond.methodLink "StringTableau$Parser" (209 : Nat) ({ cls := "StringTableau$State", name := "<init>", desc := "(II)V" } : Jvm.MethodName)) ∈ lw_all := lw_g (lw_at lw_m5 35 rfl) rfl
theorem q2251 : (Jvm.Cond.selects "StringTableau$Parser" ({ cls := "java/lang/Object", name := "hashCode", desc := "()I" } : Jvm.MethodName) ({ cls := "java/lang/Object", name := "hashCode", desc := "()I" } : Jvm.MethodName)) ∈ lw_all := lw_g (lw_at lw_m9 212 rfl) rfl
theorem q2608 : (Jvm.Cond.selects "StringTableau$Parser" ({ cls := "java/lang/Object", name := "equals", desc := "(Ljava/lang/Object;)Z" } : Jvm.MethodName) ({ cls := "java/lang/Object", name := "equals", desc := "(Ljava/lang/Object;)Z" } : Jvm.MethodName)) ∈ lw_all := lw_g (lw_at lw_m11 89 rfl) rfl
theorem q3556 : (Jvm.Cond.castable "StringTableau$Parser" "java/lang/Object") ∈ lw_tbl := lw_at lw_m15 77 rfl
theorem in_X6 : ∀ w ∈ wsX60, w ∈ lw_all := lw_in wsX60 [734, 736, 738, 740, 742, 744, 746, 748, 750, 752, 754] (by decide +kernel) (by decide +kernel)

/-! StringTableauLaw -/
set_option maxRecDepth 100000
def RX0 : String := "StringTableauLaw"
abbrev cX0_operation : ByteArray := method_3_code
def yX0_operation : MethodName := ⟨RX0, "operation", "(LStringTableau;II[J)I"⟩
def dkwX0_operation_0 : List UInt8 := [45, 3, 42, 27, 28, 182, 0, 7, 133, 80, 167, 0, 7, 58, 4, 4, 172, 3, 172]
abbrev dktX0_operation_0 : List UInt8 := dkwX0_operation_0 ++ []
theorem dksX0_operation_0 : cX0_operation.data.toList.drop 0 = dktX0_operation_0 := by decide +kernel
theorem dX0_operation_0 : decode cX0_operation 0 = .ok (.aload_n 3, 1) := dk_45 (dk_at dksX0_operation_0 0 rfl rfl)
theorem dX0_operation_1 : decode cX0_operation 1 = .ok (.iconst 0, 1) := dk_3 (dk_at dksX0_operation_0 1 rfl rfl)
theorem dX0_operation_2 : decode cX0_operation 2 = .ok (.aload_n 0, 1) := dk_42 (dk_at dksX0_operation_0 2 rfl rfl)
theorem dX0_operation_3 : decode cX0_operation 3 = .ok (.iload_n 1, 1) := dk_27 (dk_at dksX0_operation_0 3 rfl rfl)
theorem dX0_operation_4 : decode cX0_operation 4 = .ok (.iload_n 2, 1) := dk_28 (dk_at dksX0_operation_0 4 rfl rfl)
theorem dX0_operation_5 : decode cX0_operation 5 = .ok (.invokevirtual 7, 3) := dk_182 0 7 (dk_at dksX0_operation_0 5 rfl rfl)
theorem dX0_operation_8 : decode cX0_operation 8 = .ok (.i2l, 1) := dk_133 (dk_at dksX0_operation_0 8 rfl rfl)
theorem dX0_operation_9 : decode cX0_operation 9 = .ok (.lastore, 1) := dk_80 (dk_at dksX0_operation_0 9 rfl rfl)
theorem dX0_operation_10 : decode cX0_operation 10 = .ok (.goto 7, 3) := dk_167 0 7 (dk_at dksX0_operation_0 10 rfl rfl)
theorem dX0_operation_13 : decode cX0_operation 13 = .ok (.astore 4, 2) := dk_58 4 (dk_at dksX0_operation_0 13 rfl rfl)
theorem dX0_operation_15 : decode cX0_operation 15 = .ok (.iconst 1, 1) := dk_4 (dk_at dksX0_operation_0 15 rfl rfl)
theorem dX0_operation_16 : decode cX0_operation 16 = .ok (.ireturn, 1) := dk_172 (dk_at dksX0_operation_0 16 rfl rfl)
theorem dX0_operation_17 : decode cX0_operation 17 = .ok (.iconst 0, 1) := dk_3 (dk_at dksX0_operation_0 17 rfl rfl)
theorem dX0_operation_18 : decode cX0_operation 18 = .ok (.ireturn, 1) := dk_172 (dk_at dksX0_operation_0 18 rfl rfl)
abbrev cX0_gate : ByteArray := method_4_code
def yX0_gate : MethodName := ⟨RX0, "gate", "(LStringTableau;III[J)I"⟩
def dkwX0_gate_1 : List UInt8 := [172]
abbrev dktX0_gate_1 : List UInt8 := dkwX0_gate_1 ++ []
def dkwX0_gate_0 : List UInt8 := [25, 4, 3, 42, 27, 28, 29, 182, 0, 15, 133, 80, 167, 0, 11, 58, 5, 4, 172, 58, 5, 5, 172, 3]
abbrev dktX0_gate_0 : List UInt8 := dkwX0_gate_0 ++ dktX0_gate_1
theorem dksX0_gate_0 : cX0_gate.data.toList.drop 0 = dktX0_gate_0 := by decide +kernel
theorem dksX0_gate_1 : cX0_gate.data.toList.drop 24 = dktX0_gate_1 := dk_seg dksX0_gate_0 24 rfl rfl
theorem dX0_gate_0 : decode cX0_gate 0 = .ok (.aload 4, 2) := dk_25 4 (dk_at dksX0_gate_0 0 rfl rfl)
theorem dX0_gate_2 : decode cX0_gate 2 = .ok (.iconst 0, 1) := dk_3 (dk_at dksX0_gate_0 2 rfl rfl)
theorem dX0_gate_3 : decode cX0_gate 3 = .ok (.aload_n 0, 1) := dk_42 (dk_at dksX0_gate_0 3 rfl rfl)
theorem dX0_gate_4 : decode cX0_gate 4 = .ok (.iload_n 1, 1) := dk_27 (dk_at dksX0_gate_0 4 rfl rfl)
theorem dX0_gate_5 : decode cX0_gate 5 = .ok (.iload_n 2, 1) := dk_28 (dk_at dksX0_gate_0 5 rfl rfl)
theorem dX0_gate_6 : decode cX0_gate 6 = .ok (.iload_n 3, 1) := dk_29 (dk_at dksX0_gate_0 6 rfl rfl)
theorem dX0_gate_7 : decode cX0_gate 7 = .ok (.invokevirtual 15, 3) := dk_182 0 15 (dk_at dksX0_gate_0 7 rfl rfl)
theorem dX0_gate_10 : decode cX0_gate 10 = .ok (.i2l, 1) := dk_133 (dk_at dksX0_gate_0 10 rfl rfl)
theorem dX0_gate_11 : decode cX0_gate 11 = .ok (.lastore, 1) := dk_80 (dk_at dksX0_gate_0 11 rfl rfl)
theorem dX0_gate_12 : decode cX0_gate 12 = .ok (.goto 11, 3) := dk_167 0 11 (dk_at dksX0_gate_0 12 rfl rfl)
theorem dX0_gate_15 : decode cX0_gate 15 = .ok (.astore 5, 2) := dk_58 5 (dk_at dksX0_gate_0 15 rfl rfl)
theorem dX0_gate_17 : decode cX0_gate 17 = .ok (.iconst 1, 1) := dk_4 (dk_at dksX0_gate_0 17 rfl rfl)
theorem dX0_gate_18 : decode cX0_gate 18 = .ok (.ireturn, 1) := dk_172 (dk_at dksX0_gate_0 18 rfl rfl)
theorem dX0_gate_19 : decode cX0_gate 19 = .ok (.astore 5, 2) := dk_58 5 (dk_at dksX0_gate_0 19 rfl rfl)
theorem dX0_gate_21 : decode cX0_gate 21 = .ok (.iconst 2, 1) := dk_5 (dk_at dksX0_gate_0 21 rfl rfl)
theorem dX0_gate_22 : decode cX0_gate 22 = .ok (.ireturn, 1) := dk_172 (dk_at dksX0_gate_0 22 rfl rfl)
theorem dX0_gate_23 : decode cX0_gate 23 = .ok (.iconst 0, 1) := dk_3 (dk_at dksX0_gate_0 23 rfl rfl)
theorem dX0_gate_24 : decode cX0_gate 24 = .ok (.ireturn, 1) := dk_172 (dk_at dksX0_gate_1 0 rfl rfl)
abbrev cX0_measure : ByteArray := method_5_code
def yX0_measure : MethodName := ⟨RX0, "measure", "(LStringTableau;IIZI[J)I"⟩
def dkwX0_measure_1 : List UInt8 := [172, 3, 172]
abbrev dktX0_measure_1 : List UInt8 := dkwX0_measure_1 ++ []
def dkwX0_measure_0 : List UInt8 := [25, 5, 3, 42, 27, 28, 29, 21, 4, 182, 0, 21, 133, 80, 167, 0, 11, 58, 6, 4, 172, 58, 6, 5]
abbrev dktX0_measure_0 : List UInt8 := dkwX0_measure_0 ++ dktX0_measure_1
theorem dksX0_measure_0 : cX0_measure.data.toList.drop 0 = dktX0_measure_0 := by decide +kernel
theorem dksX0_measure_1 : cX0_measure.data.toList.drop 24 = dktX0_measure_1 := dk_seg dksX0_measure_0 24 rfl rfl
theorem dX0_measure_0 : decode cX0_measure 0 = .ok (.aload 5, 2) := dk_25 5 (dk_at dksX0_measure_0 0 rfl rfl)
theorem dX0_measure_2 : decode cX0_measure 2 = .ok (.iconst 0, 1) := dk_3 (dk_at dksX0_measure_0 2 rfl rfl)
theorem dX0_measure_3 : decode cX0_measure 3 = .ok (.aload_n 0, 1) := dk_42 (dk_at dksX0_measure_0 3 rfl rfl)
theorem dX0_measure_4 : decode cX0_measure 4 = .ok (.iload_n 1, 1) := dk_27 (dk_at dksX0_measure_0 4 rfl rfl)
theorem dX0_measure_5 : decode cX0_measure 5 = .ok (.iload_n 2, 1) := dk_28 (dk_at dksX0_measure_0 5 rfl rfl)
theorem dX0_measure_6 : decode cX0_measure 6 = .ok (.iload_n 3, 1) := dk_29 (dk_at dksX0_measure_0 6 rfl rfl)
theorem dX0_measure_7 : decode cX0_measure 7 = .ok (.iload 4, 2) := dk_21 4 (dk_at dksX0_measure_0 7 rfl rfl)
theorem dX0_measure_9 : decode cX0_measure 9 = .ok (.invokevirtual 21, 3) := dk_182 0 21 (dk_at dksX0_measure_0 9 rfl rfl)
theorem dX0_measure_12 : decode cX0_measure 12 = .ok (.i2l, 1) := dk_133 (dk_at dksX0_measure_0 12 rfl rfl)
theorem dX0_measure_13 : decode cX0_measure 13 = .ok (.lastore, 1) := dk_80 (dk_at dksX0_measure_0 13 rfl rfl)
theorem dX0_measure_14 : decode cX0_measure 14 = .ok (.goto 11, 3) := dk_167 0 11 (dk_at dksX0_measure_0 14 rfl rfl)
theorem dX0_measure_17 : decode cX0_measure 17 = .ok (.astore 6, 2) := dk_58 6 (dk_at dksX0_measure_0 17 rfl rfl)
theorem dX0_measure_19 : decode cX0_measure 19 = .ok (.iconst 1, 1) := dk_4 (dk_at dksX0_measure_0 19 rfl rfl)
theorem dX0_measure_20 : decode cX0_measure 20 = .ok (.ireturn, 1) := dk_172 (dk_at dksX0_measure_0 20 rfl rfl)
theorem dX0_measure_21 : decode cX0_measure 21 = .ok (.astore 6, 2) := dk_58 6 (dk_at dksX0_measure_0 21 rfl rfl)
theorem dX0_measure_23 : decode cX0_measure 23 = .ok (.iconst 2, 1) := dk_5 (dk_at dksX0_measure_0 23 rfl rfl)
theorem dX0_measure_24 : decode cX0_measure 24 = .ok (.ireturn, 1) := dk_172 (dk_at dksX0_measure_1 0 rfl rfl)
theorem dX0_measure_25 : decode cX0_measure 25 = .ok (.iconst 0, 1) := dk_3 (dk_at dksX0_measure_1 1 rfl rfl)
theorem dX0_measure_26 : decode cX0_measure 26 = .ok (.ireturn, 1) := dk_172 (dk_at dksX0_measure_1 2 rfl rfl)
abbrev cX0_measureAll : ByteArray := method_6_code
def yX0_measureAll : MethodName := ⟨RX0, "measureAll", "(LStringTableau;[J)I"⟩
def dkwX0_measureAll_0 : List UInt8 := [43, 3, 42, 182, 0, 27, 133, 80, 167, 0, 6, 77, 4, 172, 3, 172]
abbrev dktX0_measureAll_0 : List UInt8 := dkwX0_measureAll_0 ++ []
theorem dksX0_measureAll_0 : cX0_measureAll.data.toList.drop 0 = dktX0_measureAll_0 := by decide +kernel
theorem dX0_measureAll_0 : decode cX0_measureAll 0 = .ok (.aload_n 1, 1) := dk_43 (dk_at dksX0_measureAll_0 0 rfl rfl)
theorem dX0_measureAll_1 : decode cX0_measureAll 1 = .ok (.iconst 0, 1) := dk_3 (dk_at dksX0_measureAll_0 1 rfl rfl)
theorem dX0_measureAll_2 : decode cX0_measureAll 2 = .ok (.aload_n 0, 1) := dk_42 (dk_at dksX0_measureAll_0 2 rfl rfl)
theorem dX0_measureAll_3 : decode cX0_measureAll 3 = .ok (.invokevirtual 27, 3) := dk_182 0 27 (dk_at dksX0_measureAll_0 3 rfl rfl)
theorem dX0_measureAll_6 : decode cX0_measureAll 6 = .ok (.i2l, 1) := dk_133 (dk_at dksX0_measureAll_0 6 rfl rfl)
theorem dX0_measureAll_7 : decode cX0_measureAll 7 = .ok (.lastore, 1) := dk_80 (dk_at dksX0_measureAll_0 7 rfl rfl)
theorem dX0_measureAll_8 : decode cX0_measureAll 8 = .ok (.goto 6, 3) := dk_167 0 6 (dk_at dksX0_measureAll_0 8 rfl rfl)
theorem dX0_measureAll_11 : decode cX0_measureAll 11 = .ok (.astore_n 2, 1) := dk_77 (dk_at dksX0_measureAll_0 11 rfl rfl)
theorem dX0_measureAll_12 : decode cX0_measureAll 12 = .ok (.iconst 1, 1) := dk_4 (dk_at dksX0_measureAll_0 12 rfl rfl)
theorem dX0_measureAll_13 : decode cX0_measureAll 13 = .ok (.ireturn, 1) := dk_172 (dk_at dksX0_measureAll_0 13 rfl rfl)
theorem dX0_measureAll_14 : decode cX0_measureAll 14 = .ok (.iconst 0, 1) := dk_3 (dk_at dksX0_measureAll_0 14 rfl rfl)
theorem dX0_measureAll_15 : decode cX0_measureAll 15 = .ok (.ireturn, 1) := dk_172 (dk_at dksX0_measureAll_0 15 rfl rfl)
abbrev cX0_run : ByteArray := method_7_code
def yX0_run : MethodName := ⟨RX0, "run", "(LStringTableau;I[J)I"⟩
def dkwX0_run_0 : List UInt8 := [44, 3, 42, 27, 182, 0, 31, 133, 80, 167, 0, 6, 78, 4, 172, 3, 172]
abbrev dktX0_run_0 : List UInt8 := dkwX0_run_0 ++ []
theorem dksX0_run_0 : cX0_run.data.toList.drop 0 = dktX0_run_0 := by decide +kernel
theorem dX0_run_0 : decode cX0_run 0 = .ok (.aload_n 2, 1) := dk_44 (dk_at dksX0_run_0 0 rfl rfl)
theorem dX0_run_1 : decode cX0_run 1 = .ok (.iconst 0, 1) := dk_3 (dk_at dksX0_run_0 1 rfl rfl)
theorem dX0_run_2 : decode cX0_run 2 = .ok (.aload_n 0, 1) := dk_42 (dk_at dksX0_run_0 2 rfl rfl)
theorem dX0_run_3 : decode cX0_run 3 = .ok (.iload_n 1, 1) := dk_27 (dk_at dksX0_run_0 3 rfl rfl)
theorem dX0_run_4 : decode cX0_run 4 = .ok (.invokevirtual 31, 3) := dk_182 0 31 (dk_at dksX0_run_0 4 rfl rfl)
theorem dX0_run_7 : decode cX0_run 7 = .ok (.i2l, 1) := dk_133 (dk_at dksX0_run_0 7 rfl rfl)
theorem dX0_run_8 : decode cX0_run 8 = .ok (.lastore, 1) := dk_80 (dk_at dksX0_run_0 8 rfl rfl)
theorem dX0_run_9 : decode cX0_run 9 = .ok (.goto 6, 3) := dk_167 0 6 (dk_at dksX0_run_0 9 rfl rfl)
theorem dX0_run_12 : decode cX0_run 12 = .ok (.astore_n 3, 1) := dk_78 (dk_at dksX0_run_0 12 rfl rfl)
theorem dX0_run_13 : decode cX0_run 13 = .ok (.iconst 1, 1) := dk_4 (dk_at dksX0_run_0 13 rfl rfl)
theorem dX0_run_14 : decode cX0_run 14 = .ok (.ireturn, 1) := dk_172 (dk_at dksX0_run_0 14 rfl rfl)
theorem dX0_run_15 : decode cX0_run 15 = .ok (.iconst 0, 1) := dk_3 (dk_at dksX0_run_0 15 rfl rfl)
theorem dX0_run_16 : decode cX0_run 16 = .ok (.ireturn, 1) := dk_172 (dk_at dksX0_run_0 16 rfl rfl)
abbrev cX0_reverse : ByteArray := method_8_code
def yX0_reverse : MethodName := ⟨RX0, "reverse", "(LStringTableau;I[J)I"⟩
def dkwX0_reverse_0 : List UInt8 := [44, 3, 42, 27, 182, 0, 35, 133, 80, 167, 0, 9, 78, 4, 172, 78, 5, 172, 3, 172]
abbrev dktX0_reverse_0 : List UInt8 := dkwX0_reverse_0 ++ []
theorem dksX0_reverse_0 : cX0_reverse.data.toList.drop 0 = dktX0_reverse_0 := by decide +kernel
theorem dX0_reverse_0 : decode cX0_reverse 0 = .ok (.aload_n 2, 1) := dk_44 (dk_at dksX0_reverse_0 0 rfl rfl)
theorem dX0_reverse_1 : decode cX0_reverse 1 = .ok (.iconst 0, 1) := dk_3 (dk_at dksX0_reverse_0 1 rfl rfl)
theorem dX0_reverse_2 : decode cX0_reverse 2 = .ok (.aload_n 0, 1) := dk_42 (dk_at dksX0_reverse_0 2 rfl rfl)
theorem dX0_reverse_3 : decode cX0_reverse 3 = .ok (.iload_n 1, 1) := dk_27 (dk_at dksX0_reverse_0 3 rfl rfl)
theorem dX0_reverse_4 : decode cX0_reverse 4 = .ok (.invokevirtual 35, 3) := dk_182 0 35 (dk_at dksX0_reverse_0 4 rfl rfl)
theorem dX0_reverse_7 : decode cX0_reverse 7 = .ok (.i2l, 1) := dk_133 (dk_at dksX0_reverse_0 7 rfl rfl)
theorem dX0_reverse_8 : decode cX0_reverse 8 = .ok (.lastore, 1) := dk_80 (dk_at dksX0_reverse_0 8 rfl rfl)
theorem dX0_reverse_9 : decode cX0_reverse 9 = .ok (.goto 9, 3) := dk_167 0 9 (dk_at dksX0_reverse_0 9 rfl rfl)
theorem dX0_reverse_12 : decode cX0_reverse 12 = .ok (.astore_n 3, 1) := dk_78 (dk_at dksX0_reverse_0 12 rfl rfl)
theorem dX0_reverse_13 : decode cX0_reverse 13 = .ok (.iconst 1, 1) := dk_4 (dk_at dksX0_reverse_0 13 rfl rfl)
theorem dX0_reverse_14 : decode cX0_reverse 14 = .ok (.ireturn, 1) := dk_172 (dk_at dksX0_reverse_0 14 rfl rfl)
theorem dX0_reverse_15 : decode cX0_reverse 15 = .ok (.astore_n 3, 1) := dk_78 (dk_at dksX0_reverse_0 15 rfl rfl)
theorem dX0_reverse_16 : decode cX0_reverse 16 = .ok (.iconst 2, 1) := dk_5 (dk_at dksX0_reverse_0 16 rfl rfl)
theorem dX0_reverse_17 : decode cX0_reverse 17 = .ok (.ireturn, 1) := dk_172 (dk_at dksX0_reverse_0 17 rfl rfl)
theorem dX0_reverse_18 : decode cX0_reverse 18 = .ok (.iconst 0, 1) := dk_3 (dk_at dksX0_reverse_0 18 rfl rfl)
theorem dX0_reverse_19 : decode cX0_reverse 19 = .ok (.ireturn, 1) := dk_172 (dk_at dksX0_reverse_0 19 rfl rfl)
abbrev cX0_goBack : ByteArray := method_9_code
def yX0_goBack : MethodName := ⟨RX0, "goBack", "(LStringTableau;I[J)I"⟩
def dkwX0_goBack_0 : List UInt8 := [44, 3, 42, 27, 182, 0, 38, 133, 80, 167, 0, 9, 78, 4, 172, 78, 5, 172, 3, 172]
abbrev dktX0_goBack_0 : List UInt8 := dkwX0_goBack_0 ++ []
theorem dksX0_goBack_0 : cX0_goBack.data.toList.drop 0 = dktX0_goBack_0 := by decide +kernel
theorem dX0_goBack_0 : decode cX0_goBack 0 = .ok (.aload_n 2, 1) := dk_44 (dk_at dksX0_goBack_0 0 rfl rfl)
theorem dX0_goBack_1 : decode cX0_goBack 1 = .ok (.iconst 0, 1) := dk_3 (dk_at dksX0_goBack_0 1 rfl rfl)
theorem dX0_goBack_2 : decode cX0_goBack 2 = .ok (.aload_n 0, 1) := dk_42 (dk_at dksX0_goBack_0 2 rfl rfl)
theorem dX0_goBack_3 : decode cX0_goBack 3 = .ok (.iload_n 1, 1) := dk_27 (dk_at dksX0_goBack_0 3 rfl rfl)
theorem dX0_goBack_4 : decode cX0_goBack 4 = .ok (.invokevirtual 38, 3) := dk_182 0 38 (dk_at dksX0_goBack_0 4 rfl rfl)
theorem dX0_goBack_7 : decode cX0_goBack 7 = .ok (.i2l, 1) := dk_133 (dk_at dksX0_goBack_0 7 rfl rfl)
theorem dX0_goBack_8 : decode cX0_goBack 8 = .ok (.lastore, 1) := dk_80 (dk_at dksX0_goBack_0 8 rfl rfl)
theorem dX0_goBack_9 : decode cX0_goBack 9 = .ok (.goto 9, 3) := dk_167 0 9 (dk_at dksX0_goBack_0 9 rfl rfl)
theorem dX0_goBack_12 : decode cX0_goBack 12 = .ok (.astore_n 3, 1) := dk_78 (dk_at dksX0_goBack_0 12 rfl rfl)
theorem dX0_goBack_13 : decode cX0_goBack 13 = .ok (.iconst 1, 1) := dk_4 (dk_at dksX0_goBack_0 13 rfl rfl)
theorem dX0_goBack_14 : decode cX0_goBack 14 = .ok (.ireturn, 1) := dk_172 (dk_at dksX0_goBack_0 14 rfl rfl)
theorem dX0_goBack_15 : decode cX0_goBack 15 = .ok (.astore_n 3, 1) := dk_78 (dk_at dksX0_goBack_0 15 rfl rfl)
theorem dX0_goBack_16 : decode cX0_goBack 16 = .ok (.iconst 2, 1) := dk_5 (dk_at dksX0_goBack_0 16 rfl rfl)
theorem dX0_goBack_17 : decode cX0_goBack 17 = .ok (.ireturn, 1) := dk_172 (dk_at dksX0_goBack_0 17 rfl rfl)
theorem dX0_goBack_18 : decode cX0_goBack 18 = .ok (.iconst 0, 1) := dk_3 (dk_at dksX0_goBack_0 18 rfl rfl)
theorem dX0_goBack_19 : decode cX0_goBack 19 = .ok (.ireturn, 1) := dk_172 (dk_at dksX0_goBack_0 19 rfl rfl)
abbrev cX0_undo : ByteArray := method_10_code
def yX0_undo : MethodName := ⟨RX0, "undo", "(LStringTableau;[J)I"⟩
def dkwX0_undo_0 : List UInt8 := [43, 3, 42, 182, 0, 41, 133, 80, 167, 0, 6, 77, 4, 172, 3, 172]
abbrev dktX0_undo_0 : List UInt8 := dkwX0_undo_0 ++ []
theorem dksX0_undo_0 : cX0_undo.data.toList.drop 0 = dktX0_undo_0 := by decide +kernel
theorem dX0_undo_0 : decode cX0_undo 0 = .ok (.aload_n 1, 1) := dk_43 (dk_at dksX0_undo_0 0 rfl rfl)
theorem dX0_undo_1 : decode cX0_undo 1 = .ok (.iconst 0, 1) := dk_3 (dk_at dksX0_undo_0 1 rfl rfl)
theorem dX0_undo_2 : decode cX0_undo 2 = .ok (.aload_n 0, 1) := dk_42 (dk_at dksX0_undo_0 2 rfl rfl)
theorem dX0_undo_3 : decode cX0_undo 3 = .ok (.invokevirtual 41, 3) := dk_182 0 41 (dk_at dksX0_undo_0 3 rfl rfl)
theorem dX0_undo_6 : decode cX0_undo 6 = .ok (.i2l, 1) := dk_133 (dk_at dksX0_undo_0 6 rfl rfl)
theorem dX0_undo_7 : decode cX0_undo 7 = .ok (.lastore, 1) := dk_80 (dk_at dksX0_undo_0 7 rfl rfl)
theorem dX0_undo_8 : decode cX0_undo 8 = .ok (.goto 6, 3) := dk_167 0 6 (dk_at dksX0_undo_0 8 rfl rfl)
theorem dX0_undo_11 : decode cX0_undo 11 = .ok (.astore_n 2, 1) := dk_77 (dk_at dksX0_undo_0 11 rfl rfl)
theorem dX0_undo_12 : decode cX0_undo 12 = .ok (.iconst 1, 1) := dk_4 (dk_at dksX0_undo_0 12 rfl rfl)
theorem dX0_undo_13 : decode cX0_undo 13 = .ok (.ireturn, 1) := dk_172 (dk_at dksX0_undo_0 13 rfl rfl)
theorem dX0_undo_14 : decode cX0_undo 14 = .ok (.iconst 0, 1) := dk_3 (dk_at dksX0_undo_0 14 rfl rfl)
theorem dX0_undo_15 : decode cX0_undo 15 = .ok (.ireturn, 1) := dk_172 (dk_at dksX0_undo_0 15 rfl rfl)
abbrev cX0_letter : ByteArray := method_11_code
def yX0_letter : MethodName := ⟨RX0, "letter", "(LStringTableau;II[J)I"⟩
def dkwX0_letter_0 : List UInt8 := [45, 3, 42, 27, 28, 182, 0, 44, 133, 80, 167, 0, 7, 58, 4, 4, 172, 3, 172]
abbrev dktX0_letter_0 : List UInt8 := dkwX0_letter_0 ++ []
theorem dksX0_letter_0 : cX0_letter.data.toList.drop 0 = dktX0_letter_0 := by decide +kernel
theorem dX0_letter_0 : decode cX0_letter 0 = .ok (.aload_n 3, 1) := dk_45 (dk_at dksX0_letter_0 0 rfl rfl)
theorem dX0_letter_1 : decode cX0_letter 1 = .ok (.iconst 0, 1) := dk_3 (dk_at dksX0_letter_0 1 rfl rfl)
theorem dX0_letter_2 : decode cX0_letter 2 = .ok (.aload_n 0, 1) := dk_42 (dk_at dksX0_letter_0 2 rfl rfl)
theorem dX0_letter_3 : decode cX0_letter 3 = .ok (.iload_n 1, 1) := dk_27 (dk_at dksX0_letter_0 3 rfl rfl)
theorem dX0_letter_4 : decode cX0_letter 4 = .ok (.iload_n 2, 1) := dk_28 (dk_at dksX0_letter_0 4 rfl rfl)
theorem dX0_letter_5 : decode cX0_letter 5 = .ok (.invokevirtual 44, 3) := dk_182 0 44 (dk_at dksX0_letter_0 5 rfl rfl)
theorem dX0_letter_8 : decode cX0_letter 8 = .ok (.i2l, 1) := dk_133 (dk_at dksX0_letter_0 8 rfl rfl)
theorem dX0_letter_9 : decode cX0_letter 9 = .ok (.lastore, 1) := dk_80 (dk_at dksX0_letter_0 9 rfl rfl)
theorem dX0_letter_10 : decode cX0_letter 10 = .ok (.goto 7, 3) := dk_167 0 7 (dk_at dksX0_letter_0 10 rfl rfl)
theorem dX0_letter_13 : decode cX0_letter 13 = .ok (.astore 4, 2) := dk_58 4 (dk_at dksX0_letter_0 13 rfl rfl)
theorem dX0_letter_15 : decode cX0_letter 15 = .ok (.iconst 1, 1) := dk_4 (dk_at dksX0_letter_0 15 rfl rfl)
theorem dX0_letter_16 : decode cX0_letter 16 = .ok (.ireturn, 1) := dk_172 (dk_at dksX0_letter_0 16 rfl rfl)
theorem dX0_letter_17 : decode cX0_letter 17 = .ok (.iconst 0, 1) := dk_3 (dk_at dksX0_letter_0 17 rfl rfl)
theorem dX0_letter_18 : decode cX0_letter 18 = .ok (.ireturn, 1) := dk_172 (dk_at dksX0_letter_0 18 rfl rfl)
abbrev cX0_row : ByteArray := method_12_code
def yX0_row : MethodName := ⟨RX0, "row", "(LStringTableau;II[J)I"⟩
def dkwX0_row_0 : List UInt8 := [45, 3, 42, 27, 28, 182, 0, 47, 133, 80, 167, 0, 7, 58, 4, 4, 172, 3, 172]
abbrev dktX0_row_0 : List UInt8 := dkwX0_row_0 ++ []
theorem dksX0_row_0 : cX0_row.data.toList.drop 0 = dktX0_row_0 := by decide +kernel
theorem dX0_row_0 : decode cX0_row 0 = .ok (.aload_n 3, 1) := dk_45 (dk_at dksX0_row_0 0 rfl rfl)
theorem dX0_row_1 : decode cX0_row 1 = .ok (.iconst 0, 1) := dk_3 (dk_at dksX0_row_0 1 rfl rfl)
theorem dX0_row_2 : decode cX0_row 2 = .ok (.aload_n 0, 1) := dk_42 (dk_at dksX0_row_0 2 rfl rfl)
theorem dX0_row_3 : decode cX0_row 3 = .ok (.iload_n 1, 1) := dk_27 (dk_at dksX0_row_0 3 rfl rfl)
theorem dX0_row_4 : decode cX0_row 4 = .ok (.iload_n 2, 1) := dk_28 (dk_at dksX0_row_0 4 rfl rfl)
theorem dX0_row_5 : decode cX0_row 5 = .ok (.invokevirtual 47, 3) := dk_182 0 47 (dk_at dksX0_row_0 5 rfl rfl)
theorem dX0_row_8 : decode cX0_row 8 = .ok (.i2l, 1) := dk_133 (dk_at dksX0_row_0 8 rfl rfl)
theorem dX0_row_9 : decode cX0_row 9 = .ok (.lastore, 1) := dk_80 (dk_at dksX0_row_0 9 rfl rfl)
theorem dX0_row_10 : decode cX0_row 10 = .ok (.goto 7, 3) := dk_167 0 7 (dk_at dksX0_row_0 10 rfl rfl)
theorem dX0_row_13 : decode cX0_row 13 = .ok (.astore 4, 2) := dk_58 4 (dk_at dksX0_row_0 13 rfl rfl)
theorem dX0_row_15 : decode cX0_row 15 = .ok (.iconst 1, 1) := dk_4 (dk_at dksX0_row_0 15 rfl rfl)
theorem dX0_row_16 : decode cX0_row 16 = .ok (.ireturn, 1) := dk_172 (dk_at dksX0_row_0 16 rfl rfl)
theorem dX0_row_17 : decode cX0_row 17 = .ok (.iconst 0, 1) := dk_3 (dk_at dksX0_row_0 17 rfl rfl)
theorem dX0_row_18 : decode cX0_row 18 = .ok (.ireturn, 1) := dk_172 (dk_at dksX0_row_0 18 rfl rfl)
abbrev cX0_canonical : ByteArray := method_13_code
def yX0_canonical : MethodName := ⟨RX0, "canonical", "(LStringTableau;II[J)I"⟩
def dkwX0_canonical_0 : List UInt8 := [45, 3, 42, 27, 28, 182, 0, 50, 133, 80, 167, 0, 7, 58, 4, 4, 172, 3, 172]
abbrev dktX0_canonical_0 : List UInt8 := dkwX0_canonical_0 ++ []
theorem dksX0_canonical_0 : cX0_canonical.data.toList.drop 0 = dktX0_canonical_0 := by decide +kernel
theorem dX0_canonical_0 : decode cX0_canonical 0 = .ok (.aload_n 3, 1) := dk_45 (dk_at dksX0_canonical_0 0 rfl rfl)
theorem dX0_canonical_1 : decode cX0_canonical 1 = .ok (.iconst 0, 1) := dk_3 (dk_at dksX0_canonical_0 1 rfl rfl)
theorem dX0_canonical_2 : decode cX0_canonical 2 = .ok (.aload_n 0, 1) := dk_42 (dk_at dksX0_canonical_0 2 rfl rfl)
theorem dX0_canonical_3 : decode cX0_canonical 3 = .ok (.iload_n 1, 1) := dk_27 (dk_at dksX0_canonical_0 3 rfl rfl)
theorem dX0_canonical_4 : decode cX0_canonical 4 = .ok (.iload_n 2, 1) := dk_28 (dk_at dksX0_canonical_0 4 rfl rfl)
theorem dX0_canonical_5 : decode cX0_canonical 5 = .ok (.invokevirtual 50, 3) := dk_182 0 50 (dk_at dksX0_canonical_0 5 rfl rfl)
theorem dX0_canonical_8 : decode cX0_canonical 8 = .ok (.i2l, 1) := dk_133 (dk_at dksX0_canonical_0 8 rfl rfl)
theorem dX0_canonical_9 : decode cX0_canonical 9 = .ok (.lastore, 1) := dk_80 (dk_at dksX0_canonical_0 9 rfl rfl)
theorem dX0_canonical_10 : decode cX0_canonical 10 = .ok (.goto 7, 3) := dk_167 0 7 (dk_at dksX0_canonical_0 10 rfl rfl)
theorem dX0_canonical_13 : decode cX0_canonical 13 = .ok (.astore 4, 2) := dk_58 4 (dk_at dksX0_canonical_0 13 rfl rfl)
theorem dX0_canonical_15 : decode cX0_canonical 15 = .ok (.iconst 1, 1) := dk_4 (dk_at dksX0_canonical_0 15 rfl rfl)
theorem dX0_canonical_16 : decode cX0_canonical 16 = .ok (.ireturn, 1) := dk_172 (dk_at dksX0_canonical_0 16 rfl rfl)
theorem dX0_canonical_17 : decode cX0_canonical 17 = .ok (.iconst 0, 1) := dk_3 (dk_at dksX0_canonical_0 17 rfl rfl)
theorem dX0_canonical_18 : decode cX0_canonical 18 = .ok (.ireturn, 1) := dk_172 (dk_at dksX0_canonical_0 18 rfl rfl)
abbrev cX0_measured : ByteArray := method_14_code
def yX0_measured : MethodName := ⟨RX0, "measured", "(LStringTableau;II[J)I"⟩
def dkwX0_measured_0 : List UInt8 := [45, 3, 42, 27, 28, 182, 0, 53, 133, 80, 167, 0, 7, 58, 4, 4, 172, 3, 172]
abbrev dktX0_measured_0 : List UInt8 := dkwX0_measured_0 ++ []
theorem dksX0_measured_0 : cX0_measured.data.toList.drop 0 = dktX0_measured_0 := by decide +kernel
theorem dX0_measured_0 : decode cX0_measured 0 = .ok (.aload_n 3, 1) := dk_45 (dk_at dksX0_measured_0 0 rfl rfl)
theorem dX0_measured_1 : decode cX0_measured 1 = .ok (.iconst 0, 1) := dk_3 (dk_at dksX0_measured_0 1 rfl rfl)
theorem dX0_measured_2 : decode cX0_measured 2 = .ok (.aload_n 0, 1) := dk_42 (dk_at dksX0_measured_0 2 rfl rfl)
theorem dX0_measured_3 : decode cX0_measured 3 = .ok (.iload_n 1, 1) := dk_27 (dk_at dksX0_measured_0 3 rfl rfl)
theorem dX0_measured_4 : decode cX0_measured 4 = .ok (.iload_n 2, 1) := dk_28 (dk_at dksX0_measured_0 4 rfl rfl)
theorem dX0_measured_5 : decode cX0_measured 5 = .ok (.invokevirtual 53, 3) := dk_182 0 53 (dk_at dksX0_measured_0 5 rfl rfl)
theorem dX0_measured_8 : decode cX0_measured 8 = .ok (.i2l, 1) := dk_133 (dk_at dksX0_measured_0 8 rfl rfl)
theorem dX0_measured_9 : decode cX0_measured 9 = .ok (.lastore, 1) := dk_80 (dk_at dksX0_measured_0 9 rfl rfl)
theorem dX0_measured_10 : decode cX0_measured 10 = .ok (.goto 7, 3) := dk_167 0 7 (dk_at dksX0_measured_0 10 rfl rfl)
theorem dX0_measured_13 : decode cX0_measured 13 = .ok (.astore 4, 2) := dk_58 4 (dk_at dksX0_measured_0 13 rfl rfl)
theorem dX0_measured_15 : decode cX0_measured 15 = .ok (.iconst 1, 1) := dk_4 (dk_at dksX0_measured_0 15 rfl rfl)
theorem dX0_measured_16 : decode cX0_measured 16 = .ok (.ireturn, 1) := dk_172 (dk_at dksX0_measured_0 16 rfl rfl)
theorem dX0_measured_17 : decode cX0_measured 17 = .ok (.iconst 0, 1) := dk_3 (dk_at dksX0_measured_0 17 rfl rfl)
theorem dX0_measured_18 : decode cX0_measured 18 = .ok (.ireturn, 1) := dk_172 (dk_at dksX0_measured_0 18 rfl rfl)
abbrev cX0_commute : ByteArray := method_15_code
def yX0_commute : MethodName := ⟨RX0, "commute", "(LStringTableau;IIII[J)I"⟩
def dkwX0_commute_1 : List UInt8 := [58, 6, 4, 172, 3, 172]
abbrev dktX0_commute_1 : List UInt8 := dkwX0_commute_1 ++ []
def dkwX0_commute_0 : List UInt8 := [25, 5, 3, 42, 27, 28, 29, 21, 4, 182, 0, 56, 153, 0, 7, 10, 167, 0, 4, 9, 80, 167, 0, 7]
abbrev dktX0_commute_0 : List UInt8 := dkwX0_commute_0 ++ dktX0_commute_1
theorem dksX0_commute_0 : cX0_commute.data.toList.drop 0 = dktX0_commute_0 := by decide +kernel
theorem dksX0_commute_1 : cX0_commute.data.toList.drop 24 = dktX0_commute_1 := dk_seg dksX0_commute_0 24 rfl rfl
theorem dX0_commute_0 : decode cX0_commute 0 = .ok (.aload 5, 2) := dk_25 5 (dk_at dksX0_commute_0 0 rfl rfl)
theorem dX0_commute_2 : decode cX0_commute 2 = .ok (.iconst 0, 1) := dk_3 (dk_at dksX0_commute_0 2 rfl rfl)
theorem dX0_commute_3 : decode cX0_commute 3 = .ok (.aload_n 0, 1) := dk_42 (dk_at dksX0_commute_0 3 rfl rfl)
theorem dX0_commute_4 : decode cX0_commute 4 = .ok (.iload_n 1, 1) := dk_27 (dk_at dksX0_commute_0 4 rfl rfl)
theorem dX0_commute_5 : decode cX0_commute 5 = .ok (.iload_n 2, 1) := dk_28 (dk_at dksX0_commute_0 5 rfl rfl)
theorem dX0_commute_6 : decode cX0_commute 6 = .ok (.iload_n 3, 1) := dk_29 (dk_at dksX0_commute_0 6 rfl rfl)
theorem dX0_commute_7 : decode cX0_commute 7 = .ok (.iload 4, 2) := dk_21 4 (dk_at dksX0_commute_0 7 rfl rfl)
theorem dX0_commute_9 : decode cX0_commute 9 = .ok (.invokevirtual 56, 3) := dk_182 0 56 (dk_at dksX0_commute_0 9 rfl rfl)
theorem dX0_commute_12 : decode cX0_commute 12 = .ok (.ifCond .eq 7, 3) := dk_153 0 7 (dk_at dksX0_commute_0 12 rfl rfl)
theorem dX0_commute_15 : decode cX0_commute 15 = .ok (.lconst 1, 1) := dk_10 (dk_at dksX0_commute_0 15 rfl rfl)
theorem dX0_commute_16 : decode cX0_commute 16 = .ok (.goto 4, 3) := dk_167 0 4 (dk_at dksX0_commute_0 16 rfl rfl)
theorem dX0_commute_19 : decode cX0_commute 19 = .ok (.lconst 0, 1) := dk_9 (dk_at dksX0_commute_0 19 rfl rfl)
theorem dX0_commute_20 : decode cX0_commute 20 = .ok (.lastore, 1) := dk_80 (dk_at dksX0_commute_0 20 rfl rfl)
theorem dX0_commute_21 : decode cX0_commute 21 = .ok (.goto 7, 3) := dk_167 0 7 (dk_at dksX0_commute_0 21 rfl rfl)
theorem dX0_commute_24 : decode cX0_commute 24 = .ok (.astore 6, 2) := dk_58 6 (dk_at dksX0_commute_1 0 rfl rfl)
theorem dX0_commute_26 : decode cX0_commute 26 = .ok (.iconst 1, 1) := dk_4 (dk_at dksX0_commute_1 2 rfl rfl)
theorem dX0_commute_27 : decode cX0_commute 27 = .ok (.ireturn, 1) := dk_172 (dk_at dksX0_commute_1 3 rfl rfl)
theorem dX0_commute_28 : decode cX0_commute 28 = .ok (.iconst 0, 1) := dk_3 (dk_at dksX0_commute_1 4 rfl rfl)
theorem dX0_commute_29 : decode cX0_commute 29 = .ok (.ireturn, 1) := dk_172 (dk_at dksX0_commute_1 5 rfl rfl)
abbrev cX0_phase : ByteArray := method_16_code
def yX0_phase : MethodName := ⟨RX0, "phase", "(LStringTableau;IIII[J)I"⟩
def dkwX0_phase_0 : List UInt8 := [25, 5, 3, 42, 27, 28, 29, 21, 4, 182, 0, 60, 133, 80, 167, 0, 7, 58, 6, 4, 172, 3, 172]
abbrev dktX0_phase_0 : List UInt8 := dkwX0_phase_0 ++ []
theorem dksX0_phase_0 : cX0_phase.data.toList.drop 0 = dktX0_phase_0 := by decide +kernel
theorem dX0_phase_0 : decode cX0_phase 0 = .ok (.aload 5, 2) := dk_25 5 (dk_at dksX0_phase_0 0 rfl rfl)
theorem dX0_phase_2 : decode cX0_phase 2 = .ok (.iconst 0, 1) := dk_3 (dk_at dksX0_phase_0 2 rfl rfl)
theorem dX0_phase_3 : decode cX0_phase 3 = .ok (.aload_n 0, 1) := dk_42 (dk_at dksX0_phase_0 3 rfl rfl)
theorem dX0_phase_4 : decode cX0_phase 4 = .ok (.iload_n 1, 1) := dk_27 (dk_at dksX0_phase_0 4 rfl rfl)
theorem dX0_phase_5 : decode cX0_phase 5 = .ok (.iload_n 2, 1) := dk_28 (dk_at dksX0_phase_0 5 rfl rfl)
theorem dX0_phase_6 : decode cX0_phase 6 = .ok (.iload_n 3, 1) := dk_29 (dk_at dksX0_phase_0 6 rfl rfl)
theorem dX0_phase_7 : decode cX0_phase 7 = .ok (.iload 4, 2) := dk_21 4 (dk_at dksX0_phase_0 7 rfl rfl)
theorem dX0_phase_9 : decode cX0_phase 9 = .ok (.invokevirtual 60, 3) := dk_182 0 60 (dk_at dksX0_phase_0 9 rfl rfl)
theorem dX0_phase_12 : decode cX0_phase 12 = .ok (.i2l, 1) := dk_133 (dk_at dksX0_phase_0 12 rfl rfl)
theorem dX0_phase_13 : decode cX0_phase 13 = .ok (.lastore, 1) := dk_80 (dk_at dksX0_phase_0 13 rfl rfl)
theorem dX0_phase_14 : decode cX0_phase 14 = .ok (.goto 7, 3) := dk_167 0 7 (dk_at dksX0_phase_0 14 rfl rfl)
theorem dX0_phase_17 : decode cX0_phase 17 = .ok (.astore 6, 2) := dk_58 6 (dk_at dksX0_phase_0 17 rfl rfl)
theorem dX0_phase_19 : decode cX0_phase 19 = .ok (.iconst 1, 1) := dk_4 (dk_at dksX0_phase_0 19 rfl rfl)
theorem dX0_phase_20 : decode cX0_phase 20 = .ok (.ireturn, 1) := dk_172 (dk_at dksX0_phase_0 20 rfl rfl)
theorem dX0_phase_21 : decode cX0_phase 21 = .ok (.iconst 0, 1) := dk_3 (dk_at dksX0_phase_0 21 rfl rfl)
theorem dX0_phase_22 : decode cX0_phase 22 = .ok (.ireturn, 1) := dk_172 (dk_at dksX0_phase_0 22 rfl rfl)
abbrev cX0_against : ByteArray := method_17_code
def yX0_against : MethodName := ⟨RX0, "against", "(LStringTableau;II[J)I"⟩
def dkwX0_against_0 : List UInt8 := [45, 3, 42, 27, 28, 182, 0, 64, 133, 80, 167, 0, 7, 58, 4, 4, 172, 3, 172]
abbrev dktX0_against_0 : List UInt8 := dkwX0_against_0 ++ []
theorem dksX0_against_0 : cX0_against.data.toList.drop 0 = dktX0_against_0 := by decide +kernel
theorem dX0_against_0 : decode cX0_against 0 = .ok (.aload_n 3, 1) := dk_45 (dk_at dksX0_against_0 0 rfl rfl)
theorem dX0_against_1 : decode cX0_against 1 = .ok (.iconst 0, 1) := dk_3 (dk_at dksX0_against_0 1 rfl rfl)
theorem dX0_against_2 : decode cX0_against 2 = .ok (.aload_n 0, 1) := dk_42 (dk_at dksX0_against_0 2 rfl rfl)
theorem dX0_against_3 : decode cX0_against 3 = .ok (.iload_n 1, 1) := dk_27 (dk_at dksX0_against_0 3 rfl rfl)
theorem dX0_against_4 : decode cX0_against 4 = .ok (.iload_n 2, 1) := dk_28 (dk_at dksX0_against_0 4 rfl rfl)
theorem dX0_against_5 : decode cX0_against 5 = .ok (.invokevirtual 64, 3) := dk_182 0 64 (dk_at dksX0_against_0 5 rfl rfl)
theorem dX0_against_8 : decode cX0_against 8 = .ok (.i2l, 1) := dk_133 (dk_at dksX0_against_0 8 rfl rfl)
theorem dX0_against_9 : decode cX0_against 9 = .ok (.lastore, 1) := dk_80 (dk_at dksX0_against_0 9 rfl rfl)
theorem dX0_against_10 : decode cX0_against 10 = .ok (.goto 7, 3) := dk_167 0 7 (dk_at dksX0_against_0 10 rfl rfl)
theorem dX0_against_13 : decode cX0_against 13 = .ok (.astore 4, 2) := dk_58 4 (dk_at dksX0_against_0 13 rfl rfl)
theorem dX0_against_15 : decode cX0_against 15 = .ok (.iconst 1, 1) := dk_4 (dk_at dksX0_against_0 15 rfl rfl)
theorem dX0_against_16 : decode cX0_against 16 = .ok (.ireturn, 1) := dk_172 (dk_at dksX0_against_0 16 rfl rfl)
theorem dX0_against_17 : decode cX0_against 17 = .ok (.iconst 0, 1) := dk_3 (dk_at dksX0_against_0 17 rfl rfl)
theorem dX0_against_18 : decode cX0_against 18 = .ok (.ireturn, 1) := dk_172 (dk_at dksX0_against_0 18 rfl rfl)
abbrev cX0_expectation : ByteArray := method_18_code
def yX0_expectation : MethodName := ⟨RX0, "expectation", "(LStringTableau;II[J)I"⟩
def dkwX0_expectation_0 : List UInt8 := [45, 3, 42, 27, 28, 182, 0, 67, 133, 80, 167, 0, 7, 58, 4, 4, 172, 3, 172]
abbrev dktX0_expectation_0 : List UInt8 := dkwX0_expectation_0 ++ []
theorem dksX0_expectation_0 : cX0_expectation.data.toList.drop 0 = dktX0_expectation_0 := by decide +kernel
theorem dX0_expectation_0 : decode cX0_expectation 0 = .ok (.aload_n 3, 1) := dk_45 (dk_at dksX0_expectation_0 0 rfl rfl)
theorem dX0_expectation_1 : decode cX0_expectation 1 = .ok (.iconst 0, 1) := dk_3 (dk_at dksX0_expectation_0 1 rfl rfl)
theorem dX0_expectation_2 : decode cX0_expectation 2 = .ok (.aload_n 0, 1) := dk_42 (dk_at dksX0_expectation_0 2 rfl rfl)
theorem dX0_expectation_3 : decode cX0_expectation 3 = .ok (.iload_n 1, 1) := dk_27 (dk_at dksX0_expectation_0 3 rfl rfl)
theorem dX0_expectation_4 : decode cX0_expectation 4 = .ok (.iload_n 2, 1) := dk_28 (dk_at dksX0_expectation_0 4 rfl rfl)
theorem dX0_expectation_5 : decode cX0_expectation 5 = .ok (.invokevirtual 67, 3) := dk_182 0 67 (dk_at dksX0_expectation_0 5 rfl rfl)
theorem dX0_expectation_8 : decode cX0_expectation 8 = .ok (.i2l, 1) := dk_133 (dk_at dksX0_expectation_0 8 rfl rfl)
theorem dX0_expectation_9 : decode cX0_expectation 9 = .ok (.lastore, 1) := dk_80 (dk_at dksX0_expectation_0 9 rfl rfl)
theorem dX0_expectation_10 : decode cX0_expectation 10 = .ok (.goto 7, 3) := dk_167 0 7 (dk_at dksX0_expectation_0 10 rfl rfl)
theorem dX0_expectation_13 : decode cX0_expectation 13 = .ok (.astore 4, 2) := dk_58 4 (dk_at dksX0_expectation_0 13 rfl rfl)
theorem dX0_expectation_15 : decode cX0_expectation 15 = .ok (.iconst 1, 1) := dk_4 (dk_at dksX0_expectation_0 15 rfl rfl)
theorem dX0_expectation_16 : decode cX0_expectation 16 = .ok (.ireturn, 1) := dk_172 (dk_at dksX0_expectation_0 16 rfl rfl)
theorem dX0_expectation_17 : decode cX0_expectation 17 = .ok (.iconst 0, 1) := dk_3 (dk_at dksX0_expectation_0 17 rfl rfl)
theorem dX0_expectation_18 : decode cX0_expectation 18 = .ok (.ireturn, 1) := dk_172 (dk_at dksX0_expectation_0 18 rfl rfl)
abbrev cX0_decompose : ByteArray := method_19_code
def yX0_decompose : MethodName := ⟨RX0, "decompose", "(LStringTableau;II[J)I"⟩
def dkwX0_decompose_0 : List UInt8 := [45, 3, 42, 27, 28, 182, 0, 70, 133, 80, 167, 0, 7, 58, 4, 4, 172, 3, 172]
abbrev dktX0_decompose_0 : List UInt8 := dkwX0_decompose_0 ++ []
theorem dksX0_decompose_0 : cX0_decompose.data.toList.drop 0 = dktX0_decompose_0 := by decide +kernel
theorem dX0_decompose_0 : decode cX0_decompose 0 = .ok (.aload_n 3, 1) := dk_45 (dk_at dksX0_decompose_0 0 rfl rfl)
theorem dX0_decompose_1 : decode cX0_decompose 1 = .ok (.iconst 0, 1) := dk_3 (dk_at dksX0_decompose_0 1 rfl rfl)
theorem dX0_decompose_2 : decode cX0_decompose 2 = .ok (.aload_n 0, 1) := dk_42 (dk_at dksX0_decompose_0 2 rfl rfl)
theorem dX0_decompose_3 : decode cX0_decompose 3 = .ok (.iload_n 1, 1) := dk_27 (dk_at dksX0_decompose_0 3 rfl rfl)
theorem dX0_decompose_4 : decode cX0_decompose 4 = .ok (.iload_n 2, 1) := dk_28 (dk_at dksX0_decompose_0 4 rfl rfl)
theorem dX0_decompose_5 : decode cX0_decompose 5 = .ok (.invokevirtual 70, 3) := dk_182 0 70 (dk_at dksX0_decompose_0 5 rfl rfl)
theorem dX0_decompose_8 : decode cX0_decompose 8 = .ok (.i2l, 1) := dk_133 (dk_at dksX0_decompose_0 8 rfl rfl)
theorem dX0_decompose_9 : decode cX0_decompose 9 = .ok (.lastore, 1) := dk_80 (dk_at dksX0_decompose_0 9 rfl rfl)
theorem dX0_decompose_10 : decode cX0_decompose 10 = .ok (.goto 7, 3) := dk_167 0 7 (dk_at dksX0_decompose_0 10 rfl rfl)
theorem dX0_decompose_13 : decode cX0_decompose 13 = .ok (.astore 4, 2) := dk_58 4 (dk_at dksX0_decompose_0 13 rfl rfl)
theorem dX0_decompose_15 : decode cX0_decompose 15 = .ok (.iconst 1, 1) := dk_4 (dk_at dksX0_decompose_0 15 rfl rfl)
theorem dX0_decompose_16 : decode cX0_decompose 16 = .ok (.ireturn, 1) := dk_172 (dk_at dksX0_decompose_0 16 rfl rfl)
theorem dX0_decompose_17 : decode cX0_decompose 17 = .ok (.iconst 0, 1) := dk_3 (dk_at dksX0_decompose_0 17 rfl rfl)
theorem dX0_decompose_18 : decode cX0_decompose 18 = .ok (.ireturn, 1) := dk_172 (dk_at dksX0_decompose_0 18 rfl rfl)
abbrev cX0_element : ByteArray := method_20_code
def yX0_element : MethodName := ⟨RX0, "element", "(LStringTableau;II[J)I"⟩
def dkwX0_element_0 : List UInt8 := [45, 3, 42, 27, 28, 182, 0, 73, 133, 80, 167, 0, 11, 58, 4, 4, 172, 58, 4, 5, 172, 3, 172]
abbrev dktX0_element_0 : List UInt8 := dkwX0_element_0 ++ []
theorem dksX0_element_0 : cX0_element.data.toList.drop 0 = dktX0_element_0 := by decide +kernel
theorem dX0_element_0 : decode cX0_element 0 = .ok (.aload_n 3, 1) := dk_45 (dk_at dksX0_element_0 0 rfl rfl)
theorem dX0_element_1 : decode cX0_element 1 = .ok (.iconst 0, 1) := dk_3 (dk_at dksX0_element_0 1 rfl rfl)
theorem dX0_element_2 : decode cX0_element 2 = .ok (.aload_n 0, 1) := dk_42 (dk_at dksX0_element_0 2 rfl rfl)
theorem dX0_element_3 : decode cX0_element 3 = .ok (.iload_n 1, 1) := dk_27 (dk_at dksX0_element_0 3 rfl rfl)
theorem dX0_element_4 : decode cX0_element 4 = .ok (.iload_n 2, 1) := dk_28 (dk_at dksX0_element_0 4 rfl rfl)
theorem dX0_element_5 : decode cX0_element 5 = .ok (.invokevirtual 73, 3) := dk_182 0 73 (dk_at dksX0_element_0 5 rfl rfl)
theorem dX0_element_8 : decode cX0_element 8 = .ok (.i2l, 1) := dk_133 (dk_at dksX0_element_0 8 rfl rfl)
theorem dX0_element_9 : decode cX0_element 9 = .ok (.lastore, 1) := dk_80 (dk_at dksX0_element_0 9 rfl rfl)
theorem dX0_element_10 : decode cX0_element 10 = .ok (.goto 11, 3) := dk_167 0 11 (dk_at dksX0_element_0 10 rfl rfl)
theorem dX0_element_13 : decode cX0_element 13 = .ok (.astore 4, 2) := dk_58 4 (dk_at dksX0_element_0 13 rfl rfl)
theorem dX0_element_15 : decode cX0_element 15 = .ok (.iconst 1, 1) := dk_4 (dk_at dksX0_element_0 15 rfl rfl)
theorem dX0_element_16 : decode cX0_element 16 = .ok (.ireturn, 1) := dk_172 (dk_at dksX0_element_0 16 rfl rfl)
theorem dX0_element_17 : decode cX0_element 17 = .ok (.astore 4, 2) := dk_58 4 (dk_at dksX0_element_0 17 rfl rfl)
theorem dX0_element_19 : decode cX0_element 19 = .ok (.iconst 2, 1) := dk_5 (dk_at dksX0_element_0 19 rfl rfl)
theorem dX0_element_20 : decode cX0_element 20 = .ok (.ireturn, 1) := dk_172 (dk_at dksX0_element_0 20 rfl rfl)
theorem dX0_element_21 : decode cX0_element 21 = .ok (.iconst 0, 1) := dk_3 (dk_at dksX0_element_0 21 rfl rfl)
theorem dX0_element_22 : decode cX0_element 22 = .ok (.ireturn, 1) := dk_172 (dk_at dksX0_element_0 22 rfl rfl)
abbrev cX0_lightest : ByteArray := method_21_code
def yX0_lightest : MethodName := ⟨RX0, "lightest", "(LStringTableau;I[J)I"⟩
def dkwX0_lightest_0 : List UInt8 := [44, 3, 42, 27, 182, 0, 76, 133, 80, 167, 0, 6, 78, 4, 172, 3, 172]
abbrev dktX0_lightest_0 : List UInt8 := dkwX0_lightest_0 ++ []
theorem dksX0_lightest_0 : cX0_lightest.data.toList.drop 0 = dktX0_lightest_0 := by decide +kernel
theorem dX0_lightest_0 : decode cX0_lightest 0 = .ok (.aload_n 2, 1) := dk_44 (dk_at dksX0_lightest_0 0 rfl rfl)
theorem dX0_lightest_1 : decode cX0_lightest 1 = .ok (.iconst 0, 1) := dk_3 (dk_at dksX0_lightest_0 1 rfl rfl)
theorem dX0_lightest_2 : decode cX0_lightest 2 = .ok (.aload_n 0, 1) := dk_42 (dk_at dksX0_lightest_0 2 rfl rfl)
theorem dX0_lightest_3 : decode cX0_lightest 3 = .ok (.iload_n 1, 1) := dk_27 (dk_at dksX0_lightest_0 3 rfl rfl)
theorem dX0_lightest_4 : decode cX0_lightest 4 = .ok (.invokevirtual 76, 3) := dk_182 0 76 (dk_at dksX0_lightest_0 4 rfl rfl)
theorem dX0_lightest_7 : decode cX0_lightest 7 = .ok (.i2l, 1) := dk_133 (dk_at dksX0_lightest_0 7 rfl rfl)
theorem dX0_lightest_8 : decode cX0_lightest 8 = .ok (.lastore, 1) := dk_80 (dk_at dksX0_lightest_0 8 rfl rfl)
theorem dX0_lightest_9 : decode cX0_lightest 9 = .ok (.goto 6, 3) := dk_167 0 6 (dk_at dksX0_lightest_0 9 rfl rfl)
theorem dX0_lightest_12 : decode cX0_lightest 12 = .ok (.astore_n 3, 1) := dk_78 (dk_at dksX0_lightest_0 12 rfl rfl)
theorem dX0_lightest_13 : decode cX0_lightest 13 = .ok (.iconst 1, 1) := dk_4 (dk_at dksX0_lightest_0 13 rfl rfl)
theorem dX0_lightest_14 : decode cX0_lightest 14 = .ok (.ireturn, 1) := dk_172 (dk_at dksX0_lightest_0 14 rfl rfl)
theorem dX0_lightest_15 : decode cX0_lightest 15 = .ok (.iconst 0, 1) := dk_3 (dk_at dksX0_lightest_0 15 rfl rfl)
theorem dX0_lightest_16 : decode cX0_lightest 16 = .ok (.ireturn, 1) := dk_172 (dk_at dksX0_lightest_0 16 rfl rfl)
abbrev cX0_pushed : ByteArray := method_22_code
def yX0_pushed : MethodName := ⟨RX0, "pushed", "(LStringTableau;IIIII[J)I"⟩
def dkwX0_pushed_1 : List UInt8 := [58, 7, 5, 172, 58, 7, 6, 172, 3, 172]
abbrev dktX0_pushed_1 : List UInt8 := dkwX0_pushed_1 ++ []
def dkwX0_pushed_0 : List UInt8 := [25, 6, 3, 42, 27, 28, 29, 21, 4, 21, 5, 182, 0, 79, 133, 80, 167, 0, 15, 58, 7, 4, 172]
abbrev dktX0_pushed_0 : List UInt8 := dkwX0_pushed_0 ++ dktX0_pushed_1
theorem dksX0_pushed_0 : cX0_pushed.data.toList.drop 0 = dktX0_pushed_0 := by decide +kernel
theorem dksX0_pushed_1 : cX0_pushed.data.toList.drop 23 = dktX0_pushed_1 := dk_seg dksX0_pushed_0 23 rfl rfl
theorem dX0_pushed_0 : decode cX0_pushed 0 = .ok (.aload 6, 2) := dk_25 6 (dk_at dksX0_pushed_0 0 rfl rfl)
theorem dX0_pushed_2 : decode cX0_pushed 2 = .ok (.iconst 0, 1) := dk_3 (dk_at dksX0_pushed_0 2 rfl rfl)
theorem dX0_pushed_3 : decode cX0_pushed 3 = .ok (.aload_n 0, 1) := dk_42 (dk_at dksX0_pushed_0 3 rfl rfl)
theorem dX0_pushed_4 : decode cX0_pushed 4 = .ok (.iload_n 1, 1) := dk_27 (dk_at dksX0_pushed_0 4 rfl rfl)
theorem dX0_pushed_5 : decode cX0_pushed 5 = .ok (.iload_n 2, 1) := dk_28 (dk_at dksX0_pushed_0 5 rfl rfl)
theorem dX0_pushed_6 : decode cX0_pushed 6 = .ok (.iload_n 3, 1) := dk_29 (dk_at dksX0_pushed_0 6 rfl rfl)
theorem dX0_pushed_7 : decode cX0_pushed 7 = .ok (.iload 4, 2) := dk_21 4 (dk_at dksX0_pushed_0 7 rfl rfl)
theorem dX0_pushed_9 : decode cX0_pushed 9 = .ok (.iload 5, 2) := dk_21 5 (dk_at dksX0_pushed_0 9 rfl rfl)
theorem dX0_pushed_11 : decode cX0_pushed 11 = .ok (.invokevirtual 79, 3) := dk_182 0 79 (dk_at dksX0_pushed_0 11 rfl rfl)
theorem dX0_pushed_14 : decode cX0_pushed 14 = .ok (.i2l, 1) := dk_133 (dk_at dksX0_pushed_0 14 rfl rfl)
theorem dX0_pushed_15 : decode cX0_pushed 15 = .ok (.lastore, 1) := dk_80 (dk_at dksX0_pushed_0 15 rfl rfl)
theorem dX0_pushed_16 : decode cX0_pushed 16 = .ok (.goto 15, 3) := dk_167 0 15 (dk_at dksX0_pushed_0 16 rfl rfl)
theorem dX0_pushed_19 : decode cX0_pushed 19 = .ok (.astore 7, 2) := dk_58 7 (dk_at dksX0_pushed_0 19 rfl rfl)
theorem dX0_pushed_21 : decode cX0_pushed 21 = .ok (.iconst 1, 1) := dk_4 (dk_at dksX0_pushed_0 21 rfl rfl)
theorem dX0_pushed_22 : decode cX0_pushed 22 = .ok (.ireturn, 1) := dk_172 (dk_at dksX0_pushed_0 22 rfl rfl)
theorem dX0_pushed_23 : decode cX0_pushed 23 = .ok (.astore 7, 2) := dk_58 7 (dk_at dksX0_pushed_1 0 rfl rfl)
theorem dX0_pushed_25 : decode cX0_pushed 25 = .ok (.iconst 2, 1) := dk_5 (dk_at dksX0_pushed_1 2 rfl rfl)
theorem dX0_pushed_26 : decode cX0_pushed 26 = .ok (.ireturn, 1) := dk_172 (dk_at dksX0_pushed_1 3 rfl rfl)
theorem dX0_pushed_27 : decode cX0_pushed 27 = .ok (.astore 7, 2) := dk_58 7 (dk_at dksX0_pushed_1 4 rfl rfl)
theorem dX0_pushed_29 : decode cX0_pushed 29 = .ok (.iconst 3, 1) := dk_6 (dk_at dksX0_pushed_1 6 rfl rfl)
theorem dX0_pushed_30 : decode cX0_pushed 30 = .ok (.ireturn, 1) := dk_172 (dk_at dksX0_pushed_1 7 rfl rfl)
theorem dX0_pushed_31 : decode cX0_pushed 31 = .ok (.iconst 0, 1) := dk_3 (dk_at dksX0_pushed_1 8 rfl rfl)
theorem dX0_pushed_32 : decode cX0_pushed 32 = .ok (.ireturn, 1) := dk_172 (dk_at dksX0_pushed_1 9 rfl rfl)
abbrev cX0_pulled : ByteArray := method_23_code
def yX0_pulled : MethodName := ⟨RX0, "pulled", "(LStringTableau;IIIII[J)I"⟩
def dkwX0_pulled_1 : List UInt8 := [58, 7, 5, 172, 58, 7, 6, 172, 3, 172]
abbrev dktX0_pulled_1 : List UInt8 := dkwX0_pulled_1 ++ []
def dkwX0_pulled_0 : List UInt8 := [25, 6, 3, 42, 27, 28, 29, 21, 4, 21, 5, 182, 0, 83, 133, 80, 167, 0, 15, 58, 7, 4, 172]
abbrev dktX0_pulled_0 : List UInt8 := dkwX0_pulled_0 ++ dktX0_pulled_1
theorem dksX0_pulled_0 : cX0_pulled.data.toList.drop 0 = dktX0_pulled_0 := by decide +kernel
theorem dksX0_pulled_1 : cX0_pulled.data.toList.drop 23 = dktX0_pulled_1 := dk_seg dksX0_pulled_0 23 rfl rfl
theorem dX0_pulled_0 : decode cX0_pulled 0 = .ok (.aload 6, 2) := dk_25 6 (dk_at dksX0_pulled_0 0 rfl rfl)
theorem dX0_pulled_2 : decode cX0_pulled 2 = .ok (.iconst 0, 1) := dk_3 (dk_at dksX0_pulled_0 2 rfl rfl)
theorem dX0_pulled_3 : decode cX0_pulled 3 = .ok (.aload_n 0, 1) := dk_42 (dk_at dksX0_pulled_0 3 rfl rfl)
theorem dX0_pulled_4 : decode cX0_pulled 4 = .ok (.iload_n 1, 1) := dk_27 (dk_at dksX0_pulled_0 4 rfl rfl)
theorem dX0_pulled_5 : decode cX0_pulled 5 = .ok (.iload_n 2, 1) := dk_28 (dk_at dksX0_pulled_0 5 rfl rfl)
theorem dX0_pulled_6 : decode cX0_pulled 6 = .ok (.iload_n 3, 1) := dk_29 (dk_at dksX0_pulled_0 6 rfl rfl)
theorem dX0_pulled_7 : decode cX0_pulled 7 = .ok (.iload 4, 2) := dk_21 4 (dk_at dksX0_pulled_0 7 rfl rfl)
theorem dX0_pulled_9 : decode cX0_pulled 9 = .ok (.iload 5, 2) := dk_21 5 (dk_at dksX0_pulled_0 9 rfl rfl)
theorem dX0_pulled_11 : decode cX0_pulled 11 = .ok (.invokevirtual 83, 3) := dk_182 0 83 (dk_at dksX0_pulled_0 11 rfl rfl)
theorem dX0_pulled_14 : decode cX0_pulled 14 = .ok (.i2l, 1) := dk_133 (dk_at dksX0_pulled_0 14 rfl rfl)
theorem dX0_pulled_15 : decode cX0_pulled 15 = .ok (.lastore, 1) := dk_80 (dk_at dksX0_pulled_0 15 rfl rfl)
theorem dX0_pulled_16 : decode cX0_pulled 16 = .ok (.goto 15, 3) := dk_167 0 15 (dk_at dksX0_pulled_0 16 rfl rfl)
theorem dX0_pulled_19 : decode cX0_pulled 19 = .ok (.astore 7, 2) := dk_58 7 (dk_at dksX0_pulled_0 19 rfl rfl)
theorem dX0_pulled_21 : decode cX0_pulled 21 = .ok (.iconst 1, 1) := dk_4 (dk_at dksX0_pulled_0 21 rfl rfl)
theorem dX0_pulled_22 : decode cX0_pulled 22 = .ok (.ireturn, 1) := dk_172 (dk_at dksX0_pulled_0 22 rfl rfl)
theorem dX0_pulled_23 : decode cX0_pulled 23 = .ok (.astore 7, 2) := dk_58 7 (dk_at dksX0_pulled_1 0 rfl rfl)
theorem dX0_pulled_25 : decode cX0_pulled 25 = .ok (.iconst 2, 1) := dk_5 (dk_at dksX0_pulled_1 2 rfl rfl)
theorem dX0_pulled_26 : decode cX0_pulled 26 = .ok (.ireturn, 1) := dk_172 (dk_at dksX0_pulled_1 3 rfl rfl)
theorem dX0_pulled_27 : decode cX0_pulled 27 = .ok (.astore 7, 2) := dk_58 7 (dk_at dksX0_pulled_1 4 rfl rfl)
theorem dX0_pulled_29 : decode cX0_pulled 29 = .ok (.iconst 3, 1) := dk_6 (dk_at dksX0_pulled_1 6 rfl rfl)
theorem dX0_pulled_30 : decode cX0_pulled 30 = .ok (.ireturn, 1) := dk_172 (dk_at dksX0_pulled_1 7 rfl rfl)
theorem dX0_pulled_31 : decode cX0_pulled 31 = .ok (.iconst 0, 1) := dk_3 (dk_at dksX0_pulled_1 8 rfl rfl)
theorem dX0_pulled_32 : decode cX0_pulled 32 = .ok (.ireturn, 1) := dk_172 (dk_at dksX0_pulled_1 9 rfl rfl)
abbrev cX0_partner : ByteArray := method_24_code
def yX0_partner : MethodName := ⟨RX0, "partner", "(LStringTableau;II[J)I"⟩
def dkwX0_partner_0 : List UInt8 := [45, 3, 42, 27, 28, 182, 0, 86, 133, 80, 167, 0, 7, 58, 4, 4, 172, 3, 172]
abbrev dktX0_partner_0 : List UInt8 := dkwX0_partner_0 ++ []
theorem dksX0_partner_0 : cX0_partner.data.toList.drop 0 = dktX0_partner_0 := by decide +kernel
theorem dX0_partner_0 : decode cX0_partner 0 = .ok (.aload_n 3, 1) := dk_45 (dk_at dksX0_partner_0 0 rfl rfl)
theorem dX0_partner_1 : decode cX0_partner 1 = .ok (.iconst 0, 1) := dk_3 (dk_at dksX0_partner_0 1 rfl rfl)
theorem dX0_partner_2 : decode cX0_partner 2 = .ok (.aload_n 0, 1) := dk_42 (dk_at dksX0_partner_0 2 rfl rfl)
theorem dX0_partner_3 : decode cX0_partner 3 = .ok (.iload_n 1, 1) := dk_27 (dk_at dksX0_partner_0 3 rfl rfl)
theorem dX0_partner_4 : decode cX0_partner 4 = .ok (.iload_n 2, 1) := dk_28 (dk_at dksX0_partner_0 4 rfl rfl)
theorem dX0_partner_5 : decode cX0_partner 5 = .ok (.invokevirtual 86, 3) := dk_182 0 86 (dk_at dksX0_partner_0 5 rfl rfl)
theorem dX0_partner_8 : decode cX0_partner 8 = .ok (.i2l, 1) := dk_133 (dk_at dksX0_partner_0 8 rfl rfl)
theorem dX0_partner_9 : decode cX0_partner 9 = .ok (.lastore, 1) := dk_80 (dk_at dksX0_partner_0 9 rfl rfl)
theorem dX0_partner_10 : decode cX0_partner 10 = .ok (.goto 7, 3) := dk_167 0 7 (dk_at dksX0_partner_0 10 rfl rfl)
theorem dX0_partner_13 : decode cX0_partner 13 = .ok (.astore 4, 2) := dk_58 4 (dk_at dksX0_partner_0 13 rfl rfl)
theorem dX0_partner_15 : decode cX0_partner 15 = .ok (.iconst 1, 1) := dk_4 (dk_at dksX0_partner_0 15 rfl rfl)
theorem dX0_partner_16 : decode cX0_partner 16 = .ok (.ireturn, 1) := dk_172 (dk_at dksX0_partner_0 16 rfl rfl)
theorem dX0_partner_17 : decode cX0_partner 17 = .ok (.iconst 0, 1) := dk_3 (dk_at dksX0_partner_0 17 rfl rfl)
theorem dX0_partner_18 : decode cX0_partner 18 = .ok (.ireturn, 1) := dk_172 (dk_at dksX0_partner_0 18 rfl rfl)
abbrev cX0_entropy : ByteArray := method_25_code
def yX0_entropy : MethodName := ⟨RX0, "entropy", "(LStringTableau;I[J)I"⟩
def dkwX0_entropy_0 : List UInt8 := [44, 3, 42, 27, 182, 0, 89, 133, 80, 167, 0, 6, 78, 4, 172, 3, 172]
abbrev dktX0_entropy_0 : List UInt8 := dkwX0_entropy_0 ++ []
theorem dksX0_entropy_0 : cX0_entropy.data.toList.drop 0 = dktX0_entropy_0 := by decide +kernel
theorem dX0_entropy_0 : decode cX0_entropy 0 = .ok (.aload_n 2, 1) := dk_44 (dk_at dksX0_entropy_0 0 rfl rfl)
theorem dX0_entropy_1 : decode cX0_entropy 1 = .ok (.iconst 0, 1) := dk_3 (dk_at dksX0_entropy_0 1 rfl rfl)
theorem dX0_entropy_2 : decode cX0_entropy 2 = .ok (.aload_n 0, 1) := dk_42 (dk_at dksX0_entropy_0 2 rfl rfl)
theorem dX0_entropy_3 : decode cX0_entropy 3 = .ok (.iload_n 1, 1) := dk_27 (dk_at dksX0_entropy_0 3 rfl rfl)
theorem dX0_entropy_4 : decode cX0_entropy 4 = .ok (.invokevirtual 89, 3) := dk_182 0 89 (dk_at dksX0_entropy_0 4 rfl rfl)
theorem dX0_entropy_7 : decode cX0_entropy 7 = .ok (.i2l, 1) := dk_133 (dk_at dksX0_entropy_0 7 rfl rfl)
theorem dX0_entropy_8 : decode cX0_entropy 8 = .ok (.lastore, 1) := dk_80 (dk_at dksX0_entropy_0 8 rfl rfl)
theorem dX0_entropy_9 : decode cX0_entropy 9 = .ok (.goto 6, 3) := dk_167 0 6 (dk_at dksX0_entropy_0 9 rfl rfl)
theorem dX0_entropy_12 : decode cX0_entropy 12 = .ok (.astore_n 3, 1) := dk_78 (dk_at dksX0_entropy_0 12 rfl rfl)
theorem dX0_entropy_13 : decode cX0_entropy 13 = .ok (.iconst 1, 1) := dk_4 (dk_at dksX0_entropy_0 13 rfl rfl)
theorem dX0_entropy_14 : decode cX0_entropy 14 = .ok (.ireturn, 1) := dk_172 (dk_at dksX0_entropy_0 14 rfl rfl)
theorem dX0_entropy_15 : decode cX0_entropy 15 = .ok (.iconst 0, 1) := dk_3 (dk_at dksX0_entropy_0 15 rfl rfl)
theorem dX0_entropy_16 : decode cX0_entropy 16 = .ok (.ireturn, 1) := dk_172 (dk_at dksX0_entropy_0 16 rfl rfl)
abbrev cX0_block : ByteArray := method_26_code
def yX0_block : MethodName := ⟨RX0, "block", "(LStringTableau;I[J)I"⟩
def dkwX0_block_0 : List UInt8 := [44, 3, 42, 27, 182, 0, 92, 133, 80, 167, 0, 6, 78, 4, 172, 3, 172]
abbrev dktX0_block_0 : List UInt8 := dkwX0_block_0 ++ []
theorem dksX0_block_0 : cX0_block.data.toList.drop 0 = dktX0_block_0 := by decide +kernel
theorem dX0_block_0 : decode cX0_block 0 = .ok (.aload_n 2, 1) := dk_44 (dk_at dksX0_block_0 0 rfl rfl)
theorem dX0_block_1 : decode cX0_block 1 = .ok (.iconst 0, 1) := dk_3 (dk_at dksX0_block_0 1 rfl rfl)
theorem dX0_block_2 : decode cX0_block 2 = .ok (.aload_n 0, 1) := dk_42 (dk_at dksX0_block_0 2 rfl rfl)
theorem dX0_block_3 : decode cX0_block 3 = .ok (.iload_n 1, 1) := dk_27 (dk_at dksX0_block_0 3 rfl rfl)
theorem dX0_block_4 : decode cX0_block 4 = .ok (.invokevirtual 92, 3) := dk_182 0 92 (dk_at dksX0_block_0 4 rfl rfl)
theorem dX0_block_7 : decode cX0_block 7 = .ok (.i2l, 1) := dk_133 (dk_at dksX0_block_0 7 rfl rfl)
theorem dX0_block_8 : decode cX0_block 8 = .ok (.lastore, 1) := dk_80 (dk_at dksX0_block_0 8 rfl rfl)
theorem dX0_block_9 : decode cX0_block 9 = .ok (.goto 6, 3) := dk_167 0 6 (dk_at dksX0_block_0 9 rfl rfl)
theorem dX0_block_12 : decode cX0_block 12 = .ok (.astore_n 3, 1) := dk_78 (dk_at dksX0_block_0 12 rfl rfl)
theorem dX0_block_13 : decode cX0_block 13 = .ok (.iconst 1, 1) := dk_4 (dk_at dksX0_block_0 13 rfl rfl)
theorem dX0_block_14 : decode cX0_block 14 = .ok (.ireturn, 1) := dk_172 (dk_at dksX0_block_0 14 rfl rfl)
theorem dX0_block_15 : decode cX0_block 15 = .ok (.iconst 0, 1) := dk_3 (dk_at dksX0_block_0 15 rfl rfl)
theorem dX0_block_16 : decode cX0_block 16 = .ok (.ireturn, 1) := dk_172 (dk_at dksX0_block_0 16 rfl rfl)
abbrev cX0_shared : ByteArray := method_27_code
def yX0_shared : MethodName := ⟨RX0, "shared", "(LStringTableau;II[J)I"⟩
def dkwX0_shared_0 : List UInt8 := [45, 3, 42, 27, 28, 182, 0, 95, 133, 80, 167, 0, 7, 58, 4, 4, 172, 3, 172]
abbrev dktX0_shared_0 : List UInt8 := dkwX0_shared_0 ++ []
theorem dksX0_shared_0 : cX0_shared.data.toList.drop 0 = dktX0_shared_0 := by decide +kernel
theorem dX0_shared_0 : decode cX0_shared 0 = .ok (.aload_n 3, 1) := dk_45 (dk_at dksX0_shared_0 0 rfl rfl)
theorem dX0_shared_1 : decode cX0_shared 1 = .ok (.iconst 0, 1) := dk_3 (dk_at dksX0_shared_0 1 rfl rfl)
theorem dX0_shared_2 : decode cX0_shared 2 = .ok (.aload_n 0, 1) := dk_42 (dk_at dksX0_shared_0 2 rfl rfl)
theorem dX0_shared_3 : decode cX0_shared 3 = .ok (.iload_n 1, 1) := dk_27 (dk_at dksX0_shared_0 3 rfl rfl)
theorem dX0_shared_4 : decode cX0_shared 4 = .ok (.iload_n 2, 1) := dk_28 (dk_at dksX0_shared_0 4 rfl rfl)
theorem dX0_shared_5 : decode cX0_shared 5 = .ok (.invokevirtual 95, 3) := dk_182 0 95 (dk_at dksX0_shared_0 5 rfl rfl)
theorem dX0_shared_8 : decode cX0_shared 8 = .ok (.i2l, 1) := dk_133 (dk_at dksX0_shared_0 8 rfl rfl)
theorem dX0_shared_9 : decode cX0_shared 9 = .ok (.lastore, 1) := dk_80 (dk_at dksX0_shared_0 9 rfl rfl)
theorem dX0_shared_10 : decode cX0_shared 10 = .ok (.goto 7, 3) := dk_167 0 7 (dk_at dksX0_shared_0 10 rfl rfl)
theorem dX0_shared_13 : decode cX0_shared 13 = .ok (.astore 4, 2) := dk_58 4 (dk_at dksX0_shared_0 13 rfl rfl)
theorem dX0_shared_15 : decode cX0_shared 15 = .ok (.iconst 1, 1) := dk_4 (dk_at dksX0_shared_0 15 rfl rfl)
theorem dX0_shared_16 : decode cX0_shared 16 = .ok (.ireturn, 1) := dk_172 (dk_at dksX0_shared_0 16 rfl rfl)
theorem dX0_shared_17 : decode cX0_shared 17 = .ok (.iconst 0, 1) := dk_3 (dk_at dksX0_shared_0 17 rfl rfl)
theorem dX0_shared_18 : decode cX0_shared 18 = .ok (.ireturn, 1) := dk_172 (dk_at dksX0_shared_0 18 rfl rfl)
abbrev cX0_closestPair : ByteArray := method_28_code
def yX0_closestPair : MethodName := ⟨RX0, "closestPair", "(LStringTableau;[J)I"⟩
def dkwX0_closestPair_0 : List UInt8 := [43, 3, 42, 182, 0, 98, 133, 80, 167, 0, 6, 77, 4, 172, 3, 172]
abbrev dktX0_closestPair_0 : List UInt8 := dkwX0_closestPair_0 ++ []
theorem dksX0_closestPair_0 : cX0_closestPair.data.toList.drop 0 = dktX0_closestPair_0 := by decide +kernel
theorem dX0_closestPair_0 : decode cX0_closestPair 0 = .ok (.aload_n 1, 1) := dk_43 (dk_at dksX0_closestPair_0 0 rfl rfl)
theorem dX0_closestPair_1 : decode cX0_closestPair 1 = .ok (.iconst 0, 1) := dk_3 (dk_at dksX0_closestPair_0 1 rfl rfl)
theorem dX0_closestPair_2 : decode cX0_closestPair 2 = .ok (.aload_n 0, 1) := dk_42 (dk_at dksX0_closestPair_0 2 rfl rfl)
theorem dX0_closestPair_3 : decode cX0_closestPair 3 = .ok (.invokevirtual 98, 3) := dk_182 0 98 (dk_at dksX0_closestPair_0 3 rfl rfl)
theorem dX0_closestPair_6 : decode cX0_closestPair 6 = .ok (.i2l, 1) := dk_133 (dk_at dksX0_closestPair_0 6 rfl rfl)
theorem dX0_closestPair_7 : decode cX0_closestPair 7 = .ok (.lastore, 1) := dk_80 (dk_at dksX0_closestPair_0 7 rfl rfl)
theorem dX0_closestPair_8 : decode cX0_closestPair 8 = .ok (.goto 6, 3) := dk_167 0 6 (dk_at dksX0_closestPair_0 8 rfl rfl)
theorem dX0_closestPair_11 : decode cX0_closestPair 11 = .ok (.astore_n 2, 1) := dk_77 (dk_at dksX0_closestPair_0 11 rfl rfl)
theorem dX0_closestPair_12 : decode cX0_closestPair 12 = .ok (.iconst 1, 1) := dk_4 (dk_at dksX0_closestPair_0 12 rfl rfl)
theorem dX0_closestPair_13 : decode cX0_closestPair 13 = .ok (.ireturn, 1) := dk_172 (dk_at dksX0_closestPair_0 13 rfl rfl)
theorem dX0_closestPair_14 : decode cX0_closestPair 14 = .ok (.iconst 0, 1) := dk_3 (dk_at dksX0_closestPair_0 14 rfl rfl)
theorem dX0_closestPair_15 : decode cX0_closestPair 15 = .ok (.ireturn, 1) := dk_172 (dk_at dksX0_closestPair_0 15 rfl rfl)
abbrev cX0_mostEntangled : ByteArray := method_29_code
def yX0_mostEntangled : MethodName := ⟨RX0, "mostEntangled", "(LStringTableau;I[J)I"⟩
def dkwX0_mostEntangled_0 : List UInt8 := [44, 3, 42, 27, 182, 0, 101, 133, 80, 167, 0, 6, 78, 4, 172, 3, 172]
abbrev dktX0_mostEntangled_0 : List UInt8 := dkwX0_mostEntangled_0 ++ []
theorem dksX0_mostEntangled_0 : cX0_mostEntangled.data.toList.drop 0 = dktX0_mostEntangled_0 := by decide +kernel
theorem dX0_mostEntangled_0 : decode cX0_mostEntangled 0 = .ok (.aload_n 2, 1) := dk_44 (dk_at dksX0_mostEntangled_0 0 rfl rfl)
theorem dX0_mostEntangled_1 : decode cX0_mostEntangled 1 = .ok (.iconst 0, 1) := dk_3 (dk_at dksX0_mostEntangled_0 1 rfl rfl)
theorem dX0_mostEntangled_2 : decode cX0_mostEntangled 2 = .ok (.aload_n 0, 1) := dk_42 (dk_at dksX0_mostEntangled_0 2 rfl rfl)
theorem dX0_mostEntangled_3 : decode cX0_mostEntangled 3 = .ok (.iload_n 1, 1) := dk_27 (dk_at dksX0_mostEntangled_0 3 rfl rfl)
theorem dX0_mostEntangled_4 : decode cX0_mostEntangled 4 = .ok (.invokevirtual 101, 3) := dk_182 0 101 (dk_at dksX0_mostEntangled_0 4 rfl rfl)
theorem dX0_mostEntangled_7 : decode cX0_mostEntangled 7 = .ok (.i2l, 1) := dk_133 (dk_at dksX0_mostEntangled_0 7 rfl rfl)
theorem dX0_mostEntangled_8 : decode cX0_mostEntangled 8 = .ok (.lastore, 1) := dk_80 (dk_at dksX0_mostEntangled_0 8 rfl rfl)
theorem dX0_mostEntangled_9 : decode cX0_mostEntangled 9 = .ok (.goto 6, 3) := dk_167 0 6 (dk_at dksX0_mostEntangled_0 9 rfl rfl)
theorem dX0_mostEntangled_12 : decode cX0_mostEntangled 12 = .ok (.astore_n 3, 1) := dk_78 (dk_at dksX0_mostEntangled_0 12 rfl rfl)
theorem dX0_mostEntangled_13 : decode cX0_mostEntangled 13 = .ok (.iconst 1, 1) := dk_4 (dk_at dksX0_mostEntangled_0 13 rfl rfl)
theorem dX0_mostEntangled_14 : decode cX0_mostEntangled 14 = .ok (.ireturn, 1) := dk_172 (dk_at dksX0_mostEntangled_0 14 rfl rfl)
theorem dX0_mostEntangled_15 : decode cX0_mostEntangled 15 = .ok (.iconst 0, 1) := dk_3 (dk_at dksX0_mostEntangled_0 15 rfl rfl)
theorem dX0_mostEntangled_16 : decode cX0_mostEntangled 16 = .ok (.ireturn, 1) := dk_172 (dk_at dksX0_mostEntangled_0 16 rfl rfl)
abbrev cX0_probability : ByteArray := method_30_code
def yX0_probability : MethodName := ⟨RX0, "probability", "(LStringTableau;I[D)I"⟩
def dkwX0_probability_0 : List UInt8 := [44, 3, 42, 27, 182, 0, 104, 82, 167, 0, 6, 78, 4, 172, 3, 172]
abbrev dktX0_probability_0 : List UInt8 := dkwX0_probability_0 ++ []
theorem dksX0_probability_0 : cX0_probability.data.toList.drop 0 = dktX0_probability_0 := by decide +kernel
theorem dX0_probability_0 : decode cX0_probability 0 = .ok (.aload_n 2, 1) := dk_44 (dk_at dksX0_probability_0 0 rfl rfl)
theorem dX0_probability_1 : decode cX0_probability 1 = .ok (.iconst 0, 1) := dk_3 (dk_at dksX0_probability_0 1 rfl rfl)
theorem dX0_probability_2 : decode cX0_probability 2 = .ok (.aload_n 0, 1) := dk_42 (dk_at dksX0_probability_0 2 rfl rfl)
theorem dX0_probability_3 : decode cX0_probability 3 = .ok (.iload_n 1, 1) := dk_27 (dk_at dksX0_probability_0 3 rfl rfl)
theorem dX0_probability_4 : decode cX0_probability 4 = .ok (.invokevirtual 104, 3) := dk_182 0 104 (dk_at dksX0_probability_0 4 rfl rfl)
theorem dX0_probability_7 : decode cX0_probability 7 = .ok (.dastore, 1) := dk_82 (dk_at dksX0_probability_0 7 rfl rfl)
theorem dX0_probability_8 : decode cX0_probability 8 = .ok (.goto 6, 3) := dk_167 0 6 (dk_at dksX0_probability_0 8 rfl rfl)
theorem dX0_probability_11 : decode cX0_probability 11 = .ok (.astore_n 3, 1) := dk_78 (dk_at dksX0_probability_0 11 rfl rfl)
theorem dX0_probability_12 : decode cX0_probability 12 = .ok (.iconst 1, 1) := dk_4 (dk_at dksX0_probability_0 12 rfl rfl)
theorem dX0_probability_13 : decode cX0_probability 13 = .ok (.ireturn, 1) := dk_172 (dk_at dksX0_probability_0 13 rfl rfl)
theorem dX0_probability_14 : decode cX0_probability 14 = .ok (.iconst 0, 1) := dk_3 (dk_at dksX0_probability_0 14 rfl rfl)
theorem dX0_probability_15 : decode cX0_probability 15 = .ok (.ireturn, 1) := dk_172 (dk_at dksX0_probability_0 15 rfl rfl)
abbrev cX0_keep : ByteArray := method_31_code
def yX0_keep : MethodName := ⟨RX0, "keep", "(LStringTableau;I[J)I"⟩
def dkwX0_keep_0 : List UInt8 := [44, 3, 42, 27, 182, 0, 108, 153, 0, 7, 10, 167, 0, 4, 9, 80, 167, 0, 6, 78, 4, 172, 3, 172]
abbrev dktX0_keep_0 : List UInt8 := dkwX0_keep_0 ++ []
theorem dksX0_keep_0 : cX0_keep.data.toList.drop 0 = dktX0_keep_0 := by decide +kernel
theorem dX0_keep_0 : decode cX0_keep 0 = .ok (.aload_n 2, 1) := dk_44 (dk_at dksX0_keep_0 0 rfl rfl)
theorem dX0_keep_1 : decode cX0_keep 1 = .ok (.iconst 0, 1) := dk_3 (dk_at dksX0_keep_0 1 rfl rfl)
theorem dX0_keep_2 : decode cX0_keep 2 = .ok (.aload_n 0, 1) := dk_42 (dk_at dksX0_keep_0 2 rfl rfl)
theorem dX0_keep_3 : decode cX0_keep 3 = .ok (.iload_n 1, 1) := dk_27 (dk_at dksX0_keep_0 3 rfl rfl)
theorem dX0_keep_4 : decode cX0_keep 4 = .ok (.invokevirtual 108, 3) := dk_182 0 108 (dk_at dksX0_keep_0 4 rfl rfl)
theorem dX0_keep_7 : decode cX0_keep 7 = .ok (.ifCond .eq 7, 3) := dk_153 0 7 (dk_at dksX0_keep_0 7 rfl rfl)
theorem dX0_keep_10 : decode cX0_keep 10 = .ok (.lconst 1, 1) := dk_10 (dk_at dksX0_keep_0 10 rfl rfl)
theorem dX0_keep_11 : decode cX0_keep 11 = .ok (.goto 4, 3) := dk_167 0 4 (dk_at dksX0_keep_0 11 rfl rfl)
theorem dX0_keep_14 : decode cX0_keep 14 = .ok (.lconst 0, 1) := dk_9 (dk_at dksX0_keep_0 14 rfl rfl)
theorem dX0_keep_15 : decode cX0_keep 15 = .ok (.lastore, 1) := dk_80 (dk_at dksX0_keep_0 15 rfl rfl)
theorem dX0_keep_16 : decode cX0_keep 16 = .ok (.goto 6, 3) := dk_167 0 6 (dk_at dksX0_keep_0 16 rfl rfl)
theorem dX0_keep_19 : decode cX0_keep 19 = .ok (.astore_n 3, 1) := dk_78 (dk_at dksX0_keep_0 19 rfl rfl)
theorem dX0_keep_20 : decode cX0_keep 20 = .ok (.iconst 1, 1) := dk_4 (dk_at dksX0_keep_0 20 rfl rfl)
theorem dX0_keep_21 : decode cX0_keep 21 = .ok (.ireturn, 1) := dk_172 (dk_at dksX0_keep_0 21 rfl rfl)
theorem dX0_keep_22 : decode cX0_keep 22 = .ok (.iconst 0, 1) := dk_3 (dk_at dksX0_keep_0 22 rfl rfl)
theorem dX0_keep_23 : decode cX0_keep 23 = .ok (.ireturn, 1) := dk_172 (dk_at dksX0_keep_0 23 rfl rfl)
abbrev cX0_isSame : ByteArray := method_32_code
def yX0_isSame : MethodName := ⟨RX0, "isSame", "(LStringTableau;I[J)I"⟩
def dkwX0_isSame_1 : List UInt8 := [172, 3, 172]
abbrev dktX0_isSame_1 : List UInt8 := dkwX0_isSame_1 ++ []
def dkwX0_isSame_0 : List UInt8 := [44, 3, 42, 27, 182, 0, 112, 153, 0, 7, 10, 167, 0, 4, 9, 80, 167, 0, 9, 78, 4, 172, 78, 5]
abbrev dktX0_isSame_0 : List UInt8 := dkwX0_isSame_0 ++ dktX0_isSame_1
theorem dksX0_isSame_0 : cX0_isSame.data.toList.drop 0 = dktX0_isSame_0 := by decide +kernel
theorem dksX0_isSame_1 : cX0_isSame.data.toList.drop 24 = dktX0_isSame_1 := dk_seg dksX0_isSame_0 24 rfl rfl
theorem dX0_isSame_0 : decode cX0_isSame 0 = .ok (.aload_n 2, 1) := dk_44 (dk_at dksX0_isSame_0 0 rfl rfl)
theorem dX0_isSame_1 : decode cX0_isSame 1 = .ok (.iconst 0, 1) := dk_3 (dk_at dksX0_isSame_0 1 rfl rfl)
theorem dX0_isSame_2 : decode cX0_isSame 2 = .ok (.aload_n 0, 1) := dk_42 (dk_at dksX0_isSame_0 2 rfl rfl)
theorem dX0_isSame_3 : decode cX0_isSame 3 = .ok (.iload_n 1, 1) := dk_27 (dk_at dksX0_isSame_0 3 rfl rfl)
theorem dX0_isSame_4 : decode cX0_isSame 4 = .ok (.invokevirtual 112, 3) := dk_182 0 112 (dk_at dksX0_isSame_0 4 rfl rfl)
theorem dX0_isSame_7 : decode cX0_isSame 7 = .ok (.ifCond .eq 7, 3) := dk_153 0 7 (dk_at dksX0_isSame_0 7 rfl rfl)
theorem dX0_isSame_10 : decode cX0_isSame 10 = .ok (.lconst 1, 1) := dk_10 (dk_at dksX0_isSame_0 10 rfl rfl)
theorem dX0_isSame_11 : decode cX0_isSame 11 = .ok (.goto 4, 3) := dk_167 0 4 (dk_at dksX0_isSame_0 11 rfl rfl)
theorem dX0_isSame_14 : decode cX0_isSame 14 = .ok (.lconst 0, 1) := dk_9 (dk_at dksX0_isSame_0 14 rfl rfl)
theorem dX0_isSame_15 : decode cX0_isSame 15 = .ok (.lastore, 1) := dk_80 (dk_at dksX0_isSame_0 15 rfl rfl)
theorem dX0_isSame_16 : decode cX0_isSame 16 = .ok (.goto 9, 3) := dk_167 0 9 (dk_at dksX0_isSame_0 16 rfl rfl)
theorem dX0_isSame_19 : decode cX0_isSame 19 = .ok (.astore_n 3, 1) := dk_78 (dk_at dksX0_isSame_0 19 rfl rfl)
theorem dX0_isSame_20 : decode cX0_isSame 20 = .ok (.iconst 1, 1) := dk_4 (dk_at dksX0_isSame_0 20 rfl rfl)
theorem dX0_isSame_21 : decode cX0_isSame 21 = .ok (.ireturn, 1) := dk_172 (dk_at dksX0_isSame_0 21 rfl rfl)
theorem dX0_isSame_22 : decode cX0_isSame 22 = .ok (.astore_n 3, 1) := dk_78 (dk_at dksX0_isSame_0 22 rfl rfl)
theorem dX0_isSame_23 : decode cX0_isSame 23 = .ok (.iconst 2, 1) := dk_5 (dk_at dksX0_isSame_0 23 rfl rfl)
theorem dX0_isSame_24 : decode cX0_isSame 24 = .ok (.ireturn, 1) := dk_172 (dk_at dksX0_isSame_1 0 rfl rfl)
theorem dX0_isSame_25 : decode cX0_isSame 25 = .ok (.iconst 0, 1) := dk_3 (dk_at dksX0_isSame_1 1 rfl rfl)
theorem dX0_isSame_26 : decode cX0_isSame 26 = .ok (.ireturn, 1) := dk_172 (dk_at dksX0_isSame_1 2 rfl rfl)
abbrev cX0_overlap : ByteArray := method_33_code
def yX0_overlap : MethodName := ⟨RX0, "overlap", "(LStringTableau;I[J)I"⟩
def dkwX0_overlap_0 : List UInt8 := [44, 3, 42, 27, 182, 0, 115, 133, 80, 167, 0, 9, 78, 4, 172, 78, 5, 172, 3, 172]
abbrev dktX0_overlap_0 : List UInt8 := dkwX0_overlap_0 ++ []
theorem dksX0_overlap_0 : cX0_overlap.data.toList.drop 0 = dktX0_overlap_0 := by decide +kernel
theorem dX0_overlap_0 : decode cX0_overlap 0 = .ok (.aload_n 2, 1) := dk_44 (dk_at dksX0_overlap_0 0 rfl rfl)
theorem dX0_overlap_1 : decode cX0_overlap 1 = .ok (.iconst 0, 1) := dk_3 (dk_at dksX0_overlap_0 1 rfl rfl)
theorem dX0_overlap_2 : decode cX0_overlap 2 = .ok (.aload_n 0, 1) := dk_42 (dk_at dksX0_overlap_0 2 rfl rfl)
theorem dX0_overlap_3 : decode cX0_overlap 3 = .ok (.iload_n 1, 1) := dk_27 (dk_at dksX0_overlap_0 3 rfl rfl)
theorem dX0_overlap_4 : decode cX0_overlap 4 = .ok (.invokevirtual 115, 3) := dk_182 0 115 (dk_at dksX0_overlap_0 4 rfl rfl)
theorem dX0_overlap_7 : decode cX0_overlap 7 = .ok (.i2l, 1) := dk_133 (dk_at dksX0_overlap_0 7 rfl rfl)
theorem dX0_overlap_8 : decode cX0_overlap 8 = .ok (.lastore, 1) := dk_80 (dk_at dksX0_overlap_0 8 rfl rfl)
theorem dX0_overlap_9 : decode cX0_overlap 9 = .ok (.goto 9, 3) := dk_167 0 9 (dk_at dksX0_overlap_0 9 rfl rfl)
theorem dX0_overlap_12 : decode cX0_overlap 12 = .ok (.astore_n 3, 1) := dk_78 (dk_at dksX0_overlap_0 12 rfl rfl)
theorem dX0_overlap_13 : decode cX0_overlap 13 = .ok (.iconst 1, 1) := dk_4 (dk_at dksX0_overlap_0 13 rfl rfl)
theorem dX0_overlap_14 : decode cX0_overlap 14 = .ok (.ireturn, 1) := dk_172 (dk_at dksX0_overlap_0 14 rfl rfl)
theorem dX0_overlap_15 : decode cX0_overlap 15 = .ok (.astore_n 3, 1) := dk_78 (dk_at dksX0_overlap_0 15 rfl rfl)
theorem dX0_overlap_16 : decode cX0_overlap 16 = .ok (.iconst 2, 1) := dk_5 (dk_at dksX0_overlap_0 16 rfl rfl)
theorem dX0_overlap_17 : decode cX0_overlap 17 = .ok (.ireturn, 1) := dk_172 (dk_at dksX0_overlap_0 17 rfl rfl)
theorem dX0_overlap_18 : decode cX0_overlap 18 = .ok (.iconst 0, 1) := dk_3 (dk_at dksX0_overlap_0 18 rfl rfl)
theorem dX0_overlap_19 : decode cX0_overlap 19 = .ok (.ireturn, 1) := dk_172 (dk_at dksX0_overlap_0 19 rfl rfl)
abbrev cX0_agreeing : ByteArray := method_34_code
def yX0_agreeing : MethodName := ⟨RX0, "agreeing", "(LStringTableau;I[J)I"⟩
def dkwX0_agreeing_0 : List UInt8 := [44, 3, 42, 27, 182, 0, 118, 133, 80, 167, 0, 9, 78, 4, 172, 78, 5, 172, 3, 172]
abbrev dktX0_agreeing_0 : List UInt8 := dkwX0_agreeing_0 ++ []
theorem dksX0_agreeing_0 : cX0_agreeing.data.toList.drop 0 = dktX0_agreeing_0 := by decide +kernel
theorem dX0_agreeing_0 : decode cX0_agreeing 0 = .ok (.aload_n 2, 1) := dk_44 (dk_at dksX0_agreeing_0 0 rfl rfl)
theorem dX0_agreeing_1 : decode cX0_agreeing 1 = .ok (.iconst 0, 1) := dk_3 (dk_at dksX0_agreeing_0 1 rfl rfl)
theorem dX0_agreeing_2 : decode cX0_agreeing 2 = .ok (.aload_n 0, 1) := dk_42 (dk_at dksX0_agreeing_0 2 rfl rfl)
theorem dX0_agreeing_3 : decode cX0_agreeing 3 = .ok (.iload_n 1, 1) := dk_27 (dk_at dksX0_agreeing_0 3 rfl rfl)
theorem dX0_agreeing_4 : decode cX0_agreeing 4 = .ok (.invokevirtual 118, 3) := dk_182 0 118 (dk_at dksX0_agreeing_0 4 rfl rfl)
theorem dX0_agreeing_7 : decode cX0_agreeing 7 = .ok (.i2l, 1) := dk_133 (dk_at dksX0_agreeing_0 7 rfl rfl)
theorem dX0_agreeing_8 : decode cX0_agreeing 8 = .ok (.lastore, 1) := dk_80 (dk_at dksX0_agreeing_0 8 rfl rfl)
theorem dX0_agreeing_9 : decode cX0_agreeing 9 = .ok (.goto 9, 3) := dk_167 0 9 (dk_at dksX0_agreeing_0 9 rfl rfl)
theorem dX0_agreeing_12 : decode cX0_agreeing 12 = .ok (.astore_n 3, 1) := dk_78 (dk_at dksX0_agreeing_0 12 rfl rfl)
theorem dX0_agreeing_13 : decode cX0_agreeing 13 = .ok (.iconst 1, 1) := dk_4 (dk_at dksX0_agreeing_0 13 rfl rfl)
theorem dX0_agreeing_14 : decode cX0_agreeing 14 = .ok (.ireturn, 1) := dk_172 (dk_at dksX0_agreeing_0 14 rfl rfl)
theorem dX0_agreeing_15 : decode cX0_agreeing 15 = .ok (.astore_n 3, 1) := dk_78 (dk_at dksX0_agreeing_0 15 rfl rfl)
theorem dX0_agreeing_16 : decode cX0_agreeing 16 = .ok (.iconst 2, 1) := dk_5 (dk_at dksX0_agreeing_0 16 rfl rfl)
theorem dX0_agreeing_17 : decode cX0_agreeing 17 = .ok (.ireturn, 1) := dk_172 (dk_at dksX0_agreeing_0 17 rfl rfl)
theorem dX0_agreeing_18 : decode cX0_agreeing 18 = .ok (.iconst 0, 1) := dk_3 (dk_at dksX0_agreeing_0 18 rfl rfl)
theorem dX0_agreeing_19 : decode cX0_agreeing 19 = .ok (.ireturn, 1) := dk_172 (dk_at dksX0_agreeing_0 19 rfl rfl)
abbrev cX0_outsiders : ByteArray := method_35_code
def yX0_outsiders : MethodName := ⟨RX0, "outsiders", "(LStringTableau;I[J)I"⟩
def dkwX0_outsiders_0 : List UInt8 := [44, 3, 42, 27, 182, 0, 121, 133, 80, 167, 0, 9, 78, 4, 172, 78, 5, 172, 3, 172]
abbrev dktX0_outsiders_0 : List UInt8 := dkwX0_outsiders_0 ++ []
theorem dksX0_outsiders_0 : cX0_outsiders.data.toList.drop 0 = dktX0_outsiders_0 := by decide +kernel
theorem dX0_outsiders_0 : decode cX0_outsiders 0 = .ok (.aload_n 2, 1) := dk_44 (dk_at dksX0_outsiders_0 0 rfl rfl)
theorem dX0_outsiders_1 : decode cX0_outsiders 1 = .ok (.iconst 0, 1) := dk_3 (dk_at dksX0_outsiders_0 1 rfl rfl)
theorem dX0_outsiders_2 : decode cX0_outsiders 2 = .ok (.aload_n 0, 1) := dk_42 (dk_at dksX0_outsiders_0 2 rfl rfl)
theorem dX0_outsiders_3 : decode cX0_outsiders 3 = .ok (.iload_n 1, 1) := dk_27 (dk_at dksX0_outsiders_0 3 rfl rfl)
theorem dX0_outsiders_4 : decode cX0_outsiders 4 = .ok (.invokevirtual 121, 3) := dk_182 0 121 (dk_at dksX0_outsiders_0 4 rfl rfl)
theorem dX0_outsiders_7 : decode cX0_outsiders 7 = .ok (.i2l, 1) := dk_133 (dk_at dksX0_outsiders_0 7 rfl rfl)
theorem dX0_outsiders_8 : decode cX0_outsiders 8 = .ok (.lastore, 1) := dk_80 (dk_at dksX0_outsiders_0 8 rfl rfl)
theorem dX0_outsiders_9 : decode cX0_outsiders 9 = .ok (.goto 9, 3) := dk_167 0 9 (dk_at dksX0_outsiders_0 9 rfl rfl)
theorem dX0_outsiders_12 : decode cX0_outsiders 12 = .ok (.astore_n 3, 1) := dk_78 (dk_at dksX0_outsiders_0 12 rfl rfl)
theorem dX0_outsiders_13 : decode cX0_outsiders 13 = .ok (.iconst 1, 1) := dk_4 (dk_at dksX0_outsiders_0 13 rfl rfl)
theorem dX0_outsiders_14 : decode cX0_outsiders 14 = .ok (.ireturn, 1) := dk_172 (dk_at dksX0_outsiders_0 14 rfl rfl)
theorem dX0_outsiders_15 : decode cX0_outsiders 15 = .ok (.astore_n 3, 1) := dk_78 (dk_at dksX0_outsiders_0 15 rfl rfl)
theorem dX0_outsiders_16 : decode cX0_outsiders 16 = .ok (.iconst 2, 1) := dk_5 (dk_at dksX0_outsiders_0 16 rfl rfl)
theorem dX0_outsiders_17 : decode cX0_outsiders 17 = .ok (.ireturn, 1) := dk_172 (dk_at dksX0_outsiders_0 17 rfl rfl)
theorem dX0_outsiders_18 : decode cX0_outsiders 18 = .ok (.iconst 0, 1) := dk_3 (dk_at dksX0_outsiders_0 18 rfl rfl)
theorem dX0_outsiders_19 : decode cX0_outsiders 19 = .ok (.ireturn, 1) := dk_172 (dk_at dksX0_outsiders_0 19 rfl rfl)
abbrev cX0_innerSquare : ByteArray := method_36_code
def yX0_innerSquare : MethodName := ⟨RX0, "innerSquare", "(LStringTableau;I[D)I"⟩
def dkwX0_innerSquare_0 : List UInt8 := [44, 3, 42, 27, 182, 0, 124, 141, 82, 167, 0, 9, 78, 4, 172, 78, 5, 172, 3, 172]
abbrev dktX0_innerSquare_0 : List UInt8 := dkwX0_innerSquare_0 ++ []
theorem dksX0_innerSquare_0 : cX0_innerSquare.data.toList.drop 0 = dktX0_innerSquare_0 := by decide +kernel
theorem dX0_innerSquare_0 : decode cX0_innerSquare 0 = .ok (.aload_n 2, 1) := dk_44 (dk_at dksX0_innerSquare_0 0 rfl rfl)
theorem dX0_innerSquare_1 : decode cX0_innerSquare 1 = .ok (.iconst 0, 1) := dk_3 (dk_at dksX0_innerSquare_0 1 rfl rfl)
theorem dX0_innerSquare_2 : decode cX0_innerSquare 2 = .ok (.aload_n 0, 1) := dk_42 (dk_at dksX0_innerSquare_0 2 rfl rfl)
theorem dX0_innerSquare_3 : decode cX0_innerSquare 3 = .ok (.iload_n 1, 1) := dk_27 (dk_at dksX0_innerSquare_0 3 rfl rfl)
theorem dX0_innerSquare_4 : decode cX0_innerSquare 4 = .ok (.invokevirtual 124, 3) := dk_182 0 124 (dk_at dksX0_innerSquare_0 4 rfl rfl)
theorem dX0_innerSquare_7 : decode cX0_innerSquare 7 = .ok (.f2d, 1) := dk_141 (dk_at dksX0_innerSquare_0 7 rfl rfl)
theorem dX0_innerSquare_8 : decode cX0_innerSquare 8 = .ok (.dastore, 1) := dk_82 (dk_at dksX0_innerSquare_0 8 rfl rfl)
theorem dX0_innerSquare_9 : decode cX0_innerSquare 9 = .ok (.goto 9, 3) := dk_167 0 9 (dk_at dksX0_innerSquare_0 9 rfl rfl)
theorem dX0_innerSquare_12 : decode cX0_innerSquare 12 = .ok (.astore_n 3, 1) := dk_78 (dk_at dksX0_innerSquare_0 12 rfl rfl)
theorem dX0_innerSquare_13 : decode cX0_innerSquare 13 = .ok (.iconst 1, 1) := dk_4 (dk_at dksX0_innerSquare_0 13 rfl rfl)
theorem dX0_innerSquare_14 : decode cX0_innerSquare 14 = .ok (.ireturn, 1) := dk_172 (dk_at dksX0_innerSquare_0 14 rfl rfl)
theorem dX0_innerSquare_15 : decode cX0_innerSquare 15 = .ok (.astore_n 3, 1) := dk_78 (dk_at dksX0_innerSquare_0 15 rfl rfl)
theorem dX0_innerSquare_16 : decode cX0_innerSquare 16 = .ok (.iconst 2, 1) := dk_5 (dk_at dksX0_innerSquare_0 16 rfl rfl)
theorem dX0_innerSquare_17 : decode cX0_innerSquare 17 = .ok (.ireturn, 1) := dk_172 (dk_at dksX0_innerSquare_0 17 rfl rfl)
theorem dX0_innerSquare_18 : decode cX0_innerSquare 18 = .ok (.iconst 0, 1) := dk_3 (dk_at dksX0_innerSquare_0 18 rfl rfl)
theorem dX0_innerSquare_19 : decode cX0_innerSquare 19 = .ok (.ireturn, 1) := dk_172 (dk_at dksX0_innerSquare_0 19 rfl rfl)
theorem q119 : (Jvm.Cond.initialized "StringTableauLaw") ∈ lw_all := lw_g (lw_at lw_m1 0 rfl) rfl
theorem q173 : (Jvm.Cond.classLink "StringTableauLaw" (8 : Nat) "StringTableau") ∈ lw_all := lw_g (lw_at lw_m1 54 rfl) rfl
theorem q175 : (Jvm.Cond.methodLink "StringTableauLaw" (128 : Nat) ({ cls := "StringTableau", name := "<init>", desc := "()V" } : Jvm.MethodName)) ∈ lw_all := lw_g (lw_at lw_m1 56 rfl) rfl
theorem q375 : (Jvm.Cond.methodLink "StringTableauLaw" (132 : Nat) ({ cls := "StringTableau", name := "feed", desc := "(IIIII)I" } : Jvm.MethodName)) ∈ lw_all := lw_g (lw_at lw_m2 16 rfl) rfl
theorem q383 : (Jvm.Cond.methodLink "StringTableauLaw" (136 : Nat) ({ cls := "StringTableau", name := "truncate", desc := "(I)Z" } : Jvm.MethodName)) ∈ lw_all := lw_g (lw_at lw_m2 24 rfl) rfl
theorem q390 : (Jvm.Cond.methodLink "StringTableauLaw" (140 : Nat) ({ cls := "StringTableau", name := "parse", desc := "()I" } : Jvm.MethodName)) ∈ lw_all := lw_g (lw_at lw_m2 31 rfl) rfl
theorem q1127 : (Jvm.Cond.methodLink "StringTableauLaw" (144 : Nat) ({ cls := "StringTableau", name := "errorCode", desc := "()I" } : Jvm.MethodName)) ∈ lw_all := lw_g (lw_at lw_m5 48 rfl) rfl
theorem q1131 : (Jvm.Cond.methodLink "StringTableauLaw" (148 : Nat) ({ cls := "StringTableau", name := "errorOffset", desc := "()I" } : Jvm.MethodName)) ∈ lw_all := lw_g (lw_at lw_m5 52 rfl) rfl
theorem q1135 : (Jvm.Cond.methodLink "StringTableauLaw" (152 : Nat) ({ cls := "StringTableau", name := "count", desc := "(I)I" } : Jvm.MethodName)) ∈ lw_all := lw_g (lw_at lw_m5 56 rfl) rfl
theorem q1172 : (Jvm.Cond.methodLink "StringTableauLaw" (177 : Nat) ({ cls := "StringTableau", name := "step", desc := "()I" } : Jvm.MethodName)) ∈ lw_all := lw_g (lw_at lw_m5 93 rfl) rfl
theorem q1594 : (Jvm.Cond.methodLink "StringTableauLaw" (185 : Nat) ({ cls := "StringTableau", name := "runnable", desc := "()I" } : Jvm.MethodName)) ∈ lw_all := lw_g (lw_at lw_m7 35 rfl) rfl
theorem q1598 : (Jvm.Cond.methodLink "StringTableauLaw" (192 : Nat) ({ cls := "StringTableau", name := "makeCanonical", desc := "()I" } : Jvm.MethodName)) ∈ lw_all := lw_g (lw_at lw_m7 39 rfl) rfl
theorem q1633 : (Jvm.Cond.methodLink "StringTableauLaw" (233 : Nat) ({ cls := "StringTableau", name := "weights", desc := "(I)I" } : Jvm.MethodName)) ∈ lw_all := lw_g (lw_at lw_m7 74 rfl) rfl
theorem q1664 : (Jvm.Cond.methodLink "StringTableauLaw" (253 : Nat) ({ cls := "StringTableau", name := "freeQubits", desc := "()I" } : Jvm.MethodName)) ∈ lw_all := lw_g (lw_at lw_m7 105 rfl) rfl
theorem q1681 : (Jvm.Cond.methodLink "StringTableauLaw" (269 : Nat) ({ cls := "StringTableau", name := "spread", desc := "()I" } : Jvm.MethodName)) ∈ lw_all := lw_g (lw_at lw_m7 122 rfl) rfl
theorem q1685 : (Jvm.Cond.methodLink "StringTableauLaw" (277 : Nat) ({ cls := "StringTableau", name := "possible", desc := "(I)I" } : Jvm.MethodName)) ∈ lw_all := lw_g (lw_at lw_m7 126 rfl) rfl
theorem q1692 : (Jvm.Cond.methodLink "StringTableauLaw" (299 : Nat) ({ cls := "StringTableau", name := "print", desc := "(Z)I" } : Jvm.MethodName)) ∈ lw_all := lw_g (lw_at lw_m7 133 rfl) rfl
theorem q1773 : (Jvm.Cond.methodLink "StringTableauLaw" (304 : Nat) ({ cls := "StringTableau", name := "printProgram", desc := "()I" } : Jvm.MethodName)) ∈ lw_all := lw_g (lw_at lw_m7 214 rfl) rfl
theorem q1813 : (Jvm.Cond.methodLink "StringTableauLaw" (308 : Nat) ({ cls := "StringTableau", name := "outputByte", desc := "(I)I" } : Jvm.MethodName)) ∈ lw_all := lw_g (lw_at lw_m8 14 rfl) rfl
theorem q1827 : (Jvm.Cond.methodLink "StringTableauLaw" (156 : Nat) ({ cls := "StringTableauLaw", name := "operation", desc := "(LStringTableau;II[J)I" } : Jvm.MethodName)) ∈ lw_all := lw_g (lw_at lw_m8 28 rfl) rfl
theorem q1828 : (Jvm.Cond.static ({ cls := "StringTableauLaw", name := "operation", desc := "(LStringTableau;II[J)I" } : Jvm.MethodName)) ∈ lw_all := lw_g (lw_at lw_m8 29 rfl) rfl
theorem q1829 : (Jvm.Cond.codeWith ({ cls := "StringTableauLaw", name := "operation", desc := "(LStringTableau;II[J)I" } : Jvm.MethodName) method_3_code (5 : Nat) (Option.some Jvm.ClassFile.FieldType.int) [((0 : Nat), (10 : Nat), (13 : Nat), (13 : Nat))]) ∈ lw_all := lw_g (lw_at lw_m8 30 rfl) rfl
theorem q1830 : (Jvm.Cond.classLink "StringTableauLaw" (13 : Nat) "java/lang/IndexOutOfBoundsException") ∈ lw_all := lw_g (lw_at lw_m8 31 rfl) rfl
theorem q1833 : (Jvm.Cond.methodLink "StringTableauLaw" (7 : Nat) ({ cls := "StringTableau", name := "operation", desc := "(II)I" } : Jvm.MethodName)) ∈ lw_all := lw_g (lw_at lw_m8 34 rfl) rfl
theorem q1855 : (Jvm.Cond.methodLink "StringTableauLaw" (165 : Nat) ({ cls := "StringTableauLaw", name := "gate", desc := "(LStringTableau;III[J)I" } : Jvm.MethodName)) ∈ lw_all := lw_g (lw_at lw_m8 56 rfl) rfl
theorem q1856 : (Jvm.Cond.static ({ cls := "StringTableauLaw", name := "gate", desc := "(LStringTableau;III[J)I" } : Jvm.MethodName)) ∈ lw_all := lw_g (lw_at lw_m8 57 rfl) rfl
theorem q1857 : (Jvm.Cond.codeWith ({ cls := "StringTableauLaw", name := "gate", desc := "(LStringTableau;III[J)I" } : Jvm.MethodName) method_4_code (6 : Nat) (Option.some Jvm.ClassFile.FieldType.int) [((0 : Nat), (12 : Nat), (15 : Nat), (13 : Nat)), ((0 : Nat), (12 : Nat), (19 : Nat), (19 : Nat))]) ∈ lw_all := lw_g (lw_at lw_m8 58 rfl) rfl
theorem q1858 : (Jvm.Cond.classLink "StringTableauLaw" (19 : Nat) "java/lang/IllegalArgumentException") ∈ lw_all := lw_g (lw_at lw_m8 59 rfl) rfl
theorem q1859 : (Jvm.Cond.methodLink "StringTableauLaw" (15 : Nat) ({ cls := "StringTableau", name := "gate", desc := "(III)I" } : Jvm.MethodName)) ∈ lw_all := lw_g (lw_at lw_m8 60 rfl) rfl
theorem q1877 : (Jvm.Cond.methodLink "StringTableauLaw" (169 : Nat) ({ cls := "StringTableauLaw", name := "measure", desc := "(LStringTableau;IIZI[J)I" } : Jvm.MethodName)) ∈ lw_all := lw_g (lw_at lw_m8 78 rfl) rfl
theorem q1878 : (Jvm.Cond.static ({ cls := "StringTableauLaw", name := "measure", desc := "(LStringTableau;IIZI[J)I" } : Jvm.MethodName)) ∈ lw_all := lw_g (lw_at lw_m8 79 rfl) rfl
theorem q1879 : (Jvm.Cond.codeWith ({ cls := "StringTableauLaw", name := "measure", desc := "(LStringTableau;IIZI[J)I" } : Jvm.MethodName) method_5_code (7 : Nat) (Option.some Jvm.ClassFile.FieldType.int) [((0 : Nat), (14 : Nat), (17 : Nat), (19 : Nat)), ((0 : Nat), (14 : Nat), (21 : Nat), (25 : Nat))]) ∈ lw_all := lw_g (lw_at lw_m8 80 rfl) rfl
theorem q1880 : (Jvm.Cond.classLink "StringTableauLaw" (25 : Nat) "java/lang/IllegalStateException") ∈ lw_all := lw_g (lw_at lw_m8 81 rfl) rfl
theorem q1881 : (Jvm.Cond.methodLink "StringTableauLaw" (21 : Nat) ({ cls := "StringTableau", name := "measure", desc := "(IIZI)I" } : Jvm.MethodName)) ∈ lw_all := lw_g (lw_at lw_m8 82 rfl) rfl
theorem q1900 : (Jvm.Cond.methodLink "StringTableauLaw" (173 : Nat) ({ cls := "StringTableauLaw", name := "measureAll", desc := "(LStringTableau;[J)I" } : Jvm.MethodName)) ∈ lw_all := lw_g (lw_at lw_m8 101 rfl) rfl
theorem q1901 : (Jvm.Cond.static ({ cls := "StringTableauLaw", name := "measureAll", desc := "(LStringTableau;[J)I" } : Jvm.MethodName)) ∈ lw_all := lw_g (lw_at lw_m8 102 rfl) rfl
theorem q1902 : (Jvm.Cond.codeWith ({ cls := "StringTableauLaw", name := "measureAll", desc := "(LStringTableau;[J)I" } : Jvm.MethodName) method_6_code (3 : Nat) (Option.some Jvm.ClassFile.FieldType.int) [((0 : Nat), (8 : Nat), (11 : Nat), (25 : Nat))]) ∈ lw_all := lw_g (lw_at lw_m8 103 rfl) rfl
theorem q1903 : (Jvm.Cond.methodLink "StringTableauLaw" (27 : Nat) ({ cls := "StringTableau", name := "measureAll", desc := "()I" } : Jvm.MethodName)) ∈ lw_all := lw_g (lw_at lw_m8 104 rfl) rfl
theorem q1907 : (Jvm.Cond.methodLink "StringTableauLaw" (181 : Nat) ({ cls := "StringTableauLaw", name := "run", desc := "(LStringTableau;I[J)I" } : Jvm.MethodName)) ∈ lw_all := lw_g (lw_at lw_m8 108 rfl) rfl
theorem q1908 : (Jvm.Cond.static ({ cls := "StringTableauLaw", name := "run", desc := "(LStringTableau;I[J)I" } : Jvm.MethodName)) ∈ lw_all := lw_g (lw_at lw_m8 109 rfl) rfl
theorem q1909 : (Jvm.Cond.codeWith ({ cls := "StringTableauLaw", name := "run", desc := "(LStringTableau;I[J)I" } : Jvm.MethodName) method_7_code (4 : Nat) (Option.some Jvm.ClassFile.FieldType.int) [((0 : Nat), (9 : Nat), (12 : Nat), (19 : Nat))]) ∈ lw_all := lw_g (lw_at lw_m8 110 rfl) rfl
theorem q1910 : (Jvm.Cond.methodLink "StringTableauLaw" (31 : Nat) ({ cls := "StringTableau", name := "run", desc := "(I)I" } : Jvm.MethodName)) ∈ lw_all := lw_g (lw_at lw_m8 111 rfl) rfl
theorem q1914 : (Jvm.Cond.methodLink "StringTableauLaw" (189 : Nat) ({ cls := "StringTableauLaw", name := "reverse", desc := "(LStringTableau;I[J)I" } : Jvm.MethodName)) ∈ lw_all := lw_g (lw_at lw_m8 115 rfl) rfl
theorem q1915 : (Jvm.Cond.static ({ cls := "StringTableauLaw", name := "reverse", desc := "(LStringTableau;I[J)I" } : Jvm.MethodName)) ∈ lw_all := lw_g (lw_at lw_m8 116 rfl) rfl
theorem q1916 : (Jvm.Cond.codeWith ({ cls := "StringTableauLaw", name := "reverse", desc := "(LStringTableau;I[J)I" } : Jvm.MethodName) method_8_code (4 : Nat) (Option.some Jvm.ClassFile.FieldType.int) [((0 : Nat), (9 : Nat), (12 : Nat), (19 : Nat)), ((0 : Nat), (9 : Nat), (15 : Nat), (25 : Nat))]) ∈ lw_all := lw_g (lw_at lw_m8 117 rfl) rfl
theorem q1917 : (Jvm.Cond.methodLink "StringTableauLaw" (35 : Nat) ({ cls := "StringTableau", name := "reverse", desc := "(I)I" } : Jvm.MethodName)) ∈ lw_all := lw_g (lw_at lw_m8 118 rfl) rfl
theorem q1937 : (Jvm.Cond.methodLink "StringTableauLaw" (196 : Nat) ({ cls := "StringTableauLaw", name := "goBack", desc := "(LStringTableau;I[J)I" } : Jvm.MethodName)) ∈ lw_all := lw_g (lw_at lw_m8 138 rfl) rfl
theorem q1938 : (Jvm.Cond.static ({ cls := "StringTableauLaw", name := "goBack", desc := "(LStringTableau;I[J)I" } : Jvm.MethodName)) ∈ lw_all := lw_g (lw_at lw_m8 139 rfl) rfl
theorem q1939 : (Jvm.Cond.codeWith ({ cls := "StringTableauLaw", name := "goBack", desc := "(LStringTableau;I[J)I" } : Jvm.MethodName) method_9_code (4 : Nat) (Option.some Jvm.ClassFile.FieldType.int) [((0 : Nat), (9 : Nat), (12 : Nat), (13 : Nat)), ((0 : Nat), (9 : Nat), (15 : Nat), (25 : Nat))]) ∈ lw_all := lw_g (lw_at lw_m8 140 rfl) rfl
theorem q1940 : (Jvm.Cond.methodLink "StringTableauLaw" (38 : Nat) ({ cls := "StringTableau", name := "goBack", desc := "(I)I" } : Jvm.MethodName)) ∈ lw_all := lw_g (lw_at lw_m8 141 rfl) rfl
theorem q1949 : (Jvm.Cond.methodLink "StringTableauLaw" (199 : Nat) ({ cls := "StringTableauLaw", name := "undo", desc := "(LStringTableau;[J)I" } : Jvm.MethodName)) ∈ lw_all := lw_g (lw_at lw_m8 150 rfl) rfl
theorem q1950 : (Jvm.Cond.static ({ cls := "StringTableauLaw", name := "undo", desc := "(LStringTableau;[J)I" } : Jvm.MethodName)) ∈ lw_all := lw_g (lw_at lw_m8 151 rfl) rfl
theorem q1951 : (Jvm.Cond.codeWith ({ cls := "StringTableauLaw", name := "undo", desc := "(LStringTableau;[J)I" } : Jvm.MethodName) method_10_code (3 : Nat) (Option.some Jvm.ClassFile.FieldType.int) [((0 : Nat), (8 : Nat), (11 : Nat), (25 : Nat))]) ∈ lw_all := lw_g (lw_at lw_m8 152 rfl) rfl
theorem q1952 : (Jvm.Cond.methodLink "StringTableauLaw" (41 : Nat) ({ cls := "StringTableau", name := "undo", desc := "()I" } : Jvm.MethodName)) ∈ lw_all := lw_g (lw_at lw_m8 153 rfl) rfl
theorem q1960 : (Jvm.Cond.methodLink "StringTableauLaw" (202 : Nat) ({ cls := "StringTableauLaw", name := "letter", desc := "(LStringTableau;II[J)I" } : Jvm.MethodName)) ∈ lw_all := lw_g (lw_at lw_m8 161 rfl) rfl
theorem q1961 : (Jvm.Cond.static ({ cls := "StringTableauLaw", name := "letter", desc := "(LStringTableau;II[J)I" } : Jvm.MethodName)) ∈ lw_all := lw_g (lw_at lw_m8 162 rfl) rfl
theorem q1962 : (Jvm.Cond.codeWith ({ cls := "StringTableauLaw", name := "letter", desc := "(LStringTableau;II[J)I" } : Jvm.MethodName) method_11_code (5 : Nat) (Option.some Jvm.ClassFile.FieldType.int) [((0 : Nat), (10 : Nat), (13 : Nat), (13 : Nat))]) ∈ lw_all := lw_g (lw_at lw_m8 163 rfl) rfl
theorem q1963 : (Jvm.Cond.methodLink "StringTableauLaw" (44 : Nat) ({ cls := "StringTableau", name := "letter", desc := "(II)I" } : Jvm.MethodName)) ∈ lw_all := lw_g (lw_at lw_m8 164 rfl) rfl
theorem q1967 : (Jvm.Cond.methodLink "StringTableauLaw" (205 : Nat) ({ cls := "StringTableauLaw", name := "row", desc := "(LStringTableau;II[J)I" } : Jvm.MethodName)) ∈ lw_all := lw_g (lw_at lw_m8 168 rfl) rfl
theorem q1968 : (Jvm.Cond.static ({ cls := "StringTableauLaw", name := "row", desc := "(LStringTableau;II[J)I" } : Jvm.MethodName)) ∈ lw_all := lw_g (lw_at lw_m8 169 rfl) rfl
theorem q1969 : (Jvm.Cond.codeWith ({ cls := "StringTableauLaw", name := "row", desc := "(LStringTableau;II[J)I" } : Jvm.MethodName) method_12_code (5 : Nat) (Option.some Jvm.ClassFile.FieldType.int) [((0 : Nat), (10 : Nat), (13 : Nat), (13 : Nat))]) ∈ lw_all := lw_g (lw_at lw_m8 170 rfl) rfl
theorem q1970 : (Jvm.Cond.methodLink "StringTableauLaw" (47 : Nat) ({ cls := "StringTableau", name := "row", desc := "(II)I" } : Jvm.MethodName)) ∈ lw_all := lw_g (lw_at lw_m8 171 rfl) rfl
theorem q1986 : (Jvm.Cond.methodLink "StringTableauLaw" (208 : Nat) ({ cls := "StringTableauLaw", name := "canonical", desc := "(LStringTableau;II[J)I" } : Jvm.MethodName)) ∈ lw_all := lw_g (lw_at lw_m8 187 rfl) rfl
theorem q1987 : (Jvm.Cond.static ({ cls := "StringTableauLaw", name := "canonical", desc := "(LStringTableau;II[J)I" } : Jvm.MethodName)) ∈ lw_all := lw_g (lw_at lw_m8 188 rfl) rfl
theorem q1988 : (Jvm.Cond.codeWith ({ cls := "StringTableauLaw", name := "canonical", desc := "(LStringTableau;II[J)I" } : Jvm.MethodName) method_13_code (5 : Nat) (Option.some Jvm.ClassFile.FieldType.int) [((0 : Nat), (10 : Nat), (13 : Nat), (13 : Nat))]) ∈ lw_all := lw_g (lw_at lw_m8 189 rfl) rfl
theorem q1989 : (Jvm.Cond.methodLink "StringTableauLaw" (50 : Nat) ({ cls := "StringTableau", name := "canonical", desc := "(II)I" } : Jvm.MethodName)) ∈ lw_all := lw_g (lw_at lw_m8 190 rfl) rfl
theorem q1993 : (Jvm.Cond.methodLink "StringTableauLaw" (211 : Nat) ({ cls := "StringTableauLaw", name := "measured", desc := "(LStringTableau;II[J)I" } : Jvm.MethodName)) ∈ lw_all := lw_g (lw_at lw_m8 194 rfl) rfl
theorem q1994 : (Jvm.Cond.static ({ cls := "StringTableauLaw", name := "measured", desc := "(LStringTableau;II[J)I" } : Jvm.MethodName)) ∈ lw_all := lw_g (lw_at lw_m8 195 rfl) rfl
theorem q1995 : (Jvm.Cond.codeWith ({ cls := "StringTableauLaw", name := "measured", desc := "(LStringTableau;II[J)I" } : Jvm.MethodName) method_14_code (5 : Nat) (Option.some Jvm.ClassFile.FieldType.int) [((0 : Nat), (10 : Nat), (13 : Nat), (13 : Nat))]) ∈ lw_all := lw_g (lw_at lw_m8 196 rfl) rfl
theorem q1996 : (Jvm.Cond.methodLink "StringTableauLaw" (53 : Nat) ({ cls := "StringTableau", name := "measured", desc := "(II)I" } : Jvm.MethodName)) ∈ lw_all := lw_g (lw_at lw_m8 197 rfl) rfl
theorem q2000 : (Jvm.Cond.methodLink "StringTableauLaw" (214 : Nat) ({ cls := "StringTableauLaw", name := "commute", desc := "(LStringTableau;IIII[J)I" } : Jvm.MethodName)) ∈ lw_all := lw_g (lw_at lw_m8 201 rfl) rfl
theorem q2001 : (Jvm.Cond.static ({ cls := "StringTableauLaw", name := "commute", desc := "(LStringTableau;IIII[J)I" } : Jvm.MethodName)) ∈ lw_all := lw_g (lw_at lw_m8 202 rfl) rfl
theorem q2002 : (Jvm.Cond.codeWith ({ cls := "StringTableauLaw", name := "commute", desc := "(LStringTableau;IIII[J)I" } : Jvm.MethodName) method_15_code (7 : Nat) (Option.some Jvm.ClassFile.FieldType.int) [((0 : Nat), (21 : Nat), (24 : Nat), (19 : Nat))]) ∈ lw_all := lw_g (lw_at lw_m8 203 rfl) rfl
theorem q2003 : (Jvm.Cond.methodLink "StringTableauLaw" (56 : Nat) ({ cls := "StringTableau", name := "commute", desc := "(IIII)Z" } : Jvm.MethodName)) ∈ lw_all := lw_g (lw_at lw_m8 204 rfl) rfl
theorem q2008 : (Jvm.Cond.methodLink "StringTableauLaw" (218 : Nat) ({ cls := "StringTableauLaw", name := "phase", desc := "(LStringTableau;IIII[J)I" } : Jvm.MethodName)) ∈ lw_all := lw_g (lw_at lw_m8 209 rfl) rfl
theorem q2009 : (Jvm.Cond.static ({ cls := "StringTableauLaw", name := "phase", desc := "(LStringTableau;IIII[J)I" } : Jvm.MethodName)) ∈ lw_all := lw_g (lw_at lw_m8 210 rfl) rfl
theorem q2010 : (Jvm.Cond.codeWith ({ cls := "StringTableauLaw", name := "phase", desc := "(LStringTableau;IIII[J)I" } : Jvm.MethodName) method_16_code (7 : Nat) (Option.some Jvm.ClassFile.FieldType.int) [((0 : Nat), (14 : Nat), (17 : Nat), (19 : Nat))]) ∈ lw_all := lw_g (lw_at lw_m8 211 rfl) rfl
theorem q2011 : (Jvm.Cond.methodLink "StringTableauLaw" (60 : Nat) ({ cls := "StringTableau", name := "phase", desc := "(IIII)I" } : Jvm.MethodName)) ∈ lw_all := lw_g (lw_at lw_m8 212 rfl) rfl
theorem q2016 : (Jvm.Cond.methodLink "StringTableauLaw" (221 : Nat) ({ cls := "StringTableauLaw", name := "against", desc := "(LStringTableau;II[J)I" } : Jvm.MethodName)) ∈ lw_all := lw_g (lw_at lw_m8 217 rfl) rfl
theorem q2017 : (Jvm.Cond.static ({ cls := "StringTableauLaw", name := "against", desc := "(LStringTableau;II[J)I" } : Jvm.MethodName)) ∈ lw_all := lw_g (lw_at lw_m8 218 rfl) rfl
theorem q2018 : (Jvm.Cond.codeWith ({ cls := "StringTableauLaw", name := "against", desc := "(LStringTableau;II[J)I" } : Jvm.MethodName) method_17_code (5 : Nat) (Option.some Jvm.ClassFile.FieldType.int) [((0 : Nat), (10 : Nat), (13 : Nat), (19 : Nat))]) ∈ lw_all := lw_g (lw_at lw_m8 219 rfl) rfl
theorem q2019 : (Jvm.Cond.methodLink "StringTableauLaw" (64 : Nat) ({ cls := "StringTableau", name := "against", desc := "(II)I" } : Jvm.MethodName)) ∈ lw_all := lw_g (lw_at lw_m8 220 rfl) rfl
theorem q2024 : (Jvm.Cond.methodLink "StringTableauLaw" (224 : Nat) ({ cls := "StringTableauLaw", name := "expectation", desc := "(LStringTableau;II[J)I" } : Jvm.MethodName)) ∈ lw_all := lw_g (lw_at lw_m8 225 rfl) rfl
theorem q2025 : (Jvm.Cond.static ({ cls := "StringTableauLaw", name := "expectation", desc := "(LStringTableau;II[J)I" } : Jvm.MethodName)) ∈ lw_all := lw_g (lw_at lw_m8 226 rfl) rfl
theorem q2026 : (Jvm.Cond.codeWith ({ cls := "StringTableauLaw", name := "expectation", desc := "(LStringTableau;II[J)I" } : Jvm.MethodName) method_18_code (5 : Nat) (Option.some Jvm.ClassFile.FieldType.int) [((0 : Nat), (10 : Nat), (13 : Nat), (19 : Nat))]) ∈ lw_all := lw_g (lw_at lw_m8 227 rfl) rfl
theorem q2027 : (Jvm.Cond.methodLink "StringTableauLaw" (67 : Nat) ({ cls := "StringTableau", name := "expectation", desc := "(II)I" } : Jvm.MethodName)) ∈ lw_all := lw_g (lw_at lw_m8 228 rfl) rfl
theorem q2032 : (Jvm.Cond.methodLink "StringTableauLaw" (227 : Nat) ({ cls := "StringTableauLaw", name := "decompose", desc := "(LStringTableau;II[J)I" } : Jvm.MethodName)) ∈ lw_all := lw_g (lw_at lw_m8 233 rfl) rfl
theorem q2033 : (Jvm.Cond.static ({ cls := "StringTableauLaw", name := "decompose", desc := "(LStringTableau;II[J)I" } : Jvm.MethodName)) ∈ lw_all := lw_g (lw_at lw_m8 234 rfl) rfl
theorem q2034 : (Jvm.Cond.codeWith ({ cls := "StringTableauLaw", name := "decompose", desc := "(LStringTableau;II[J)I" } : Jvm.MethodName) method_19_code (5 : Nat) (Option.some Jvm.ClassFile.FieldType.int) [((0 : Nat), (10 : Nat), (13 : Nat), (19 : Nat))]) ∈ lw_all := lw_g (lw_at lw_m8 235 rfl) rfl
theorem q2035 : (Jvm.Cond.methodLink "StringTableauLaw" (70 : Nat) ({ cls := "StringTableau", name := "decompose", desc := "(II)I" } : Jvm.MethodName)) ∈ lw_all := lw_g (lw_at lw_m8 236 rfl) rfl
theorem q2040 : (Jvm.Cond.methodLink "StringTableauLaw" (230 : Nat) ({ cls := "StringTableauLaw", name := "element", desc := "(LStringTableau;II[J)I" } : Jvm.MethodName)) ∈ lw_all := lw_g (lw_at lw_m9 1 rfl) rfl
theorem q2041 : (Jvm.Cond.static ({ cls := "StringTableauLaw", name := "element", desc := "(LStringTableau;II[J)I" } : Jvm.MethodName)) ∈ lw_all := lw_g (lw_at lw_m9 2 rfl) rfl
theorem q2042 : (Jvm.Cond.codeWith ({ cls := "StringTableauLaw", name := "element", desc := "(LStringTableau;II[J)I" } : Jvm.MethodName) method_20_code (5 : Nat) (Option.some Jvm.ClassFile.FieldType.int) [((0 : Nat), (10 : Nat), (13 : Nat), (13 : Nat)), ((0 : Nat), (10 : Nat), (17 : Nat), (19 : Nat))]) ∈ lw_all := lw_g (lw_at lw_m9 3 rfl) rfl
theorem q2043 : (Jvm.Cond.methodLink "StringTableauLaw" (73 : Nat) ({ cls := "StringTableau", name := "element", desc := "(II)I" } : Jvm.MethodName)) ∈ lw_all := lw_g (lw_at lw_m9 4 rfl) rfl
theorem q2048 : (Jvm.Cond.methodLink "StringTableauLaw" (237 : Nat) ({ cls := "StringTableauLaw", name := "lightest", desc := "(LStringTableau;I[J)I" } : Jvm.MethodName)) ∈ lw_all := lw_g (lw_at lw_m9 9 rfl) rfl
theorem q2049 : (Jvm.Cond.static ({ cls := "StringTableauLaw", name := "lightest", desc := "(LStringTableau;I[J)I" } : Jvm.MethodName)) ∈ lw_all := lw_g (lw_at lw_m9 10 rfl) rfl
theorem q2050 : (Jvm.Cond.codeWith ({ cls := "StringTableauLaw", name := "lightest", desc := "(LStringTableau;I[J)I" } : Jvm.MethodName) method_21_code (4 : Nat) (Option.some Jvm.ClassFile.FieldType.int) [((0 : Nat), (9 : Nat), (12 : Nat), (13 : Nat))]) ∈ lw_all := lw_g (lw_at lw_m9 11 rfl) rfl
theorem q2051 : (Jvm.Cond.methodLink "StringTableauLaw" (76 : Nat) ({ cls := "StringTableau", name := "lightest", desc := "(I)I" } : Jvm.MethodName)) ∈ lw_all := lw_g (lw_at lw_m9 12 rfl) rfl
theorem q2058 : (Jvm.Cond.methodLink "StringTableauLaw" (240 : Nat) ({ cls := "StringTableauLaw", name := "pushed", desc := "(LStringTableau;IIIII[J)I" } : Jvm.MethodName)) ∈ lw_all := lw_g (lw_at lw_m9 19 rfl) rfl
theorem q2059 : (Jvm.Cond.static ({ cls := "StringTableauLaw", name := "pushed", desc := "(LStringTableau;IIIII[J)I" } : Jvm.MethodName)) ∈ lw_all := lw_g (lw_at lw_m9 20 rfl) rfl
theorem q2060 : (Jvm.Cond.codeWith ({ cls := "StringTableauLaw", name := "pushed", desc := "(LStringTableau;IIIII[J)I" } : Jvm.MethodName) method_22_code (8 : Nat) (Option.some Jvm.ClassFile.FieldType.int) [((0 : Nat), (16 : Nat), (19 : Nat), (13 : Nat)), ((0 : Nat), (16 : Nat), (23 : Nat), (19 : Nat)), ((0 : Nat), (16 : Nat), (27 : Nat), (25 : Nat))]) ∈ lw_all := lw_g (lw_at lw_m9 21 rfl) rfl
theorem q2061 : (Jvm.Cond.methodLink "StringTableauLaw" (79 : Nat) ({ cls := "StringTableau", name := "pushed", desc := "(IIIII)I" } : Jvm.MethodName)) ∈ lw_all := lw_g (lw_at lw_m9 22 rfl) rfl
theorem q2082 : (Jvm.Cond.methodLink "StringTableauLaw" (244 : Nat) ({ cls := "StringTableauLaw", name := "pulled", desc := "(LStringTableau;IIIII[J)I" } : Jvm.MethodName)) ∈ lw_all := lw_g (lw_at lw_m9 43 rfl) rfl
theorem q2083 : (Jvm.Cond.static ({ cls := "StringTableauLaw", name := "pulled", desc := "(LStringTableau;IIIII[J)I" } : Jvm.MethodName)) ∈ lw_all := lw_g (lw_at lw_m9 44 rfl) rfl
theorem q2084 : (Jvm.Cond.codeWith ({ cls := "StringTableauLaw", name := "pulled", desc := "(LStringTableau;IIIII[J)I" } : Jvm.MethodName) method_23_code (8 : Nat) (Option.some Jvm.ClassFile.FieldType.int) [((0 : Nat), (16 : Nat), (19 : Nat), (13 : Nat)), ((0 : Nat), (16 : Nat), (23 : Nat), (19 : Nat)), ((0 : Nat), (16 : Nat), (27 : Nat), (25 : Nat))]) ∈ lw_all := lw_g (lw_at lw_m9 45 rfl) rfl
theorem q2085 : (Jvm.Cond.methodLink "StringTableauLaw" (83 : Nat) ({ cls := "StringTableau", name := "pulled", desc := "(IIIII)I" } : Jvm.MethodName)) ∈ lw_all := lw_g (lw_at lw_m9 46 rfl) rfl
theorem q2089 : (Jvm.Cond.methodLink "StringTableauLaw" (247 : Nat) ({ cls := "StringTableauLaw", name := "partner", desc := "(LStringTableau;II[J)I" } : Jvm.MethodName)) ∈ lw_all := lw_g (lw_at lw_m9 50 rfl) rfl
theorem q2090 : (Jvm.Cond.static ({ cls := "StringTableauLaw", name := "partner", desc := "(LStringTableau;II[J)I" } : Jvm.MethodName)) ∈ lw_all := lw_g (lw_at lw_m9 51 rfl) rfl
theorem q2091 : (Jvm.Cond.codeWith ({ cls := "StringTableauLaw", name := "partner", desc := "(LStringTableau;II[J)I" } : Jvm.MethodName) method_24_code (5 : Nat) (Option.some Jvm.ClassFile.FieldType.int) [((0 : Nat), (10 : Nat), (13 : Nat), (13 : Nat))]) ∈ lw_all := lw_g (lw_at lw_m9 52 rfl) rfl
theorem q2092 : (Jvm.Cond.methodLink "StringTableauLaw" (86 : Nat) ({ cls := "StringTableau", name := "partner", desc := "(II)I" } : Jvm.MethodName)) ∈ lw_all := lw_g (lw_at lw_m9 53 rfl) rfl
theorem q2096 : (Jvm.Cond.methodLink "StringTableauLaw" (250 : Nat) ({ cls := "StringTableauLaw", name := "entropy", desc := "(LStringTableau;I[J)I" } : Jvm.MethodName)) ∈ lw_all := lw_g (lw_at lw_m9 57 rfl) rfl
theorem q2097 : (Jvm.Cond.static ({ cls := "StringTableauLaw", name := "entropy", desc := "(LStringTableau;I[J)I" } : Jvm.MethodName)) ∈ lw_all := lw_g (lw_at lw_m9 58 rfl) rfl
theorem q2098 : (Jvm.Cond.codeWith ({ cls := "StringTableauLaw", name := "entropy", desc := "(LStringTableau;I[J)I" } : Jvm.MethodName) method_25_code (4 : Nat) (Option.some Jvm.ClassFile.FieldType.int) [((0 : Nat), (9 : Nat), (12 : Nat), (19 : Nat))]) ∈ lw_all := lw_g (lw_at lw_m9 59 rfl) rfl
theorem q2099 : (Jvm.Cond.methodLink "StringTableauLaw" (89 : Nat) ({ cls := "StringTableau", name := "entropy", desc := "(I)I" } : Jvm.MethodName)) ∈ lw_all := lw_g (lw_at lw_m9 60 rfl) rfl
theorem q2103 : (Jvm.Cond.methodLink "StringTableauLaw" (257 : Nat) ({ cls := "StringTableauLaw", name := "block", desc := "(LStringTableau;I[J)I" } : Jvm.MethodName)) ∈ lw_all := lw_g (lw_at lw_m9 64 rfl) rfl
theorem q2104 : (Jvm.Cond.static ({ cls := "StringTableauLaw", name := "block", desc := "(LStringTableau;I[J)I" } : Jvm.MethodName)) ∈ lw_all := lw_g (lw_at lw_m9 65 rfl) rfl
theorem q2105 : (Jvm.Cond.codeWith ({ cls := "StringTableauLaw", name := "block", desc := "(LStringTableau;I[J)I" } : Jvm.MethodName) method_26_code (4 : Nat) (Option.some Jvm.ClassFile.FieldType.int) [((0 : Nat), (9 : Nat), (12 : Nat), (13 : Nat))]) ∈ lw_all := lw_g (lw_at lw_m9 66 rfl) rfl
theorem q2106 : (Jvm.Cond.methodLink "StringTableauLaw" (92 : Nat) ({ cls := "StringTableau", name := "block", desc := "(I)I" } : Jvm.MethodName)) ∈ lw_all := lw_g (lw_at lw_m9 67 rfl) rfl
theorem q2110 : (Jvm.Cond.methodLink "StringTableauLaw" (260 : Nat) ({ cls := "StringTableauLaw", name := "shared", desc := "(LStringTableau;II[J)I" } : Jvm.MethodName)) ∈ lw_all := lw_g (lw_at lw_m9 71 rfl) rfl
theorem q2111 : (Jvm.Cond.static ({ cls := "StringTableauLaw", name := "shared", desc := "(LStringTableau;II[J)I" } : Jvm.MethodName)) ∈ lw_all := lw_g (lw_at lw_m9 72 rfl) rfl
theorem q2112 : (Jvm.Cond.codeWith ({ cls := "StringTableauLaw", name := "shared", desc := "(LStringTableau;II[J)I" } : Jvm.MethodName) method_27_code (5 : Nat) (Option.some Jvm.ClassFile.FieldType.int) [((0 : Nat), (10 : Nat), (13 : Nat), (19 : Nat))]) ∈ lw_all := lw_g (lw_at lw_m9 73 rfl) rfl
theorem q2113 : (Jvm.Cond.methodLink "StringTableauLaw" (95 : Nat) ({ cls := "StringTableau", name := "shared", desc := "(II)I" } : Jvm.MethodName)) ∈ lw_all := lw_g (lw_at lw_m9 74 rfl) rfl
theorem q2117 : (Jvm.Cond.methodLink "StringTableauLaw" (263 : Nat) ({ cls := "StringTableauLaw", name := "closestPair", desc := "(LStringTableau;[J)I" } : Jvm.MethodName)) ∈ lw_all := lw_g (lw_at lw_m9 78 rfl) rfl
theorem q2118 : (Jvm.Cond.static ({ cls := "StringTableauLaw", name := "closestPair", desc := "(LStringTableau;[J)I" } : Jvm.MethodName)) ∈ lw_all := lw_g (lw_at lw_m9 79 rfl) rfl
theorem q2119 : (Jvm.Cond.codeWith ({ cls := "StringTableauLaw", name := "closestPair", desc := "(LStringTableau;[J)I" } : Jvm.MethodName) method_28_code (3 : Nat) (Option.some Jvm.ClassFile.FieldType.int) [((0 : Nat), (8 : Nat), (11 : Nat), (25 : Nat))]) ∈ lw_all := lw_g (lw_at lw_m9 80 rfl) rfl
theorem q2120 : (Jvm.Cond.methodLink "StringTableauLaw" (98 : Nat) ({ cls := "StringTableau", name := "closestPair", desc := "()I" } : Jvm.MethodName)) ∈ lw_all := lw_g (lw_at lw_m9 81 rfl) rfl
theorem q2124 : (Jvm.Cond.methodLink "StringTableauLaw" (266 : Nat) ({ cls := "StringTableauLaw", name := "mostEntangled", desc := "(LStringTableau;I[J)I" } : Jvm.MethodName)) ∈ lw_all := lw_g (lw_at lw_m9 85 rfl) rfl
theorem q2125 : (Jvm.Cond.static ({ cls := "StringTableauLaw", name := "mostEntangled", desc := "(LStringTableau;I[J)I" } : Jvm.MethodName)) ∈ lw_all := lw_g (lw_at lw_m9 86 rfl) rfl
theorem q2126 : (Jvm.Cond.codeWith ({ cls := "StringTableauLaw", name := "mostEntangled", desc := "(LStringTableau;I[J)I" } : Jvm.MethodName) method_29_code (4 : Nat) (Option.some Jvm.ClassFile.FieldType.int) [((0 : Nat), (9 : Nat), (12 : Nat), (19 : Nat))]) ∈ lw_all := lw_g (lw_at lw_m9 87 rfl) rfl
theorem q2127 : (Jvm.Cond.methodLink "StringTableauLaw" (101 : Nat) ({ cls := "StringTableau", name := "mostEntangled", desc := "(I)I" } : Jvm.MethodName)) ∈ lw_all := lw_g (lw_at lw_m9 88 rfl) rfl
theorem q2131 : (Jvm.Cond.methodLink "StringTableauLaw" (273 : Nat) ({ cls := "StringTableauLaw", name := "probability", desc := "(LStringTableau;I[D)I" } : Jvm.MethodName)) ∈ lw_all := lw_g (lw_at lw_m9 92 rfl) rfl
theorem q2132 : (Jvm.Cond.static ({ cls := "StringTableauLaw", name := "probability", desc := "(LStringTableau;I[D)I" } : Jvm.MethodName)) ∈ lw_all := lw_g (lw_at lw_m9 93 rfl) rfl
theorem q2133 : (Jvm.Cond.codeWith ({ cls := "StringTableauLaw", name := "probability", desc := "(LStringTableau;I[D)I" } : Jvm.MethodName) method_30_code (4 : Nat) (Option.some Jvm.ClassFile.FieldType.int) [((0 : Nat), (8 : Nat), (11 : Nat), (19 : Nat))]) ∈ lw_all := lw_g (lw_at lw_m9 94 rfl) rfl
theorem q2134 : (Jvm.Cond.methodLink "StringTableauLaw" (104 : Nat) ({ cls := "StringTableau", name := "probability", desc := "(I)D" } : Jvm.MethodName)) ∈ lw_all := lw_g (lw_at lw_m9 95 rfl) rfl
theorem q2139 : (Jvm.Cond.methodLink "StringTableauLaw" (281 : Nat) ({ cls := "StringTableauLaw", name := "keep", desc := "(LStringTableau;I[J)I" } : Jvm.MethodName)) ∈ lw_all := lw_g (lw_at lw_m9 100 rfl) rfl
theorem q2140 : (Jvm.Cond.static ({ cls := "StringTableauLaw", name := "keep", desc := "(LStringTableau;I[J)I" } : Jvm.MethodName)) ∈ lw_all := lw_g (lw_at lw_m9 101 rfl) rfl
theorem q2141 : (Jvm.Cond.codeWith ({ cls := "StringTableauLaw", name := "keep", desc := "(LStringTableau;I[J)I" } : Jvm.MethodName) method_31_code (4 : Nat) (Option.some Jvm.ClassFile.FieldType.int) [((0 : Nat), (16 : Nat), (19 : Nat), (13 : Nat))]) ∈ lw_all := lw_g (lw_at lw_m9 102 rfl) rfl
theorem q2142 : (Jvm.Cond.methodLink "StringTableauLaw" (108 : Nat) ({ cls := "StringTableau", name := "keep", desc := "(I)Z" } : Jvm.MethodName)) ∈ lw_all := lw_g (lw_at lw_m9 103 rfl) rfl
theorem q2146 : (Jvm.Cond.methodLink "StringTableauLaw" (284 : Nat) ({ cls := "StringTableauLaw", name := "isSame", desc := "(LStringTableau;I[J)I" } : Jvm.MethodName)) ∈ lw_all := lw_g (lw_at lw_m9 107 rfl) rfl
theorem q2147 : (Jvm.Cond.static ({ cls := "StringTableauLaw", name := "isSame", desc := "(LStringTableau;I[J)I" } : Jvm.MethodName)) ∈ lw_all := lw_g (lw_at lw_m9 108 rfl) rfl
theorem q2148 : (Jvm.Cond.codeWith ({ cls := "StringTableauLaw", name := "isSame", desc := "(LStringTableau;I[J)I" } : Jvm.MethodName) method_32_code (4 : Nat) (Option.some Jvm.ClassFile.FieldType.int) [((0 : Nat), (16 : Nat), (19 : Nat), (13 : Nat)), ((0 : Nat), (16 : Nat), (22 : Nat), (25 : Nat))]) ∈ lw_all := lw_g (lw_at lw_m9 109 rfl) rfl
theorem q2149 : (Jvm.Cond.methodLink "StringTableauLaw" (112 : Nat) ({ cls := "StringTableau", name := "isSame", desc := "(I)Z" } : Jvm.MethodName)) ∈ lw_all := lw_g (lw_at lw_m9 110 rfl) rfl
theorem q2757 : (Jvm.Cond.methodLink "StringTableauLaw" (287 : Nat) ({ cls := "StringTableauLaw", name := "overlap", desc := "(LStringTableau;I[J)I" } : Jvm.MethodName)) ∈ lw_all := lw_g (lw_at lw_m11 238 rfl) rfl
theorem q2758 : (Jvm.Cond.static ({ cls := "StringTableauLaw", name := "overlap", desc := "(LStringTableau;I[J)I" } : Jvm.MethodName)) ∈ lw_all := lw_g (lw_at lw_m11 239 rfl) rfl
theorem q2759 : (Jvm.Cond.codeWith ({ cls := "StringTableauLaw", name := "overlap", desc := "(LStringTableau;I[J)I" } : Jvm.MethodName) method_33_code (4 : Nat) (Option.some Jvm.ClassFile.FieldType.int) [((0 : Nat), (9 : Nat), (12 : Nat), (13 : Nat)), ((0 : Nat), (9 : Nat), (15 : Nat), (25 : Nat))]) ∈ lw_all := lw_g (lw_at lw_m12 0 rfl) rfl
theorem q2760 : (Jvm.Cond.methodLink "StringTableauLaw" (115 : Nat) ({ cls := "StringTableau", name := "overlap", desc := "(I)I" } : Jvm.MethodName)) ∈ lw_all := lw_g (lw_at lw_m12 1 rfl) rfl
theorem q2765 : (Jvm.Cond.methodLink "StringTableauLaw" (290 : Nat) ({ cls := "StringTableauLaw", name := "agreeing", desc := "(LStringTableau;I[J)I" } : Jvm.MethodName)) ∈ lw_all := lw_g (lw_at lw_m12 6 rfl) rfl
theorem q2766 : (Jvm.Cond.static ({ cls := "StringTableauLaw", name := "agreeing", desc := "(LStringTableau;I[J)I" } : Jvm.MethodName)) ∈ lw_all := lw_g (lw_at lw_m12 7 rfl) rfl
theorem q2767 : (Jvm.Cond.codeWith ({ cls := "StringTableauLaw", name := "agreeing", desc := "(LStringTableau;I[J)I" } : Jvm.MethodName) method_34_code (4 : Nat) (Option.some Jvm.ClassFile.FieldType.int) [((0 : Nat), (9 : Nat), (12 : Nat), (13 : Nat)), ((0 : Nat), (9 : Nat), (15 : Nat), (25 : Nat))]) ∈ lw_all := lw_g (lw_at lw_m12 8 rfl) rfl
theorem q2768 : (Jvm.Cond.methodLink "StringTableauLaw" (118 : Nat) ({ cls := "StringTableau", name := "agreeing", desc := "(I)I" } : Jvm.MethodName)) ∈ lw_all := lw_g (lw_at lw_m12 9 rfl) rfl
theorem q2772 : (Jvm.Cond.methodLink "StringTableauLaw" (293 : Nat) ({ cls := "StringTableauLaw", name := "outsiders", desc := "(LStringTableau;I[J)I" } : Jvm.MethodName)) ∈ lw_all := lw_g (lw_at lw_m12 13 rfl) rfl
theorem q2773 : (Jvm.Cond.static ({ cls := "StringTableauLaw", name := "outsiders", desc := "(LStringTableau;I[J)I" } : Jvm.MethodName)) ∈ lw_all := lw_g (lw_at lw_m12 14 rfl) rfl
theorem q2774 : (Jvm.Cond.codeWith ({ cls := "StringTableauLaw", name := "outsiders", desc := "(LStringTableau;I[J)I" } : Jvm.MethodName) method_35_code (4 : Nat) (Option.some Jvm.ClassFile.FieldType.int) [((0 : Nat), (9 : Nat), (12 : Nat), (13 : Nat)), ((0 : Nat), (9 : Nat), (15 : Nat), (25 : Nat))]) ∈ lw_all := lw_g (lw_at lw_m12 15 rfl) rfl
theorem q2775 : (Jvm.Cond.methodLink "StringTableauLaw" (121 : Nat) ({ cls := "StringTableau", name := "outsiders", desc := "(I)I" } : Jvm.MethodName)) ∈ lw_all := lw_g (lw_at lw_m12 16 rfl) rfl
theorem q2832 : (Jvm.Cond.methodLink "StringTableauLaw" (296 : Nat) ({ cls := "StringTableauLaw", name := "innerSquare", desc := "(LStringTableau;I[D)I" } : Jvm.MethodName)) ∈ lw_all := lw_g (lw_at lw_m12 73 rfl) rfl
theorem q2833 : (Jvm.Cond.static ({ cls := "StringTableauLaw", name := "innerSquare", desc := "(LStringTableau;I[D)I" } : Jvm.MethodName)) ∈ lw_all := lw_g (lw_at lw_m12 74 rfl) rfl
theorem q2834 : (Jvm.Cond.codeWith ({ cls := "StringTableauLaw", name := "innerSquare", desc := "(LStringTableau;I[D)I" } : Jvm.MethodName) method_36_code (4 : Nat) (Option.some Jvm.ClassFile.FieldType.int) [((0 : Nat), (9 : Nat), (12 : Nat), (13 : Nat)), ((0 : Nat), (9 : Nat), (15 : Nat), (25 : Nat))]) ∈ lw_all := lw_g (lw_at lw_m12 75 rfl) rfl
theorem q2835 : (Jvm.Cond.methodLink "StringTableauLaw" (124 : Nat) ({ cls := "StringTableau", name := "innerSquare", desc := "(I)F" } : Jvm.MethodName)) ∈ lw_all := lw_g (lw_at lw_m12 76 rfl) rfl
theorem q2840 : (Jvm.Cond.classLink "StringTableauLaw" (129 : Nat) "StringTableauModel") ∈ lw_all := lw_g (lw_at lw_m12 81 rfl) rfl
theorem q2842 : (Jvm.Cond.methodLink "StringTableauLaw" (131 : Nat) ({ cls := "StringTableauModel", name := "<init>", desc := "()V" } : Jvm.MethodName)) ∈ lw_all := lw_g (lw_at lw_m12 83 rfl) rfl
theorem q2978 : (Jvm.Cond.methodLink "StringTableauLaw" (162 : Nat) ({ cls := "StringTableauModel", name := "thrown", desc := "()I" } : Jvm.MethodName)) ∈ lw_all := lw_g (lw_at lw_m12 219 rfl) rfl
theorem q2982 : (Jvm.Cond.methodLink "StringTableauLaw" (201 : Nat) ({ cls := "StringTableauModel", name := "undo", desc := "()I" } : Jvm.MethodName)) ∈ lw_all := lw_g (lw_at lw_m12 223 rfl) rfl
theorem q2990 : (Jvm.Cond.methodLink "StringTableauLaw" (168 : Nat) ({ cls := "StringTableauModel", name := "gate", desc := "(III)I" } : Jvm.MethodName)) ∈ lw_all := lw_g (lw_at lw_m12 231 rfl) rfl
theorem q3060 : (Jvm.Cond.methodLink "StringTableauLaw" (191 : Nat) ({ cls := "StringTableauModel", name := "reverse", desc := "(I)I" } : Jvm.MethodName)) ∈ lw_all := lw_g (lw_at lw_m13 61 rfl) rfl
theorem q3065 : (Jvm.Cond.methodLink "StringTableauLaw" (172 : Nat) ({ cls := "StringTableauModel", name := "measure", desc := "(IIZI)I" } : Jvm.MethodName)) ∈ lw_all := lw_g (lw_at lw_m13 66 rfl) rfl
theorem q3127 : (Jvm.Cond.methodLink "StringTableauLaw" (176 : Nat) ({ cls := "StringTableauModel", name := "measureAll", desc := "()I" } : Jvm.MethodName)) ∈ lw_all := lw_g (lw_at lw_m13 128 rfl) rfl
theorem q3131 : (Jvm.Cond.methodLink "StringTableauLaw" (180 : Nat) ({ cls := "StringTableauModel", name := "step", desc := "()I" } : Jvm.MethodName)) ∈ lw_all := lw_g (lw_at lw_m13 132 rfl) rfl
theorem q3139 : (Jvm.Cond.methodLink "StringTableauLaw" (184 : Nat) ({ cls := "StringTableauModel", name := "run", desc := "(I)I" } : Jvm.MethodName)) ∈ lw_all := lw_g (lw_at lw_m13 140 rfl) rfl
theorem q3148 : (Jvm.Cond.methodLink "StringTableauLaw" (188 : Nat) ({ cls := "StringTableauModel", name := "runnable", desc := "()I" } : Jvm.MethodName)) ∈ lw_all := lw_g (lw_at lw_m13 149 rfl) rfl
theorem q3152 : (Jvm.Cond.methodLink "StringTableauLaw" (155 : Nat) ({ cls := "StringTableauModel", name := "count", desc := "(I)I" } : Jvm.MethodName)) ∈ lw_all := lw_g (lw_at lw_m13 153 rfl) rfl
theorem q3160 : (Jvm.Cond.methodLink "StringTableauLaw" (161 : Nat) ({ cls := "StringTableauModel", name := "operation", desc := "(II)I" } : Jvm.MethodName)) ∈ lw_all := lw_g (lw_at lw_m13 161 rfl) rfl
theorem q3165 : (Jvm.Cond.methodLink "StringTableauLaw" (135 : Nat) ({ cls := "StringTableauModel", name := "feed", desc := "(IIIII)I" } : Jvm.MethodName)) ∈ lw_all := lw_g (lw_at lw_m13 166 rfl) rfl
theorem q3169 : (Jvm.Cond.methodLink "StringTableauLaw" (139 : Nat) ({ cls := "StringTableauModel", name := "truncate", desc := "(I)Z" } : Jvm.MethodName)) ∈ lw_all := lw_g (lw_at lw_m13 170 rfl) rfl
theorem q3173 : (Jvm.Cond.methodLink "StringTableauLaw" (143 : Nat) ({ cls := "StringTableauModel", name := "parse", desc := "()I" } : Jvm.MethodName)) ∈ lw_all := lw_g (lw_at lw_m13 174 rfl) rfl
theorem q3260 : (Jvm.Cond.methodLink "StringTableauLaw" (147 : Nat) ({ cls := "StringTableauModel", name := "errorCode", desc := "()I" } : Jvm.MethodName)) ∈ lw_all := lw_g (lw_at lw_m14 21 rfl) rfl
theorem q3264 : (Jvm.Cond.methodLink "StringTableauLaw" (151 : Nat) ({ cls := "StringTableauModel", name := "errorOffset", desc := "()I" } : Jvm.MethodName)) ∈ lw_all := lw_g (lw_at lw_m14 25 rfl) rfl
theorem q3268 : (Jvm.Cond.methodLink "StringTableauLaw" (195 : Nat) ({ cls := "StringTableauModel", name := "makeCanonical", desc := "()I" } : Jvm.MethodName)) ∈ lw_all := lw_g (lw_at lw_m14 29 rfl) rfl
theorem q3284 : (Jvm.Cond.methodLink "StringTableauLaw" (210 : Nat) ({ cls := "StringTableauModel", name := "canonical", desc := "(II)I" } : Jvm.MethodName)) ∈ lw_all := lw_g (lw_at lw_m14 45 rfl) rfl
theorem q3297 : (Jvm.Cond.methodLink "StringTableauLaw" (204 : Nat) ({ cls := "StringTableauModel", name := "letter", desc := "(II)I" } : Jvm.MethodName)) ∈ lw_all := lw_g (lw_at lw_m14 58 rfl) rfl
theorem q3301 : (Jvm.Cond.methodLink "StringTableauLaw" (207 : Nat) ({ cls := "StringTableauModel", name := "row", desc := "(II)I" } : Jvm.MethodName)) ∈ lw_all := lw_g (lw_at lw_m14 62 rfl) rfl
theorem q3305 : (Jvm.Cond.methodLink "StringTableauLaw" (213 : Nat) ({ cls := "StringTableauModel", name := "measured", desc := "(II)I" } : Jvm.MethodName)) ∈ lw_all := lw_g (lw_at lw_m14 66 rfl) rfl
theorem q3309 : (Jvm.Cond.methodLink "StringTableauLaw" (217 : Nat) ({ cls := "StringTableauModel", name := "commute", desc := "(IIII)Z" } : Jvm.MethodName)) ∈ lw_all := lw_g (lw_at lw_m14 70 rfl) rfl
theorem q3313 : (Jvm.Cond.methodLink "StringTableauLaw" (220 : Nat) ({ cls := "StringTableauModel", name := "phase", desc := "(IIII)I" } : Jvm.MethodName)) ∈ lw_all := lw_g (lw_at lw_m14 74 rfl) rfl
theorem q3317 : (Jvm.Cond.methodLink "StringTableauLaw" (223 : Nat) ({ cls := "StringTableauModel", name := "against", desc := "(II)I" } : Jvm.MethodName)) ∈ lw_all := lw_g (lw_at lw_m14 78 rfl) rfl
theorem q3321 : (Jvm.Cond.methodLink "StringTableauLaw" (226 : Nat) ({ cls := "StringTableauModel", name := "expectation", desc := "(II)I" } : Jvm.MethodName)) ∈ lw_all := lw_g (lw_at lw_m14 82 rfl) rfl
theorem q3325 : (Jvm.Cond.methodLink "StringTableauLaw" (229 : Nat) ({ cls := "StringTableauModel", name := "decompose", desc := "(II)I" } : Jvm.MethodName)) ∈ lw_all := lw_g (lw_at lw_m14 86 rfl) rfl
theorem q3329 : (Jvm.Cond.methodLink "StringTableauLaw" (232 : Nat) ({ cls := "StringTableauModel", name := "element", desc := "(II)I" } : Jvm.MethodName)) ∈ lw_all := lw_g (lw_at lw_m14 90 rfl) rfl
theorem q3341 : (Jvm.Cond.methodLink "StringTableauLaw" (236 : Nat) ({ cls := "StringTableauModel", name := "weights", desc := "(I)I" } : Jvm.MethodName)) ∈ lw_all := lw_g (lw_at lw_m14 102 rfl) rfl
theorem q3352 : (Jvm.Cond.methodLink "StringTableauLaw" (239 : Nat) ({ cls := "StringTableauModel", name := "lightest", desc := "(I)I" } : Jvm.MethodName)) ∈ lw_all := lw_g (lw_at lw_m14 113 rfl) rfl
theorem q3357 : (Jvm.Cond.methodLink "StringTableauLaw" (243 : Nat) ({ cls := "StringTableauModel", name := "pushed", desc := "(IIIII)I" } : Jvm.MethodName)) ∈ lw_all := lw_g (lw_at lw_m14 118 rfl) rfl
theorem q3373 : (Jvm.Cond.methodLink "StringTableauLaw" (246 : Nat) ({ cls := "StringTableauModel", name := "pulled", desc := "(IIIII)I" } : Jvm.MethodName)) ∈ lw_all := lw_g (lw_at lw_m14 134 rfl) rfl
theorem q3381 : (Jvm.Cond.methodLink "StringTableauLaw" (249 : Nat) ({ cls := "StringTableauModel", name := "partner", desc := "(II)I" } : Jvm.MethodName)) ∈ lw_all := lw_g (lw_at lw_m14 142 rfl) rfl
theorem q3385 : (Jvm.Cond.methodLink "StringTableauLaw" (252 : Nat) ({ cls := "StringTableauModel", name := "entropy", desc := "(I)I" } : Jvm.MethodName)) ∈ lw_all := lw_g (lw_at lw_m14 146 rfl) rfl
theorem q3400 : (Jvm.Cond.methodLink "StringTableauLaw" (256 : Nat) ({ cls := "StringTableauModel", name := "freeQubits", desc := "()I" } : Jvm.MethodName)) ∈ lw_all := lw_g (lw_at lw_m14 161 rfl) rfl
theorem q3404 : (Jvm.Cond.methodLink "StringTableauLaw" (259 : Nat) ({ cls := "StringTableauModel", name := "block", desc := "(I)I" } : Jvm.MethodName)) ∈ lw_all := lw_g (lw_at lw_m14 165 rfl) rfl
theorem q3408 : (Jvm.Cond.methodLink "StringTableauLaw" (262 : Nat) ({ cls := "StringTableauModel", name := "shared", desc := "(II)I" } : Jvm.MethodName)) ∈ lw_all := lw_g (lw_at lw_m14 169 rfl) rfl
theorem q3412 : (Jvm.Cond.methodLink "StringTableauLaw" (268 : Nat) ({ cls := "StringTableauModel", name := "mostEntangled", desc := "(I)I" } : Jvm.MethodName)) ∈ lw_all := lw_g (lw_at lw_m14 173 rfl) rfl
theorem q3416 : (Jvm.Cond.methodLink "StringTableauLaw" (265 : Nat) ({ cls := "StringTableauModel", name := "closestPair", desc := "()I" } : Jvm.MethodName)) ∈ lw_all := lw_g (lw_at lw_m14 177 rfl) rfl
theorem q3420 : (Jvm.Cond.methodLink "StringTableauLaw" (272 : Nat) ({ cls := "StringTableauModel", name := "spread", desc := "()I" } : Jvm.MethodName)) ∈ lw_all := lw_g (lw_at lw_m14 181 rfl) rfl
theorem q3428 : (Jvm.Cond.methodLink "StringTableauLaw" (276 : Nat) ({ cls := "StringTableauModel", name := "probability", desc := "(I)D" } : Jvm.MethodName)) ∈ lw_all := lw_g (lw_at lw_m14 189 rfl) rfl
theorem q3436 : (Jvm.Cond.methodLink "StringTableauLaw" (280 : Nat) ({ cls := "StringTableauModel", name := "possible", desc := "(I)I" } : Jvm.MethodName)) ∈ lw_all := lw_g (lw_at lw_m14 197 rfl) rfl
theorem q3440 : (Jvm.Cond.methodLink "StringTableauLaw" (283 : Nat) ({ cls := "StringTableauModel", name := "keep", desc := "(I)Z" } : Jvm.MethodName)) ∈ lw_all := lw_g (lw_at lw_m14 201 rfl) rfl
theorem q3448 : (Jvm.Cond.methodLink "StringTableauLaw" (198 : Nat) ({ cls := "StringTableauModel", name := "goBack", desc := "(I)I" } : Jvm.MethodName)) ∈ lw_all := lw_g (lw_at lw_m14 209 rfl) rfl
theorem q3460 : (Jvm.Cond.methodLink "StringTableauLaw" (286 : Nat) ({ cls := "StringTableauModel", name := "isSame", desc := "(I)Z" } : Jvm.MethodName)) ∈ lw_all := lw_g (lw_at lw_m14 221 rfl) rfl
theorem q3468 : (Jvm.Cond.methodLink "StringTableauLaw" (289 : Nat) ({ cls := "StringTableauModel", name := "overlap", desc := "(I)I" } : Jvm.MethodName)) ∈ lw_all := lw_g (lw_at lw_m14 229 rfl) rfl
theorem q3476 : (Jvm.Cond.methodLink "StringTableauLaw" (292 : Nat) ({ cls := "StringTableauModel", name := "agreeing", desc := "(I)I" } : Jvm.MethodName)) ∈ lw_all := lw_g (lw_at lw_m14 237 rfl) rfl
theorem q3480 : (Jvm.Cond.methodLink "StringTableauLaw" (295 : Nat) ({ cls := "StringTableauModel", name := "outsiders", desc := "(I)I" } : Jvm.MethodName)) ∈ lw_all := lw_g (lw_at lw_m15 1 rfl) rfl
theorem q3484 : (Jvm.Cond.methodLink "StringTableauLaw" (298 : Nat) ({ cls := "StringTableauModel", name := "innerSquare", desc := "(I)F" } : Jvm.MethodName)) ∈ lw_all := lw_g (lw_at lw_m15 5 rfl) rfl
theorem q3488 : (Jvm.Cond.methodLink "StringTableauLaw" (303 : Nat) ({ cls := "StringTableauModel", name := "print", desc := "(Z)I" } : Jvm.MethodName)) ∈ lw_all := lw_g (lw_at lw_m15 9 rfl) rfl
theorem q3501 : (Jvm.Cond.methodLink "StringTableauLaw" (307 : Nat) ({ cls := "StringTableauModel", name := "printProgram", desc := "()I" } : Jvm.MethodName)) ∈ lw_all := lw_g (lw_at lw_m15 22 rfl) rfl
theorem q3517 : (Jvm.Cond.methodLink "StringTableauLaw" (311 : Nat) ({ cls := "StringTableauModel", name := "outputByte", desc := "(I)I" } : Jvm.MethodName)) ∈ lw_all := lw_g (lw_at lw_m15 38 rfl) rfl
