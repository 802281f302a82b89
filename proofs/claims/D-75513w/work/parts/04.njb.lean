/-! java/util/HashMap -/
set_option maxRecDepth 100000
def RJ26 : String := "java/util/HashMap"
def TJ26 : u_T := fun k => match k with
  | 0 => ("java/util/AbstractMap", "keySet", "Ljava/util/Set;", false)
  | 1 => ("java/util/AbstractMap", "values", "Ljava/util/Collection;", false)
  | 2 => ("java/util/HashMap", "table", "[Ljava/util/HashMap$Node;", false)
  | 3 => ("java/util/HashMap", "entrySet", "Ljava/util/Set;", false)
  | 4 => ("java/util/HashMap", "size", "I", false)
  | 5 => ("java/util/HashMap", "modCount", "I", false)
  | 6 => ("java/util/HashMap", "threshold", "I", false)
  | _ => ("java/util/HashMap", "loadFactor", "F", true)
def tyJ26 : Nat → FieldType := fun k => match k with
  | 0 => .object "java/util/Set"
  | 1 => .object "java/util/Collection"
  | 2 => .array (.object "java/util/HashMap$Node")
  | 3 => .object "java/util/Set"
  | 4 => .int
  | 5 => .int
  | 6 => .int
  | _ => .float
abbrev wsJ260 : List Cond := u_ws RJ26 TJ26 8
theorem nmJ26 : ∀ a, a < 8 → ∀ b, b < 8 → a ≠ b → (TJ26 a).2.1 ≠ (TJ26 b).2.1 := by decide +kernel
theorem tyJ26_ok : ∀ k, k < 8 → parseFieldDescriptor (TJ26 k).2.2.1 = some (tyJ26 k) := by decide +kernel
abbrev cJ26_size : ByteArray := prog_56_method_10_code
def yJ26_size : MethodName := ⟨RJ26, "size", "()I"⟩
theorem dJ26_size_0 : decode cJ26_size 0 = .ok (.aload_n 0, 1) := by decide +kernel
theorem dJ26_size_1 : decode cJ26_size 1 = .ok (.getfield 156, 3) := by decide +kernel
theorem dJ26_size_4 : decode cJ26_size 4 = .ok (.ireturn, 1) := by decide +kernel
abbrev cJ26_keysToArray : ByteArray := prog_56_method_26_code
def yJ26_keysToArray : MethodName := ⟨RJ26, "keysToArray", "([Ljava/lang/Object;)[Ljava/lang/Object;"⟩
def dkwJ26_keysToArray_3 : List UInt8 := [167, 255, 232, 132, 7, 1, 167, 255, 212, 43, 176]
abbrev dktJ26_keysToArray_3 : List UInt8 := dkwJ26_keysToArray_3 ++ []
def dkwJ26_keysToArray_2 : List UInt8 := [198, 0, 25, 44, 21, 4, 132, 4, 1, 25, 8, 180, 0, 170, 83, 25, 8, 180, 0, 177, 58, 8]
abbrev dktJ26_keysToArray_2 : List UInt8 := dkwJ26_keysToArray_2 ++ dktJ26_keysToArray_3
def dkwJ26_keysToArray_1 : List UInt8 := [25, 5, 190, 54, 6, 3, 54, 7, 21, 7, 21, 6, 162, 0, 43, 25, 5, 21, 7, 50, 58, 8, 25, 8]
abbrev dktJ26_keysToArray_1 : List UInt8 := dkwJ26_keysToArray_1 ++ dktJ26_keysToArray_2
def dkwJ26_keysToArray_0 : List UInt8 := [43, 77, 3, 54, 4, 42, 180, 0, 156, 158, 0, 70, 42, 180, 0, 105, 89, 78, 198, 0, 61, 45, 58, 5]
abbrev dktJ26_keysToArray_0 : List UInt8 := dkwJ26_keysToArray_0 ++ dktJ26_keysToArray_1
theorem dksJ26_keysToArray_0 : cJ26_keysToArray.data.toList.drop 0 = dktJ26_keysToArray_0 := by decide +kernel
theorem dksJ26_keysToArray_1 : cJ26_keysToArray.data.toList.drop 24 = dktJ26_keysToArray_1 := dk_seg dksJ26_keysToArray_0 24 rfl rfl
theorem dksJ26_keysToArray_2 : cJ26_keysToArray.data.toList.drop 48 = dktJ26_keysToArray_2 := dk_seg dksJ26_keysToArray_1 24 rfl rfl
theorem dksJ26_keysToArray_3 : cJ26_keysToArray.data.toList.drop 70 = dktJ26_keysToArray_3 := dk_seg dksJ26_keysToArray_2 22 rfl rfl
theorem dJ26_keysToArray_0 : decode cJ26_keysToArray 0 = .ok (.aload_n 1, 1) := dk_43 (dk_at dksJ26_keysToArray_0 0 rfl rfl)
theorem dJ26_keysToArray_1 : decode cJ26_keysToArray 1 = .ok (.astore_n 2, 1) := dk_77 (dk_at dksJ26_keysToArray_0 1 rfl rfl)
theorem dJ26_keysToArray_2 : decode cJ26_keysToArray 2 = .ok (.iconst 0, 1) := dk_3 (dk_at dksJ26_keysToArray_0 2 rfl rfl)
theorem dJ26_keysToArray_3 : decode cJ26_keysToArray 3 = .ok (.istore 4, 2) := dk_54 4 (dk_at dksJ26_keysToArray_0 3 rfl rfl)
theorem dJ26_keysToArray_5 : decode cJ26_keysToArray 5 = .ok (.aload_n 0, 1) := dk_42 (dk_at dksJ26_keysToArray_0 5 rfl rfl)
theorem dJ26_keysToArray_6 : decode cJ26_keysToArray 6 = .ok (.getfield 156, 3) := dk_180 0 156 (dk_at dksJ26_keysToArray_0 6 rfl rfl)
theorem dJ26_keysToArray_9 : decode cJ26_keysToArray 9 = .ok (.ifCond .le 70, 3) := dk_158 0 70 (dk_at dksJ26_keysToArray_0 9 rfl rfl)
theorem dJ26_keysToArray_12 : decode cJ26_keysToArray 12 = .ok (.aload_n 0, 1) := dk_42 (dk_at dksJ26_keysToArray_0 12 rfl rfl)
theorem dJ26_keysToArray_13 : decode cJ26_keysToArray 13 = .ok (.getfield 105, 3) := dk_180 0 105 (dk_at dksJ26_keysToArray_0 13 rfl rfl)
theorem dJ26_keysToArray_16 : decode cJ26_keysToArray 16 = .ok (.dup, 1) := dk_89 (dk_at dksJ26_keysToArray_0 16 rfl rfl)
theorem dJ26_keysToArray_17 : decode cJ26_keysToArray 17 = .ok (.astore_n 3, 1) := dk_78 (dk_at dksJ26_keysToArray_0 17 rfl rfl)
theorem dJ26_keysToArray_18 : decode cJ26_keysToArray 18 = .ok (.ifnull 61, 3) := dk_198 0 61 (dk_at dksJ26_keysToArray_0 18 rfl rfl)
theorem dJ26_keysToArray_21 : decode cJ26_keysToArray 21 = .ok (.aload_n 3, 1) := dk_45 (dk_at dksJ26_keysToArray_0 21 rfl rfl)
theorem dJ26_keysToArray_22 : decode cJ26_keysToArray 22 = .ok (.astore 5, 2) := dk_58 5 (dk_at dksJ26_keysToArray_0 22 rfl rfl)
theorem dJ26_keysToArray_24 : decode cJ26_keysToArray 24 = .ok (.aload 5, 2) := dk_25 5 (dk_at dksJ26_keysToArray_1 0 rfl rfl)
theorem dJ26_keysToArray_26 : decode cJ26_keysToArray 26 = .ok (.arraylength, 1) := dk_190 (dk_at dksJ26_keysToArray_1 2 rfl rfl)
theorem dJ26_keysToArray_27 : decode cJ26_keysToArray 27 = .ok (.istore 6, 2) := dk_54 6 (dk_at dksJ26_keysToArray_1 3 rfl rfl)
theorem dJ26_keysToArray_29 : decode cJ26_keysToArray 29 = .ok (.iconst 0, 1) := dk_3 (dk_at dksJ26_keysToArray_1 5 rfl rfl)
theorem dJ26_keysToArray_30 : decode cJ26_keysToArray 30 = .ok (.istore 7, 2) := dk_54 7 (dk_at dksJ26_keysToArray_1 6 rfl rfl)
theorem dJ26_keysToArray_32 : decode cJ26_keysToArray 32 = .ok (.iload 7, 2) := dk_21 7 (dk_at dksJ26_keysToArray_1 8 rfl rfl)
theorem dJ26_keysToArray_34 : decode cJ26_keysToArray 34 = .ok (.iload 6, 2) := dk_21 6 (dk_at dksJ26_keysToArray_1 10 rfl rfl)
theorem dJ26_keysToArray_36 : decode cJ26_keysToArray 36 = .ok (.if_icmp .ge 43, 3) := dk_162 0 43 (dk_at dksJ26_keysToArray_1 12 rfl rfl)
theorem dJ26_keysToArray_39 : decode cJ26_keysToArray 39 = .ok (.aload 5, 2) := dk_25 5 (dk_at dksJ26_keysToArray_1 15 rfl rfl)
theorem dJ26_keysToArray_41 : decode cJ26_keysToArray 41 = .ok (.iload 7, 2) := dk_21 7 (dk_at dksJ26_keysToArray_1 17 rfl rfl)
theorem dJ26_keysToArray_43 : decode cJ26_keysToArray 43 = .ok (.aaload, 1) := dk_50 (dk_at dksJ26_keysToArray_1 19 rfl rfl)
theorem dJ26_keysToArray_44 : decode cJ26_keysToArray 44 = .ok (.astore 8, 2) := dk_58 8 (dk_at dksJ26_keysToArray_1 20 rfl rfl)
theorem dJ26_keysToArray_46 : decode cJ26_keysToArray 46 = .ok (.aload 8, 2) := dk_25 8 (dk_at dksJ26_keysToArray_1 22 rfl rfl)
theorem dJ26_keysToArray_48 : decode cJ26_keysToArray 48 = .ok (.ifnull 25, 3) := dk_198 0 25 (dk_at dksJ26_keysToArray_2 0 rfl rfl)
theorem dJ26_keysToArray_51 : decode cJ26_keysToArray 51 = .ok (.aload_n 2, 1) := dk_44 (dk_at dksJ26_keysToArray_2 3 rfl rfl)
theorem dJ26_keysToArray_52 : decode cJ26_keysToArray 52 = .ok (.iload 4, 2) := dk_21 4 (dk_at dksJ26_keysToArray_2 4 rfl rfl)
theorem dJ26_keysToArray_54 : decode cJ26_keysToArray 54 = .ok (.iinc 4 1, 3) := dk_132 4 1 (dk_at dksJ26_keysToArray_2 6 rfl rfl)
theorem dJ26_keysToArray_57 : decode cJ26_keysToArray 57 = .ok (.aload 8, 2) := dk_25 8 (dk_at dksJ26_keysToArray_2 9 rfl rfl)
theorem dJ26_keysToArray_59 : decode cJ26_keysToArray 59 = .ok (.getfield 170, 3) := dk_180 0 170 (dk_at dksJ26_keysToArray_2 11 rfl rfl)
theorem dJ26_keysToArray_62 : decode cJ26_keysToArray 62 = .ok (.aastore, 1) := dk_83 (dk_at dksJ26_keysToArray_2 14 rfl rfl)
theorem dJ26_keysToArray_63 : decode cJ26_keysToArray 63 = .ok (.aload 8, 2) := dk_25 8 (dk_at dksJ26_keysToArray_2 15 rfl rfl)
theorem dJ26_keysToArray_65 : decode cJ26_keysToArray 65 = .ok (.getfield 177, 3) := dk_180 0 177 (dk_at dksJ26_keysToArray_2 17 rfl rfl)
theorem dJ26_keysToArray_68 : decode cJ26_keysToArray 68 = .ok (.astore 8, 2) := dk_58 8 (dk_at dksJ26_keysToArray_2 20 rfl rfl)
theorem dJ26_keysToArray_70 : decode cJ26_keysToArray 70 = .ok (.goto (-24), 3) := dk_167 255 232 (dk_at dksJ26_keysToArray_3 0 rfl rfl)
theorem dJ26_keysToArray_73 : decode cJ26_keysToArray 73 = .ok (.iinc 7 1, 3) := dk_132 7 1 (dk_at dksJ26_keysToArray_3 3 rfl rfl)
theorem dJ26_keysToArray_76 : decode cJ26_keysToArray 76 = .ok (.goto (-44), 3) := dk_167 255 212 (dk_at dksJ26_keysToArray_3 6 rfl rfl)
theorem dJ26_keysToArray_79 : decode cJ26_keysToArray 79 = .ok (.aload_n 1, 1) := dk_43 (dk_at dksJ26_keysToArray_3 9 rfl rfl)
theorem dJ26_keysToArray_80 : decode cJ26_keysToArray 80 = .ok (.areturn, 1) := dk_176 (dk_at dksJ26_keysToArray_3 10 rfl rfl)
abbrev cJ26_init : ByteArray := prog_56_method_7_code
def yJ26_init : MethodName := ⟨RJ26, "<init>", "()V"⟩
def dkwJ26_init_0 : List UInt8 := [42, 183, 0, 43, 42, 18, 92, 181, 0, 81, 177]
abbrev dktJ26_init_0 : List UInt8 := dkwJ26_init_0 ++ []
theorem dksJ26_init_0 : cJ26_init.data.toList.drop 0 = dktJ26_init_0 := by decide +kernel
theorem dJ26_init_0 : decode cJ26_init 0 = .ok (.aload_n 0, 1) := dk_42 (dk_at dksJ26_init_0 0 rfl rfl)
theorem dJ26_init_1 : decode cJ26_init 1 = .ok (.invokespecial 43, 3) := dk_183 0 43 (dk_at dksJ26_init_0 1 rfl rfl)
theorem dJ26_init_4 : decode cJ26_init 4 = .ok (.aload_n 0, 1) := dk_42 (dk_at dksJ26_init_0 4 rfl rfl)
theorem dJ26_init_5 : decode cJ26_init 5 = .ok (.ldc 92, 2) := dk_18 92 (dk_at dksJ26_init_0 5 rfl rfl)
theorem dJ26_init_7 : decode cJ26_init 7 = .ok (.putfield 81, 3) := dk_181 0 81 (dk_at dksJ26_init_0 7 rfl rfl)
theorem dJ26_init_10 : decode cJ26_init 10 = .ok (.return_, 1) := dk_177 (dk_at dksJ26_init_0 10 rfl rfl)
abbrev cJ26_put : ByteArray := prog_56_method_15_code
def yJ26_put : MethodName := ⟨RJ26, "put", "(Ljava/lang/Object;Ljava/lang/Object;)Ljava/lang/Object;"⟩
def dkwJ26_put_0 : List UInt8 := [42, 43, 184, 0, 149, 43, 44, 3, 4, 182, 0, 152, 176]
abbrev dktJ26_put_0 : List UInt8 := dkwJ26_put_0 ++ []
theorem dksJ26_put_0 : cJ26_put.data.toList.drop 0 = dktJ26_put_0 := by decide +kernel
theorem dJ26_put_0 : decode cJ26_put 0 = .ok (.aload_n 0, 1) := dk_42 (dk_at dksJ26_put_0 0 rfl rfl)
theorem dJ26_put_1 : decode cJ26_put 1 = .ok (.aload_n 1, 1) := dk_43 (dk_at dksJ26_put_0 1 rfl rfl)
theorem dJ26_put_2 : decode cJ26_put 2 = .ok (.invokestatic 149, 3) := dk_184 0 149 (dk_at dksJ26_put_0 2 rfl rfl)
theorem dJ26_put_5 : decode cJ26_put 5 = .ok (.aload_n 1, 1) := dk_43 (dk_at dksJ26_put_0 5 rfl rfl)
theorem dJ26_put_6 : decode cJ26_put 6 = .ok (.aload_n 2, 1) := dk_44 (dk_at dksJ26_put_0 6 rfl rfl)
theorem dJ26_put_7 : decode cJ26_put 7 = .ok (.iconst 0, 1) := dk_3 (dk_at dksJ26_put_0 7 rfl rfl)
theorem dJ26_put_8 : decode cJ26_put 8 = .ok (.iconst 1, 1) := dk_4 (dk_at dksJ26_put_0 8 rfl rfl)
theorem dJ26_put_9 : decode cJ26_put 9 = .ok (.invokevirtual 152, 3) := dk_182 0 152 (dk_at dksJ26_put_0 9 rfl rfl)
theorem dJ26_put_12 : decode cJ26_put 12 = .ok (.areturn, 1) := dk_176 (dk_at dksJ26_put_0 12 rfl rfl)
abbrev cJ26_hash : ByteArray := prog_56_method_1_code
def yJ26_hash : MethodName := ⟨RJ26, "hash", "(Ljava/lang/Object;)I"⟩
def dkwJ26_hash_0 : List UInt8 := [42, 199, 0, 7, 3, 167, 0, 14, 42, 182, 0, 1, 89, 60, 27, 16, 16, 124, 130, 172]
abbrev dktJ26_hash_0 : List UInt8 := dkwJ26_hash_0 ++ []
theorem dksJ26_hash_0 : cJ26_hash.data.toList.drop 0 = dktJ26_hash_0 := by decide +kernel
theorem dJ26_hash_0 : decode cJ26_hash 0 = .ok (.aload_n 0, 1) := dk_42 (dk_at dksJ26_hash_0 0 rfl rfl)
theorem dJ26_hash_1 : decode cJ26_hash 1 = .ok (.ifnonnull 7, 3) := dk_199 0 7 (dk_at dksJ26_hash_0 1 rfl rfl)
theorem dJ26_hash_4 : decode cJ26_hash 4 = .ok (.iconst 0, 1) := dk_3 (dk_at dksJ26_hash_0 4 rfl rfl)
theorem dJ26_hash_5 : decode cJ26_hash 5 = .ok (.goto 14, 3) := dk_167 0 14 (dk_at dksJ26_hash_0 5 rfl rfl)
theorem dJ26_hash_8 : decode cJ26_hash 8 = .ok (.aload_n 0, 1) := dk_42 (dk_at dksJ26_hash_0 8 rfl rfl)
theorem dJ26_hash_9 : decode cJ26_hash 9 = .ok (.invokevirtual 1, 3) := dk_182 0 1 (dk_at dksJ26_hash_0 9 rfl rfl)
theorem dJ26_hash_12 : decode cJ26_hash 12 = .ok (.dup, 1) := dk_89 (dk_at dksJ26_hash_0 12 rfl rfl)
theorem dJ26_hash_13 : decode cJ26_hash 13 = .ok (.istore_n 1, 1) := dk_60 (dk_at dksJ26_hash_0 13 rfl rfl)
theorem dJ26_hash_14 : decode cJ26_hash 14 = .ok (.iload_n 1, 1) := dk_27 (dk_at dksJ26_hash_0 14 rfl rfl)
theorem dJ26_hash_15 : decode cJ26_hash 15 = .ok (.bipush 16, 2) := dk_16 16 (dk_at dksJ26_hash_0 15 rfl rfl)
theorem dJ26_hash_17 : decode cJ26_hash 17 = .ok (.iushr, 1) := dk_124 (dk_at dksJ26_hash_0 17 rfl rfl)
theorem dJ26_hash_18 : decode cJ26_hash 18 = .ok (.ixor, 1) := dk_130 (dk_at dksJ26_hash_0 18 rfl rfl)
theorem dJ26_hash_19 : decode cJ26_hash 19 = .ok (.ireturn, 1) := dk_172 (dk_at dksJ26_hash_0 19 rfl rfl)
abbrev cJ26_putVal : ByteArray := prog_56_method_16_code
def yJ26_putVal : MethodName := ⟨RJ26, "putVal", "(ILjava/lang/Object;Ljava/lang/Object;ZZ)Ljava/lang/Object;"⟩
def dkwJ26_putVal_12 : List UInt8 := [181, 0, 156, 42, 180, 0, 88, 164, 0, 8, 42, 182, 0, 117, 87, 42, 21, 5, 182, 0, 205, 1, 176]
abbrev dktJ26_putVal_12 : List UInt8 := dkwJ26_putVal_12 ++ []
def dkwJ26_putVal_11 : List UInt8 := [182, 0, 198, 25, 12, 176, 42, 89, 180, 0, 202, 4, 96, 181, 0, 202, 42, 89, 180, 0, 156, 4, 96, 90]
abbrev dktJ26_putVal_11 : List UInt8 := dkwJ26_putVal_11 ++ dktJ26_putVal_12
def dkwJ26_putVal_10 : List UInt8 := [180, 0, 162, 58, 12, 21, 4, 153, 0, 8, 25, 12, 199, 0, 9, 25, 10, 45, 181, 0, 162, 42, 25, 10]
abbrev dktJ26_putVal_10 : List UInt8 := dkwJ26_putVal_10 ++ dktJ26_putVal_11
def dkwJ26_putVal_9 : List UInt8 := [153, 0, 6, 167, 0, 13, 25, 10, 58, 7, 132, 12, 1, 167, 255, 171, 25, 10, 198, 0, 35, 25, 10]
abbrev dktJ26_putVal_9 : List UInt8 := dkwJ26_putVal_9 ++ dktJ26_putVal_10
def dkwJ26_putVal_8 : List UInt8 := [25, 10, 180, 0, 170, 89, 58, 11, 44, 165, 0, 29, 44, 198, 0, 15, 44, 25, 11, 182, 0, 173]
abbrev dktJ26_putVal_8 : List UInt8 := dkwJ26_putVal_8 ++ dktJ26_putVal_9
def dkwJ26_putVal_7 : List UInt8 := [16, 7, 161, 0, 60, 42, 25, 6, 27, 182, 0, 194, 167, 0, 50, 25, 10, 180, 0, 168, 27, 160, 0, 31]
abbrev dktJ26_putVal_7 : List UInt8 := dkwJ26_putVal_7 ++ dktJ26_putVal_8
def dkwJ26_putVal_6 : List UInt8 := [180, 0, 177, 89, 58, 10, 199, 0, 33, 25, 7, 42, 27, 44, 45, 1, 182, 0, 186, 181, 0, 177, 21, 12]
abbrev dktJ26_putVal_6 : List UInt8 := dkwJ26_putVal_6 ++ dktJ26_putVal_7
def dkwJ26_putVal_5 : List UInt8 := [192, 0, 180, 42, 25, 6, 27, 44, 45, 182, 0, 190, 58, 10, 167, 0, 94, 3, 54, 12, 25, 7]
abbrev dktJ26_putVal_5 : List UInt8 := dkwJ26_putVal_5 ++ dktJ26_putVal_6
def dkwJ26_putVal_4 : List UInt8 := [182, 0, 173, 153, 0, 10, 25, 7, 58, 10, 167, 0, 121, 25, 7, 193, 0, 180, 153, 0, 22, 25, 7]
abbrev dktJ26_putVal_4 : List UInt8 := dkwJ26_putVal_4 ++ dktJ26_putVal_5
def dkwJ26_putVal_3 : List UInt8 := [160, 0, 35, 25, 7, 180, 0, 170, 89, 58, 11, 44, 165, 0, 16, 44, 198, 0, 19, 44, 25, 11]
abbrev dktJ26_putVal_3 : List UInt8 := dkwJ26_putVal_3 ++ dktJ26_putVal_4
def dkwJ26_putVal_2 : List UInt8 := [25, 6, 21, 9, 42, 27, 44, 45, 1, 182, 0, 186, 83, 167, 0, 199, 25, 7, 180, 0, 168, 27]
abbrev dktJ26_putVal_2 : List UInt8 := dkwJ26_putVal_2 ++ dktJ26_putVal_3
def dkwJ26_putVal_1 : List UInt8 := [58, 6, 190, 54, 8, 25, 6, 21, 8, 4, 100, 27, 126, 89, 54, 9, 50, 89, 58, 7, 199, 0, 19]
abbrev dktJ26_putVal_1 : List UInt8 := dkwJ26_putVal_1 ++ dktJ26_putVal_2
def dkwJ26_putVal_0 : List UInt8 := [42, 180, 0, 105, 89, 58, 6, 198, 0, 12, 25, 6, 190, 89, 54, 8, 154, 0, 13, 42, 182, 0, 117, 89]
abbrev dktJ26_putVal_0 : List UInt8 := dkwJ26_putVal_0 ++ dktJ26_putVal_1
theorem dksJ26_putVal_0 : cJ26_putVal.data.toList.drop 0 = dktJ26_putVal_0 := by decide +kernel
theorem dksJ26_putVal_1 : cJ26_putVal.data.toList.drop 24 = dktJ26_putVal_1 := dk_seg dksJ26_putVal_0 24 rfl rfl
theorem dksJ26_putVal_2 : cJ26_putVal.data.toList.drop 47 = dktJ26_putVal_2 := dk_seg dksJ26_putVal_1 23 rfl rfl
theorem dksJ26_putVal_3 : cJ26_putVal.data.toList.drop 69 = dktJ26_putVal_3 := dk_seg dksJ26_putVal_2 22 rfl rfl
theorem dksJ26_putVal_4 : cJ26_putVal.data.toList.drop 91 = dktJ26_putVal_4 := dk_seg dksJ26_putVal_3 22 rfl rfl
theorem dksJ26_putVal_5 : cJ26_putVal.data.toList.drop 114 = dktJ26_putVal_5 := dk_seg dksJ26_putVal_4 23 rfl rfl
theorem dksJ26_putVal_6 : cJ26_putVal.data.toList.drop 136 = dktJ26_putVal_6 := dk_seg dksJ26_putVal_5 22 rfl rfl
theorem dksJ26_putVal_7 : cJ26_putVal.data.toList.drop 160 = dktJ26_putVal_7 := dk_seg dksJ26_putVal_6 24 rfl rfl
theorem dksJ26_putVal_8 : cJ26_putVal.data.toList.drop 184 = dktJ26_putVal_8 := dk_seg dksJ26_putVal_7 24 rfl rfl
theorem dksJ26_putVal_9 : cJ26_putVal.data.toList.drop 206 = dktJ26_putVal_9 := dk_seg dksJ26_putVal_8 22 rfl rfl
theorem dksJ26_putVal_10 : cJ26_putVal.data.toList.drop 229 = dktJ26_putVal_10 := dk_seg dksJ26_putVal_9 23 rfl rfl
theorem dksJ26_putVal_11 : cJ26_putVal.data.toList.drop 253 = dktJ26_putVal_11 := dk_seg dksJ26_putVal_10 24 rfl rfl
theorem dksJ26_putVal_12 : cJ26_putVal.data.toList.drop 277 = dktJ26_putVal_12 := dk_seg dksJ26_putVal_11 24 rfl rfl
theorem dJ26_putVal_0 : decode cJ26_putVal 0 = .ok (.aload_n 0, 1) := dk_42 (dk_at dksJ26_putVal_0 0 rfl rfl)
theorem dJ26_putVal_1 : decode cJ26_putVal 1 = .ok (.getfield 105, 3) := dk_180 0 105 (dk_at dksJ26_putVal_0 1 rfl rfl)
theorem dJ26_putVal_4 : decode cJ26_putVal 4 = .ok (.dup, 1) := dk_89 (dk_at dksJ26_putVal_0 4 rfl rfl)
theorem dJ26_putVal_5 : decode cJ26_putVal 5 = .ok (.astore 6, 2) := dk_58 6 (dk_at dksJ26_putVal_0 5 rfl rfl)
theorem dJ26_putVal_7 : decode cJ26_putVal 7 = .ok (.ifnull 12, 3) := dk_198 0 12 (dk_at dksJ26_putVal_0 7 rfl rfl)
theorem dJ26_putVal_10 : decode cJ26_putVal 10 = .ok (.aload 6, 2) := dk_25 6 (dk_at dksJ26_putVal_0 10 rfl rfl)
theorem dJ26_putVal_12 : decode cJ26_putVal 12 = .ok (.arraylength, 1) := dk_190 (dk_at dksJ26_putVal_0 12 rfl rfl)
theorem dJ26_putVal_13 : decode cJ26_putVal 13 = .ok (.dup, 1) := dk_89 (dk_at dksJ26_putVal_0 13 rfl rfl)
theorem dJ26_putVal_14 : decode cJ26_putVal 14 = .ok (.istore 8, 2) := dk_54 8 (dk_at dksJ26_putVal_0 14 rfl rfl)
theorem dJ26_putVal_16 : decode cJ26_putVal 16 = .ok (.ifCond .ne 13, 3) := dk_154 0 13 (dk_at dksJ26_putVal_0 16 rfl rfl)
theorem dJ26_putVal_19 : decode cJ26_putVal 19 = .ok (.aload_n 0, 1) := dk_42 (dk_at dksJ26_putVal_0 19 rfl rfl)
theorem dJ26_putVal_20 : decode cJ26_putVal 20 = .ok (.invokevirtual 117, 3) := dk_182 0 117 (dk_at dksJ26_putVal_0 20 rfl rfl)
theorem dJ26_putVal_23 : decode cJ26_putVal 23 = .ok (.dup, 1) := dk_89 (dk_at dksJ26_putVal_0 23 rfl rfl)
theorem dJ26_putVal_24 : decode cJ26_putVal 24 = .ok (.astore 6, 2) := dk_58 6 (dk_at dksJ26_putVal_1 0 rfl rfl)
theorem dJ26_putVal_26 : decode cJ26_putVal 26 = .ok (.arraylength, 1) := dk_190 (dk_at dksJ26_putVal_1 2 rfl rfl)
theorem dJ26_putVal_27 : decode cJ26_putVal 27 = .ok (.istore 8, 2) := dk_54 8 (dk_at dksJ26_putVal_1 3 rfl rfl)
theorem dJ26_putVal_29 : decode cJ26_putVal 29 = .ok (.aload 6, 2) := dk_25 6 (dk_at dksJ26_putVal_1 5 rfl rfl)
theorem dJ26_putVal_31 : decode cJ26_putVal 31 = .ok (.iload 8, 2) := dk_21 8 (dk_at dksJ26_putVal_1 7 rfl rfl)
theorem dJ26_putVal_33 : decode cJ26_putVal 33 = .ok (.iconst 1, 1) := dk_4 (dk_at dksJ26_putVal_1 9 rfl rfl)
theorem dJ26_putVal_34 : decode cJ26_putVal 34 = .ok (.isub, 1) := dk_100 (dk_at dksJ26_putVal_1 10 rfl rfl)
theorem dJ26_putVal_35 : decode cJ26_putVal 35 = .ok (.iload_n 1, 1) := dk_27 (dk_at dksJ26_putVal_1 11 rfl rfl)
theorem dJ26_putVal_36 : decode cJ26_putVal 36 = .ok (.iand, 1) := dk_126 (dk_at dksJ26_putVal_1 12 rfl rfl)
theorem dJ26_putVal_37 : decode cJ26_putVal 37 = .ok (.dup, 1) := dk_89 (dk_at dksJ26_putVal_1 13 rfl rfl)
theorem dJ26_putVal_38 : decode cJ26_putVal 38 = .ok (.istore 9, 2) := dk_54 9 (dk_at dksJ26_putVal_1 14 rfl rfl)
theorem dJ26_putVal_40 : decode cJ26_putVal 40 = .ok (.aaload, 1) := dk_50 (dk_at dksJ26_putVal_1 16 rfl rfl)
theorem dJ26_putVal_41 : decode cJ26_putVal 41 = .ok (.dup, 1) := dk_89 (dk_at dksJ26_putVal_1 17 rfl rfl)
theorem dJ26_putVal_42 : decode cJ26_putVal 42 = .ok (.astore 7, 2) := dk_58 7 (dk_at dksJ26_putVal_1 18 rfl rfl)
theorem dJ26_putVal_44 : decode cJ26_putVal 44 = .ok (.ifnonnull 19, 3) := dk_199 0 19 (dk_at dksJ26_putVal_1 20 rfl rfl)
theorem dJ26_putVal_47 : decode cJ26_putVal 47 = .ok (.aload 6, 2) := dk_25 6 (dk_at dksJ26_putVal_2 0 rfl rfl)
theorem dJ26_putVal_49 : decode cJ26_putVal 49 = .ok (.iload 9, 2) := dk_21 9 (dk_at dksJ26_putVal_2 2 rfl rfl)
theorem dJ26_putVal_51 : decode cJ26_putVal 51 = .ok (.aload_n 0, 1) := dk_42 (dk_at dksJ26_putVal_2 4 rfl rfl)
theorem dJ26_putVal_52 : decode cJ26_putVal 52 = .ok (.iload_n 1, 1) := dk_27 (dk_at dksJ26_putVal_2 5 rfl rfl)
theorem dJ26_putVal_53 : decode cJ26_putVal 53 = .ok (.aload_n 2, 1) := dk_44 (dk_at dksJ26_putVal_2 6 rfl rfl)
theorem dJ26_putVal_54 : decode cJ26_putVal 54 = .ok (.aload_n 3, 1) := dk_45 (dk_at dksJ26_putVal_2 7 rfl rfl)
theorem dJ26_putVal_55 : decode cJ26_putVal 55 = .ok (.aconst_null, 1) := dk_1 (dk_at dksJ26_putVal_2 8 rfl rfl)
theorem dJ26_putVal_56 : decode cJ26_putVal 56 = .ok (.invokevirtual 186, 3) := dk_182 0 186 (dk_at dksJ26_putVal_2 9 rfl rfl)
theorem dJ26_putVal_59 : decode cJ26_putVal 59 = .ok (.aastore, 1) := dk_83 (dk_at dksJ26_putVal_2 12 rfl rfl)
theorem dJ26_putVal_60 : decode cJ26_putVal 60 = .ok (.goto 199, 3) := dk_167 0 199 (dk_at dksJ26_putVal_2 13 rfl rfl)
theorem dJ26_putVal_63 : decode cJ26_putVal 63 = .ok (.aload 7, 2) := dk_25 7 (dk_at dksJ26_putVal_2 16 rfl rfl)
theorem dJ26_putVal_65 : decode cJ26_putVal 65 = .ok (.getfield 168, 3) := dk_180 0 168 (dk_at dksJ26_putVal_2 18 rfl rfl)
theorem dJ26_putVal_68 : decode cJ26_putVal 68 = .ok (.iload_n 1, 1) := dk_27 (dk_at dksJ26_putVal_2 21 rfl rfl)
theorem dJ26_putVal_69 : decode cJ26_putVal 69 = .ok (.if_icmp .ne 35, 3) := dk_160 0 35 (dk_at dksJ26_putVal_3 0 rfl rfl)
theorem dJ26_putVal_72 : decode cJ26_putVal 72 = .ok (.aload 7, 2) := dk_25 7 (dk_at dksJ26_putVal_3 3 rfl rfl)
theorem dJ26_putVal_74 : decode cJ26_putVal 74 = .ok (.getfield 170, 3) := dk_180 0 170 (dk_at dksJ26_putVal_3 5 rfl rfl)
theorem dJ26_putVal_77 : decode cJ26_putVal 77 = .ok (.dup, 1) := dk_89 (dk_at dksJ26_putVal_3 8 rfl rfl)
theorem dJ26_putVal_78 : decode cJ26_putVal 78 = .ok (.astore 11, 2) := dk_58 11 (dk_at dksJ26_putVal_3 9 rfl rfl)
theorem dJ26_putVal_80 : decode cJ26_putVal 80 = .ok (.aload_n 2, 1) := dk_44 (dk_at dksJ26_putVal_3 11 rfl rfl)
theorem dJ26_putVal_81 : decode cJ26_putVal 81 = .ok (.if_acmp .eq 16, 3) := dk_165 0 16 (dk_at dksJ26_putVal_3 12 rfl rfl)
theorem dJ26_putVal_84 : decode cJ26_putVal 84 = .ok (.aload_n 2, 1) := dk_44 (dk_at dksJ26_putVal_3 15 rfl rfl)
theorem dJ26_putVal_85 : decode cJ26_putVal 85 = .ok (.ifnull 19, 3) := dk_198 0 19 (dk_at dksJ26_putVal_3 16 rfl rfl)
theorem dJ26_putVal_88 : decode cJ26_putVal 88 = .ok (.aload_n 2, 1) := dk_44 (dk_at dksJ26_putVal_3 19 rfl rfl)
theorem dJ26_putVal_89 : decode cJ26_putVal 89 = .ok (.aload 11, 2) := dk_25 11 (dk_at dksJ26_putVal_3 20 rfl rfl)
theorem dJ26_putVal_91 : decode cJ26_putVal 91 = .ok (.invokevirtual 173, 3) := dk_182 0 173 (dk_at dksJ26_putVal_4 0 rfl rfl)
theorem dJ26_putVal_94 : decode cJ26_putVal 94 = .ok (.ifCond .eq 10, 3) := dk_153 0 10 (dk_at dksJ26_putVal_4 3 rfl rfl)
theorem dJ26_putVal_97 : decode cJ26_putVal 97 = .ok (.aload 7, 2) := dk_25 7 (dk_at dksJ26_putVal_4 6 rfl rfl)
theorem dJ26_putVal_99 : decode cJ26_putVal 99 = .ok (.astore 10, 2) := dk_58 10 (dk_at dksJ26_putVal_4 8 rfl rfl)
theorem dJ26_putVal_101 : decode cJ26_putVal 101 = .ok (.goto 121, 3) := dk_167 0 121 (dk_at dksJ26_putVal_4 10 rfl rfl)
theorem dJ26_putVal_104 : decode cJ26_putVal 104 = .ok (.aload 7, 2) := dk_25 7 (dk_at dksJ26_putVal_4 13 rfl rfl)
theorem dJ26_putVal_106 : decode cJ26_putVal 106 = .ok (.instanceof 180, 3) := dk_193 0 180 (dk_at dksJ26_putVal_4 15 rfl rfl)
theorem dJ26_putVal_109 : decode cJ26_putVal 109 = .ok (.ifCond .eq 22, 3) := dk_153 0 22 (dk_at dksJ26_putVal_4 18 rfl rfl)
theorem dJ26_putVal_112 : decode cJ26_putVal 112 = .ok (.aload 7, 2) := dk_25 7 (dk_at dksJ26_putVal_4 21 rfl rfl)
theorem dJ26_putVal_114 : decode cJ26_putVal 114 = .ok (.checkcast 180, 3) := dk_192 0 180 (dk_at dksJ26_putVal_5 0 rfl rfl)
theorem dJ26_putVal_117 : decode cJ26_putVal 117 = .ok (.aload_n 0, 1) := dk_42 (dk_at dksJ26_putVal_5 3 rfl rfl)
theorem dJ26_putVal_118 : decode cJ26_putVal 118 = .ok (.aload 6, 2) := dk_25 6 (dk_at dksJ26_putVal_5 4 rfl rfl)
theorem dJ26_putVal_120 : decode cJ26_putVal 120 = .ok (.iload_n 1, 1) := dk_27 (dk_at dksJ26_putVal_5 6 rfl rfl)
theorem dJ26_putVal_121 : decode cJ26_putVal 121 = .ok (.aload_n 2, 1) := dk_44 (dk_at dksJ26_putVal_5 7 rfl rfl)
theorem dJ26_putVal_122 : decode cJ26_putVal 122 = .ok (.aload_n 3, 1) := dk_45 (dk_at dksJ26_putVal_5 8 rfl rfl)
theorem dJ26_putVal_123 : decode cJ26_putVal 123 = .ok (.invokevirtual 190, 3) := dk_182 0 190 (dk_at dksJ26_putVal_5 9 rfl rfl)
theorem dJ26_putVal_126 : decode cJ26_putVal 126 = .ok (.astore 10, 2) := dk_58 10 (dk_at dksJ26_putVal_5 12 rfl rfl)
theorem dJ26_putVal_128 : decode cJ26_putVal 128 = .ok (.goto 94, 3) := dk_167 0 94 (dk_at dksJ26_putVal_5 14 rfl rfl)
theorem dJ26_putVal_131 : decode cJ26_putVal 131 = .ok (.iconst 0, 1) := dk_3 (dk_at dksJ26_putVal_5 17 rfl rfl)
theorem dJ26_putVal_132 : decode cJ26_putVal 132 = .ok (.istore 12, 2) := dk_54 12 (dk_at dksJ26_putVal_5 18 rfl rfl)
theorem dJ26_putVal_134 : decode cJ26_putVal 134 = .ok (.aload 7, 2) := dk_25 7 (dk_at dksJ26_putVal_5 20 rfl rfl)
theorem dJ26_putVal_136 : decode cJ26_putVal 136 = .ok (.getfield 177, 3) := dk_180 0 177 (dk_at dksJ26_putVal_6 0 rfl rfl)
theorem dJ26_putVal_139 : decode cJ26_putVal 139 = .ok (.dup, 1) := dk_89 (dk_at dksJ26_putVal_6 3 rfl rfl)
theorem dJ26_putVal_140 : decode cJ26_putVal 140 = .ok (.astore 10, 2) := dk_58 10 (dk_at dksJ26_putVal_6 4 rfl rfl)
theorem dJ26_putVal_142 : decode cJ26_putVal 142 = .ok (.ifnonnull 33, 3) := dk_199 0 33 (dk_at dksJ26_putVal_6 6 rfl rfl)
theorem dJ26_putVal_145 : decode cJ26_putVal 145 = .ok (.aload 7, 2) := dk_25 7 (dk_at dksJ26_putVal_6 9 rfl rfl)
theorem dJ26_putVal_147 : decode cJ26_putVal 147 = .ok (.aload_n 0, 1) := dk_42 (dk_at dksJ26_putVal_6 11 rfl rfl)
theorem dJ26_putVal_148 : decode cJ26_putVal 148 = .ok (.iload_n 1, 1) := dk_27 (dk_at dksJ26_putVal_6 12 rfl rfl)
theorem dJ26_putVal_149 : decode cJ26_putVal 149 = .ok (.aload_n 2, 1) := dk_44 (dk_at dksJ26_putVal_6 13 rfl rfl)
theorem dJ26_putVal_150 : decode cJ26_putVal 150 = .ok (.aload_n 3, 1) := dk_45 (dk_at dksJ26_putVal_6 14 rfl rfl)
theorem dJ26_putVal_151 : decode cJ26_putVal 151 = .ok (.aconst_null, 1) := dk_1 (dk_at dksJ26_putVal_6 15 rfl rfl)
theorem dJ26_putVal_152 : decode cJ26_putVal 152 = .ok (.invokevirtual 186, 3) := dk_182 0 186 (dk_at dksJ26_putVal_6 16 rfl rfl)
theorem dJ26_putVal_155 : decode cJ26_putVal 155 = .ok (.putfield 177, 3) := dk_181 0 177 (dk_at dksJ26_putVal_6 19 rfl rfl)
theorem dJ26_putVal_158 : decode cJ26_putVal 158 = .ok (.iload 12, 2) := dk_21 12 (dk_at dksJ26_putVal_6 22 rfl rfl)
theorem dJ26_putVal_160 : decode cJ26_putVal 160 = .ok (.bipush 7, 2) := dk_16 7 (dk_at dksJ26_putVal_7 0 rfl rfl)
theorem dJ26_putVal_162 : decode cJ26_putVal 162 = .ok (.if_icmp .lt 60, 3) := dk_161 0 60 (dk_at dksJ26_putVal_7 2 rfl rfl)
theorem dJ26_putVal_165 : decode cJ26_putVal 165 = .ok (.aload_n 0, 1) := dk_42 (dk_at dksJ26_putVal_7 5 rfl rfl)
theorem dJ26_putVal_166 : decode cJ26_putVal 166 = .ok (.aload 6, 2) := dk_25 6 (dk_at dksJ26_putVal_7 6 rfl rfl)
theorem dJ26_putVal_168 : decode cJ26_putVal 168 = .ok (.iload_n 1, 1) := dk_27 (dk_at dksJ26_putVal_7 8 rfl rfl)
theorem dJ26_putVal_169 : decode cJ26_putVal 169 = .ok (.invokevirtual 194, 3) := dk_182 0 194 (dk_at dksJ26_putVal_7 9 rfl rfl)
theorem dJ26_putVal_172 : decode cJ26_putVal 172 = .ok (.goto 50, 3) := dk_167 0 50 (dk_at dksJ26_putVal_7 12 rfl rfl)
theorem dJ26_putVal_175 : decode cJ26_putVal 175 = .ok (.aload 10, 2) := dk_25 10 (dk_at dksJ26_putVal_7 15 rfl rfl)
theorem dJ26_putVal_177 : decode cJ26_putVal 177 = .ok (.getfield 168, 3) := dk_180 0 168 (dk_at dksJ26_putVal_7 17 rfl rfl)
theorem dJ26_putVal_180 : decode cJ26_putVal 180 = .ok (.iload_n 1, 1) := dk_27 (dk_at dksJ26_putVal_7 20 rfl rfl)
theorem dJ26_putVal_181 : decode cJ26_putVal 181 = .ok (.if_icmp .ne 31, 3) := dk_160 0 31 (dk_at dksJ26_putVal_7 21 rfl rfl)
theorem dJ26_putVal_184 : decode cJ26_putVal 184 = .ok (.aload 10, 2) := dk_25 10 (dk_at dksJ26_putVal_8 0 rfl rfl)
theorem dJ26_putVal_186 : decode cJ26_putVal 186 = .ok (.getfield 170, 3) := dk_180 0 170 (dk_at dksJ26_putVal_8 2 rfl rfl)
theorem dJ26_putVal_189 : decode cJ26_putVal 189 = .ok (.dup, 1) := dk_89 (dk_at dksJ26_putVal_8 5 rfl rfl)
theorem dJ26_putVal_190 : decode cJ26_putVal 190 = .ok (.astore 11, 2) := dk_58 11 (dk_at dksJ26_putVal_8 6 rfl rfl)
theorem dJ26_putVal_192 : decode cJ26_putVal 192 = .ok (.aload_n 2, 1) := dk_44 (dk_at dksJ26_putVal_8 8 rfl rfl)
theorem dJ26_putVal_193 : decode cJ26_putVal 193 = .ok (.if_acmp .eq 29, 3) := dk_165 0 29 (dk_at dksJ26_putVal_8 9 rfl rfl)
theorem dJ26_putVal_196 : decode cJ26_putVal 196 = .ok (.aload_n 2, 1) := dk_44 (dk_at dksJ26_putVal_8 12 rfl rfl)
theorem dJ26_putVal_197 : decode cJ26_putVal 197 = .ok (.ifnull 15, 3) := dk_198 0 15 (dk_at dksJ26_putVal_8 13 rfl rfl)
theorem dJ26_putVal_200 : decode cJ26_putVal 200 = .ok (.aload_n 2, 1) := dk_44 (dk_at dksJ26_putVal_8 16 rfl rfl)
theorem dJ26_putVal_201 : decode cJ26_putVal 201 = .ok (.aload 11, 2) := dk_25 11 (dk_at dksJ26_putVal_8 17 rfl rfl)
theorem dJ26_putVal_203 : decode cJ26_putVal 203 = .ok (.invokevirtual 173, 3) := dk_182 0 173 (dk_at dksJ26_putVal_8 19 rfl rfl)
theorem dJ26_putVal_206 : decode cJ26_putVal 206 = .ok (.ifCond .eq 6, 3) := dk_153 0 6 (dk_at dksJ26_putVal_9 0 rfl rfl)
theorem dJ26_putVal_209 : decode cJ26_putVal 209 = .ok (.goto 13, 3) := dk_167 0 13 (dk_at dksJ26_putVal_9 3 rfl rfl)
theorem dJ26_putVal_212 : decode cJ26_putVal 212 = .ok (.aload 10, 2) := dk_25 10 (dk_at dksJ26_putVal_9 6 rfl rfl)
theorem dJ26_putVal_214 : decode cJ26_putVal 214 = .ok (.astore 7, 2) := dk_58 7 (dk_at dksJ26_putVal_9 8 rfl rfl)
theorem dJ26_putVal_216 : decode cJ26_putVal 216 = .ok (.iinc 12 1, 3) := dk_132 12 1 (dk_at dksJ26_putVal_9 10 rfl rfl)
theorem dJ26_putVal_219 : decode cJ26_putVal 219 = .ok (.goto (-85), 3) := dk_167 255 171 (dk_at dksJ26_putVal_9 13 rfl rfl)
theorem dJ26_putVal_222 : decode cJ26_putVal 222 = .ok (.aload 10, 2) := dk_25 10 (dk_at dksJ26_putVal_9 16 rfl rfl)
theorem dJ26_putVal_224 : decode cJ26_putVal 224 = .ok (.ifnull 35, 3) := dk_198 0 35 (dk_at dksJ26_putVal_9 18 rfl rfl)
theorem dJ26_putVal_227 : decode cJ26_putVal 227 = .ok (.aload 10, 2) := dk_25 10 (dk_at dksJ26_putVal_9 21 rfl rfl)
theorem dJ26_putVal_229 : decode cJ26_putVal 229 = .ok (.getfield 162, 3) := dk_180 0 162 (dk_at dksJ26_putVal_10 0 rfl rfl)
theorem dJ26_putVal_232 : decode cJ26_putVal 232 = .ok (.astore 12, 2) := dk_58 12 (dk_at dksJ26_putVal_10 3 rfl rfl)
theorem dJ26_putVal_234 : decode cJ26_putVal 234 = .ok (.iload 4, 2) := dk_21 4 (dk_at dksJ26_putVal_10 5 rfl rfl)
theorem dJ26_putVal_236 : decode cJ26_putVal 236 = .ok (.ifCond .eq 8, 3) := dk_153 0 8 (dk_at dksJ26_putVal_10 7 rfl rfl)
theorem dJ26_putVal_239 : decode cJ26_putVal 239 = .ok (.aload 12, 2) := dk_25 12 (dk_at dksJ26_putVal_10 10 rfl rfl)
theorem dJ26_putVal_241 : decode cJ26_putVal 241 = .ok (.ifnonnull 9, 3) := dk_199 0 9 (dk_at dksJ26_putVal_10 12 rfl rfl)
theorem dJ26_putVal_244 : decode cJ26_putVal 244 = .ok (.aload 10, 2) := dk_25 10 (dk_at dksJ26_putVal_10 15 rfl rfl)
theorem dJ26_putVal_246 : decode cJ26_putVal 246 = .ok (.aload_n 3, 1) := dk_45 (dk_at dksJ26_putVal_10 17 rfl rfl)
theorem dJ26_putVal_247 : decode cJ26_putVal 247 = .ok (.putfield 162, 3) := dk_181 0 162 (dk_at dksJ26_putVal_10 18 rfl rfl)
theorem dJ26_putVal_250 : decode cJ26_putVal 250 = .ok (.aload_n 0, 1) := dk_42 (dk_at dksJ26_putVal_10 21 rfl rfl)
theorem dJ26_putVal_251 : decode cJ26_putVal 251 = .ok (.aload 10, 2) := dk_25 10 (dk_at dksJ26_putVal_10 22 rfl rfl)
theorem dJ26_putVal_253 : decode cJ26_putVal 253 = .ok (.invokevirtual 198, 3) := dk_182 0 198 (dk_at dksJ26_putVal_11 0 rfl rfl)
theorem dJ26_putVal_256 : decode cJ26_putVal 256 = .ok (.aload 12, 2) := dk_25 12 (dk_at dksJ26_putVal_11 3 rfl rfl)
theorem dJ26_putVal_258 : decode cJ26_putVal 258 = .ok (.areturn, 1) := dk_176 (dk_at dksJ26_putVal_11 5 rfl rfl)
theorem dJ26_putVal_259 : decode cJ26_putVal 259 = .ok (.aload_n 0, 1) := dk_42 (dk_at dksJ26_putVal_11 6 rfl rfl)
theorem dJ26_putVal_260 : decode cJ26_putVal 260 = .ok (.dup, 1) := dk_89 (dk_at dksJ26_putVal_11 7 rfl rfl)
theorem dJ26_putVal_261 : decode cJ26_putVal 261 = .ok (.getfield 202, 3) := dk_180 0 202 (dk_at dksJ26_putVal_11 8 rfl rfl)
theorem dJ26_putVal_264 : decode cJ26_putVal 264 = .ok (.iconst 1, 1) := dk_4 (dk_at dksJ26_putVal_11 11 rfl rfl)
theorem dJ26_putVal_265 : decode cJ26_putVal 265 = .ok (.iadd, 1) := dk_96 (dk_at dksJ26_putVal_11 12 rfl rfl)
theorem dJ26_putVal_266 : decode cJ26_putVal 266 = .ok (.putfield 202, 3) := dk_181 0 202 (dk_at dksJ26_putVal_11 13 rfl rfl)
theorem dJ26_putVal_269 : decode cJ26_putVal 269 = .ok (.aload_n 0, 1) := dk_42 (dk_at dksJ26_putVal_11 16 rfl rfl)
theorem dJ26_putVal_270 : decode cJ26_putVal 270 = .ok (.dup, 1) := dk_89 (dk_at dksJ26_putVal_11 17 rfl rfl)
theorem dJ26_putVal_271 : decode cJ26_putVal 271 = .ok (.getfield 156, 3) := dk_180 0 156 (dk_at dksJ26_putVal_11 18 rfl rfl)
theorem dJ26_putVal_274 : decode cJ26_putVal 274 = .ok (.iconst 1, 1) := dk_4 (dk_at dksJ26_putVal_11 21 rfl rfl)
theorem dJ26_putVal_275 : decode cJ26_putVal 275 = .ok (.iadd, 1) := dk_96 (dk_at dksJ26_putVal_11 22 rfl rfl)
theorem dJ26_putVal_276 : decode cJ26_putVal 276 = .ok (.dup_x1, 1) := dk_90 (dk_at dksJ26_putVal_11 23 rfl rfl)
theorem dJ26_putVal_277 : decode cJ26_putVal 277 = .ok (.putfield 156, 3) := dk_181 0 156 (dk_at dksJ26_putVal_12 0 rfl rfl)
theorem dJ26_putVal_280 : decode cJ26_putVal 280 = .ok (.aload_n 0, 1) := dk_42 (dk_at dksJ26_putVal_12 3 rfl rfl)
theorem dJ26_putVal_281 : decode cJ26_putVal 281 = .ok (.getfield 88, 3) := dk_180 0 88 (dk_at dksJ26_putVal_12 4 rfl rfl)
theorem dJ26_putVal_284 : decode cJ26_putVal 284 = .ok (.if_icmp .le 8, 3) := dk_164 0 8 (dk_at dksJ26_putVal_12 7 rfl rfl)
theorem dJ26_putVal_287 : decode cJ26_putVal 287 = .ok (.aload_n 0, 1) := dk_42 (dk_at dksJ26_putVal_12 10 rfl rfl)
theorem dJ26_putVal_288 : decode cJ26_putVal 288 = .ok (.invokevirtual 117, 3) := dk_182 0 117 (dk_at dksJ26_putVal_12 11 rfl rfl)
theorem dJ26_putVal_291 : decode cJ26_putVal 291 = .ok (.pop, 1) := dk_87 (dk_at dksJ26_putVal_12 14 rfl rfl)
theorem dJ26_putVal_292 : decode cJ26_putVal 292 = .ok (.aload_n 0, 1) := dk_42 (dk_at dksJ26_putVal_12 15 rfl rfl)
theorem dJ26_putVal_293 : decode cJ26_putVal 293 = .ok (.iload 5, 2) := dk_21 5 (dk_at dksJ26_putVal_12 16 rfl rfl)
theorem dJ26_putVal_295 : decode cJ26_putVal 295 = .ok (.invokevirtual 205, 3) := dk_182 0 205 (dk_at dksJ26_putVal_12 18 rfl rfl)
theorem dJ26_putVal_298 : decode cJ26_putVal 298 = .ok (.aconst_null, 1) := dk_1 (dk_at dksJ26_putVal_12 21 rfl rfl)
theorem dJ26_putVal_299 : decode cJ26_putVal 299 = .ok (.areturn, 1) := dk_176 (dk_at dksJ26_putVal_12 22 rfl rfl)
abbrev cJ26_resize : ByteArray := prog_56_method_17_code
def yJ26_resize : MethodName := ⟨RJ26, "resize", "()[Ljava/util/HashMap$Node;"⟩
def dkwJ26_resize_15 : List UInt8 := [25, 6, 176]
abbrev dktJ26_resize_15 : List UInt8 := dkwJ26_resize_15 ++ []
def dkwJ26_resize_14 : List UInt8 := [198, 0, 18, 25, 12, 1, 181, 0, 177, 25, 6, 21, 7, 28, 96, 25, 11, 83, 132, 7, 1, 167, 255, 57]
abbrev dktJ26_resize_14 : List UInt8 := dkwJ26_resize_14 ++ dktJ26_resize_15
def dkwJ26_resize_13 : List UInt8 := [199, 255, 185, 25, 10, 198, 0, 16, 25, 10, 1, 181, 0, 177, 25, 6, 21, 7, 25, 9, 83, 25, 12]
abbrev dktJ26_resize_13 : List UInt8 := dkwJ26_resize_13 ++ dktJ26_resize_14
def dkwJ26_resize_12 : List UInt8 := [25, 8, 58, 11, 167, 0, 10, 25, 12, 25, 8, 181, 0, 177, 25, 8, 58, 12, 25, 13, 89, 58, 8]
abbrev dktJ26_resize_12 : List UInt8 := dkwJ26_resize_12 ++ dktJ26_resize_13
def dkwJ26_resize_11 : List UInt8 := [58, 9, 167, 0, 10, 25, 10, 25, 8, 181, 0, 177, 25, 8, 58, 10, 167, 0, 26, 25, 12, 199, 0, 10]
abbrev dktJ26_resize_11 : List UInt8 := dkwJ26_resize_11 ++ dktJ26_resize_12
def dkwJ26_resize_10 : List UInt8 := [25, 8, 180, 0, 177, 58, 13, 25, 8, 180, 0, 168, 28, 126, 154, 0, 29, 25, 10, 199, 0, 10, 25, 8]
abbrev dktJ26_resize_10 : List UInt8 := dkwJ26_resize_10 ++ dktJ26_resize_11
def dkwJ26_resize_9 : List UInt8 := [42, 25, 6, 21, 7, 28, 182, 0, 211, 167, 0, 127, 1, 58, 9, 1, 58, 10, 1, 58, 11, 1, 58, 12]
abbrev dktJ26_resize_9 : List UInt8 := dkwJ26_resize_9 ++ dktJ26_resize_10
def dkwJ26_resize_8 : List UInt8 := [21, 4, 4, 100, 126, 25, 8, 83, 167, 0, 152, 25, 8, 193, 0, 180, 153, 0, 20, 25, 8, 192, 0, 180]
abbrev dktJ26_resize_8 : List UInt8 := dkwJ26_resize_8 ++ dktJ26_resize_9
def dkwJ26_resize_7 : List UInt8 := [198, 0, 183, 43, 21, 7, 1, 83, 25, 8, 180, 0, 177, 199, 0, 21, 25, 6, 25, 8, 180, 0, 168]
abbrev dktJ26_resize_7 : List UInt8 := dkwJ26_resize_7 ++ dktJ26_resize_8
def dkwJ26_resize_6 : List UInt8 := [181, 0, 105, 43, 198, 0, 208, 3, 54, 7, 21, 7, 28, 162, 0, 199, 43, 21, 7, 50, 89, 58, 8]
abbrev dktJ26_resize_6 : List UInt8 := dkwJ26_resize_6 ++ dktJ26_resize_7
def dkwJ26_resize_5 : List UInt8 := [167, 0, 5, 18, 209, 54, 5, 42, 21, 5, 181, 0, 88, 21, 4, 189, 0, 163, 58, 6, 42, 25, 6]
abbrev dktJ26_resize_5 : List UInt8 := dkwJ26_resize_5 ++ dktJ26_resize_6
def dkwJ26_resize_4 : List UInt8 := [180, 0, 81, 106, 56, 6, 21, 4, 18, 42, 162, 0, 17, 23, 6, 18, 210, 150, 156, 0, 9, 23, 6, 139]
abbrev dktJ26_resize_4 : List UInt8 := dkwJ26_resize_4 ++ dktJ26_resize_5
def dkwJ26_resize_3 : List UInt8 := [54, 4, 167, 0, 11, 16, 16, 54, 4, 16, 12, 54, 5, 21, 5, 154, 0, 38, 21, 4, 134, 42]
abbrev dktJ26_resize_3 : List UInt8 := dkwJ26_resize_3 ++ dktJ26_resize_4
def dkwJ26_resize_2 : List UInt8 := [18, 42, 162, 0, 35, 28, 16, 16, 161, 0, 29, 29, 4, 120, 54, 5, 167, 0, 21, 29, 158, 0, 9, 29]
abbrev dktJ26_resize_2 : List UInt8 := dkwJ26_resize_2 ++ dktJ26_resize_3
def dkwJ26_resize_1 : List UInt8 := [28, 158, 0, 42, 28, 18, 42, 161, 0, 11, 42, 18, 209, 181, 0, 88, 43, 176, 28, 4, 120, 89, 54, 4]
abbrev dktJ26_resize_1 : List UInt8 := dkwJ26_resize_1 ++ dktJ26_resize_2
def dkwJ26_resize_0 : List UInt8 := [42, 180, 0, 105, 76, 43, 199, 0, 7, 3, 167, 0, 5, 43, 190, 61, 42, 180, 0, 88, 62, 3, 54, 5]
abbrev dktJ26_resize_0 : List UInt8 := dkwJ26_resize_0 ++ dktJ26_resize_1
theorem dksJ26_resize_0 : cJ26_resize.data.toList.drop 0 = dktJ26_resize_0 := by decide +kernel
theorem dksJ26_resize_1 : cJ26_resize.data.toList.drop 24 = dktJ26_resize_1 := dk_seg dksJ26_resize_0 24 rfl rfl
theorem dksJ26_resize_2 : cJ26_resize.data.toList.drop 48 = dktJ26_resize_2 := dk_seg dksJ26_resize_1 24 rfl rfl
theorem dksJ26_resize_3 : cJ26_resize.data.toList.drop 72 = dktJ26_resize_3 := dk_seg dksJ26_resize_2 24 rfl rfl
theorem dksJ26_resize_4 : cJ26_resize.data.toList.drop 94 = dktJ26_resize_4 := dk_seg dksJ26_resize_3 22 rfl rfl
theorem dksJ26_resize_5 : cJ26_resize.data.toList.drop 118 = dktJ26_resize_5 := dk_seg dksJ26_resize_4 24 rfl rfl
theorem dksJ26_resize_6 : cJ26_resize.data.toList.drop 141 = dktJ26_resize_6 := dk_seg dksJ26_resize_5 23 rfl rfl
theorem dksJ26_resize_7 : cJ26_resize.data.toList.drop 164 = dktJ26_resize_7 := dk_seg dksJ26_resize_6 23 rfl rfl
theorem dksJ26_resize_8 : cJ26_resize.data.toList.drop 187 = dktJ26_resize_8 := dk_seg dksJ26_resize_7 23 rfl rfl
theorem dksJ26_resize_9 : cJ26_resize.data.toList.drop 211 = dktJ26_resize_9 := dk_seg dksJ26_resize_8 24 rfl rfl
theorem dksJ26_resize_10 : cJ26_resize.data.toList.drop 235 = dktJ26_resize_10 := dk_seg dksJ26_resize_9 24 rfl rfl
theorem dksJ26_resize_11 : cJ26_resize.data.toList.drop 259 = dktJ26_resize_11 := dk_seg dksJ26_resize_10 24 rfl rfl
theorem dksJ26_resize_12 : cJ26_resize.data.toList.drop 283 = dktJ26_resize_12 := dk_seg dksJ26_resize_11 24 rfl rfl
theorem dksJ26_resize_13 : cJ26_resize.data.toList.drop 306 = dktJ26_resize_13 := dk_seg dksJ26_resize_12 23 rfl rfl
theorem dksJ26_resize_14 : cJ26_resize.data.toList.drop 329 = dktJ26_resize_14 := dk_seg dksJ26_resize_13 23 rfl rfl
theorem dksJ26_resize_15 : cJ26_resize.data.toList.drop 353 = dktJ26_resize_15 := dk_seg dksJ26_resize_14 24 rfl rfl
theorem dJ26_resize_0 : decode cJ26_resize 0 = .ok (.aload_n 0, 1) := dk_42 (dk_at dksJ26_resize_0 0 rfl rfl)
theorem dJ26_resize_1 : decode cJ26_resize 1 = .ok (.getfield 105, 3) := dk_180 0 105 (dk_at dksJ26_resize_0 1 rfl rfl)
theorem dJ26_resize_4 : decode cJ26_resize 4 = .ok (.astore_n 1, 1) := dk_76 (dk_at dksJ26_resize_0 4 rfl rfl)
theorem dJ26_resize_5 : decode cJ26_resize 5 = .ok (.aload_n 1, 1) := dk_43 (dk_at dksJ26_resize_0 5 rfl rfl)
theorem dJ26_resize_6 : decode cJ26_resize 6 = .ok (.ifnonnull 7, 3) := dk_199 0 7 (dk_at dksJ26_resize_0 6 rfl rfl)
theorem dJ26_resize_9 : decode cJ26_resize 9 = .ok (.iconst 0, 1) := dk_3 (dk_at dksJ26_resize_0 9 rfl rfl)
theorem dJ26_resize_10 : decode cJ26_resize 10 = .ok (.goto 5, 3) := dk_167 0 5 (dk_at dksJ26_resize_0 10 rfl rfl)
theorem dJ26_resize_13 : decode cJ26_resize 13 = .ok (.aload_n 1, 1) := dk_43 (dk_at dksJ26_resize_0 13 rfl rfl)
theorem dJ26_resize_14 : decode cJ26_resize 14 = .ok (.arraylength, 1) := dk_190 (dk_at dksJ26_resize_0 14 rfl rfl)
theorem dJ26_resize_15 : decode cJ26_resize 15 = .ok (.istore_n 2, 1) := dk_61 (dk_at dksJ26_resize_0 15 rfl rfl)
theorem dJ26_resize_16 : decode cJ26_resize 16 = .ok (.aload_n 0, 1) := dk_42 (dk_at dksJ26_resize_0 16 rfl rfl)
theorem dJ26_resize_17 : decode cJ26_resize 17 = .ok (.getfield 88, 3) := dk_180 0 88 (dk_at dksJ26_resize_0 17 rfl rfl)
theorem dJ26_resize_20 : decode cJ26_resize 20 = .ok (.istore_n 3, 1) := dk_62 (dk_at dksJ26_resize_0 20 rfl rfl)
theorem dJ26_resize_21 : decode cJ26_resize 21 = .ok (.iconst 0, 1) := dk_3 (dk_at dksJ26_resize_0 21 rfl rfl)
theorem dJ26_resize_22 : decode cJ26_resize 22 = .ok (.istore 5, 2) := dk_54 5 (dk_at dksJ26_resize_0 22 rfl rfl)
theorem dJ26_resize_24 : decode cJ26_resize 24 = .ok (.iload_n 2, 1) := dk_28 (dk_at dksJ26_resize_1 0 rfl rfl)
theorem dJ26_resize_25 : decode cJ26_resize 25 = .ok (.ifCond .le 42, 3) := dk_158 0 42 (dk_at dksJ26_resize_1 1 rfl rfl)
theorem dJ26_resize_28 : decode cJ26_resize 28 = .ok (.iload_n 2, 1) := dk_28 (dk_at dksJ26_resize_1 4 rfl rfl)
theorem dJ26_resize_29 : decode cJ26_resize 29 = .ok (.ldc 42, 2) := dk_18 42 (dk_at dksJ26_resize_1 5 rfl rfl)
theorem dJ26_resize_31 : decode cJ26_resize 31 = .ok (.if_icmp .lt 11, 3) := dk_161 0 11 (dk_at dksJ26_resize_1 7 rfl rfl)
theorem dJ26_resize_34 : decode cJ26_resize 34 = .ok (.aload_n 0, 1) := dk_42 (dk_at dksJ26_resize_1 10 rfl rfl)
theorem dJ26_resize_35 : decode cJ26_resize 35 = .ok (.ldc 209, 2) := dk_18 209 (dk_at dksJ26_resize_1 11 rfl rfl)
theorem dJ26_resize_37 : decode cJ26_resize 37 = .ok (.putfield 88, 3) := dk_181 0 88 (dk_at dksJ26_resize_1 13 rfl rfl)
theorem dJ26_resize_40 : decode cJ26_resize 40 = .ok (.aload_n 1, 1) := dk_43 (dk_at dksJ26_resize_1 16 rfl rfl)
theorem dJ26_resize_41 : decode cJ26_resize 41 = .ok (.areturn, 1) := dk_176 (dk_at dksJ26_resize_1 17 rfl rfl)
theorem dJ26_resize_42 : decode cJ26_resize 42 = .ok (.iload_n 2, 1) := dk_28 (dk_at dksJ26_resize_1 18 rfl rfl)
theorem dJ26_resize_43 : decode cJ26_resize 43 = .ok (.iconst 1, 1) := dk_4 (dk_at dksJ26_resize_1 19 rfl rfl)
theorem dJ26_resize_44 : decode cJ26_resize 44 = .ok (.ishl, 1) := dk_120 (dk_at dksJ26_resize_1 20 rfl rfl)
theorem dJ26_resize_45 : decode cJ26_resize 45 = .ok (.dup, 1) := dk_89 (dk_at dksJ26_resize_1 21 rfl rfl)
theorem dJ26_resize_46 : decode cJ26_resize 46 = .ok (.istore 4, 2) := dk_54 4 (dk_at dksJ26_resize_1 22 rfl rfl)
theorem dJ26_resize_48 : decode cJ26_resize 48 = .ok (.ldc 42, 2) := dk_18 42 (dk_at dksJ26_resize_2 0 rfl rfl)
theorem dJ26_resize_50 : decode cJ26_resize 50 = .ok (.if_icmp .ge 35, 3) := dk_162 0 35 (dk_at dksJ26_resize_2 2 rfl rfl)
theorem dJ26_resize_53 : decode cJ26_resize 53 = .ok (.iload_n 2, 1) := dk_28 (dk_at dksJ26_resize_2 5 rfl rfl)
theorem dJ26_resize_54 : decode cJ26_resize 54 = .ok (.bipush 16, 2) := dk_16 16 (dk_at dksJ26_resize_2 6 rfl rfl)
theorem dJ26_resize_56 : decode cJ26_resize 56 = .ok (.if_icmp .lt 29, 3) := dk_161 0 29 (dk_at dksJ26_resize_2 8 rfl rfl)
theorem dJ26_resize_59 : decode cJ26_resize 59 = .ok (.iload_n 3, 1) := dk_29 (dk_at dksJ26_resize_2 11 rfl rfl)
theorem dJ26_resize_60 : decode cJ26_resize 60 = .ok (.iconst 1, 1) := dk_4 (dk_at dksJ26_resize_2 12 rfl rfl)
theorem dJ26_resize_61 : decode cJ26_resize 61 = .ok (.ishl, 1) := dk_120 (dk_at dksJ26_resize_2 13 rfl rfl)
theorem dJ26_resize_62 : decode cJ26_resize 62 = .ok (.istore 5, 2) := dk_54 5 (dk_at dksJ26_resize_2 14 rfl rfl)
theorem dJ26_resize_64 : decode cJ26_resize 64 = .ok (.goto 21, 3) := dk_167 0 21 (dk_at dksJ26_resize_2 16 rfl rfl)
theorem dJ26_resize_67 : decode cJ26_resize 67 = .ok (.iload_n 3, 1) := dk_29 (dk_at dksJ26_resize_2 19 rfl rfl)
theorem dJ26_resize_68 : decode cJ26_resize 68 = .ok (.ifCond .le 9, 3) := dk_158 0 9 (dk_at dksJ26_resize_2 20 rfl rfl)
theorem dJ26_resize_71 : decode cJ26_resize 71 = .ok (.iload_n 3, 1) := dk_29 (dk_at dksJ26_resize_2 23 rfl rfl)
theorem dJ26_resize_72 : decode cJ26_resize 72 = .ok (.istore 4, 2) := dk_54 4 (dk_at dksJ26_resize_3 0 rfl rfl)
theorem dJ26_resize_74 : decode cJ26_resize 74 = .ok (.goto 11, 3) := dk_167 0 11 (dk_at dksJ26_resize_3 2 rfl rfl)
theorem dJ26_resize_77 : decode cJ26_resize 77 = .ok (.bipush 16, 2) := dk_16 16 (dk_at dksJ26_resize_3 5 rfl rfl)
theorem dJ26_resize_79 : decode cJ26_resize 79 = .ok (.istore 4, 2) := dk_54 4 (dk_at dksJ26_resize_3 7 rfl rfl)
theorem dJ26_resize_81 : decode cJ26_resize 81 = .ok (.bipush 12, 2) := dk_16 12 (dk_at dksJ26_resize_3 9 rfl rfl)
theorem dJ26_resize_83 : decode cJ26_resize 83 = .ok (.istore 5, 2) := dk_54 5 (dk_at dksJ26_resize_3 11 rfl rfl)
theorem dJ26_resize_85 : decode cJ26_resize 85 = .ok (.iload 5, 2) := dk_21 5 (dk_at dksJ26_resize_3 13 rfl rfl)
theorem dJ26_resize_87 : decode cJ26_resize 87 = .ok (.ifCond .ne 38, 3) := dk_154 0 38 (dk_at dksJ26_resize_3 15 rfl rfl)
theorem dJ26_resize_90 : decode cJ26_resize 90 = .ok (.iload 4, 2) := dk_21 4 (dk_at dksJ26_resize_3 18 rfl rfl)
theorem dJ26_resize_92 : decode cJ26_resize 92 = .ok (.i2f, 1) := dk_134 (dk_at dksJ26_resize_3 20 rfl rfl)
theorem dJ26_resize_93 : decode cJ26_resize 93 = .ok (.aload_n 0, 1) := dk_42 (dk_at dksJ26_resize_3 21 rfl rfl)
theorem dJ26_resize_94 : decode cJ26_resize 94 = .ok (.getfield 81, 3) := dk_180 0 81 (dk_at dksJ26_resize_4 0 rfl rfl)
theorem dJ26_resize_97 : decode cJ26_resize 97 = .ok (.fmul, 1) := dk_106 (dk_at dksJ26_resize_4 3 rfl rfl)
theorem dJ26_resize_98 : decode cJ26_resize 98 = .ok (.fstore 6, 2) := dk_56 6 (dk_at dksJ26_resize_4 4 rfl rfl)
theorem dJ26_resize_100 : decode cJ26_resize 100 = .ok (.iload 4, 2) := dk_21 4 (dk_at dksJ26_resize_4 6 rfl rfl)
theorem dJ26_resize_102 : decode cJ26_resize 102 = .ok (.ldc 42, 2) := dk_18 42 (dk_at dksJ26_resize_4 8 rfl rfl)
theorem dJ26_resize_104 : decode cJ26_resize 104 = .ok (.if_icmp .ge 17, 3) := dk_162 0 17 (dk_at dksJ26_resize_4 10 rfl rfl)
theorem dJ26_resize_107 : decode cJ26_resize 107 = .ok (.fload 6, 2) := dk_23 6 (dk_at dksJ26_resize_4 13 rfl rfl)
theorem dJ26_resize_109 : decode cJ26_resize 109 = .ok (.ldc 210, 2) := dk_18 210 (dk_at dksJ26_resize_4 15 rfl rfl)
theorem dJ26_resize_111 : decode cJ26_resize 111 = .ok (.fcmp .g, 1) := dk_150 (dk_at dksJ26_resize_4 17 rfl rfl)
theorem dJ26_resize_112 : decode cJ26_resize 112 = .ok (.ifCond .ge 9, 3) := dk_156 0 9 (dk_at dksJ26_resize_4 18 rfl rfl)
theorem dJ26_resize_115 : decode cJ26_resize 115 = .ok (.fload 6, 2) := dk_23 6 (dk_at dksJ26_resize_4 21 rfl rfl)
theorem dJ26_resize_117 : decode cJ26_resize 117 = .ok (.f2i, 1) := dk_139 (dk_at dksJ26_resize_4 23 rfl rfl)
theorem dJ26_resize_118 : decode cJ26_resize 118 = .ok (.goto 5, 3) := dk_167 0 5 (dk_at dksJ26_resize_5 0 rfl rfl)
theorem dJ26_resize_121 : decode cJ26_resize 121 = .ok (.ldc 209, 2) := dk_18 209 (dk_at dksJ26_resize_5 3 rfl rfl)
theorem dJ26_resize_123 : decode cJ26_resize 123 = .ok (.istore 5, 2) := dk_54 5 (dk_at dksJ26_resize_5 5 rfl rfl)
theorem dJ26_resize_125 : decode cJ26_resize 125 = .ok (.aload_n 0, 1) := dk_42 (dk_at dksJ26_resize_5 7 rfl rfl)
theorem dJ26_resize_126 : decode cJ26_resize 126 = .ok (.iload 5, 2) := dk_21 5 (dk_at dksJ26_resize_5 8 rfl rfl)
theorem dJ26_resize_128 : decode cJ26_resize 128 = .ok (.putfield 88, 3) := dk_181 0 88 (dk_at dksJ26_resize_5 10 rfl rfl)
theorem dJ26_resize_131 : decode cJ26_resize 131 = .ok (.iload 4, 2) := dk_21 4 (dk_at dksJ26_resize_5 13 rfl rfl)
theorem dJ26_resize_133 : decode cJ26_resize 133 = .ok (.anewarray 163, 3) := dk_189 0 163 (dk_at dksJ26_resize_5 15 rfl rfl)
theorem dJ26_resize_136 : decode cJ26_resize 136 = .ok (.astore 6, 2) := dk_58 6 (dk_at dksJ26_resize_5 18 rfl rfl)
theorem dJ26_resize_138 : decode cJ26_resize 138 = .ok (.aload_n 0, 1) := dk_42 (dk_at dksJ26_resize_5 20 rfl rfl)
theorem dJ26_resize_139 : decode cJ26_resize 139 = .ok (.aload 6, 2) := dk_25 6 (dk_at dksJ26_resize_5 21 rfl rfl)
theorem dJ26_resize_141 : decode cJ26_resize 141 = .ok (.putfield 105, 3) := dk_181 0 105 (dk_at dksJ26_resize_6 0 rfl rfl)
theorem dJ26_resize_144 : decode cJ26_resize 144 = .ok (.aload_n 1, 1) := dk_43 (dk_at dksJ26_resize_6 3 rfl rfl)
theorem dJ26_resize_145 : decode cJ26_resize 145 = .ok (.ifnull 208, 3) := dk_198 0 208 (dk_at dksJ26_resize_6 4 rfl rfl)
theorem dJ26_resize_148 : decode cJ26_resize 148 = .ok (.iconst 0, 1) := dk_3 (dk_at dksJ26_resize_6 7 rfl rfl)
theorem dJ26_resize_149 : decode cJ26_resize 149 = .ok (.istore 7, 2) := dk_54 7 (dk_at dksJ26_resize_6 8 rfl rfl)
theorem dJ26_resize_151 : decode cJ26_resize 151 = .ok (.iload 7, 2) := dk_21 7 (dk_at dksJ26_resize_6 10 rfl rfl)
theorem dJ26_resize_153 : decode cJ26_resize 153 = .ok (.iload_n 2, 1) := dk_28 (dk_at dksJ26_resize_6 12 rfl rfl)
theorem dJ26_resize_154 : decode cJ26_resize 154 = .ok (.if_icmp .ge 199, 3) := dk_162 0 199 (dk_at dksJ26_resize_6 13 rfl rfl)
theorem dJ26_resize_157 : decode cJ26_resize 157 = .ok (.aload_n 1, 1) := dk_43 (dk_at dksJ26_resize_6 16 rfl rfl)
theorem dJ26_resize_158 : decode cJ26_resize 158 = .ok (.iload 7, 2) := dk_21 7 (dk_at dksJ26_resize_6 17 rfl rfl)
theorem dJ26_resize_160 : decode cJ26_resize 160 = .ok (.aaload, 1) := dk_50 (dk_at dksJ26_resize_6 19 rfl rfl)
theorem dJ26_resize_161 : decode cJ26_resize 161 = .ok (.dup, 1) := dk_89 (dk_at dksJ26_resize_6 20 rfl rfl)
theorem dJ26_resize_162 : decode cJ26_resize 162 = .ok (.astore 8, 2) := dk_58 8 (dk_at dksJ26_resize_6 21 rfl rfl)
theorem dJ26_resize_164 : decode cJ26_resize 164 = .ok (.ifnull 183, 3) := dk_198 0 183 (dk_at dksJ26_resize_7 0 rfl rfl)
theorem dJ26_resize_167 : decode cJ26_resize 167 = .ok (.aload_n 1, 1) := dk_43 (dk_at dksJ26_resize_7 3 rfl rfl)
theorem dJ26_resize_168 : decode cJ26_resize 168 = .ok (.iload 7, 2) := dk_21 7 (dk_at dksJ26_resize_7 4 rfl rfl)
theorem dJ26_resize_170 : decode cJ26_resize 170 = .ok (.aconst_null, 1) := dk_1 (dk_at dksJ26_resize_7 6 rfl rfl)
theorem dJ26_resize_171 : decode cJ26_resize 171 = .ok (.aastore, 1) := dk_83 (dk_at dksJ26_resize_7 7 rfl rfl)
theorem dJ26_resize_172 : decode cJ26_resize 172 = .ok (.aload 8, 2) := dk_25 8 (dk_at dksJ26_resize_7 8 rfl rfl)
theorem dJ26_resize_174 : decode cJ26_resize 174 = .ok (.getfield 177, 3) := dk_180 0 177 (dk_at dksJ26_resize_7 10 rfl rfl)
theorem dJ26_resize_177 : decode cJ26_resize 177 = .ok (.ifnonnull 21, 3) := dk_199 0 21 (dk_at dksJ26_resize_7 13 rfl rfl)
theorem dJ26_resize_180 : decode cJ26_resize 180 = .ok (.aload 6, 2) := dk_25 6 (dk_at dksJ26_resize_7 16 rfl rfl)
theorem dJ26_resize_182 : decode cJ26_resize 182 = .ok (.aload 8, 2) := dk_25 8 (dk_at dksJ26_resize_7 18 rfl rfl)
theorem dJ26_resize_184 : decode cJ26_resize 184 = .ok (.getfield 168, 3) := dk_180 0 168 (dk_at dksJ26_resize_7 20 rfl rfl)
theorem dJ26_resize_187 : decode cJ26_resize 187 = .ok (.iload 4, 2) := dk_21 4 (dk_at dksJ26_resize_8 0 rfl rfl)
theorem dJ26_resize_189 : decode cJ26_resize 189 = .ok (.iconst 1, 1) := dk_4 (dk_at dksJ26_resize_8 2 rfl rfl)
theorem dJ26_resize_190 : decode cJ26_resize 190 = .ok (.isub, 1) := dk_100 (dk_at dksJ26_resize_8 3 rfl rfl)
theorem dJ26_resize_191 : decode cJ26_resize 191 = .ok (.iand, 1) := dk_126 (dk_at dksJ26_resize_8 4 rfl rfl)
theorem dJ26_resize_192 : decode cJ26_resize 192 = .ok (.aload 8, 2) := dk_25 8 (dk_at dksJ26_resize_8 5 rfl rfl)
theorem dJ26_resize_194 : decode cJ26_resize 194 = .ok (.aastore, 1) := dk_83 (dk_at dksJ26_resize_8 7 rfl rfl)
theorem dJ26_resize_195 : decode cJ26_resize 195 = .ok (.goto 152, 3) := dk_167 0 152 (dk_at dksJ26_resize_8 8 rfl rfl)
theorem dJ26_resize_198 : decode cJ26_resize 198 = .ok (.aload 8, 2) := dk_25 8 (dk_at dksJ26_resize_8 11 rfl rfl)
theorem dJ26_resize_200 : decode cJ26_resize 200 = .ok (.instanceof 180, 3) := dk_193 0 180 (dk_at dksJ26_resize_8 13 rfl rfl)
theorem dJ26_resize_203 : decode cJ26_resize 203 = .ok (.ifCond .eq 20, 3) := dk_153 0 20 (dk_at dksJ26_resize_8 16 rfl rfl)
theorem dJ26_resize_206 : decode cJ26_resize 206 = .ok (.aload 8, 2) := dk_25 8 (dk_at dksJ26_resize_8 19 rfl rfl)
theorem dJ26_resize_208 : decode cJ26_resize 208 = .ok (.checkcast 180, 3) := dk_192 0 180 (dk_at dksJ26_resize_8 21 rfl rfl)
theorem dJ26_resize_211 : decode cJ26_resize 211 = .ok (.aload_n 0, 1) := dk_42 (dk_at dksJ26_resize_9 0 rfl rfl)
theorem dJ26_resize_212 : decode cJ26_resize 212 = .ok (.aload 6, 2) := dk_25 6 (dk_at dksJ26_resize_9 1 rfl rfl)
theorem dJ26_resize_214 : decode cJ26_resize 214 = .ok (.iload 7, 2) := dk_21 7 (dk_at dksJ26_resize_9 3 rfl rfl)
theorem dJ26_resize_216 : decode cJ26_resize 216 = .ok (.iload_n 2, 1) := dk_28 (dk_at dksJ26_resize_9 5 rfl rfl)
theorem dJ26_resize_217 : decode cJ26_resize 217 = .ok (.invokevirtual 211, 3) := dk_182 0 211 (dk_at dksJ26_resize_9 6 rfl rfl)
theorem dJ26_resize_220 : decode cJ26_resize 220 = .ok (.goto 127, 3) := dk_167 0 127 (dk_at dksJ26_resize_9 9 rfl rfl)
theorem dJ26_resize_223 : decode cJ26_resize 223 = .ok (.aconst_null, 1) := dk_1 (dk_at dksJ26_resize_9 12 rfl rfl)
theorem dJ26_resize_224 : decode cJ26_resize 224 = .ok (.astore 9, 2) := dk_58 9 (dk_at dksJ26_resize_9 13 rfl rfl)
theorem dJ26_resize_226 : decode cJ26_resize 226 = .ok (.aconst_null, 1) := dk_1 (dk_at dksJ26_resize_9 15 rfl rfl)
theorem dJ26_resize_227 : decode cJ26_resize 227 = .ok (.astore 10, 2) := dk_58 10 (dk_at dksJ26_resize_9 16 rfl rfl)
theorem dJ26_resize_229 : decode cJ26_resize 229 = .ok (.aconst_null, 1) := dk_1 (dk_at dksJ26_resize_9 18 rfl rfl)
theorem dJ26_resize_230 : decode cJ26_resize 230 = .ok (.astore 11, 2) := dk_58 11 (dk_at dksJ26_resize_9 19 rfl rfl)
theorem dJ26_resize_232 : decode cJ26_resize 232 = .ok (.aconst_null, 1) := dk_1 (dk_at dksJ26_resize_9 21 rfl rfl)
theorem dJ26_resize_233 : decode cJ26_resize 233 = .ok (.astore 12, 2) := dk_58 12 (dk_at dksJ26_resize_9 22 rfl rfl)
theorem dJ26_resize_235 : decode cJ26_resize 235 = .ok (.aload 8, 2) := dk_25 8 (dk_at dksJ26_resize_10 0 rfl rfl)
theorem dJ26_resize_237 : decode cJ26_resize 237 = .ok (.getfield 177, 3) := dk_180 0 177 (dk_at dksJ26_resize_10 2 rfl rfl)
theorem dJ26_resize_240 : decode cJ26_resize 240 = .ok (.astore 13, 2) := dk_58 13 (dk_at dksJ26_resize_10 5 rfl rfl)
theorem dJ26_resize_242 : decode cJ26_resize 242 = .ok (.aload 8, 2) := dk_25 8 (dk_at dksJ26_resize_10 7 rfl rfl)
theorem dJ26_resize_244 : decode cJ26_resize 244 = .ok (.getfield 168, 3) := dk_180 0 168 (dk_at dksJ26_resize_10 9 rfl rfl)
theorem dJ26_resize_247 : decode cJ26_resize 247 = .ok (.iload_n 2, 1) := dk_28 (dk_at dksJ26_resize_10 12 rfl rfl)
theorem dJ26_resize_248 : decode cJ26_resize 248 = .ok (.iand, 1) := dk_126 (dk_at dksJ26_resize_10 13 rfl rfl)
theorem dJ26_resize_249 : decode cJ26_resize 249 = .ok (.ifCond .ne 29, 3) := dk_154 0 29 (dk_at dksJ26_resize_10 14 rfl rfl)
theorem dJ26_resize_252 : decode cJ26_resize 252 = .ok (.aload 10, 2) := dk_25 10 (dk_at dksJ26_resize_10 17 rfl rfl)
theorem dJ26_resize_254 : decode cJ26_resize 254 = .ok (.ifnonnull 10, 3) := dk_199 0 10 (dk_at dksJ26_resize_10 19 rfl rfl)
theorem dJ26_resize_257 : decode cJ26_resize 257 = .ok (.aload 8, 2) := dk_25 8 (dk_at dksJ26_resize_10 22 rfl rfl)
theorem dJ26_resize_259 : decode cJ26_resize 259 = .ok (.astore 9, 2) := dk_58 9 (dk_at dksJ26_resize_11 0 rfl rfl)
theorem dJ26_resize_261 : decode cJ26_resize 261 = .ok (.goto 10, 3) := dk_167 0 10 (dk_at dksJ26_resize_11 2 rfl rfl)
theorem dJ26_resize_264 : decode cJ26_resize 264 = .ok (.aload 10, 2) := dk_25 10 (dk_at dksJ26_resize_11 5 rfl rfl)
theorem dJ26_resize_266 : decode cJ26_resize 266 = .ok (.aload 8, 2) := dk_25 8 (dk_at dksJ26_resize_11 7 rfl rfl)
theorem dJ26_resize_268 : decode cJ26_resize 268 = .ok (.putfield 177, 3) := dk_181 0 177 (dk_at dksJ26_resize_11 9 rfl rfl)
theorem dJ26_resize_271 : decode cJ26_resize 271 = .ok (.aload 8, 2) := dk_25 8 (dk_at dksJ26_resize_11 12 rfl rfl)
theorem dJ26_resize_273 : decode cJ26_resize 273 = .ok (.astore 10, 2) := dk_58 10 (dk_at dksJ26_resize_11 14 rfl rfl)
theorem dJ26_resize_275 : decode cJ26_resize 275 = .ok (.goto 26, 3) := dk_167 0 26 (dk_at dksJ26_resize_11 16 rfl rfl)
theorem dJ26_resize_278 : decode cJ26_resize 278 = .ok (.aload 12, 2) := dk_25 12 (dk_at dksJ26_resize_11 19 rfl rfl)
theorem dJ26_resize_280 : decode cJ26_resize 280 = .ok (.ifnonnull 10, 3) := dk_199 0 10 (dk_at dksJ26_resize_11 21 rfl rfl)
theorem dJ26_resize_283 : decode cJ26_resize 283 = .ok (.aload 8, 2) := dk_25 8 (dk_at dksJ26_resize_12 0 rfl rfl)
theorem dJ26_resize_285 : decode cJ26_resize 285 = .ok (.astore 11, 2) := dk_58 11 (dk_at dksJ26_resize_12 2 rfl rfl)
theorem dJ26_resize_287 : decode cJ26_resize 287 = .ok (.goto 10, 3) := dk_167 0 10 (dk_at dksJ26_resize_12 4 rfl rfl)
theorem dJ26_resize_290 : decode cJ26_resize 290 = .ok (.aload 12, 2) := dk_25 12 (dk_at dksJ26_resize_12 7 rfl rfl)
theorem dJ26_resize_292 : decode cJ26_resize 292 = .ok (.aload 8, 2) := dk_25 8 (dk_at dksJ26_resize_12 9 rfl rfl)
theorem dJ26_resize_294 : decode cJ26_resize 294 = .ok (.putfield 177, 3) := dk_181 0 177 (dk_at dksJ26_resize_12 11 rfl rfl)
theorem dJ26_resize_297 : decode cJ26_resize 297 = .ok (.aload 8, 2) := dk_25 8 (dk_at dksJ26_resize_12 14 rfl rfl)
theorem dJ26_resize_299 : decode cJ26_resize 299 = .ok (.astore 12, 2) := dk_58 12 (dk_at dksJ26_resize_12 16 rfl rfl)
theorem dJ26_resize_301 : decode cJ26_resize 301 = .ok (.aload 13, 2) := dk_25 13 (dk_at dksJ26_resize_12 18 rfl rfl)
theorem dJ26_resize_303 : decode cJ26_resize 303 = .ok (.dup, 1) := dk_89 (dk_at dksJ26_resize_12 20 rfl rfl)
theorem dJ26_resize_304 : decode cJ26_resize 304 = .ok (.astore 8, 2) := dk_58 8 (dk_at dksJ26_resize_12 21 rfl rfl)
theorem dJ26_resize_306 : decode cJ26_resize 306 = .ok (.ifnonnull (-71), 3) := dk_199 255 185 (dk_at dksJ26_resize_13 0 rfl rfl)
theorem dJ26_resize_309 : decode cJ26_resize 309 = .ok (.aload 10, 2) := dk_25 10 (dk_at dksJ26_resize_13 3 rfl rfl)
theorem dJ26_resize_311 : decode cJ26_resize 311 = .ok (.ifnull 16, 3) := dk_198 0 16 (dk_at dksJ26_resize_13 5 rfl rfl)
theorem dJ26_resize_314 : decode cJ26_resize 314 = .ok (.aload 10, 2) := dk_25 10 (dk_at dksJ26_resize_13 8 rfl rfl)
theorem dJ26_resize_316 : decode cJ26_resize 316 = .ok (.aconst_null, 1) := dk_1 (dk_at dksJ26_resize_13 10 rfl rfl)
theorem dJ26_resize_317 : decode cJ26_resize 317 = .ok (.putfield 177, 3) := dk_181 0 177 (dk_at dksJ26_resize_13 11 rfl rfl)
theorem dJ26_resize_320 : decode cJ26_resize 320 = .ok (.aload 6, 2) := dk_25 6 (dk_at dksJ26_resize_13 14 rfl rfl)
theorem dJ26_resize_322 : decode cJ26_resize 322 = .ok (.iload 7, 2) := dk_21 7 (dk_at dksJ26_resize_13 16 rfl rfl)
theorem dJ26_resize_324 : decode cJ26_resize 324 = .ok (.aload 9, 2) := dk_25 9 (dk_at dksJ26_resize_13 18 rfl rfl)
theorem dJ26_resize_326 : decode cJ26_resize 326 = .ok (.aastore, 1) := dk_83 (dk_at dksJ26_resize_13 20 rfl rfl)
theorem dJ26_resize_327 : decode cJ26_resize 327 = .ok (.aload 12, 2) := dk_25 12 (dk_at dksJ26_resize_13 21 rfl rfl)
theorem dJ26_resize_329 : decode cJ26_resize 329 = .ok (.ifnull 18, 3) := dk_198 0 18 (dk_at dksJ26_resize_14 0 rfl rfl)
theorem dJ26_resize_332 : decode cJ26_resize 332 = .ok (.aload 12, 2) := dk_25 12 (dk_at dksJ26_resize_14 3 rfl rfl)
theorem dJ26_resize_334 : decode cJ26_resize 334 = .ok (.aconst_null, 1) := dk_1 (dk_at dksJ26_resize_14 5 rfl rfl)
theorem dJ26_resize_335 : decode cJ26_resize 335 = .ok (.putfield 177, 3) := dk_181 0 177 (dk_at dksJ26_resize_14 6 rfl rfl)
theorem dJ26_resize_338 : decode cJ26_resize 338 = .ok (.aload 6, 2) := dk_25 6 (dk_at dksJ26_resize_14 9 rfl rfl)
theorem dJ26_resize_340 : decode cJ26_resize 340 = .ok (.iload 7, 2) := dk_21 7 (dk_at dksJ26_resize_14 11 rfl rfl)
theorem dJ26_resize_342 : decode cJ26_resize 342 = .ok (.iload_n 2, 1) := dk_28 (dk_at dksJ26_resize_14 13 rfl rfl)
theorem dJ26_resize_343 : decode cJ26_resize 343 = .ok (.iadd, 1) := dk_96 (dk_at dksJ26_resize_14 14 rfl rfl)
theorem dJ26_resize_344 : decode cJ26_resize 344 = .ok (.aload 11, 2) := dk_25 11 (dk_at dksJ26_resize_14 15 rfl rfl)
theorem dJ26_resize_346 : decode cJ26_resize 346 = .ok (.aastore, 1) := dk_83 (dk_at dksJ26_resize_14 17 rfl rfl)
theorem dJ26_resize_347 : decode cJ26_resize 347 = .ok (.iinc 7 1, 3) := dk_132 7 1 (dk_at dksJ26_resize_14 18 rfl rfl)
theorem dJ26_resize_350 : decode cJ26_resize 350 = .ok (.goto (-199), 3) := dk_167 255 57 (dk_at dksJ26_resize_14 21 rfl rfl)
theorem dJ26_resize_353 : decode cJ26_resize 353 = .ok (.aload 6, 2) := dk_25 6 (dk_at dksJ26_resize_15 0 rfl rfl)
theorem dJ26_resize_355 : decode cJ26_resize 355 = .ok (.areturn, 1) := dk_176 (dk_at dksJ26_resize_15 2 rfl rfl)
abbrev cJ26_replacementNode : ByteArray := prog_56_method_47_code
def yJ26_replacementNode : MethodName := ⟨RJ26, "replacementNode", "(Ljava/util/HashMap$Node;Ljava/util/HashMap$Node;)Ljava/util/HashMap$Node;"⟩
def dkwJ26_replacementNode_0 : List UInt8 := [187, 0, 163, 89, 43, 180, 0, 168, 43, 180, 0, 170, 43, 180, 0, 162, 44, 183, 1, 119, 176]
abbrev dktJ26_replacementNode_0 : List UInt8 := dkwJ26_replacementNode_0 ++ []
theorem dksJ26_replacementNode_0 : cJ26_replacementNode.data.toList.drop 0 = dktJ26_replacementNode_0 := by decide +kernel
theorem dJ26_replacementNode_0 : decode cJ26_replacementNode 0 = .ok (.new 163, 3) := dk_187 0 163 (dk_at dksJ26_replacementNode_0 0 rfl rfl)
theorem dJ26_replacementNode_3 : decode cJ26_replacementNode 3 = .ok (.dup, 1) := dk_89 (dk_at dksJ26_replacementNode_0 3 rfl rfl)
theorem dJ26_replacementNode_4 : decode cJ26_replacementNode 4 = .ok (.aload_n 1, 1) := dk_43 (dk_at dksJ26_replacementNode_0 4 rfl rfl)
theorem dJ26_replacementNode_5 : decode cJ26_replacementNode 5 = .ok (.getfield 168, 3) := dk_180 0 168 (dk_at dksJ26_replacementNode_0 5 rfl rfl)
theorem dJ26_replacementNode_8 : decode cJ26_replacementNode 8 = .ok (.aload_n 1, 1) := dk_43 (dk_at dksJ26_replacementNode_0 8 rfl rfl)
theorem dJ26_replacementNode_9 : decode cJ26_replacementNode 9 = .ok (.getfield 170, 3) := dk_180 0 170 (dk_at dksJ26_replacementNode_0 9 rfl rfl)
theorem dJ26_replacementNode_12 : decode cJ26_replacementNode 12 = .ok (.aload_n 1, 1) := dk_43 (dk_at dksJ26_replacementNode_0 12 rfl rfl)
theorem dJ26_replacementNode_13 : decode cJ26_replacementNode 13 = .ok (.getfield 162, 3) := dk_180 0 162 (dk_at dksJ26_replacementNode_0 13 rfl rfl)
theorem dJ26_replacementNode_16 : decode cJ26_replacementNode 16 = .ok (.aload_n 2, 1) := dk_44 (dk_at dksJ26_replacementNode_0 16 rfl rfl)
theorem dJ26_replacementNode_17 : decode cJ26_replacementNode 17 = .ok (.invokespecial 375, 3) := dk_183 1 119 (dk_at dksJ26_replacementNode_0 17 rfl rfl)
theorem dJ26_replacementNode_20 : decode cJ26_replacementNode 20 = .ok (.areturn, 1) := dk_176 (dk_at dksJ26_replacementNode_0 20 rfl rfl)
abbrev cJ26_comparableClassFor : ByteArray := prog_56_method_2_code
def yJ26_comparableClassFor : MethodName := ⟨RJ26, "comparableClassFor", "(Ljava/lang/Object;)Ljava/lang/Class;"⟩
def dkwJ26_comparableClassFor_4 : List UInt8 := [4, 160, 0, 12, 45, 3, 50, 43, 166, 0, 5, 43, 176, 132, 7, 1, 167, 255, 186, 1, 176]
abbrev dktJ26_comparableClassFor_4 : List UInt8 := dkwJ26_comparableClassFor_4 ++ []
def dkwJ26_comparableClassFor_3 : List UInt8 := [185, 0, 23, 1, 0, 18, 7, 166, 0, 30, 25, 4, 185, 0, 27, 1, 0, 89, 78, 198, 0, 18, 45, 190]
abbrev dktJ26_comparableClassFor_3 : List UInt8 := dkwJ26_comparableClassFor_3 ++ dktJ26_comparableClassFor_4
def dkwJ26_comparableClassFor_2 : List UInt8 := [25, 5, 21, 7, 50, 58, 8, 25, 8, 193, 0, 21, 153, 0, 48, 25, 8, 192, 0, 21, 89, 58, 4]
abbrev dktJ26_comparableClassFor_2 : List UInt8 := dkwJ26_comparableClassFor_2 ++ dktJ26_comparableClassFor_3
def dkwJ26_comparableClassFor_1 : List UInt8 := [89, 77, 198, 0, 87, 44, 58, 5, 25, 5, 190, 54, 6, 3, 54, 7, 21, 7, 21, 6, 162, 0, 69]
abbrev dktJ26_comparableClassFor_1 : List UInt8 := dkwJ26_comparableClassFor_1 ++ dktJ26_comparableClassFor_2
def dkwJ26_comparableClassFor_0 : List UInt8 := [42, 193, 0, 7, 153, 0, 109, 42, 182, 0, 9, 89, 76, 18, 13, 166, 0, 5, 43, 176, 43, 182, 0, 15]
abbrev dktJ26_comparableClassFor_0 : List UInt8 := dkwJ26_comparableClassFor_0 ++ dktJ26_comparableClassFor_1
theorem dksJ26_comparableClassFor_0 : cJ26_comparableClassFor.data.toList.drop 0 = dktJ26_comparableClassFor_0 := by decide +kernel
theorem dksJ26_comparableClassFor_1 : cJ26_comparableClassFor.data.toList.drop 24 = dktJ26_comparableClassFor_1 := dk_seg dksJ26_comparableClassFor_0 24 rfl rfl
theorem dksJ26_comparableClassFor_2 : cJ26_comparableClassFor.data.toList.drop 47 = dktJ26_comparableClassFor_2 := dk_seg dksJ26_comparableClassFor_1 23 rfl rfl
theorem dksJ26_comparableClassFor_3 : cJ26_comparableClassFor.data.toList.drop 70 = dktJ26_comparableClassFor_3 := dk_seg dksJ26_comparableClassFor_2 23 rfl rfl
theorem dksJ26_comparableClassFor_4 : cJ26_comparableClassFor.data.toList.drop 94 = dktJ26_comparableClassFor_4 := dk_seg dksJ26_comparableClassFor_3 24 rfl rfl
theorem dJ26_comparableClassFor_0 : decode cJ26_comparableClassFor 0 = .ok (.aload_n 0, 1) := dk_42 (dk_at dksJ26_comparableClassFor_0 0 rfl rfl)
theorem dJ26_comparableClassFor_1 : decode cJ26_comparableClassFor 1 = .ok (.instanceof 7, 3) := dk_193 0 7 (dk_at dksJ26_comparableClassFor_0 1 rfl rfl)
theorem dJ26_comparableClassFor_4 : decode cJ26_comparableClassFor 4 = .ok (.ifCond .eq 109, 3) := dk_153 0 109 (dk_at dksJ26_comparableClassFor_0 4 rfl rfl)
theorem dJ26_comparableClassFor_7 : decode cJ26_comparableClassFor 7 = .ok (.aload_n 0, 1) := dk_42 (dk_at dksJ26_comparableClassFor_0 7 rfl rfl)
theorem dJ26_comparableClassFor_8 : decode cJ26_comparableClassFor 8 = .ok (.invokevirtual 9, 3) := dk_182 0 9 (dk_at dksJ26_comparableClassFor_0 8 rfl rfl)
theorem dJ26_comparableClassFor_11 : decode cJ26_comparableClassFor 11 = .ok (.dup, 1) := dk_89 (dk_at dksJ26_comparableClassFor_0 11 rfl rfl)
theorem dJ26_comparableClassFor_12 : decode cJ26_comparableClassFor 12 = .ok (.astore_n 1, 1) := dk_76 (dk_at dksJ26_comparableClassFor_0 12 rfl rfl)
theorem dJ26_comparableClassFor_13 : decode cJ26_comparableClassFor 13 = .ok (.ldc 13, 2) := dk_18 13 (dk_at dksJ26_comparableClassFor_0 13 rfl rfl)
theorem dJ26_comparableClassFor_15 : decode cJ26_comparableClassFor 15 = .ok (.if_acmp .ne 5, 3) := dk_166 0 5 (dk_at dksJ26_comparableClassFor_0 15 rfl rfl)
theorem dJ26_comparableClassFor_18 : decode cJ26_comparableClassFor 18 = .ok (.aload_n 1, 1) := dk_43 (dk_at dksJ26_comparableClassFor_0 18 rfl rfl)
theorem dJ26_comparableClassFor_19 : decode cJ26_comparableClassFor 19 = .ok (.areturn, 1) := dk_176 (dk_at dksJ26_comparableClassFor_0 19 rfl rfl)
theorem dJ26_comparableClassFor_20 : decode cJ26_comparableClassFor 20 = .ok (.aload_n 1, 1) := dk_43 (dk_at dksJ26_comparableClassFor_0 20 rfl rfl)
theorem dJ26_comparableClassFor_21 : decode cJ26_comparableClassFor 21 = .ok (.invokevirtual 15, 3) := dk_182 0 15 (dk_at dksJ26_comparableClassFor_0 21 rfl rfl)
theorem dJ26_comparableClassFor_24 : decode cJ26_comparableClassFor 24 = .ok (.dup, 1) := dk_89 (dk_at dksJ26_comparableClassFor_1 0 rfl rfl)
theorem dJ26_comparableClassFor_25 : decode cJ26_comparableClassFor 25 = .ok (.astore_n 2, 1) := dk_77 (dk_at dksJ26_comparableClassFor_1 1 rfl rfl)
theorem dJ26_comparableClassFor_26 : decode cJ26_comparableClassFor 26 = .ok (.ifnull 87, 3) := dk_198 0 87 (dk_at dksJ26_comparableClassFor_1 2 rfl rfl)
theorem dJ26_comparableClassFor_29 : decode cJ26_comparableClassFor 29 = .ok (.aload_n 2, 1) := dk_44 (dk_at dksJ26_comparableClassFor_1 5 rfl rfl)
theorem dJ26_comparableClassFor_30 : decode cJ26_comparableClassFor 30 = .ok (.astore 5, 2) := dk_58 5 (dk_at dksJ26_comparableClassFor_1 6 rfl rfl)
theorem dJ26_comparableClassFor_32 : decode cJ26_comparableClassFor 32 = .ok (.aload 5, 2) := dk_25 5 (dk_at dksJ26_comparableClassFor_1 8 rfl rfl)
theorem dJ26_comparableClassFor_34 : decode cJ26_comparableClassFor 34 = .ok (.arraylength, 1) := dk_190 (dk_at dksJ26_comparableClassFor_1 10 rfl rfl)
theorem dJ26_comparableClassFor_35 : decode cJ26_comparableClassFor 35 = .ok (.istore 6, 2) := dk_54 6 (dk_at dksJ26_comparableClassFor_1 11 rfl rfl)
theorem dJ26_comparableClassFor_37 : decode cJ26_comparableClassFor 37 = .ok (.iconst 0, 1) := dk_3 (dk_at dksJ26_comparableClassFor_1 13 rfl rfl)
theorem dJ26_comparableClassFor_38 : decode cJ26_comparableClassFor 38 = .ok (.istore 7, 2) := dk_54 7 (dk_at dksJ26_comparableClassFor_1 14 rfl rfl)
theorem dJ26_comparableClassFor_40 : decode cJ26_comparableClassFor 40 = .ok (.iload 7, 2) := dk_21 7 (dk_at dksJ26_comparableClassFor_1 16 rfl rfl)
theorem dJ26_comparableClassFor_42 : decode cJ26_comparableClassFor 42 = .ok (.iload 6, 2) := dk_21 6 (dk_at dksJ26_comparableClassFor_1 18 rfl rfl)
theorem dJ26_comparableClassFor_44 : decode cJ26_comparableClassFor 44 = .ok (.if_icmp .ge 69, 3) := dk_162 0 69 (dk_at dksJ26_comparableClassFor_1 20 rfl rfl)
theorem dJ26_comparableClassFor_47 : decode cJ26_comparableClassFor 47 = .ok (.aload 5, 2) := dk_25 5 (dk_at dksJ26_comparableClassFor_2 0 rfl rfl)
theorem dJ26_comparableClassFor_49 : decode cJ26_comparableClassFor 49 = .ok (.iload 7, 2) := dk_21 7 (dk_at dksJ26_comparableClassFor_2 2 rfl rfl)
theorem dJ26_comparableClassFor_51 : decode cJ26_comparableClassFor 51 = .ok (.aaload, 1) := dk_50 (dk_at dksJ26_comparableClassFor_2 4 rfl rfl)
theorem dJ26_comparableClassFor_52 : decode cJ26_comparableClassFor 52 = .ok (.astore 8, 2) := dk_58 8 (dk_at dksJ26_comparableClassFor_2 5 rfl rfl)
theorem dJ26_comparableClassFor_54 : decode cJ26_comparableClassFor 54 = .ok (.aload 8, 2) := dk_25 8 (dk_at dksJ26_comparableClassFor_2 7 rfl rfl)
theorem dJ26_comparableClassFor_56 : decode cJ26_comparableClassFor 56 = .ok (.instanceof 21, 3) := dk_193 0 21 (dk_at dksJ26_comparableClassFor_2 9 rfl rfl)
theorem dJ26_comparableClassFor_59 : decode cJ26_comparableClassFor 59 = .ok (.ifCond .eq 48, 3) := dk_153 0 48 (dk_at dksJ26_comparableClassFor_2 12 rfl rfl)
theorem dJ26_comparableClassFor_62 : decode cJ26_comparableClassFor 62 = .ok (.aload 8, 2) := dk_25 8 (dk_at dksJ26_comparableClassFor_2 15 rfl rfl)
theorem dJ26_comparableClassFor_64 : decode cJ26_comparableClassFor 64 = .ok (.checkcast 21, 3) := dk_192 0 21 (dk_at dksJ26_comparableClassFor_2 17 rfl rfl)
theorem dJ26_comparableClassFor_67 : decode cJ26_comparableClassFor 67 = .ok (.dup, 1) := dk_89 (dk_at dksJ26_comparableClassFor_2 20 rfl rfl)
theorem dJ26_comparableClassFor_68 : decode cJ26_comparableClassFor 68 = .ok (.astore 4, 2) := dk_58 4 (dk_at dksJ26_comparableClassFor_2 21 rfl rfl)
theorem dJ26_comparableClassFor_70 : decode cJ26_comparableClassFor 70 = .ok (.invokeinterface 23 1, 5) := by decide +kernel
theorem dJ26_comparableClassFor_75 : decode cJ26_comparableClassFor 75 = .ok (.ldc 7, 2) := dk_18 7 (dk_at dksJ26_comparableClassFor_3 5 rfl rfl)
theorem dJ26_comparableClassFor_77 : decode cJ26_comparableClassFor 77 = .ok (.if_acmp .ne 30, 3) := dk_166 0 30 (dk_at dksJ26_comparableClassFor_3 7 rfl rfl)
theorem dJ26_comparableClassFor_80 : decode cJ26_comparableClassFor 80 = .ok (.aload 4, 2) := dk_25 4 (dk_at dksJ26_comparableClassFor_3 10 rfl rfl)
theorem dJ26_comparableClassFor_82 : decode cJ26_comparableClassFor 82 = .ok (.invokeinterface 27 1, 5) := by decide +kernel
theorem dJ26_comparableClassFor_87 : decode cJ26_comparableClassFor 87 = .ok (.dup, 1) := dk_89 (dk_at dksJ26_comparableClassFor_3 17 rfl rfl)
theorem dJ26_comparableClassFor_88 : decode cJ26_comparableClassFor 88 = .ok (.astore_n 3, 1) := dk_78 (dk_at dksJ26_comparableClassFor_3 18 rfl rfl)
theorem dJ26_comparableClassFor_89 : decode cJ26_comparableClassFor 89 = .ok (.ifnull 18, 3) := dk_198 0 18 (dk_at dksJ26_comparableClassFor_3 19 rfl rfl)
theorem dJ26_comparableClassFor_92 : decode cJ26_comparableClassFor 92 = .ok (.aload_n 3, 1) := dk_45 (dk_at dksJ26_comparableClassFor_3 22 rfl rfl)
theorem dJ26_comparableClassFor_93 : decode cJ26_comparableClassFor 93 = .ok (.arraylength, 1) := dk_190 (dk_at dksJ26_comparableClassFor_3 23 rfl rfl)
theorem dJ26_comparableClassFor_94 : decode cJ26_comparableClassFor 94 = .ok (.iconst 1, 1) := dk_4 (dk_at dksJ26_comparableClassFor_4 0 rfl rfl)
theorem dJ26_comparableClassFor_95 : decode cJ26_comparableClassFor 95 = .ok (.if_icmp .ne 12, 3) := dk_160 0 12 (dk_at dksJ26_comparableClassFor_4 1 rfl rfl)
theorem dJ26_comparableClassFor_98 : decode cJ26_comparableClassFor 98 = .ok (.aload_n 3, 1) := dk_45 (dk_at dksJ26_comparableClassFor_4 4 rfl rfl)
theorem dJ26_comparableClassFor_99 : decode cJ26_comparableClassFor 99 = .ok (.iconst 0, 1) := dk_3 (dk_at dksJ26_comparableClassFor_4 5 rfl rfl)
theorem dJ26_comparableClassFor_100 : decode cJ26_comparableClassFor 100 = .ok (.aaload, 1) := dk_50 (dk_at dksJ26_comparableClassFor_4 6 rfl rfl)
theorem dJ26_comparableClassFor_101 : decode cJ26_comparableClassFor 101 = .ok (.aload_n 1, 1) := dk_43 (dk_at dksJ26_comparableClassFor_4 7 rfl rfl)
theorem dJ26_comparableClassFor_102 : decode cJ26_comparableClassFor 102 = .ok (.if_acmp .ne 5, 3) := dk_166 0 5 (dk_at dksJ26_comparableClassFor_4 8 rfl rfl)
theorem dJ26_comparableClassFor_105 : decode cJ26_comparableClassFor 105 = .ok (.aload_n 1, 1) := dk_43 (dk_at dksJ26_comparableClassFor_4 11 rfl rfl)
theorem dJ26_comparableClassFor_106 : decode cJ26_comparableClassFor 106 = .ok (.areturn, 1) := dk_176 (dk_at dksJ26_comparableClassFor_4 12 rfl rfl)
theorem dJ26_comparableClassFor_107 : decode cJ26_comparableClassFor 107 = .ok (.iinc 7 1, 3) := dk_132 7 1 (dk_at dksJ26_comparableClassFor_4 13 rfl rfl)
theorem dJ26_comparableClassFor_110 : decode cJ26_comparableClassFor 110 = .ok (.goto (-70), 3) := dk_167 255 186 (dk_at dksJ26_comparableClassFor_4 16 rfl rfl)
theorem dJ26_comparableClassFor_113 : decode cJ26_comparableClassFor 113 = .ok (.aconst_null, 1) := dk_1 (dk_at dksJ26_comparableClassFor_4 19 rfl rfl)
theorem dJ26_comparableClassFor_114 : decode cJ26_comparableClassFor 114 = .ok (.areturn, 1) := dk_176 (dk_at dksJ26_comparableClassFor_4 20 rfl rfl)
abbrev cJ26_compareComparables : ByteArray := prog_56_method_3_code
def yJ26_compareComparables : MethodName := ⟨RJ26, "compareComparables", "(Ljava/lang/Class;Ljava/lang/Object;Ljava/lang/Object;)I"⟩
def dkwJ26_compareComparables_1 : List UInt8 := [185, 0, 30, 2, 0, 172]
abbrev dktJ26_compareComparables_1 : List UInt8 := dkwJ26_compareComparables_1 ++ []
def dkwJ26_compareComparables_0 : List UInt8 := [44, 198, 0, 11, 44, 182, 0, 9, 42, 165, 0, 7, 3, 167, 0, 13, 43, 192, 0, 7, 44]
abbrev dktJ26_compareComparables_0 : List UInt8 := dkwJ26_compareComparables_0 ++ dktJ26_compareComparables_1
theorem dksJ26_compareComparables_0 : cJ26_compareComparables.data.toList.drop 0 = dktJ26_compareComparables_0 := by decide +kernel
theorem dksJ26_compareComparables_1 : cJ26_compareComparables.data.toList.drop 21 = dktJ26_compareComparables_1 := dk_seg dksJ26_compareComparables_0 21 rfl rfl
theorem dJ26_compareComparables_0 : decode cJ26_compareComparables 0 = .ok (.aload_n 2, 1) := dk_44 (dk_at dksJ26_compareComparables_0 0 rfl rfl)
theorem dJ26_compareComparables_1 : decode cJ26_compareComparables 1 = .ok (.ifnull 11, 3) := dk_198 0 11 (dk_at dksJ26_compareComparables_0 1 rfl rfl)
theorem dJ26_compareComparables_4 : decode cJ26_compareComparables 4 = .ok (.aload_n 2, 1) := dk_44 (dk_at dksJ26_compareComparables_0 4 rfl rfl)
theorem dJ26_compareComparables_5 : decode cJ26_compareComparables 5 = .ok (.invokevirtual 9, 3) := dk_182 0 9 (dk_at dksJ26_compareComparables_0 5 rfl rfl)
theorem dJ26_compareComparables_8 : decode cJ26_compareComparables 8 = .ok (.aload_n 0, 1) := dk_42 (dk_at dksJ26_compareComparables_0 8 rfl rfl)
theorem dJ26_compareComparables_9 : decode cJ26_compareComparables 9 = .ok (.if_acmp .eq 7, 3) := dk_165 0 7 (dk_at dksJ26_compareComparables_0 9 rfl rfl)
theorem dJ26_compareComparables_12 : decode cJ26_compareComparables 12 = .ok (.iconst 0, 1) := dk_3 (dk_at dksJ26_compareComparables_0 12 rfl rfl)
theorem dJ26_compareComparables_13 : decode cJ26_compareComparables 13 = .ok (.goto 13, 3) := dk_167 0 13 (dk_at dksJ26_compareComparables_0 13 rfl rfl)
theorem dJ26_compareComparables_16 : decode cJ26_compareComparables 16 = .ok (.aload_n 1, 1) := dk_43 (dk_at dksJ26_compareComparables_0 16 rfl rfl)
theorem dJ26_compareComparables_17 : decode cJ26_compareComparables 17 = .ok (.checkcast 7, 3) := dk_192 0 7 (dk_at dksJ26_compareComparables_0 17 rfl rfl)
theorem dJ26_compareComparables_20 : decode cJ26_compareComparables 20 = .ok (.aload_n 2, 1) := dk_44 (dk_at dksJ26_compareComparables_0 20 rfl rfl)
theorem dJ26_compareComparables_21 : decode cJ26_compareComparables 21 = .ok (.invokeinterface 30 2, 5) := by decide +kernel
theorem dJ26_compareComparables_26 : decode cJ26_compareComparables 26 = .ok (.ireturn, 1) := dk_172 (dk_at dksJ26_compareComparables_1 5 rfl rfl)
abbrev cJ26_newNode : ByteArray := prog_56_method_46_code
def yJ26_newNode : MethodName := ⟨RJ26, "newNode", "(ILjava/lang/Object;Ljava/lang/Object;Ljava/util/HashMap$Node;)Ljava/util/HashMap$Node;"⟩
def dkwJ26_newNode_0 : List UInt8 := [187, 0, 163, 89, 27, 44, 45, 25, 4, 183, 1, 119, 176]
abbrev dktJ26_newNode_0 : List UInt8 := dkwJ26_newNode_0 ++ []
theorem dksJ26_newNode_0 : cJ26_newNode.data.toList.drop 0 = dktJ26_newNode_0 := by decide +kernel
theorem dJ26_newNode_0 : decode cJ26_newNode 0 = .ok (.new 163, 3) := dk_187 0 163 (dk_at dksJ26_newNode_0 0 rfl rfl)
theorem dJ26_newNode_3 : decode cJ26_newNode 3 = .ok (.dup, 1) := dk_89 (dk_at dksJ26_newNode_0 3 rfl rfl)
theorem dJ26_newNode_4 : decode cJ26_newNode 4 = .ok (.iload_n 1, 1) := dk_27 (dk_at dksJ26_newNode_0 4 rfl rfl)
theorem dJ26_newNode_5 : decode cJ26_newNode 5 = .ok (.aload_n 2, 1) := dk_44 (dk_at dksJ26_newNode_0 5 rfl rfl)
theorem dJ26_newNode_6 : decode cJ26_newNode 6 = .ok (.aload_n 3, 1) := dk_45 (dk_at dksJ26_newNode_0 6 rfl rfl)
theorem dJ26_newNode_7 : decode cJ26_newNode 7 = .ok (.aload 4, 2) := dk_25 4 (dk_at dksJ26_newNode_0 7 rfl rfl)
theorem dJ26_newNode_9 : decode cJ26_newNode 9 = .ok (.invokespecial 375, 3) := dk_183 1 119 (dk_at dksJ26_newNode_0 9 rfl rfl)
theorem dJ26_newNode_12 : decode cJ26_newNode 12 = .ok (.areturn, 1) := dk_176 (dk_at dksJ26_newNode_0 12 rfl rfl)
abbrev cJ26_newTreeNode : ByteArray := prog_56_method_48_code
def yJ26_newTreeNode : MethodName := ⟨RJ26, "newTreeNode", "(ILjava/lang/Object;Ljava/lang/Object;Ljava/util/HashMap$Node;)Ljava/util/HashMap$TreeNode;"⟩
def dkwJ26_newTreeNode_0 : List UInt8 := [187, 0, 180, 89, 27, 44, 45, 25, 4, 183, 1, 122, 176]
abbrev dktJ26_newTreeNode_0 : List UInt8 := dkwJ26_newTreeNode_0 ++ []
theorem dksJ26_newTreeNode_0 : cJ26_newTreeNode.data.toList.drop 0 = dktJ26_newTreeNode_0 := by decide +kernel
theorem dJ26_newTreeNode_0 : decode cJ26_newTreeNode 0 = .ok (.new 180, 3) := dk_187 0 180 (dk_at dksJ26_newTreeNode_0 0 rfl rfl)
theorem dJ26_newTreeNode_3 : decode cJ26_newTreeNode 3 = .ok (.dup, 1) := dk_89 (dk_at dksJ26_newTreeNode_0 3 rfl rfl)
theorem dJ26_newTreeNode_4 : decode cJ26_newTreeNode 4 = .ok (.iload_n 1, 1) := dk_27 (dk_at dksJ26_newTreeNode_0 4 rfl rfl)
theorem dJ26_newTreeNode_5 : decode cJ26_newTreeNode 5 = .ok (.aload_n 2, 1) := dk_44 (dk_at dksJ26_newTreeNode_0 5 rfl rfl)
theorem dJ26_newTreeNode_6 : decode cJ26_newTreeNode 6 = .ok (.aload_n 3, 1) := dk_45 (dk_at dksJ26_newTreeNode_0 6 rfl rfl)
theorem dJ26_newTreeNode_7 : decode cJ26_newTreeNode 7 = .ok (.aload 4, 2) := dk_25 4 (dk_at dksJ26_newTreeNode_0 7 rfl rfl)
theorem dJ26_newTreeNode_9 : decode cJ26_newTreeNode 9 = .ok (.invokespecial 378, 3) := dk_183 1 122 (dk_at dksJ26_newTreeNode_0 9 rfl rfl)
theorem dJ26_newTreeNode_12 : decode cJ26_newTreeNode 12 = .ok (.areturn, 1) := dk_176 (dk_at dksJ26_newTreeNode_0 12 rfl rfl)
abbrev cJ26_treeifyBin : ByteArray := prog_56_method_18_code
def yJ26_treeifyBin : MethodName := ⟨RJ26, "treeifyBin", "([Ljava/util/HashMap$Node;I)V"⟩
def dkwJ26_treeifyBin_4 : List UInt8 := [21, 4, 25, 6, 91, 83, 198, 0, 9, 25, 6, 43, 182, 0, 224, 177]
abbrev dktJ26_treeifyBin_4 : List UInt8 := dkwJ26_treeifyBin_4 ++ []
def dkwJ26_treeifyBin_3 : List UInt8 := [25, 7, 25, 8, 181, 0, 223, 25, 8, 58, 7, 25, 5, 180, 0, 177, 89, 58, 5, 199, 255, 209, 43]
abbrev dktJ26_treeifyBin_3 : List UInt8 := dkwJ26_treeifyBin_3 ++ dktJ26_treeifyBin_4
def dkwJ26_treeifyBin_2 : List UInt8 := [182, 0, 215, 58, 8, 25, 7, 199, 0, 10, 25, 8, 58, 6, 167, 0, 17, 25, 8, 25, 7, 181, 0, 219]
abbrev dktJ26_treeifyBin_2 : List UInt8 := dkwJ26_treeifyBin_2 ++ dktJ26_treeifyBin_3
def dkwJ26_treeifyBin_1 : List UInt8 := [100, 28, 126, 89, 54, 4, 50, 89, 58, 5, 198, 0, 75, 1, 58, 6, 1, 58, 7, 42, 25, 5, 1]
abbrev dktJ26_treeifyBin_1 : List UInt8 := dkwJ26_treeifyBin_1 ++ dktJ26_treeifyBin_2
def dkwJ26_treeifyBin_0 : List UInt8 := [43, 198, 0, 12, 43, 190, 89, 62, 16, 64, 162, 0, 11, 42, 182, 0, 117, 87, 167, 0, 91, 43, 29, 4]
abbrev dktJ26_treeifyBin_0 : List UInt8 := dkwJ26_treeifyBin_0 ++ dktJ26_treeifyBin_1
theorem dksJ26_treeifyBin_0 : cJ26_treeifyBin.data.toList.drop 0 = dktJ26_treeifyBin_0 := by decide +kernel
theorem dksJ26_treeifyBin_1 : cJ26_treeifyBin.data.toList.drop 24 = dktJ26_treeifyBin_1 := dk_seg dksJ26_treeifyBin_0 24 rfl rfl
theorem dksJ26_treeifyBin_2 : cJ26_treeifyBin.data.toList.drop 47 = dktJ26_treeifyBin_2 := dk_seg dksJ26_treeifyBin_1 23 rfl rfl
theorem dksJ26_treeifyBin_3 : cJ26_treeifyBin.data.toList.drop 71 = dktJ26_treeifyBin_3 := dk_seg dksJ26_treeifyBin_2 24 rfl rfl
theorem dksJ26_treeifyBin_4 : cJ26_treeifyBin.data.toList.drop 94 = dktJ26_treeifyBin_4 := dk_seg dksJ26_treeifyBin_3 23 rfl rfl
theorem dJ26_treeifyBin_0 : decode cJ26_treeifyBin 0 = .ok (.aload_n 1, 1) := dk_43 (dk_at dksJ26_treeifyBin_0 0 rfl rfl)
theorem dJ26_treeifyBin_1 : decode cJ26_treeifyBin 1 = .ok (.ifnull 12, 3) := dk_198 0 12 (dk_at dksJ26_treeifyBin_0 1 rfl rfl)
theorem dJ26_treeifyBin_4 : decode cJ26_treeifyBin 4 = .ok (.aload_n 1, 1) := dk_43 (dk_at dksJ26_treeifyBin_0 4 rfl rfl)
theorem dJ26_treeifyBin_5 : decode cJ26_treeifyBin 5 = .ok (.arraylength, 1) := dk_190 (dk_at dksJ26_treeifyBin_0 5 rfl rfl)
theorem dJ26_treeifyBin_6 : decode cJ26_treeifyBin 6 = .ok (.dup, 1) := dk_89 (dk_at dksJ26_treeifyBin_0 6 rfl rfl)
theorem dJ26_treeifyBin_7 : decode cJ26_treeifyBin 7 = .ok (.istore_n 3, 1) := dk_62 (dk_at dksJ26_treeifyBin_0 7 rfl rfl)
theorem dJ26_treeifyBin_8 : decode cJ26_treeifyBin 8 = .ok (.bipush 64, 2) := dk_16 64 (dk_at dksJ26_treeifyBin_0 8 rfl rfl)
theorem dJ26_treeifyBin_10 : decode cJ26_treeifyBin 10 = .ok (.if_icmp .ge 11, 3) := dk_162 0 11 (dk_at dksJ26_treeifyBin_0 10 rfl rfl)
theorem dJ26_treeifyBin_13 : decode cJ26_treeifyBin 13 = .ok (.aload_n 0, 1) := dk_42 (dk_at dksJ26_treeifyBin_0 13 rfl rfl)
theorem dJ26_treeifyBin_14 : decode cJ26_treeifyBin 14 = .ok (.invokevirtual 117, 3) := dk_182 0 117 (dk_at dksJ26_treeifyBin_0 14 rfl rfl)
theorem dJ26_treeifyBin_17 : decode cJ26_treeifyBin 17 = .ok (.pop, 1) := dk_87 (dk_at dksJ26_treeifyBin_0 17 rfl rfl)
theorem dJ26_treeifyBin_18 : decode cJ26_treeifyBin 18 = .ok (.goto 91, 3) := dk_167 0 91 (dk_at dksJ26_treeifyBin_0 18 rfl rfl)
theorem dJ26_treeifyBin_21 : decode cJ26_treeifyBin 21 = .ok (.aload_n 1, 1) := dk_43 (dk_at dksJ26_treeifyBin_0 21 rfl rfl)
theorem dJ26_treeifyBin_22 : decode cJ26_treeifyBin 22 = .ok (.iload_n 3, 1) := dk_29 (dk_at dksJ26_treeifyBin_0 22 rfl rfl)
theorem dJ26_treeifyBin_23 : decode cJ26_treeifyBin 23 = .ok (.iconst 1, 1) := dk_4 (dk_at dksJ26_treeifyBin_0 23 rfl rfl)
theorem dJ26_treeifyBin_24 : decode cJ26_treeifyBin 24 = .ok (.isub, 1) := dk_100 (dk_at dksJ26_treeifyBin_1 0 rfl rfl)
theorem dJ26_treeifyBin_25 : decode cJ26_treeifyBin 25 = .ok (.iload_n 2, 1) := dk_28 (dk_at dksJ26_treeifyBin_1 1 rfl rfl)
theorem dJ26_treeifyBin_26 : decode cJ26_treeifyBin 26 = .ok (.iand, 1) := dk_126 (dk_at dksJ26_treeifyBin_1 2 rfl rfl)
theorem dJ26_treeifyBin_27 : decode cJ26_treeifyBin 27 = .ok (.dup, 1) := dk_89 (dk_at dksJ26_treeifyBin_1 3 rfl rfl)
theorem dJ26_treeifyBin_28 : decode cJ26_treeifyBin 28 = .ok (.istore 4, 2) := dk_54 4 (dk_at dksJ26_treeifyBin_1 4 rfl rfl)
theorem dJ26_treeifyBin_30 : decode cJ26_treeifyBin 30 = .ok (.aaload, 1) := dk_50 (dk_at dksJ26_treeifyBin_1 6 rfl rfl)
theorem dJ26_treeifyBin_31 : decode cJ26_treeifyBin 31 = .ok (.dup, 1) := dk_89 (dk_at dksJ26_treeifyBin_1 7 rfl rfl)
theorem dJ26_treeifyBin_32 : decode cJ26_treeifyBin 32 = .ok (.astore 5, 2) := dk_58 5 (dk_at dksJ26_treeifyBin_1 8 rfl rfl)
theorem dJ26_treeifyBin_34 : decode cJ26_treeifyBin 34 = .ok (.ifnull 75, 3) := dk_198 0 75 (dk_at dksJ26_treeifyBin_1 10 rfl rfl)
theorem dJ26_treeifyBin_37 : decode cJ26_treeifyBin 37 = .ok (.aconst_null, 1) := dk_1 (dk_at dksJ26_treeifyBin_1 13 rfl rfl)
theorem dJ26_treeifyBin_38 : decode cJ26_treeifyBin 38 = .ok (.astore 6, 2) := dk_58 6 (dk_at dksJ26_treeifyBin_1 14 rfl rfl)
theorem dJ26_treeifyBin_40 : decode cJ26_treeifyBin 40 = .ok (.aconst_null, 1) := dk_1 (dk_at dksJ26_treeifyBin_1 16 rfl rfl)
theorem dJ26_treeifyBin_41 : decode cJ26_treeifyBin 41 = .ok (.astore 7, 2) := dk_58 7 (dk_at dksJ26_treeifyBin_1 17 rfl rfl)
theorem dJ26_treeifyBin_43 : decode cJ26_treeifyBin 43 = .ok (.aload_n 0, 1) := dk_42 (dk_at dksJ26_treeifyBin_1 19 rfl rfl)
theorem dJ26_treeifyBin_44 : decode cJ26_treeifyBin 44 = .ok (.aload 5, 2) := dk_25 5 (dk_at dksJ26_treeifyBin_1 20 rfl rfl)
theorem dJ26_treeifyBin_46 : decode cJ26_treeifyBin 46 = .ok (.aconst_null, 1) := dk_1 (dk_at dksJ26_treeifyBin_1 22 rfl rfl)
theorem dJ26_treeifyBin_47 : decode cJ26_treeifyBin 47 = .ok (.invokevirtual 215, 3) := dk_182 0 215 (dk_at dksJ26_treeifyBin_2 0 rfl rfl)
theorem dJ26_treeifyBin_50 : decode cJ26_treeifyBin 50 = .ok (.astore 8, 2) := dk_58 8 (dk_at dksJ26_treeifyBin_2 3 rfl rfl)
theorem dJ26_treeifyBin_52 : decode cJ26_treeifyBin 52 = .ok (.aload 7, 2) := dk_25 7 (dk_at dksJ26_treeifyBin_2 5 rfl rfl)
theorem dJ26_treeifyBin_54 : decode cJ26_treeifyBin 54 = .ok (.ifnonnull 10, 3) := dk_199 0 10 (dk_at dksJ26_treeifyBin_2 7 rfl rfl)
theorem dJ26_treeifyBin_57 : decode cJ26_treeifyBin 57 = .ok (.aload 8, 2) := dk_25 8 (dk_at dksJ26_treeifyBin_2 10 rfl rfl)
theorem dJ26_treeifyBin_59 : decode cJ26_treeifyBin 59 = .ok (.astore 6, 2) := dk_58 6 (dk_at dksJ26_treeifyBin_2 12 rfl rfl)
theorem dJ26_treeifyBin_61 : decode cJ26_treeifyBin 61 = .ok (.goto 17, 3) := dk_167 0 17 (dk_at dksJ26_treeifyBin_2 14 rfl rfl)
theorem dJ26_treeifyBin_64 : decode cJ26_treeifyBin 64 = .ok (.aload 8, 2) := dk_25 8 (dk_at dksJ26_treeifyBin_2 17 rfl rfl)
theorem dJ26_treeifyBin_66 : decode cJ26_treeifyBin 66 = .ok (.aload 7, 2) := dk_25 7 (dk_at dksJ26_treeifyBin_2 19 rfl rfl)
theorem dJ26_treeifyBin_68 : decode cJ26_treeifyBin 68 = .ok (.putfield 219, 3) := dk_181 0 219 (dk_at dksJ26_treeifyBin_2 21 rfl rfl)
theorem dJ26_treeifyBin_71 : decode cJ26_treeifyBin 71 = .ok (.aload 7, 2) := dk_25 7 (dk_at dksJ26_treeifyBin_3 0 rfl rfl)
theorem dJ26_treeifyBin_73 : decode cJ26_treeifyBin 73 = .ok (.aload 8, 2) := dk_25 8 (dk_at dksJ26_treeifyBin_3 2 rfl rfl)
theorem dJ26_treeifyBin_75 : decode cJ26_treeifyBin 75 = .ok (.putfield 223, 3) := dk_181 0 223 (dk_at dksJ26_treeifyBin_3 4 rfl rfl)
theorem dJ26_treeifyBin_78 : decode cJ26_treeifyBin 78 = .ok (.aload 8, 2) := dk_25 8 (dk_at dksJ26_treeifyBin_3 7 rfl rfl)
theorem dJ26_treeifyBin_80 : decode cJ26_treeifyBin 80 = .ok (.astore 7, 2) := dk_58 7 (dk_at dksJ26_treeifyBin_3 9 rfl rfl)
theorem dJ26_treeifyBin_82 : decode cJ26_treeifyBin 82 = .ok (.aload 5, 2) := dk_25 5 (dk_at dksJ26_treeifyBin_3 11 rfl rfl)
theorem dJ26_treeifyBin_84 : decode cJ26_treeifyBin 84 = .ok (.getfield 177, 3) := dk_180 0 177 (dk_at dksJ26_treeifyBin_3 13 rfl rfl)
theorem dJ26_treeifyBin_87 : decode cJ26_treeifyBin 87 = .ok (.dup, 1) := dk_89 (dk_at dksJ26_treeifyBin_3 16 rfl rfl)
theorem dJ26_treeifyBin_88 : decode cJ26_treeifyBin 88 = .ok (.astore 5, 2) := dk_58 5 (dk_at dksJ26_treeifyBin_3 17 rfl rfl)
theorem dJ26_treeifyBin_90 : decode cJ26_treeifyBin 90 = .ok (.ifnonnull (-47), 3) := dk_199 255 209 (dk_at dksJ26_treeifyBin_3 19 rfl rfl)
theorem dJ26_treeifyBin_93 : decode cJ26_treeifyBin 93 = .ok (.aload_n 1, 1) := dk_43 (dk_at dksJ26_treeifyBin_3 22 rfl rfl)
theorem dJ26_treeifyBin_94 : decode cJ26_treeifyBin 94 = .ok (.iload 4, 2) := dk_21 4 (dk_at dksJ26_treeifyBin_4 0 rfl rfl)
theorem dJ26_treeifyBin_96 : decode cJ26_treeifyBin 96 = .ok (.aload 6, 2) := dk_25 6 (dk_at dksJ26_treeifyBin_4 2 rfl rfl)
theorem dJ26_treeifyBin_98 : decode cJ26_treeifyBin 98 = .ok (.dup_x2, 1) := dk_91 (dk_at dksJ26_treeifyBin_4 4 rfl rfl)
theorem dJ26_treeifyBin_99 : decode cJ26_treeifyBin 99 = .ok (.aastore, 1) := dk_83 (dk_at dksJ26_treeifyBin_4 5 rfl rfl)
theorem dJ26_treeifyBin_100 : decode cJ26_treeifyBin 100 = .ok (.ifnull 9, 3) := dk_198 0 9 (dk_at dksJ26_treeifyBin_4 6 rfl rfl)
theorem dJ26_treeifyBin_103 : decode cJ26_treeifyBin 103 = .ok (.aload 6, 2) := dk_25 6 (dk_at dksJ26_treeifyBin_4 9 rfl rfl)
theorem dJ26_treeifyBin_105 : decode cJ26_treeifyBin 105 = .ok (.aload_n 1, 1) := dk_43 (dk_at dksJ26_treeifyBin_4 11 rfl rfl)
theorem dJ26_treeifyBin_106 : decode cJ26_treeifyBin 106 = .ok (.invokevirtual 224, 3) := dk_182 0 224 (dk_at dksJ26_treeifyBin_4 12 rfl rfl)
theorem dJ26_treeifyBin_109 : decode cJ26_treeifyBin 109 = .ok (.return_, 1) := dk_177 (dk_at dksJ26_treeifyBin_4 15 rfl rfl)
abbrev cJ26_replacementTreeNode : ByteArray := prog_56_method_49_code
def yJ26_replacementTreeNode : MethodName := ⟨RJ26, "replacementTreeNode", "(Ljava/util/HashMap$Node;Ljava/util/HashMap$Node;)Ljava/util/HashMap$TreeNode;"⟩
def dkwJ26_replacementTreeNode_0 : List UInt8 := [187, 0, 180, 89, 43, 180, 0, 168, 43, 180, 0, 170, 43, 180, 0, 162, 44, 183, 1, 122, 176]
abbrev dktJ26_replacementTreeNode_0 : List UInt8 := dkwJ26_replacementTreeNode_0 ++ []
theorem dksJ26_replacementTreeNode_0 : cJ26_replacementTreeNode.data.toList.drop 0 = dktJ26_replacementTreeNode_0 := by decide +kernel
theorem dJ26_replacementTreeNode_0 : decode cJ26_replacementTreeNode 0 = .ok (.new 180, 3) := dk_187 0 180 (dk_at dksJ26_replacementTreeNode_0 0 rfl rfl)
theorem dJ26_replacementTreeNode_3 : decode cJ26_replacementTreeNode 3 = .ok (.dup, 1) := dk_89 (dk_at dksJ26_replacementTreeNode_0 3 rfl rfl)
theorem dJ26_replacementTreeNode_4 : decode cJ26_replacementTreeNode 4 = .ok (.aload_n 1, 1) := dk_43 (dk_at dksJ26_replacementTreeNode_0 4 rfl rfl)
theorem dJ26_replacementTreeNode_5 : decode cJ26_replacementTreeNode 5 = .ok (.getfield 168, 3) := dk_180 0 168 (dk_at dksJ26_replacementTreeNode_0 5 rfl rfl)
theorem dJ26_replacementTreeNode_8 : decode cJ26_replacementTreeNode 8 = .ok (.aload_n 1, 1) := dk_43 (dk_at dksJ26_replacementTreeNode_0 8 rfl rfl)
theorem dJ26_replacementTreeNode_9 : decode cJ26_replacementTreeNode 9 = .ok (.getfield 170, 3) := dk_180 0 170 (dk_at dksJ26_replacementTreeNode_0 9 rfl rfl)
theorem dJ26_replacementTreeNode_12 : decode cJ26_replacementTreeNode 12 = .ok (.aload_n 1, 1) := dk_43 (dk_at dksJ26_replacementTreeNode_0 12 rfl rfl)
theorem dJ26_replacementTreeNode_13 : decode cJ26_replacementTreeNode 13 = .ok (.getfield 162, 3) := dk_180 0 162 (dk_at dksJ26_replacementTreeNode_0 13 rfl rfl)
theorem dJ26_replacementTreeNode_16 : decode cJ26_replacementTreeNode 16 = .ok (.aload_n 2, 1) := dk_44 (dk_at dksJ26_replacementTreeNode_0 16 rfl rfl)
theorem dJ26_replacementTreeNode_17 : decode cJ26_replacementTreeNode 17 = .ok (.invokespecial 378, 3) := dk_183 1 122 (dk_at dksJ26_replacementTreeNode_0 17 rfl rfl)
theorem dJ26_replacementTreeNode_20 : decode cJ26_replacementTreeNode 20 = .ok (.areturn, 1) := dk_176 (dk_at dksJ26_replacementTreeNode_0 20 rfl rfl)
abbrev cJ26_afterNodeAccess : ByteArray := prog_56_method_51_code
def yJ26_afterNodeAccess : MethodName := ⟨RJ26, "afterNodeAccess", "(Ljava/util/HashMap$Node;)V"⟩
theorem dJ26_afterNodeAccess_0 : decode cJ26_afterNodeAccess 0 = .ok (.return_, 1) := by decide +kernel
abbrev cJ26_afterNodeInsertion : ByteArray := prog_56_method_52_code
def yJ26_afterNodeInsertion : MethodName := ⟨RJ26, "afterNodeInsertion", "(Z)V"⟩
theorem dJ26_afterNodeInsertion_0 : decode cJ26_afterNodeInsertion 0 = .ok (.return_, 1) := by decide +kernel
abbrev cJ26_get : ByteArray := prog_56_method_12_code
def yJ26_get : MethodName := ⟨RJ26, "get", "(Ljava/lang/Object;)Ljava/lang/Object;"⟩
def dkwJ26_get_0 : List UInt8 := [42, 43, 182, 0, 158, 89, 77, 199, 0, 7, 1, 167, 0, 7, 44, 180, 0, 162, 176]
abbrev dktJ26_get_0 : List UInt8 := dkwJ26_get_0 ++ []
theorem dksJ26_get_0 : cJ26_get.data.toList.drop 0 = dktJ26_get_0 := by decide +kernel
theorem dJ26_get_0 : decode cJ26_get 0 = .ok (.aload_n 0, 1) := dk_42 (dk_at dksJ26_get_0 0 rfl rfl)
theorem dJ26_get_1 : decode cJ26_get 1 = .ok (.aload_n 1, 1) := dk_43 (dk_at dksJ26_get_0 1 rfl rfl)
theorem dJ26_get_2 : decode cJ26_get 2 = .ok (.invokevirtual 158, 3) := dk_182 0 158 (dk_at dksJ26_get_0 2 rfl rfl)
theorem dJ26_get_5 : decode cJ26_get 5 = .ok (.dup, 1) := dk_89 (dk_at dksJ26_get_0 5 rfl rfl)
theorem dJ26_get_6 : decode cJ26_get 6 = .ok (.astore_n 2, 1) := dk_77 (dk_at dksJ26_get_0 6 rfl rfl)
theorem dJ26_get_7 : decode cJ26_get 7 = .ok (.ifnonnull 7, 3) := dk_199 0 7 (dk_at dksJ26_get_0 7 rfl rfl)
theorem dJ26_get_10 : decode cJ26_get 10 = .ok (.aconst_null, 1) := dk_1 (dk_at dksJ26_get_0 10 rfl rfl)
theorem dJ26_get_11 : decode cJ26_get 11 = .ok (.goto 7, 3) := dk_167 0 7 (dk_at dksJ26_get_0 11 rfl rfl)
theorem dJ26_get_14 : decode cJ26_get 14 = .ok (.aload_n 2, 1) := dk_44 (dk_at dksJ26_get_0 14 rfl rfl)
theorem dJ26_get_15 : decode cJ26_get 15 = .ok (.getfield 162, 3) := dk_180 0 162 (dk_at dksJ26_get_0 15 rfl rfl)
theorem dJ26_get_18 : decode cJ26_get 18 = .ok (.areturn, 1) := dk_176 (dk_at dksJ26_get_0 18 rfl rfl)
abbrev cJ26_getNode : ByteArray := prog_56_method_13_code
def yJ26_getNode : MethodName := ⟨RJ26, "getNode", "(Ljava/lang/Object;)Ljava/util/HashMap$Node;"⟩
def dkwJ26_getNode_6 : List UInt8 := [89, 58, 4, 199, 255, 210, 1, 176]
abbrev dktJ26_getNode_6 : List UInt8 := dkwJ26_getNode_6 ++ []
def dkwJ26_getNode_5 : List UInt8 := [165, 0, 16, 43, 198, 0, 15, 43, 25, 7, 182, 0, 173, 153, 0, 6, 25, 4, 176, 25, 4, 180, 0, 177]
abbrev dktJ26_getNode_5 : List UInt8 := dkwJ26_getNode_5 ++ dktJ26_getNode_6
def dkwJ26_getNode_4 : List UInt8 := [43, 182, 0, 182, 176, 25, 4, 180, 0, 168, 21, 6, 160, 0, 31, 25, 4, 180, 0, 170, 89, 58, 7, 43]
abbrev dktJ26_getNode_4 : List UInt8 := dkwJ26_getNode_4 ++ dktJ26_getNode_5
def dkwJ26_getNode_3 : List UInt8 := [176, 45, 180, 0, 177, 89, 58, 4, 198, 0, 70, 45, 193, 0, 180, 153, 0, 14, 45, 192, 0, 180, 21, 6]
abbrev dktJ26_getNode_3 : List UInt8 := dkwJ26_getNode_3 ++ dktJ26_getNode_4
def dkwJ26_getNode_2 : List UInt8 := [180, 0, 170, 89, 58, 7, 43, 165, 0, 16, 43, 198, 0, 14, 43, 25, 7, 182, 0, 173, 153, 0, 5, 45]
abbrev dktJ26_getNode_2 : List UInt8 := dkwJ26_getNode_2 ++ dktJ26_getNode_3
def dkwJ26_getNode_1 : List UInt8 := [184, 0, 149, 89, 54, 6, 126, 50, 89, 78, 198, 0, 115, 45, 180, 0, 168, 21, 6, 160, 0, 29, 45]
abbrev dktJ26_getNode_1 : List UInt8 := dkwJ26_getNode_1 ++ dktJ26_getNode_2
def dkwJ26_getNode_0 : List UInt8 := [42, 180, 0, 105, 89, 77, 198, 0, 142, 44, 190, 89, 54, 5, 158, 0, 134, 44, 21, 5, 4, 100, 43]
abbrev dktJ26_getNode_0 : List UInt8 := dkwJ26_getNode_0 ++ dktJ26_getNode_1
theorem dksJ26_getNode_0 : cJ26_getNode.data.toList.drop 0 = dktJ26_getNode_0 := by decide +kernel
theorem dksJ26_getNode_1 : cJ26_getNode.data.toList.drop 23 = dktJ26_getNode_1 := dk_seg dksJ26_getNode_0 23 rfl rfl
theorem dksJ26_getNode_2 : cJ26_getNode.data.toList.drop 46 = dktJ26_getNode_2 := dk_seg dksJ26_getNode_1 23 rfl rfl
theorem dksJ26_getNode_3 : cJ26_getNode.data.toList.drop 70 = dktJ26_getNode_3 := dk_seg dksJ26_getNode_2 24 rfl rfl
theorem dksJ26_getNode_4 : cJ26_getNode.data.toList.drop 94 = dktJ26_getNode_4 := dk_seg dksJ26_getNode_3 24 rfl rfl
theorem dksJ26_getNode_5 : cJ26_getNode.data.toList.drop 118 = dktJ26_getNode_5 := dk_seg dksJ26_getNode_4 24 rfl rfl
theorem dksJ26_getNode_6 : cJ26_getNode.data.toList.drop 142 = dktJ26_getNode_6 := dk_seg dksJ26_getNode_5 24 rfl rfl
theorem dJ26_getNode_0 : decode cJ26_getNode 0 = .ok (.aload_n 0, 1) := dk_42 (dk_at dksJ26_getNode_0 0 rfl rfl)
theorem dJ26_getNode_1 : decode cJ26_getNode 1 = .ok (.getfield 105, 3) := dk_180 0 105 (dk_at dksJ26_getNode_0 1 rfl rfl)
theorem dJ26_getNode_4 : decode cJ26_getNode 4 = .ok (.dup, 1) := dk_89 (dk_at dksJ26_getNode_0 4 rfl rfl)
theorem dJ26_getNode_5 : decode cJ26_getNode 5 = .ok (.astore_n 2, 1) := dk_77 (dk_at dksJ26_getNode_0 5 rfl rfl)
theorem dJ26_getNode_6 : decode cJ26_getNode 6 = .ok (.ifnull 142, 3) := dk_198 0 142 (dk_at dksJ26_getNode_0 6 rfl rfl)
theorem dJ26_getNode_9 : decode cJ26_getNode 9 = .ok (.aload_n 2, 1) := dk_44 (dk_at dksJ26_getNode_0 9 rfl rfl)
theorem dJ26_getNode_10 : decode cJ26_getNode 10 = .ok (.arraylength, 1) := dk_190 (dk_at dksJ26_getNode_0 10 rfl rfl)
theorem dJ26_getNode_11 : decode cJ26_getNode 11 = .ok (.dup, 1) := dk_89 (dk_at dksJ26_getNode_0 11 rfl rfl)
theorem dJ26_getNode_12 : decode cJ26_getNode 12 = .ok (.istore 5, 2) := dk_54 5 (dk_at dksJ26_getNode_0 12 rfl rfl)
theorem dJ26_getNode_14 : decode cJ26_getNode 14 = .ok (.ifCond .le 134, 3) := dk_158 0 134 (dk_at dksJ26_getNode_0 14 rfl rfl)
theorem dJ26_getNode_17 : decode cJ26_getNode 17 = .ok (.aload_n 2, 1) := dk_44 (dk_at dksJ26_getNode_0 17 rfl rfl)
theorem dJ26_getNode_18 : decode cJ26_getNode 18 = .ok (.iload 5, 2) := dk_21 5 (dk_at dksJ26_getNode_0 18 rfl rfl)
theorem dJ26_getNode_20 : decode cJ26_getNode 20 = .ok (.iconst 1, 1) := dk_4 (dk_at dksJ26_getNode_0 20 rfl rfl)
theorem dJ26_getNode_21 : decode cJ26_getNode 21 = .ok (.isub, 1) := dk_100 (dk_at dksJ26_getNode_0 21 rfl rfl)
theorem dJ26_getNode_22 : decode cJ26_getNode 22 = .ok (.aload_n 1, 1) := dk_43 (dk_at dksJ26_getNode_0 22 rfl rfl)
theorem dJ26_getNode_23 : decode cJ26_getNode 23 = .ok (.invokestatic 149, 3) := dk_184 0 149 (dk_at dksJ26_getNode_1 0 rfl rfl)
theorem dJ26_getNode_26 : decode cJ26_getNode 26 = .ok (.dup, 1) := dk_89 (dk_at dksJ26_getNode_1 3 rfl rfl)
theorem dJ26_getNode_27 : decode cJ26_getNode 27 = .ok (.istore 6, 2) := dk_54 6 (dk_at dksJ26_getNode_1 4 rfl rfl)
theorem dJ26_getNode_29 : decode cJ26_getNode 29 = .ok (.iand, 1) := dk_126 (dk_at dksJ26_getNode_1 6 rfl rfl)
theorem dJ26_getNode_30 : decode cJ26_getNode 30 = .ok (.aaload, 1) := dk_50 (dk_at dksJ26_getNode_1 7 rfl rfl)
theorem dJ26_getNode_31 : decode cJ26_getNode 31 = .ok (.dup, 1) := dk_89 (dk_at dksJ26_getNode_1 8 rfl rfl)
theorem dJ26_getNode_32 : decode cJ26_getNode 32 = .ok (.astore_n 3, 1) := dk_78 (dk_at dksJ26_getNode_1 9 rfl rfl)
theorem dJ26_getNode_33 : decode cJ26_getNode 33 = .ok (.ifnull 115, 3) := dk_198 0 115 (dk_at dksJ26_getNode_1 10 rfl rfl)
theorem dJ26_getNode_36 : decode cJ26_getNode 36 = .ok (.aload_n 3, 1) := dk_45 (dk_at dksJ26_getNode_1 13 rfl rfl)
theorem dJ26_getNode_37 : decode cJ26_getNode 37 = .ok (.getfield 168, 3) := dk_180 0 168 (dk_at dksJ26_getNode_1 14 rfl rfl)
theorem dJ26_getNode_40 : decode cJ26_getNode 40 = .ok (.iload 6, 2) := dk_21 6 (dk_at dksJ26_getNode_1 17 rfl rfl)
theorem dJ26_getNode_42 : decode cJ26_getNode 42 = .ok (.if_icmp .ne 29, 3) := dk_160 0 29 (dk_at dksJ26_getNode_1 19 rfl rfl)
theorem dJ26_getNode_45 : decode cJ26_getNode 45 = .ok (.aload_n 3, 1) := dk_45 (dk_at dksJ26_getNode_1 22 rfl rfl)
theorem dJ26_getNode_46 : decode cJ26_getNode 46 = .ok (.getfield 170, 3) := dk_180 0 170 (dk_at dksJ26_getNode_2 0 rfl rfl)
theorem dJ26_getNode_49 : decode cJ26_getNode 49 = .ok (.dup, 1) := dk_89 (dk_at dksJ26_getNode_2 3 rfl rfl)
theorem dJ26_getNode_50 : decode cJ26_getNode 50 = .ok (.astore 7, 2) := dk_58 7 (dk_at dksJ26_getNode_2 4 rfl rfl)
theorem dJ26_getNode_52 : decode cJ26_getNode 52 = .ok (.aload_n 1, 1) := dk_43 (dk_at dksJ26_getNode_2 6 rfl rfl)
theorem dJ26_getNode_53 : decode cJ26_getNode 53 = .ok (.if_acmp .eq 16, 3) := dk_165 0 16 (dk_at dksJ26_getNode_2 7 rfl rfl)
theorem dJ26_getNode_56 : decode cJ26_getNode 56 = .ok (.aload_n 1, 1) := dk_43 (dk_at dksJ26_getNode_2 10 rfl rfl)
theorem dJ26_getNode_57 : decode cJ26_getNode 57 = .ok (.ifnull 14, 3) := dk_198 0 14 (dk_at dksJ26_getNode_2 11 rfl rfl)
theorem dJ26_getNode_60 : decode cJ26_getNode 60 = .ok (.aload_n 1, 1) := dk_43 (dk_at dksJ26_getNode_2 14 rfl rfl)
theorem dJ26_getNode_61 : decode cJ26_getNode 61 = .ok (.aload 7, 2) := dk_25 7 (dk_at dksJ26_getNode_2 15 rfl rfl)
theorem dJ26_getNode_63 : decode cJ26_getNode 63 = .ok (.invokevirtual 173, 3) := dk_182 0 173 (dk_at dksJ26_getNode_2 17 rfl rfl)
theorem dJ26_getNode_66 : decode cJ26_getNode 66 = .ok (.ifCond .eq 5, 3) := dk_153 0 5 (dk_at dksJ26_getNode_2 20 rfl rfl)
theorem dJ26_getNode_69 : decode cJ26_getNode 69 = .ok (.aload_n 3, 1) := dk_45 (dk_at dksJ26_getNode_2 23 rfl rfl)
theorem dJ26_getNode_70 : decode cJ26_getNode 70 = .ok (.areturn, 1) := dk_176 (dk_at dksJ26_getNode_3 0 rfl rfl)
theorem dJ26_getNode_71 : decode cJ26_getNode 71 = .ok (.aload_n 3, 1) := dk_45 (dk_at dksJ26_getNode_3 1 rfl rfl)
theorem dJ26_getNode_72 : decode cJ26_getNode 72 = .ok (.getfield 177, 3) := dk_180 0 177 (dk_at dksJ26_getNode_3 2 rfl rfl)
theorem dJ26_getNode_75 : decode cJ26_getNode 75 = .ok (.dup, 1) := dk_89 (dk_at dksJ26_getNode_3 5 rfl rfl)
theorem dJ26_getNode_76 : decode cJ26_getNode 76 = .ok (.astore 4, 2) := dk_58 4 (dk_at dksJ26_getNode_3 6 rfl rfl)
theorem dJ26_getNode_78 : decode cJ26_getNode 78 = .ok (.ifnull 70, 3) := dk_198 0 70 (dk_at dksJ26_getNode_3 8 rfl rfl)
theorem dJ26_getNode_81 : decode cJ26_getNode 81 = .ok (.aload_n 3, 1) := dk_45 (dk_at dksJ26_getNode_3 11 rfl rfl)
theorem dJ26_getNode_82 : decode cJ26_getNode 82 = .ok (.instanceof 180, 3) := dk_193 0 180 (dk_at dksJ26_getNode_3 12 rfl rfl)
theorem dJ26_getNode_85 : decode cJ26_getNode 85 = .ok (.ifCond .eq 14, 3) := dk_153 0 14 (dk_at dksJ26_getNode_3 15 rfl rfl)
theorem dJ26_getNode_88 : decode cJ26_getNode 88 = .ok (.aload_n 3, 1) := dk_45 (dk_at dksJ26_getNode_3 18 rfl rfl)
theorem dJ26_getNode_89 : decode cJ26_getNode 89 = .ok (.checkcast 180, 3) := dk_192 0 180 (dk_at dksJ26_getNode_3 19 rfl rfl)
theorem dJ26_getNode_92 : decode cJ26_getNode 92 = .ok (.iload 6, 2) := dk_21 6 (dk_at dksJ26_getNode_3 22 rfl rfl)
theorem dJ26_getNode_94 : decode cJ26_getNode 94 = .ok (.aload_n 1, 1) := dk_43 (dk_at dksJ26_getNode_4 0 rfl rfl)
theorem dJ26_getNode_95 : decode cJ26_getNode 95 = .ok (.invokevirtual 182, 3) := dk_182 0 182 (dk_at dksJ26_getNode_4 1 rfl rfl)
theorem dJ26_getNode_98 : decode cJ26_getNode 98 = .ok (.areturn, 1) := dk_176 (dk_at dksJ26_getNode_4 4 rfl rfl)
theorem dJ26_getNode_99 : decode cJ26_getNode 99 = .ok (.aload 4, 2) := dk_25 4 (dk_at dksJ26_getNode_4 5 rfl rfl)
theorem dJ26_getNode_101 : decode cJ26_getNode 101 = .ok (.getfield 168, 3) := dk_180 0 168 (dk_at dksJ26_getNode_4 7 rfl rfl)
theorem dJ26_getNode_104 : decode cJ26_getNode 104 = .ok (.iload 6, 2) := dk_21 6 (dk_at dksJ26_getNode_4 10 rfl rfl)
theorem dJ26_getNode_106 : decode cJ26_getNode 106 = .ok (.if_icmp .ne 31, 3) := dk_160 0 31 (dk_at dksJ26_getNode_4 12 rfl rfl)
theorem dJ26_getNode_109 : decode cJ26_getNode 109 = .ok (.aload 4, 2) := dk_25 4 (dk_at dksJ26_getNode_4 15 rfl rfl)
theorem dJ26_getNode_111 : decode cJ26_getNode 111 = .ok (.getfield 170, 3) := dk_180 0 170 (dk_at dksJ26_getNode_4 17 rfl rfl)
theorem dJ26_getNode_114 : decode cJ26_getNode 114 = .ok (.dup, 1) := dk_89 (dk_at dksJ26_getNode_4 20 rfl rfl)
theorem dJ26_getNode_115 : decode cJ26_getNode 115 = .ok (.astore 7, 2) := dk_58 7 (dk_at dksJ26_getNode_4 21 rfl rfl)
theorem dJ26_getNode_117 : decode cJ26_getNode 117 = .ok (.aload_n 1, 1) := dk_43 (dk_at dksJ26_getNode_4 23 rfl rfl)
theorem dJ26_getNode_118 : decode cJ26_getNode 118 = .ok (.if_acmp .eq 16, 3) := dk_165 0 16 (dk_at dksJ26_getNode_5 0 rfl rfl)
theorem dJ26_getNode_121 : decode cJ26_getNode 121 = .ok (.aload_n 1, 1) := dk_43 (dk_at dksJ26_getNode_5 3 rfl rfl)
theorem dJ26_getNode_122 : decode cJ26_getNode 122 = .ok (.ifnull 15, 3) := dk_198 0 15 (dk_at dksJ26_getNode_5 4 rfl rfl)
theorem dJ26_getNode_125 : decode cJ26_getNode 125 = .ok (.aload_n 1, 1) := dk_43 (dk_at dksJ26_getNode_5 7 rfl rfl)
theorem dJ26_getNode_126 : decode cJ26_getNode 126 = .ok (.aload 7, 2) := dk_25 7 (dk_at dksJ26_getNode_5 8 rfl rfl)
theorem dJ26_getNode_128 : decode cJ26_getNode 128 = .ok (.invokevirtual 173, 3) := dk_182 0 173 (dk_at dksJ26_getNode_5 10 rfl rfl)
theorem dJ26_getNode_131 : decode cJ26_getNode 131 = .ok (.ifCond .eq 6, 3) := dk_153 0 6 (dk_at dksJ26_getNode_5 13 rfl rfl)
theorem dJ26_getNode_134 : decode cJ26_getNode 134 = .ok (.aload 4, 2) := dk_25 4 (dk_at dksJ26_getNode_5 16 rfl rfl)
theorem dJ26_getNode_136 : decode cJ26_getNode 136 = .ok (.areturn, 1) := dk_176 (dk_at dksJ26_getNode_5 18 rfl rfl)
theorem dJ26_getNode_137 : decode cJ26_getNode 137 = .ok (.aload 4, 2) := dk_25 4 (dk_at dksJ26_getNode_5 19 rfl rfl)
theorem dJ26_getNode_139 : decode cJ26_getNode 139 = .ok (.getfield 177, 3) := dk_180 0 177 (dk_at dksJ26_getNode_5 21 rfl rfl)
theorem dJ26_getNode_142 : decode cJ26_getNode 142 = .ok (.dup, 1) := dk_89 (dk_at dksJ26_getNode_6 0 rfl rfl)
theorem dJ26_getNode_143 : decode cJ26_getNode 143 = .ok (.astore 4, 2) := dk_58 4 (dk_at dksJ26_getNode_6 1 rfl rfl)
theorem dJ26_getNode_145 : decode cJ26_getNode 145 = .ok (.ifnonnull (-46), 3) := dk_199 255 210 (dk_at dksJ26_getNode_6 3 rfl rfl)
theorem dJ26_getNode_148 : decode cJ26_getNode 148 = .ok (.aconst_null, 1) := dk_1 (dk_at dksJ26_getNode_6 6 rfl rfl)
theorem dJ26_getNode_149 : decode cJ26_getNode 149 = .ok (.areturn, 1) := dk_176 (dk_at dksJ26_getNode_6 7 rfl rfl)
abbrev cJ26_containsKey : ByteArray := prog_56_method_14_code
def yJ26_containsKey : MethodName := ⟨RJ26, "containsKey", "(Ljava/lang/Object;)Z"⟩
def dkwJ26_containsKey_0 : List UInt8 := [42, 43, 182, 0, 158, 198, 0, 7, 4, 167, 0, 4, 3, 172]
abbrev dktJ26_containsKey_0 : List UInt8 := dkwJ26_containsKey_0 ++ []
theorem dksJ26_containsKey_0 : cJ26_containsKey.data.toList.drop 0 = dktJ26_containsKey_0 := by decide +kernel
theorem dJ26_containsKey_0 : decode cJ26_containsKey 0 = .ok (.aload_n 0, 1) := dk_42 (dk_at dksJ26_containsKey_0 0 rfl rfl)
theorem dJ26_containsKey_1 : decode cJ26_containsKey 1 = .ok (.aload_n 1, 1) := dk_43 (dk_at dksJ26_containsKey_0 1 rfl rfl)
theorem dJ26_containsKey_2 : decode cJ26_containsKey 2 = .ok (.invokevirtual 158, 3) := dk_182 0 158 (dk_at dksJ26_containsKey_0 2 rfl rfl)
theorem dJ26_containsKey_5 : decode cJ26_containsKey 5 = .ok (.ifnull 7, 3) := dk_198 0 7 (dk_at dksJ26_containsKey_0 5 rfl rfl)
theorem dJ26_containsKey_8 : decode cJ26_containsKey 8 = .ok (.iconst 1, 1) := dk_4 (dk_at dksJ26_containsKey_0 8 rfl rfl)
theorem dJ26_containsKey_9 : decode cJ26_containsKey 9 = .ok (.goto 4, 3) := dk_167 0 4 (dk_at dksJ26_containsKey_0 9 rfl rfl)
theorem dJ26_containsKey_12 : decode cJ26_containsKey 12 = .ok (.iconst 0, 1) := dk_3 (dk_at dksJ26_containsKey_0 12 rfl rfl)
theorem dJ26_containsKey_13 : decode cJ26_containsKey 13 = .ok (.ireturn, 1) := dk_172 (dk_at dksJ26_containsKey_0 13 rfl rfl)
theorem q160 : (Jvm.Cond.initialized "java/util/HashMap") ∈ lw_all := lw_g (lw_at lw_m1 41 rfl) rfl
theorem q1069 : (Jvm.Cond.selects "java/util/HashMap" ({ cls := "java/lang/Object", name := "getClass", desc := "()Ljava/lang/Class;" } : Jvm.MethodName) ({ cls := "java/lang/Object", name := "getClass", desc := "()Ljava/lang/Class;" } : Jvm.MethodName)) ∈ lw_all := lw_g (lw_at lw_m4 230 rfl) rfl
theorem q1351 : (Jvm.Cond.instanceMethod ({ cls := "java/util/HashMap", name := "size", desc := "()I" } : Jvm.MethodName)) ∈ lw_all := lw_g (lw_at lw_m6 32 rfl) rfl
theorem q1352 : (Jvm.Cond.selects "java/util/HashMap" ({ cls := "java/util/HashMap", name := "size", desc := "()I" } : Jvm.MethodName) ({ cls := "java/util/HashMap", name := "size", desc := "()I" } : Jvm.MethodName)) ∈ lw_all := lw_g (lw_at lw_m6 33 rfl) rfl
theorem q1353 : (Jvm.Cond.sameMethod "java/util/HashMap" "java/util/HashMap" "size" "()I") ∈ lw_all := lw_g (lw_at lw_m6 34 rfl) rfl
theorem q1355 : (Jvm.Cond.code ({ cls := "java/util/HashMap", name := "size", desc := "()I" } : Jvm.MethodName) prog_56_method_10_code (1 : Nat) (Option.some Jvm.ClassFile.FieldType.int)) ∈ lw_all := lw_g (lw_at lw_m6 36 rfl) rfl
theorem q1358 : (Jvm.Cond.instanceMethod ({ cls := "java/util/HashMap", name := "keysToArray", desc := "([Ljava/lang/Object;)[Ljava/lang/Object;" } : Jvm.MethodName)) ∈ lw_all := lw_g (lw_at lw_m6 39 rfl) rfl
theorem q1359 : (Jvm.Cond.selects "java/util/HashMap" ({ cls := "java/util/HashMap", name := "keysToArray", desc := "([Ljava/lang/Object;)[Ljava/lang/Object;" } : Jvm.MethodName) ({ cls := "java/util/HashMap", name := "keysToArray", desc := "([Ljava/lang/Object;)[Ljava/lang/Object;" } : Jvm.MethodName)) ∈ lw_all := lw_g (lw_at lw_m6 40 rfl) rfl
theorem q1360 : (Jvm.Cond.sameMethod "java/util/HashMap" "java/util/HashMap" "keysToArray" "([Ljava/lang/Object;)[Ljava/lang/Object;") ∈ lw_all := lw_g (lw_at lw_m6 41 rfl) rfl
theorem q1368 : (Jvm.Cond.code ({ cls := "java/util/HashMap", name := "keysToArray", desc := "([Ljava/lang/Object;)[Ljava/lang/Object;" } : Jvm.MethodName) prog_56_method_26_code (9 : Nat) (Option.some (Jvm.ClassFile.FieldType.array (Jvm.ClassFile.FieldType.object "java/lang/Object")))) ∈ lw_all := lw_g (lw_at lw_m6 49 rfl) rfl
theorem q2163 : (Jvm.Cond.instanceMethod ({ cls := "java/util/HashMap", name := "<init>", desc := "()V" } : Jvm.MethodName)) ∈ lw_all := lw_g (lw_at lw_m9 124 rfl) rfl
theorem q2164 : (Jvm.Cond.code ({ cls := "java/util/HashMap", name := "<init>", desc := "()V" } : Jvm.MethodName) prog_56_method_7_code (1 : Nat) (Option.none : Option Jvm.ClassFile.FieldType)) ∈ lw_all := lw_g (lw_at lw_m9 125 rfl) rfl
theorem q2165 : (Jvm.Cond.methodLink "java/util/HashMap" (43 : Nat) ({ cls := "java/util/AbstractMap", name := "<init>", desc := "()V" } : Jvm.MethodName)) ∈ lw_all := lw_g (lw_at lw_m9 126 rfl) rfl
theorem q2169 : (Jvm.Cond.constantFloat "java/util/HashMap" (92 : Nat) (1061158912 : UInt32)) ∈ lw_all := lw_g (lw_at lw_m9 130 rfl) rfl
theorem q2174 : (Jvm.Cond.fieldLink "java/util/HashMap" (105 : Nat) "java/util/HashMap" "table" "[Ljava/util/HashMap$Node;") ∈ lw_all := lw_g (lw_at lw_m9 135 rfl) rfl
theorem q2175 : (Jvm.Cond.fieldLink "java/util/HashMap" (156 : Nat) "java/util/HashMap" "size" "I") ∈ lw_all := lw_g (lw_at lw_m9 136 rfl) rfl
theorem q2178 : (Jvm.Cond.fieldLink "java/util/HashMap" (202 : Nat) "java/util/HashMap" "modCount" "I") ∈ lw_all := lw_g (lw_at lw_m9 139 rfl) rfl
theorem q2179 : (Jvm.Cond.fieldLink "java/util/HashMap" (88 : Nat) "java/util/HashMap" "threshold" "I") ∈ lw_all := lw_g (lw_at lw_m9 140 rfl) rfl
theorem q2180 : (Jvm.Cond.fieldLink "java/util/HashMap" (81 : Nat) "java/util/HashMap" "loadFactor" "F") ∈ lw_all := lw_g (lw_at lw_m9 141 rfl) rfl
theorem q2190 : (Jvm.Cond.soleField "java/util/HashMap" "table") ∈ lw_all := lw_g (lw_at lw_m9 151 rfl) rfl
theorem q2192 : (Jvm.Cond.soleField "java/util/HashMap" "entrySet") ∈ lw_all := lw_g (lw_at lw_m9 153 rfl) rfl
theorem q2194 : (Jvm.Cond.soleField "java/util/HashMap" "size") ∈ lw_all := lw_g (lw_at lw_m9 155 rfl) rfl
theorem q2196 : (Jvm.Cond.soleField "java/util/HashMap" "modCount") ∈ lw_all := lw_g (lw_at lw_m9 157 rfl) rfl
theorem q2198 : (Jvm.Cond.soleField "java/util/HashMap" "threshold") ∈ lw_all := lw_g (lw_at lw_m9 159 rfl) rfl
theorem q2200 : (Jvm.Cond.soleField "java/util/HashMap" "loadFactor") ∈ lw_all := lw_g (lw_at lw_m9 161 rfl) rfl
theorem q2234 : (Jvm.Cond.castable "java/util/HashMap" "java/util/Map") ∈ lw_tbl := lw_at lw_m9 195 rfl
theorem q2235 : (Jvm.Cond.selects "java/util/HashMap" ({ cls := "java/util/Map", name := "put", desc := "(Ljava/lang/Object;Ljava/lang/Object;)Ljava/lang/Object;" } : Jvm.MethodName) ({ cls := "java/util/HashMap", name := "put", desc := "(Ljava/lang/Object;Ljava/lang/Object;)Ljava/lang/Object;" } : Jvm.MethodName)) ∈ lw_all := lw_g (lw_at lw_m9 196 rfl) rfl
theorem q2236 : (Jvm.Cond.unhidden "java/util/HashMap" "put" "(Ljava/lang/Object;Ljava/lang/Object;)Ljava/lang/Object;") ∈ lw_tbl := lw_at lw_m9 197 rfl
theorem q2237 : (Jvm.Cond.instanceMethod ({ cls := "java/util/HashMap", name := "put", desc := "(Ljava/lang/Object;Ljava/lang/Object;)Ljava/lang/Object;" } : Jvm.MethodName)) ∈ lw_all := lw_g (lw_at lw_m9 198 rfl) rfl
theorem q2238 : (Jvm.Cond.publicMethod ({ cls := "java/util/HashMap", name := "put", desc := "(Ljava/lang/Object;Ljava/lang/Object;)Ljava/lang/Object;" } : Jvm.MethodName)) ∈ lw_tbl := lw_at lw_m9 199 rfl
theorem q2239 : (Jvm.Cond.code ({ cls := "java/util/HashMap", name := "put", desc := "(Ljava/lang/Object;Ljava/lang/Object;)Ljava/lang/Object;" } : Jvm.MethodName) prog_56_method_15_code (3 : Nat) (Option.some (Jvm.ClassFile.FieldType.object "java/lang/Object"))) ∈ lw_all := lw_g (lw_at lw_m9 200 rfl) rfl
theorem q2240 : (Jvm.Cond.methodLink "java/util/HashMap" (149 : Nat) ({ cls := "java/util/HashMap", name := "hash", desc := "(Ljava/lang/Object;)I" } : Jvm.MethodName)) ∈ lw_all := lw_g (lw_at lw_m9 201 rfl) rfl
theorem q2241 : (Jvm.Cond.static ({ cls := "java/util/HashMap", name := "hash", desc := "(Ljava/lang/Object;)I" } : Jvm.MethodName)) ∈ lw_all := lw_g (lw_at lw_m9 202 rfl) rfl
theorem q2242 : (Jvm.Cond.code ({ cls := "java/util/HashMap", name := "hash", desc := "(Ljava/lang/Object;)I" } : Jvm.MethodName) prog_56_method_1_code (2 : Nat) (Option.some Jvm.ClassFile.FieldType.int)) ∈ lw_all := lw_g (lw_at lw_m9 203 rfl) rfl
theorem q2244 : (Jvm.Cond.methodLink "java/util/HashMap" (1 : Nat) ({ cls := "java/lang/Object", name := "hashCode", desc := "()I" } : Jvm.MethodName)) ∈ lw_all := lw_g (lw_at lw_m9 205 rfl) rfl
theorem q2277 : (Jvm.Cond.methodLink "java/util/HashMap" (152 : Nat) ({ cls := "java/util/HashMap", name := "putVal", desc := "(ILjava/lang/Object;Ljava/lang/Object;ZZ)Ljava/lang/Object;" } : Jvm.MethodName)) ∈ lw_all := lw_g (lw_at lw_m9 238 rfl) rfl
theorem q2278 : (Jvm.Cond.instanceMethod ({ cls := "java/util/HashMap", name := "putVal", desc := "(ILjava/lang/Object;Ljava/lang/Object;ZZ)Ljava/lang/Object;" } : Jvm.MethodName)) ∈ lw_all := lw_g (lw_at lw_m9 239 rfl) rfl
theorem q2279 : (Jvm.Cond.selects "java/util/HashMap" ({ cls := "java/util/HashMap", name := "putVal", desc := "(ILjava/lang/Object;Ljava/lang/Object;ZZ)Ljava/lang/Object;" } : Jvm.MethodName) ({ cls := "java/util/HashMap", name := "putVal", desc := "(ILjava/lang/Object;Ljava/lang/Object;ZZ)Ljava/lang/Object;" } : Jvm.MethodName)) ∈ lw_all := lw_g (lw_at lw_m10 0 rfl) rfl
theorem q2280 : (Jvm.Cond.sameMethod "java/util/HashMap" "java/util/HashMap" "putVal" "(ILjava/lang/Object;Ljava/lang/Object;ZZ)Ljava/lang/Object;") ∈ lw_all := lw_g (lw_at lw_m10 1 rfl) rfl
theorem q2282 : (Jvm.Cond.code ({ cls := "java/util/HashMap", name := "putVal", desc := "(ILjava/lang/Object;Ljava/lang/Object;ZZ)Ljava/lang/Object;" } : Jvm.MethodName) prog_56_method_16_code (13 : Nat) (Option.some (Jvm.ClassFile.FieldType.object "java/lang/Object"))) ∈ lw_all := lw_g (lw_at lw_m10 3 rfl) rfl
theorem q2283 : (Jvm.Cond.methodLink "java/util/HashMap" (117 : Nat) ({ cls := "java/util/HashMap", name := "resize", desc := "()[Ljava/util/HashMap$Node;" } : Jvm.MethodName)) ∈ lw_all := lw_g (lw_at lw_m10 4 rfl) rfl
theorem q2284 : (Jvm.Cond.instanceMethod ({ cls := "java/util/HashMap", name := "resize", desc := "()[Ljava/util/HashMap$Node;" } : Jvm.MethodName)) ∈ lw_all := lw_g (lw_at lw_m10 5 rfl) rfl
theorem q2285 : (Jvm.Cond.selects "java/util/HashMap" ({ cls := "java/util/HashMap", name := "resize", desc := "()[Ljava/util/HashMap$Node;" } : Jvm.MethodName) ({ cls := "java/util/HashMap", name := "resize", desc := "()[Ljava/util/HashMap$Node;" } : Jvm.MethodName)) ∈ lw_all := lw_g (lw_at lw_m10 6 rfl) rfl
theorem q2286 : (Jvm.Cond.sameMethod "java/util/HashMap" "java/util/HashMap" "resize" "()[Ljava/util/HashMap$Node;") ∈ lw_all := lw_g (lw_at lw_m10 7 rfl) rfl
theorem q2288 : (Jvm.Cond.code ({ cls := "java/util/HashMap", name := "resize", desc := "()[Ljava/util/HashMap$Node;" } : Jvm.MethodName) prog_56_method_17_code (14 : Nat) (Option.some (Jvm.ClassFile.FieldType.array (Jvm.ClassFile.FieldType.object "java/util/HashMap$Node")))) ∈ lw_all := lw_g (lw_at lw_m10 9 rfl) rfl
theorem q2289 : (Jvm.Cond.constant "java/util/HashMap" (42 : Nat) (1073741824 : Int32)) ∈ lw_all := lw_g (lw_at lw_m10 10 rfl) rfl
theorem q2290 : (Jvm.Cond.constant "java/util/HashMap" (209 : Nat) (2147483647 : Int32)) ∈ lw_all := lw_g (lw_at lw_m10 11 rfl) rfl
theorem q2291 : (Jvm.Cond.constantFloat "java/util/HashMap" (210 : Nat) (1317011456 : UInt32)) ∈ lw_all := lw_g (lw_at lw_m10 12 rfl) rfl
theorem q2292 : (Jvm.Cond.classLink "java/util/HashMap" (163 : Nat) "java/util/HashMap$Node") ∈ lw_all := lw_g (lw_at lw_m10 13 rfl) rfl
theorem q2294 : (Jvm.Cond.classLink "java/util/HashMap" (180 : Nat) "java/util/HashMap$TreeNode") ∈ lw_all := lw_g (lw_at lw_m10 15 rfl) rfl
theorem q2295 : (Jvm.Cond.methodLink "java/util/HashMap" (211 : Nat) ({ cls := "java/util/HashMap$TreeNode", name := "split", desc := "(Ljava/util/HashMap;[Ljava/util/HashMap$Node;II)V" } : Jvm.MethodName)) ∈ lw_all := lw_g (lw_at lw_m10 16 rfl) rfl
theorem q2305 : (Jvm.Cond.instanceMethod ({ cls := "java/util/HashMap", name := "replacementNode", desc := "(Ljava/util/HashMap$Node;Ljava/util/HashMap$Node;)Ljava/util/HashMap$Node;" } : Jvm.MethodName)) ∈ lw_all := lw_g (lw_at lw_m10 26 rfl) rfl
theorem q2306 : (Jvm.Cond.selects "java/util/HashMap" ({ cls := "java/util/HashMap", name := "replacementNode", desc := "(Ljava/util/HashMap$Node;Ljava/util/HashMap$Node;)Ljava/util/HashMap$Node;" } : Jvm.MethodName) ({ cls := "java/util/HashMap", name := "replacementNode", desc := "(Ljava/util/HashMap$Node;Ljava/util/HashMap$Node;)Ljava/util/HashMap$Node;" } : Jvm.MethodName)) ∈ lw_all := lw_g (lw_at lw_m10 27 rfl) rfl
theorem q2307 : (Jvm.Cond.sameMethod "java/util/HashMap" "java/util/HashMap" "replacementNode" "(Ljava/util/HashMap$Node;Ljava/util/HashMap$Node;)Ljava/util/HashMap$Node;") ∈ lw_all := lw_g (lw_at lw_m10 28 rfl) rfl
theorem q2327 : (Jvm.Cond.fieldLink "java/util/HashMap" (168 : Nat) "java/util/HashMap$Node" "hash" "I") ∈ lw_all := lw_g (lw_at lw_m10 48 rfl) rfl
theorem q2333 : (Jvm.Cond.fieldLink "java/util/HashMap" (170 : Nat) "java/util/HashMap$Node" "key" "Ljava/lang/Object;") ∈ lw_all := lw_g (lw_at lw_m10 54 rfl) rfl
theorem q2337 : (Jvm.Cond.fieldLink "java/util/HashMap" (162 : Nat) "java/util/HashMap$Node" "value" "Ljava/lang/Object;") ∈ lw_all := lw_g (lw_at lw_m10 58 rfl) rfl
theorem q2343 : (Jvm.Cond.fieldLink "java/util/HashMap" (177 : Nat) "java/util/HashMap$Node" "next" "Ljava/util/HashMap$Node;") ∈ lw_all := lw_g (lw_at lw_m10 64 rfl) rfl
theorem q2344 : (Jvm.Cond.fieldLink "java/util/HashMap" (223 : Nat) "java/util/HashMap$TreeNode" "next" "Ljava/util/HashMap$Node;") ∈ lw_all := lw_g (lw_at lw_m10 65 rfl) rfl
theorem q2362 : (Jvm.Cond.code ({ cls := "java/util/HashMap", name := "replacementNode", desc := "(Ljava/util/HashMap$Node;Ljava/util/HashMap$Node;)Ljava/util/HashMap$Node;" } : Jvm.MethodName) prog_56_method_47_code (3 : Nat) (Option.some (Jvm.ClassFile.FieldType.object "java/util/HashMap$Node"))) ∈ lw_all := lw_g (lw_at lw_m10 83 rfl) rfl
theorem q2364 : (Jvm.Cond.methodLink "java/util/HashMap" (375 : Nat) ({ cls := "java/util/HashMap$Node", name := "<init>", desc := "(ILjava/lang/Object;Ljava/lang/Object;Ljava/util/HashMap$Node;)V" } : Jvm.MethodName)) ∈ lw_all := lw_g (lw_at lw_m10 85 rfl) rfl
theorem q2375 : (Jvm.Cond.static ({ cls := "java/util/HashMap", name := "comparableClassFor", desc := "(Ljava/lang/Object;)Ljava/lang/Class;" } : Jvm.MethodName)) ∈ lw_all := lw_g (lw_at lw_m10 96 rfl) rfl
theorem q2376 : (Jvm.Cond.code ({ cls := "java/util/HashMap", name := "comparableClassFor", desc := "(Ljava/lang/Object;)Ljava/lang/Class;" } : Jvm.MethodName) prog_56_method_2_code (9 : Nat) (Option.some (Jvm.ClassFile.FieldType.object "java/lang/Class"))) ∈ lw_all := lw_g (lw_at lw_m10 97 rfl) rfl
theorem q2377 : (Jvm.Cond.classLink "java/util/HashMap" (7 : Nat) "java/lang/Comparable") ∈ lw_all := lw_g (lw_at lw_m10 98 rfl) rfl
theorem q2378 : (Jvm.Cond.methodLink "java/util/HashMap" (9 : Nat) ({ cls := "java/lang/Object", name := "getClass", desc := "()Ljava/lang/Class;" } : Jvm.MethodName)) ∈ lw_all := lw_g (lw_at lw_m10 99 rfl) rfl
theorem q2379 : (Jvm.Cond.classLink "java/util/HashMap" (13 : Nat) "java/lang/String") ∈ lw_all := lw_g (lw_at lw_m10 100 rfl) rfl
theorem q2381 : (Jvm.Cond.static ({ cls := "java/util/HashMap", name := "compareComparables", desc := "(Ljava/lang/Class;Ljava/lang/Object;Ljava/lang/Object;)I" } : Jvm.MethodName)) ∈ lw_all := lw_g (lw_at lw_m10 102 rfl) rfl
theorem q2382 : (Jvm.Cond.code ({ cls := "java/util/HashMap", name := "compareComparables", desc := "(Ljava/lang/Class;Ljava/lang/Object;Ljava/lang/Object;)I" } : Jvm.MethodName) prog_56_method_3_code (3 : Nat) (Option.some Jvm.ClassFile.FieldType.int)) ∈ lw_all := lw_g (lw_at lw_m10 103 rfl) rfl
theorem q2383 : (Jvm.Cond.interfaceEntry "java/util/HashMap" (30 : Nat)) ∈ lw_tbl := lw_at lw_m10 104 rfl
theorem q2384 : (Jvm.Cond.methodLink "java/util/HashMap" (30 : Nat) ({ cls := "java/lang/Comparable", name := "compareTo", desc := "(Ljava/lang/Object;)I" } : Jvm.MethodName)) ∈ lw_all := lw_g (lw_at lw_m10 105 rfl) rfl
theorem q2588 : (Jvm.Cond.methodLink "java/util/HashMap" (186 : Nat) ({ cls := "java/util/HashMap", name := "newNode", desc := "(ILjava/lang/Object;Ljava/lang/Object;Ljava/util/HashMap$Node;)Ljava/util/HashMap$Node;" } : Jvm.MethodName)) ∈ lw_all := lw_g (lw_at lw_m11 69 rfl) rfl
theorem q2589 : (Jvm.Cond.instanceMethod ({ cls := "java/util/HashMap", name := "newNode", desc := "(ILjava/lang/Object;Ljava/lang/Object;Ljava/util/HashMap$Node;)Ljava/util/HashMap$Node;" } : Jvm.MethodName)) ∈ lw_all := lw_g (lw_at lw_m11 70 rfl) rfl
theorem q2590 : (Jvm.Cond.selects "java/util/HashMap" ({ cls := "java/util/HashMap", name := "newNode", desc := "(ILjava/lang/Object;Ljava/lang/Object;Ljava/util/HashMap$Node;)Ljava/util/HashMap$Node;" } : Jvm.MethodName) ({ cls := "java/util/HashMap", name := "newNode", desc := "(ILjava/lang/Object;Ljava/lang/Object;Ljava/util/HashMap$Node;)Ljava/util/HashMap$Node;" } : Jvm.MethodName)) ∈ lw_all := lw_g (lw_at lw_m11 71 rfl) rfl
theorem q2591 : (Jvm.Cond.sameMethod "java/util/HashMap" "java/util/HashMap" "newNode" "(ILjava/lang/Object;Ljava/lang/Object;Ljava/util/HashMap$Node;)Ljava/util/HashMap$Node;") ∈ lw_all := lw_g (lw_at lw_m11 72 rfl) rfl
theorem q2599 : (Jvm.Cond.code ({ cls := "java/util/HashMap", name := "newNode", desc := "(ILjava/lang/Object;Ljava/lang/Object;Ljava/util/HashMap$Node;)Ljava/util/HashMap$Node;" } : Jvm.MethodName) prog_56_method_46_code (5 : Nat) (Option.some (Jvm.ClassFile.FieldType.object "java/util/HashMap$Node"))) ∈ lw_all := lw_g (lw_at lw_m11 80 rfl) rfl
theorem q2601 : (Jvm.Cond.methodLink "java/util/HashMap" (173 : Nat) ({ cls := "java/lang/Object", name := "equals", desc := "(Ljava/lang/Object;)Z" } : Jvm.MethodName)) ∈ lw_all := lw_g (lw_at lw_m11 82 rfl) rfl
theorem q2636 : (Jvm.Cond.methodLink "java/util/HashMap" (190 : Nat) ({ cls := "java/util/HashMap$TreeNode", name := "putTreeVal", desc := "(Ljava/util/HashMap;[Ljava/util/HashMap$Node;ILjava/lang/Object;Ljava/lang/Object;)Ljava/util/HashMap$TreeNode;" } : Jvm.MethodName)) ∈ lw_all := lw_g (lw_at lw_m11 117 rfl) rfl
theorem q2650 : (Jvm.Cond.instanceMethod ({ cls := "java/util/HashMap", name := "newTreeNode", desc := "(ILjava/lang/Object;Ljava/lang/Object;Ljava/util/HashMap$Node;)Ljava/util/HashMap$TreeNode;" } : Jvm.MethodName)) ∈ lw_all := lw_g (lw_at lw_m11 131 rfl) rfl
theorem q2651 : (Jvm.Cond.selects "java/util/HashMap" ({ cls := "java/util/HashMap", name := "newTreeNode", desc := "(ILjava/lang/Object;Ljava/lang/Object;Ljava/util/HashMap$Node;)Ljava/util/HashMap$TreeNode;" } : Jvm.MethodName) ({ cls := "java/util/HashMap", name := "newTreeNode", desc := "(ILjava/lang/Object;Ljava/lang/Object;Ljava/util/HashMap$Node;)Ljava/util/HashMap$TreeNode;" } : Jvm.MethodName)) ∈ lw_all := lw_g (lw_at lw_m11 132 rfl) rfl
theorem q2652 : (Jvm.Cond.sameMethod "java/util/HashMap" "java/util/HashMap" "newTreeNode" "(ILjava/lang/Object;Ljava/lang/Object;Ljava/util/HashMap$Node;)Ljava/util/HashMap$TreeNode;") ∈ lw_all := lw_g (lw_at lw_m11 133 rfl) rfl
theorem q2666 : (Jvm.Cond.fieldLink "java/util/HashMap" (219 : Nat) "java/util/HashMap$TreeNode" "prev" "Ljava/util/HashMap$TreeNode;") ∈ lw_all := lw_g (lw_at lw_m11 147 rfl) rfl
theorem q2685 : (Jvm.Cond.code ({ cls := "java/util/HashMap", name := "newTreeNode", desc := "(ILjava/lang/Object;Ljava/lang/Object;Ljava/util/HashMap$Node;)Ljava/util/HashMap$TreeNode;" } : Jvm.MethodName) prog_56_method_48_code (5 : Nat) (Option.some (Jvm.ClassFile.FieldType.object "java/util/HashMap$TreeNode"))) ∈ lw_all := lw_g (lw_at lw_m11 166 rfl) rfl
theorem q2686 : (Jvm.Cond.methodLink "java/util/HashMap" (378 : Nat) ({ cls := "java/util/HashMap$TreeNode", name := "<init>", desc := "(ILjava/lang/Object;Ljava/lang/Object;Ljava/util/HashMap$Node;)V" } : Jvm.MethodName)) ∈ lw_all := lw_g (lw_at lw_m11 167 rfl) rfl
theorem q2687 : (Jvm.Cond.methodLink "java/util/HashMap" (194 : Nat) ({ cls := "java/util/HashMap", name := "treeifyBin", desc := "([Ljava/util/HashMap$Node;I)V" } : Jvm.MethodName)) ∈ lw_all := lw_g (lw_at lw_m11 168 rfl) rfl
theorem q2688 : (Jvm.Cond.instanceMethod ({ cls := "java/util/HashMap", name := "treeifyBin", desc := "([Ljava/util/HashMap$Node;I)V" } : Jvm.MethodName)) ∈ lw_all := lw_g (lw_at lw_m11 169 rfl) rfl
theorem q2689 : (Jvm.Cond.selects "java/util/HashMap" ({ cls := "java/util/HashMap", name := "treeifyBin", desc := "([Ljava/util/HashMap$Node;I)V" } : Jvm.MethodName) ({ cls := "java/util/HashMap", name := "treeifyBin", desc := "([Ljava/util/HashMap$Node;I)V" } : Jvm.MethodName)) ∈ lw_all := lw_g (lw_at lw_m11 170 rfl) rfl
theorem q2690 : (Jvm.Cond.sameMethod "java/util/HashMap" "java/util/HashMap" "treeifyBin" "([Ljava/util/HashMap$Node;I)V") ∈ lw_all := lw_g (lw_at lw_m11 171 rfl) rfl
theorem q2692 : (Jvm.Cond.code ({ cls := "java/util/HashMap", name := "treeifyBin", desc := "([Ljava/util/HashMap$Node;I)V" } : Jvm.MethodName) prog_56_method_18_code (9 : Nat) (Option.none : Option Jvm.ClassFile.FieldType)) ∈ lw_all := lw_g (lw_at lw_m11 173 rfl) rfl
theorem q2693 : (Jvm.Cond.methodLink "java/util/HashMap" (215 : Nat) ({ cls := "java/util/HashMap", name := "replacementTreeNode", desc := "(Ljava/util/HashMap$Node;Ljava/util/HashMap$Node;)Ljava/util/HashMap$TreeNode;" } : Jvm.MethodName)) ∈ lw_all := lw_g (lw_at lw_m11 174 rfl) rfl
theorem q2694 : (Jvm.Cond.instanceMethod ({ cls := "java/util/HashMap", name := "replacementTreeNode", desc := "(Ljava/util/HashMap$Node;Ljava/util/HashMap$Node;)Ljava/util/HashMap$TreeNode;" } : Jvm.MethodName)) ∈ lw_all := lw_g (lw_at lw_m11 175 rfl) rfl
theorem q2695 : (Jvm.Cond.selects "java/util/HashMap" ({ cls := "java/util/HashMap", name := "replacementTreeNode", desc := "(Ljava/util/HashMap$Node;Ljava/util/HashMap$Node;)Ljava/util/HashMap$TreeNode;" } : Jvm.MethodName) ({ cls := "java/util/HashMap", name := "replacementTreeNode", desc := "(Ljava/util/HashMap$Node;Ljava/util/HashMap$Node;)Ljava/util/HashMap$TreeNode;" } : Jvm.MethodName)) ∈ lw_all := lw_g (lw_at lw_m11 176 rfl) rfl
theorem q2696 : (Jvm.Cond.sameMethod "java/util/HashMap" "java/util/HashMap" "replacementTreeNode" "(Ljava/util/HashMap$Node;Ljava/util/HashMap$Node;)Ljava/util/HashMap$TreeNode;") ∈ lw_all := lw_g (lw_at lw_m11 177 rfl) rfl
theorem q2700 : (Jvm.Cond.code ({ cls := "java/util/HashMap", name := "replacementTreeNode", desc := "(Ljava/util/HashMap$Node;Ljava/util/HashMap$Node;)Ljava/util/HashMap$TreeNode;" } : Jvm.MethodName) prog_56_method_49_code (3 : Nat) (Option.some (Jvm.ClassFile.FieldType.object "java/util/HashMap$TreeNode"))) ∈ lw_all := lw_g (lw_at lw_m11 181 rfl) rfl
theorem q2701 : (Jvm.Cond.methodLink "java/util/HashMap" (224 : Nat) ({ cls := "java/util/HashMap$TreeNode", name := "treeify", desc := "([Ljava/util/HashMap$Node;)V" } : Jvm.MethodName)) ∈ lw_all := lw_g (lw_at lw_m11 182 rfl) rfl
theorem q2702 : (Jvm.Cond.methodLink "java/util/HashMap" (198 : Nat) ({ cls := "java/util/HashMap", name := "afterNodeAccess", desc := "(Ljava/util/HashMap$Node;)V" } : Jvm.MethodName)) ∈ lw_all := lw_g (lw_at lw_m11 183 rfl) rfl
theorem q2703 : (Jvm.Cond.instanceMethod ({ cls := "java/util/HashMap", name := "afterNodeAccess", desc := "(Ljava/util/HashMap$Node;)V" } : Jvm.MethodName)) ∈ lw_all := lw_g (lw_at lw_m11 184 rfl) rfl
theorem q2704 : (Jvm.Cond.selects "java/util/HashMap" ({ cls := "java/util/HashMap", name := "afterNodeAccess", desc := "(Ljava/util/HashMap$Node;)V" } : Jvm.MethodName) ({ cls := "java/util/HashMap", name := "afterNodeAccess", desc := "(Ljava/util/HashMap$Node;)V" } : Jvm.MethodName)) ∈ lw_all := lw_g (lw_at lw_m11 185 rfl) rfl
theorem q2705 : (Jvm.Cond.sameMethod "java/util/HashMap" "java/util/HashMap" "afterNodeAccess" "(Ljava/util/HashMap$Node;)V") ∈ lw_all := lw_g (lw_at lw_m11 186 rfl) rfl
theorem q2709 : (Jvm.Cond.code ({ cls := "java/util/HashMap", name := "afterNodeAccess", desc := "(Ljava/util/HashMap$Node;)V" } : Jvm.MethodName) prog_56_method_51_code (2 : Nat) (Option.none : Option Jvm.ClassFile.FieldType)) ∈ lw_all := lw_g (lw_at lw_m11 190 rfl) rfl
theorem q2710 : (Jvm.Cond.methodLink "java/util/HashMap" (205 : Nat) ({ cls := "java/util/HashMap", name := "afterNodeInsertion", desc := "(Z)V" } : Jvm.MethodName)) ∈ lw_all := lw_g (lw_at lw_m11 191 rfl) rfl
theorem q2711 : (Jvm.Cond.instanceMethod ({ cls := "java/util/HashMap", name := "afterNodeInsertion", desc := "(Z)V" } : Jvm.MethodName)) ∈ lw_all := lw_g (lw_at lw_m11 192 rfl) rfl
theorem q2712 : (Jvm.Cond.selects "java/util/HashMap" ({ cls := "java/util/HashMap", name := "afterNodeInsertion", desc := "(Z)V" } : Jvm.MethodName) ({ cls := "java/util/HashMap", name := "afterNodeInsertion", desc := "(Z)V" } : Jvm.MethodName)) ∈ lw_all := lw_g (lw_at lw_m11 193 rfl) rfl
theorem q2713 : (Jvm.Cond.sameMethod "java/util/HashMap" "java/util/HashMap" "afterNodeInsertion" "(Z)V") ∈ lw_all := lw_g (lw_at lw_m11 194 rfl) rfl
theorem q2721 : (Jvm.Cond.code ({ cls := "java/util/HashMap", name := "afterNodeInsertion", desc := "(Z)V" } : Jvm.MethodName) prog_56_method_52_code (2 : Nat) (Option.none : Option Jvm.ClassFile.FieldType)) ∈ lw_all := lw_g (lw_at lw_m11 202 rfl) rfl
theorem q2730 : (Jvm.Cond.selects "java/util/HashMap" ({ cls := "java/util/Map", name := "get", desc := "(Ljava/lang/Object;)Ljava/lang/Object;" } : Jvm.MethodName) ({ cls := "java/util/HashMap", name := "get", desc := "(Ljava/lang/Object;)Ljava/lang/Object;" } : Jvm.MethodName)) ∈ lw_all := lw_g (lw_at lw_m11 211 rfl) rfl
theorem q2731 : (Jvm.Cond.unhidden "java/util/HashMap" "get" "(Ljava/lang/Object;)Ljava/lang/Object;") ∈ lw_tbl := lw_at lw_m11 212 rfl
theorem q2732 : (Jvm.Cond.instanceMethod ({ cls := "java/util/HashMap", name := "get", desc := "(Ljava/lang/Object;)Ljava/lang/Object;" } : Jvm.MethodName)) ∈ lw_all := lw_g (lw_at lw_m11 213 rfl) rfl
theorem q2733 : (Jvm.Cond.publicMethod ({ cls := "java/util/HashMap", name := "get", desc := "(Ljava/lang/Object;)Ljava/lang/Object;" } : Jvm.MethodName)) ∈ lw_tbl := lw_at lw_m11 214 rfl
theorem q2734 : (Jvm.Cond.code ({ cls := "java/util/HashMap", name := "get", desc := "(Ljava/lang/Object;)Ljava/lang/Object;" } : Jvm.MethodName) prog_56_method_12_code (3 : Nat) (Option.some (Jvm.ClassFile.FieldType.object "java/lang/Object"))) ∈ lw_all := lw_g (lw_at lw_m11 215 rfl) rfl
theorem q2735 : (Jvm.Cond.methodLink "java/util/HashMap" (158 : Nat) ({ cls := "java/util/HashMap", name := "getNode", desc := "(Ljava/lang/Object;)Ljava/util/HashMap$Node;" } : Jvm.MethodName)) ∈ lw_all := lw_g (lw_at lw_m11 216 rfl) rfl
theorem q2736 : (Jvm.Cond.instanceMethod ({ cls := "java/util/HashMap", name := "getNode", desc := "(Ljava/lang/Object;)Ljava/util/HashMap$Node;" } : Jvm.MethodName)) ∈ lw_all := lw_g (lw_at lw_m11 217 rfl) rfl
theorem q2737 : (Jvm.Cond.selects "java/util/HashMap" ({ cls := "java/util/HashMap", name := "getNode", desc := "(Ljava/lang/Object;)Ljava/util/HashMap$Node;" } : Jvm.MethodName) ({ cls := "java/util/HashMap", name := "getNode", desc := "(Ljava/lang/Object;)Ljava/util/HashMap$Node;" } : Jvm.MethodName)) ∈ lw_all := lw_g (lw_at lw_m11 218 rfl) rfl
theorem q2738 : (Jvm.Cond.sameMethod "java/util/HashMap" "java/util/HashMap" "getNode" "(Ljava/lang/Object;)Ljava/util/HashMap$Node;") ∈ lw_all := lw_g (lw_at lw_m11 219 rfl) rfl
theorem q2740 : (Jvm.Cond.code ({ cls := "java/util/HashMap", name := "getNode", desc := "(Ljava/lang/Object;)Ljava/util/HashMap$Node;" } : Jvm.MethodName) prog_56_method_13_code (8 : Nat) (Option.some (Jvm.ClassFile.FieldType.object "java/util/HashMap$Node"))) ∈ lw_all := lw_g (lw_at lw_m11 221 rfl) rfl
theorem q2741 : (Jvm.Cond.methodLink "java/util/HashMap" (182 : Nat) ({ cls := "java/util/HashMap$TreeNode", name := "getTreeNode", desc := "(ILjava/lang/Object;)Ljava/util/HashMap$TreeNode;" } : Jvm.MethodName)) ∈ lw_all := lw_g (lw_at lw_m11 222 rfl) rfl
theorem q2752 : (Jvm.Cond.declares ({ cls := "java/util/HashMap", name := "getNode", desc := "(Ljava/lang/Object;)Ljava/util/HashMap$Node;" } : Jvm.MethodName)) ∈ lw_tbl := lw_at lw_m11 233 rfl
theorem q2789 : (Jvm.Cond.instantiable "java/util/HashMap" (8 : Nat)) ∈ lw_all := lw_g (lw_at lw_m12 30 rfl) rfl
theorem q2791 : (Jvm.Cond.lays "java/util/HashMap" "java/util/HashMap" "table" "[Ljava/util/HashMap$Node;") ∈ lw_all := lw_g (lw_at lw_m12 32 rfl) rfl
theorem q2792 : (Jvm.Cond.lays "java/util/HashMap" "java/util/HashMap" "entrySet" "Ljava/util/Set;") ∈ lw_all := lw_g (lw_at lw_m12 33 rfl) rfl
theorem q2793 : (Jvm.Cond.lays "java/util/HashMap" "java/util/HashMap" "size" "I") ∈ lw_all := lw_g (lw_at lw_m12 34 rfl) rfl
theorem q2794 : (Jvm.Cond.lays "java/util/HashMap" "java/util/HashMap" "modCount" "I") ∈ lw_all := lw_g (lw_at lw_m12 35 rfl) rfl
theorem q2795 : (Jvm.Cond.lays "java/util/HashMap" "java/util/HashMap" "threshold" "I") ∈ lw_all := lw_g (lw_at lw_m12 36 rfl) rfl
theorem q2796 : (Jvm.Cond.laysFinal "java/util/HashMap" "java/util/HashMap" "loadFactor" "F") ∈ lw_all := lw_g (lw_at lw_m12 37 rfl) rfl
theorem q2797 : (Jvm.Cond.lays "java/util/HashMap" "java/util/AbstractMap" "keySet" "Ljava/util/Set;") ∈ lw_all := lw_g (lw_at lw_m12 38 rfl) rfl
theorem q2798 : (Jvm.Cond.lays "java/util/HashMap" "java/util/AbstractMap" "values" "Ljava/util/Collection;") ∈ lw_all := lw_g (lw_at lw_m12 39 rfl) rfl
theorem q2799 : (Jvm.Cond.superclass "java/util/HashMap" "java/util/AbstractMap") ∈ lw_all := lw_g (lw_at lw_m12 40 rfl) rfl
theorem q2827 : (Jvm.Cond.instanceMethod ({ cls := "java/util/HashMap", name := "containsKey", desc := "(Ljava/lang/Object;)Z" } : Jvm.MethodName)) ∈ lw_all := lw_g (lw_at lw_m12 68 rfl) rfl
theorem q2828 : (Jvm.Cond.selects "java/util/HashMap" ({ cls := "java/util/HashMap", name := "containsKey", desc := "(Ljava/lang/Object;)Z" } : Jvm.MethodName) ({ cls := "java/util/HashMap", name := "containsKey", desc := "(Ljava/lang/Object;)Z" } : Jvm.MethodName)) ∈ lw_all := lw_g (lw_at lw_m12 69 rfl) rfl
theorem q2829 : (Jvm.Cond.sameMethod "java/util/HashMap" "java/util/HashMap" "containsKey" "(Ljava/lang/Object;)Z") ∈ lw_all := lw_g (lw_at lw_m12 70 rfl) rfl
theorem q2831 : (Jvm.Cond.code ({ cls := "java/util/HashMap", name := "containsKey", desc := "(Ljava/lang/Object;)Z" } : Jvm.MethodName) prog_56_method_14_code (2 : Nat) (Option.some Jvm.ClassFile.FieldType.boolean)) ∈ lw_all := lw_g (lw_at lw_m12 72 rfl) rfl
theorem q3539 : (Jvm.Cond.sameMethod "java/util/HashMap" "java/util/HashMap" "put" "(Ljava/lang/Object;Ljava/lang/Object;)Ljava/lang/Object;") ∈ lw_all := lw_g (lw_at lw_m15 60 rfl) rfl
theorem q3540 : (Jvm.Cond.selects "java/util/HashMap" ({ cls := "java/util/HashMap", name := "put", desc := "(Ljava/lang/Object;Ljava/lang/Object;)Ljava/lang/Object;" } : Jvm.MethodName) ({ cls := "java/util/HashMap", name := "put", desc := "(Ljava/lang/Object;Ljava/lang/Object;)Ljava/lang/Object;" } : Jvm.MethodName)) ∈ lw_all := lw_g (lw_at lw_m15 61 rfl) rfl
theorem q3577 : (Jvm.Cond.castable "java/util/HashMap" "java/lang/Object") ∈ lw_tbl := lw_at lw_m15 98 rfl
theorem in_J26 : ∀ w ∈ wsJ260, w ∈ lw_all := lw_in wsJ260 [2797, 2798, 2791, 2792, 2793, 2794, 2795, 2796] (by decide +kernel) (by decide +kernel)

/-! java/util/LinkedHashMap -/
set_option maxRecDepth 100000
def RJ27 : String := "java/util/LinkedHashMap"
def TJ27 : u_T := fun k => match k with
  | 0 => ("java/util/AbstractMap", "keySet", "Ljava/util/Set;", false)
  | 1 => ("java/util/AbstractMap", "values", "Ljava/util/Collection;", false)
  | 2 => ("java/util/HashMap", "table", "[Ljava/util/HashMap$Node;", false)
  | 3 => ("java/util/HashMap", "entrySet", "Ljava/util/Set;", false)
  | 4 => ("java/util/HashMap", "size", "I", false)
  | 5 => ("java/util/HashMap", "modCount", "I", false)
  | 6 => ("java/util/HashMap", "threshold", "I", false)
  | 7 => ("java/util/HashMap", "loadFactor", "F", true)
  | 8 => ("java/util/LinkedHashMap", "head", "Ljava/util/LinkedHashMap$Entry;", false)
  | 9 => ("java/util/LinkedHashMap", "tail", "Ljava/util/LinkedHashMap$Entry;", false)
  | 10 => ("java/util/LinkedHashMap", "accessOrder", "Z", true)
  | _ => ("java/util/LinkedHashMap", "putMode", "I", false)
def tyJ27 : Nat → FieldType := fun k => match k with
  | 0 => .object "java/util/Set"
  | 1 => .object "java/util/Collection"
  | 2 => .array (.object "java/util/HashMap$Node")
  | 3 => .object "java/util/Set"
  | 4 => .int
  | 5 => .int
  | 6 => .int
  | 7 => .float
  | 8 => .object "java/util/LinkedHashMap$Entry"
  | 9 => .object "java/util/LinkedHashMap$Entry"
  | 10 => .boolean
  | _ => .int
abbrev wsJ270 : List Cond := u_ws RJ27 TJ27 12
theorem nmJ27 : ∀ a, a < 12 → ∀ b, b < 12 → a ≠ b → (TJ27 a).2.1 ≠ (TJ27 b).2.1 := by decide +kernel
theorem tyJ27_ok : ∀ k, k < 12 → parseFieldDescriptor (TJ27 k).2.2.1 = some (tyJ27 k) := by decide +kernel
abbrev cJ27_keysToArray : ByteArray := prog_61_method_27_code
def yJ27_keysToArray : MethodName := ⟨RJ27, "keysToArray", "([Ljava/lang/Object;)[Ljava/lang/Object;"⟩
def dkwJ27_keysToArray_0 : List UInt8 := [42, 43, 3, 182, 0, 131, 176]
abbrev dktJ27_keysToArray_0 : List UInt8 := dkwJ27_keysToArray_0 ++ []
theorem dksJ27_keysToArray_0 : cJ27_keysToArray.data.toList.drop 0 = dktJ27_keysToArray_0 := by decide +kernel
theorem dJ27_keysToArray_0 : decode cJ27_keysToArray 0 = .ok (.aload_n 0, 1) := dk_42 (dk_at dksJ27_keysToArray_0 0 rfl rfl)
theorem dJ27_keysToArray_1 : decode cJ27_keysToArray 1 = .ok (.aload_n 1, 1) := dk_43 (dk_at dksJ27_keysToArray_0 1 rfl rfl)
theorem dJ27_keysToArray_2 : decode cJ27_keysToArray 2 = .ok (.iconst 0, 1) := dk_3 (dk_at dksJ27_keysToArray_0 2 rfl rfl)
theorem dJ27_keysToArray_3 : decode cJ27_keysToArray 3 = .ok (.invokevirtual 131, 3) := dk_182 0 131 (dk_at dksJ27_keysToArray_0 3 rfl rfl)
theorem dJ27_keysToArray_6 : decode cJ27_keysToArray 6 = .ok (.areturn, 1) := dk_176 (dk_at dksJ27_keysToArray_0 6 rfl rfl)
abbrev cJ27_keysToArray_2 : ByteArray := prog_61_method_28_code
def yJ27_keysToArray_2 : MethodName := ⟨RJ27, "keysToArray", "([Ljava/lang/Object;Z)[Ljava/lang/Object;"⟩
def dkwJ27_keysToArray_2_3 : List UInt8 := [180, 0, 14, 58, 5, 167, 255, 232, 43, 176]
abbrev dktJ27_keysToArray_2_3 : List UInt8 := dkwJ27_keysToArray_2_3 ++ []
def dkwJ27_keysToArray_2_2 : List UInt8 := [180, 0, 7, 58, 5, 25, 5, 198, 0, 25, 45, 21, 4, 132, 4, 1, 25, 5, 180, 0, 39, 83, 25, 5]
abbrev dktJ27_keysToArray_2_2 : List UInt8 := dkwJ27_keysToArray_2_2 ++ dktJ27_keysToArray_2_3
def dkwJ27_keysToArray_2_1 : List UInt8 := [132, 4, 1, 25, 5, 180, 0, 39, 83, 25, 5, 180, 0, 19, 58, 5, 167, 255, 232, 167, 0, 36, 42]
abbrev dktJ27_keysToArray_2_1 : List UInt8 := dkwJ27_keysToArray_2_1 ++ dktJ27_keysToArray_2_2
def dkwJ27_keysToArray_2_0 : List UInt8 := [43, 78, 3, 54, 4, 28, 153, 0, 39, 42, 180, 0, 11, 58, 5, 25, 5, 198, 0, 25, 45, 21, 4]
abbrev dktJ27_keysToArray_2_0 : List UInt8 := dkwJ27_keysToArray_2_0 ++ dktJ27_keysToArray_2_1
theorem dksJ27_keysToArray_2_0 : cJ27_keysToArray_2.data.toList.drop 0 = dktJ27_keysToArray_2_0 := by decide +kernel
theorem dksJ27_keysToArray_2_1 : cJ27_keysToArray_2.data.toList.drop 23 = dktJ27_keysToArray_2_1 := dk_seg dksJ27_keysToArray_2_0 23 rfl rfl
theorem dksJ27_keysToArray_2_2 : cJ27_keysToArray_2.data.toList.drop 46 = dktJ27_keysToArray_2_2 := dk_seg dksJ27_keysToArray_2_1 23 rfl rfl
theorem dksJ27_keysToArray_2_3 : cJ27_keysToArray_2.data.toList.drop 70 = dktJ27_keysToArray_2_3 := dk_seg dksJ27_keysToArray_2_2 24 rfl rfl
theorem dJ27_keysToArray_2_0 : decode cJ27_keysToArray_2 0 = .ok (.aload_n 1, 1) := dk_43 (dk_at dksJ27_keysToArray_2_0 0 rfl rfl)
theorem dJ27_keysToArray_2_1 : decode cJ27_keysToArray_2 1 = .ok (.astore_n 3, 1) := dk_78 (dk_at dksJ27_keysToArray_2_0 1 rfl rfl)
theorem dJ27_keysToArray_2_2 : decode cJ27_keysToArray_2 2 = .ok (.iconst 0, 1) := dk_3 (dk_at dksJ27_keysToArray_2_0 2 rfl rfl)
theorem dJ27_keysToArray_2_3 : decode cJ27_keysToArray_2 3 = .ok (.istore 4, 2) := dk_54 4 (dk_at dksJ27_keysToArray_2_0 3 rfl rfl)
theorem dJ27_keysToArray_2_5 : decode cJ27_keysToArray_2 5 = .ok (.iload_n 2, 1) := dk_28 (dk_at dksJ27_keysToArray_2_0 5 rfl rfl)
theorem dJ27_keysToArray_2_6 : decode cJ27_keysToArray_2 6 = .ok (.ifCond .eq 39, 3) := dk_153 0 39 (dk_at dksJ27_keysToArray_2_0 6 rfl rfl)
theorem dJ27_keysToArray_2_9 : decode cJ27_keysToArray_2 9 = .ok (.aload_n 0, 1) := dk_42 (dk_at dksJ27_keysToArray_2_0 9 rfl rfl)
theorem dJ27_keysToArray_2_10 : decode cJ27_keysToArray_2 10 = .ok (.getfield 11, 3) := dk_180 0 11 (dk_at dksJ27_keysToArray_2_0 10 rfl rfl)
theorem dJ27_keysToArray_2_13 : decode cJ27_keysToArray_2 13 = .ok (.astore 5, 2) := dk_58 5 (dk_at dksJ27_keysToArray_2_0 13 rfl rfl)
theorem dJ27_keysToArray_2_15 : decode cJ27_keysToArray_2 15 = .ok (.aload 5, 2) := dk_25 5 (dk_at dksJ27_keysToArray_2_0 15 rfl rfl)
theorem dJ27_keysToArray_2_17 : decode cJ27_keysToArray_2 17 = .ok (.ifnull 25, 3) := dk_198 0 25 (dk_at dksJ27_keysToArray_2_0 17 rfl rfl)
theorem dJ27_keysToArray_2_20 : decode cJ27_keysToArray_2 20 = .ok (.aload_n 3, 1) := dk_45 (dk_at dksJ27_keysToArray_2_0 20 rfl rfl)
theorem dJ27_keysToArray_2_21 : decode cJ27_keysToArray_2 21 = .ok (.iload 4, 2) := dk_21 4 (dk_at dksJ27_keysToArray_2_0 21 rfl rfl)
theorem dJ27_keysToArray_2_23 : decode cJ27_keysToArray_2 23 = .ok (.iinc 4 1, 3) := dk_132 4 1 (dk_at dksJ27_keysToArray_2_1 0 rfl rfl)
theorem dJ27_keysToArray_2_26 : decode cJ27_keysToArray_2 26 = .ok (.aload 5, 2) := dk_25 5 (dk_at dksJ27_keysToArray_2_1 3 rfl rfl)
theorem dJ27_keysToArray_2_28 : decode cJ27_keysToArray_2 28 = .ok (.getfield 39, 3) := dk_180 0 39 (dk_at dksJ27_keysToArray_2_1 5 rfl rfl)
theorem dJ27_keysToArray_2_31 : decode cJ27_keysToArray_2 31 = .ok (.aastore, 1) := dk_83 (dk_at dksJ27_keysToArray_2_1 8 rfl rfl)
theorem dJ27_keysToArray_2_32 : decode cJ27_keysToArray_2 32 = .ok (.aload 5, 2) := dk_25 5 (dk_at dksJ27_keysToArray_2_1 9 rfl rfl)
theorem dJ27_keysToArray_2_34 : decode cJ27_keysToArray_2 34 = .ok (.getfield 19, 3) := dk_180 0 19 (dk_at dksJ27_keysToArray_2_1 11 rfl rfl)
theorem dJ27_keysToArray_2_37 : decode cJ27_keysToArray_2 37 = .ok (.astore 5, 2) := dk_58 5 (dk_at dksJ27_keysToArray_2_1 14 rfl rfl)
theorem dJ27_keysToArray_2_39 : decode cJ27_keysToArray_2 39 = .ok (.goto (-24), 3) := dk_167 255 232 (dk_at dksJ27_keysToArray_2_1 16 rfl rfl)
theorem dJ27_keysToArray_2_42 : decode cJ27_keysToArray_2 42 = .ok (.goto 36, 3) := dk_167 0 36 (dk_at dksJ27_keysToArray_2_1 19 rfl rfl)
theorem dJ27_keysToArray_2_45 : decode cJ27_keysToArray_2 45 = .ok (.aload_n 0, 1) := dk_42 (dk_at dksJ27_keysToArray_2_1 22 rfl rfl)
theorem dJ27_keysToArray_2_46 : decode cJ27_keysToArray_2 46 = .ok (.getfield 7, 3) := dk_180 0 7 (dk_at dksJ27_keysToArray_2_2 0 rfl rfl)
theorem dJ27_keysToArray_2_49 : decode cJ27_keysToArray_2 49 = .ok (.astore 5, 2) := dk_58 5 (dk_at dksJ27_keysToArray_2_2 3 rfl rfl)
theorem dJ27_keysToArray_2_51 : decode cJ27_keysToArray_2 51 = .ok (.aload 5, 2) := dk_25 5 (dk_at dksJ27_keysToArray_2_2 5 rfl rfl)
theorem dJ27_keysToArray_2_53 : decode cJ27_keysToArray_2 53 = .ok (.ifnull 25, 3) := dk_198 0 25 (dk_at dksJ27_keysToArray_2_2 7 rfl rfl)
theorem dJ27_keysToArray_2_56 : decode cJ27_keysToArray_2 56 = .ok (.aload_n 3, 1) := dk_45 (dk_at dksJ27_keysToArray_2_2 10 rfl rfl)
theorem dJ27_keysToArray_2_57 : decode cJ27_keysToArray_2 57 = .ok (.iload 4, 2) := dk_21 4 (dk_at dksJ27_keysToArray_2_2 11 rfl rfl)
theorem dJ27_keysToArray_2_59 : decode cJ27_keysToArray_2 59 = .ok (.iinc 4 1, 3) := dk_132 4 1 (dk_at dksJ27_keysToArray_2_2 13 rfl rfl)
theorem dJ27_keysToArray_2_62 : decode cJ27_keysToArray_2 62 = .ok (.aload 5, 2) := dk_25 5 (dk_at dksJ27_keysToArray_2_2 16 rfl rfl)
theorem dJ27_keysToArray_2_64 : decode cJ27_keysToArray_2 64 = .ok (.getfield 39, 3) := dk_180 0 39 (dk_at dksJ27_keysToArray_2_2 18 rfl rfl)
theorem dJ27_keysToArray_2_67 : decode cJ27_keysToArray_2 67 = .ok (.aastore, 1) := dk_83 (dk_at dksJ27_keysToArray_2_2 21 rfl rfl)
theorem dJ27_keysToArray_2_68 : decode cJ27_keysToArray_2 68 = .ok (.aload 5, 2) := dk_25 5 (dk_at dksJ27_keysToArray_2_2 22 rfl rfl)
theorem dJ27_keysToArray_2_70 : decode cJ27_keysToArray_2 70 = .ok (.getfield 14, 3) := dk_180 0 14 (dk_at dksJ27_keysToArray_2_3 0 rfl rfl)
theorem dJ27_keysToArray_2_73 : decode cJ27_keysToArray_2 73 = .ok (.astore 5, 2) := dk_58 5 (dk_at dksJ27_keysToArray_2_3 3 rfl rfl)
theorem dJ27_keysToArray_2_75 : decode cJ27_keysToArray_2 75 = .ok (.goto (-24), 3) := dk_167 255 232 (dk_at dksJ27_keysToArray_2_3 5 rfl rfl)
theorem dJ27_keysToArray_2_78 : decode cJ27_keysToArray_2 78 = .ok (.aload_n 1, 1) := dk_43 (dk_at dksJ27_keysToArray_2_3 8 rfl rfl)
theorem dJ27_keysToArray_2_79 : decode cJ27_keysToArray_2 79 = .ok (.areturn, 1) := dk_176 (dk_at dksJ27_keysToArray_2_3 9 rfl rfl)
abbrev cJ27_init : ByteArray := prog_61_method_16_code
def yJ27_init : MethodName := ⟨RJ27, "<init>", "()V"⟩
def dkwJ27_init_0 : List UInt8 := [42, 183, 0, 87, 42, 3, 181, 0, 1, 42, 3, 181, 0, 64, 177]
abbrev dktJ27_init_0 : List UInt8 := dkwJ27_init_0 ++ []
theorem dksJ27_init_0 : cJ27_init.data.toList.drop 0 = dktJ27_init_0 := by decide +kernel
theorem dJ27_init_0 : decode cJ27_init 0 = .ok (.aload_n 0, 1) := dk_42 (dk_at dksJ27_init_0 0 rfl rfl)
theorem dJ27_init_1 : decode cJ27_init 1 = .ok (.invokespecial 87, 3) := dk_183 0 87 (dk_at dksJ27_init_0 1 rfl rfl)
theorem dJ27_init_4 : decode cJ27_init 4 = .ok (.aload_n 0, 1) := dk_42 (dk_at dksJ27_init_0 4 rfl rfl)
theorem dJ27_init_5 : decode cJ27_init 5 = .ok (.iconst 0, 1) := dk_3 (dk_at dksJ27_init_0 5 rfl rfl)
theorem dJ27_init_6 : decode cJ27_init 6 = .ok (.putfield 1, 3) := dk_181 0 1 (dk_at dksJ27_init_0 6 rfl rfl)
theorem dJ27_init_9 : decode cJ27_init 9 = .ok (.aload_n 0, 1) := dk_42 (dk_at dksJ27_init_0 9 rfl rfl)
theorem dJ27_init_10 : decode cJ27_init 10 = .ok (.iconst 0, 1) := dk_3 (dk_at dksJ27_init_0 10 rfl rfl)
theorem dJ27_init_11 : decode cJ27_init 11 = .ok (.putfield 64, 3) := dk_181 0 64 (dk_at dksJ27_init_0 11 rfl rfl)
theorem dJ27_init_14 : decode cJ27_init 14 = .ok (.return_, 1) := dk_177 (dk_at dksJ27_init_0 14 rfl rfl)
abbrev cJ27_replacementNode : ByteArray := prog_61_method_5_code
def yJ27_replacementNode : MethodName := ⟨RJ27, "replacementNode", "(Ljava/util/HashMap$Node;Ljava/util/HashMap$Node;)Ljava/util/HashMap$Node;"⟩
def dkwJ27_replacementNode_1 : List UInt8 := [183, 0, 28, 58, 4, 42, 45, 25, 4, 182, 0, 46, 25, 4, 176]
abbrev dktJ27_replacementNode_1 : List UInt8 := dkwJ27_replacementNode_1 ++ []
def dkwJ27_replacementNode_0 : List UInt8 := [43, 192, 0, 15, 78, 187, 0, 15, 89, 45, 180, 0, 36, 45, 180, 0, 39, 45, 180, 0, 43, 44]
abbrev dktJ27_replacementNode_0 : List UInt8 := dkwJ27_replacementNode_0 ++ dktJ27_replacementNode_1
theorem dksJ27_replacementNode_0 : cJ27_replacementNode.data.toList.drop 0 = dktJ27_replacementNode_0 := by decide +kernel
theorem dksJ27_replacementNode_1 : cJ27_replacementNode.data.toList.drop 22 = dktJ27_replacementNode_1 := dk_seg dksJ27_replacementNode_0 22 rfl rfl
theorem dJ27_replacementNode_0 : decode cJ27_replacementNode 0 = .ok (.aload_n 1, 1) := dk_43 (dk_at dksJ27_replacementNode_0 0 rfl rfl)
theorem dJ27_replacementNode_1 : decode cJ27_replacementNode 1 = .ok (.checkcast 15, 3) := dk_192 0 15 (dk_at dksJ27_replacementNode_0 1 rfl rfl)
theorem dJ27_replacementNode_4 : decode cJ27_replacementNode 4 = .ok (.astore_n 3, 1) := dk_78 (dk_at dksJ27_replacementNode_0 4 rfl rfl)
theorem dJ27_replacementNode_5 : decode cJ27_replacementNode 5 = .ok (.new 15, 3) := dk_187 0 15 (dk_at dksJ27_replacementNode_0 5 rfl rfl)
theorem dJ27_replacementNode_8 : decode cJ27_replacementNode 8 = .ok (.dup, 1) := dk_89 (dk_at dksJ27_replacementNode_0 8 rfl rfl)
theorem dJ27_replacementNode_9 : decode cJ27_replacementNode 9 = .ok (.aload_n 3, 1) := dk_45 (dk_at dksJ27_replacementNode_0 9 rfl rfl)
theorem dJ27_replacementNode_10 : decode cJ27_replacementNode 10 = .ok (.getfield 36, 3) := dk_180 0 36 (dk_at dksJ27_replacementNode_0 10 rfl rfl)
theorem dJ27_replacementNode_13 : decode cJ27_replacementNode 13 = .ok (.aload_n 3, 1) := dk_45 (dk_at dksJ27_replacementNode_0 13 rfl rfl)
theorem dJ27_replacementNode_14 : decode cJ27_replacementNode 14 = .ok (.getfield 39, 3) := dk_180 0 39 (dk_at dksJ27_replacementNode_0 14 rfl rfl)
theorem dJ27_replacementNode_17 : decode cJ27_replacementNode 17 = .ok (.aload_n 3, 1) := dk_45 (dk_at dksJ27_replacementNode_0 17 rfl rfl)
theorem dJ27_replacementNode_18 : decode cJ27_replacementNode 18 = .ok (.getfield 43, 3) := dk_180 0 43 (dk_at dksJ27_replacementNode_0 18 rfl rfl)
theorem dJ27_replacementNode_21 : decode cJ27_replacementNode 21 = .ok (.aload_n 2, 1) := dk_44 (dk_at dksJ27_replacementNode_0 21 rfl rfl)
theorem dJ27_replacementNode_22 : decode cJ27_replacementNode 22 = .ok (.invokespecial 28, 3) := dk_183 0 28 (dk_at dksJ27_replacementNode_1 0 rfl rfl)
theorem dJ27_replacementNode_25 : decode cJ27_replacementNode 25 = .ok (.astore 4, 2) := dk_58 4 (dk_at dksJ27_replacementNode_1 3 rfl rfl)
theorem dJ27_replacementNode_27 : decode cJ27_replacementNode 27 = .ok (.aload_n 0, 1) := dk_42 (dk_at dksJ27_replacementNode_1 5 rfl rfl)
theorem dJ27_replacementNode_28 : decode cJ27_replacementNode 28 = .ok (.aload_n 3, 1) := dk_45 (dk_at dksJ27_replacementNode_1 6 rfl rfl)
theorem dJ27_replacementNode_29 : decode cJ27_replacementNode 29 = .ok (.aload 4, 2) := dk_25 4 (dk_at dksJ27_replacementNode_1 7 rfl rfl)
theorem dJ27_replacementNode_31 : decode cJ27_replacementNode 31 = .ok (.invokevirtual 46, 3) := dk_182 0 46 (dk_at dksJ27_replacementNode_1 9 rfl rfl)
theorem dJ27_replacementNode_34 : decode cJ27_replacementNode 34 = .ok (.aload 4, 2) := dk_25 4 (dk_at dksJ27_replacementNode_1 12 rfl rfl)
theorem dJ27_replacementNode_36 : decode cJ27_replacementNode 36 = .ok (.areturn, 1) := dk_176 (dk_at dksJ27_replacementNode_1 14 rfl rfl)
abbrev cJ27_transferLinks : ByteArray := prog_61_method_2_code
def yJ27_transferLinks : MethodName := ⟨RJ27, "transferLinks", "(Ljava/util/LinkedHashMap$Entry;Ljava/util/LinkedHashMap$Entry;)V"⟩
def dkwJ27_transferLinks_2 : List UInt8 := [181, 0, 11, 167, 0, 9, 25, 4, 44, 181, 0, 19, 177]
abbrev dktJ27_transferLinks_2 : List UInt8 := dkwJ27_transferLinks_2 ++ []
def dkwJ27_transferLinks_1 : List UInt8 := [199, 0, 11, 42, 44, 181, 0, 7, 167, 0, 8, 45, 44, 181, 0, 14, 25, 4, 199, 0, 11, 42, 44]
abbrev dktJ27_transferLinks_1 : List UInt8 := dkwJ27_transferLinks_1 ++ dktJ27_transferLinks_2
def dkwJ27_transferLinks_0 : List UInt8 := [44, 43, 180, 0, 19, 90, 181, 0, 19, 78, 44, 43, 180, 0, 14, 90, 181, 0, 14, 58, 4, 45]
abbrev dktJ27_transferLinks_0 : List UInt8 := dkwJ27_transferLinks_0 ++ dktJ27_transferLinks_1
theorem dksJ27_transferLinks_0 : cJ27_transferLinks.data.toList.drop 0 = dktJ27_transferLinks_0 := by decide +kernel
theorem dksJ27_transferLinks_1 : cJ27_transferLinks.data.toList.drop 22 = dktJ27_transferLinks_1 := dk_seg dksJ27_transferLinks_0 22 rfl rfl
theorem dksJ27_transferLinks_2 : cJ27_transferLinks.data.toList.drop 45 = dktJ27_transferLinks_2 := dk_seg dksJ27_transferLinks_1 23 rfl rfl
theorem dJ27_transferLinks_0 : decode cJ27_transferLinks 0 = .ok (.aload_n 2, 1) := dk_44 (dk_at dksJ27_transferLinks_0 0 rfl rfl)
theorem dJ27_transferLinks_1 : decode cJ27_transferLinks 1 = .ok (.aload_n 1, 1) := dk_43 (dk_at dksJ27_transferLinks_0 1 rfl rfl)
theorem dJ27_transferLinks_2 : decode cJ27_transferLinks 2 = .ok (.getfield 19, 3) := dk_180 0 19 (dk_at dksJ27_transferLinks_0 2 rfl rfl)
theorem dJ27_transferLinks_5 : decode cJ27_transferLinks 5 = .ok (.dup_x1, 1) := dk_90 (dk_at dksJ27_transferLinks_0 5 rfl rfl)
theorem dJ27_transferLinks_6 : decode cJ27_transferLinks 6 = .ok (.putfield 19, 3) := dk_181 0 19 (dk_at dksJ27_transferLinks_0 6 rfl rfl)
theorem dJ27_transferLinks_9 : decode cJ27_transferLinks 9 = .ok (.astore_n 3, 1) := dk_78 (dk_at dksJ27_transferLinks_0 9 rfl rfl)
theorem dJ27_transferLinks_10 : decode cJ27_transferLinks 10 = .ok (.aload_n 2, 1) := dk_44 (dk_at dksJ27_transferLinks_0 10 rfl rfl)
theorem dJ27_transferLinks_11 : decode cJ27_transferLinks 11 = .ok (.aload_n 1, 1) := dk_43 (dk_at dksJ27_transferLinks_0 11 rfl rfl)
theorem dJ27_transferLinks_12 : decode cJ27_transferLinks 12 = .ok (.getfield 14, 3) := dk_180 0 14 (dk_at dksJ27_transferLinks_0 12 rfl rfl)
theorem dJ27_transferLinks_15 : decode cJ27_transferLinks 15 = .ok (.dup_x1, 1) := dk_90 (dk_at dksJ27_transferLinks_0 15 rfl rfl)
theorem dJ27_transferLinks_16 : decode cJ27_transferLinks 16 = .ok (.putfield 14, 3) := dk_181 0 14 (dk_at dksJ27_transferLinks_0 16 rfl rfl)
theorem dJ27_transferLinks_19 : decode cJ27_transferLinks 19 = .ok (.astore 4, 2) := dk_58 4 (dk_at dksJ27_transferLinks_0 19 rfl rfl)
theorem dJ27_transferLinks_21 : decode cJ27_transferLinks 21 = .ok (.aload_n 3, 1) := dk_45 (dk_at dksJ27_transferLinks_0 21 rfl rfl)
theorem dJ27_transferLinks_22 : decode cJ27_transferLinks 22 = .ok (.ifnonnull 11, 3) := dk_199 0 11 (dk_at dksJ27_transferLinks_1 0 rfl rfl)
theorem dJ27_transferLinks_25 : decode cJ27_transferLinks 25 = .ok (.aload_n 0, 1) := dk_42 (dk_at dksJ27_transferLinks_1 3 rfl rfl)
theorem dJ27_transferLinks_26 : decode cJ27_transferLinks 26 = .ok (.aload_n 2, 1) := dk_44 (dk_at dksJ27_transferLinks_1 4 rfl rfl)
theorem dJ27_transferLinks_27 : decode cJ27_transferLinks 27 = .ok (.putfield 7, 3) := dk_181 0 7 (dk_at dksJ27_transferLinks_1 5 rfl rfl)
theorem dJ27_transferLinks_30 : decode cJ27_transferLinks 30 = .ok (.goto 8, 3) := dk_167 0 8 (dk_at dksJ27_transferLinks_1 8 rfl rfl)
theorem dJ27_transferLinks_33 : decode cJ27_transferLinks 33 = .ok (.aload_n 3, 1) := dk_45 (dk_at dksJ27_transferLinks_1 11 rfl rfl)
theorem dJ27_transferLinks_34 : decode cJ27_transferLinks 34 = .ok (.aload_n 2, 1) := dk_44 (dk_at dksJ27_transferLinks_1 12 rfl rfl)
theorem dJ27_transferLinks_35 : decode cJ27_transferLinks 35 = .ok (.putfield 14, 3) := dk_181 0 14 (dk_at dksJ27_transferLinks_1 13 rfl rfl)
theorem dJ27_transferLinks_38 : decode cJ27_transferLinks 38 = .ok (.aload 4, 2) := dk_25 4 (dk_at dksJ27_transferLinks_1 16 rfl rfl)
theorem dJ27_transferLinks_40 : decode cJ27_transferLinks 40 = .ok (.ifnonnull 11, 3) := dk_199 0 11 (dk_at dksJ27_transferLinks_1 18 rfl rfl)
theorem dJ27_transferLinks_43 : decode cJ27_transferLinks 43 = .ok (.aload_n 0, 1) := dk_42 (dk_at dksJ27_transferLinks_1 21 rfl rfl)
theorem dJ27_transferLinks_44 : decode cJ27_transferLinks 44 = .ok (.aload_n 2, 1) := dk_44 (dk_at dksJ27_transferLinks_1 22 rfl rfl)
theorem dJ27_transferLinks_45 : decode cJ27_transferLinks 45 = .ok (.putfield 11, 3) := dk_181 0 11 (dk_at dksJ27_transferLinks_2 0 rfl rfl)
theorem dJ27_transferLinks_48 : decode cJ27_transferLinks 48 = .ok (.goto 9, 3) := dk_167 0 9 (dk_at dksJ27_transferLinks_2 3 rfl rfl)
theorem dJ27_transferLinks_51 : decode cJ27_transferLinks 51 = .ok (.aload 4, 2) := dk_25 4 (dk_at dksJ27_transferLinks_2 6 rfl rfl)
theorem dJ27_transferLinks_53 : decode cJ27_transferLinks 53 = .ok (.aload_n 2, 1) := dk_44 (dk_at dksJ27_transferLinks_2 8 rfl rfl)
theorem dJ27_transferLinks_54 : decode cJ27_transferLinks 54 = .ok (.putfield 19, 3) := dk_181 0 19 (dk_at dksJ27_transferLinks_2 9 rfl rfl)
theorem dJ27_transferLinks_57 : decode cJ27_transferLinks 57 = .ok (.return_, 1) := dk_177 (dk_at dksJ27_transferLinks_2 12 rfl rfl)
abbrev cJ27_newNode : ByteArray := prog_61_method_4_code
def yJ27_newNode : MethodName := ⟨RJ27, "newNode", "(ILjava/lang/Object;Ljava/lang/Object;Ljava/util/HashMap$Node;)Ljava/util/HashMap$Node;"⟩
def dkwJ27_newNode_0 : List UInt8 := [187, 0, 15, 89, 27, 44, 45, 25, 4, 183, 0, 28, 58, 5, 42, 25, 5, 182, 0, 32, 25, 5, 176]
abbrev dktJ27_newNode_0 : List UInt8 := dkwJ27_newNode_0 ++ []
theorem dksJ27_newNode_0 : cJ27_newNode.data.toList.drop 0 = dktJ27_newNode_0 := by decide +kernel
theorem dJ27_newNode_0 : decode cJ27_newNode 0 = .ok (.new 15, 3) := dk_187 0 15 (dk_at dksJ27_newNode_0 0 rfl rfl)
theorem dJ27_newNode_3 : decode cJ27_newNode 3 = .ok (.dup, 1) := dk_89 (dk_at dksJ27_newNode_0 3 rfl rfl)
theorem dJ27_newNode_4 : decode cJ27_newNode 4 = .ok (.iload_n 1, 1) := dk_27 (dk_at dksJ27_newNode_0 4 rfl rfl)
theorem dJ27_newNode_5 : decode cJ27_newNode 5 = .ok (.aload_n 2, 1) := dk_44 (dk_at dksJ27_newNode_0 5 rfl rfl)
theorem dJ27_newNode_6 : decode cJ27_newNode 6 = .ok (.aload_n 3, 1) := dk_45 (dk_at dksJ27_newNode_0 6 rfl rfl)
theorem dJ27_newNode_7 : decode cJ27_newNode 7 = .ok (.aload 4, 2) := dk_25 4 (dk_at dksJ27_newNode_0 7 rfl rfl)
theorem dJ27_newNode_9 : decode cJ27_newNode 9 = .ok (.invokespecial 28, 3) := dk_183 0 28 (dk_at dksJ27_newNode_0 9 rfl rfl)
theorem dJ27_newNode_12 : decode cJ27_newNode 12 = .ok (.astore 5, 2) := dk_58 5 (dk_at dksJ27_newNode_0 12 rfl rfl)
theorem dJ27_newNode_14 : decode cJ27_newNode 14 = .ok (.aload_n 0, 1) := dk_42 (dk_at dksJ27_newNode_0 14 rfl rfl)
theorem dJ27_newNode_15 : decode cJ27_newNode 15 = .ok (.aload 5, 2) := dk_25 5 (dk_at dksJ27_newNode_0 15 rfl rfl)
theorem dJ27_newNode_17 : decode cJ27_newNode 17 = .ok (.invokevirtual 32, 3) := dk_182 0 32 (dk_at dksJ27_newNode_0 17 rfl rfl)
theorem dJ27_newNode_20 : decode cJ27_newNode 20 = .ok (.aload 5, 2) := dk_25 5 (dk_at dksJ27_newNode_0 20 rfl rfl)
theorem dJ27_newNode_22 : decode cJ27_newNode 22 = .ok (.areturn, 1) := dk_176 (dk_at dksJ27_newNode_0 22 rfl rfl)
abbrev cJ27_linkNodeAtEnd : ByteArray := prog_61_method_1_code
def yJ27_linkNodeAtEnd : MethodName := ⟨RJ27, "linkNodeAtEnd", "(Ljava/util/LinkedHashMap$Entry;)V"⟩
def dkwJ27_linkNodeAtEnd_3 : List UInt8 := [181, 0, 14, 177]
abbrev dktJ27_linkNodeAtEnd_3 : List UInt8 := dkwJ27_linkNodeAtEnd_3 ++ []
def dkwJ27_linkNodeAtEnd_2 : List UInt8 := [42, 43, 181, 0, 11, 44, 199, 0, 11, 42, 43, 181, 0, 7, 167, 0, 13, 43, 44, 181, 0, 19, 44, 43]
abbrev dktJ27_linkNodeAtEnd_2 : List UInt8 := dkwJ27_linkNodeAtEnd_2 ++ dktJ27_linkNodeAtEnd_3
def dkwJ27_linkNodeAtEnd_1 : List UInt8 := [181, 0, 11, 167, 0, 13, 43, 44, 181, 0, 14, 44, 43, 181, 0, 19, 167, 0, 35, 42, 180, 0, 11, 77]
abbrev dktJ27_linkNodeAtEnd_1 : List UInt8 := dkwJ27_linkNodeAtEnd_1 ++ dktJ27_linkNodeAtEnd_2
def dkwJ27_linkNodeAtEnd_0 : List UInt8 := [42, 180, 0, 1, 4, 160, 0, 38, 42, 180, 0, 7, 77, 42, 43, 181, 0, 7, 44, 199, 0, 11, 42, 43]
abbrev dktJ27_linkNodeAtEnd_0 : List UInt8 := dkwJ27_linkNodeAtEnd_0 ++ dktJ27_linkNodeAtEnd_1
theorem dksJ27_linkNodeAtEnd_0 : cJ27_linkNodeAtEnd.data.toList.drop 0 = dktJ27_linkNodeAtEnd_0 := by decide +kernel
theorem dksJ27_linkNodeAtEnd_1 : cJ27_linkNodeAtEnd.data.toList.drop 24 = dktJ27_linkNodeAtEnd_1 := dk_seg dksJ27_linkNodeAtEnd_0 24 rfl rfl
theorem dksJ27_linkNodeAtEnd_2 : cJ27_linkNodeAtEnd.data.toList.drop 48 = dktJ27_linkNodeAtEnd_2 := dk_seg dksJ27_linkNodeAtEnd_1 24 rfl rfl
theorem dksJ27_linkNodeAtEnd_3 : cJ27_linkNodeAtEnd.data.toList.drop 72 = dktJ27_linkNodeAtEnd_3 := dk_seg dksJ27_linkNodeAtEnd_2 24 rfl rfl
theorem dJ27_linkNodeAtEnd_0 : decode cJ27_linkNodeAtEnd 0 = .ok (.aload_n 0, 1) := dk_42 (dk_at dksJ27_linkNodeAtEnd_0 0 rfl rfl)
theorem dJ27_linkNodeAtEnd_1 : decode cJ27_linkNodeAtEnd 1 = .ok (.getfield 1, 3) := dk_180 0 1 (dk_at dksJ27_linkNodeAtEnd_0 1 rfl rfl)
theorem dJ27_linkNodeAtEnd_4 : decode cJ27_linkNodeAtEnd 4 = .ok (.iconst 1, 1) := dk_4 (dk_at dksJ27_linkNodeAtEnd_0 4 rfl rfl)
theorem dJ27_linkNodeAtEnd_5 : decode cJ27_linkNodeAtEnd 5 = .ok (.if_icmp .ne 38, 3) := dk_160 0 38 (dk_at dksJ27_linkNodeAtEnd_0 5 rfl rfl)
theorem dJ27_linkNodeAtEnd_8 : decode cJ27_linkNodeAtEnd 8 = .ok (.aload_n 0, 1) := dk_42 (dk_at dksJ27_linkNodeAtEnd_0 8 rfl rfl)
theorem dJ27_linkNodeAtEnd_9 : decode cJ27_linkNodeAtEnd 9 = .ok (.getfield 7, 3) := dk_180 0 7 (dk_at dksJ27_linkNodeAtEnd_0 9 rfl rfl)
theorem dJ27_linkNodeAtEnd_12 : decode cJ27_linkNodeAtEnd 12 = .ok (.astore_n 2, 1) := dk_77 (dk_at dksJ27_linkNodeAtEnd_0 12 rfl rfl)
theorem dJ27_linkNodeAtEnd_13 : decode cJ27_linkNodeAtEnd 13 = .ok (.aload_n 0, 1) := dk_42 (dk_at dksJ27_linkNodeAtEnd_0 13 rfl rfl)
theorem dJ27_linkNodeAtEnd_14 : decode cJ27_linkNodeAtEnd 14 = .ok (.aload_n 1, 1) := dk_43 (dk_at dksJ27_linkNodeAtEnd_0 14 rfl rfl)
theorem dJ27_linkNodeAtEnd_15 : decode cJ27_linkNodeAtEnd 15 = .ok (.putfield 7, 3) := dk_181 0 7 (dk_at dksJ27_linkNodeAtEnd_0 15 rfl rfl)
theorem dJ27_linkNodeAtEnd_18 : decode cJ27_linkNodeAtEnd 18 = .ok (.aload_n 2, 1) := dk_44 (dk_at dksJ27_linkNodeAtEnd_0 18 rfl rfl)
theorem dJ27_linkNodeAtEnd_19 : decode cJ27_linkNodeAtEnd 19 = .ok (.ifnonnull 11, 3) := dk_199 0 11 (dk_at dksJ27_linkNodeAtEnd_0 19 rfl rfl)
theorem dJ27_linkNodeAtEnd_22 : decode cJ27_linkNodeAtEnd 22 = .ok (.aload_n 0, 1) := dk_42 (dk_at dksJ27_linkNodeAtEnd_0 22 rfl rfl)
theorem dJ27_linkNodeAtEnd_23 : decode cJ27_linkNodeAtEnd 23 = .ok (.aload_n 1, 1) := dk_43 (dk_at dksJ27_linkNodeAtEnd_0 23 rfl rfl)
theorem dJ27_linkNodeAtEnd_24 : decode cJ27_linkNodeAtEnd 24 = .ok (.putfield 11, 3) := dk_181 0 11 (dk_at dksJ27_linkNodeAtEnd_1 0 rfl rfl)
theorem dJ27_linkNodeAtEnd_27 : decode cJ27_linkNodeAtEnd 27 = .ok (.goto 13, 3) := dk_167 0 13 (dk_at dksJ27_linkNodeAtEnd_1 3 rfl rfl)
theorem dJ27_linkNodeAtEnd_30 : decode cJ27_linkNodeAtEnd 30 = .ok (.aload_n 1, 1) := dk_43 (dk_at dksJ27_linkNodeAtEnd_1 6 rfl rfl)
theorem dJ27_linkNodeAtEnd_31 : decode cJ27_linkNodeAtEnd 31 = .ok (.aload_n 2, 1) := dk_44 (dk_at dksJ27_linkNodeAtEnd_1 7 rfl rfl)
theorem dJ27_linkNodeAtEnd_32 : decode cJ27_linkNodeAtEnd 32 = .ok (.putfield 14, 3) := dk_181 0 14 (dk_at dksJ27_linkNodeAtEnd_1 8 rfl rfl)
theorem dJ27_linkNodeAtEnd_35 : decode cJ27_linkNodeAtEnd 35 = .ok (.aload_n 2, 1) := dk_44 (dk_at dksJ27_linkNodeAtEnd_1 11 rfl rfl)
theorem dJ27_linkNodeAtEnd_36 : decode cJ27_linkNodeAtEnd 36 = .ok (.aload_n 1, 1) := dk_43 (dk_at dksJ27_linkNodeAtEnd_1 12 rfl rfl)
theorem dJ27_linkNodeAtEnd_37 : decode cJ27_linkNodeAtEnd 37 = .ok (.putfield 19, 3) := dk_181 0 19 (dk_at dksJ27_linkNodeAtEnd_1 13 rfl rfl)
theorem dJ27_linkNodeAtEnd_40 : decode cJ27_linkNodeAtEnd 40 = .ok (.goto 35, 3) := dk_167 0 35 (dk_at dksJ27_linkNodeAtEnd_1 16 rfl rfl)
theorem dJ27_linkNodeAtEnd_43 : decode cJ27_linkNodeAtEnd 43 = .ok (.aload_n 0, 1) := dk_42 (dk_at dksJ27_linkNodeAtEnd_1 19 rfl rfl)
theorem dJ27_linkNodeAtEnd_44 : decode cJ27_linkNodeAtEnd 44 = .ok (.getfield 11, 3) := dk_180 0 11 (dk_at dksJ27_linkNodeAtEnd_1 20 rfl rfl)
theorem dJ27_linkNodeAtEnd_47 : decode cJ27_linkNodeAtEnd 47 = .ok (.astore_n 2, 1) := dk_77 (dk_at dksJ27_linkNodeAtEnd_1 23 rfl rfl)
theorem dJ27_linkNodeAtEnd_48 : decode cJ27_linkNodeAtEnd 48 = .ok (.aload_n 0, 1) := dk_42 (dk_at dksJ27_linkNodeAtEnd_2 0 rfl rfl)
theorem dJ27_linkNodeAtEnd_49 : decode cJ27_linkNodeAtEnd 49 = .ok (.aload_n 1, 1) := dk_43 (dk_at dksJ27_linkNodeAtEnd_2 1 rfl rfl)
theorem dJ27_linkNodeAtEnd_50 : decode cJ27_linkNodeAtEnd 50 = .ok (.putfield 11, 3) := dk_181 0 11 (dk_at dksJ27_linkNodeAtEnd_2 2 rfl rfl)
theorem dJ27_linkNodeAtEnd_53 : decode cJ27_linkNodeAtEnd 53 = .ok (.aload_n 2, 1) := dk_44 (dk_at dksJ27_linkNodeAtEnd_2 5 rfl rfl)
theorem dJ27_linkNodeAtEnd_54 : decode cJ27_linkNodeAtEnd 54 = .ok (.ifnonnull 11, 3) := dk_199 0 11 (dk_at dksJ27_linkNodeAtEnd_2 6 rfl rfl)
theorem dJ27_linkNodeAtEnd_57 : decode cJ27_linkNodeAtEnd 57 = .ok (.aload_n 0, 1) := dk_42 (dk_at dksJ27_linkNodeAtEnd_2 9 rfl rfl)
theorem dJ27_linkNodeAtEnd_58 : decode cJ27_linkNodeAtEnd 58 = .ok (.aload_n 1, 1) := dk_43 (dk_at dksJ27_linkNodeAtEnd_2 10 rfl rfl)
theorem dJ27_linkNodeAtEnd_59 : decode cJ27_linkNodeAtEnd 59 = .ok (.putfield 7, 3) := dk_181 0 7 (dk_at dksJ27_linkNodeAtEnd_2 11 rfl rfl)
theorem dJ27_linkNodeAtEnd_62 : decode cJ27_linkNodeAtEnd 62 = .ok (.goto 13, 3) := dk_167 0 13 (dk_at dksJ27_linkNodeAtEnd_2 14 rfl rfl)
theorem dJ27_linkNodeAtEnd_65 : decode cJ27_linkNodeAtEnd 65 = .ok (.aload_n 1, 1) := dk_43 (dk_at dksJ27_linkNodeAtEnd_2 17 rfl rfl)
theorem dJ27_linkNodeAtEnd_66 : decode cJ27_linkNodeAtEnd 66 = .ok (.aload_n 2, 1) := dk_44 (dk_at dksJ27_linkNodeAtEnd_2 18 rfl rfl)
theorem dJ27_linkNodeAtEnd_67 : decode cJ27_linkNodeAtEnd 67 = .ok (.putfield 19, 3) := dk_181 0 19 (dk_at dksJ27_linkNodeAtEnd_2 19 rfl rfl)
theorem dJ27_linkNodeAtEnd_70 : decode cJ27_linkNodeAtEnd 70 = .ok (.aload_n 2, 1) := dk_44 (dk_at dksJ27_linkNodeAtEnd_2 22 rfl rfl)
theorem dJ27_linkNodeAtEnd_71 : decode cJ27_linkNodeAtEnd 71 = .ok (.aload_n 1, 1) := dk_43 (dk_at dksJ27_linkNodeAtEnd_2 23 rfl rfl)
theorem dJ27_linkNodeAtEnd_72 : decode cJ27_linkNodeAtEnd 72 = .ok (.putfield 14, 3) := dk_181 0 14 (dk_at dksJ27_linkNodeAtEnd_3 0 rfl rfl)
theorem dJ27_linkNodeAtEnd_75 : decode cJ27_linkNodeAtEnd 75 = .ok (.return_, 1) := dk_177 (dk_at dksJ27_linkNodeAtEnd_3 3 rfl rfl)
abbrev cJ27_newTreeNode : ByteArray := prog_61_method_6_code
def yJ27_newTreeNode : MethodName := ⟨RJ27, "newTreeNode", "(ILjava/lang/Object;Ljava/lang/Object;Ljava/util/HashMap$Node;)Ljava/util/HashMap$TreeNode;"⟩
def dkwJ27_newTreeNode_0 : List UInt8 := [187, 0, 50, 89, 27, 44, 45, 25, 4, 183, 0, 52, 58, 5, 42, 25, 5, 182, 0, 32, 25, 5, 176]
abbrev dktJ27_newTreeNode_0 : List UInt8 := dkwJ27_newTreeNode_0 ++ []
theorem dksJ27_newTreeNode_0 : cJ27_newTreeNode.data.toList.drop 0 = dktJ27_newTreeNode_0 := by decide +kernel
theorem dJ27_newTreeNode_0 : decode cJ27_newTreeNode 0 = .ok (.new 50, 3) := dk_187 0 50 (dk_at dksJ27_newTreeNode_0 0 rfl rfl)
theorem dJ27_newTreeNode_3 : decode cJ27_newTreeNode 3 = .ok (.dup, 1) := dk_89 (dk_at dksJ27_newTreeNode_0 3 rfl rfl)
theorem dJ27_newTreeNode_4 : decode cJ27_newTreeNode 4 = .ok (.iload_n 1, 1) := dk_27 (dk_at dksJ27_newTreeNode_0 4 rfl rfl)
theorem dJ27_newTreeNode_5 : decode cJ27_newTreeNode 5 = .ok (.aload_n 2, 1) := dk_44 (dk_at dksJ27_newTreeNode_0 5 rfl rfl)
theorem dJ27_newTreeNode_6 : decode cJ27_newTreeNode 6 = .ok (.aload_n 3, 1) := dk_45 (dk_at dksJ27_newTreeNode_0 6 rfl rfl)
theorem dJ27_newTreeNode_7 : decode cJ27_newTreeNode 7 = .ok (.aload 4, 2) := dk_25 4 (dk_at dksJ27_newTreeNode_0 7 rfl rfl)
theorem dJ27_newTreeNode_9 : decode cJ27_newTreeNode 9 = .ok (.invokespecial 52, 3) := dk_183 0 52 (dk_at dksJ27_newTreeNode_0 9 rfl rfl)
theorem dJ27_newTreeNode_12 : decode cJ27_newTreeNode 12 = .ok (.astore 5, 2) := dk_58 5 (dk_at dksJ27_newTreeNode_0 12 rfl rfl)
theorem dJ27_newTreeNode_14 : decode cJ27_newTreeNode 14 = .ok (.aload_n 0, 1) := dk_42 (dk_at dksJ27_newTreeNode_0 14 rfl rfl)
theorem dJ27_newTreeNode_15 : decode cJ27_newTreeNode 15 = .ok (.aload 5, 2) := dk_25 5 (dk_at dksJ27_newTreeNode_0 15 rfl rfl)
theorem dJ27_newTreeNode_17 : decode cJ27_newTreeNode 17 = .ok (.invokevirtual 32, 3) := dk_182 0 32 (dk_at dksJ27_newTreeNode_0 17 rfl rfl)
theorem dJ27_newTreeNode_20 : decode cJ27_newTreeNode 20 = .ok (.aload 5, 2) := dk_25 5 (dk_at dksJ27_newTreeNode_0 20 rfl rfl)
theorem dJ27_newTreeNode_22 : decode cJ27_newTreeNode 22 = .ok (.areturn, 1) := dk_176 (dk_at dksJ27_newTreeNode_0 22 rfl rfl)
abbrev cJ27_replacementTreeNode : ByteArray := prog_61_method_7_code
def yJ27_replacementTreeNode : MethodName := ⟨RJ27, "replacementTreeNode", "(Ljava/util/HashMap$Node;Ljava/util/HashMap$Node;)Ljava/util/HashMap$TreeNode;"⟩
def dkwJ27_replacementTreeNode_1 : List UInt8 := [183, 0, 52, 58, 4, 42, 45, 25, 4, 182, 0, 46, 25, 4, 176]
abbrev dktJ27_replacementTreeNode_1 : List UInt8 := dkwJ27_replacementTreeNode_1 ++ []
def dkwJ27_replacementTreeNode_0 : List UInt8 := [43, 192, 0, 15, 78, 187, 0, 50, 89, 45, 180, 0, 36, 45, 180, 0, 39, 45, 180, 0, 43, 44]
abbrev dktJ27_replacementTreeNode_0 : List UInt8 := dkwJ27_replacementTreeNode_0 ++ dktJ27_replacementTreeNode_1
theorem dksJ27_replacementTreeNode_0 : cJ27_replacementTreeNode.data.toList.drop 0 = dktJ27_replacementTreeNode_0 := by decide +kernel
theorem dksJ27_replacementTreeNode_1 : cJ27_replacementTreeNode.data.toList.drop 22 = dktJ27_replacementTreeNode_1 := dk_seg dksJ27_replacementTreeNode_0 22 rfl rfl
theorem dJ27_replacementTreeNode_0 : decode cJ27_replacementTreeNode 0 = .ok (.aload_n 1, 1) := dk_43 (dk_at dksJ27_replacementTreeNode_0 0 rfl rfl)
theorem dJ27_replacementTreeNode_1 : decode cJ27_replacementTreeNode 1 = .ok (.checkcast 15, 3) := dk_192 0 15 (dk_at dksJ27_replacementTreeNode_0 1 rfl rfl)
theorem dJ27_replacementTreeNode_4 : decode cJ27_replacementTreeNode 4 = .ok (.astore_n 3, 1) := dk_78 (dk_at dksJ27_replacementTreeNode_0 4 rfl rfl)
theorem dJ27_replacementTreeNode_5 : decode cJ27_replacementTreeNode 5 = .ok (.new 50, 3) := dk_187 0 50 (dk_at dksJ27_replacementTreeNode_0 5 rfl rfl)
theorem dJ27_replacementTreeNode_8 : decode cJ27_replacementTreeNode 8 = .ok (.dup, 1) := dk_89 (dk_at dksJ27_replacementTreeNode_0 8 rfl rfl)
theorem dJ27_replacementTreeNode_9 : decode cJ27_replacementTreeNode 9 = .ok (.aload_n 3, 1) := dk_45 (dk_at dksJ27_replacementTreeNode_0 9 rfl rfl)
theorem dJ27_replacementTreeNode_10 : decode cJ27_replacementTreeNode 10 = .ok (.getfield 36, 3) := dk_180 0 36 (dk_at dksJ27_replacementTreeNode_0 10 rfl rfl)
theorem dJ27_replacementTreeNode_13 : decode cJ27_replacementTreeNode 13 = .ok (.aload_n 3, 1) := dk_45 (dk_at dksJ27_replacementTreeNode_0 13 rfl rfl)
theorem dJ27_replacementTreeNode_14 : decode cJ27_replacementTreeNode 14 = .ok (.getfield 39, 3) := dk_180 0 39 (dk_at dksJ27_replacementTreeNode_0 14 rfl rfl)
theorem dJ27_replacementTreeNode_17 : decode cJ27_replacementTreeNode 17 = .ok (.aload_n 3, 1) := dk_45 (dk_at dksJ27_replacementTreeNode_0 17 rfl rfl)
theorem dJ27_replacementTreeNode_18 : decode cJ27_replacementTreeNode 18 = .ok (.getfield 43, 3) := dk_180 0 43 (dk_at dksJ27_replacementTreeNode_0 18 rfl rfl)
theorem dJ27_replacementTreeNode_21 : decode cJ27_replacementTreeNode 21 = .ok (.aload_n 2, 1) := dk_44 (dk_at dksJ27_replacementTreeNode_0 21 rfl rfl)
theorem dJ27_replacementTreeNode_22 : decode cJ27_replacementTreeNode 22 = .ok (.invokespecial 52, 3) := dk_183 0 52 (dk_at dksJ27_replacementTreeNode_1 0 rfl rfl)
theorem dJ27_replacementTreeNode_25 : decode cJ27_replacementTreeNode 25 = .ok (.astore 4, 2) := dk_58 4 (dk_at dksJ27_replacementTreeNode_1 3 rfl rfl)
theorem dJ27_replacementTreeNode_27 : decode cJ27_replacementTreeNode 27 = .ok (.aload_n 0, 1) := dk_42 (dk_at dksJ27_replacementTreeNode_1 5 rfl rfl)
theorem dJ27_replacementTreeNode_28 : decode cJ27_replacementTreeNode 28 = .ok (.aload_n 3, 1) := dk_45 (dk_at dksJ27_replacementTreeNode_1 6 rfl rfl)
theorem dJ27_replacementTreeNode_29 : decode cJ27_replacementTreeNode 29 = .ok (.aload 4, 2) := dk_25 4 (dk_at dksJ27_replacementTreeNode_1 7 rfl rfl)
theorem dJ27_replacementTreeNode_31 : decode cJ27_replacementTreeNode 31 = .ok (.invokevirtual 46, 3) := dk_182 0 46 (dk_at dksJ27_replacementTreeNode_1 9 rfl rfl)
theorem dJ27_replacementTreeNode_34 : decode cJ27_replacementTreeNode 34 = .ok (.aload 4, 2) := dk_25 4 (dk_at dksJ27_replacementTreeNode_1 12 rfl rfl)
theorem dJ27_replacementTreeNode_36 : decode cJ27_replacementTreeNode 36 = .ok (.areturn, 1) := dk_176 (dk_at dksJ27_replacementTreeNode_1 14 rfl rfl)
abbrev cJ27_afterNodeAccess : ByteArray := prog_61_method_10_code
def yJ27_afterNodeAccess : MethodName := ⟨RJ27, "afterNodeAccess", "(Ljava/util/HashMap$Node;)V"⟩
def dkwJ27_afterNodeAccess_11 : List UInt8 := [181, 0, 7, 42, 89, 180, 0, 68, 4, 96, 181, 0, 68, 177]
abbrev dktJ27_afterNodeAccess_11 : List UInt8 := dkwJ27_afterNodeAccess_11 ++ []
def dkwJ27_afterNodeAccess_10 : List UInt8 := [25, 4, 181, 0, 11, 167, 0, 15, 25, 4, 45, 181, 0, 14, 45, 25, 4, 181, 0, 19, 42, 25, 4]
abbrev dktJ27_afterNodeAccess_10 : List UInt8 := dkwJ27_afterNodeAccess_10 ++ dktJ27_afterNodeAccess_11
def dkwJ27_afterNodeAccess_9 : List UInt8 := [25, 5, 198, 0, 13, 25, 5, 25, 6, 181, 0, 14, 167, 0, 6, 25, 6, 78, 45, 199, 0, 12, 42]
abbrev dktJ27_afterNodeAccess_9 : List UInt8 := dkwJ27_afterNodeAccess_9 ++ dktJ27_afterNodeAccess_10
def dkwJ27_afterNodeAccess_8 : List UInt8 := [181, 0, 19, 25, 6, 199, 0, 12, 42, 25, 5, 181, 0, 11, 167, 0, 10, 25, 6, 25, 5, 181, 0, 19]
abbrev dktJ27_afterNodeAccess_8 : List UInt8 := dkwJ27_afterNodeAccess_8 ++ dktJ27_afterNodeAccess_9
def dkwJ27_afterNodeAccess_7 : List UInt8 := [43, 192, 0, 15, 58, 4, 25, 4, 180, 0, 19, 58, 5, 25, 4, 180, 0, 14, 58, 6, 25, 4, 1]
abbrev dktJ27_afterNodeAccess_7 : List UInt8 := dkwJ27_afterNodeAccess_7 ++ dktJ27_afterNodeAccess_8
def dkwJ27_afterNodeAccess_6 : List UInt8 := [181, 0, 68, 167, 0, 127, 42, 180, 0, 1, 4, 160, 0, 119, 42, 180, 0, 7, 89, 78, 43, 165, 0, 109]
abbrev dktJ27_afterNodeAccess_6 : List UInt8 := dkwJ27_afterNodeAccess_6 ++ dktJ27_afterNodeAccess_7
def dkwJ27_afterNodeAccess_5 : List UInt8 := [181, 0, 19, 44, 25, 4, 181, 0, 14, 42, 25, 4, 181, 0, 11, 42, 89, 180, 0, 68, 4, 96]
abbrev dktJ27_afterNodeAccess_5 : List UInt8 := dkwJ27_afterNodeAccess_5 ++ dktJ27_afterNodeAccess_6
def dkwJ27_afterNodeAccess_4 : List UInt8 := [167, 0, 6, 25, 5, 77, 44, 199, 0, 12, 42, 25, 4, 181, 0, 7, 167, 0, 15, 25, 4, 44]
abbrev dktJ27_afterNodeAccess_4 : List UInt8 := dkwJ27_afterNodeAccess_4 ++ dktJ27_afterNodeAccess_5
def dkwJ27_afterNodeAccess_3 : List UInt8 := [167, 0, 10, 25, 5, 25, 6, 181, 0, 14, 25, 6, 198, 0, 13, 25, 6, 25, 5, 181, 0, 19]
abbrev dktJ27_afterNodeAccess_3 : List UInt8 := dkwJ27_afterNodeAccess_3 ++ dktJ27_afterNodeAccess_4
def dkwJ27_afterNodeAccess_2 : List UInt8 := [180, 0, 14, 58, 6, 25, 4, 1, 181, 0, 14, 25, 5, 199, 0, 12, 42, 25, 6, 181, 0, 7]
abbrev dktJ27_afterNodeAccess_2 : List UInt8 := dkwJ27_afterNodeAccess_2 ++ dktJ27_afterNodeAccess_3
def dkwJ27_afterNodeAccess_1 : List UInt8 := [180, 0, 11, 89, 77, 43, 165, 0, 112, 43, 192, 0, 15, 58, 4, 25, 4, 180, 0, 19, 58, 5, 25, 4]
abbrev dktJ27_afterNodeAccess_1 : List UInt8 := dkwJ27_afterNodeAccess_1 ++ dktJ27_afterNodeAccess_2
def dkwJ27_afterNodeAccess_0 : List UInt8 := [42, 180, 0, 1, 5, 159, 0, 17, 42, 180, 0, 1, 154, 0, 129, 42, 180, 0, 64, 153, 0, 122, 42]
abbrev dktJ27_afterNodeAccess_0 : List UInt8 := dkwJ27_afterNodeAccess_0 ++ dktJ27_afterNodeAccess_1
theorem dksJ27_afterNodeAccess_0 : cJ27_afterNodeAccess.data.toList.drop 0 = dktJ27_afterNodeAccess_0 := by decide +kernel
theorem dksJ27_afterNodeAccess_1 : cJ27_afterNodeAccess.data.toList.drop 23 = dktJ27_afterNodeAccess_1 := dk_seg dksJ27_afterNodeAccess_0 23 rfl rfl
theorem dksJ27_afterNodeAccess_2 : cJ27_afterNodeAccess.data.toList.drop 47 = dktJ27_afterNodeAccess_2 := dk_seg dksJ27_afterNodeAccess_1 24 rfl rfl
theorem dksJ27_afterNodeAccess_3 : cJ27_afterNodeAccess.data.toList.drop 69 = dktJ27_afterNodeAccess_3 := dk_seg dksJ27_afterNodeAccess_2 22 rfl rfl
theorem dksJ27_afterNodeAccess_4 : cJ27_afterNodeAccess.data.toList.drop 91 = dktJ27_afterNodeAccess_4 := dk_seg dksJ27_afterNodeAccess_3 22 rfl rfl
theorem dksJ27_afterNodeAccess_5 : cJ27_afterNodeAccess.data.toList.drop 113 = dktJ27_afterNodeAccess_5 := dk_seg dksJ27_afterNodeAccess_4 22 rfl rfl
theorem dksJ27_afterNodeAccess_6 : cJ27_afterNodeAccess.data.toList.drop 135 = dktJ27_afterNodeAccess_6 := dk_seg dksJ27_afterNodeAccess_5 22 rfl rfl
theorem dksJ27_afterNodeAccess_7 : cJ27_afterNodeAccess.data.toList.drop 159 = dktJ27_afterNodeAccess_7 := dk_seg dksJ27_afterNodeAccess_6 24 rfl rfl
theorem dksJ27_afterNodeAccess_8 : cJ27_afterNodeAccess.data.toList.drop 182 = dktJ27_afterNodeAccess_8 := dk_seg dksJ27_afterNodeAccess_7 23 rfl rfl
theorem dksJ27_afterNodeAccess_9 : cJ27_afterNodeAccess.data.toList.drop 206 = dktJ27_afterNodeAccess_9 := dk_seg dksJ27_afterNodeAccess_8 24 rfl rfl
theorem dksJ27_afterNodeAccess_10 : cJ27_afterNodeAccess.data.toList.drop 229 = dktJ27_afterNodeAccess_10 := dk_seg dksJ27_afterNodeAccess_9 23 rfl rfl
theorem dksJ27_afterNodeAccess_11 : cJ27_afterNodeAccess.data.toList.drop 252 = dktJ27_afterNodeAccess_11 := dk_seg dksJ27_afterNodeAccess_10 23 rfl rfl
theorem dJ27_afterNodeAccess_0 : decode cJ27_afterNodeAccess 0 = .ok (.aload_n 0, 1) := dk_42 (dk_at dksJ27_afterNodeAccess_0 0 rfl rfl)
theorem dJ27_afterNodeAccess_1 : decode cJ27_afterNodeAccess 1 = .ok (.getfield 1, 3) := dk_180 0 1 (dk_at dksJ27_afterNodeAccess_0 1 rfl rfl)
theorem dJ27_afterNodeAccess_4 : decode cJ27_afterNodeAccess 4 = .ok (.iconst 2, 1) := dk_5 (dk_at dksJ27_afterNodeAccess_0 4 rfl rfl)
theorem dJ27_afterNodeAccess_5 : decode cJ27_afterNodeAccess 5 = .ok (.if_icmp .eq 17, 3) := dk_159 0 17 (dk_at dksJ27_afterNodeAccess_0 5 rfl rfl)
theorem dJ27_afterNodeAccess_8 : decode cJ27_afterNodeAccess 8 = .ok (.aload_n 0, 1) := dk_42 (dk_at dksJ27_afterNodeAccess_0 8 rfl rfl)
theorem dJ27_afterNodeAccess_9 : decode cJ27_afterNodeAccess 9 = .ok (.getfield 1, 3) := dk_180 0 1 (dk_at dksJ27_afterNodeAccess_0 9 rfl rfl)
theorem dJ27_afterNodeAccess_12 : decode cJ27_afterNodeAccess 12 = .ok (.ifCond .ne 129, 3) := dk_154 0 129 (dk_at dksJ27_afterNodeAccess_0 12 rfl rfl)
theorem dJ27_afterNodeAccess_15 : decode cJ27_afterNodeAccess 15 = .ok (.aload_n 0, 1) := dk_42 (dk_at dksJ27_afterNodeAccess_0 15 rfl rfl)
theorem dJ27_afterNodeAccess_16 : decode cJ27_afterNodeAccess 16 = .ok (.getfield 64, 3) := dk_180 0 64 (dk_at dksJ27_afterNodeAccess_0 16 rfl rfl)
theorem dJ27_afterNodeAccess_19 : decode cJ27_afterNodeAccess 19 = .ok (.ifCond .eq 122, 3) := dk_153 0 122 (dk_at dksJ27_afterNodeAccess_0 19 rfl rfl)
theorem dJ27_afterNodeAccess_22 : decode cJ27_afterNodeAccess 22 = .ok (.aload_n 0, 1) := dk_42 (dk_at dksJ27_afterNodeAccess_0 22 rfl rfl)
theorem dJ27_afterNodeAccess_23 : decode cJ27_afterNodeAccess 23 = .ok (.getfield 11, 3) := dk_180 0 11 (dk_at dksJ27_afterNodeAccess_1 0 rfl rfl)
theorem dJ27_afterNodeAccess_26 : decode cJ27_afterNodeAccess 26 = .ok (.dup, 1) := dk_89 (dk_at dksJ27_afterNodeAccess_1 3 rfl rfl)
theorem dJ27_afterNodeAccess_27 : decode cJ27_afterNodeAccess 27 = .ok (.astore_n 2, 1) := dk_77 (dk_at dksJ27_afterNodeAccess_1 4 rfl rfl)
theorem dJ27_afterNodeAccess_28 : decode cJ27_afterNodeAccess 28 = .ok (.aload_n 1, 1) := dk_43 (dk_at dksJ27_afterNodeAccess_1 5 rfl rfl)
theorem dJ27_afterNodeAccess_29 : decode cJ27_afterNodeAccess 29 = .ok (.if_acmp .eq 112, 3) := dk_165 0 112 (dk_at dksJ27_afterNodeAccess_1 6 rfl rfl)
theorem dJ27_afterNodeAccess_32 : decode cJ27_afterNodeAccess 32 = .ok (.aload_n 1, 1) := dk_43 (dk_at dksJ27_afterNodeAccess_1 9 rfl rfl)
theorem dJ27_afterNodeAccess_33 : decode cJ27_afterNodeAccess 33 = .ok (.checkcast 15, 3) := dk_192 0 15 (dk_at dksJ27_afterNodeAccess_1 10 rfl rfl)
theorem dJ27_afterNodeAccess_36 : decode cJ27_afterNodeAccess 36 = .ok (.astore 4, 2) := dk_58 4 (dk_at dksJ27_afterNodeAccess_1 13 rfl rfl)
theorem dJ27_afterNodeAccess_38 : decode cJ27_afterNodeAccess 38 = .ok (.aload 4, 2) := dk_25 4 (dk_at dksJ27_afterNodeAccess_1 15 rfl rfl)
theorem dJ27_afterNodeAccess_40 : decode cJ27_afterNodeAccess 40 = .ok (.getfield 19, 3) := dk_180 0 19 (dk_at dksJ27_afterNodeAccess_1 17 rfl rfl)
theorem dJ27_afterNodeAccess_43 : decode cJ27_afterNodeAccess 43 = .ok (.astore 5, 2) := dk_58 5 (dk_at dksJ27_afterNodeAccess_1 20 rfl rfl)
theorem dJ27_afterNodeAccess_45 : decode cJ27_afterNodeAccess 45 = .ok (.aload 4, 2) := dk_25 4 (dk_at dksJ27_afterNodeAccess_1 22 rfl rfl)
theorem dJ27_afterNodeAccess_47 : decode cJ27_afterNodeAccess 47 = .ok (.getfield 14, 3) := dk_180 0 14 (dk_at dksJ27_afterNodeAccess_2 0 rfl rfl)
theorem dJ27_afterNodeAccess_50 : decode cJ27_afterNodeAccess 50 = .ok (.astore 6, 2) := dk_58 6 (dk_at dksJ27_afterNodeAccess_2 3 rfl rfl)
theorem dJ27_afterNodeAccess_52 : decode cJ27_afterNodeAccess 52 = .ok (.aload 4, 2) := dk_25 4 (dk_at dksJ27_afterNodeAccess_2 5 rfl rfl)
theorem dJ27_afterNodeAccess_54 : decode cJ27_afterNodeAccess 54 = .ok (.aconst_null, 1) := dk_1 (dk_at dksJ27_afterNodeAccess_2 7 rfl rfl)
theorem dJ27_afterNodeAccess_55 : decode cJ27_afterNodeAccess 55 = .ok (.putfield 14, 3) := dk_181 0 14 (dk_at dksJ27_afterNodeAccess_2 8 rfl rfl)
theorem dJ27_afterNodeAccess_58 : decode cJ27_afterNodeAccess 58 = .ok (.aload 5, 2) := dk_25 5 (dk_at dksJ27_afterNodeAccess_2 11 rfl rfl)
theorem dJ27_afterNodeAccess_60 : decode cJ27_afterNodeAccess 60 = .ok (.ifnonnull 12, 3) := dk_199 0 12 (dk_at dksJ27_afterNodeAccess_2 13 rfl rfl)
theorem dJ27_afterNodeAccess_63 : decode cJ27_afterNodeAccess 63 = .ok (.aload_n 0, 1) := dk_42 (dk_at dksJ27_afterNodeAccess_2 16 rfl rfl)
theorem dJ27_afterNodeAccess_64 : decode cJ27_afterNodeAccess 64 = .ok (.aload 6, 2) := dk_25 6 (dk_at dksJ27_afterNodeAccess_2 17 rfl rfl)
theorem dJ27_afterNodeAccess_66 : decode cJ27_afterNodeAccess 66 = .ok (.putfield 7, 3) := dk_181 0 7 (dk_at dksJ27_afterNodeAccess_2 19 rfl rfl)
theorem dJ27_afterNodeAccess_69 : decode cJ27_afterNodeAccess 69 = .ok (.goto 10, 3) := dk_167 0 10 (dk_at dksJ27_afterNodeAccess_3 0 rfl rfl)
theorem dJ27_afterNodeAccess_72 : decode cJ27_afterNodeAccess 72 = .ok (.aload 5, 2) := dk_25 5 (dk_at dksJ27_afterNodeAccess_3 3 rfl rfl)
theorem dJ27_afterNodeAccess_74 : decode cJ27_afterNodeAccess 74 = .ok (.aload 6, 2) := dk_25 6 (dk_at dksJ27_afterNodeAccess_3 5 rfl rfl)
theorem dJ27_afterNodeAccess_76 : decode cJ27_afterNodeAccess 76 = .ok (.putfield 14, 3) := dk_181 0 14 (dk_at dksJ27_afterNodeAccess_3 7 rfl rfl)
theorem dJ27_afterNodeAccess_79 : decode cJ27_afterNodeAccess 79 = .ok (.aload 6, 2) := dk_25 6 (dk_at dksJ27_afterNodeAccess_3 10 rfl rfl)
theorem dJ27_afterNodeAccess_81 : decode cJ27_afterNodeAccess 81 = .ok (.ifnull 13, 3) := dk_198 0 13 (dk_at dksJ27_afterNodeAccess_3 12 rfl rfl)
theorem dJ27_afterNodeAccess_84 : decode cJ27_afterNodeAccess 84 = .ok (.aload 6, 2) := dk_25 6 (dk_at dksJ27_afterNodeAccess_3 15 rfl rfl)
theorem dJ27_afterNodeAccess_86 : decode cJ27_afterNodeAccess 86 = .ok (.aload 5, 2) := dk_25 5 (dk_at dksJ27_afterNodeAccess_3 17 rfl rfl)
theorem dJ27_afterNodeAccess_88 : decode cJ27_afterNodeAccess 88 = .ok (.putfield 19, 3) := dk_181 0 19 (dk_at dksJ27_afterNodeAccess_3 19 rfl rfl)
theorem dJ27_afterNodeAccess_91 : decode cJ27_afterNodeAccess 91 = .ok (.goto 6, 3) := dk_167 0 6 (dk_at dksJ27_afterNodeAccess_4 0 rfl rfl)
theorem dJ27_afterNodeAccess_94 : decode cJ27_afterNodeAccess 94 = .ok (.aload 5, 2) := dk_25 5 (dk_at dksJ27_afterNodeAccess_4 3 rfl rfl)
theorem dJ27_afterNodeAccess_96 : decode cJ27_afterNodeAccess 96 = .ok (.astore_n 2, 1) := dk_77 (dk_at dksJ27_afterNodeAccess_4 5 rfl rfl)
theorem dJ27_afterNodeAccess_97 : decode cJ27_afterNodeAccess 97 = .ok (.aload_n 2, 1) := dk_44 (dk_at dksJ27_afterNodeAccess_4 6 rfl rfl)
theorem dJ27_afterNodeAccess_98 : decode cJ27_afterNodeAccess 98 = .ok (.ifnonnull 12, 3) := dk_199 0 12 (dk_at dksJ27_afterNodeAccess_4 7 rfl rfl)
theorem dJ27_afterNodeAccess_101 : decode cJ27_afterNodeAccess 101 = .ok (.aload_n 0, 1) := dk_42 (dk_at dksJ27_afterNodeAccess_4 10 rfl rfl)
theorem dJ27_afterNodeAccess_102 : decode cJ27_afterNodeAccess 102 = .ok (.aload 4, 2) := dk_25 4 (dk_at dksJ27_afterNodeAccess_4 11 rfl rfl)
theorem dJ27_afterNodeAccess_104 : decode cJ27_afterNodeAccess 104 = .ok (.putfield 7, 3) := dk_181 0 7 (dk_at dksJ27_afterNodeAccess_4 13 rfl rfl)
theorem dJ27_afterNodeAccess_107 : decode cJ27_afterNodeAccess 107 = .ok (.goto 15, 3) := dk_167 0 15 (dk_at dksJ27_afterNodeAccess_4 16 rfl rfl)
theorem dJ27_afterNodeAccess_110 : decode cJ27_afterNodeAccess 110 = .ok (.aload 4, 2) := dk_25 4 (dk_at dksJ27_afterNodeAccess_4 19 rfl rfl)
theorem dJ27_afterNodeAccess_112 : decode cJ27_afterNodeAccess 112 = .ok (.aload_n 2, 1) := dk_44 (dk_at dksJ27_afterNodeAccess_4 21 rfl rfl)
theorem dJ27_afterNodeAccess_113 : decode cJ27_afterNodeAccess 113 = .ok (.putfield 19, 3) := dk_181 0 19 (dk_at dksJ27_afterNodeAccess_5 0 rfl rfl)
theorem dJ27_afterNodeAccess_116 : decode cJ27_afterNodeAccess 116 = .ok (.aload_n 2, 1) := dk_44 (dk_at dksJ27_afterNodeAccess_5 3 rfl rfl)
theorem dJ27_afterNodeAccess_117 : decode cJ27_afterNodeAccess 117 = .ok (.aload 4, 2) := dk_25 4 (dk_at dksJ27_afterNodeAccess_5 4 rfl rfl)
theorem dJ27_afterNodeAccess_119 : decode cJ27_afterNodeAccess 119 = .ok (.putfield 14, 3) := dk_181 0 14 (dk_at dksJ27_afterNodeAccess_5 6 rfl rfl)
theorem dJ27_afterNodeAccess_122 : decode cJ27_afterNodeAccess 122 = .ok (.aload_n 0, 1) := dk_42 (dk_at dksJ27_afterNodeAccess_5 9 rfl rfl)
theorem dJ27_afterNodeAccess_123 : decode cJ27_afterNodeAccess 123 = .ok (.aload 4, 2) := dk_25 4 (dk_at dksJ27_afterNodeAccess_5 10 rfl rfl)
theorem dJ27_afterNodeAccess_125 : decode cJ27_afterNodeAccess 125 = .ok (.putfield 11, 3) := dk_181 0 11 (dk_at dksJ27_afterNodeAccess_5 12 rfl rfl)
theorem dJ27_afterNodeAccess_128 : decode cJ27_afterNodeAccess 128 = .ok (.aload_n 0, 1) := dk_42 (dk_at dksJ27_afterNodeAccess_5 15 rfl rfl)
theorem dJ27_afterNodeAccess_129 : decode cJ27_afterNodeAccess 129 = .ok (.dup, 1) := dk_89 (dk_at dksJ27_afterNodeAccess_5 16 rfl rfl)
theorem dJ27_afterNodeAccess_130 : decode cJ27_afterNodeAccess 130 = .ok (.getfield 68, 3) := dk_180 0 68 (dk_at dksJ27_afterNodeAccess_5 17 rfl rfl)
theorem dJ27_afterNodeAccess_133 : decode cJ27_afterNodeAccess 133 = .ok (.iconst 1, 1) := dk_4 (dk_at dksJ27_afterNodeAccess_5 20 rfl rfl)
theorem dJ27_afterNodeAccess_134 : decode cJ27_afterNodeAccess 134 = .ok (.iadd, 1) := dk_96 (dk_at dksJ27_afterNodeAccess_5 21 rfl rfl)
theorem dJ27_afterNodeAccess_135 : decode cJ27_afterNodeAccess 135 = .ok (.putfield 68, 3) := dk_181 0 68 (dk_at dksJ27_afterNodeAccess_6 0 rfl rfl)
theorem dJ27_afterNodeAccess_138 : decode cJ27_afterNodeAccess 138 = .ok (.goto 127, 3) := dk_167 0 127 (dk_at dksJ27_afterNodeAccess_6 3 rfl rfl)
theorem dJ27_afterNodeAccess_141 : decode cJ27_afterNodeAccess 141 = .ok (.aload_n 0, 1) := dk_42 (dk_at dksJ27_afterNodeAccess_6 6 rfl rfl)
theorem dJ27_afterNodeAccess_142 : decode cJ27_afterNodeAccess 142 = .ok (.getfield 1, 3) := dk_180 0 1 (dk_at dksJ27_afterNodeAccess_6 7 rfl rfl)
theorem dJ27_afterNodeAccess_145 : decode cJ27_afterNodeAccess 145 = .ok (.iconst 1, 1) := dk_4 (dk_at dksJ27_afterNodeAccess_6 10 rfl rfl)
theorem dJ27_afterNodeAccess_146 : decode cJ27_afterNodeAccess 146 = .ok (.if_icmp .ne 119, 3) := dk_160 0 119 (dk_at dksJ27_afterNodeAccess_6 11 rfl rfl)
theorem dJ27_afterNodeAccess_149 : decode cJ27_afterNodeAccess 149 = .ok (.aload_n 0, 1) := dk_42 (dk_at dksJ27_afterNodeAccess_6 14 rfl rfl)
theorem dJ27_afterNodeAccess_150 : decode cJ27_afterNodeAccess 150 = .ok (.getfield 7, 3) := dk_180 0 7 (dk_at dksJ27_afterNodeAccess_6 15 rfl rfl)
theorem dJ27_afterNodeAccess_153 : decode cJ27_afterNodeAccess 153 = .ok (.dup, 1) := dk_89 (dk_at dksJ27_afterNodeAccess_6 18 rfl rfl)
theorem dJ27_afterNodeAccess_154 : decode cJ27_afterNodeAccess 154 = .ok (.astore_n 3, 1) := dk_78 (dk_at dksJ27_afterNodeAccess_6 19 rfl rfl)
theorem dJ27_afterNodeAccess_155 : decode cJ27_afterNodeAccess 155 = .ok (.aload_n 1, 1) := dk_43 (dk_at dksJ27_afterNodeAccess_6 20 rfl rfl)
theorem dJ27_afterNodeAccess_156 : decode cJ27_afterNodeAccess 156 = .ok (.if_acmp .eq 109, 3) := dk_165 0 109 (dk_at dksJ27_afterNodeAccess_6 21 rfl rfl)
theorem dJ27_afterNodeAccess_159 : decode cJ27_afterNodeAccess 159 = .ok (.aload_n 1, 1) := dk_43 (dk_at dksJ27_afterNodeAccess_7 0 rfl rfl)
theorem dJ27_afterNodeAccess_160 : decode cJ27_afterNodeAccess 160 = .ok (.checkcast 15, 3) := dk_192 0 15 (dk_at dksJ27_afterNodeAccess_7 1 rfl rfl)
theorem dJ27_afterNodeAccess_163 : decode cJ27_afterNodeAccess 163 = .ok (.astore 4, 2) := dk_58 4 (dk_at dksJ27_afterNodeAccess_7 4 rfl rfl)
theorem dJ27_afterNodeAccess_165 : decode cJ27_afterNodeAccess 165 = .ok (.aload 4, 2) := dk_25 4 (dk_at dksJ27_afterNodeAccess_7 6 rfl rfl)
theorem dJ27_afterNodeAccess_167 : decode cJ27_afterNodeAccess 167 = .ok (.getfield 19, 3) := dk_180 0 19 (dk_at dksJ27_afterNodeAccess_7 8 rfl rfl)
theorem dJ27_afterNodeAccess_170 : decode cJ27_afterNodeAccess 170 = .ok (.astore 5, 2) := dk_58 5 (dk_at dksJ27_afterNodeAccess_7 11 rfl rfl)
theorem dJ27_afterNodeAccess_172 : decode cJ27_afterNodeAccess 172 = .ok (.aload 4, 2) := dk_25 4 (dk_at dksJ27_afterNodeAccess_7 13 rfl rfl)
theorem dJ27_afterNodeAccess_174 : decode cJ27_afterNodeAccess 174 = .ok (.getfield 14, 3) := dk_180 0 14 (dk_at dksJ27_afterNodeAccess_7 15 rfl rfl)
theorem dJ27_afterNodeAccess_177 : decode cJ27_afterNodeAccess 177 = .ok (.astore 6, 2) := dk_58 6 (dk_at dksJ27_afterNodeAccess_7 18 rfl rfl)
theorem dJ27_afterNodeAccess_179 : decode cJ27_afterNodeAccess 179 = .ok (.aload 4, 2) := dk_25 4 (dk_at dksJ27_afterNodeAccess_7 20 rfl rfl)
theorem dJ27_afterNodeAccess_181 : decode cJ27_afterNodeAccess 181 = .ok (.aconst_null, 1) := dk_1 (dk_at dksJ27_afterNodeAccess_7 22 rfl rfl)
theorem dJ27_afterNodeAccess_182 : decode cJ27_afterNodeAccess 182 = .ok (.putfield 19, 3) := dk_181 0 19 (dk_at dksJ27_afterNodeAccess_8 0 rfl rfl)
theorem dJ27_afterNodeAccess_185 : decode cJ27_afterNodeAccess 185 = .ok (.aload 6, 2) := dk_25 6 (dk_at dksJ27_afterNodeAccess_8 3 rfl rfl)
theorem dJ27_afterNodeAccess_187 : decode cJ27_afterNodeAccess 187 = .ok (.ifnonnull 12, 3) := dk_199 0 12 (dk_at dksJ27_afterNodeAccess_8 5 rfl rfl)
theorem dJ27_afterNodeAccess_190 : decode cJ27_afterNodeAccess 190 = .ok (.aload_n 0, 1) := dk_42 (dk_at dksJ27_afterNodeAccess_8 8 rfl rfl)
theorem dJ27_afterNodeAccess_191 : decode cJ27_afterNodeAccess 191 = .ok (.aload 5, 2) := dk_25 5 (dk_at dksJ27_afterNodeAccess_8 9 rfl rfl)
theorem dJ27_afterNodeAccess_193 : decode cJ27_afterNodeAccess 193 = .ok (.putfield 11, 3) := dk_181 0 11 (dk_at dksJ27_afterNodeAccess_8 11 rfl rfl)
theorem dJ27_afterNodeAccess_196 : decode cJ27_afterNodeAccess 196 = .ok (.goto 10, 3) := dk_167 0 10 (dk_at dksJ27_afterNodeAccess_8 14 rfl rfl)
theorem dJ27_afterNodeAccess_199 : decode cJ27_afterNodeAccess 199 = .ok (.aload 6, 2) := dk_25 6 (dk_at dksJ27_afterNodeAccess_8 17 rfl rfl)
theorem dJ27_afterNodeAccess_201 : decode cJ27_afterNodeAccess 201 = .ok (.aload 5, 2) := dk_25 5 (dk_at dksJ27_afterNodeAccess_8 19 rfl rfl)
theorem dJ27_afterNodeAccess_203 : decode cJ27_afterNodeAccess 203 = .ok (.putfield 19, 3) := dk_181 0 19 (dk_at dksJ27_afterNodeAccess_8 21 rfl rfl)
theorem dJ27_afterNodeAccess_206 : decode cJ27_afterNodeAccess 206 = .ok (.aload 5, 2) := dk_25 5 (dk_at dksJ27_afterNodeAccess_9 0 rfl rfl)
theorem dJ27_afterNodeAccess_208 : decode cJ27_afterNodeAccess 208 = .ok (.ifnull 13, 3) := dk_198 0 13 (dk_at dksJ27_afterNodeAccess_9 2 rfl rfl)
theorem dJ27_afterNodeAccess_211 : decode cJ27_afterNodeAccess 211 = .ok (.aload 5, 2) := dk_25 5 (dk_at dksJ27_afterNodeAccess_9 5 rfl rfl)
theorem dJ27_afterNodeAccess_213 : decode cJ27_afterNodeAccess 213 = .ok (.aload 6, 2) := dk_25 6 (dk_at dksJ27_afterNodeAccess_9 7 rfl rfl)
theorem dJ27_afterNodeAccess_215 : decode cJ27_afterNodeAccess 215 = .ok (.putfield 14, 3) := dk_181 0 14 (dk_at dksJ27_afterNodeAccess_9 9 rfl rfl)
theorem dJ27_afterNodeAccess_218 : decode cJ27_afterNodeAccess 218 = .ok (.goto 6, 3) := dk_167 0 6 (dk_at dksJ27_afterNodeAccess_9 12 rfl rfl)
theorem dJ27_afterNodeAccess_221 : decode cJ27_afterNodeAccess 221 = .ok (.aload 6, 2) := dk_25 6 (dk_at dksJ27_afterNodeAccess_9 15 rfl rfl)
theorem dJ27_afterNodeAccess_223 : decode cJ27_afterNodeAccess 223 = .ok (.astore_n 3, 1) := dk_78 (dk_at dksJ27_afterNodeAccess_9 17 rfl rfl)
theorem dJ27_afterNodeAccess_224 : decode cJ27_afterNodeAccess 224 = .ok (.aload_n 3, 1) := dk_45 (dk_at dksJ27_afterNodeAccess_9 18 rfl rfl)
theorem dJ27_afterNodeAccess_225 : decode cJ27_afterNodeAccess 225 = .ok (.ifnonnull 12, 3) := dk_199 0 12 (dk_at dksJ27_afterNodeAccess_9 19 rfl rfl)
theorem dJ27_afterNodeAccess_228 : decode cJ27_afterNodeAccess 228 = .ok (.aload_n 0, 1) := dk_42 (dk_at dksJ27_afterNodeAccess_9 22 rfl rfl)
theorem dJ27_afterNodeAccess_229 : decode cJ27_afterNodeAccess 229 = .ok (.aload 4, 2) := dk_25 4 (dk_at dksJ27_afterNodeAccess_10 0 rfl rfl)
theorem dJ27_afterNodeAccess_231 : decode cJ27_afterNodeAccess 231 = .ok (.putfield 11, 3) := dk_181 0 11 (dk_at dksJ27_afterNodeAccess_10 2 rfl rfl)
theorem dJ27_afterNodeAccess_234 : decode cJ27_afterNodeAccess 234 = .ok (.goto 15, 3) := dk_167 0 15 (dk_at dksJ27_afterNodeAccess_10 5 rfl rfl)
theorem dJ27_afterNodeAccess_237 : decode cJ27_afterNodeAccess 237 = .ok (.aload 4, 2) := dk_25 4 (dk_at dksJ27_afterNodeAccess_10 8 rfl rfl)
theorem dJ27_afterNodeAccess_239 : decode cJ27_afterNodeAccess 239 = .ok (.aload_n 3, 1) := dk_45 (dk_at dksJ27_afterNodeAccess_10 10 rfl rfl)
theorem dJ27_afterNodeAccess_240 : decode cJ27_afterNodeAccess 240 = .ok (.putfield 14, 3) := dk_181 0 14 (dk_at dksJ27_afterNodeAccess_10 11 rfl rfl)
theorem dJ27_afterNodeAccess_243 : decode cJ27_afterNodeAccess 243 = .ok (.aload_n 3, 1) := dk_45 (dk_at dksJ27_afterNodeAccess_10 14 rfl rfl)
theorem dJ27_afterNodeAccess_244 : decode cJ27_afterNodeAccess 244 = .ok (.aload 4, 2) := dk_25 4 (dk_at dksJ27_afterNodeAccess_10 15 rfl rfl)
theorem dJ27_afterNodeAccess_246 : decode cJ27_afterNodeAccess 246 = .ok (.putfield 19, 3) := dk_181 0 19 (dk_at dksJ27_afterNodeAccess_10 17 rfl rfl)
theorem dJ27_afterNodeAccess_249 : decode cJ27_afterNodeAccess 249 = .ok (.aload_n 0, 1) := dk_42 (dk_at dksJ27_afterNodeAccess_10 20 rfl rfl)
theorem dJ27_afterNodeAccess_250 : decode cJ27_afterNodeAccess 250 = .ok (.aload 4, 2) := dk_25 4 (dk_at dksJ27_afterNodeAccess_10 21 rfl rfl)
theorem dJ27_afterNodeAccess_252 : decode cJ27_afterNodeAccess 252 = .ok (.putfield 7, 3) := dk_181 0 7 (dk_at dksJ27_afterNodeAccess_11 0 rfl rfl)
theorem dJ27_afterNodeAccess_255 : decode cJ27_afterNodeAccess 255 = .ok (.aload_n 0, 1) := dk_42 (dk_at dksJ27_afterNodeAccess_11 3 rfl rfl)
theorem dJ27_afterNodeAccess_256 : decode cJ27_afterNodeAccess 256 = .ok (.dup, 1) := dk_89 (dk_at dksJ27_afterNodeAccess_11 4 rfl rfl)
theorem dJ27_afterNodeAccess_257 : decode cJ27_afterNodeAccess 257 = .ok (.getfield 68, 3) := dk_180 0 68 (dk_at dksJ27_afterNodeAccess_11 5 rfl rfl)
theorem dJ27_afterNodeAccess_260 : decode cJ27_afterNodeAccess 260 = .ok (.iconst 1, 1) := dk_4 (dk_at dksJ27_afterNodeAccess_11 8 rfl rfl)
theorem dJ27_afterNodeAccess_261 : decode cJ27_afterNodeAccess 261 = .ok (.iadd, 1) := dk_96 (dk_at dksJ27_afterNodeAccess_11 9 rfl rfl)
theorem dJ27_afterNodeAccess_262 : decode cJ27_afterNodeAccess 262 = .ok (.putfield 68, 3) := dk_181 0 68 (dk_at dksJ27_afterNodeAccess_11 10 rfl rfl)
theorem dJ27_afterNodeAccess_265 : decode cJ27_afterNodeAccess 265 = .ok (.return_, 1) := dk_177 (dk_at dksJ27_afterNodeAccess_11 13 rfl rfl)
abbrev cJ27_afterNodeInsertion : ByteArray := prog_61_method_9_code
def yJ27_afterNodeInsertion : MethodName := ⟨RJ27, "afterNodeInsertion", "(Z)V"⟩
def dkwJ27_afterNodeInsertion_1 : List UInt8 := [180, 0, 39, 78, 42, 45, 184, 0, 57, 45, 1, 3, 4, 182, 0, 60, 87, 177]
abbrev dktJ27_afterNodeInsertion_1 : List UInt8 := dkwJ27_afterNodeInsertion_1 ++ []
def dkwJ27_afterNodeInsertion_0 : List UInt8 := [27, 153, 0, 38, 42, 180, 0, 7, 89, 77, 198, 0, 29, 42, 44, 182, 0, 53, 153, 0, 21, 44]
abbrev dktJ27_afterNodeInsertion_0 : List UInt8 := dkwJ27_afterNodeInsertion_0 ++ dktJ27_afterNodeInsertion_1
theorem dksJ27_afterNodeInsertion_0 : cJ27_afterNodeInsertion.data.toList.drop 0 = dktJ27_afterNodeInsertion_0 := by decide +kernel
theorem dksJ27_afterNodeInsertion_1 : cJ27_afterNodeInsertion.data.toList.drop 22 = dktJ27_afterNodeInsertion_1 := dk_seg dksJ27_afterNodeInsertion_0 22 rfl rfl
theorem dJ27_afterNodeInsertion_0 : decode cJ27_afterNodeInsertion 0 = .ok (.iload_n 1, 1) := dk_27 (dk_at dksJ27_afterNodeInsertion_0 0 rfl rfl)
theorem dJ27_afterNodeInsertion_1 : decode cJ27_afterNodeInsertion 1 = .ok (.ifCond .eq 38, 3) := dk_153 0 38 (dk_at dksJ27_afterNodeInsertion_0 1 rfl rfl)
theorem dJ27_afterNodeInsertion_4 : decode cJ27_afterNodeInsertion 4 = .ok (.aload_n 0, 1) := dk_42 (dk_at dksJ27_afterNodeInsertion_0 4 rfl rfl)
theorem dJ27_afterNodeInsertion_5 : decode cJ27_afterNodeInsertion 5 = .ok (.getfield 7, 3) := dk_180 0 7 (dk_at dksJ27_afterNodeInsertion_0 5 rfl rfl)
theorem dJ27_afterNodeInsertion_8 : decode cJ27_afterNodeInsertion 8 = .ok (.dup, 1) := dk_89 (dk_at dksJ27_afterNodeInsertion_0 8 rfl rfl)
theorem dJ27_afterNodeInsertion_9 : decode cJ27_afterNodeInsertion 9 = .ok (.astore_n 2, 1) := dk_77 (dk_at dksJ27_afterNodeInsertion_0 9 rfl rfl)
theorem dJ27_afterNodeInsertion_10 : decode cJ27_afterNodeInsertion 10 = .ok (.ifnull 29, 3) := dk_198 0 29 (dk_at dksJ27_afterNodeInsertion_0 10 rfl rfl)
theorem dJ27_afterNodeInsertion_13 : decode cJ27_afterNodeInsertion 13 = .ok (.aload_n 0, 1) := dk_42 (dk_at dksJ27_afterNodeInsertion_0 13 rfl rfl)
theorem dJ27_afterNodeInsertion_14 : decode cJ27_afterNodeInsertion 14 = .ok (.aload_n 2, 1) := dk_44 (dk_at dksJ27_afterNodeInsertion_0 14 rfl rfl)
theorem dJ27_afterNodeInsertion_15 : decode cJ27_afterNodeInsertion 15 = .ok (.invokevirtual 53, 3) := dk_182 0 53 (dk_at dksJ27_afterNodeInsertion_0 15 rfl rfl)
theorem dJ27_afterNodeInsertion_18 : decode cJ27_afterNodeInsertion 18 = .ok (.ifCond .eq 21, 3) := dk_153 0 21 (dk_at dksJ27_afterNodeInsertion_0 18 rfl rfl)
theorem dJ27_afterNodeInsertion_21 : decode cJ27_afterNodeInsertion 21 = .ok (.aload_n 2, 1) := dk_44 (dk_at dksJ27_afterNodeInsertion_0 21 rfl rfl)
theorem dJ27_afterNodeInsertion_22 : decode cJ27_afterNodeInsertion 22 = .ok (.getfield 39, 3) := dk_180 0 39 (dk_at dksJ27_afterNodeInsertion_1 0 rfl rfl)
theorem dJ27_afterNodeInsertion_25 : decode cJ27_afterNodeInsertion 25 = .ok (.astore_n 3, 1) := dk_78 (dk_at dksJ27_afterNodeInsertion_1 3 rfl rfl)
theorem dJ27_afterNodeInsertion_26 : decode cJ27_afterNodeInsertion 26 = .ok (.aload_n 0, 1) := dk_42 (dk_at dksJ27_afterNodeInsertion_1 4 rfl rfl)
theorem dJ27_afterNodeInsertion_27 : decode cJ27_afterNodeInsertion 27 = .ok (.aload_n 3, 1) := dk_45 (dk_at dksJ27_afterNodeInsertion_1 5 rfl rfl)
theorem dJ27_afterNodeInsertion_28 : decode cJ27_afterNodeInsertion 28 = .ok (.invokestatic 57, 3) := dk_184 0 57 (dk_at dksJ27_afterNodeInsertion_1 6 rfl rfl)
theorem dJ27_afterNodeInsertion_31 : decode cJ27_afterNodeInsertion 31 = .ok (.aload_n 3, 1) := dk_45 (dk_at dksJ27_afterNodeInsertion_1 9 rfl rfl)
theorem dJ27_afterNodeInsertion_32 : decode cJ27_afterNodeInsertion 32 = .ok (.aconst_null, 1) := dk_1 (dk_at dksJ27_afterNodeInsertion_1 10 rfl rfl)
theorem dJ27_afterNodeInsertion_33 : decode cJ27_afterNodeInsertion 33 = .ok (.iconst 0, 1) := dk_3 (dk_at dksJ27_afterNodeInsertion_1 11 rfl rfl)
theorem dJ27_afterNodeInsertion_34 : decode cJ27_afterNodeInsertion 34 = .ok (.iconst 1, 1) := dk_4 (dk_at dksJ27_afterNodeInsertion_1 12 rfl rfl)
theorem dJ27_afterNodeInsertion_35 : decode cJ27_afterNodeInsertion 35 = .ok (.invokevirtual 60, 3) := dk_182 0 60 (dk_at dksJ27_afterNodeInsertion_1 13 rfl rfl)
theorem dJ27_afterNodeInsertion_38 : decode cJ27_afterNodeInsertion 38 = .ok (.pop, 1) := dk_87 (dk_at dksJ27_afterNodeInsertion_1 16 rfl rfl)
theorem dJ27_afterNodeInsertion_39 : decode cJ27_afterNodeInsertion 39 = .ok (.return_, 1) := dk_177 (dk_at dksJ27_afterNodeInsertion_1 17 rfl rfl)
abbrev cJ27_removeEldestEntry : ByteArray := prog_61_method_23_code
def yJ27_removeEldestEntry : MethodName := ⟨RJ27, "removeEldestEntry", "(Ljava/util/Map$Entry;)Z"⟩
theorem dJ27_removeEldestEntry_0 : decode cJ27_removeEldestEntry 0 = .ok (.iconst 0, 1) := by decide +kernel
theorem dJ27_removeEldestEntry_1 : decode cJ27_removeEldestEntry 1 = .ok (.ireturn, 1) := by decide +kernel
abbrev cJ27_get : ByteArray := prog_61_method_20_code
def yJ27_get : MethodName := ⟨RJ27, "get", "(Ljava/lang/Object;)Ljava/lang/Object;"⟩
def dkwJ27_get_1 : List UInt8 := [44, 180, 0, 107, 176]
abbrev dktJ27_get_1 : List UInt8 := dkwJ27_get_1 ++ []
def dkwJ27_get_0 : List UInt8 := [42, 43, 182, 0, 99, 89, 77, 199, 0, 5, 1, 176, 42, 180, 0, 64, 153, 0, 8, 42, 44, 182, 0, 103]
abbrev dktJ27_get_0 : List UInt8 := dkwJ27_get_0 ++ dktJ27_get_1
theorem dksJ27_get_0 : cJ27_get.data.toList.drop 0 = dktJ27_get_0 := by decide +kernel
theorem dksJ27_get_1 : cJ27_get.data.toList.drop 24 = dktJ27_get_1 := dk_seg dksJ27_get_0 24 rfl rfl
theorem dJ27_get_0 : decode cJ27_get 0 = .ok (.aload_n 0, 1) := dk_42 (dk_at dksJ27_get_0 0 rfl rfl)
theorem dJ27_get_1 : decode cJ27_get 1 = .ok (.aload_n 1, 1) := dk_43 (dk_at dksJ27_get_0 1 rfl rfl)
theorem dJ27_get_2 : decode cJ27_get 2 = .ok (.invokevirtual 99, 3) := dk_182 0 99 (dk_at dksJ27_get_0 2 rfl rfl)
theorem dJ27_get_5 : decode cJ27_get 5 = .ok (.dup, 1) := dk_89 (dk_at dksJ27_get_0 5 rfl rfl)
theorem dJ27_get_6 : decode cJ27_get 6 = .ok (.astore_n 2, 1) := dk_77 (dk_at dksJ27_get_0 6 rfl rfl)
theorem dJ27_get_7 : decode cJ27_get 7 = .ok (.ifnonnull 5, 3) := dk_199 0 5 (dk_at dksJ27_get_0 7 rfl rfl)
theorem dJ27_get_10 : decode cJ27_get 10 = .ok (.aconst_null, 1) := dk_1 (dk_at dksJ27_get_0 10 rfl rfl)
theorem dJ27_get_11 : decode cJ27_get 11 = .ok (.areturn, 1) := dk_176 (dk_at dksJ27_get_0 11 rfl rfl)
theorem dJ27_get_12 : decode cJ27_get 12 = .ok (.aload_n 0, 1) := dk_42 (dk_at dksJ27_get_0 12 rfl rfl)
theorem dJ27_get_13 : decode cJ27_get 13 = .ok (.getfield 64, 3) := dk_180 0 64 (dk_at dksJ27_get_0 13 rfl rfl)
theorem dJ27_get_16 : decode cJ27_get 16 = .ok (.ifCond .eq 8, 3) := dk_153 0 8 (dk_at dksJ27_get_0 16 rfl rfl)
theorem dJ27_get_19 : decode cJ27_get 19 = .ok (.aload_n 0, 1) := dk_42 (dk_at dksJ27_get_0 19 rfl rfl)
theorem dJ27_get_20 : decode cJ27_get 20 = .ok (.aload_n 2, 1) := dk_44 (dk_at dksJ27_get_0 20 rfl rfl)
theorem dJ27_get_21 : decode cJ27_get 21 = .ok (.invokevirtual 103, 3) := dk_182 0 103 (dk_at dksJ27_get_0 21 rfl rfl)
theorem dJ27_get_24 : decode cJ27_get 24 = .ok (.aload_n 2, 1) := dk_44 (dk_at dksJ27_get_1 0 rfl rfl)
theorem dJ27_get_25 : decode cJ27_get 25 = .ok (.getfield 107, 3) := dk_180 0 107 (dk_at dksJ27_get_1 1 rfl rfl)
theorem dJ27_get_28 : decode cJ27_get 28 = .ok (.areturn, 1) := dk_176 (dk_at dksJ27_get_1 4 rfl rfl)
theorem q161 : (Jvm.Cond.initialized "java/util/LinkedHashMap") ∈ lw_all := lw_g (lw_at lw_m1 42 rfl) rfl
theorem q1073 : (Jvm.Cond.selects "java/util/LinkedHashMap" ({ cls := "java/lang/Object", name := "getClass", desc := "()Ljava/lang/Class;" } : Jvm.MethodName) ({ cls := "java/lang/Object", name := "getClass", desc := "()Ljava/lang/Class;" } : Jvm.MethodName)) ∈ lw_all := lw_g (lw_at lw_m4 234 rfl) rfl
theorem q1354 : (Jvm.Cond.selects "java/util/LinkedHashMap" ({ cls := "java/util/HashMap", name := "size", desc := "()I" } : Jvm.MethodName) ({ cls := "java/util/HashMap", name := "size", desc := "()I" } : Jvm.MethodName)) ∈ lw_all := lw_g (lw_at lw_m6 35 rfl) rfl
theorem q1361 : (Jvm.Cond.selects "java/util/LinkedHashMap" ({ cls := "java/util/HashMap", name := "keysToArray", desc := "([Ljava/lang/Object;)[Ljava/lang/Object;" } : Jvm.MethodName) ({ cls := "java/util/LinkedHashMap", name := "keysToArray", desc := "([Ljava/lang/Object;)[Ljava/lang/Object;" } : Jvm.MethodName)) ∈ lw_all := lw_g (lw_at lw_m6 42 rfl) rfl
theorem q1362 : (Jvm.Cond.instanceMethod ({ cls := "java/util/LinkedHashMap", name := "keysToArray", desc := "([Ljava/lang/Object;)[Ljava/lang/Object;" } : Jvm.MethodName)) ∈ lw_all := lw_g (lw_at lw_m6 43 rfl) rfl
theorem q1363 : (Jvm.Cond.code ({ cls := "java/util/LinkedHashMap", name := "keysToArray", desc := "([Ljava/lang/Object;)[Ljava/lang/Object;" } : Jvm.MethodName) prog_61_method_27_code (2 : Nat) (Option.some (Jvm.ClassFile.FieldType.array (Jvm.ClassFile.FieldType.object "java/lang/Object")))) ∈ lw_all := lw_g (lw_at lw_m6 44 rfl) rfl
theorem q1364 : (Jvm.Cond.methodLink "java/util/LinkedHashMap" (131 : Nat) ({ cls := "java/util/LinkedHashMap", name := "keysToArray", desc := "([Ljava/lang/Object;Z)[Ljava/lang/Object;" } : Jvm.MethodName)) ∈ lw_all := lw_g (lw_at lw_m6 45 rfl) rfl
theorem q1365 : (Jvm.Cond.instanceMethod ({ cls := "java/util/LinkedHashMap", name := "keysToArray", desc := "([Ljava/lang/Object;Z)[Ljava/lang/Object;" } : Jvm.MethodName)) ∈ lw_all := lw_g (lw_at lw_m6 46 rfl) rfl
theorem q1366 : (Jvm.Cond.selects "java/util/LinkedHashMap" ({ cls := "java/util/LinkedHashMap", name := "keysToArray", desc := "([Ljava/lang/Object;Z)[Ljava/lang/Object;" } : Jvm.MethodName) ({ cls := "java/util/LinkedHashMap", name := "keysToArray", desc := "([Ljava/lang/Object;Z)[Ljava/lang/Object;" } : Jvm.MethodName)) ∈ lw_all := lw_g (lw_at lw_m6 47 rfl) rfl
theorem q1367 : (Jvm.Cond.code ({ cls := "java/util/LinkedHashMap", name := "keysToArray", desc := "([Ljava/lang/Object;Z)[Ljava/lang/Object;" } : Jvm.MethodName) prog_61_method_28_code (6 : Nat) (Option.some (Jvm.ClassFile.FieldType.array (Jvm.ClassFile.FieldType.object "java/lang/Object")))) ∈ lw_all := lw_g (lw_at lw_m6 48 rfl) rfl
theorem q2158 : (Jvm.Cond.instantiable "java/util/LinkedHashMap" (12 : Nat)) ∈ lw_all := lw_g (lw_at lw_m9 119 rfl) rfl
theorem q2160 : (Jvm.Cond.instanceMethod ({ cls := "java/util/LinkedHashMap", name := "<init>", desc := "()V" } : Jvm.MethodName)) ∈ lw_all := lw_g (lw_at lw_m9 121 rfl) rfl
theorem q2161 : (Jvm.Cond.code ({ cls := "java/util/LinkedHashMap", name := "<init>", desc := "()V" } : Jvm.MethodName) prog_61_method_16_code (1 : Nat) (Option.none : Option Jvm.ClassFile.FieldType)) ∈ lw_all := lw_g (lw_at lw_m9 122 rfl) rfl
theorem q2162 : (Jvm.Cond.methodLink "java/util/LinkedHashMap" (87 : Nat) ({ cls := "java/util/HashMap", name := "<init>", desc := "()V" } : Jvm.MethodName)) ∈ lw_all := lw_g (lw_at lw_m9 123 rfl) rfl
theorem q2170 : (Jvm.Cond.fieldLink "java/util/LinkedHashMap" (7 : Nat) "java/util/LinkedHashMap" "head" "Ljava/util/LinkedHashMap$Entry;") ∈ lw_all := lw_g (lw_at lw_m9 131 rfl) rfl
theorem q2171 : (Jvm.Cond.fieldLink "java/util/LinkedHashMap" (11 : Nat) "java/util/LinkedHashMap" "tail" "Ljava/util/LinkedHashMap$Entry;") ∈ lw_all := lw_g (lw_at lw_m9 132 rfl) rfl
theorem q2172 : (Jvm.Cond.fieldLink "java/util/LinkedHashMap" (64 : Nat) "java/util/LinkedHashMap" "accessOrder" "Z") ∈ lw_all := lw_g (lw_at lw_m9 133 rfl) rfl
theorem q2173 : (Jvm.Cond.fieldLink "java/util/LinkedHashMap" (1 : Nat) "java/util/LinkedHashMap" "putMode" "I") ∈ lw_all := lw_g (lw_at lw_m9 134 rfl) rfl
theorem q2176 : (Jvm.Cond.fieldLink "java/util/LinkedHashMap" (68 : Nat) "java/util/LinkedHashMap" "modCount" "I") ∈ lw_all := lw_g (lw_at lw_m9 137 rfl) rfl
theorem q2177 : (Jvm.Cond.sameField "java/util/LinkedHashMap" "java/util/HashMap" "modCount" "I") ∈ lw_all := lw_g (lw_at lw_m9 138 rfl) rfl
theorem q2181 : (Jvm.Cond.lays "java/util/LinkedHashMap" "java/util/LinkedHashMap" "head" "Ljava/util/LinkedHashMap$Entry;") ∈ lw_all := lw_g (lw_at lw_m9 142 rfl) rfl
theorem q2182 : (Jvm.Cond.soleField "java/util/LinkedHashMap" "head") ∈ lw_all := lw_g (lw_at lw_m9 143 rfl) rfl
theorem q2183 : (Jvm.Cond.lays "java/util/LinkedHashMap" "java/util/LinkedHashMap" "tail" "Ljava/util/LinkedHashMap$Entry;") ∈ lw_all := lw_g (lw_at lw_m9 144 rfl) rfl
theorem q2184 : (Jvm.Cond.soleField "java/util/LinkedHashMap" "tail") ∈ lw_all := lw_g (lw_at lw_m9 145 rfl) rfl
theorem q2185 : (Jvm.Cond.laysFinal "java/util/LinkedHashMap" "java/util/LinkedHashMap" "accessOrder" "Z") ∈ lw_all := lw_g (lw_at lw_m9 146 rfl) rfl
theorem q2186 : (Jvm.Cond.soleField "java/util/LinkedHashMap" "accessOrder") ∈ lw_all := lw_g (lw_at lw_m9 147 rfl) rfl
theorem q2187 : (Jvm.Cond.lays "java/util/LinkedHashMap" "java/util/LinkedHashMap" "putMode" "I") ∈ lw_all := lw_g (lw_at lw_m9 148 rfl) rfl
theorem q2188 : (Jvm.Cond.soleField "java/util/LinkedHashMap" "putMode") ∈ lw_all := lw_g (lw_at lw_m9 149 rfl) rfl
theorem q2189 : (Jvm.Cond.lays "java/util/LinkedHashMap" "java/util/HashMap" "table" "[Ljava/util/HashMap$Node;") ∈ lw_all := lw_g (lw_at lw_m9 150 rfl) rfl
theorem q2191 : (Jvm.Cond.lays "java/util/LinkedHashMap" "java/util/HashMap" "entrySet" "Ljava/util/Set;") ∈ lw_all := lw_g (lw_at lw_m9 152 rfl) rfl
theorem q2193 : (Jvm.Cond.lays "java/util/LinkedHashMap" "java/util/HashMap" "size" "I") ∈ lw_all := lw_g (lw_at lw_m9 154 rfl) rfl
theorem q2195 : (Jvm.Cond.lays "java/util/LinkedHashMap" "java/util/HashMap" "modCount" "I") ∈ lw_all := lw_g (lw_at lw_m9 156 rfl) rfl
theorem q2197 : (Jvm.Cond.lays "java/util/LinkedHashMap" "java/util/HashMap" "threshold" "I") ∈ lw_all := lw_g (lw_at lw_m9 158 rfl) rfl
theorem q2199 : (Jvm.Cond.laysFinal "java/util/LinkedHashMap" "java/util/HashMap" "loadFactor" "F") ∈ lw_all := lw_g (lw_at lw_m9 160 rfl) rfl
theorem q2201 : (Jvm.Cond.lays "java/util/LinkedHashMap" "java/util/AbstractMap" "keySet" "Ljava/util/Set;") ∈ lw_all := lw_g (lw_at lw_m9 162 rfl) rfl
theorem q2203 : (Jvm.Cond.lays "java/util/LinkedHashMap" "java/util/AbstractMap" "values" "Ljava/util/Collection;") ∈ lw_all := lw_g (lw_at lw_m9 164 rfl) rfl
theorem q2205 : (Jvm.Cond.superclass "java/util/LinkedHashMap" "java/util/HashMap") ∈ lw_all := lw_g (lw_at lw_m9 166 rfl) rfl
theorem q2281 : (Jvm.Cond.selects "java/util/LinkedHashMap" ({ cls := "java/util/HashMap", name := "putVal", desc := "(ILjava/lang/Object;Ljava/lang/Object;ZZ)Ljava/lang/Object;" } : Jvm.MethodName) ({ cls := "java/util/HashMap", name := "putVal", desc := "(ILjava/lang/Object;Ljava/lang/Object;ZZ)Ljava/lang/Object;" } : Jvm.MethodName)) ∈ lw_all := lw_g (lw_at lw_m10 2 rfl) rfl
theorem q2287 : (Jvm.Cond.selects "java/util/LinkedHashMap" ({ cls := "java/util/HashMap", name := "resize", desc := "()[Ljava/util/HashMap$Node;" } : Jvm.MethodName) ({ cls := "java/util/HashMap", name := "resize", desc := "()[Ljava/util/HashMap$Node;" } : Jvm.MethodName)) ∈ lw_all := lw_g (lw_at lw_m10 8 rfl) rfl
theorem q2308 : (Jvm.Cond.selects "java/util/LinkedHashMap" ({ cls := "java/util/HashMap", name := "replacementNode", desc := "(Ljava/util/HashMap$Node;Ljava/util/HashMap$Node;)Ljava/util/HashMap$Node;" } : Jvm.MethodName) ({ cls := "java/util/LinkedHashMap", name := "replacementNode", desc := "(Ljava/util/HashMap$Node;Ljava/util/HashMap$Node;)Ljava/util/HashMap$Node;" } : Jvm.MethodName)) ∈ lw_all := lw_g (lw_at lw_m10 29 rfl) rfl
theorem q2309 : (Jvm.Cond.instanceMethod ({ cls := "java/util/LinkedHashMap", name := "replacementNode", desc := "(Ljava/util/HashMap$Node;Ljava/util/HashMap$Node;)Ljava/util/HashMap$Node;" } : Jvm.MethodName)) ∈ lw_all := lw_g (lw_at lw_m10 30 rfl) rfl
theorem q2310 : (Jvm.Cond.code ({ cls := "java/util/LinkedHashMap", name := "replacementNode", desc := "(Ljava/util/HashMap$Node;Ljava/util/HashMap$Node;)Ljava/util/HashMap$Node;" } : Jvm.MethodName) prog_61_method_5_code (5 : Nat) (Option.some (Jvm.ClassFile.FieldType.object "java/util/HashMap$Node"))) ∈ lw_all := lw_g (lw_at lw_m10 31 rfl) rfl
theorem q2311 : (Jvm.Cond.classLink "java/util/LinkedHashMap" (15 : Nat) "java/util/LinkedHashMap$Entry") ∈ lw_all := lw_g (lw_at lw_m10 32 rfl) rfl
theorem q2313 : (Jvm.Cond.methodLink "java/util/LinkedHashMap" (28 : Nat) ({ cls := "java/util/LinkedHashMap$Entry", name := "<init>", desc := "(ILjava/lang/Object;Ljava/lang/Object;Ljava/util/HashMap$Node;)V" } : Jvm.MethodName)) ∈ lw_all := lw_g (lw_at lw_m10 34 rfl) rfl
theorem q2320 : (Jvm.Cond.fieldLink "java/util/LinkedHashMap" (19 : Nat) "java/util/LinkedHashMap$Entry" "before" "Ljava/util/LinkedHashMap$Entry;") ∈ lw_all := lw_g (lw_at lw_m10 41 rfl) rfl
theorem q2321 : (Jvm.Cond.fieldLink "java/util/LinkedHashMap" (14 : Nat) "java/util/LinkedHashMap$Entry" "after" "Ljava/util/LinkedHashMap$Entry;") ∈ lw_all := lw_g (lw_at lw_m10 42 rfl) rfl
theorem q2325 : (Jvm.Cond.fieldLink "java/util/LinkedHashMap" (36 : Nat) "java/util/LinkedHashMap$Entry" "hash" "I") ∈ lw_all := lw_g (lw_at lw_m10 46 rfl) rfl
theorem q2331 : (Jvm.Cond.fieldLink "java/util/LinkedHashMap" (39 : Nat) "java/util/LinkedHashMap$Entry" "key" "Ljava/lang/Object;") ∈ lw_all := lw_g (lw_at lw_m10 52 rfl) rfl
theorem q2335 : (Jvm.Cond.fieldLink "java/util/LinkedHashMap" (43 : Nat) "java/util/LinkedHashMap$Entry" "value" "Ljava/lang/Object;") ∈ lw_all := lw_g (lw_at lw_m10 56 rfl) rfl
theorem q2338 : (Jvm.Cond.fieldLink "java/util/LinkedHashMap" (107 : Nat) "java/util/HashMap$Node" "value" "Ljava/lang/Object;") ∈ lw_all := lw_g (lw_at lw_m10 59 rfl) rfl
theorem q2358 : (Jvm.Cond.methodLink "java/util/LinkedHashMap" (46 : Nat) ({ cls := "java/util/LinkedHashMap", name := "transferLinks", desc := "(Ljava/util/LinkedHashMap$Entry;Ljava/util/LinkedHashMap$Entry;)V" } : Jvm.MethodName)) ∈ lw_all := lw_g (lw_at lw_m10 79 rfl) rfl
theorem q2359 : (Jvm.Cond.privateMethod ({ cls := "java/util/LinkedHashMap", name := "transferLinks", desc := "(Ljava/util/LinkedHashMap$Entry;Ljava/util/LinkedHashMap$Entry;)V" } : Jvm.MethodName)) ∈ lw_tbl := lw_at lw_m10 80 rfl
theorem q2360 : (Jvm.Cond.instanceMethod ({ cls := "java/util/LinkedHashMap", name := "transferLinks", desc := "(Ljava/util/LinkedHashMap$Entry;Ljava/util/LinkedHashMap$Entry;)V" } : Jvm.MethodName)) ∈ lw_all := lw_g (lw_at lw_m10 81 rfl) rfl
theorem q2361 : (Jvm.Cond.code ({ cls := "java/util/LinkedHashMap", name := "transferLinks", desc := "(Ljava/util/LinkedHashMap$Entry;Ljava/util/LinkedHashMap$Entry;)V" } : Jvm.MethodName) prog_61_method_2_code (5 : Nat) (Option.none : Option Jvm.ClassFile.FieldType)) ∈ lw_all := lw_g (lw_at lw_m10 82 rfl) rfl
theorem q2592 : (Jvm.Cond.selects "java/util/LinkedHashMap" ({ cls := "java/util/HashMap", name := "newNode", desc := "(ILjava/lang/Object;Ljava/lang/Object;Ljava/util/HashMap$Node;)Ljava/util/HashMap$Node;" } : Jvm.MethodName) ({ cls := "java/util/LinkedHashMap", name := "newNode", desc := "(ILjava/lang/Object;Ljava/lang/Object;Ljava/util/HashMap$Node;)Ljava/util/HashMap$Node;" } : Jvm.MethodName)) ∈ lw_all := lw_g (lw_at lw_m11 73 rfl) rfl
theorem q2593 : (Jvm.Cond.instanceMethod ({ cls := "java/util/LinkedHashMap", name := "newNode", desc := "(ILjava/lang/Object;Ljava/lang/Object;Ljava/util/HashMap$Node;)Ljava/util/HashMap$Node;" } : Jvm.MethodName)) ∈ lw_all := lw_g (lw_at lw_m11 74 rfl) rfl
theorem q2594 : (Jvm.Cond.code ({ cls := "java/util/LinkedHashMap", name := "newNode", desc := "(ILjava/lang/Object;Ljava/lang/Object;Ljava/util/HashMap$Node;)Ljava/util/HashMap$Node;" } : Jvm.MethodName) prog_61_method_4_code (6 : Nat) (Option.some (Jvm.ClassFile.FieldType.object "java/util/HashMap$Node"))) ∈ lw_all := lw_g (lw_at lw_m11 75 rfl) rfl
theorem q2595 : (Jvm.Cond.methodLink "java/util/LinkedHashMap" (32 : Nat) ({ cls := "java/util/LinkedHashMap", name := "linkNodeAtEnd", desc := "(Ljava/util/LinkedHashMap$Entry;)V" } : Jvm.MethodName)) ∈ lw_all := lw_g (lw_at lw_m11 76 rfl) rfl
theorem q2596 : (Jvm.Cond.privateMethod ({ cls := "java/util/LinkedHashMap", name := "linkNodeAtEnd", desc := "(Ljava/util/LinkedHashMap$Entry;)V" } : Jvm.MethodName)) ∈ lw_tbl := lw_at lw_m11 77 rfl
theorem q2597 : (Jvm.Cond.instanceMethod ({ cls := "java/util/LinkedHashMap", name := "linkNodeAtEnd", desc := "(Ljava/util/LinkedHashMap$Entry;)V" } : Jvm.MethodName)) ∈ lw_all := lw_g (lw_at lw_m11 78 rfl) rfl
theorem q2598 : (Jvm.Cond.code ({ cls := "java/util/LinkedHashMap", name := "linkNodeAtEnd", desc := "(Ljava/util/LinkedHashMap$Entry;)V" } : Jvm.MethodName) prog_61_method_1_code (3 : Nat) (Option.none : Option Jvm.ClassFile.FieldType)) ∈ lw_all := lw_g (lw_at lw_m11 79 rfl) rfl
theorem q2653 : (Jvm.Cond.selects "java/util/LinkedHashMap" ({ cls := "java/util/HashMap", name := "newTreeNode", desc := "(ILjava/lang/Object;Ljava/lang/Object;Ljava/util/HashMap$Node;)Ljava/util/HashMap$TreeNode;" } : Jvm.MethodName) ({ cls := "java/util/LinkedHashMap", name := "newTreeNode", desc := "(ILjava/lang/Object;Ljava/lang/Object;Ljava/util/HashMap$Node;)Ljava/util/HashMap$TreeNode;" } : Jvm.MethodName)) ∈ lw_all := lw_g (lw_at lw_m11 134 rfl) rfl
theorem q2654 : (Jvm.Cond.instanceMethod ({ cls := "java/util/LinkedHashMap", name := "newTreeNode", desc := "(ILjava/lang/Object;Ljava/lang/Object;Ljava/util/HashMap$Node;)Ljava/util/HashMap$TreeNode;" } : Jvm.MethodName)) ∈ lw_all := lw_g (lw_at lw_m11 135 rfl) rfl
theorem q2655 : (Jvm.Cond.code ({ cls := "java/util/LinkedHashMap", name := "newTreeNode", desc := "(ILjava/lang/Object;Ljava/lang/Object;Ljava/util/HashMap$Node;)Ljava/util/HashMap$TreeNode;" } : Jvm.MethodName) prog_61_method_6_code (6 : Nat) (Option.some (Jvm.ClassFile.FieldType.object "java/util/HashMap$TreeNode"))) ∈ lw_all := lw_g (lw_at lw_m11 136 rfl) rfl
theorem q2656 : (Jvm.Cond.classLink "java/util/LinkedHashMap" (50 : Nat) "java/util/HashMap$TreeNode") ∈ lw_all := lw_g (lw_at lw_m11 137 rfl) rfl
theorem q2658 : (Jvm.Cond.methodLink "java/util/LinkedHashMap" (52 : Nat) ({ cls := "java/util/HashMap$TreeNode", name := "<init>", desc := "(ILjava/lang/Object;Ljava/lang/Object;Ljava/util/HashMap$Node;)V" } : Jvm.MethodName)) ∈ lw_all := lw_g (lw_at lw_m11 139 rfl) rfl
theorem q2691 : (Jvm.Cond.selects "java/util/LinkedHashMap" ({ cls := "java/util/HashMap", name := "treeifyBin", desc := "([Ljava/util/HashMap$Node;I)V" } : Jvm.MethodName) ({ cls := "java/util/HashMap", name := "treeifyBin", desc := "([Ljava/util/HashMap$Node;I)V" } : Jvm.MethodName)) ∈ lw_all := lw_g (lw_at lw_m11 172 rfl) rfl
theorem q2697 : (Jvm.Cond.selects "java/util/LinkedHashMap" ({ cls := "java/util/HashMap", name := "replacementTreeNode", desc := "(Ljava/util/HashMap$Node;Ljava/util/HashMap$Node;)Ljava/util/HashMap$TreeNode;" } : Jvm.MethodName) ({ cls := "java/util/LinkedHashMap", name := "replacementTreeNode", desc := "(Ljava/util/HashMap$Node;Ljava/util/HashMap$Node;)Ljava/util/HashMap$TreeNode;" } : Jvm.MethodName)) ∈ lw_all := lw_g (lw_at lw_m11 178 rfl) rfl
theorem q2698 : (Jvm.Cond.instanceMethod ({ cls := "java/util/LinkedHashMap", name := "replacementTreeNode", desc := "(Ljava/util/HashMap$Node;Ljava/util/HashMap$Node;)Ljava/util/HashMap$TreeNode;" } : Jvm.MethodName)) ∈ lw_all := lw_g (lw_at lw_m11 179 rfl) rfl
theorem q2699 : (Jvm.Cond.code ({ cls := "java/util/LinkedHashMap", name := "replacementTreeNode", desc := "(Ljava/util/HashMap$Node;Ljava/util/HashMap$Node;)Ljava/util/HashMap$TreeNode;" } : Jvm.MethodName) prog_61_method_7_code (5 : Nat) (Option.some (Jvm.ClassFile.FieldType.object "java/util/HashMap$TreeNode"))) ∈ lw_all := lw_g (lw_at lw_m11 180 rfl) rfl
theorem q2706 : (Jvm.Cond.selects "java/util/LinkedHashMap" ({ cls := "java/util/HashMap", name := "afterNodeAccess", desc := "(Ljava/util/HashMap$Node;)V" } : Jvm.MethodName) ({ cls := "java/util/LinkedHashMap", name := "afterNodeAccess", desc := "(Ljava/util/HashMap$Node;)V" } : Jvm.MethodName)) ∈ lw_all := lw_g (lw_at lw_m11 187 rfl) rfl
theorem q2707 : (Jvm.Cond.instanceMethod ({ cls := "java/util/LinkedHashMap", name := "afterNodeAccess", desc := "(Ljava/util/HashMap$Node;)V" } : Jvm.MethodName)) ∈ lw_all := lw_g (lw_at lw_m11 188 rfl) rfl
theorem q2708 : (Jvm.Cond.code ({ cls := "java/util/LinkedHashMap", name := "afterNodeAccess", desc := "(Ljava/util/HashMap$Node;)V" } : Jvm.MethodName) prog_61_method_10_code (7 : Nat) (Option.none : Option Jvm.ClassFile.FieldType)) ∈ lw_all := lw_g (lw_at lw_m11 189 rfl) rfl
theorem q2714 : (Jvm.Cond.selects "java/util/LinkedHashMap" ({ cls := "java/util/HashMap", name := "afterNodeInsertion", desc := "(Z)V" } : Jvm.MethodName) ({ cls := "java/util/LinkedHashMap", name := "afterNodeInsertion", desc := "(Z)V" } : Jvm.MethodName)) ∈ lw_all := lw_g (lw_at lw_m11 195 rfl) rfl
theorem q2715 : (Jvm.Cond.instanceMethod ({ cls := "java/util/LinkedHashMap", name := "afterNodeInsertion", desc := "(Z)V" } : Jvm.MethodName)) ∈ lw_all := lw_g (lw_at lw_m11 196 rfl) rfl
theorem q2716 : (Jvm.Cond.code ({ cls := "java/util/LinkedHashMap", name := "afterNodeInsertion", desc := "(Z)V" } : Jvm.MethodName) prog_61_method_9_code (4 : Nat) (Option.none : Option Jvm.ClassFile.FieldType)) ∈ lw_all := lw_g (lw_at lw_m11 197 rfl) rfl
theorem q2717 : (Jvm.Cond.methodLink "java/util/LinkedHashMap" (53 : Nat) ({ cls := "java/util/LinkedHashMap", name := "removeEldestEntry", desc := "(Ljava/util/Map$Entry;)Z" } : Jvm.MethodName)) ∈ lw_all := lw_g (lw_at lw_m11 198 rfl) rfl
theorem q2718 : (Jvm.Cond.instanceMethod ({ cls := "java/util/LinkedHashMap", name := "removeEldestEntry", desc := "(Ljava/util/Map$Entry;)Z" } : Jvm.MethodName)) ∈ lw_all := lw_g (lw_at lw_m11 199 rfl) rfl
theorem q2719 : (Jvm.Cond.selects "java/util/LinkedHashMap" ({ cls := "java/util/LinkedHashMap", name := "removeEldestEntry", desc := "(Ljava/util/Map$Entry;)Z" } : Jvm.MethodName) ({ cls := "java/util/LinkedHashMap", name := "removeEldestEntry", desc := "(Ljava/util/Map$Entry;)Z" } : Jvm.MethodName)) ∈ lw_all := lw_g (lw_at lw_m11 200 rfl) rfl
theorem q2720 : (Jvm.Cond.code ({ cls := "java/util/LinkedHashMap", name := "removeEldestEntry", desc := "(Ljava/util/Map$Entry;)Z" } : Jvm.MethodName) prog_61_method_23_code (2 : Nat) (Option.some Jvm.ClassFile.FieldType.boolean)) ∈ lw_all := lw_g (lw_at lw_m11 201 rfl) rfl
theorem q2722 : (Jvm.Cond.castable "java/util/LinkedHashMap" "java/util/Map") ∈ lw_tbl := lw_at lw_m11 203 rfl
theorem q2723 : (Jvm.Cond.selects "java/util/LinkedHashMap" ({ cls := "java/util/Map", name := "put", desc := "(Ljava/lang/Object;Ljava/lang/Object;)Ljava/lang/Object;" } : Jvm.MethodName) ({ cls := "java/util/HashMap", name := "put", desc := "(Ljava/lang/Object;Ljava/lang/Object;)Ljava/lang/Object;" } : Jvm.MethodName)) ∈ lw_all := lw_g (lw_at lw_m11 204 rfl) rfl
theorem q2724 : (Jvm.Cond.unhidden "java/util/LinkedHashMap" "put" "(Ljava/lang/Object;Ljava/lang/Object;)Ljava/lang/Object;") ∈ lw_tbl := lw_at lw_m11 205 rfl
theorem q2739 : (Jvm.Cond.selects "java/util/LinkedHashMap" ({ cls := "java/util/HashMap", name := "getNode", desc := "(Ljava/lang/Object;)Ljava/util/HashMap$Node;" } : Jvm.MethodName) ({ cls := "java/util/HashMap", name := "getNode", desc := "(Ljava/lang/Object;)Ljava/util/HashMap$Node;" } : Jvm.MethodName)) ∈ lw_all := lw_g (lw_at lw_m11 220 rfl) rfl
theorem q2745 : (Jvm.Cond.selects "java/util/LinkedHashMap" ({ cls := "java/util/Map", name := "get", desc := "(Ljava/lang/Object;)Ljava/lang/Object;" } : Jvm.MethodName) ({ cls := "java/util/LinkedHashMap", name := "get", desc := "(Ljava/lang/Object;)Ljava/lang/Object;" } : Jvm.MethodName)) ∈ lw_all := lw_g (lw_at lw_m11 226 rfl) rfl
theorem q2746 : (Jvm.Cond.unhidden "java/util/LinkedHashMap" "get" "(Ljava/lang/Object;)Ljava/lang/Object;") ∈ lw_tbl := lw_at lw_m11 227 rfl
theorem q2747 : (Jvm.Cond.instanceMethod ({ cls := "java/util/LinkedHashMap", name := "get", desc := "(Ljava/lang/Object;)Ljava/lang/Object;" } : Jvm.MethodName)) ∈ lw_all := lw_g (lw_at lw_m11 228 rfl) rfl
theorem q2748 : (Jvm.Cond.publicMethod ({ cls := "java/util/LinkedHashMap", name := "get", desc := "(Ljava/lang/Object;)Ljava/lang/Object;" } : Jvm.MethodName)) ∈ lw_tbl := lw_at lw_m11 229 rfl
theorem q2749 : (Jvm.Cond.code ({ cls := "java/util/LinkedHashMap", name := "get", desc := "(Ljava/lang/Object;)Ljava/lang/Object;" } : Jvm.MethodName) prog_61_method_20_code (3 : Nat) (Option.some (Jvm.ClassFile.FieldType.object "java/lang/Object"))) ∈ lw_all := lw_g (lw_at lw_m11 230 rfl) rfl
theorem q2750 : (Jvm.Cond.methodLink "java/util/LinkedHashMap" (99 : Nat) ({ cls := "java/util/LinkedHashMap", name := "getNode", desc := "(Ljava/lang/Object;)Ljava/util/HashMap$Node;" } : Jvm.MethodName)) ∈ lw_all := lw_g (lw_at lw_m11 231 rfl) rfl
theorem q2751 : (Jvm.Cond.sameMethod "java/util/LinkedHashMap" "java/util/HashMap" "getNode" "(Ljava/lang/Object;)Ljava/util/HashMap$Node;") ∈ lw_all := lw_g (lw_at lw_m11 232 rfl) rfl
theorem q2753 : (Jvm.Cond.selects "java/util/LinkedHashMap" ({ cls := "java/util/LinkedHashMap", name := "getNode", desc := "(Ljava/lang/Object;)Ljava/util/HashMap$Node;" } : Jvm.MethodName) ({ cls := "java/util/HashMap", name := "getNode", desc := "(Ljava/lang/Object;)Ljava/util/HashMap$Node;" } : Jvm.MethodName)) ∈ lw_all := lw_g (lw_at lw_m11 234 rfl) rfl
theorem q2754 : (Jvm.Cond.methodLink "java/util/LinkedHashMap" (103 : Nat) ({ cls := "java/util/LinkedHashMap", name := "afterNodeAccess", desc := "(Ljava/util/HashMap$Node;)V" } : Jvm.MethodName)) ∈ lw_all := lw_g (lw_at lw_m11 235 rfl) rfl
theorem q2830 : (Jvm.Cond.selects "java/util/LinkedHashMap" ({ cls := "java/util/HashMap", name := "containsKey", desc := "(Ljava/lang/Object;)Z" } : Jvm.MethodName) ({ cls := "java/util/HashMap", name := "containsKey", desc := "(Ljava/lang/Object;)Z" } : Jvm.MethodName)) ∈ lw_all := lw_g (lw_at lw_m12 71 rfl) rfl
theorem q3538 : (Jvm.Cond.selects "java/util/LinkedHashMap" ({ cls := "java/util/LinkedHashMap", name := "afterNodeAccess", desc := "(Ljava/util/HashMap$Node;)V" } : Jvm.MethodName) ({ cls := "java/util/LinkedHashMap", name := "afterNodeAccess", desc := "(Ljava/util/HashMap$Node;)V" } : Jvm.MethodName)) ∈ lw_all := lw_g (lw_at lw_m15 59 rfl) rfl
theorem q3541 : (Jvm.Cond.selects "java/util/LinkedHashMap" ({ cls := "java/util/HashMap", name := "put", desc := "(Ljava/lang/Object;Ljava/lang/Object;)Ljava/lang/Object;" } : Jvm.MethodName) ({ cls := "java/util/HashMap", name := "put", desc := "(Ljava/lang/Object;Ljava/lang/Object;)Ljava/lang/Object;" } : Jvm.MethodName)) ∈ lw_all := lw_g (lw_at lw_m15 62 rfl) rfl
theorem q3570 : (Jvm.Cond.castable "java/util/LinkedHashMap" "java/lang/Object") ∈ lw_tbl := lw_at lw_m15 91 rfl
theorem in_J27 : ∀ w ∈ wsJ270, w ∈ lw_all := lw_in wsJ270 [2201, 2203, 2189, 2191, 2193, 2195, 2197, 2199, 2181, 2183, 2185, 2187] (by decide +kernel) (by decide +kernel)

/-! java/lang/Boolean -/
set_option maxRecDepth 100000
def RJ28 : String := "java/lang/Boolean"
abbrev cJ28_valueOf : ByteArray := prog_21_method_5_code
def yJ28_valueOf : MethodName := ⟨RJ28, "valueOf", "(Z)Ljava/lang/Boolean;"⟩
def dkwJ28_valueOf_0 : List UInt8 := [26, 153, 0, 9, 178, 0, 27, 167, 0, 6, 178, 0, 31, 176]
abbrev dktJ28_valueOf_0 : List UInt8 := dkwJ28_valueOf_0 ++ []
theorem dksJ28_valueOf_0 : cJ28_valueOf.data.toList.drop 0 = dktJ28_valueOf_0 := by decide +kernel
theorem dJ28_valueOf_0 : decode cJ28_valueOf 0 = .ok (.iload_n 0, 1) := dk_26 (dk_at dksJ28_valueOf_0 0 rfl rfl)
theorem dJ28_valueOf_1 : decode cJ28_valueOf 1 = .ok (.ifCond .eq 9, 3) := dk_153 0 9 (dk_at dksJ28_valueOf_0 1 rfl rfl)
theorem dJ28_valueOf_4 : decode cJ28_valueOf 4 = .ok (.getstatic 27, 3) := dk_178 0 27 (dk_at dksJ28_valueOf_0 4 rfl rfl)
theorem dJ28_valueOf_7 : decode cJ28_valueOf 7 = .ok (.goto 6, 3) := dk_167 0 6 (dk_at dksJ28_valueOf_0 7 rfl rfl)
theorem dJ28_valueOf_10 : decode cJ28_valueOf 10 = .ok (.getstatic 31, 3) := dk_178 0 31 (dk_at dksJ28_valueOf_0 10 rfl rfl)
theorem dJ28_valueOf_13 : decode cJ28_valueOf 13 = .ok (.areturn, 1) := dk_176 (dk_at dksJ28_valueOf_0 13 rfl rfl)
abbrev cJ28_hashCode : ByteArray := prog_21_method_9_code
def yJ28_hashCode : MethodName := ⟨RJ28, "hashCode", "()I"⟩
def dkwJ28_hashCode_0 : List UInt8 := [42, 180, 0, 7, 184, 0, 38, 172]
abbrev dktJ28_hashCode_0 : List UInt8 := dkwJ28_hashCode_0 ++ []
theorem dksJ28_hashCode_0 : cJ28_hashCode.data.toList.drop 0 = dktJ28_hashCode_0 := by decide +kernel
theorem dJ28_hashCode_0 : decode cJ28_hashCode 0 = .ok (.aload_n 0, 1) := dk_42 (dk_at dksJ28_hashCode_0 0 rfl rfl)
theorem dJ28_hashCode_1 : decode cJ28_hashCode 1 = .ok (.getfield 7, 3) := dk_180 0 7 (dk_at dksJ28_hashCode_0 1 rfl rfl)
theorem dJ28_hashCode_4 : decode cJ28_hashCode 4 = .ok (.invokestatic 38, 3) := dk_184 0 38 (dk_at dksJ28_hashCode_0 4 rfl rfl)
theorem dJ28_hashCode_7 : decode cJ28_hashCode 7 = .ok (.ireturn, 1) := dk_172 (dk_at dksJ28_hashCode_0 7 rfl rfl)
abbrev cJ28_hashCode_2 : ByteArray := prog_21_method_10_code
def yJ28_hashCode_2 : MethodName := ⟨RJ28, "hashCode", "(Z)I"⟩
def dkwJ28_hashCode_2_0 : List UInt8 := [26, 153, 0, 9, 17, 4, 207, 167, 0, 6, 17, 4, 213, 172]
abbrev dktJ28_hashCode_2_0 : List UInt8 := dkwJ28_hashCode_2_0 ++ []
theorem dksJ28_hashCode_2_0 : cJ28_hashCode_2.data.toList.drop 0 = dktJ28_hashCode_2_0 := by decide +kernel
theorem dJ28_hashCode_2_0 : decode cJ28_hashCode_2 0 = .ok (.iload_n 0, 1) := dk_26 (dk_at dksJ28_hashCode_2_0 0 rfl rfl)
theorem dJ28_hashCode_2_1 : decode cJ28_hashCode_2 1 = .ok (.ifCond .eq 9, 3) := dk_153 0 9 (dk_at dksJ28_hashCode_2_0 1 rfl rfl)
theorem dJ28_hashCode_2_4 : decode cJ28_hashCode_2 4 = .ok (.sipush 1231, 3) := dk_17 4 207 (dk_at dksJ28_hashCode_2_0 4 rfl rfl)
theorem dJ28_hashCode_2_7 : decode cJ28_hashCode_2 7 = .ok (.goto 6, 3) := dk_167 0 6 (dk_at dksJ28_hashCode_2_0 7 rfl rfl)
theorem dJ28_hashCode_2_10 : decode cJ28_hashCode_2 10 = .ok (.sipush 1237, 3) := dk_17 4 213 (dk_at dksJ28_hashCode_2_0 10 rfl rfl)
theorem dJ28_hashCode_2_13 : decode cJ28_hashCode_2 13 = .ok (.ireturn, 1) := dk_172 (dk_at dksJ28_hashCode_2_0 13 rfl rfl)
abbrev cJ28_compareTo : ByteArray := prog_21_method_19_code
def yJ28_compareTo : MethodName := ⟨RJ28, "compareTo", "(Ljava/lang/Object;)I"⟩
def dkwJ28_compareTo_0 : List UInt8 := [42, 43, 192, 0, 8, 182, 0, 73, 172]
abbrev dktJ28_compareTo_0 : List UInt8 := dkwJ28_compareTo_0 ++ []
theorem dksJ28_compareTo_0 : cJ28_compareTo.data.toList.drop 0 = dktJ28_compareTo_0 := by decide +kernel
theorem dJ28_compareTo_0 : decode cJ28_compareTo 0 = .ok (.aload_n 0, 1) := dk_42 (dk_at dksJ28_compareTo_0 0 rfl rfl)
theorem dJ28_compareTo_1 : decode cJ28_compareTo 1 = .ok (.aload_n 1, 1) := dk_43 (dk_at dksJ28_compareTo_0 1 rfl rfl)
theorem dJ28_compareTo_2 : decode cJ28_compareTo 2 = .ok (.checkcast 8, 3) := dk_192 0 8 (dk_at dksJ28_compareTo_0 2 rfl rfl)
theorem dJ28_compareTo_5 : decode cJ28_compareTo 5 = .ok (.invokevirtual 73, 3) := dk_182 0 73 (dk_at dksJ28_compareTo_0 5 rfl rfl)
theorem dJ28_compareTo_8 : decode cJ28_compareTo 8 = .ok (.ireturn, 1) := dk_172 (dk_at dksJ28_compareTo_0 8 rfl rfl)
abbrev cJ28_compareTo_2 : ByteArray := prog_21_method_13_code
def yJ28_compareTo_2 : MethodName := ⟨RJ28, "compareTo", "(Ljava/lang/Boolean;)I"⟩
def dkwJ28_compareTo_2_0 : List UInt8 := [42, 180, 0, 7, 43, 180, 0, 7, 184, 0, 56, 172]
abbrev dktJ28_compareTo_2_0 : List UInt8 := dkwJ28_compareTo_2_0 ++ []
theorem dksJ28_compareTo_2_0 : cJ28_compareTo_2.data.toList.drop 0 = dktJ28_compareTo_2_0 := by decide +kernel
theorem dJ28_compareTo_2_0 : decode cJ28_compareTo_2 0 = .ok (.aload_n 0, 1) := dk_42 (dk_at dksJ28_compareTo_2_0 0 rfl rfl)
theorem dJ28_compareTo_2_1 : decode cJ28_compareTo_2 1 = .ok (.getfield 7, 3) := dk_180 0 7 (dk_at dksJ28_compareTo_2_0 1 rfl rfl)
theorem dJ28_compareTo_2_4 : decode cJ28_compareTo_2 4 = .ok (.aload_n 1, 1) := dk_43 (dk_at dksJ28_compareTo_2_0 4 rfl rfl)
theorem dJ28_compareTo_2_5 : decode cJ28_compareTo_2 5 = .ok (.getfield 7, 3) := dk_180 0 7 (dk_at dksJ28_compareTo_2_0 5 rfl rfl)
theorem dJ28_compareTo_2_8 : decode cJ28_compareTo_2 8 = .ok (.invokestatic 56, 3) := dk_184 0 56 (dk_at dksJ28_compareTo_2_0 8 rfl rfl)
theorem dJ28_compareTo_2_11 : decode cJ28_compareTo_2 11 = .ok (.ireturn, 1) := dk_172 (dk_at dksJ28_compareTo_2_0 11 rfl rfl)
abbrev cJ28_compare : ByteArray := prog_21_method_14_code
def yJ28_compare : MethodName := ⟨RJ28, "compare", "(ZZ)I"⟩
def dkwJ28_compare_0 : List UInt8 := [26, 27, 160, 0, 7, 3, 167, 0, 12, 26, 153, 0, 7, 4, 167, 0, 4, 2, 172]
abbrev dktJ28_compare_0 : List UInt8 := dkwJ28_compare_0 ++ []
theorem dksJ28_compare_0 : cJ28_compare.data.toList.drop 0 = dktJ28_compare_0 := by decide +kernel
theorem dJ28_compare_0 : decode cJ28_compare 0 = .ok (.iload_n 0, 1) := dk_26 (dk_at dksJ28_compare_0 0 rfl rfl)
theorem dJ28_compare_1 : decode cJ28_compare 1 = .ok (.iload_n 1, 1) := dk_27 (dk_at dksJ28_compare_0 1 rfl rfl)
theorem dJ28_compare_2 : decode cJ28_compare 2 = .ok (.if_icmp .ne 7, 3) := dk_160 0 7 (dk_at dksJ28_compare_0 2 rfl rfl)
theorem dJ28_compare_5 : decode cJ28_compare 5 = .ok (.iconst 0, 1) := dk_3 (dk_at dksJ28_compare_0 5 rfl rfl)
theorem dJ28_compare_6 : decode cJ28_compare 6 = .ok (.goto 12, 3) := dk_167 0 12 (dk_at dksJ28_compare_0 6 rfl rfl)
theorem dJ28_compare_9 : decode cJ28_compare 9 = .ok (.iload_n 0, 1) := dk_26 (dk_at dksJ28_compare_0 9 rfl rfl)
theorem dJ28_compare_10 : decode cJ28_compare 10 = .ok (.ifCond .eq 7, 3) := dk_153 0 7 (dk_at dksJ28_compare_0 10 rfl rfl)
theorem dJ28_compare_13 : decode cJ28_compare 13 = .ok (.iconst 1, 1) := dk_4 (dk_at dksJ28_compare_0 13 rfl rfl)
theorem dJ28_compare_14 : decode cJ28_compare 14 = .ok (.goto 4, 3) := dk_167 0 4 (dk_at dksJ28_compare_0 14 rfl rfl)
theorem dJ28_compare_17 : decode cJ28_compare 17 = .ok (.iconst (-1), 1) := dk_2 (dk_at dksJ28_compare_0 17 rfl rfl)
theorem dJ28_compare_18 : decode cJ28_compare 18 = .ok (.ireturn, 1) := dk_172 (dk_at dksJ28_compare_0 18 rfl rfl)
abbrev cJ28_equals : ByteArray := prog_21_method_11_code
def yJ28_equals : MethodName := ⟨RJ28, "equals", "(Ljava/lang/Object;)Z"⟩
def dkwJ28_equals_1 : List UInt8 := [167, 0, 4, 3, 172, 3, 172]
abbrev dktJ28_equals_1 : List UInt8 := dkwJ28_equals_1 ++ []
def dkwJ28_equals_0 : List UInt8 := [43, 193, 0, 8, 153, 0, 23, 42, 180, 0, 7, 43, 192, 0, 8, 182, 0, 42, 160, 0, 7, 4]
abbrev dktJ28_equals_0 : List UInt8 := dkwJ28_equals_0 ++ dktJ28_equals_1
theorem dksJ28_equals_0 : cJ28_equals.data.toList.drop 0 = dktJ28_equals_0 := by decide +kernel
theorem dksJ28_equals_1 : cJ28_equals.data.toList.drop 22 = dktJ28_equals_1 := dk_seg dksJ28_equals_0 22 rfl rfl
theorem dJ28_equals_0 : decode cJ28_equals 0 = .ok (.aload_n 1, 1) := dk_43 (dk_at dksJ28_equals_0 0 rfl rfl)
theorem dJ28_equals_1 : decode cJ28_equals 1 = .ok (.instanceof 8, 3) := dk_193 0 8 (dk_at dksJ28_equals_0 1 rfl rfl)
theorem dJ28_equals_4 : decode cJ28_equals 4 = .ok (.ifCond .eq 23, 3) := dk_153 0 23 (dk_at dksJ28_equals_0 4 rfl rfl)
theorem dJ28_equals_7 : decode cJ28_equals 7 = .ok (.aload_n 0, 1) := dk_42 (dk_at dksJ28_equals_0 7 rfl rfl)
theorem dJ28_equals_8 : decode cJ28_equals 8 = .ok (.getfield 7, 3) := dk_180 0 7 (dk_at dksJ28_equals_0 8 rfl rfl)
theorem dJ28_equals_11 : decode cJ28_equals 11 = .ok (.aload_n 1, 1) := dk_43 (dk_at dksJ28_equals_0 11 rfl rfl)
theorem dJ28_equals_12 : decode cJ28_equals 12 = .ok (.checkcast 8, 3) := dk_192 0 8 (dk_at dksJ28_equals_0 12 rfl rfl)
theorem dJ28_equals_15 : decode cJ28_equals 15 = .ok (.invokevirtual 42, 3) := dk_182 0 42 (dk_at dksJ28_equals_0 15 rfl rfl)
theorem dJ28_equals_18 : decode cJ28_equals 18 = .ok (.if_icmp .ne 7, 3) := dk_160 0 7 (dk_at dksJ28_equals_0 18 rfl rfl)
theorem dJ28_equals_21 : decode cJ28_equals 21 = .ok (.iconst 1, 1) := dk_4 (dk_at dksJ28_equals_0 21 rfl rfl)
theorem dJ28_equals_22 : decode cJ28_equals 22 = .ok (.goto 4, 3) := dk_167 0 4 (dk_at dksJ28_equals_1 0 rfl rfl)
theorem dJ28_equals_25 : decode cJ28_equals 25 = .ok (.iconst 0, 1) := dk_3 (dk_at dksJ28_equals_1 3 rfl rfl)
theorem dJ28_equals_26 : decode cJ28_equals 26 = .ok (.ireturn, 1) := dk_172 (dk_at dksJ28_equals_1 4 rfl rfl)
theorem dJ28_equals_27 : decode cJ28_equals 27 = .ok (.iconst 0, 1) := dk_3 (dk_at dksJ28_equals_1 5 rfl rfl)
theorem dJ28_equals_28 : decode cJ28_equals 28 = .ok (.ireturn, 1) := dk_172 (dk_at dksJ28_equals_1 6 rfl rfl)
abbrev cJ28_booleanValue : ByteArray := prog_21_method_4_code
def yJ28_booleanValue : MethodName := ⟨RJ28, "booleanValue", "()Z"⟩
theorem dJ28_booleanValue_0 : decode cJ28_booleanValue 0 = .ok (.aload_n 0, 1) := by decide +kernel
theorem dJ28_booleanValue_1 : decode cJ28_booleanValue 1 = .ok (.getfield 7, 3) := by decide +kernel
theorem dJ28_booleanValue_4 : decode cJ28_booleanValue 4 = .ok (.ireturn, 1) := by decide +kernel
theorem q163 : (Jvm.Cond.initialized "java/lang/Boolean") ∈ lw_all := lw_g (lw_at lw_m1 44 rfl) rfl
theorem q1058 : (Jvm.Cond.selects "java/lang/Boolean" ({ cls := "java/lang/Object", name := "getClass", desc := "()Ljava/lang/Class;" } : Jvm.MethodName) ({ cls := "java/lang/Object", name := "getClass", desc := "()Ljava/lang/Class;" } : Jvm.MethodName)) ∈ lw_all := lw_g (lw_at lw_m4 219 rfl) rfl
theorem q2224 : (Jvm.Cond.static ({ cls := "java/lang/Boolean", name := "valueOf", desc := "(Z)Ljava/lang/Boolean;" } : Jvm.MethodName)) ∈ lw_all := lw_g (lw_at lw_m9 185 rfl) rfl
theorem q2225 : (Jvm.Cond.code ({ cls := "java/lang/Boolean", name := "valueOf", desc := "(Z)Ljava/lang/Boolean;" } : Jvm.MethodName) prog_21_method_5_code (1 : Nat) (Option.some (Jvm.ClassFile.FieldType.object "java/lang/Boolean"))) ∈ lw_all := lw_g (lw_at lw_m9 186 rfl) rfl
theorem q2226 : (Jvm.Cond.fieldLink "java/lang/Boolean" (27 : Nat) "java/lang/Boolean" "TRUE" "Ljava/lang/Boolean;") ∈ lw_all := lw_g (lw_at lw_m9 187 rfl) rfl
theorem q2227 : (Jvm.Cond.laysStatic "java/lang/Boolean" "TRUE" "Ljava/lang/Boolean;") ∈ lw_tbl := lw_at lw_m9 188 rfl
theorem q2228 : (Jvm.Cond.fieldLink "java/lang/Boolean" (31 : Nat) "java/lang/Boolean" "FALSE" "Ljava/lang/Boolean;") ∈ lw_all := lw_g (lw_at lw_m9 189 rfl) rfl
theorem q2229 : (Jvm.Cond.laysStatic "java/lang/Boolean" "FALSE" "Ljava/lang/Boolean;") ∈ lw_tbl := lw_at lw_m9 190 rfl
theorem q2262 : (Jvm.Cond.selects "java/lang/Boolean" ({ cls := "java/lang/Object", name := "hashCode", desc := "()I" } : Jvm.MethodName) ({ cls := "java/lang/Boolean", name := "hashCode", desc := "()I" } : Jvm.MethodName)) ∈ lw_all := lw_g (lw_at lw_m9 223 rfl) rfl
theorem q2263 : (Jvm.Cond.instanceMethod ({ cls := "java/lang/Boolean", name := "hashCode", desc := "()I" } : Jvm.MethodName)) ∈ lw_all := lw_g (lw_at lw_m9 224 rfl) rfl
theorem q2264 : (Jvm.Cond.code ({ cls := "java/lang/Boolean", name := "hashCode", desc := "()I" } : Jvm.MethodName) prog_21_method_9_code (1 : Nat) (Option.some Jvm.ClassFile.FieldType.int)) ∈ lw_all := lw_g (lw_at lw_m9 225 rfl) rfl
theorem q2265 : (Jvm.Cond.methodLink "java/lang/Boolean" (38 : Nat) ({ cls := "java/lang/Boolean", name := "hashCode", desc := "(Z)I" } : Jvm.MethodName)) ∈ lw_all := lw_g (lw_at lw_m9 226 rfl) rfl
theorem q2266 : (Jvm.Cond.static ({ cls := "java/lang/Boolean", name := "hashCode", desc := "(Z)I" } : Jvm.MethodName)) ∈ lw_all := lw_g (lw_at lw_m9 227 rfl) rfl
theorem q2267 : (Jvm.Cond.code ({ cls := "java/lang/Boolean", name := "hashCode", desc := "(Z)I" } : Jvm.MethodName) prog_21_method_10_code (1 : Nat) (Option.some Jvm.ClassFile.FieldType.int)) ∈ lw_all := lw_g (lw_at lw_m9 228 rfl) rfl
theorem q2387 : (Jvm.Cond.castable "java/lang/Boolean" "java/lang/Comparable") ∈ lw_tbl := lw_at lw_m10 108 rfl
theorem q2388 : (Jvm.Cond.selects "java/lang/Boolean" ({ cls := "java/lang/Comparable", name := "compareTo", desc := "(Ljava/lang/Object;)I" } : Jvm.MethodName) ({ cls := "java/lang/Boolean", name := "compareTo", desc := "(Ljava/lang/Object;)I" } : Jvm.MethodName)) ∈ lw_all := lw_g (lw_at lw_m10 109 rfl) rfl
theorem q2389 : (Jvm.Cond.unhidden "java/lang/Boolean" "compareTo" "(Ljava/lang/Object;)I") ∈ lw_tbl := lw_at lw_m10 110 rfl
theorem q2390 : (Jvm.Cond.instanceMethod ({ cls := "java/lang/Boolean", name := "compareTo", desc := "(Ljava/lang/Object;)I" } : Jvm.MethodName)) ∈ lw_all := lw_g (lw_at lw_m10 111 rfl) rfl
theorem q2391 : (Jvm.Cond.publicMethod ({ cls := "java/lang/Boolean", name := "compareTo", desc := "(Ljava/lang/Object;)I" } : Jvm.MethodName)) ∈ lw_tbl := lw_at lw_m10 112 rfl
theorem q2392 : (Jvm.Cond.code ({ cls := "java/lang/Boolean", name := "compareTo", desc := "(Ljava/lang/Object;)I" } : Jvm.MethodName) prog_21_method_19_code (2 : Nat) (Option.some Jvm.ClassFile.FieldType.int)) ∈ lw_all := lw_g (lw_at lw_m10 113 rfl) rfl
theorem q2393 : (Jvm.Cond.classLink "java/lang/Boolean" (8 : Nat) "java/lang/Boolean") ∈ lw_all := lw_g (lw_at lw_m10 114 rfl) rfl
theorem q2394 : (Jvm.Cond.methodLink "java/lang/Boolean" (73 : Nat) ({ cls := "java/lang/Boolean", name := "compareTo", desc := "(Ljava/lang/Boolean;)I" } : Jvm.MethodName)) ∈ lw_all := lw_g (lw_at lw_m10 115 rfl) rfl
theorem q2395 : (Jvm.Cond.instanceMethod ({ cls := "java/lang/Boolean", name := "compareTo", desc := "(Ljava/lang/Boolean;)I" } : Jvm.MethodName)) ∈ lw_all := lw_g (lw_at lw_m10 116 rfl) rfl
theorem q2396 : (Jvm.Cond.selects "java/lang/Boolean" ({ cls := "java/lang/Boolean", name := "compareTo", desc := "(Ljava/lang/Boolean;)I" } : Jvm.MethodName) ({ cls := "java/lang/Boolean", name := "compareTo", desc := "(Ljava/lang/Boolean;)I" } : Jvm.MethodName)) ∈ lw_all := lw_g (lw_at lw_m10 117 rfl) rfl
theorem q2397 : (Jvm.Cond.code ({ cls := "java/lang/Boolean", name := "compareTo", desc := "(Ljava/lang/Boolean;)I" } : Jvm.MethodName) prog_21_method_13_code (2 : Nat) (Option.some Jvm.ClassFile.FieldType.int)) ∈ lw_all := lw_g (lw_at lw_m10 118 rfl) rfl
theorem q2398 : (Jvm.Cond.methodLink "java/lang/Boolean" (56 : Nat) ({ cls := "java/lang/Boolean", name := "compare", desc := "(ZZ)I" } : Jvm.MethodName)) ∈ lw_all := lw_g (lw_at lw_m10 119 rfl) rfl
theorem q2399 : (Jvm.Cond.static ({ cls := "java/lang/Boolean", name := "compare", desc := "(ZZ)I" } : Jvm.MethodName)) ∈ lw_all := lw_g (lw_at lw_m10 120 rfl) rfl
theorem q2400 : (Jvm.Cond.code ({ cls := "java/lang/Boolean", name := "compare", desc := "(ZZ)I" } : Jvm.MethodName) prog_21_method_14_code (2 : Nat) (Option.some Jvm.ClassFile.FieldType.int)) ∈ lw_all := lw_g (lw_at lw_m10 121 rfl) rfl
theorem q2620 : (Jvm.Cond.selects "java/lang/Boolean" ({ cls := "java/lang/Object", name := "equals", desc := "(Ljava/lang/Object;)Z" } : Jvm.MethodName) ({ cls := "java/lang/Boolean", name := "equals", desc := "(Ljava/lang/Object;)Z" } : Jvm.MethodName)) ∈ lw_all := lw_g (lw_at lw_m11 101 rfl) rfl
theorem q2621 : (Jvm.Cond.instanceMethod ({ cls := "java/lang/Boolean", name := "equals", desc := "(Ljava/lang/Object;)Z" } : Jvm.MethodName)) ∈ lw_all := lw_g (lw_at lw_m11 102 rfl) rfl
theorem q2622 : (Jvm.Cond.code ({ cls := "java/lang/Boolean", name := "equals", desc := "(Ljava/lang/Object;)Z" } : Jvm.MethodName) prog_21_method_11_code (2 : Nat) (Option.some Jvm.ClassFile.FieldType.boolean)) ∈ lw_all := lw_g (lw_at lw_m11 103 rfl) rfl
theorem q2623 : (Jvm.Cond.methodLink "java/lang/Boolean" (42 : Nat) ({ cls := "java/lang/Boolean", name := "booleanValue", desc := "()Z" } : Jvm.MethodName)) ∈ lw_all := lw_g (lw_at lw_m11 104 rfl) rfl
theorem q2624 : (Jvm.Cond.instanceMethod ({ cls := "java/lang/Boolean", name := "booleanValue", desc := "()Z" } : Jvm.MethodName)) ∈ lw_all := lw_g (lw_at lw_m11 105 rfl) rfl
theorem q2625 : (Jvm.Cond.selects "java/lang/Boolean" ({ cls := "java/lang/Boolean", name := "booleanValue", desc := "()Z" } : Jvm.MethodName) ({ cls := "java/lang/Boolean", name := "booleanValue", desc := "()Z" } : Jvm.MethodName)) ∈ lw_all := lw_g (lw_at lw_m11 106 rfl) rfl
theorem q2626 : (Jvm.Cond.code ({ cls := "java/lang/Boolean", name := "booleanValue", desc := "()Z" } : Jvm.MethodName) prog_21_method_4_code (1 : Nat) (Option.some Jvm.ClassFile.FieldType.boolean)) ∈ lw_all := lw_g (lw_at lw_m11 107 rfl) rfl
theorem q3572 : (Jvm.Cond.castable "java/lang/Boolean" "java/lang/Object") ∈ lw_tbl := lw_at lw_m15 93 rfl
theorem q3596 : (Jvm.Cond.fieldLink "java/lang/Boolean" (7 : Nat) "java/lang/Boolean" "value" "Z") ∈ lw_all := lw_g (lw_at lw_m15 117 rfl) rfl

/-! java/util/HashMap$Node -/
set_option maxRecDepth 100000
def RJ29 : String := "java/util/HashMap$Node"
def TJ29 : u_T := fun k => match k with
  | 0 => ("java/util/HashMap$Node", "hash", "I", true)
  | 1 => ("java/util/HashMap$Node", "key", "Ljava/lang/Object;", true)
  | 2 => ("java/util/HashMap$Node", "value", "Ljava/lang/Object;", false)
  | _ => ("java/util/HashMap$Node", "next", "Ljava/util/HashMap$Node;", false)
def tyJ29 : Nat → FieldType := fun k => match k with
  | 0 => .int
  | 1 => .object "java/lang/Object"
  | 2 => .object "java/lang/Object"
  | _ => .object "java/util/HashMap$Node"
abbrev wsJ290 : List Cond := u_ws RJ29 TJ29 4
theorem nmJ29 : ∀ a, a < 4 → ∀ b, b < 4 → a ≠ b → (TJ29 a).2.1 ≠ (TJ29 b).2.1 := by decide +kernel
theorem tyJ29_ok : ∀ k, k < 4 → parseFieldDescriptor (TJ29 k).2.2.1 = some (tyJ29 k) := by decide +kernel
abbrev cJ29_init : ByteArray := prog_57_method_1_code
def yJ29_init : MethodName := ⟨RJ29, "<init>", "(ILjava/lang/Object;Ljava/lang/Object;Ljava/util/HashMap$Node;)V"⟩
def dkwJ29_init_1 : List UInt8 := [181, 0, 20, 177]
abbrev dktJ29_init_1 : List UInt8 := dkwJ29_init_1 ++ []
def dkwJ29_init_0 : List UInt8 := [42, 183, 0, 1, 42, 27, 181, 0, 7, 42, 44, 181, 0, 13, 42, 45, 181, 0, 17, 42, 25, 4]
abbrev dktJ29_init_0 : List UInt8 := dkwJ29_init_0 ++ dktJ29_init_1
theorem dksJ29_init_0 : cJ29_init.data.toList.drop 0 = dktJ29_init_0 := by decide +kernel
theorem dksJ29_init_1 : cJ29_init.data.toList.drop 22 = dktJ29_init_1 := dk_seg dksJ29_init_0 22 rfl rfl
theorem dJ29_init_0 : decode cJ29_init 0 = .ok (.aload_n 0, 1) := dk_42 (dk_at dksJ29_init_0 0 rfl rfl)
theorem dJ29_init_1 : decode cJ29_init 1 = .ok (.invokespecial 1, 3) := dk_183 0 1 (dk_at dksJ29_init_0 1 rfl rfl)
theorem dJ29_init_4 : decode cJ29_init 4 = .ok (.aload_n 0, 1) := dk_42 (dk_at dksJ29_init_0 4 rfl rfl)
theorem dJ29_init_5 : decode cJ29_init 5 = .ok (.iload_n 1, 1) := dk_27 (dk_at dksJ29_init_0 5 rfl rfl)
theorem dJ29_init_6 : decode cJ29_init 6 = .ok (.putfield 7, 3) := dk_181 0 7 (dk_at dksJ29_init_0 6 rfl rfl)
theorem dJ29_init_9 : decode cJ29_init 9 = .ok (.aload_n 0, 1) := dk_42 (dk_at dksJ29_init_0 9 rfl rfl)
theorem dJ29_init_10 : decode cJ29_init 10 = .ok (.aload_n 2, 1) := dk_44 (dk_at dksJ29_init_0 10 rfl rfl)
theorem dJ29_init_11 : decode cJ29_init 11 = .ok (.putfield 13, 3) := dk_181 0 13 (dk_at dksJ29_init_0 11 rfl rfl)
theorem dJ29_init_14 : decode cJ29_init 14 = .ok (.aload_n 0, 1) := dk_42 (dk_at dksJ29_init_0 14 rfl rfl)
theorem dJ29_init_15 : decode cJ29_init 15 = .ok (.aload_n 3, 1) := dk_45 (dk_at dksJ29_init_0 15 rfl rfl)
theorem dJ29_init_16 : decode cJ29_init 16 = .ok (.putfield 17, 3) := dk_181 0 17 (dk_at dksJ29_init_0 16 rfl rfl)
theorem dJ29_init_19 : decode cJ29_init 19 = .ok (.aload_n 0, 1) := dk_42 (dk_at dksJ29_init_0 19 rfl rfl)
theorem dJ29_init_20 : decode cJ29_init 20 = .ok (.aload 4, 2) := dk_25 4 (dk_at dksJ29_init_0 20 rfl rfl)
theorem dJ29_init_22 : decode cJ29_init 22 = .ok (.putfield 20, 3) := dk_181 0 20 (dk_at dksJ29_init_1 0 rfl rfl)
theorem dJ29_init_25 : decode cJ29_init 25 = .ok (.return_, 1) := dk_177 (dk_at dksJ29_init_1 3 rfl rfl)
theorem q164 : (Jvm.Cond.initialized "java/util/HashMap$Node") ∈ lw_all := lw_g (lw_at lw_m1 45 rfl) rfl
theorem q1070 : (Jvm.Cond.selects "java/util/HashMap$Node" ({ cls := "java/lang/Object", name := "getClass", desc := "()Ljava/lang/Class;" } : Jvm.MethodName) ({ cls := "java/lang/Object", name := "getClass", desc := "()Ljava/lang/Class;" } : Jvm.MethodName)) ∈ lw_all := lw_g (lw_at lw_m4 231 rfl) rfl
theorem q2317 : (Jvm.Cond.instanceMethod ({ cls := "java/util/HashMap$Node", name := "<init>", desc := "(ILjava/lang/Object;Ljava/lang/Object;Ljava/util/HashMap$Node;)V" } : Jvm.MethodName)) ∈ lw_all := lw_g (lw_at lw_m10 38 rfl) rfl
theorem q2318 : (Jvm.Cond.code ({ cls := "java/util/HashMap$Node", name := "<init>", desc := "(ILjava/lang/Object;Ljava/lang/Object;Ljava/util/HashMap$Node;)V" } : Jvm.MethodName) prog_57_method_1_code (5 : Nat) (Option.none : Option Jvm.ClassFile.FieldType)) ∈ lw_all := lw_g (lw_at lw_m10 39 rfl) rfl
theorem q2319 : (Jvm.Cond.methodLink "java/util/HashMap$Node" (1 : Nat) ({ cls := "java/lang/Object", name := "<init>", desc := "()V" } : Jvm.MethodName)) ∈ lw_all := lw_g (lw_at lw_m10 40 rfl) rfl
theorem q2322 : (Jvm.Cond.fieldLink "java/util/HashMap$Node" (7 : Nat) "java/util/HashMap$Node" "hash" "I") ∈ lw_all := lw_g (lw_at lw_m10 43 rfl) rfl
theorem q2328 : (Jvm.Cond.fieldLink "java/util/HashMap$Node" (13 : Nat) "java/util/HashMap$Node" "key" "Ljava/lang/Object;") ∈ lw_all := lw_g (lw_at lw_m10 49 rfl) rfl
theorem q2334 : (Jvm.Cond.fieldLink "java/util/HashMap$Node" (17 : Nat) "java/util/HashMap$Node" "value" "Ljava/lang/Object;") ∈ lw_all := lw_g (lw_at lw_m10 55 rfl) rfl
theorem q2339 : (Jvm.Cond.fieldLink "java/util/HashMap$Node" (20 : Nat) "java/util/HashMap$Node" "next" "Ljava/util/HashMap$Node;") ∈ lw_all := lw_g (lw_at lw_m10 60 rfl) rfl
theorem q2350 : (Jvm.Cond.soleField "java/util/HashMap$Node" "hash") ∈ lw_all := lw_g (lw_at lw_m10 71 rfl) rfl
theorem q2352 : (Jvm.Cond.soleField "java/util/HashMap$Node" "key") ∈ lw_all := lw_g (lw_at lw_m10 73 rfl) rfl
theorem q2354 : (Jvm.Cond.soleField "java/util/HashMap$Node" "value") ∈ lw_all := lw_g (lw_at lw_m10 75 rfl) rfl
theorem q2356 : (Jvm.Cond.soleField "java/util/HashMap$Node" "next") ∈ lw_all := lw_g (lw_at lw_m10 77 rfl) rfl
theorem q2363 : (Jvm.Cond.instantiable "java/util/HashMap$Node" (4 : Nat)) ∈ lw_all := lw_g (lw_at lw_m10 84 rfl) rfl
theorem q2365 : (Jvm.Cond.laysFinal "java/util/HashMap$Node" "java/util/HashMap$Node" "hash" "I") ∈ lw_all := lw_g (lw_at lw_m10 86 rfl) rfl
theorem q2366 : (Jvm.Cond.laysFinal "java/util/HashMap$Node" "java/util/HashMap$Node" "key" "Ljava/lang/Object;") ∈ lw_all := lw_g (lw_at lw_m10 87 rfl) rfl
theorem q2367 : (Jvm.Cond.lays "java/util/HashMap$Node" "java/util/HashMap$Node" "value" "Ljava/lang/Object;") ∈ lw_all := lw_g (lw_at lw_m10 88 rfl) rfl
theorem q2368 : (Jvm.Cond.lays "java/util/HashMap$Node" "java/util/HashMap$Node" "next" "Ljava/util/HashMap$Node;") ∈ lw_all := lw_g (lw_at lw_m10 89 rfl) rfl
theorem q2369 : (Jvm.Cond.superclass "java/util/HashMap$Node" "java/lang/Object") ∈ lw_all := lw_g (lw_at lw_m10 90 rfl) rfl
theorem q3549 : (Jvm.Cond.castable "java/util/HashMap$Node" "java/lang/Object") ∈ lw_tbl := lw_at lw_m15 70 rfl
theorem in_J29 : ∀ w ∈ wsJ290, w ∈ lw_all := lw_in wsJ290 [2365, 2366, 2367, 2368] (by decide +kernel) (by decide +kernel)

/-! java/util/LinkedHashMap$Entry -/
set_option maxRecDepth 100000
def RJ30 : String := "java/util/LinkedHashMap$Entry"
def TJ30 : u_T := fun k => match k with
  | 0 => ("java/util/HashMap$Node", "hash", "I", true)
  | 1 => ("java/util/HashMap$Node", "key", "Ljava/lang/Object;", true)
  | 2 => ("java/util/HashMap$Node", "value", "Ljava/lang/Object;", false)
  | 3 => ("java/util/HashMap$Node", "next", "Ljava/util/HashMap$Node;", false)
  | 4 => ("java/util/LinkedHashMap$Entry", "before", "Ljava/util/LinkedHashMap$Entry;", false)
  | _ => ("java/util/LinkedHashMap$Entry", "after", "Ljava/util/LinkedHashMap$Entry;", false)
def tyJ30 : Nat → FieldType := fun k => match k with
  | 0 => .int
  | 1 => .object "java/lang/Object"
  | 2 => .object "java/lang/Object"
  | 3 => .object "java/util/HashMap$Node"
  | 4 => .object "java/util/LinkedHashMap$Entry"
  | _ => .object "java/util/LinkedHashMap$Entry"
abbrev wsJ300 : List Cond := u_ws RJ30 TJ30 6
theorem nmJ30 : ∀ a, a < 6 → ∀ b, b < 6 → a ≠ b → (TJ30 a).2.1 ≠ (TJ30 b).2.1 := by decide +kernel
theorem tyJ30_ok : ∀ k, k < 6 → parseFieldDescriptor (TJ30 k).2.2.1 = some (tyJ30 k) := by decide +kernel
abbrev cJ30_init : ByteArray := prog_62_method_1_code
def yJ30_init : MethodName := ⟨RJ30, "<init>", "(ILjava/lang/Object;Ljava/lang/Object;Ljava/util/HashMap$Node;)V"⟩
def dkwJ30_init_0 : List UInt8 := [42, 27, 44, 45, 25, 4, 183, 0, 1, 177]
abbrev dktJ30_init_0 : List UInt8 := dkwJ30_init_0 ++ []
theorem dksJ30_init_0 : cJ30_init.data.toList.drop 0 = dktJ30_init_0 := by decide +kernel
theorem dJ30_init_0 : decode cJ30_init 0 = .ok (.aload_n 0, 1) := dk_42 (dk_at dksJ30_init_0 0 rfl rfl)
theorem dJ30_init_1 : decode cJ30_init 1 = .ok (.iload_n 1, 1) := dk_27 (dk_at dksJ30_init_0 1 rfl rfl)
theorem dJ30_init_2 : decode cJ30_init 2 = .ok (.aload_n 2, 1) := dk_44 (dk_at dksJ30_init_0 2 rfl rfl)
theorem dJ30_init_3 : decode cJ30_init 3 = .ok (.aload_n 3, 1) := dk_45 (dk_at dksJ30_init_0 3 rfl rfl)
theorem dJ30_init_4 : decode cJ30_init 4 = .ok (.aload 4, 2) := dk_25 4 (dk_at dksJ30_init_0 4 rfl rfl)
theorem dJ30_init_6 : decode cJ30_init 6 = .ok (.invokespecial 1, 3) := dk_183 0 1 (dk_at dksJ30_init_0 6 rfl rfl)
theorem dJ30_init_9 : decode cJ30_init 9 = .ok (.return_, 1) := dk_177 (dk_at dksJ30_init_0 9 rfl rfl)
theorem q165 : (Jvm.Cond.initialized "java/util/LinkedHashMap$Entry") ∈ lw_all := lw_g (lw_at lw_m1 46 rfl) rfl
theorem q1074 : (Jvm.Cond.selects "java/util/LinkedHashMap$Entry" ({ cls := "java/lang/Object", name := "getClass", desc := "()Ljava/lang/Class;" } : Jvm.MethodName) ({ cls := "java/lang/Object", name := "getClass", desc := "()Ljava/lang/Class;" } : Jvm.MethodName)) ∈ lw_all := lw_g (lw_at lw_m4 235 rfl) rfl
theorem q2312 : (Jvm.Cond.instantiable "java/util/LinkedHashMap$Entry" (6 : Nat)) ∈ lw_all := lw_g (lw_at lw_m10 33 rfl) rfl
theorem q2314 : (Jvm.Cond.instanceMethod ({ cls := "java/util/LinkedHashMap$Entry", name := "<init>", desc := "(ILjava/lang/Object;Ljava/lang/Object;Ljava/util/HashMap$Node;)V" } : Jvm.MethodName)) ∈ lw_all := lw_g (lw_at lw_m10 35 rfl) rfl
theorem q2315 : (Jvm.Cond.code ({ cls := "java/util/LinkedHashMap$Entry", name := "<init>", desc := "(ILjava/lang/Object;Ljava/lang/Object;Ljava/util/HashMap$Node;)V" } : Jvm.MethodName) prog_62_method_1_code (5 : Nat) (Option.none : Option Jvm.ClassFile.FieldType)) ∈ lw_all := lw_g (lw_at lw_m10 36 rfl) rfl
theorem q2316 : (Jvm.Cond.methodLink "java/util/LinkedHashMap$Entry" (1 : Nat) ({ cls := "java/util/HashMap$Node", name := "<init>", desc := "(ILjava/lang/Object;Ljava/lang/Object;Ljava/util/HashMap$Node;)V" } : Jvm.MethodName)) ∈ lw_all := lw_g (lw_at lw_m10 37 rfl) rfl
theorem q2326 : (Jvm.Cond.sameField "java/util/LinkedHashMap$Entry" "java/util/HashMap$Node" "hash" "I") ∈ lw_all := lw_g (lw_at lw_m10 47 rfl) rfl
theorem q2332 : (Jvm.Cond.sameField "java/util/LinkedHashMap$Entry" "java/util/HashMap$Node" "key" "Ljava/lang/Object;") ∈ lw_all := lw_g (lw_at lw_m10 53 rfl) rfl
theorem q2336 : (Jvm.Cond.sameField "java/util/LinkedHashMap$Entry" "java/util/HashMap$Node" "value" "Ljava/lang/Object;") ∈ lw_all := lw_g (lw_at lw_m10 57 rfl) rfl
theorem q2345 : (Jvm.Cond.lays "java/util/LinkedHashMap$Entry" "java/util/LinkedHashMap$Entry" "before" "Ljava/util/LinkedHashMap$Entry;") ∈ lw_all := lw_g (lw_at lw_m10 66 rfl) rfl
theorem q2346 : (Jvm.Cond.soleField "java/util/LinkedHashMap$Entry" "before") ∈ lw_all := lw_g (lw_at lw_m10 67 rfl) rfl
theorem q2347 : (Jvm.Cond.lays "java/util/LinkedHashMap$Entry" "java/util/LinkedHashMap$Entry" "after" "Ljava/util/LinkedHashMap$Entry;") ∈ lw_all := lw_g (lw_at lw_m10 68 rfl) rfl
theorem q2348 : (Jvm.Cond.soleField "java/util/LinkedHashMap$Entry" "after") ∈ lw_all := lw_g (lw_at lw_m10 69 rfl) rfl
theorem q2349 : (Jvm.Cond.laysFinal "java/util/LinkedHashMap$Entry" "java/util/HashMap$Node" "hash" "I") ∈ lw_all := lw_g (lw_at lw_m10 70 rfl) rfl
theorem q2351 : (Jvm.Cond.laysFinal "java/util/LinkedHashMap$Entry" "java/util/HashMap$Node" "key" "Ljava/lang/Object;") ∈ lw_all := lw_g (lw_at lw_m10 72 rfl) rfl
theorem q2353 : (Jvm.Cond.lays "java/util/LinkedHashMap$Entry" "java/util/HashMap$Node" "value" "Ljava/lang/Object;") ∈ lw_all := lw_g (lw_at lw_m10 74 rfl) rfl
theorem q2355 : (Jvm.Cond.lays "java/util/LinkedHashMap$Entry" "java/util/HashMap$Node" "next" "Ljava/util/HashMap$Node;") ∈ lw_all := lw_g (lw_at lw_m10 76 rfl) rfl
theorem q2357 : (Jvm.Cond.superclass "java/util/LinkedHashMap$Entry" "java/util/HashMap$Node") ∈ lw_all := lw_g (lw_at lw_m10 78 rfl) rfl
theorem q3573 : (Jvm.Cond.castable "java/util/LinkedHashMap$Entry" "java/lang/Object") ∈ lw_tbl := lw_at lw_m15 94 rfl
theorem q3580 : (Jvm.Cond.castable "java/util/LinkedHashMap$Entry" "java/util/HashMap$Node") ∈ lw_tbl := lw_at lw_m15 101 rfl
theorem in_J30 : ∀ w ∈ wsJ300, w ∈ lw_all := lw_in wsJ300 [2349, 2351, 2353, 2355, 2345, 2347] (by decide +kernel) (by decide +kernel)

/-! java/util/AbstractSet -/
set_option maxRecDepth 100000
def RJ34 : String := "java/util/AbstractSet"
abbrev cJ34_init : ByteArray := prog_49_method_1_code
def yJ34_init : MethodName := ⟨RJ34, "<init>", "()V"⟩
theorem dJ34_init_0 : decode cJ34_init 0 = .ok (.aload_n 0, 1) := by decide +kernel
theorem dJ34_init_1 : decode cJ34_init 1 = .ok (.invokespecial 1, 3) := by decide +kernel
theorem dJ34_init_4 : decode cJ34_init 4 = .ok (.return_, 1) := by decide +kernel
theorem q170 : (Jvm.Cond.initialized "java/util/AbstractSet") ∈ lw_all := lw_g (lw_at lw_m1 51 rfl) rfl
theorem q2785 : (Jvm.Cond.instanceMethod ({ cls := "java/util/AbstractSet", name := "<init>", desc := "()V" } : Jvm.MethodName)) ∈ lw_all := lw_g (lw_at lw_m12 26 rfl) rfl
theorem q2786 : (Jvm.Cond.code ({ cls := "java/util/AbstractSet", name := "<init>", desc := "()V" } : Jvm.MethodName) prog_49_method_1_code (1 : Nat) (Option.none : Option Jvm.ClassFile.FieldType)) ∈ lw_all := lw_g (lw_at lw_m12 27 rfl) rfl
theorem q2787 : (Jvm.Cond.methodLink "java/util/AbstractSet" (1 : Nat) ({ cls := "java/util/AbstractCollection", name := "<init>", desc := "()V" } : Jvm.MethodName)) ∈ lw_all := lw_g (lw_at lw_m12 28 rfl) rfl

/-! java/util/HashSet -/
set_option maxRecDepth 100000
def RJ35 : String := "java/util/HashSet"
def TJ35 : u_T := fun k => match k with
  | _ => ("java/util/HashSet", "map", "Ljava/util/HashMap;", false)
def tyJ35 : Nat → FieldType := fun k => match k with
  | _ => .object "java/util/HashMap"
abbrev wsJ350 : List Cond := u_ws RJ35 TJ35 1
theorem nmJ35 : ∀ a, a < 1 → ∀ b, b < 1 → a ≠ b → (TJ35 a).2.1 ≠ (TJ35 b).2.1 := by decide +kernel
theorem tyJ35_ok : ∀ k, k < 1 → parseFieldDescriptor (TJ35 k).2.2.1 = some (tyJ35 k) := by decide +kernel
abbrev cJ35_toArray : ByteArray := prog_59_method_17_code
def yJ35_toArray : MethodName := ⟨RJ35, "toArray", "()[Ljava/lang/Object;"⟩
def dkwJ35_toArray_0 : List UInt8 := [42, 180, 0, 10, 42, 180, 0, 10, 182, 0, 55, 189, 0, 80, 182, 0, 209, 176]
abbrev dktJ35_toArray_0 : List UInt8 := dkwJ35_toArray_0 ++ []
theorem dksJ35_toArray_0 : cJ35_toArray.data.toList.drop 0 = dktJ35_toArray_0 := by decide +kernel
theorem dJ35_toArray_0 : decode cJ35_toArray 0 = .ok (.aload_n 0, 1) := dk_42 (dk_at dksJ35_toArray_0 0 rfl rfl)
theorem dJ35_toArray_1 : decode cJ35_toArray 1 = .ok (.getfield 10, 3) := dk_180 0 10 (dk_at dksJ35_toArray_0 1 rfl rfl)
theorem dJ35_toArray_4 : decode cJ35_toArray 4 = .ok (.aload_n 0, 1) := dk_42 (dk_at dksJ35_toArray_0 4 rfl rfl)
theorem dJ35_toArray_5 : decode cJ35_toArray 5 = .ok (.getfield 10, 3) := dk_180 0 10 (dk_at dksJ35_toArray_0 5 rfl rfl)
theorem dJ35_toArray_8 : decode cJ35_toArray 8 = .ok (.invokevirtual 55, 3) := dk_182 0 55 (dk_at dksJ35_toArray_0 8 rfl rfl)
theorem dJ35_toArray_11 : decode cJ35_toArray 11 = .ok (.anewarray 80, 3) := dk_189 0 80 (dk_at dksJ35_toArray_0 11 rfl rfl)
theorem dJ35_toArray_14 : decode cJ35_toArray 14 = .ok (.invokevirtual 209, 3) := dk_182 0 209 (dk_at dksJ35_toArray_0 14 rfl rfl)
theorem dJ35_toArray_17 : decode cJ35_toArray 17 = .ok (.areturn, 1) := dk_176 (dk_at dksJ35_toArray_0 17 rfl rfl)
abbrev cJ35_init : ByteArray := prog_59_method_1_code
def yJ35_init : MethodName := ⟨RJ35, "<init>", "()V"⟩
def dkwJ35_init_0 : List UInt8 := [42, 183, 0, 1, 42, 187, 0, 7, 89, 183, 0, 9, 181, 0, 10, 177]
abbrev dktJ35_init_0 : List UInt8 := dkwJ35_init_0 ++ []
theorem dksJ35_init_0 : cJ35_init.data.toList.drop 0 = dktJ35_init_0 := by decide +kernel
theorem dJ35_init_0 : decode cJ35_init 0 = .ok (.aload_n 0, 1) := dk_42 (dk_at dksJ35_init_0 0 rfl rfl)
theorem dJ35_init_1 : decode cJ35_init 1 = .ok (.invokespecial 1, 3) := dk_183 0 1 (dk_at dksJ35_init_0 1 rfl rfl)
theorem dJ35_init_4 : decode cJ35_init 4 = .ok (.aload_n 0, 1) := dk_42 (dk_at dksJ35_init_0 4 rfl rfl)
theorem dJ35_init_5 : decode cJ35_init 5 = .ok (.new 7, 3) := dk_187 0 7 (dk_at dksJ35_init_0 5 rfl rfl)
theorem dJ35_init_8 : decode cJ35_init 8 = .ok (.dup, 1) := dk_89 (dk_at dksJ35_init_0 8 rfl rfl)
theorem dJ35_init_9 : decode cJ35_init 9 = .ok (.invokespecial 9, 3) := dk_183 0 9 (dk_at dksJ35_init_0 9 rfl rfl)
theorem dJ35_init_12 : decode cJ35_init 12 = .ok (.putfield 10, 3) := dk_181 0 10 (dk_at dksJ35_init_0 12 rfl rfl)
theorem dJ35_init_15 : decode cJ35_init 15 = .ok (.return_, 1) := dk_177 (dk_at dksJ35_init_0 15 rfl rfl)
abbrev cJ35_add : ByteArray := prog_59_method_10_code
def yJ35_add : MethodName := ⟨RJ35, "add", "(Ljava/lang/Object;)Z"⟩
def dkwJ35_add_0 : List UInt8 := [42, 180, 0, 10, 43, 178, 0, 64, 182, 0, 68, 199, 0, 7, 4, 167, 0, 4, 3, 172]
abbrev dktJ35_add_0 : List UInt8 := dkwJ35_add_0 ++ []
theorem dksJ35_add_0 : cJ35_add.data.toList.drop 0 = dktJ35_add_0 := by decide +kernel
theorem dJ35_add_0 : decode cJ35_add 0 = .ok (.aload_n 0, 1) := dk_42 (dk_at dksJ35_add_0 0 rfl rfl)
theorem dJ35_add_1 : decode cJ35_add 1 = .ok (.getfield 10, 3) := dk_180 0 10 (dk_at dksJ35_add_0 1 rfl rfl)
theorem dJ35_add_4 : decode cJ35_add 4 = .ok (.aload_n 1, 1) := dk_43 (dk_at dksJ35_add_0 4 rfl rfl)
theorem dJ35_add_5 : decode cJ35_add 5 = .ok (.getstatic 64, 3) := dk_178 0 64 (dk_at dksJ35_add_0 5 rfl rfl)
theorem dJ35_add_8 : decode cJ35_add 8 = .ok (.invokevirtual 68, 3) := dk_182 0 68 (dk_at dksJ35_add_0 8 rfl rfl)
theorem dJ35_add_11 : decode cJ35_add 11 = .ok (.ifnonnull 7, 3) := dk_199 0 7 (dk_at dksJ35_add_0 11 rfl rfl)
theorem dJ35_add_14 : decode cJ35_add 14 = .ok (.iconst 1, 1) := dk_4 (dk_at dksJ35_add_0 14 rfl rfl)
theorem dJ35_add_15 : decode cJ35_add 15 = .ok (.goto 4, 3) := dk_167 0 4 (dk_at dksJ35_add_0 15 rfl rfl)
theorem dJ35_add_18 : decode cJ35_add 18 = .ok (.iconst 0, 1) := dk_3 (dk_at dksJ35_add_0 18 rfl rfl)
theorem dJ35_add_19 : decode cJ35_add 19 = .ok (.ireturn, 1) := dk_172 (dk_at dksJ35_add_0 19 rfl rfl)
abbrev cJ35_contains : ByteArray := prog_59_method_9_code
def yJ35_contains : MethodName := ⟨RJ35, "contains", "(Ljava/lang/Object;)Z"⟩
def dkwJ35_contains_0 : List UInt8 := [42, 180, 0, 10, 43, 182, 0, 60, 172]
abbrev dktJ35_contains_0 : List UInt8 := dkwJ35_contains_0 ++ []
theorem dksJ35_contains_0 : cJ35_contains.data.toList.drop 0 = dktJ35_contains_0 := by decide +kernel
theorem dJ35_contains_0 : decode cJ35_contains 0 = .ok (.aload_n 0, 1) := dk_42 (dk_at dksJ35_contains_0 0 rfl rfl)
theorem dJ35_contains_1 : decode cJ35_contains 1 = .ok (.getfield 10, 3) := dk_180 0 10 (dk_at dksJ35_contains_0 1 rfl rfl)
theorem dJ35_contains_4 : decode cJ35_contains 4 = .ok (.aload_n 1, 1) := dk_43 (dk_at dksJ35_contains_0 4 rfl rfl)
theorem dJ35_contains_5 : decode cJ35_contains 5 = .ok (.invokevirtual 60, 3) := dk_182 0 60 (dk_at dksJ35_contains_0 5 rfl rfl)
theorem dJ35_contains_8 : decode cJ35_contains 8 = .ok (.ireturn, 1) := dk_172 (dk_at dksJ35_contains_0 8 rfl rfl)
theorem q171 : (Jvm.Cond.initialized "java/util/HashSet") ∈ lw_all := lw_g (lw_at lw_m1 52 rfl) rfl
theorem q1072 : (Jvm.Cond.selects "java/util/HashSet" ({ cls := "java/lang/Object", name := "getClass", desc := "()Ljava/lang/Class;" } : Jvm.MethodName) ({ cls := "java/lang/Object", name := "getClass", desc := "()Ljava/lang/Class;" } : Jvm.MethodName)) ∈ lw_all := lw_g (lw_at lw_m4 233 rfl) rfl
theorem q1344 : (Jvm.Cond.castable "java/util/HashSet" "java/util/Collection") ∈ lw_tbl := lw_at lw_m6 25 rfl
theorem q1345 : (Jvm.Cond.selects "java/util/HashSet" ({ cls := "java/util/Collection", name := "toArray", desc := "()[Ljava/lang/Object;" } : Jvm.MethodName) ({ cls := "java/util/HashSet", name := "toArray", desc := "()[Ljava/lang/Object;" } : Jvm.MethodName)) ∈ lw_all := lw_g (lw_at lw_m6 26 rfl) rfl
theorem q1346 : (Jvm.Cond.unhidden "java/util/HashSet" "toArray" "()[Ljava/lang/Object;") ∈ lw_tbl := lw_at lw_m6 27 rfl
theorem q1347 : (Jvm.Cond.instanceMethod ({ cls := "java/util/HashSet", name := "toArray", desc := "()[Ljava/lang/Object;" } : Jvm.MethodName)) ∈ lw_all := lw_g (lw_at lw_m6 28 rfl) rfl
theorem q1348 : (Jvm.Cond.publicMethod ({ cls := "java/util/HashSet", name := "toArray", desc := "()[Ljava/lang/Object;" } : Jvm.MethodName)) ∈ lw_tbl := lw_at lw_m6 29 rfl
theorem q1349 : (Jvm.Cond.code ({ cls := "java/util/HashSet", name := "toArray", desc := "()[Ljava/lang/Object;" } : Jvm.MethodName) prog_59_method_17_code (1 : Nat) (Option.some (Jvm.ClassFile.FieldType.array (Jvm.ClassFile.FieldType.object "java/lang/Object")))) ∈ lw_all := lw_g (lw_at lw_m6 30 rfl) rfl
theorem q1350 : (Jvm.Cond.methodLink "java/util/HashSet" (55 : Nat) ({ cls := "java/util/HashMap", name := "size", desc := "()I" } : Jvm.MethodName)) ∈ lw_all := lw_g (lw_at lw_m6 31 rfl) rfl
theorem q1356 : (Jvm.Cond.classLink "java/util/HashSet" (80 : Nat) "java/lang/Object") ∈ lw_all := lw_g (lw_at lw_m6 37 rfl) rfl
theorem q1357 : (Jvm.Cond.methodLink "java/util/HashSet" (209 : Nat) ({ cls := "java/util/HashMap", name := "keysToArray", desc := "([Ljava/lang/Object;)[Ljava/lang/Object;" } : Jvm.MethodName)) ∈ lw_all := lw_g (lw_at lw_m6 38 rfl) rfl
theorem q2780 : (Jvm.Cond.instantiable "java/util/HashSet" (1 : Nat)) ∈ lw_all := lw_g (lw_at lw_m12 21 rfl) rfl
theorem q2782 : (Jvm.Cond.instanceMethod ({ cls := "java/util/HashSet", name := "<init>", desc := "()V" } : Jvm.MethodName)) ∈ lw_all := lw_g (lw_at lw_m12 23 rfl) rfl
theorem q2783 : (Jvm.Cond.code ({ cls := "java/util/HashSet", name := "<init>", desc := "()V" } : Jvm.MethodName) prog_59_method_1_code (1 : Nat) (Option.none : Option Jvm.ClassFile.FieldType)) ∈ lw_all := lw_g (lw_at lw_m12 24 rfl) rfl
theorem q2784 : (Jvm.Cond.methodLink "java/util/HashSet" (1 : Nat) ({ cls := "java/util/AbstractSet", name := "<init>", desc := "()V" } : Jvm.MethodName)) ∈ lw_all := lw_g (lw_at lw_m12 25 rfl) rfl
theorem q2788 : (Jvm.Cond.classLink "java/util/HashSet" (7 : Nat) "java/util/HashMap") ∈ lw_all := lw_g (lw_at lw_m12 29 rfl) rfl
theorem q2790 : (Jvm.Cond.methodLink "java/util/HashSet" (9 : Nat) ({ cls := "java/util/HashMap", name := "<init>", desc := "()V" } : Jvm.MethodName)) ∈ lw_all := lw_g (lw_at lw_m12 31 rfl) rfl
theorem q2800 : (Jvm.Cond.fieldLink "java/util/HashSet" (10 : Nat) "java/util/HashSet" "map" "Ljava/util/HashMap;") ∈ lw_all := lw_g (lw_at lw_m12 41 rfl) rfl
theorem q2801 : (Jvm.Cond.lays "java/util/HashSet" "java/util/HashSet" "map" "Ljava/util/HashMap;") ∈ lw_all := lw_g (lw_at lw_m12 42 rfl) rfl
theorem q2802 : (Jvm.Cond.soleField "java/util/HashSet" "map") ∈ lw_all := lw_g (lw_at lw_m12 43 rfl) rfl
theorem q2803 : (Jvm.Cond.superclass "java/util/HashSet" "java/util/AbstractSet") ∈ lw_all := lw_g (lw_at lw_m12 44 rfl) rfl
theorem q2808 : (Jvm.Cond.castable "java/util/HashSet" "java/util/Set") ∈ lw_tbl := lw_at lw_m12 49 rfl
theorem q2809 : (Jvm.Cond.selects "java/util/HashSet" ({ cls := "java/util/Set", name := "add", desc := "(Ljava/lang/Object;)Z" } : Jvm.MethodName) ({ cls := "java/util/HashSet", name := "add", desc := "(Ljava/lang/Object;)Z" } : Jvm.MethodName)) ∈ lw_all := lw_g (lw_at lw_m12 50 rfl) rfl
theorem q2810 : (Jvm.Cond.unhidden "java/util/HashSet" "add" "(Ljava/lang/Object;)Z") ∈ lw_tbl := lw_at lw_m12 51 rfl
theorem q2811 : (Jvm.Cond.instanceMethod ({ cls := "java/util/HashSet", name := "add", desc := "(Ljava/lang/Object;)Z" } : Jvm.MethodName)) ∈ lw_all := lw_g (lw_at lw_m12 52 rfl) rfl
theorem q2812 : (Jvm.Cond.publicMethod ({ cls := "java/util/HashSet", name := "add", desc := "(Ljava/lang/Object;)Z" } : Jvm.MethodName)) ∈ lw_tbl := lw_at lw_m12 53 rfl
theorem q2813 : (Jvm.Cond.code ({ cls := "java/util/HashSet", name := "add", desc := "(Ljava/lang/Object;)Z" } : Jvm.MethodName) prog_59_method_10_code (2 : Nat) (Option.some Jvm.ClassFile.FieldType.boolean)) ∈ lw_all := lw_g (lw_at lw_m12 54 rfl) rfl
theorem q2814 : (Jvm.Cond.fieldLink "java/util/HashSet" (64 : Nat) "java/util/HashSet" "PRESENT" "Ljava/lang/Object;") ∈ lw_all := lw_g (lw_at lw_m12 55 rfl) rfl
theorem q2815 : (Jvm.Cond.laysStatic "java/util/HashSet" "PRESENT" "Ljava/lang/Object;") ∈ lw_tbl := lw_at lw_m12 56 rfl
theorem q2816 : (Jvm.Cond.methodLink "java/util/HashSet" (68 : Nat) ({ cls := "java/util/HashMap", name := "put", desc := "(Ljava/lang/Object;Ljava/lang/Object;)Ljava/lang/Object;" } : Jvm.MethodName)) ∈ lw_all := lw_g (lw_at lw_m12 57 rfl) rfl
theorem q2821 : (Jvm.Cond.selects "java/util/HashSet" ({ cls := "java/util/Set", name := "contains", desc := "(Ljava/lang/Object;)Z" } : Jvm.MethodName) ({ cls := "java/util/HashSet", name := "contains", desc := "(Ljava/lang/Object;)Z" } : Jvm.MethodName)) ∈ lw_all := lw_g (lw_at lw_m12 62 rfl) rfl
theorem q2822 : (Jvm.Cond.unhidden "java/util/HashSet" "contains" "(Ljava/lang/Object;)Z") ∈ lw_tbl := lw_at lw_m12 63 rfl
theorem q2823 : (Jvm.Cond.instanceMethod ({ cls := "java/util/HashSet", name := "contains", desc := "(Ljava/lang/Object;)Z" } : Jvm.MethodName)) ∈ lw_all := lw_g (lw_at lw_m12 64 rfl) rfl
theorem q2824 : (Jvm.Cond.publicMethod ({ cls := "java/util/HashSet", name := "contains", desc := "(Ljava/lang/Object;)Z" } : Jvm.MethodName)) ∈ lw_tbl := lw_at lw_m12 65 rfl
theorem q2825 : (Jvm.Cond.code ({ cls := "java/util/HashSet", name := "contains", desc := "(Ljava/lang/Object;)Z" } : Jvm.MethodName) prog_59_method_9_code (2 : Nat) (Option.some Jvm.ClassFile.FieldType.boolean)) ∈ lw_all := lw_g (lw_at lw_m12 66 rfl) rfl
theorem q2826 : (Jvm.Cond.methodLink "java/util/HashSet" (60 : Nat) ({ cls := "java/util/HashMap", name := "containsKey", desc := "(Ljava/lang/Object;)Z" } : Jvm.MethodName)) ∈ lw_all := lw_g (lw_at lw_m12 67 rfl) rfl
theorem q3576 : (Jvm.Cond.castable "java/util/HashSet" "java/lang/Object") ∈ lw_tbl := lw_at lw_m15 97 rfl
theorem in_J35 : ∀ w ∈ wsJ350, w ∈ lw_all := lw_in wsJ350 [2801] (by decide +kernel) (by decide +kernel)

/-! java/lang/StringIndexOutOfBoundsException -/
set_option maxRecDepth 100000
def RJ36 : String := "java/lang/StringIndexOutOfBoundsException"
def TJ36 : u_T := fun k => match k with
  | 0 => ("java/lang/Throwable", "backtrace", "Ljava/lang/Object;", false)
  | 1 => ("java/lang/Throwable", "detailMessage", "Ljava/lang/String;", false)
  | 2 => ("java/lang/Throwable", "cause", "Ljava/lang/Throwable;", false)
  | 3 => ("java/lang/Throwable", "stackTrace", "[Ljava/lang/StackTraceElement;", false)
  | 4 => ("java/lang/Throwable", "depth", "I", false)
  | _ => ("java/lang/Throwable", "suppressedExceptions", "Ljava/util/List;", false)
def tyJ36 : Nat → FieldType := fun k => match k with
  | 0 => .object "java/lang/Object"
  | 1 => .object "java/lang/String"
  | 2 => .object "java/lang/Throwable"
  | 3 => .array (.object "java/lang/StackTraceElement")
  | 4 => .int
  | _ => .object "java/util/List"
abbrev wsJ360 : List Cond := u_ws RJ36 TJ36 6
theorem nmJ36 : ∀ a, a < 6 → ∀ b, b < 6 → a ≠ b → (TJ36 a).2.1 ≠ (TJ36 b).2.1 := by decide +kernel
theorem tyJ36_ok : ∀ k, k < 6 → parseFieldDescriptor (TJ36 k).2.2.1 = some (tyJ36 k) := by decide +kernel
abbrev cJ36_init : ByteArray := prog_38_method_3_code
def yJ36_init : MethodName := ⟨RJ36, "<init>", "(I)V"⟩
def dkwJ36_init_0 : List UInt8 := [42, 187, 0, 10, 89, 183, 0, 12, 18, 13, 182, 0, 15, 27, 182, 0, 19, 182, 0, 22, 183, 0, 7, 177]
abbrev dktJ36_init_0 : List UInt8 := dkwJ36_init_0 ++ []
theorem dksJ36_init_0 : cJ36_init.data.toList.drop 0 = dktJ36_init_0 := by decide +kernel
theorem dJ36_init_0 : decode cJ36_init 0 = .ok (.aload_n 0, 1) := dk_42 (dk_at dksJ36_init_0 0 rfl rfl)
theorem dJ36_init_1 : decode cJ36_init 1 = .ok (.new 10, 3) := dk_187 0 10 (dk_at dksJ36_init_0 1 rfl rfl)
theorem dJ36_init_4 : decode cJ36_init 4 = .ok (.dup, 1) := dk_89 (dk_at dksJ36_init_0 4 rfl rfl)
theorem dJ36_init_5 : decode cJ36_init 5 = .ok (.invokespecial 12, 3) := dk_183 0 12 (dk_at dksJ36_init_0 5 rfl rfl)
theorem dJ36_init_8 : decode cJ36_init 8 = .ok (.ldc 13, 2) := dk_18 13 (dk_at dksJ36_init_0 8 rfl rfl)
theorem dJ36_init_10 : decode cJ36_init 10 = .ok (.invokevirtual 15, 3) := dk_182 0 15 (dk_at dksJ36_init_0 10 rfl rfl)
theorem dJ36_init_13 : decode cJ36_init 13 = .ok (.iload_n 1, 1) := dk_27 (dk_at dksJ36_init_0 13 rfl rfl)
theorem dJ36_init_14 : decode cJ36_init 14 = .ok (.invokevirtual 19, 3) := dk_182 0 19 (dk_at dksJ36_init_0 14 rfl rfl)
theorem dJ36_init_17 : decode cJ36_init 17 = .ok (.invokevirtual 22, 3) := dk_182 0 22 (dk_at dksJ36_init_0 17 rfl rfl)
theorem dJ36_init_20 : decode cJ36_init 20 = .ok (.invokespecial 7, 3) := dk_183 0 7 (dk_at dksJ36_init_0 20 rfl rfl)
theorem dJ36_init_23 : decode cJ36_init 23 = .ok (.return_, 1) := dk_177 (dk_at dksJ36_init_0 23 rfl rfl)
theorem q172 : (Jvm.Cond.initialized "java/lang/StringIndexOutOfBoundsException") ∈ lw_all := lw_g (lw_at lw_m1 53 rfl) rfl
theorem q587 : (Jvm.Cond.selects "java/lang/StringIndexOutOfBoundsException" ({ cls := "java/lang/Throwable", name := "fillInStackTrace", desc := "()Ljava/lang/Throwable;" } : Jvm.MethodName) ({ cls := "java/lang/Throwable", name := "fillInStackTrace", desc := "()Ljava/lang/Throwable;" } : Jvm.MethodName)) ∈ lw_all := lw_g (lw_at lw_m2 228 rfl) rfl
theorem q1064 : (Jvm.Cond.selects "java/lang/StringIndexOutOfBoundsException" ({ cls := "java/lang/Object", name := "getClass", desc := "()Ljava/lang/Class;" } : Jvm.MethodName) ({ cls := "java/lang/Object", name := "getClass", desc := "()Ljava/lang/Class;" } : Jvm.MethodName)) ∈ lw_all := lw_g (lw_at lw_m4 225 rfl) rfl
theorem q1704 : (Jvm.Cond.instantiable "java/lang/StringIndexOutOfBoundsException" (6 : Nat)) ∈ lw_all := lw_g (lw_at lw_m7 145 rfl) rfl
theorem q1706 : (Jvm.Cond.instanceMethod ({ cls := "java/lang/StringIndexOutOfBoundsException", name := "<init>", desc := "(I)V" } : Jvm.MethodName)) ∈ lw_all := lw_g (lw_at lw_m7 147 rfl) rfl
theorem q1707 : (Jvm.Cond.code ({ cls := "java/lang/StringIndexOutOfBoundsException", name := "<init>", desc := "(I)V" } : Jvm.MethodName) prog_38_method_3_code (2 : Nat) (Option.none : Option Jvm.ClassFile.FieldType)) ∈ lw_all := lw_g (lw_at lw_m7 148 rfl) rfl
theorem q1708 : (Jvm.Cond.classLink "java/lang/StringIndexOutOfBoundsException" (10 : Nat) "java/lang/StringBuilder") ∈ lw_all := lw_g (lw_at lw_m7 149 rfl) rfl
theorem q1709 : (Jvm.Cond.methodLink "java/lang/StringIndexOutOfBoundsException" (12 : Nat) ({ cls := "java/lang/StringBuilder", name := "<init>", desc := "()V" } : Jvm.MethodName)) ∈ lw_all := lw_g (lw_at lw_m7 150 rfl) rfl
theorem q1710 : (Jvm.Cond.stringRef "java/lang/StringIndexOutOfBoundsException" (13 : Nat) "String index out of range: ") ∈ lw_tbl := lw_at lw_m7 151 rfl
theorem q1711 : (Jvm.Cond.methodLink "java/lang/StringIndexOutOfBoundsException" (15 : Nat) ({ cls := "java/lang/StringBuilder", name := "append", desc := "(Ljava/lang/String;)Ljava/lang/StringBuilder;" } : Jvm.MethodName)) ∈ lw_all := lw_g (lw_at lw_m7 152 rfl) rfl
theorem q1712 : (Jvm.Cond.methodLink "java/lang/StringIndexOutOfBoundsException" (19 : Nat) ({ cls := "java/lang/StringBuilder", name := "append", desc := "(I)Ljava/lang/StringBuilder;" } : Jvm.MethodName)) ∈ lw_all := lw_g (lw_at lw_m7 153 rfl) rfl
theorem q1713 : (Jvm.Cond.methodLink "java/lang/StringIndexOutOfBoundsException" (22 : Nat) ({ cls := "java/lang/StringBuilder", name := "toString", desc := "()Ljava/lang/String;" } : Jvm.MethodName)) ∈ lw_all := lw_g (lw_at lw_m7 154 rfl) rfl
theorem q1714 : (Jvm.Cond.methodLink "java/lang/StringIndexOutOfBoundsException" (7 : Nat) ({ cls := "java/lang/IndexOutOfBoundsException", name := "<init>", desc := "(Ljava/lang/String;)V" } : Jvm.MethodName)) ∈ lw_all := lw_g (lw_at lw_m7 155 rfl) rfl
theorem q1718 : (Jvm.Cond.lays "java/lang/StringIndexOutOfBoundsException" "java/lang/Throwable" "backtrace" "Ljava/lang/Object;") ∈ lw_all := lw_g (lw_at lw_m7 159 rfl) rfl
theorem q1719 : (Jvm.Cond.lays "java/lang/StringIndexOutOfBoundsException" "java/lang/Throwable" "detailMessage" "Ljava/lang/String;") ∈ lw_all := lw_g (lw_at lw_m7 160 rfl) rfl
theorem q1720 : (Jvm.Cond.lays "java/lang/StringIndexOutOfBoundsException" "java/lang/Throwable" "cause" "Ljava/lang/Throwable;") ∈ lw_all := lw_g (lw_at lw_m7 161 rfl) rfl
theorem q1721 : (Jvm.Cond.lays "java/lang/StringIndexOutOfBoundsException" "java/lang/Throwable" "stackTrace" "[Ljava/lang/StackTraceElement;") ∈ lw_all := lw_g (lw_at lw_m7 162 rfl) rfl
theorem q1722 : (Jvm.Cond.lays "java/lang/StringIndexOutOfBoundsException" "java/lang/Throwable" "depth" "I") ∈ lw_all := lw_g (lw_at lw_m7 163 rfl) rfl
theorem q1723 : (Jvm.Cond.lays "java/lang/StringIndexOutOfBoundsException" "java/lang/Throwable" "suppressedExceptions" "Ljava/util/List;") ∈ lw_all := lw_g (lw_at lw_m7 164 rfl) rfl
theorem q1724 : (Jvm.Cond.superclass "java/lang/StringIndexOutOfBoundsException" "java/lang/IndexOutOfBoundsException") ∈ lw_all := lw_g (lw_at lw_m7 165 rfl) rfl
theorem q2273 : (Jvm.Cond.selects "java/lang/StringIndexOutOfBoundsException" ({ cls := "java/lang/Object", name := "hashCode", desc := "()I" } : Jvm.MethodName) ({ cls := "java/lang/Object", name := "hashCode", desc := "()I" } : Jvm.MethodName)) ∈ lw_all := lw_g (lw_at lw_m9 234 rfl) rfl
theorem q2632 : (Jvm.Cond.selects "java/lang/StringIndexOutOfBoundsException" ({ cls := "java/lang/Object", name := "equals", desc := "(Ljava/lang/Object;)Z" } : Jvm.MethodName) ({ cls := "java/lang/Object", name := "equals", desc := "(Ljava/lang/Object;)Z" } : Jvm.MethodName)) ∈ lw_all := lw_g (lw_at lw_m11 113 rfl) rfl
theorem q3543 : (Jvm.Cond.castable "java/lang/StringIndexOutOfBoundsException" "java/lang/IndexOutOfBoundsException") ∈ lw_tbl := lw_at lw_m15 64 rfl
theorem q3578 : (Jvm.Cond.castable "java/lang/StringIndexOutOfBoundsException" "java/lang/Object") ∈ lw_tbl := lw_at lw_m15 99 rfl
theorem in_J36 : ∀ w ∈ wsJ360, w ∈ lw_all := lw_in wsJ360 [1718, 1719, 1720, 1721, 1722, 1723] (by decide +kernel) (by decide +kernel)

/-! java/lang/Object -/
set_option maxRecDepth 100000
def RJ37 : String := "java/lang/Object"
abbrev cJ37_init : ByteArray := object_method_1_code
def yJ37_init : MethodName := ⟨RJ37, "<init>", "()V"⟩
theorem dJ37_init_0 : decode cJ37_init 0 = .ok (.return_, 1) := by decide +kernel
abbrev cJ37_equals : ByteArray := object_method_4_code
def yJ37_equals : MethodName := ⟨RJ37, "equals", "(Ljava/lang/Object;)Z"⟩
def dkwJ37_equals_0 : List UInt8 := [42, 43, 166, 0, 7, 4, 167, 0, 4, 3, 172]
abbrev dktJ37_equals_0 : List UInt8 := dkwJ37_equals_0 ++ []
theorem dksJ37_equals_0 : cJ37_equals.data.toList.drop 0 = dktJ37_equals_0 := by decide +kernel
theorem dJ37_equals_0 : decode cJ37_equals 0 = .ok (.aload_n 0, 1) := dk_42 (dk_at dksJ37_equals_0 0 rfl rfl)
theorem dJ37_equals_1 : decode cJ37_equals 1 = .ok (.aload_n 1, 1) := dk_43 (dk_at dksJ37_equals_0 1 rfl rfl)
theorem dJ37_equals_2 : decode cJ37_equals 2 = .ok (.if_acmp .ne 7, 3) := dk_166 0 7 (dk_at dksJ37_equals_0 2 rfl rfl)
theorem dJ37_equals_5 : decode cJ37_equals 5 = .ok (.iconst 1, 1) := dk_4 (dk_at dksJ37_equals_0 5 rfl rfl)
theorem dJ37_equals_6 : decode cJ37_equals 6 = .ok (.goto 4, 3) := dk_167 0 4 (dk_at dksJ37_equals_0 6 rfl rfl)
theorem dJ37_equals_9 : decode cJ37_equals 9 = .ok (.iconst 0, 1) := dk_3 (dk_at dksJ37_equals_0 9 rfl rfl)
theorem dJ37_equals_10 : decode cJ37_equals 10 = .ok (.ireturn, 1) := dk_172 (dk_at dksJ37_equals_0 10 rfl rfl)
theorem q179 : (Jvm.Cond.instanceMethod ({ cls := "java/lang/Object", name := "<init>", desc := "()V" } : Jvm.MethodName)) ∈ lw_all := lw_g (lw_at lw_m1 60 rfl) rfl
theorem q180 : (Jvm.Cond.code ({ cls := "java/lang/Object", name := "<init>", desc := "()V" } : Jvm.MethodName) object_method_1_code (1 : Nat) (Option.none : Option Jvm.ClassFile.FieldType)) ∈ lw_all := lw_g (lw_at lw_m1 61 rfl) rfl
theorem q450 : (Jvm.Cond.native ({ cls := "java/lang/Object", name := "clone", desc := "()Ljava/lang/Object;" } : Jvm.MethodName)) ∈ lw_all := lw_g (lw_at lw_m2 91 rfl) rfl
theorem q451 : (Jvm.Cond.instanceMethod ({ cls := "java/lang/Object", name := "clone", desc := "()Ljava/lang/Object;" } : Jvm.MethodName)) ∈ lw_all := lw_g (lw_at lw_m2 92 rfl) rfl
theorem q1043 : (Jvm.Cond.instanceMethod ({ cls := "java/lang/Object", name := "getClass", desc := "()Ljava/lang/Class;" } : Jvm.MethodName)) ∈ lw_all := lw_g (lw_at lw_m4 204 rfl) rfl
theorem q1044 : (Jvm.Cond.sameMethod "java/lang/Object" "java/lang/Object" "getClass" "()Ljava/lang/Class;") ∈ lw_all := lw_g (lw_at lw_m4 205 rfl) rfl
theorem q1077 : (Jvm.Cond.native ({ cls := "java/lang/Object", name := "getClass", desc := "()Ljava/lang/Class;" } : Jvm.MethodName)) ∈ lw_all := lw_g (lw_at lw_m4 238 rfl) rfl
theorem q2243 : (Jvm.Cond.declares ({ cls := "java/lang/Object", name := "hashCode", desc := "()I" } : Jvm.MethodName)) ∈ lw_tbl := lw_at lw_m9 204 rfl
theorem q2245 : (Jvm.Cond.instanceMethod ({ cls := "java/lang/Object", name := "hashCode", desc := "()I" } : Jvm.MethodName)) ∈ lw_all := lw_g (lw_at lw_m9 206 rfl) rfl
theorem q2246 : (Jvm.Cond.sameMethod "java/lang/Object" "java/lang/Object" "hashCode" "()I") ∈ lw_all := lw_g (lw_at lw_m9 207 rfl) rfl
theorem q2276 : (Jvm.Cond.native ({ cls := "java/lang/Object", name := "hashCode", desc := "()I" } : Jvm.MethodName)) ∈ lw_all := lw_g (lw_at lw_m9 237 rfl) rfl
theorem q2600 : (Jvm.Cond.declares ({ cls := "java/lang/Object", name := "equals", desc := "(Ljava/lang/Object;)Z" } : Jvm.MethodName)) ∈ lw_tbl := lw_at lw_m11 81 rfl
theorem q2602 : (Jvm.Cond.instanceMethod ({ cls := "java/lang/Object", name := "equals", desc := "(Ljava/lang/Object;)Z" } : Jvm.MethodName)) ∈ lw_all := lw_g (lw_at lw_m11 83 rfl) rfl
theorem q2603 : (Jvm.Cond.sameMethod "java/lang/Object" "java/lang/Object" "equals" "(Ljava/lang/Object;)Z") ∈ lw_all := lw_g (lw_at lw_m11 84 rfl) rfl
theorem q2635 : (Jvm.Cond.code ({ cls := "java/lang/Object", name := "equals", desc := "(Ljava/lang/Object;)Z" } : Jvm.MethodName) object_method_4_code (2 : Nat) (Option.some Jvm.ClassFile.FieldType.boolean)) ∈ lw_all := lw_g (lw_at lw_m11 116 rfl) rfl
theorem q3584 : (Jvm.Cond.declares ({ cls := "java/lang/Object", name := "getClass", desc := "()Ljava/lang/Class;" } : Jvm.MethodName)) ∈ lw_tbl := lw_at lw_m15 105 rfl

/-! java/lang/System$2 -/
set_option maxRecDepth 100000
def RJ38 : String := "java/lang/System$2"
abbrev cJ38_getUTF16Char : ByteArray := prog_42_method_45_code
def yJ38_getUTF16Char : MethodName := ⟨RJ38, "getUTF16Char", "([BI)C"⟩
def dkwJ38_getUTF16Char_0 : List UInt8 := [43, 28, 184, 0, 185, 172]
abbrev dktJ38_getUTF16Char_0 : List UInt8 := dkwJ38_getUTF16Char_0 ++ []
theorem dksJ38_getUTF16Char_0 : cJ38_getUTF16Char.data.toList.drop 0 = dktJ38_getUTF16Char_0 := by decide +kernel
theorem dJ38_getUTF16Char_0 : decode cJ38_getUTF16Char 0 = .ok (.aload_n 1, 1) := dk_43 (dk_at dksJ38_getUTF16Char_0 0 rfl rfl)
theorem dJ38_getUTF16Char_1 : decode cJ38_getUTF16Char 1 = .ok (.iload_n 2, 1) := dk_28 (dk_at dksJ38_getUTF16Char_0 1 rfl rfl)
theorem dJ38_getUTF16Char_2 : decode cJ38_getUTF16Char 2 = .ok (.invokestatic 185, 3) := dk_184 0 185 (dk_at dksJ38_getUTF16Char_0 2 rfl rfl)
theorem dJ38_getUTF16Char_5 : decode cJ38_getUTF16Char 5 = .ok (.ireturn, 1) := dk_172 (dk_at dksJ38_getUTF16Char_0 5 rfl rfl)
theorem q856 : (Jvm.Cond.castable "java/lang/System$2" "jdk/internal/access/JavaLangAccess") ∈ lw_tbl := lw_at lw_m4 17 rfl
theorem q857 : (Jvm.Cond.selects "java/lang/System$2" ({ cls := "jdk/internal/access/JavaLangAccess", name := "getUTF16Char", desc := "([BI)C" } : Jvm.MethodName) ({ cls := "java/lang/System$2", name := "getUTF16Char", desc := "([BI)C" } : Jvm.MethodName)) ∈ lw_all := lw_g (lw_at lw_m4 18 rfl) rfl
theorem q858 : (Jvm.Cond.unhidden "java/lang/System$2" "getUTF16Char" "([BI)C") ∈ lw_tbl := lw_at lw_m4 19 rfl
theorem q859 : (Jvm.Cond.instanceMethod ({ cls := "java/lang/System$2", name := "getUTF16Char", desc := "([BI)C" } : Jvm.MethodName)) ∈ lw_all := lw_g (lw_at lw_m4 20 rfl) rfl
theorem q860 : (Jvm.Cond.publicMethod ({ cls := "java/lang/System$2", name := "getUTF16Char", desc := "([BI)C" } : Jvm.MethodName)) ∈ lw_tbl := lw_at lw_m4 21 rfl
theorem q861 : (Jvm.Cond.code ({ cls := "java/lang/System$2", name := "getUTF16Char", desc := "([BI)C" } : Jvm.MethodName) prog_42_method_45_code (3 : Nat) (Option.some Jvm.ClassFile.FieldType.char)) ∈ lw_all := lw_g (lw_at lw_m4 22 rfl) rfl
theorem q862 : (Jvm.Cond.methodLink "java/lang/System$2" (185 : Nat) ({ cls := "java/lang/StringUTF16", name := "getChar", desc := "([BI)C" } : Jvm.MethodName)) ∈ lw_all := lw_g (lw_at lw_m4 23 rfl) rfl
theorem q1065 : (Jvm.Cond.selects "java/lang/System$2" ({ cls := "java/lang/Object", name := "getClass", desc := "()Ljava/lang/Class;" } : Jvm.MethodName) ({ cls := "java/lang/Object", name := "getClass", desc := "()Ljava/lang/Class;" } : Jvm.MethodName)) ∈ lw_all := lw_g (lw_at lw_m4 226 rfl) rfl
theorem q2274 : (Jvm.Cond.selects "java/lang/System$2" ({ cls := "java/lang/Object", name := "hashCode", desc := "()I" } : Jvm.MethodName) ({ cls := "java/lang/Object", name := "hashCode", desc := "()I" } : Jvm.MethodName)) ∈ lw_all := lw_g (lw_at lw_m9 235 rfl) rfl
theorem q2633 : (Jvm.Cond.selects "java/lang/System$2" ({ cls := "java/lang/Object", name := "equals", desc := "(Ljava/lang/Object;)Z" } : Jvm.MethodName) ({ cls := "java/lang/Object", name := "equals", desc := "(Ljava/lang/Object;)Z" } : Jvm.MethodName)) ∈ lw_all := lw_g (lw_at lw_m11 114 rfl) rfl
theorem q3560 : (Jvm.Cond.castable "java/lang/System$2" "java/lang/Object") ∈ lw_tbl := lw_at lw_m15 81 rfl

theorem q1616 : (Jvm.Cond.interfaceMethod "StringTableau$Bit" "StringTableau$Bit" "of" "(LStringTableau$Row;I)Z") ∈ lw_tbl := lw_at lw_m7 57 rfl
set_option maxRecDepth 100000
theorem q1617 : (Jvm.Cond.declares ({ cls := "StringTableau$Bit", name := "of", desc := "(LStringTableau$Row;I)Z" } : Jvm.MethodName)) ∈ lw_tbl := lw_at lw_m7 58 rfl

theorem q1547 : (Jvm.Cond.interfaceMethod "StringTableau$Gate" "StringTableau$Gate" "on" "(LStringTableau$Row;II)V") ∈ lw_tbl := lw_at lw_m6 228 rfl
set_option maxRecDepth 100000
theorem q1548 : (Jvm.Cond.declares ({ cls := "StringTableau$Gate", name := "on", desc := "(LStringTableau$Row;II)V" } : Jvm.MethodName)) ∈ lw_tbl := lw_at lw_m6 229 rfl

theorem q449 : (Jvm.Cond.sameMethod "[B" "java/lang/Object" "clone" "()Ljava/lang/Object;") ∈ lw_all := lw_g (lw_at lw_m2 90 rfl) rfl
set_option maxRecDepth 100000
theorem q452 : (Jvm.Cond.selects "[B" ({ cls := "[B", name := "clone", desc := "()Ljava/lang/Object;" } : Jvm.MethodName) ({ cls := "java/lang/Object", name := "clone", desc := "()Ljava/lang/Object;" } : Jvm.MethodName)) ∈ lw_all := lw_g (lw_at lw_m2 93 rfl) rfl
theorem q453 : (Jvm.Cond.castable "[B" "java/lang/Cloneable") ∈ lw_tbl := lw_at lw_m2 94 rfl
theorem q3589 : (Jvm.Cond.castable "[B" "java/lang/Object") ∈ lw_tbl := lw_at lw_m15 110 rfl

theorem q3593 : (Jvm.Cond.castable "[D" "java/lang/Object") ∈ lw_tbl := lw_at lw_m15 114 rfl
set_option maxRecDepth 100000

theorem q3587 : (Jvm.Cond.castable "[I" "java/lang/Object") ∈ lw_tbl := lw_at lw_m15 108 rfl
set_option maxRecDepth 100000

theorem q3592 : (Jvm.Cond.castable "[J" "java/lang/Object") ∈ lw_tbl := lw_at lw_m15 113 rfl
set_option maxRecDepth 100000

theorem q3586 : (Jvm.Cond.castable "[LStringTableau$Row;" "java/lang/Object") ∈ lw_tbl := lw_at lw_m15 107 rfl
set_option maxRecDepth 100000

theorem q3588 : (Jvm.Cond.castable "[LStringTableau$Tableau;" "java/lang/Object") ∈ lw_tbl := lw_at lw_m15 109 rfl
set_option maxRecDepth 100000

theorem q3582 : (Jvm.Cond.sameMethod "[Ljava/lang/Object;" "java/lang/Object" "getClass" "()Ljava/lang/Class;") ∈ lw_all := lw_g (lw_at lw_m15 103 rfl) rfl
set_option maxRecDepth 100000
theorem q3583 : (Jvm.Cond.selects "[Ljava/lang/Object;" ({ cls := "java/lang/Object", name := "getClass", desc := "()Ljava/lang/Class;" } : Jvm.MethodName) ({ cls := "java/lang/Object", name := "getClass", desc := "()Ljava/lang/Class;" } : Jvm.MethodName)) ∈ lw_all := lw_g (lw_at lw_m15 104 rfl) rfl
theorem q3585 : (Jvm.Cond.castable "[Ljava/lang/Object;" "java/lang/Object") ∈ lw_tbl := lw_at lw_m15 106 rfl

theorem q3590 : (Jvm.Cond.castable "[Ljava/util/HashMap$Node;" "java/lang/Object") ∈ lw_tbl := lw_at lw_m15 111 rfl
set_option maxRecDepth 100000

theorem q3591 : (Jvm.Cond.castable "[Z" "java/lang/Object") ∈ lw_tbl := lw_at lw_m15 112 rfl
set_option maxRecDepth 100000

theorem q2385 : (Jvm.Cond.interfaceMethod "java/lang/Comparable" "java/lang/Comparable" "compareTo" "(Ljava/lang/Object;)I") ∈ lw_tbl := lw_at lw_m10 106 rfl
set_option maxRecDepth 100000
theorem q2386 : (Jvm.Cond.declares ({ cls := "java/lang/Comparable", name := "compareTo", desc := "(Ljava/lang/Object;)I" } : Jvm.MethodName)) ∈ lw_tbl := lw_at lw_m10 107 rfl

theorem q144 : (Jvm.Cond.initialized "java/lang/Number") ∈ lw_all := lw_g (lw_at lw_m1 25 rfl) rfl
set_option maxRecDepth 100000

theorem q137 : (Jvm.Cond.initialized "java/lang/System") ∈ lw_all := lw_g (lw_at lw_m1 18 rfl) rfl
set_option maxRecDepth 100000
theorem q459 : (Jvm.Cond.static ({ cls := "java/lang/System", name := "arraycopy", desc := "(Ljava/lang/Object;ILjava/lang/Object;II)V" } : Jvm.MethodName)) ∈ lw_all := lw_g (lw_at lw_m2 100 rfl) rfl
theorem q460 : (Jvm.Cond.native ({ cls := "java/lang/System", name := "arraycopy", desc := "(Ljava/lang/Object;ILjava/lang/Object;II)V" } : Jvm.MethodName)) ∈ lw_all := lw_g (lw_at lw_m2 101 rfl) rfl

theorem q1322 : (Jvm.Cond.interfaceMethod "java/util/Collection" "java/util/Collection" "toArray" "()[Ljava/lang/Object;") ∈ lw_tbl := lw_at lw_m6 3 rfl
set_option maxRecDepth 100000
theorem q1323 : (Jvm.Cond.declares ({ cls := "java/util/Collection", name := "toArray", desc := "()[Ljava/lang/Object;" } : Jvm.MethodName)) ∈ lw_tbl := lw_at lw_m6 4 rfl

theorem q1396 : (Jvm.Cond.interfaceMethod "java/util/Iterator" "java/util/Iterator" "hasNext" "()Z") ∈ lw_tbl := lw_at lw_m6 77 rfl
set_option maxRecDepth 100000
theorem q1397 : (Jvm.Cond.declares ({ cls := "java/util/Iterator", name := "hasNext", desc := "()Z" } : Jvm.MethodName)) ∈ lw_tbl := lw_at lw_m6 78 rfl
theorem q1412 : (Jvm.Cond.interfaceMethod "java/util/Iterator" "java/util/Iterator" "next" "()Ljava/lang/Object;") ∈ lw_tbl := lw_at lw_m6 93 rfl
theorem q1413 : (Jvm.Cond.declares ({ cls := "java/util/Iterator", name := "next", desc := "()Ljava/lang/Object;" } : Jvm.MethodName)) ∈ lw_tbl := lw_at lw_m6 94 rfl

theorem q901 : (Jvm.Cond.interfaceMethod "java/util/List" "java/util/List" "size" "()I") ∈ lw_tbl := lw_at lw_m4 62 rfl
set_option maxRecDepth 100000
theorem q902 : (Jvm.Cond.declares ({ cls := "java/util/List", name := "size", desc := "()I" } : Jvm.MethodName)) ∈ lw_tbl := lw_at lw_m4 63 rfl
theorem q1019 : (Jvm.Cond.interfaceMethod "java/util/List" "java/util/List" "add" "(Ljava/lang/Object;)Z") ∈ lw_tbl := lw_at lw_m4 180 rfl
theorem q1020 : (Jvm.Cond.declares ({ cls := "java/util/List", name := "add", desc := "(Ljava/lang/Object;)Z" } : Jvm.MethodName)) ∈ lw_tbl := lw_at lw_m4 181 rfl
theorem q1149 : (Jvm.Cond.interfaceMethod "java/util/List" "java/util/List" "get" "(I)Ljava/lang/Object;") ∈ lw_tbl := lw_at lw_m5 70 rfl
theorem q1150 : (Jvm.Cond.declares ({ cls := "java/util/List", name := "get", desc := "(I)Ljava/lang/Object;" } : Jvm.MethodName)) ∈ lw_tbl := lw_at lw_m5 71 rfl
theorem q1313 : (Jvm.Cond.interfaceMethod "java/util/List" "java/util/List" "addAll" "(Ljava/util/Collection;)Z") ∈ lw_tbl := lw_at lw_m5 234 rfl
theorem q1314 : (Jvm.Cond.declares ({ cls := "java/util/List", name := "addAll", desc := "(Ljava/util/Collection;)Z" } : Jvm.MethodName)) ∈ lw_tbl := lw_at lw_m5 235 rfl

theorem q2232 : (Jvm.Cond.interfaceMethod "java/util/Map" "java/util/Map" "put" "(Ljava/lang/Object;Ljava/lang/Object;)Ljava/lang/Object;") ∈ lw_tbl := lw_at lw_m9 193 rfl
set_option maxRecDepth 100000
theorem q2233 : (Jvm.Cond.declares ({ cls := "java/util/Map", name := "put", desc := "(Ljava/lang/Object;Ljava/lang/Object;)Ljava/lang/Object;" } : Jvm.MethodName)) ∈ lw_tbl := lw_at lw_m9 194 rfl
theorem q2728 : (Jvm.Cond.interfaceMethod "java/util/Map" "java/util/Map" "get" "(Ljava/lang/Object;)Ljava/lang/Object;") ∈ lw_tbl := lw_at lw_m11 209 rfl
theorem q2729 : (Jvm.Cond.declares ({ cls := "java/util/Map", name := "get", desc := "(Ljava/lang/Object;)Ljava/lang/Object;" } : Jvm.MethodName)) ∈ lw_tbl := lw_at lw_m11 210 rfl

theorem q2806 : (Jvm.Cond.interfaceMethod "java/util/Set" "java/util/Set" "add" "(Ljava/lang/Object;)Z") ∈ lw_tbl := lw_at lw_m12 47 rfl
set_option maxRecDepth 100000
theorem q2807 : (Jvm.Cond.declares ({ cls := "java/util/Set", name := "add", desc := "(Ljava/lang/Object;)Z" } : Jvm.MethodName)) ∈ lw_tbl := lw_at lw_m12 48 rfl
theorem q2819 : (Jvm.Cond.interfaceMethod "java/util/Set" "java/util/Set" "contains" "(Ljava/lang/Object;)Z") ∈ lw_tbl := lw_at lw_m12 60 rfl
theorem q2820 : (Jvm.Cond.declares ({ cls := "java/util/Set", name := "contains", desc := "(Ljava/lang/Object;)Z" } : Jvm.MethodName)) ∈ lw_tbl := lw_at lw_m12 61 rfl

theorem q854 : (Jvm.Cond.interfaceMethod "jdk/internal/access/JavaLangAccess" "jdk/internal/access/JavaLangAccess" "getUTF16Char" "([BI)C") ∈ lw_tbl := lw_at lw_m4 15 rfl
set_option maxRecDepth 100000
theorem q855 : (Jvm.Cond.declares ({ cls := "jdk/internal/access/JavaLangAccess", name := "getUTF16Char", desc := "([BI)C" } : Jvm.MethodName)) ∈ lw_tbl := lw_at lw_m4 16 rfl

theorem q167 : (Jvm.Cond.initialized "jdk/internal/misc/UnsafeConstants") ∈ lw_all := lw_g (lw_at lw_m1 48 rfl) rfl
set_option maxRecDepth 100000
theorem q2457 : (Jvm.Cond.laysStatic "jdk/internal/misc/UnsafeConstants" "BIG_ENDIAN" "Z") ∈ lw_tbl := lw_at lw_m10 178 rfl

theorem q220 : (Jvm.Cond.arrayOver (Jvm.ClassFile.FieldType.object "java/lang/Object")) ∈ lw_tbl := lw_at lw_m1 101 rfl
set_option maxRecDepth 100000
theorem q240 : (Jvm.Cond.arrayOver (Jvm.ClassFile.FieldType.object "StringTableau$Row")) ∈ lw_tbl := lw_at lw_m1 121 rfl
theorem q267 : (Jvm.Cond.arrayClass Jvm.ClassFile.FieldType.int) ∈ lw_all := lw_g (lw_at lw_m1 148 rfl) rfl
theorem q309 : (Jvm.Cond.arrayOver (Jvm.ClassFile.FieldType.object "StringTableau$Tableau")) ∈ lw_tbl := lw_at lw_m1 190 rfl
theorem q342 : (Jvm.Cond.arrayClass Jvm.ClassFile.FieldType.byte) ∈ lw_all := lw_g (lw_at lw_m1 223 rfl) rfl
theorem q2293 : (Jvm.Cond.arrayOver (Jvm.ClassFile.FieldType.object "java/util/HashMap$Node")) ∈ lw_tbl := lw_at lw_m10 14 rfl
theorem q2977 : (Jvm.Cond.arrayClass Jvm.ClassFile.FieldType.boolean) ∈ lw_all := lw_g (lw_at lw_m12 218 rfl) rfl
theorem q3521 : (Jvm.Cond.arrayClass Jvm.ClassFile.FieldType.long) ∈ lw_all := lw_g (lw_at lw_m15 42 rfl) rfl
theorem q3522 : (Jvm.Cond.arrayClass Jvm.ClassFile.FieldType.double) ∈ lw_all := lw_g (lw_at lw_m15 43 rfl) rfl
theorem q3594 : (Jvm.Cond.arrayClass Jvm.ClassFile.FieldType.char) ∈ lw_all := lw_g (lw_at lw_m15 115 rfl) rfl
theorem q3595 : (Jvm.Cond.arrayClass Jvm.ClassFile.FieldType.short) ∈ lw_all := lw_g (lw_at lw_m15 116 rfl) rfl
